section
-- ===== PART A: goes FIRST, ahead of the names: the tables' words, and 'selects' of the private methods out of them =====
/-- a private method of a class that the tables say can be made, by its rows of tables_1 -/
def lw_okq (q : MethodName × Nat) : Prop := (q.1.cls ≠ "java/lang/invoke/MethodHandle" ∧ q.1.cls ≠ "java/lang/invoke/VarHandle") ∧ Cond.instantiable q.1.cls q.2 ∈ tables_1 ∧ Cond.privateMethod q.1 ∈ tables_1 ∧ Cond.instanceMethod q.1 ∈ tables_1
set_option maxRecDepth 100000
theorem lw_t1 {w : Cond} (h : w ∈ tables_1_1) : w ∈ tables_1 := List.mem_append_left _ h
theorem lw_t2 {w : Cond} (h : w ∈ tables_1_2) : w ∈ tables_1 := List.mem_append_right _ (List.mem_append_left _ h)
theorem lw_t3 {w : Cond} (h : w ∈ tables_1_3) : w ∈ tables_1 := List.mem_append_right _ (List.mem_append_right _ (List.mem_append_left _ h))
theorem lw_t4 {w : Cond} (h : w ∈ tables_1_4) : w ∈ tables_1 := List.mem_append_right _ (List.mem_append_right _ (List.mem_append_right _ (List.mem_append_left _ h)))
theorem lw_t5 {w : Cond} (h : w ∈ tables_1_5) : w ∈ tables_1 := List.mem_append_right _ (List.mem_append_right _ (List.mem_append_right _ (List.mem_append_right _ (List.mem_append_left _ h))))
theorem lw_t6 {w : Cond} (h : w ∈ tables_1_6) : w ∈ tables_1 := List.mem_append_right _ (List.mem_append_right _ (List.mem_append_right _ (List.mem_append_right _ (List.mem_append_right _ (List.mem_append_left _ h)))))
theorem lw_t7 {w : Cond} (h : w ∈ tables_1_7) : w ∈ tables_1 := List.mem_append_right _ (List.mem_append_right _ (List.mem_append_right _ (List.mem_append_right _ (List.mem_append_right _ (List.mem_append_right _ (List.mem_append_left _ h))))))
theorem lw_t8 {w : Cond} (h : w ∈ tables_1_8) : w ∈ tables_1 := List.mem_append_right _ (List.mem_append_right _ (List.mem_append_right _ (List.mem_append_right _ (List.mem_append_right _ (List.mem_append_right _ (List.mem_append_right _ (List.mem_append_left _ h)))))))
theorem lw_t9 {w : Cond} (h : w ∈ tables_1_9) : w ∈ tables_1 := List.mem_append_right _ (List.mem_append_right _ (List.mem_append_right _ (List.mem_append_right _ (List.mem_append_right _ (List.mem_append_right _ (List.mem_append_right _ (List.mem_append_right _ (List.mem_append_left _ h))))))))
theorem lw_t10 {w : Cond} (h : w ∈ tables_1_10) : w ∈ tables_1 := List.mem_append_right _ (List.mem_append_right _ (List.mem_append_right _ (List.mem_append_right _ (List.mem_append_right _ (List.mem_append_right _ (List.mem_append_right _ (List.mem_append_right _ (List.mem_append_right _ h))))))))
theorem lw_p0 : lw_okq (⟨"java/util/ArrayList", "add", "(Ljava/lang/Object;[Ljava/lang/Object;I)V"⟩, 3) := ⟨⟨by decide +kernel, by decide +kernel⟩, lw_t1 (List.mem_of_getElem? (i := 49) rfl), lw_t1 (List.mem_of_getElem? (i := 108) rfl), lw_t1 (List.mem_of_getElem? (i := 109) rfl)⟩
theorem lw_p1 : lw_okq (⟨"java/util/ArrayList", "grow", "()[Ljava/lang/Object;"⟩, 3) := ⟨⟨by decide +kernel, by decide +kernel⟩, lw_t1 (List.mem_of_getElem? (i := 49) rfl), lw_t1 (List.mem_of_getElem? (i := 112) rfl), lw_t1 (List.mem_of_getElem? (i := 113) rfl)⟩
theorem lw_p2 : lw_okq (⟨"java/util/ArrayList", "grow", "(I)[Ljava/lang/Object;"⟩, 3) := ⟨⟨by decide +kernel, by decide +kernel⟩, lw_t1 (List.mem_of_getElem? (i := 49) rfl), lw_t1 (List.mem_of_getElem? (i := 116) rfl), lw_t1 (List.mem_of_getElem? (i := 117) rfl)⟩
theorem lw_p3 : lw_okq (⟨"Weaveword", "isStaleAt", "(I)Z"⟩, 10) := ⟨⟨by decide +kernel, by decide +kernel⟩, lw_t1 (List.mem_of_getElem? (i := 41) rfl), lw_t1 (List.mem_of_getElem? (i := 237) rfl), lw_t1 (List.mem_of_getElem? (i := 238) rfl)⟩
theorem lw_p4 : lw_okq (⟨"Weaveword", "linksOf", "(I)I"⟩, 10) := ⟨⟨by decide +kernel, by decide +kernel⟩, lw_t1 (List.mem_of_getElem? (i := 41) rfl), lw_t2 (List.mem_of_getElem? (i := 5) rfl), lw_t2 (List.mem_of_getElem? (i := 6) rfl)⟩
theorem lw_p5 : lw_okq (⟨"java/lang/Throwable", "fillInStackTrace", "(I)Ljava/lang/Throwable;"⟩, 6) := ⟨⟨by decide +kernel, by decide +kernel⟩, lw_t2 (List.mem_of_getElem? (i := 59) rfl), lw_t2 (List.mem_of_getElem? (i := 57) rfl), lw_t2 (List.mem_of_getElem? (i := 58) rfl)⟩
theorem lw_p6 : lw_okq (⟨"Weaveword", "mayAct", "(I)V"⟩, 10) := ⟨⟨by decide +kernel, by decide +kernel⟩, lw_t1 (List.mem_of_getElem? (i := 41) rfl), lw_t3 (List.mem_of_getElem? (i := 217) rfl), lw_t3 (List.mem_of_getElem? (i := 218) rfl)⟩
theorem lw_p7 : lw_okq (⟨"Weaveword$Text", "canBe", "(III)Z"⟩, 1) := ⟨⟨by decide +kernel, by decide +kernel⟩, lw_t4 (List.mem_of_getElem? (i := 1) rfl), lw_t4 (List.mem_of_getElem? (i := 23) rfl), lw_t4 (List.mem_of_getElem? (i := 24) rfl)⟩
theorem lw_p8 : lw_okq (⟨"Weaveword", "makes", "(ILWeaveword$Text;)I"⟩, 10) := ⟨⟨by decide +kernel, by decide +kernel⟩, lw_t1 (List.mem_of_getElem? (i := 41) rfl), lw_t4 (List.mem_of_getElem? (i := 44) rfl), lw_t4 (List.mem_of_getElem? (i := 45) rfl)⟩
theorem lw_p9 : lw_okq (⟨"Weaveword", "makes", "(ILWeaveword$Text;I)I"⟩, 10) := ⟨⟨by decide +kernel, by decide +kernel⟩, lw_t1 (List.mem_of_getElem? (i := 41) rfl), lw_t4 (List.mem_of_getElem? (i := 48) rfl), lw_t4 (List.mem_of_getElem? (i := 49) rfl)⟩
theorem lw_p10 : lw_okq (⟨"java/util/ArrayList", "rangeCheckForAdd", "(I)V"⟩, 3) := ⟨⟨by decide +kernel, by decide +kernel⟩, lw_t1 (List.mem_of_getElem? (i := 49) rfl), lw_t4 (List.mem_of_getElem? (i := 86) rfl), lw_t4 (List.mem_of_getElem? (i := 87) rfl)⟩
theorem lw_p11 : lw_okq (⟨"java/util/ArrayList", "outOfBoundsMsg", "(I)Ljava/lang/String;"⟩, 3) := ⟨⟨by decide +kernel, by decide +kernel⟩, lw_t1 (List.mem_of_getElem? (i := 49) rfl), lw_t4 (List.mem_of_getElem? (i := 91) rfl), lw_t4 (List.mem_of_getElem? (i := 92) rfl)⟩
theorem lw_p12 : lw_okq (⟨"Weaveword", "changed", "(I)V"⟩, 10) := ⟨⟨by decide +kernel, by decide +kernel⟩, lw_t1 (List.mem_of_getElem? (i := 41) rfl), lw_t4 (List.mem_of_getElem? (i := 105) rfl), lw_t4 (List.mem_of_getElem? (i := 106) rfl)⟩
theorem lw_p13 : lw_okq (⟨"Weaveword", "marks", "(ZLWeaveword$Stored;)V"⟩, 10) := ⟨⟨by decide +kernel, by decide +kernel⟩, lw_t1 (List.mem_of_getElem? (i := 41) rfl), lw_t4 (List.mem_of_getElem? (i := 109) rfl), lw_t4 (List.mem_of_getElem? (i := 110) rfl)⟩
theorem lw_p14 : lw_okq (⟨"Weaveword", "at", "(I)LWeaveword$Page;"⟩, 10) := ⟨⟨by decide +kernel, by decide +kernel⟩, lw_t1 (List.mem_of_getElem? (i := 41) rfl), lw_t4 (List.mem_of_getElem? (i := 120) rfl), lw_t4 (List.mem_of_getElem? (i := 121) rfl)⟩
theorem lw_p15 : lw_okq (⟨"Weaveword", "edits", "(ILWeaveword$Text;)I"⟩, 10) := ⟨⟨by decide +kernel, by decide +kernel⟩, lw_t1 (List.mem_of_getElem? (i := 41) rfl), lw_t4 (List.mem_of_getElem? (i := 220) rfl), lw_t4 (List.mem_of_getElem? (i := 221) rfl)⟩
def lw_privs_1 : List (MethodName × Nat) := [(⟨"java/util/ArrayList", "add", "(Ljava/lang/Object;[Ljava/lang/Object;I)V"⟩, 3), (⟨"java/util/ArrayList", "grow", "()[Ljava/lang/Object;"⟩, 3), (⟨"java/util/ArrayList", "grow", "(I)[Ljava/lang/Object;"⟩, 3), (⟨"Weaveword", "isStaleAt", "(I)Z"⟩, 10), (⟨"Weaveword", "linksOf", "(I)I"⟩, 10), (⟨"java/lang/Throwable", "fillInStackTrace", "(I)Ljava/lang/Throwable;"⟩, 6), (⟨"Weaveword", "mayAct", "(I)V"⟩, 10), (⟨"Weaveword$Text", "canBe", "(III)Z"⟩, 1), (⟨"Weaveword", "makes", "(ILWeaveword$Text;)I"⟩, 10), (⟨"Weaveword", "makes", "(ILWeaveword$Text;I)I"⟩, 10), (⟨"java/util/ArrayList", "rangeCheckForAdd", "(I)V"⟩, 3), (⟨"java/util/ArrayList", "outOfBoundsMsg", "(I)Ljava/lang/String;"⟩, 3), (⟨"Weaveword", "changed", "(I)V"⟩, 10), (⟨"Weaveword", "marks", "(ZLWeaveword$Stored;)V"⟩, 10), (⟨"Weaveword", "at", "(I)LWeaveword$Page;"⟩, 10), (⟨"Weaveword", "edits", "(ILWeaveword$Text;)I"⟩, 10)]
theorem lw_r1 : ∀ q ∈ lw_privs_1, lw_okq q := List.forall_mem_cons.mpr ⟨lw_p0, List.forall_mem_cons.mpr ⟨lw_p1, List.forall_mem_cons.mpr ⟨lw_p2, List.forall_mem_cons.mpr ⟨lw_p3, List.forall_mem_cons.mpr ⟨lw_p4, List.forall_mem_cons.mpr ⟨lw_p5, List.forall_mem_cons.mpr ⟨lw_p6, List.forall_mem_cons.mpr ⟨lw_p7, List.forall_mem_cons.mpr ⟨lw_p8, List.forall_mem_cons.mpr ⟨lw_p9, List.forall_mem_cons.mpr ⟨lw_p10, List.forall_mem_cons.mpr ⟨lw_p11, List.forall_mem_cons.mpr ⟨lw_p12, List.forall_mem_cons.mpr ⟨lw_p13, List.forall_mem_cons.mpr ⟨lw_p14, List.forall_mem_cons.mpr ⟨lw_p15, fun _ h => absurd h List.not_mem_nil⟩⟩⟩⟩⟩⟩⟩⟩⟩⟩⟩⟩⟩⟩⟩⟩
theorem lw_p16 : lw_okq (⟨"Weaveword", "brings", "(II)V"⟩, 10) := ⟨⟨by decide +kernel, by decide +kernel⟩, lw_t1 (List.mem_of_getElem? (i := 41) rfl), lw_t5 (List.mem_of_getElem? (i := 11) rfl), lw_t5 (List.mem_of_getElem? (i := 12) rfl)⟩
theorem lw_p17 : lw_okq (⟨"Weaveword", "stores", "(ILWeaveword$Stored;)V"⟩, 10) := ⟨⟨by decide +kernel, by decide +kernel⟩, lw_t1 (List.mem_of_getElem? (i := 41) rfl), lw_t5 (List.mem_of_getElem? (i := 15) rfl), lw_t5 (List.mem_of_getElem? (i := 16) rfl)⟩
theorem lw_p18 : lw_okq (⟨"Weaveword", "changedCategories", "(I)V"⟩, 10) := ⟨⟨by decide +kernel, by decide +kernel⟩, lw_t1 (List.mem_of_getElem? (i := 41) rfl), lw_t5 (List.mem_of_getElem? (i := 22) rfl), lw_t5 (List.mem_of_getElem? (i := 23) rfl)⟩
theorem lw_p19 : lw_okq (⟨"Weaveword", "pagesOf", "(I)[Z"⟩, 10) := ⟨⟨by decide +kernel, by decide +kernel⟩, lw_t1 (List.mem_of_getElem? (i := 41) rfl), lw_t5 (List.mem_of_getElem? (i := 35) rfl), lw_t5 (List.mem_of_getElem? (i := 36) rfl)⟩
theorem lw_p20 : lw_okq (⟨"Weaveword", "moduleAt", "(I)LWeaveword$Module;"⟩, 10) := ⟨⟨by decide +kernel, by decide +kernel⟩, lw_t1 (List.mem_of_getElem? (i := 41) rfl), lw_t5 (List.mem_of_getElem? (i := 107) rfl), lw_t5 (List.mem_of_getElem? (i := 108) rfl)⟩
theorem lw_p21 : lw_okq (⟨"Weaveword", "changedModule", "(I)V"⟩, 10) := ⟨⟨by decide +kernel, by decide +kernel⟩, lw_t1 (List.mem_of_getElem? (i := 41) rfl), lw_t5 (List.mem_of_getElem? (i := 115) rfl), lw_t5 (List.mem_of_getElem? (i := 116) rfl)⟩
theorem lw_p22 : lw_okq (⟨"Weaveword", "rendered", "(I)LWeaveword$Rendering;"⟩, 10) := ⟨⟨by decide +kernel, by decide +kernel⟩, lw_t1 (List.mem_of_getElem? (i := 41) rfl), lw_t5 (List.mem_of_getElem? (i := 141) rfl), lw_t5 (List.mem_of_getElem? (i := 142) rfl)⟩
theorem lw_p23 : lw_okq (⟨"Weaveword$Rendering", "linksTo", "(IILWeaveword$Row;)V"⟩, 10) := ⟨⟨by decide +kernel, by decide +kernel⟩, lw_t5 (List.mem_of_getElem? (i := 145) rfl), lw_t5 (List.mem_of_getElem? (i := 214) rfl), lw_t5 (List.mem_of_getElem? (i := 215) rfl)⟩
theorem lw_p24 : lw_okq (⟨"Weaveword$Rendering", "calls", "(LWeaveword$Frame;IILWeaveword$Row;)V"⟩, 10) := ⟨⟨by decide +kernel, by decide +kernel⟩, lw_t5 (List.mem_of_getElem? (i := 145) rfl), lw_t5 (List.mem_of_getElem? (i := 218) rfl), lw_t5 (List.mem_of_getElem? (i := 219) rfl)⟩
theorem lw_p25 : lw_okq (⟨"Weaveword$Rendering", "leadsTo", "(I)I"⟩, 10) := ⟨⟨by decide +kernel, by decide +kernel⟩, lw_t5 (List.mem_of_getElem? (i := 145) rfl), lw_t5 (List.mem_of_getElem? (i := 222) rfl), lw_t5 (List.mem_of_getElem? (i := 223) rfl)⟩
theorem lw_p26 : lw_okq (⟨"Weaveword$Rendering", "textOf", "(I)LWeaveword$Text;"⟩, 10) := ⟨⟨by decide +kernel, by decide +kernel⟩, lw_t5 (List.mem_of_getElem? (i := 145) rfl), lw_t5 (List.mem_of_getElem? (i := 226) rfl), lw_t5 (List.mem_of_getElem? (i := 227) rfl)⟩
theorem lw_p27 : lw_okq (⟨"Weaveword$Rendering", "partsOf", "(LWeaveword$Frame;II)LWeaveword$Parts;"⟩, 10) := ⟨⟨by decide +kernel, by decide +kernel⟩, lw_t5 (List.mem_of_getElem? (i := 145) rfl), lw_t6 (List.mem_of_getElem? (i := 7) rfl), lw_t6 (List.mem_of_getElem? (i := 8) rfl)⟩
theorem lw_p28 : lw_okq (⟨"Weaveword$Rendering", "puts", "(LWeaveword$Frame;IILWeaveword$Row;)V"⟩, 10) := ⟨⟨by decide +kernel, by decide +kernel⟩, lw_t5 (List.mem_of_getElem? (i := 145) rfl), lw_t6 (List.mem_of_getElem? (i := 55) rfl), lw_t6 (List.mem_of_getElem? (i := 56) rfl)⟩
theorem lw_p29 : lw_okq (⟨"Weaveword$Rendering", "does", "(ILWeaveword$Parts;LWeaveword$Row;)V"⟩, 10) := ⟨⟨by decide +kernel, by decide +kernel⟩, lw_t5 (List.mem_of_getElem? (i := 145) rfl), lw_t6 (List.mem_of_getElem? (i := 71) rfl), lw_t6 (List.mem_of_getElem? (i := 72) rfl)⟩
theorem lw_p30 : lw_okq (⟨"Weaveword$Rendering", "sum", "(LWeaveword$Parts;)I"⟩, 10) := ⟨⟨by decide +kernel, by decide +kernel⟩, lw_t5 (List.mem_of_getElem? (i := 145) rfl), lw_t6 (List.mem_of_getElem? (i := 93) rfl), lw_t6 (List.mem_of_getElem? (i := 94) rfl)⟩
theorem lw_p31 : lw_okq (⟨"Weaveword$Rendering", "exists", "(I)Z"⟩, 10) := ⟨⟨by decide +kernel, by decide +kernel⟩, lw_t5 (List.mem_of_getElem? (i := 145) rfl), lw_t6 (List.mem_of_getElem? (i := 111) rfl), lw_t6 (List.mem_of_getElem? (i := 112) rfl)⟩
def lw_privs_2 : List (MethodName × Nat) := [(⟨"Weaveword", "brings", "(II)V"⟩, 10), (⟨"Weaveword", "stores", "(ILWeaveword$Stored;)V"⟩, 10), (⟨"Weaveword", "changedCategories", "(I)V"⟩, 10), (⟨"Weaveword", "pagesOf", "(I)[Z"⟩, 10), (⟨"Weaveword", "moduleAt", "(I)LWeaveword$Module;"⟩, 10), (⟨"Weaveword", "changedModule", "(I)V"⟩, 10), (⟨"Weaveword", "rendered", "(I)LWeaveword$Rendering;"⟩, 10), (⟨"Weaveword$Rendering", "linksTo", "(IILWeaveword$Row;)V"⟩, 10), (⟨"Weaveword$Rendering", "calls", "(LWeaveword$Frame;IILWeaveword$Row;)V"⟩, 10), (⟨"Weaveword$Rendering", "leadsTo", "(I)I"⟩, 10), (⟨"Weaveword$Rendering", "textOf", "(I)LWeaveword$Text;"⟩, 10), (⟨"Weaveword$Rendering", "partsOf", "(LWeaveword$Frame;II)LWeaveword$Parts;"⟩, 10), (⟨"Weaveword$Rendering", "puts", "(LWeaveword$Frame;IILWeaveword$Row;)V"⟩, 10), (⟨"Weaveword$Rendering", "does", "(ILWeaveword$Parts;LWeaveword$Row;)V"⟩, 10), (⟨"Weaveword$Rendering", "sum", "(LWeaveword$Parts;)I"⟩, 10), (⟨"Weaveword$Rendering", "exists", "(I)Z"⟩, 10)]
theorem lw_r2 : ∀ q ∈ lw_privs_2, lw_okq q := List.forall_mem_cons.mpr ⟨lw_p16, List.forall_mem_cons.mpr ⟨lw_p17, List.forall_mem_cons.mpr ⟨lw_p18, List.forall_mem_cons.mpr ⟨lw_p19, List.forall_mem_cons.mpr ⟨lw_p20, List.forall_mem_cons.mpr ⟨lw_p21, List.forall_mem_cons.mpr ⟨lw_p22, List.forall_mem_cons.mpr ⟨lw_p23, List.forall_mem_cons.mpr ⟨lw_p24, List.forall_mem_cons.mpr ⟨lw_p25, List.forall_mem_cons.mpr ⟨lw_p26, List.forall_mem_cons.mpr ⟨lw_p27, List.forall_mem_cons.mpr ⟨lw_p28, List.forall_mem_cons.mpr ⟨lw_p29, List.forall_mem_cons.mpr ⟨lw_p30, List.forall_mem_cons.mpr ⟨lw_p31, fun _ h => absurd h List.not_mem_nil⟩⟩⟩⟩⟩⟩⟩⟩⟩⟩⟩⟩⟩⟩⟩⟩
theorem lw_p32 : lw_okq (⟨"Weaveword$Rendering", "membersOf", "(I)I"⟩, 10) := ⟨⟨by decide +kernel, by decide +kernel⟩, lw_t5 (List.mem_of_getElem? (i := 145) rfl), lw_t6 (List.mem_of_getElem? (i := 115) rfl), lw_t6 (List.mem_of_getElem? (i := 116) rfl)⟩
theorem lw_p33 : lw_okq (⟨"Weaveword$Rendering", "lists", "(ILWeaveword$Row;)V"⟩, 10) := ⟨⟨by decide +kernel, by decide +kernel⟩, lw_t5 (List.mem_of_getElem? (i := 145) rfl), lw_t6 (List.mem_of_getElem? (i := 130) rfl), lw_t6 (List.mem_of_getElem? (i := 131) rfl)⟩
theorem lw_p34 : lw_okq (⟨"Weaveword$Rendering", "given", "(LWeaveword$Parts;)I"⟩, 10) := ⟨⟨by decide +kernel, by decide +kernel⟩, lw_t5 (List.mem_of_getElem? (i := 145) rfl), lw_t6 (List.mem_of_getElem? (i := 134) rfl), lw_t6 (List.mem_of_getElem? (i := 135) rfl)⟩
theorem lw_p35 : lw_okq (⟨"WeavewordModel", "nextStale", "()I"⟩, 79) := ⟨⟨by decide +kernel, by decide +kernel⟩, lw_t7 (List.mem_of_getElem? (i := 74) rfl), lw_t8 (List.mem_of_getElem? (i := 90) rfl), lw_t8 (List.mem_of_getElem? (i := 91) rfl)⟩
theorem lw_p36 : lw_okq (⟨"WeavewordModel", "isOld", "(I)Z"⟩, 79) := ⟨⟨by decide +kernel, by decide +kernel⟩, lw_t7 (List.mem_of_getElem? (i := 74) rfl), lw_t8 (List.mem_of_getElem? (i := 94) rfl), lw_t8 (List.mem_of_getElem? (i := 95) rfl)⟩
theorem lw_p37 : lw_okq (⟨"WeavewordModel", "render", "(I)V"⟩, 79) := ⟨⟨by decide +kernel, by decide +kernel⟩, lw_t7 (List.mem_of_getElem? (i := 74) rfl), lw_t8 (List.mem_of_getElem? (i := 98) rfl), lw_t8 (List.mem_of_getElem? (i := 99) rfl)⟩
theorem lw_p38 : lw_okq (⟨"WeavewordModel", "presentAt", "(I)I"⟩, 79) := ⟨⟨by decide +kernel, by decide +kernel⟩, lw_t7 (List.mem_of_getElem? (i := 74) rfl), lw_t8 (List.mem_of_getElem? (i := 102) rfl), lw_t8 (List.mem_of_getElem? (i := 103) rfl)⟩
theorem lw_p39 : lw_okq (⟨"WeavewordModel", "presentOf", "(I)I"⟩, 79) := ⟨⟨by decide +kernel, by decide +kernel⟩, lw_t7 (List.mem_of_getElem? (i := 74) rfl), lw_t8 (List.mem_of_getElem? (i := 106) rfl), lw_t8 (List.mem_of_getElem? (i := 107) rfl)⟩
theorem lw_p40 : lw_okq (⟨"WeavewordModel", "isAhead", "(II)Z"⟩, 79) := ⟨⟨by decide +kernel, by decide +kernel⟩, lw_t7 (List.mem_of_getElem? (i := 74) rfl), lw_t8 (List.mem_of_getElem? (i := 110) rfl), lw_t8 (List.mem_of_getElem? (i := 111) rfl)⟩
theorem lw_p41 : lw_okq (⟨"WeavewordModel", "expand", "(II)V"⟩, 79) := ⟨⟨by decide +kernel, by decide +kernel⟩, lw_t7 (List.mem_of_getElem? (i := 74) rfl), lw_t8 (List.mem_of_getElem? (i := 114) rfl), lw_t8 (List.mem_of_getElem? (i := 115) rfl)⟩
theorem lw_p42 : lw_okq (⟨"WeavewordModel", "newRow", "()I"⟩, 79) := ⟨⟨by decide +kernel, by decide +kernel⟩, lw_t7 (List.mem_of_getElem? (i := 74) rfl), lw_t8 (List.mem_of_getElem? (i := 118) rfl), lw_t8 (List.mem_of_getElem? (i := 119) rfl)⟩
theorem lw_p43 : lw_okq (⟨"WeavewordModel", "newFrame", "(IIII)I"⟩, 79) := ⟨⟨by decide +kernel, by decide +kernel⟩, lw_t7 (List.mem_of_getElem? (i := 74) rfl), lw_t8 (List.mem_of_getElem? (i := 122) rfl), lw_t8 (List.mem_of_getElem? (i := 123) rfl)⟩
theorem lw_p44 : lw_okq (⟨"WeavewordModel", "task", "(IIIII)V"⟩, 79) := ⟨⟨by decide +kernel, by decide +kernel⟩, lw_t7 (List.mem_of_getElem? (i := 74) rfl), lw_t8 (List.mem_of_getElem? (i := 126) rfl), lw_t8 (List.mem_of_getElem? (i := 127) rfl)⟩
theorem lw_p45 : lw_okq (⟨"WeavewordModel", "appendRow", "(II)V"⟩, 79) := ⟨⟨by decide +kernel, by decide +kernel⟩, lw_t7 (List.mem_of_getElem? (i := 74) rfl), lw_t8 (List.mem_of_getElem? (i := 130) rfl), lw_t8 (List.mem_of_getElem? (i := 131) rfl)⟩
theorem lw_p46 : lw_okq (⟨"WeavewordModel", "append", "(II)V"⟩, 79) := ⟨⟨by decide +kernel, by decide +kernel⟩, lw_t7 (List.mem_of_getElem? (i := 74) rfl), lw_t8 (List.mem_of_getElem? (i := 134) rfl), lw_t8 (List.mem_of_getElem? (i := 135) rfl)⟩
theorem lw_p47 : lw_okq (⟨"WeavewordModel", "give", "(I)V"⟩, 79) := ⟨⟨by decide +kernel, by decide +kernel⟩, lw_t7 (List.mem_of_getElem? (i := 74) rfl), lw_t8 (List.mem_of_getElem? (i := 138) rfl), lw_t8 (List.mem_of_getElem? (i := 139) rfl)⟩
def lw_privs_3 : List (MethodName × Nat) := [(⟨"Weaveword$Rendering", "membersOf", "(I)I"⟩, 10), (⟨"Weaveword$Rendering", "lists", "(ILWeaveword$Row;)V"⟩, 10), (⟨"Weaveword$Rendering", "given", "(LWeaveword$Parts;)I"⟩, 10), (⟨"WeavewordModel", "nextStale", "()I"⟩, 79), (⟨"WeavewordModel", "isOld", "(I)Z"⟩, 79), (⟨"WeavewordModel", "render", "(I)V"⟩, 79), (⟨"WeavewordModel", "presentAt", "(I)I"⟩, 79), (⟨"WeavewordModel", "presentOf", "(I)I"⟩, 79), (⟨"WeavewordModel", "isAhead", "(II)Z"⟩, 79), (⟨"WeavewordModel", "expand", "(II)V"⟩, 79), (⟨"WeavewordModel", "newRow", "()I"⟩, 79), (⟨"WeavewordModel", "newFrame", "(IIII)I"⟩, 79), (⟨"WeavewordModel", "task", "(IIIII)V"⟩, 79), (⟨"WeavewordModel", "appendRow", "(II)V"⟩, 79), (⟨"WeavewordModel", "append", "(II)V"⟩, 79), (⟨"WeavewordModel", "give", "(I)V"⟩, 79)]
theorem lw_r3 : ∀ q ∈ lw_privs_3, lw_okq q := List.forall_mem_cons.mpr ⟨lw_p32, List.forall_mem_cons.mpr ⟨lw_p33, List.forall_mem_cons.mpr ⟨lw_p34, List.forall_mem_cons.mpr ⟨lw_p35, List.forall_mem_cons.mpr ⟨lw_p36, List.forall_mem_cons.mpr ⟨lw_p37, List.forall_mem_cons.mpr ⟨lw_p38, List.forall_mem_cons.mpr ⟨lw_p39, List.forall_mem_cons.mpr ⟨lw_p40, List.forall_mem_cons.mpr ⟨lw_p41, List.forall_mem_cons.mpr ⟨lw_p42, List.forall_mem_cons.mpr ⟨lw_p43, List.forall_mem_cons.mpr ⟨lw_p44, List.forall_mem_cons.mpr ⟨lw_p45, List.forall_mem_cons.mpr ⟨lw_p46, List.forall_mem_cons.mpr ⟨lw_p47, fun _ h => absurd h List.not_mem_nil⟩⟩⟩⟩⟩⟩⟩⟩⟩⟩⟩⟩⟩⟩⟩⟩
theorem lw_p48 : lw_okq (⟨"WeavewordModel", "partOf", "(II)I"⟩, 79) := ⟨⟨by decide +kernel, by decide +kernel⟩, lw_t7 (List.mem_of_getElem? (i := 74) rfl), lw_t8 (List.mem_of_getElem? (i := 142) rfl), lw_t8 (List.mem_of_getElem? (i := 143) rfl)⟩
theorem lw_p49 : lw_okq (⟨"WeavewordModel", "hasOther", "(I)Z"⟩, 79) := ⟨⟨by decide +kernel, by decide +kernel⟩, lw_t7 (List.mem_of_getElem? (i := 74) rfl), lw_t8 (List.mem_of_getElem? (i := 146) rfl), lw_t8 (List.mem_of_getElem? (i := 147) rfl)⟩
theorem lw_p50 : lw_okq (⟨"WeavewordModel", "areSame", "(II)Z"⟩, 79) := ⟨⟨by decide +kernel, by decide +kernel⟩, lw_t7 (List.mem_of_getElem? (i := 74) rfl), lw_t8 (List.mem_of_getElem? (i := 150) rfl), lw_t8 (List.mem_of_getElem? (i := 151) rfl)⟩
theorem lw_p51 : lw_okq (⟨"WeavewordModel", "sumOf", "(I)I"⟩, 79) := ⟨⟨by decide +kernel, by decide +kernel⟩, lw_t7 (List.mem_of_getElem? (i := 74) rfl), lw_t8 (List.mem_of_getElem? (i := 154) rfl), lw_t8 (List.mem_of_getElem? (i := 155) rfl)⟩
theorem lw_p52 : lw_okq (⟨"WeavewordModel", "numberOf", "(I)I"⟩, 79) := ⟨⟨by decide +kernel, by decide +kernel⟩, lw_t7 (List.mem_of_getElem? (i := 74) rfl), lw_t8 (List.mem_of_getElem? (i := 158) rfl), lw_t8 (List.mem_of_getElem? (i := 159) rfl)⟩
theorem lw_p53 : lw_okq (⟨"WeavewordModel", "giveByNumber", "(II)V"⟩, 79) := ⟨⟨by decide +kernel, by decide +kernel⟩, lw_t7 (List.mem_of_getElem? (i := 74) rfl), lw_t8 (List.mem_of_getElem? (i := 162) rfl), lw_t8 (List.mem_of_getElem? (i := 163) rfl)⟩
theorem lw_p54 : lw_okq (⟨"WeavewordModel", "seenAt", "(I)I"⟩, 79) := ⟨⟨by decide +kernel, by decide +kernel⟩, lw_t7 (List.mem_of_getElem? (i := 74) rfl), lw_t8 (List.mem_of_getElem? (i := 169) rfl), lw_t8 (List.mem_of_getElem? (i := 170) rfl)⟩
theorem lw_p55 : lw_okq (⟨"WeavewordModel", "approvedUpTo", "(II)I"⟩, 79) := ⟨⟨by decide +kernel, by decide +kernel⟩, lw_t7 (List.mem_of_getElem? (i := 74) rfl), lw_t8 (List.mem_of_getElem? (i := 173) rfl), lw_t8 (List.mem_of_getElem? (i := 174) rfl)⟩
theorem lw_p56 : lw_okq (⟨"WeavewordModel", "membersOf", "(I)I"⟩, 79) := ⟨⟨by decide +kernel, by decide +kernel⟩, lw_t7 (List.mem_of_getElem? (i := 74) rfl), lw_t8 (List.mem_of_getElem? (i := 177) rfl), lw_t8 (List.mem_of_getElem? (i := 178) rfl)⟩
theorem lw_p57 : lw_okq (⟨"WeavewordModel", "listMembers", "(II)V"⟩, 79) := ⟨⟨by decide +kernel, by decide +kernel⟩, lw_t7 (List.mem_of_getElem? (i := 74) rfl), lw_t8 (List.mem_of_getElem? (i := 184) rfl), lw_t8 (List.mem_of_getElem? (i := 185) rfl)⟩
theorem lw_p58 : lw_okq (⟨"WeavewordModel", "moduleResult", "(II)I"⟩, 79) := ⟨⟨by decide +kernel, by decide +kernel⟩, lw_t7 (List.mem_of_getElem? (i := 74) rfl), lw_t8 (List.mem_of_getElem? (i := 188) rfl), lw_t8 (List.mem_of_getElem? (i := 189) rfl)⟩
theorem lw_p59 : lw_okq (⟨"WeavewordModel", "takesTwo", "(I)Z"⟩, 79) := ⟨⟨by decide +kernel, by decide +kernel⟩, lw_t7 (List.mem_of_getElem? (i := 74) rfl), lw_t8 (List.mem_of_getElem? (i := 192) rfl), lw_t8 (List.mem_of_getElem? (i := 193) rfl)⟩
theorem lw_p60 : lw_okq (⟨"WeavewordModel", "codeAt", "(II)I"⟩, 79) := ⟨⟨by decide +kernel, by decide +kernel⟩, lw_t7 (List.mem_of_getElem? (i := 74) rfl), lw_t8 (List.mem_of_getElem? (i := 196) rfl), lw_t8 (List.mem_of_getElem? (i := 197) rfl)⟩
theorem lw_p61 : lw_okq (⟨"WeavewordModel", "closeOf", "(II)I"⟩, 79) := ⟨⟨by decide +kernel, by decide +kernel⟩, lw_t7 (List.mem_of_getElem? (i := 74) rfl), lw_t8 (List.mem_of_getElem? (i := 203) rfl), lw_t8 (List.mem_of_getElem? (i := 204) rfl)⟩
theorem lw_p62 : lw_okq (⟨"WeavewordModel", "expandToken", "(III)V"⟩, 79) := ⟨⟨by decide +kernel, by decide +kernel⟩, lw_t7 (List.mem_of_getElem? (i := 74) rfl), lw_t8 (List.mem_of_getElem? (i := 207) rfl), lw_t8 (List.mem_of_getElem? (i := 208) rfl)⟩
theorem lw_p63 : lw_okq (⟨"WeavewordModel", "expandCall", "(IIII)V"⟩, 79) := ⟨⟨by decide +kernel, by decide +kernel⟩, lw_t7 (List.mem_of_getElem? (i := 74) rfl), lw_t8 (List.mem_of_getElem? (i := 211) rfl), lw_t8 (List.mem_of_getElem? (i := 212) rfl)⟩
def lw_privs_4 : List (MethodName × Nat) := [(⟨"WeavewordModel", "partOf", "(II)I"⟩, 79), (⟨"WeavewordModel", "hasOther", "(I)Z"⟩, 79), (⟨"WeavewordModel", "areSame", "(II)Z"⟩, 79), (⟨"WeavewordModel", "sumOf", "(I)I"⟩, 79), (⟨"WeavewordModel", "numberOf", "(I)I"⟩, 79), (⟨"WeavewordModel", "giveByNumber", "(II)V"⟩, 79), (⟨"WeavewordModel", "seenAt", "(I)I"⟩, 79), (⟨"WeavewordModel", "approvedUpTo", "(II)I"⟩, 79), (⟨"WeavewordModel", "membersOf", "(I)I"⟩, 79), (⟨"WeavewordModel", "listMembers", "(II)V"⟩, 79), (⟨"WeavewordModel", "moduleResult", "(II)I"⟩, 79), (⟨"WeavewordModel", "takesTwo", "(I)Z"⟩, 79), (⟨"WeavewordModel", "codeAt", "(II)I"⟩, 79), (⟨"WeavewordModel", "closeOf", "(II)I"⟩, 79), (⟨"WeavewordModel", "expandToken", "(III)V"⟩, 79), (⟨"WeavewordModel", "expandCall", "(IIII)V"⟩, 79)]
theorem lw_r4 : ∀ q ∈ lw_privs_4, lw_okq q := List.forall_mem_cons.mpr ⟨lw_p48, List.forall_mem_cons.mpr ⟨lw_p49, List.forall_mem_cons.mpr ⟨lw_p50, List.forall_mem_cons.mpr ⟨lw_p51, List.forall_mem_cons.mpr ⟨lw_p52, List.forall_mem_cons.mpr ⟨lw_p53, List.forall_mem_cons.mpr ⟨lw_p54, List.forall_mem_cons.mpr ⟨lw_p55, List.forall_mem_cons.mpr ⟨lw_p56, List.forall_mem_cons.mpr ⟨lw_p57, List.forall_mem_cons.mpr ⟨lw_p58, List.forall_mem_cons.mpr ⟨lw_p59, List.forall_mem_cons.mpr ⟨lw_p60, List.forall_mem_cons.mpr ⟨lw_p61, List.forall_mem_cons.mpr ⟨lw_p62, List.forall_mem_cons.mpr ⟨lw_p63, fun _ h => absurd h List.not_mem_nil⟩⟩⟩⟩⟩⟩⟩⟩⟩⟩⟩⟩⟩⟩⟩⟩
theorem lw_p64 : lw_okq (⟨"WeavewordModel", "wayOf", "(I)I"⟩, 79) := ⟨⟨by decide +kernel, by decide +kernel⟩, lw_t7 (List.mem_of_getElem? (i := 74) rfl), lw_t8 (List.mem_of_getElem? (i := 215) rfl), lw_t8 (List.mem_of_getElem? (i := 216) rfl)⟩
theorem lw_p65 : lw_okq (⟨"WeavewordModel", "redirectOf", "(I)I"⟩, 79) := ⟨⟨by decide +kernel, by decide +kernel⟩, lw_t7 (List.mem_of_getElem? (i := 74) rfl), lw_t8 (List.mem_of_getElem? (i := 219) rfl), lw_t8 (List.mem_of_getElem? (i := 220) rfl)⟩
theorem lw_p66 : lw_okq (⟨"WeavewordModel", "isCalledFrom", "(II)Z"⟩, 79) := ⟨⟨by decide +kernel, by decide +kernel⟩, lw_t7 (List.mem_of_getElem? (i := 74) rfl), lw_t8 (List.mem_of_getElem? (i := 223) rfl), lw_t8 (List.mem_of_getElem? (i := 224) rfl)⟩
theorem lw_p67 : lw_okq (⟨"WeavewordModel", "layArguments", "(IIII)V"⟩, 79) := ⟨⟨by decide +kernel, by decide +kernel⟩, lw_t7 (List.mem_of_getElem? (i := 74) rfl), lw_t8 (List.mem_of_getElem? (i := 227) rfl), lw_t8 (List.mem_of_getElem? (i := 228) rfl)⟩
theorem lw_p68 : lw_okq (⟨"WeavewordModel", "markFrom", "(III)I"⟩, 79) := ⟨⟨by decide +kernel, by decide +kernel⟩, lw_t7 (List.mem_of_getElem? (i := 74) rfl), lw_t8 (List.mem_of_getElem? (i := 231) rfl), lw_t8 (List.mem_of_getElem? (i := 232) rfl)⟩
theorem lw_p69 : lw_okq (⟨"WeavewordModel", "expandParam", "(IIII)V"⟩, 79) := ⟨⟨by decide +kernel, by decide +kernel⟩, lw_t7 (List.mem_of_getElem? (i := 74) rfl), lw_t8 (List.mem_of_getElem? (i := 235) rfl), lw_t8 (List.mem_of_getElem? (i := 236) rfl)⟩
theorem lw_p70 : lw_okq (⟨"WeavewordModel", "expandFunction", "(IIII)V"⟩, 79) := ⟨⟨by decide +kernel, by decide +kernel⟩, lw_t7 (List.mem_of_getElem? (i := 74) rfl), lw_t8 (List.mem_of_getElem? (i := 239) rfl), lw_t9 (List.mem_of_getElem? (i := 0) rfl)⟩
theorem lw_p71 : lw_okq (⟨"WeavewordModel", "setCategories", "(II)V"⟩, 79) := ⟨⟨by decide +kernel, by decide +kernel⟩, lw_t7 (List.mem_of_getElem? (i := 74) rfl), lw_t9 (List.mem_of_getElem? (i := 3) rfl), lw_t9 (List.mem_of_getElem? (i := 4) rfl)⟩
theorem lw_p72 : lw_okq (⟨"WeavewordModel", "hasPage", "(I)Z"⟩, 79) := ⟨⟨by decide +kernel, by decide +kernel⟩, lw_t7 (List.mem_of_getElem? (i := 74) rfl), lw_t9 (List.mem_of_getElem? (i := 11) rfl), lw_t9 (List.mem_of_getElem? (i := 12) rfl)⟩
theorem lw_p73 : lw_okq (⟨"WeavewordModel", "mayAt", "(I)Z"⟩, 79) := ⟨⟨by decide +kernel, by decide +kernel⟩, lw_t7 (List.mem_of_getElem? (i := 74) rfl), lw_t9 (List.mem_of_getElem? (i := 34) rfl), lw_t9 (List.mem_of_getElem? (i := 35) rfl)⟩
theorem lw_p74 : lw_okq (⟨"WeavewordModel", "isText", "([III)Z"⟩, 79) := ⟨⟨by decide +kernel, by decide +kernel⟩, lw_t7 (List.mem_of_getElem? (i := 74) rfl), lw_t9 (List.mem_of_getElem? (i := 42) rfl), lw_t9 (List.mem_of_getElem? (i := 43) rfl)⟩
theorem lw_p75 : lw_okq (⟨"WeavewordModel", "newPage", "(I)I"⟩, 79) := ⟨⟨by decide +kernel, by decide +kernel⟩, lw_t7 (List.mem_of_getElem? (i := 74) rfl), lw_t9 (List.mem_of_getElem? (i := 46) rfl), lw_t9 (List.mem_of_getElem? (i := 47) rfl)⟩
theorem lw_p76 : lw_okq (⟨"WeavewordModel", "fromDraft", "(II)I"⟩, 79) := ⟨⟨by decide +kernel, by decide +kernel⟩, lw_t7 (List.mem_of_getElem? (i := 74) rfl), lw_t9 (List.mem_of_getElem? (i := 50) rfl), lw_t9 (List.mem_of_getElem? (i := 51) rfl)⟩
theorem lw_p77 : lw_okq (⟨"WeavewordModel", "newVersion", "(II[III)I"⟩, 79) := ⟨⟨by decide +kernel, by decide +kernel⟩, lw_t7 (List.mem_of_getElem? (i := 74) rfl), lw_t9 (List.mem_of_getElem? (i := 54) rfl), lw_t9 (List.mem_of_getElem? (i := 55) rfl)⟩
theorem lw_p78 : lw_okq (⟨"WeavewordModel", "settleTitles", "()V"⟩, 79) := ⟨⟨by decide +kernel, by decide +kernel⟩, lw_t7 (List.mem_of_getElem? (i := 74) rfl), lw_t9 (List.mem_of_getElem? (i := 58) rfl), lw_t9 (List.mem_of_getElem? (i := 59) rfl)⟩
theorem lw_p79 : lw_okq (⟨"WeavewordModel", "isVersionAt", "(II)Z"⟩, 79) := ⟨⟨by decide +kernel, by decide +kernel⟩, lw_t7 (List.mem_of_getElem? (i := 74) rfl), lw_t9 (List.mem_of_getElem? (i := 66) rfl), lw_t9 (List.mem_of_getElem? (i := 67) rfl)⟩
def lw_privs_5 : List (MethodName × Nat) := [(⟨"WeavewordModel", "wayOf", "(I)I"⟩, 79), (⟨"WeavewordModel", "redirectOf", "(I)I"⟩, 79), (⟨"WeavewordModel", "isCalledFrom", "(II)Z"⟩, 79), (⟨"WeavewordModel", "layArguments", "(IIII)V"⟩, 79), (⟨"WeavewordModel", "markFrom", "(III)I"⟩, 79), (⟨"WeavewordModel", "expandParam", "(IIII)V"⟩, 79), (⟨"WeavewordModel", "expandFunction", "(IIII)V"⟩, 79), (⟨"WeavewordModel", "setCategories", "(II)V"⟩, 79), (⟨"WeavewordModel", "hasPage", "(I)Z"⟩, 79), (⟨"WeavewordModel", "mayAt", "(I)Z"⟩, 79), (⟨"WeavewordModel", "isText", "([III)Z"⟩, 79), (⟨"WeavewordModel", "newPage", "(I)I"⟩, 79), (⟨"WeavewordModel", "fromDraft", "(II)I"⟩, 79), (⟨"WeavewordModel", "newVersion", "(II[III)I"⟩, 79), (⟨"WeavewordModel", "settleTitles", "()V"⟩, 79), (⟨"WeavewordModel", "isVersionAt", "(II)Z"⟩, 79)]
theorem lw_r5 : ∀ q ∈ lw_privs_5, lw_okq q := List.forall_mem_cons.mpr ⟨lw_p64, List.forall_mem_cons.mpr ⟨lw_p65, List.forall_mem_cons.mpr ⟨lw_p66, List.forall_mem_cons.mpr ⟨lw_p67, List.forall_mem_cons.mpr ⟨lw_p68, List.forall_mem_cons.mpr ⟨lw_p69, List.forall_mem_cons.mpr ⟨lw_p70, List.forall_mem_cons.mpr ⟨lw_p71, List.forall_mem_cons.mpr ⟨lw_p72, List.forall_mem_cons.mpr ⟨lw_p73, List.forall_mem_cons.mpr ⟨lw_p74, List.forall_mem_cons.mpr ⟨lw_p75, List.forall_mem_cons.mpr ⟨lw_p76, List.forall_mem_cons.mpr ⟨lw_p77, List.forall_mem_cons.mpr ⟨lw_p78, List.forall_mem_cons.mpr ⟨lw_p79, fun _ h => absurd h List.not_mem_nil⟩⟩⟩⟩⟩⟩⟩⟩⟩⟩⟩⟩⟩⟩⟩⟩
theorem lw_p80 : lw_okq (⟨"WeavewordModel", "sectionsOf", "(I)I"⟩, 79) := ⟨⟨by decide +kernel, by decide +kernel⟩, lw_t7 (List.mem_of_getElem? (i := 74) rfl), lw_t9 (List.mem_of_getElem? (i := 70) rfl), lw_t9 (List.mem_of_getElem? (i := 71) rfl)⟩
theorem lw_p81 : lw_okq (⟨"WeavewordModel", "layMeant", "(II)V"⟩, 79) := ⟨⟨by decide +kernel, by decide +kernel⟩, lw_t7 (List.mem_of_getElem? (i := 74) rfl), lw_t9 (List.mem_of_getElem? (i := 77) rfl), lw_t9 (List.mem_of_getElem? (i := 78) rfl)⟩
theorem lw_p82 : lw_okq (⟨"WeavewordModel", "putResult", "([III)V"⟩, 79) := ⟨⟨by decide +kernel, by decide +kernel⟩, lw_t7 (List.mem_of_getElem? (i := 74) rfl), lw_t9 (List.mem_of_getElem? (i := 81) rfl), lw_t9 (List.mem_of_getElem? (i := 82) rfl)⟩
theorem lw_p83 : lw_okq (⟨"WeavewordModel", "merges", "(II)Z"⟩, 79) := ⟨⟨by decide +kernel, by decide +kernel⟩, lw_t7 (List.mem_of_getElem? (i := 74) rfl), lw_t9 (List.mem_of_getElem? (i := 88) rfl), lw_t9 (List.mem_of_getElem? (i := 89) rfl)⟩
theorem lw_p84 : lw_okq (⟨"WeavewordModel", "putSection", "([IIII)V"⟩, 79) := ⟨⟨by decide +kernel, by decide +kernel⟩, lw_t7 (List.mem_of_getElem? (i := 74) rfl), lw_t9 (List.mem_of_getElem? (i := 95) rfl), lw_t9 (List.mem_of_getElem? (i := 96) rfl)⟩
theorem lw_p85 : lw_okq (⟨"WeavewordModel", "isNew", "(I)Z"⟩, 79) := ⟨⟨by decide +kernel, by decide +kernel⟩, lw_t7 (List.mem_of_getElem? (i := 74) rfl), lw_t9 (List.mem_of_getElem? (i := 99) rfl), lw_t9 (List.mem_of_getElem? (i := 100) rfl)⟩
theorem lw_p86 : lw_okq (⟨"WeavewordModel", "newVersionNow", "(I[III)I"⟩, 79) := ⟨⟨by decide +kernel, by decide +kernel⟩, lw_t7 (List.mem_of_getElem? (i := 74) rfl), lw_t9 (List.mem_of_getElem? (i := 103) rfl), lw_t9 (List.mem_of_getElem? (i := 104) rfl)⟩
theorem lw_p87 : lw_okq (⟨"WeavewordModel", "aheadOf", "(I)I"⟩, 79) := ⟨⟨by decide +kernel, by decide +kernel⟩, lw_t7 (List.mem_of_getElem? (i := 74) rfl), lw_t9 (List.mem_of_getElem? (i := 111) rfl), lw_t9 (List.mem_of_getElem? (i := 112) rfl)⟩
theorem lw_p88 : lw_okq (⟨"WeavewordModel", "versionIn", "(II)I"⟩, 79) := ⟨⟨by decide +kernel, by decide +kernel⟩, lw_t7 (List.mem_of_getElem? (i := 74) rfl), lw_t9 (List.mem_of_getElem? (i := 115) rfl), lw_t9 (List.mem_of_getElem? (i := 116) rfl)⟩
theorem lw_p89 : lw_okq (⟨"WeavewordModel", "undoes", "(III)Z"⟩, 79) := ⟨⟨by decide +kernel, by decide +kernel⟩, lw_t7 (List.mem_of_getElem? (i := 74) rfl), lw_t9 (List.mem_of_getElem? (i := 119) rfl), lw_t9 (List.mem_of_getElem? (i := 120) rfl)⟩
theorem lw_p90 : lw_okq (⟨"WeavewordModel", "dropRendering", "(I)V"⟩, 79) := ⟨⟨by decide +kernel, by decide +kernel⟩, lw_t7 (List.mem_of_getElem? (i := 74) rfl), lw_t9 (List.mem_of_getElem? (i := 131) rfl), lw_t9 (List.mem_of_getElem? (i := 132) rfl)⟩
theorem lw_p91 : lw_okq (⟨"WeavewordModel", "turns", "(IIII)Z"⟩, 79) := ⟨⟨by decide +kernel, by decide +kernel⟩, lw_t7 (List.mem_of_getElem? (i := 74) rfl), lw_t9 (List.mem_of_getElem? (i := 139) rfl), lw_t9 (List.mem_of_getElem? (i := 140) rfl)⟩
theorem lw_p92 : lw_okq (⟨"WeavewordModel", "asksFor", "(I)Z"⟩, 79) := ⟨⟨by decide +kernel, by decide +kernel⟩, lw_t7 (List.mem_of_getElem? (i := 74) rfl), lw_t9 (List.mem_of_getElem? (i := 174) rfl), lw_t9 (List.mem_of_getElem? (i := 175) rfl)⟩
theorem lw_p93 : lw_okq (⟨"WeavewordModel", "versionsOf", "(I)I"⟩, 79) := ⟨⟨by decide +kernel, by decide +kernel⟩, lw_t7 (List.mem_of_getElem? (i := 74) rfl), lw_t9 (List.mem_of_getElem? (i := 178) rfl), lw_t9 (List.mem_of_getElem? (i := 179) rfl)⟩
theorem lw_p94 : lw_okq (⟨"WeavewordModel", "hasIndex", "(II)Z"⟩, 79) := ⟨⟨by decide +kernel, by decide +kernel⟩, lw_t7 (List.mem_of_getElem? (i := 74) rfl), lw_t9 (List.mem_of_getElem? (i := 190) rfl), lw_t9 (List.mem_of_getElem? (i := 191) rfl)⟩
theorem lw_p95 : lw_okq (⟨"WeavewordModel", "leadsTo", "(I)I"⟩, 79) := ⟨⟨by decide +kernel, by decide +kernel⟩, lw_t7 (List.mem_of_getElem? (i := 74) rfl), lw_t9 (List.mem_of_getElem? (i := 198) rfl), lw_t9 (List.mem_of_getElem? (i := 199) rfl)⟩
def lw_privs_6 : List (MethodName × Nat) := [(⟨"WeavewordModel", "sectionsOf", "(I)I"⟩, 79), (⟨"WeavewordModel", "layMeant", "(II)V"⟩, 79), (⟨"WeavewordModel", "putResult", "([III)V"⟩, 79), (⟨"WeavewordModel", "merges", "(II)Z"⟩, 79), (⟨"WeavewordModel", "putSection", "([IIII)V"⟩, 79), (⟨"WeavewordModel", "isNew", "(I)Z"⟩, 79), (⟨"WeavewordModel", "newVersionNow", "(I[III)I"⟩, 79), (⟨"WeavewordModel", "aheadOf", "(I)I"⟩, 79), (⟨"WeavewordModel", "versionIn", "(II)I"⟩, 79), (⟨"WeavewordModel", "undoes", "(III)Z"⟩, 79), (⟨"WeavewordModel", "dropRendering", "(I)V"⟩, 79), (⟨"WeavewordModel", "turns", "(IIII)Z"⟩, 79), (⟨"WeavewordModel", "asksFor", "(I)Z"⟩, 79), (⟨"WeavewordModel", "versionsOf", "(I)I"⟩, 79), (⟨"WeavewordModel", "hasIndex", "(II)Z"⟩, 79), (⟨"WeavewordModel", "leadsTo", "(I)I"⟩, 79)]
theorem lw_r6 : ∀ q ∈ lw_privs_6, lw_okq q := List.forall_mem_cons.mpr ⟨lw_p80, List.forall_mem_cons.mpr ⟨lw_p81, List.forall_mem_cons.mpr ⟨lw_p82, List.forall_mem_cons.mpr ⟨lw_p83, List.forall_mem_cons.mpr ⟨lw_p84, List.forall_mem_cons.mpr ⟨lw_p85, List.forall_mem_cons.mpr ⟨lw_p86, List.forall_mem_cons.mpr ⟨lw_p87, List.forall_mem_cons.mpr ⟨lw_p88, List.forall_mem_cons.mpr ⟨lw_p89, List.forall_mem_cons.mpr ⟨lw_p90, List.forall_mem_cons.mpr ⟨lw_p91, List.forall_mem_cons.mpr ⟨lw_p92, List.forall_mem_cons.mpr ⟨lw_p93, List.forall_mem_cons.mpr ⟨lw_p94, List.forall_mem_cons.mpr ⟨lw_p95, fun _ h => absurd h List.not_mem_nil⟩⟩⟩⟩⟩⟩⟩⟩⟩⟩⟩⟩⟩⟩⟩⟩
theorem lw_p96 : lw_okq (⟨"WeavewordModel", "isLinked", "(I)Z"⟩, 79) := ⟨⟨by decide +kernel, by decide +kernel⟩, lw_t7 (List.mem_of_getElem? (i := 74) rfl), lw_t9 (List.mem_of_getElem? (i := 234) rfl), lw_t9 (List.mem_of_getElem? (i := 235) rfl)⟩
theorem lw_p97 : lw_okq (⟨"WeavewordModel", "asksIn", "(II)Z"⟩, 79) := ⟨⟨by decide +kernel, by decide +kernel⟩, lw_t7 (List.mem_of_getElem? (i := 74) rfl), lw_t10 (List.mem_of_getElem? (i := 2) rfl), lw_t10 (List.mem_of_getElem? (i := 3) rfl)⟩
theorem lw_p98 : lw_okq (⟨"WeavewordModel", "translated", "(II)I"⟩, 79) := ⟨⟨by decide +kernel, by decide +kernel⟩, lw_t7 (List.mem_of_getElem? (i := 74) rfl), lw_t10 (List.mem_of_getElem? (i := 6) rfl), lw_t10 (List.mem_of_getElem? (i := 7) rfl)⟩
def lw_privs_7 : List (MethodName × Nat) := [(⟨"WeavewordModel", "isLinked", "(I)Z"⟩, 79), (⟨"WeavewordModel", "asksIn", "(II)Z"⟩, 79), (⟨"WeavewordModel", "translated", "(II)I"⟩, 79)]
theorem lw_r7 : ∀ q ∈ lw_privs_7, lw_okq q := List.forall_mem_cons.mpr ⟨lw_p96, List.forall_mem_cons.mpr ⟨lw_p97, List.forall_mem_cons.mpr ⟨lw_p98, fun _ h => absurd h List.not_mem_nil⟩⟩⟩
def lw_privs : List (MethodName × Nat) := lw_privs_1 ++ (lw_privs_2 ++ (lw_privs_3 ++ (lw_privs_4 ++ (lw_privs_5 ++ (lw_privs_6 ++ (lw_privs_7))))))
def lw_tbl : List Cond := k2_sels lw_privs ++ tables_1
theorem lw_privs_ok : ∀ q ∈ lw_privs, lw_okq q := by
  show ∀ q ∈ lw_privs_1 ++ (lw_privs_2 ++ (lw_privs_3 ++ (lw_privs_4 ++ (lw_privs_5 ++ (lw_privs_6 ++ (lw_privs_7)))))), lw_okq q
  exact List.forall_mem_append.mpr ⟨lw_r1, List.forall_mem_append.mpr ⟨lw_r2, List.forall_mem_append.mpr ⟨lw_r3, List.forall_mem_append.mpr ⟨lw_r4, List.forall_mem_append.mpr ⟨lw_r5, List.forall_mem_append.mpr ⟨lw_r6, lw_r7⟩⟩⟩⟩⟩⟩
-- ===== ONE list of words for every method: the tables' words that hold all through a run =====
def lw_all : List Cond := lw_tbl.filter goodWord
/-- a word of the tables by its place: claim/WORDS.tsv -/
theorem lw_w {w : Cond} (i : Nat) (h : lw_tbl[i]? = some w) (g : goodWord w = true) : w ∈ lw_all := List.mem_filter.mpr ⟨List.mem_of_getElem? h, g⟩
theorem lw_all_tbl {w : Cond} (h : w ∈ lw_all) : w ∈ lw_tbl := (List.mem_filter.mp h).1
theorem lw_self : GoodIn lw_all lw_all := fun w h => ⟨h, good_of_word (List.mem_filter.mp h).2⟩
/-- a class's field words, by their places -/
theorem lw_in (ws : List Cond) (ps : List Nat) (hp : ws = ps.filterMap (fun i => lw_tbl[i]?)) (hg : ws.all goodWord = true) : ∀ w ∈ ws, w ∈ lw_all := by
  intro w h
  have h1 := List.all_eq_true.mp hg w h
  rw [hp] at h
  obtain ⟨i, -, hi⟩ := List.mem_filterMap.mp h
  exact lw_w i hi h1
/-- the words of a contract for the method y with code b, L locals, answer r -/
abbrev ws_ (y : MethodName) (b : ByteArray) (L : Nat) (r : Option FieldType) : List Cond := Cond.code y b L r :: lw_all
theorem lw_meth {y : MethodName} {b : ByteArray} {L : Nat} {r : Option FieldType} (h : Cond.code y b L r ∈ lw_all) : GoodIn lw_all (ws_ y b L r) := by
  intro w hw
  rcases List.mem_cons.mp hw with e | e
  · rw [e]
    exact lw_self _ h
  · exact lw_self _ e
theorem lw_app {a c : List Cond} (ha : ∀ w ∈ a, w ∈ lw_all) (hc : GoodIn lw_all c) : GoodIn lw_all (a ++ c) := by
  intro w hw
  rcases List.mem_append.mp hw with e | e
  · exact lw_self w (ha w e)
  · exact hc w e
/-- what a call through an object asks: cwV n hts (lw_V ..) -/
theorem lw_V {own : String} {idx : Nat} {C : String} {y : MethodName} {b : ByteArray} {L : Nat} {r : Option FieldType} (h1 : Cond.methodLink own idx y ∈ lw_all) (h2 : Cond.instanceMethod y ∈ lw_all) (h3 : Cond.selects C y y ∈ lw_all) (h4 : Cond.initialized C ∈ lw_all) (h5 : Cond.code y b L r ∈ lw_all) : GoodIn lw_all (wsV own idx C y (ws_ y b L r)) := by
  refine lw_app ?_ (lw_meth h5)
  intro w hw
  simp only [List.mem_cons, List.not_mem_nil, or_false] at hw
  rcases hw with e | e | e | e
  · rw [e]; exact h1
  · rw [e]; exact h2
  · rw [e]; exact h3
  · rw [e]; exact h4
/-- what a static call asks: va_cwS n hts (lw_S ..) -/
theorem lw_S {own : String} {idx : Nat} {y : MethodName} {b : ByteArray} {L : Nat} {r : Option FieldType} (h1 : Cond.methodLink own idx y ∈ lw_all) (h2 : Cond.static y ∈ lw_all) (h3 : Cond.initialized y.cls ∈ lw_all) (h4 : Cond.code y b L r ∈ lw_all) : GoodIn lw_all (va_wsS own idx y (ws_ y b L r)) := by
  refine lw_app ?_ (lw_meth h4)
  intro w hw
  simp only [List.mem_cons, List.not_mem_nil, or_false] at hw
  rcases hw with e | e | e
  · rw [e]; exact h1
  · rw [e]; exact h2
  · rw [e]; exact h3
/-- the words of a contract for a method WITH HANDLERS (hh: its table) -/
abbrev wsW_ (y : MethodName) (b : ByteArray) (L : Nat) (r : Option FieldType) (hh : List (Nat × Nat × Nat × Nat)) : List Cond := Cond.codeWith y b L r hh :: lw_all
theorem lw_methW {y : MethodName} {b : ByteArray} {L : Nat} {r : Option FieldType} {hh : List (Nat × Nat × Nat × Nat)} (h : Cond.codeWith y b L r hh ∈ lw_all) : GoodIn lw_all (wsW_ y b L r hh) := by
  intro w hw
  rcases List.mem_cons.mp hw with e | e
  · rw [e]
    exact lw_self _ h
  · exact lw_self _ e
/-- any list of words by their places (lw_in), good -/
theorem lw_good {ws : List Cond} (h : ∀ w ∈ ws, w ∈ lw_all) : GoodIn lw_all ws := fun w hw => lw_self w (h w hw)
/-- what a call of a method with handlers asks: vx_cwVW n hts (lw_VW ..), vx_cwSW n hts (lw_SW ..) -/
theorem lw_VW {own : String} {idx : Nat} {C : String} {y : MethodName} {b : ByteArray} {L : Nat} {r : Option FieldType} {hh : List (Nat × Nat × Nat × Nat)} (h1 : Cond.methodLink own idx y ∈ lw_all) (h2 : Cond.instanceMethod y ∈ lw_all) (h3 : Cond.selects C y y ∈ lw_all) (h4 : Cond.initialized C ∈ lw_all) (h5 : Cond.codeWith y b L r hh ∈ lw_all) : GoodIn lw_all (wsV own idx C y (wsW_ y b L r hh)) := by
  refine lw_app ?_ (lw_methW h5)
  intro w hw
  simp only [List.mem_cons, List.not_mem_nil, or_false] at hw
  rcases hw with e | e | e | e
  · rw [e]; exact h1
  · rw [e]; exact h2
  · rw [e]; exact h3
  · rw [e]; exact h4
theorem lw_SW {own : String} {idx : Nat} {y : MethodName} {b : ByteArray} {L : Nat} {r : Option FieldType} {hh : List (Nat × Nat × Nat × Nat)} (h1 : Cond.methodLink own idx y ∈ lw_all) (h2 : Cond.static y ∈ lw_all) (h3 : Cond.initialized y.cls ∈ lw_all) (h4 : Cond.codeWith y b L r hh ∈ lw_all) : GoodIn lw_all (va_wsS own idx y (wsW_ y b L r hh)) := by
  refine lw_app ?_ (lw_methW h4)
  intro w hw
  simp only [List.mem_cons, List.not_mem_nil, or_false] at hw
  rcases hw with e | e | e
  · rw [e]; exact h1
  · rw [e]; exact h2
  · rw [e]; exact h3
/-- a word by its place in its run of the tables -/
theorem lw_at {r : List Cond} (hr : ∀ w ∈ r, w ∈ lw_tbl) {w : Cond} (i : Nat) (h : r[i]? = some w) : w ∈ lw_tbl := hr w (List.mem_of_getElem? h)
theorem lw_g {w : Cond} (h : w ∈ lw_tbl) (g : goodWord w = true) : w ∈ lw_all := List.mem_filter.mpr ⟨h, g⟩
theorem lw_ms : ∀ w ∈ k2_sels lw_privs, w ∈ lw_tbl := fun w h => show w ∈ k2_sels lw_privs ++ tables_1 from List.mem_append_left _ h
theorem lw_m1 : ∀ w ∈ tables_1_1, w ∈ lw_tbl := fun w h => show w ∈ k2_sels lw_privs ++ tables_1 from List.mem_append_right (k2_sels lw_privs) (show w ∈ tables_1 from List.mem_append_left _ h)
theorem lw_m2 : ∀ w ∈ tables_1_2, w ∈ lw_tbl := fun w h => show w ∈ k2_sels lw_privs ++ tables_1 from List.mem_append_right (k2_sels lw_privs) (show w ∈ tables_1 from List.mem_append_right _ (List.mem_append_left _ h))
theorem lw_m3 : ∀ w ∈ tables_1_3, w ∈ lw_tbl := fun w h => show w ∈ k2_sels lw_privs ++ tables_1 from List.mem_append_right (k2_sels lw_privs) (show w ∈ tables_1 from List.mem_append_right _ (List.mem_append_right _ (List.mem_append_left _ h)))
theorem lw_m4 : ∀ w ∈ tables_1_4, w ∈ lw_tbl := fun w h => show w ∈ k2_sels lw_privs ++ tables_1 from List.mem_append_right (k2_sels lw_privs) (show w ∈ tables_1 from List.mem_append_right _ (List.mem_append_right _ (List.mem_append_right _ (List.mem_append_left _ h))))
theorem lw_m5 : ∀ w ∈ tables_1_5, w ∈ lw_tbl := fun w h => show w ∈ k2_sels lw_privs ++ tables_1 from List.mem_append_right (k2_sels lw_privs) (show w ∈ tables_1 from List.mem_append_right _ (List.mem_append_right _ (List.mem_append_right _ (List.mem_append_right _ (List.mem_append_left _ h)))))
theorem lw_m6 : ∀ w ∈ tables_1_6, w ∈ lw_tbl := fun w h => show w ∈ k2_sels lw_privs ++ tables_1 from List.mem_append_right (k2_sels lw_privs) (show w ∈ tables_1 from List.mem_append_right _ (List.mem_append_right _ (List.mem_append_right _ (List.mem_append_right _ (List.mem_append_right _ (List.mem_append_left _ h))))))
theorem lw_m7 : ∀ w ∈ tables_1_7, w ∈ lw_tbl := fun w h => show w ∈ k2_sels lw_privs ++ tables_1 from List.mem_append_right (k2_sels lw_privs) (show w ∈ tables_1 from List.mem_append_right _ (List.mem_append_right _ (List.mem_append_right _ (List.mem_append_right _ (List.mem_append_right _ (List.mem_append_right _ (List.mem_append_left _ h)))))))
theorem lw_m8 : ∀ w ∈ tables_1_8, w ∈ lw_tbl := fun w h => show w ∈ k2_sels lw_privs ++ tables_1 from List.mem_append_right (k2_sels lw_privs) (show w ∈ tables_1 from List.mem_append_right _ (List.mem_append_right _ (List.mem_append_right _ (List.mem_append_right _ (List.mem_append_right _ (List.mem_append_right _ (List.mem_append_right _ (List.mem_append_left _ h))))))))
theorem lw_m9 : ∀ w ∈ tables_1_9, w ∈ lw_tbl := fun w h => show w ∈ k2_sels lw_privs ++ tables_1 from List.mem_append_right (k2_sels lw_privs) (show w ∈ tables_1 from List.mem_append_right _ (List.mem_append_right _ (List.mem_append_right _ (List.mem_append_right _ (List.mem_append_right _ (List.mem_append_right _ (List.mem_append_right _ (List.mem_append_right _ (List.mem_append_left _ h)))))))))
theorem lw_m10 : ∀ w ∈ tables_1_10, w ∈ lw_tbl := fun w h => show w ∈ k2_sels lw_privs ++ tables_1 from List.mem_append_right (k2_sels lw_privs) (show w ∈ tables_1 from List.mem_append_right _ (List.mem_append_right _ (List.mem_append_right _ (List.mem_append_right _ (List.mem_append_right _ (List.mem_append_right _ (List.mem_append_right _ (List.mem_append_right _ (List.mem_append_right _ h)))))))))
theorem qs0 : (Cond.selects "java/util/ArrayList" ⟨"java/util/ArrayList", "add", "(Ljava/lang/Object;[Ljava/lang/Object;I)V"⟩ ⟨"java/util/ArrayList", "add", "(Ljava/lang/Object;[Ljava/lang/Object;I)V"⟩) ∈ lw_all := lw_g (lw_at lw_ms 0 rfl) rfl
theorem qs1 : (Cond.selects "java/util/ArrayList" ⟨"java/util/ArrayList", "grow", "()[Ljava/lang/Object;"⟩ ⟨"java/util/ArrayList", "grow", "()[Ljava/lang/Object;"⟩) ∈ lw_all := lw_g (lw_at lw_ms 1 rfl) rfl
theorem qs2 : (Cond.selects "java/util/ArrayList" ⟨"java/util/ArrayList", "grow", "(I)[Ljava/lang/Object;"⟩ ⟨"java/util/ArrayList", "grow", "(I)[Ljava/lang/Object;"⟩) ∈ lw_all := lw_g (lw_at lw_ms 2 rfl) rfl
theorem qs3 : (Cond.selects "Weaveword" ⟨"Weaveword", "isStaleAt", "(I)Z"⟩ ⟨"Weaveword", "isStaleAt", "(I)Z"⟩) ∈ lw_all := lw_g (lw_at lw_ms 3 rfl) rfl
theorem qs4 : (Cond.selects "Weaveword" ⟨"Weaveword", "linksOf", "(I)I"⟩ ⟨"Weaveword", "linksOf", "(I)I"⟩) ∈ lw_all := lw_g (lw_at lw_ms 4 rfl) rfl
theorem qs5 : (Cond.selects "java/lang/Throwable" ⟨"java/lang/Throwable", "fillInStackTrace", "(I)Ljava/lang/Throwable;"⟩ ⟨"java/lang/Throwable", "fillInStackTrace", "(I)Ljava/lang/Throwable;"⟩) ∈ lw_all := lw_g (lw_at lw_ms 5 rfl) rfl
theorem qs6 : (Cond.selects "Weaveword" ⟨"Weaveword", "mayAct", "(I)V"⟩ ⟨"Weaveword", "mayAct", "(I)V"⟩) ∈ lw_all := lw_g (lw_at lw_ms 6 rfl) rfl
theorem qs7 : (Cond.selects "Weaveword$Text" ⟨"Weaveword$Text", "canBe", "(III)Z"⟩ ⟨"Weaveword$Text", "canBe", "(III)Z"⟩) ∈ lw_all := lw_g (lw_at lw_ms 7 rfl) rfl
theorem qs8 : (Cond.selects "Weaveword" ⟨"Weaveword", "makes", "(ILWeaveword$Text;)I"⟩ ⟨"Weaveword", "makes", "(ILWeaveword$Text;)I"⟩) ∈ lw_all := lw_g (lw_at lw_ms 8 rfl) rfl
theorem qs9 : (Cond.selects "Weaveword" ⟨"Weaveword", "makes", "(ILWeaveword$Text;I)I"⟩ ⟨"Weaveword", "makes", "(ILWeaveword$Text;I)I"⟩) ∈ lw_all := lw_g (lw_at lw_ms 9 rfl) rfl
theorem qs10 : (Cond.selects "java/util/ArrayList" ⟨"java/util/ArrayList", "rangeCheckForAdd", "(I)V"⟩ ⟨"java/util/ArrayList", "rangeCheckForAdd", "(I)V"⟩) ∈ lw_all := lw_g (lw_at lw_ms 10 rfl) rfl
theorem qs11 : (Cond.selects "java/util/ArrayList" ⟨"java/util/ArrayList", "outOfBoundsMsg", "(I)Ljava/lang/String;"⟩ ⟨"java/util/ArrayList", "outOfBoundsMsg", "(I)Ljava/lang/String;"⟩) ∈ lw_all := lw_g (lw_at lw_ms 11 rfl) rfl
theorem qs12 : (Cond.selects "Weaveword" ⟨"Weaveword", "changed", "(I)V"⟩ ⟨"Weaveword", "changed", "(I)V"⟩) ∈ lw_all := lw_g (lw_at lw_ms 12 rfl) rfl
theorem qs13 : (Cond.selects "Weaveword" ⟨"Weaveword", "marks", "(ZLWeaveword$Stored;)V"⟩ ⟨"Weaveword", "marks", "(ZLWeaveword$Stored;)V"⟩) ∈ lw_all := lw_g (lw_at lw_ms 13 rfl) rfl
theorem qs14 : (Cond.selects "Weaveword" ⟨"Weaveword", "at", "(I)LWeaveword$Page;"⟩ ⟨"Weaveword", "at", "(I)LWeaveword$Page;"⟩) ∈ lw_all := lw_g (lw_at lw_ms 14 rfl) rfl
theorem qs15 : (Cond.selects "Weaveword" ⟨"Weaveword", "edits", "(ILWeaveword$Text;)I"⟩ ⟨"Weaveword", "edits", "(ILWeaveword$Text;)I"⟩) ∈ lw_all := lw_g (lw_at lw_ms 15 rfl) rfl
theorem qs16 : (Cond.selects "Weaveword" ⟨"Weaveword", "brings", "(II)V"⟩ ⟨"Weaveword", "brings", "(II)V"⟩) ∈ lw_all := lw_g (lw_at lw_ms 16 rfl) rfl
theorem qs17 : (Cond.selects "Weaveword" ⟨"Weaveword", "stores", "(ILWeaveword$Stored;)V"⟩ ⟨"Weaveword", "stores", "(ILWeaveword$Stored;)V"⟩) ∈ lw_all := lw_g (lw_at lw_ms 17 rfl) rfl
theorem qs18 : (Cond.selects "Weaveword" ⟨"Weaveword", "changedCategories", "(I)V"⟩ ⟨"Weaveword", "changedCategories", "(I)V"⟩) ∈ lw_all := lw_g (lw_at lw_ms 18 rfl) rfl
theorem qs19 : (Cond.selects "Weaveword" ⟨"Weaveword", "pagesOf", "(I)[Z"⟩ ⟨"Weaveword", "pagesOf", "(I)[Z"⟩) ∈ lw_all := lw_g (lw_at lw_ms 19 rfl) rfl
theorem qs20 : (Cond.selects "Weaveword" ⟨"Weaveword", "moduleAt", "(I)LWeaveword$Module;"⟩ ⟨"Weaveword", "moduleAt", "(I)LWeaveword$Module;"⟩) ∈ lw_all := lw_g (lw_at lw_ms 20 rfl) rfl
theorem qs21 : (Cond.selects "Weaveword" ⟨"Weaveword", "changedModule", "(I)V"⟩ ⟨"Weaveword", "changedModule", "(I)V"⟩) ∈ lw_all := lw_g (lw_at lw_ms 21 rfl) rfl
theorem qs22 : (Cond.selects "Weaveword" ⟨"Weaveword", "rendered", "(I)LWeaveword$Rendering;"⟩ ⟨"Weaveword", "rendered", "(I)LWeaveword$Rendering;"⟩) ∈ lw_all := lw_g (lw_at lw_ms 22 rfl) rfl
theorem qs23 : (Cond.selects "Weaveword$Rendering" ⟨"Weaveword$Rendering", "linksTo", "(IILWeaveword$Row;)V"⟩ ⟨"Weaveword$Rendering", "linksTo", "(IILWeaveword$Row;)V"⟩) ∈ lw_all := lw_g (lw_at lw_ms 23 rfl) rfl
theorem qs24 : (Cond.selects "Weaveword$Rendering" ⟨"Weaveword$Rendering", "calls", "(LWeaveword$Frame;IILWeaveword$Row;)V"⟩ ⟨"Weaveword$Rendering", "calls", "(LWeaveword$Frame;IILWeaveword$Row;)V"⟩) ∈ lw_all := lw_g (lw_at lw_ms 24 rfl) rfl
theorem qs25 : (Cond.selects "Weaveword$Rendering" ⟨"Weaveword$Rendering", "leadsTo", "(I)I"⟩ ⟨"Weaveword$Rendering", "leadsTo", "(I)I"⟩) ∈ lw_all := lw_g (lw_at lw_ms 25 rfl) rfl
theorem qs26 : (Cond.selects "Weaveword$Rendering" ⟨"Weaveword$Rendering", "textOf", "(I)LWeaveword$Text;"⟩ ⟨"Weaveword$Rendering", "textOf", "(I)LWeaveword$Text;"⟩) ∈ lw_all := lw_g (lw_at lw_ms 26 rfl) rfl
theorem qs27 : (Cond.selects "Weaveword$Rendering" ⟨"Weaveword$Rendering", "partsOf", "(LWeaveword$Frame;II)LWeaveword$Parts;"⟩ ⟨"Weaveword$Rendering", "partsOf", "(LWeaveword$Frame;II)LWeaveword$Parts;"⟩) ∈ lw_all := lw_g (lw_at lw_ms 27 rfl) rfl
theorem qs28 : (Cond.selects "Weaveword$Rendering" ⟨"Weaveword$Rendering", "puts", "(LWeaveword$Frame;IILWeaveword$Row;)V"⟩ ⟨"Weaveword$Rendering", "puts", "(LWeaveword$Frame;IILWeaveword$Row;)V"⟩) ∈ lw_all := lw_g (lw_at lw_ms 28 rfl) rfl
theorem qs29 : (Cond.selects "Weaveword$Rendering" ⟨"Weaveword$Rendering", "does", "(ILWeaveword$Parts;LWeaveword$Row;)V"⟩ ⟨"Weaveword$Rendering", "does", "(ILWeaveword$Parts;LWeaveword$Row;)V"⟩) ∈ lw_all := lw_g (lw_at lw_ms 29 rfl) rfl
theorem qs30 : (Cond.selects "Weaveword$Rendering" ⟨"Weaveword$Rendering", "sum", "(LWeaveword$Parts;)I"⟩ ⟨"Weaveword$Rendering", "sum", "(LWeaveword$Parts;)I"⟩) ∈ lw_all := lw_g (lw_at lw_ms 30 rfl) rfl
theorem qs31 : (Cond.selects "Weaveword$Rendering" ⟨"Weaveword$Rendering", "exists", "(I)Z"⟩ ⟨"Weaveword$Rendering", "exists", "(I)Z"⟩) ∈ lw_all := lw_g (lw_at lw_ms 31 rfl) rfl
theorem qs32 : (Cond.selects "Weaveword$Rendering" ⟨"Weaveword$Rendering", "membersOf", "(I)I"⟩ ⟨"Weaveword$Rendering", "membersOf", "(I)I"⟩) ∈ lw_all := lw_g (lw_at lw_ms 32 rfl) rfl
theorem qs33 : (Cond.selects "Weaveword$Rendering" ⟨"Weaveword$Rendering", "lists", "(ILWeaveword$Row;)V"⟩ ⟨"Weaveword$Rendering", "lists", "(ILWeaveword$Row;)V"⟩) ∈ lw_all := lw_g (lw_at lw_ms 33 rfl) rfl
theorem qs34 : (Cond.selects "Weaveword$Rendering" ⟨"Weaveword$Rendering", "given", "(LWeaveword$Parts;)I"⟩ ⟨"Weaveword$Rendering", "given", "(LWeaveword$Parts;)I"⟩) ∈ lw_all := lw_g (lw_at lw_ms 34 rfl) rfl
theorem qs35 : (Cond.selects "WeavewordModel" ⟨"WeavewordModel", "nextStale", "()I"⟩ ⟨"WeavewordModel", "nextStale", "()I"⟩) ∈ lw_all := lw_g (lw_at lw_ms 35 rfl) rfl
theorem qs36 : (Cond.selects "WeavewordModel" ⟨"WeavewordModel", "isOld", "(I)Z"⟩ ⟨"WeavewordModel", "isOld", "(I)Z"⟩) ∈ lw_all := lw_g (lw_at lw_ms 36 rfl) rfl
theorem qs37 : (Cond.selects "WeavewordModel" ⟨"WeavewordModel", "render", "(I)V"⟩ ⟨"WeavewordModel", "render", "(I)V"⟩) ∈ lw_all := lw_g (lw_at lw_ms 37 rfl) rfl
theorem qs38 : (Cond.selects "WeavewordModel" ⟨"WeavewordModel", "presentAt", "(I)I"⟩ ⟨"WeavewordModel", "presentAt", "(I)I"⟩) ∈ lw_all := lw_g (lw_at lw_ms 38 rfl) rfl
theorem qs39 : (Cond.selects "WeavewordModel" ⟨"WeavewordModel", "presentOf", "(I)I"⟩ ⟨"WeavewordModel", "presentOf", "(I)I"⟩) ∈ lw_all := lw_g (lw_at lw_ms 39 rfl) rfl
theorem qs40 : (Cond.selects "WeavewordModel" ⟨"WeavewordModel", "isAhead", "(II)Z"⟩ ⟨"WeavewordModel", "isAhead", "(II)Z"⟩) ∈ lw_all := lw_g (lw_at lw_ms 40 rfl) rfl
theorem qs41 : (Cond.selects "WeavewordModel" ⟨"WeavewordModel", "expand", "(II)V"⟩ ⟨"WeavewordModel", "expand", "(II)V"⟩) ∈ lw_all := lw_g (lw_at lw_ms 41 rfl) rfl
theorem qs42 : (Cond.selects "WeavewordModel" ⟨"WeavewordModel", "newRow", "()I"⟩ ⟨"WeavewordModel", "newRow", "()I"⟩) ∈ lw_all := lw_g (lw_at lw_ms 42 rfl) rfl
theorem qs43 : (Cond.selects "WeavewordModel" ⟨"WeavewordModel", "newFrame", "(IIII)I"⟩ ⟨"WeavewordModel", "newFrame", "(IIII)I"⟩) ∈ lw_all := lw_g (lw_at lw_ms 43 rfl) rfl
theorem qs44 : (Cond.selects "WeavewordModel" ⟨"WeavewordModel", "task", "(IIIII)V"⟩ ⟨"WeavewordModel", "task", "(IIIII)V"⟩) ∈ lw_all := lw_g (lw_at lw_ms 44 rfl) rfl
theorem qs45 : (Cond.selects "WeavewordModel" ⟨"WeavewordModel", "appendRow", "(II)V"⟩ ⟨"WeavewordModel", "appendRow", "(II)V"⟩) ∈ lw_all := lw_g (lw_at lw_ms 45 rfl) rfl
theorem qs46 : (Cond.selects "WeavewordModel" ⟨"WeavewordModel", "append", "(II)V"⟩ ⟨"WeavewordModel", "append", "(II)V"⟩) ∈ lw_all := lw_g (lw_at lw_ms 46 rfl) rfl
theorem qs47 : (Cond.selects "WeavewordModel" ⟨"WeavewordModel", "give", "(I)V"⟩ ⟨"WeavewordModel", "give", "(I)V"⟩) ∈ lw_all := lw_g (lw_at lw_ms 47 rfl) rfl
theorem qs48 : (Cond.selects "WeavewordModel" ⟨"WeavewordModel", "partOf", "(II)I"⟩ ⟨"WeavewordModel", "partOf", "(II)I"⟩) ∈ lw_all := lw_g (lw_at lw_ms 48 rfl) rfl
theorem qs49 : (Cond.selects "WeavewordModel" ⟨"WeavewordModel", "hasOther", "(I)Z"⟩ ⟨"WeavewordModel", "hasOther", "(I)Z"⟩) ∈ lw_all := lw_g (lw_at lw_ms 49 rfl) rfl
theorem qs50 : (Cond.selects "WeavewordModel" ⟨"WeavewordModel", "areSame", "(II)Z"⟩ ⟨"WeavewordModel", "areSame", "(II)Z"⟩) ∈ lw_all := lw_g (lw_at lw_ms 50 rfl) rfl
theorem qs51 : (Cond.selects "WeavewordModel" ⟨"WeavewordModel", "sumOf", "(I)I"⟩ ⟨"WeavewordModel", "sumOf", "(I)I"⟩) ∈ lw_all := lw_g (lw_at lw_ms 51 rfl) rfl
theorem qs52 : (Cond.selects "WeavewordModel" ⟨"WeavewordModel", "numberOf", "(I)I"⟩ ⟨"WeavewordModel", "numberOf", "(I)I"⟩) ∈ lw_all := lw_g (lw_at lw_ms 52 rfl) rfl
theorem qs53 : (Cond.selects "WeavewordModel" ⟨"WeavewordModel", "giveByNumber", "(II)V"⟩ ⟨"WeavewordModel", "giveByNumber", "(II)V"⟩) ∈ lw_all := lw_g (lw_at lw_ms 53 rfl) rfl
theorem qs54 : (Cond.selects "WeavewordModel" ⟨"WeavewordModel", "seenAt", "(I)I"⟩ ⟨"WeavewordModel", "seenAt", "(I)I"⟩) ∈ lw_all := lw_g (lw_at lw_ms 54 rfl) rfl
theorem qs55 : (Cond.selects "WeavewordModel" ⟨"WeavewordModel", "approvedUpTo", "(II)I"⟩ ⟨"WeavewordModel", "approvedUpTo", "(II)I"⟩) ∈ lw_all := lw_g (lw_at lw_ms 55 rfl) rfl
theorem qs56 : (Cond.selects "WeavewordModel" ⟨"WeavewordModel", "membersOf", "(I)I"⟩ ⟨"WeavewordModel", "membersOf", "(I)I"⟩) ∈ lw_all := lw_g (lw_at lw_ms 56 rfl) rfl
theorem qs57 : (Cond.selects "WeavewordModel" ⟨"WeavewordModel", "listMembers", "(II)V"⟩ ⟨"WeavewordModel", "listMembers", "(II)V"⟩) ∈ lw_all := lw_g (lw_at lw_ms 57 rfl) rfl
theorem qs58 : (Cond.selects "WeavewordModel" ⟨"WeavewordModel", "moduleResult", "(II)I"⟩ ⟨"WeavewordModel", "moduleResult", "(II)I"⟩) ∈ lw_all := lw_g (lw_at lw_ms 58 rfl) rfl
theorem qs59 : (Cond.selects "WeavewordModel" ⟨"WeavewordModel", "takesTwo", "(I)Z"⟩ ⟨"WeavewordModel", "takesTwo", "(I)Z"⟩) ∈ lw_all := lw_g (lw_at lw_ms 59 rfl) rfl
theorem qs60 : (Cond.selects "WeavewordModel" ⟨"WeavewordModel", "codeAt", "(II)I"⟩ ⟨"WeavewordModel", "codeAt", "(II)I"⟩) ∈ lw_all := lw_g (lw_at lw_ms 60 rfl) rfl
theorem qs61 : (Cond.selects "WeavewordModel" ⟨"WeavewordModel", "closeOf", "(II)I"⟩ ⟨"WeavewordModel", "closeOf", "(II)I"⟩) ∈ lw_all := lw_g (lw_at lw_ms 61 rfl) rfl
theorem qs62 : (Cond.selects "WeavewordModel" ⟨"WeavewordModel", "expandToken", "(III)V"⟩ ⟨"WeavewordModel", "expandToken", "(III)V"⟩) ∈ lw_all := lw_g (lw_at lw_ms 62 rfl) rfl
theorem qs63 : (Cond.selects "WeavewordModel" ⟨"WeavewordModel", "expandCall", "(IIII)V"⟩ ⟨"WeavewordModel", "expandCall", "(IIII)V"⟩) ∈ lw_all := lw_g (lw_at lw_ms 63 rfl) rfl
theorem qs64 : (Cond.selects "WeavewordModel" ⟨"WeavewordModel", "wayOf", "(I)I"⟩ ⟨"WeavewordModel", "wayOf", "(I)I"⟩) ∈ lw_all := lw_g (lw_at lw_ms 64 rfl) rfl
theorem qs65 : (Cond.selects "WeavewordModel" ⟨"WeavewordModel", "redirectOf", "(I)I"⟩ ⟨"WeavewordModel", "redirectOf", "(I)I"⟩) ∈ lw_all := lw_g (lw_at lw_ms 65 rfl) rfl
theorem qs66 : (Cond.selects "WeavewordModel" ⟨"WeavewordModel", "isCalledFrom", "(II)Z"⟩ ⟨"WeavewordModel", "isCalledFrom", "(II)Z"⟩) ∈ lw_all := lw_g (lw_at lw_ms 66 rfl) rfl
theorem qs67 : (Cond.selects "WeavewordModel" ⟨"WeavewordModel", "layArguments", "(IIII)V"⟩ ⟨"WeavewordModel", "layArguments", "(IIII)V"⟩) ∈ lw_all := lw_g (lw_at lw_ms 67 rfl) rfl
theorem qs68 : (Cond.selects "WeavewordModel" ⟨"WeavewordModel", "markFrom", "(III)I"⟩ ⟨"WeavewordModel", "markFrom", "(III)I"⟩) ∈ lw_all := lw_g (lw_at lw_ms 68 rfl) rfl
theorem qs69 : (Cond.selects "WeavewordModel" ⟨"WeavewordModel", "expandParam", "(IIII)V"⟩ ⟨"WeavewordModel", "expandParam", "(IIII)V"⟩) ∈ lw_all := lw_g (lw_at lw_ms 69 rfl) rfl
theorem qs70 : (Cond.selects "WeavewordModel" ⟨"WeavewordModel", "expandFunction", "(IIII)V"⟩ ⟨"WeavewordModel", "expandFunction", "(IIII)V"⟩) ∈ lw_all := lw_g (lw_at lw_ms 70 rfl) rfl
theorem qs71 : (Cond.selects "WeavewordModel" ⟨"WeavewordModel", "setCategories", "(II)V"⟩ ⟨"WeavewordModel", "setCategories", "(II)V"⟩) ∈ lw_all := lw_g (lw_at lw_ms 71 rfl) rfl
theorem qs72 : (Cond.selects "WeavewordModel" ⟨"WeavewordModel", "hasPage", "(I)Z"⟩ ⟨"WeavewordModel", "hasPage", "(I)Z"⟩) ∈ lw_all := lw_g (lw_at lw_ms 72 rfl) rfl
theorem qs73 : (Cond.selects "WeavewordModel" ⟨"WeavewordModel", "mayAt", "(I)Z"⟩ ⟨"WeavewordModel", "mayAt", "(I)Z"⟩) ∈ lw_all := lw_g (lw_at lw_ms 73 rfl) rfl
theorem qs74 : (Cond.selects "WeavewordModel" ⟨"WeavewordModel", "isText", "([III)Z"⟩ ⟨"WeavewordModel", "isText", "([III)Z"⟩) ∈ lw_all := lw_g (lw_at lw_ms 74 rfl) rfl
theorem qs75 : (Cond.selects "WeavewordModel" ⟨"WeavewordModel", "newPage", "(I)I"⟩ ⟨"WeavewordModel", "newPage", "(I)I"⟩) ∈ lw_all := lw_g (lw_at lw_ms 75 rfl) rfl
theorem qs76 : (Cond.selects "WeavewordModel" ⟨"WeavewordModel", "fromDraft", "(II)I"⟩ ⟨"WeavewordModel", "fromDraft", "(II)I"⟩) ∈ lw_all := lw_g (lw_at lw_ms 76 rfl) rfl
theorem qs77 : (Cond.selects "WeavewordModel" ⟨"WeavewordModel", "newVersion", "(II[III)I"⟩ ⟨"WeavewordModel", "newVersion", "(II[III)I"⟩) ∈ lw_all := lw_g (lw_at lw_ms 77 rfl) rfl
theorem qs78 : (Cond.selects "WeavewordModel" ⟨"WeavewordModel", "settleTitles", "()V"⟩ ⟨"WeavewordModel", "settleTitles", "()V"⟩) ∈ lw_all := lw_g (lw_at lw_ms 78 rfl) rfl
theorem qs79 : (Cond.selects "WeavewordModel" ⟨"WeavewordModel", "isVersionAt", "(II)Z"⟩ ⟨"WeavewordModel", "isVersionAt", "(II)Z"⟩) ∈ lw_all := lw_g (lw_at lw_ms 79 rfl) rfl
theorem qs80 : (Cond.selects "WeavewordModel" ⟨"WeavewordModel", "sectionsOf", "(I)I"⟩ ⟨"WeavewordModel", "sectionsOf", "(I)I"⟩) ∈ lw_all := lw_g (lw_at lw_ms 80 rfl) rfl
theorem qs81 : (Cond.selects "WeavewordModel" ⟨"WeavewordModel", "layMeant", "(II)V"⟩ ⟨"WeavewordModel", "layMeant", "(II)V"⟩) ∈ lw_all := lw_g (lw_at lw_ms 81 rfl) rfl
theorem qs82 : (Cond.selects "WeavewordModel" ⟨"WeavewordModel", "putResult", "([III)V"⟩ ⟨"WeavewordModel", "putResult", "([III)V"⟩) ∈ lw_all := lw_g (lw_at lw_ms 82 rfl) rfl
theorem qs83 : (Cond.selects "WeavewordModel" ⟨"WeavewordModel", "merges", "(II)Z"⟩ ⟨"WeavewordModel", "merges", "(II)Z"⟩) ∈ lw_all := lw_g (lw_at lw_ms 83 rfl) rfl
theorem qs84 : (Cond.selects "WeavewordModel" ⟨"WeavewordModel", "putSection", "([IIII)V"⟩ ⟨"WeavewordModel", "putSection", "([IIII)V"⟩) ∈ lw_all := lw_g (lw_at lw_ms 84 rfl) rfl
theorem qs85 : (Cond.selects "WeavewordModel" ⟨"WeavewordModel", "isNew", "(I)Z"⟩ ⟨"WeavewordModel", "isNew", "(I)Z"⟩) ∈ lw_all := lw_g (lw_at lw_ms 85 rfl) rfl
theorem qs86 : (Cond.selects "WeavewordModel" ⟨"WeavewordModel", "newVersionNow", "(I[III)I"⟩ ⟨"WeavewordModel", "newVersionNow", "(I[III)I"⟩) ∈ lw_all := lw_g (lw_at lw_ms 86 rfl) rfl
theorem qs87 : (Cond.selects "WeavewordModel" ⟨"WeavewordModel", "aheadOf", "(I)I"⟩ ⟨"WeavewordModel", "aheadOf", "(I)I"⟩) ∈ lw_all := lw_g (lw_at lw_ms 87 rfl) rfl
theorem qs88 : (Cond.selects "WeavewordModel" ⟨"WeavewordModel", "versionIn", "(II)I"⟩ ⟨"WeavewordModel", "versionIn", "(II)I"⟩) ∈ lw_all := lw_g (lw_at lw_ms 88 rfl) rfl
theorem qs89 : (Cond.selects "WeavewordModel" ⟨"WeavewordModel", "undoes", "(III)Z"⟩ ⟨"WeavewordModel", "undoes", "(III)Z"⟩) ∈ lw_all := lw_g (lw_at lw_ms 89 rfl) rfl
theorem qs90 : (Cond.selects "WeavewordModel" ⟨"WeavewordModel", "dropRendering", "(I)V"⟩ ⟨"WeavewordModel", "dropRendering", "(I)V"⟩) ∈ lw_all := lw_g (lw_at lw_ms 90 rfl) rfl
theorem qs91 : (Cond.selects "WeavewordModel" ⟨"WeavewordModel", "turns", "(IIII)Z"⟩ ⟨"WeavewordModel", "turns", "(IIII)Z"⟩) ∈ lw_all := lw_g (lw_at lw_ms 91 rfl) rfl
theorem qs92 : (Cond.selects "WeavewordModel" ⟨"WeavewordModel", "asksFor", "(I)Z"⟩ ⟨"WeavewordModel", "asksFor", "(I)Z"⟩) ∈ lw_all := lw_g (lw_at lw_ms 92 rfl) rfl
theorem qs93 : (Cond.selects "WeavewordModel" ⟨"WeavewordModel", "versionsOf", "(I)I"⟩ ⟨"WeavewordModel", "versionsOf", "(I)I"⟩) ∈ lw_all := lw_g (lw_at lw_ms 93 rfl) rfl
theorem qs94 : (Cond.selects "WeavewordModel" ⟨"WeavewordModel", "hasIndex", "(II)Z"⟩ ⟨"WeavewordModel", "hasIndex", "(II)Z"⟩) ∈ lw_all := lw_g (lw_at lw_ms 94 rfl) rfl
theorem qs95 : (Cond.selects "WeavewordModel" ⟨"WeavewordModel", "leadsTo", "(I)I"⟩ ⟨"WeavewordModel", "leadsTo", "(I)I"⟩) ∈ lw_all := lw_g (lw_at lw_ms 95 rfl) rfl
theorem qs96 : (Cond.selects "WeavewordModel" ⟨"WeavewordModel", "isLinked", "(I)Z"⟩ ⟨"WeavewordModel", "isLinked", "(I)Z"⟩) ∈ lw_all := lw_g (lw_at lw_ms 96 rfl) rfl
theorem qs97 : (Cond.selects "WeavewordModel" ⟨"WeavewordModel", "asksIn", "(II)Z"⟩ ⟨"WeavewordModel", "asksIn", "(II)Z"⟩) ∈ lw_all := lw_g (lw_at lw_ms 97 rfl) rfl
theorem qs98 : (Cond.selects "WeavewordModel" ⟨"WeavewordModel", "translated", "(II)I"⟩ ⟨"WeavewordModel", "translated", "(II)I"⟩) ∈ lw_all := lw_g (lw_at lw_ms 98 rfl) rfl
end
section
/-! DECODE ROWS BY BYTES: one lemma an opcode; a method's code is cut into short pieces once, and a row reads its own piece alone. -/
set_option maxRecDepth 100000
/-- the code has just these bytes from pc on -/
def DkAt (code : ByteArray) (pc : Nat) (bs : List UInt8) : Prop := ∀ (j : Nat) (b : UInt8), bs[j]? = some b → code.data.toList[pc + j]? = some b
/-- the piece W has the bytes bs from its place j on -/
def dkIn (W : List UInt8) (j : Nat) (bs : List UInt8) : Bool := decide ((W.drop j).take bs.length = bs)
theorem dk_seg {l W T : List UInt8} {o o2 : Nat} (h : l.drop o = W ++ T) (n : Nat) (hn : W.length = n) (ho : o + n = o2) : l.drop o2 = T := by
  subst ho
  rw [← List.drop_drop, h, List.drop_left' hn]
theorem dk_at {code : ByteArray} {W T bs : List UInt8} {o pc : Nat} (h : code.data.toList.drop o = W ++ T) (j : Nat) (hp : o + j = pc) (hw : dkIn W j bs = true) : DkAt code pc bs := by
  subst hp
  intro i b e
  have h1 := of_decide_eq_true hw
  have h2 : i < bs.length := (List.getElem?_eq_some_iff.mp e).1
  have h3 : W[j + i]? = some b := by
    rw [← h1, List.getElem?_take, if_pos h2, List.getElem?_drop] at e
    exact e
  have h4 : j + i < W.length := (List.getElem?_eq_some_iff.mp h3).1
  have h5 : (code.data.toList.drop o)[j + i]? = some b := by
    rw [h, List.getElem?_append_left h4]
    exact h3
  rw [List.getElem?_drop, ← Nat.add_assoc] at h5
  exact h5
theorem dk_u1 {A : ByteArray} {p : Nat} {b : UInt8} (h : A.data.toList[p]? = some b) : (Reader.u1 : Reader DecodeError Nat) A p = .ok (b.toNat, p + 1) := by
  obtain ⟨h1, h2⟩ := List.getElem?_eq_some_iff.mp h
  have h3 : p < A.size := by simpa using h1
  have h4 : A[p]'h3 = b := h2
  have e : (Reader.u1 : Reader DecodeError Nat) A p = (if h : p < A.size then .ok (A[p].toNat, p + 1) else .error (HasTruncated.truncated p)) := by
    show (do if h : p < A.size then do set (p + 1); Pure.pure A[p].toNat else MonadExcept.throw (HasTruncated.truncated p) : Reader DecodeError Nat) A p = _
    by_cases hi : p < A.size
    · rw [dif_pos hi, dif_pos hi]; rfl
    · rw [dif_neg hi, dif_neg hi]; rfl
  rw [e, dif_pos h3, h4]
theorem dk_bind {α β : Type} {r : Reader DecodeError α} {f : α → Reader DecodeError β} {A : ByteArray} {p s : Nat} {a : α} (h : r A p = .ok (a, s)) : (r >>= f) A p = f a A s := by
  show (do let (a, s) ← r A p; f a A s : Except DecodeError (β × Nat)) = _
  rw [h]
  rfl
theorem dk_map {α β : Type} {r : Reader DecodeError α} {g : α → β} {A : ByteArray} {p s : Nat} {a : α} (h : r A p = .ok (a, s)) : (g <$> r) A p = .ok (g a, s) := by
  show (do let (a, s) ← r A p; .ok (g a, s) : Except DecodeError (β × Nat)) = _
  rw [h]
  rfl
theorem dk_u2 {A : ByteArray} {p : Nat} {a b : UInt8} (h : A.data.toList[p]? = some a) (h2 : A.data.toList[p + 1]? = some b) : (Reader.u2 : Reader DecodeError Nat) A p = .ok (a.toNat * 256 + b.toNat, p + 2) := by
  show (Reader.u1 >>= fun hi => Reader.u1 >>= fun lo => Pure.pure (hi * 256 + lo) : Reader DecodeError Nat) A p = _
  rw [dk_bind (dk_u1 h), dk_bind (dk_u1 h2)]
  rfl
theorem dk_of {code : ByteArray} {pc n : Nat} {i : Instr} (h : Decoder.instr pc code pc = .ok (i, pc + n)) : decode code pc = .ok (i, n) := by
  have e : decode code pc = (match Decoder.instr pc code pc with | .error x => .error x | .ok (j, s) => .ok (j, s - pc)) := by
    show (do let (j, s) ← Decoder.instr pc code pc; Pure.pure (j, s - pc) : Except DecodeError (Instr × Nat)) = _
    cases Decoder.instr pc code pc <;> rfl
  rw [e, h]
  show Except.ok (i, pc + n - pc) = _
  rw [Nat.add_sub_cancel_left]
theorem dk_1 {code : ByteArray} {pc : Nat} (h : DkAt code pc [1]) : decode code pc = .ok (.aconst_null, 1) := dk_of ((dk_bind (dk_u1 (h 0 _ rfl))).trans rfl)
theorem dk_2 {code : ByteArray} {pc : Nat} (h : DkAt code pc [2]) : decode code pc = .ok (.iconst (-1), 1) := dk_of ((dk_bind (dk_u1 (h 0 _ rfl))).trans rfl)
theorem dk_3 {code : ByteArray} {pc : Nat} (h : DkAt code pc [3]) : decode code pc = .ok (.iconst 0, 1) := dk_of ((dk_bind (dk_u1 (h 0 _ rfl))).trans rfl)
theorem dk_4 {code : ByteArray} {pc : Nat} (h : DkAt code pc [4]) : decode code pc = .ok (.iconst 1, 1) := dk_of ((dk_bind (dk_u1 (h 0 _ rfl))).trans rfl)
theorem dk_5 {code : ByteArray} {pc : Nat} (h : DkAt code pc [5]) : decode code pc = .ok (.iconst 2, 1) := dk_of ((dk_bind (dk_u1 (h 0 _ rfl))).trans rfl)
theorem dk_6 {code : ByteArray} {pc : Nat} (h : DkAt code pc [6]) : decode code pc = .ok (.iconst 3, 1) := dk_of ((dk_bind (dk_u1 (h 0 _ rfl))).trans rfl)
theorem dk_7 {code : ByteArray} {pc : Nat} (h : DkAt code pc [7]) : decode code pc = .ok (.iconst 4, 1) := dk_of ((dk_bind (dk_u1 (h 0 _ rfl))).trans rfl)
theorem dk_8 {code : ByteArray} {pc : Nat} (h : DkAt code pc [8]) : decode code pc = .ok (.iconst 5, 1) := dk_of ((dk_bind (dk_u1 (h 0 _ rfl))).trans rfl)
theorem dk_9 {code : ByteArray} {pc : Nat} (h : DkAt code pc [9]) : decode code pc = .ok (.lconst 0, 1) := dk_of ((dk_bind (dk_u1 (h 0 _ rfl))).trans rfl)
theorem dk_10 {code : ByteArray} {pc : Nat} (h : DkAt code pc [10]) : decode code pc = .ok (.lconst 1, 1) := dk_of ((dk_bind (dk_u1 (h 0 _ rfl))).trans rfl)
theorem dk_16 {code : ByteArray} {pc : Nat} (a : UInt8) (h : DkAt code pc [16, a]) : decode code pc = .ok (.bipush (Reader.signed 8 a.toNat), 2) := dk_of ((dk_bind (dk_u1 (h 0 _ rfl))).trans ((dk_bind (dk_map (dk_u1 (h 1 _ rfl)))).trans rfl))
theorem dk_17 {code : ByteArray} {pc : Nat} (a b : UInt8) (h : DkAt code pc [17, a, b]) : decode code pc = .ok (.sipush (Reader.signed 16 (a.toNat * 256 + b.toNat)), 3) := dk_of ((dk_bind (dk_u1 (h 0 _ rfl))).trans ((dk_bind (dk_map (dk_u2 (h 1 _ rfl) (h 2 _ rfl)))).trans rfl))
theorem dk_18 {code : ByteArray} {pc : Nat} (a : UInt8) (h : DkAt code pc [18, a]) : decode code pc = .ok (.ldc a.toNat, 2) := dk_of ((dk_bind (dk_u1 (h 0 _ rfl))).trans ((dk_bind (dk_u1 (h 1 _ rfl))).trans rfl))
theorem dk_19 {code : ByteArray} {pc : Nat} (a b : UInt8) (h : DkAt code pc [19, a, b]) : decode code pc = .ok (.ldc_w (a.toNat * 256 + b.toNat), 3) := dk_of ((dk_bind (dk_u1 (h 0 _ rfl))).trans ((dk_bind (dk_u2 (h 1 _ rfl) (h 2 _ rfl))).trans rfl))
theorem dk_21 {code : ByteArray} {pc : Nat} (a : UInt8) (h : DkAt code pc [21, a]) : decode code pc = .ok (.iload a.toNat, 2) := dk_of ((dk_bind (dk_u1 (h 0 _ rfl))).trans ((dk_bind (dk_u1 (h 1 _ rfl))).trans rfl))
theorem dk_25 {code : ByteArray} {pc : Nat} (a : UInt8) (h : DkAt code pc [25, a]) : decode code pc = .ok (.aload a.toNat, 2) := dk_of ((dk_bind (dk_u1 (h 0 _ rfl))).trans ((dk_bind (dk_u1 (h 1 _ rfl))).trans rfl))
theorem dk_26 {code : ByteArray} {pc : Nat} (h : DkAt code pc [26]) : decode code pc = .ok (.iload_n 0, 1) := dk_of ((dk_bind (dk_u1 (h 0 _ rfl))).trans rfl)
theorem dk_27 {code : ByteArray} {pc : Nat} (h : DkAt code pc [27]) : decode code pc = .ok (.iload_n 1, 1) := dk_of ((dk_bind (dk_u1 (h 0 _ rfl))).trans rfl)
theorem dk_28 {code : ByteArray} {pc : Nat} (h : DkAt code pc [28]) : decode code pc = .ok (.iload_n 2, 1) := dk_of ((dk_bind (dk_u1 (h 0 _ rfl))).trans rfl)
theorem dk_29 {code : ByteArray} {pc : Nat} (h : DkAt code pc [29]) : decode code pc = .ok (.iload_n 3, 1) := dk_of ((dk_bind (dk_u1 (h 0 _ rfl))).trans rfl)
theorem dk_42 {code : ByteArray} {pc : Nat} (h : DkAt code pc [42]) : decode code pc = .ok (.aload_n 0, 1) := dk_of ((dk_bind (dk_u1 (h 0 _ rfl))).trans rfl)
theorem dk_43 {code : ByteArray} {pc : Nat} (h : DkAt code pc [43]) : decode code pc = .ok (.aload_n 1, 1) := dk_of ((dk_bind (dk_u1 (h 0 _ rfl))).trans rfl)
theorem dk_44 {code : ByteArray} {pc : Nat} (h : DkAt code pc [44]) : decode code pc = .ok (.aload_n 2, 1) := dk_of ((dk_bind (dk_u1 (h 0 _ rfl))).trans rfl)
theorem dk_45 {code : ByteArray} {pc : Nat} (h : DkAt code pc [45]) : decode code pc = .ok (.aload_n 3, 1) := dk_of ((dk_bind (dk_u1 (h 0 _ rfl))).trans rfl)
theorem dk_46 {code : ByteArray} {pc : Nat} (h : DkAt code pc [46]) : decode code pc = .ok (.iaload, 1) := dk_of ((dk_bind (dk_u1 (h 0 _ rfl))).trans rfl)
theorem dk_47 {code : ByteArray} {pc : Nat} (h : DkAt code pc [47]) : decode code pc = .ok (.laload, 1) := dk_of ((dk_bind (dk_u1 (h 0 _ rfl))).trans rfl)
theorem dk_50 {code : ByteArray} {pc : Nat} (h : DkAt code pc [50]) : decode code pc = .ok (.aaload, 1) := dk_of ((dk_bind (dk_u1 (h 0 _ rfl))).trans rfl)
theorem dk_51 {code : ByteArray} {pc : Nat} (h : DkAt code pc [51]) : decode code pc = .ok (.baload, 1) := dk_of ((dk_bind (dk_u1 (h 0 _ rfl))).trans rfl)
theorem dk_54 {code : ByteArray} {pc : Nat} (a : UInt8) (h : DkAt code pc [54, a]) : decode code pc = .ok (.istore a.toNat, 2) := dk_of ((dk_bind (dk_u1 (h 0 _ rfl))).trans ((dk_bind (dk_u1 (h 1 _ rfl))).trans rfl))
theorem dk_58 {code : ByteArray} {pc : Nat} (a : UInt8) (h : DkAt code pc [58, a]) : decode code pc = .ok (.astore a.toNat, 2) := dk_of ((dk_bind (dk_u1 (h 0 _ rfl))).trans ((dk_bind (dk_u1 (h 1 _ rfl))).trans rfl))
theorem dk_59 {code : ByteArray} {pc : Nat} (h : DkAt code pc [59]) : decode code pc = .ok (.istore_n 0, 1) := dk_of ((dk_bind (dk_u1 (h 0 _ rfl))).trans rfl)
theorem dk_60 {code : ByteArray} {pc : Nat} (h : DkAt code pc [60]) : decode code pc = .ok (.istore_n 1, 1) := dk_of ((dk_bind (dk_u1 (h 0 _ rfl))).trans rfl)
theorem dk_61 {code : ByteArray} {pc : Nat} (h : DkAt code pc [61]) : decode code pc = .ok (.istore_n 2, 1) := dk_of ((dk_bind (dk_u1 (h 0 _ rfl))).trans rfl)
theorem dk_62 {code : ByteArray} {pc : Nat} (h : DkAt code pc [62]) : decode code pc = .ok (.istore_n 3, 1) := dk_of ((dk_bind (dk_u1 (h 0 _ rfl))).trans rfl)
theorem dk_76 {code : ByteArray} {pc : Nat} (h : DkAt code pc [76]) : decode code pc = .ok (.astore_n 1, 1) := dk_of ((dk_bind (dk_u1 (h 0 _ rfl))).trans rfl)
theorem dk_77 {code : ByteArray} {pc : Nat} (h : DkAt code pc [77]) : decode code pc = .ok (.astore_n 2, 1) := dk_of ((dk_bind (dk_u1 (h 0 _ rfl))).trans rfl)
theorem dk_78 {code : ByteArray} {pc : Nat} (h : DkAt code pc [78]) : decode code pc = .ok (.astore_n 3, 1) := dk_of ((dk_bind (dk_u1 (h 0 _ rfl))).trans rfl)
theorem dk_79 {code : ByteArray} {pc : Nat} (h : DkAt code pc [79]) : decode code pc = .ok (.iastore, 1) := dk_of ((dk_bind (dk_u1 (h 0 _ rfl))).trans rfl)
theorem dk_80 {code : ByteArray} {pc : Nat} (h : DkAt code pc [80]) : decode code pc = .ok (.lastore, 1) := dk_of ((dk_bind (dk_u1 (h 0 _ rfl))).trans rfl)
theorem dk_83 {code : ByteArray} {pc : Nat} (h : DkAt code pc [83]) : decode code pc = .ok (.aastore, 1) := dk_of ((dk_bind (dk_u1 (h 0 _ rfl))).trans rfl)
theorem dk_84 {code : ByteArray} {pc : Nat} (h : DkAt code pc [84]) : decode code pc = .ok (.bastore, 1) := dk_of ((dk_bind (dk_u1 (h 0 _ rfl))).trans rfl)
theorem dk_87 {code : ByteArray} {pc : Nat} (h : DkAt code pc [87]) : decode code pc = .ok (.pop, 1) := dk_of ((dk_bind (dk_u1 (h 0 _ rfl))).trans rfl)
theorem dk_89 {code : ByteArray} {pc : Nat} (h : DkAt code pc [89]) : decode code pc = .ok (.dup, 1) := dk_of ((dk_bind (dk_u1 (h 0 _ rfl))).trans rfl)
theorem dk_90 {code : ByteArray} {pc : Nat} (h : DkAt code pc [90]) : decode code pc = .ok (.dup_x1, 1) := dk_of ((dk_bind (dk_u1 (h 0 _ rfl))).trans rfl)
theorem dk_92 {code : ByteArray} {pc : Nat} (h : DkAt code pc [92]) : decode code pc = .ok (.dup2, 1) := dk_of ((dk_bind (dk_u1 (h 0 _ rfl))).trans rfl)
theorem dk_96 {code : ByteArray} {pc : Nat} (h : DkAt code pc [96]) : decode code pc = .ok (.iadd, 1) := dk_of ((dk_bind (dk_u1 (h 0 _ rfl))).trans rfl)
theorem dk_100 {code : ByteArray} {pc : Nat} (h : DkAt code pc [100]) : decode code pc = .ok (.isub, 1) := dk_of ((dk_bind (dk_u1 (h 0 _ rfl))).trans rfl)
theorem dk_104 {code : ByteArray} {pc : Nat} (h : DkAt code pc [104]) : decode code pc = .ok (.imul, 1) := dk_of ((dk_bind (dk_u1 (h 0 _ rfl))).trans rfl)
theorem dk_108 {code : ByteArray} {pc : Nat} (h : DkAt code pc [108]) : decode code pc = .ok (.idiv, 1) := dk_of ((dk_bind (dk_u1 (h 0 _ rfl))).trans rfl)
theorem dk_112 {code : ByteArray} {pc : Nat} (h : DkAt code pc [112]) : decode code pc = .ok (.irem, 1) := dk_of ((dk_bind (dk_u1 (h 0 _ rfl))).trans rfl)
theorem dk_116 {code : ByteArray} {pc : Nat} (h : DkAt code pc [116]) : decode code pc = .ok (.ineg, 1) := dk_of ((dk_bind (dk_u1 (h 0 _ rfl))).trans rfl)
theorem dk_120 {code : ByteArray} {pc : Nat} (h : DkAt code pc [120]) : decode code pc = .ok (.ishl, 1) := dk_of ((dk_bind (dk_u1 (h 0 _ rfl))).trans rfl)
theorem dk_122 {code : ByteArray} {pc : Nat} (h : DkAt code pc [122]) : decode code pc = .ok (.ishr, 1) := dk_of ((dk_bind (dk_u1 (h 0 _ rfl))).trans rfl)
theorem dk_124 {code : ByteArray} {pc : Nat} (h : DkAt code pc [124]) : decode code pc = .ok (.iushr, 1) := dk_of ((dk_bind (dk_u1 (h 0 _ rfl))).trans rfl)
theorem dk_126 {code : ByteArray} {pc : Nat} (h : DkAt code pc [126]) : decode code pc = .ok (.iand, 1) := dk_of ((dk_bind (dk_u1 (h 0 _ rfl))).trans rfl)
theorem dk_128 {code : ByteArray} {pc : Nat} (h : DkAt code pc [128]) : decode code pc = .ok (.ior, 1) := dk_of ((dk_bind (dk_u1 (h 0 _ rfl))).trans rfl)
theorem dk_130 {code : ByteArray} {pc : Nat} (h : DkAt code pc [130]) : decode code pc = .ok (.ixor, 1) := dk_of ((dk_bind (dk_u1 (h 0 _ rfl))).trans rfl)
theorem dk_132 {code : ByteArray} {pc : Nat} (a b : UInt8) (h : DkAt code pc [132, a, b]) : decode code pc = .ok (.iinc a.toNat (Reader.signed 8 b.toNat), 3) := dk_of ((dk_bind (dk_u1 (h 0 _ rfl))).trans ((dk_bind (dk_u1 (h 1 _ rfl))).trans ((dk_bind (dk_map (dk_u1 (h 2 _ rfl)))).trans rfl)))
theorem dk_133 {code : ByteArray} {pc : Nat} (h : DkAt code pc [133]) : decode code pc = .ok (.i2l, 1) := dk_of ((dk_bind (dk_u1 (h 0 _ rfl))).trans rfl)
theorem dk_145 {code : ByteArray} {pc : Nat} (h : DkAt code pc [145]) : decode code pc = .ok (.i2b, 1) := dk_of ((dk_bind (dk_u1 (h 0 _ rfl))).trans rfl)
theorem dk_146 {code : ByteArray} {pc : Nat} (h : DkAt code pc [146]) : decode code pc = .ok (.i2c, 1) := dk_of ((dk_bind (dk_u1 (h 0 _ rfl))).trans rfl)
theorem dk_148 {code : ByteArray} {pc : Nat} (h : DkAt code pc [148]) : decode code pc = .ok (.lcmp, 1) := dk_of ((dk_bind (dk_u1 (h 0 _ rfl))).trans rfl)
theorem dk_153 {code : ByteArray} {pc : Nat} (a b : UInt8) (h : DkAt code pc [153, a, b]) : decode code pc = .ok (.ifCond .eq (Reader.signed 16 (a.toNat * 256 + b.toNat)), 3) := dk_of ((dk_bind (dk_u1 (h 0 _ rfl))).trans ((dk_bind (dk_map (dk_u2 (h 1 _ rfl) (h 2 _ rfl)))).trans rfl))
theorem dk_154 {code : ByteArray} {pc : Nat} (a b : UInt8) (h : DkAt code pc [154, a, b]) : decode code pc = .ok (.ifCond .ne (Reader.signed 16 (a.toNat * 256 + b.toNat)), 3) := dk_of ((dk_bind (dk_u1 (h 0 _ rfl))).trans ((dk_bind (dk_map (dk_u2 (h 1 _ rfl) (h 2 _ rfl)))).trans rfl))
theorem dk_155 {code : ByteArray} {pc : Nat} (a b : UInt8) (h : DkAt code pc [155, a, b]) : decode code pc = .ok (.ifCond .lt (Reader.signed 16 (a.toNat * 256 + b.toNat)), 3) := dk_of ((dk_bind (dk_u1 (h 0 _ rfl))).trans ((dk_bind (dk_map (dk_u2 (h 1 _ rfl) (h 2 _ rfl)))).trans rfl))
theorem dk_156 {code : ByteArray} {pc : Nat} (a b : UInt8) (h : DkAt code pc [156, a, b]) : decode code pc = .ok (.ifCond .ge (Reader.signed 16 (a.toNat * 256 + b.toNat)), 3) := dk_of ((dk_bind (dk_u1 (h 0 _ rfl))).trans ((dk_bind (dk_map (dk_u2 (h 1 _ rfl) (h 2 _ rfl)))).trans rfl))
theorem dk_157 {code : ByteArray} {pc : Nat} (a b : UInt8) (h : DkAt code pc [157, a, b]) : decode code pc = .ok (.ifCond .gt (Reader.signed 16 (a.toNat * 256 + b.toNat)), 3) := dk_of ((dk_bind (dk_u1 (h 0 _ rfl))).trans ((dk_bind (dk_map (dk_u2 (h 1 _ rfl) (h 2 _ rfl)))).trans rfl))
theorem dk_158 {code : ByteArray} {pc : Nat} (a b : UInt8) (h : DkAt code pc [158, a, b]) : decode code pc = .ok (.ifCond .le (Reader.signed 16 (a.toNat * 256 + b.toNat)), 3) := dk_of ((dk_bind (dk_u1 (h 0 _ rfl))).trans ((dk_bind (dk_map (dk_u2 (h 1 _ rfl) (h 2 _ rfl)))).trans rfl))
theorem dk_159 {code : ByteArray} {pc : Nat} (a b : UInt8) (h : DkAt code pc [159, a, b]) : decode code pc = .ok (.if_icmp .eq (Reader.signed 16 (a.toNat * 256 + b.toNat)), 3) := dk_of ((dk_bind (dk_u1 (h 0 _ rfl))).trans ((dk_bind (dk_map (dk_u2 (h 1 _ rfl) (h 2 _ rfl)))).trans rfl))
theorem dk_160 {code : ByteArray} {pc : Nat} (a b : UInt8) (h : DkAt code pc [160, a, b]) : decode code pc = .ok (.if_icmp .ne (Reader.signed 16 (a.toNat * 256 + b.toNat)), 3) := dk_of ((dk_bind (dk_u1 (h 0 _ rfl))).trans ((dk_bind (dk_map (dk_u2 (h 1 _ rfl) (h 2 _ rfl)))).trans rfl))
theorem dk_161 {code : ByteArray} {pc : Nat} (a b : UInt8) (h : DkAt code pc [161, a, b]) : decode code pc = .ok (.if_icmp .lt (Reader.signed 16 (a.toNat * 256 + b.toNat)), 3) := dk_of ((dk_bind (dk_u1 (h 0 _ rfl))).trans ((dk_bind (dk_map (dk_u2 (h 1 _ rfl) (h 2 _ rfl)))).trans rfl))
theorem dk_162 {code : ByteArray} {pc : Nat} (a b : UInt8) (h : DkAt code pc [162, a, b]) : decode code pc = .ok (.if_icmp .ge (Reader.signed 16 (a.toNat * 256 + b.toNat)), 3) := dk_of ((dk_bind (dk_u1 (h 0 _ rfl))).trans ((dk_bind (dk_map (dk_u2 (h 1 _ rfl) (h 2 _ rfl)))).trans rfl))
theorem dk_163 {code : ByteArray} {pc : Nat} (a b : UInt8) (h : DkAt code pc [163, a, b]) : decode code pc = .ok (.if_icmp .gt (Reader.signed 16 (a.toNat * 256 + b.toNat)), 3) := dk_of ((dk_bind (dk_u1 (h 0 _ rfl))).trans ((dk_bind (dk_map (dk_u2 (h 1 _ rfl) (h 2 _ rfl)))).trans rfl))
theorem dk_164 {code : ByteArray} {pc : Nat} (a b : UInt8) (h : DkAt code pc [164, a, b]) : decode code pc = .ok (.if_icmp .le (Reader.signed 16 (a.toNat * 256 + b.toNat)), 3) := dk_of ((dk_bind (dk_u1 (h 0 _ rfl))).trans ((dk_bind (dk_map (dk_u2 (h 1 _ rfl) (h 2 _ rfl)))).trans rfl))
theorem dk_165 {code : ByteArray} {pc : Nat} (a b : UInt8) (h : DkAt code pc [165, a, b]) : decode code pc = .ok (.if_acmp .eq (Reader.signed 16 (a.toNat * 256 + b.toNat)), 3) := dk_of ((dk_bind (dk_u1 (h 0 _ rfl))).trans ((dk_bind (dk_map (dk_u2 (h 1 _ rfl) (h 2 _ rfl)))).trans rfl))
theorem dk_166 {code : ByteArray} {pc : Nat} (a b : UInt8) (h : DkAt code pc [166, a, b]) : decode code pc = .ok (.if_acmp .ne (Reader.signed 16 (a.toNat * 256 + b.toNat)), 3) := dk_of ((dk_bind (dk_u1 (h 0 _ rfl))).trans ((dk_bind (dk_map (dk_u2 (h 1 _ rfl) (h 2 _ rfl)))).trans rfl))
theorem dk_167 {code : ByteArray} {pc : Nat} (a b : UInt8) (h : DkAt code pc [167, a, b]) : decode code pc = .ok (.goto (Reader.signed 16 (a.toNat * 256 + b.toNat)), 3) := dk_of ((dk_bind (dk_u1 (h 0 _ rfl))).trans ((dk_bind (dk_map (dk_u2 (h 1 _ rfl) (h 2 _ rfl)))).trans rfl))
theorem dk_172 {code : ByteArray} {pc : Nat} (h : DkAt code pc [172]) : decode code pc = .ok (.ireturn, 1) := dk_of ((dk_bind (dk_u1 (h 0 _ rfl))).trans rfl)
theorem dk_176 {code : ByteArray} {pc : Nat} (h : DkAt code pc [176]) : decode code pc = .ok (.areturn, 1) := dk_of ((dk_bind (dk_u1 (h 0 _ rfl))).trans rfl)
theorem dk_177 {code : ByteArray} {pc : Nat} (h : DkAt code pc [177]) : decode code pc = .ok (.return_, 1) := dk_of ((dk_bind (dk_u1 (h 0 _ rfl))).trans rfl)
theorem dk_178 {code : ByteArray} {pc : Nat} (a b : UInt8) (h : DkAt code pc [178, a, b]) : decode code pc = .ok (.getstatic (a.toNat * 256 + b.toNat), 3) := dk_of ((dk_bind (dk_u1 (h 0 _ rfl))).trans ((dk_bind (dk_u2 (h 1 _ rfl) (h 2 _ rfl))).trans rfl))
theorem dk_180 {code : ByteArray} {pc : Nat} (a b : UInt8) (h : DkAt code pc [180, a, b]) : decode code pc = .ok (.getfield (a.toNat * 256 + b.toNat), 3) := dk_of ((dk_bind (dk_u1 (h 0 _ rfl))).trans ((dk_bind (dk_u2 (h 1 _ rfl) (h 2 _ rfl))).trans rfl))
theorem dk_181 {code : ByteArray} {pc : Nat} (a b : UInt8) (h : DkAt code pc [181, a, b]) : decode code pc = .ok (.putfield (a.toNat * 256 + b.toNat), 3) := dk_of ((dk_bind (dk_u1 (h 0 _ rfl))).trans ((dk_bind (dk_u2 (h 1 _ rfl) (h 2 _ rfl))).trans rfl))
theorem dk_182 {code : ByteArray} {pc : Nat} (a b : UInt8) (h : DkAt code pc [182, a, b]) : decode code pc = .ok (.invokevirtual (a.toNat * 256 + b.toNat), 3) := dk_of ((dk_bind (dk_u1 (h 0 _ rfl))).trans ((dk_bind (dk_u2 (h 1 _ rfl) (h 2 _ rfl))).trans rfl))
theorem dk_183 {code : ByteArray} {pc : Nat} (a b : UInt8) (h : DkAt code pc [183, a, b]) : decode code pc = .ok (.invokespecial (a.toNat * 256 + b.toNat), 3) := dk_of ((dk_bind (dk_u1 (h 0 _ rfl))).trans ((dk_bind (dk_u2 (h 1 _ rfl) (h 2 _ rfl))).trans rfl))
theorem dk_184 {code : ByteArray} {pc : Nat} (a b : UInt8) (h : DkAt code pc [184, a, b]) : decode code pc = .ok (.invokestatic (a.toNat * 256 + b.toNat), 3) := dk_of ((dk_bind (dk_u1 (h 0 _ rfl))).trans ((dk_bind (dk_u2 (h 1 _ rfl) (h 2 _ rfl))).trans rfl))
theorem dk_187 {code : ByteArray} {pc : Nat} (a b : UInt8) (h : DkAt code pc [187, a, b]) : decode code pc = .ok (.new (a.toNat * 256 + b.toNat), 3) := dk_of ((dk_bind (dk_u1 (h 0 _ rfl))).trans ((dk_bind (dk_u2 (h 1 _ rfl) (h 2 _ rfl))).trans rfl))
theorem dk_188_4 {code : ByteArray} {pc : Nat} (h : DkAt code pc [188, 4]) : decode code pc = .ok (.newarray .boolean, 2) := dk_of ((dk_bind (dk_u1 (h 0 _ rfl))).trans ((dk_bind (dk_u1 (h 1 _ rfl))).trans rfl))
theorem dk_188_8 {code : ByteArray} {pc : Nat} (h : DkAt code pc [188, 8]) : decode code pc = .ok (.newarray .byte, 2) := dk_of ((dk_bind (dk_u1 (h 0 _ rfl))).trans ((dk_bind (dk_u1 (h 1 _ rfl))).trans rfl))
theorem dk_188_10 {code : ByteArray} {pc : Nat} (h : DkAt code pc [188, 10]) : decode code pc = .ok (.newarray .int, 2) := dk_of ((dk_bind (dk_u1 (h 0 _ rfl))).trans ((dk_bind (dk_u1 (h 1 _ rfl))).trans rfl))
theorem dk_188_11 {code : ByteArray} {pc : Nat} (h : DkAt code pc [188, 11]) : decode code pc = .ok (.newarray .long, 2) := dk_of ((dk_bind (dk_u1 (h 0 _ rfl))).trans ((dk_bind (dk_u1 (h 1 _ rfl))).trans rfl))
theorem dk_189 {code : ByteArray} {pc : Nat} (a b : UInt8) (h : DkAt code pc [189, a, b]) : decode code pc = .ok (.anewarray (a.toNat * 256 + b.toNat), 3) := dk_of ((dk_bind (dk_u1 (h 0 _ rfl))).trans ((dk_bind (dk_u2 (h 1 _ rfl) (h 2 _ rfl))).trans rfl))
theorem dk_190 {code : ByteArray} {pc : Nat} (h : DkAt code pc [190]) : decode code pc = .ok (.arraylength, 1) := dk_of ((dk_bind (dk_u1 (h 0 _ rfl))).trans rfl)
theorem dk_191 {code : ByteArray} {pc : Nat} (h : DkAt code pc [191]) : decode code pc = .ok (.athrow, 1) := dk_of ((dk_bind (dk_u1 (h 0 _ rfl))).trans rfl)
theorem dk_192 {code : ByteArray} {pc : Nat} (a b : UInt8) (h : DkAt code pc [192, a, b]) : decode code pc = .ok (.checkcast (a.toNat * 256 + b.toNat), 3) := dk_of ((dk_bind (dk_u1 (h 0 _ rfl))).trans ((dk_bind (dk_u2 (h 1 _ rfl) (h 2 _ rfl))).trans rfl))
theorem dk_198 {code : ByteArray} {pc : Nat} (a b : UInt8) (h : DkAt code pc [198, a, b]) : decode code pc = .ok (.ifnull (Reader.signed 16 (a.toNat * 256 + b.toNat)), 3) := dk_of ((dk_bind (dk_u1 (h 0 _ rfl))).trans ((dk_bind (dk_map (dk_u2 (h 1 _ rfl) (h 2 _ rfl)))).trans rfl))
theorem dk_199 {code : ByteArray} {pc : Nat} (a b : UInt8) (h : DkAt code pc [199, a, b]) : decode code pc = .ok (.ifnonnull (Reader.signed 16 (a.toNat * 256 + b.toNat)), 3) := dk_of ((dk_bind (dk_u1 (h 0 _ rfl))).trans ((dk_bind (dk_map (dk_u2 (h 1 _ rfl) (h 2 _ rfl)))).trans rfl))
end
section
/-! BASE 1: pure heaps, the judgement J of a body against its answer, Sim of a body against a pure computation; rows that touch no heap -/
abbrev PC4 : Type := Nat × Nat × (Nat → Int) × (Nat → Option Nat)
abbrev BH : Type := (Nat → Option PC4) × Nat × Nat
/-- kind (0 void, 1 int, 2 reference, 10.. thrown), the int, the reference -/
abbrev Rv : Type := Nat × Int × Option Nat
abbrev GT : Type := Launch × va_G × (Nat → ClassId) × Nat × Nat × Nat × List (String × String × String × Value)
abbrev MI : Type := MethodName × ByteArray × Nat × Option FieldType × List (Nat × Nat × Nat × Nat) × Nat × Nat
abbrev LL : Type := List (Option Value)
def gL (G : GT) : Launch := G.1
def gD (G : GT) : va_G := G.2.1
def gA (G : GT) : Nat → ClassId := G.2.2.1
def gB (G : GT) : Nat := G.2.2.2.1
def gLC (G : GT) : Nat := G.2.2.2.2.1
def gLS (G : GT) : Nat := G.2.2.2.2.2.1
def gZ (G : GT) : List (String × String × String × Value) := G.2.2.2.2.2.2
def gAA (G : GT) : Nat → Prop := fun q => gB G ≤ q
def iv (a : Int) : Value := .int (Int32.ofInt a)
def bz (p : Prop) [Decidable p] : Int := if p then 1 else 0
abbrev ok32 (a : Int) : Prop := -2147483648 ≤ a ∧ a < 2147483648
theorem ok32_toInt {a : Int} (h : ok32 a) : (Int32.ofInt a).toInt = a := Int32.toInt_ofInt_of_le (by simpa using h.1) (by simpa using h.2)
theorem iv_lt {a b : Int} (ha : ok32 a) (hb : ok32 b) : Int32.ofInt a < Int32.ofInt b ↔ a < b := by rw [Int32.lt_iff_toInt_lt, ok32_toInt ha, ok32_toInt hb]
theorem iv_le {a b : Int} (ha : ok32 a) (hb : ok32 b) : Int32.ofInt a ≤ Int32.ofInt b ↔ a ≤ b := by rw [Int32.le_iff_toInt_le, ok32_toInt ha, ok32_toInt hb]
theorem iv_eq {a b : Int} (ha : ok32 a) (hb : ok32 b) : Int32.ofInt a = Int32.ofInt b ↔ a = b := by rw [← Int32.toInt_inj, ok32_toInt ha, ok32_toInt hb]
theorem iv_0 : (0 : Int32) = Int32.ofInt 0 := rfl
theorem ok32_0 : ok32 0 := ⟨by decide, by decide⟩
/-! heaps and their sizes -/
def tot (H : Heap) : Nat := (H.toList.map (fun c => c.slots.size)).sum
theorem tot_fold (l : List Cell) (n : Nat) : l.foldl (fun n c => n + c.slots.size) n = n + (l.map (fun c => c.slots.size)).sum := by
  induction l generalizing n with
  | nil => simp
  | cons a l ih => simp only [List.foldl_cons, ih, List.map_cons, List.sum_cons]; omega
theorem tot_true {s : State} (h : s.slotsTrue = true) : s.slotsUsed = tot s.heap := by
  have h1 := eq_of_beq h
  rw [h1, ← Array.foldl_toList, tot_fold]
  simp [tot]
theorem tot_push (H : Heap) (c : Cell) : tot (H.push c) = tot H + c.slots.size := by simp [tot]
theorem tot_same {H H1 : Heap} (h : ∀ q : Nat, (H1[q]?).map (fun c => c.slots.size) = (H[q]?).map (fun c => c.slots.size)) : tot H1 = tot H := by
  unfold tot
  congr 1
  apply List.ext_getElem?
  intro i
  rw [List.getElem?_map, List.getElem?_map, Array.getElem?_toList, Array.getElem?_toList]
  exact h i
section WT
variable {p : Program} {l : Launch} {e : Env} {R : Room} {s : State} {m : MethodId} {args : Array Value} {below : List Frame} {meth : Method} {c : Code} {H : Heap} {locs : List Loc} {Q : State → Prop}
theorem w_tight {k n k' n' : Nat} {g : JFrame} (hs : H.size ≤ s.heap.size + k') (ht : tot H ≤ tot s.heap + n') (kk : W p l e R s m args below meth c H locs k' n' Q g) : W p l e R s m args below meth c H locs k n Q g := by
  intro T hT X
  refine kk T hT { X with same := ?_ }
  obtain ⟨h1, h2, h3, h4, h5, h6⟩ := X.same
  have b1 := tot_true X.book
  have b0 : s.slotsUsed = tot s.heap := by
    have h := X.room
    simp only [State.hasRoom, Bool.and_eq_true] at h
    exact tot_true h.2
  have e4 : T.slotsUsed = s.slotsUsed + (((T.setVm s.vm).heap.toList.drop s.heap.size).map (·.slots.size)).sum := h4
  have hH : tot T.heap = tot H := by rw [hT]
  refine ⟨h1, h2, ?_, h4, by omega, h6⟩
  show T.heap.size ≤ _
  rw [hT]
  exact hs
end WT
/-! locals by their places -/
def la (L : LL) : List (Nat × Value) := (List.range L.length).filterMap (fun i => (L.getD i none).map (fun v => (i, v)))
theorem la_mem {L : LL} {i : Nat} {v : Value} : (i, v) ∈ la L ↔ L[i]? = some (some v) := by
  unfold la
  rw [List.mem_filterMap]
  constructor
  · rintro ⟨j, hj, h⟩
    rw [List.mem_range] at hj
    rw [List.getD_eq_getElem?_getD, List.getElem?_eq_getElem hj] at h
    cases hx : L[j] with
    | none => rw [hx] at h; simp at h
    | some w =>
      rw [hx] at h
      simp at h
      obtain ⟨rfl, rfl⟩ := h
      rw [List.getElem?_eq_getElem hj, hx]
  · intro h
    have hl := (List.getElem?_eq_some_iff.mp h).1
    exact ⟨i, List.mem_range.mpr hl, by rw [List.getD_eq_getElem?_getD, h]; rfl⟩
def LV (ls : Array Slot) (nL : Nat) (L : LL) : Prop := lv_has ls nL (la L) ∧ ∀ (i : Nat) (v : Value), L[i]? = some (some v) → v.category = 1
theorem LV.at {ls : Array Slot} {nL : Nat} {L : LL} (h : LV ls nL L) {i : Nat} {v : Value} (e : L[i]? = some (some v)) : ls[i]? = some (.val v) := h.1.2.2 (i, v) (la_mem.mpr e)
theorem LV.of {ls ls' : Array Slot} {nL : Nat} {L : LL} {i : Nat} {v : Value} (h : LV ls nL L) (hv : v.category = 1) (h' : lv_has ls' nL ((i, v) :: (la L).filter (fun q => !(q.1 == i) && !(q.1 + 1 == i && q.2.category == 2)))) : LV ls' nL (L.set i (some v)) := by
  have hc : ∀ (j : Nat) (w : Value), (L.set i (some v))[j]? = some (some w) → (j = i ∧ w = v) ∨ (j ≠ i ∧ L[j]? = some (some w)) := by
    intro j w hj
    by_cases e : j = i
    · subst e
      by_cases hl : j < L.length
      · rw [List.getElem?_set_self hl] at hj
        cases hj
        exact Or.inl ⟨rfl, rfl⟩
      · rw [List.getElem?_eq_none (by simp; omega)] at hj
        cases hj
    · rw [List.getElem?_set_ne (Ne.symm e)] at hj
      exact Or.inr ⟨e, hj⟩
  refine ⟨⟨h'.1, h'.2.1, fun q hq => ?_⟩, fun j w hj => ?_⟩
  · obtain ⟨j, w⟩ := q
    rcases hc j w (la_mem.mp hq) with ⟨rfl, rfl⟩ | ⟨hne, hj⟩
    · exact h'.2.2 _ List.mem_cons_self
    · refine h'.2.2 (j, w) (List.mem_cons_of_mem _ (List.mem_filter.mpr ⟨la_mem.mpr hj, ?_⟩))
      have c1 := h.2 j w hj
      simp [hne, c1]
  · rcases hc j w hj with ⟨-, rfl⟩ | ⟨-, hj⟩
    · exact hv
    · exact h.2 j w hj
/-- the second list says no more than the first -/
def lsub : LL → LL → Prop
  | _, [] => True
  | [], none :: L' => lsub [] L'
  | [], some _ :: _ => False
  | _ :: L, none :: L' => lsub L L'
  | v :: L, some w :: L' => v = some w ∧ lsub L L'
theorem lsub_at : ∀ {L L' : LL}, lsub L L' → ∀ {i : Nat} {v : Value}, L'[i]? = some (some v) → L[i]? = some (some v)
  | _, [], _, i, v, e => by simp at e
  | [], none :: L', h, i, v, e => by
    cases i with
    | zero => simp at e
    | succ i => exact absurd (lsub_at (L := []) (L' := L') h (i := i) (v := v) (by simpa using e)) (by simp)
  | [], some _ :: _, h, _, _, _ => h.elim
  | x :: L, none :: L', h, i, v, e => by
    cases i with
    | zero => simp at e
    | succ i => simpa using lsub_at (L := L) (L' := L') h (i := i) (v := v) (by simpa using e)
  | x :: L, some w :: L', h, i, v, e => by
    cases i with
    | zero =>
      simp at e
      rw [h.1, e]
      rfl
    | succ i => simpa using lsub_at (L := L) (L' := L') h.2 (i := i) (v := v) (by simpa using e)
theorem LV.sub {ls : Array Slot} {nL : Nat} {L L' : LL} (h : LV ls nL L) (hs : lsub L L') : LV ls nL L' :=
  ⟨⟨h.1.1, h.1.2.1, fun q hq => h.1.2.2 q (la_mem.mpr (lsub_at hs (la_mem.mp hq)))⟩, fun i v e => h.2 i v (lsub_at hs e)⟩
end
section
/-! the classes that have objects: names, fields, types (kit: claim/names), and their list gCl -/
set_option maxRecDepth 100000
def RX3 : String := "WeavewordModel"
def TX3 : u_T := fun k => match k with
  | 0 => ("WeavewordModel", "draft", "[I", true)
  | 1 => ("WeavewordModel", "draftMany", "I", false)
  | 2 => ("WeavewordModel", "ownRank", "I", false)
  | 3 => ("WeavewordModel", "protections", "[I", true)
  | 4 => ("WeavewordModel", "queueRanks", "[I", true)
  | 5 => ("WeavewordModel", "clockNow", "I", false)
  | 6 => ("WeavewordModel", "pageAt", "[I", true)
  | 7 => ("WeavewordModel", "pageMany", "I", false)
  | 8 => ("WeavewordModel", "versionMany", "I", false)
  | 9 => ("WeavewordModel", "texts", "[I", true)
  | 10 => ("WeavewordModel", "textLengths", "[I", true)
  | 11 => ("WeavewordModel", "times", "[I", true)
  | 12 => ("WeavewordModel", "pageOf", "[I", true)
  | 13 => ("WeavewordModel", "approvalMany", "I", false)
  | 14 => ("WeavewordModel", "approvedPages", "[I", true)
  | 15 => ("WeavewordModel", "approvedTimes", "[I", true)
  | 16 => ("WeavewordModel", "approvedVersions", "[I", true)
  | 17 => ("WeavewordModel", "translations", "[I", true)
  | 18 => ("WeavewordModel", "madeOf", "[I", true)
  | 19 => ("WeavewordModel", "instructions", "[I", true)
  | 20 => ("WeavewordModel", "operands", "[I", true)
  | 21 => ("WeavewordModel", "instructionMany", "[I", true)
  | 22 => ("WeavewordModel", "tick", "I", false)
  | 23 => ("WeavewordModel", "titleTicks", "[I", true)
  | 24 => ("WeavewordModel", "categoryTicks", "[I", true)
  | 25 => ("WeavewordModel", "moduleTicks", "[I", true)
  | 26 => ("WeavewordModel", "presentWas", "[I", true)
  | 27 => ("WeavewordModel", "isRendered", "[Z", true)
  | 28 => ("WeavewordModel", "renderTicks", "[I", true)
  | 29 => ("WeavewordModel", "shownRows", "[I", true)
  | 30 => ("WeavewordModel", "shownMany", "[I", true)
  | 31 => ("WeavewordModel", "links", "[I", true)
  | 32 => ("WeavewordModel", "categories", "[I", true)
  | 33 => ("WeavewordModel", "reads", "[I", true)
  | 34 => ("WeavewordModel", "counted", "[I", true)
  | 35 => ("WeavewordModel", "used", "[I", true)
  | 36 => ("WeavewordModel", "thrown", "I", false)
  | 37 => ("WeavewordModel", "stack", "[I", true)
  | 38 => ("WeavewordModel", "opened", "[I", true)
  | 39 => ("WeavewordModel", "viewTime", "I", false)
  | 40 => ("WeavewordModel", "frameMany", "I", false)
  | 41 => ("WeavewordModel", "frameVersions", "[I", true)
  | 42 => ("WeavewordModel", "frameTitles", "[I", true)
  | 43 => ("WeavewordModel", "frameDepths", "[I", true)
  | 44 => ("WeavewordModel", "frameCallers", "[I", true)
  | 45 => ("WeavewordModel", "argumentFroms", "[I", true)
  | 46 => ("WeavewordModel", "argumentTos", "[I", true)
  | 47 => ("WeavewordModel", "argumentRows", "[I", true)
  | 48 => ("WeavewordModel", "rowMany", "I", false)
  | 49 => ("WeavewordModel", "rowLengths", "[I", true)
  | 50 => ("WeavewordModel", "rows", "[I", true)
  | 51 => ("WeavewordModel", "functionMany", "I", false)
  | 52 => ("WeavewordModel", "functionKinds", "[I", true)
  | 53 => ("WeavewordModel", "functionFrames", "[I", true)
  | 54 => ("WeavewordModel", "functionRows", "[I", true)
  | 55 => ("WeavewordModel", "partMany", "[I", true)
  | 56 => ("WeavewordModel", "partFroms", "[I", true)
  | 57 => ("WeavewordModel", "partTos", "[I", true)
  | 58 => ("WeavewordModel", "partRows", "[I", true)
  | 59 => ("WeavewordModel", "taskMany", "I", false)
  | 60 => ("WeavewordModel", "taskKinds", "[I", true)
  | 61 => ("WeavewordModel", "taskOnes", "[I", true)
  | 62 => ("WeavewordModel", "taskFroms", "[I", true)
  | 63 => ("WeavewordModel", "taskTos", "[I", true)
  | 64 => ("WeavewordModel", "taskRows", "[I", true)
  | 65 => ("WeavewordModel", "callMany", "I", false)
  | 66 => ("WeavewordModel", "linksNow", "I", false)
  | 67 => ("WeavewordModel", "categoriesNow", "I", false)
  | 68 => ("WeavewordModel", "readsNow", "I", false)
  | 69 => ("WeavewordModel", "countedNow", "I", false)
  | 70 => ("WeavewordModel", "usedNow", "I", false)
  | 71 => ("WeavewordModel", "lacking", "I", false)
  | 72 => ("WeavewordModel", "numbers", "[I", true)
  | 73 => ("WeavewordModel", "numberMany", "I", false)
  | 74 => ("WeavewordModel", "meant", "[I", true)
  | 75 => ("WeavewordModel", "meantMany", "I", false)
  | 76 => ("WeavewordModel", "result", "[I", true)
  | 77 => ("WeavewordModel", "resultMany", "I", false)
  | _ => ("WeavewordModel", "single", "[I", true)
def tyX3 : Nat → FieldType := fun k => match k with
  | 0 => .array .int
  | 1 => .int
  | 2 => .int
  | 3 => .array .int
  | 4 => .array .int
  | 5 => .int
  | 6 => .array .int
  | 7 => .int
  | 8 => .int
  | 9 => .array .int
  | 10 => .array .int
  | 11 => .array .int
  | 12 => .array .int
  | 13 => .int
  | 14 => .array .int
  | 15 => .array .int
  | 16 => .array .int
  | 17 => .array .int
  | 18 => .array .int
  | 19 => .array .int
  | 20 => .array .int
  | 21 => .array .int
  | 22 => .int
  | 23 => .array .int
  | 24 => .array .int
  | 25 => .array .int
  | 26 => .array .int
  | 27 => .array .boolean
  | 28 => .array .int
  | 29 => .array .int
  | 30 => .array .int
  | 31 => .array .int
  | 32 => .array .int
  | 33 => .array .int
  | 34 => .array .int
  | 35 => .array .int
  | 36 => .int
  | 37 => .array .int
  | 38 => .array .int
  | 39 => .int
  | 40 => .int
  | 41 => .array .int
  | 42 => .array .int
  | 43 => .array .int
  | 44 => .array .int
  | 45 => .array .int
  | 46 => .array .int
  | 47 => .array .int
  | 48 => .int
  | 49 => .array .int
  | 50 => .array .int
  | 51 => .int
  | 52 => .array .int
  | 53 => .array .int
  | 54 => .array .int
  | 55 => .array .int
  | 56 => .array .int
  | 57 => .array .int
  | 58 => .array .int
  | 59 => .int
  | 60 => .array .int
  | 61 => .array .int
  | 62 => .array .int
  | 63 => .array .int
  | 64 => .array .int
  | 65 => .int
  | 66 => .int
  | 67 => .int
  | 68 => .int
  | 69 => .int
  | 70 => .int
  | 71 => .int
  | 72 => .array .int
  | 73 => .int
  | 74 => .array .int
  | 75 => .int
  | 76 => .array .int
  | 77 => .int
  | _ => .array .int
abbrev wsX30 : List Cond := u_ws RX3 TX3 79
theorem nmX3 : ∀ a, a < 79 → ∀ b, b < 79 → a ≠ b → (TX3 a).2.1 ≠ (TX3 b).2.1 := by decide +kernel
theorem tyX3_ok : ∀ k, k < 79 → parseFieldDescriptor (TX3 k).2.2.1 = some (tyX3 k) := by decide +kernel
theorem in_X3 : ∀ w ∈ wsX30, w ∈ lw_all := lw_in wsX30 [1698, 1700, 1702, 1704, 1706, 1708, 1710, 1712, 1714, 1716, 1718, 1720, 1722, 1724, 1726, 1728, 1730, 1732, 1734, 1736, 1738, 1740, 1742, 1744, 1746, 1748, 1750, 1752, 1754, 1756, 1758, 1760, 1762, 1764, 1766, 1768, 1770, 1772, 1774, 1776, 1778, 1780, 1782, 1784, 1786, 1788, 1790, 1792, 1794, 1796, 1798, 1800, 1802, 1804, 1806, 1808, 1810, 1812, 1814, 1816, 1818, 1820, 1822, 1824, 1826, 1828, 1830, 1832, 1834, 1836, 1838, 1840, 1842, 1844, 1846, 1848, 1850, 1852, 1854] (by decide +kernel) (by decide +kernel)
def RX1 : String := "Weaveword"
def TX1 : u_T := fun k => match k with
  | 0 => ("Weaveword", "draft", "Ljava/util/List;", true)
  | 1 => ("Weaveword", "pages", "[LWeaveword$Page;", true)
  | 2 => ("Weaveword", "stored", "[LWeaveword$Stored;", true)
  | 3 => ("Weaveword", "modules", "Ljava/util/List;", true)
  | 4 => ("Weaveword", "translations", "[LWeaveword$Translation;", true)
  | 5 => ("Weaveword", "protections", "[I", true)
  | 6 => ("Weaveword", "ranks", "[I", true)
  | 7 => ("Weaveword", "acting", "I", false)
  | 8 => ("Weaveword", "clock", "I", false)
  | _ => ("Weaveword", "made", "I", false)
def tyX1 : Nat → FieldType := fun k => match k with
  | 0 => .object "java/util/List"
  | 1 => .array (.object "Weaveword$Page")
  | 2 => .array (.object "Weaveword$Stored")
  | 3 => .object "java/util/List"
  | 4 => .array (.object "Weaveword$Translation")
  | 5 => .array .int
  | 6 => .array .int
  | 7 => .int
  | 8 => .int
  | _ => .int
abbrev wsX10 : List Cond := u_ws RX1 TX1 10
theorem nmX1 : ∀ a, a < 10 → ∀ b, b < 10 → a ≠ b → (TX1 a).2.1 ≠ (TX1 b).2.1 := by decide +kernel
theorem tyX1_ok : ∀ k, k < 10 → parseFieldDescriptor (TX1 k).2.2.1 = some (tyX1 k) := by decide +kernel
theorem in_X1 : ∀ w ∈ wsX10, w ∈ lw_all := lw_in wsX10 [284, 286, 288, 290, 292, 294, 296, 298, 300, 302] (by decide +kernel) (by decide +kernel)
def RX4 : String := "Weaveword$Text"
def TX4 : u_T := fun k => match k with
  | _ => ("Weaveword$Text", "tokens", "[I", true)
def tyX4 : Nat → FieldType := fun k => match k with
  | _ => .array .int
abbrev wsX40 : List Cond := u_ws RX4 TX4 1
theorem nmX4 : ∀ a, a < 1 → ∀ b, b < 1 → a ≠ b → (TX4 a).2.1 ≠ (TX4 b).2.1 := by decide +kernel
theorem tyX4_ok : ∀ k, k < 1 → parseFieldDescriptor (TX4 k).2.2.1 = some (tyX4 k) := by decide +kernel
theorem in_X4 : ∀ w ∈ wsX40, w ∈ lw_all := lw_in wsX40 [827] (by decide +kernel) (by decide +kernel)
def RX5 : String := "Weaveword$Page"
def TX5 : u_T := fun k => match k with
  | 0 => ("Weaveword$Page", "versions", "Ljava/util/List;", true)
  | _ => ("Weaveword$Page", "approvals", "Ljava/util/List;", true)
def tyX5 : Nat → FieldType := fun k => match k with
  | 0 => .object "java/util/List"
  | _ => .object "java/util/List"
abbrev wsX50 : List Cond := u_ws RX5 TX5 2
theorem nmX5 : ∀ a, a < 2 → ∀ b, b < 2 → a ≠ b → (TX5 a).2.1 ≠ (TX5 b).2.1 := by decide +kernel
theorem tyX5_ok : ∀ k, k < 2 → parseFieldDescriptor (TX5 k).2.2.1 = some (tyX5 k) := by decide +kernel
theorem in_X5 : ∀ w ∈ wsX50, w ∈ lw_all := lw_in wsX50 [857, 859] (by decide +kernel) (by decide +kernel)
def RX6 : String := "Weaveword$Version"
def TX6 : u_T := fun k => match k with
  | 0 => ("Weaveword$Version", "number", "I", true)
  | 1 => ("Weaveword$Version", "time", "I", true)
  | _ => ("Weaveword$Version", "text", "LWeaveword$Text;", true)
def tyX6 : Nat → FieldType := fun k => match k with
  | 0 => .int
  | 1 => .int
  | _ => .object "Weaveword$Text"
abbrev wsX60 : List Cond := u_ws RX6 TX6 3
theorem nmX6 : ∀ a, a < 3 → ∀ b, b < 3 → a ≠ b → (TX6 a).2.1 ≠ (TX6 b).2.1 := by decide +kernel
theorem tyX6_ok : ∀ k, k < 3 → parseFieldDescriptor (TX6 k).2.2.1 = some (tyX6 k) := by decide +kernel
theorem in_X6 : ∀ w ∈ wsX60, w ∈ lw_all := lw_in wsX60 [884, 886, 888] (by decide +kernel) (by decide +kernel)
def RX7 : String := "Weaveword$Approval"
def TX7 : u_T := fun k => match k with
  | 0 => ("Weaveword$Approval", "version", "LWeaveword$Version;", true)
  | _ => ("Weaveword$Approval", "time", "I", true)
def tyX7 : Nat → FieldType := fun k => match k with
  | 0 => .object "Weaveword$Version"
  | _ => .int
abbrev wsX70 : List Cond := u_ws RX7 TX7 2
theorem nmX7 : ∀ a, a < 2 → ∀ b, b < 2 → a ≠ b → (TX7 a).2.1 ≠ (TX7 b).2.1 := by decide +kernel
theorem tyX7_ok : ∀ k, k < 2 → parseFieldDescriptor (TX7 k).2.2.1 = some (tyX7 k) := by decide +kernel
theorem in_X7 : ∀ w ∈ wsX70, w ∈ lw_all := lw_in wsX70 [1128, 1130] (by decide +kernel) (by decide +kernel)
def RX8 : String := "Weaveword$Translation"
def TX8 : u_T := fun k => match k with
  | 0 => ("Weaveword$Translation", "title", "I", true)
  | _ => ("Weaveword$Translation", "base", "I", true)
def tyX8 : Nat → FieldType := fun k => match k with
  | 0 => .int
  | _ => .int
abbrev wsX80 : List Cond := u_ws RX8 TX8 2
theorem nmX8 : ∀ a, a < 2 → ∀ b, b < 2 → a ≠ b → (TX8 a).2.1 ≠ (TX8 b).2.1 := by decide +kernel
theorem tyX8_ok : ∀ k, k < 2 → parseFieldDescriptor (TX8 k).2.2.1 = some (tyX8 k) := by decide +kernel
theorem in_X8 : ∀ w ∈ wsX80, w ∈ lw_all := lw_in wsX80 [1153, 1155] (by decide +kernel) (by decide +kernel)
def RX9 : String := "Weaveword$Stored"
def TX9 : u_T := fun k => match k with
  | 0 => ("Weaveword$Stored", "rendering", "LWeaveword$Rendering;", true)
  | _ => ("Weaveword$Stored", "isStale", "Z", false)
def tyX9 : Nat → FieldType := fun k => match k with
  | 0 => .object "Weaveword$Rendering"
  | _ => .boolean
abbrev wsX90 : List Cond := u_ws RX9 TX9 2
theorem nmX9 : ∀ a, a < 2 → ∀ b, b < 2 → a ≠ b → (TX9 a).2.1 ≠ (TX9 b).2.1 := by decide +kernel
theorem tyX9_ok : ∀ k, k < 2 → parseFieldDescriptor (TX9 k).2.2.1 = some (tyX9 k) := by decide +kernel
theorem in_X9 : ∀ w ∈ wsX90, w ∈ lw_all := lw_in wsX90 [1500, 1502] (by decide +kernel) (by decide +kernel)
def RX10 : String := "Weaveword$Rendering"
def TX10 : u_T := fun k => match k with
  | 0 => ("Weaveword$Rendering", "time", "I", true)
  | 1 => ("Weaveword$Rendering", "row", "LWeaveword$Row;", true)
  | 2 => ("Weaveword$Rendering", "nothing", "LWeaveword$Row;", true)
  | 3 => ("Weaveword$Rendering", "links", "I", false)
  | 4 => ("Weaveword$Rendering", "categories", "I", false)
  | 5 => ("Weaveword$Rendering", "titles", "I", false)
  | 6 => ("Weaveword$Rendering", "counted", "I", false)
  | 7 => ("Weaveword$Rendering", "used", "I", false)
  | 8 => ("Weaveword$Rendering", "calls", "I", false)
  | _ => ("Weaveword$Rendering", "this$0", "LWeaveword;", true)
def tyX10 : Nat → FieldType := fun k => match k with
  | 0 => .int
  | 1 => .object "Weaveword$Row"
  | 2 => .object "Weaveword$Row"
  | 3 => .int
  | 4 => .int
  | 5 => .int
  | 6 => .int
  | 7 => .int
  | 8 => .int
  | _ => .object "Weaveword"
abbrev wsX100 : List Cond := u_ws RX10 TX10 10
theorem nmX10 : ∀ a, a < 10 → ∀ b, b < 10 → a ≠ b → (TX10 a).2.1 ≠ (TX10 b).2.1 := by decide +kernel
theorem tyX10_ok : ∀ k, k < 10 → parseFieldDescriptor (TX10 k).2.2.1 = some (tyX10 k) := by decide +kernel
theorem in_X10 : ∀ w ∈ wsX100, w ∈ lw_all := lw_in wsX100 [1472, 1474, 1476, 1478, 1480, 1482, 1484, 1486, 1488, 1490] (by decide +kernel) (by decide +kernel)
def RX11 : String := "Weaveword$Row"
def TX11 : u_T := fun k => match k with
  | 0 => ("Weaveword$Row", "numbers", "[I", false)
  | _ => ("Weaveword$Row", "many", "I", false)
def tyX11 : Nat → FieldType := fun k => match k with
  | 0 => .array .int
  | _ => .int
abbrev wsX110 : List Cond := u_ws RX11 TX11 2
theorem nmX11 : ∀ a, a < 2 → ∀ b, b < 2 → a ≠ b → (TX11 a).2.1 ≠ (TX11 b).2.1 := by decide +kernel
theorem tyX11_ok : ∀ k, k < 2 → parseFieldDescriptor (TX11 k).2.2.1 = some (tyX11 k) := by decide +kernel
theorem in_X11 : ∀ w ∈ wsX110, w ∈ lw_all := lw_in wsX110 [1218, 1220] (by decide +kernel) (by decide +kernel)
def RX12 : String := "Weaveword$Frame"
def TX12 : u_T := fun k => match k with
  | 0 => ("Weaveword$Frame", "rendering", "LWeaveword$Rendering;", true)
  | 1 => ("Weaveword$Frame", "caller", "LWeaveword$Frame;", true)
  | 2 => ("Weaveword$Frame", "title", "I", true)
  | 3 => ("Weaveword$Frame", "depth", "I", true)
  | 4 => ("Weaveword$Frame", "text", "LWeaveword$Text;", true)
  | _ => ("Weaveword$Frame", "arguments", "[LWeaveword$Content;", true)
def tyX12 : Nat → FieldType := fun k => match k with
  | 0 => .object "Weaveword$Rendering"
  | 1 => .object "Weaveword$Frame"
  | 2 => .int
  | 3 => .int
  | 4 => .object "Weaveword$Text"
  | _ => .array (.object "Weaveword$Content")
abbrev wsX120 : List Cond := u_ws RX12 TX12 6
theorem nmX12 : ∀ a, a < 6 → ∀ b, b < 6 → a ≠ b → (TX12 a).2.1 ≠ (TX12 b).2.1 := by decide +kernel
theorem tyX12_ok : ∀ k, k < 6 → parseFieldDescriptor (TX12 k).2.2.1 = some (tyX12 k) := by decide +kernel
theorem in_X12 : ∀ w ∈ wsX120, w ∈ lw_all := lw_in wsX120 [1241, 1243, 1245, 1247, 1249, 1251] (by decide +kernel) (by decide +kernel)
def RX13 : String := "Weaveword$Parts"
def TX13 : u_T := fun k => match k with
  | 0 => ("Weaveword$Parts", "parts", "Ljava/util/List;", true)
  | _ => ("Weaveword$Parts", "nothing", "LWeaveword$Row;", true)
def tyX13 : Nat → FieldType := fun k => match k with
  | 0 => .object "java/util/List"
  | _ => .object "Weaveword$Row"
abbrev wsX130 : List Cond := u_ws RX13 TX13 2
theorem nmX13 : ∀ a, a < 2 → ∀ b, b < 2 → a ≠ b → (TX13 a).2.1 ≠ (TX13 b).2.1 := by decide +kernel
theorem tyX13_ok : ∀ k, k < 2 → parseFieldDescriptor (TX13 k).2.2.1 = some (tyX13 k) := by decide +kernel
theorem in_X13 : ∀ w ∈ wsX130, w ∈ lw_all := lw_in wsX130 [1320, 1322] (by decide +kernel) (by decide +kernel)
def RX14 : String := "Weaveword$Content"
def TX14 : u_T := fun k => match k with
  | 0 => ("Weaveword$Content", "frame", "LWeaveword$Frame;", true)
  | 1 => ("Weaveword$Content", "from", "I", true)
  | 2 => ("Weaveword$Content", "to", "I", true)
  | _ => ("Weaveword$Content", "row", "LWeaveword$Row;", false)
def tyX14 : Nat → FieldType := fun k => match k with
  | 0 => .object "Weaveword$Frame"
  | 1 => .int
  | 2 => .int
  | _ => .object "Weaveword$Row"
abbrev wsX140 : List Cond := u_ws RX14 TX14 4
theorem nmX14 : ∀ a, a < 4 → ∀ b, b < 4 → a ≠ b → (TX14 a).2.1 ≠ (TX14 b).2.1 := by decide +kernel
theorem tyX14_ok : ∀ k, k < 4 → parseFieldDescriptor (TX14 k).2.2.1 = some (tyX14 k) := by decide +kernel
theorem in_X14 : ∀ w ∈ wsX140, w ∈ lw_all := lw_in wsX140 [1336, 1338, 1340, 1342] (by decide +kernel) (by decide +kernel)
def RX2 : String := "Weaveword$Module"
def TX2 : u_T := fun k => match k with
  | _ => ("Weaveword$Module", "instructions", "Ljava/util/List;", true)
def tyX2 : Nat → FieldType := fun k => match k with
  | _ => .object "java/util/List"
abbrev wsX20 : List Cond := u_ws RX2 TX2 1
theorem nmX2 : ∀ a, a < 1 → ∀ b, b < 1 → a ≠ b → (TX2 a).2.1 ≠ (TX2 b).2.1 := by decide +kernel
theorem tyX2_ok : ∀ k, k < 1 → parseFieldDescriptor (TX2 k).2.2.1 = some (tyX2 k) := by decide +kernel
theorem in_X2 : ∀ w ∈ wsX20, w ∈ lw_all := lw_in wsX20 [192] (by decide +kernel) (by decide +kernel)
def RJ2 : String := "java/util/ArrayList"
def TJ2 : u_T := fun k => match k with
  | 0 => ("java/util/AbstractList", "modCount", "I", false)
  | 1 => ("java/util/ArrayList", "elementData", "[Ljava/lang/Object;", false)
  | _ => ("java/util/ArrayList", "size", "I", false)
def tyJ2 : Nat → FieldType := fun k => match k with
  | 0 => .int
  | 1 => .array (.object "java/lang/Object")
  | _ => .int
abbrev wsJ20 : List Cond := u_ws RJ2 TJ2 3
theorem nmJ2 : ∀ a, a < 3 → ∀ b, b < 3 → a ≠ b → (TJ2 a).2.1 ≠ (TJ2 b).2.1 := by decide +kernel
theorem tyJ2_ok : ∀ k, k < 3 → parseFieldDescriptor (TJ2 k).2.2.1 = some (tyJ2 k) := by decide +kernel
theorem in_J2 : ∀ w ∈ wsJ20, w ∈ lw_all := lw_in wsJ20 [173, 169, 171] (by decide +kernel) (by decide +kernel)
def RJ22 : String := "java/util/ArrayList$Itr"
def TJ22 : u_T := fun k => match k with
  | 0 => ("java/util/ArrayList$Itr", "cursor", "I", false)
  | 1 => ("java/util/ArrayList$Itr", "lastRet", "I", false)
  | 2 => ("java/util/ArrayList$Itr", "expectedModCount", "I", false)
  | _ => ("java/util/ArrayList$Itr", "this$0", "Ljava/util/ArrayList;", true)
def tyJ22 : Nat → FieldType := fun k => match k with
  | 0 => .int
  | 1 => .int
  | 2 => .int
  | _ => .object "java/util/ArrayList"
abbrev wsJ220 : List Cond := u_ws RJ22 TJ22 4
theorem nmJ22 : ∀ a, a < 4 → ∀ b, b < 4 → a ≠ b → (TJ22 a).2.1 ≠ (TJ22 b).2.1 := by decide +kernel
theorem tyJ22_ok : ∀ k, k < 4 → parseFieldDescriptor (TJ22 k).2.2.1 = some (tyJ22 k) := by decide +kernel
theorem in_J22 : ∀ w ∈ wsJ220, w ∈ lw_all := lw_in wsJ220 [998, 1000, 1002, 1004] (by decide +kernel) (by decide +kernel)
def RJ15 : String := "java/lang/Integer"
def TJ15 : u_T := fun k => match k with
  | _ => ("java/lang/Integer", "value", "I", true)
def tyJ15 : Nat → FieldType := fun k => match k with
  | _ => .int
abbrev wsJ150 : List Cond := u_ws RJ15 TJ15 1
theorem nmJ15 : ∀ a, a < 1 → ∀ b, b < 1 → a ≠ b → (TJ15 a).2.1 ≠ (TJ15 b).2.1 := by decide +kernel
theorem tyJ15_ok : ∀ k, k < 1 → parseFieldDescriptor (TJ15 k).2.2.1 = some (tyJ15 k) := by decide +kernel
theorem in_J15 : ∀ w ∈ wsJ150, w ∈ lw_all := lw_in wsJ150 [762] (by decide +kernel) (by decide +kernel)
def RJ12 : String := "java/lang/String"
def TJ12 : u_T := fun k => match k with
  | 0 => ("java/lang/String", "value", "[B", true)
  | 1 => ("java/lang/String", "coder", "B", true)
  | 2 => ("java/lang/String", "hash", "I", false)
  | _ => ("java/lang/String", "hashIsZero", "Z", false)
def tyJ12 : Nat → FieldType := fun k => match k with
  | 0 => .array .byte
  | 1 => .byte
  | 2 => .int
  | _ => .boolean
abbrev wsJ120 : List Cond := u_ws RJ12 TJ12 4
theorem nmJ12 : ∀ a, a < 4 → ∀ b, b < 4 → a ≠ b → (TJ12 a).2.1 ≠ (TJ12 b).2.1 := by decide +kernel
theorem tyJ12_ok : ∀ k, k < 4 → parseFieldDescriptor (TJ12 k).2.2.1 = some (tyJ12 k) := by decide +kernel
theorem in_J12 : ∀ w ∈ wsJ120, w ∈ lw_all := lw_in wsJ120 [655, 657, 659, 661] (by decide +kernel) (by decide +kernel)
def RJ11 : String := "java/lang/StringBuilder"
def TJ11 : u_T := fun k => match k with
  | 0 => ("java/lang/AbstractStringBuilder", "value", "[B", false)
  | 1 => ("java/lang/AbstractStringBuilder", "coder", "B", false)
  | 2 => ("java/lang/AbstractStringBuilder", "maybeLatin1", "Z", false)
  | _ => ("java/lang/AbstractStringBuilder", "count", "I", false)
def tyJ11 : Nat → FieldType := fun k => match k with
  | 0 => .array .byte
  | 1 => .byte
  | 2 => .boolean
  | _ => .int
abbrev wsJ110 : List Cond := u_ws RJ11 TJ11 4
theorem nmJ11 : ∀ a, a < 4 → ∀ b, b < 4 → a ≠ b → (TJ11 a).2.1 ≠ (TJ11 b).2.1 := by decide +kernel
theorem tyJ11_ok : ∀ k, k < 4 → parseFieldDescriptor (TJ11 k).2.2.1 = some (tyJ11 k) := by decide +kernel
theorem in_J11 : ∀ w ∈ wsJ110, w ∈ lw_all := lw_in wsJ110 [422, 424, 426, 428] (by decide +kernel) (by decide +kernel)
def RJ19 : String := "java/lang/IndexOutOfBoundsException"
def TJ19 : u_T := fun k => match k with
  | 0 => ("java/lang/Throwable", "cause", "Ljava/lang/Throwable;", false)
  | 1 => ("java/lang/Throwable", "stackTrace", "[Ljava/lang/StackTraceElement;", false)
  | 2 => ("java/lang/Throwable", "suppressedExceptions", "Ljava/util/List;", false)
  | 3 => ("java/lang/Throwable", "detailMessage", "Ljava/lang/String;", false)
  | 4 => ("java/lang/Throwable", "backtrace", "Ljava/lang/Object;", false)
  | _ => ("java/lang/Throwable", "depth", "I", false)
def tyJ19 : Nat → FieldType := fun k => match k with
  | 0 => .object "java/lang/Throwable"
  | 1 => .array (.object "java/lang/StackTraceElement")
  | 2 => .object "java/util/List"
  | 3 => .object "java/lang/String"
  | 4 => .object "java/lang/Object"
  | _ => .int
abbrev wsJ190 : List Cond := u_ws RJ19 TJ19 6
theorem nmJ19 : ∀ a, a < 6 → ∀ b, b < 6 → a ≠ b → (TJ19 a).2.1 ≠ (TJ19 b).2.1 := by decide +kernel
theorem tyJ19_ok : ∀ k, k < 6 → parseFieldDescriptor (TJ19 k).2.2.1 = some (tyJ19 k) := by decide +kernel
theorem in_J19 : ∀ w ∈ wsJ190, w ∈ lw_all := lw_in wsJ190 [369, 371, 373, 375, 377, 668] (by decide +kernel) (by decide +kernel)
def RJ9 : String := "java/lang/IllegalArgumentException"
def TJ9 : u_T := fun k => match k with
  | 0 => ("java/lang/Throwable", "cause", "Ljava/lang/Throwable;", false)
  | 1 => ("java/lang/Throwable", "stackTrace", "[Ljava/lang/StackTraceElement;", false)
  | 2 => ("java/lang/Throwable", "suppressedExceptions", "Ljava/util/List;", false)
  | 3 => ("java/lang/Throwable", "detailMessage", "Ljava/lang/String;", false)
  | 4 => ("java/lang/Throwable", "backtrace", "Ljava/lang/Object;", false)
  | _ => ("java/lang/Throwable", "depth", "I", false)
def tyJ9 : Nat → FieldType := fun k => match k with
  | 0 => .object "java/lang/Throwable"
  | 1 => .array (.object "java/lang/StackTraceElement")
  | 2 => .object "java/util/List"
  | 3 => .object "java/lang/String"
  | 4 => .object "java/lang/Object"
  | _ => .int
abbrev wsJ90 : List Cond := u_ws RJ9 TJ9 6
theorem nmJ9 : ∀ a, a < 6 → ∀ b, b < 6 → a ≠ b → (TJ9 a).2.1 ≠ (TJ9 b).2.1 := by decide +kernel
theorem tyJ9_ok : ∀ k, k < 6 → parseFieldDescriptor (TJ9 k).2.2.1 = some (tyJ9 k) := by decide +kernel
theorem in_J9 : ∀ w ∈ wsJ90, w ∈ lw_all := lw_in wsJ90 [604, 605, 606, 607, 608, 636] (by decide +kernel) (by decide +kernel)
def RJ18 : String := "java/lang/IllegalStateException"
def TJ18 : u_T := fun k => match k with
  | 0 => ("java/lang/Throwable", "cause", "Ljava/lang/Throwable;", false)
  | 1 => ("java/lang/Throwable", "stackTrace", "[Ljava/lang/StackTraceElement;", false)
  | 2 => ("java/lang/Throwable", "suppressedExceptions", "Ljava/util/List;", false)
  | 3 => ("java/lang/Throwable", "detailMessage", "Ljava/lang/String;", false)
  | 4 => ("java/lang/Throwable", "backtrace", "Ljava/lang/Object;", false)
  | _ => ("java/lang/Throwable", "depth", "I", false)
def tyJ18 : Nat → FieldType := fun k => match k with
  | 0 => .object "java/lang/Throwable"
  | 1 => .array (.object "java/lang/StackTraceElement")
  | 2 => .object "java/util/List"
  | 3 => .object "java/lang/String"
  | 4 => .object "java/lang/Object"
  | _ => .int
abbrev wsJ180 : List Cond := u_ws RJ18 TJ18 6
theorem nmJ18 : ∀ a, a < 6 → ∀ b, b < 6 → a ≠ b → (TJ18 a).2.1 ≠ (TJ18 b).2.1 := by decide +kernel
theorem tyJ18_ok : ∀ k, k < 6 → parseFieldDescriptor (TJ18 k).2.2.1 = some (tyJ18 k) := by decide +kernel
theorem in_J18 : ∀ w ∈ wsJ180, w ∈ lw_all := lw_in wsJ180 [734, 735, 736, 737, 738, 743] (by decide +kernel) (by decide +kernel)
def gCl : List vw_C := [(RX3, TX3, 79), (RX1, TX1, 10), (RX4, TX4, 1), (RX5, TX5, 2), (RX6, TX6, 3), (RX7, TX7, 2), (RX8, TX8, 2), (RX9, TX9, 2), (RX10, TX10, 10), (RX11, TX11, 2), (RX12, TX12, 6), (RX13, TX13, 2), (RX14, TX14, 4), (RX2, TX2, 1), (RJ2, TJ2, 3), (RJ22, TJ22, 4), (RJ15, TJ15, 1), (RJ12, TJ12, 4), (RJ11, TJ11, 4), (RJ19, TJ19, 6), (RJ9, TJ9, 6), (RJ18, TJ18, 6)]
def gTy : List (Nat → FieldType) := [tyX3, tyX1, tyX4, tyX5, tyX6, tyX7, tyX8, tyX9, tyX10, tyX11, tyX12, tyX13, tyX14, tyX2, tyJ2, tyJ22, tyJ15, tyJ12, tyJ11, tyJ19, tyJ9, tyJ18]
/-- words of the tables that no list carries: nest mates, castable, declares -/
def gNw : List Cond := [Jvm.Cond.castable "java/lang/StringBuilder" "java/lang/Object",
  Jvm.Cond.castable "java/lang/String" "java/lang/Object",
  Jvm.Cond.castable "java/lang/Integer" "java/lang/Object",
  Jvm.Cond.castable "java/lang/IllegalStateException" "java/lang/IllegalStateException",
  Jvm.Cond.castable "java/lang/IllegalStateException" "java/lang/Object",
  Jvm.Cond.castable "java/lang/IndexOutOfBoundsException" "java/lang/IndexOutOfBoundsException",
  Jvm.Cond.declares ({ cls := "java/lang/IndexOutOfBoundsException", name := "<init>", desc := "()V" } : Jvm.MethodName),
  Jvm.Cond.declares ({ cls := "java/lang/IndexOutOfBoundsException", name := "<init>", desc := "(Ljava/lang/String;)V" } : Jvm.MethodName),
  Jvm.Cond.castable "java/lang/IndexOutOfBoundsException" "java/lang/Object",
  Jvm.Cond.castable "java/util/ArrayList" "java/util/List",
  Jvm.Cond.castable "java/util/ArrayList" "java/lang/Object",
  Jvm.Cond.castable "java/lang/ArrayIndexOutOfBoundsException" "java/lang/ArrayIndexOutOfBoundsException",
  Jvm.Cond.castable "java/lang/ArrayIndexOutOfBoundsException" "java/lang/IndexOutOfBoundsException",
  Jvm.Cond.castable "java/lang/ArrayIndexOutOfBoundsException" "java/lang/Object",
  Jvm.Cond.fieldLinkNest "java/util/ArrayList$Itr" (28 : Nat) "java/util/ArrayList" "size" "I" "java/util/ArrayList",
  Jvm.Cond.castable "java/util/ArrayList$Itr" "java/util/Iterator",
  Jvm.Cond.castable "java/util/ArrayList$Itr" "java/lang/Object",
  Jvm.Cond.declares ({ cls := "java/lang/Object", name := "getClass", desc := "()Ljava/lang/Class;" } : Jvm.MethodName),
  Jvm.Cond.declares ({ cls := "java/lang/Throwable", name := "<init>", desc := "()V" } : Jvm.MethodName),
  Jvm.Cond.declares ({ cls := "java/lang/Throwable", name := "<init>", desc := "(Ljava/lang/String;)V" } : Jvm.MethodName),
  Jvm.Cond.castable "java/lang/Throwable" "java/lang/Object",
  Jvm.Cond.declares ({ cls := "java/lang/Exception", name := "<init>", desc := "()V" } : Jvm.MethodName),
  Jvm.Cond.declares ({ cls := "java/lang/Exception", name := "<init>", desc := "(Ljava/lang/String;)V" } : Jvm.MethodName),
  Jvm.Cond.declares ({ cls := "java/lang/RuntimeException", name := "<init>", desc := "()V" } : Jvm.MethodName),
  Jvm.Cond.declares ({ cls := "java/lang/RuntimeException", name := "<init>", desc := "(Ljava/lang/String;)V" } : Jvm.MethodName),
  Jvm.Cond.castable "java/lang/IllegalArgumentException" "java/lang/IllegalArgumentException",
  Jvm.Cond.castable "java/lang/IllegalArgumentException" "java/lang/Object",
  Jvm.Cond.methodLinkNest "Weaveword" (46 : Nat) ({ cls := "Weaveword$Module", name := "<init>", desc := "()V" } : Jvm.MethodName) "Weaveword",
  Jvm.Cond.fieldLinkNest "Weaveword" (336 : Nat) "Weaveword$Module" "instructions" "Ljava/util/List;" "Weaveword",
  Jvm.Cond.fieldLinkNest "Weaveword" (372 : Nat) "Weaveword$Text" "tokens" "[I" "Weaveword",
  Jvm.Cond.methodLinkNest "Weaveword" (223 : Nat) ({ cls := "Weaveword$Page", name := "<init>", desc := "()V" } : Jvm.MethodName) "Weaveword",
  Jvm.Cond.fieldLinkNest "Weaveword" (252 : Nat) "Weaveword$Page" "versions" "Ljava/util/List;" "Weaveword",
  Jvm.Cond.fieldLinkNest "Weaveword" (310 : Nat) "Weaveword$Page" "approvals" "Ljava/util/List;" "Weaveword",
  Jvm.Cond.fieldLinkNest "Weaveword" (261 : Nat) "Weaveword$Version" "number" "I" "Weaveword",
  Jvm.Cond.fieldLinkNest "Weaveword" (157 : Nat) "Weaveword$Version" "text" "LWeaveword$Text;" "Weaveword",
  Jvm.Cond.fieldLinkNest "Weaveword" (389 : Nat) "Weaveword$Approval" "version" "LWeaveword$Version;" "Weaveword",
  Jvm.Cond.fieldLinkNest "Weaveword" (386 : Nat) "Weaveword$Approval" "time" "I" "Weaveword",
  Jvm.Cond.fieldLinkNest "Weaveword" (325 : Nat) "Weaveword$Translation" "title" "I" "Weaveword",
  Jvm.Cond.fieldLinkNest "Weaveword" (405 : Nat) "Weaveword$Translation" "base" "I" "Weaveword",
  Jvm.Cond.fieldLinkNest "Weaveword" (359 : Nat) "Weaveword$Row" "many" "I" "Weaveword",
  Jvm.Cond.fieldLinkNest "Weaveword" (355 : Nat) "Weaveword$Rendering" "row" "LWeaveword$Row;" "Weaveword",
  Jvm.Cond.fieldLinkNest "Weaveword" (392 : Nat) "Weaveword$Rendering" "links" "I" "Weaveword",
  Jvm.Cond.fieldLinkNest "Weaveword" (143 : Nat) "Weaveword$Rendering" "categories" "I" "Weaveword",
  Jvm.Cond.fieldLinkNest "Weaveword" (128 : Nat) "Weaveword$Rendering" "titles" "I" "Weaveword",
  Jvm.Cond.fieldLinkNest "Weaveword" (137 : Nat) "Weaveword$Rendering" "counted" "I" "Weaveword",
  Jvm.Cond.fieldLinkNest "Weaveword" (140 : Nat) "Weaveword$Rendering" "used" "I" "Weaveword",
  Jvm.Cond.fieldLinkNest "Weaveword" (124 : Nat) "Weaveword$Stored" "rendering" "LWeaveword$Rendering;" "Weaveword",
  Jvm.Cond.fieldLinkNest "Weaveword" (120 : Nat) "Weaveword$Stored" "isStale" "Z" "Weaveword",
  Jvm.Cond.castable "Weaveword" "java/lang/Object",
  Jvm.Cond.fieldLinkNest "Weaveword$Rendering" (44 : Nat) "Weaveword" "pages" "[LWeaveword$Page;" "Weaveword",
  Jvm.Cond.fieldLinkNest "Weaveword$Rendering" (222 : Nat) "Weaveword" "modules" "Ljava/util/List;" "Weaveword",
  Jvm.Cond.fieldLinkNest "Weaveword$Rendering" (58 : Nat) "Weaveword$Version" "text" "LWeaveword$Text;" "Weaveword",
  Jvm.Cond.methodLinkNest "Weaveword$Rendering" (17 : Nat) ({ cls := "Weaveword$Row", name := "<init>", desc := "()V" } : Jvm.MethodName) "Weaveword",
  Jvm.Cond.fieldLinkNest "Weaveword$Rendering" (115 : Nat) "Weaveword$Frame" "depth" "I" "Weaveword",
  Jvm.Cond.fieldLinkNest "Weaveword$Rendering" (79 : Nat) "Weaveword$Frame" "text" "LWeaveword$Text;" "Weaveword",
  Jvm.Cond.fieldLinkNest "Weaveword$Rendering" (121 : Nat) "Weaveword$Frame" "arguments" "[LWeaveword$Content;" "Weaveword",
  Jvm.Cond.methodLinkNest "Weaveword$Rendering" (83 : Nat) ({ cls := "Weaveword$Text", name := "isOpening", desc := "(I)Z" } : Jvm.MethodName) "Weaveword",
  Jvm.Cond.fieldLinkNest "Weaveword$Rendering" (142 : Nat) "Weaveword$Parts" "parts" "Ljava/util/List;" "Weaveword",
  Jvm.Cond.fieldLinkNest "Weaveword$Rendering" (163 : Nat) "Weaveword$Content" "from" "I" "Weaveword",
  Jvm.Cond.castable "Weaveword$Rendering" "java/lang/Object",
  Jvm.Cond.castable "Weaveword$Row" "java/lang/Object",
  Jvm.Cond.castable "Weaveword$Frame" "java/lang/Object",
  Jvm.Cond.castable "Weaveword$Parts" "java/lang/Object",
  Jvm.Cond.fieldLinkNest "Weaveword$Content" (27 : Nat) "Weaveword$Frame" "rendering" "LWeaveword$Rendering;" "Weaveword",
  Jvm.Cond.methodLinkNest "Weaveword$Content" (26 : Nat) ({ cls := "Weaveword$Row", name := "<init>", desc := "()V" } : Jvm.MethodName) "Weaveword",
  Jvm.Cond.castable "Weaveword$Content" "java/lang/Object",
  Jvm.Cond.castable "Weaveword$Module" "java/lang/Object",
  Jvm.Cond.castable "WeavewordModel" "java/lang/Object",
  Jvm.Cond.castable "Weaveword$Text" "java/lang/Object",
  Jvm.Cond.fieldLinkNest "Weaveword$Page" (45 : Nat) "Weaveword$Version" "number" "I" "Weaveword",
  Jvm.Cond.fieldLinkNest "Weaveword$Page" (33 : Nat) "Weaveword$Version" "time" "I" "Weaveword",
  Jvm.Cond.fieldLinkNest "Weaveword$Page" (65 : Nat) "Weaveword$Approval" "version" "LWeaveword$Version;" "Weaveword",
  Jvm.Cond.fieldLinkNest "Weaveword$Page" (64 : Nat) "Weaveword$Approval" "time" "I" "Weaveword",
  Jvm.Cond.castable "Weaveword$Page" "java/lang/Object",
  Jvm.Cond.castable "Weaveword$Version" "java/lang/Object",
  Jvm.Cond.castable "Weaveword$Approval" "java/lang/Object",
  Jvm.Cond.castable "Weaveword$Translation" "java/lang/Object",
  Jvm.Cond.castable "Weaveword$Stored" "java/lang/Object",
  Jvm.Cond.castable "[B" "java/lang/Cloneable",
  Jvm.Cond.castable "[B" "java/lang/Object",
  Jvm.Cond.castable "[I" "java/lang/Object",
  Jvm.Cond.castable "[J" "java/lang/Object",
  Jvm.Cond.castable "[LWeaveword$Content;" "java/lang/Object",
  Jvm.Cond.castable "[LWeaveword$Page;" "java/lang/Object",
  Jvm.Cond.castable "[LWeaveword$Stored;" "java/lang/Object",
  Jvm.Cond.castable "[LWeaveword$Translation;" "java/lang/Object",
  Jvm.Cond.castable "[Ljava/lang/Object;" "java/lang/Object",
  Jvm.Cond.castable "[Z" "java/lang/Object",
  Jvm.Cond.declares ({ cls := "java/util/Iterator", name := "hasNext", desc := "()Z" } : Jvm.MethodName),
  Jvm.Cond.declares ({ cls := "java/util/Iterator", name := "next", desc := "()Ljava/lang/Object;" } : Jvm.MethodName),
  Jvm.Cond.declares ({ cls := "java/util/List", name := "add", desc := "(Ljava/lang/Object;)Z" } : Jvm.MethodName),
  Jvm.Cond.declares ({ cls := "java/util/List", name := "size", desc := "()I" } : Jvm.MethodName),
  Jvm.Cond.declares ({ cls := "java/util/List", name := "clear", desc := "()V" } : Jvm.MethodName),
  Jvm.Cond.declares ({ cls := "java/util/List", name := "get", desc := "(I)Ljava/lang/Object;" } : Jvm.MethodName),
  Jvm.Cond.declares ({ cls := "java/util/List", name := "add", desc := "(ILjava/lang/Object;)V" } : Jvm.MethodName),
  Jvm.Cond.declares ({ cls := "java/util/List", name := "set", desc := "(ILjava/lang/Object;)Ljava/lang/Object;" } : Jvm.MethodName),
  Jvm.Cond.declares ({ cls := "java/util/List", name := "iterator", desc := "()Ljava/util/Iterator;" } : Jvm.MethodName),
  Jvm.Cond.declares ({ cls := "java/util/List", name := "isEmpty", desc := "()Z" } : Jvm.MethodName)]
/-- interface calls: the receiver's class, the interface's method, its own -/
def gFw : List (String × MethodName × MethodName) := [("java/util/ArrayList", ⟨"java/util/List", "add", "(ILjava/lang/Object;)V"⟩, ⟨"java/util/ArrayList", "add", "(ILjava/lang/Object;)V"⟩),
  ("java/util/ArrayList", ⟨"java/util/List", "add", "(Ljava/lang/Object;)Z"⟩, ⟨"java/util/ArrayList", "add", "(Ljava/lang/Object;)Z"⟩),
  ("java/util/ArrayList", ⟨"java/util/List", "clear", "()V"⟩, ⟨"java/util/ArrayList", "clear", "()V"⟩),
  ("java/util/ArrayList", ⟨"java/util/List", "get", "(I)Ljava/lang/Object;"⟩, ⟨"java/util/ArrayList", "get", "(I)Ljava/lang/Object;"⟩),
  ("java/util/ArrayList", ⟨"java/util/List", "isEmpty", "()Z"⟩, ⟨"java/util/ArrayList", "isEmpty", "()Z"⟩),
  ("java/util/ArrayList", ⟨"java/util/List", "iterator", "()Ljava/util/Iterator;"⟩, ⟨"java/util/ArrayList", "iterator", "()Ljava/util/Iterator;"⟩),
  ("java/util/ArrayList", ⟨"java/util/List", "set", "(ILjava/lang/Object;)Ljava/lang/Object;"⟩, ⟨"java/util/ArrayList", "set", "(ILjava/lang/Object;)Ljava/lang/Object;"⟩),
  ("java/util/ArrayList", ⟨"java/util/List", "size", "()I"⟩, ⟨"java/util/ArrayList", "size", "()I"⟩),
  ("java/util/ArrayList$Itr", ⟨"java/util/Iterator", "hasNext", "()Z"⟩, ⟨"java/util/ArrayList$Itr", "hasNext", "()Z"⟩),
  ("java/util/ArrayList$Itr", ⟨"java/util/Iterator", "next", "()Ljava/lang/Object;"⟩, ⟨"java/util/ArrayList$Itr", "next", "()Ljava/lang/Object;"⟩)]
def gAO : List String := ["Weaveword$Page", "Weaveword$Stored", "Weaveword$Translation", "java/lang/Object", "Weaveword$Content"]
def gStr : List (String × Nat × String) := [("Weaveword", 58, "no "),
  ("Weaveword", 64, " "),
  ("Weaveword", 76, "title"),
  ("Weaveword", 86, "no page at "),
  ("Weaveword", 92, "no version "),
  ("Weaveword", 94, " of the page"),
  ("Weaveword", 96, "the index "),
  ("Weaveword", 98, " is below 0"),
  ("Weaveword", 102, " is not from "),
  ("Weaveword", 104, " to "),
  ("Weaveword", 114, "the rank is too low"),
  ("Weaveword", 177, "the draft has too many tokens"),
  ("Weaveword", 221, "no page can be made of the draft there"),
  ("Weaveword", 246, "no such version can be made"),
  ("Weaveword", 259, "section"),
  ("Weaveword", 271, "no version is ahead of "),
  ("Weaveword", 273, "the version cannot be undone"),
  ("Weaveword", 275, "the draft is no text, or there are too many versions"),
  ("Weaveword", 281, "there is a page at the title"),
  ("Weaveword", 283, "there are too many versions"),
  ("Weaveword", 292, "tree"),
  ("Weaveword", 298, "the tree has pages"),
  ("Weaveword", 304, "the tree has no page, or there are too many versions"),
  ("Weaveword", 321, "a title is not its own translation"),
  ("Weaveword", 327, "module"),
  ("Weaveword", 339, "the module has too many instructions"),
  ("Weaveword", 366, "version"),
  ("Weaveword", 395, "thing"),
  ("Weaveword", 400, "category"),
  ("java/util/ArrayList", 201, "Index: "),
  ("java/util/ArrayList", 203, ", Size: "),
  ("java/util/Arrays", 337, " > ")]
end
section
/-! ===== BEGIN words of one list among another's, by their places ===== -/
theorem goodIn_r {big : List Cond} (ws : List Cond) (ps : List Nat) (hp : ws = ps.filterMap (fun i => big[i]?)) (h : ws.all goodWord = true) : GoodIn big ws := by
  intro w hw
  have h1 := List.all_eq_true.mp h w hw
  rw [hp] at hw
  obtain ⟨i, -, hi⟩ := List.mem_filterMap.mp hw
  have hm : w ∈ big := by first | exact List.mem_of_getElem? hi | exact List.getElem?_mem hi
  exact ⟨hm, good_of_word h1⟩
theorem goodIn_app {big a b : List Cond} (ha : GoodIn big a) (hb : GoodIn big b) : GoodIn big (a ++ b) := fun w h => (List.mem_append.mp h).elim (ha w) (hb w)
theorem goodIn_ca {big a b : List Cond} {c : Cond} (ha : GoodIn big (c :: a)) (hb : GoodIn big b) : GoodIn big (c :: (a ++ b)) := fun w h => (List.mem_cons.mp h).elim (fun e => ha w (List.mem_cons.mpr (Or.inl e))) (fun h => (List.mem_append.mp h).elim (fun h => ha w (List.mem_cons.mpr (Or.inr h))) (hb w))
theorem goodIn_sub {big ws : List Cond} (hm : ∀ w ∈ ws, w ∈ big) (h : ws.all goodWord = true) : GoodIn big ws := fun w hw => ⟨hm w hw, good_of_word (List.all_eq_true.mp h w hw)⟩
/-! ===== END ===== -/
/-! ===== BEGIN exceptions that leave a method, and their catching by the caller (launches without stack traces) ===== -/
section VXA
/-! The laws vx_back, vx_callV, vx_callS, vx_callSW, vx_throw0, vx_throwS follow proofs of the library, with one case more: JvmDerived/Free/Laws.lean (Back.of_free), Shelf42/LK1.lean (callV, callS), Shelf/KitTraced.lean (throwNew0V, throwNewS). -/
/-- where a method has thrown q: the class by its name, the cell, what was written, the world -/
def vx_T (XC : String → State → State → Prop) (st : State) (q : Addr) (t : State) (mc ms : Nat) (free : Addr → Prop) : Prop :=
  ∃ (E : String) (ce : Cell) (L : List Loc), XC E st t ∧ t.heap[q]? = some ce ∧ ce.vm = .none ∧ st.vm.findClass E = some ce.cls ∧ st.WarmedH t.vm ∧ st.sameButNew ({ t with vm := st.vm } : State) L mc ms ∧ ∀ z ∈ L, free z.base
def vx_Q (Qc : Array Value → State → Outcome → State → Prop) (XC : String → State → State → Prop) (mc ms : Nat) (free : Addr → Prop) : Array Value → State → Outcome → State → Prop := fun a st o t =>
  (Qc a st o t ∧ ∃ L, FrameEnd st o t L mc ms ∧ ∀ q ∈ L, free q.base) ∨ ∃ q, o = .threw q ∧ vx_T XC st q t mc ms free
/-- a callee that returns or throws -/
def vx_Met (l : Launch) (y : MethodName) (ws : List Cond) (rm : Room) (Pc : Array Value → State → Prop) (Qc : Array Value → State → Outcome → State → Prop) (XC : String → State → State → Prop) (mc ms : Nat) (free : Addr → Prop) : Prop :=
  MetFree l y (headSpec ws rm) Pc (fun _ _ _ _ _ => True) (vx_Q Qc XC mc ms free)
def vx_Post (XC : String → State → State → Prop) (mc ms : Nat) (free : Addr → Prop) : Pt → Array Value → Addr → Pt → Prop := fun A a q B =>
  ∃ (g : JFrame) (mk : MethodId) (t : State) (L : List Loc) (E : String) (ce : Cell), B.U.heap = t.heap ∧ B.U.vm = t.vm ∧ XC E (A.U.calling g mk a) t ∧ t.heap[q]? = some ce ∧ ce.vm = .none ∧ A.U.vm.findClass E = some ce.cls ∧ B.locs = A.locs ++ L ∧ (∀ z ∈ L, free z.base) ∧ B.cells = A.cells + mc ∧ B.slots = A.slots + ms
def vx_Back (l : Launch) (R : Room) (p : Program) (e : Env) (below : List Frame) (s : State) (sargs : Array Value) (y : MethodName) (len W9 : Nat)
    (Pre : Pt → Array Value → Prop) (Post : Pt → Array Value → Option Value → Pt → Prop) (PostX : Pt → Array Value → Addr → Pt → Prop) : Prop :=
  ∀ (m : MethodId) (meth : Method) (c : Code) (A : Pt) (g : JFrame) (ig : Instr) (mk : MethodId) (a : Array Value),
    Stand p l e R s m sargs below meth c A.U A.locs A.cells A.slots → g.method = m → g.locals.size = c.maxLocals → decode c.code g.pc = .ok (ig, len) →
    2 * g.monitorRoom + (g.stack.map fun v => v.category).sum ≤ W9 → A.U.methodNamed? y = some mk → Pre A a →
    (∃ (v : Option Value) (B : Pt), Stand p l e R s m sargs below meth c B.U B.locs B.cells B.slots ∧ Post A a v B ∧
      Steps p.tables e below (doInvoke e (A.U.setTop g) [] mk a).1 (B.U.setTop { g with pc := g.pc + len, stack := v.toList ++ g.stack })) ∨
    (∃ (q : Addr) (B : Pt), Stand p l e R s m sargs below meth c B.U B.locs B.cells B.slots ∧ PostX A a q B ∧
      Steps p.tables e below (doInvoke e (A.U.setTop g) [] mk a).1 ((B.U.setTop g).pushFrame (.throwing q)))
section Payer
variable {l : Launch} {R : Room} {p : Program} {e : Env} {below : List Frame} {s : State} {sargs : Array Value} {y : MethodName} {len W9 : Nat}
theorem vx_back {ws : List Cond} {rm : Room} {Pc : Array Value → State → Prop} {Qc : Array Value → State → Outcome → State → Prop} {XC : String → State → State → Prop} {mc ms : Nat} {free : Addr → Prop} {bytes : ByteArray} {maxL : Nat} {ret : Option FieldType}
    (hM : vx_Met l y ws rm Pc Qc XC mc ms free) (hblind : FrameBlind Pc) (hrc : rm.cells = mc) (hrs : rm.slots = ms)
    (hframes : rm.frames + 1 ≤ R.frames) (hlocals : W9 + (maxL + 11) + rm.locals ≤ R.locals)
    (hws : ∀ w ∈ ws, ∀ a' U, s.WarmedH U.vm → w.before a' U = true) (hcode : Cond.code y bytes maxL ret ∈ ws) (hinit : ∀ a' U, s.WarmedH U.vm → (Cond.initialized y.cls).before a' U = true) :
    vx_Back l R p e below s sargs y len W9 (PreOf R mc ms Pc) (PostOf Qc mc ms free) (vx_Post XC mc ms free) := by
  intro m meth c A g ig mk a X hg hsize hdg hW hn hp
  have h1 : (headSpec ws rm).pre.before a A.U = true := atoms_intro fun w hw => hws w hw _ _ X.warmed
  have h2 : (Cond.code y bytes maxL ret).before a A.U = true := hws _ hcode _ _ X.warmed
  have h3 : (Cond.initialized y.cls).before a A.U = true := hinit _ _ X.warmed
  have h4 : A.cells + (headSpec ws rm).room.cells ≤ R.cells := by rw [show (headSpec ws rm).room.cells = mc from hrc]; exact hp.1
  have h5 : A.slots + (headSpec ws rm).room.slots ≤ R.slots := by rw [show (headSpec ws rm).room.slots = ms from hrs]; exact hp.2.1
  have hPc : Pc a (A.U.calling g mk a) := hblind _ _ _ _ hp.2.2
  obtain ⟨U, Ls, c0, s0⟩ := A
  dsimp only [Pt.U, Pt.locs, Pt.cells, Pt.slots] at h1 h2 h3 h4 h5 X hn hPc ⊢
  obtain ⟨methY, cY, hmY, hcY, -, hlY, -, -, -, -⟩ := Cond.code_spec hn h2
  obtain ⟨kY, hkY, -⟩ := className_of_methodNamed hn
  have hinitY : kY.init = .initialized := Cond.initialized_spec (findClass_of_methodNamed hn) hkY h3
  have h : At U g.method c below := by rw [hg]; exact X.here
  have hlocals9 : W9 + (maxL + 11) + (headSpec ws rm).room.locals ≤ R.locals := hlocals
  have happ : (headSpec ws rm).appliesLoose y e.platform (U.calling g mk a) = true :=
    Spec.appliesLoose_calling (g := g) h hdg hn hkY hinitY
      (X.room_calling (g := g) (R' := (headSpec ws rm).room) hsize hmY hcY hframes (by rw [hlY]; omega) h4 h5) h1
  obtain ⟨mid, hmid⟩ := h.above
  have hfr : (U.setTop g).frames = (.java g :: mid) ++ below := by rw [State.frames_setTop' g h.top, hmid]; rfl
  obtain ⟨o, s₂, hsteps, -, hend, hq⟩ := Steps.callFree hM p X.admits X.cas X.clock (acts := []) hfr happ hPc trivial
  have hq' : vx_Q Qc XC mc ms free a (U.calling g mk a) o s₂ := hq
  rw [State.frames_setTop' g h.top] at hend
  obtain ⟨g₀, hg0⟩ := Option.isSome_iff_exists.mp h.top
  obtain ⟨r, hr⟩ := State.topJava?_eq_some.mp hg0
  have hr' : (({ U with heap := s₂.heap, slotsUsed := s₂.slotsUsed } : State).setVm s₂.vm).frames = .java g₀ :: r := hr
  rcases hq' with ⟨hqc, L, hfe, hL⟩ | ⟨q, rfl, E, ce, L, hx, hce, hcv, hcl, hW₂, hsm, hL⟩
  · obtain ⟨⟨v, rfl⟩, hW₂, e2, q2, q3, q4, q5, q6⟩ := id hfe
    have e3 : s₂ = ({ (U.calling g mk a).setFrames s₂.frames with heap := s₂.heap, slotsUsed := s₂.slotsUsed } : State).setVm s₂.vm := by
      have : s₂ = ({ s₂ with vm := (U.calling g mk a).vm } : State).setVm s₂.vm := rfl
      rw [e2] at this
      exact this
    obtain ⟨c₂, i₂, len₂, hc₂, hd₂, hf₂⟩ := hend
    have hW' : U.WarmedH s₂.vm := hW₂
    have hcc : c₂ = c := by
      have h1 : s₂.code? g.method = U.code? g.method := by
        rw [State.code?_eq, State.code?_eq, hW'.alike.method?]
      exact Option.some.inj (hc₂.symm.trans (h1.trans h.code))
    subst hcc
    have hlen : len₂ = len := by rw [hdg] at hd₂; cases hd₂; rfl
    subst hlen
    have hs₂ : s₂ = (({ U with heap := s₂.heap, slotsUsed := s₂.slotsUsed } : State).setVm s₂.vm).setTop { g with pc := g.pc + len₂, stack := v.toList ++ g.stack } := by
      refine e3.trans ?_
      rw [hf₂, State.calling_eq h.top, State.setFrames_setFrames, State.setTop_of_frames _ hr', hr]
      rfl
    have hsame : U.sameButNew ({ U with heap := s₂.heap, slotsUsed := s₂.slotsUsed } : State) L mc ms := by
      refine ⟨?_, q2, q3, q4, q5, q6⟩
      obtain ⟨t, ht, -⟩ := State.frames_cons hr
      show ({ U with heap := s₂.heap, slotsUsed := s₂.slotsUsed } : State) = { U.setFrames U.frames with heap := s₂.heap, slotsUsed := s₂.slotsUsed }
      rw [State.setFrames_self ht]
    subst hg
    refine Or.inl ⟨v, ⟨(({ U with heap := s₂.heap, slotsUsed := s₂.slotsUsed } : State).setVm s₂.vm), Ls ++ L, c0 + mc, s0 + ms⟩,
      ⟨X.admits, X.cas, X.clock, X.frames, X.room, X.hears, X.method, X.code, (X.here.setHeapUsed s₂.heap s₂.slotsUsed).setVm hW'.alike, X.tail, State.WarmedH.trans X.warmed hW', X.limits, X.bytes, X.same.trans (hsame.setVm s.vm)⟩,
      ⟨g, mk, s₂, L, rfl, rfl, hqc, rfl, hL, rfl, rfl⟩, ?_⟩
    show Steps p.tables e below _ ((({ U with heap := s₂.heap, slotsUsed := s₂.slotsUsed } : State).setVm s₂.vm).setTop { g with pc := g.pc + len₂, stack := v.toList ++ g.stack })
    rw [← hs₂]
    exact hsteps
  · obtain ⟨e2, q2, q3, q4, q5, q6⟩ := id hsm
    have e3 : s₂ = ({ (U.calling g mk a).setFrames s₂.frames with heap := s₂.heap, slotsUsed := s₂.slotsUsed } : State).setVm s₂.vm := by
      have : s₂ = ({ s₂ with vm := (U.calling g mk a).vm } : State).setVm s₂.vm := rfl
      rw [e2] at this
      exact this
    have hf₂ : s₂.frames = .throwing q :: .java g :: U.frames.tail := hend
    have hW' : U.WarmedH s₂.vm := hW₂
    have hs₂ : s₂ = ((({ U with heap := s₂.heap, slotsUsed := s₂.slotsUsed } : State).setVm s₂.vm).setTop g).pushFrame (.throwing q) := by
      refine e3.trans ?_
      rw [hf₂, State.calling_eq h.top, State.setFrames_setFrames, State.pushFrame, State.frames_setTop _ hr', State.setTop_of_frames _ hr', State.setFrames_setFrames, hr]
      rfl
    have hsame : U.sameButNew ({ U with heap := s₂.heap, slotsUsed := s₂.slotsUsed } : State) L mc ms := by
      refine ⟨?_, q2, q3, q4, q5, q6⟩
      obtain ⟨t, ht, -⟩ := State.frames_cons hr
      show ({ U with heap := s₂.heap, slotsUsed := s₂.slotsUsed } : State) = { U.setFrames U.frames with heap := s₂.heap, slotsUsed := s₂.slotsUsed }
      rw [State.setFrames_self ht]
    subst hg
    refine Or.inr ⟨q, ⟨(({ U with heap := s₂.heap, slotsUsed := s₂.slotsUsed } : State).setVm s₂.vm), Ls ++ L, c0 + mc, s0 + ms⟩,
      ⟨X.admits, X.cas, X.clock, X.frames, X.room, X.hears, X.method, X.code, (X.here.setHeapUsed s₂.heap s₂.slotsUsed).setVm hW'.alike, X.tail, State.WarmedH.trans X.warmed hW', X.limits, X.bytes, X.same.trans (hsame.setVm s.vm)⟩,
      ⟨g, mk, s₂, L, E, ce, rfl, rfl, hx, hce, hcv, hcl, rfl, hL, rfl, rfl⟩, ?_⟩
    show Steps p.tables e below _ (((({ U with heap := s₂.heap, slotsUsed := s₂.slotsUsed } : State).setVm s₂.vm).setTop g).pushFrame (.throwing q))
    rw [← hs₂]
    exact hsteps
end Payer
section Calls
variable {p : Program} {l : Launch} {e : Env} {R : Room} {s : State} {m : MethodId} {args : Array Value} {below : List Frame} {meth : Method} {c : Code} {T : State} {locs : List Loc} {cells slots : Nat}
theorem vx_callV (X : Stand p l e R s m args below meth c T locs cells slots) (hexec : p.tables.exec = Jvm.exec) {own C : String} {index : Nat} {y : MethodName} {bytes : ByteArray} {maxL : Nat} {ret : Option FieldType}
    (hown : s.vm.findClass own = some m.cls) (hlink : (Cond.methodLink own index y).before args s = true) (hinst : (Cond.instanceMethod y).before args s = true) (hsel : (Cond.selects C y y).before args s = true)
    (hcode : (Cond.code y bytes maxL ret).before args s = true) (hy : y.cls ≠ "java/lang/invoke/MethodHandle" ∧ y.cls ≠ "java/lang/invoke/VarHandle")
    {W9 : Nat} {Pre : Pt → Array Value → Prop} {Post : Pt → Array Value → Option Value → Pt → Prop} {PostX : Pt → Array Value → Addr → Pt → Prop} (hK : vx_Back l R p e below s args y 3 W9 Pre Post PostX)
    {b : Addr} {cellB : Cell} (hcell : T.heap[b]? = some cellB) (hobj : cellB.vm.isStatics = false) (hcls : s.vm.findClass C = some cellB.cls)
    {g : JFrame} (hg : g.method = m) (hsize : g.locals.size = c.maxLocals) {argsL rest : List Value} (hlen : ∀ sig, parseMethodDescriptor y.desc = some sig → argsL.length = sig.parameters.length)
    (hstack : g.stack = argsL.reverse ++ .ref b :: rest) (hW : 2 * g.monitorRoom + (rest.map fun v => v.category).sum ≤ W9) (hdg : decode c.code g.pc = .ok (.invokevirtual index, 3))
    (hpre : ∀ vm₁, s.WarmedH vm₁ → Pre ⟨T.setVm vm₁, locs, cells, slots⟩ (Value.ref b :: argsL).toArray) :
    (∃ (v : Option Value) (vm₁ : Vm) (B : Pt), s.WarmedH vm₁ ∧ Stand p l e R s m args below meth c B.U B.locs B.cells B.slots ∧ Post ⟨T.setVm vm₁, locs, cells, slots⟩ (Value.ref b :: argsL).toArray v B ∧
      ∀ target, Steps p.tables e below (B.U.setTop { g with pc := g.pc + 3, stack := v.toList ++ rest }) target → Steps p.tables e below (T.setTop g) target) ∨
    (∃ (q : Addr) (vm₁ : Vm) (B : Pt), s.WarmedH vm₁ ∧ Stand p l e R s m args below meth c B.U B.locs B.cells B.slots ∧ PostX ⟨T.setVm vm₁, locs, cells, slots⟩ (Value.ref b :: argsL).toArray q B ∧
      Steps p.tables e below (T.setTop g) ((B.U.setTop { g with stack := rest }).pushFrame (.throwing q))) := by
  obtain ⟨mk, methM, hnamed, hmethM, hstM, habM⟩ := Cond.instanceMethod_spec hinst
  obtain ⟨methM', cM, hmethM', -, -, -, -, -, -, hsigM⟩ := Cond.code_spec hnamed hcode
  cases hmethM.symm.trans hmethM'
  obtain ⟨c2, r2, m2, q1, q2, q3, q4, kP, hkP, hkPi⟩ := Cond.selects_spec hsel
  cases hcls.symm.trans q1
  cases (State.methodFound?_of_named hnamed hy).symm.trans q2
  cases hnamed.symm.trans q3
  have hselP : selectMethod e.platform s.vm cellB.cls mk = .method mk := by rw [Launch.admits_selectMethod X.admits]; exact q4
  obtain ⟨vm₁, X₁, hstep₁⟩ := X.invokevirtual hexec hown hlink hnamed hmethM hstM hkP hkPi hy (a := b) (cell := cellB) hcell
    (fun z h => by rw [h] at hobj; cases hobj) hselP hmethM habM hkP hkPi (g := g) hg (argsL := argsL) (rest := rest) (hlen _ hsigM) hstack hdg
  rcases hK m meth c ⟨T.setVm vm₁, locs, cells, slots⟩ { g with stack := rest } (.invokevirtual index) mk (Value.ref b :: argsL).toArray X₁ hg hsize hdg hW (X₁.named hnamed) (hpre vm₁ X₁.warmed) with ⟨v, B, X', hpost, hsteps⟩ | ⟨q, B, X', hpost, hsteps⟩
  · exact Or.inl ⟨v, vm₁, B, X₁.warmed, X', hpost, fun target h => hstep₁ _ fun acts => by rw [doInvoke_state]; exact hsteps.trans h⟩
  · exact Or.inr ⟨q, vm₁, B, X₁.warmed, X', hpost, hstep₁ _ fun acts => by rw [doInvoke_state]; exact hsteps⟩
theorem vx_callS (X : Stand p l e R s m args below meth c T locs cells slots) (hexec : p.tables.exec = Jvm.exec) {own : String} {index : Nat} {y : MethodName} {bytes : ByteArray} {maxL : Nat} {ret : Option FieldType}
    (hown : s.vm.findClass own = some m.cls) (hlink : (Cond.methodLink own index y).before args s = true) (hstat : (Cond.static y).before args s = true) (hinit : (Cond.initialized y.cls).before args s = true)
    (hcode : (Cond.code y bytes maxL ret).before args s = true) (hy : y.cls ≠ "java/lang/invoke/MethodHandle" ∧ y.cls ≠ "java/lang/invoke/VarHandle")
    {W9 : Nat} {Pre : Pt → Array Value → Prop} {Post : Pt → Array Value → Option Value → Pt → Prop} {PostX : Pt → Array Value → Addr → Pt → Prop} (hK : vx_Back l R p e below s args y 3 W9 Pre Post PostX)
    {g : JFrame} (hg : g.method = m) (hsize : g.locals.size = c.maxLocals) {argsL rest : List Value} (hlen : ∀ sig, parseMethodDescriptor y.desc = some sig → argsL.length = sig.parameters.length)
    (hstack : g.stack = argsL.reverse ++ rest) (hW : 2 * g.monitorRoom + (rest.map fun v => v.category).sum ≤ W9) (hdg : decode c.code g.pc = .ok (.invokestatic index, 3))
    (hpre : ∀ vm₁, s.WarmedH vm₁ → Pre ⟨T.setVm vm₁, locs, cells, slots⟩ argsL.toArray) :
    (∃ (v : Option Value) (vm₁ : Vm) (B : Pt), s.WarmedH vm₁ ∧ Stand p l e R s m args below meth c B.U B.locs B.cells B.slots ∧ Post ⟨T.setVm vm₁, locs, cells, slots⟩ argsL.toArray v B ∧
      ∀ target, Steps p.tables e below (B.U.setTop { g with pc := g.pc + 3, stack := v.toList ++ rest }) target → Steps p.tables e below (T.setTop g) target) ∨
    (∃ (q : Addr) (vm₁ : Vm) (B : Pt), s.WarmedH vm₁ ∧ Stand p l e R s m args below meth c B.U B.locs B.cells B.slots ∧ PostX ⟨T.setVm vm₁, locs, cells, slots⟩ argsL.toArray q B ∧
      Steps p.tables e below (T.setTop g) ((B.U.setTop { g with stack := rest }).pushFrame (.throwing q))) := by
  obtain ⟨mk, hnamed⟩ := Cond.code_named hcode
  obtain ⟨methM, cM, hmethM, -, -, -, -, -, -, hsigM⟩ := Cond.code_spec hnamed hcode
  have hstatic : methM.isStatic = true := Cond.static_spec hnamed hmethM hstat
  obtain ⟨kP, hkP, -⟩ := className_of_methodNamed hnamed
  have hinitP : kP.init = .initialized := Cond.initialized_spec (findClass_of_methodNamed hnamed) hkP hinit
  obtain ⟨vm₁, X₁, hstep₁⟩ := X.invokestatic hexec hown hlink hnamed hmethM hstatic hkP hinitP hy (g := g) hg (argsL := argsL) (rest := rest) (hlen _ hsigM) hstack hdg
  rcases hK m meth c ⟨T.setVm vm₁, locs, cells, slots⟩ { g with stack := rest } (.invokestatic index) mk argsL.toArray X₁ hg hsize hdg hW (X₁.named hnamed) (hpre vm₁ X₁.warmed) with ⟨v, B, X', hpost, hsteps⟩ | ⟨q, B, X', hpost, hsteps⟩
  · exact Or.inl ⟨v, vm₁, B, X₁.warmed, X', hpost, fun target h => hstep₁ _ fun acts => by rw [doInvoke_state]; exact hsteps.trans h⟩
  · exact Or.inr ⟨q, vm₁, B, X₁.warmed, X', hpost, hstep₁ _ fun acts => by rw [doInvoke_state]; exact hsteps⟩
end Calls
theorem vx_cls {s : State} {T : State} {vm₁ : Vm} {E : String} {k : ClassId} (hW : s.WarmedH vm₁) (h : (T.setVm vm₁).vm.findClass E = some k) : s.vm.findClass E = some k := by
  have h1 : vm₁.findClass E = some k := h
  rw [hW.alike.findClass] at h1
  exact h1
/-- the method's frame g, with q thrown over it -/
def vx_W (p : Program) (l : Launch) (e : Env) (R : Room) (s : State) (m : MethodId) (args : Array Value) (below : List Frame) (meth : Method) (c : Code) (H : Heap) (locs : List Loc) (cells slots : Nat) (Q : State → Prop) (g : JFrame) (q : Addr) : Prop :=
  ∀ T : State, T.heap = H → Stand p l e R s m args below meth c T locs cells slots → ∃ t, Steps p.tables e below ((T.setTop g).pushFrame (.throwing q)) t ∧ Q t
def vx_Run (p : Program) (l : Launch) (e : Env) (R : Room) (s : State) (m : MethodId) (args : Array Value) (below : List Frame) (meth : Method) (c : Code) (H : Heap) (locs : List Loc) (cells slots mc ms : Nat) (g : JFrame) (rest : List Value) (Qa : State → Outcome → State → Prop) (XC : String → State → State → Prop) (free : Addr → Prop) : Prop :=
  ∀ T : State, T.heap = H → Stand p l e R s m args below meth c T locs cells slots →
    (∃ (v : Option Value) (st₀ t T' : State) (L : List Loc), st₀.heap = H ∧ Stand p l e R s m args below meth c T' (locs ++ L) (cells + mc) (slots + ms) ∧ (∀ q ∈ L, free q.base) ∧ T'.heap = t.heap ∧ T'.vm = t.vm ∧ Qa st₀ (.returned v) t ∧
      Goes p e below T g T' { g with pc := g.pc + 3, stack := v.toList ++ rest }) ∨
    (∃ (q : Addr) (st₀ t T' : State) (L : List Loc) (E : String) (ce : Cell), st₀.heap = H ∧ Stand p l e R s m args below meth c T' (locs ++ L) (cells + mc) (slots + ms) ∧ (∀ z ∈ L, free z.base) ∧ T'.heap = t.heap ∧ T'.vm = t.vm ∧ XC E st₀ t ∧ t.heap[q]? = some ce ∧ ce.vm = .none ∧ s.vm.findClass E = some ce.cls ∧
      Steps p.tables e below (T.setTop g) ((T'.setTop { g with stack := rest }).pushFrame (.throwing q)))
def vx_X {S : Type} (px : S → Prop) (B : String → S → State → Prop) (A : Nat → Prop) : String → State → State → Prop := fun E st t => ∃ u : S, px u ∧ B E u t ∧ va_F A st t
section Runs
variable {p : Program} {l : Launch} {e : Env} {R : Room} {s : State} {m : MethodId} {args : Array Value} {below : List Frame} {meth : Method} {c : Code} {H : Heap} {locs : List Loc} {cells slots : Nat}
variable {y : MethodName} {bytes cc : ByteArray} {maxL nL mc ms n index : Nat} {ret : Option FieldType} {ws : List Cond} {rm : Room} {Pc : Array Value → State → Prop} {Qc : Array Value → State → Outcome → State → Prop} {XC : String → State → State → Prop} {free : Addr → Prop} {Ts : List Cond} {own C : String} {b : Addr} {As rest : List Value} {g : JFrame}
theorem vx_callBack (cb : CallB R s args own index y bytes maxL ret ws rm mc ms n) (hM : vx_Met l y ws rm Pc Qc XC mc ms free) (hbl : FrameBlind Pc) : vx_Back l R p e below s args y 3 8 (PreOf R mc ms Pc) (PostOf Qc mc ms free) (vx_Post XC mc ms free) := by
  obtain ⟨hrc, hrs, hfr, hlo, hws, hcw, -, hini, -⟩ := cb
  exact vx_back (bytes := bytes) (maxL := maxL) (ret := ret) hM hbl hrc hrs hfr hlo hws hcw (fun a' U hW => word_at hW (Or.inl (by first | rfl | simp [Cond.onTables, Cond.keeps, Cond.steady])) hini)
theorem vx_runV (S : CallFix p m c cc nL s args Ts own) (hM : vx_Met l y ws rm Pc Qc XC mc ms free) (cw : CallW R s args own C index y bytes maxL ret ws rm mc ms n) (hp : PreV s H C b Pc As)
    (hg : g.method = m) (hn : As.length = n) (hsize : g.locals.size = nL) (hstack : g.stack = As.reverse ++ .ref b :: rest) (hW : 2 * g.monitorRoom + (rest.map fun v => v.category).sum ≤ 8) (hdg : decode cc g.pc = .ok (.invokevirtual index, 3)) (hf : cells + mc ≤ R.cells ∧ slots + ms ≤ R.slots) :
    vx_Run p l e R s m args below meth c H locs cells slots mc ms g rest (Qc (Value.ref b :: As).toArray) XC free := by
  have hK : vx_Back l R p e below s args y 3 8 (PreOf R mc ms Pc) (PostOf Qc mc ms free) (vx_Post XC mc ms free) := vx_callBack cw.1 hM hp.1
  obtain ⟨⟨-, -, -, -, -, -, hcode, -, hy, hlen, hl⟩, hin, hse⟩ := cw
  obtain ⟨hx, hb, hml, ho, -⟩ := S
  obtain ⟨-, ⟨cellB, hcB, hoB, hclB⟩, hPc⟩ := hp
  intro T hT X
  rcases vx_callV X hx (C := C) (bytes := bytes) (maxL := maxL) (ret := ret) ho hl hin hse hcode hy hK (by rw [hT]; exact hcB) hoB hclB hg (hsize.trans hml.symm) (argsL := As) (rest := rest) (fun sig h => hn.trans (hlen sig h)) hstack hW (by rw [hb]; exact hdg)
    (fun vm₁ hW₁ => ⟨hf.1, hf.2, hPc (T.setVm vm₁) hT hW₁⟩) with ⟨v, vm₁, ⟨U', l2, c2, s2⟩, hW₁, X', ⟨g', mk, t, L, e1, e2, hq, h1, hL, h2, h3⟩, st⟩ | ⟨q, vm₁, ⟨U', l2, c2, s2⟩, hW₁, X', ⟨g', mk, t, L, E, ce, e1, e2, hq, hce, hcv, hcl, h1, hL, h2, h3⟩, st⟩
  · dsimp only [Pt.U, Pt.locs, Pt.cells, Pt.slots] at X' e1 e2 h1 h2 h3 st
    subst h1; subst h2; subst h3
    exact Or.inl ⟨v, (T.setVm vm₁).calling g' mk (Value.ref b :: As).toArray, t, U', L, hT, X', hL, e1, e2, hq, st⟩
  · dsimp only [Pt.U, Pt.locs, Pt.cells, Pt.slots] at X' e1 e2 h1 h2 h3 st hcl
    subst h1; subst h2; subst h3
    exact Or.inr ⟨q, (T.setVm vm₁).calling g' mk (Value.ref b :: As).toArray, t, U', L, E, ce, hT, X', hL, e1, e2, hq, hce, hcv, vx_cls hW₁ hcl, st⟩
theorem vx_runS (S : CallFix p m c cc nL s args Ts own) (hM : vx_Met l y ws rm Pc Qc XC mc ms free) (cw : CallB R s args own index y bytes maxL ret ws rm mc ms n ∧ (Cond.static y).before args s = true) (hp : PreS s H Pc As)
    (hg : g.method = m) (hn : As.length = n) (hsize : g.locals.size = nL) (hstack : g.stack = As.reverse ++ rest) (hW : 2 * g.monitorRoom + (rest.map fun v => v.category).sum ≤ 8) (hdg : decode cc g.pc = .ok (.invokestatic index, 3)) (hf : cells + mc ≤ R.cells ∧ slots + ms ≤ R.slots) :
    vx_Run p l e R s m args below meth c H locs cells slots mc ms g rest (Qc As.toArray) XC free := by
  have hK : vx_Back l R p e below s args y 3 8 (PreOf R mc ms Pc) (PostOf Qc mc ms free) (vx_Post XC mc ms free) := vx_callBack cw.1 hM hp.1
  obtain ⟨⟨-, -, -, -, -, -, hcode, hini, hy, hlen, hl⟩, hstt⟩ := cw
  obtain ⟨hx, hb, hml, ho, -⟩ := S
  intro T hT X
  rcases vx_callS X hx (bytes := bytes) (maxL := maxL) (ret := ret) ho hl hstt hini hcode hy hK hg (hsize.trans hml.symm) (argsL := As) (rest := rest) (fun sig h => hn.trans (hlen sig h)) hstack hW (by rw [hb]; exact hdg)
    (fun vm₁ hW₁ => ⟨hf.1, hf.2, hp.2 (T.setVm vm₁) hT hW₁⟩) with ⟨v, vm₁, ⟨U', l2, c2, s2⟩, hW₁, X', ⟨g', mk, t, L, e1, e2, hq, h1, hL, h2, h3⟩, st⟩ | ⟨q, vm₁, ⟨U', l2, c2, s2⟩, hW₁, X', ⟨g', mk, t, L, E, ce, e1, e2, hq, hce, hcv, hcl, h1, hL, h2, h3⟩, st⟩
  · dsimp only [Pt.U, Pt.locs, Pt.cells, Pt.slots] at X' e1 e2 h1 h2 h3 st
    subst h1; subst h2; subst h3
    exact Or.inl ⟨v, (T.setVm vm₁).calling g' mk As.toArray, t, U', L, hT, X', hL, e1, e2, hq, st⟩
  · dsimp only [Pt.U, Pt.locs, Pt.cells, Pt.slots] at X' e1 e2 h1 h2 h3 st hcl
    subst h1; subst h2; subst h3
    exact Or.inr ⟨q, (T.setVm vm₁).calling g' mk As.toArray, t, U', L, E, ce, hT, X', hL, e1, e2, hq, hce, hcv, vx_cls hW₁ hcl, st⟩
end Runs
section Rows
variable {p : Program} {l : Launch} {e : Env} {R : Room} {s : State} {m : MethodId} {args : Array Value} {below : List Frame} {meth : Method} {c : Code} {H : Heap} {locs : List Loc} {cells slots : Nat} {Q : State → Prop}
variable {mc ms : Nat} {free : Addr → Prop} {A0 A1 : Nat → Prop} {H0 : Heap} {a : Array Value} {pc : Nat} {ls : Array Slot} {st0 rest : List Value}
theorem vx_keep {st₀ t T' : State} {L : List Loc} (h0 : st₀.heap = H) (e1 : T'.heap = t.heap) (hS : va_S A0 H0 H locs) (hA : ∀ q, q < H.size → A1 q → A0 q) (hf : ∀ q, free q → A0 q) (hL : ∀ q ∈ L, free q.base) (hF : va_F A1 st₀ t) :
    H.size ≤ T'.heap.size ∧ (∀ q : Nat, q < H.size → ¬ A1 q → T'.heap[q]? = H[q]?) ∧ va_S A0 H0 T'.heap (locs ++ L) := by
  obtain ⟨hz, hk⟩ := hF
  rw [h0] at hz hk
  exact ⟨by rw [e1]; exact hz, fun q h1 h2 => by rw [e1]; exact hk q h1 h2,
    ⟨Nat.le_trans hS.1 (by rw [e1]; exact hz), fun q h1 h2 => by rw [e1, hk q (Nat.lt_of_lt_of_le h1 hS.1) (fun z => h2 (hA q (Nat.lt_of_lt_of_le h1 hS.1) z))]; exact hS.2.1 q h1 h2, fun q hq => by
      rcases List.mem_append.mp hq with h | h
      · exact hS.2.2 q h
      · exact hf _ (hL q h)⟩⟩
theorem vx_calli {S SX : Type} {post : Int32 → S → Prop} {px : SX → Prop} {B : S → State → Prop} {BX : String → SX → State → Prop} {AX : Nat → Prop} (hr : vx_Run p l e R s m args below meth c H locs cells slots mc ms (F0 m pc ls st0) rest (va_Qi post B A1 a) (vx_X px BX AX) free) (hS : va_S A0 H0 H locs) (hA : ∀ q, q < H.size → A1 q → A0 q) (hf : ∀ q, free q → A0 q) (hAX : ∀ q, q < H.size → AX q → A0 q)
    (kx : ∀ (E : String) (ce : Cell) (q9 : Addr) (u : SX) (t : State) (H1 : Heap) (locs1 : List Loc), t.heap = H1 → s.vm.Alike t.vm → px u → BX E u t → H.size ≤ H1.size → (∀ q : Nat, q < H.size → ¬ AX q → H1[q]? = H[q]?) → va_S A0 H0 H1 locs1 → H1[q9]? = some ce → ce.vm = .none → s.vm.findClass E = some ce.cls → vx_W p l e R s m args below meth c H1 locs1 (cells + mc) (slots + ms) Q (F0 m pc ls rest) q9)
    (kk : ∀ (r : Int32) (u : S) (t : State) (H1 : Heap) (locs1 : List Loc), t.heap = H1 → s.vm.Alike t.vm → post r u → B u t → H.size ≤ H1.size → (∀ q : Nat, q < H.size → ¬ A1 q → H1[q]? = H[q]?) → va_S A0 H0 H1 locs1 → W p l e R s m args below meth c H1 locs1 (cells + mc) (slots + ms) Q (F0 m (pc + 3) ls (.int r :: rest))) : W p l e R s m args below meth c H locs cells slots Q (F0 m pc ls st0) := by
  intro T hT X
  rcases hr T hT X with ⟨v, st₀, t, T', L, h0, X', hL, e1, e2, ⟨⟨r, u, hv, hp, hb⟩, hF⟩, st⟩ | ⟨q, st₀, t, T', L, E, ce, h0, X', hL, e1, e2, ⟨u, hp, hb, hF⟩, hce, hcv, hcl, st⟩
  · cases hv
    obtain ⟨k1, k2, k3⟩ := vx_keep h0 e1 hS hA hf hL hF
    obtain ⟨t2, a1, b1⟩ := kk r u t T'.heap (locs ++ L) e1.symm (by rw [← e2]; exact X'.warmed.alike) hp hb k1 k2 k3 T' rfl X'
    exact ⟨t2, st t2 a1, b1⟩
  · obtain ⟨k1, k2, k3⟩ := vx_keep h0 e1 hS hAX hf hL hF
    obtain ⟨t2, a1, b1⟩ := kx E ce q u t T'.heap (locs ++ L) e1.symm (by rw [← e2]; exact X'.warmed.alike) hp hb k1 k2 k3 (by rw [e1]; exact hce) hcv hcl T' rfl X'
    exact ⟨t2, st.trans a1, b1⟩
theorem vx_calll {S SX : Type} {post : Int64 → S → Prop} {px : SX → Prop} {B : S → State → Prop} {BX : String → SX → State → Prop} {AX : Nat → Prop} (hr : vx_Run p l e R s m args below meth c H locs cells slots mc ms (F0 m pc ls st0) rest (va_Ql post B A1 a) (vx_X px BX AX) free) (hS : va_S A0 H0 H locs) (hA : ∀ q, q < H.size → A1 q → A0 q) (hf : ∀ q, free q → A0 q) (hAX : ∀ q, q < H.size → AX q → A0 q)
    (kx : ∀ (E : String) (ce : Cell) (q9 : Addr) (u : SX) (t : State) (H1 : Heap) (locs1 : List Loc), t.heap = H1 → s.vm.Alike t.vm → px u → BX E u t → H.size ≤ H1.size → (∀ q : Nat, q < H.size → ¬ AX q → H1[q]? = H[q]?) → va_S A0 H0 H1 locs1 → H1[q9]? = some ce → ce.vm = .none → s.vm.findClass E = some ce.cls → vx_W p l e R s m args below meth c H1 locs1 (cells + mc) (slots + ms) Q (F0 m pc ls rest) q9)
    (kk : ∀ (r : Int64) (u : S) (t : State) (H1 : Heap) (locs1 : List Loc), t.heap = H1 → s.vm.Alike t.vm → post r u → B u t → H.size ≤ H1.size → (∀ q : Nat, q < H.size → ¬ A1 q → H1[q]? = H[q]?) → va_S A0 H0 H1 locs1 → W p l e R s m args below meth c H1 locs1 (cells + mc) (slots + ms) Q (F0 m (pc + 3) ls (.long r :: rest))) : W p l e R s m args below meth c H locs cells slots Q (F0 m pc ls st0) := by
  intro T hT X
  rcases hr T hT X with ⟨v, st₀, t, T', L, h0, X', hL, e1, e2, ⟨⟨r, u, hv, hp, hb⟩, hF⟩, st⟩ | ⟨q, st₀, t, T', L, E, ce, h0, X', hL, e1, e2, ⟨u, hp, hb, hF⟩, hce, hcv, hcl, st⟩
  · cases hv
    obtain ⟨k1, k2, k3⟩ := vx_keep h0 e1 hS hA hf hL hF
    obtain ⟨t2, a1, b1⟩ := kk r u t T'.heap (locs ++ L) e1.symm (by rw [← e2]; exact X'.warmed.alike) hp hb k1 k2 k3 T' rfl X'
    exact ⟨t2, st t2 a1, b1⟩
  · obtain ⟨k1, k2, k3⟩ := vx_keep h0 e1 hS hAX hf hL hF
    obtain ⟨t2, a1, b1⟩ := kx E ce q u t T'.heap (locs ++ L) e1.symm (by rw [← e2]; exact X'.warmed.alike) hp hb k1 k2 k3 (by rw [e1]; exact hce) hcv hcl T' rfl X'
    exact ⟨t2, st.trans a1, b1⟩
theorem vx_callf {S SX : Type} {post : UInt32 → S → Prop} {px : SX → Prop} {B : S → State → Prop} {BX : String → SX → State → Prop} {AX : Nat → Prop} (hr : vx_Run p l e R s m args below meth c H locs cells slots mc ms (F0 m pc ls st0) rest (va_Qf post B A1 a) (vx_X px BX AX) free) (hS : va_S A0 H0 H locs) (hA : ∀ q, q < H.size → A1 q → A0 q) (hf : ∀ q, free q → A0 q) (hAX : ∀ q, q < H.size → AX q → A0 q)
    (kx : ∀ (E : String) (ce : Cell) (q9 : Addr) (u : SX) (t : State) (H1 : Heap) (locs1 : List Loc), t.heap = H1 → s.vm.Alike t.vm → px u → BX E u t → H.size ≤ H1.size → (∀ q : Nat, q < H.size → ¬ AX q → H1[q]? = H[q]?) → va_S A0 H0 H1 locs1 → H1[q9]? = some ce → ce.vm = .none → s.vm.findClass E = some ce.cls → vx_W p l e R s m args below meth c H1 locs1 (cells + mc) (slots + ms) Q (F0 m pc ls rest) q9)
    (kk : ∀ (r : UInt32) (u : S) (t : State) (H1 : Heap) (locs1 : List Loc), t.heap = H1 → s.vm.Alike t.vm → post r u → B u t → H.size ≤ H1.size → (∀ q : Nat, q < H.size → ¬ A1 q → H1[q]? = H[q]?) → va_S A0 H0 H1 locs1 → W p l e R s m args below meth c H1 locs1 (cells + mc) (slots + ms) Q (F0 m (pc + 3) ls (.float r :: rest))) : W p l e R s m args below meth c H locs cells slots Q (F0 m pc ls st0) := by
  intro T hT X
  rcases hr T hT X with ⟨v, st₀, t, T', L, h0, X', hL, e1, e2, ⟨⟨r, u, hv, hp, hb⟩, hF⟩, st⟩ | ⟨q, st₀, t, T', L, E, ce, h0, X', hL, e1, e2, ⟨u, hp, hb, hF⟩, hce, hcv, hcl, st⟩
  · cases hv
    obtain ⟨k1, k2, k3⟩ := vx_keep h0 e1 hS hA hf hL hF
    obtain ⟨t2, a1, b1⟩ := kk r u t T'.heap (locs ++ L) e1.symm (by rw [← e2]; exact X'.warmed.alike) hp hb k1 k2 k3 T' rfl X'
    exact ⟨t2, st t2 a1, b1⟩
  · obtain ⟨k1, k2, k3⟩ := vx_keep h0 e1 hS hAX hf hL hF
    obtain ⟨t2, a1, b1⟩ := kx E ce q u t T'.heap (locs ++ L) e1.symm (by rw [← e2]; exact X'.warmed.alike) hp hb k1 k2 k3 (by rw [e1]; exact hce) hcv hcl T' rfl X'
    exact ⟨t2, st.trans a1, b1⟩
theorem vx_calld {S SX : Type} {post : UInt64 → S → Prop} {px : SX → Prop} {B : S → State → Prop} {BX : String → SX → State → Prop} {AX : Nat → Prop} (hr : vx_Run p l e R s m args below meth c H locs cells slots mc ms (F0 m pc ls st0) rest (va_Qd post B A1 a) (vx_X px BX AX) free) (hS : va_S A0 H0 H locs) (hA : ∀ q, q < H.size → A1 q → A0 q) (hf : ∀ q, free q → A0 q) (hAX : ∀ q, q < H.size → AX q → A0 q)
    (kx : ∀ (E : String) (ce : Cell) (q9 : Addr) (u : SX) (t : State) (H1 : Heap) (locs1 : List Loc), t.heap = H1 → s.vm.Alike t.vm → px u → BX E u t → H.size ≤ H1.size → (∀ q : Nat, q < H.size → ¬ AX q → H1[q]? = H[q]?) → va_S A0 H0 H1 locs1 → H1[q9]? = some ce → ce.vm = .none → s.vm.findClass E = some ce.cls → vx_W p l e R s m args below meth c H1 locs1 (cells + mc) (slots + ms) Q (F0 m pc ls rest) q9)
    (kk : ∀ (r : UInt64) (u : S) (t : State) (H1 : Heap) (locs1 : List Loc), t.heap = H1 → s.vm.Alike t.vm → post r u → B u t → H.size ≤ H1.size → (∀ q : Nat, q < H.size → ¬ A1 q → H1[q]? = H[q]?) → va_S A0 H0 H1 locs1 → W p l e R s m args below meth c H1 locs1 (cells + mc) (slots + ms) Q (F0 m (pc + 3) ls (.double r :: rest))) : W p l e R s m args below meth c H locs cells slots Q (F0 m pc ls st0) := by
  intro T hT X
  rcases hr T hT X with ⟨v, st₀, t, T', L, h0, X', hL, e1, e2, ⟨⟨r, u, hv, hp, hb⟩, hF⟩, st⟩ | ⟨q, st₀, t, T', L, E, ce, h0, X', hL, e1, e2, ⟨u, hp, hb, hF⟩, hce, hcv, hcl, st⟩
  · cases hv
    obtain ⟨k1, k2, k3⟩ := vx_keep h0 e1 hS hA hf hL hF
    obtain ⟨t2, a1, b1⟩ := kk r u t T'.heap (locs ++ L) e1.symm (by rw [← e2]; exact X'.warmed.alike) hp hb k1 k2 k3 T' rfl X'
    exact ⟨t2, st t2 a1, b1⟩
  · obtain ⟨k1, k2, k3⟩ := vx_keep h0 e1 hS hAX hf hL hF
    obtain ⟨t2, a1, b1⟩ := kx E ce q u t T'.heap (locs ++ L) e1.symm (by rw [← e2]; exact X'.warmed.alike) hp hb k1 k2 k3 (by rw [e1]; exact hce) hcv hcl T' rfl X'
    exact ⟨t2, st.trans a1, b1⟩
theorem vx_callv {S SX : Type} {post : S → Prop} {px : SX → Prop} {B : S → State → Prop} {BX : String → SX → State → Prop} {AX : Nat → Prop} (hr : vx_Run p l e R s m args below meth c H locs cells slots mc ms (F0 m pc ls st0) rest (va_Qv post B A1 a) (vx_X px BX AX) free) (hS : va_S A0 H0 H locs) (hA : ∀ q, q < H.size → A1 q → A0 q) (hf : ∀ q, free q → A0 q) (hAX : ∀ q, q < H.size → AX q → A0 q)
    (kx : ∀ (E : String) (ce : Cell) (q9 : Addr) (u : SX) (t : State) (H1 : Heap) (locs1 : List Loc), t.heap = H1 → s.vm.Alike t.vm → px u → BX E u t → H.size ≤ H1.size → (∀ q : Nat, q < H.size → ¬ AX q → H1[q]? = H[q]?) → va_S A0 H0 H1 locs1 → H1[q9]? = some ce → ce.vm = .none → s.vm.findClass E = some ce.cls → vx_W p l e R s m args below meth c H1 locs1 (cells + mc) (slots + ms) Q (F0 m pc ls rest) q9)
    (kk : ∀ (u : S) (t : State) (H1 : Heap) (locs1 : List Loc), t.heap = H1 → s.vm.Alike t.vm → post u → B u t → H.size ≤ H1.size → (∀ q : Nat, q < H.size → ¬ A1 q → H1[q]? = H[q]?) → va_S A0 H0 H1 locs1 → W p l e R s m args below meth c H1 locs1 (cells + mc) (slots + ms) Q (F0 m (pc + 3) ls (rest))) : W p l e R s m args below meth c H locs cells slots Q (F0 m pc ls st0) := by
  intro T hT X
  rcases hr T hT X with ⟨v, st₀, t, T', L, h0, X', hL, e1, e2, ⟨⟨u, hv, hp, hb⟩, hF⟩, st⟩ | ⟨q, st₀, t, T', L, E, ce, h0, X', hL, e1, e2, ⟨u, hp, hb, hF⟩, hce, hcv, hcl, st⟩
  · cases hv
    obtain ⟨k1, k2, k3⟩ := vx_keep h0 e1 hS hA hf hL hF
    obtain ⟨t2, a1, b1⟩ := kk u t T'.heap (locs ++ L) e1.symm (by rw [← e2]; exact X'.warmed.alike) hp hb k1 k2 k3 T' rfl X'
    exact ⟨t2, st t2 a1, b1⟩
  · obtain ⟨k1, k2, k3⟩ := vx_keep h0 e1 hS hAX hf hL hF
    obtain ⟨t2, a1, b1⟩ := kx E ce q u t T'.heap (locs ++ L) e1.symm (by rw [← e2]; exact X'.warmed.alike) hp hb k1 k2 k3 (by rw [e1]; exact hce) hcv hcl T' rfl X'
    exact ⟨t2, st.trans a1, b1⟩
/-- caught by the row x of this method's table; the rows ahead don't take it -/
theorem vx_catch {own name : String} {E : String} {ce : Cell} {q : Addr} (hown : s.vm.findClass own = some m.cls) (pre : List ExceptionTableEntry) (x : ExceptionTableEntry) (suf : List ExceptionTableEntry) (hsplit : c.exceptionTable.toList = pre ++ x :: suf)
    (hpass : ∀ z ∈ pre, covers z pc = false ∨ (z.catchType ≠ 0 ∧ ∃ nm : String, (Cond.classLink own z.catchType nm).before args s = true ∧ va_Nc E nm s)) (hx : covers x pc = true) (h0 : x.catchType ≠ 0)
    (hlink : (Cond.classLink own x.catchType name).before args s = true) (hcast : (Cond.castable E name).before args s = true) (hcell : H[q]? = some ce) (hv : ce.vm = .none) (hcl : s.vm.findClass E = some ce.cls)
    (kk : W p l e R s m args below meth c H locs cells slots Q (F0 m x.handlerPc ls [.ref q])) : vx_W p l e R s m args below meth c H locs cells slots Q (F0 m pc ls rest) q := by
  intro T hT X
  have hpl : e.platform.magicAccessors = ({} : Platform).magicAccessors := by rw [X.admits.platform]
  obtain ⟨c3, c4, hc3, hc4, hasg⟩ := Cond.castable_spec hcast
  cases Option.some.inj (hc3.symm.trans hcl)
  obtain ⟨c5, hc5, hcl5⟩ := Cond.classLink_spec hown hlink e.platform hpl
  cases Option.some.inj (hc4.symm.trans hc5)
  obtain ⟨vm', X', st⟩ := X.thenCaughtThrough q (g := F0 m pc ls rest) rfl (Steps.refl _) (by rw [hT]; exact hcell) (by rw [hv]; rfl) (by obtain ⟨k9, h9, -⟩ := Vm.findClass_spec hcl; exact ⟨k9, h9⟩) pre x suf hsplit
    (fun z hz => by
      rcases hpass z hz with h | ⟨hz0, nm, hl1, hn1⟩
      · exact Or.inl h
      · obtain ⟨c6, hc6, hcl6⟩ := Cond.classLink_spec hown hl1 e.platform hpl
        obtain ⟨a8, b8, h1, h2, h3⟩ := hn1
        cases Option.some.inj (h1.symm.trans hcl)
        cases Option.some.inj (h2.symm.trans hc6)
        exact Or.inr ⟨hz0, _, hcl6, h3⟩) hx (Or.inr ⟨h0, c4, hcl5, hasg⟩)
  obtain ⟨t, a1, b1⟩ := kk (T.setVm vm') hT X'
  exact ⟨t, st.trans a1, b1⟩
end Rows
section Ends
variable {p : Program} {l : Launch} {e : Env} {R : Room} {s : State} {m : MethodId} {args : Array Value} {below : List Frame} {meth : Method} {c : Code} {H : Heap} {locs : List Loc} {cells slots : Nat} {Q : State → Prop}
variable {mc ms : Nat} {free : Addr → Prop} {A0 A1 : Nat → Prop} {H0 : Heap} {a : Array Value} {ls : Array Slot} {st0 rest : List Value}
variable {Qc : Array Value → State → Outcome → State → Prop} {XC : String → State → State → Prop}
/-- what a body that may throw owes at its end -/
def vx_MQ (below : List Frame) (Qc : Array Value → State → Outcome → State → Prop) (XC : String → State → State → Prop) (a : Array Value) (s : State) (mc ms : Nat) (free : Addr → Prop) : State → Prop := fun t =>
  ∃ o, t.status = .running ∧ Ended t below o ∧ vx_Q Qc XC mc ms free a s o t
theorem vx_ret {g : JFrame} {mc ms : Nat} (k : W p l e R s m args below meth c H locs cells slots (MQ below Qc args s mc ms free) g) : W p l e R s m args below meth c H locs cells slots (vx_MQ below Qc XC args s mc ms free) g := by
  intro T hT X
  obtain ⟨t, a1, o, b1, b2, b3, b4⟩ := k T hT X
  exact ⟨t, a1, o, b1, b2, Or.inl ⟨b3, b4⟩⟩
/-- not caught here: it goes on to the caller -/
theorem vx_widen {g : JFrame} {q : Addr} {k n : Nat} (h1 : cells ≤ k) (h2 : slots ≤ n) (kk : vx_W p l e R s m args below meth c H locs k n Q g q) : vx_W p l e R s m args below meth c H locs cells slots Q g q := fun T hT X => kk T hT (stand_widen X h1 h2)
theorem vx_out {pc : Nat} {E : String} {ce : Cell} {q : Addr} {mc ms : Nat} (hout : ∀ x ∈ c.exceptionTable.toList, covers x pc = false) (hlocks : meth.locks = false) (hcell : H[q]? = some ce) (hv : ce.vm = .none) (hcl : s.vm.findClass E = some ce.cls)
    (hx : ∀ t : State, t.heap = H → s.vm.Alike t.vm → XC E s t) (hf : ∀ z ∈ locs, free z.base) (hc : cells ≤ mc) (hs : slots ≤ ms) :
    vx_W p l e R s m args below meth c H locs cells slots (vx_MQ below Qc XC args s mc ms free) (F0 m pc ls rest) q := by
  intro T hT X
  obtain ⟨st1, hrun, hend, hW, hsm⟩ := X.leaveThrown q (g := F0 m pc ls rest) rfl rfl rfl hout hlocks
  have hcell9 : (T.setFrames (.throwing q :: below)).heap[q]? = some ce := by
    show T.heap[q]? = some ce
    rw [hT]; exact hcell
  exact ⟨_, st1, .threw q, hrun, hend, Or.inr ⟨q, rfl, E, ce, locs, hx _ hT hW.alike, hcell9, hv, hcl, hW, hsm.mono hc hs, hf⟩⟩
theorem vx_frame {U : State} {k n : Nat} (h : s.sameButNew ({ U with vm := s.vm } : State) locs k n) : s.heap.size ≤ U.heap.size ∧ ∀ q : Nat, q < s.heap.size → (∀ z ∈ locs, z.base ≠ q) → U.heap[q]? = s.heap[q]? := by
  obtain ⟨-, h2, -, -, -, h6⟩ := h
  refine ⟨h2, fun q hq hz => ?_⟩
  obtain ⟨c9, e1, e2, e3, e4⟩ := h6 q _ (Array.getElem?_eq_getElem hq)
  have hs : c9.slots = (s.heap[q]).slots := Array.ext_getElem? fun i => e4 i fun hm => hz _ hm rfl
  have h9 : c9 = s.heap[q] := by
    rw [hs] at e2
    exact e2
  have e5 : U.heap[q]? = some c9 := e1
  rw [e5, h9, Array.getElem?_eq_getElem hq]
/-- the words of a throw but the four that speak of the heap -/
def vx_no (w : Cond) : Bool := decide (w ≠ .isRef (.static Bundle.tN "UNASSIGNED_STACK" Bundle.steD)) && decide (w ≠ .isRef (.static Bundle.tN "SUPPRESSED_SENTINEL" Bundle.listD)) && decide (w ≠ .laysStatic Bundle.tN "UNASSIGNED_STACK" Bundle.steD) && decide (w ≠ .laysStatic Bundle.tN "SUPPRESSED_SENTINEL" Bundle.listD)
def vx_at0 (own : String) (ic : Nat) (X : String) (names : List String) : List Cond := (Bundle.ownAtoms0 own ic X names).filter vx_no
def vx_atS (own : String) (ic : Nat) (X : String) (names : List String) : List Cond := (Bundle.ownAtoms own ic X names).filter vx_no
/-- a word that the tables alone decide, or a good one -/
def vx_ot (w : Cond) : Bool := w.onTables || goodWord w
theorem vx_ot_at {args a' : Array Value} {s U : State} {w : Cond} (hW : s.WarmedH U.vm) (hvm : s.vm = U.vm) (hg : vx_ot w = true) (h : w.before args s = true) : w.before a' U = true := by
  simp only [vx_ot, Bool.or_eq_true] at hg
  rcases hg with hg | hg
  · exact va_tabs hg hvm h
  · exact word_at hW (good_of_word hg) h
/-- a list's words: the good ones out of the method's own list, the others by premises of their own -/
theorem vx_hat {args : Array Value} {s : State} {L B : List Cond} (h1 : ∀ w ∈ L.filter goodWord, w.before args s = true) (h2 : ∀ w ∈ L.filter (fun w => !goodWord w), w ∈ B) (h3 : ∀ w ∈ B, w.before args s = true) : ∀ w ∈ L, w.before args s = true := by
  intro w hw
  by_cases g : goodWord w = true
  · exact h1 w (List.mem_filter.mpr ⟨hw, g⟩)
  · refine h3 w (h2 w (List.mem_filter.mpr ⟨hw, ?_⟩))
    show (!goodWord w) = true
    cases hgw : goodWord w
    · rfl
    · exact absurd hgw g
theorem vx_c {args : Array Value} {s : State} {w : Cond} {B : List Cond} (h : w.before args s = true) (t : ∀ w ∈ B, w.before args s = true) : ∀ w' ∈ w :: B, w'.before args s = true := fun w' h' => (List.mem_cons.mp h').elim (fun e => by rw [e]; exact h) (t w')
theorem vx_n {args : Array Value} {s : State} : ∀ w ∈ ([] : List Cond), w.before args s = true := fun _ h => nomatch h
theorem vx_own {args : Array Value} {s : State} {L : List Cond} (h1 : ∀ w ∈ L.filter vx_no, w.before args s = true)
    (hU : (Cond.isRef (.static Bundle.tN "UNASSIGNED_STACK" Bundle.steD)).before args s = true) (hN : (Cond.isRef (.static Bundle.tN "SUPPRESSED_SENTINEL" Bundle.listD)).before args s = true)
    (lU : (Cond.laysStatic Bundle.tN "UNASSIGNED_STACK" Bundle.steD).before args s = true) (lN : (Cond.laysStatic Bundle.tN "SUPPRESSED_SENTINEL" Bundle.listD).before args s = true) : ∀ w ∈ L, w.before args s = true := by
  intro w hw
  by_cases e1 : w = .isRef (.static Bundle.tN "UNASSIGNED_STACK" Bundle.steD)
  · rw [e1]; exact hU
  · by_cases e2 : w = .isRef (.static Bundle.tN "SUPPRESSED_SENTINEL" Bundle.listD)
    · rw [e2]; exact hN
    · by_cases e3 : w = .laysStatic Bundle.tN "UNASSIGNED_STACK" Bundle.steD
      · rw [e3]; exact lU
      · by_cases e4 : w = .laysStatic Bundle.tN "SUPPRESSED_SENTINEL" Bundle.listD
        · rw [e4]; exact lN
        · exact h1 w (List.mem_filter.mpr ⟨hw, by unfold vx_no; rw [decide_eq_true e1, decide_eq_true e2, decide_eq_true e3, decide_eq_true e4]; rfl⟩)
/-- where a static field lies, its class's statics cell in H -/
def vx_L (C n d : String) (A : Nat → Prop) (U : State) (H : Heap) : Prop := ∃ (c : ClassId) (k : Class) (i : Nat) (f : Field) (a : Nat) (cell : Cell), U.vm.findClass C = some c ∧ U.fieldFound? C n d = some (c, k, i, f) ∧ f.isStatic = true ∧ k.statics = some a ∧ H[a]? = some cell ∧ cell.vm.isStatics = true ∧ cell.cls = c ∧ f.slot < cell.slots.size ∧ k.staticTypes[f.slot]? = some f.type ∧ ¬ A a
theorem vx_L.moved {C n d : String} {A : Nat → Prop} {u U : State} {H : Heap} (hvm : u.vm.Alike U.vm) (h : vx_L C n d A u H) : vx_L C n d A U H := by
  obtain ⟨c, k, i, f, a, cell, h1, h2, h3, h4, h5, h6, h7, h8, h9, h10⟩ := h
  obtain ⟨k', hi', he⟩ := State.fieldFound?_setVm hvm h2
  exact ⟨c, k', i, f, a, cell, by rw [hvm.findClass]; exact h1, hi', h3, by rw [he]; exact h4, h5, h6, h7, h8, by rw [he]; exact h9, h10⟩
theorem vx_L.kept {C n d : String} {A : Nat → Prop} {U : State} {H H1 : Heap} (h : vx_L C n d A U H) (hq : ∀ a : Nat, a < H.size → ¬ A a → H1[a]? = H[a]?) : vx_L C n d A U H1 := by
  obtain ⟨c, k, i, f, a, cell, h1, h2, h3, h4, h5, h6, h7, h8, h9, h10⟩ := h
  exact ⟨c, k, i, f, a, cell, h1, h2, h3, h4, by rw [hq a (Array.getElem?_eq_some_iff.mp h5).1 h10]; exact h5, h6, h7, h8, h9, h10⟩
theorem vx_L.narrow {C n d : String} {A B : Nat → Prop} {U : State} {H : Heap} (h : vx_L C n d A U H) (hAB : ∀ q, B q → A q) : vx_L C n d B U H := by
  obtain ⟨c, k, i, f, a, cell, h1, h2, h3, h4, h5, h6, h7, h8, h9, h10⟩ := h
  exact ⟨c, k, i, f, a, cell, h1, h2, h3, h4, h5, h6, h7, h8, h9, fun z => h10 (hAB _ z)⟩
theorem vx_L.word {C n d : String} {A : Nat → Prop} {s : State} {args : Array Value} (h : vx_L C n d A s s.heap) : (Cond.laysStatic C n d).before args s = true := by
  obtain ⟨c, k, i, f, a, cell, h1, h2, h3, h4, h5, h6, h7, h8, h9, -⟩ := h
  show (Cond.laysStatic C n d).holds args s none s [] = true
  exact Cond.laysStatic_of h1 h2 h3 h4 h5 h6 h7 h8 h9
/-- .. and what it holds: null or some reference -/
def vx_Zq (C n d : String) (A : Nat → Prop) (U : State) (H : Heap) : Prop := va_Zq C n d A U H ∧ vx_L C n d A U H
theorem vx_Zq.moved {C n d : String} {A : Nat → Prop} {u U : State} {H : Heap} (hvm : u.vm.Alike U.vm) (h : vx_Zq C n d A u H) : vx_Zq C n d A U H := ⟨va_Zq.moved hvm h.1, vx_L.moved hvm h.2⟩
theorem vx_Zq.kept {C n d : String} {A : Nat → Prop} {U : State} {H H1 : Heap} (h : vx_Zq C n d A U H) (hq : ∀ a : Nat, a < H.size → ¬ A a → H1[a]? = H[a]?) : vx_Zq C n d A U H1 := ⟨va_Zq.kept h.1 hq, vx_L.kept h.2 hq⟩
theorem vx_Zq.narrow {C n d : String} {A B : Nat → Prop} {U : State} {H : Heap} (h : vx_Zq C n d A U H) (hAB : ∀ q, B q → A q) : vx_Zq C n d B U H := ⟨va_Zq.narrow h.1 hAB, vx_L.narrow h.2 hAB⟩
theorem vx_Zqof {args : Array Value} {s : State} {C n d : String} {A : Nat → Prop} (hl : (Cond.laysStatic C n d).before args s = true) (hini : (Cond.initialized C).before args s = true) (h : (Cond.isRef (.static C n d)).before args s = true) (hA : ∀ a : Nat, a < s.heap.size → ¬ A a) : vx_Zq C n d A s s.heap := by
  refine ⟨va_Zqof hl hini h hA, ?_⟩
  obtain ⟨c, k, i, f, a, cell, h1, h2, h3, h4, h5, h6, h7, h8, h9⟩ := Cond.laysStatic_spec hl
  exact ⟨c, k, i, f, a, cell, h1, h2, h3, h4, h5, h6, h7, h8, h9, hA a (Array.getElem?_eq_some_iff.mp h5).1⟩
theorem vx_isRef {C n d : String} {v : Value} {A : Nat → Prop} {s : State} {args : Array Value} (h : va_Z C n d v A s s.heap) (hv : v.isRef = true) : (Cond.isRef (.static C n d)).before args s = true := by
  obtain ⟨cf, kf, fi, f, a, cell, h1, h2, h3, h4, h5, h6, h7, -⟩ := h
  have he : (Term.static C n d).eval args s none [] s = some v := by
    simp [Term.eval, State.fieldNamed?, h1, h2, h4, h5, h6, h7]
  simp only [Cond.before, Cond.holds, Cond.value, he]
  cases v <;> simp_all [Value.isRef]
theorem vx_isRefq {C n d : String} {A : Nat → Prop} {s : State} {args : Array Value} (h : va_Zq C n d A s s.heap) : (Cond.isRef (.static C n d)).before args s = true := by
  rcases h with h | ⟨t, h⟩
  · exact vx_isRef h rfl
  · exact vx_isRef h rfl
/-- the same frame, seen from here: as if the method were called anew in this heap -/
theorem vx_rebase {T : State} (X : Stand p l e R s m args below meth c T locs cells slots) {R' : Room} (hf : R'.frames ≤ R.frames) (hl : R'.locals ≤ R.locals) (hc : cells + R'.cells ≤ R.cells) (hs : slots + R'.slots ≤ R.slots) :
    Stand p l e R' ((T.setVm s.vm).setFrames (.invoking m args :: below)) m args below meth c T [] 0 0 := by
  have htop : (T.setVm s.vm).topJava?.isSome := X.here.top
  have hF : ((T.setVm s.vm).setFrames (.invoking m args :: below)).frames = .invoking m args :: below := State.frames_setFrames _ (State.cur_lt_of_top htop)
  obtain ⟨g₀, hg0⟩ := Option.isSome_iff_exists.mp htop
  obtain ⟨r, hr⟩ := State.topJava?_eq_some.mp hg0
  have hl9 : e.platform.stackLimits (T.setVm s.vm).me = e.platform.stackLimits s.me := X.limits
  have hb9 : (T.setVm s.vm).me.stackBytes = s.me.stackBytes := X.bytes
  refine ⟨X.admits, X.cas, X.clock, hF, ?_, X.hears, X.method, X.code, X.here, X.tail, X.warmed, ?_, ?_, ?_⟩
  · have h := X.room
    have hU : ((T.setVm s.vm).setFrames (.invoking m args :: below)).localsInUse = s.localsInUse := by
      rw [State.localsInUse_invoking hF (meth := meth) (c := c) X.method X.code, State.localsInUse_invoking X.frames X.method X.code]
    simp only [State.hasRoom, Bool.and_eq_true, decide_eq_true_eq] at h ⊢
    obtain ⟨⟨⟨⟨h1, h2, h3, h4, h5, h6⟩, h7⟩, h8⟩, h9⟩ := h
    rw [X.frames, List.length_cons] at h2 h3
    have q1 := X.heapSize
    have q2 := X.used
    simp only [hF, hU, List.length_cons, State.stackLimits_setFrames, State.stackBytes_setFrames, hl9, hb9]
    refine ⟨⟨⟨⟨by omega, by omega, by omega, by omega, by omega, h6⟩, ?_⟩, ?_⟩, X.book⟩
    · show T.heap.size + R'.cells ≤ e.platform.maxCells
      omega
    · show T.slotsUsed + R'.slots ≤ e.platform.maxSlots
      omega
  · rw [State.stackLimits_setFrames]; rfl
  · rw [State.stackBytes_setFrames]; rfl
  · refine ⟨?_, Nat.le_refl _, Nat.le_refl _, ?_, ?_, fun a c9 h9 => ⟨c9, h9, rfl, rfl, fun _ _ => rfl⟩⟩
    · obtain ⟨t, ht, -⟩ := State.frames_cons hr
      show T.setVm s.vm = { ((T.setVm s.vm).setFrames (.invoking m args :: below)).setFrames (T.setVm s.vm).frames with heap := T.heap, slotsUsed := T.slotsUsed }
      rw [State.setFrames_setFrames, State.setFrames_self ht]
      rfl
    · show T.slotsUsed = T.slotsUsed + ((T.heap.toList.drop T.heap.size).map (·.slots.size)).sum
      rw [List.drop_eq_nil_of_le (Nat.le_of_eq Array.length_toList)]
      rfl
    · show ((T.heap.toList.drop T.heap.size).map (·.slots.size)).sum ≤ 0
      rw [List.drop_eq_nil_of_le (Nat.le_of_eq Array.length_toList)]
      exact Nat.le_refl _
/-- 'throw new E()': new; dup; invokespecial; athrow -/
theorem vx_throw0 {cc : ByteArray} {pc : Nat} (hexec : p.tables.exec = Jvm.exec) (hb : c.code = cc) (hl : l.stackTraces = false) {own cls : String} {names : List String} {ik ic mc ms : Nat} {A : Nat → Prop}
    (hown : s.vm.findClass own = some m.cls) (hcls : Bundle.fit cls = true) (hnames : ∀ n ∈ names, Bundle.fit n = true)
    (hk : (Cond.classLink own ik cls).before args s = true) (hini : (Cond.initialized cls).before args s = true) (hat : ∀ w ∈ vx_at0 own ic cls names, w.before args s = true)
    (hgood : ∀ w ∈ Cond.classLink own ik cls :: Cond.initialized cls :: vx_at0 own ic cls names, vx_ot w = true)
    (hU : vx_Zq Bundle.tN "UNASSIGNED_STACK" Bundle.steD A s s.heap) (hN : vx_Zq Bundle.tN "SUPPRESSED_SENTINEL" Bundle.listD A s s.heap) (hS : va_S A s.heap H locs) (hsize : ls.size = c.maxLocals)
    (d0 : decode cc pc = .ok (.new ik, 3)) (d3 : decode cc (pc + 3) = .ok (.dup, 1)) (d4 : decode cc (pc + 4) = .ok (.invokespecial ic, 3)) (d7 : decode cc (pc + 7) = .ok (.athrow, 1))
    (hout : ∀ x ∈ c.exceptionTable.toList, covers x (pc + 7) = false)
    (hRframes : names.length + 3 < R.frames) (hRlocals : (rest.map fun v => v.category).sum + (13 * (names.length + 1) + 42) ≤ R.locals) (hRcells : cells + 1 ≤ R.cells) (hRslots : slots + 6 ≤ R.slots) (hlocks : meth.locks = false)
    (hx : ∀ t : State, s.vm.Alike t.vm → H.size ≤ t.heap.size → (∀ q : Nat, q < H.size → t.heap[q]? = H[q]?) → XC cls s t)
    (hf : ∀ z ∈ locs, free z.base) (hc : cells + 1 ≤ mc) (hs : slots + 6 ≤ ms) :
    W p l e R s m args below meth c H locs cells slots (vx_MQ below Qc XC args s mc ms free) (F0 m pc ls rest) := by
  intro T hT X
  have htr : e.platform.stackTraces = false := (show e.platform.stackTraces = l.stackTraces by rw [X.admits.platform]).trans hl
  have Y := vx_rebase X (R' := { frames := R.frames, locals := R.locals, cells := 1, slots := 6 }) (Nat.le_refl _) (Nat.le_refl _) hRcells hRslots
  obtain ⟨s', hA⟩ : ∃ z, z = (T.setVm s.vm).setFrames (.invoking m args :: below) := ⟨_, rfl⟩
  rw [← hA] at Y
  have hvm : s'.vm = s.vm := by rw [hA]; rfl
  have hhp : s'.heap = H := by rw [hA]; exact hT
  have hW0 : s.WarmedH s'.vm := by rw [hvm]; exact State.WarmedH.refl s
  have hat' : ∀ w ∈ vx_at0 own ic cls names, w.before args s' = true := fun w hw => vx_ot_at hW0 hvm.symm (hgood w (List.mem_cons_of_mem _ (List.mem_cons_of_mem _ hw))) (hat w hw)
  have hk' : (Cond.classLink own ik cls).before args s' = true := vx_ot_at hW0 hvm.symm (hgood _ List.mem_cons_self) hk
  have hini' : (Cond.initialized cls).before args s' = true := vx_ot_at hW0 hvm.symm (hgood _ (List.mem_cons_of_mem _ List.mem_cons_self)) hini
  have hU' : vx_Zq Bundle.tN "UNASSIGNED_STACK" Bundle.steD A s' s'.heap := by rw [hhp]; exact vx_Zq.moved hW0.alike (hU.kept hS.2.1)
  have hN' : vx_Zq Bundle.tN "SUPPRESSED_SENTINEL" Bundle.listD A s' s'.heap := by rw [hhp]; exact vx_Zq.moved hW0.alike (hN.kept hS.2.1)
  have h : ∀ w ∈ Bundle.ownAtoms0 own ic cls names, w.before args s' = true := vx_own hat' (vx_isRefq hU'.1) (vx_isRefq hN'.1) hU'.2.word hN'.2.word
  have hown' : s'.vm.findClass own = some m.cls := by rw [hvm]; exact hown
  have hins : (Cond.instantiable cls 6).before args s' = true := h _ (by simp [Bundle.ownAtoms0])
  obtain ⟨vm₁, cX, kX, hfX, hkX, -, -, X₁, st1⟩ := Y.newCold hexec (own := own) (C := cls) (index := ik) (n := 6) hown' hk' hins hini'
    (g := F0 m pc ls rest) rfl (by rw [hb]; exact d0) (Nat.le_refl _) (Nat.le_refl _)
  generalize hT1 : (T.setVm vm₁).pushCell { cls := cX, slots := kX.instanceTypes.map defaultValue, vm := .none } = T1 at X₁ st1
  have hcat : (Value.ref T.heap.size).category = 1 := rfl
  have hcellA : T1.heap[T.heap.size]? = some (freshCell cX kX) := by rw [← hT1]; exact State.heap_pushCell_size _ _
  have d3' : decode c.code (pc + 3) = .ok (.dup, 1) := by rw [hb]; exact d3
  obtain ⟨U, hsteps, hrun, hend, hW, hsame, ce, hce, hO⟩ := X₁.ctorThrow0 hexec htr (own := own) (cls := cls) (names := names) (ic := ic) hown' hcls hnames h (fun x hx => nomatch hx) hfX hkX hcellA (by rw [hhp, hT]; exact Nat.le_refl _)
    (g := { method := m, pc := pc + 4, locals := ls, stack := .ref T.heap.size :: .ref T.heap.size :: rest, locked := none }) rfl hsize rfl rfl (rest := rest) rfl
    (by rw [hb]; exact d4) (by rw [hb]; exact d7) hout hRframes (by simp only [List.map_cons, List.sum_cons, hcat]; omega) hlocks
  obtain ⟨f1, f2⟩ := vx_frame hsame
  rw [hhp] at f1 f2
  have hWs : s.WarmedH U.vm := State.WarmedH.trans hW0 hW
  have hcl : s.vm.findClass cls = some ce.cls := by
    have h9 := hO.cls
    rw [hvm] at h9
    exact h9
  have hall : s.sameButNew ({ U with vm := s.vm } : State) locs mc ms := by
    subst hA
    obtain ⟨e1, e2⟩ := hsame
    rw [State.setFrames_setFrames] at e1
    have h2 : (T.setVm s.vm).sameButNew ({ U with vm := s.vm } : State) [] (0 + 1) (0 + 6) := ⟨e1, e2⟩
    have h3 := X.same.trans h2
    rw [List.append_nil] at h3
    exact h3.mono hc hs
  refine ⟨U, ?_, .threw T.heap.size, hrun, hend, Or.inr ⟨T.heap.size, rfl, cls, ce, locs, hx U hWs.alike f1 (fun q hq => f2 q hq (fun z hz => nomatch hz)), hce, hO.vm, hcl, hWs, hall, hf⟩⟩
  refine st1 _ ?_
  show Steps p.tables e below (T1.setTop { method := m, pc := pc + 3, locals := ls, stack := .ref T.heap.size :: rest, locked := none }) _
  jvm_step X₁.here [X₁.here.top, hexec, d3', Value.category]
  exact hsteps
/-- 'throw new E("text")': new; dup; ldc; invokespecial; athrow -/
theorem vx_throwS {cc : ByteArray} {pc : Nat} (hexec : p.tables.exec = Jvm.exec) (hb : c.code = cc) (hl : l.stackTraces = false) {own cls text : String} {names : List String} {ik is ic mc ms sa : Nat} {A : Nat → Prop}
    (hown : s.vm.findClass own = some m.cls) (hcls : Bundle.fit cls = true) (hnames : ∀ n ∈ names, Bundle.fit n = true)
    (hk : (Cond.classLink own ik cls).before args s = true) (hini : (Cond.initialized cls).before args s = true) (hstr : vk_R own is text sa s) (hat : ∀ w ∈ vx_atS own ic cls names, w.before args s = true)
    (hgood : ∀ w ∈ Cond.classLink own ik cls :: Cond.initialized cls :: vx_atS own ic cls names, vx_ot w = true)
    (hU : vx_Zq Bundle.tN "UNASSIGNED_STACK" Bundle.steD A s s.heap) (hN : vx_Zq Bundle.tN "SUPPRESSED_SENTINEL" Bundle.listD A s s.heap) (hS : va_S A s.heap H locs) (hsize : ls.size = c.maxLocals)
    (d0 : decode cc pc = .ok (.new ik, 3)) (d3 : decode cc (pc + 3) = .ok (.dup, 1)) (d4 : decode cc (pc + 4) = .ok (.ldc is, 2)) (d6 : decode cc (pc + 6) = .ok (.invokespecial ic, 3)) (d9 : decode cc (pc + 9) = .ok (.athrow, 1))
    (hout : ∀ x ∈ c.exceptionTable.toList, covers x (pc + 9) = false)
    (hRframes : names.length + 3 < R.frames) (hRlocals : (rest.map fun v => v.category).sum + (13 * (names.length + 1) + 43) ≤ R.locals) (hRcells : cells + 1 ≤ R.cells) (hRslots : slots + 6 ≤ R.slots) (hlocks : meth.locks = false)
    (hx : ∀ t : State, s.vm.Alike t.vm → H.size ≤ t.heap.size → (∀ q : Nat, q < H.size → t.heap[q]? = H[q]?) → XC cls s t)
    (hf : ∀ z ∈ locs, free z.base) (hc : cells + 1 ≤ mc) (hs : slots + 6 ≤ ms) :
    W p l e R s m args below meth c H locs cells slots (vx_MQ below Qc XC args s mc ms free) (F0 m pc ls rest) := by
  intro T hT X
  have htr : e.platform.stackTraces = false := (show e.platform.stackTraces = l.stackTraces by rw [X.admits.platform]).trans hl
  have Y := vx_rebase X (R' := { frames := R.frames, locals := R.locals, cells := 1, slots := 6 }) (Nat.le_refl _) (Nat.le_refl _) hRcells hRslots
  obtain ⟨s', hA⟩ : ∃ z, z = (T.setVm s.vm).setFrames (.invoking m args :: below) := ⟨_, rfl⟩
  rw [← hA] at Y
  have hvm : s'.vm = s.vm := by rw [hA]; rfl
  have hhp : s'.heap = H := by rw [hA]; exact hT
  have hW0 : s.WarmedH s'.vm := by rw [hvm]; exact State.WarmedH.refl s
  have hat' : ∀ w ∈ vx_atS own ic cls names, w.before args s' = true := fun w hw => vx_ot_at hW0 hvm.symm (hgood w (List.mem_cons_of_mem _ (List.mem_cons_of_mem _ hw))) (hat w hw)
  have hk' : (Cond.classLink own ik cls).before args s' = true := vx_ot_at hW0 hvm.symm (hgood _ List.mem_cons_self) hk
  have hini' : (Cond.initialized cls).before args s' = true := vx_ot_at hW0 hvm.symm (hgood _ (List.mem_cons_of_mem _ List.mem_cons_self)) hini
  have hU' : vx_Zq Bundle.tN "UNASSIGNED_STACK" Bundle.steD A s' s'.heap := by rw [hhp]; exact vx_Zq.moved hW0.alike (hU.kept hS.2.1)
  have hN' : vx_Zq Bundle.tN "SUPPRESSED_SENTINEL" Bundle.listD A s' s'.heap := by rw [hhp]; exact vx_Zq.moved hW0.alike (hN.kept hS.2.1)
  have h : ∀ w ∈ Bundle.ownAtoms own ic cls names, w.before args s' = true := vx_own hat' (vx_isRefq hU'.1) (vx_isRefq hN'.1) hU'.2.word hN'.2.word
  have hown' : s'.vm.findClass own = some m.cls := by rw [hvm]; exact hown
  have hins : (Cond.instantiable cls 6).before args s' = true := h _ (by simp [Bundle.ownAtoms])
  obtain ⟨vm₁, cX, kX, hfX, hkX, -, -, X₁, st1⟩ := Y.newCold hexec (own := own) (C := cls) (index := ik) (n := 6) hown' hk' hins hini'
    (g := F0 m pc ls rest) rfl (by rw [hb]; exact d0) (Nat.le_refl _) (Nat.le_refl _)
  generalize hT1 : (T.setVm vm₁).pushCell { cls := cX, slots := kX.instanceTypes.map defaultValue, vm := .none } = T1 at X₁ st1
  have hcat : (Value.ref T.heap.size).category = 1 := rfl
  have hcellA : T1.heap[T.heap.size]? = some (freshCell cX kX) := by rw [← hT1]; exact State.heap_pushCell_size _ _
  have d3' : decode c.code (pc + 3) = .ok (.dup, 1) := by rw [hb]; exact d3
  have d4' : decode c.code (pc + 4) = .ok (.ldc is, 2) := by rw [hb]; exact d4
  have hstr' : vk_R own is text sa s' := vk_R.warm hW0 hstr
  obtain ⟨U, hsteps, hrun, hend, hW, hsame, ce, hce, hO⟩ := X₁.ctorThrowS hexec htr (own := own) (cls := cls) (names := names) (ic := ic) hown' hcls hnames h (fun x hx => nomatch hx) hfX hkX hcellA (by rw [hhp, hT]; exact Nat.le_refl _) (msg := .ref sa) rfl
    (g := { method := m, pc := pc + 6, locals := ls, stack := .ref sa :: .ref T.heap.size :: .ref T.heap.size :: rest, locked := none }) rfl hsize rfl rfl (rest := rest) rfl
    (by rw [hb]; exact d6) (by rw [hb]; exact d9) hout hRframes (by simp only [List.map_cons, List.sum_cons, hcat]; omega) hlocks
  obtain ⟨f1, f2⟩ := vx_frame hsame
  rw [hhp] at f1 f2
  have hWs : s.WarmedH U.vm := State.WarmedH.trans hW0 hW
  have hcl : s.vm.findClass cls = some ce.cls := by
    have h9 := hO.cls
    rw [hvm] at h9
    exact h9
  have hall : s.sameButNew ({ U with vm := s.vm } : State) locs mc ms := by
    subst hA
    obtain ⟨e1, e2⟩ := hsame
    rw [State.setFrames_setFrames] at e1
    have h2 : (T.setVm s.vm).sameButNew ({ U with vm := s.vm } : State) [] (0 + 1) (0 + 6) := ⟨e1, e2⟩
    have h3 := X.same.trans h2
    rw [List.append_nil] at h3
    exact h3.mono hc hs
  refine ⟨U, ?_, .threw T.heap.size, hrun, hend, Or.inr ⟨T.heap.size, rfl, cls, ce, locs, hx U hWs.alike f1 (fun q hq => f2 q hq (fun z hz => nomatch hz)), hce, hO.vm, hcl, hWs, hall, hf⟩⟩
  refine st1 _ ?_
  show Steps p.tables e below (T1.setTop { method := m, pc := pc + 3, locals := ls, stack := .ref T.heap.size :: rest, locked := none }) _
  jvm_step X₁.here [X₁.here.top, hexec, d3', Value.category]
  exact X₁.ldcString hexec (own := own) (text := text) (index := is) (a := sa) hown' hstr'.1 hstr'.2
    (g := { method := m, pc := pc + 4, locals := ls, stack := .ref T.heap.size :: .ref T.heap.size :: rest, locked := none }) rfl d4' _ hsteps
/-- 'throw new E("text")', the text by a wide index -/
theorem vx_throwSW {cc : ByteArray} {pc : Nat} (hexec : p.tables.exec = Jvm.exec) (hb : c.code = cc) (hl : l.stackTraces = false) {own cls text : String} {names : List String} {ik is ic mc ms sa : Nat} {A : Nat → Prop}
    (hown : s.vm.findClass own = some m.cls) (hcls : Bundle.fit cls = true) (hnames : ∀ n ∈ names, Bundle.fit n = true)
    (hk : (Cond.classLink own ik cls).before args s = true) (hini : (Cond.initialized cls).before args s = true) (hstr : vk_R own is text sa s) (hat : ∀ w ∈ vx_atS own ic cls names, w.before args s = true)
    (hgood : ∀ w ∈ Cond.classLink own ik cls :: Cond.initialized cls :: vx_atS own ic cls names, vx_ot w = true)
    (hU : vx_Zq Bundle.tN "UNASSIGNED_STACK" Bundle.steD A s s.heap) (hN : vx_Zq Bundle.tN "SUPPRESSED_SENTINEL" Bundle.listD A s s.heap) (hS : va_S A s.heap H locs) (hsize : ls.size = c.maxLocals)
    (d0 : decode cc pc = .ok (.new ik, 3)) (d3 : decode cc (pc + 3) = .ok (.dup, 1)) (d4 : decode cc (pc + 4) = .ok (.ldc_w is, 3)) (d7 : decode cc (pc + 7) = .ok (.invokespecial ic, 3)) (d10 : decode cc (pc + 10) = .ok (.athrow, 1))
    (hout : ∀ x ∈ c.exceptionTable.toList, covers x (pc + 10) = false)
    (hRframes : names.length + 3 < R.frames) (hRlocals : (rest.map fun v => v.category).sum + (13 * (names.length + 1) + 43) ≤ R.locals) (hRcells : cells + 1 ≤ R.cells) (hRslots : slots + 6 ≤ R.slots) (hlocks : meth.locks = false)
    (hx : ∀ t : State, s.vm.Alike t.vm → H.size ≤ t.heap.size → (∀ q : Nat, q < H.size → t.heap[q]? = H[q]?) → XC cls s t)
    (hf : ∀ z ∈ locs, free z.base) (hc : cells + 1 ≤ mc) (hs : slots + 6 ≤ ms) :
    W p l e R s m args below meth c H locs cells slots (vx_MQ below Qc XC args s mc ms free) (F0 m pc ls rest) := by
  intro T hT X
  have htr : e.platform.stackTraces = false := (show e.platform.stackTraces = l.stackTraces by rw [X.admits.platform]).trans hl
  have Y := vx_rebase X (R' := { frames := R.frames, locals := R.locals, cells := 1, slots := 6 }) (Nat.le_refl _) (Nat.le_refl _) hRcells hRslots
  obtain ⟨s', hA⟩ : ∃ z, z = (T.setVm s.vm).setFrames (.invoking m args :: below) := ⟨_, rfl⟩
  rw [← hA] at Y
  have hvm : s'.vm = s.vm := by rw [hA]; rfl
  have hhp : s'.heap = H := by rw [hA]; exact hT
  have hW0 : s.WarmedH s'.vm := by rw [hvm]; exact State.WarmedH.refl s
  have hat' : ∀ w ∈ vx_atS own ic cls names, w.before args s' = true := fun w hw => vx_ot_at hW0 hvm.symm (hgood w (List.mem_cons_of_mem _ (List.mem_cons_of_mem _ hw))) (hat w hw)
  have hk' : (Cond.classLink own ik cls).before args s' = true := vx_ot_at hW0 hvm.symm (hgood _ List.mem_cons_self) hk
  have hini' : (Cond.initialized cls).before args s' = true := vx_ot_at hW0 hvm.symm (hgood _ (List.mem_cons_of_mem _ List.mem_cons_self)) hini
  have hU' : vx_Zq Bundle.tN "UNASSIGNED_STACK" Bundle.steD A s' s'.heap := by rw [hhp]; exact vx_Zq.moved hW0.alike (hU.kept hS.2.1)
  have hN' : vx_Zq Bundle.tN "SUPPRESSED_SENTINEL" Bundle.listD A s' s'.heap := by rw [hhp]; exact vx_Zq.moved hW0.alike (hN.kept hS.2.1)
  have h : ∀ w ∈ Bundle.ownAtoms own ic cls names, w.before args s' = true := vx_own hat' (vx_isRefq hU'.1) (vx_isRefq hN'.1) hU'.2.word hN'.2.word
  have hown' : s'.vm.findClass own = some m.cls := by rw [hvm]; exact hown
  have hins : (Cond.instantiable cls 6).before args s' = true := h _ (by simp [Bundle.ownAtoms])
  obtain ⟨vm₁, cX, kX, hfX, hkX, -, -, X₁, st1⟩ := Y.newCold hexec (own := own) (C := cls) (index := ik) (n := 6) hown' hk' hins hini'
    (g := F0 m pc ls rest) rfl (by rw [hb]; exact d0) (Nat.le_refl _) (Nat.le_refl _)
  generalize hT1 : (T.setVm vm₁).pushCell { cls := cX, slots := kX.instanceTypes.map defaultValue, vm := .none } = T1 at X₁ st1
  have hcat : (Value.ref T.heap.size).category = 1 := rfl
  have hcellA : T1.heap[T.heap.size]? = some (freshCell cX kX) := by rw [← hT1]; exact State.heap_pushCell_size _ _
  have d3' : decode c.code (pc + 3) = .ok (.dup, 1) := by rw [hb]; exact d3
  have d4' : decode c.code (pc + 4) = .ok (.ldc_w is, 3) := by rw [hb]; exact d4
  have hstr' : vk_R own is text sa s' := vk_R.warm hW0 hstr
  obtain ⟨U, hsteps, hrun, hend, hW, hsame, ce, hce, hO⟩ := X₁.ctorThrowS hexec htr (own := own) (cls := cls) (names := names) (ic := ic) hown' hcls hnames h (fun x hx => nomatch hx) hfX hkX hcellA (by rw [hhp, hT]; exact Nat.le_refl _) (msg := .ref sa) rfl
    (g := { method := m, pc := pc + 7, locals := ls, stack := .ref sa :: .ref T.heap.size :: .ref T.heap.size :: rest, locked := none }) rfl hsize rfl rfl (rest := rest) rfl
    (by rw [hb]; exact d7) (by rw [hb]; exact d10) hout hRframes (by simp only [List.map_cons, List.sum_cons, hcat]; omega) hlocks
  obtain ⟨f1, f2⟩ := vx_frame hsame
  rw [hhp] at f1 f2
  have hWs : s.WarmedH U.vm := State.WarmedH.trans hW0 hW
  have hcl : s.vm.findClass cls = some ce.cls := by
    have h9 := hO.cls
    rw [hvm] at h9
    exact h9
  have hall : s.sameButNew ({ U with vm := s.vm } : State) locs mc ms := by
    subst hA
    obtain ⟨e1, e2⟩ := hsame
    rw [State.setFrames_setFrames] at e1
    have h2 : (T.setVm s.vm).sameButNew ({ U with vm := s.vm } : State) [] (0 + 1) (0 + 6) := ⟨e1, e2⟩
    have h3 := X.same.trans h2
    rw [List.append_nil] at h3
    exact h3.mono hc hs
  refine ⟨U, ?_, .threw T.heap.size, hrun, hend, Or.inr ⟨T.heap.size, rfl, cls, ce, locs, hx U hWs.alike f1 (fun q hq => f2 q hq (fun z hz => nomatch hz)), hce, hO.vm, hcl, hWs, hall, hf⟩⟩
  refine st1 _ ?_
  show Steps p.tables e below (T1.setTop { method := m, pc := pc + 3, locals := ls, stack := .ref T.heap.size :: rest, locked := none }) _
  jvm_step X₁.here [X₁.here.top, hexec, d3', Value.category]
  exact X₁.ldcStringW hexec (own := own) (text := text) (index := is) (a := sa) hown' hstr'.1 hstr'.2
    (g := { method := m, pc := pc + 4, locals := ls, stack := .ref T.heap.size :: .ref T.heap.size :: rest, locked := none }) rfl d4' _ hsteps
end Ends
section Bodies
variable {l : Launch}
theorem vx_ofW {y : MethodName} {ws ws' : List Cond} {rm : Room} {Pc : Array Value → State → Prop} {Qc : Array Value → State → Outcome → State → Prop} {XC : String → State → State → Prop} {mc ms : Nat} {free : Addr → Prop} {cc : ByteArray} {maxL : Nat} {ret : Option FieldType}
    (hy : plainName y.cls = true) (hw : ws = Cond.code y cc maxL ret :: ws')
    (body : ∀ p e s m args below meth c s₁, BodyLoose p l y (headSpec ws rm) cc maxL ret e s m args below meth c s₁ → c.maxLocals = maxL → (∀ x ∈ c.exceptionTable.toList, False) → Pc args s →
      W p l e (headSpec ws rm).room s m args below meth c s.heap [] 0 0 (vx_MQ below Qc XC args s mc ms free) (entryFrame m args maxL)) : vx_Met l y ws rm Pc Qc XC mc ms free := by
  refine MetFree.of_bodyS (code := cc) (maxLocals := maxL) (ret := ret) hy ?_ ?_
  · intro args s m h hn
    obtain ⟨meth, c, h1, h2, h3, h4, h5, h6, -, -⟩ := Cond.code_spec hn (atoms_spec (ws := ws) h _ (by rw [hw]; exact List.mem_cons_self))
    exact ⟨meth, c, h1, h2, h3, h4, h5, h6⟩
  · intro p e s m args below meth c s₁ B hml hP _
    have hh0 : s₁.heap = s.heap := by rw [B.state]; rfl
    have ht : ∀ x ∈ c.exceptionTable.toList, False := by
      obtain ⟨meth9, c9, h1, h2, -, -, -, -, h7, -⟩ := Cond.code_spec B.named (atoms_spec (ws := ws) B.pre _ (by rw [hw]; exact List.mem_cons_self))
      cases Option.some.inj (h1.symm.trans B.method)
      cases Option.some.inj (h2.symm.trans (Stand.of_body B).code)
      intro x hx
      rw [Array.isEmpty_iff.mp h7] at hx
      cases hx
    obtain ⟨t, a1, o, b1, b2, b3⟩ := body p e s m args below meth c s₁ B hml ht hP s₁ hh0 (Stand.of_body B)
    exact ⟨t, o, a1, b1, b2, b3⟩
/-- the table of a body with handlers -/
theorem vx_table {p : Program} {x y : MethodName} {S : Spec} {cc bytes : ByteArray} {maxL maxL' : Nat} {ret ret' : Option FieldType} {e : Env} {s s₁ : State} {m : MethodId} {args : Array Value} {below : List Frame} {meth : Method} {c : Code} {hh : List (Nat × Nat × Nat × Nat)}
    (B : BodyLoose p l y S cc maxL ret e s m args below meth c s₁) (h : (Cond.codeWith y bytes maxL' ret' hh).before args s = true) : c.exceptionTable.toList = tableOf hh := by
  obtain ⟨m9, meth9, c9, hn9, h1, h2, -, -, h6, -⟩ := Cond.codeWith_spec h
  cases Option.some.inj (hn9.symm.trans B.named)
  cases Option.some.inj (h1.symm.trans B.method)
  cases Option.some.inj (h2.symm.trans (Stand.of_body B).code)
  rw [← h6, table_eq]
end Bodies
end VXA
/-! ===== END ===== -/
/-! ===== BEGIN a static call of a method with an exception table ===== -/
section VXS
variable {p : Program} {l : Launch} {e : Env} {R : Room} {s : State} {m : MethodId} {args : Array Value} {below : List Frame} {meth : Method} {c : Code} {T : State} {H : Heap} {locs : List Loc} {cells slots : Nat}
abbrev vx_CSW (R : Room) (s : State) (args : Array Value) (own : String) (index : Nat) (y : MethodName) (bytes : ByteArray) (maxL : Nat) (ret : Option FieldType) (hh : List (Nat × Nat × Nat × Nat)) (ws : List Cond) (rm : Room) (mc ms n : Nat) : Prop :=
  (rm.cells = mc ∧ rm.slots = ms ∧ rm.frames + 1 ≤ R.frames ∧ 8 + (maxL + 11) + rm.locals ≤ R.locals ∧ (∀ w ∈ ws, ∀ (a' : Array Value) (U : State), s.WarmedH U.vm → w.before a' U = true) ∧ Cond.codeWith y bytes maxL ret hh ∈ ws) ∧
  (Cond.codeWith y bytes maxL ret hh).before args s = true ∧ (Cond.initialized y.cls).before args s = true ∧ (y.cls ≠ "java/lang/invoke/MethodHandle" ∧ y.cls ≠ "java/lang/invoke/VarHandle") ∧
  (∀ sig, parseMethodDescriptor y.desc = some sig → n = sig.parameters.length) ∧ (Cond.methodLink own index y).before args s = true ∧ (Cond.static y).before args s = true
theorem vx_cwSW {own : String} {index maxL mc ms : Nat} {y : MethodName} {bytes : ByteArray} {ret : Option FieldType} {hh : List (Nat × Nat × Nat × Nat)} {Ts ws ws' : List Cond} {rm : Room} (n : Nat) (ht : ∀ w ∈ Ts, w.before args s = true) (hT : GoodIn Ts (va_wsS own index y ws)) (hw : ws = Cond.codeWith y bytes maxL ret hh :: ws') (hrc : rm.cells = mc) (hrs : rm.slots = ms)
    (hd : y.cls ≠ "java/lang/invoke/MethodHandle" ∧ y.cls ≠ "java/lang/invoke/VarHandle" ∧ (parseMethodDescriptor y.desc).map (fun d => d.parameters.length) = some n) (hR : rm.frames + 1 ≤ R.frames ∧ 8 + (maxL + 11) + rm.locals ≤ R.locals) :
    vx_CSW R s args own index y bytes maxL ret hh ws rm mc ms n := by
  have ok : ∀ w ∈ va_wsS own index y ws, w.before args s = true := fun w h => ht w (hT w h).1
  have hG : GoodIn Ts ws := fun w h => hT w (by unfold va_wsS; exact List.mem_append_right _ h)
  have hc : Cond.codeWith y bytes maxL ret hh ∈ ws := by rw [hw]; exact List.mem_cons_self
  refine ⟨⟨hrc, hrs, hR.1, hR.2, pay_in ht hG, hc⟩, ht _ (hG _ hc).1, ok _ (by simp [va_wsS]), ⟨hd.1, hd.2.1⟩, fun sig h => ?_, ok _ (by simp [va_wsS]), ok _ (by simp [va_wsS])⟩
  have h2 := hd.2.2
  rw [h] at h2
  exact (Option.some.inj h2).symm
theorem vx_callSW (X : Stand p l e R s m args below meth c T locs cells slots) (hexec : p.tables.exec = Jvm.exec) {own : String} {index : Nat} {y : MethodName} {bytes : ByteArray} {maxL : Nat} {ret : Option FieldType} {hh : List (Nat × Nat × Nat × Nat)}
    (hown : s.vm.findClass own = some m.cls) (hlink : (Cond.methodLink own index y).before args s = true) (hstat : (Cond.static y).before args s = true) (hinit : (Cond.initialized y.cls).before args s = true)
    (hcode : (Cond.codeWith y bytes maxL ret hh).before args s = true) (hy : y.cls ≠ "java/lang/invoke/MethodHandle" ∧ y.cls ≠ "java/lang/invoke/VarHandle")
    {W9 : Nat} {Pre : Pt → Array Value → Prop} {Post : Pt → Array Value → Option Value → Pt → Prop} (hK : Back l R p e below s args y 3 W9 Pre Post)
    {g : JFrame} (hg : g.method = m) (hsize : g.locals.size = c.maxLocals) {argsL rest : List Value} (hlen : ∀ sig, parseMethodDescriptor y.desc = some sig → argsL.length = sig.parameters.length)
    (hstack : g.stack = argsL.reverse ++ rest) (hW : 2 * g.monitorRoom + (rest.map fun v => v.category).sum ≤ W9) (hdg : decode c.code g.pc = .ok (.invokestatic index, 3))
    (hpre : ∀ vm₁, s.WarmedH vm₁ → Pre ⟨T.setVm vm₁, locs, cells, slots⟩ argsL.toArray) :
    ∃ (v : Option Value) (vm₁ : Vm) (B : Pt), s.WarmedH vm₁ ∧ Stand p l e R s m args below meth c B.U B.locs B.cells B.slots ∧ Post ⟨T.setVm vm₁, locs, cells, slots⟩ argsL.toArray v B ∧
      ∀ target, Steps p.tables e below (B.U.setTop { g with pc := g.pc + 3, stack := v.toList ++ rest }) target → Steps p.tables e below (T.setTop g) target := by
  obtain ⟨mk, methM, cM, hnamed, hmethM, -, -, -, -, -, -, hsigM⟩ := Cond.codeWith_spec hcode
  have hstatic : methM.isStatic = true := Cond.static_spec hnamed hmethM hstat
  obtain ⟨kP, hkP, -⟩ := className_of_methodNamed hnamed
  have hinitP : kP.init = .initialized := Cond.initialized_spec (findClass_of_methodNamed hnamed) hkP hinit
  obtain ⟨vm₁, X₁, hstep₁⟩ := X.invokestatic hexec hown hlink hnamed hmethM hstatic hkP hinitP hy (g := g) hg (argsL := argsL) (rest := rest) (hlen _ hsigM) hstack hdg
  obtain ⟨v, B, X', hpost, hsteps⟩ := hK m meth c ⟨T.setVm vm₁, locs, cells, slots⟩ { g with stack := rest } (.invokestatic index) mk argsL.toArray X₁ hg hsize hdg hW (X₁.named hnamed) (hpre vm₁ X₁.warmed)
  exact ⟨v, vm₁, B, X₁.warmed, X', hpost, fun target h => hstep₁ _ fun acts => by rw [doInvoke_state]; exact hsteps.trans h⟩
theorem vx_runSW {y : MethodName} {bytes cc : ByteArray} {maxL nL mc ms n index : Nat} {ret : Option FieldType} {hh : List (Nat × Nat × Nat × Nat)} {ws : List Cond} {rm : Room} {Pc : Array Value → State → Prop} {Qc : Array Value → State → Outcome → State → Prop} {free : Addr → Prop} {Ts : List Cond} {own : String} {As rest : List Value} {g : JFrame}
    (S : CallFix p m c cc nL s args Ts own) (hM : Met l y ws rm Pc Qc mc ms free) (cw : vx_CSW R s args own index y bytes maxL ret hh ws rm mc ms n) (hp : PreS s H Pc As)
    (hg : g.method = m) (hn : As.length = n) (hsize : g.locals.size = nL) (hstack : g.stack = As.reverse ++ rest) (hW : 2 * g.monitorRoom + (rest.map fun v => v.category).sum ≤ 8) (hdg : decode cc g.pc = .ok (.invokestatic index, 3)) (hf : cells + mc ≤ R.cells ∧ slots + ms ≤ R.slots) :
    va_Run p l e R s m args below meth c H locs cells slots mc ms g rest (Qc As.toArray) (free) := by
  obtain ⟨⟨hrc, hrs, hfr, hlo, hws, hcw⟩, hcode, hini, hy, hlen, hl, hstt⟩ := cw
  have hK : Back l R p e below s args y 3 8 (PreOf R mc ms Pc) (PostOf Qc mc ms free) := va_backW (hh := hh) (bytes := bytes) (maxL := maxL) (ret := ret) hM hp.1 hrc hrs hfr hlo hws hcw (fun a' U hW => word_at hW (Or.inl (by first | rfl | simp [Cond.onTables, Cond.keeps, Cond.steady])) hini)
  obtain ⟨hx, hb, hml, ho, -⟩ := S
  intro T hT X
  obtain ⟨v, vm₁, ⟨U', l2, c2, s2⟩, hW₁, X', ⟨g', mk, t, L, e1, e2, hq, h1, hL, h2, h3⟩, st⟩ := vx_callSW X hx (hh := hh) (bytes := bytes) (maxL := maxL) (ret := ret) ho hl hstt hini hcode hy hK hg (hsize.trans hml.symm) (argsL := As) (rest := rest) (fun sig h => hn.trans (hlen sig h)) hstack hW (by rw [hb]; exact hdg)
    (fun vm₁ hW₁ => ⟨hf.1, hf.2, hp.2 (T.setVm vm₁) hT hW₁⟩)
  dsimp only [Pt.U, Pt.locs, Pt.cells, Pt.slots] at X' e1 e2 h1 h2 h3 st
  subst h1; subst h2; subst h3
  exact ⟨v, (T.setVm vm₁).calling g' mk As.toArray, t, U', L, hT, X', hL, e1, e2, hq, st⟩
/-- not caught here, past rows that name other classes: it goes on to the caller -/
theorem vx_outP {p : Program} {l : Launch} {e : Env} {R : Room} {s : State} {m : MethodId} {args : Array Value} {below : List Frame} {meth : Method} {c : Code} {H : Heap} {locs : List Loc} {cells slots : Nat} {free : Addr → Prop} {ls : Array Slot} {rest : List Value} {Qc : Array Value → State → Outcome → State → Prop} {XC : String → State → State → Prop}
    {pc : Nat} {own E : String} {ce : Cell} {q : Addr} {mc ms : Nat} (hown : s.vm.findClass own = some m.cls) (hlocks : meth.locks = false)
    (hpass : ∀ z ∈ c.exceptionTable.toList, covers z pc = false ∨ (z.catchType ≠ 0 ∧ ∃ nm : String, (Cond.classLink own z.catchType nm).before args s = true ∧ va_Nc E nm s)) (hcell : H[q]? = some ce) (hv : ce.vm = .none) (hcl : s.vm.findClass E = some ce.cls)
    (hx : ∀ t : State, t.heap = H → s.vm.Alike t.vm → XC E s t) (hf : ∀ z ∈ locs, free z.base) (hc : cells ≤ mc) (hs : slots ≤ ms) :
    vx_W p l e R s m args below meth c H locs cells slots (vx_MQ below Qc XC args s mc ms free) (F0 m pc ls rest) q := by
  intro T hT X
  have hpl : e.platform.magicAccessors = ({} : Platform).magicAccessors := by rw [X.admits.platform]
  obtain ⟨vm', hW', X', st⟩ := X.outThrough hlocks q (g := F0 m pc ls rest) rfl rfl rfl (cell := ce) (by rw [hT]; exact hcell) (by rw [hv]; rfl)
    (by obtain ⟨k9, h9, -⟩ := Vm.findClass_spec hcl; exact ⟨k9, h9⟩) (fun z hz => by
      rcases hpass z hz with h | ⟨hz0, nm, hl1, hn1⟩
      · exact Or.inl h
      · obtain ⟨c6, hc6, hcl6⟩ := Cond.classLink_spec hown hl1 e.platform hpl
        obtain ⟨a8, b8, h1, h2, h3⟩ := hn1
        cases Option.some.inj (h1.symm.trans hcl)
        cases Option.some.inj (h2.symm.trans hc6)
        exact Or.inr ⟨hz0, _, hcl6, h3⟩)
  obtain ⟨g₀, hfr⟩ := X'.frames_eq
  have hcell9 : ((T.setVm vm').setFrames (.throwing q :: below)).heap[q]? = some ce := by
    show T.heap[q]? = some ce
    rw [hT]; exact hcell
  have hend : Ended ((T.setVm vm').setFrames (.throwing q :: below)) below (.threw q) := State.frames_setFrames _ (State.cur_lt_of_frames hfr)
  refine ⟨(T.setVm vm').setFrames (.throwing q :: below), ?_, .threw q, X'.here.running, hend, Or.inr ⟨q, rfl, E, ce, locs, hx _ hT (X'.ends _).1.alike, hcell9, hv, hcl, (X'.ends _).1, (X'.ends _).2.mono hc hs, hf⟩⟩
  rw [X.pushThrowing_eq]
  exact st
/-- a thing of a world lies in the heap -/
theorem vx_lt {D : va_G} {cl : List vw_C} {ws : va_W} {H1 : Heap} (h : va_P D cl ws H1) {k : Nat} {q : Nat × va_E} (hk : ws[k]? = some q) : q.1 < H1.size := (h k q hk).lt
end VXS
/-! ===== END ===== -/
/-! ===== BEGIN methods with a table of their own: called by a name, returning or throwing ===== -/
section VXH
/-! vx_backW, vx_callVX, vx_callSX, vx_callVW, vx_runVW, vx_runVX, vx_runSX, vx_ofWH follow the same proofs as their sisters above (Free/Laws.lean, Shelf42/LK1.lean); vx_outP calls Shelf42/NT130.lean (outThrough). -/
section
variable {l : Launch} {R : Room} {p : Program} {e : Env} {below : List Frame} {s : State} {sargs : Array Value} {y : MethodName} {len W9 : Nat}
theorem vx_backW {ws : List Cond} {rm : Room} {Pc : Array Value → State → Prop} {Qc : Array Value → State → Outcome → State → Prop} {XC : String → State → State → Prop} {mc ms : Nat} {free : Addr → Prop} {bytes : ByteArray} {maxL : Nat} {ret : Option FieldType} {hh : List (Nat × Nat × Nat × Nat)}
    (hM : vx_Met l y ws rm Pc Qc XC mc ms free) (hblind : FrameBlind Pc) (hrc : rm.cells = mc) (hrs : rm.slots = ms)
    (hframes : rm.frames + 1 ≤ R.frames) (hlocals : W9 + (maxL + 11) + rm.locals ≤ R.locals)
    (hws : ∀ w ∈ ws, ∀ a' U, s.WarmedH U.vm → w.before a' U = true) (hcode : Cond.codeWith y bytes maxL ret hh ∈ ws) (hinit : ∀ a' U, s.WarmedH U.vm → (Cond.initialized y.cls).before a' U = true) :
    vx_Back l R p e below s sargs y len W9 (PreOf R mc ms Pc) (PostOf Qc mc ms free) (vx_Post XC mc ms free) := by
  intro m meth c A g ig mk a X hg hsize hdg hW hn hp
  have h1 : (headSpec ws rm).pre.before a A.U = true := atoms_intro fun w hw => hws w hw _ _ X.warmed
  have h2 : (Cond.codeWith y bytes maxL ret hh).before a A.U = true := hws _ hcode _ _ X.warmed
  have h3 : (Cond.initialized y.cls).before a A.U = true := hinit _ _ X.warmed
  have h4 : A.cells + (headSpec ws rm).room.cells ≤ R.cells := by rw [show (headSpec ws rm).room.cells = mc from hrc]; exact hp.1
  have h5 : A.slots + (headSpec ws rm).room.slots ≤ R.slots := by rw [show (headSpec ws rm).room.slots = ms from hrs]; exact hp.2.1
  have hPc : Pc a (A.U.calling g mk a) := hblind _ _ _ _ hp.2.2
  obtain ⟨U, Ls, c0, s0⟩ := A
  dsimp only [Pt.U, Pt.locs, Pt.cells, Pt.slots] at h1 h2 h3 h4 h5 X hn hPc ⊢
  obtain ⟨m9, methY, cY, hn9, hmY, hcY, -, hlY, -⟩ := Cond.codeWith_spec h2
  cases Option.some.inj (hn9.symm.trans hn)
  obtain ⟨kY, hkY, -⟩ := className_of_methodNamed hn
  have hinitY : kY.init = .initialized := Cond.initialized_spec (findClass_of_methodNamed hn) hkY h3
  have h : At U g.method c below := by rw [hg]; exact X.here
  have hlocals9 : W9 + (maxL + 11) + (headSpec ws rm).room.locals ≤ R.locals := hlocals
  have happ : (headSpec ws rm).appliesLoose y e.platform (U.calling g mk a) = true :=
    Spec.appliesLoose_calling (g := g) h hdg hn hkY hinitY
      (X.room_calling (g := g) (R' := (headSpec ws rm).room) hsize hmY hcY hframes (by rw [hlY]; omega) h4 h5) h1
  obtain ⟨mid, hmid⟩ := h.above
  have hfr : (U.setTop g).frames = (.java g :: mid) ++ below := by rw [State.frames_setTop' g h.top, hmid]; rfl
  obtain ⟨o, s₂, hsteps, -, hend, hq⟩ := Steps.callFree hM p X.admits X.cas X.clock (acts := []) hfr happ hPc trivial
  have hq' : vx_Q Qc XC mc ms free a (U.calling g mk a) o s₂ := hq
  rw [State.frames_setTop' g h.top] at hend
  obtain ⟨g₀, hg0⟩ := Option.isSome_iff_exists.mp h.top
  obtain ⟨r, hr⟩ := State.topJava?_eq_some.mp hg0
  have hr' : (({ U with heap := s₂.heap, slotsUsed := s₂.slotsUsed } : State).setVm s₂.vm).frames = .java g₀ :: r := hr
  rcases hq' with ⟨hqc, L, hfe, hL⟩ | ⟨q, rfl, E, ce, L, hx, hce, hcv, hcl, hW₂, hsm, hL⟩
  · obtain ⟨⟨v, rfl⟩, hW₂, e2, q2, q3, q4, q5, q6⟩ := id hfe
    have e3 : s₂ = ({ (U.calling g mk a).setFrames s₂.frames with heap := s₂.heap, slotsUsed := s₂.slotsUsed } : State).setVm s₂.vm := by
      have : s₂ = ({ s₂ with vm := (U.calling g mk a).vm } : State).setVm s₂.vm := rfl
      rw [e2] at this
      exact this
    obtain ⟨c₂, i₂, len₂, hc₂, hd₂, hf₂⟩ := hend
    have hW' : U.WarmedH s₂.vm := hW₂
    have hcc : c₂ = c := by
      have h1 : s₂.code? g.method = U.code? g.method := by
        rw [State.code?_eq, State.code?_eq, hW'.alike.method?]
      exact Option.some.inj (hc₂.symm.trans (h1.trans h.code))
    subst hcc
    have hlen : len₂ = len := by rw [hdg] at hd₂; cases hd₂; rfl
    subst hlen
    have hs₂ : s₂ = (({ U with heap := s₂.heap, slotsUsed := s₂.slotsUsed } : State).setVm s₂.vm).setTop { g with pc := g.pc + len₂, stack := v.toList ++ g.stack } := by
      refine e3.trans ?_
      rw [hf₂, State.calling_eq h.top, State.setFrames_setFrames, State.setTop_of_frames _ hr', hr]
      rfl
    have hsame : U.sameButNew ({ U with heap := s₂.heap, slotsUsed := s₂.slotsUsed } : State) L mc ms := by
      refine ⟨?_, q2, q3, q4, q5, q6⟩
      obtain ⟨t, ht, -⟩ := State.frames_cons hr
      show ({ U with heap := s₂.heap, slotsUsed := s₂.slotsUsed } : State) = { U.setFrames U.frames with heap := s₂.heap, slotsUsed := s₂.slotsUsed }
      rw [State.setFrames_self ht]
    subst hg
    refine Or.inl ⟨v, ⟨(({ U with heap := s₂.heap, slotsUsed := s₂.slotsUsed } : State).setVm s₂.vm), Ls ++ L, c0 + mc, s0 + ms⟩,
      ⟨X.admits, X.cas, X.clock, X.frames, X.room, X.hears, X.method, X.code, (X.here.setHeapUsed s₂.heap s₂.slotsUsed).setVm hW'.alike, X.tail, State.WarmedH.trans X.warmed hW', X.limits, X.bytes, X.same.trans (hsame.setVm s.vm)⟩,
      ⟨g, mk, s₂, L, rfl, rfl, hqc, rfl, hL, rfl, rfl⟩, ?_⟩
    show Steps p.tables e below _ ((({ U with heap := s₂.heap, slotsUsed := s₂.slotsUsed } : State).setVm s₂.vm).setTop { g with pc := g.pc + len₂, stack := v.toList ++ g.stack })
    rw [← hs₂]
    exact hsteps
  · obtain ⟨e2, q2, q3, q4, q5, q6⟩ := id hsm
    have e3 : s₂ = ({ (U.calling g mk a).setFrames s₂.frames with heap := s₂.heap, slotsUsed := s₂.slotsUsed } : State).setVm s₂.vm := by
      have : s₂ = ({ s₂ with vm := (U.calling g mk a).vm } : State).setVm s₂.vm := rfl
      rw [e2] at this
      exact this
    have hf₂ : s₂.frames = .throwing q :: .java g :: U.frames.tail := hend
    have hW' : U.WarmedH s₂.vm := hW₂
    have hs₂ : s₂ = ((({ U with heap := s₂.heap, slotsUsed := s₂.slotsUsed } : State).setVm s₂.vm).setTop g).pushFrame (.throwing q) := by
      refine e3.trans ?_
      rw [hf₂, State.calling_eq h.top, State.setFrames_setFrames, State.pushFrame, State.frames_setTop _ hr', State.setTop_of_frames _ hr', State.setFrames_setFrames, hr]
      rfl
    have hsame : U.sameButNew ({ U with heap := s₂.heap, slotsUsed := s₂.slotsUsed } : State) L mc ms := by
      refine ⟨?_, q2, q3, q4, q5, q6⟩
      obtain ⟨t, ht, -⟩ := State.frames_cons hr
      show ({ U with heap := s₂.heap, slotsUsed := s₂.slotsUsed } : State) = { U.setFrames U.frames with heap := s₂.heap, slotsUsed := s₂.slotsUsed }
      rw [State.setFrames_self ht]
    subst hg
    refine Or.inr ⟨q, ⟨(({ U with heap := s₂.heap, slotsUsed := s₂.slotsUsed } : State).setVm s₂.vm), Ls ++ L, c0 + mc, s0 + ms⟩,
      ⟨X.admits, X.cas, X.clock, X.frames, X.room, X.hears, X.method, X.code, (X.here.setHeapUsed s₂.heap s₂.slotsUsed).setVm hW'.alike, X.tail, State.WarmedH.trans X.warmed hW', X.limits, X.bytes, X.same.trans (hsame.setVm s.vm)⟩,
      ⟨g, mk, s₂, L, E, ce, rfl, rfl, hx, hce, hcv, hcl, rfl, hL, rfl, rfl⟩, ?_⟩
    show Steps p.tables e below _ (((({ U with heap := s₂.heap, slotsUsed := s₂.slotsUsed } : State).setVm s₂.vm).setTop g).pushFrame (.throwing q))
    rw [← hs₂]
    exact hsteps
end
variable {p : Program} {l : Launch} {e : Env} {R : Room} {s : State} {m : MethodId} {args : Array Value} {below : List Frame} {meth : Method} {c : Code} {T : State} {H : Heap} {locs : List Loc} {cells slots : Nat}
theorem vx_callVX (X : Stand p l e R s m args below meth c T locs cells slots) (hexec : p.tables.exec = Jvm.exec) {own C : String} {index : Nat} {y : MethodName} {bytes : ByteArray} {maxL : Nat} {ret : Option FieldType} {hh : List (Nat × Nat × Nat × Nat)}
    (hown : s.vm.findClass own = some m.cls) (hlink : (Cond.methodLink own index y).before args s = true) (hinst : (Cond.instanceMethod y).before args s = true) (hsel : (Cond.selects C y y).before args s = true)
    (hcode : (Cond.codeWith y bytes maxL ret hh).before args s = true) (hy : y.cls ≠ "java/lang/invoke/MethodHandle" ∧ y.cls ≠ "java/lang/invoke/VarHandle")
    {W9 : Nat} {Pre : Pt → Array Value → Prop} {Post : Pt → Array Value → Option Value → Pt → Prop} {PostX : Pt → Array Value → Addr → Pt → Prop} (hK : vx_Back l R p e below s args y 3 W9 Pre Post PostX)
    {b : Addr} {cellB : Cell} (hcell : T.heap[b]? = some cellB) (hobj : cellB.vm.isStatics = false) (hcls : s.vm.findClass C = some cellB.cls)
    {g : JFrame} (hg : g.method = m) (hsize : g.locals.size = c.maxLocals) {argsL rest : List Value} (hlen : ∀ sig, parseMethodDescriptor y.desc = some sig → argsL.length = sig.parameters.length)
    (hstack : g.stack = argsL.reverse ++ .ref b :: rest) (hW : 2 * g.monitorRoom + (rest.map fun v => v.category).sum ≤ W9) (hdg : decode c.code g.pc = .ok (.invokevirtual index, 3))
    (hpre : ∀ vm₁, s.WarmedH vm₁ → Pre ⟨T.setVm vm₁, locs, cells, slots⟩ (Value.ref b :: argsL).toArray) :
    (∃ (v : Option Value) (vm₁ : Vm) (B : Pt), s.WarmedH vm₁ ∧ Stand p l e R s m args below meth c B.U B.locs B.cells B.slots ∧ Post ⟨T.setVm vm₁, locs, cells, slots⟩ (Value.ref b :: argsL).toArray v B ∧
      ∀ target, Steps p.tables e below (B.U.setTop { g with pc := g.pc + 3, stack := v.toList ++ rest }) target → Steps p.tables e below (T.setTop g) target) ∨
    (∃ (q : Addr) (vm₁ : Vm) (B : Pt), s.WarmedH vm₁ ∧ Stand p l e R s m args below meth c B.U B.locs B.cells B.slots ∧ PostX ⟨T.setVm vm₁, locs, cells, slots⟩ (Value.ref b :: argsL).toArray q B ∧
      Steps p.tables e below (T.setTop g) ((B.U.setTop { g with stack := rest }).pushFrame (.throwing q))) := by
  obtain ⟨mk, methM, hnamed, hmethM, hstM, habM⟩ := Cond.instanceMethod_spec hinst
  obtain ⟨m8, methM', cM, hn8, hmethM', -, -, -, -, -, -, hsigM⟩ := Cond.codeWith_spec hcode
  cases Option.some.inj (hn8.symm.trans hnamed)
  cases hmethM.symm.trans hmethM'
  obtain ⟨c2, r2, m2, q1, q2, q3, q4, kP, hkP, hkPi⟩ := Cond.selects_spec hsel
  cases hcls.symm.trans q1
  cases (State.methodFound?_of_named hnamed hy).symm.trans q2
  cases hnamed.symm.trans q3
  have hselP : selectMethod e.platform s.vm cellB.cls mk = .method mk := by rw [Launch.admits_selectMethod X.admits]; exact q4
  obtain ⟨vm₁, X₁, hstep₁⟩ := X.invokevirtual hexec hown hlink hnamed hmethM hstM hkP hkPi hy (a := b) (cell := cellB) hcell
    (fun z h => by rw [h] at hobj; cases hobj) hselP hmethM habM hkP hkPi (g := g) hg (argsL := argsL) (rest := rest) (hlen _ hsigM) hstack hdg
  rcases hK m meth c ⟨T.setVm vm₁, locs, cells, slots⟩ { g with stack := rest } (.invokevirtual index) mk (Value.ref b :: argsL).toArray X₁ hg hsize hdg hW (X₁.named hnamed) (hpre vm₁ X₁.warmed) with ⟨v, B, X', hpost, hsteps⟩ | ⟨q, B, X', hpost, hsteps⟩
  · exact Or.inl ⟨v, vm₁, B, X₁.warmed, X', hpost, fun target h => hstep₁ _ fun acts => by rw [doInvoke_state]; exact hsteps.trans h⟩
  · exact Or.inr ⟨q, vm₁, B, X₁.warmed, X', hpost, hstep₁ _ fun acts => by rw [doInvoke_state]; exact hsteps⟩
theorem vx_callSX (X : Stand p l e R s m args below meth c T locs cells slots) (hexec : p.tables.exec = Jvm.exec) {own : String} {index : Nat} {y : MethodName} {bytes : ByteArray} {maxL : Nat} {ret : Option FieldType} {hh : List (Nat × Nat × Nat × Nat)}
    (hown : s.vm.findClass own = some m.cls) (hlink : (Cond.methodLink own index y).before args s = true) (hstat : (Cond.static y).before args s = true) (hinit : (Cond.initialized y.cls).before args s = true)
    (hcode : (Cond.codeWith y bytes maxL ret hh).before args s = true) (hy : y.cls ≠ "java/lang/invoke/MethodHandle" ∧ y.cls ≠ "java/lang/invoke/VarHandle")
    {W9 : Nat} {Pre : Pt → Array Value → Prop} {Post : Pt → Array Value → Option Value → Pt → Prop} {PostX : Pt → Array Value → Addr → Pt → Prop} (hK : vx_Back l R p e below s args y 3 W9 Pre Post PostX)
    {g : JFrame} (hg : g.method = m) (hsize : g.locals.size = c.maxLocals) {argsL rest : List Value} (hlen : ∀ sig, parseMethodDescriptor y.desc = some sig → argsL.length = sig.parameters.length)
    (hstack : g.stack = argsL.reverse ++ rest) (hW : 2 * g.monitorRoom + (rest.map fun v => v.category).sum ≤ W9) (hdg : decode c.code g.pc = .ok (.invokestatic index, 3))
    (hpre : ∀ vm₁, s.WarmedH vm₁ → Pre ⟨T.setVm vm₁, locs, cells, slots⟩ argsL.toArray) :
    (∃ (v : Option Value) (vm₁ : Vm) (B : Pt), s.WarmedH vm₁ ∧ Stand p l e R s m args below meth c B.U B.locs B.cells B.slots ∧ Post ⟨T.setVm vm₁, locs, cells, slots⟩ argsL.toArray v B ∧
      ∀ target, Steps p.tables e below (B.U.setTop { g with pc := g.pc + 3, stack := v.toList ++ rest }) target → Steps p.tables e below (T.setTop g) target) ∨
    (∃ (q : Addr) (vm₁ : Vm) (B : Pt), s.WarmedH vm₁ ∧ Stand p l e R s m args below meth c B.U B.locs B.cells B.slots ∧ PostX ⟨T.setVm vm₁, locs, cells, slots⟩ argsL.toArray q B ∧
      Steps p.tables e below (T.setTop g) ((B.U.setTop { g with stack := rest }).pushFrame (.throwing q))) := by
  obtain ⟨mk, methM, cM, hnamed, hmethM, -, -, -, -, -, -, hsigM⟩ := Cond.codeWith_spec hcode
  have hstatic : methM.isStatic = true := Cond.static_spec hnamed hmethM hstat
  obtain ⟨kP, hkP, -⟩ := className_of_methodNamed hnamed
  have hinitP : kP.init = .initialized := Cond.initialized_spec (findClass_of_methodNamed hnamed) hkP hinit
  obtain ⟨vm₁, X₁, hstep₁⟩ := X.invokestatic hexec hown hlink hnamed hmethM hstatic hkP hinitP hy (g := g) hg (argsL := argsL) (rest := rest) (hlen _ hsigM) hstack hdg
  rcases hK m meth c ⟨T.setVm vm₁, locs, cells, slots⟩ { g with stack := rest } (.invokestatic index) mk argsL.toArray X₁ hg hsize hdg hW (X₁.named hnamed) (hpre vm₁ X₁.warmed) with ⟨v, B, X', hpost, hsteps⟩ | ⟨q, B, X', hpost, hsteps⟩
  · exact Or.inl ⟨v, vm₁, B, X₁.warmed, X', hpost, fun target h => hstep₁ _ fun acts => by rw [doInvoke_state]; exact hsteps.trans h⟩
  · exact Or.inr ⟨q, vm₁, B, X₁.warmed, X', hpost, hstep₁ _ fun acts => by rw [doInvoke_state]; exact hsteps⟩
theorem vx_callVW (X : Stand p l e R s m args below meth c T locs cells slots) (hexec : p.tables.exec = Jvm.exec) {own C : String} {index : Nat} {y : MethodName} {bytes : ByteArray} {maxL : Nat} {ret : Option FieldType} {hh : List (Nat × Nat × Nat × Nat)}
    (hown : s.vm.findClass own = some m.cls) (hlink : (Cond.methodLink own index y).before args s = true) (hinst : (Cond.instanceMethod y).before args s = true) (hsel : (Cond.selects C y y).before args s = true)
    (hcode : (Cond.codeWith y bytes maxL ret hh).before args s = true) (hy : y.cls ≠ "java/lang/invoke/MethodHandle" ∧ y.cls ≠ "java/lang/invoke/VarHandle")
    {W9 : Nat} {Pre : Pt → Array Value → Prop} {Post : Pt → Array Value → Option Value → Pt → Prop} (hK : Back l R p e below s args y 3 W9 Pre Post)
    {b : Addr} {cellB : Cell} (hcell : T.heap[b]? = some cellB) (hobj : cellB.vm.isStatics = false) (hcls : s.vm.findClass C = some cellB.cls)
    {g : JFrame} (hg : g.method = m) (hsize : g.locals.size = c.maxLocals) {argsL rest : List Value} (hlen : ∀ sig, parseMethodDescriptor y.desc = some sig → argsL.length = sig.parameters.length)
    (hstack : g.stack = argsL.reverse ++ .ref b :: rest) (hW : 2 * g.monitorRoom + (rest.map fun v => v.category).sum ≤ W9) (hdg : decode c.code g.pc = .ok (.invokevirtual index, 3))
    (hpre : ∀ vm₁, s.WarmedH vm₁ → Pre ⟨T.setVm vm₁, locs, cells, slots⟩ (Value.ref b :: argsL).toArray) :
    ∃ (v : Option Value) (vm₁ : Vm) (B : Pt), s.WarmedH vm₁ ∧ Stand p l e R s m args below meth c B.U B.locs B.cells B.slots ∧ Post ⟨T.setVm vm₁, locs, cells, slots⟩ (Value.ref b :: argsL).toArray v B ∧
      ∀ target, Steps p.tables e below (B.U.setTop { g with pc := g.pc + 3, stack := v.toList ++ rest }) target → Steps p.tables e below (T.setTop g) target := by
  obtain ⟨mk, methM, hnamed, hmethM, hstM, habM⟩ := Cond.instanceMethod_spec hinst
  obtain ⟨m8, methM', cM, hn8, hmethM', -, -, -, -, -, -, hsigM⟩ := Cond.codeWith_spec hcode
  cases Option.some.inj (hn8.symm.trans hnamed)
  cases hmethM.symm.trans hmethM'
  obtain ⟨c2, r2, m2, q1, q2, q3, q4, kP, hkP, hkPi⟩ := Cond.selects_spec hsel
  cases hcls.symm.trans q1
  cases (State.methodFound?_of_named hnamed hy).symm.trans q2
  cases hnamed.symm.trans q3
  have hselP : selectMethod e.platform s.vm cellB.cls mk = .method mk := by rw [Launch.admits_selectMethod X.admits]; exact q4
  obtain ⟨vm₁, X₁, hstep₁⟩ := X.invokevirtual hexec hown hlink hnamed hmethM hstM hkP hkPi hy (a := b) (cell := cellB) hcell
    (fun z h => by rw [h] at hobj; cases hobj) hselP hmethM habM hkP hkPi (g := g) hg (argsL := argsL) (rest := rest) (hlen _ hsigM) hstack hdg
  obtain ⟨v, B, X', hpost, hsteps⟩ := hK m meth c ⟨T.setVm vm₁, locs, cells, slots⟩ { g with stack := rest } (.invokevirtual index) mk (Value.ref b :: argsL).toArray X₁ hg hsize hdg hW (X₁.named hnamed) (hpre vm₁ X₁.warmed)
  exact ⟨v, vm₁, B, X₁.warmed, X', hpost, fun target h => hstep₁ _ fun acts => by rw [doInvoke_state]; exact hsteps.trans h⟩
abbrev vx_CVW (R : Room) (s : State) (args : Array Value) (own C : String) (index : Nat) (y : MethodName) (bytes : ByteArray) (maxL : Nat) (ret : Option FieldType) (hh : List (Nat × Nat × Nat × Nat)) (ws : List Cond) (rm : Room) (mc ms n : Nat) : Prop :=
  (rm.cells = mc ∧ rm.slots = ms ∧ rm.frames + 1 ≤ R.frames ∧ 8 + (maxL + 11) + rm.locals ≤ R.locals ∧ (∀ w ∈ ws, ∀ (a' : Array Value) (U : State), s.WarmedH U.vm → w.before a' U = true) ∧ Cond.codeWith y bytes maxL ret hh ∈ ws) ∧
  (Cond.codeWith y bytes maxL ret hh).before args s = true ∧ (Cond.initialized y.cls).before args s = true ∧ (y.cls ≠ "java/lang/invoke/MethodHandle" ∧ y.cls ≠ "java/lang/invoke/VarHandle") ∧
  (∀ sig, parseMethodDescriptor y.desc = some sig → n = sig.parameters.length) ∧ (Cond.methodLink own index y).before args s = true ∧ (Cond.instanceMethod y).before args s = true ∧ (Cond.selects C y y).before args s = true
theorem vx_cwVW {own C : String} {index maxL mc ms : Nat} {y : MethodName} {bytes : ByteArray} {ret : Option FieldType} {hh : List (Nat × Nat × Nat × Nat)} {Ts ws ws' : List Cond} {rm : Room} (n : Nat) (ht : ∀ w ∈ Ts, w.before args s = true) (hT : GoodIn Ts (wsV own index C y ws)) (hw : ws = Cond.codeWith y bytes maxL ret hh :: ws') (hrc : rm.cells = mc) (hrs : rm.slots = ms)
    (hd : y.cls = C ∧ y.cls ≠ "java/lang/invoke/MethodHandle" ∧ y.cls ≠ "java/lang/invoke/VarHandle" ∧ (parseMethodDescriptor y.desc).map (fun d => d.parameters.length) = some n) (hR : rm.frames + 1 ≤ R.frames ∧ 8 + (maxL + 11) + rm.locals ≤ R.locals) :
    vx_CVW R s args own C index y bytes maxL ret hh ws rm mc ms n := by
  obtain ⟨hC, hd⟩ := hd
  subst hC
  have ok : ∀ w ∈ wsV own index y.cls y ws, w.before args s = true := fun w h => ht w (hT w h).1
  have hG : GoodIn Ts ws := fun w h => hT w (by unfold wsV; exact List.mem_append_right _ h)
  have hc : Cond.codeWith y bytes maxL ret hh ∈ ws := by rw [hw]; exact List.mem_cons_self
  refine ⟨⟨hrc, hrs, hR.1, hR.2, pay_in ht hG, hc⟩, ht _ (hG _ hc).1, ok _ (by simp [wsV]), ⟨hd.1, hd.2.1⟩, fun sig h => ?_, ok _ (by simp [wsV]), ok _ (by simp [wsV]), ok _ (by simp [wsV])⟩
  have h2 := hd.2.2
  rw [h] at h2
  exact (Option.some.inj h2).symm
theorem vx_runVW {y : MethodName} {bytes cc : ByteArray} {maxL nL mc ms n index : Nat} {ret : Option FieldType} {hh : List (Nat × Nat × Nat × Nat)} {ws : List Cond} {rm : Room} {Pc : Array Value → State → Prop} {Qc : Array Value → State → Outcome → State → Prop} {free : Addr → Prop} {Ts : List Cond} {own C : String} {b : Addr} {As rest : List Value} {g : JFrame}
    (S : CallFix p m c cc nL s args Ts own) (hM : Met l y ws rm Pc Qc mc ms free) (cw : vx_CVW R s args own C index y bytes maxL ret hh ws rm mc ms n) (hp : PreV s H C b Pc As)
    (hg : g.method = m) (hn : As.length = n) (hsize : g.locals.size = nL) (hstack : g.stack = As.reverse ++ .ref b :: rest) (hW : 2 * g.monitorRoom + (rest.map fun v => v.category).sum ≤ 8) (hdg : decode cc g.pc = .ok (.invokevirtual index, 3)) (hf : cells + mc ≤ R.cells ∧ slots + ms ≤ R.slots) :
    va_Run p l e R s m args below meth c H locs cells slots mc ms g rest (Qc (Value.ref b :: As).toArray) free := by
  obtain ⟨⟨hrc, hrs, hfr, hlo, hws, hcw⟩, hcode, hini, hy, hlen, hl, hin, hse⟩ := cw
  have hK : Back l R p e below s args y 3 8 (PreOf R mc ms Pc) (PostOf Qc mc ms free) := va_backW (hh := hh) (bytes := bytes) (maxL := maxL) (ret := ret) hM hp.1 hrc hrs hfr hlo hws hcw (fun a' U hW => word_at hW (Or.inl (by first | rfl | simp [Cond.onTables, Cond.keeps, Cond.steady])) hini)
  obtain ⟨hx, hb, hml, ho, -⟩ := S
  obtain ⟨-, ⟨cellB, hcB, hoB, hclB⟩, hPc⟩ := hp
  intro T hT X
  obtain ⟨v, vm₁, ⟨U', l2, c2, s2⟩, hW₁, X', ⟨g', mk, t, L, e1, e2, hq, h1, hL, h2, h3⟩, st⟩ := vx_callVW X hx (C := C) (hh := hh) (bytes := bytes) (maxL := maxL) (ret := ret) ho hl hin hse hcode hy hK (by rw [hT]; exact hcB) hoB hclB hg (hsize.trans hml.symm) (argsL := As) (rest := rest) (fun sig h => hn.trans (hlen sig h)) hstack hW (by rw [hb]; exact hdg)
    (fun vm₁ hW₁ => ⟨hf.1, hf.2, hPc (T.setVm vm₁) hT hW₁⟩)
  dsimp only [Pt.U, Pt.locs, Pt.cells, Pt.slots] at X' e1 e2 h1 h2 h3 st
  subst h1; subst h2; subst h3
  exact ⟨v, (T.setVm vm₁).calling g' mk (Value.ref b :: As).toArray, t, U', L, hT, X', hL, e1, e2, hq, st⟩
section
variable {y : MethodName} {bytes cc : ByteArray} {maxL nL mc ms n index : Nat} {ret : Option FieldType} {ws : List Cond} {rm : Room} {Pc : Array Value → State → Prop} {Qc : Array Value → State → Outcome → State → Prop} {XC : String → State → State → Prop} {free : Addr → Prop} {Ts : List Cond} {own C : String} {b : Addr} {As rest : List Value} {g : JFrame}
theorem vx_runVX {hh : List (Nat × Nat × Nat × Nat)} (S : CallFix p m c cc nL s args Ts own) (hM : vx_Met l y ws rm Pc Qc XC mc ms free) (cw : vx_CVW R s args own C index y bytes maxL ret hh ws rm mc ms n) (hp : PreV s H C b Pc As)
    (hg : g.method = m) (hn : As.length = n) (hsize : g.locals.size = nL) (hstack : g.stack = As.reverse ++ .ref b :: rest) (hW : 2 * g.monitorRoom + (rest.map fun v => v.category).sum ≤ 8) (hdg : decode cc g.pc = .ok (.invokevirtual index, 3)) (hf : cells + mc ≤ R.cells ∧ slots + ms ≤ R.slots) :
    vx_Run p l e R s m args below meth c H locs cells slots mc ms g rest (Qc (Value.ref b :: As).toArray) XC free := by
  obtain ⟨⟨hrc, hrs, hfr, hlo, hws, hcw⟩, hcode, hini, hy, hlen, hl, hin, hse⟩ := cw
  have hK : vx_Back l R p e below s args y 3 8 (PreOf R mc ms Pc) (PostOf Qc mc ms free) (vx_Post XC mc ms free) := vx_backW (hh := hh) (bytes := bytes) (maxL := maxL) (ret := ret) hM hp.1 hrc hrs hfr hlo hws hcw (fun a' U hW => word_at hW (Or.inl (by first | rfl | simp [Cond.onTables, Cond.keeps, Cond.steady])) hini)
  obtain ⟨hx, hb, hml, ho, -⟩ := S
  obtain ⟨-, ⟨cellB, hcB, hoB, hclB⟩, hPc⟩ := hp
  intro T hT X
  rcases vx_callVX X hx (C := C) (hh := hh) (bytes := bytes) (maxL := maxL) (ret := ret) ho hl hin hse hcode hy hK (by rw [hT]; exact hcB) hoB hclB hg (hsize.trans hml.symm) (argsL := As) (rest := rest) (fun sig h => hn.trans (hlen sig h)) hstack hW (by rw [hb]; exact hdg)
    (fun vm₁ hW₁ => ⟨hf.1, hf.2, hPc (T.setVm vm₁) hT hW₁⟩) with ⟨v, vm₁, ⟨U', l2, c2, s2⟩, hW₁, X', ⟨g', mk, t, L, e1, e2, hq, h1, hL, h2, h3⟩, st⟩ | ⟨q, vm₁, ⟨U', l2, c2, s2⟩, hW₁, X', ⟨g', mk, t, L, E, ce, e1, e2, hq, hce, hcv, hcl, h1, hL, h2, h3⟩, st⟩
  · dsimp only [Pt.U, Pt.locs, Pt.cells, Pt.slots] at X' e1 e2 h1 h2 h3 st
    subst h1; subst h2; subst h3
    exact Or.inl ⟨v, (T.setVm vm₁).calling g' mk (Value.ref b :: As).toArray, t, U', L, hT, X', hL, e1, e2, hq, st⟩
  · dsimp only [Pt.U, Pt.locs, Pt.cells, Pt.slots] at X' e1 e2 h1 h2 h3 st hcl
    subst h1; subst h2; subst h3
    exact Or.inr ⟨q, (T.setVm vm₁).calling g' mk (Value.ref b :: As).toArray, t, U', L, E, ce, hT, X', hL, e1, e2, hq, hce, hcv, vx_cls hW₁ hcl, st⟩
theorem vx_runSX {hh : List (Nat × Nat × Nat × Nat)} (S : CallFix p m c cc nL s args Ts own) (hM : vx_Met l y ws rm Pc Qc XC mc ms free) (cw : vx_CSW R s args own index y bytes maxL ret hh ws rm mc ms n) (hp : PreS s H Pc As)
    (hg : g.method = m) (hn : As.length = n) (hsize : g.locals.size = nL) (hstack : g.stack = As.reverse ++ rest) (hW : 2 * g.monitorRoom + (rest.map fun v => v.category).sum ≤ 8) (hdg : decode cc g.pc = .ok (.invokestatic index, 3)) (hf : cells + mc ≤ R.cells ∧ slots + ms ≤ R.slots) :
    vx_Run p l e R s m args below meth c H locs cells slots mc ms g rest (Qc As.toArray) XC free := by
  obtain ⟨⟨hrc, hrs, hfr, hlo, hws, hcw⟩, hcode, hini, hy, hlen, hl, hstt⟩ := cw
  have hK : vx_Back l R p e below s args y 3 8 (PreOf R mc ms Pc) (PostOf Qc mc ms free) (vx_Post XC mc ms free) := vx_backW (hh := hh) (bytes := bytes) (maxL := maxL) (ret := ret) hM hp.1 hrc hrs hfr hlo hws hcw (fun a' U hW => word_at hW (Or.inl (by first | rfl | simp [Cond.onTables, Cond.keeps, Cond.steady])) hini)
  obtain ⟨hx, hb, hml, ho, -⟩ := S
  intro T hT X
  rcases vx_callSX X hx (hh := hh) (bytes := bytes) (maxL := maxL) (ret := ret) ho hl hstt hini hcode hy hK hg (hsize.trans hml.symm) (argsL := As) (rest := rest) (fun sig h => hn.trans (hlen sig h)) hstack hW (by rw [hb]; exact hdg)
    (fun vm₁ hW₁ => ⟨hf.1, hf.2, hp.2 (T.setVm vm₁) hT hW₁⟩) with ⟨v, vm₁, ⟨U', l2, c2, s2⟩, hW₁, X', ⟨g', mk, t, L, e1, e2, hq, h1, hL, h2, h3⟩, st⟩ | ⟨q, vm₁, ⟨U', l2, c2, s2⟩, hW₁, X', ⟨g', mk, t, L, E, ce, e1, e2, hq, hce, hcv, hcl, h1, hL, h2, h3⟩, st⟩
  · dsimp only [Pt.U, Pt.locs, Pt.cells, Pt.slots] at X' e1 e2 h1 h2 h3 st
    subst h1; subst h2; subst h3
    exact Or.inl ⟨v, (T.setVm vm₁).calling g' mk As.toArray, t, U', L, hT, X', hL, e1, e2, hq, st⟩
  · dsimp only [Pt.U, Pt.locs, Pt.cells, Pt.slots] at X' e1 e2 h1 h2 h3 st hcl
    subst h1; subst h2; subst h3
    exact Or.inr ⟨q, (T.setVm vm₁).calling g' mk As.toArray, t, U', L, E, ce, hT, X', hL, e1, e2, hq, hce, hcv, vx_cls hW₁ hcl, st⟩
end
end VXH
theorem vx_ofWH {l : Launch} {y : MethodName} {ws ws' : List Cond} {rm : Room} {Pc : Array Value → State → Prop} {Qc : Array Value → State → Outcome → State → Prop} {XC : String → State → State → Prop} {mc ms : Nat} {free : Addr → Prop} {cc : ByteArray} {maxL : Nat} {ret : Option FieldType} {hh : List (Nat × Nat × Nat × Nat)}
    (hy : plainName y.cls = true) (hw : ws = Cond.codeWith y cc maxL ret hh :: ws')
    (body : ∀ p e s m args below meth c s₁, BodyLoose p l y (headSpec ws rm) cc maxL ret e s m args below meth c s₁ → c.maxLocals = maxL → Pc args s →
      W p l e (headSpec ws rm).room s m args below meth c s.heap [] 0 0 (vx_MQ below Qc XC args s mc ms free) (entryFrame m args maxL)) : vx_Met l y ws rm Pc Qc XC mc ms free := by
  refine MetFree.of_bodyS (code := cc) (maxLocals := maxL) (ret := ret) hy ?_ ?_
  · intro args s m h hn
    obtain ⟨m9, meth, c, hn9, h1, h2, h3, h4, -, h5, h6, -⟩ := Cond.codeWith_spec (atoms_spec (ws := ws) h _ (by rw [hw]; exact List.mem_cons_self))
    cases hn.symm.trans hn9
    exact ⟨meth, c, h1, h2, h3, h4, h5, h6⟩
  · intro p e s m args below meth c s₁ B hml hP _
    have hh0 : s₁.heap = s.heap := by rw [B.state]; rfl
    obtain ⟨t, a1, o, b1, b2, b3⟩ := body p e s m args below meth c s₁ B hml hP s₁ hh0 (Stand.of_body B)
    exact ⟨t, o, a1, b1, b2, b3⟩
/-! ===== END ===== -/
/-! ===== BEGIN what the machine throws by itself, no traces kept ===== -/
section VXM
set_option maxHeartbeats 1000000 in
/-- the machine throws cls with the message text, no traces kept: from its note over the frame g to 'throwing' over the same frame (follows the proofs of Stand.vmThrowsMessage, Shelf/KitTracedVmS.lean, and Stand.throwsMessageColdBareV, StandMessageColdV.lean, without the step out of the frame) -/
theorem vx_vmAt {p : Program} {l : Launch} {e : Env} {R : Room} {s : State} {m₀ : MethodId} {args : Array Value} {below : List Frame} {meth : Method} {c : Code} {W : State} {locs : List Loc} {cells slots : Nat}
    (X : Stand p l e R s m₀ args below meth c W locs cells slots) (hexec : p.tables.exec = Jvm.exec) (htr : e.platform.stackTraces = false) {cls : String} {names : List String} {text : String}
    (hcls : Bundle.fit cls = true) (hnames : ∀ n ∈ names, Bundle.fit n = true) (hsoe : (cls == "java/lang/StackOverflowError") = false) (hoom : (cls == "java/lang/OutOfMemoryError") = false)
    (h : ∀ a ∈ Bundle.messageArmAtoms cls names, a.before args s = true)
    (hlocs : ∀ x ∈ locs, ∀ cell, s.heap[x.base]? = some cell → cell.vm.isStatics = false)
    (htext : (text == notModelled) = false) (hlimit : ¬ (stringBytes (stringToUtf16 text)).size > e.platform.arrayLengthLimit) (hheap : ¬ (stringBytes (stringToUtf16 text)).size * componentBytes .byte > e.platform.maxHeapBytes)
    {g : JFrame} (hg : g.method = m₀) (hsize : g.locals.size = c.maxLocals)
    (hRframes : names.length + 4 < R.frames) (hRlocals : 2 * g.monitorRoom + (g.stack.map fun v => v.category).sum + 10240 ≤ R.locals) (hshort : 13 * names.length + 55 ≤ 10240)
    (hRcells : cells + 3 ≤ R.cells) (hRslots : slots + ((stringBytes (stringToUtf16 text)).size + 4 + 6) ≤ R.slots) (hlocks : meth.locks = false) :
    ∃ (S : State) (q : Addr) (ce : Cell), (∀ target, Steps p.tables e below ((S.setTop g).pushFrame (.throwing q)) target → Steps p.tables e below ((W.setTop g).pushFrame (.throwNew cls (some text) none)) target) ∧
      Stand p l e R s m₀ args below meth c S locs (cells + 3) (slots + ((stringBytes (stringToUtf16 text)).size + 4 + 6)) ∧ S.heap[q]? = some ce ∧ s.vm.findClass cls = some ce.cls ∧ ce.vm = .none := by
  have howns : e.platform.frameOwnsMonitors = true := by rw [X.admits.platform]
  have hfin : e.platform.finalization = false := by rw [X.admits.platform]
  have hpl : e.platform.magicAccessors = ({} : Platform).magicAccessors := by rw [X.admits.platform]
  have a : ∀ x, x ∈ Bundle.messageArmAtoms cls names → x.holds args s none s [] = true := fun x hx => h x hx
  obtain ⟨T, Z0, L, -, Y⟩ := ThrowableC.of_atoms (args := args) howns hfin hpl (fun x hx => h x (by simp [Bundle.messageArmAtoms, hx]))
  obtain ⟨Z, M, LZ, LM, hnZ⟩ := Init0T.ofS_atoms (args := args) hpl L Y (fun x hx => h x (by simp [Bundle.messageArmAtoms, hx]))
  obtain ⟨P1, Ps, hlen, L1, hL, hP1m, hlink1, hlink⟩ := Bundle.chainS (args := args) hpl hnZ names cls hcls hnames (fun x hx => h x (by simp [Bundle.messageArmAtoms, hx]))
  obtain ⟨Zs, LZs, hn4, hfitv, hfitc⟩ := StringT.of_atoms (args := args) (fun x hx => h x (by simp [Bundle.messageArmAtoms, hx]))
  have hfound : s.vm.findClass cls = some P1.m.cls := findClass_of_methodNamed hP1m
  obtain ⟨c1, kX, hc1, hk, hord, -, -, hn6⟩ := Cond.instantiable_spec (a (.instantiable cls 6) (by simp [Bundle.messageArmAtoms]))
  cases Option.some.inj (hc1.symm.trans hfound)
  have hinit := Cond.initialized_spec hfound hk (a (.initialized cls) (by simp [Bundle.messageArmAtoms]))
  have hctor : kX.findMethod "<init>" "(Ljava/lang/String;)V" = some P1.m.idx := findMethod_of_methodNamed hP1m hk
  have hsel0 : selectMethod e.platform s.vm P1.m.cls T.fill0 = .method T.fill0 := by
    obtain ⟨c2, r2, m2, q1, q2, q3, q4, -⟩ := Cond.selects_spec (a (.selects cls Bundle.tFill0 Bundle.tFill0) (by simp [Bundle.messageArmAtoms]))
    cases Option.some.inj (q1.symm.trans hfound)
    cases Option.some.inj (q2.symm.trans (State.methodFound?_of_named Y.fill0 (by decide)))
    cases Option.some.inj (q3.symm.trans Y.fill0)
    rw [Launch.admits_selectMethod X.admits]; exact q4
  have hselF : selectMethod e.platform s.vm P1.m.cls T.fill = .method T.fill := by
    obtain ⟨c2, r2, m2, q1, q2, q3, q4, -⟩ := Cond.selects_spec (a (.selects cls Bundle.tFill Bundle.tFill) (by simp [Bundle.messageArmAtoms]))
    cases Option.some.inj (q1.symm.trans hfound)
    cases Option.some.inj (q2.symm.trans (State.methodFound?_of_named Y.fill (by decide)))
    cases Option.some.inj (q3.symm.trans Y.fill)
    rw [Launch.admits_selectMethod X.admits]; exact q4
  obtain ⟨cellS0, hcS0, hiss⟩ := Y.statics
  obtain ⟨u0, hu0⟩ := Cond.staticRefV Y.unassigned L.unassignedStatic L.statics hcS0 hiss (a (.isRef (.static Bundle.tN "UNASSIGNED_STACK" Bundle.steD)) (by simp [Bundle.messageArmAtoms]))
  obtain ⟨sen, hsen⟩ := Cond.staticRefV Y.sentinel L.sentinelStatic L.statics hcS0 hiss (a (.isRef (.static Bundle.tN "SUPPRESSED_SENTINEL" Bundle.listD)) (by simp [Bundle.messageArmAtoms]))
  obtain ⟨ci198, i198, fB, hk198, hg198, ha198, hsB, -, hnB, htB, hffB⟩ := Cond.ownField (t := .object "java/lang/Object") Y.found L.cls (by decide +kernel) (a (.fieldLink Bundle.tN 198 Bundle.tN "backtrace" "Ljava/lang/Object;") (by simp [Bundle.messageArmAtoms])) (a (.lays Bundle.tN Bundle.tN "backtrace" "Ljava/lang/Object;") (by simp [Bundle.messageArmAtoms])) e.platform hpl
  obtain ⟨cellS, hcS', heS, -, hkeep⟩ := X.same.2.2.2.2.2 T.aS cellS0 hcS0
  have hcellS : W.heap[T.aS]? = some cellS := hcS'
  have hout' : ∀ i, (⟨T.aS, i⟩ : Loc) ∉ locs := fun i hmem => by
    have := hlocs _ hmem cellS0 hcS0
    rw [hiss] at this; cases this
  have hknownS : cellS.vm ≠ .unknown := by
    rw [heS]; intro hu
    rw [show cellS0.vm = .unknown from hu] at hiss
    cases hiss
  have hvU : cellS.slots[T.fUnassigned.slot]? = some u0.v := by rw [hkeep _ (hout' _)]; exact hu0
  have hvSen : cellS.slots[T.fSentinel.slot]? = some sen.v := by rw [hkeep _ (hout' _)]; exact hsen
  obtain ⟨iM, hffM⟩ := Y.msg
  obtain ⟨tyC, dC, hdC, hdnC⟩ := Cond.laysAt hfound hk Y.cause (a (.lays cls Bundle.tN "cause" "Ljava/lang/Throwable;") (by simp [Bundle.messageArmAtoms]))
  obtain ⟨tyS, dS, hdS, hdnS⟩ := Cond.laysAt hfound hk Y.stack (a (.lays cls Bundle.tN "stackTrace" Bundle.steD) (by simp [Bundle.messageArmAtoms]))
  obtain ⟨tyP, dP, hdP, hdnP⟩ := Cond.laysAt hfound hk Y.supp (a (.lays cls Bundle.tN "suppressedExceptions" Bundle.listD) (by simp [Bundle.messageArmAtoms]))
  obtain ⟨tyM, dM, hdM, hdnM⟩ := Cond.laysAt hfound hk hffM (a (.lays cls Bundle.tN "detailMessage" "Ljava/lang/String;") (by simp [Bundle.messageArmAtoms]))
  obtain ⟨tyB, dB, hdB, hdnB⟩ := Cond.laysAt hfound hk hffB (a (.lays cls Bundle.tN "backtrace" "Ljava/lang/Object;") (by simp [Bundle.messageArmAtoms]))
  have bC := Cond.laysApart hdB hdC hdnB hdnC (by rw [hnB, Y.causeName]; decide)
  have bS := Cond.laysApart hdB hdS hdnB hdnS (by rw [hnB, Y.stackName]; decide)
  have bP := Cond.laysApart hdB hdP hdnB hdnP (by rw [hnB, Y.suppName]; decide)
  have hbk : ((preparedCellV T.toThrowableT (freshCell P1.m.cls kX) (W.heap.size + 2) u0 sen).withEntry W.cur).slots[fB.slot]? = some .null := by
    have := fresh_default (c := P1.m.cls) tyB
    rw [htB] at this
    simpa [preparedCellV, Cell.setSlot, Cell.withEntry, Array.getElem?_setIfInBounds, bC, bS, bP, bC.symm, bS.symm, bP.symm, defaultValue] using this
  have tkC := Takes.of_laid (v := .ref (W.heap.size + 2)) hk hord tyC (by rw [Y.causeType]; rfl)
  have tkS := Takes.of_laid (v := u0.v) hk hord tyS (by rw [Y.stackType]; exact fits_refV_array _ u0)
  have tkP := Takes.of_laid (v := sen.v) hk hord tyP (by rw [Y.suppType]; exact fits_refV_object _ sen)
  have tkM := Takes.of_laid (v := .ref (W.heap.size + 1)) hk hord tyM (by rw [Y.msgType]; rfl)
  have hskip : SkipFacts T e.platform s (fun u => u) u0 ((preparedCellV T.toThrowableT (freshCell P1.m.cls kX) (W.heap.size + 2) u0 sen).withEntry W.cur) := ⟨{ ci198 := ci198, i198 := i198, fBack := fB }, ⟨hk198, hg198, ha198, hsB⟩, hbk, fun _ _ => rfl⟩
  have h0 : At W g.method c below := by rw [hg]; exact X.here
  obtain ⟨hbeyond, hfreeW⟩ := X.vmMayThrow hsize (.throwNew cls (some text) none) (fun f hf => by cases hf) rfl hRlocals
  have hfr' : W.frames.length + Ps.length + 4 < (e.platform.stackLimits W.me).1 := by have := X.framesAbove hRframes; omega
  have hwd' : (stackUse (.java g :: W.frames.tail)).2 + 13 * Ps.length + 55 ≤ (e.platform.stackLimits W.me).2 := by have := X.stackAbove hsize (K := 13 * Ps.length + 55) (by omega); omega
  have hslots : W.slotsUsed + (stringBytes (stringToUtf16 text)).size + Zs.kS.instanceTypes.size + kX.instanceTypes.size ≤ e.platform.maxSlots := by
    have := X.slotsAbove hRslots
    rw [hn4, hn6]
    omega
  obtain ⟨vm', hW', st⟩ := Steps.vmThrowsMessageColdByV p (s₀ := s) (S := W) (g := g) h0 hexec T L Z LZ M LM X.warmed (t := W.cur) rfl Zs LZs P1 L1 Ps hL hlink1 hlink hsoe hoom hfound hk hinit hord hctor
    (Launch.admits_hotImplicitExceptions X.admits) hbeyond hfreeW htext hlimit hheap (X.cellsAbove hRcells) hslots (hfitv _) (hfitc _)
    (Nn := fun u => u) heapOnly_id (fun _ _ => rfl) (fun _ => rfl) (fun u x y => setCell_twice _ _ _ _) (fun _ => Nat.le_refl _) (cN := ((preparedCellV T.toThrowableT (freshCell P1.m.cls kX) (W.heap.size + 2) u0 sen).withEntry W.cur))
    hsel0 hcellS hknownS hvU tkS (fun _ hu => hu) (fun _ hu => hu) rfl rfl rfl (by simp [preparedCellV, Cell.setSlot, Cell.withEntry]) hskip (fun _ _ hA hW _ hroom _ hrest => L.nativeOff p htr hA hW hroom hrest) hselF hvSen tkC tkP tkM Y.objLocals rfl hfr' hwd'
  rw [plainBareV_eq T.toThrowableT (W.heap.size + 2) u0 sen (.ref (W.heap.size + 1)) W.cur rfl rfl] at st
  obtain ⟨-, -, w3, w4, -, -, -⟩ := withThrown_facts e.platform W Zs text P1.m.cls kX
  have X3 := ((X.pushed (bytesOf Zs.cB (stringToUtf16 text))).pushed (stringAt Zs.cS Zs.kS Zs.fv Zs.fc (stringToUtf16 text) W.heap.size)).pushed (freshCell P1.m.cls kX)
  rw [← withString_eq] at X3
  have X4 := X3.noted hW'
  have ha : (W.heap.size + 2) < ((withThrown W Zs text P1.m.cls kX).setVm vm').heap.size := by show _ < (withThrown W Zs text P1.m.cls kX).heap.size; rw [w3]; omega
  have hcell : ((withThrown W Zs text P1.m.cls kX).setVm vm').heap[(W.heap.size + 2)]? = some (freshCell P1.m.cls kX) := w4
  have X5 := ((((X4.stored hcell T.fCause.slot (.ref (W.heap.size + 2))).storedAgain ha T.fStack.slot u0.v).storedAgain ha T.fSupp.slot sen.v).storedAgain ha T.fStack.slot u0.v).storedAgain ha T.fMsg.slot (.ref (W.heap.size + 1))
  obtain ⟨g₁, hfrM⟩ := X5.frames_eq
  have hU : ((((withThrown W Zs text P1.m.cls kX).setVm vm').setCell (W.heap.size + 2) (plainBareV T.toThrowableT (freshCell P1.m.cls kX) (W.heap.size + 2) u0 sen (.ref (W.heap.size + 1)))).setTop g).pushFrame (.throwing (W.heap.size + 2)) = (((withThrown W Zs text P1.m.cls kX).setVm vm').setCell (W.heap.size + 2) (plainBareV T.toThrowableT (freshCell P1.m.cls kX) (W.heap.size + 2) u0 sen (.ref (W.heap.size + 1)))).setFrames (.throwing (W.heap.size + 2) :: .java g :: below) := by
    rw [State.pushFrame, State.frames_setTop _ hfrM, State.setTop_of_frames _ hfrM, State.setFrames_setFrames]
  have b1 : (bytesOf Zs.cB (stringToUtf16 text)).slots.size = (stringBytes (stringToUtf16 text)).size := by
    rw [(Cell.writeAll_facts _ _).2.2]; simp [bytes0]
  have b2 : (stringAt Zs.cS Zs.kS Zs.fv Zs.fc (stringToUtf16 text) W.heap.size).slots.size = 4 := by simp [string0, Cell.setSlot, hn4]
  have b3 : (freshCell P1.m.cls kX).slots.size = 6 := by simp [hn6]
  rw [b1, b2, b3] at X5
  have e9 : slots + (stringBytes (stringToUtf16 text)).size + 4 + 6 = slots + ((stringBytes (stringToUtf16 text)).size + 4 + 6) := by omega
  rw [e9] at X5
  simp only [List.append_assoc, List.cons_append, List.nil_append] at X5
  refine ⟨((withThrown W Zs text P1.m.cls kX).setVm vm').setCell (W.heap.size + 2) (plainBareV T.toThrowableT (freshCell P1.m.cls kX) (W.heap.size + 2) u0 sen (.ref (W.heap.size + 1))), W.heap.size + 2, _, fun target ht => st _ (by rw [X.tail, ← hU]; exact ht),
    X5.forget (fun y hy => ?_), heapAt_setCell_self _ ha, hfound, rfl⟩
  simp only [List.mem_cons, List.not_mem_nil, or_false] at hy
  have hge : s.heap.size ≤ W.heap.size := X.same.2.1
  rcases hy with rfl | rfl | rfl | rfl | rfl <;> exact Nat.le_trans hge (Nat.le_add_right _ 2)
set_option maxHeartbeats 1000000 in
/-- the machine throws NullPointerException, no traces kept: from its note over the frame g to 'throwing' over the same frame (follows the proof of Stand.vmThrowsNpe, Shelf42/KT2.lean; throwsNpeColdBareVAt, Shelf42/NT91.lean, called) -/
theorem vx_npeAt {p : Program} {l : Launch} {e : Env} {R : Room} {s : State} {m₀ : MethodId} {args : Array Value} {below : List Frame} {meth : Method} {c : Code} {W : State} {locs : List Loc} {cells slots : Nat}
    (X : Stand p l e R s m₀ args below meth c W locs cells slots) (hexec : p.tables.exec = Jvm.exec) (htr : e.platform.stackTraces = false) {n : Nat}
    (h : ∀ a ∈ Bundle.npeArmAtoms n, a.before args s = true)
    (hlocs : ∀ x ∈ locs, ∀ cell, s.heap[x.base]? = some cell → cell.vm.isStatics = false)
    {g : JFrame} (hg : g.method = m₀) (hsize : g.locals.size = c.maxLocals)
    (hRframes : 7 < R.frames) (hRlocals : 2 * g.monitorRoom + (g.stack.map fun v => v.category).sum + 10240 ≤ R.locals)
    (hRcells : cells + 1 ≤ R.cells) (hRslots : slots + n ≤ R.slots) (hlocks : meth.locks = false) :
    ∃ (S : State) (q : Addr) (ce : Cell), (∀ target, Steps p.tables e below ((S.setTop g).pushFrame (.throwing q)) target → Steps p.tables e below ((W.setTop g).pushFrame (.throwNew "java/lang/NullPointerException" none none)) target) ∧
      Stand p l e R s m₀ args below meth c S locs (cells + 1) (slots + n) ∧ S.heap[q]? = some ce ∧ s.vm.findClass "java/lang/NullPointerException" = some ce.cls ∧ ce.vm = .none := by
  have howns : e.platform.frameOwnsMonitors = true := by rw [X.admits.platform]
  have hfin : e.platform.finalization = false := by rw [X.admits.platform]
  have hpl : e.platform.magicAccessors = ({} : Platform).magicAccessors := by rw [X.admits.platform]
  have hpl2 : e.platform.arrayCloneIsPublic = true := by rw [X.admits.platform]
  have a' : ∀ x, x ∈ Bundle.npeArmAtoms n → x.holds args s none s [] = true := fun x hx => h x hx
  obtain ⟨T, Z, L, LZ, Y⟩ := ThrowableC.of_atoms (args := args) howns hfin hpl (fun x hx => h x (by simp [Bundle.npeArmAtoms, hx]))
  obtain ⟨N, LN, hcN, hnNF, hordN, hffS⟩ := NpeC.of_atoms (args := args) hpl hpl2 L Y (fun x hx => h x (by simp [Bundle.npeArmAtoms, hx]))
  obtain ⟨P1, L1, hP1m, hP1s⟩ := PassC.of_atoms (args := args) (s := s) hpl (X := Bundle.nN) (Y := Bundle.rN) (by decide) (by decide) LibCode.NullPointerException.Init0.at_0 LibCode.NullPointerException.Init0.at_1 LibCode.NullPointerException.Init0.at_4 (fun x hx => h x (by simp [Bundle.npeArmAtoms, hx]))
  obtain ⟨PR, LR, hPRm, hPRs⟩ := PassC.of_atoms (args := args) (s := s) hpl (X := Bundle.rN) (Y := Bundle.eN) (by decide) (by decide) LibCode.RuntimeException.Init0.at_0 LibCode.RuntimeException.Init0.at_1 LibCode.RuntimeException.Init0.at_4 (fun x hx => h x (by simp [Bundle.npeArmAtoms, hx]))
  obtain ⟨PE, LEx, hPEm, hPEs⟩ := PassC.of_atoms (args := args) (s := s) hpl (X := Bundle.eN) (Y := Bundle.tN) (by decide) (by decide) LibCode.Exception.Init0.at_0 LibCode.Exception.Init0.at_1 LibCode.Exception.Init0.at_4 (fun x hx => h x (by simp [Bundle.npeArmAtoms, hx]))
  have hfound : s.vm.findClass Bundle.nN = some P1.m.cls := findClass_of_methodNamed hP1m
  have ecls : N.cN = P1.m.cls := Option.some.inj (hcN.symm.trans hfound)
  have hk : s.vm.classes[P1.m.cls]? = some N.kN := by rw [← ecls]; exact LN.cls
  have hinit := Cond.initialized_spec hfound hk (a' (.initialized Bundle.nN) (by simp [Bundle.npeArmAtoms]))
  have hctor : N.kN.findMethod "<init>" "()V" = some P1.m.idx := findMethod_of_methodNamed hP1m hk
  obtain ⟨c1, k1, hc1, hk1, -, -, -, hn⟩ := Cond.instantiable_spec (a' (.instantiable Bundle.nN n) (by simp [Bundle.npeArmAtoms]))
  cases Option.some.inj (hc1.symm.trans hfound)
  cases Option.some.inj (hk1.symm.trans hk)
  have hfsz : (freshCell P1.m.cls N.kN).slots.size = n := by simp [hn]
  have hlink1 : P1.sup = PR.m := Option.some.inj (hP1s.symm.trans hPRm)
  have hlinkR : PR.sup = PE.m := Option.some.inj (hPRs.symm.trans hPEm)
  have hlinkE : PE.sup = Z.m T.toThrowableT := Option.some.inj (hPEs.symm.trans Y.init0)
  have hLs : ∀ P, P ∈ [PR, PE] → P.Links0 e.platform s := fun P hP => by
    simp only [List.mem_cons, List.not_mem_nil, or_false] at hP
    rcases hP with rfl | rfl
    · exact LR
    · exact LEx
  have hsel0 : selectMethod e.platform s.vm P1.m.cls T.fill0 = .method T.fill0 := by
    obtain ⟨c2, r2, m2, q1, q2, q3, q4, -⟩ := Cond.selects_spec (a' (.selects Bundle.nN Bundle.tFill0 Bundle.tFill0) (by simp [Bundle.npeArmAtoms]))
    cases Option.some.inj (q1.symm.trans hfound)
    cases Option.some.inj (q2.symm.trans (State.methodFound?_of_named Y.fill0 (by decide)))
    cases Option.some.inj (q3.symm.trans Y.fill0)
    rw [Launch.admits_selectMethod X.admits]; exact q4
  have hselF : selectMethod e.platform s.vm P1.m.cls T.fill = .method N.fill := by
    obtain ⟨c2, r2, m2, q1, q2, q3, q4, -⟩ := Cond.selects_spec (a' (.selects Bundle.nN Bundle.tFill Bundle.nFill) (by simp [Bundle.npeArmAtoms]))
    cases Option.some.inj (q1.symm.trans hfound)
    cases Option.some.inj (q2.symm.trans (State.methodFound?_of_named Y.fill (by decide)))
    cases Option.some.inj (q3.symm.trans hnNF)
    rw [Launch.admits_selectMethod X.admits]; exact q4
  obtain ⟨cellS0, hcS0, hiss⟩ := Y.statics
  obtain ⟨u0, hu0⟩ := Cond.staticRefV Y.unassigned L.unassignedStatic L.statics hcS0 hiss (a' (.isRef (.static Bundle.tN "UNASSIGNED_STACK" Bundle.steD)) (by simp [Bundle.npeArmAtoms]))
  obtain ⟨sen, hsen⟩ := Cond.staticRefV Y.sentinel L.sentinelStatic L.statics hcS0 hiss (a' (.isRef (.static Bundle.tN "SUPPRESSED_SENTINEL" Bundle.listD)) (by simp [Bundle.npeArmAtoms]))
  obtain ⟨ci198, i198, fB, hk198, hg198, ha198, hsB, -, hnB, htB, hffB⟩ := Cond.ownField (t := .object "java/lang/Object") Y.found L.cls (by decide +kernel) (a' (.fieldLink Bundle.tN 198 Bundle.tN "backtrace" Bundle.objD) (by simp [Bundle.npeArmAtoms])) (a' (.lays Bundle.tN Bundle.tN "backtrace" Bundle.objD) (by simp [Bundle.npeArmAtoms])) e.platform hpl
  obtain ⟨cellS, hcS', heS, -, hkeep⟩ := X.same.2.2.2.2.2 T.aS cellS0 hcS0
  have hcellS : W.heap[T.aS]? = some cellS := hcS'
  have hout' : ∀ i, (⟨T.aS, i⟩ : Loc) ∉ locs := fun i hmem => by
    have := hlocs _ hmem cellS0 hcS0
    rw [hiss] at this; cases this
  have hknownS : cellS.vm ≠ .unknown := by
    rw [heS]; intro hu
    rw [show cellS0.vm = .unknown from hu] at hiss
    cases hiss
  have hvU : cellS.slots[T.fUnassigned.slot]? = some u0.v := by rw [hkeep _ (hout' _)]; exact hu0
  have hvSen : cellS.slots[T.fSentinel.slot]? = some sen.v := by rw [hkeep _ (hout' _)]; exact hsen
  obtain ⟨tyC, dC, hdC, hdnC⟩ := Cond.laysAt hfound hk Y.cause (a' (.lays Bundle.nN Bundle.tN "cause" "Ljava/lang/Throwable;") (by simp [Bundle.npeArmAtoms]))
  obtain ⟨tyS, dS, hdS, hdnS⟩ := Cond.laysAt hfound hk Y.stack (a' (.lays Bundle.nN Bundle.tN "stackTrace" Bundle.steD) (by simp [Bundle.npeArmAtoms]))
  obtain ⟨tyP, dP, hdP, hdnP⟩ := Cond.laysAt hfound hk Y.supp (a' (.lays Bundle.nN Bundle.tN "suppressedExceptions" Bundle.listD) (by simp [Bundle.npeArmAtoms]))
  obtain ⟨tyX, dX, hdX, hdnX⟩ := Cond.laysAt hfound hk hffS (a' (.lays Bundle.nN Bundle.nN "extendedMessageState" "I") (by simp [Bundle.npeArmAtoms, Bundle.npeAtoms]))
  obtain ⟨hnX, htX⟩ := State.fieldFound?_type hffS (t := .int) (by decide +kernel)
  have xC := Cond.laysApart hdC hdX hdnC hdnX (by rw [hnX, Y.causeName]; decide)
  have xS := Cond.laysApart hdS hdX hdnS hdnX (by rw [hnX, Y.stackName]; decide)
  have xP := Cond.laysApart hdP hdX hdnP hdnX (by rw [hnX, Y.suppName]; decide)
  have hv0 : (freshCell P1.m.cls N.kN).slots[N.fState.slot]? = some (.int 0) := by
    have := fresh_default (c := P1.m.cls) tyX
    rw [htX] at this; exact this
  obtain ⟨tyB, dB, hdB, hdnB⟩ := Cond.laysAt hfound hk hffB (a' (.lays Bundle.nN Bundle.tN "backtrace" Bundle.objD) (by simp [Bundle.npeArmAtoms]))
  have bC := Cond.laysApart hdB hdC hdnB hdnC (by rw [hnB, Y.causeName]; decide)
  have bS := Cond.laysApart hdB hdS hdnB hdnS (by rw [hnB, Y.stackName]; decide)
  have bP := Cond.laysApart hdB hdP hdnB hdnP (by rw [hnB, Y.suppName]; decide)
  have bX := Cond.laysApart hdB hdX hdnB hdnX (by rw [hnB, hnX]; decide)
  have hbk : ((npeCell N.toNpeT (preparedCellV T.toThrowableT (freshCell P1.m.cls N.kN) W.heap.size u0 sen) W.cur).withEntry W.cur).slots[fB.slot]? = some .null := by
    have := fresh_default (c := P1.m.cls) tyB
    rw [htB] at this
    simpa [npeCell, preparedCellV, Cell.setSlot, Cell.withEntry, Array.getElem?_setIfInBounds, bC, bS, bP, bX, bC.symm, bS.symm, bP.symm, bX.symm, defaultValue] using this
  have tkC := Takes.of_laid (v := .ref W.heap.size) hk hordN tyC (by rw [Y.causeType]; rfl)
  have tkS := Takes.of_laid (v := u0.v) hk hordN tyS (by rw [Y.stackType]; exact fits_refV_array _ u0)
  have tkP := Takes.of_laid (v := sen.v) hk hordN tyP (by rw [Y.suppType]; exact fits_refV_object _ sen)
  have tkX := Takes.of_laid (v := .int 1) hk hordN tyX (by rw [htX]; rfl)
  have hskip : SkipFacts T e.platform s (fun u => u) u0 ((npeCell N.toNpeT (preparedCellV T.toThrowableT (freshCell P1.m.cls N.kN) W.heap.size u0 sen) W.cur).withEntry W.cur) := ⟨{ ci198 := ci198, i198 := i198, fBack := fB }, ⟨hk198, hg198, ha198, hsB⟩, hbk, fun _ _ => rfl⟩
  obtain ⟨vm', X3, st, -⟩ := X.throwsNpeColdBareVAt hexec hg hsize T L Z LZ N LN P1 L1 [PR, PE] hLs hlink1 ⟨hlinkR, hlinkE, trivial⟩ hfound hk hinit hordN hctor hsel0 hselF hcellS hknownS hvU hvSen
    hv0 xC xS xP tkC tkS tkP tkX Y.objLocals hskip (fun _ _ hA hW _ hroom _ hrest => L.nativeOff p htr hA hW hroom hrest) (by simpa using hRframes) hRlocals (by simp) hRcells (by rw [hn]; exact hRslots)
  have hlt : W.heap.size < ((W.pushCell (freshCell P1.m.cls N.kN)).setVm vm').heap.size := by
    show W.heap.size < (W.pushCell (freshCell P1.m.cls N.kN)).heap.size
    rw [State.heap_size_pushCell]; omega
  rw [hfsz] at X3
  obtain ⟨g₁, hfrM⟩ := X3.frames_eq
  have hU : ((((W.pushCell (freshCell P1.m.cls N.kN)).setVm vm').setCell W.heap.size (npeBareV T.toThrowableT N.toNpeT (freshCell P1.m.cls N.kN) W.heap.size u0 sen)).setTop g).pushFrame (.throwing W.heap.size) = (((W.pushCell (freshCell P1.m.cls N.kN)).setVm vm').setCell W.heap.size (npeBareV T.toThrowableT N.toNpeT (freshCell P1.m.cls N.kN) W.heap.size u0 sen)).setFrames (.throwing W.heap.size :: .java g :: below) := by
    rw [State.pushFrame, State.frames_setTop _ hfrM, State.setTop_of_frames _ hfrM, State.setFrames_setFrames]
  refine ⟨_, W.heap.size, _, fun target ht => st.trans (by rw [← hU]; exact ht), X3.forget (fun y hy => ?_), heapAt_setCell_self _ hlt, hfound, rfl⟩
  simp only [List.mem_cons, List.not_mem_nil, or_false] at hy
  have hge : s.heap.size ≤ W.heap.size := X.same.2.1
  rcases hy with rfl | rfl | rfl | rfl | rfl <;> exact hge
/-- the words of a machine's NullPointerException, but the four that speak of the heap -/
def vx_atN (n : Nat) : List Cond := (Bundle.npeArmAtoms n).filter vx_no
/-- the words of a machine's throw with a message, but the four that speak of the heap -/
def vx_atM (X : String) (names : List String) : List Cond := (Bundle.messageArmAtoms X names).filter vx_no
section
variable {p : Program} {l : Launch} {e : Env} {R : Room} {s : State} {m : MethodId} {args : Array Value} {below : List Frame} {meth : Method} {c : Code} {H : Heap} {locs : List Loc} {cells slots : Nat}
/-- a frame seen from a rebased start, seen from the first start again -/
theorem vx_back9 {T S : State} {R' : Room} {k n : Nat} (X : Stand p l e R s m args below meth c T locs cells slots) (Y : Stand p l e R' ((T.setVm s.vm).setFrames (.invoking m args :: below)) m args below meth c T [] 0 0) (Z : Stand p l e R' ((T.setVm s.vm).setFrames (.invoking m args :: below)) m args below meth c S [] k n) :
    Stand p l e R s m args below meth c S locs (cells + k) (slots + n) := by
  have hW0 : s.WarmedH ((T.setVm s.vm).setFrames (.invoking m args :: below)).vm := State.WarmedH.refl s
  refine { admits := X.admits, cas := X.cas, clock := X.clock, frames := X.frames, room := X.room, hears := X.hears, method := X.method, code := X.code, here := Z.here, tail := Z.tail, warmed := State.WarmedH.trans hW0 Z.warmed, limits := Z.limits.trans (Y.limits.symm.trans X.limits), bytes := Z.bytes.trans (Y.bytes.symm.trans X.bytes), same := ?_ }
  obtain ⟨e1, e2⟩ := Z.same
  rw [State.setFrames_setFrames] at e1
  have h2 : (T.setVm s.vm).sameButNew (S.setVm s.vm) [] k n := ⟨e1, e2⟩
  have h3 := X.same.trans h2
  rw [List.append_nil] at h3
  exact h3
/-- from the machine's note that E is thrown here with this text -/
def vx_Note (p : Program) (l : Launch) (e : Env) (R : Room) (s : State) (m : MethodId) (args : Array Value) (below : List Frame) (meth : Method) (c : Code) (H : Heap) (locs : List Loc) (cells slots : Nat) (Q : State → Prop) (g : JFrame) (E text : String) : Prop :=
  ∀ T : State, T.heap = H → Stand p l e R s m args below meth c T locs cells slots → ∃ t, Steps p.tables e below ((T.setTop g).pushFrame (.throwNew E (some text) none)) t ∧ Q t
theorem vx_vm {pc : Nat} {ls : Array Slot} {rest : List Value} {Q : State → Prop} (hexec : p.tables.exec = Jvm.exec) (hl : l.stackTraces = false) {cls text : String} {names : List String} {nb : Nat} {A : Nat → Prop}
    (hcls : Bundle.fit cls = true) (hnames : ∀ n ∈ names, Bundle.fit n = true) (hsoe : (cls == "java/lang/StackOverflowError") = false) (hoom : (cls == "java/lang/OutOfMemoryError") = false)
    (hat : ∀ w ∈ vx_atM cls names, w.before args s = true) (hgood : ∀ w ∈ vx_atM cls names, vx_ot w = true)
    (hU : vx_Zq Bundle.tN "UNASSIGNED_STACK" Bundle.steD A s s.heap) (hN : vx_Zq Bundle.tN "SUPPRESSED_SENTINEL" Bundle.listD A s s.heap) (hS : va_S A s.heap H locs) (hsize : ls.size = c.maxLocals)
    (htext : (text == notModelled) = false) (hnb : (stringBytes (stringToUtf16 text)).size ≤ nb) (hnb1 : nb ≤ 1000)
    (hRframes : names.length + 4 < R.frames) (hRlocals : (rest.map fun v => v.category).sum + 10240 ≤ R.locals) (hshort : 13 * names.length + 55 ≤ 10240) (hRcells : cells + 3 ≤ R.cells) (hRslots : slots + (nb + 10) ≤ R.slots) (hlocks : meth.locks = false)
    (k : ∀ (H1 : Heap) (q9 : Addr) (ce : Cell), H.size ≤ H1.size → (∀ q : Nat, q < H.size → H1[q]? = H[q]?) → va_S A s.heap H1 locs → H1[q9]? = some ce → ce.vm = .none → s.vm.findClass cls = some ce.cls → vx_W p l e R s m args below meth c H1 locs (cells + 3) (slots + (nb + 10)) Q (F0 m pc ls rest) q9) :
    vx_Note p l e R s m args below meth c H locs cells slots Q (F0 m pc ls rest) cls text := by
  intro T hT X
  have htr : e.platform.stackTraces = false := (show e.platform.stackTraces = l.stackTraces by rw [X.admits.platform]).trans hl
  have Y := vx_rebase X (R' := { frames := R.frames, locals := R.locals, cells := 3, slots := nb + 10 }) (Nat.le_refl _) (Nat.le_refl _) hRcells hRslots
  have hhp : ((T.setVm s.vm).setFrames (.invoking m args :: below)).heap = H := hT
  have hW0 : s.WarmedH ((T.setVm s.vm).setFrames (.invoking m args :: below)).vm := State.WarmedH.refl s
  have hat' : ∀ w ∈ vx_atM cls names, w.before args ((T.setVm s.vm).setFrames (.invoking m args :: below)) = true := fun w hw => vx_ot_at hW0 rfl (hgood w hw) (hat w hw)
  have hU' : vx_Zq Bundle.tN "UNASSIGNED_STACK" Bundle.steD A ((T.setVm s.vm).setFrames (.invoking m args :: below)) ((T.setVm s.vm).setFrames (.invoking m args :: below)).heap := by rw [hhp]; exact vx_Zq.moved hW0.alike (hU.kept hS.2.1)
  have hN' : vx_Zq Bundle.tN "SUPPRESSED_SENTINEL" Bundle.listD A ((T.setVm s.vm).setFrames (.invoking m args :: below)) ((T.setVm s.vm).setFrames (.invoking m args :: below)).heap := by rw [hhp]; exact vx_Zq.moved hW0.alike (hN.kept hS.2.1)
  obtain ⟨S, q, ce, st, Z, hce, hcl', hv⟩ := vx_vmAt Y hexec htr (cls := cls) (names := names) (text := text) hcls hnames hsoe hoom (vx_own hat' (vx_isRefq hU'.1) (vx_isRefq hN'.1) hU'.2.word hN'.2.word) (fun x hx => nomatch hx) htext
    (by rw [Launch.admits_arrayLengthLimit X.admits]; omega) (by rw [Launch.admits_maxHeapBytes X.admits]; simp only [componentBytes]; omega)
    (g := F0 m pc ls rest) rfl hsize hRframes (by show 2 * 0 + (rest.map fun v => v.category).sum + 10240 ≤ R.locals; omega) hshort (by show 0 + 3 ≤ 3; omega) (by show 0 + (_ + 4 + 6) ≤ nb + 10; omega) hlocks
  obtain ⟨f1, f2⟩ := vx_frame Z.same
  have f1' : H.size ≤ S.heap.size := by rw [← hT]; exact f1
  have f2' : ∀ q : Nat, q < H.size → S.heap[q]? = H[q]? := fun q hq => by
    rw [← hT]
    exact f2 q (by rw [← hT] at hq; exact hq) (fun z hz => nomatch hz)
  have X5 := vx_back9 X Y Z
  have X6 : Stand p l e R s m args below meth c S locs (cells + 3) (slots + (nb + 10)) := { X5 with same := X5.same.mono (by omega) (by omega) }
  obtain ⟨t, a1, b1⟩ := k S.heap q ce f1' f2' ⟨Nat.le_trans hS.1 f1', fun q h1 h2 => (f2' q (Nat.lt_of_lt_of_le h1 hS.1)).trans (hS.2.1 q h1 h2), hS.2.2⟩ hce hv hcl' S rfl X6
  exact ⟨t, st t a1, b1⟩
/-- from the machine's note that NullPointerException is thrown here -/
def vx_NoteN (p : Program) (l : Launch) (e : Env) (R : Room) (s : State) (m : MethodId) (args : Array Value) (below : List Frame) (meth : Method) (c : Code) (H : Heap) (locs : List Loc) (cells slots : Nat) (Q : State → Prop) (g : JFrame) : Prop :=
  ∀ T : State, T.heap = H → Stand p l e R s m args below meth c T locs cells slots → ∃ t, Steps p.tables e below ((T.setTop g).pushFrame (.throwNew "java/lang/NullPointerException" none none)) t ∧ Q t
theorem vx_npe {pc : Nat} {ls : Array Slot} {rest : List Value} {Q : State → Prop} (hexec : p.tables.exec = Jvm.exec) (hl : l.stackTraces = false) {nb : Nat} {A : Nat → Prop}
    (hat : ∀ w ∈ vx_atN nb, w.before args s = true) (hgood : ∀ w ∈ vx_atN nb, vx_ot w = true)
    (hU : vx_Zq Bundle.tN "UNASSIGNED_STACK" Bundle.steD A s s.heap) (hN : vx_Zq Bundle.tN "SUPPRESSED_SENTINEL" Bundle.listD A s s.heap) (hS : va_S A s.heap H locs) (hsize : ls.size = c.maxLocals)
    (hRframes : 7 < R.frames) (hRlocals : (rest.map fun v => v.category).sum + 10240 ≤ R.locals) (hRcells : cells + 1 ≤ R.cells) (hRslots : slots + nb ≤ R.slots) (hlocks : meth.locks = false)
    (k : ∀ (H1 : Heap) (q9 : Addr) (ce : Cell), H.size ≤ H1.size → (∀ q : Nat, q < H.size → H1[q]? = H[q]?) → va_S A s.heap H1 locs → H1[q9]? = some ce → ce.vm = .none → s.vm.findClass "java/lang/NullPointerException" = some ce.cls → vx_W p l e R s m args below meth c H1 locs (cells + 1) (slots + nb) Q (F0 m pc ls rest) q9) :
    vx_NoteN p l e R s m args below meth c H locs cells slots Q (F0 m pc ls rest) := by
  intro T hT X
  have htr : e.platform.stackTraces = false := (show e.platform.stackTraces = l.stackTraces by rw [X.admits.platform]).trans hl
  have Y := vx_rebase X (R' := { frames := R.frames, locals := R.locals, cells := 1, slots := nb }) (Nat.le_refl _) (Nat.le_refl _) hRcells hRslots
  have hhp : ((T.setVm s.vm).setFrames (.invoking m args :: below)).heap = H := hT
  have hW0 : s.WarmedH ((T.setVm s.vm).setFrames (.invoking m args :: below)).vm := State.WarmedH.refl s
  have hat' : ∀ w ∈ vx_atN nb, w.before args ((T.setVm s.vm).setFrames (.invoking m args :: below)) = true := fun w hw => vx_ot_at hW0 rfl (hgood w hw) (hat w hw)
  have hU' : vx_Zq Bundle.tN "UNASSIGNED_STACK" Bundle.steD A ((T.setVm s.vm).setFrames (.invoking m args :: below)) ((T.setVm s.vm).setFrames (.invoking m args :: below)).heap := by rw [hhp]; exact vx_Zq.moved hW0.alike (hU.kept hS.2.1)
  have hN' : vx_Zq Bundle.tN "SUPPRESSED_SENTINEL" Bundle.listD A ((T.setVm s.vm).setFrames (.invoking m args :: below)) ((T.setVm s.vm).setFrames (.invoking m args :: below)).heap := by rw [hhp]; exact vx_Zq.moved hW0.alike (hN.kept hS.2.1)
  obtain ⟨S, q, ce, st, Z, hce, hcl', hv⟩ := vx_npeAt Y hexec htr (n := nb) (vx_own hat' (vx_isRefq hU'.1) (vx_isRefq hN'.1) hU'.2.word hN'.2.word) (fun x hx => nomatch hx)
    (g := F0 m pc ls rest) rfl hsize hRframes (by show 2 * 0 + (rest.map fun v => v.category).sum + 10240 ≤ R.locals; omega) (by show 0 + 1 ≤ 1; omega) (by show 0 + nb ≤ nb; omega) hlocks
  obtain ⟨f1, f2⟩ := vx_frame Z.same
  have f1' : H.size ≤ S.heap.size := by rw [← hT]; exact f1
  have f2' : ∀ q : Nat, q < H.size → S.heap[q]? = H[q]? := fun q hq => by
    rw [← hT]
    exact f2 q (by rw [← hT] at hq; exact hq) (fun z hz => nomatch hz)
  have X5 := vx_back9 X Y Z
  have X6 : Stand p l e R s m args below meth c S locs (cells + 1) (slots + nb) := { X5 with same := X5.same.mono (by omega) (by omega) }
  obtain ⟨t, a1, b1⟩ := k S.heap q ce f1' f2' ⟨Nat.le_trans hS.1 f1', fun q h1 h2 => (f2' q (Nat.lt_of_lt_of_le h1 hS.1)).trans (hS.2.1 q h1 h2), hS.2.2⟩ hce hv hcl' S rfl X6
  exact ⟨t, st t a1, b1⟩
variable {Q : State → Prop} {cc : ByteArray} {pc : Nat} {ls : Array Slot} {rest : List Value}
theorem vx_idivZ (hexec : p.tables.exec = Jvm.exec) (hb : c.code = cc) {a b : Int32} (h0 : b = 0) (d : decode cc pc = .ok (.idiv, 1)) (k : vx_Note p l e R s m args below meth c H locs cells slots Q (F0 m pc ls rest) "java/lang/ArithmeticException" "/ by zero") :
    W p l e R s m args below meth c H locs cells slots Q (F0 m pc ls (.int b :: .int a :: rest)) := by
  intro T hT X
  obtain ⟨t, st, q⟩ := k T hT X
  exact ⟨t, X.idivZero hexec (g := F0 m pc ls (.int b :: .int a :: rest)) rfl (a := a) (rest := rest) (by rw [h0]) (by rw [hb]; exact d) t st, q⟩
theorem vx_iremZ (hexec : p.tables.exec = Jvm.exec) (hb : c.code = cc) {a b : Int32} (h0 : b = 0) (d : decode cc pc = .ok (.irem, 1)) (k : vx_Note p l e R s m args below meth c H locs cells slots Q (F0 m pc ls rest) "java/lang/ArithmeticException" "/ by zero") :
    W p l e R s m args below meth c H locs cells slots Q (F0 m pc ls (.int b :: .int a :: rest)) := by
  intro T hT X
  obtain ⟨t, st, q⟩ := k T hT X
  exact ⟨t, X.iremZero hexec (g := F0 m pc ls (.int b :: .int a :: rest)) rfl (a := a) (rest := rest) (by rw [h0]) (by rw [hb]; exact d) t st, q⟩
theorem vx_ldivZ (hexec : p.tables.exec = Jvm.exec) (hb : c.code = cc) {a b : Int64} (h0 : b = 0) (d : decode cc pc = .ok (.ldiv, 1)) (k : vx_Note p l e R s m args below meth c H locs cells slots Q (F0 m pc ls rest) "java/lang/ArithmeticException" "/ by zero") :
    W p l e R s m args below meth c H locs cells slots Q (F0 m pc ls (.long b :: .long a :: rest)) := by
  intro T hT X
  obtain ⟨t, st, q⟩ := k T hT X
  exact ⟨t, X.ldivZero hexec (g := F0 m pc ls (.long b :: .long a :: rest)) rfl (a := a) (rest := rest) (by rw [h0]) (by rw [hb]; exact d) t st, q⟩
theorem vx_lremZ (hexec : p.tables.exec = Jvm.exec) (hb : c.code = cc) {a b : Int64} (h0 : b = 0) (d : decode cc pc = .ok (.lrem, 1)) (k : vx_Note p l e R s m args below meth c H locs cells slots Q (F0 m pc ls rest) "java/lang/ArithmeticException" "/ by zero") :
    W p l e R s m args below meth c H locs cells slots Q (F0 m pc ls (.long b :: .long a :: rest)) := by
  intro T hT X
  obtain ⟨t, st, q⟩ := k T hT X
  exact ⟨t, X.lremZero hexec (g := F0 m pc ls (.long b :: .long a :: rest)) rfl (a := a) (rest := rest) (by rw [h0]) (by rw [hb]; exact d) t st, q⟩
theorem vx_ialdZ {D : va_G} {cl : List vw_C} {ws : va_W} {tys : List (ClassId × FieldType)} {a : Nat} (hexec : p.tables.exec = Jvm.exec) (hb : c.code = cc) (hK : va_K D cl tys s) (hP : va_P D cl ws H) (q0 t0 : Nat) {cA : ClassId} {n : Nat} {f : Nat → Int32} (ha : ws[q0]? = some (a, .inl (cA, n, .inl f))) (ht : tys[t0]? = some (cA, .int)) {i : Int32} (hout : ¬ vp_in i n) (hdg : decode cc pc = .ok (.iaload, 1))
    (k : ∀ tx : String, tx = (toString "Index " ++ toString i ++ toString " out of bounds for length " ++ toString n : String) → vx_Note p l e R s m args below meth c H locs cells slots Q (F0 m pc ls rest) "java/lang/ArrayIndexOutOfBoundsException" tx) : W p l e R s m args below meth c H locs cells slots Q (F0 m pc ls (.int i :: .ref a :: rest)) := by
  intro T hT X
  obtain ⟨t, st, q⟩ := k _ rfl T hT X
  refine ⟨t, ?_, q⟩
  have h1 := X.ialoadOut hexec (by rw [hT]; exact hP q0 _ ha) ((hK.2 t0 _ ht).1 n (fun j => .int (f j))) (j := i) (by show (i < 0 ∨ (arrV _ _ _).slots.size ≤ _); rw [arrV_size]; exact Classical.byContradiction hout) (g := F0 m pc ls (.int i :: .ref a :: rest)) rfl (rest := rest) rfl (by rw [hb]; exact hdg) t
  simp only [arrV_size] at h1
  exact h1 st
theorem vx_iastZ {D : va_G} {cl : List vw_C} {ws : va_W} {tys : List (ClassId × FieldType)} {a : Nat} (hexec : p.tables.exec = Jvm.exec) (hb : c.code = cc) (hK : va_K D cl tys s) (hP : va_P D cl ws H) (q0 t0 : Nat) {cA : ClassId} {n : Nat} {f : Nat → Int32} (ha : ws[q0]? = some (a, .inl (cA, n, .inl f))) (ht : tys[t0]? = some (cA, .int)) {i : Int32} {x : Int32} (hout : ¬ vp_in i n) (hdg : decode cc pc = .ok (.iastore, 1))
    (k : ∀ tx : String, tx = (toString "Index " ++ toString i ++ toString " out of bounds for length " ++ toString n : String) → vx_Note p l e R s m args below meth c H locs cells slots Q (F0 m pc ls rest) "java/lang/ArrayIndexOutOfBoundsException" tx) : W p l e R s m args below meth c H locs cells slots Q (F0 m pc ls (.int x :: .int i :: .ref a :: rest)) := by
  intro T hT X
  obtain ⟨t, st, q⟩ := k _ rfl T hT X
  refine ⟨t, ?_, q⟩
  have h1 := X.iastoreOut hexec (by rw [hT]; exact hP q0 _ ha) ((hK.2 t0 _ ht).1 n (fun j => .int (f j))) (j := i) (by show (i < 0 ∨ (arrV _ _ _).slots.size ≤ _); rw [arrV_size]; exact Classical.byContradiction hout) (g := F0 m pc ls (.int x :: .int i :: .ref a :: rest)) rfl (rest := rest) rfl (by rw [hb]; exact hdg) t
  simp only [arrV_size] at h1
  exact h1 st
theorem vx_baldZ {D : va_G} {cl : List vw_C} {ws : va_W} {tys : List (ClassId × FieldType)} {a : Nat} (hexec : p.tables.exec = Jvm.exec) (hb : c.code = cc) (hK : va_K D cl tys s) (hP : va_P D cl ws H) (q0 t0 : Nat) {cA : ClassId} {n : Nat} {f : Nat → Int32} (ha : ws[q0]? = some (a, .inl (cA, n, .inl f))) (ht : tys[t0]? = some (cA, .byte)) {i : Int32} (hout : ¬ vp_in i n) (hdg : decode cc pc = .ok (.baload, 1))
    (k : ∀ tx : String, tx = (toString "Index " ++ toString i ++ toString " out of bounds for length " ++ toString n : String) → vx_Note p l e R s m args below meth c H locs cells slots Q (F0 m pc ls rest) "java/lang/ArrayIndexOutOfBoundsException" tx) : W p l e R s m args below meth c H locs cells slots Q (F0 m pc ls (.int i :: .ref a :: rest)) := by
  intro T hT X
  obtain ⟨t, st, q⟩ := k _ rfl T hT X
  refine ⟨t, ?_, q⟩
  have h1 := X.baloadOut hexec (by rw [hT]; exact hP q0 _ ha) ((hK.2 t0 _ ht).1 n (fun j => .int (f j))) (j := i) (by show (i < 0 ∨ (arrV _ _ _).slots.size ≤ _); rw [arrV_size]; exact Classical.byContradiction hout) (g := F0 m pc ls (.int i :: .ref a :: rest)) rfl (rest := rest) rfl (by rw [hb]; exact hdg) t
  simp only [arrV_size] at h1
  exact h1 st
theorem vx_bastZ {D : va_G} {cl : List vw_C} {ws : va_W} {tys : List (ClassId × FieldType)} {a : Nat} (hexec : p.tables.exec = Jvm.exec) (hb : c.code = cc) (hK : va_K D cl tys s) (hP : va_P D cl ws H) (q0 t0 : Nat) {cA : ClassId} {n : Nat} {f : Nat → Int32} (ha : ws[q0]? = some (a, .inl (cA, n, .inl f))) (ht : tys[t0]? = some (cA, .byte)) {i : Int32} {x : Int32} (hout : ¬ vp_in i n) (hdg : decode cc pc = .ok (.bastore, 1))
    (k : ∀ tx : String, tx = (toString "Index " ++ toString i ++ toString " out of bounds for length " ++ toString n : String) → vx_Note p l e R s m args below meth c H locs cells slots Q (F0 m pc ls rest) "java/lang/ArrayIndexOutOfBoundsException" tx) : W p l e R s m args below meth c H locs cells slots Q (F0 m pc ls (.int x :: .int i :: .ref a :: rest)) := by
  intro T hT X
  obtain ⟨t, st, q⟩ := k _ rfl T hT X
  refine ⟨t, ?_, q⟩
  have h1 := X.bastoreOut hexec (by rw [hT]; exact hP q0 _ ha) ((hK.2 t0 _ ht).1 n (fun j => .int (f j))) (j := i) (by show (i < 0 ∨ (arrV _ _ _).slots.size ≤ _); rw [arrV_size]; exact Classical.byContradiction hout) (g := F0 m pc ls (.int x :: .int i :: .ref a :: rest)) rfl (rest := rest) rfl (by rw [hb]; exact hdg) t
  simp only [arrV_size] at h1
  exact h1 st
theorem vx_zaldZ {D : va_G} {cl : List vw_C} {ws : va_W} {tys : List (ClassId × FieldType)} {a : Nat} (hexec : p.tables.exec = Jvm.exec) (hb : c.code = cc) (hK : va_K D cl tys s) (hP : va_P D cl ws H) (q0 t0 : Nat) {cA : ClassId} {n : Nat} {f : Nat → Int32} (ha : ws[q0]? = some (a, .inl (cA, n, .inl f))) (ht : tys[t0]? = some (cA, .boolean)) {i : Int32} (hout : ¬ vp_in i n) (hdg : decode cc pc = .ok (.baload, 1))
    (k : ∀ tx : String, tx = (toString "Index " ++ toString i ++ toString " out of bounds for length " ++ toString n : String) → vx_Note p l e R s m args below meth c H locs cells slots Q (F0 m pc ls rest) "java/lang/ArrayIndexOutOfBoundsException" tx) : W p l e R s m args below meth c H locs cells slots Q (F0 m pc ls (.int i :: .ref a :: rest)) := by
  intro T hT X
  obtain ⟨t, st, q⟩ := k _ rfl T hT X
  refine ⟨t, ?_, q⟩
  have h1 := X.baloadOut hexec (by rw [hT]; exact hP q0 _ ha) ((hK.2 t0 _ ht).1 n (fun j => .int (f j))) (j := i) (by show (i < 0 ∨ (arrV _ _ _).slots.size ≤ _); rw [arrV_size]; exact Classical.byContradiction hout) (g := F0 m pc ls (.int i :: .ref a :: rest)) rfl (rest := rest) rfl (by rw [hb]; exact hdg) t
  simp only [arrV_size] at h1
  exact h1 st
theorem vx_zastZ {D : va_G} {cl : List vw_C} {ws : va_W} {tys : List (ClassId × FieldType)} {a : Nat} (hexec : p.tables.exec = Jvm.exec) (hb : c.code = cc) (hK : va_K D cl tys s) (hP : va_P D cl ws H) (q0 t0 : Nat) {cA : ClassId} {n : Nat} {f : Nat → Int32} (ha : ws[q0]? = some (a, .inl (cA, n, .inl f))) (ht : tys[t0]? = some (cA, .boolean)) {i : Int32} {x : Int32} (hout : ¬ vp_in i n) (hdg : decode cc pc = .ok (.bastore, 1))
    (k : ∀ tx : String, tx = (toString "Index " ++ toString i ++ toString " out of bounds for length " ++ toString n : String) → vx_Note p l e R s m args below meth c H locs cells slots Q (F0 m pc ls rest) "java/lang/ArrayIndexOutOfBoundsException" tx) : W p l e R s m args below meth c H locs cells slots Q (F0 m pc ls (.int x :: .int i :: .ref a :: rest)) := by
  intro T hT X
  obtain ⟨t, st, q⟩ := k _ rfl T hT X
  refine ⟨t, ?_, q⟩
  have h1 := X.bastoreOut hexec (by rw [hT]; exact hP q0 _ ha) ((hK.2 t0 _ ht).1 n (fun j => .int (f j))) (j := i) (by show (i < 0 ∨ (arrV _ _ _).slots.size ≤ _); rw [arrV_size]; exact Classical.byContradiction hout) (g := F0 m pc ls (.int x :: .int i :: .ref a :: rest)) rfl (rest := rest) rfl (by rw [hb]; exact hdg) t
  simp only [arrV_size] at h1
  exact h1 st
theorem vx_caldZ {D : va_G} {cl : List vw_C} {ws : va_W} {tys : List (ClassId × FieldType)} {a : Nat} (hexec : p.tables.exec = Jvm.exec) (hb : c.code = cc) (hK : va_K D cl tys s) (hP : va_P D cl ws H) (q0 t0 : Nat) {cA : ClassId} {n : Nat} {f : Nat → Int32} (ha : ws[q0]? = some (a, .inl (cA, n, .inl f))) (ht : tys[t0]? = some (cA, .char)) {i : Int32} (hout : ¬ vp_in i n) (hdg : decode cc pc = .ok (.caload, 1))
    (k : ∀ tx : String, tx = (toString "Index " ++ toString i ++ toString " out of bounds for length " ++ toString n : String) → vx_Note p l e R s m args below meth c H locs cells slots Q (F0 m pc ls rest) "java/lang/ArrayIndexOutOfBoundsException" tx) : W p l e R s m args below meth c H locs cells slots Q (F0 m pc ls (.int i :: .ref a :: rest)) := by
  intro T hT X
  obtain ⟨t, st, q⟩ := k _ rfl T hT X
  refine ⟨t, ?_, q⟩
  have h1 := X.caloadOut hexec (by rw [hT]; exact hP q0 _ ha) ((hK.2 t0 _ ht).1 n (fun j => .int (f j))) (j := i) (by show (i < 0 ∨ (arrV _ _ _).slots.size ≤ _); rw [arrV_size]; exact Classical.byContradiction hout) (g := F0 m pc ls (.int i :: .ref a :: rest)) rfl (rest := rest) rfl (by rw [hb]; exact hdg) t
  simp only [arrV_size] at h1
  exact h1 st
theorem vx_castZ {D : va_G} {cl : List vw_C} {ws : va_W} {tys : List (ClassId × FieldType)} {a : Nat} (hexec : p.tables.exec = Jvm.exec) (hb : c.code = cc) (hK : va_K D cl tys s) (hP : va_P D cl ws H) (q0 t0 : Nat) {cA : ClassId} {n : Nat} {f : Nat → Int32} (ha : ws[q0]? = some (a, .inl (cA, n, .inl f))) (ht : tys[t0]? = some (cA, .char)) {i : Int32} {x : Int32} (hout : ¬ vp_in i n) (hdg : decode cc pc = .ok (.castore, 1))
    (k : ∀ tx : String, tx = (toString "Index " ++ toString i ++ toString " out of bounds for length " ++ toString n : String) → vx_Note p l e R s m args below meth c H locs cells slots Q (F0 m pc ls rest) "java/lang/ArrayIndexOutOfBoundsException" tx) : W p l e R s m args below meth c H locs cells slots Q (F0 m pc ls (.int x :: .int i :: .ref a :: rest)) := by
  intro T hT X
  obtain ⟨t, st, q⟩ := k _ rfl T hT X
  refine ⟨t, ?_, q⟩
  have h1 := X.castoreOut hexec (by rw [hT]; exact hP q0 _ ha) ((hK.2 t0 _ ht).1 n (fun j => .int (f j))) (j := i) (by show (i < 0 ∨ (arrV _ _ _).slots.size ≤ _); rw [arrV_size]; exact Classical.byContradiction hout) (g := F0 m pc ls (.int x :: .int i :: .ref a :: rest)) rfl (rest := rest) rfl (by rw [hb]; exact hdg) t
  simp only [arrV_size] at h1
  exact h1 st
theorem vx_saldZ {D : va_G} {cl : List vw_C} {ws : va_W} {tys : List (ClassId × FieldType)} {a : Nat} (hexec : p.tables.exec = Jvm.exec) (hb : c.code = cc) (hK : va_K D cl tys s) (hP : va_P D cl ws H) (q0 t0 : Nat) {cA : ClassId} {n : Nat} {f : Nat → Int32} (ha : ws[q0]? = some (a, .inl (cA, n, .inl f))) (ht : tys[t0]? = some (cA, .short)) {i : Int32} (hout : ¬ vp_in i n) (hdg : decode cc pc = .ok (.saload, 1))
    (k : ∀ tx : String, tx = (toString "Index " ++ toString i ++ toString " out of bounds for length " ++ toString n : String) → vx_Note p l e R s m args below meth c H locs cells slots Q (F0 m pc ls rest) "java/lang/ArrayIndexOutOfBoundsException" tx) : W p l e R s m args below meth c H locs cells slots Q (F0 m pc ls (.int i :: .ref a :: rest)) := by
  intro T hT X
  obtain ⟨t, st, q⟩ := k _ rfl T hT X
  refine ⟨t, ?_, q⟩
  have h1 := X.saloadOut hexec (by rw [hT]; exact hP q0 _ ha) ((hK.2 t0 _ ht).1 n (fun j => .int (f j))) (j := i) (by show (i < 0 ∨ (arrV _ _ _).slots.size ≤ _); rw [arrV_size]; exact Classical.byContradiction hout) (g := F0 m pc ls (.int i :: .ref a :: rest)) rfl (rest := rest) rfl (by rw [hb]; exact hdg) t
  simp only [arrV_size] at h1
  exact h1 st
theorem vx_sastZ {D : va_G} {cl : List vw_C} {ws : va_W} {tys : List (ClassId × FieldType)} {a : Nat} (hexec : p.tables.exec = Jvm.exec) (hb : c.code = cc) (hK : va_K D cl tys s) (hP : va_P D cl ws H) (q0 t0 : Nat) {cA : ClassId} {n : Nat} {f : Nat → Int32} (ha : ws[q0]? = some (a, .inl (cA, n, .inl f))) (ht : tys[t0]? = some (cA, .short)) {i : Int32} {x : Int32} (hout : ¬ vp_in i n) (hdg : decode cc pc = .ok (.sastore, 1))
    (k : ∀ tx : String, tx = (toString "Index " ++ toString i ++ toString " out of bounds for length " ++ toString n : String) → vx_Note p l e R s m args below meth c H locs cells slots Q (F0 m pc ls rest) "java/lang/ArrayIndexOutOfBoundsException" tx) : W p l e R s m args below meth c H locs cells slots Q (F0 m pc ls (.int x :: .int i :: .ref a :: rest)) := by
  intro T hT X
  obtain ⟨t, st, q⟩ := k _ rfl T hT X
  refine ⟨t, ?_, q⟩
  have h1 := X.sastoreOut hexec (by rw [hT]; exact hP q0 _ ha) ((hK.2 t0 _ ht).1 n (fun j => .int (f j))) (j := i) (by show (i < 0 ∨ (arrV _ _ _).slots.size ≤ _); rw [arrV_size]; exact Classical.byContradiction hout) (g := F0 m pc ls (.int x :: .int i :: .ref a :: rest)) rfl (rest := rest) rfl (by rw [hb]; exact hdg) t
  simp only [arrV_size] at h1
  exact h1 st
theorem vx_laldZ {D : va_G} {cl : List vw_C} {ws : va_W} {tys : List (ClassId × FieldType)} {a : Nat} (hexec : p.tables.exec = Jvm.exec) (hb : c.code = cc) (hK : va_K D cl tys s) (hP : va_P D cl ws H) (q0 t0 : Nat) {cA : ClassId} {n : Nat} {f : Nat → Int64} (ha : ws[q0]? = some (a, .inl (cA, n, .inr (.inl f)))) (ht : tys[t0]? = some (cA, .long)) {i : Int32} (hout : ¬ vp_in i n) (hdg : decode cc pc = .ok (.laload, 1))
    (k : ∀ tx : String, tx = (toString "Index " ++ toString i ++ toString " out of bounds for length " ++ toString n : String) → vx_Note p l e R s m args below meth c H locs cells slots Q (F0 m pc ls rest) "java/lang/ArrayIndexOutOfBoundsException" tx) : W p l e R s m args below meth c H locs cells slots Q (F0 m pc ls (.int i :: .ref a :: rest)) := by
  intro T hT X
  obtain ⟨t, st, q⟩ := k _ rfl T hT X
  refine ⟨t, ?_, q⟩
  have h1 := X.laloadOut hexec (by rw [hT]; exact hP q0 _ ha) ((hK.2 t0 _ ht).1 n (fun j => .long (f j))) (j := i) (by show (i < 0 ∨ (arrV _ _ _).slots.size ≤ _); rw [arrV_size]; exact Classical.byContradiction hout) (g := F0 m pc ls (.int i :: .ref a :: rest)) rfl (rest := rest) rfl (by rw [hb]; exact hdg) t
  simp only [arrV_size] at h1
  exact h1 st
theorem vx_lastZ {D : va_G} {cl : List vw_C} {ws : va_W} {tys : List (ClassId × FieldType)} {a : Nat} (hexec : p.tables.exec = Jvm.exec) (hb : c.code = cc) (hK : va_K D cl tys s) (hP : va_P D cl ws H) (q0 t0 : Nat) {cA : ClassId} {n : Nat} {f : Nat → Int64} (ha : ws[q0]? = some (a, .inl (cA, n, .inr (.inl f)))) (ht : tys[t0]? = some (cA, .long)) {i : Int32} {x : Int64} (hout : ¬ vp_in i n) (hdg : decode cc pc = .ok (.lastore, 1))
    (k : ∀ tx : String, tx = (toString "Index " ++ toString i ++ toString " out of bounds for length " ++ toString n : String) → vx_Note p l e R s m args below meth c H locs cells slots Q (F0 m pc ls rest) "java/lang/ArrayIndexOutOfBoundsException" tx) : W p l e R s m args below meth c H locs cells slots Q (F0 m pc ls (.long x :: .int i :: .ref a :: rest)) := by
  intro T hT X
  obtain ⟨t, st, q⟩ := k _ rfl T hT X
  refine ⟨t, ?_, q⟩
  have h1 := X.lastoreOut hexec (by rw [hT]; exact hP q0 _ ha) ((hK.2 t0 _ ht).1 n (fun j => .long (f j))) (j := i) (by show (i < 0 ∨ (arrV _ _ _).slots.size ≤ _); rw [arrV_size]; exact Classical.byContradiction hout) (g := F0 m pc ls (.long x :: .int i :: .ref a :: rest)) rfl (rest := rest) rfl (by rw [hb]; exact hdg) t
  simp only [arrV_size] at h1
  exact h1 st
theorem vx_faldZ {D : va_G} {cl : List vw_C} {ws : va_W} {tys : List (ClassId × FieldType)} {a : Nat} (hexec : p.tables.exec = Jvm.exec) (hb : c.code = cc) (hK : va_K D cl tys s) (hP : va_P D cl ws H) (q0 t0 : Nat) {cA : ClassId} {n : Nat} {f : Nat → UInt32} (ha : ws[q0]? = some (a, .inl (cA, n, .inr (.inr (.inl f))))) (ht : tys[t0]? = some (cA, .float)) {i : Int32} (hout : ¬ vp_in i n) (hdg : decode cc pc = .ok (.faload, 1))
    (k : ∀ tx : String, tx = (toString "Index " ++ toString i ++ toString " out of bounds for length " ++ toString n : String) → vx_Note p l e R s m args below meth c H locs cells slots Q (F0 m pc ls rest) "java/lang/ArrayIndexOutOfBoundsException" tx) : W p l e R s m args below meth c H locs cells slots Q (F0 m pc ls (.int i :: .ref a :: rest)) := by
  intro T hT X
  obtain ⟨t, st, q⟩ := k _ rfl T hT X
  refine ⟨t, ?_, q⟩
  have h1 := X.faloadOut hexec (by rw [hT]; exact hP q0 _ ha) ((hK.2 t0 _ ht).1 n (fun j => .float (f j))) (j := i) (by show (i < 0 ∨ (arrV _ _ _).slots.size ≤ _); rw [arrV_size]; exact Classical.byContradiction hout) (g := F0 m pc ls (.int i :: .ref a :: rest)) rfl (rest := rest) rfl (by rw [hb]; exact hdg) t
  simp only [arrV_size] at h1
  exact h1 st
theorem vx_fastZ {D : va_G} {cl : List vw_C} {ws : va_W} {tys : List (ClassId × FieldType)} {a : Nat} (hexec : p.tables.exec = Jvm.exec) (hb : c.code = cc) (hK : va_K D cl tys s) (hP : va_P D cl ws H) (q0 t0 : Nat) {cA : ClassId} {n : Nat} {f : Nat → UInt32} (ha : ws[q0]? = some (a, .inl (cA, n, .inr (.inr (.inl f))))) (ht : tys[t0]? = some (cA, .float)) {i : Int32} {x : UInt32} (hout : ¬ vp_in i n) (hdg : decode cc pc = .ok (.fastore, 1))
    (k : ∀ tx : String, tx = (toString "Index " ++ toString i ++ toString " out of bounds for length " ++ toString n : String) → vx_Note p l e R s m args below meth c H locs cells slots Q (F0 m pc ls rest) "java/lang/ArrayIndexOutOfBoundsException" tx) : W p l e R s m args below meth c H locs cells slots Q (F0 m pc ls (.float x :: .int i :: .ref a :: rest)) := by
  intro T hT X
  obtain ⟨t, st, q⟩ := k _ rfl T hT X
  refine ⟨t, ?_, q⟩
  have h1 := X.fastoreOut hexec (by rw [hT]; exact hP q0 _ ha) ((hK.2 t0 _ ht).1 n (fun j => .float (f j))) (j := i) (by show (i < 0 ∨ (arrV _ _ _).slots.size ≤ _); rw [arrV_size]; exact Classical.byContradiction hout) (g := F0 m pc ls (.float x :: .int i :: .ref a :: rest)) rfl (rest := rest) rfl (by rw [hb]; exact hdg) t
  simp only [arrV_size] at h1
  exact h1 st
theorem vx_daldZ {D : va_G} {cl : List vw_C} {ws : va_W} {tys : List (ClassId × FieldType)} {a : Nat} (hexec : p.tables.exec = Jvm.exec) (hb : c.code = cc) (hK : va_K D cl tys s) (hP : va_P D cl ws H) (q0 t0 : Nat) {cA : ClassId} {n : Nat} {f : Nat → UInt64} (ha : ws[q0]? = some (a, .inl (cA, n, .inr (.inr (.inr (.inl f)))))) (ht : tys[t0]? = some (cA, .double)) {i : Int32} (hout : ¬ vp_in i n) (hdg : decode cc pc = .ok (.daload, 1))
    (k : ∀ tx : String, tx = (toString "Index " ++ toString i ++ toString " out of bounds for length " ++ toString n : String) → vx_Note p l e R s m args below meth c H locs cells slots Q (F0 m pc ls rest) "java/lang/ArrayIndexOutOfBoundsException" tx) : W p l e R s m args below meth c H locs cells slots Q (F0 m pc ls (.int i :: .ref a :: rest)) := by
  intro T hT X
  obtain ⟨t, st, q⟩ := k _ rfl T hT X
  refine ⟨t, ?_, q⟩
  have h1 := X.daloadOut hexec (by rw [hT]; exact hP q0 _ ha) ((hK.2 t0 _ ht).1 n (fun j => .double (f j))) (j := i) (by show (i < 0 ∨ (arrV _ _ _).slots.size ≤ _); rw [arrV_size]; exact Classical.byContradiction hout) (g := F0 m pc ls (.int i :: .ref a :: rest)) rfl (rest := rest) rfl (by rw [hb]; exact hdg) t
  simp only [arrV_size] at h1
  exact h1 st
theorem vx_dastZ {D : va_G} {cl : List vw_C} {ws : va_W} {tys : List (ClassId × FieldType)} {a : Nat} (hexec : p.tables.exec = Jvm.exec) (hb : c.code = cc) (hK : va_K D cl tys s) (hP : va_P D cl ws H) (q0 t0 : Nat) {cA : ClassId} {n : Nat} {f : Nat → UInt64} (ha : ws[q0]? = some (a, .inl (cA, n, .inr (.inr (.inr (.inl f)))))) (ht : tys[t0]? = some (cA, .double)) {i : Int32} {x : UInt64} (hout : ¬ vp_in i n) (hdg : decode cc pc = .ok (.dastore, 1))
    (k : ∀ tx : String, tx = (toString "Index " ++ toString i ++ toString " out of bounds for length " ++ toString n : String) → vx_Note p l e R s m args below meth c H locs cells slots Q (F0 m pc ls rest) "java/lang/ArrayIndexOutOfBoundsException" tx) : W p l e R s m args below meth c H locs cells slots Q (F0 m pc ls (.double x :: .int i :: .ref a :: rest)) := by
  intro T hT X
  obtain ⟨t, st, q⟩ := k _ rfl T hT X
  refine ⟨t, ?_, q⟩
  have h1 := X.dastoreOut hexec (by rw [hT]; exact hP q0 _ ha) ((hK.2 t0 _ ht).1 n (fun j => .double (f j))) (j := i) (by show (i < 0 ∨ (arrV _ _ _).slots.size ≤ _); rw [arrV_size]; exact Classical.byContradiction hout) (g := F0 m pc ls (.double x :: .int i :: .ref a :: rest)) rfl (rest := rest) rfl (by rw [hb]; exact hdg) t
  simp only [arrV_size] at h1
  exact h1 st
theorem vx_arraylengthN (hexec : p.tables.exec = Jvm.exec) (hb : c.code = cc) (hdg : decode cc pc = .ok (.arraylength, 1)) (k : vx_NoteN p l e R s m args below meth c H locs cells slots Q (F0 m pc ls rest)) : W p l e R s m args below meth c H locs cells slots Q (F0 m pc ls (.null :: rest)) := by
  intro T hT X
  obtain ⟨t, st, q⟩ := k T hT X
  exact ⟨t, X.arraylengthNull hexec (g := F0 m pc ls (.null :: rest)) rfl (rest := rest) rfl (by rw [hb]; exact hdg) t st, q⟩
theorem vx_ialoadN (hexec : p.tables.exec = Jvm.exec) (hb : c.code = cc) {i : Int32} (hdg : decode cc pc = .ok (.iaload, 1)) (k : vx_NoteN p l e R s m args below meth c H locs cells slots Q (F0 m pc ls rest)) : W p l e R s m args below meth c H locs cells slots Q (F0 m pc ls (.int i :: .null :: rest)) := by
  intro T hT X
  obtain ⟨t, st, q⟩ := k T hT X
  exact ⟨t, X.ialoadNull hexec (g := F0 m pc ls (.int i :: .null :: rest)) rfl (rest := rest) rfl (by rw [hb]; exact hdg) t st, q⟩
theorem vx_laloadN (hexec : p.tables.exec = Jvm.exec) (hb : c.code = cc) {i : Int32} (hdg : decode cc pc = .ok (.laload, 1)) (k : vx_NoteN p l e R s m args below meth c H locs cells slots Q (F0 m pc ls rest)) : W p l e R s m args below meth c H locs cells slots Q (F0 m pc ls (.int i :: .null :: rest)) := by
  intro T hT X
  obtain ⟨t, st, q⟩ := k T hT X
  exact ⟨t, X.laloadNull hexec (g := F0 m pc ls (.int i :: .null :: rest)) rfl (rest := rest) rfl (by rw [hb]; exact hdg) t st, q⟩
theorem vx_faloadN (hexec : p.tables.exec = Jvm.exec) (hb : c.code = cc) {i : Int32} (hdg : decode cc pc = .ok (.faload, 1)) (k : vx_NoteN p l e R s m args below meth c H locs cells slots Q (F0 m pc ls rest)) : W p l e R s m args below meth c H locs cells slots Q (F0 m pc ls (.int i :: .null :: rest)) := by
  intro T hT X
  obtain ⟨t, st, q⟩ := k T hT X
  exact ⟨t, X.faloadNull hexec (g := F0 m pc ls (.int i :: .null :: rest)) rfl (rest := rest) rfl (by rw [hb]; exact hdg) t st, q⟩
theorem vx_daloadN (hexec : p.tables.exec = Jvm.exec) (hb : c.code = cc) {i : Int32} (hdg : decode cc pc = .ok (.daload, 1)) (k : vx_NoteN p l e R s m args below meth c H locs cells slots Q (F0 m pc ls rest)) : W p l e R s m args below meth c H locs cells slots Q (F0 m pc ls (.int i :: .null :: rest)) := by
  intro T hT X
  obtain ⟨t, st, q⟩ := k T hT X
  exact ⟨t, X.daloadNull hexec (g := F0 m pc ls (.int i :: .null :: rest)) rfl (rest := rest) rfl (by rw [hb]; exact hdg) t st, q⟩
theorem vx_aaloadN (hexec : p.tables.exec = Jvm.exec) (hb : c.code = cc) {i : Int32} (hdg : decode cc pc = .ok (.aaload, 1)) (k : vx_NoteN p l e R s m args below meth c H locs cells slots Q (F0 m pc ls rest)) : W p l e R s m args below meth c H locs cells slots Q (F0 m pc ls (.int i :: .null :: rest)) := by
  intro T hT X
  obtain ⟨t, st, q⟩ := k T hT X
  exact ⟨t, X.aaloadNull hexec (g := F0 m pc ls (.int i :: .null :: rest)) rfl (rest := rest) rfl (by rw [hb]; exact hdg) t st, q⟩
theorem vx_baloadN (hexec : p.tables.exec = Jvm.exec) (hb : c.code = cc) {i : Int32} (hdg : decode cc pc = .ok (.baload, 1)) (k : vx_NoteN p l e R s m args below meth c H locs cells slots Q (F0 m pc ls rest)) : W p l e R s m args below meth c H locs cells slots Q (F0 m pc ls (.int i :: .null :: rest)) := by
  intro T hT X
  obtain ⟨t, st, q⟩ := k T hT X
  exact ⟨t, X.baloadNull hexec (g := F0 m pc ls (.int i :: .null :: rest)) rfl (rest := rest) rfl (by rw [hb]; exact hdg) t st, q⟩
theorem vx_caloadN (hexec : p.tables.exec = Jvm.exec) (hb : c.code = cc) {i : Int32} (hdg : decode cc pc = .ok (.caload, 1)) (k : vx_NoteN p l e R s m args below meth c H locs cells slots Q (F0 m pc ls rest)) : W p l e R s m args below meth c H locs cells slots Q (F0 m pc ls (.int i :: .null :: rest)) := by
  intro T hT X
  obtain ⟨t, st, q⟩ := k T hT X
  exact ⟨t, X.caloadNull hexec (g := F0 m pc ls (.int i :: .null :: rest)) rfl (rest := rest) rfl (by rw [hb]; exact hdg) t st, q⟩
theorem vx_saloadN (hexec : p.tables.exec = Jvm.exec) (hb : c.code = cc) {i : Int32} (hdg : decode cc pc = .ok (.saload, 1)) (k : vx_NoteN p l e R s m args below meth c H locs cells slots Q (F0 m pc ls rest)) : W p l e R s m args below meth c H locs cells slots Q (F0 m pc ls (.int i :: .null :: rest)) := by
  intro T hT X
  obtain ⟨t, st, q⟩ := k T hT X
  exact ⟨t, X.saloadNull hexec (g := F0 m pc ls (.int i :: .null :: rest)) rfl (rest := rest) rfl (by rw [hb]; exact hdg) t st, q⟩
theorem vx_iastoreN (hexec : p.tables.exec = Jvm.exec) (hb : c.code = cc) {x : Int32} {i : Int32} (hdg : decode cc pc = .ok (.iastore, 1)) (k : vx_NoteN p l e R s m args below meth c H locs cells slots Q (F0 m pc ls rest)) : W p l e R s m args below meth c H locs cells slots Q (F0 m pc ls (.int x :: .int i :: .null :: rest)) := by
  intro T hT X
  obtain ⟨t, st, q⟩ := k T hT X
  exact ⟨t, X.iastoreNull hexec (g := F0 m pc ls (.int x :: .int i :: .null :: rest)) rfl (rest := rest) rfl (by rw [hb]; exact hdg) t st, q⟩
theorem vx_lastoreN (hexec : p.tables.exec = Jvm.exec) (hb : c.code = cc) {x : Int64} {i : Int32} (hdg : decode cc pc = .ok (.lastore, 1)) (k : vx_NoteN p l e R s m args below meth c H locs cells slots Q (F0 m pc ls rest)) : W p l e R s m args below meth c H locs cells slots Q (F0 m pc ls (.long x :: .int i :: .null :: rest)) := by
  intro T hT X
  obtain ⟨t, st, q⟩ := k T hT X
  exact ⟨t, X.lastoreNull hexec (g := F0 m pc ls (.long x :: .int i :: .null :: rest)) rfl (rest := rest) rfl (by rw [hb]; exact hdg) t st, q⟩
theorem vx_fastoreN (hexec : p.tables.exec = Jvm.exec) (hb : c.code = cc) {x : UInt32} {i : Int32} (hdg : decode cc pc = .ok (.fastore, 1)) (k : vx_NoteN p l e R s m args below meth c H locs cells slots Q (F0 m pc ls rest)) : W p l e R s m args below meth c H locs cells slots Q (F0 m pc ls (.float x :: .int i :: .null :: rest)) := by
  intro T hT X
  obtain ⟨t, st, q⟩ := k T hT X
  exact ⟨t, X.fastoreNull hexec (g := F0 m pc ls (.float x :: .int i :: .null :: rest)) rfl (rest := rest) rfl (by rw [hb]; exact hdg) t st, q⟩
theorem vx_dastoreN (hexec : p.tables.exec = Jvm.exec) (hb : c.code = cc) {x : UInt64} {i : Int32} (hdg : decode cc pc = .ok (.dastore, 1)) (k : vx_NoteN p l e R s m args below meth c H locs cells slots Q (F0 m pc ls rest)) : W p l e R s m args below meth c H locs cells slots Q (F0 m pc ls (.double x :: .int i :: .null :: rest)) := by
  intro T hT X
  obtain ⟨t, st, q⟩ := k T hT X
  exact ⟨t, X.dastoreNull hexec (g := F0 m pc ls (.double x :: .int i :: .null :: rest)) rfl (rest := rest) rfl (by rw [hb]; exact hdg) t st, q⟩
theorem vx_bastoreN (hexec : p.tables.exec = Jvm.exec) (hb : c.code = cc) {x : Int32} {i : Int32} (hdg : decode cc pc = .ok (.bastore, 1)) (k : vx_NoteN p l e R s m args below meth c H locs cells slots Q (F0 m pc ls rest)) : W p l e R s m args below meth c H locs cells slots Q (F0 m pc ls (.int x :: .int i :: .null :: rest)) := by
  intro T hT X
  obtain ⟨t, st, q⟩ := k T hT X
  exact ⟨t, X.bastoreNull hexec (g := F0 m pc ls (.int x :: .int i :: .null :: rest)) rfl (rest := rest) rfl (by rw [hb]; exact hdg) t st, q⟩
theorem vx_castoreN (hexec : p.tables.exec = Jvm.exec) (hb : c.code = cc) {x : Int32} {i : Int32} (hdg : decode cc pc = .ok (.castore, 1)) (k : vx_NoteN p l e R s m args below meth c H locs cells slots Q (F0 m pc ls rest)) : W p l e R s m args below meth c H locs cells slots Q (F0 m pc ls (.int x :: .int i :: .null :: rest)) := by
  intro T hT X
  obtain ⟨t, st, q⟩ := k T hT X
  exact ⟨t, X.castoreNull hexec (g := F0 m pc ls (.int x :: .int i :: .null :: rest)) rfl (rest := rest) rfl (by rw [hb]; exact hdg) t st, q⟩
theorem vx_sastoreN (hexec : p.tables.exec = Jvm.exec) (hb : c.code = cc) {x : Int32} {i : Int32} (hdg : decode cc pc = .ok (.sastore, 1)) (k : vx_NoteN p l e R s m args below meth c H locs cells slots Q (F0 m pc ls rest)) : W p l e R s m args below meth c H locs cells slots Q (F0 m pc ls (.int x :: .int i :: .null :: rest)) := by
  intro T hT X
  obtain ⟨t, st, q⟩ := k T hT X
  exact ⟨t, X.sastoreNull hexec (g := F0 m pc ls (.int x :: .int i :: .null :: rest)) rfl (rest := rest) rfl (by rw [hb]; exact hdg) t st, q⟩
theorem vx_invokeN {own C : String} {index maxL : Nat} {y : MethodName} {bytes : ByteArray} {ret : Option FieldType} (hexec : p.tables.exec = Jvm.exec) (hb : c.code = cc) (hown : s.vm.findClass own = some m.cls) (hlink : (Cond.methodLink own index y).before args s = true) (hinst : (Cond.instanceMethod y).before args s = true) (hcode : (Cond.code y bytes maxL ret).before args s = true) (hsel : (Cond.selects C y y).before args s = true)
    (hx : y.cls ≠ "java/lang/invoke/MethodHandle" ∧ y.cls ≠ "java/lang/invoke/VarHandle") {As : List Value} (hlen : (parseMethodDescriptor y.desc).map (fun d => d.parameters.length) = some As.length) (hdg : decode cc pc = .ok (.invokevirtual index, 3))
    (k : vx_NoteN p l e R s m args below meth c H locs cells slots Q (F0 m pc ls rest)) {st0 : List Value} (hst : st0 = As.reverse ++ .null :: rest) : W p l e R s m args below meth c H locs cells slots Q (F0 m pc ls st0) := by
  intro T hT X
  obtain ⟨r0, r, hn, hrm, hstR, hsigR⟩ := va_Decl.of hinst hcode
  obtain ⟨c2, r2, m2, q1, q2, q3, q4, kP, hkP, hkPi⟩ := Cond.selects_spec hsel
  cases hn.symm.trans q3
  have hl9 : As.length = r.sig.parameters.length := by
    rw [hsigR] at hlen
    exact (Option.some.inj hlen).symm
  obtain ⟨vm', X1, st1⟩ := X.invokevirtualNull hexec hown hlink hn hrm hstR hkP hkPi hx (g := F0 m pc ls st0) rfl (argsL := As) (rest := rest) hl9 hst (by rw [hb]; exact hdg)
  obtain ⟨t, st, q⟩ := k (T.setVm vm') hT X1
  exact ⟨t, st1 t st, q⟩
theorem vx_newarrayZ {atype : ArrayType} (hexec : p.tables.exec = Jvm.exec) (hb : c.code = cc) {n : Int32} (h0 : n < 0) (hdg : decode cc pc = .ok (.newarray atype, 2)) (k : ∀ tx : String, tx = toString n → vx_Note p l e R s m args below meth c H locs cells slots Q (F0 m pc ls rest) "java/lang/NegativeArraySizeException" tx) : W p l e R s m args below meth c H locs cells slots Q (F0 m pc ls (.int n :: rest)) := by
  intro T hT X
  obtain ⟨t, st, q⟩ := k _ rfl T hT X
  exact ⟨t, X.newarrayNegative hexec (g := F0 m pc ls (.int n :: rest)) rfl h0 (rest := rest) rfl (by rw [hb]; exact hdg) t st, q⟩
end
end VXM
/-! ===== END ===== -/
/-! ===== BEGIN an exception as an object: made, kept, thrown later (no traces kept) ===== -/
section VXK
variable {p : Program} {l : Launch} {e : Env} {R : Room} {s : State} {m₀ : MethodId} {args : Array Value} {below : List Frame} {meth : Method} {c : Code} {W : State} {locs : List Loc} {cells slots : Nat}
set_option maxHeartbeats 1000000 in
theorem vx_ctorMadeS (X : Stand p l e R s m₀ args below meth c W locs cells slots) (hexec : p.tables.exec = Jvm.exec) (htr : e.platform.stackTraces = false) {own cls : String} {names : List String} {ic : Nat}
    (hown : s.vm.findClass own = some m₀.cls) (hcls : Bundle.fit cls = true) (hnames : ∀ n ∈ names, Bundle.fit n = true)
    (h : ∀ a ∈ Bundle.ownAtoms own ic cls names, a.before args s = true)
    (hlocs : ∀ x ∈ locs, ∀ cell, s.heap[x.base]? = some cell → cell.vm.isStatics = false)
    {a : Addr} {cX : ClassId} {kX : Class} (hfoundX : s.vm.findClass cls = some cX) (hkX : s.vm.classes[cX]? = some kX) (hcell : W.heap[a]? = some (freshCell cX kX)) (hnew : s.heap.size ≤ a)
    {msg : Value} (hmsg : msg.isRef = true)
    {g : JFrame} (hg : g.method = m₀) (hsize : g.locals.size = c.maxLocals) {rest : List Value} (hstack : g.stack = msg :: .ref a :: .ref a :: rest)
    (hd6 : decode c.code g.pc = .ok (.invokespecial ic, 3))
    (hRframes : names.length + 3 < R.frames) (hRlocals : 2 * g.monitorRoom + ((Value.ref a :: rest).map fun v => v.category).sum + (13 * (names.length + 1) + 42) ≤ R.locals) :
    ∃ (V : State) (ce : Cell) (L : List Loc), Stand p l e R s m₀ args below meth c (V.setCell a ce) (locs ++ L) cells slots ∧ (∀ y ∈ L, y.base = a) ∧ a < V.heap.size ∧ ce.cls = cX ∧ ce.vm = .none ∧
      ∀ target, Steps p.tables e below ((V.setCell a ce).setTop { g with stack := .ref a :: rest, pc := g.pc + 3 }) target → Steps p.tables e below (W.setTop g) target := by
  have howns : e.platform.frameOwnsMonitors = true := by rw [X.admits.platform]
  have hfin : e.platform.finalization = false := by rw [X.admits.platform]
  have hpl : e.platform.magicAccessors = ({} : Platform).magicAccessors := by rw [X.admits.platform]
  have a' : ∀ x, x ∈ Bundle.ownAtoms own ic cls names → x.holds args s none s [] = true := fun x hx => h x hx
  obtain ⟨T, Z0, L, -, Y⟩ := ThrowableC.of_atoms (args := args) howns hfin hpl (fun x hx => h x (by simp [Bundle.ownAtoms, hx]))
  obtain ⟨Z, M, LZ, LM, hnZ⟩ := Init0T.ofS_atoms (args := args) hpl L Y (fun x hx => h x (by simp [Bundle.ownAtoms, hx]))
  obtain ⟨P1, Ps, hlen, L1, hL, hP1m, hlink1, hlink⟩ := Bundle.chainS (args := args) hpl hnZ names cls hcls hnames (fun x hx => h x (by simp [Bundle.ownAtoms, hx]))
  have hfound : s.vm.findClass cls = some P1.m.cls := findClass_of_methodNamed hP1m
  cases Option.some.inj (hfoundX.symm.trans hfound)
  obtain ⟨c1, kX', hc1, hk, hord, -, -, hn6⟩ := Cond.instantiable_spec (a' (.instantiable cls 6) (by simp [Bundle.ownAtoms]))
  cases Option.some.inj (hc1.symm.trans hfound)
  cases Option.some.inj (hkX.symm.trans hk)
  have hsel0 : selectMethod e.platform s.vm P1.m.cls T.fill0 = .method T.fill0 := by
    obtain ⟨c2, r2, m2, q1, q2, q3, q4, -⟩ := Cond.selects_spec (a' (.selects cls Bundle.tFill0 Bundle.tFill0) (by simp [Bundle.ownAtoms]))
    cases Option.some.inj (q1.symm.trans hfound)
    cases Option.some.inj (q2.symm.trans (State.methodFound?_of_named Y.fill0 (by decide)))
    cases Option.some.inj (q3.symm.trans Y.fill0)
    rw [Launch.admits_selectMethod X.admits]; exact q4
  have hselF : selectMethod e.platform s.vm P1.m.cls T.fill = .method T.fill := by
    obtain ⟨c2, r2, m2, q1, q2, q3, q4, -⟩ := Cond.selects_spec (a' (.selects cls Bundle.tFill Bundle.tFill) (by simp [Bundle.ownAtoms]))
    cases Option.some.inj (q1.symm.trans hfound)
    cases Option.some.inj (q2.symm.trans (State.methodFound?_of_named Y.fill (by decide)))
    cases Option.some.inj (q3.symm.trans Y.fill)
    rw [Launch.admits_selectMethod X.admits]; exact q4
  obtain ⟨cellS0, hcS0, hiss⟩ := Y.statics
  obtain ⟨u0, hu0⟩ := Cond.staticRefV Y.unassigned L.unassignedStatic L.statics hcS0 hiss (a' (.isRef (.static Bundle.tN "UNASSIGNED_STACK" Bundle.steD)) (by simp [Bundle.ownAtoms]))
  obtain ⟨sen, hsen⟩ := Cond.staticRefV Y.sentinel L.sentinelStatic L.statics hcS0 hiss (a' (.isRef (.static Bundle.tN "SUPPRESSED_SENTINEL" Bundle.listD)) (by simp [Bundle.ownAtoms]))
  obtain ⟨ci198, i198, fB, hk198, hg198, ha198, hsB, -, hnB, htB, hffB⟩ := Cond.ownField (t := .object "java/lang/Object") Y.found L.cls (by decide +kernel) (a' (.fieldLink Bundle.tN 198 Bundle.tN "backtrace" "Ljava/lang/Object;") (by simp [Bundle.ownAtoms])) (a' (.lays Bundle.tN Bundle.tN "backtrace" "Ljava/lang/Object;") (by simp [Bundle.ownAtoms])) e.platform hpl
  obtain ⟨cellS, hcS', heS, -, hkeep⟩ := X.same.2.2.2.2.2 T.aS cellS0 hcS0
  have hcellS : W.heap[T.aS]? = some cellS := hcS'
  have hout' : ∀ i, (⟨T.aS, i⟩ : Loc) ∉ locs := fun i hmem => by
    have := hlocs _ hmem cellS0 hcS0
    rw [hiss] at this; cases this
  have hknownS : cellS.vm ≠ .unknown := by
    rw [heS]; intro hu
    rw [show cellS0.vm = .unknown from hu] at hiss
    cases hiss
  have hneS : T.aS ≠ a := Nat.ne_of_lt (Nat.lt_of_lt_of_le (Array.getElem?_eq_some_iff.mp hcS0).1 hnew)
  obtain ⟨iM, hffM⟩ := Y.msg
  obtain ⟨tyC, dC, hdC, hdnC⟩ := Cond.laysAt hfound hk Y.cause (a' (.lays cls Bundle.tN "cause" "Ljava/lang/Throwable;") (by simp [Bundle.ownAtoms]))
  obtain ⟨tyS, dS, hdS, hdnS⟩ := Cond.laysAt hfound hk Y.stack (a' (.lays cls Bundle.tN "stackTrace" Bundle.steD) (by simp [Bundle.ownAtoms]))
  obtain ⟨tyP, dP, hdP, hdnP⟩ := Cond.laysAt hfound hk Y.supp (a' (.lays cls Bundle.tN "suppressedExceptions" Bundle.listD) (by simp [Bundle.ownAtoms]))
  obtain ⟨tyM, dM, hdM, hdnM⟩ := Cond.laysAt hfound hk hffM (a' (.lays cls Bundle.tN "detailMessage" "Ljava/lang/String;") (by simp [Bundle.ownAtoms]))
  obtain ⟨tyB, dB, hdB, hdnB⟩ := Cond.laysAt hfound hk hffB (a' (.lays cls Bundle.tN "backtrace" "Ljava/lang/Object;") (by simp [Bundle.ownAtoms]))
  have bC := Cond.laysApart hdB hdC hdnB hdnC (by rw [hnB, Y.causeName]; decide)
  have bS := Cond.laysApart hdB hdS hdnB hdnS (by rw [hnB, Y.stackName]; decide)
  have bP := Cond.laysApart hdB hdP hdnB hdnP (by rw [hnB, Y.suppName]; decide)
  have hskip : SkipFacts T e.platform s (fun u => u) u0 ((preparedCellV T.toThrowableT (freshCell P1.m.cls kX) a u0 sen).withEntry W.cur) :=
    ⟨{ ci198 := ci198, i198 := i198, fBack := fB }, ⟨hk198, hg198, ha198, hsB⟩, by
      have := fresh_default (c := P1.m.cls) tyB
      rw [htB] at this
      simpa [preparedCellV, Cell.setSlot, Cell.withEntry, Array.getElem?_setIfInBounds, bC, bS, bP, bC.symm, bS.symm, bP.symm, defaultValue] using this, fun _ _ => rfl⟩
  obtain ⟨tm, methC, cdC, kC, vm₁, hnC, -, -, -, -, -, -, -, hW₁, st1⟩ := Steps.initColdS (tb := p.tables) (e := e) (below := below) (s := s) (U := W) X.here hexec X.warmed hpl hown (t := Bundle.initS cls) rfl rfl (Bundle.fit_spec hcls).2
    (a' (.methodLink own ic (Bundle.initS cls)) (by simp [Bundle.ownAtoms])) (h (.instanceMethod (Bundle.initS cls)) (by cases names <;> simp [Bundle.ownAtoms, Bundle.chainSAtoms, Bundle.passSAtoms])) (bytes := Bundle.six) (maxL := 2) (h (.code (Bundle.initS cls) Bundle.six 2 none) (by cases names <;> simp [Bundle.ownAtoms, Bundle.chainSAtoms, Bundle.passSAtoms]))
    (f := g) hg (a := a) (msg := msg) (rest := .ref a :: rest) hstack hd6
  cases Option.some.inj (hnC.symm.trans hP1m)
  have X₁ := X.noted hW₁
  obtain ⟨vm₂, X₂, st2⟩ := X₁.ctorMessageOffV hexec (g := { g with stack := .ref a :: rest }) hg hsize T L Z LZ M LM (P1 :: Ps)
    (fun P hP => by rcases List.mem_cons.mp hP with rfl | hP; exact L1; exact hL P hP) ⟨hlink1, hlink⟩ (u0 := u0) (sen := sen) (self := a) hmsg (cell := freshCell P1.m.cls kX) (cellS := cellS)
    hcell (fun _ => by simp) (by simp) rfl rfl hsel0 hselF hcellS hneS hknownS (by rw [hkeep _ (hout' _)]; exact hu0) (by rw [hkeep _ (hout' _)]; exact hsen)
    (Takes.of_laid hk hord tyC (by rw [Y.causeType]; rfl)) (Takes.of_laid hk hord tyS (by rw [Y.stackType]; exact fits_refV_array _ u0)) (Takes.of_laid hk hord tyP (by rw [Y.suppType]; exact fits_refV_object _ sen))
    (Takes.of_laid hk hord tyM (by rw [Y.msgType]; exact fits_refV_object _ ⟨msg, hmsg⟩)) Y.objLocals hskip htr [] hd6
    (by simp only [List.length_cons, hlen]; omega) (by simp only [List.length_cons, hlen]; exact hRlocals)
  have hlt : a < ((W.setVm vm₁).setVm vm₂).heap.size := (Array.getElem?_eq_some_iff.mp hcell).1
  refine ⟨(W.setVm vm₁).setVm vm₂, _, _, X₂, fun y hy => ?_, hlt, rfl, rfl, fun target hwalk => st1 _ (fun acts => ?_)⟩
  · simp only [List.mem_cons, List.not_mem_nil, or_false] at hy
    rcases hy with rfl | rfl | rfl | rfl | rfl <;> rfl
  · rw [doInvoke_state]
    exact st2 _ hwalk
set_option maxHeartbeats 1000000 in
theorem vx_ctorMade0 (X : Stand p l e R s m₀ args below meth c W locs cells slots) (hexec : p.tables.exec = Jvm.exec) (htr : e.platform.stackTraces = false) {own cls : String} {names : List String} {ic : Nat}
    (hown : s.vm.findClass own = some m₀.cls) (hcls : Bundle.fit cls = true) (hnames : ∀ n ∈ names, Bundle.fit n = true)
    (h : ∀ a ∈ Bundle.ownAtoms0 own ic cls names, a.before args s = true)
    (hlocs : ∀ x ∈ locs, ∀ cell, s.heap[x.base]? = some cell → cell.vm.isStatics = false)
    {a : Addr} {cX : ClassId} {kX : Class} (hfoundX : s.vm.findClass cls = some cX) (hkX : s.vm.classes[cX]? = some kX) (hcell : W.heap[a]? = some (freshCell cX kX)) (hnew : s.heap.size ≤ a)
    {g : JFrame} (hg : g.method = m₀) (hsize : g.locals.size = c.maxLocals) {rest : List Value} (hstack : g.stack = .ref a :: .ref a :: rest)
    (hd6 : decode c.code g.pc = .ok (.invokespecial ic, 3))
    (hRframes : names.length + 3 < R.frames) (hRlocals : 2 * g.monitorRoom + ((Value.ref a :: rest).map fun v => v.category).sum + (13 * (names.length + 1) + 41) ≤ R.locals) :
    ∃ (V : State) (ce : Cell) (L : List Loc), Stand p l e R s m₀ args below meth c (V.setCell a ce) (locs ++ L) cells slots ∧ (∀ y ∈ L, y.base = a) ∧ a < V.heap.size ∧ ce.cls = cX ∧ ce.vm = .none ∧
      ∀ target, Steps p.tables e below ((V.setCell a ce).setTop { g with stack := .ref a :: rest, pc := g.pc + 3 }) target → Steps p.tables e below (W.setTop g) target := by
  have howns : e.platform.frameOwnsMonitors = true := by rw [X.admits.platform]
  have hfin : e.platform.finalization = false := by rw [X.admits.platform]
  have hpl : e.platform.magicAccessors = ({} : Platform).magicAccessors := by rw [X.admits.platform]
  have a' : ∀ x, x ∈ Bundle.ownAtoms0 own ic cls names → x.holds args s none s [] = true := fun x hx => h x hx
  obtain ⟨T, Z, L, LZ, Y⟩ := ThrowableC.of_atoms (args := args) howns hfin hpl (fun x hx => h x (by simp [Bundle.ownAtoms0, hx]))
  obtain ⟨P1, Ps, hlen, L1, hL, hP1m, hlink1, hlink⟩ := Bundle.chain0 (args := args) hpl Y.init0 names cls hcls hnames (fun x hx => h x (by simp [Bundle.ownAtoms0, hx]))
  have hfound : s.vm.findClass cls = some P1.m.cls := findClass_of_methodNamed hP1m
  cases Option.some.inj (hfoundX.symm.trans hfound)
  obtain ⟨c1, kX', hc1, hk, hord, -, -, hn6⟩ := Cond.instantiable_spec (a' (.instantiable cls 6) (by simp [Bundle.ownAtoms0]))
  cases Option.some.inj (hc1.symm.trans hfound)
  cases Option.some.inj (hkX.symm.trans hk)
  have hsel0 : selectMethod e.platform s.vm P1.m.cls T.fill0 = .method T.fill0 := by
    obtain ⟨c2, r2, m2, q1, q2, q3, q4, -⟩ := Cond.selects_spec (a' (.selects cls Bundle.tFill0 Bundle.tFill0) (by simp [Bundle.ownAtoms0]))
    cases Option.some.inj (q1.symm.trans hfound)
    cases Option.some.inj (q2.symm.trans (State.methodFound?_of_named Y.fill0 (by decide)))
    cases Option.some.inj (q3.symm.trans Y.fill0)
    rw [Launch.admits_selectMethod X.admits]; exact q4
  have hselF : selectMethod e.platform s.vm P1.m.cls T.fill = .method T.fill := by
    obtain ⟨c2, r2, m2, q1, q2, q3, q4, -⟩ := Cond.selects_spec (a' (.selects cls Bundle.tFill Bundle.tFill) (by simp [Bundle.ownAtoms0]))
    cases Option.some.inj (q1.symm.trans hfound)
    cases Option.some.inj (q2.symm.trans (State.methodFound?_of_named Y.fill (by decide)))
    cases Option.some.inj (q3.symm.trans Y.fill)
    rw [Launch.admits_selectMethod X.admits]; exact q4
  obtain ⟨cellS0, hcS0, hiss⟩ := Y.statics
  obtain ⟨u0, hu0⟩ := Cond.staticRefV Y.unassigned L.unassignedStatic L.statics hcS0 hiss (a' (.isRef (.static Bundle.tN "UNASSIGNED_STACK" Bundle.steD)) (by simp [Bundle.ownAtoms0]))
  obtain ⟨sen, hsen⟩ := Cond.staticRefV Y.sentinel L.sentinelStatic L.statics hcS0 hiss (a' (.isRef (.static Bundle.tN "SUPPRESSED_SENTINEL" Bundle.listD)) (by simp [Bundle.ownAtoms0]))
  obtain ⟨ci198, i198, fB, hk198, hg198, ha198, hsB, -, hnB, htB, hffB⟩ := Cond.ownField (t := .object "java/lang/Object") Y.found L.cls (by decide +kernel) (a' (.fieldLink Bundle.tN 198 Bundle.tN "backtrace" "Ljava/lang/Object;") (by simp [Bundle.ownAtoms0])) (a' (.lays Bundle.tN Bundle.tN "backtrace" "Ljava/lang/Object;") (by simp [Bundle.ownAtoms0])) e.platform hpl
  obtain ⟨cellS, hcS', heS, -, hkeep⟩ := X.same.2.2.2.2.2 T.aS cellS0 hcS0
  have hcellS : W.heap[T.aS]? = some cellS := hcS'
  have hout' : ∀ i, (⟨T.aS, i⟩ : Loc) ∉ locs := fun i hmem => by
    have := hlocs _ hmem cellS0 hcS0
    rw [hiss] at this; cases this
  have hknownS : cellS.vm ≠ .unknown := by
    rw [heS]; intro hu
    rw [show cellS0.vm = .unknown from hu] at hiss
    cases hiss
  have hneS : T.aS ≠ a := Nat.ne_of_lt (Nat.lt_of_lt_of_le (Array.getElem?_eq_some_iff.mp hcS0).1 hnew)
  obtain ⟨iM, hffM⟩ := Y.msg
  obtain ⟨tyC, dC, hdC, hdnC⟩ := Cond.laysAt hfound hk Y.cause (a' (.lays cls Bundle.tN "cause" "Ljava/lang/Throwable;") (by simp [Bundle.ownAtoms0]))
  obtain ⟨tyS, dS, hdS, hdnS⟩ := Cond.laysAt hfound hk Y.stack (a' (.lays cls Bundle.tN "stackTrace" Bundle.steD) (by simp [Bundle.ownAtoms0]))
  obtain ⟨tyP, dP, hdP, hdnP⟩ := Cond.laysAt hfound hk Y.supp (a' (.lays cls Bundle.tN "suppressedExceptions" Bundle.listD) (by simp [Bundle.ownAtoms0]))
  obtain ⟨tyM, dM, hdM, hdnM⟩ := Cond.laysAt hfound hk hffM (a' (.lays cls Bundle.tN "detailMessage" "Ljava/lang/String;") (by simp [Bundle.ownAtoms0]))
  obtain ⟨tyB, dB, hdB, hdnB⟩ := Cond.laysAt hfound hk hffB (a' (.lays cls Bundle.tN "backtrace" "Ljava/lang/Object;") (by simp [Bundle.ownAtoms0]))
  have bC := Cond.laysApart hdB hdC hdnB hdnC (by rw [hnB, Y.causeName]; decide)
  have bS := Cond.laysApart hdB hdS hdnB hdnS (by rw [hnB, Y.stackName]; decide)
  have bP := Cond.laysApart hdB hdP hdnB hdnP (by rw [hnB, Y.suppName]; decide)
  have hskip : SkipFacts T e.platform s (fun u => u) u0 ((preparedCellV T.toThrowableT (freshCell P1.m.cls kX) a u0 sen).withEntry W.cur) :=
    ⟨{ ci198 := ci198, i198 := i198, fBack := fB }, ⟨hk198, hg198, ha198, hsB⟩, by
      have := fresh_default (c := P1.m.cls) tyB
      rw [htB] at this
      simpa [preparedCellV, Cell.setSlot, Cell.withEntry, Array.getElem?_setIfInBounds, bC, bS, bP, bC.symm, bS.symm, bP.symm, defaultValue] using this, fun _ _ => rfl⟩
  obtain ⟨tm, methC, cdC, kC, vm₁, hnC, -, -, -, -, -, -, -, hW₁, st1⟩ := Steps.initCold (tb := p.tables) (e := e) (below := below) (s := s) (U := W) X.here hexec X.warmed hpl hown (t := Bundle.init0 cls) rfl rfl (Bundle.fit_spec hcls).2
    (a' (.methodLink own ic (Bundle.init0 cls)) (by simp [Bundle.ownAtoms0])) (h (.instanceMethod (Bundle.init0 cls)) (by cases names <;> simp [Bundle.ownAtoms0, Bundle.chain0Atoms, Bundle.passAtoms])) (bytes := Bundle.five) (maxL := 1) (h (.code (Bundle.init0 cls) Bundle.five 1 none) (by cases names <;> simp [Bundle.ownAtoms0, Bundle.chain0Atoms, Bundle.passAtoms]))
    (f := g) hg (a := a) (rest := .ref a :: rest) hstack hd6
  cases Option.some.inj (hnC.symm.trans hP1m)
  have X₁ := X.noted hW₁
  obtain ⟨vm₂, X₂, st2⟩ := X₁.ctorPlainOffV hexec (g := { g with stack := .ref a :: rest }) hg hsize T L Z LZ (P1 :: Ps)
    (fun P hP => by rcases List.mem_cons.mp hP with rfl | hP; exact L1; exact hL P hP) ⟨hlink1, hlink⟩ (u0 := u0) (sen := sen) (self := a) (cell := freshCell P1.m.cls kX) (cellS := cellS)
    hcell (fun _ => by simp) (by simp) rfl rfl hsel0 hselF hcellS hneS hknownS (by rw [hkeep _ (hout' _)]; exact hu0) (by rw [hkeep _ (hout' _)]; exact hsen)
    (Takes.of_laid hk hord tyC (by rw [Y.causeType]; rfl)) (Takes.of_laid hk hord tyS (by rw [Y.stackType]; exact fits_refV_array _ u0)) (Takes.of_laid hk hord tyP (by rw [Y.suppType]; exact fits_refV_object _ sen)) Y.objLocals hskip htr [] hd6
    (by simp only [List.length_cons, hlen]; omega) (by simp only [List.length_cons, hlen]; exact hRlocals)
  have hlt : a < ((W.setVm vm₁).setVm vm₂).heap.size := (Array.getElem?_eq_some_iff.mp hcell).1
  refine ⟨(W.setVm vm₁).setVm vm₂, _, _, X₂, fun y hy => ?_, hlt, rfl, rfl, fun target hwalk => st1 _ (fun acts => ?_)⟩
  · simp only [List.mem_cons, List.not_mem_nil, or_false] at hy
    rcases hy with rfl | rfl | rfl | rfl <;> rfl
  · rw [doInvoke_state]
    exact st2 _ hwalk
end VXK
section VXK2
variable {p : Program} {l : Launch} {e : Env} {R : Room} {s : State} {m : MethodId} {args : Array Value} {below : List Frame} {meth : Method} {c : Code} {H : Heap} {locs : List Loc} {cells slots : Nat} {Q : State → Prop}
variable {ls : Array Slot} {rest : List Value} {D : va_G} {cl : List vw_C} {tys : List (ClassId × FieldType)} {ws : va_W}
/-- 'new E("text")' that isn't thrown at once: the object goes on the stack -/
theorem vx_makeS {cc : ByteArray} {pc : Nat} (hexec : p.tables.exec = Jvm.exec) (hb : c.code = cc) (hl : l.stackTraces = false) {own cls text : String} {names : List String} {ik is ic sa ci : Nat} {A : Nat → Prop} {T0 : u_T}
    (hown : s.vm.findClass own = some m.cls) (hcls : Bundle.fit cls = true) (hnames : ∀ n ∈ names, Bundle.fit n = true)
    (hk : (Cond.classLink own ik cls).before args s = true) (hini : (Cond.initialized cls).before args s = true) (hstr : vk_R own is text sa s) (hat : ∀ w ∈ vx_atS own ic cls names, w.before args s = true)
    (hgood : ∀ w ∈ Cond.classLink own ik cls :: Cond.initialized cls :: vx_atS own ic cls names, vx_ot w = true)
    (hU : vx_Zq Bundle.tN "UNASSIGNED_STACK" Bundle.steD A s s.heap) (hN : vx_Zq Bundle.tN "SUPPRESSED_SENTINEL" Bundle.listD A s s.heap) (hS : va_S A s.heap H locs) (hsize : ls.size = c.maxLocals)
    (d0 : decode cc pc = .ok (.new ik, 3)) (d3 : decode cc (pc + 3) = .ok (.dup, 1)) (d4 : decode cc (pc + 4) = .ok (.ldc is, 2)) (d6 : decode cc (pc + 6) = .ok (.invokespecial ic, 3))
    (hK : va_K D cl tys s) (hP : va_P D cl ws H) (hD : va_D A ws) (hA : ∀ q, s.heap.size ≤ q → A q) (hc : cl[ci]? = some (cls, T0, 0))
    (hRframes : names.length + 3 < R.frames) (hRlocals : (rest.map fun v => v.category).sum + (13 * (names.length + 1) + 43) ≤ R.locals) (hRcells : cells + 1 ≤ R.cells) (hRslots : slots + 6 ≤ R.slots)
    (kk : ∀ (q : Nat) (H1 : Heap), va_P D cl (ws ++ [(q, .inr (ci, []))]) H1 → va_D A (ws ++ [(q, .inr (ci, []))]) → va_S A s.heap H1 locs → W p l e R s m args below meth c H1 locs (cells + 1) (slots + 6) Q (F0 m (pc + 9) ls (.ref q :: rest))) :
    W p l e R s m args below meth c H locs cells slots Q (F0 m pc ls rest) := by
  intro T hT X
  subst hT
  have htr : e.platform.stackTraces = false := (show e.platform.stackTraces = l.stackTraces by rw [X.admits.platform]).trans hl
  have Y := vx_rebase X (R' := { frames := R.frames, locals := R.locals, cells := 1, slots := 6 }) (Nat.le_refl _) (Nat.le_refl _) hRcells hRslots
  obtain ⟨s', hA'⟩ : ∃ z, z = (T.setVm s.vm).setFrames (.invoking m args :: below) := ⟨_, rfl⟩
  rw [← hA'] at Y
  have hvm : s'.vm = s.vm := by rw [hA']; rfl
  have hhp : s'.heap = T.heap := by rw [hA']; rfl
  have hW0 : s.WarmedH s'.vm := by rw [hvm]; exact State.WarmedH.refl s
  have hat' : ∀ w ∈ vx_atS own ic cls names, w.before args s' = true := fun w hw => vx_ot_at hW0 hvm.symm (hgood w (List.mem_cons_of_mem _ (List.mem_cons_of_mem _ hw))) (hat w hw)
  have hk' : (Cond.classLink own ik cls).before args s' = true := vx_ot_at hW0 hvm.symm (hgood _ List.mem_cons_self) hk
  have hini' : (Cond.initialized cls).before args s' = true := vx_ot_at hW0 hvm.symm (hgood _ (List.mem_cons_of_mem _ List.mem_cons_self)) hini
  have hU' : vx_Zq Bundle.tN "UNASSIGNED_STACK" Bundle.steD A s' s'.heap := by rw [hhp]; exact vx_Zq.moved hW0.alike (hU.kept hS.2.1)
  have hN' : vx_Zq Bundle.tN "SUPPRESSED_SENTINEL" Bundle.listD A s' s'.heap := by rw [hhp]; exact vx_Zq.moved hW0.alike (hN.kept hS.2.1)
  have h : ∀ w ∈ Bundle.ownAtoms own ic cls names, w.before args s' = true := vx_own hat' (vx_isRefq hU'.1) (vx_isRefq hN'.1) hU'.2.word hN'.2.word
  have hown' : s'.vm.findClass own = some m.cls := by rw [hvm]; exact hown
  have hins : (Cond.instantiable cls 6).before args s' = true := h _ (by simp [Bundle.ownAtoms])
  obtain ⟨vm₁, cX, kX, hfX, hkX, -, -, X₁, st1⟩ := Y.newCold hexec (own := own) (C := cls) (index := ik) (n := 6) hown' hk' hins hini'
    (g := F0 m pc ls rest) rfl (by rw [hb]; exact d0) (Nat.le_refl _) (Nat.le_refl _)
  generalize hT1 : (T.setVm vm₁).pushCell { cls := cX, slots := kX.instanceTypes.map defaultValue, vm := .none } = T1 at X₁ st1
  have hcat : (Value.ref T.heap.size).category = 1 := rfl
  have hcellA : T1.heap[T.heap.size]? = some (freshCell cX kX) := by rw [← hT1]; exact State.heap_pushCell_size _ _
  have d3' : decode c.code (pc + 3) = .ok (.dup, 1) := by rw [hb]; exact d3
  have d4' : decode c.code (pc + 4) = .ok (.ldc is, 2) := by rw [hb]; exact d4
  have hstr' : vk_R own is text sa s' := vk_R.warm hW0 hstr
  obtain ⟨V, ce, L, Z, hL, hlt, hcl9, hvm9, st⟩ := vx_ctorMadeS X₁ hexec htr (own := own) (cls := cls) (names := names) (ic := ic) hown' hcls hnames h (fun x hx => nomatch hx) hfX hkX hcellA (by rw [hhp]; exact Nat.le_refl _) (msg := .ref sa) rfl
    (g := { method := m, pc := pc + 6, locals := ls, stack := .ref sa :: .ref T.heap.size :: .ref T.heap.size :: rest, locked := none }) rfl hsize (rest := rest) rfl
    (by rw [hb]; exact d6) hRframes (by simp only [List.map_cons, List.sum_cons, hcat]; omega)
  have Z0 := Stand.forget (locs := []) Z (fun y hy => by rw [hL y hy, hhp]; exact Nat.le_refl _)
  obtain ⟨f1, f2⟩ := vx_frame Z0.same
  rw [hhp] at f1 f2
  have hcid : ce.cls = D.1 ci := by
    rw [hcl9]
    have h1 := (hK.1 ci _ hc).2.1
    rw [hvm] at hfX
    exact Option.some.inj (hfX.symm.trans h1)
  have hh : (V.setCell T.heap.size ce).heap[T.heap.size]? = some ce := heapAt_setCell_self (s := V) ce hlt
  subst hA'
  have X5 := vx_back9 X Y Z0
  have X6 : Stand p l e R s m args below meth c (V.setCell T.heap.size ce) locs (cells + 1) (slots + 6) := { X5 with same := X5.same.mono (by omega) (by omega) }
  have hk9 : ∀ (k : Nat) (x : Nat × va_E), ws[k]? = some x → (V.setCell T.heap.size ce).heap[x.1]? = T.heap[x.1]? := fun k x hx => f2 x.1 ((hP k x hx).lt) (fun z hz => nomatch hz)
  obtain ⟨t, a1, b1⟩ := kk T.heap.size (V.setCell T.heap.size ce).heap ((hP.kept hk9).app (fun k x hx => by
      have hz : k < 1 := (List.getElem?_eq_some_iff.mp hx).1
      rw [show k = 0 by omega] at hx
      cases hx
      exact ⟨_, hc, ce, hh, hcid, hvm9, fun k hk => absurd hk (Nat.not_lt_zero k)⟩)) (hD.push hP rfl (hA _ hS.1)) ⟨Nat.le_trans hS.1 f1, fun q h1 h2 => (f2 q (Nat.lt_of_lt_of_le h1 hS.1) (fun z hz => nomatch hz)).trans (hS.2.1 q h1 h2), hS.2.2⟩ _ rfl X6
  refine ⟨t, st1 _ ?_, b1⟩
  show Steps p.tables e below (T1.setTop { method := m, pc := pc + 3, locals := ls, stack := .ref T.heap.size :: rest, locked := none }) _
  jvm_step X₁.here [X₁.here.top, hexec, d3', Value.category]
  exact X₁.ldcString hexec (own := own) (text := text) (index := is) (a := sa) hown' hstr'.1 hstr'.2
    (g := { method := m, pc := pc + 4, locals := ls, stack := .ref T.heap.size :: .ref T.heap.size :: rest, locked := none }) rfl d4' _ (st _ a1)
/-- 'new E()' that isn't thrown at once: the object goes on the stack -/
theorem vx_make0 {cc : ByteArray} {pc : Nat} (hexec : p.tables.exec = Jvm.exec) (hb : c.code = cc) (hl : l.stackTraces = false) {own cls : String} {names : List String} {ik ic ci : Nat} {A : Nat → Prop} {T0 : u_T}
    (hown : s.vm.findClass own = some m.cls) (hcls : Bundle.fit cls = true) (hnames : ∀ n ∈ names, Bundle.fit n = true)
    (hk : (Cond.classLink own ik cls).before args s = true) (hini : (Cond.initialized cls).before args s = true) (hat : ∀ w ∈ vx_at0 own ic cls names, w.before args s = true)
    (hgood : ∀ w ∈ Cond.classLink own ik cls :: Cond.initialized cls :: vx_at0 own ic cls names, vx_ot w = true)
    (hU : vx_Zq Bundle.tN "UNASSIGNED_STACK" Bundle.steD A s s.heap) (hN : vx_Zq Bundle.tN "SUPPRESSED_SENTINEL" Bundle.listD A s s.heap) (hS : va_S A s.heap H locs) (hsize : ls.size = c.maxLocals)
    (d0 : decode cc pc = .ok (.new ik, 3)) (d3 : decode cc (pc + 3) = .ok (.dup, 1)) (d4 : decode cc (pc + 4) = .ok (.invokespecial ic, 3))
    (hK : va_K D cl tys s) (hP : va_P D cl ws H) (hD : va_D A ws) (hA : ∀ q, s.heap.size ≤ q → A q) (hc : cl[ci]? = some (cls, T0, 0))
    (hRframes : names.length + 3 < R.frames) (hRlocals : (rest.map fun v => v.category).sum + (13 * (names.length + 1) + 42) ≤ R.locals) (hRcells : cells + 1 ≤ R.cells) (hRslots : slots + 6 ≤ R.slots)
    (kk : ∀ (q : Nat) (H1 : Heap), va_P D cl (ws ++ [(q, .inr (ci, []))]) H1 → va_D A (ws ++ [(q, .inr (ci, []))]) → va_S A s.heap H1 locs → W p l e R s m args below meth c H1 locs (cells + 1) (slots + 6) Q (F0 m (pc + 7) ls (.ref q :: rest))) :
    W p l e R s m args below meth c H locs cells slots Q (F0 m pc ls rest) := by
  intro T hT X
  subst hT
  have htr : e.platform.stackTraces = false := (show e.platform.stackTraces = l.stackTraces by rw [X.admits.platform]).trans hl
  have Y := vx_rebase X (R' := { frames := R.frames, locals := R.locals, cells := 1, slots := 6 }) (Nat.le_refl _) (Nat.le_refl _) hRcells hRslots
  obtain ⟨s', hA'⟩ : ∃ z, z = (T.setVm s.vm).setFrames (.invoking m args :: below) := ⟨_, rfl⟩
  rw [← hA'] at Y
  have hvm : s'.vm = s.vm := by rw [hA']; rfl
  have hhp : s'.heap = T.heap := by rw [hA']; rfl
  have hW0 : s.WarmedH s'.vm := by rw [hvm]; exact State.WarmedH.refl s
  have hat' : ∀ w ∈ vx_at0 own ic cls names, w.before args s' = true := fun w hw => vx_ot_at hW0 hvm.symm (hgood w (List.mem_cons_of_mem _ (List.mem_cons_of_mem _ hw))) (hat w hw)
  have hk' : (Cond.classLink own ik cls).before args s' = true := vx_ot_at hW0 hvm.symm (hgood _ List.mem_cons_self) hk
  have hini' : (Cond.initialized cls).before args s' = true := vx_ot_at hW0 hvm.symm (hgood _ (List.mem_cons_of_mem _ List.mem_cons_self)) hini
  have hU' : vx_Zq Bundle.tN "UNASSIGNED_STACK" Bundle.steD A s' s'.heap := by rw [hhp]; exact vx_Zq.moved hW0.alike (hU.kept hS.2.1)
  have hN' : vx_Zq Bundle.tN "SUPPRESSED_SENTINEL" Bundle.listD A s' s'.heap := by rw [hhp]; exact vx_Zq.moved hW0.alike (hN.kept hS.2.1)
  have h : ∀ w ∈ Bundle.ownAtoms0 own ic cls names, w.before args s' = true := vx_own hat' (vx_isRefq hU'.1) (vx_isRefq hN'.1) hU'.2.word hN'.2.word
  have hown' : s'.vm.findClass own = some m.cls := by rw [hvm]; exact hown
  have hins : (Cond.instantiable cls 6).before args s' = true := h _ (by simp [Bundle.ownAtoms0])
  obtain ⟨vm₁, cX, kX, hfX, hkX, -, -, X₁, st1⟩ := Y.newCold hexec (own := own) (C := cls) (index := ik) (n := 6) hown' hk' hins hini'
    (g := F0 m pc ls rest) rfl (by rw [hb]; exact d0) (Nat.le_refl _) (Nat.le_refl _)
  generalize hT1 : (T.setVm vm₁).pushCell { cls := cX, slots := kX.instanceTypes.map defaultValue, vm := .none } = T1 at X₁ st1
  have hcat : (Value.ref T.heap.size).category = 1 := rfl
  have hcellA : T1.heap[T.heap.size]? = some (freshCell cX kX) := by rw [← hT1]; exact State.heap_pushCell_size _ _
  have d3' : decode c.code (pc + 3) = .ok (.dup, 1) := by rw [hb]; exact d3
  obtain ⟨V, ce, L, Z, hL, hlt, hcl9, hvm9, st⟩ := vx_ctorMade0 X₁ hexec htr (own := own) (cls := cls) (names := names) (ic := ic) hown' hcls hnames h (fun x hx => nomatch hx) hfX hkX hcellA (by rw [hhp]; exact Nat.le_refl _)
    (g := { method := m, pc := pc + 4, locals := ls, stack := .ref T.heap.size :: .ref T.heap.size :: rest, locked := none }) rfl hsize (rest := rest) rfl
    (by rw [hb]; exact d4) hRframes (by simp only [List.map_cons, List.sum_cons, hcat]; omega)
  have Z0 := Stand.forget (locs := []) Z (fun y hy => by rw [hL y hy, hhp]; exact Nat.le_refl _)
  obtain ⟨f1, f2⟩ := vx_frame Z0.same
  rw [hhp] at f1 f2
  have hcid : ce.cls = D.1 ci := by
    rw [hcl9]
    have h1 := (hK.1 ci _ hc).2.1
    rw [hvm] at hfX
    exact Option.some.inj (hfX.symm.trans h1)
  have hh : (V.setCell T.heap.size ce).heap[T.heap.size]? = some ce := heapAt_setCell_self (s := V) ce hlt
  subst hA'
  have X5 := vx_back9 X Y Z0
  have X6 : Stand p l e R s m args below meth c (V.setCell T.heap.size ce) locs (cells + 1) (slots + 6) := { X5 with same := X5.same.mono (by omega) (by omega) }
  have hk9 : ∀ (k : Nat) (x : Nat × va_E), ws[k]? = some x → (V.setCell T.heap.size ce).heap[x.1]? = T.heap[x.1]? := fun k x hx => f2 x.1 ((hP k x hx).lt) (fun z hz => nomatch hz)
  obtain ⟨t, a1, b1⟩ := kk T.heap.size (V.setCell T.heap.size ce).heap ((hP.kept hk9).app (fun k x hx => by
      have hz : k < 1 := (List.getElem?_eq_some_iff.mp hx).1
      rw [show k = 0 by omega] at hx
      cases hx
      exact ⟨_, hc, ce, hh, hcid, hvm9, fun k hk => absurd hk (Nat.not_lt_zero k)⟩)) (hD.push hP rfl (hA _ hS.1)) ⟨Nat.le_trans hS.1 f1, fun q h1 h2 => (f2 q (Nat.lt_of_lt_of_le h1 hS.1) (fun z hz => nomatch hz)).trans (hS.2.1 q h1 h2), hS.2.2⟩ _ rfl X6
  refine ⟨t, st1 _ ?_, b1⟩
  show Steps p.tables e below (T1.setTop { method := m, pc := pc + 3, locals := ls, stack := .ref T.heap.size :: rest, locked := none }) _
  jvm_step X₁.here [X₁.here.top, hexec, d3', Value.category]
  exact st _ a1
/-- 'throw x' of an object that was made before -/
theorem vx_athrow {cc : ByteArray} {pc : Nat} (hexec : p.tables.exec = Jvm.exec) (hb : c.code = cc) {q : Addr} (hdg : decode cc pc = .ok (.athrow, 1)) (k : vx_W p l e R s m args below meth c H locs cells slots Q (F0 m pc ls rest) q) : W p l e R s m args below meth c H locs cells slots Q (F0 m pc ls (.ref q :: rest)) := by
  intro T hT X
  obtain ⟨t, st, hq⟩ := k T hT X
  refine ⟨t, ?_, hq⟩
  have hdg' : decode c.code pc = .ok (.athrow, 1) := by rw [hb]; exact hdg
  jvm_step X.here [X.here.top, hexec, hdg', athrow.wp_sem]
  exact st
end VXK2
/-! ===== END ===== -/
/-! ===== BEGIN a constructor that throws (launches without stack traces) ===== -/
section VXIA
variable {p : Program} {l : Launch} {e : Env} {R : Room} {s : State} {m : MethodId} {args : Array Value} {below : List Frame} {meth : Method} {c : Code} {T : State} {locs : List Loc} {cells slots : Nat}
theorem vx_callI (X : Stand p l e R s m args below meth c T locs cells slots) (hexec : p.tables.exec = Jvm.exec) {own : String} {index : Nat} {y : MethodName} {bytes : ByteArray} {maxL : Nat}
    (hown : s.vm.findClass own = some m.cls) (hy1 : y.name = "<init>") (hlink : (Cond.methodLink own index y).before args s = true) (hinst : (Cond.instanceMethod y).before args s = true)
    (hcode : (Cond.code y bytes maxL none).before args s = true) (hy : y.cls ≠ "java/lang/invoke/MethodHandle" ∧ y.cls ≠ "java/lang/invoke/VarHandle")
    {W9 : Nat} {Pre : Pt → Array Value → Prop} {Post : Pt → Array Value → Option Value → Pt → Prop} {PostX : Pt → Array Value → Addr → Pt → Prop} (hK : vx_Back l R p e below s args y 3 W9 Pre Post PostX)
    {g : JFrame} (hg : g.method = m) (hsize : g.locals.size = c.maxLocals) {a : Addr} {argsL rest : List Value} (hlen : ∀ sig, parseMethodDescriptor y.desc = some sig → argsL.length = sig.parameters.length)
    (hstack : g.stack = argsL.reverse ++ .ref a :: rest) (hW : 2 * g.monitorRoom + (rest.map fun v => v.category).sum ≤ W9) (hdg : decode c.code g.pc = .ok (.invokespecial index, 3))
    (hpre : ∀ vm₁, s.WarmedH vm₁ → Pre ⟨T.setVm vm₁, locs, cells, slots⟩ (Value.ref a :: argsL).toArray) :
    (∃ (v : Option Value) (vm₁ : Vm) (B : Pt), s.WarmedH vm₁ ∧ Stand p l e R s m args below meth c B.U B.locs B.cells B.slots ∧ Post ⟨T.setVm vm₁, locs, cells, slots⟩ (Value.ref a :: argsL).toArray v B ∧
      ∀ target, Steps p.tables e below (B.U.setTop { g with pc := g.pc + 3, stack := v.toList ++ rest }) target → Steps p.tables e below (T.setTop g) target) ∨
    (∃ (q : Addr) (vm₁ : Vm) (B : Pt), s.WarmedH vm₁ ∧ Stand p l e R s m args below meth c B.U B.locs B.cells B.slots ∧ PostX ⟨T.setVm vm₁, locs, cells, slots⟩ (Value.ref a :: argsL).toArray q B ∧
      Steps p.tables e below (T.setTop g) ((B.U.setTop { g with stack := rest }).pushFrame (.throwing q))) := by
  subst hg
  have hpl : e.platform.magicAccessors = ({} : Platform).magicAccessors := by rw [X.admits.platform]
  obtain ⟨mk, methM, cM, kP, vm₁, hnamed, hmethM, hcodeM, -, hlocalsM, -, hkP, -, hW₁, hstep₁⟩ := Steps.initColdArgs (e := e) X.here hexec X.warmed hpl hown hy1 hy hlink hinst hcode (f := g) rfl hlen hstack hdg
  have X₁ := X.noted hW₁
  rcases hK g.method meth c ⟨T.setVm vm₁, locs, cells, slots⟩ { g with stack := rest } (.invokespecial index) mk (Value.ref a :: argsL).toArray X₁ rfl hsize hdg hW (X₁.named hnamed) (hpre vm₁ X₁.warmed) with ⟨v, B, X', hpost, hsteps⟩ | ⟨q, B, X', hpost, hsteps⟩
  · exact Or.inl ⟨v, vm₁, B, X₁.warmed, X', hpost, fun target h => hstep₁ _ fun acts => by rw [doInvoke_state]; exact hsteps.trans h⟩
  · exact Or.inr ⟨q, vm₁, B, X₁.warmed, X', hpost, hstep₁ _ fun acts => by rw [doInvoke_state]; exact hsteps⟩
end VXIA
section VXIB
variable {p : Program} {l : Launch} {e : Env} {R : Room} {s : State} {m : MethodId} {args : Array Value} {below : List Frame} {meth : Method} {c : Code} {H : Heap} {locs : List Loc} {cells slots : Nat}
variable {y : MethodName} {bytes cc : ByteArray} {maxL nL mc ms n index : Nat} {ret : Option FieldType} {ws : List Cond} {rm : Room} {Pc : Array Value → State → Prop} {Qc : Array Value → State → Outcome → State → Prop} {XC : String → State → State → Prop} {free : Addr → Prop} {Ts : List Cond} {own C : String} {b : Addr} {As rest : List Value} {g : JFrame}
theorem vx_runI (S : CallFix p m c cc nL s args Ts own) (hM : vx_Met l y ws rm Pc Qc XC mc ms free) (cw : CallB R s args own index y bytes maxL none ws rm mc ms n ∧ y.name = "<init>" ∧ (Cond.instanceMethod y).before args s = true) (hp : PreS s H Pc (.ref b :: As))
    (hg : g.method = m) (hn : As.length = n) (hsize : g.locals.size = nL) (hstack : g.stack = As.reverse ++ .ref b :: rest) (hW : 2 * g.monitorRoom + (rest.map fun v => v.category).sum ≤ 8) (hdg : decode cc g.pc = .ok (.invokespecial index, 3)) (hf : cells + mc ≤ R.cells ∧ slots + ms ≤ R.slots) :
    vx_Run p l e R s m args below meth c H locs cells slots mc ms g rest (Qc (Value.ref b :: As).toArray) XC free := by
  have hK : vx_Back l R p e below s args y 3 8 (PreOf R mc ms Pc) (PostOf Qc mc ms free) (vx_Post XC mc ms free) := vx_callBack cw.1 hM hp.1
  obtain ⟨⟨-, -, -, -, -, -, hcode, -, hy, hlen, hl⟩, hy1, hin⟩ := cw
  obtain ⟨hx, hb, hml, ho, -⟩ := S
  have hPc := hp.2
  intro T hT X
  rcases vx_callI X hx (bytes := bytes) (maxL := maxL) ho hy1 hl hin hcode hy hK hg (hsize.trans hml.symm) (a := b) (argsL := As) (rest := rest) (fun sig h => hn.trans (hlen sig h)) hstack hW (by rw [hb]; exact hdg)
    (fun vm₁ hW₁ => ⟨hf.1, hf.2, hPc (T.setVm vm₁) hT hW₁⟩) with ⟨v, vm₁, ⟨U', l2, c2, s2⟩, hW₁, X', ⟨g', mk, t, L, e1, e2, hq, h1, hL, h2, h3⟩, st⟩ | ⟨q, vm₁, ⟨U', l2, c2, s2⟩, hW₁, X', ⟨g', mk, t, L, E, ce, e1, e2, hq, hce, hcv, hcl, h1, hL, h2, h3⟩, st⟩
  · dsimp only [Pt.U, Pt.locs, Pt.cells, Pt.slots] at X' e1 e2 h1 h2 h3 st
    subst h1; subst h2; subst h3
    exact Or.inl ⟨v, (T.setVm vm₁).calling g' mk (Value.ref b :: As).toArray, t, U', L, hT, X', hL, e1, e2, hq, st⟩
  · dsimp only [Pt.U, Pt.locs, Pt.cells, Pt.slots] at X' e1 e2 h1 h2 h3 st hcl
    subst h1; subst h2; subst h3
    exact Or.inr ⟨q, (T.setVm vm₁).calling g' mk (Value.ref b :: As).toArray, t, U', L, E, ce, hT, X', hL, e1, e2, hq, hce, hcv, vx_cls hW₁ hcl, st⟩
end VXIB
/-! ===== END ===== -/
/-! ===== BEGIN a private constructor of a nest mate that throws ===== -/
section VXIC
variable {p : Program} {l : Launch} {e : Env} {R : Room} {s : State} {m : MethodId} {args : Array Value} {below : List Frame} {meth : Method} {c : Code} {T : State} {locs : List Loc} {cells slots : Nat}
theorem vx_callIN (X : Stand p l e R s m args below meth c T locs cells slots) (hexec : p.tables.exec = Jvm.exec) {own : String} {index : Nat} {host : String} {y : MethodName} {bytes : ByteArray} {maxL : Nat}
    (hown : s.vm.findClass own = some m.cls) (hy1 : y.name = "<init>") (hlink : (Cond.methodLinkNest own index y host).before args s = true) (hinst : (Cond.instanceMethod y).before args s = true)
    (hcode : (Cond.code y bytes maxL none).before args s = true) (hy : y.cls ≠ "java/lang/invoke/MethodHandle" ∧ y.cls ≠ "java/lang/invoke/VarHandle")
    {W9 : Nat} {Pre : Pt → Array Value → Prop} {Post : Pt → Array Value → Option Value → Pt → Prop} {PostX : Pt → Array Value → Addr → Pt → Prop} (hK : vx_Back l R p e below s args y 3 W9 Pre Post PostX)
    {g : JFrame} (hg : g.method = m) (hsize : g.locals.size = c.maxLocals) {a : Addr} {argsL rest : List Value} (hlen : ∀ sig, parseMethodDescriptor y.desc = some sig → argsL.length = sig.parameters.length)
    (hstack : g.stack = argsL.reverse ++ .ref a :: rest) (hW : 2 * g.monitorRoom + (rest.map fun v => v.category).sum ≤ W9) (hdg : decode c.code g.pc = .ok (.invokespecial index, 3))
    (hpre : ∀ vm₁, s.WarmedH vm₁ → Pre ⟨T.setVm vm₁, locs, cells, slots⟩ (Value.ref a :: argsL).toArray) :
    (∃ (v : Option Value) (vm₁ : Vm) (B : Pt), s.WarmedH vm₁ ∧ Stand p l e R s m args below meth c B.U B.locs B.cells B.slots ∧ Post ⟨T.setVm vm₁, locs, cells, slots⟩ (Value.ref a :: argsL).toArray v B ∧
      ∀ target, Steps p.tables e below (B.U.setTop { g with pc := g.pc + 3, stack := v.toList ++ rest }) target → Steps p.tables e below (T.setTop g) target) ∨
    (∃ (q : Addr) (vm₁ : Vm) (B : Pt), s.WarmedH vm₁ ∧ Stand p l e R s m args below meth c B.U B.locs B.cells B.slots ∧ PostX ⟨T.setVm vm₁, locs, cells, slots⟩ (Value.ref a :: argsL).toArray q B ∧
      Steps p.tables e below (T.setTop g) ((B.U.setTop { g with stack := rest }).pushFrame (.throwing q))) := by
  subst hg
  have hpl : e.platform.magicAccessors = ({} : Platform).magicAccessors := by rw [X.admits.platform]
  obtain ⟨mk, methM, cM, kP, vm₁, hnamed, hmethM, hcodeM, -, hlocalsM, -, hkP, -, hW₁, hstep₁⟩ := Steps.initColdArgsNest (e := e) X.here hexec X.warmed hpl hown hy1 hy hlink hinst hcode (f := g) rfl hlen hstack hdg
  have X₁ := X.noted hW₁
  rcases hK g.method meth c ⟨T.setVm vm₁, locs, cells, slots⟩ { g with stack := rest } (.invokespecial index) mk (Value.ref a :: argsL).toArray X₁ rfl hsize hdg hW (X₁.named hnamed) (hpre vm₁ X₁.warmed) with ⟨v, B, X', hpost, hsteps⟩ | ⟨q, B, X', hpost, hsteps⟩
  · exact Or.inl ⟨v, vm₁, B, X₁.warmed, X', hpost, fun target h => hstep₁ _ fun acts => by rw [doInvoke_state]; exact hsteps.trans h⟩
  · exact Or.inr ⟨q, vm₁, B, X₁.warmed, X', hpost, hstep₁ _ fun acts => by rw [doInvoke_state]; exact hsteps⟩
end VXIC
section VXID
variable {p : Program} {l : Launch} {e : Env} {R : Room} {s : State} {m : MethodId} {args : Array Value} {below : List Frame} {meth : Method} {c : Code} {H : Heap} {locs : List Loc} {cells slots : Nat}
theorem vx_runIN {y : MethodName} {bytes cc : ByteArray} {maxL nL mc ms n index : Nat} {ws : List Cond} {rm : Room} {Pc : Array Value → State → Prop} {Qc : Array Value → State → Outcome → State → Prop} {XC : String → State → State → Prop} {free : Addr → Prop} {Ts : List Cond} {own host : String} {b : Addr} {As rest : List Value} {g : JFrame}
    (S : CallFix p m c cc nL s args Ts own) (hM : vx_Met l y ws rm Pc Qc XC mc ms free) (cw : va_CN R s args own index y host bytes maxL none ws rm mc ms n ∧ y.name = "<init>" ∧ (Cond.instanceMethod y).before args s = true) (hp : PreS s H Pc (.ref b :: As))
    (hg : g.method = m) (hn : As.length = n) (hsize : g.locals.size = nL) (hstack : g.stack = As.reverse ++ .ref b :: rest) (hW : 2 * g.monitorRoom + (rest.map fun v => v.category).sum ≤ 8) (hdg : decode cc g.pc = .ok (.invokespecial index, 3)) (hf : cells + mc ≤ R.cells ∧ slots + ms ≤ R.slots) :
    vx_Run p l e R s m args below meth c H locs cells slots mc ms g rest (Qc (Value.ref b :: As).toArray) XC free := by
  obtain ⟨⟨⟨hrc, hrs, hfr, hlo, hws, hcw⟩, hcode, hini, hy, hlen, hl⟩, hx1, hx2⟩ := cw
  have hK : vx_Back l R p e below s args y 3 8 (PreOf R mc ms Pc) (PostOf Qc mc ms free) (vx_Post XC mc ms free) := vx_back (bytes := bytes) (maxL := maxL) (ret := none) hM hp.1 hrc hrs hfr hlo hws hcw (fun a' U hW => word_at hW (Or.inl (by first | rfl | simp [Cond.onTables, Cond.keeps, Cond.steady])) hini)
  obtain ⟨hx, hb, hml, ho, -⟩ := S
  have hPc := hp.2
  intro T hT X
  rcases vx_callIN X hx (bytes := bytes) (maxL := maxL) ho hx1 hl hx2 hcode hy hK hg (hsize.trans hml.symm) (a := b) (argsL := As) (rest := rest) (fun sig h => hn.trans (hlen sig h)) hstack hW (by rw [hb]; exact hdg)
    (fun vm₁ hW₁ => ⟨hf.1, hf.2, hPc (T.setVm vm₁) hT hW₁⟩) with ⟨v, vm₁, ⟨U', l2, c2, s2⟩, hW₁, X', ⟨g', mk, t, L, e1, e2, hq, h1, hL, h2, h3⟩, st⟩ | ⟨q, vm₁, ⟨U', l2, c2, s2⟩, hW₁, X', ⟨g', mk, t, L, E, ce, e1, e2, hq, hce, hcv, hcl, h1, hL, h2, h3⟩, st⟩
  · dsimp only [Pt.U, Pt.locs, Pt.cells, Pt.slots] at X' e1 e2 h1 h2 h3 st
    subst h1; subst h2; subst h3
    exact Or.inl ⟨v, (T.setVm vm₁).calling g' mk (Value.ref b :: As).toArray, t, U', L, hT, X', hL, e1, e2, hq, st⟩
  · dsimp only [Pt.U, Pt.locs, Pt.cells, Pt.slots] at X' e1 e2 h1 h2 h3 st hcl
    subst h1; subst h2; subst h3
    exact Or.inr ⟨q, (T.setVm vm₁).calling g' mk (Value.ref b :: As).toArray, t, U', L, E, ce, hT, X', hL, e1, e2, hq, hce, hcv, vx_cls hW₁ hcl, st⟩
end VXID
/-! ===== END ===== -/
/-! ===== BEGIN a method of a class above, found by the receiver, that may throw (follows va_callVU, va_runU of this kit) ===== -/
section
variable {p : Program} {l : Launch} {e : Env} {R : Room} {s : State} {m : MethodId} {args : Array Value} {below : List Frame} {meth : Method} {c : Code} {H : Heap} {locs : List Loc} {cells slots : Nat}
theorem vx_callVU {T : State} {locs : List Loc} {cells slots : Nat} (X : Stand p l e R s m args below meth c T locs cells slots) (hexec : p.tables.exec = Jvm.exec) {own C owner : String} {index : Nat} {x y : MethodName} {bytes : ByteArray} {maxL : Nat} {ret : Option FieldType}
    (hown : s.vm.findClass own = some m.cls) (hlink : (Cond.methodLink own index x).before args s = true) (hsame : (Cond.sameMethod x.cls owner x.name x.desc).before args s = true)
    (hd0 : va_Decl s ⟨owner, x.name, x.desc⟩) (howner : owner ≠ "java/lang/invoke/MethodHandle" ∧ owner ≠ "java/lang/invoke/VarHandle")
    (hsel : (Cond.selects C x y).before args s = true) (hinst : (Cond.instanceMethod y).before args s = true) (hcode : (Cond.code y bytes maxL ret).before args s = true)
    {W : Nat} {Pre : Pt → Array Value → Prop} {Post : Pt → Array Value → Option Value → Pt → Prop} {PostX : Pt → Array Value → Addr → Pt → Prop} (hK : vx_Back l R p e below s args y 3 W Pre Post PostX)
    {b : Addr} {cellB : Cell} (hcell : T.heap[b]? = some cellB) (hobj : cellB.vm.isStatics = false) (hcls : s.vm.findClass C = some cellB.cls)
    {g : JFrame} (hg : g.method = m) (hsize : g.locals.size = c.maxLocals) {argsL rest : List Value} (hlen : ∀ sig, parseMethodDescriptor x.desc = some sig → argsL.length = sig.parameters.length)
    (hstack : g.stack = argsL.reverse ++ .ref b :: rest) (hW : 2 * g.monitorRoom + (rest.map fun v => v.category).sum ≤ W) (hdg : decode c.code g.pc = .ok (.invokevirtual index, 3))
    (hpre : ∀ vm₁, s.WarmedH vm₁ → Pre ⟨T.setVm vm₁, locs, cells, slots⟩ (Value.ref b :: argsL).toArray) :
    (∃ (v : Option Value) (vm₁ : Vm) (B : Pt), s.WarmedH vm₁ ∧ Stand p l e R s m args below meth c B.U B.locs B.cells B.slots ∧ Post ⟨T.setVm vm₁, locs, cells, slots⟩ (Value.ref b :: argsL).toArray v B ∧
      ∀ target, Steps p.tables e below (B.U.setTop { g with pc := g.pc + 3, stack := v.toList ++ rest }) target → Steps p.tables e below (T.setTop g) target) ∨
    (∃ (q : Addr) (vm₁ : Vm) (B : Pt), s.WarmedH vm₁ ∧ Stand p l e R s m args below meth c B.U B.locs B.cells B.slots ∧ PostX ⟨T.setVm vm₁, locs, cells, slots⟩ (Value.ref b :: argsL).toArray q B ∧
      Steps p.tables e below (T.setTop g) ((B.U.setTop { g with stack := rest }).pushFrame (.throwing q))) := by
  obtain ⟨r0, r, hn, hrm, hstR, hsigR⟩ := hd0
  obtain ⟨cn, ck, r1, hcn, hck, hni, hf, hn1⟩ := Cond.sameMethod_found hsame
  cases hn.symm.trans hn1
  obtain ⟨mk, methM, hnamed, hmethM, -, habM⟩ := Cond.instanceMethod_spec hinst
  obtain ⟨c2, r2, m2, q1, q2, q3, q4, kP, hkP, hkPi⟩ := Cond.selects_spec hsel
  cases hcls.symm.trans q1
  cases hf.symm.trans q2
  cases hnamed.symm.trans q3
  have hselP : selectMethod e.platform s.vm cellB.cls r0 = .method mk := by rw [Launch.admits_selectMethod X.admits]; exact q4
  obtain ⟨vm₁, X₁, hstep₁⟩ := X.invokevirtualUp hexec hown hlink hsame howner hn hrm hstR (a := b) (cell := cellB) hcell
    (fun z h => by rw [h] at hobj; cases hobj) hselP hmethM habM hkP hkPi (g := g) hg (argsL := argsL) (rest := rest) (hlen _ hsigR) hstack hdg
  rcases hK m meth c ⟨T.setVm vm₁, locs, cells, slots⟩ { g with stack := rest } (.invokevirtual index) mk (Value.ref b :: argsL).toArray X₁ hg hsize hdg hW (X₁.named hnamed) (hpre vm₁ X₁.warmed) with ⟨v, B, X', hpost, hsteps⟩ | ⟨q, B, X', hpost, hsteps⟩
  · exact Or.inl ⟨v, vm₁, B, X₁.warmed, X', hpost, fun target h => hstep₁ _ fun acts => by rw [doInvoke_state]; exact hsteps.trans h⟩
  · exact Or.inr ⟨q, vm₁, B, X₁.warmed, X', hpost, hstep₁ _ fun acts => by rw [doInvoke_state]; exact hsteps⟩
theorem vx_runU {x y : MethodName} {bytes cc : ByteArray} {maxL nL mc ms n index : Nat} {ret : Option FieldType} {ws : List Cond} {rm : Room} {Pc : Array Value → State → Prop} {Qc : Array Value → State → Outcome → State → Prop} {XC : String → State → State → Prop} {free : Addr → Prop} {Ts : List Cond} {own C owner : String} {b : Addr} {As rest : List Value} {g : JFrame}
    (S : CallFix p m c cc nL s args Ts own) (hM : vx_Met l y ws rm Pc Qc XC mc ms free) (cw : va_CU R s args own C owner index x y bytes maxL ret ws rm mc ms n) (hp : PreV s H C b Pc As)
    (hg : g.method = m) (hn : As.length = n) (hsize : g.locals.size = nL) (hstack : g.stack = As.reverse ++ .ref b :: rest) (hW : 2 * g.monitorRoom + (rest.map fun v => v.category).sum ≤ 8) (hdg : decode cc g.pc = .ok (.invokevirtual index, 3)) (hf : cells + mc ≤ R.cells ∧ slots + ms ≤ R.slots) :
    vx_Run p l e R s m args below meth c H locs cells slots mc ms g rest (Qc (Value.ref b :: As).toArray) XC free := by
  obtain ⟨hrc, hrs, hfr, hlo, hws, hcw⟩ := cw.back
  have hini := cw.init
  have hK : vx_Back l R p e below s args y 3 8 (PreOf R mc ms Pc) (PostOf Qc mc ms free) (vx_Post XC mc ms free) := vx_back (bytes := bytes) (maxL := maxL) (ret := ret) hM hp.1 hrc hrs hfr hlo hws hcw (fun a' U hW => word_at hW (Or.inl (by first | rfl | simp [Cond.onTables, Cond.keeps, Cond.steady])) hini)
  obtain ⟨hx, hb, hml, ho, -⟩ := S
  obtain ⟨-, ⟨cellB, hcB, hoB, hclB⟩, hPc⟩ := hp
  intro T hT X
  rcases vx_callVU X hx (C := C) (owner := owner) (bytes := bytes) (maxL := maxL) (ret := ret) ho cw.link cw.same cw.decl cw.notMH cw.sel cw.inst cw.code hK (by rw [hT]; exact hcB) hoB hclB hg (hsize.trans hml.symm) (argsL := As) (rest := rest) (fun sig h => hn.trans (cw.len sig h)) hstack hW (by rw [hb]; exact hdg)
    (fun vm₁ hW₁ => ⟨hf.1, hf.2, hPc (T.setVm vm₁) hT hW₁⟩) with ⟨v, vm₁, ⟨U', l2, c2, s2⟩, hW₁, X', ⟨g', mk, t, L, e1, e2, hq, h1, hL, h2, h3⟩, st⟩ | ⟨q, vm₁, ⟨U', l2, c2, s2⟩, hW₁, X', ⟨g', mk, t, L, E, ce, e1, e2, hq, hce, hcv, hcl, h1, hL, h2, h3⟩, st⟩
  · dsimp only [Pt.U, Pt.locs, Pt.cells, Pt.slots] at X' e1 e2 h1 h2 h3 st
    subst h1; subst h2; subst h3
    exact Or.inl ⟨v, (T.setVm vm₁).calling g' mk (Value.ref b :: As).toArray, t, U', L, hT, X', hL, e1, e2, hq, st⟩
  · dsimp only [Pt.U, Pt.locs, Pt.cells, Pt.slots] at X' e1 e2 h1 h2 h3 st hcl
    subst h1; subst h2; subst h3
    exact Or.inr ⟨q, (T.setVm vm₁).calling g' mk (Value.ref b :: As).toArray, t, U', L, E, ce, hT, X', hL, e1, e2, hq, hce, hcv, vx_cls hW₁ hcl, st⟩
end
/-! ===== END ===== -/
/-! ===== BEGIN super.m(..) that may throw (follows va_callSU, va_runSU) ===== -/
section
variable {p : Program} {l : Launch} {e : Env} {R : Room} {s : State} {m : MethodId} {args : Array Value} {below : List Frame} {meth : Method} {c : Code} {H : Heap} {locs : List Loc} {cells slots : Nat}
theorem vx_callSU {T : State} {locs : List Loc} {cells slots : Nat} (X : Stand p l e R s m args below meth c T locs cells slots) (hexec : p.tables.exec = Jvm.exec) {own : String} {index : Nat} {y : MethodName} {bytes : ByteArray} {maxL : Nat} {ret : Option FieldType}
    (hown : s.vm.findClass own = some m.cls) (hlink : (Cond.methodLink own index y).before args s = true) (hsame : (Cond.sameMethod y.cls y.cls y.name y.desc).before args s = true) (hsup : (Cond.superclass own y.cls).before args s = true)
    (hinst : (Cond.instanceMethod y).before args s = true) (hcode : (Cond.code y bytes maxL ret).before args s = true) (hno : y.name ≠ "<init>")
    {W : Nat} {Pre : Pt → Array Value → Prop} {Post : Pt → Array Value → Option Value → Pt → Prop} {PostX : Pt → Array Value → Addr → Pt → Prop} (hK : vx_Back l R p e below s args y 3 W Pre Post PostX)
    {b : Addr} {cellB : Cell} {kB : Class} (hcell : T.heap[b]? = some cellB) (hobj : cellB.vm.isStatics = false) (hkB : s.vm.classes[cellB.cls]? = some kB)
    {g : JFrame} (hg : g.method = m) (hsize : g.locals.size = c.maxLocals) {argsL rest : List Value} (hlen : ∀ sig, parseMethodDescriptor y.desc = some sig → argsL.length = sig.parameters.length)
    (hstack : g.stack = argsL.reverse ++ .ref b :: rest) (hW : 2 * g.monitorRoom + (rest.map fun v => v.category).sum ≤ W) (hdg : decode c.code g.pc = .ok (.invokespecial index, 3))
    (hpre : ∀ vm₁, s.WarmedH vm₁ → Pre ⟨T.setVm vm₁, locs, cells, slots⟩ (Value.ref b :: argsL).toArray) :
    (∃ (v : Option Value) (vm₁ : Vm) (B : Pt), s.WarmedH vm₁ ∧ Stand p l e R s m args below meth c B.U B.locs B.cells B.slots ∧ Post ⟨T.setVm vm₁, locs, cells, slots⟩ (Value.ref b :: argsL).toArray v B ∧
      ∀ target, Steps p.tables e below (B.U.setTop { g with pc := g.pc + 3, stack := v.toList ++ rest }) target → Steps p.tables e below (T.setTop g) target) ∨
    (∃ (q : Addr) (vm₁ : Vm) (B : Pt), s.WarmedH vm₁ ∧ Stand p l e R s m args below meth c B.U B.locs B.cells B.slots ∧ PostX ⟨T.setVm vm₁, locs, cells, slots⟩ (Value.ref b :: argsL).toArray q B ∧
      Steps p.tables e below (T.setTop g) ((B.U.setTop { g with stack := rest }).pushFrame (.throwing q))) := by
  obtain ⟨mk, methM, hnamed, hmethM, hstM, habM⟩ := Cond.instanceMethod_spec hinst
  obtain ⟨methM', cM, hmethM', -, -, -, -, -, -, hsigM⟩ := Cond.code_spec hnamed hcode
  cases hmethM.symm.trans hmethM'
  obtain ⟨ps, dk, kp, hps, hdk, hkp, hsuper, -, -, hnid⟩ := Cond.superclass_spec hown hsup
  have hn : s.methodNamed? ⟨y.cls, y.name, y.desc⟩ = some mk := hnamed
  have hpm : ps = mk.cls := Option.some.inj (hps.symm.trans (findClass_of_methodNamed hnamed))
  have hsub : s.vm.isSubclass ps mk.cls = true := by rw [hpm]; simp [Vm.isSubclass, Vm.isSubclassAux]
  obtain ⟨vm₁, X₁, hstep₁⟩ := X.invokespecialUp hexec hown hlink hsame hn hmethM hstM habM hno hdk hnid hps hsuper hsub (a := b) (cell := cellB) hcell
    (fun z h => by rw [h] at hobj; cases hobj) hkB (g := g) hg (argsL := argsL) (rest := rest) (hlen _ hsigM) hstack hdg
  rcases hK m meth c ⟨T.setVm vm₁, locs, cells, slots⟩ { g with stack := rest } (.invokespecial index) mk (Value.ref b :: argsL).toArray X₁ hg hsize hdg hW (X₁.named hnamed) (hpre vm₁ X₁.warmed) with ⟨v, B, X', hpost, hsteps⟩ | ⟨q, B, X', hpost, hsteps⟩
  · exact Or.inl ⟨v, vm₁, B, X₁.warmed, X', hpost, fun target h => hstep₁ _ (by rw [doInvoke_state]; exact hsteps.trans h)⟩
  · exact Or.inr ⟨q, vm₁, B, X₁.warmed, X', hpost, hstep₁ _ (by rw [doInvoke_state]; exact hsteps)⟩
theorem vx_runSU {y : MethodName} {bytes cc : ByteArray} {maxL nL mc ms n index : Nat} {ret : Option FieldType} {ws : List Cond} {rm : Room} {Pc : Array Value → State → Prop} {Qc : Array Value → State → Outcome → State → Prop} {XC : String → State → State → Prop} {free : Addr → Prop} {Ts : List Cond} {own C : String} {cC : ClassId} {b : Addr} {As rest : List Value} {g : JFrame}
    (hat : ClassAt s C cC) (S : CallFix p m c cc nL s args Ts own) (hM : vx_Met l y ws rm Pc Qc XC mc ms free) (cw : va_CS R s args own index y bytes maxL ret ws rm mc ms n) (hp : PreV s H C b Pc As)
    (hg : g.method = m) (hn : As.length = n) (hsize : g.locals.size = nL) (hstack : g.stack = As.reverse ++ .ref b :: rest) (hW : 2 * g.monitorRoom + (rest.map fun v => v.category).sum ≤ 8) (hdg : decode cc g.pc = .ok (.invokespecial index, 3)) (hf : cells + mc ≤ R.cells ∧ slots + ms ≤ R.slots) :
    vx_Run p l e R s m args below meth c H locs cells slots mc ms g rest (Qc (Value.ref b :: As).toArray) XC free := by
  obtain ⟨⟨hrc, hrs, hfr, hlo, hws, hcw⟩, hl1, hl2, hl3, hl4, hini, hcode, hno, hlen⟩ := cw
  have hK : vx_Back l R p e below s args y 3 8 (PreOf R mc ms Pc) (PostOf Qc mc ms free) (vx_Post XC mc ms free) := vx_back (bytes := bytes) (maxL := maxL) (ret := ret) hM hp.1 hrc hrs hfr hlo hws hcw (fun a' U hW => word_at hW (Or.inl (by first | rfl | simp [Cond.onTables, Cond.keeps, Cond.steady])) hini)
  obtain ⟨hx, hb, hml, ho, -⟩ := S
  obtain ⟨-, ⟨cellB, hcB, hoB, hclB⟩, hPc⟩ := hp
  obtain ⟨hfc, kB, hkB, -⟩ := hat
  cases hfc.symm.trans hclB
  intro T hT X
  rcases vx_callSU X hx (bytes := bytes) (maxL := maxL) (ret := ret) ho hl1 hl2 hl3 hl4 hcode hno hK (by rw [hT]; exact hcB) hoB hkB hg (hsize.trans hml.symm) (argsL := As) (rest := rest) (fun sig h => hn.trans (hlen sig h)) hstack hW (by rw [hb]; exact hdg)
    (fun vm₁ hW₁ => ⟨hf.1, hf.2, hPc (T.setVm vm₁) hT hW₁⟩) with ⟨v, vm₁, ⟨U', l2, c2, s2⟩, hW₁, X', ⟨g', mk, t, L, e1, e2, hq, h1, hL, h2, h3⟩, st⟩ | ⟨q, vm₁, ⟨U', l2, c2, s2⟩, hW₁, X', ⟨g', mk, t, L, E, ce, e1, e2, hq, hce, hcv, hcl, h1, hL, h2, h3⟩, st⟩
  · dsimp only [Pt.U, Pt.locs, Pt.cells, Pt.slots] at X' e1 e2 h1 h2 h3 st
    subst h1; subst h2; subst h3
    exact Or.inl ⟨v, (T.setVm vm₁).calling g' mk (Value.ref b :: As).toArray, t, U', L, hT, X', hL, e1, e2, hq, st⟩
  · dsimp only [Pt.U, Pt.locs, Pt.cells, Pt.slots] at X' e1 e2 h1 h2 h3 st hcl
    subst h1; subst h2; subst h3
    exact Or.inr ⟨q, (T.setVm vm₁).calling g' mk (Value.ref b :: As).toArray, t, U', L, E, ce, hT, X', hL, e1, e2, hq, hce, hcv, vx_cls hW₁ hcl, st⟩
end
/-! ===== END ===== -/
/-! ===== BEGIN a private method of a nest mate that may throw (follows va_callVN, va_callSN, va_runVN, va_runSN) ===== -/
section
variable {p : Program} {l : Launch} {e : Env} {R : Room} {s : State} {m : MethodId} {args : Array Value} {below : List Frame} {meth : Method} {c : Code} {H : Heap} {locs : List Loc} {cells slots : Nat}
variable {T : State}
theorem vx_callVN (X : Stand p l e R s m args below meth c T locs cells slots) (hexec : p.tables.exec = Jvm.exec) {own C : String} {index : Nat} {host : String} {y : MethodName} {bytes : ByteArray} {maxL : Nat} {ret : Option FieldType}
    (hown : s.vm.findClass own = some m.cls) (hlink : (Cond.methodLinkNest own index y host).before args s = true) (hinst : (Cond.instanceMethod y).before args s = true) (hsel : (Cond.selects C y y).before args s = true)
    (hcode : (Cond.code y bytes maxL ret).before args s = true) (hy : y.cls ≠ "java/lang/invoke/MethodHandle" ∧ y.cls ≠ "java/lang/invoke/VarHandle")
    {W : Nat} {Pre : Pt → Array Value → Prop} {Post : Pt → Array Value → Option Value → Pt → Prop} {PostX : Pt → Array Value → Addr → Pt → Prop} (hK : vx_Back l R p e below s args y 3 W Pre Post PostX)
    {b : Addr} {cellB : Cell} (hcell : T.heap[b]? = some cellB) (hobj : cellB.vm.isStatics = false) (hcls : s.vm.findClass C = some cellB.cls)
    {g : JFrame} (hg : g.method = m) (hsize : g.locals.size = c.maxLocals) {argsL rest : List Value} (hlen : ∀ sig, parseMethodDescriptor y.desc = some sig → argsL.length = sig.parameters.length)
    (hstack : g.stack = argsL.reverse ++ .ref b :: rest) (hW : 2 * g.monitorRoom + (rest.map fun v => v.category).sum ≤ W) (hdg : decode c.code g.pc = .ok (.invokevirtual index, 3))
    (hpre : ∀ vm₁, s.WarmedH vm₁ → Pre ⟨T.setVm vm₁, locs, cells, slots⟩ (Value.ref b :: argsL).toArray) :
    (∃ (v : Option Value) (vm₁ : Vm) (B : Pt), s.WarmedH vm₁ ∧ Stand p l e R s m args below meth c B.U B.locs B.cells B.slots ∧ Post ⟨T.setVm vm₁, locs, cells, slots⟩ (Value.ref b :: argsL).toArray v B ∧
      ∀ target, Steps p.tables e below (B.U.setTop { g with pc := g.pc + 3, stack := v.toList ++ rest }) target → Steps p.tables e below (T.setTop g) target) ∨
    (∃ (q : Addr) (vm₁ : Vm) (B : Pt), s.WarmedH vm₁ ∧ Stand p l e R s m args below meth c B.U B.locs B.cells B.slots ∧ PostX ⟨T.setVm vm₁, locs, cells, slots⟩ (Value.ref b :: argsL).toArray q B ∧
      Steps p.tables e below (T.setTop g) ((B.U.setTop { g with stack := rest }).pushFrame (.throwing q))) := by
  obtain ⟨mk, methM, hnamed, hmethM, hstM, habM⟩ := Cond.instanceMethod_spec hinst
  obtain ⟨methM', cM, hmethM', -, -, -, -, -, -, hsigM⟩ := Cond.code_spec hnamed hcode
  cases hmethM.symm.trans hmethM'
  obtain ⟨c2, r2, m2, q1, q2, q3, q4, kP, hkP, hkPi⟩ := Cond.selects_spec hsel
  cases hcls.symm.trans q1
  cases (State.methodFound?_of_named hnamed hy).symm.trans q2
  cases hnamed.symm.trans q3
  have hselP : selectMethod e.platform s.vm cellB.cls mk = .method mk := by rw [Launch.admits_selectMethod X.admits]; exact q4
  obtain ⟨vm₁, X₁, hstep₁⟩ := X.invokevirtualNest hexec hown hlink hnamed hmethM hstM hkP hkPi hy (a := b) (cell := cellB) hcell
    (fun z h => by rw [h] at hobj; cases hobj) hselP hmethM habM hkP hkPi (g := g) hg (argsL := argsL) (rest := rest) (hlen _ hsigM) hstack hdg
  rcases hK m meth c ⟨T.setVm vm₁, locs, cells, slots⟩ { g with stack := rest } (.invokevirtual index) mk (Value.ref b :: argsL).toArray X₁ hg hsize hdg hW (X₁.named hnamed) (hpre vm₁ X₁.warmed) with ⟨v, B, X', hpost, hsteps⟩ | ⟨q, B, X', hpost, hsteps⟩
  · exact Or.inl ⟨v, vm₁, B, X₁.warmed, X', hpost, fun target h => hstep₁ _ fun acts => by rw [doInvoke_state]; exact hsteps.trans h⟩
  · exact Or.inr ⟨q, vm₁, B, X₁.warmed, X', hpost, hstep₁ _ fun acts => by rw [doInvoke_state]; exact hsteps⟩
theorem vx_callSN (X : Stand p l e R s m args below meth c T locs cells slots) (hexec : p.tables.exec = Jvm.exec) {own : String} {index : Nat} {host : String} {y : MethodName} {bytes : ByteArray} {maxL : Nat} {ret : Option FieldType}
    (hown : s.vm.findClass own = some m.cls) (hlink : (Cond.methodLinkNest own index y host).before args s = true) (hstat : (Cond.static y).before args s = true) (hinit : (Cond.initialized y.cls).before args s = true)
    (hcode : (Cond.code y bytes maxL ret).before args s = true) (hy : y.cls ≠ "java/lang/invoke/MethodHandle" ∧ y.cls ≠ "java/lang/invoke/VarHandle")
    {W : Nat} {Pre : Pt → Array Value → Prop} {Post : Pt → Array Value → Option Value → Pt → Prop} {PostX : Pt → Array Value → Addr → Pt → Prop} (hK : vx_Back l R p e below s args y 3 W Pre Post PostX)
    {g : JFrame} (hg : g.method = m) (hsize : g.locals.size = c.maxLocals) {argsL rest : List Value} (hlen : ∀ sig, parseMethodDescriptor y.desc = some sig → argsL.length = sig.parameters.length)
    (hstack : g.stack = argsL.reverse ++ rest) (hW : 2 * g.monitorRoom + (rest.map fun v => v.category).sum ≤ W) (hdg : decode c.code g.pc = .ok (.invokestatic index, 3))
    (hpre : ∀ vm₁, s.WarmedH vm₁ → Pre ⟨T.setVm vm₁, locs, cells, slots⟩ argsL.toArray) :
    (∃ (v : Option Value) (vm₁ : Vm) (B : Pt), s.WarmedH vm₁ ∧ Stand p l e R s m args below meth c B.U B.locs B.cells B.slots ∧ Post ⟨T.setVm vm₁, locs, cells, slots⟩ argsL.toArray v B ∧
      ∀ target, Steps p.tables e below (B.U.setTop { g with pc := g.pc + 3, stack := v.toList ++ rest }) target → Steps p.tables e below (T.setTop g) target) ∨
    (∃ (q : Addr) (vm₁ : Vm) (B : Pt), s.WarmedH vm₁ ∧ Stand p l e R s m args below meth c B.U B.locs B.cells B.slots ∧ PostX ⟨T.setVm vm₁, locs, cells, slots⟩ argsL.toArray q B ∧
      Steps p.tables e below (T.setTop g) ((B.U.setTop { g with stack := rest }).pushFrame (.throwing q))) := by
  obtain ⟨mk, hnamed⟩ := Cond.code_named hcode
  obtain ⟨methM, cM, hmethM, -, -, -, -, -, -, hsigM⟩ := Cond.code_spec hnamed hcode
  have hstatic : methM.isStatic = true := Cond.static_spec hnamed hmethM hstat
  obtain ⟨kP, hkP, -⟩ := className_of_methodNamed hnamed
  have hinitP : kP.init = .initialized := Cond.initialized_spec (findClass_of_methodNamed hnamed) hkP hinit
  obtain ⟨vm₁, X₁, hstep₁⟩ := X.invokestaticNest hexec hown hlink hnamed hmethM hstatic hkP hinitP hy (g := g) hg (argsL := argsL) (rest := rest) (hlen _ hsigM) hstack hdg
  rcases hK m meth c ⟨T.setVm vm₁, locs, cells, slots⟩ { g with stack := rest } (.invokestatic index) mk argsL.toArray X₁ hg hsize hdg hW (X₁.named hnamed) (hpre vm₁ X₁.warmed) with ⟨v, B, X', hpost, hsteps⟩ | ⟨q, B, X', hpost, hsteps⟩
  · exact Or.inl ⟨v, vm₁, B, X₁.warmed, X', hpost, fun target h => hstep₁ _ fun acts => by rw [doInvoke_state]; exact hsteps.trans h⟩
  · exact Or.inr ⟨q, vm₁, B, X₁.warmed, X', hpost, hstep₁ _ fun acts => by rw [doInvoke_state]; exact hsteps⟩
theorem vx_runVN {y : MethodName} {bytes cc : ByteArray} {maxL nL mc ms n index : Nat} {ret : Option FieldType} {ws : List Cond} {rm : Room} {Pc : Array Value → State → Prop} {Qc : Array Value → State → Outcome → State → Prop} {XC : String → State → State → Prop} {free : Addr → Prop} {Ts : List Cond} {own C host : String} {b : Addr} {As rest : List Value} {g : JFrame}
    (S : CallFix p m c cc nL s args Ts own) (hM : vx_Met l y ws rm Pc Qc XC mc ms free) (cw : va_CN R s args own index y host bytes maxL ret ws rm mc ms n ∧ (Cond.instanceMethod y).before args s = true ∧ (Cond.selects C y y).before args s = true) (hp : PreV s H C b Pc As)
    (hg : g.method = m) (hn : As.length = n) (hsize : g.locals.size = nL) (hstack : g.stack = As.reverse ++ .ref b :: rest) (hW : 2 * g.monitorRoom + (rest.map fun v => v.category).sum ≤ 8) (hdg : decode cc g.pc = .ok (.invokevirtual index, 3)) (hf : cells + mc ≤ R.cells ∧ slots + ms ≤ R.slots) :
    vx_Run p l e R s m args below meth c H locs cells slots mc ms g rest (Qc (Value.ref b :: As).toArray) XC free := by
  obtain ⟨⟨⟨hrc, hrs, hfr, hlo, hws, hcw⟩, hcode, hini, hy, hlen, hl⟩, hx1, hx2⟩ := cw
  have hK : vx_Back l R p e below s args y 3 8 (PreOf R mc ms Pc) (PostOf Qc mc ms free) (vx_Post XC mc ms free) := vx_back (bytes := bytes) (maxL := maxL) (ret := ret) hM hp.1 hrc hrs hfr hlo hws hcw (fun a' U hW => word_at hW (Or.inl (by first | rfl | simp [Cond.onTables, Cond.keeps, Cond.steady])) hini)
  obtain ⟨hx, hb, hml, ho, -⟩ := S
  obtain ⟨-, ⟨cellB, hcB, hoB, hclB⟩, hPc⟩ := hp
  intro T hT X
  rcases vx_callVN X hx (C := C) (bytes := bytes) (maxL := maxL) (ret := ret) ho hl hx1 hx2 hcode hy hK (by rw [hT]; exact hcB) hoB hclB hg (hsize.trans hml.symm) (argsL := As) (rest := rest) (fun sig h => hn.trans (hlen sig h)) hstack hW (by rw [hb]; exact hdg)
    (fun vm₁ hW₁ => ⟨hf.1, hf.2, hPc (T.setVm vm₁) hT hW₁⟩) with ⟨v, vm₁, ⟨U', l2, c2, s2⟩, hW₁, X', ⟨g', mk, t, L, e1, e2, hq, h1, hL, h2, h3⟩, st⟩ | ⟨q, vm₁, ⟨U', l2, c2, s2⟩, hW₁, X', ⟨g', mk, t, L, E, ce, e1, e2, hq, hce, hcv, hcl, h1, hL, h2, h3⟩, st⟩
  · dsimp only [Pt.U, Pt.locs, Pt.cells, Pt.slots] at X' e1 e2 h1 h2 h3 st
    subst h1; subst h2; subst h3
    exact Or.inl ⟨v, (T.setVm vm₁).calling g' mk (Value.ref b :: As).toArray, t, U', L, hT, X', hL, e1, e2, hq, st⟩
  · dsimp only [Pt.U, Pt.locs, Pt.cells, Pt.slots] at X' e1 e2 h1 h2 h3 st hcl
    subst h1; subst h2; subst h3
    exact Or.inr ⟨q, (T.setVm vm₁).calling g' mk (Value.ref b :: As).toArray, t, U', L, E, ce, hT, X', hL, e1, e2, hq, hce, hcv, vx_cls hW₁ hcl, st⟩
theorem vx_runSN {y : MethodName} {bytes cc : ByteArray} {maxL nL mc ms n index : Nat} {ret : Option FieldType} {ws : List Cond} {rm : Room} {Pc : Array Value → State → Prop} {Qc : Array Value → State → Outcome → State → Prop} {XC : String → State → State → Prop} {free : Addr → Prop} {Ts : List Cond} {own host : String} {As rest : List Value} {g : JFrame}
    (S : CallFix p m c cc nL s args Ts own) (hM : vx_Met l y ws rm Pc Qc XC mc ms free) (cw : va_CN R s args own index y host bytes maxL ret ws rm mc ms n ∧ (Cond.static y).before args s = true ∧ True) (hp : PreS s H Pc As)
    (hg : g.method = m) (hn : As.length = n) (hsize : g.locals.size = nL) (hstack : g.stack = As.reverse ++ rest) (hW : 2 * g.monitorRoom + (rest.map fun v => v.category).sum ≤ 8) (hdg : decode cc g.pc = .ok (.invokestatic index, 3)) (hf : cells + mc ≤ R.cells ∧ slots + ms ≤ R.slots) :
    vx_Run p l e R s m args below meth c H locs cells slots mc ms g rest (Qc As.toArray) XC free := by
  obtain ⟨⟨⟨hrc, hrs, hfr, hlo, hws, hcw⟩, hcode, hini, hy, hlen, hl⟩, hx1, hx2⟩ := cw
  have hK : vx_Back l R p e below s args y 3 8 (PreOf R mc ms Pc) (PostOf Qc mc ms free) (vx_Post XC mc ms free) := vx_back (bytes := bytes) (maxL := maxL) (ret := ret) hM hp.1 hrc hrs hfr hlo hws hcw (fun a' U hW => word_at hW (Or.inl (by first | rfl | simp [Cond.onTables, Cond.keeps, Cond.steady])) hini)
  obtain ⟨hx, hb, hml, ho, -⟩ := S
  have hPc := hp.2
  intro T hT X
  rcases vx_callSN X hx (bytes := bytes) (maxL := maxL) (ret := ret) ho hl hx1 hini hcode hy hK hg (hsize.trans hml.symm) (argsL := As) (rest := rest) (fun sig h => hn.trans (hlen sig h)) hstack hW (by rw [hb]; exact hdg)
    (fun vm₁ hW₁ => ⟨hf.1, hf.2, hPc (T.setVm vm₁) hT hW₁⟩) with ⟨v, vm₁, ⟨U', l2, c2, s2⟩, hW₁, X', ⟨g', mk, t, L, e1, e2, hq, h1, hL, h2, h3⟩, st⟩ | ⟨q, vm₁, ⟨U', l2, c2, s2⟩, hW₁, X', ⟨g', mk, t, L, E, ce, e1, e2, hq, hce, hcv, hcl, h1, hL, h2, h3⟩, st⟩
  · dsimp only [Pt.U, Pt.locs, Pt.cells, Pt.slots] at X' e1 e2 h1 h2 h3 st
    subst h1; subst h2; subst h3
    exact Or.inl ⟨v, (T.setVm vm₁).calling g' mk As.toArray, t, U', L, hT, X', hL, e1, e2, hq, st⟩
  · dsimp only [Pt.U, Pt.locs, Pt.cells, Pt.slots] at X' e1 e2 h1 h2 h3 st hcl
    subst h1; subst h2; subst h3
    exact Or.inr ⟨q, (T.setVm vm₁).calling g' mk As.toArray, t, U', L, E, ce, hT, X', hL, e1, e2, hq, hce, hcv, vx_cls hW₁ hcl, st⟩
end
/-! ===== END ===== -/
/-! ===== BEGIN calls by an interface of methods that may throw (vx_callIF, vx_runF follow va_callIF, va_runF of this kit) ===== -/
section
variable {p : Program} {l : Launch} {e : Env} {R : Room} {s : State} {m : MethodId} {args : Array Value} {below : List Frame} {meth : Method} {c : Code} {H : Heap} {locs : List Loc} {cells slots : Nat} {Q : State → Prop}
variable {mc ms : Nat} {free : Addr → Prop} {A0 A1 : Nat → Prop} {H0 : Heap} {a : Array Value} {pc : Nat} {ls : Array Slot} {st0 rest : List Value}
def vx_Run5 (p : Program) (l : Launch) (e : Env) (R : Room) (s : State) (m : MethodId) (args : Array Value) (below : List Frame) (meth : Method) (c : Code) (H : Heap) (locs : List Loc) (cells slots mc ms : Nat) (g : JFrame) (rest : List Value) (Qa : State → Outcome → State → Prop) (XC : String → State → State → Prop) (free : Addr → Prop) : Prop :=
  ∀ T : State, T.heap = H → Stand p l e R s m args below meth c T locs cells slots →
    (∃ (v : Option Value) (st₀ t T' : State) (L : List Loc), st₀.heap = H ∧ Stand p l e R s m args below meth c T' (locs ++ L) (cells + mc) (slots + ms) ∧ (∀ q ∈ L, free q.base) ∧ T'.heap = t.heap ∧ T'.vm = t.vm ∧ Qa st₀ (.returned v) t ∧
      Goes p e below T g T' { g with pc := g.pc + 5, stack := v.toList ++ rest }) ∨
    (∃ (q : Addr) (st₀ t T' : State) (L : List Loc) (E : String) (ce : Cell), st₀.heap = H ∧ Stand p l e R s m args below meth c T' (locs ++ L) (cells + mc) (slots + ms) ∧ (∀ z ∈ L, free z.base) ∧ T'.heap = t.heap ∧ T'.vm = t.vm ∧ XC E st₀ t ∧ t.heap[q]? = some ce ∧ ce.vm = .none ∧ s.vm.findClass E = some ce.cls ∧
      Steps p.tables e below (T.setTop g) ((T'.setTop { g with stack := rest }).pushFrame (.throwing q)))
theorem vx_callIF {T : State} (X : Stand p l e R s m args below meth c T locs cells slots) (hexec : p.tables.exec = Jvm.exec) {own C : String} {index count : Nat} {x y : MethodName} {bytes : ByteArray} {maxL : Nat} {ret : Option FieldType}
    (hown : s.vm.findClass own = some m.cls) (hlink : (Cond.methodLink own index x).before args s = true) (hdecl : (Cond.declares x).before args s = true) (hface : (Cond.interfaceMethod x.cls x.cls x.name x.desc).before args s = true)
    (hsel : (Cond.selects C x y).before args s = true) (hinst : (Cond.instanceMethod y).before args s = true) (hpub : (Cond.publicMethod y).before args s = true) (hunh : (Cond.unhidden C x.name x.desc).before args s = true)
    (hcast : (Cond.castable C x.cls).before args s = true) (hcode : (Cond.code y bytes maxL ret).before args s = true) (hx : x.cls ≠ "java/lang/invoke/MethodHandle" ∧ x.cls ≠ "java/lang/invoke/VarHandle")
    {W9 : Nat} {Pre : Pt → Array Value → Prop} {Post : Pt → Array Value → Option Value → Pt → Prop} {PostX : Pt → Array Value → Addr → Pt → Prop} (hK : vx_Back l R p e below s args y 5 W9 Pre Post PostX)
    {b : Addr} {cellB : Cell} {kB : Class} (hcell : T.heap[b]? = some cellB) (hobj : cellB.vm.isStatics = false) (hcls : s.vm.findClass C = some cellB.cls) (hkB : s.vm.classes[cellB.cls]? = some kB)
    {g : JFrame} (hg : g.method = m) (hsize : g.locals.size = c.maxLocals) {argsL rest : List Value} (hlen : ∀ sig, parseMethodDescriptor x.desc = some sig → argsL.length = sig.parameters.length)
    (hstack : g.stack = argsL.reverse ++ .ref b :: rest) (hW : 2 * g.monitorRoom + (rest.map fun v => v.category).sum ≤ W9) (hdg : decode c.code g.pc = .ok (.invokeinterface index count, 5))
    (hpre : ∀ vm₁, s.WarmedH vm₁ → Pre ⟨T.setVm vm₁, locs, cells, slots⟩ (Value.ref b :: argsL).toArray) :
    (∃ (v : Option Value) (vm₁ : Vm) (B : Pt), s.WarmedH vm₁ ∧ Stand p l e R s m args below meth c B.U B.locs B.cells B.slots ∧ Post ⟨T.setVm vm₁, locs, cells, slots⟩ (Value.ref b :: argsL).toArray v B ∧
      ∀ target, Steps p.tables e below (B.U.setTop { g with pc := g.pc + 5, stack := v.toList ++ rest }) target → Steps p.tables e below (T.setTop g) target) ∨
    (∃ (q : Addr) (vm₁ : Vm) (B : Pt), s.WarmedH vm₁ ∧ Stand p l e R s m args below meth c B.U B.locs B.cells B.slots ∧ PostX ⟨T.setVm vm₁, locs, cells, slots⟩ (Value.ref b :: argsL).toArray q B ∧
      Steps p.tables e below (T.setTop g) ((B.U.setTop { g with stack := rest }).pushFrame (.throwing q))) := by
  obtain ⟨r0, r, hn, hrm, hstR, hsigR⟩ := Cond.declares_spec hdecl
  obtain ⟨cL, kL, r1, hcL, hkL, hiL, hfoundL, hn1⟩ := Cond.interfaceMethod_spec hface
  cases hn.symm.trans hn1
  have hr0cls : r0.cls = cL := Option.some.inj ((findClass_of_methodNamed hn).symm.trans hcL)
  obtain ⟨hnameR, hdescR⟩ := name_of_methodNamed hn hrm
  obtain ⟨mk, methM, hnamed, hmethM, -, habM⟩ := Cond.instanceMethod_spec hinst
  obtain ⟨c2, r2, m2, q1, q2, q3, q4, -⟩ := Cond.selects_spec hsel
  cases hcls.symm.trans q1
  cases hfoundL.symm.trans q2
  cases hnamed.symm.trans q3
  have hselP : selectMethod e.platform s.vm cellB.cls r0 = .method mk := by rw [Launch.admits_selectMethod X.admits]; exact q4
  have hpubM : hasFlag methM.accessFlags Acc.public_ = true := Cond.publicMethod_spec hnamed hmethM hpub
  have hway : ((cellB.cls :: s.vm.superclasses cellB.cls).any fun k => (declaredIn s.vm r.name r.desc k).any fun (_, z) => z.isPrivate || z.isStatic) = false := by
    rw [hnameR, hdescR]; exact Cond.unhidden_spec hcls hunh
  obtain ⟨c3, t3, w1, w2, w3⟩ := Cond.castable_spec hcast
  cases hcls.symm.trans w1
  cases hcL.symm.trans w2
  obtain ⟨vm₁, X₁, hstep₁⟩ := X.invokeinterface hexec hown hlink hn hrm hstR (by rw [hr0cls]; exact hkL) hiL hx (a := b) (cell := cellB) (kcell := kB) hcell
    (fun z h => by rw [h] at hobj; cases hobj) hkB (by rw [hr0cls]; exact w3) hselP hmethM hway hpubM habM (g := g) hg (argsL := argsL) (rest := rest) (hlen _ hsigR) hstack hdg
  rcases hK m meth c ⟨T.setVm vm₁, locs, cells, slots⟩ { g with stack := rest } (.invokeinterface index count) mk (Value.ref b :: argsL).toArray X₁ hg hsize hdg hW (X₁.named hnamed) (hpre vm₁ X₁.warmed) with ⟨v, B, X', hpost, hsteps⟩ | ⟨q, B, X', hpost, hsteps⟩
  · exact Or.inl ⟨v, vm₁, B, X₁.warmed, X', hpost, fun target h => hstep₁ _ fun acts => by rw [doInvoke_state]; exact hsteps.trans h⟩
  · exact Or.inr ⟨q, vm₁, B, X₁.warmed, X', hpost, hstep₁ _ fun acts => by rw [doInvoke_state]; exact hsteps⟩
theorem vx_runF {x y : MethodName} {bytes cc : ByteArray} {maxL nL mc ms n index count : Nat} {ret : Option FieldType} {ws : List Cond} {rm : Room} {Pc : Array Value → State → Prop} {Qc : Array Value → State → Outcome → State → Prop} {XC : String → State → State → Prop} {free : Addr → Prop} {Ts : List Cond} {own C : String} {cC : ClassId} {b : Addr} {As rest : List Value} {g : JFrame}
    (hat : ClassAt s C cC) (S : CallFix p m c cc nL s args Ts own) (hM : vx_Met l y ws rm Pc Qc XC mc ms free) (cw : va_CI R s args own C index x y bytes maxL ret ws rm mc ms n) (hp : PreV s H C b Pc As)
    (hg : g.method = m) (hn : As.length = n) (hsize : g.locals.size = nL) (hstack : g.stack = As.reverse ++ .ref b :: rest) (hW : 2 * g.monitorRoom + (rest.map fun v => v.category).sum ≤ 8) (hdg : decode cc g.pc = .ok (.invokeinterface index count, 5)) (hf : cells + mc ≤ R.cells ∧ slots + ms ≤ R.slots) :
    vx_Run5 p l e R s m args below meth c H locs cells slots mc ms g rest (Qc (Value.ref b :: As).toArray) XC free := by
  obtain ⟨hrc, hrs, hfr, hlo, hws, hcw⟩ := cw.back
  have hini := cw.init
  have hK : vx_Back l R p e below s args y 5 8 (PreOf R mc ms Pc) (PostOf Qc mc ms free) (vx_Post XC mc ms free) := vx_back (bytes := bytes) (maxL := maxL) (ret := ret) hM hp.1 hrc hrs hfr hlo hws hcw (fun a' U hW => word_at hW (Or.inl (by first | rfl | simp [Cond.onTables, Cond.keeps, Cond.steady])) hini)
  obtain ⟨hx, hb, hml, ho, -⟩ := S
  obtain ⟨-, ⟨cellB, hcB, hoB, hclB⟩, hPc⟩ := hp
  obtain ⟨hfc, kB, hkB, -⟩ := hat
  cases hfc.symm.trans hclB
  intro T hT X
  rcases vx_callIF X hx (C := C) (bytes := bytes) (maxL := maxL) (ret := ret) ho cw.link cw.decl cw.face cw.sel cw.inst cw.pub cw.unh cw.cast cw.code cw.notMH hK (by rw [hT]; exact hcB) hoB hclB hkB hg (hsize.trans hml.symm) (argsL := As) (rest := rest) (fun sig h => hn.trans (cw.len sig h)) hstack hW (by rw [hb]; exact hdg)
    (fun vm₁ hW₁ => ⟨hf.1, hf.2, hPc (T.setVm vm₁) hT hW₁⟩) with ⟨v, vm₁, ⟨U', l2, c2, s2⟩, hW₁, X', ⟨g', mk, t, L, e1, e2, hq, h1, hL, h2, h3⟩, st⟩ | ⟨q, vm₁, ⟨U', l2, c2, s2⟩, hW₁, X', ⟨g', mk, t, L, E, ce, e1, e2, hq, hce, hcv, hcl, h1, hL, h2, h3⟩, st⟩
  · dsimp only [Pt.U, Pt.locs, Pt.cells, Pt.slots] at X' e1 e2 h1 h2 h3 st
    subst h1; subst h2; subst h3
    exact Or.inl ⟨v, (T.setVm vm₁).calling g' mk (Value.ref b :: As).toArray, t, U', L, hT, X', hL, e1, e2, hq, st⟩
  · dsimp only [Pt.U, Pt.locs, Pt.cells, Pt.slots] at X' e1 e2 h1 h2 h3 st hcl
    subst h1; subst h2; subst h3
    exact Or.inr ⟨q, (T.setVm vm₁).calling g' mk (Value.ref b :: As).toArray, t, U', L, E, ce, hT, X', hL, e1, e2, hq, hce, hcv, vx_cls hW₁ hcl, st⟩
theorem vx_callFv {S SX : Type} {post : S → Prop} {px : SX → Prop} {B : S → State → Prop} {BX : String → SX → State → Prop} {AX : Nat → Prop} (hr : vx_Run5 p l e R s m args below meth c H locs cells slots mc ms (F0 m pc ls st0) rest (va_Qv post B A1 a) (vx_X px BX AX) free) (hS : va_S A0 H0 H locs) (hA : ∀ q, q < H.size → A1 q → A0 q) (hf : ∀ q, free q → A0 q) (hAX : ∀ q, q < H.size → AX q → A0 q)
    (kx : ∀ (E : String) (ce : Cell) (q9 : Addr) (u : SX) (t : State) (H1 : Heap) (locs1 : List Loc), t.heap = H1 → s.vm.Alike t.vm → px u → BX E u t → H.size ≤ H1.size → (∀ q : Nat, q < H.size → ¬ AX q → H1[q]? = H[q]?) → va_S A0 H0 H1 locs1 → H1[q9]? = some ce → ce.vm = .none → s.vm.findClass E = some ce.cls → vx_W p l e R s m args below meth c H1 locs1 (cells + mc) (slots + ms) Q (F0 m pc ls rest) q9)
    (kk : ∀ (u : S) (t : State) (H1 : Heap) (locs1 : List Loc), t.heap = H1 → s.vm.Alike t.vm → post u → B u t → H.size ≤ H1.size → (∀ q : Nat, q < H.size → ¬ A1 q → H1[q]? = H[q]?) → va_S A0 H0 H1 locs1 → W p l e R s m args below meth c H1 locs1 (cells + mc) (slots + ms) Q (F0 m (pc + 5) ls (rest))) : W p l e R s m args below meth c H locs cells slots Q (F0 m pc ls st0) := by
  intro T hT X
  rcases hr T hT X with ⟨v, st₀, t, T', L, h0, X', hL, e1, e2, ⟨⟨u, hv, hp, hb⟩, hF⟩, st⟩ | ⟨q, st₀, t, T', L, E, ce, h0, X', hL, e1, e2, ⟨u, hp, hb, hF⟩, hce, hcv, hcl, st⟩
  · cases hv
    obtain ⟨k1, k2, k3⟩ := vx_keep h0 e1 hS hA hf hL hF
    obtain ⟨t2, a1, b1⟩ := kk u t T'.heap (locs ++ L) e1.symm (by rw [← e2]; exact X'.warmed.alike) hp hb k1 k2 k3 T' rfl X'
    exact ⟨t2, st t2 a1, b1⟩
  · obtain ⟨k1, k2, k3⟩ := vx_keep h0 e1 hS hAX hf hL hF
    obtain ⟨t2, a1, b1⟩ := kx E ce q u t T'.heap (locs ++ L) e1.symm (by rw [← e2]; exact X'.warmed.alike) hp hb k1 k2 k3 (by rw [e1]; exact hce) hcv hcl T' rfl X'
    exact ⟨t2, st.trans a1, b1⟩
theorem vx_callFi {S SX : Type} {post : Int32 → S → Prop} {px : SX → Prop} {B : S → State → Prop} {BX : String → SX → State → Prop} {AX : Nat → Prop} (hr : vx_Run5 p l e R s m args below meth c H locs cells slots mc ms (F0 m pc ls st0) rest (va_Qi post B A1 a) (vx_X px BX AX) free) (hS : va_S A0 H0 H locs) (hA : ∀ q, q < H.size → A1 q → A0 q) (hf : ∀ q, free q → A0 q) (hAX : ∀ q, q < H.size → AX q → A0 q)
    (kx : ∀ (E : String) (ce : Cell) (q9 : Addr) (u : SX) (t : State) (H1 : Heap) (locs1 : List Loc), t.heap = H1 → s.vm.Alike t.vm → px u → BX E u t → H.size ≤ H1.size → (∀ q : Nat, q < H.size → ¬ AX q → H1[q]? = H[q]?) → va_S A0 H0 H1 locs1 → H1[q9]? = some ce → ce.vm = .none → s.vm.findClass E = some ce.cls → vx_W p l e R s m args below meth c H1 locs1 (cells + mc) (slots + ms) Q (F0 m pc ls rest) q9)
    (kk : ∀ (r : Int32) (u : S) (t : State) (H1 : Heap) (locs1 : List Loc), t.heap = H1 → s.vm.Alike t.vm → post r u → B u t → H.size ≤ H1.size → (∀ q : Nat, q < H.size → ¬ A1 q → H1[q]? = H[q]?) → va_S A0 H0 H1 locs1 → W p l e R s m args below meth c H1 locs1 (cells + mc) (slots + ms) Q (F0 m (pc + 5) ls (.int r :: rest))) : W p l e R s m args below meth c H locs cells slots Q (F0 m pc ls st0) := by
  intro T hT X
  rcases hr T hT X with ⟨v, st₀, t, T', L, h0, X', hL, e1, e2, ⟨⟨r, u, hv, hp, hb⟩, hF⟩, st⟩ | ⟨q, st₀, t, T', L, E, ce, h0, X', hL, e1, e2, ⟨u, hp, hb, hF⟩, hce, hcv, hcl, st⟩
  · cases hv
    obtain ⟨k1, k2, k3⟩ := vx_keep h0 e1 hS hA hf hL hF
    obtain ⟨t2, a1, b1⟩ := kk r u t T'.heap (locs ++ L) e1.symm (by rw [← e2]; exact X'.warmed.alike) hp hb k1 k2 k3 T' rfl X'
    exact ⟨t2, st t2 a1, b1⟩
  · obtain ⟨k1, k2, k3⟩ := vx_keep h0 e1 hS hAX hf hL hF
    obtain ⟨t2, a1, b1⟩ := kx E ce q u t T'.heap (locs ++ L) e1.symm (by rw [← e2]; exact X'.warmed.alike) hp hb k1 k2 k3 (by rw [e1]; exact hce) hcv hcl T' rfl X'
    exact ⟨t2, st.trans a1, b1⟩
theorem vx_callFl {S SX : Type} {post : Int64 → S → Prop} {px : SX → Prop} {B : S → State → Prop} {BX : String → SX → State → Prop} {AX : Nat → Prop} (hr : vx_Run5 p l e R s m args below meth c H locs cells slots mc ms (F0 m pc ls st0) rest (va_Ql post B A1 a) (vx_X px BX AX) free) (hS : va_S A0 H0 H locs) (hA : ∀ q, q < H.size → A1 q → A0 q) (hf : ∀ q, free q → A0 q) (hAX : ∀ q, q < H.size → AX q → A0 q)
    (kx : ∀ (E : String) (ce : Cell) (q9 : Addr) (u : SX) (t : State) (H1 : Heap) (locs1 : List Loc), t.heap = H1 → s.vm.Alike t.vm → px u → BX E u t → H.size ≤ H1.size → (∀ q : Nat, q < H.size → ¬ AX q → H1[q]? = H[q]?) → va_S A0 H0 H1 locs1 → H1[q9]? = some ce → ce.vm = .none → s.vm.findClass E = some ce.cls → vx_W p l e R s m args below meth c H1 locs1 (cells + mc) (slots + ms) Q (F0 m pc ls rest) q9)
    (kk : ∀ (r : Int64) (u : S) (t : State) (H1 : Heap) (locs1 : List Loc), t.heap = H1 → s.vm.Alike t.vm → post r u → B u t → H.size ≤ H1.size → (∀ q : Nat, q < H.size → ¬ A1 q → H1[q]? = H[q]?) → va_S A0 H0 H1 locs1 → W p l e R s m args below meth c H1 locs1 (cells + mc) (slots + ms) Q (F0 m (pc + 5) ls (.long r :: rest))) : W p l e R s m args below meth c H locs cells slots Q (F0 m pc ls st0) := by
  intro T hT X
  rcases hr T hT X with ⟨v, st₀, t, T', L, h0, X', hL, e1, e2, ⟨⟨r, u, hv, hp, hb⟩, hF⟩, st⟩ | ⟨q, st₀, t, T', L, E, ce, h0, X', hL, e1, e2, ⟨u, hp, hb, hF⟩, hce, hcv, hcl, st⟩
  · cases hv
    obtain ⟨k1, k2, k3⟩ := vx_keep h0 e1 hS hA hf hL hF
    obtain ⟨t2, a1, b1⟩ := kk r u t T'.heap (locs ++ L) e1.symm (by rw [← e2]; exact X'.warmed.alike) hp hb k1 k2 k3 T' rfl X'
    exact ⟨t2, st t2 a1, b1⟩
  · obtain ⟨k1, k2, k3⟩ := vx_keep h0 e1 hS hAX hf hL hF
    obtain ⟨t2, a1, b1⟩ := kx E ce q u t T'.heap (locs ++ L) e1.symm (by rw [← e2]; exact X'.warmed.alike) hp hb k1 k2 k3 (by rw [e1]; exact hce) hcv hcl T' rfl X'
    exact ⟨t2, st.trans a1, b1⟩
theorem vx_callFf {S SX : Type} {post : UInt32 → S → Prop} {px : SX → Prop} {B : S → State → Prop} {BX : String → SX → State → Prop} {AX : Nat → Prop} (hr : vx_Run5 p l e R s m args below meth c H locs cells slots mc ms (F0 m pc ls st0) rest (va_Qf post B A1 a) (vx_X px BX AX) free) (hS : va_S A0 H0 H locs) (hA : ∀ q, q < H.size → A1 q → A0 q) (hf : ∀ q, free q → A0 q) (hAX : ∀ q, q < H.size → AX q → A0 q)
    (kx : ∀ (E : String) (ce : Cell) (q9 : Addr) (u : SX) (t : State) (H1 : Heap) (locs1 : List Loc), t.heap = H1 → s.vm.Alike t.vm → px u → BX E u t → H.size ≤ H1.size → (∀ q : Nat, q < H.size → ¬ AX q → H1[q]? = H[q]?) → va_S A0 H0 H1 locs1 → H1[q9]? = some ce → ce.vm = .none → s.vm.findClass E = some ce.cls → vx_W p l e R s m args below meth c H1 locs1 (cells + mc) (slots + ms) Q (F0 m pc ls rest) q9)
    (kk : ∀ (r : UInt32) (u : S) (t : State) (H1 : Heap) (locs1 : List Loc), t.heap = H1 → s.vm.Alike t.vm → post r u → B u t → H.size ≤ H1.size → (∀ q : Nat, q < H.size → ¬ A1 q → H1[q]? = H[q]?) → va_S A0 H0 H1 locs1 → W p l e R s m args below meth c H1 locs1 (cells + mc) (slots + ms) Q (F0 m (pc + 5) ls (.float r :: rest))) : W p l e R s m args below meth c H locs cells slots Q (F0 m pc ls st0) := by
  intro T hT X
  rcases hr T hT X with ⟨v, st₀, t, T', L, h0, X', hL, e1, e2, ⟨⟨r, u, hv, hp, hb⟩, hF⟩, st⟩ | ⟨q, st₀, t, T', L, E, ce, h0, X', hL, e1, e2, ⟨u, hp, hb, hF⟩, hce, hcv, hcl, st⟩
  · cases hv
    obtain ⟨k1, k2, k3⟩ := vx_keep h0 e1 hS hA hf hL hF
    obtain ⟨t2, a1, b1⟩ := kk r u t T'.heap (locs ++ L) e1.symm (by rw [← e2]; exact X'.warmed.alike) hp hb k1 k2 k3 T' rfl X'
    exact ⟨t2, st t2 a1, b1⟩
  · obtain ⟨k1, k2, k3⟩ := vx_keep h0 e1 hS hAX hf hL hF
    obtain ⟨t2, a1, b1⟩ := kx E ce q u t T'.heap (locs ++ L) e1.symm (by rw [← e2]; exact X'.warmed.alike) hp hb k1 k2 k3 (by rw [e1]; exact hce) hcv hcl T' rfl X'
    exact ⟨t2, st.trans a1, b1⟩
theorem vx_callFd {S SX : Type} {post : UInt64 → S → Prop} {px : SX → Prop} {B : S → State → Prop} {BX : String → SX → State → Prop} {AX : Nat → Prop} (hr : vx_Run5 p l e R s m args below meth c H locs cells slots mc ms (F0 m pc ls st0) rest (va_Qd post B A1 a) (vx_X px BX AX) free) (hS : va_S A0 H0 H locs) (hA : ∀ q, q < H.size → A1 q → A0 q) (hf : ∀ q, free q → A0 q) (hAX : ∀ q, q < H.size → AX q → A0 q)
    (kx : ∀ (E : String) (ce : Cell) (q9 : Addr) (u : SX) (t : State) (H1 : Heap) (locs1 : List Loc), t.heap = H1 → s.vm.Alike t.vm → px u → BX E u t → H.size ≤ H1.size → (∀ q : Nat, q < H.size → ¬ AX q → H1[q]? = H[q]?) → va_S A0 H0 H1 locs1 → H1[q9]? = some ce → ce.vm = .none → s.vm.findClass E = some ce.cls → vx_W p l e R s m args below meth c H1 locs1 (cells + mc) (slots + ms) Q (F0 m pc ls rest) q9)
    (kk : ∀ (r : UInt64) (u : S) (t : State) (H1 : Heap) (locs1 : List Loc), t.heap = H1 → s.vm.Alike t.vm → post r u → B u t → H.size ≤ H1.size → (∀ q : Nat, q < H.size → ¬ A1 q → H1[q]? = H[q]?) → va_S A0 H0 H1 locs1 → W p l e R s m args below meth c H1 locs1 (cells + mc) (slots + ms) Q (F0 m (pc + 5) ls (.double r :: rest))) : W p l e R s m args below meth c H locs cells slots Q (F0 m pc ls st0) := by
  intro T hT X
  rcases hr T hT X with ⟨v, st₀, t, T', L, h0, X', hL, e1, e2, ⟨⟨r, u, hv, hp, hb⟩, hF⟩, st⟩ | ⟨q, st₀, t, T', L, E, ce, h0, X', hL, e1, e2, ⟨u, hp, hb, hF⟩, hce, hcv, hcl, st⟩
  · cases hv
    obtain ⟨k1, k2, k3⟩ := vx_keep h0 e1 hS hA hf hL hF
    obtain ⟨t2, a1, b1⟩ := kk r u t T'.heap (locs ++ L) e1.symm (by rw [← e2]; exact X'.warmed.alike) hp hb k1 k2 k3 T' rfl X'
    exact ⟨t2, st t2 a1, b1⟩
  · obtain ⟨k1, k2, k3⟩ := vx_keep h0 e1 hS hAX hf hL hF
    obtain ⟨t2, a1, b1⟩ := kx E ce q u t T'.heap (locs ++ L) e1.symm (by rw [← e2]; exact X'.warmed.alike) hp hb k1 k2 k3 (by rw [e1]; exact hce) hcv hcl T' rfl X'
    exact ⟨t2, st.trans a1, b1⟩
end
/-! ===== END ===== -/
/-! ===== BEGIN by an interface, a method with a table of its own that may throw (follows va_callIFW, va_runFW) ===== -/
section
variable {p : Program} {l : Launch} {e : Env} {R : Room} {s : State} {m : MethodId} {args : Array Value} {below : List Frame} {meth : Method} {c : Code} {H : Heap} {locs : List Loc} {cells slots : Nat}
theorem vx_callIFW {T : State} (X : Stand p l e R s m args below meth c T locs cells slots) (hexec : p.tables.exec = Jvm.exec) {own C : String} {index count : Nat} {x y : MethodName} {bytes : ByteArray} {maxL : Nat} {ret : Option FieldType} {hh : List (Nat × Nat × Nat × Nat)}
    (hown : s.vm.findClass own = some m.cls) (hlink : (Cond.methodLink own index x).before args s = true) (hdecl : (Cond.declares x).before args s = true) (hface : (Cond.interfaceMethod x.cls x.cls x.name x.desc).before args s = true)
    (hsel : (Cond.selects C x y).before args s = true) (hinst : (Cond.instanceMethod y).before args s = true) (hpub : (Cond.publicMethod y).before args s = true) (hunh : (Cond.unhidden C x.name x.desc).before args s = true)
    (hcast : (Cond.castable C x.cls).before args s = true) (hcode : (Cond.codeWith y bytes maxL ret hh).before args s = true) (hx : x.cls ≠ "java/lang/invoke/MethodHandle" ∧ x.cls ≠ "java/lang/invoke/VarHandle")
    {W : Nat} {Pre : Pt → Array Value → Prop} {Post : Pt → Array Value → Option Value → Pt → Prop} {PostX : Pt → Array Value → Addr → Pt → Prop} (hK : vx_Back l R p e below s args y 5 W Pre Post PostX)
    {b : Addr} {cellB : Cell} {kB : Class} (hcell : T.heap[b]? = some cellB) (hobj : cellB.vm.isStatics = false) (hcls : s.vm.findClass C = some cellB.cls) (hkB : s.vm.classes[cellB.cls]? = some kB)
    {g : JFrame} (hg : g.method = m) (hsize : g.locals.size = c.maxLocals) {argsL rest : List Value} (hlen : ∀ sig, parseMethodDescriptor x.desc = some sig → argsL.length = sig.parameters.length)
    (hstack : g.stack = argsL.reverse ++ .ref b :: rest) (hW : 2 * g.monitorRoom + (rest.map fun v => v.category).sum ≤ W) (hdg : decode c.code g.pc = .ok (.invokeinterface index count, 5))
    (hpre : ∀ vm₁, s.WarmedH vm₁ → Pre ⟨T.setVm vm₁, locs, cells, slots⟩ (Value.ref b :: argsL).toArray) :
    (∃ (v : Option Value) (vm₁ : Vm) (B : Pt), s.WarmedH vm₁ ∧ Stand p l e R s m args below meth c B.U B.locs B.cells B.slots ∧ Post ⟨T.setVm vm₁, locs, cells, slots⟩ (Value.ref b :: argsL).toArray v B ∧
      ∀ target, Steps p.tables e below (B.U.setTop { g with pc := g.pc + 5, stack := v.toList ++ rest }) target → Steps p.tables e below (T.setTop g) target) ∨
    (∃ (q : Addr) (vm₁ : Vm) (B : Pt), s.WarmedH vm₁ ∧ Stand p l e R s m args below meth c B.U B.locs B.cells B.slots ∧ PostX ⟨T.setVm vm₁, locs, cells, slots⟩ (Value.ref b :: argsL).toArray q B ∧
      Steps p.tables e below (T.setTop g) ((B.U.setTop { g with stack := rest }).pushFrame (.throwing q))) := by
  obtain ⟨r0, r, hn, hrm, hstR, hsigR⟩ := Cond.declares_spec hdecl
  obtain ⟨cL, kL, r1, hcL, hkL, hiL, hfoundL, hn1⟩ := Cond.interfaceMethod_spec hface
  cases hn.symm.trans hn1
  have hr0cls : r0.cls = cL := Option.some.inj ((findClass_of_methodNamed hn).symm.trans hcL)
  obtain ⟨hnameR, hdescR⟩ := name_of_methodNamed hn hrm
  obtain ⟨mk, methM, hnamed, hmethM, -, habM⟩ := Cond.instanceMethod_spec hinst
  obtain ⟨c2, r2, m2, q1, q2, q3, q4, -⟩ := Cond.selects_spec hsel
  cases hcls.symm.trans q1
  cases hfoundL.symm.trans q2
  cases hnamed.symm.trans q3
  have hselP : selectMethod e.platform s.vm cellB.cls r0 = .method mk := by rw [Launch.admits_selectMethod X.admits]; exact q4
  have hpubM : hasFlag methM.accessFlags Acc.public_ = true := Cond.publicMethod_spec hnamed hmethM hpub
  have hway : ((cellB.cls :: s.vm.superclasses cellB.cls).any fun k => (declaredIn s.vm r.name r.desc k).any fun (_, z) => z.isPrivate || z.isStatic) = false := by
    rw [hnameR, hdescR]; exact Cond.unhidden_spec hcls hunh
  obtain ⟨c3, t3, w1, w2, w3⟩ := Cond.castable_spec hcast
  cases hcls.symm.trans w1
  cases hcL.symm.trans w2
  obtain ⟨vm₁, X₁, hstep₁⟩ := X.invokeinterface hexec hown hlink hn hrm hstR (by rw [hr0cls]; exact hkL) hiL hx (a := b) (cell := cellB) (kcell := kB) hcell
    (fun z h => by rw [h] at hobj; cases hobj) hkB (by rw [hr0cls]; exact w3) hselP hmethM hway hpubM habM (g := g) hg (argsL := argsL) (rest := rest) (hlen _ hsigR) hstack hdg
  rcases hK m meth c ⟨T.setVm vm₁, locs, cells, slots⟩ { g with stack := rest } (.invokeinterface index count) mk (Value.ref b :: argsL).toArray X₁ hg hsize hdg hW (X₁.named hnamed) (hpre vm₁ X₁.warmed) with ⟨v, B, X', hpost, hsteps⟩ | ⟨q, B, X', hpost, hsteps⟩
  · exact Or.inl ⟨v, vm₁, B, X₁.warmed, X', hpost, fun target h => hstep₁ _ fun acts => by rw [doInvoke_state]; exact hsteps.trans h⟩
  · exact Or.inr ⟨q, vm₁, B, X₁.warmed, X', hpost, hstep₁ _ fun acts => by rw [doInvoke_state]; exact hsteps⟩
theorem vx_runFW {x y : MethodName} {bytes cc : ByteArray} {maxL nL mc ms n index count : Nat} {ret : Option FieldType} {hh : List (Nat × Nat × Nat × Nat)} {ws : List Cond} {rm : Room} {Pc : Array Value → State → Prop} {Qc : Array Value → State → Outcome → State → Prop} {XC : String → State → State → Prop} {free : Addr → Prop} {Ts : List Cond} {own C : String} {cC : ClassId} {b : Addr} {As rest : List Value} {g : JFrame}
    (hat : ClassAt s C cC) (S : CallFix p m c cc nL s args Ts own) (hM : vx_Met l y ws rm Pc Qc XC mc ms free) (cw : va_CIW R s args own C index x y bytes maxL ret hh ws rm mc ms n) (hp : PreV s H C b Pc As)
    (hg : g.method = m) (hn : As.length = n) (hsize : g.locals.size = nL) (hstack : g.stack = As.reverse ++ .ref b :: rest) (hW : 2 * g.monitorRoom + (rest.map fun v => v.category).sum ≤ 8) (hdg : decode cc g.pc = .ok (.invokeinterface index count, 5)) (hf : cells + mc ≤ R.cells ∧ slots + ms ≤ R.slots) :
    vx_Run5 p l e R s m args below meth c H locs cells slots mc ms g rest (Qc (Value.ref b :: As).toArray) XC free := by
  obtain ⟨hrc, hrs, hfr, hlo, hws, hcw⟩ := cw.back
  have hini := cw.init
  have hK : vx_Back l R p e below s args y 5 8 (PreOf R mc ms Pc) (PostOf Qc mc ms free) (vx_Post XC mc ms free) := vx_backW (hh := hh) (bytes := bytes) (maxL := maxL) (ret := ret) hM hp.1 hrc hrs hfr hlo hws hcw (fun a' U hW => word_at hW (Or.inl (by first | rfl | simp [Cond.onTables, Cond.keeps, Cond.steady])) hini)
  obtain ⟨hx, hb, hml, ho, -⟩ := S
  obtain ⟨-, ⟨cellB, hcB, hoB, hclB⟩, hPc⟩ := hp
  obtain ⟨hfc, kB, hkB, -⟩ := hat
  cases hfc.symm.trans hclB
  intro T hT X
  rcases vx_callIFW X hx (C := C) (hh := hh) (bytes := bytes) (maxL := maxL) (ret := ret) ho cw.link cw.decl cw.face cw.sel cw.inst cw.pub cw.unh cw.cast cw.code cw.notMH hK (by rw [hT]; exact hcB) hoB hclB hkB hg (hsize.trans hml.symm) (argsL := As) (rest := rest) (fun sig h => hn.trans (cw.len sig h)) hstack hW (by rw [hb]; exact hdg)
    (fun vm₁ hW₁ => ⟨hf.1, hf.2, hPc (T.setVm vm₁) hT hW₁⟩) with ⟨v, vm₁, ⟨U', l2, c2, s2⟩, hW₁, X', ⟨g', mk, t, L, e1, e2, hq, h1, hL, h2, h3⟩, st⟩ | ⟨q, vm₁, ⟨U', l2, c2, s2⟩, hW₁, X', ⟨g', mk, t, L, E, ce, e1, e2, hq, hce, hcv, hcl, h1, hL, h2, h3⟩, st⟩
  · dsimp only [Pt.U, Pt.locs, Pt.cells, Pt.slots] at X' e1 e2 h1 h2 h3 st
    subst h1; subst h2; subst h3
    exact Or.inl ⟨v, (T.setVm vm₁).calling g' mk (Value.ref b :: As).toArray, t, U', L, hT, X', hL, e1, e2, hq, st⟩
  · dsimp only [Pt.U, Pt.locs, Pt.cells, Pt.slots] at X' e1 e2 h1 h2 h3 st hcl
    subst h1; subst h2; subst h3
    exact Or.inr ⟨q, (T.setVm vm₁).calling g' mk (Value.ref b :: As).toArray, t, U', L, E, ce, hT, X', hL, e1, e2, hq, hce, hcv, vx_cls hW₁ hcl, st⟩
end
/-! ===== END ===== -/
/-! ===== BEGIN .. of methods that hand back an object of the pool ===== -/
section
variable {p : Program} {l : Launch} {e : Env} {R : Room} {s : State} {m : MethodId} {args : Array Value} {below : List Frame} {meth : Method} {c : Code} {H : Heap} {locs : List Loc} {cells slots : Nat} {Q : State → Prop}
variable {mc ms : Nat} {free : Addr → Prop} {A0 A1 : Nat → Prop} {H0 : Heap} {a : Array Value} {pc : Nat} {ls : Array Slot} {st0 rest : List Value}
theorem vx_callq {S SX : Type} {post : Option Nat → S → Prop} {px : SX → Prop} {B : S → State → Prop} {BX : String → SX → State → Prop} {AX : Nat → Prop} (hr : vx_Run p l e R s m args below meth c H locs cells slots mc ms (F0 m pc ls st0) rest (va_Qq post B A1 a) (vx_X px BX AX) free) (hS : va_S A0 H0 H locs) (hA : ∀ q, q < H.size → A1 q → A0 q) (hf : ∀ q, free q → A0 q) (hAX : ∀ q, q < H.size → AX q → A0 q)
    (kx : ∀ (E : String) (ce : Cell) (q9 : Addr) (u : SX) (t : State) (H1 : Heap) (locs1 : List Loc), t.heap = H1 → s.vm.Alike t.vm → px u → BX E u t → H.size ≤ H1.size → (∀ q : Nat, q < H.size → ¬ AX q → H1[q]? = H[q]?) → va_S A0 H0 H1 locs1 → H1[q9]? = some ce → ce.vm = .none → s.vm.findClass E = some ce.cls → vx_W p l e R s m args below meth c H1 locs1 (cells + mc) (slots + ms) Q (F0 m pc ls rest) q9)
    (kk : ∀ (r : Option Nat) (u : S) (t : State) (H1 : Heap) (locs1 : List Loc), t.heap = H1 → s.vm.Alike t.vm → post r u → B u t → H.size ≤ H1.size → (∀ q : Nat, q < H.size → ¬ A1 q → H1[q]? = H[q]?) → va_S A0 H0 H1 locs1 → W p l e R s m args below meth c H1 locs1 (cells + mc) (slots + ms) Q (F0 m (pc + 3) ls (va_rf r :: rest))) : W p l e R s m args below meth c H locs cells slots Q (F0 m pc ls st0) := by
  intro T hT X
  rcases hr T hT X with ⟨v, st₀, t, T', L, h0, X', hL, e1, e2, ⟨⟨r, u, hv, hp, hb⟩, hF⟩, st⟩ | ⟨q, st₀, t, T', L, E, ce, h0, X', hL, e1, e2, ⟨u, hp, hb, hF⟩, hce, hcv, hcl, st⟩
  · cases hv
    obtain ⟨k1, k2, k3⟩ := vx_keep h0 e1 hS hA hf hL hF
    obtain ⟨t2, a1, b1⟩ := kk r u t T'.heap (locs ++ L) e1.symm (by rw [← e2]; exact X'.warmed.alike) hp hb k1 k2 k3 T' rfl X'
    exact ⟨t2, st t2 a1, b1⟩
  · obtain ⟨k1, k2, k3⟩ := vx_keep h0 e1 hS hAX hf hL hF
    obtain ⟨t2, a1, b1⟩ := kx E ce q u t T'.heap (locs ++ L) e1.symm (by rw [← e2]; exact X'.warmed.alike) hp hb k1 k2 k3 (by rw [e1]; exact hce) hcv hcl T' rfl X'
    exact ⟨t2, st.trans a1, b1⟩
end
/-! ===== END ===== -/
/-! ===== BEGIN .. a constant ===== -/
section
variable {p : Program} {l : Launch} {e : Env} {R : Room} {s : State} {m : MethodId} {args : Array Value} {below : List Frame} {meth : Method} {c : Code} {H : Heap} {locs : List Loc} {cells slots : Nat} {Q : State → Prop}
variable {mc ms : Nat} {free : Addr → Prop} {A0 A1 : Nat → Prop} {H0 : Heap} {a : Array Value} {pc : Nat} {ls : Array Slot} {st0 rest : List Value}
theorem vx_calle {ad : Nat → Nat} {S SX : Type} {post : Option Nat → S → Prop} {px : SX → Prop} {B : S → State → Prop} {BX : String → SX → State → Prop} {AX : Nat → Prop} (hr : vx_Run p l e R s m args below meth c H locs cells slots mc ms (F0 m pc ls st0) rest (va_Qe ad post B A1 a) (vx_X px BX AX) free) (hS : va_S A0 H0 H locs) (hA : ∀ q, q < H.size → A1 q → A0 q) (hf : ∀ q, free q → A0 q) (hAX : ∀ q, q < H.size → AX q → A0 q)
    (kx : ∀ (E : String) (ce : Cell) (q9 : Addr) (u : SX) (t : State) (H1 : Heap) (locs1 : List Loc), t.heap = H1 → s.vm.Alike t.vm → px u → BX E u t → H.size ≤ H1.size → (∀ q : Nat, q < H.size → ¬ AX q → H1[q]? = H[q]?) → va_S A0 H0 H1 locs1 → H1[q9]? = some ce → ce.vm = .none → s.vm.findClass E = some ce.cls → vx_W p l e R s m args below meth c H1 locs1 (cells + mc) (slots + ms) Q (F0 m pc ls rest) q9)
    (kk : ∀ (r : Option Nat) (u : S) (t : State) (H1 : Heap) (locs1 : List Loc), t.heap = H1 → s.vm.Alike t.vm → post r u → B u t → H.size ≤ H1.size → (∀ q : Nat, q < H.size → ¬ A1 q → H1[q]? = H[q]?) → va_S A0 H0 H1 locs1 → W p l e R s m args below meth c H1 locs1 (cells + mc) (slots + ms) Q (F0 m (pc + 3) ls (va_re ad r :: rest))) : W p l e R s m args below meth c H locs cells slots Q (F0 m pc ls st0) := by
  intro T hT X
  rcases hr T hT X with ⟨v, st₀, t, T', L, h0, X', hL, e1, e2, ⟨⟨r, u, hv, hp, hb⟩, hF⟩, st⟩ | ⟨q, st₀, t, T', L, E, ce, h0, X', hL, e1, e2, ⟨u, hp, hb, hF⟩, hce, hcv, hcl, st⟩
  · cases hv
    obtain ⟨k1, k2, k3⟩ := vx_keep h0 e1 hS hA hf hL hF
    obtain ⟨t2, a1, b1⟩ := kk r u t T'.heap (locs ++ L) e1.symm (by rw [← e2]; exact X'.warmed.alike) hp hb k1 k2 k3 T' rfl X'
    exact ⟨t2, st t2 a1, b1⟩
  · obtain ⟨k1, k2, k3⟩ := vx_keep h0 e1 hS hAX hf hL hF
    obtain ⟨t2, a1, b1⟩ := kx E ce q u t T'.heap (locs ++ L) e1.symm (by rw [← e2]; exact X'.warmed.alike) hp hb k1 k2 k3 (by rw [e1]; exact hce) hcv hcl T' rfl X'
    exact ⟨t2, st.trans a1, b1⟩
end
/-! ===== END ===== -/
/-! ===== BEGIN .. by an interface, an object ===== -/
section
variable {p : Program} {l : Launch} {e : Env} {R : Room} {s : State} {m : MethodId} {args : Array Value} {below : List Frame} {meth : Method} {c : Code} {H : Heap} {locs : List Loc} {cells slots : Nat} {Q : State → Prop}
variable {mc ms : Nat} {free : Addr → Prop} {A0 A1 : Nat → Prop} {H0 : Heap} {a : Array Value} {pc : Nat} {ls : Array Slot} {st0 rest : List Value}
theorem vx_callFq {S SX : Type} {post : Option Nat → S → Prop} {px : SX → Prop} {B : S → State → Prop} {BX : String → SX → State → Prop} {AX : Nat → Prop} (hr : vx_Run5 p l e R s m args below meth c H locs cells slots mc ms (F0 m pc ls st0) rest (va_Qq post B A1 a) (vx_X px BX AX) free) (hS : va_S A0 H0 H locs) (hA : ∀ q, q < H.size → A1 q → A0 q) (hf : ∀ q, free q → A0 q) (hAX : ∀ q, q < H.size → AX q → A0 q)
    (kx : ∀ (E : String) (ce : Cell) (q9 : Addr) (u : SX) (t : State) (H1 : Heap) (locs1 : List Loc), t.heap = H1 → s.vm.Alike t.vm → px u → BX E u t → H.size ≤ H1.size → (∀ q : Nat, q < H.size → ¬ AX q → H1[q]? = H[q]?) → va_S A0 H0 H1 locs1 → H1[q9]? = some ce → ce.vm = .none → s.vm.findClass E = some ce.cls → vx_W p l e R s m args below meth c H1 locs1 (cells + mc) (slots + ms) Q (F0 m pc ls rest) q9)
    (kk : ∀ (r : Option Nat) (u : S) (t : State) (H1 : Heap) (locs1 : List Loc), t.heap = H1 → s.vm.Alike t.vm → post r u → B u t → H.size ≤ H1.size → (∀ q : Nat, q < H.size → ¬ A1 q → H1[q]? = H[q]?) → va_S A0 H0 H1 locs1 → W p l e R s m args below meth c H1 locs1 (cells + mc) (slots + ms) Q (F0 m (pc + 5) ls (va_rf r :: rest))) : W p l e R s m args below meth c H locs cells slots Q (F0 m pc ls st0) := by
  intro T hT X
  rcases hr T hT X with ⟨v, st₀, t, T', L, h0, X', hL, e1, e2, ⟨⟨r, u, hv, hp, hb⟩, hF⟩, st⟩ | ⟨q, st₀, t, T', L, E, ce, h0, X', hL, e1, e2, ⟨u, hp, hb, hF⟩, hce, hcv, hcl, st⟩
  · cases hv
    obtain ⟨k1, k2, k3⟩ := vx_keep h0 e1 hS hA hf hL hF
    obtain ⟨t2, a1, b1⟩ := kk r u t T'.heap (locs ++ L) e1.symm (by rw [← e2]; exact X'.warmed.alike) hp hb k1 k2 k3 T' rfl X'
    exact ⟨t2, st t2 a1, b1⟩
  · obtain ⟨k1, k2, k3⟩ := vx_keep h0 e1 hS hAX hf hL hF
    obtain ⟨t2, a1, b1⟩ := kx E ce q u t T'.heap (locs ++ L) e1.symm (by rw [← e2]; exact X'.warmed.alike) hp hb k1 k2 k3 (by rw [e1]; exact hce) hcv hcl T' rfl X'
    exact ⟨t2, st.trans a1, b1⟩
end
/-! ===== END ===== -/
/-! ===== BEGIN .. by an interface, a constant ===== -/
section
variable {p : Program} {l : Launch} {e : Env} {R : Room} {s : State} {m : MethodId} {args : Array Value} {below : List Frame} {meth : Method} {c : Code} {H : Heap} {locs : List Loc} {cells slots : Nat} {Q : State → Prop}
variable {mc ms : Nat} {free : Addr → Prop} {A0 A1 : Nat → Prop} {H0 : Heap} {a : Array Value} {pc : Nat} {ls : Array Slot} {st0 rest : List Value}
theorem vx_callFe {ad : Nat → Nat} {S SX : Type} {post : Option Nat → S → Prop} {px : SX → Prop} {B : S → State → Prop} {BX : String → SX → State → Prop} {AX : Nat → Prop} (hr : vx_Run5 p l e R s m args below meth c H locs cells slots mc ms (F0 m pc ls st0) rest (va_Qe ad post B A1 a) (vx_X px BX AX) free) (hS : va_S A0 H0 H locs) (hA : ∀ q, q < H.size → A1 q → A0 q) (hf : ∀ q, free q → A0 q) (hAX : ∀ q, q < H.size → AX q → A0 q)
    (kx : ∀ (E : String) (ce : Cell) (q9 : Addr) (u : SX) (t : State) (H1 : Heap) (locs1 : List Loc), t.heap = H1 → s.vm.Alike t.vm → px u → BX E u t → H.size ≤ H1.size → (∀ q : Nat, q < H.size → ¬ AX q → H1[q]? = H[q]?) → va_S A0 H0 H1 locs1 → H1[q9]? = some ce → ce.vm = .none → s.vm.findClass E = some ce.cls → vx_W p l e R s m args below meth c H1 locs1 (cells + mc) (slots + ms) Q (F0 m pc ls rest) q9)
    (kk : ∀ (r : Option Nat) (u : S) (t : State) (H1 : Heap) (locs1 : List Loc), t.heap = H1 → s.vm.Alike t.vm → post r u → B u t → H.size ≤ H1.size → (∀ q : Nat, q < H.size → ¬ A1 q → H1[q]? = H[q]?) → va_S A0 H0 H1 locs1 → W p l e R s m args below meth c H1 locs1 (cells + mc) (slots + ms) Q (F0 m (pc + 5) ls (va_re ad r :: rest))) : W p l e R s m args below meth c H locs cells slots Q (F0 m pc ls st0) := by
  intro T hT X
  rcases hr T hT X with ⟨v, st₀, t, T', L, h0, X', hL, e1, e2, ⟨⟨r, u, hv, hp, hb⟩, hF⟩, st⟩ | ⟨q, st₀, t, T', L, E, ce, h0, X', hL, e1, e2, ⟨u, hp, hb, hF⟩, hce, hcv, hcl, st⟩
  · cases hv
    obtain ⟨k1, k2, k3⟩ := vx_keep h0 e1 hS hA hf hL hF
    obtain ⟨t2, a1, b1⟩ := kk r u t T'.heap (locs ++ L) e1.symm (by rw [← e2]; exact X'.warmed.alike) hp hb k1 k2 k3 T' rfl X'
    exact ⟨t2, st t2 a1, b1⟩
  · obtain ⟨k1, k2, k3⟩ := vx_keep h0 e1 hS hAX hf hL hF
    obtain ⟨t2, a1, b1⟩ := kx E ce q u t T'.heap (locs ++ L) e1.symm (by rw [← e2]; exact X'.warmed.alike) hp hb k1 k2 k3 (by rw [e1]; exact hce) hcv hcl T' rfl X'
    exact ⟨t2, st.trans a1, b1⟩
end
/-! ===== END ===== -/
/-! ===== BEGIN what the machine throws by itself: null at a field, at athrow ===== -/
section VXM2
variable {p : Program} {l : Launch} {e : Env} {R : Room} {s : State} {m : MethodId} {args : Array Value} {below : List Frame} {meth : Method} {c : Code} {H : Heap} {locs : List Loc} {cells slots : Nat}
variable {Q : State → Prop} {cc : ByteArray} {pc : Nat} {ls : Array Slot} {rest : List Value}
theorem vx_getfN {D cl tys} {own ref C : String} {T : u_T} {N ci index : Nat} {Ts : List Cond} (hexec : p.tables.exec = Jvm.exec) (hb : c.code = cc) (hts : ∀ w ∈ Ts, w.before args s = true) (hin : ∀ w ∈ u_ws C T N, w ∈ Ts) (hown : s.vm.findClass own = some m.cls) (hK : va_K D cl tys s) (hc : cl[ci]? = some (C, T, N)) (k : Nat) (hk : k < N) (hlink : (Cond.fieldLink own index ref (T k).2.1 (T k).2.2.1).before args s = true) (hsame : ∀ x, s.fieldFound? (T k).1 (T k).2.1 (T k).2.2.1 = some x → s.fieldFound? ref (T k).2.1 (T k).2.2.1 = some x) (hdg : decode cc pc = .ok (.getfield index, 3)) (kk : vx_NoteN p l e R s m args below meth c H locs cells slots Q (F0 m pc ls rest)) : W p l e R s m args below meth c H locs cells slots Q (F0 m pc ls (.null :: rest)) := by
  obtain ⟨hS, hfc, kC, hkC, -⟩ := hK.1 ci _ hc
  obtain ⟨cf, kf, fi, f, hi, -⟩ := hS k hk
  intro U hU X
  obtain ⟨vm', X1, st1⟩ := X.getfieldNull hexec hown hlink (hsame _ hi) (u_facts hfc hkC (u_lays hts hin hk) hi).1 (g := F0 m pc ls (.null :: rest)) rfl (rest := rest) rfl (by rw [hb]; exact hdg)
  obtain ⟨t, st, q⟩ := kk (U.setVm vm') hU X1
  exact ⟨t, st1 t st, q⟩
theorem vx_getfNN {D cl tys} {own ref C host : String} {T : u_T} {N ci index : Nat} {Ts : List Cond} (hexec : p.tables.exec = Jvm.exec) (hb : c.code = cc) (hts : ∀ w ∈ Ts, w.before args s = true) (hin : ∀ w ∈ u_ws C T N, w ∈ Ts) (hown : s.vm.findClass own = some m.cls) (hK : va_K D cl tys s) (hc : cl[ci]? = some (C, T, N)) (k : Nat) (hk : k < N) (hlink : (Cond.fieldLinkNest own index ref (T k).2.1 (T k).2.2.1 host).before args s = true) (hsame : ∀ x, s.fieldFound? (T k).1 (T k).2.1 (T k).2.2.1 = some x → s.fieldFound? ref (T k).2.1 (T k).2.2.1 = some x) (hdg : decode cc pc = .ok (.getfield index, 3)) (kk : vx_NoteN p l e R s m args below meth c H locs cells slots Q (F0 m pc ls rest)) : W p l e R s m args below meth c H locs cells slots Q (F0 m pc ls (.null :: rest)) := by
  obtain ⟨hS, hfc, kC, hkC, -⟩ := hK.1 ci _ hc
  obtain ⟨cf, kf, fi, f, hi, -⟩ := hS k hk
  intro U hU X
  obtain ⟨vm', X1, st1⟩ := X.getfieldNullNest hexec hown hlink (hsame _ hi) (u_facts hfc hkC (u_lays hts hin hk) hi).1 (g := F0 m pc ls (.null :: rest)) rfl (rest := rest) rfl (by rw [hb]; exact hdg)
  obtain ⟨t, st, q⟩ := kk (U.setVm vm') hU X1
  exact ⟨t, st1 t st, q⟩
theorem vx_putfN {D cl tys} {own ref C : String} {T : u_T} {N ci index : Nat} {Ts : List Cond} (hexec : p.tables.exec = Jvm.exec) (hb : c.code = cc) (hts : ∀ w ∈ Ts, w.before args s = true) (hin : ∀ w ∈ u_ws C T N, w ∈ Ts) (hown : s.vm.findClass own = some m.cls) (hK : va_K D cl tys s) (hc : cl[ci]? = some (C, T, N)) (k : Nat) (hk : k < N) (hlink : (Cond.fieldLink own index ref (T k).2.1 (T k).2.2.1).before args s = true) (hsame : ∀ x, s.fieldFound? (T k).1 (T k).2.1 (T k).2.2.1 = some x → s.fieldFound? ref (T k).2.1 (T k).2.2.1 = some x) (hfin : (T k).2.2.2 = false) {v : Value} (hdg : decode cc pc = .ok (.putfield index, 3)) (kk : vx_NoteN p l e R s m args below meth c H locs cells slots Q (F0 m pc ls rest)) : W p l e R s m args below meth c H locs cells slots Q (F0 m pc ls (v :: .null :: rest)) := by
  obtain ⟨hS, hfc, kC, hkC, -⟩ := hK.1 ci _ hc
  obtain ⟨cf, kf, fi, f, hi, -⟩ := hS k hk
  have hlay := hts _ (hin _ (u_in_lay hk))
  unfold u_lay at hlay
  rw [if_neg (by rw [hfin]; decide)] at hlay
  obtain ⟨c9, k9, cf9, kf9, fi9, f9, -, -, hi9, hst9, hnf9, -⟩ := Cond.lays_spec hlay
  cases hi.symm.trans hi9
  intro U hU X
  obtain ⟨vm', X1, st1⟩ := X.putfieldNull hexec hown hlink (hsame _ hi) hst9 hnf9 (g := F0 m pc ls (v :: .null :: rest)) rfl (v := v) (rest := rest) rfl (by rw [hb]; exact hdg)
  obtain ⟨t, st, q⟩ := kk (U.setVm vm') hU X1
  exact ⟨t, st1 t st, q⟩
theorem vx_putfNN {D cl tys} {own ref C host : String} {T : u_T} {N ci index : Nat} {Ts : List Cond} (hexec : p.tables.exec = Jvm.exec) (hb : c.code = cc) (hts : ∀ w ∈ Ts, w.before args s = true) (hin : ∀ w ∈ u_ws C T N, w ∈ Ts) (hown : s.vm.findClass own = some m.cls) (hK : va_K D cl tys s) (hc : cl[ci]? = some (C, T, N)) (k : Nat) (hk : k < N) (hlink : (Cond.fieldLinkNest own index ref (T k).2.1 (T k).2.2.1 host).before args s = true) (hsame : ∀ x, s.fieldFound? (T k).1 (T k).2.1 (T k).2.2.1 = some x → s.fieldFound? ref (T k).2.1 (T k).2.2.1 = some x) (hfin : (T k).2.2.2 = false) {v : Value} (hdg : decode cc pc = .ok (.putfield index, 3)) (kk : vx_NoteN p l e R s m args below meth c H locs cells slots Q (F0 m pc ls rest)) : W p l e R s m args below meth c H locs cells slots Q (F0 m pc ls (v :: .null :: rest)) := by
  obtain ⟨hS, hfc, kC, hkC, -⟩ := hK.1 ci _ hc
  obtain ⟨cf, kf, fi, f, hi, -⟩ := hS k hk
  have hlay := hts _ (hin _ (u_in_lay hk))
  unfold u_lay at hlay
  rw [if_neg (by rw [hfin]; decide)] at hlay
  obtain ⟨c9, k9, cf9, kf9, fi9, f9, -, -, hi9, hst9, hnf9, -⟩ := Cond.lays_spec hlay
  cases hi.symm.trans hi9
  intro U hU X
  obtain ⟨vm', X1, st1⟩ := X.putfieldNullNest hexec hown hlink (hsame _ hi) hst9 hnf9 (g := F0 m pc ls (v :: .null :: rest)) rfl (v := v) (rest := rest) rfl (by rw [hb]; exact hdg)
  obtain ⟨t, st, q⟩ := kk (U.setVm vm') hU X1
  exact ⟨t, st1 t st, q⟩
theorem vx_athrowN (hexec : p.tables.exec = Jvm.exec) (hb : c.code = cc) (hdg : decode cc pc = .ok (.athrow, 1)) (k : vx_NoteN p l e R s m args below meth c H locs cells slots Q (F0 m pc ls rest)) : W p l e R s m args below meth c H locs cells slots Q (F0 m pc ls (.null :: rest)) := by
  intro T hT X
  obtain ⟨t, st, q⟩ := k T hT X
  exact ⟨t, X.athrowNull hexec (g := F0 m pc ls (.null :: rest)) rfl (rest := rest) rfl (by rw [hb]; exact hdg) t st, q⟩
end VXM2
/-! ===== END ===== -/
end
section
/-! the kit's constructor of an exception (its start EXCEPTIONS.to-paste), turned -/
section VXK9
variable {p : Program} {l : Launch} {e : Env} {R : Room} {s : State} {m₀ : MethodId} {args : Array Value} {below : List Frame} {meth : Method} {c : Code} {W : State} {locs : List Loc} {cells slots : Nat}
set_option maxHeartbeats 1000000 in
theorem ctorMadeT (X : Stand p l e R s m₀ args below meth c W locs cells slots) (hexec : p.tables.exec = Jvm.exec) (htr : e.platform.stackTraces = false) {own cls : String} {names : List String} {ic : Nat}
    (hown : s.vm.findClass own = some m₀.cls) (hcls : Bundle.fit cls = true) (hnames : ∀ n ∈ names, Bundle.fit n = true)
    (h : ∀ a ∈ Bundle.ownAtoms own ic cls names, a.before args s = true)
    (hlocs : ∀ x ∈ locs, ∀ cell, s.heap[x.base]? = some cell → cell.vm.isStatics = false)
    {a : Addr} {cX : ClassId} {kX : Class} (hfoundX : s.vm.findClass cls = some cX) (hkX : s.vm.classes[cX]? = some kX) (hcell : W.heap[a]? = some (freshCell cX kX)) (hnew : ∀ cell, s.heap[a]? = some cell → cell.vm.isStatics = false)
    {msg : Value} (hmsg : msg.isRef = true)
    {g : JFrame} (hg : g.method = m₀) (hsize : g.locals.size = c.maxLocals) {rest : List Value} (hstack : g.stack = msg :: .ref a :: .ref a :: rest)
    (hd6 : decode c.code g.pc = .ok (.invokespecial ic, 3))
    (hRframes : names.length + 3 < R.frames) (hRlocals : 2 * g.monitorRoom + ((Value.ref a :: rest).map fun v => v.category).sum + (13 * (names.length + 1) + 42) ≤ R.locals) :
    ∃ (V : State) (ce : Cell) (L : List Loc), Stand p l e R s m₀ args below meth c (V.setCell a ce) (locs ++ L) cells slots ∧ (∀ y ∈ L, y.base = a) ∧ a < V.heap.size ∧ ce.cls = cX ∧ ce.vm = .none ∧
      ∀ target, Steps p.tables e below ((V.setCell a ce).setTop { g with stack := .ref a :: rest, pc := g.pc + 3 }) target → Steps p.tables e below (W.setTop g) target := by
  have howns : e.platform.frameOwnsMonitors = true := by rw [X.admits.platform]
  have hfin : e.platform.finalization = false := by rw [X.admits.platform]
  have hpl : e.platform.magicAccessors = ({} : Platform).magicAccessors := by rw [X.admits.platform]
  have a' : ∀ x, x ∈ Bundle.ownAtoms own ic cls names → x.holds args s none s [] = true := fun x hx => h x hx
  obtain ⟨T, Z0, L, -, Y⟩ := ThrowableC.of_atoms (args := args) howns hfin hpl (fun x hx => h x (by simp [Bundle.ownAtoms, hx]))
  obtain ⟨Z, M, LZ, LM, hnZ⟩ := Init0T.ofS_atoms (args := args) hpl L Y (fun x hx => h x (by simp [Bundle.ownAtoms, hx]))
  obtain ⟨P1, Ps, hlen, L1, hL, hP1m, hlink1, hlink⟩ := Bundle.chainS (args := args) hpl hnZ names cls hcls hnames (fun x hx => h x (by simp [Bundle.ownAtoms, hx]))
  have hfound : s.vm.findClass cls = some P1.m.cls := findClass_of_methodNamed hP1m
  cases Option.some.inj (hfoundX.symm.trans hfound)
  obtain ⟨c1, kX', hc1, hk, hord, -, -, hn6⟩ := Cond.instantiable_spec (a' (.instantiable cls 6) (by simp [Bundle.ownAtoms]))
  cases Option.some.inj (hc1.symm.trans hfound)
  cases Option.some.inj (hkX.symm.trans hk)
  have hsel0 : selectMethod e.platform s.vm P1.m.cls T.fill0 = .method T.fill0 := by
    obtain ⟨c2, r2, m2, q1, q2, q3, q4, -⟩ := Cond.selects_spec (a' (.selects cls Bundle.tFill0 Bundle.tFill0) (by simp [Bundle.ownAtoms]))
    cases Option.some.inj (q1.symm.trans hfound)
    cases Option.some.inj (q2.symm.trans (State.methodFound?_of_named Y.fill0 (by decide)))
    cases Option.some.inj (q3.symm.trans Y.fill0)
    rw [Launch.admits_selectMethod X.admits]; exact q4
  have hselF : selectMethod e.platform s.vm P1.m.cls T.fill = .method T.fill := by
    obtain ⟨c2, r2, m2, q1, q2, q3, q4, -⟩ := Cond.selects_spec (a' (.selects cls Bundle.tFill Bundle.tFill) (by simp [Bundle.ownAtoms]))
    cases Option.some.inj (q1.symm.trans hfound)
    cases Option.some.inj (q2.symm.trans (State.methodFound?_of_named Y.fill (by decide)))
    cases Option.some.inj (q3.symm.trans Y.fill)
    rw [Launch.admits_selectMethod X.admits]; exact q4
  obtain ⟨cellS0, hcS0, hiss⟩ := Y.statics
  obtain ⟨u0, hu0⟩ := Cond.staticRefV Y.unassigned L.unassignedStatic L.statics hcS0 hiss (a' (.isRef (.static Bundle.tN "UNASSIGNED_STACK" Bundle.steD)) (by simp [Bundle.ownAtoms]))
  obtain ⟨sen, hsen⟩ := Cond.staticRefV Y.sentinel L.sentinelStatic L.statics hcS0 hiss (a' (.isRef (.static Bundle.tN "SUPPRESSED_SENTINEL" Bundle.listD)) (by simp [Bundle.ownAtoms]))
  obtain ⟨ci198, i198, fB, hk198, hg198, ha198, hsB, -, hnB, htB, hffB⟩ := Cond.ownField (t := .object "java/lang/Object") Y.found L.cls (by decide +kernel) (a' (.fieldLink Bundle.tN 198 Bundle.tN "backtrace" "Ljava/lang/Object;") (by simp [Bundle.ownAtoms])) (a' (.lays Bundle.tN Bundle.tN "backtrace" "Ljava/lang/Object;") (by simp [Bundle.ownAtoms])) e.platform hpl
  obtain ⟨cellS, hcS', heS, -, hkeep⟩ := X.same.2.2.2.2.2 T.aS cellS0 hcS0
  have hcellS : W.heap[T.aS]? = some cellS := hcS'
  have hout' : ∀ i, (⟨T.aS, i⟩ : Loc) ∉ locs := fun i hmem => by
    have := hlocs _ hmem cellS0 hcS0
    rw [hiss] at this; cases this
  have hknownS : cellS.vm ≠ .unknown := by
    rw [heS]; intro hu
    rw [show cellS0.vm = .unknown from hu] at hiss
    cases hiss
  have hneS : T.aS ≠ a := fun e9 => by have h9 := hnew cellS0 (by rw [← e9]; exact hcS0); rw [hiss] at h9; cases h9
  obtain ⟨iM, hffM⟩ := Y.msg
  obtain ⟨tyC, dC, hdC, hdnC⟩ := Cond.laysAt hfound hk Y.cause (a' (.lays cls Bundle.tN "cause" "Ljava/lang/Throwable;") (by simp [Bundle.ownAtoms]))
  obtain ⟨tyS, dS, hdS, hdnS⟩ := Cond.laysAt hfound hk Y.stack (a' (.lays cls Bundle.tN "stackTrace" Bundle.steD) (by simp [Bundle.ownAtoms]))
  obtain ⟨tyP, dP, hdP, hdnP⟩ := Cond.laysAt hfound hk Y.supp (a' (.lays cls Bundle.tN "suppressedExceptions" Bundle.listD) (by simp [Bundle.ownAtoms]))
  obtain ⟨tyM, dM, hdM, hdnM⟩ := Cond.laysAt hfound hk hffM (a' (.lays cls Bundle.tN "detailMessage" "Ljava/lang/String;") (by simp [Bundle.ownAtoms]))
  obtain ⟨tyB, dB, hdB, hdnB⟩ := Cond.laysAt hfound hk hffB (a' (.lays cls Bundle.tN "backtrace" "Ljava/lang/Object;") (by simp [Bundle.ownAtoms]))
  have bC := Cond.laysApart hdB hdC hdnB hdnC (by rw [hnB, Y.causeName]; decide)
  have bS := Cond.laysApart hdB hdS hdnB hdnS (by rw [hnB, Y.stackName]; decide)
  have bP := Cond.laysApart hdB hdP hdnB hdnP (by rw [hnB, Y.suppName]; decide)
  have hskip : SkipFacts T e.platform s (fun u => u) u0 ((preparedCellV T.toThrowableT (freshCell P1.m.cls kX) a u0 sen).withEntry W.cur) :=
    ⟨{ ci198 := ci198, i198 := i198, fBack := fB }, ⟨hk198, hg198, ha198, hsB⟩, by
      have := fresh_default (c := P1.m.cls) tyB
      rw [htB] at this
      simpa [preparedCellV, Cell.setSlot, Cell.withEntry, Array.getElem?_setIfInBounds, bC, bS, bP, bC.symm, bS.symm, bP.symm, defaultValue] using this, fun _ _ => rfl⟩
  obtain ⟨tm, methC, cdC, kC, vm₁, hnC, -, -, -, -, -, -, -, hW₁, st1⟩ := Steps.initColdS (tb := p.tables) (e := e) (below := below) (s := s) (U := W) X.here hexec X.warmed hpl hown (t := Bundle.initS cls) rfl rfl (Bundle.fit_spec hcls).2
    (a' (.methodLink own ic (Bundle.initS cls)) (by simp [Bundle.ownAtoms])) (h (.instanceMethod (Bundle.initS cls)) (by cases names <;> simp [Bundle.ownAtoms, Bundle.chainSAtoms, Bundle.passSAtoms])) (bytes := Bundle.six) (maxL := 2) (h (.code (Bundle.initS cls) Bundle.six 2 none) (by cases names <;> simp [Bundle.ownAtoms, Bundle.chainSAtoms, Bundle.passSAtoms]))
    (f := g) hg (a := a) (msg := msg) (rest := .ref a :: rest) hstack hd6
  cases Option.some.inj (hnC.symm.trans hP1m)
  have X₁ := X.noted hW₁
  obtain ⟨vm₂, X₂, st2⟩ := X₁.ctorMessageOffV hexec (g := { g with stack := .ref a :: rest }) hg hsize T L Z LZ M LM (P1 :: Ps)
    (fun P hP => by rcases List.mem_cons.mp hP with rfl | hP; exact L1; exact hL P hP) ⟨hlink1, hlink⟩ (u0 := u0) (sen := sen) (self := a) hmsg (cell := freshCell P1.m.cls kX) (cellS := cellS)
    hcell (fun _ => by simp) (by simp) rfl rfl hsel0 hselF hcellS hneS hknownS (by rw [hkeep _ (hout' _)]; exact hu0) (by rw [hkeep _ (hout' _)]; exact hsen)
    (Takes.of_laid hk hord tyC (by rw [Y.causeType]; rfl)) (Takes.of_laid hk hord tyS (by rw [Y.stackType]; exact fits_refV_array _ u0)) (Takes.of_laid hk hord tyP (by rw [Y.suppType]; exact fits_refV_object _ sen))
    (Takes.of_laid hk hord tyM (by rw [Y.msgType]; exact fits_refV_object _ ⟨msg, hmsg⟩)) Y.objLocals hskip htr [] hd6
    (by simp only [List.length_cons, hlen]; omega) (by simp only [List.length_cons, hlen]; exact hRlocals)
  have hlt : a < ((W.setVm vm₁).setVm vm₂).heap.size := (Array.getElem?_eq_some_iff.mp hcell).1
  refine ⟨(W.setVm vm₁).setVm vm₂, _, _, X₂, fun y hy => ?_, hlt, rfl, rfl, fun target hwalk => st1 _ (fun acts => ?_)⟩
  · simp only [List.mem_cons, List.not_mem_nil, or_false] at hy
    rcases hy with rfl | rfl | rfl | rfl | rfl <;> rfl
  · rw [doInvoke_state]
    exact st2 _ hwalk
end VXK9
end
section
/-! BASE 2: the world of a pure heap, J, Sim, rows on numbers, locals, branches -/
def gN (t : Nat) : Nat := ((gCl[t]?).map (fun q => q.2.2)).getD 0
def gRefT (ty : FieldType) : Bool := match ty with
  | .object _ => true
  | .array _ => true
  | _ => false
def gRef (t k : Nat) : Bool := ((gTy[t]?).map (fun f => gRefT (f k))).getD false
/-- tags: below 100 objects of gCl; 100 int[], 101 boolean[], 102 byte[], 103 long[], from 110 on arrays of references; 1000 more: old cells, never written -/
def gAT : List (Nat × FieldType) := [(100, .int), (101, .boolean), (102, .byte), (103, .long), (110, .object "java/lang/Object"), (111, .object "Weaveword$Page"), (112, .object "Weaveword$Stored"), (113, .object "Weaveword$Translation"), (114, .object "Weaveword$Content"), (115, .object "java/lang/Integer")]
def gTys (G : GT) : List (ClassId × FieldType) := gAT.map (fun q => (gA G q.1, q.2))
def fV (t : Nat) (f : Nat → Int) (r : Nat → Option Nat) (k : Nat) : Value := if gRef t k = true then va_rf (r k) else .int (Int32.ofInt (f k))
def cE (G : GT) (c : PC4) : va_E :=
  if c.1 % 1000 < 100 then .inr (c.1 % 1000, (List.range (gN (c.1 % 1000))).map (fV (c.1 % 1000) c.2.2.1 c.2.2.2))
  else if c.1 % 1000 = 103 then .inl (gA G (c.1 % 1000), (c.2.1, .inr (.inl (fun j => Int64.ofInt (c.2.2.1 j)))))
  else if c.1 % 1000 < 110 then .inl (gA G (c.1 % 1000), (c.2.1, .inl (fun j => Int32.ofInt (c.2.2.1 j))))
  else .inl (gA G (c.1 % 1000), (c.2.1, .inr (.inr (.inr (.inr c.2.2.2)))))
def cAt (G : GT) (a : Nat) (c : PC4) (H : Heap) : Prop := va_at (gD G) gCl (a, cE G c) H
/-- a fresh object of an exception's class: tags from 2000 on; never written -/
def Fr (G : GT) (U : State) (a : Nat) (H : Heap) : Prop := gB G ≤ a ∧ ∃ (cX : ClassId) (kX : Class), U.vm.classes[cX]? = some kX ∧ H[a]? = some (freshCell cX kX)
theorem Fr.moved {G : GT} {u U : State} {a : Nat} {H : Heap} (hvm : u.vm.Alike U.vm) (h : Fr G u a H) : Fr G U a H := by
  obtain ⟨h0, cX, kX, h1, h2⟩ := h
  obtain ⟨k', hk', he⟩ := hvm.2.2 _ _ h1
  refine ⟨h0, cX, k', hk', ?_⟩
  rw [he]
  exact h2
theorem Fr.kept {G : GT} {U : State} {a : Nat} {H H1 : Heap} (h : Fr G U a H) (e : H1[a]? = H[a]?) : Fr G U a H1 := by
  obtain ⟨h0, cX, kX, h1, h2⟩ := h
  exact ⟨h0, cX, kX, h1, e.trans h2⟩
/-- what is said of statics -/
def Wz (G : GT) (U : State) (H : Heap) : Prop := (∀ z ∈ gZ G, va_Z z.1 z.2.1 z.2.2.1 z.2.2.2 (gAA G) U H) ∧ vx_Zq Bundle.tN "UNASSIGNED_STACK" Bundle.steD (gAA G) U H ∧ vx_Zq Bundle.tN "SUPPRESSED_SENTINEL" Bundle.listD (gAA G) U H
theorem Wz.moved {G : GT} {u U : State} {H : Heap} (hvm : u.vm.Alike U.vm) (h : Wz G u H) : Wz G U H := ⟨fun z hz => (h.1 z hz).moved hvm, h.2.1.moved hvm, h.2.2.moved hvm⟩
theorem Wz.kept {G : GT} {U : State} {H H1 : Heap} (h : Wz G U H) (hq : ∀ q : Nat, q < H.size → ¬ gAA G q → H1[q]? = H[q]?) : Wz G U H1 := ⟨fun z hz => (h.1 z hz).kept hq, h.2.1.kept hq, h.2.2.kept hq⟩
def World (G : GT) (U : State) (B : BH) (H : Heap) : Prop :=
  H.size = B.2.1 ∧ tot H = B.2.2 ∧ (∀ (a : Nat) (c : PC4), B.1 a = some c → cAt G a c H ∧ (c.1 < 1000 → gB G ≤ a) ∧ c.2.1 < 2147483648) ∧ (gB G ≤ B.2.1 ∧ B.2.1 ≤ gLC G ∧ B.2.2 ≤ gLS G) ∧ Wz G U H ∧ ∀ (a : Nat) (c : PC4), B.1 a = some c → 2000 ≤ c.1 → Fr G U a H
def GOK (G : GT) (U : State) : Prop := va_K (gD G) gCl (gTys G) U ∧ (∀ w ∈ gNw, va_Nw w U) ∧ (∀ f ∈ gFw, va_Fw f.1 f.2.1 f.2.2 U) ∧ (∀ C ∈ gAO, va_AO C U) ∧ (gL G).flags = flags0 ∧ va_Mi "[Ljava/lang/Object;" (gA G 200) U ∧ ∀ (i : Nat) (q : String × Nat × String), gStr[i]? = some q → vk_R q.1 q.2.1 q.2.2 (gA G (300 + i)) U
theorem World.moved {G : GT} {u U : State} {B : BH} {H : Heap} (hvm : u.vm.Alike U.vm) (h : World G u B H) : World G U B H := ⟨h.1, h.2.1, h.2.2.1, h.2.2.2.1, h.2.2.2.2.1.moved hvm, fun a c h1 h2 => (h.2.2.2.2.2 a c h1 h2).moved hvm⟩
def CX (G : GT) (M : MI) (B0 : BH) (p : Program) (s : State) (m : MethodId) (args : Array Value) (meth : Method) (c : Code) : Prop :=
  p.tables.exec = Jvm.exec ∧ c.code = M.2.1 ∧ meth.sig.returnType = M.2.2.2.1 ∧ meth.locks = false ∧ c.maxLocals = M.2.2.1 ∧ s.vm.findClass M.1.cls = some m.cls ∧ (∀ w ∈ lw_all, w.before args s = true) ∧ GOK G s ∧ gB G ≤ s.heap.size ∧ s.heap.size = B0.2.1 ∧ tot s.heap = B0.2.2 ∧ meth.name = M.1.name ∧ c.exceptionTable.toList = tableOf M.2.2.2.2.1
def rmOf (G : GT) (M : MI) (B0 : BH) : Room := { frames := M.2.2.2.2.2.1, cells := gLC G - B0.2.1, slots := gLS G - B0.2.2, locals := M.2.2.2.2.2.2 }
def rvO (r : Rv) : Option Value := if r.1 = 0 then none else if r.1 = 1 then some (iv r.2.1) else some (va_rf r.2.2)
def xN (k : Nat) : String := if k = 10 then "java/lang/IndexOutOfBoundsException" else if k = 11 then "java/lang/IllegalArgumentException" else "java/lang/IllegalStateException"
def Qof (G : GT) (r : Rv × BH) : Array Value → State → Outcome → State → Prop := fun _ st o t => (r.1.1 < 10 ∧ o = .returned (rvO r.1) ∧ World G t r.2 t.heap) ∧ va_F (gAA G) st t
def Xof (G : GT) (r : Rv × BH) : String → State → State → Prop := fun E st t => (10 ≤ r.1.1 ∧ E = xN r.1.1 ∧ World G t r.2 t.heap) ∧ va_F (gAA G) st t
def Fin9 (G : GT) (B0 : BH) (r : Rv × BH) (below : List Frame) (args : Array Value) (s : State) : State → Prop := vx_MQ below (Qof G r) (Xof G r) args s (gLC G - B0.2.1) (gLS G - B0.2.2) (gAA G)
def J (G : GT) (M : MI) (B0 : BH) (r : Rv × BH) (pc : Nat) (L : LL) (st : List Value) (B : BH) : Prop :=
  ∀ (p : Program) (e : Env) (s : State) (m : MethodId) (args : Array Value) (below : List Frame) (meth : Method) (c : Code), CX G M B0 p s m args meth c → ∀ (H : Heap) (locs : List Loc) (ls : Array Slot), World G s B H → va_S (gAA G) s.heap H locs → LV ls M.2.2.1 L →
    W p (gL G) e (rmOf G M B0) s m args below meth c H locs (B.2.1 - B0.2.1) (B.2.2 - B0.2.2) (Fin9 G B0 r below args s) (F0 m pc ls st)
def Sim {ρ : Type} (G : GT) (M : MI) (B0 : BH) (o : ρ → Rv × BH) (x : Option ρ) (pc : Nat) (L : LL) (st : List Value) (B : BH) : Prop := ∀ r, x = some r → J G M B0 (o r) pc L st B
/-! pure combinators -/
def ck {ρ : Type} (c : Prop) [Decidable c] (x : Option ρ) : Option ρ := if c then x else none
theorem ck_t {ρ : Type} {c : Prop} [Decidable c] {x : Option ρ} (h : c) : ck c x = x := if_pos h
theorem ck_some {ρ : Type} {c : Prop} [Decidable c] {x : Option ρ} {r : ρ} (h : ck c x = some r) : c ∧ x = some r := by
  unfold ck at h
  split at h
  · exact ⟨by assumption, h⟩
  · cases h
def nm {α ρ : Type} (e : α) (k : α → ρ) : ρ := k e
section ROWS
variable {ρ : Type} {G : GT} {M : MI} {B0 : BH} {o : ρ → Rv × BH} {x y : Option ρ} {pc : Nat} {L : LL} {st : List Value} {B : BH}
theorem Sim.none : Sim G M B0 o (none : Option ρ) pc L st B := fun r h => by cases h
theorem Sim.lsub {L' : LL} (h : Sim G M B0 o x pc L' st B) (hs : lsub L L') : Sim G M B0 o x pc L st B :=
  fun r hr p e s m args below meth c C H locs ls hW hS hL => h r hr p e s m args below meth c C H locs ls hW hS (hL.sub hs)
theorem Sim.nmi {a : Int} {k : Int → Option ρ} (h : ∀ v : Int, Sim G M B0 o (k v) pc L (iv v :: st) B) : Sim G M B0 o (nm a k) pc L (iv a :: st) B := h a
theorem Sim.nmr {a : Option Nat} {k : Option Nat → Option ρ} (h : ∀ v : Option Nat, Sim G M B0 o (k v) pc L (va_rf v :: st) B) : Sim G M B0 o (nm a k) pc L (va_rf a :: st) B := h a
theorem Sim.nmB {k : BH → Option ρ} (h : ∀ B : BH, Sim G M B0 o (k B) pc L st B) : Sim G M B0 o (nm B k) pc L st B := h B
/-- a step that touches neither world nor locals -/
theorem Sim.step {pc' : Nat} {st' : List Value} (h : ∀ {p : Program} {e : Env} {R : Room} {s : State} {m : MethodId} {args : Array Value} {below : List Frame} {meth : Method} {c : Code} {H : Heap} {locs : List Loc} {ls : Array Slot} {k n : Nat} {Q : State → Prop}, CX G M B0 p s m args meth c → W p (gL G) e R s m args below meth c H locs k n Q (F0 m pc' ls st') → W p (gL G) e R s m args below meth c H locs k n Q (F0 m pc ls st)) (kk : Sim G M B0 o x pc' L st' B) : Sim G M B0 o x pc L st B :=
  fun r hr p e s m args below meth c C H locs ls hW hS hL => h C (kk r hr p e s m args below meth c C H locs ls hW hS hL)
theorem s_iconst {n : Int} (d : decode M.2.1 pc = .ok (.iconst n, 1)) (kk : Sim G M B0 o x (pc + 1) L (iv n :: st) B) : Sim G M B0 o x pc L st B := kk.step fun C h => lv_iconst C.1 C.2.1 d rfl h
theorem s_bipush {n v : Int} (d : decode M.2.1 pc = .ok (.bipush n, 2)) (hv : (Int8.ofInt n).toInt32 = Int32.ofInt v) (kk : Sim G M B0 o x (pc + 2) L (iv v :: st) B) : Sim G M B0 o x pc L st B := kk.step fun C h => lv_bipush C.1 C.2.1 d hv h
theorem s_sipush {n v : Int} (d : decode M.2.1 pc = .ok (.sipush n, 3)) (hv : (Int16.ofInt n).toInt32 = Int32.ofInt v) (kk : Sim G M B0 o x (pc + 3) L (iv v :: st) B) : Sim G M B0 o x pc L st B := kk.step fun C h => lv_sipush C.1 C.2.1 d hv h
theorem s_ldc {i : Nat} {v : Int} {w : Int32} (q : Cond.constant M.1.cls i w ∈ lw_all) (hw : w = Int32.ofInt v) (d : decode M.2.1 pc = .ok (.ldc i, 2)) (kk : Sim G M B0 o x (pc + 2) L (iv v :: st) B) : Sim G M B0 o x pc L st B := kk.step fun C h => lv_ldc C.1 C.2.1 C.2.2.2.2.2.1 (C.2.2.2.2.2.2.1 _ q) d (by subst hw; exact h)
theorem s_null (d : decode M.2.1 pc = .ok (.aconst_null, 1)) (kk : Sim G M B0 o x (pc + 1) L (va_rf none :: st) B) : Sim G M B0 o x pc L st B := kk.step fun C h => lv_null C.1 C.2.1 d h
theorem s_iadd {a b : Int} (d : decode M.2.1 pc = .ok (.iadd, 1)) (kk : Sim G M B0 o x (pc + 1) L (iv (a + b) :: st) B) : Sim G M B0 o x pc L (iv b :: iv a :: st) B := kk.step fun C h => lv_iadd C.1 C.2.1 d (by rw [← Int32.ofInt_add]; exact h)
theorem s_isub {a b : Int} (d : decode M.2.1 pc = .ok (.isub, 1)) (kk : Sim G M B0 o x (pc + 1) L (iv (a - b) :: st) B) : Sim G M B0 o x pc L (iv b :: iv a :: st) B := kk.step fun C h => lv_isub C.1 C.2.1 d (by rw [← Int32.ofInt_sub]; exact h)
theorem s_imul {a b : Int} (d : decode M.2.1 pc = .ok (.imul, 1)) (kk : Sim G M B0 o x (pc + 1) L (iv (a * b) :: st) B) : Sim G M B0 o x pc L (iv b :: iv a :: st) B := kk.step fun C h => lv_imul C.1 C.2.1 d (by rw [← Int32.ofInt_mul]; exact h)
theorem s_ineg {a : Int} (d : decode M.2.1 pc = .ok (.ineg, 1)) (kk : Sim G M B0 o x (pc + 1) L (iv (-a) :: st) B) : Sim G M B0 o x pc L (iv a :: st) B := kk.step fun C h => lv_ineg C.1 C.2.1 d (by rw [← Int32.ofInt_neg]; exact h)
/-- an int by way of Int32 -/
def bAnd (a b : Int) : Int := (Int32.ofInt a &&& Int32.ofInt b).toInt
def bOr (a b : Int) : Int := (Int32.ofInt a ||| Int32.ofInt b).toInt
def bXor (a b : Int) : Int := (Int32.ofInt a ^^^ Int32.ofInt b).toInt
def bShl (a b : Int) : Int := (Int32.ofInt a <<< (Int32.ofInt b &&& 31)).toInt
def bShr (a b : Int) : Int := (Int32.ofInt a >>> (Int32.ofInt b &&& 31)).toInt
def bUshr (a b : Int) : Int := ((Int32.ofInt a).toUInt32 >>> ((Int32.ofInt b).toUInt32 &&& Int32.toUInt32 31)).toInt32.toInt
def bI2b (a : Int) : Int := (Int32.ofInt a).toInt8.toInt32.toInt
def bI2c (a : Int) : Int := ((Int32.ofInt a).toUInt32 % 65536).toInt32.toInt
theorem s_iand {a b : Int} (d : decode M.2.1 pc = .ok (.iand, 1)) (kk : Sim G M B0 o x (pc + 1) L (iv (bAnd a b) :: st) B) : Sim G M B0 o x pc L (iv b :: iv a :: st) B := kk.step fun C h => lv_iand C.1 C.2.1 d (by unfold iv bAnd at h; rw [Int32.ofInt_toInt] at h; exact h)
theorem s_ior {a b : Int} (d : decode M.2.1 pc = .ok (.ior, 1)) (kk : Sim G M B0 o x (pc + 1) L (iv (bOr a b) :: st) B) : Sim G M B0 o x pc L (iv b :: iv a :: st) B := kk.step fun C h => lv_ior C.1 C.2.1 d (by unfold iv bOr at h; rw [Int32.ofInt_toInt] at h; exact h)
theorem s_ixor {a b : Int} (d : decode M.2.1 pc = .ok (.ixor, 1)) (kk : Sim G M B0 o x (pc + 1) L (iv (bXor a b) :: st) B) : Sim G M B0 o x pc L (iv b :: iv a :: st) B := kk.step fun C h => lv_ixor C.1 C.2.1 d (by unfold iv bXor at h; rw [Int32.ofInt_toInt] at h; exact h)
theorem s_ishl {a b : Int} (d : decode M.2.1 pc = .ok (.ishl, 1)) (kk : Sim G M B0 o x (pc + 1) L (iv (bShl a b) :: st) B) : Sim G M B0 o x pc L (iv b :: iv a :: st) B := kk.step fun C h => lv_ishl C.1 C.2.1 d (by unfold iv bShl at h; rw [Int32.ofInt_toInt] at h; exact h)
theorem s_ishr {a b : Int} (d : decode M.2.1 pc = .ok (.ishr, 1)) (kk : Sim G M B0 o x (pc + 1) L (iv (bShr a b) :: st) B) : Sim G M B0 o x pc L (iv b :: iv a :: st) B := kk.step fun C h => lv_ishr C.1 C.2.1 d (by unfold iv bShr at h; rw [Int32.ofInt_toInt] at h; exact h)
theorem s_iushr {a b : Int} (d : decode M.2.1 pc = .ok (.iushr, 1)) (kk : Sim G M B0 o x (pc + 1) L (iv (bUshr a b) :: st) B) : Sim G M B0 o x pc L (iv b :: iv a :: st) B := kk.step fun C h => lv_iushr C.1 C.2.1 d rfl (by unfold iv bUshr at h; rw [Int32.ofInt_toInt] at h; exact h)
theorem s_i2b {a : Int} (d : decode M.2.1 pc = .ok (.i2b, 1)) (kk : Sim G M B0 o x (pc + 1) L (iv (bI2b a) :: st) B) : Sim G M B0 o x pc L (iv a :: st) B := kk.step fun C h => lv_i2b C.1 C.2.1 d rfl (by unfold iv bI2b at h; rw [Int32.ofInt_toInt] at h; exact h)
theorem s_i2c {a : Int} (d : decode M.2.1 pc = .ok (.i2c, 1)) (kk : Sim G M B0 o x (pc + 1) L (iv (bI2c a) :: st) B) : Sim G M B0 o x pc L (iv a :: st) B := kk.step fun C h => lv_i2c C.1 C.2.1 d rfl (by unfold iv bI2c at h; rw [Int32.ofInt_toInt] at h; exact h)
/-- a step under a check -/
theorem Sim.stepc {ch : Prop} [Decidable ch] {pc' : Nat} {st' : List Value} (h : ch → ∀ {p : Program} {e : Env} {R : Room} {s : State} {m : MethodId} {args : Array Value} {below : List Frame} {meth : Method} {c : Code} {H : Heap} {locs : List Loc} {ls : Array Slot} {k n : Nat} {Q : State → Prop}, CX G M B0 p s m args meth c → W p (gL G) e R s m args below meth c H locs k n Q (F0 m pc' ls st') → W p (gL G) e R s m args below meth c H locs k n Q (F0 m pc ls st)) (kk : Sim G M B0 o x pc' L st' B) : Sim G M B0 o (ck ch x) pc L st B :=
  fun r hr p e s m args below meth c C H locs ls hW hS hL => h (ck_some hr).1 C (kk r (ck_some hr).2 p e s m args below meth c C H locs ls hW hS hL)
theorem Sim.branch {ch cn : Prop} [Decidable ch] [Decidable cn] {pt pf : Nat} {stt : List Value} (h : ch → ∀ {p : Program} {e : Env} {R : Room} {s : State} {m : MethodId} {args : Array Value} {below : List Frame} {meth : Method} {c : Code} {H : Heap} {locs : List Loc} {ls : Array Slot} {k n : Nat} {Q : State → Prop}, CX G M B0 p s m args meth c → (cn → W p (gL G) e R s m args below meth c H locs k n Q (F0 m pt ls stt)) → (¬ cn → W p (gL G) e R s m args below meth c H locs k n Q (F0 m pf ls stt)) → W p (gL G) e R s m args below meth c H locs k n Q (F0 m pc ls st)) (kt : Sim G M B0 o x pt L stt B) (kf : Sim G M B0 o y pf L stt B) : Sim G M B0 o (ck ch (if cn then x else y)) pc L st B := by
  intro r hr p e s m args below meth c C H locs ls hW hS hL
  obtain ⟨hc, hr⟩ := ck_some hr
  exact h hc C (fun hn => kt r (by rwa [if_pos hn] at hr) p e s m args below meth c C H locs ls hW hS hL) (fun hn => kf r (by rwa [if_neg hn] at hr) p e s m args below meth c C H locs ls hW hS hL)
abbrev okd (a b : Int) : Prop := (0 ≤ a ∧ a < 2147483648) ∧ 0 < b ∧ b < 2147483648
theorem iv_div {a b : Int} (h : okd a b) : Int32.ofInt a / Int32.ofInt b = Int32.ofInt (a / b) := by
  obtain ⟨⟨h1, h2⟩, h3, h4⟩ := h
  apply Int32.toInt_inj.mp
  have h0 : 0 ≤ a / b := Int.ediv_nonneg h1 (by omega)
  have h5 : a / b ≤ a := Int.ediv_le_self b h1
  rw [Int32.toInt_div, ok32_toInt ⟨by omega, h2⟩, ok32_toInt ⟨by omega, h4⟩, ok32_toInt ⟨by omega, by omega⟩, Int.tdiv_eq_ediv_of_nonneg h1]
  exact Int.bmod_eq_of_le (by simp; omega) (by simp; omega)
theorem iv_ne0 {b : Int} (h : 0 < b ∧ b < 2147483648) : ¬ Int32.ofInt b = 0 := by
  intro e
  rw [iv_0, iv_eq ⟨by omega, h.2⟩ ok32_0] at e
  omega
theorem s_idiv {a b : Int} (d : decode M.2.1 pc = .ok (.idiv, 1)) (kk : Sim G M B0 o x (pc + 1) L (iv (a / b) :: st) B) : Sim G M B0 o (ck (okd a b) x) pc L (iv b :: iv a :: st) B := Sim.stepc (fun hc {_ _ _ _ _ _ _ _ _ _ _ _ _ _ _} C h => lv_idiv C.1 C.2.1 d (iv_ne0 hc.2) (by rw [iv_div hc]; exact h)) kk
theorem s_irem {a b : Int} (d : decode M.2.1 pc = .ok (.irem, 1)) (kk : Sim G M B0 o x (pc + 1) L (iv (a % b) :: st) B) : Sim G M B0 o (ck (okd a b) x) pc L (iv b :: iv a :: st) B := Sim.stepc (fun hc {_ _ _ _ _ _ _ _ _ _ _ _ _ _ _} C h => lv_irem C.1 C.2.1 d (iv_ne0 hc.2) (by rw [iv_div hc, ← Int32.ofInt_mul, ← Int32.ofInt_sub, show a - a / b * b = a % b by rw [Int.emod_def, Int.mul_comm]]; exact h)) kk
theorem s_goto {off : Int} {tgt : Nat} (d : decode M.2.1 pc = .ok (.goto off, 3)) (ht : (pc : Int) + off = (tgt : Int)) (kk : Sim G M B0 o x tgt L st B) : Sim G M B0 o x pc L st B := kk.step fun C h => lv_goto C.1 C.2.1 d ht h
theorem s_dup {v : Value} (d : decode M.2.1 pc = .ok (.dup, 1)) (hv : v.category = 1) (kk : Sim G M B0 o x (pc + 1) L (v :: v :: st) B) : Sim G M B0 o x pc L (v :: st) B := kk.step fun C h => lv_dup C.1 C.2.1 d hv h
theorem s_dup2 {v w : Value} (d : decode M.2.1 pc = .ok (.dup2, 1)) (hv : v.category = 1) (hw : w.category = 1) (kk : Sim G M B0 o x (pc + 1) L (v :: w :: v :: w :: st) B) : Sim G M B0 o x pc L (v :: w :: st) B := kk.step fun C h => lv_dup2_11 C.1 C.2.1 d hv hw h
theorem s_dup_x1 {v w : Value} (d : decode M.2.1 pc = .ok (.dup_x1, 1)) (hv : v.category = 1) (hw : w.category = 1) (kk : Sim G M B0 o x (pc + 1) L (v :: w :: v :: st) B) : Sim G M B0 o x pc L (v :: w :: st) B := kk.step fun C h => lv_dup_x1 C.1 C.2.1 d hv hw h
theorem s_pop {v : Value} (d : decode M.2.1 pc = .ok (.pop, 1)) (hv : v.category = 1) (kk : Sim G M B0 o x (pc + 1) L st B) : Sim G M B0 o x pc L (v :: st) B := kk.step fun C h => lv_pop C.1 C.2.1 d hv h
abbrev ok2 (a b : Int) : Prop := ok32 a ∧ ok32 b
theorem s_icmp_eq {a b off : Int} {tgt : Nat} (d : decode M.2.1 pc = .ok (.if_icmp .eq off, 3)) (ht : (pc : Int) + off = (tgt : Int)) (kt : Sim G M B0 o x tgt L st B) (kf : Sim G M B0 o y (pc + 3) L st B) : Sim G M B0 o (ck (ok2 a b) (if a = b then x else y)) pc L (iv b :: iv a :: st) B := Sim.branch (fun hc {_ _ _ _ _ _ _ _ _ _ _ _ _ _ _} C h1 h2 => lv_icmp_eq C.1 C.2.1 d ht (fun q => h1 ((iv_eq hc.1 hc.2).mp q)) (fun q => h2 (fun z => q ((iv_eq hc.1 hc.2).mpr z)))) kt kf
theorem s_icmp_ne {a b off : Int} {tgt : Nat} (d : decode M.2.1 pc = .ok (.if_icmp .ne off, 3)) (ht : (pc : Int) + off = (tgt : Int)) (kt : Sim G M B0 o x tgt L st B) (kf : Sim G M B0 o y (pc + 3) L st B) : Sim G M B0 o (ck (ok2 a b) (if a = b then y else x)) pc L (iv b :: iv a :: st) B := Sim.branch (fun hc {_ _ _ _ _ _ _ _ _ _ _ _ _ _ _} C h1 h2 => lv_icmp_ne C.1 C.2.1 d ht (fun q => h2 (fun z => q ((iv_eq hc.1 hc.2).mpr z))) (fun q => h1 ((iv_eq hc.1 hc.2).mp q))) kf kt
theorem s_icmp_lt {a b off : Int} {tgt : Nat} (d : decode M.2.1 pc = .ok (.if_icmp .lt off, 3)) (ht : (pc : Int) + off = (tgt : Int)) (kt : Sim G M B0 o x tgt L st B) (kf : Sim G M B0 o y (pc + 3) L st B) : Sim G M B0 o (ck (ok2 a b) (if a < b then x else y)) pc L (iv b :: iv a :: st) B := Sim.branch (fun hc {_ _ _ _ _ _ _ _ _ _ _ _ _ _ _} C h1 h2 => lv_icmp_lt C.1 C.2.1 d ht (fun q => h1 ((iv_lt hc.1 hc.2).mp q)) (fun q => h2 (fun z => q ((iv_lt hc.1 hc.2).mpr z)))) kt kf
theorem s_icmp_ge {a b off : Int} {tgt : Nat} (d : decode M.2.1 pc = .ok (.if_icmp .ge off, 3)) (ht : (pc : Int) + off = (tgt : Int)) (kt : Sim G M B0 o x tgt L st B) (kf : Sim G M B0 o y (pc + 3) L st B) : Sim G M B0 o (ck (ok2 a b) (if b ≤ a then x else y)) pc L (iv b :: iv a :: st) B := Sim.branch (fun hc {_ _ _ _ _ _ _ _ _ _ _ _ _ _ _} C h1 h2 => lv_icmp_ge C.1 C.2.1 d ht (fun q => h1 ((iv_le hc.2 hc.1).mp q)) (fun q => h2 (fun z => q ((iv_le hc.2 hc.1).mpr z)))) kt kf
theorem s_icmp_gt {a b off : Int} {tgt : Nat} (d : decode M.2.1 pc = .ok (.if_icmp .gt off, 3)) (ht : (pc : Int) + off = (tgt : Int)) (kt : Sim G M B0 o x tgt L st B) (kf : Sim G M B0 o y (pc + 3) L st B) : Sim G M B0 o (ck (ok2 a b) (if b < a then x else y)) pc L (iv b :: iv a :: st) B := Sim.branch (fun hc {_ _ _ _ _ _ _ _ _ _ _ _ _ _ _} C h1 h2 => lv_icmp_gt C.1 C.2.1 d ht (fun q => h1 ((iv_lt hc.2 hc.1).mp q)) (fun q => h2 (fun z => q ((iv_lt hc.2 hc.1).mpr z)))) kt kf
theorem s_icmp_le {a b off : Int} {tgt : Nat} (d : decode M.2.1 pc = .ok (.if_icmp .le off, 3)) (ht : (pc : Int) + off = (tgt : Int)) (kt : Sim G M B0 o x tgt L st B) (kf : Sim G M B0 o y (pc + 3) L st B) : Sim G M B0 o (ck (ok2 a b) (if a ≤ b then x else y)) pc L (iv b :: iv a :: st) B := Sim.branch (fun hc {_ _ _ _ _ _ _ _ _ _ _ _ _ _ _} C h1 h2 => lv_icmp_le C.1 C.2.1 d ht (fun q => h1 ((iv_le hc.1 hc.2).mp q)) (fun q => h2 (fun z => q ((iv_le hc.1 hc.2).mpr z)))) kt kf
theorem s_if_eq {a off : Int} {tgt : Nat} (d : decode M.2.1 pc = .ok (.ifCond .eq off, 3)) (ht : (pc : Int) + off = (tgt : Int)) (kt : Sim G M B0 o x tgt L st B) (kf : Sim G M B0 o y (pc + 3) L st B) : Sim G M B0 o (ck (ok32 a) (if a = 0 then x else y)) pc L (iv a :: st) B := Sim.branch (fun hc {_ _ _ _ _ _ _ _ _ _ _ _ _ _ _} C h1 h2 => lv_if_eq C.1 C.2.1 d ht (fun q => h1 ((iv_eq hc ok32_0).mp q)) (fun q => h2 (fun z => q ((iv_eq hc ok32_0).mpr z)))) kt kf
theorem s_if_ne {a off : Int} {tgt : Nat} (d : decode M.2.1 pc = .ok (.ifCond .ne off, 3)) (ht : (pc : Int) + off = (tgt : Int)) (kt : Sim G M B0 o x tgt L st B) (kf : Sim G M B0 o y (pc + 3) L st B) : Sim G M B0 o (ck (ok32 a) (if a = 0 then y else x)) pc L (iv a :: st) B := Sim.branch (fun hc {_ _ _ _ _ _ _ _ _ _ _ _ _ _ _} C h1 h2 => lv_if_ne C.1 C.2.1 d ht (fun q => h2 (fun z => q ((iv_eq hc ok32_0).mpr z))) (fun q => h1 ((iv_eq hc ok32_0).mp q))) kf kt
theorem s_if_lt {a off : Int} {tgt : Nat} (d : decode M.2.1 pc = .ok (.ifCond .lt off, 3)) (ht : (pc : Int) + off = (tgt : Int)) (kt : Sim G M B0 o x tgt L st B) (kf : Sim G M B0 o y (pc + 3) L st B) : Sim G M B0 o (ck (ok32 a) (if a < 0 then x else y)) pc L (iv a :: st) B := Sim.branch (fun hc {_ _ _ _ _ _ _ _ _ _ _ _ _ _ _} C h1 h2 => lv_if_lt C.1 C.2.1 d ht (fun q => h1 ((iv_lt hc ok32_0).mp q)) (fun q => h2 (fun z => q ((iv_lt hc ok32_0).mpr z)))) kt kf
theorem s_if_ge {a off : Int} {tgt : Nat} (d : decode M.2.1 pc = .ok (.ifCond .ge off, 3)) (ht : (pc : Int) + off = (tgt : Int)) (kt : Sim G M B0 o x tgt L st B) (kf : Sim G M B0 o y (pc + 3) L st B) : Sim G M B0 o (ck (ok32 a) (if 0 ≤ a then x else y)) pc L (iv a :: st) B := Sim.branch (fun hc {_ _ _ _ _ _ _ _ _ _ _ _ _ _ _} C h1 h2 => lv_if_ge C.1 C.2.1 d ht (fun q => h1 ((iv_le ok32_0 hc).mp q)) (fun q => h2 (fun z => q ((iv_le ok32_0 hc).mpr z)))) kt kf
theorem s_if_gt {a off : Int} {tgt : Nat} (d : decode M.2.1 pc = .ok (.ifCond .gt off, 3)) (ht : (pc : Int) + off = (tgt : Int)) (kt : Sim G M B0 o x tgt L st B) (kf : Sim G M B0 o y (pc + 3) L st B) : Sim G M B0 o (ck (ok32 a) (if 0 < a then x else y)) pc L (iv a :: st) B := Sim.branch (fun hc {_ _ _ _ _ _ _ _ _ _ _ _ _ _ _} C h1 h2 => lv_if_gt C.1 C.2.1 d ht (fun q => h1 ((iv_lt ok32_0 hc).mp q)) (fun q => h2 (fun z => q ((iv_lt ok32_0 hc).mpr z)))) kt kf
theorem s_if_le {a off : Int} {tgt : Nat} (d : decode M.2.1 pc = .ok (.ifCond .le off, 3)) (ht : (pc : Int) + off = (tgt : Int)) (kt : Sim G M B0 o x tgt L st B) (kf : Sim G M B0 o y (pc + 3) L st B) : Sim G M B0 o (ck (ok32 a) (if a ≤ 0 then x else y)) pc L (iv a :: st) B := Sim.branch (fun hc {_ _ _ _ _ _ _ _ _ _ _ _ _ _ _} C h1 h2 => lv_if_le C.1 C.2.1 d ht (fun q => h1 ((iv_le hc ok32_0).mp q)) (fun q => h2 (fun z => q ((iv_le hc ok32_0).mpr z)))) kt kf
theorem s_iload_n {k : Fin 4} {a : Int} (d : decode M.2.1 pc = .ok (.iload_n k, 1)) (h : L[(k : Nat)]? = some (some (iv a))) (kk : Sim G M B0 o x (pc + 1) L (iv a :: st) B) : Sim G M B0 o x pc L st B := fun r hr p e s m args below meth c C H locs ls hW hS hL => lv_iload_n C.1 C.2.1 d rfl (hL.at h) (kk r hr p e s m args below meth c C H locs ls hW hS hL)
theorem s_iload {k : Nat} {a : Int} (d : decode M.2.1 pc = .ok (.iload k, 2)) (h : L[k]? = some (some (iv a))) (kk : Sim G M B0 o x (pc + 2) L (iv a :: st) B) : Sim G M B0 o x pc L st B := fun r hr p e s m args below meth c C H locs ls hW hS hL => lv_iload C.1 C.2.1 d (hL.at h) (kk r hr p e s m args below meth c C H locs ls hW hS hL)
theorem s_aload_n {k : Fin 4} {a : Option Nat} (d : decode M.2.1 pc = .ok (.aload_n k, 1)) (h : L[(k : Nat)]? = some (some (va_rf a))) (kk : Sim G M B0 o x (pc + 1) L (va_rf a :: st) B) : Sim G M B0 o x pc L st B := fun r hr p e s m args below meth c C H locs ls hW hS hL => by
  have k1 := kk r hr p e s m args below meth c C H locs ls hW hS hL
  cases a with
  | none => exact lv_aload_nN C.1 C.2.1 d rfl (hL.at h) k1
  | some a => exact lv_aload_n C.1 C.2.1 d rfl (hL.at h) k1
theorem s_aload {k : Nat} {a : Option Nat} (d : decode M.2.1 pc = .ok (.aload k, 2)) (h : L[k]? = some (some (va_rf a))) (kk : Sim G M B0 o x (pc + 2) L (va_rf a :: st) B) : Sim G M B0 o x pc L st B := fun r hr p e s m args below meth c C H locs ls hW hS hL => by
  have k1 := kk r hr p e s m args below meth c C H locs ls hW hS hL
  cases a with
  | none => exact lv_aloadN C.1 C.2.1 d (hL.at h) k1
  | some a => exact lv_aload C.1 C.2.1 d (hL.at h) k1
theorem s_istore_n {L' : LL} {k : Fin 4} {a : Int} (d : decode M.2.1 pc = .ok (.istore_n k, 1)) (hn : (k : Nat) < M.2.2.1) (hl : L.set (k : Nat) (some (iv a)) = L') (kk : Sim G M B0 o x (pc + 1) L' st B) : Sim G M B0 o x pc L (iv a :: st) B := fun r hr p e s m args below meth c C H locs ls hW hS hL => lv_istore_n C.1 C.2.1 d rfl hL.1 hn rfl (fun ls' h' => kk r hr p e s m args below meth c C H locs ls' hW hS (hl ▸ hL.of rfl h'))
theorem s_istore {L' : LL} {k : Nat} {a : Int} (d : decode M.2.1 pc = .ok (.istore k, 2)) (hn : k < M.2.2.1) (hl : L.set k (some (iv a)) = L') (kk : Sim G M B0 o x (pc + 2) L' st B) : Sim G M B0 o x pc L (iv a :: st) B := fun r hr p e s m args below meth c C H locs ls hW hS hL => lv_istore C.1 C.2.1 d hL.1 hn rfl (fun ls' h' => kk r hr p e s m args below meth c C H locs ls' hW hS (hl ▸ hL.of rfl h'))
theorem rf_cat (a : Option Nat) : (va_rf a).category = 1 := by cases a <;> rfl
theorem s_astore_n {L' : LL} {k : Fin 4} {a : Option Nat} (d : decode M.2.1 pc = .ok (.astore_n k, 1)) (hn : (k : Nat) < M.2.2.1) (hl : L.set (k : Nat) (some (va_rf a)) = L') (kk : Sim G M B0 o x (pc + 1) L' st B) : Sim G M B0 o x pc L (va_rf a :: st) B := fun r hr p e s m args below meth c C H locs ls hW hS hL => by
  cases a with
  | none => exact lv_astore_nN C.1 C.2.1 d rfl hL.1 hn rfl (fun ls' h' => kk r hr p e s m args below meth c C H locs ls' hW hS (hl ▸ hL.of rfl h'))
  | some a => exact lv_astore_n C.1 C.2.1 d rfl hL.1 hn rfl (fun ls' h' => kk r hr p e s m args below meth c C H locs ls' hW hS (hl ▸ hL.of rfl h'))
theorem s_astore {L' : LL} {k : Nat} {a : Option Nat} (d : decode M.2.1 pc = .ok (.astore k, 2)) (hn : k < M.2.2.1) (hl : L.set k (some (va_rf a)) = L') (kk : Sim G M B0 o x (pc + 2) L' st B) : Sim G M B0 o x pc L (va_rf a :: st) B := fun r hr p e s m args below meth c C H locs ls hW hS hL => by
  cases a with
  | none => exact lv_astoreN C.1 C.2.1 d hL.1 hn rfl (fun ls' h' => kk r hr p e s m args below meth c C H locs ls' hW hS (hl ▸ hL.of rfl h'))
  | some a => exact lv_astore C.1 C.2.1 d hL.1 hn rfl (fun ls' h' => kk r hr p e s m args below meth c C H locs ls' hW hS (hl ▸ hL.of rfl h'))
theorem s_iinc {L' : LL} {i : Nat} {n a : Int} (d : decode M.2.1 pc = .ok (.iinc i n, 3)) (h : L[i]? = some (some (iv a))) (hn : i < M.2.2.1) (hl : L.set i (some (iv (a + n))) = L') (kk : Sim G M B0 o x (pc + 3) L' st B) : Sim G M B0 o x pc L st B := fun r hr p e s m args below meth c C H locs ls hW hS hL => by
  obtain ⟨k, hk⟩ := List.getElem?_of_mem (la_mem.mpr h)
  exact lv_iinc (v := Int32.ofInt (a + n)) C.1 C.2.1 d hL.1 hk (Int32.ofInt_add a n).symm hn rfl (fun ls' h' => kk r hr p e s m args below meth c C H locs ls' hW hS (hl ▸ hL.of rfl h'))
end ROWS
end
section
/-! BASE 3: rows that read and write the world; returns; a contract out of a Sim -/
def upB (B : BH) (a : Nat) (c : PC4) : BH := (fun q => if q = a then some c else B.1 q, B.2)
theorem World.put {G : GT} {s : State} {B : BH} {H H1 : Heap} {a : Nat} {c c' : PC4} {cell cell1 : Cell} (hW : World G s B H) (hc : B.1 a = some c) (hlo : c.1 < 1000) (ht : c'.1 = c.1) (hl : c'.2.1 = c.2.1) (h0 : H[a]? = some cell) (h1 : H1[a]? = some cell1) (hz : cell1.slots.size = cell.slots.size) (e2 : H1.size = H.size) (e3 : ∀ q : Nat, q ≠ a → H1[q]? = H[q]?) (hat : cAt G a c' H1) : World G s (upB B a c') H1 := by
  obtain ⟨w1, w2, w3, w4, w5, w6⟩ := hW
  have hga : gB G ≤ a := (w3 a c hc).2.1 hlo
  refine ⟨e2.trans w1, (tot_same fun q => ?_).trans w2, fun q d hq => ?_, w4, w5.kept (fun q hq hA => e3 q (fun e => hA (by rw [e]; exact hga))), fun q d hq hd => ?_⟩
  · by_cases e : q = a
    · subst e
      rw [h0, h1]
      simp [hz]
    · rw [e3 q e]
  · by_cases e : q = a
    · subst e
      have hq' : (if q = q then some c' else B.1 q) = some d := hq
      rw [if_pos rfl] at hq'
      cases hq'
      exact ⟨hat, fun _ => hga, by rw [hl]; exact (w3 q c hc).2.2⟩
    · have hq' : (if q = a then some c' else B.1 q) = some d := hq
      rw [if_neg e] at hq'
      exact ⟨(w3 q d hq').1.kept (e3 q e), (w3 q d hq').2⟩
  · by_cases e : q = a
    · subst e
      have hq' : (if q = q then some c' else B.1 q) = some d := hq
      rw [if_pos rfl] at hq'
      cases hq'
      omega
    · have hq' : (if q = a then some c' else B.1 q) = some d := hq
      rw [if_neg e] at hq'
      exact (w6 q d hq' hd).kept (e3 q e)
theorem cAt_obj {G : GT} {a : Nat} {c : PC4} {H : Heap} {t : Nat} (ht : c.1 % 1000 = t) (hl : t < 100) : cAt G a c H ↔ va_at (gD G) gCl (a, .inr (t, (List.range (gN t)).map (fV t c.2.2.1 c.2.2.2))) H := by
  unfold cAt cE
  rw [ht, if_pos hl]
theorem cAt_int {G : GT} {a : Nat} {c : PC4} {H : Heap} {t : Nat} (ht : c.1 % 1000 = t) (hl : t = 100 ∨ t = 101 ∨ t = 102) : cAt G a c H ↔ H[a]? = some (arrV (gA G t) c.2.1 (fun j => .int (Int32.ofInt (c.2.2.1 j)))) := by
  unfold cAt cE
  rw [ht, if_neg (by omega), if_neg (by omega), if_pos (by omega)]
  exact Iff.rfl
theorem fV_V {t k : Nat} {f : Nat → Int} {r : Nat → Option Nat} (hk : k < gN t) : vp_V ((List.range (gN t)).map (fV t f r)) k = fV t f r k := by
  simp [vp_V, hk]
theorem gN_of {t : Nat} {q : vw_C} (h : gCl[t]? = some q) : gN t = q.2.2 := by unfold gN; rw [h]; rfl
theorem gCl_lt {t : Nat} {q : vw_C} (h : gCl[t]? = some q) : t < 100 := by
  have := (List.getElem?_eq_some_iff.mp h).1
  have h2 : gCl.length = 22 := rfl
  omega
theorem vp_in_iv {i : Int} {n : Nat} (h0 : 0 ≤ i) (h1 : i < n) (h2 : n < 2147483648) : vp_in (Int32.ofInt i) n ∧ (Int32.ofInt i).toNatClampNeg = i.toNat := by
  have ht : (Int32.ofInt i).toInt = i := ok32_toInt ⟨by omega, by omega⟩
  have hc : (Int32.ofInt i).toNatClampNeg = i.toNat := by
    show (Int32.ofInt i).toInt.toNat = i.toNat
    rw [ht]
  refine ⟨?_, hc⟩
  rw [vp_in_iff, ht]
  exact ⟨h0, h1⟩
/-- a class's rows: what a getfield or putfield of its field k asks of the tables -/
def fdOK (t : Nat) (C : String) (T : u_T) (N k : Nat) : Prop := gCl[t]? = some (C, T, N) ∧ (∀ w ∈ u_ws C T N, w ∈ lw_all) ∧ k < N
section ROWS
variable {ρ : Type} {G : GT} {M : MI} {B0 : BH} {o : ρ → Rv × BH} {x y : Option ρ} {pc : Nat} {L : LL} {st : List Value} {B : BH}
/-- how a field is named: by its own class's entry (perhaps under a subclass's name), or as a nest mate's -/
def flk (M : MI) (idx : Nat) (q : String × String × String × Bool) : Prop := (∃ ref, Cond.fieldLink M.1.cls idx ref q.2.1 q.2.2.1 ∈ lw_all ∧ (ref = q.1 ∨ Cond.sameField ref q.1 q.2.1 q.2.2.1 ∈ lw_all)) ∨ ∃ host, Cond.fieldLinkNest M.1.cls idx q.1 q.2.1 q.2.2.1 host ∈ gNw
theorem flk_own {idx : Nat} {q : String × String × String × Bool} (h : Cond.fieldLink M.1.cls idx q.1 q.2.1 q.2.2.1 ∈ lw_all) : flk M idx q := Or.inl ⟨_, h, Or.inl rfl⟩
theorem flk_same {s : State} {args : Array Value} {ref : String} {q : String × String × String × Bool} (hts : ∀ w ∈ lw_all, w.before args s = true) (h : ref = q.1 ∨ Cond.sameField ref q.1 q.2.1 q.2.2.1 ∈ lw_all) : ∀ x, s.fieldFound? q.1 q.2.1 q.2.2.1 = some x → s.fieldFound? ref q.2.1 q.2.2.1 = some x := by
  intro x hx
  rcases h with rfl | h
  · exact hx
  · exact u_same (hts _ h) x hx
theorem World.one {s : State} {H : Heap} (hW : World G s B H) {a t : Nat} {c : PC4} (hB : B.1 a = some c) (ht : c.1 % 1000 = t) (hl : t < 100) : va_P (gD G) gCl [(a, .inr (t, (List.range (gN t)).map (fV t c.2.2.1 c.2.2.2)))] H := fun k q hq => by
  cases k with
  | zero => cases hq; exact (cAt_obj (H := H) ht hl).mp (hW.2.2.1 a c hB).1
  | succ k => simp at hq
theorem s_getf {a t k idx N : Nat} {c : PC4} {C : String} {T : u_T} (hB : B.1 a = some c) (ht : c.1 % 1000 = t) (hf : fdOK t C T N k) (q : flk M idx (T k)) (d : decode M.2.1 pc = .ok (.getfield idx, 3)) (kk : Sim G M B0 o x (pc + 3) L (fV t c.2.2.1 c.2.2.2 k :: st) B) : Sim G M B0 o x pc L (.ref a :: st) B := fun r hr p e s m args below meth c0 C0 H locs ls hW hS hL => by
  obtain ⟨hc, hin, hk⟩ := hf
  have hP := hW.one hB ht (gCl_lt hc)
  have hgn := gN_of hc
  have hts := C0.2.2.2.2.2.2.1
  have hv : ((List.range (gN t)).map (fV t c.2.2.1 c.2.2.2))[k]? = some (fV t c.2.2.1 c.2.2.2 k) := by rw [List.getElem?_map, List.getElem?_range (by rw [hgn]; exact hk)]; rfl
  rcases q with ⟨ref, q1, q2⟩ | ⟨host, q1⟩
  · exact va_get (D := gD G) (ci := t) (ws := [(a, .inr (t, (List.range (gN t)).map (fV t c.2.2.1 c.2.2.2)))]) C0.1 C0.2.1 hts hin C0.2.2.2.2.2.1 C0.2.2.2.2.2.2.2.1.1 hP 0 rfl hc k hk (hts _ q1) (flk_same hts q2) (v := fV t c.2.2.1 c.2.2.2 k) hv d (kk r hr p e s m args below meth c0 C0 H locs ls hW hS hL)
  · exact va_getN (D := gD G) (ci := t) (ws := [(a, .inr (t, (List.range (gN t)).map (fV t c.2.2.1 c.2.2.2)))]) C0.1 C0.2.1 hts hin C0.2.2.2.2.2.1 C0.2.2.2.2.2.2.2.1.1 hP 0 rfl hc k hk (va_Nw.use rfl (C0.2.2.2.2.2.2.2.1.2.1 _ q1)) (fun _ h => h) (v := fV t c.2.2.1 c.2.2.2 k) hv d (kk r hr p e s m args below meth c0 C0 H locs ls hW hS hL)
/-- the new fields -/
def putI (c : PC4) (k : Nat) (v : Int) : PC4 := (c.1, c.2.1, fun j => if j = k then v else c.2.2.1 j, c.2.2.2)
def putR (c : PC4) (k : Nat) (v : Option Nat) : PC4 := (c.1, c.2.1, c.2.2.1, fun j => if j = k then v else c.2.2.2 j)
theorem s_putG {a t k idx N : Nat} {c c' : PC4} {v : Value} {C : String} {T : u_T} (ty0 : Nat → FieldType) (hty : ∀ k, k < N → parseFieldDescriptor (T k).2.2.1 = some (ty0 k)) (hnm : ∀ a, a < N → ∀ b, b < N → a ≠ b → (T a).2.1 ≠ (T b).2.1) (hB : B.1 a = some c) (ht : c.1 = t) (hf : fdOK t C T N k) (q : flk M idx (T k)) (hfin : (T k).2.2.2 = false ∨ (M.1.name = "<init>" ∧ (T k).1 = M.1.cls)) (hnn : (T k).2.2.2 = true → ¬ ∃ host, Cond.fieldLinkNest M.1.cls idx (T k).1 (T k).2.1 (T k).2.2.1 host ∈ gNw) {ty : FieldType} (hd : parseFieldDescriptor (T k).2.2.1 = some ty) (hn : narrow ty v = v) (hfit : fits ty v = true) (h1 : c'.1 = c.1) (h2 : c'.2.1 = c.2.1)
    (hv : ∀ j, fV t c'.2.2.1 c'.2.2.2 j = if j = k then v else fV t c.2.2.1 c.2.2.2 j) (d : decode M.2.1 pc = .ok (.putfield idx, 3)) (kk : Sim G M B0 o x (pc + 3) L st (upB B a c')) : Sim G M B0 o x pc L (v :: .ref a :: st) B := fun r hr p e s m args below meth c0 C0 H locs ls hW hS hL => by
  obtain ⟨hc, hin, hk⟩ := hf
  have htl := gCl_lt hc
  have ht' : c.1 % 1000 = t := by omega
  have hat := (cAt_obj (H := H) ht' htl).mp (hW.2.2.1 a c hB).1
  have hga : gB G ≤ a := (hW.2.2.1 a c hB).2.1 (by omega)
  have hgn : gN t = N := gN_of hc
  have hts := C0.2.2.2.2.2.2.1
  have hown := C0.2.2.2.2.2.1
  have hK := C0.2.2.2.2.2.2.2.1.1
  have hap := va_apart (own := M.1.cls) hts hin ty0 hty hnm hK hc
  obtain ⟨rr, g1, cell, q1, q2, q3, q4⟩ := hat
  have hr' : rr = (C, T, N) := Option.some.inj (g1.symm.trans hc)
  subst hr'
  obtain ⟨hSl, hfc, kC, hkC, hkind⟩ := hK.1 t _ hc
  obtain ⟨cf, kf, fi, f, hi, hsl⟩ := hSl k hk
  have hlay := hts _ (hin _ (u_in_lay hk))
  have hst := (u_facts hfc hkC (u_lays hts hin hk) hi).1
  have fin : ∀ H' : Heap, H'[a]? = some (cell.setSlot f.slot v) → H'.size = H.size → (∀ q, q ≠ a → H'[q]? = H[q]?) → W p (gL G) e (rmOf G M B0) s m args below meth c0 H' (locs ++ [⟨a, f.slot⟩]) (B.2.1 - B0.2.1) (B.2.2 - B0.2.2) (Fin9 G B0 (o r) below args s) (F0 m (pc + 3) ls st) := by
    intro H' e1 e2 e3
    have hq4 : ∀ j, j < N → cell.slots[(gD G).2 t j]? = some (fV t c.2.2.1 c.2.2.2 j) := fun j hj => by
      have h9 := q4 j hj
      rw [fV_V (by rw [hgn]; exact hj)] at h9
      exact h9
    have hnew : ∀ j, j < N → (cell.setSlot f.slot v).slots[(gD G).2 t j]? = some (vp_V ((List.range (gN t)).map (fV t c'.2.2.1 c'.2.2.2)) j) := by
      intro j hj
      have h9 := t_set hq4 hap hk v j hj
      rw [hsl, h9, fV_V (by rw [hgn]; exact hj), hv j]
      rfl
    refine kk r hr p e s m args below meth c0 C0 H' (locs ++ [⟨a, f.slot⟩]) ls (hW.put hB (by omega) h1 h2 q1 e1 (by simp [Cell.setSlot]) e2 e3 ?_) (hS.put e2 e3 hga) hL
    refine (cAt_obj (by rw [h1]; exact ht') htl).mpr ⟨_, hc, _, e1, q2, q3, hnew⟩
  by_cases hF : (T k).2.2.2 = true
  · rcases hfin with hfin | hfin
    · rw [hF] at hfin; cases hfin
    · unfold u_lay at hlay
      rw [if_pos hF] at hlay
      have hcf : m.cls = cf := by
        obtain ⟨_, _, c', _, _, _, -, -, hf', -, -, -, hown2, -⟩ := Cond.laysFinal_spec hlay
        have e1 : c' = cf := by have := hi.symm.trans hf'; simp at this; exact this.1.symm
        rw [hfin.2] at hown2
        rw [← e1]; exact Option.some.inj (hown.symm.trans hown2)
      have h6 := u_fits hfc hkC hkind (Or.inr hlay) hi hd hn hfit
      obtain ⟨ref, q8, q9⟩ : ∃ ref, Cond.fieldLink M.1.cls idx ref (T k).2.1 (T k).2.2.1 ∈ lw_all ∧ (ref = (T k).1 ∨ Cond.sameField ref (T k).1 (T k).2.1 (T k).2.2.1 ∈ lw_all) := by
        rcases q with h | h
        · exact h
        · exact absurd h (hnn hF)
      exact W.putFinK C0.1 C0.2.1 hown (C0.2.2.2.2.2.2.1 _ q8) (flk_same hts q9 _ hi) hst hcf (C0.2.2.2.2.2.2.2.2.2.2.2.1.trans hfin.1) (by rw [q2]; exact h6) q1 q3 (by rw [hsl]; exact k2_hasslot (q4 k hk)) rfl rfl d fin
  · unfold u_lay at hlay
    rw [if_neg hF] at hlay
    have h6 := u_store hfc hkC hkind hlay hi hd hn hfit
    rcases q with ⟨ref, q8, q9⟩ | ⟨host, q8⟩
    · exact W.putK C0.1 C0.2.1 (f := f) ⟨hown, C0.2.2.2.2.2.2.1 _ q8, ⟨_, _, _, flk_same hts q9 _ hi⟩, hst⟩ (by rw [q2]; exact h6) q1 q3 (by rw [hsl]; exact k2_hasslot (q4 k hk)) rfl rfl d fin
    · exact va_WputK C0.1 C0.2.1 (f := f) hown (va_Nw.use rfl (C0.2.2.2.2.2.2.2.1.2.1 _ q8)) hi hst (by rw [q2]; exact h6) q1 q3 (by rw [hsl]; exact k2_hasslot (q4 k hk)) rfl rfl d fin
abbrev inA (c : PC4) (i : Int) : Prop := 0 ≤ i ∧ i < c.2.1
theorem s_iald {a : Nat} {c : PC4} {i : Int} (hB : B.1 a = some c) (ht : c.1 % 1000 = 100) (d : decode M.2.1 pc = .ok (.iaload, 1)) (kk : Sim G M B0 o x (pc + 1) L (iv (c.2.2.1 i.toNat) :: st) B) : Sim G M B0 o (ck (inA c i) x) pc L (iv i :: .ref a :: st) B := fun r hr p e s m args below meth c0 C0 H locs ls hW hS hL => by
  obtain ⟨hc, hr⟩ := ck_some hr
  obtain ⟨w1, w2, w3⟩ := hW.2.2.1 a c hB
  obtain ⟨g1, g2⟩ := vp_in_iv hc.1 hc.2 w3
  have hat := (cAt_int (H := H) ht (Or.inl rfl)).mp w1
  refine W.iald (v := iv (c.2.2.1 i.toNat)) C0.1 C0.2.1 hat ((C0.2.2.2.2.2.2.2.1.1.2 0 (gA G 100, .int) rfl).1 _ _) (fun q => by cases q) (by rw [arrV_size]; exact g1) (by rw [arrV_read _ _ (by omega), g2]; rfl) rfl rfl d (kk r hr p e s m args below meth c0 C0 H locs ls hW hS hL)
theorem s_zald {a : Nat} {c : PC4} {i : Int} (hB : B.1 a = some c) (ht : c.1 % 1000 = 101) (d : decode M.2.1 pc = .ok (.baload, 1)) (kk : Sim G M B0 o x (pc + 1) L (iv (c.2.2.1 i.toNat) :: st) B) : Sim G M B0 o (ck (inA c i) x) pc L (iv i :: .ref a :: st) B := fun r hr p e s m args below meth c0 C0 H locs ls hW hS hL => by
  obtain ⟨hc, hr⟩ := ck_some hr
  obtain ⟨w1, w2, w3⟩ := hW.2.2.1 a c hB
  obtain ⟨g1, g2⟩ := vp_in_iv hc.1 hc.2 w3
  have hat := (cAt_int (H := H) ht (Or.inr (Or.inl rfl))).mp w1
  refine W.zald (v := iv (c.2.2.1 i.toNat)) C0.1 C0.2.1 hat ((C0.2.2.2.2.2.2.2.1.1.2 1 (gA G 101, .boolean) rfl).1 _ _) (fun q => by cases q) (by rw [arrV_size]; exact g1) (by rw [arrV_read _ _ (by omega), g2]; rfl) rfl rfl d (kk r hr p e s m args below meth c0 C0 H locs ls hW hS hL)
theorem s_alen {a : Nat} {c : PC4} (hB : B.1 a = some c) (ht : c.1 % 1000 = 100 ∨ c.1 % 1000 = 101 ∨ c.1 % 1000 = 102) (d : decode M.2.1 pc = .ok (.arraylength, 1)) (kk : Sim G M B0 o x (pc + 1) L (iv (c.2.1 : Nat) :: st) B) : Sim G M B0 o x pc L (.ref a :: st) B := fun r hr p e s m args below meth c0 C0 H locs ls hW hS hL => by
  obtain ⟨w1, w2, w3⟩ := hW.2.2.1 a c hB
  have hat := (cAt_int (H := H) rfl ht).mp w1
  have hK := C0.2.2.2.2.2.2.2.1.1.2
  have kk := kk r hr p e s m args below meth c0 C0 H locs ls hW hS hL
  rcases ht with ht | ht | ht
  · exact W.alen (n := Int32.ofInt c.2.1) C0.1 C0.2.1 hat (by rw [ht]; exact (hK 0 (gA G 100, .int) rfl).1 _ _) (by rw [arrV_size]; rfl) rfl rfl d kk
  · exact W.alen (n := Int32.ofInt c.2.1) C0.1 C0.2.1 hat (by rw [ht]; exact (hK 1 (gA G 101, .boolean) rfl).1 _ _) (by rw [arrV_size]; rfl) rfl rfl d kk
  · exact W.alen (n := Int32.ofInt c.2.1) C0.1 C0.2.1 hat (by rw [ht]; exact (hK 2 (gA G 102, .byte) rfl).1 _ _) (by rw [arrV_size]; rfl) rfl rfl d kk
theorem putI_arr {f : Nat → Int} {k : Nat} {v : Int} : (fun j => Value.int (Int32.ofInt ((fun j => if j = k then v else f j) j))) = updV (fun j => .int (Int32.ofInt (f j))) k (iv v) := by
  funext j
  unfold updV iv
  by_cases h : j = k
  · simp [h]
  · simp [h]
theorem s_iast {a : Nat} {c : PC4} {i v : Int} (hB : B.1 a = some c) (ht : c.1 = 100) (d : decode M.2.1 pc = .ok (.iastore, 1)) (kk : Sim G M B0 o x (pc + 1) L st (upB B a (putI c i.toNat v))) : Sim G M B0 o (ck (inA c i) x) pc L (iv v :: iv i :: .ref a :: st) B := fun r hr p e s m args below meth c0 C0 H locs ls hW hS hL => by
  obtain ⟨hc, hr⟩ := ck_some hr
  obtain ⟨w1, w2, w3⟩ := hW.2.2.1 a c hB
  obtain ⟨g1, g2⟩ := vp_in_iv hc.1 hc.2 w3
  have hat := (cAt_int (H := H) (t := 100) (by omega) (Or.inl rfl)).mp w1
  refine W.iast C0.1 C0.2.1 hat ((C0.2.2.2.2.2.2.2.1.1.2 0 (gA G 100, .int) rfl).1 _ _) (fun q => by cases q) (by rw [arrV_size]; exact g1) rfl rfl d fun H' e1 e2 e3 => ?_
  refine kk r hr p e s m args below meth c0 C0 H' _ ls (hW.put hB (by omega) rfl rfl hat e1 (by simp [Cell.setSlot]) e2 e3 ?_) (hS.put e2 e3 (w2 (by omega))) hL
  refine (cAt_int (t := 100) (by show c.1 % 1000 = 100; omega) (Or.inl rfl)).mpr ?_
  rw [e1, arrV_store, g2]
  exact congrArg some (congrArg (arrV (gA G 100) c.2.1) putI_arr.symm)
abbrev is01 (v : Int) : Prop := v = 0 ∨ v = 1
theorem s_zast {a : Nat} {c : PC4} {i v : Int} (hB : B.1 a = some c) (ht : c.1 = 101) (d : decode M.2.1 pc = .ok (.bastore, 1)) (kk : Sim G M B0 o x (pc + 1) L st (upB B a (putI c i.toNat v))) : Sim G M B0 o (ck (inA c i ∧ is01 v) x) pc L (iv v :: iv i :: .ref a :: st) B := fun r hr p e s m args below meth c0 C0 H locs ls hW hS hL => by
  obtain ⟨⟨hc, h01⟩, hr⟩ := ck_some hr
  obtain ⟨w1, w2, w3⟩ := hW.2.2.1 a c hB
  obtain ⟨g1, g2⟩ := vp_in_iv hc.1 hc.2 w3
  have hat := (cAt_int (H := H) (t := 101) (by omega) (Or.inr (Or.inl rfl))).mp w1
  have hnar : narrow .boolean (.int (Int32.ofInt v)) = iv v := by rcases h01 with rfl | rfl <;> rfl
  refine W.zast C0.1 C0.2.1 hat ((C0.2.2.2.2.2.2.2.1.1.2 1 (gA G 101, .boolean) rfl).1 _ _) (fun q => by cases q) (by rw [arrV_size]; exact g1) rfl rfl d fun H' e1 e2 e3 => ?_
  refine kk r hr p e s m args below meth c0 C0 H' _ ls (hW.put hB (by omega) rfl rfl hat e1 (by simp [Cell.setSlot]) e2 e3 ?_) (hS.put e2 e3 (w2 (by omega))) hL
  refine (cAt_int (t := 101) (by show c.1 % 1000 = 101; omega) (Or.inr (Or.inl rfl))).mpr ?_
  rw [e1, arrV_store, g2, hnar]
  exact congrArg some (congrArg (arrV (gA G 101) c.2.1) putI_arr.symm)
/-! returns -/
theorem ret_w {r : Rv × BH} {p : Program} {e : Env} {s : State} {m : MethodId} {args : Array Value} {below : List Frame} {meth : Method} {c : Code} {H : Heap} {locs : List Loc} {g : JFrame} (hk : r.1.1 < 10) (hW : World G s r.2 H) (hS : va_S (gAA G) s.heap H locs)
    (h : ∀ {k n : Nat} {Q : Array Value → State → Outcome → State → Prop}, (∀ t : State, t.heap = H → s.WarmedH t.vm → Q args s (.returned (rvO r.1)) t) → (∀ q ∈ locs, gAA G q.base) → W p (gL G) e (rmOf G M B0) s m args below meth c H locs k n (MQ below Q args s k n (gAA G)) g) : W p (gL G) e (rmOf G M B0) s m args below meth c H locs (r.2.2.1 - B0.2.1) (r.2.2.2 - B0.2.2) (Fin9 G B0 r below args s) g := by
  refine W.widen (k := gLC G - B0.2.1) (n := gLS G - B0.2.2) (Nat.sub_le_sub_right hW.2.2.2.1.2.1 _) (Nat.sub_le_sub_right hW.2.2.2.1.2.2 _) ?_
  exact vx_ret (h (fun t ht hWm => ⟨⟨hk, rfl, by rw [ht]; exact hW.moved hWm.alike⟩, hS.F ht⟩) hS.2.2)
theorem s_ireturn {r : ρ} {v : Int} {z : Option Nat} (ho : o r = ((1, v, z), B)) (hr : M.2.2.2.1 = some .int) (d : decode M.2.1 pc = .ok (.ireturn, 1)) : Sim G M B0 o (some r) pc L (iv v :: []) B := fun r' hr' p e s m args below meth c0 C0 H locs ls hW hS hL => by
  cases hr'
  have hB : B = (o r).2 := by rw [ho]
  rw [hB] at hW ⊢
  refine ret_w (by rw [ho]; show 1 < 10; omega) hW hS (fun hq hf => ?_)
  exact W.iret C0.1 C0.2.1 (C0.2.2.1.trans hr) (by have e9 : rvO (o r).1 = some (iv v) := by rw [ho]; rfl
                                                   rw [e9] at hq; exact hq) hf d C0.2.2.2.1
theorem s_zreturn {r : ρ} {v : Int} {z : Option Nat} (ho : o r = ((1, v, z), B)) (hr : M.2.2.2.1 = some .boolean) (d : decode M.2.1 pc = .ok (.ireturn, 1)) : Sim G M B0 o (ck (is01 v) (some r)) pc L (iv v :: []) B := fun r' hr' p e s m args below meth c0 C0 H locs ls hW hS hL => by
  obtain ⟨h01, hr'⟩ := ck_some hr'
  cases hr'
  have hB : B = (o r).2 := by rw [ho]
  rw [hB] at hW ⊢
  refine ret_w (by rw [ho]; show 1 < 10; omega) hW hS (fun hq hf => ?_)
  exact W.zret C0.1 C0.2.1 (C0.2.2.1.trans hr) (by rcases h01 with rfl | rfl <;> rfl) (by have e9 : rvO (o r).1 = some (iv v) := by rw [ho]; rfl
                                                                                          rw [e9] at hq; exact hq) hf d C0.2.2.2.1
theorem s_return {r : ρ} {v : Int} {z : Option Nat} (ho : o r = ((0, v, z), B)) (hr : M.2.2.2.1 = none) (d : decode M.2.1 pc = .ok (.return_, 1)) : Sim G M B0 o (some r) pc L [] B := fun r' hr' p e s m args below meth c0 C0 H locs ls hW hS hL => by
  cases hr'
  have hB : B = (o r).2 := by rw [ho]
  rw [hB] at hW ⊢
  refine ret_w (by rw [ho]; show 0 < 10; omega) hW hS (fun hq hf => ?_)
  exact W.vret C0.1 C0.2.1 (C0.2.2.1.trans hr) (by have e9 : rvO (o r).1 = none := by rw [ho]; rfl
                                                   rw [e9] at hq; exact hq) hf d C0.2.2.2.1
theorem s_areturn {r : ρ} {v : Int} {a : Option Nat} (ho : o r = ((2, v, a), B)) {rt : FieldType} (hr : M.2.2.2.1 = some rt) (hrt : (∃ n, rt = .object n) ∨ ∃ t, rt = .array t) (d : decode M.2.1 pc = .ok (.areturn, 1)) : Sim G M B0 o (some r) pc L (va_rf a :: []) B := fun r' hr' p e s m args below meth c0 C0 H locs ls hW hS hL => by
  cases hr'
  have hB : B = (o r).2 := by rw [ho]
  rw [hB] at hW ⊢
  refine ret_w (by rw [ho]; show 2 < 10; omega) hW hS (fun hq hf => ?_)
  exact W.aret C0.1 C0.2.1 (C0.2.2.1.trans hr) hrt (by cases a with
    | none => exact Or.inl rfl
    | some a => exact Or.inr ⟨a, rfl⟩) (by have e9 : rvO (o r).1 = some (va_rf a) := by rw [ho]; rfl
                                           rw [e9] at hq; exact hq) hf d C0.2.2.2.1
end ROWS
end
section
/-! BASE 4: contracts out of Sims; calls -/
def nwK (w : Cond) : Bool := match w with
  | .fieldLinkNest .. => true
  | .methodLinkNest .. => true
  | .castable .. => true
  | .declares .. => true
  | _ => false
theorem nwK_warm {w : Cond} (h : nwK w = true) {s U : State} (hW : s.WarmedH U.vm) (hZ : va_Nw w s) : va_Nw w U := by
  cases w <;> first | exact va_Nw.warmF hW hZ | exact va_Nw.warmM hW hZ | exact va_Nw.warmC hW hZ | exact va_Nw.warmD hW hZ | cases h
theorem nwK_tab {w : Cond} (h : nwK w = true) : w.onTables = true := by
  cases w <;> first | rfl | cases h
theorem gNw_ok : gNw.all nwK = true := rfl
theorem gFw_ok : ∀ f ∈ gFw, f.2.1.cls ≠ "java/lang/invoke/MethodHandle" ∧ f.2.1.cls ≠ "java/lang/invoke/VarHandle" := by decide +kernel
theorem GOK.warm {G : GT} {s U : State} (hW : s.WarmedH U.vm) (h : GOK G s) : GOK G U := ⟨va_K.moved hW.alike h.1, fun w hw => nwK_warm (List.all_eq_true.mp gNw_ok w hw) hW (h.2.1 w hw), fun f hf => (h.2.2.1 f hf).moved (gFw_ok f hf) hW.alike, fun C hC => (h.2.2.2.1 C hC).moved hW.alike, h.2.2.2.2.1, h.2.2.2.2.2.1.moved hW.alike, fun i q hq => (h.2.2.2.2.2.2 i q hq).warm hW⟩
theorem GOK.vm {G : GT} {s U : State} (hv : s.vm = U.vm) (h : GOK G s) : GOK G U := by
  have ha : s.vm.Alike U.vm := by rw [hv]; exact Vm.Alike.refl _
  exact ⟨va_K.moved ha h.1, fun w hw => va_Nw.same (nwK_tab (List.all_eq_true.mp gNw_ok w hw)) hv (h.2.1 w hw), fun f hf => (h.2.2.1 f hf).moved (gFw_ok f hf) ha, fun C hC => (h.2.2.2.1 C hC).moved ha, h.2.2.2.2.1, h.2.2.2.2.2.1.moved ha, fun i q hq => (h.2.2.2.2.2.2 i q hq).same hv.symm⟩
theorem World.warm {G : GT} {s U : State} {B : BH} {H : Heap} (hW : s.WarmedH U.vm) (h : World G s B H) : World G U B H := h.moved hW.alike
def MetN {ρ : Type} (G : GT) (M : MI) (B : BH) (o : ρ → Rv × BH) (x : Option ρ) (av : List Value) : Prop :=
  ∀ r, x = some r → vx_Met (gL G) M.1 (ws_ M.1 M.2.1 M.2.2.1 M.2.2.2.1) (rmOf G M B) (va_Pc av (fun U => World G U B U.heap ∧ GOK G U)) (Qof G (o r)) (Xof G (o r)) (gLC G - B.2.1) (gLS G - B.2.2) (gAA G)
theorem lg_sl1 : ∀ {av : List Value}, (∀ v ∈ av, v.category = 1) → (lg_sl av).length = av.length
  | [], _ => rfl
  | v :: av, h => by
    have h1 := h v List.mem_cons_self
    have h2 := lg_sl1 (av := av) (fun w hw => h w (List.mem_cons_of_mem _ hw))
    unfold lg_sl at h2 ⊢
    rw [List.flatMap_cons, List.length_append, h2, if_neg (by omega)]
    simp
    omega
theorem lv_args1 : ∀ {av : List Value} {k i : Nat} {v : Value}, (∀ v ∈ av, v.category = 1) → av[i]? = some v → (k + i, v) ∈ lv_args k av
  | [], _, _, _, _, e => by simp at e
  | w :: av, k, i, v, h, e => by
    have h1 := h w List.mem_cons_self
    unfold lv_args
    rw [if_neg (by omega)]
    cases i with
    | zero =>
      simp at e
      rw [e]
      exact List.mem_cons_self
    | succ i =>
      have h2 := lv_args1 (av := av) (k := k + 1) (i := i) (v := v) (fun w hw => h w (List.mem_cons_of_mem _ hw)) (by simpa using e)
      rw [show k + (i + 1) = k + 1 + i by omega]
      exact List.mem_cons_of_mem _ h2
def cat1 : List Value → Prop
  | [] => True
  | v :: l => v.category = 1 ∧ cat1 l
theorem cat1_all : ∀ {l : List Value}, cat1 l → ∀ v ∈ l, v.category = 1
  | [], _, v, hv => by cases hv
  | w :: l, h, v, hv => by
    rcases List.mem_cons.mp hv with rfl | hv
    · exact h.1
    · exact cat1_all h.2 v hv
theorem cat1_sum : ∀ {l : List Value}, cat1 l → (l.map fun v => v.category).sum = l.length
  | [], _ => rfl
  | w :: l, h => by
    rw [List.map_cons, List.sum_cons, cat1_sum h.2, h.1, List.length_cons]
    omega
theorem LV_entry {av : List Value} {n : Nat} (hc : cat1 av) (hlen : av.length ≤ n) : LV ((lg_sl av ++ List.replicate (n - (lg_sl av).length) Slot.unset).toArray) n (av.map some ++ List.replicate (n - av.length) none) := by
  have hca := cat1_all hc
  have hL := lv_entry av (n := n) (by rw [lg_sl1 hca]; exact hlen)
  have key : ∀ (i : Nat) (v : Value), (av.map some ++ List.replicate (n - av.length) none)[i]? = some (some v) → av[i]? = some v := by
    intro i v h
    by_cases hi : i < av.length
    · rw [List.getElem?_append_left (by simpa using hi), List.getElem?_map] at h
      cases hx : av[i]? with
      | none => rw [hx] at h; cases h
      | some w => rw [hx] at h; simp at h; rw [h]
    · rw [List.getElem?_append_right (by simpa using hi)] at h
      have := List.mem_of_getElem? h
      simp at this
  refine ⟨⟨hL.1, hL.2.1, fun q hq => ?_⟩, fun i v h => hca v (List.mem_of_getElem? (key i v h))⟩
  have h1 := lv_args1 (k := 0) hca (key q.1 q.2 (la_mem.mp hq))
  rw [Nat.zero_add] at h1
  exact hL.2.2 q h1
theorem mk_met {ρ : Type} {G : GT} {M : MI} {B : BH} {o : ρ → Rv × BH} {x : Option ρ} {av : List Value} {L0 : LL} (hy : plainName M.1.cls = true) (hh : M.2.2.2.2.1 = []) (hc : cat1 av) (hlen : av.length ≤ M.2.2.1) (hL : av.map some ++ List.replicate (M.2.2.1 - av.length) none = L0) (h : Sim G M B o x 0 L0 [] B) : MetN G M B o x av := by
  intro r hr
  refine vx_ofW (cc := M.2.1) (maxL := M.2.2.1) (ret := M.2.2.2.1) hy rfl ?_
  intro p e s m args below meth c s₁ Bd hml hexc hv
  obtain ⟨rfl, hW, hK⟩ := hv
  have hts := atoms_spec (ws := ws_ M.1 M.2.1 M.2.2.1 M.2.2.2.1) Bd.pre
  have he : c.exceptionTable.toList = tableOf M.2.2.2.2.1 := by
    rw [hh, List.eq_nil_iff_forall_not_mem.mpr (fun x hx => hexc x hx)]
    rfl
  have C : CX G M B p s m av.toArray meth c := ⟨Bd.exec, Bd.bytes, Bd.returns, Bd.notSynchronized, hml, findClass_of_methodNamed Bd.named, fun w h => hts w (List.mem_cons_of_mem _ h), hK, by rw [hW.1]; exact hW.2.2.2.1.1, hW.1, hW.2.1, (name_of_methodNamed Bd.named Bd.method).1, he⟩
  rw [lg_entry_eq]
  have k := h r hr p e s m av.toArray below meth c C s.heap [] _ hW va_S.rf (by rw [← hL]; exact LV_entry hc hlen)
  rw [Nat.sub_self, Nat.sub_self] at k
  exact k
section CALLS
theorem tot_le {p : Program} {l : Launch} {e : Env} {R : Room} {s : State} {m : MethodId} {args : Array Value} {below : List Frame} {meth : Method} {c : Code} {T : State} {locs : List Loc} {k n : Nat} (X : Stand p l e R s m args below meth c T locs k n) : tot s.heap ≤ tot T.heap := by
  have b1 := tot_true X.book
  have b0 : s.slotsUsed = tot s.heap := by
    have h := X.room
    simp only [State.hasRoom, Bool.and_eq_true] at h
    exact tot_true h.2
  have e4 : T.slotsUsed = s.slotsUsed + (((T.setVm s.vm).heap.toList.drop s.heap.size).map (·.slots.size)).sum := X.same.2.2.2.1
  omega
variable {ρ ρ' : Type} {G : GT} {M My : MI} {B0 : BH} {o : ρ → Rv × BH} {o' : ρ' → Rv × BH} {x : Option ρ} {x' : Option ρ'} {κ : ρ' → Option ρ} {pc : Nat} {L : LL} {st stk : List Value} {B : BH} {As : List Value} {b idx t N : Nat} {C : String} {T : u_T}
theorem blind {G : GT} {B : BH} {av : List Value} : FrameBlind (va_Pc av (fun U => World G U B U.heap ∧ GOK G U)) := fun a U g mk q => ⟨q.1, World.moved (u := U) (U := U.calling g mk a) (Vm.Alike.refl U.vm) q.2.1, GOK.vm (s := U) (U := U.calling g mk a) rfl q.2.2⟩
/-- behind a call that returns -/
theorem run_k {p : Program} {e : Env} {R : Room} {s : State} {m : MethodId} {args a : Array Value} {below : List Frame} {meth : Method} {c : Code} {H : Heap} {locs : List Loc} {k n mc ms : Nat} {ls : Array Slot} {Q : State → Prop} {r1 : Rv × BH} (hs : s.heap.size = B0.2.1) (ht : tot s.heap = B0.2.2)
    (hrun : vx_Run p (gL G) e R s m args below meth c H locs k n mc ms (F0 m pc ls stk) st (Qof G r1 a) (Xof G r1) (gAA G)) (hS : va_S (gAA G) s.heap H locs) (hk : r1.1.1 < 10)
    (kk : ∀ (H1 : Heap) (locs1 : List Loc), World G s r1.2 H1 → va_S (gAA G) s.heap H1 locs1 → W p (gL G) e R s m args below meth c H1 locs1 (r1.2.2.1 - B0.2.1) (r1.2.2.2 - B0.2.2) Q (F0 m (pc + 3) ls ((rvO r1.1).toList ++ st))) : W p (gL G) e R s m args below meth c H locs k n Q (F0 m pc ls stk) := by
  intro T hT X
  rcases hrun T hT X with ⟨v, st₀, t, T', Lc, h0, X', hL, e1, e2, ⟨⟨-, hv, hW1⟩, hF⟩, stp⟩ | ⟨q, st₀, t, T', Lc, E, ce, h0, X', hL, e1, e2, ⟨⟨h10, -⟩, -⟩, -⟩
  · cases hv
    have hW2 : World G s r1.2 T'.heap := by
      rw [e1]
      exact hW1.moved (by rw [← e2]; exact X'.warmed.alike.symm)
    obtain ⟨-, -, hS'⟩ := vx_keep h0 e1 hS (fun _ _ h => h) (fun _ h => h) hL hF
    have h9 := w_tight (k := k + mc) (n := n + ms) (by rw [hW2.1, hs]; omega) (by rw [hW2.2.1, ht]; omega) (kk T'.heap (locs ++ Lc) hW2 hS')
    obtain ⟨t2, a1, b1⟩ := h9 T' rfl X'
    exact ⟨t2, stp t2 a1, b1⟩
  · omega
theorem s_callV (hM : MetN G My B o' x' (.ref b :: As)) (n : Nat) (hn : As.length = n) (hstk : stk = As.reverse ++ .ref b :: st) (hb : ∃ c, B.1 b = some c ∧ c.1 % 1000 = t) (hC : gCl[t]? = some (C, T, N)) (hw : GoodIn lw_all (wsV M.1.cls idx C My.1 (ws_ My.1 My.2.1 My.2.2.1 My.2.2.2.1)))
    (hd : My.1.cls = C ∧ My.1.cls ≠ "java/lang/invoke/MethodHandle" ∧ My.1.cls ≠ "java/lang/invoke/VarHandle" ∧ (parseMethodDescriptor My.1.desc).map (fun d => d.parameters.length) = some n) (hR : My.2.2.2.2.2.1 + 1 ≤ M.2.2.2.2.2.1 ∧ 8 + (My.2.2.1 + 11) + My.2.2.2.2.2.2 ≤ M.2.2.2.2.2.2)
    (hst : cat1 st) (hst8 : st.length ≤ 8) (hr0 : ∀ r, (o' r).1.1 < 10) (d : decode M.2.1 pc = .ok (.invokevirtual idx, 3)) (kk : ∀ r, Sim G M B0 o (κ r) (pc + 3) L ((rvO (o' r).1).toList ++ st) (o' r).2) : Sim G M B0 o (x'.bind κ) pc L stk B := by
  intro r hr p e s m args below meth c0 C0 H locs ls hW hS hL
  cases hx : x' with
  | none => rw [hx] at hr; cases hr
  | some r1 =>
    rw [hx] at hr
    subst hstk
    intro T0 hT0 X0
    have htl : B0.2.2 ≤ B.2.2 := by
      have := tot_le X0
      rw [hT0, hW.2.1, C0.2.2.2.2.2.2.2.2.2.2.1] at this
      exact this
    have hzl : B0.2.1 ≤ B.2.1 := by
      have := hS.1
      rw [hW.1, C0.2.2.2.2.2.2.2.2.2.1] at this
      exact this
    have hlim := hW.2.2.2.1
    have hts := C0.2.2.2.2.2.2.1
    refine run_k (r1 := o' r1) (a := (Value.ref b :: As).toArray) (mc := gLC G - B.2.1) (ms := gLS G - B.2.2) C0.2.2.2.2.2.2.2.2.2.1 C0.2.2.2.2.2.2.2.2.2.2.1 ?_ hS (hr0 r1) (fun H1 locs1 hW1 hS1 => kk r1 r hr p e s m args below meth c0 C0 H1 locs1 ls hW1 hS1 hL) T0 hT0 X0
    obtain ⟨c, hB, hct⟩ := hb
    have htl9 := gCl_lt hC
    have hat := (cAt_obj (H := H) hct htl9).mp (hW.2.2.1 b c hB).1
    have hP : va_P (gD G) gCl [(b, .inr (t, (List.range (gN t)).map (fV t c.2.2.1 c.2.2.2)))] H := fun k q hq => by
      cases k with
      | zero => cases hq; exact hat
      | succ k => simp at hq
    exact vx_runV (C := C) (n := n) ⟨C0.1, C0.2.1, C0.2.2.2.2.1, C0.2.2.2.2.2.1, hts⟩ (hM r1 hx) (cwV n hts hw rfl rfl rfl hd hR) ⟨blind, va_recv C0.2.2.2.2.2.2.2.1.1 hP hC (q0 := 0) rfl, fun U hU hWm => ⟨rfl, by rw [hU]; exact hW.warm hWm, C0.2.2.2.2.2.2.2.1.warm hWm⟩⟩ rfl hn hL.1.1 rfl (lv_room (by rw [cat1_sum hst]; exact hst8)) d ⟨by show _ ≤ gLC G - B0.2.1; omega, by show _ ≤ gLS G - B0.2.2; omega⟩
theorem s_callS (hM : MetN G My B o' x' As) (n : Nat) (hn : As.length = n) (hstk : stk = As.reverse ++ st) (hw : GoodIn lw_all (va_wsS M.1.cls idx My.1 (ws_ My.1 My.2.1 My.2.2.1 My.2.2.2.1)))
    (hd : My.1.cls ≠ "java/lang/invoke/MethodHandle" ∧ My.1.cls ≠ "java/lang/invoke/VarHandle" ∧ (parseMethodDescriptor My.1.desc).map (fun d => d.parameters.length) = some n) (hR : My.2.2.2.2.2.1 + 1 ≤ M.2.2.2.2.2.1 ∧ 8 + (My.2.2.1 + 11) + My.2.2.2.2.2.2 ≤ M.2.2.2.2.2.2)
    (hst : cat1 st) (hst8 : st.length ≤ 8) (hr0 : ∀ r, (o' r).1.1 < 10) (d : decode M.2.1 pc = .ok (.invokestatic idx, 3)) (kk : ∀ r, Sim G M B0 o (κ r) (pc + 3) L ((rvO (o' r).1).toList ++ st) (o' r).2) : Sim G M B0 o (x'.bind κ) pc L stk B := by
  intro r hr p e s m args below meth c0 C0 H locs ls hW hS hL
  cases hx : x' with
  | none => rw [hx] at hr; cases hr
  | some r1 =>
    rw [hx] at hr
    subst hstk
    intro T0 hT0 X0
    have htl : B0.2.2 ≤ B.2.2 := by
      have := tot_le X0
      rw [hT0, hW.2.1, C0.2.2.2.2.2.2.2.2.2.2.1] at this
      exact this
    have hzl : B0.2.1 ≤ B.2.1 := by
      have := hS.1
      rw [hW.1, C0.2.2.2.2.2.2.2.2.2.1] at this
      exact this
    have hlim := hW.2.2.2.1
    have hts := C0.2.2.2.2.2.2.1
    refine run_k (r1 := o' r1) (a := As.toArray) (mc := gLC G - B.2.1) (ms := gLS G - B.2.2) C0.2.2.2.2.2.2.2.2.2.1 C0.2.2.2.2.2.2.2.2.2.2.1 ?_ hS (hr0 r1) (fun H1 locs1 hW1 hS1 => kk r1 r hr p e s m args below meth c0 C0 H1 locs1 ls hW1 hS1 hL) T0 hT0 X0
    exact vx_runS (n := n) ⟨C0.1, C0.2.1, C0.2.2.2.2.1, C0.2.2.2.2.2.1, hts⟩ (hM r1 hx) (va_cwS n hts hw rfl rfl rfl hd hR) ⟨blind, fun U hU hWm => ⟨rfl, by rw [hU]; exact hW.warm hWm, C0.2.2.2.2.2.2.2.1.warm hWm⟩⟩ rfl hn hL.1.1 rfl (lv_room (by rw [cat1_sum hst]; exact hst8)) d ⟨by show _ ≤ gLC G - B0.2.1; omega, by show _ ≤ gLS G - B0.2.2; omega⟩
end CALLS
end
section
/-! the reference: its arrays by order of making: 0 draft, 1 protections, 2 queueRanks, 3 pageAt, 4 texts, 5 textLengths, 6 times, 7 pageOf, 8 approvedPages, 9 approvedTimes, 10 approvedVersions, 11 translations, 12 madeOf, 13 instructions, 14 operands, 15 instructionMany, 16 titleTicks, 17 categoryTicks, 18 moduleTicks, 19 presentWas, 20 isRendered, 21 renderTicks, 22 shownRows, 23 shownMany, 24 links, 25 categories, 26 reads, 27 counted, 28 used, 29 stack, 30 opened, 31 frameVersions, 32 frameTitles, 33 frameDepths, 34 frameCallers, 35 argumentFroms, 36 argumentTos, 37 argumentRows, 38 rowLengths, 39 rows, 40 functionKinds, 41 functionFrames, 42 functionRows, 43 partMany, 44 partFroms, 45 partTos, 46 partRows, 47 taskKinds, 48 taskOnes, 49 taskFroms, 50 taskTos, 51 taskRows, 52 numbers, 53 meant, 54 result, 55 single; its int fields: 1 draftMany, 2 ownRank, 5 clockNow, 7 pageMany, 8 versionMany, 13 approvalMany, 22 tick, 36 thrown, 39 viewTime, 40 frameMany, 48 rowMany, 51 functionMany, 59 taskMany, 65 callMany, 66 linksNow, 67 categoriesNow, 68 readsNow, 69 countedNow, 70 usedNow, 71 lacking, 73 numberMany, 75 meantMany, 77 resultMany -/
def tTab : List (Nat × Nat) := [(30, 100), (24, 100), (24, 100), (24, 100), (3600, 100), (120, 100), (120, 100), (120, 100), (2000, 100), (2000, 100), (2000, 100), (48, 100), (48, 100), (64, 100), (64, 100), (4, 100), (24, 100), (8, 100), (4, 100), (24, 100), (24, 101), (24, 100), (3600, 100), (24, 100), (24, 100), (24, 100), (24, 100), (24, 100), (24, 100), (61, 100), (61, 100), (41, 100), (41, 100), (41, 100), (41, 100), (410, 100), (410, 100), (410, 100), (1700, 100), (255000, 100), (700, 100), (700, 100), (700, 100), (700, 100), (22400, 100), (22400, 100), (22400, 100), (4000, 100), (4000, 100), (4000, 100), (4000, 100), (4000, 100), (9, 100), (60, 100), (200, 100), (1, 100)]
def tAi : Nat → Option Nat := fun k => match k with
  | 0 => some 0
  | 3 => some 1
  | 4 => some 2
  | 6 => some 3
  | 9 => some 4
  | 10 => some 5
  | 11 => some 6
  | 12 => some 7
  | 14 => some 8
  | 15 => some 9
  | 16 => some 10
  | 17 => some 11
  | 18 => some 12
  | 19 => some 13
  | 20 => some 14
  | 21 => some 15
  | 23 => some 16
  | 24 => some 17
  | 25 => some 18
  | 26 => some 19
  | 27 => some 20
  | 28 => some 21
  | 29 => some 22
  | 30 => some 23
  | 31 => some 24
  | 32 => some 25
  | 33 => some 26
  | 34 => some 27
  | 35 => some 28
  | 37 => some 29
  | 38 => some 30
  | 41 => some 31
  | 42 => some 32
  | 43 => some 33
  | 44 => some 34
  | 45 => some 35
  | 46 => some 36
  | 47 => some 37
  | 49 => some 38
  | 50 => some 39
  | 52 => some 40
  | 53 => some 41
  | 54 => some 42
  | 55 => some 43
  | 56 => some 44
  | 57 => some 45
  | 58 => some 46
  | 60 => some 47
  | 61 => some 48
  | 62 => some 49
  | 63 => some 50
  | 64 => some 51
  | 72 => some 52
  | 74 => some 53
  | 76 => some 54
  | 78 => some 55
  | _ => none
end
section
/-! BASE 5: the reference's state: one object at h, its arrays at h + 1 .. in the order of their making; rows over it -/
abbrev TS : Type := (Nat → Int) × (Nat → Nat → Int)
def tLen (j : Nat) : Nat := ((tTab[j]?).map (·.1)).getD 0
def tTag (j : Nat) : Nat := ((tTab[j]?).map (·.2)).getD 100
def ovl (Bx : BH) (h : Nat) (τ : TS) : BH := (fun a => if a = h then some (0, 0, τ.1, fun k => (tAi k).map (fun j => h + 1 + j)) else if h < a ∧ a < h + 1 + tTab.length then some (tTag (a - h - 1), tLen (a - h - 1), τ.2 (a - h - 1), fun _ => none) else Bx.1 a, Bx.2)
def setF (τ : TS) (k : Nat) (v : Int) : TS := (fun k' => if k' = k then v else τ.1 k', τ.2)
def setA (τ : TS) (j : Nat) (i : Int) (v : Int) : TS := (τ.1, fun j' => if j' = j then (fun i' => if i' = i.toNat then v else τ.2 j i') else τ.2 j')
def tF (τ : TS) (k : Nat) : Int := τ.1 k
def tA (τ : TS) (j : Nat) (i : Int) : Int := τ.2 j i.toNat
abbrev inI (j : Nat) (i : Int) : Prop := (j < tTab.length ∧ tTag j = 100) ∧ 0 ≤ i ∧ i < tLen j
abbrev inZ (j : Nat) (i : Int) : Prop := (j < tTab.length ∧ tTag j = 101) ∧ 0 ≤ i ∧ i < tLen j
def ot1 (Bx : BH) (h : Nat) (r : Int × TS) : Rv × BH := ((1, r.1, none), ovl Bx h r.2)
def ot0 (Bx : BH) (h : Nat) (r : TS) : Rv × BH := ((0, 0, none), ovl Bx h r)
def bd1 {ρ : Type} (x : Option (Int × TS)) (κ : Int → TS → Option ρ) : Option ρ := x.bind (fun r => κ r.1 r.2)
def bd0 {ρ : Type} (x : Option TS) (κ : TS → Option ρ) : Option ρ := x.bind κ
theorem ovl_o {Bx : BH} {h : Nat} {τ : TS} : (ovl Bx h τ).1 h = some (0, 0, τ.1, fun k => (tAi k).map (fun j => h + 1 + j)) := if_pos rfl
theorem ovl_a {Bx : BH} {h j : Nat} {τ : TS} (hj : j < tTab.length) : (ovl Bx h τ).1 (h + 1 + j) = some (tTag j, tLen j, τ.2 j, fun _ => none) := by
  unfold ovl
  show (if h + 1 + j = h then _ else if h < h + 1 + j ∧ h + 1 + j < h + 1 + tTab.length then _ else _) = _
  rw [if_neg (by omega), if_pos ⟨by omega, by omega⟩, show h + 1 + j - h - 1 = j by omega]
theorem upB_ovl_o {Bx : BH} {h k : Nat} {τ : TS} {v : Int} : upB (ovl Bx h τ) h (putI (0, 0, τ.1, fun k => (tAi k).map (fun j => h + 1 + j)) k v) = ovl Bx h (setF τ k v) := by
  refine Prod.ext (funext fun a => ?_) rfl
  show (if a = h then _ else (if a = h then _ else _)) = (if a = h then _ else _)
  by_cases e : a = h
  · rw [if_pos e, if_pos e]; rfl
  · rw [if_neg e, if_neg e, if_neg e]; rfl
theorem upB_ovl_a {Bx : BH} {h j : Nat} {τ : TS} {i v : Int} (hj : j < tTab.length) : upB (ovl Bx h τ) (h + 1 + j) (putI (tTag j, tLen j, τ.2 j, fun _ => none) i.toNat v) = ovl Bx h (setA τ j i v) := by
  refine Prod.ext (funext fun a => ?_) rfl
  show (if a = h + 1 + j then _ else (if a = h then _ else if h < a ∧ a < h + 1 + tTab.length then _ else _)) = (if a = h then _ else if h < a ∧ a < h + 1 + tTab.length then _ else _)
  by_cases e : a = h + 1 + j
  · subst e
    rw [if_pos rfl, if_neg (by omega), if_pos ⟨by omega, by omega⟩, show h + 1 + j - h - 1 = j by omega]
    show some (tTag j, tLen j, _, _) = some (tTag j, tLen j, (setA τ j i v).2 j, _)
    congr 3
    unfold setA
    simp
  · rw [if_neg e]
    by_cases e2 : a = h
    · rw [if_pos e2, if_pos e2]; rfl
    · rw [if_neg e2, if_neg e2]
      by_cases e3 : h < a ∧ a < h + 1 + tTab.length
      · rw [if_pos e3, if_pos e3]
        have e4 : a - h - 1 ≠ j := by omega
        unfold setA
        simp [e4]
      · rw [if_neg e3, if_neg e3]
section TWIN
variable {ρ : Type} {G : GT} {M My : MI} {Bx B0 : BH} {h : Nat} {τ : TS} {o : ρ → Rv × BH} {x y : Option ρ} {pc : Nat} {L : LL} {st stk : List Value}
theorem s_aloadR_n {B : BH} {k : Fin 4} {a : Nat} (d : decode M.2.1 pc = .ok (.aload_n k, 1)) (hl : L[(k : Nat)]? = some (some (.ref a))) (kk : Sim G M B0 o x (pc + 1) L (.ref a :: st) B) : Sim G M B0 o x pc L st B := s_aload_n (a := some a) d hl kk
theorem s_aloadR {B : BH} {k : Nat} {a : Nat} (d : decode M.2.1 pc = .ok (.aload k, 2)) (hl : L[k]? = some (some (.ref a))) (kk : Sim G M B0 o x (pc + 2) L (.ref a :: st) B) : Sim G M B0 o x pc L st B := s_aload (a := some a) d hl kk
theorem s_iincn {B : BH} {L' : Int → LL} {i : Nat} {n a : Int} {κ : Int → Option ρ} (d : decode M.2.1 pc = .ok (.iinc i n, 3)) (hi : L[i]? = some (some (iv a))) (hn : i < M.2.2.1) (hl : ∀ v : Int, L.set i (some (iv v)) = L' v) (kk : ∀ v, Sim G M B0 o (κ v) (pc + 3) (L' v) st B) : Sim G M B0 o (nm (a + n) κ) pc L st B := s_iinc d hi hn (hl _) (kk (a + n))
theorem s_istore_nn {B : BH} {L' : Int → LL} {k : Fin 4} {a : Int} {κ : Int → Option ρ} (d : decode M.2.1 pc = .ok (.istore_n k, 1)) (hn : (k : Nat) < M.2.2.1) (hl : ∀ v : Int, L.set (k : Nat) (some (iv v)) = L' v) (kk : ∀ v, Sim G M B0 o (κ v) (pc + 1) (L' v) st B) : Sim G M B0 o (nm a κ) pc L (iv a :: st) B := s_istore_n d hn (hl _) (kk a)
theorem s_istoren {B : BH} {L' : Int → LL} {k : Nat} {a : Int} {κ : Int → Option ρ} (d : decode M.2.1 pc = .ok (.istore k, 2)) (hn : k < M.2.2.1) (hl : ∀ v : Int, L.set k (some (iv v)) = L' v) (kk : ∀ v, Sim G M B0 o (κ v) (pc + 2) (L' v) st B) : Sim G M B0 o (nm a κ) pc L (iv a :: st) B := s_istore d hn (hl _) (kk a)
theorem fX3 {k : Nat} (hk : k < 79) : fdOK 0 RX3 TX3 79 k := ⟨rfl, in_X3, hk⟩
theorem t_getA {k j idx : Nat} (hk : k < 79) (hj : tAi k = some j) (hr : gRef 0 k = true) (q : Cond.fieldLink M.1.cls idx (TX3 k).1 (TX3 k).2.1 (TX3 k).2.2.1 ∈ lw_all) (d : decode M.2.1 pc = .ok (.getfield idx, 3)) (kk : Sim G M B0 o x (pc + 3) L (.ref (h + 1 + j) :: st) (ovl Bx h τ)) : Sim G M B0 o x pc L (.ref h :: st) (ovl Bx h τ) :=
  s_getf (t := 0) ovl_o rfl (fX3 hk) (flk_own q) d (by unfold fV; rw [if_pos hr]; show Sim G M B0 o x (pc + 3) L (va_rf ((tAi k).map (fun j => h + 1 + j)) :: st) _; rw [hj]; exact kk)
theorem t_getI {k idx : Nat} (hk : k < 79) (hr : gRef 0 k = false) (q : Cond.fieldLink M.1.cls idx (TX3 k).1 (TX3 k).2.1 (TX3 k).2.2.1 ∈ lw_all) (d : decode M.2.1 pc = .ok (.getfield idx, 3)) (kk : Sim G M B0 o x (pc + 3) L (iv (tF τ k) :: st) (ovl Bx h τ)) : Sim G M B0 o x pc L (.ref h :: st) (ovl Bx h τ) :=
  s_getf (t := 0) ovl_o rfl (fX3 hk) (flk_own q) d (by unfold fV; rw [if_neg (by rw [hr]; decide)]; exact kk)
theorem t_putI {k idx : Nat} {v : Int} {κ : TS → Option ρ} (hk : k < 79) (hr : gRef 0 k = false) (hfin : (TX3 k).2.2.2 = false) (hty : (TX3 k).2.2.1 = "I") (q : Cond.fieldLink M.1.cls idx (TX3 k).1 (TX3 k).2.1 (TX3 k).2.2.1 ∈ lw_all) (d : decode M.2.1 pc = .ok (.putfield idx, 3)) (kk : ∀ τ', Sim G M B0 o (κ τ') (pc + 3) L st (ovl Bx h τ')) : Sim G M B0 o (nm (setF τ k v) κ) pc L (iv v :: .ref h :: st) (ovl Bx h τ) := by
  refine s_putG (t := 0) (ty := .int) tyX3 tyX3_ok nmX3 ovl_o rfl (fX3 hk) (flk_own q) (Or.inl hfin) (fun h9 => by rw [hfin] at h9; cases h9) (by rw [hty]; decide +kernel) rfl rfl (c' := putI (0, 0, τ.1, fun k => (tAi k).map (fun j => h + 1 + j)) k v) rfl rfl (fun j => ?_) d ?_
  · unfold fV putI
    by_cases e : j = k
    · subst e
      rw [if_neg (by rw [hr]; decide), if_pos rfl]
      show iv (if j = j then v else τ.1 j) = _
      rw [if_pos rfl]
    · rw [if_neg e]
      show (if gRef 0 j = true then _ else Value.int (Int32.ofInt (if j = k then v else τ.1 j))) = _
      rw [if_neg e]
  · rw [upB_ovl_o]
    exact kk _
theorem t_iald {j : Nat} {i : Int} (d : decode M.2.1 pc = .ok (.iaload, 1)) (kk : Sim G M B0 o x (pc + 1) L (iv (tA τ j i) :: st) (ovl Bx h τ)) : Sim G M B0 o (ck (inI j i) x) pc L (iv i :: .ref (h + 1 + j) :: st) (ovl Bx h τ) := fun r hr => by
  obtain ⟨⟨⟨hj, ht⟩, hi⟩, hr⟩ := ck_some hr
  exact s_iald (x := some r) (ovl_a hj) (by show tTag j % 1000 = 100; rw [ht]) d (fun r' e => by cases e; exact kk r hr) r (if_pos hi)
theorem t_zald {j : Nat} {i : Int} (d : decode M.2.1 pc = .ok (.baload, 1)) (kk : Sim G M B0 o x (pc + 1) L (iv (tA τ j i) :: st) (ovl Bx h τ)) : Sim G M B0 o (ck (inZ j i) x) pc L (iv i :: .ref (h + 1 + j) :: st) (ovl Bx h τ) := fun r hr => by
  obtain ⟨⟨⟨hj, ht⟩, hi⟩, hr⟩ := ck_some hr
  exact s_zald (x := some r) (ovl_a hj) (by show tTag j % 1000 = 101; rw [ht]) d (fun r' e => by cases e; exact kk r hr) r (if_pos hi)
theorem t_iast {j : Nat} {i v : Int} {κ : TS → Option ρ} (d : decode M.2.1 pc = .ok (.iastore, 1)) (kk : ∀ τ', Sim G M B0 o (κ τ') (pc + 1) L st (ovl Bx h τ')) : Sim G M B0 o (ck (inI j i) (nm (setA τ j i v) κ)) pc L (iv v :: iv i :: .ref (h + 1 + j) :: st) (ovl Bx h τ) := fun r hr => by
  obtain ⟨⟨⟨hj, ht⟩, hi⟩, hr⟩ := ck_some hr
  exact s_iast (x := some r) (ovl_a hj) ht d (fun r' e => by cases e; rw [upB_ovl_a hj]; exact kk _ r hr) r (if_pos hi)
theorem t_zast {j : Nat} {i v : Int} {κ : TS → Option ρ} (d : decode M.2.1 pc = .ok (.bastore, 1)) (kk : ∀ τ', Sim G M B0 o (κ τ') (pc + 1) L st (ovl Bx h τ')) : Sim G M B0 o (ck (inZ j i ∧ is01 v) (nm (setA τ j i v) κ)) pc L (iv v :: iv i :: .ref (h + 1 + j) :: st) (ovl Bx h τ) := fun r hr => by
  obtain ⟨⟨⟨⟨hj, ht⟩, hi⟩, h01⟩, hr⟩ := ck_some hr
  exact s_zast (x := some r) (ovl_a hj) ht d (fun r' e => by cases e; rw [upB_ovl_a hj]; exact kk _ r hr) r (if_pos ⟨hi, h01⟩)
theorem t_callV1 {x' : Option (Int × TS)} {κ : Int → TS → Option ρ} {idx : Nat} {As : List Value} (hM : MetN G My (ovl Bx h τ) (ot1 Bx h) x' (.ref h :: As)) (n : Nat) (hn : As.length = n) (hstk : stk = As.reverse ++ .ref h :: st) (hw : GoodIn lw_all (wsV M.1.cls idx RX3 My.1 (ws_ My.1 My.2.1 My.2.2.1 My.2.2.2.1)))
    (hd : My.1.cls = RX3 ∧ My.1.cls ≠ "java/lang/invoke/MethodHandle" ∧ My.1.cls ≠ "java/lang/invoke/VarHandle" ∧ (parseMethodDescriptor My.1.desc).map (fun d => d.parameters.length) = some n) (hR : My.2.2.2.2.2.1 + 1 ≤ M.2.2.2.2.2.1 ∧ 8 + (My.2.2.1 + 11) + My.2.2.2.2.2.2 ≤ M.2.2.2.2.2.2)
    (hst : cat1 st) (hst8 : st.length ≤ 8) (d : decode M.2.1 pc = .ok (.invokevirtual idx, 3)) (kk : ∀ v τ', Sim G M B0 o (κ v τ') (pc + 3) L (iv v :: st) (ovl Bx h τ')) : Sim G M B0 o (bd1 x' κ) pc L stk (ovl Bx h τ) :=
  s_callV hM n hn hstk ⟨_, ovl_o, rfl⟩ (t := 0) (C := RX3) (T := TX3) (N := 79) rfl hw hd hR hst hst8 (fun _ => by show 1 < 10; omega) d (fun r => kk r.1 r.2)
theorem t_callV0 {x' : Option TS} {κ : TS → Option ρ} {idx : Nat} {As : List Value} (hM : MetN G My (ovl Bx h τ) (ot0 Bx h) x' (.ref h :: As)) (n : Nat) (hn : As.length = n) (hstk : stk = As.reverse ++ .ref h :: st) (hw : GoodIn lw_all (wsV M.1.cls idx RX3 My.1 (ws_ My.1 My.2.1 My.2.2.1 My.2.2.2.1)))
    (hd : My.1.cls = RX3 ∧ My.1.cls ≠ "java/lang/invoke/MethodHandle" ∧ My.1.cls ≠ "java/lang/invoke/VarHandle" ∧ (parseMethodDescriptor My.1.desc).map (fun d => d.parameters.length) = some n) (hR : My.2.2.2.2.2.1 + 1 ≤ M.2.2.2.2.2.1 ∧ 8 + (My.2.2.1 + 11) + My.2.2.2.2.2.2 ≤ M.2.2.2.2.2.2)
    (hst : cat1 st) (hst8 : st.length ≤ 8) (d : decode M.2.1 pc = .ok (.invokevirtual idx, 3)) (kk : ∀ τ', Sim G M B0 o (κ τ') (pc + 3) L st (ovl Bx h τ')) : Sim G M B0 o (bd0 x' κ) pc L stk (ovl Bx h τ) :=
  s_callV hM n hn hstk ⟨_, ovl_o, rfl⟩ (t := 0) (C := RX3) (T := TX3) (N := 79) rfl hw hd hR hst hst8 (fun _ => by show 0 < 10; omega) d (fun r => kk r)
theorem t_callS1 {x' : Option (Int × TS)} {κ : Int → TS → Option ρ} {idx : Nat} {As : List Value} (hM : MetN G My (ovl Bx h τ) (ot1 Bx h) x' As) (n : Nat) (hn : As.length = n) (hstk : stk = As.reverse ++ st) (hw : GoodIn lw_all (va_wsS M.1.cls idx My.1 (ws_ My.1 My.2.1 My.2.2.1 My.2.2.2.1)))
    (hd : My.1.cls ≠ "java/lang/invoke/MethodHandle" ∧ My.1.cls ≠ "java/lang/invoke/VarHandle" ∧ (parseMethodDescriptor My.1.desc).map (fun d => d.parameters.length) = some n) (hR : My.2.2.2.2.2.1 + 1 ≤ M.2.2.2.2.2.1 ∧ 8 + (My.2.2.1 + 11) + My.2.2.2.2.2.2 ≤ M.2.2.2.2.2.2)
    (hst : cat1 st) (hst8 : st.length ≤ 8) (d : decode M.2.1 pc = .ok (.invokestatic idx, 3)) (kk : ∀ v τ', Sim G M B0 o (κ v τ') (pc + 3) L (iv v :: st) (ovl Bx h τ')) : Sim G M B0 o (bd1 x' κ) pc L stk (ovl Bx h τ) :=
  s_callS hM n hn hstk hw hd hR hst hst8 (fun _ => by show 1 < 10; omega) d (fun r => kk r.1 r.2)
end TWIN
end
section
/-! BASE 6: rows of the whole heap (the class's side) -/
/-- fuel of loops, depth, limits of cells and of slots, addresses of static references and of String constants -/
abbrev KT : Type := Nat × Nat × Nat × Nat × (Nat → Option Nat)
def gSt : List (String × String × String) := [("java/util/ArrayList", "DEFAULTCAPACITY_EMPTY_ELEMENTDATA", "[Ljava/lang/Object;"), ("java/lang/Integer$IntegerCache", "cache", "[Ljava/lang/Integer;"), ("java/lang/Integer", "DigitOnes", "[B"), ("java/lang/Integer", "DigitTens", "[B"), ("Weaveword", "VALUES", "[I"), ("Weaveword", "INSTRUCTED", "[I")]
def gSi : List (String × String × String × Int) := [("java/lang/Integer$IntegerCache", "high", "I", 127), ("java/lang/String", "COMPACT_STRINGS", "Z", 1)]
def KOK (G : GT) (K : KT) : Prop := K.2.2.1 ≤ gLC G ∧ K.2.2.2.1 ≤ gLS G ∧ (∀ (i : Nat) (q : String × String × String), gSt[i]? = some q → (q.1, q.2.1, q.2.2, va_rf (K.2.2.2.2 i)) ∈ gZ G) ∧ (∀ q ∈ gSi, (q.1, q.2.1, q.2.2.1, iv q.2.2.2) ∈ gZ G) ∧ K.2.2.2.2 50 = some (gA G 200) ∧ ∀ i, i < gStr.length → K.2.2.2.2 (100 + i) = some (gA G (300 + i))
def cell (B : BH) (e : Option Nat) : Option PC4 := e.bind B.1
def gI {ρ : Type} (B : BH) (t : Nat) (e : Option Nat) (k : Nat) (κ : Int → Option ρ) : Option ρ := (cell B e).bind fun c => ck (c.1 % 1000 = t) (κ (c.2.2.1 k))
def gR {ρ : Type} (B : BH) (t : Nat) (e : Option Nat) (k : Nat) (κ : Option Nat → Option ρ) : Option ρ := (cell B e).bind fun c => ck (c.1 % 1000 = t) (κ (c.2.2.2 k))
/-- field k of the object e becomes v -/
def pI {ρ : Type} (B : BH) (t : Nat) (e : Option Nat) (k : Nat) (v : Int) (κ : BH → Option ρ) : Option ρ := (cell B e).bind fun c => ck (c.1 = t) (κ (upB B (e.getD 0) (putI c k v)))
def pZ {ρ : Type} (B : BH) (t : Nat) (e : Option Nat) (k : Nat) (v : Int) (κ : BH → Option ρ) : Option ρ := (cell B e).bind fun c => ck (c.1 = t ∧ is01 v) (κ (upB B (e.getD 0) (putI c k v)))
def pR {ρ : Type} (B : BH) (t : Nat) (e : Option Nat) (k : Nat) (v : Option Nat) (κ : BH → Option ρ) : Option ρ := (cell B e).bind fun c => ck (c.1 = t) (κ (upB B (e.getD 0) (putR c k v)))
/-- arrays of ints of the tag t (100 int, 101 boolean, 102 byte) -/
def aI {ρ : Type} (B : BH) (t : Nat) (e : Option Nat) (i : Int) (κ : Int → Option ρ) : Option ρ := (cell B e).bind fun c => ck (c.1 % 1000 = t ∧ inA c i) (κ (c.2.2.1 i.toNat))
def sI {ρ : Type} (B : BH) (e : Option Nat) (i v : Int) (κ : BH → Option ρ) : Option ρ := (cell B e).bind fun c => ck (c.1 = 100 ∧ inA c i) (κ (upB B (e.getD 0) (putI c i.toNat v)))
def sZ {ρ : Type} (B : BH) (e : Option Nat) (i v : Int) (κ : BH → Option ρ) : Option ρ := (cell B e).bind fun c => ck (c.1 = 101 ∧ inA c i ∧ is01 v) (κ (upB B (e.getD 0) (putI c i.toNat v)))
/-- arrays of references -/
def aR {ρ : Type} (B : BH) (e : Option Nat) (i : Int) (κ : Option Nat → Option ρ) : Option ρ := (cell B e).bind fun c => ck (110 ≤ c.1 % 1000 ∧ c.1 % 1000 < 116 ∧ inA c i) (κ (c.2.2.2 i.toNat))
/-- the class of a row of an array of the tag t, by the tag in gCl; none: any object -/
def rowT (t : Nat) : Option Nat := if t = 110 then none else if t = 111 then some 3 else if t = 112 then some 7 else if t = 113 then some 6 else if t = 114 then some 12 else some 16
/-- v may lie in an array of tag t -/
def fitR (B : BH) (t : Nat) (v : Option Nat) : Bool := match v with
  | none => true
  | some a => match B.1 a with
    | none => false
    | some c => (c.1 % 1000 < 22 && (rowT t == none || rowT t == some (c.1 % 1000))) || (rowT t == none && c.1 % 1000 == 100)
def sR {ρ : Type} (B : BH) (e : Option Nat) (i : Int) (v : Option Nat) (κ : BH → Option ρ) : Option ρ := (cell B e).bind fun c => ck (110 ≤ c.1 ∧ c.1 < 116 ∧ inA c i ∧ fitR B c.1 v = true) (κ (upB B (e.getD 0) (putR c i.toNat v)))
def aL {ρ : Type} (B : BH) (e : Option Nat) (κ : Int → Option ρ) : Option ρ := (cell B e).bind fun c => ck ((100 ≤ c.1 % 1000 ∧ c.1 % 1000 < 104) ∨ (110 ≤ c.1 % 1000 ∧ c.1 % 1000 < 116)) (κ c.2.1)
def pushB (B : BH) (c : PC4) (n : Nat) : BH := (fun q => if q = B.2.1 then some c else B.1 q, B.2.1 + 1, B.2.2 + n)
abbrev rmK (K : KT) (B : BH) (n : Nat) : Prop := B.2.1 + 1 ≤ K.2.2.1 ∧ B.2.2 + n ≤ K.2.2.2.1
def nw {ρ : Type} (K : KT) (B : BH) (t : Nat) (κ : Option Nat → BH → Option ρ) : Option ρ := ck (rmK K B (gN t)) (κ (some B.2.1) (pushB B (t, 0, fun _ => 0, fun _ => none) (gN t)))
def na {ρ : Type} (K : KT) (B : BH) (t : Nat) (n : Int) (κ : Option Nat → BH → Option ρ) : Option ρ := ck ((0 ≤ n ∧ n < 1000000) ∧ rmK K B n.toNat) (κ (some B.2.1) (pushB B (t, n.toNat, fun _ => 0, fun _ => none) n.toNat))
def gTok (ty : FieldType) : Bool := match ty with
  | .long => false
  | .float => false
  | .double => false
  | _ => true
section ROWS
variable {ρ : Type} {G : GT} {M : MI} {B0 : BH} {o : ρ → Rv × BH} {x y : Option ρ} {pc : Nat} {L : LL} {st stk : List Value} {B : BH} {e : Option Nat} {K : KT}
theorem W.stand {p : Program} {l : Launch} {e : Env} {R : Room} {s : State} {m : MethodId} {args : Array Value} {below : List Frame} {meth : Method} {c : Code} {H : Heap} {locs : List Loc} {k n : Nat} {Q : State → Prop} {g : JFrame} (h : tot s.heap ≤ tot H → W p l e R s m args below meth c H locs k n Q g) : W p l e R s m args below meth c H locs k n Q g := fun T hT X => h (by rw [← hT]; exact tot_le X) T hT X
theorem Sim.cell {f : PC4 → Option ρ} (h : ∀ (a : Nat) (c : PC4), e = some a → B.1 a = some c → Sim G M B0 o (f c) pc L stk B) : Sim G M B0 o ((cell B e).bind f) pc L stk B := by
  intro r hr
  cases e with
  | none => cases hr
  | some a =>
    have hr' : (B.1 a).bind f = some r := hr
    cases hB : B.1 a with
    | none => rw [hB] at hr'; cases hr'
    | some c => rw [hB] at hr'; exact h a c rfl hB r hr'
theorem Sim.ck {c : Prop} [Decidable c] (h : c → Sim G M B0 o x pc L stk B) : Sim G M B0 o (ck c x) pc L stk B := fun r hr => h (ck_some hr).1 r (ck_some hr).2
theorem h_getI {t k idx N : Nat} {C : String} {T : u_T} {κ : Int → Option ρ} (hf : fdOK t C T N k) (hr : gRef t k = false) (q : flk M idx (T k)) (d : decode M.2.1 pc = .ok (.getfield idx, 3)) (kk : ∀ v, Sim G M B0 o (κ v) (pc + 3) L (iv v :: st) B) : Sim G M B0 o (gI B t e k κ) pc L (va_rf e :: st) B :=
  Sim.cell fun a c he hB => Sim.ck fun hc => by
    subst he
    refine s_getf hB hc hf q d ?_
    unfold fV
    rw [if_neg (by rw [hr]; decide)]
    exact kk _
theorem h_getR {t k idx N : Nat} {C : String} {T : u_T} {κ : Option Nat → Option ρ} (hf : fdOK t C T N k) (hr : gRef t k = true) (q : flk M idx (T k)) (d : decode M.2.1 pc = .ok (.getfield idx, 3)) (kk : ∀ v, Sim G M B0 o (κ v) (pc + 3) L (va_rf v :: st) B) : Sim G M B0 o (gR B t e k κ) pc L (va_rf e :: st) B :=
  Sim.cell fun a c he hB => Sim.ck fun hc => by
    subst he
    refine s_getf hB hc hf q d ?_
    unfold fV
    rw [if_pos hr]
    exact kk _
theorem fV_putI {t k j : Nat} {c : PC4} {v : Int} (hr : gRef t k = false) : fV t (putI c k v).2.2.1 (putI c k v).2.2.2 j = if j = k then iv v else fV t c.2.2.1 c.2.2.2 j := by
  unfold fV putI
  by_cases e : j = k
  · subst e
    rw [if_neg (by rw [hr]; decide), if_pos rfl]
    show iv (if j = j then v else c.2.2.1 j) = _
    rw [if_pos rfl]
  · rw [if_neg e]
    show (if gRef t j = true then _ else Value.int (Int32.ofInt (if j = k then v else c.2.2.1 j))) = _
    rw [if_neg e]
theorem fV_putR {t k j : Nat} {c : PC4} {v : Option Nat} (hr : gRef t k = true) : fV t (putR c k v).2.2.1 (putR c k v).2.2.2 j = if j = k then va_rf v else fV t c.2.2.1 c.2.2.2 j := by
  unfold fV putR
  by_cases e : j = k
  · subst e
    rw [if_pos hr, if_pos rfl]
    show va_rf (if j = j then v else c.2.2.2 j) = _
    rw [if_pos rfl]
  · rw [if_neg e]
    show (if gRef t j = true then va_rf (if j = k then v else c.2.2.2 j) else _) = _
    rw [if_neg e]
/-- what a putfield asks of the field -/
def pfOK (M : MI) (t : Nat) (C : String) (T : u_T) (N k idx : Nat) : Prop := fdOK t C T N k ∧ (∃ ty0 : Nat → FieldType, ∀ k, k < N → parseFieldDescriptor (T k).2.2.1 = some (ty0 k)) ∧ (∀ a, a < N → ∀ b, b < N → a ≠ b → (T a).2.1 ≠ (T b).2.1) ∧ flk M idx (T k) ∧ ((T k).2.2.2 = false ∨ (M.1.name = "<init>" ∧ (T k).1 = M.1.cls)) ∧ ((T k).2.2.2 = true → ¬ ∃ host, Cond.fieldLinkNest M.1.cls idx (T k).1 (T k).2.1 (T k).2.2.1 host ∈ gNw)
theorem h_putI {t k idx N : Nat} {C : String} {T : u_T} {v : Int} {κ : BH → Option ρ} (hp : pfOK M t C T N k idx) (hr : gRef t k = false) (hd : parseFieldDescriptor (T k).2.2.1 = some .int) (d : decode M.2.1 pc = .ok (.putfield idx, 3)) (kk : ∀ B, Sim G M B0 o (κ B) (pc + 3) L st B) : Sim G M B0 o (pI B t e k v κ) pc L (iv v :: va_rf e :: st) B :=
  Sim.cell fun a c he hB => Sim.ck fun hc => by
    subst he
    obtain ⟨hf, ⟨ty0, hty⟩, hnm, q, hfin, hnn⟩ := hp
    exact s_putG (ty := .int) ty0 hty hnm hB hc hf q hfin hnn hd rfl rfl (c' := putI c k v) rfl rfl (fun j => fV_putI hr) d (kk _)
theorem h_putZ {t k idx N : Nat} {C : String} {T : u_T} {v : Int} {κ : BH → Option ρ} (hp : pfOK M t C T N k idx) (hr : gRef t k = false) (hd : parseFieldDescriptor (T k).2.2.1 = some .boolean ∨ parseFieldDescriptor (T k).2.2.1 = some .byte) (d : decode M.2.1 pc = .ok (.putfield idx, 3)) (kk : ∀ B, Sim G M B0 o (κ B) (pc + 3) L st B) : Sim G M B0 o (pZ B t e k v κ) pc L (iv v :: va_rf e :: st) B :=
  Sim.cell fun a c he hB => Sim.ck fun hc => by
    subst he
    obtain ⟨hf, ⟨ty0, hty⟩, hnm, q, hfin, hnn⟩ := hp
    rcases hd with hd | hd
    · exact s_putG (ty := .boolean) ty0 hty hnm hB hc.1 hf q hfin hnn hd (by rcases hc.2 with rfl | rfl <;> rfl) (by rcases hc.2 with rfl | rfl <;> rfl) (c' := putI c k v) rfl rfl (fun j => fV_putI hr) d (kk _)
    · exact s_putG (ty := .byte) ty0 hty hnm hB hc.1 hf q hfin hnn hd (by rcases hc.2 with rfl | rfl <;> rfl) (by rcases hc.2 with rfl | rfl <;> rfl) (c' := putI c k v) rfl rfl (fun j => fV_putI hr) d (kk _)
theorem h_putR {t k idx N : Nat} {C : String} {T : u_T} {v : Option Nat} {ty : FieldType} {κ : BH → Option ρ} (hp : pfOK M t C T N k idx) (hr : gRef t k = true) (hd : parseFieldDescriptor (T k).2.2.1 = some ty) (hty9 : gRefT ty = true) (d : decode M.2.1 pc = .ok (.putfield idx, 3)) (kk : ∀ B, Sim G M B0 o (κ B) (pc + 3) L st B) : Sim G M B0 o (pR B t e k v κ) pc L (va_rf v :: va_rf e :: st) B :=
  Sim.cell fun a c he hB => Sim.ck fun hc => by
    subst he
    obtain ⟨hf, ⟨ty0, hty⟩, hnm, q, hfin, hnn⟩ := hp
    exact s_putG (ty := ty) ty0 hty hnm hB hc hf q hfin hnn hd (by cases ty <;> first | (cases v <;> rfl) | cases hty9) (by cases ty <;> first | (cases v <;> rfl) | cases hty9) (c' := putR c k v) rfl rfl (fun j => fV_putR hr) d (kk _)
theorem h_iald {i : Int} {κ : Int → Option ρ} (d : decode M.2.1 pc = .ok (.iaload, 1)) (kk : ∀ v, Sim G M B0 o (κ v) (pc + 1) L (iv v :: st) B) : Sim G M B0 o (aI B 100 e i κ) pc L (iv i :: va_rf e :: st) B :=
  Sim.cell fun a c he hB => Sim.ck fun hc => by
    subst he
    exact fun r hr => s_iald hB hc.1 d (kk _) r ((ck_t hc.2).trans hr)
theorem h_zald {i : Int} {κ : Int → Option ρ} (d : decode M.2.1 pc = .ok (.baload, 1)) (kk : ∀ v, Sim G M B0 o (κ v) (pc + 1) L (iv v :: st) B) : Sim G M B0 o (aI B 101 e i κ) pc L (iv i :: va_rf e :: st) B :=
  Sim.cell fun a c he hB => Sim.ck fun hc => by
    subst he
    exact fun r hr => s_zald hB hc.1 d (kk _) r ((ck_t hc.2).trans hr)
theorem h_iast {i v : Int} {κ : BH → Option ρ} (d : decode M.2.1 pc = .ok (.iastore, 1)) (kk : ∀ B, Sim G M B0 o (κ B) (pc + 1) L st B) : Sim G M B0 o (sI B e i v κ) pc L (iv v :: iv i :: va_rf e :: st) B :=
  Sim.cell fun a c he hB => Sim.ck fun hc => by
    subst he
    exact fun r hr => s_iast hB hc.1 d (kk _) r ((ck_t hc.2).trans hr)
theorem h_zast {i v : Int} {κ : BH → Option ρ} (d : decode M.2.1 pc = .ok (.bastore, 1)) (kk : ∀ B, Sim G M B0 o (κ B) (pc + 1) L st B) : Sim G M B0 o (sZ B e i v κ) pc L (iv v :: iv i :: va_rf e :: st) B :=
  Sim.cell fun a c he hB => Sim.ck fun hc => by
    subst he
    exact fun r hr => s_zast hB hc.1 d (kk _) r ((ck_t hc.2).trans hr)
theorem cAt_ref {a : Nat} {c : PC4} {H : Heap} {t : Nat} (ht : c.1 % 1000 = t) (hl : 110 ≤ t) : cAt G a c H ↔ H[a]? = some (arrV (gA G t) c.2.1 (fun j => va_rf (c.2.2.2 j))) := by
  unfold cAt cE
  rw [ht, if_neg (by omega), if_neg (by omega), if_neg (by omega)]
  exact Iff.rfl
theorem cAt_long {a : Nat} {c : PC4} {H : Heap} (ht : c.1 % 1000 = 103) : cAt G a c H ↔ H[a]? = some (arrV (gA G 103) c.2.1 (fun j => .long (Int64.ofInt (c.2.2.1 j)))) := by
  unfold cAt cE
  rw [ht, if_neg (by omega), if_pos rfl]
  exact Iff.rfl
theorem gTy_of {t : Nat} (h1 : 110 ≤ t) (h2 : t < 116) : ∃ (i : Nat) (C : String), (gTys G)[i]? = some (gA G t, .object C) := by
  have : t = 110 ∨ t = 111 ∨ t = 112 ∨ t = 113 ∨ t = 114 ∨ t = 115 := by omega
  rcases this with rfl | rfl | rfl | rfl | rfl | rfl
  · exact ⟨4, _, rfl⟩
  · exact ⟨5, _, rfl⟩
  · exact ⟨6, _, rfl⟩
  · exact ⟨7, _, rfl⟩
  · exact ⟨8, _, rfl⟩
  · exact ⟨9, _, rfl⟩
theorem gTy_any {t : Nat} (h1 : 100 ≤ t) (h2 : t < 116) (h3 : t < 104 ∨ 110 ≤ t) : ∃ (i : Nat) (ty : FieldType), (gTys G)[i]? = some (gA G t, ty) := by
  by_cases h : 110 ≤ t
  · obtain ⟨i, C, e⟩ := gTy_of (G := G) h h2
    exact ⟨i, _, e⟩
  · have : t = 100 ∨ t = 101 ∨ t = 102 ∨ t = 103 := by omega
    rcases this with rfl | rfl | rfl | rfl
    · exact ⟨0, _, rfl⟩
    · exact ⟨1, _, rfl⟩
    · exact ⟨2, _, rfl⟩
    · exact ⟨3, _, rfl⟩
theorem h_aald {i : Int} {κ : Option Nat → Option ρ} (d : decode M.2.1 pc = .ok (.aaload, 1)) (kk : ∀ v, Sim G M B0 o (κ v) (pc + 1) L (va_rf v :: st) B) : Sim G M B0 o (aR B e i κ) pc L (iv i :: va_rf e :: st) B :=
  Sim.cell fun a c he hB => Sim.ck fun hc => fun r hr p e s m args below meth c0 C0 H locs ls hW hS hL => by
    subst he
    obtain ⟨w1, w2, w3⟩ := hW.2.2.1 a c hB
    obtain ⟨g1, g2⟩ := vp_in_iv hc.2.2.1 hc.2.2.2 w3
    have hat := (cAt_ref (H := H) rfl hc.1).mp w1
    obtain ⟨i0, C, hi0⟩ := gTy_of (G := G) hc.1 hc.2.1
    refine W.aald (v := va_rf (c.2.2.2 i.toNat)) (ty := .object C) C0.1 C0.2.1 hat ((C0.2.2.2.2.2.2.2.1.1.2 i0 _ hi0).1 _ _) rfl (fun q => by cases q) (by rw [arrV_size]; exact g1) (by rw [arrV_read _ _ (by have := hc.2.2.2; have := hc.2.2.1; omega), g2]) rfl rfl d (kk _ r hr p e s m args below meth c0 C0 H locs ls hW hS hL)
theorem h_alen {κ : Int → Option ρ} (d : decode M.2.1 pc = .ok (.arraylength, 1)) (kk : ∀ v, Sim G M B0 o (κ v) (pc + 1) L (iv v :: st) B) : Sim G M B0 o (aL B e κ) pc L (va_rf e :: st) B :=
  Sim.cell fun a c he hB => Sim.ck fun hc => fun r hr p e s m args below meth c0 C0 H locs ls hW hS hL => by
    subst he
    obtain ⟨w1, w2, w3⟩ := hW.2.2.1 a c hB
    have hK := C0.2.2.2.2.2.2.2.1.1.2
    have kk := kk _ r hr p e s m args below meth c0 C0 H locs ls hW hS hL
    rcases hc with hc | hc
    · by_cases h3 : c.1 % 1000 = 103
      · have hat := (cAt_long (H := H) h3).mp w1
        exact W.alen (n := Int32.ofInt c.2.1) C0.1 C0.2.1 hat ((hK 3 (gA G 103, .long) rfl).1 _ _) (by rw [arrV_size]; rfl) rfl rfl d kk
      · have h5 : c.1 % 1000 = 100 ∨ c.1 % 1000 = 101 ∨ c.1 % 1000 = 102 := by omega
        have hat := (cAt_int (H := H) rfl h5).mp w1
        obtain ⟨i0, ty, hi0⟩ := gTy_any (G := G) hc.1 (by omega) (by omega)
        exact W.alen (n := Int32.ofInt c.2.1) C0.1 C0.2.1 hat ((hK i0 _ hi0).1 _ _) (by rw [arrV_size]; rfl) rfl rfl d kk
    · have hat := (cAt_ref (H := H) rfl hc.1).mp w1
      obtain ⟨i0, C, hi0⟩ := gTy_of (G := G) hc.1 hc.2
      exact W.alen (n := Int32.ofInt c.2.1) C0.1 C0.2.1 hat ((hK i0 _ hi0).1 _ _) (by rw [arrV_size]; rfl) rfl rfl d kk
theorem h_null (d : decode M.2.1 pc = .ok (.aconst_null, 1)) (kk : Sim G M B0 o x (pc + 1) L (va_rf none :: st) B) : Sim G M B0 o x pc L st B := s_null d kk
theorem h_ifnull {off : Int} {tgt : Nat} (d : decode M.2.1 pc = .ok (.ifnull off, 3)) (ht : (pc : Int) + off = (tgt : Int)) (kt : Sim G M B0 o x tgt L st B) (kf : ∀ a, e = some a → Sim G M B0 o y (pc + 3) L st B) : Sim G M B0 o (if e = none then x else y) pc L (va_rf e :: st) B := by
  cases e with
  | none => rw [if_pos rfl]; exact kt.step fun C h => lv_ifnullN C.1 C.2.1 d ht h
  | some a => rw [if_neg (fun h => by cases h)]; exact (kf a rfl).step fun C h => lv_ifnull C.1 C.2.1 d h
theorem h_ifnonnull {off : Int} {tgt : Nat} (d : decode M.2.1 pc = .ok (.ifnonnull off, 3)) (ht : (pc : Int) + off = (tgt : Int)) (kt : ∀ a, e = some a → Sim G M B0 o x tgt L st B) (kf : Sim G M B0 o y (pc + 3) L st B) : Sim G M B0 o (if e = none then y else x) pc L (va_rf e :: st) B := by
  cases e with
  | none => rw [if_pos rfl]; exact kf.step fun C h => lv_ifnonnullN C.1 C.2.1 d h
  | some a => rw [if_neg (fun h => by cases h)]; exact (kt a rfl).step fun C h => lv_ifnonnull C.1 C.2.1 d ht h
theorem h_acmp_eq {e2 : Option Nat} {off : Int} {tgt : Nat} (d : decode M.2.1 pc = .ok (.if_acmp .eq off, 3)) (ht : (pc : Int) + off = (tgt : Int)) (kt : Sim G M B0 o x tgt L st B) (kf : Sim G M B0 o y (pc + 3) L st B) : Sim G M B0 o (if e = e2 then x else y) pc L (va_rf e2 :: va_rf e :: st) B := fun r hr p e s m args below meth c C H locs ls hW hS hL => lv_acmp_eq C.1 C.2.1 d ht (fun h => kt r (by rwa [if_pos h] at hr) p e s m args below meth c C H locs ls hW hS hL) (fun h => kf r (by rwa [if_neg h] at hr) p e s m args below meth c C H locs ls hW hS hL)
theorem h_acmp_ne {e2 : Option Nat} {off : Int} {tgt : Nat} (d : decode M.2.1 pc = .ok (.if_acmp .ne off, 3)) (ht : (pc : Int) + off = (tgt : Int)) (kt : Sim G M B0 o x tgt L st B) (kf : Sim G M B0 o y (pc + 3) L st B) : Sim G M B0 o (if e = e2 then y else x) pc L (va_rf e2 :: va_rf e :: st) B := fun r hr p e s m args below meth c C H locs ls hW hS hL => lv_acmp_ne C.1 C.2.1 d ht (fun h => kt r (by rwa [if_neg h] at hr) p e s m args below meth c C H locs ls hW hS hL) (fun h => kf r (by rwa [if_pos h] at hr) p e s m args below meth c C H locs ls hW hS hL)
/-- a new cell -/
theorem World.pushX {s : State} {H : Heap} {c : PC4} {n : Nat} {cl : Cell} (hW : World G s B H) (hK : KOK G K) (hr : rmK K B n) (hz : cl.slots.size = n) (hl : c.2.1 < 2147483648) (hat : cAt G H.size c (H.push cl)) (hx : 2000 ≤ c.1 → Fr G s H.size (H.push cl)) : World G s (pushB B c n) (H.push cl) := by
  obtain ⟨w1, w2, w3, w4, w5, w6⟩ := hW
  have o1 : ∀ q : Nat, q < H.size → (H.push cl)[q]? = H[q]? := fun q hq => by rw [Array.getElem?_push, if_neg (Nat.ne_of_lt hq)]
  refine ⟨by rw [Array.size_push, w1]; rfl, by rw [tot_push, w2, hz]; rfl, fun q d hq => ?_, ⟨Nat.le_succ_of_le w4.1, Nat.le_trans hr.1 hK.1, Nat.le_trans hr.2 hK.2.1⟩, w5.kept (fun q hq _ => o1 q hq), fun q d hq hd => ?_⟩
  · have hq' : (if q = B.2.1 then some c else B.1 q) = some d := hq
    by_cases e9 : q = B.2.1
    · rw [if_pos e9] at hq'
      cases hq'
      rw [e9, ← w1]
      exact ⟨hat, fun _ => by rw [w1]; exact w4.1, hl⟩
    · rw [if_neg e9] at hq'
      obtain ⟨h1, h2⟩ := w3 q d hq'
      exact ⟨h1.kept (o1 q h1.lt), h2⟩
  · have hq' : (if q = B.2.1 then some c else B.1 q) = some d := hq
    by_cases e9 : q = B.2.1
    · rw [if_pos e9] at hq'
      cases hq'
      rw [e9, ← w1]
      exact hx hd
    · rw [if_neg e9] at hq'
      exact (w6 q d hq' hd).kept (o1 q (w3 q d hq').1.lt)
theorem World.push {s : State} {H : Heap} {c : PC4} {n : Nat} {cl : Cell} (hW : World G s B H) (hK : KOK G K) (hr : rmK K B n) (hz : cl.slots.size = n) (hl : c.2.1 < 2147483648) (hat : cAt G H.size c (H.push cl)) (hx : c.1 < 2000) : World G s (pushB B c n) (H.push cl) := hW.pushX hK hr hz hl hat (fun h => by omega)
theorem h_new {t idx N : Nat} {C : String} {T : u_T} {κ : Option Nat → BH → Option ρ} (hK : KOK G K) (hc : gCl[t]? = some (C, T, N)) (hin : ∀ w ∈ u_ws C T N, w ∈ lw_all) (hty : ∃ ty : Nat → FieldType, gTy[t]? = some ty ∧ (∀ k, k < N → parseFieldDescriptor (T k).2.2.1 = some (ty k)) ∧ ∀ k, k < N → gTok (ty k) = true) (q1 : Cond.classLink M.1.cls idx C ∈ lw_all) (q2 : Cond.instantiable C N ∈ lw_all) (q3 : Cond.initialized C ∈ lw_all) (d : decode M.2.1 pc = .ok (.new idx, 3)) (kk : ∀ v B, Sim G M B0 o (κ v B) (pc + 3) L (va_rf v :: st) B) : Sim G M B0 o (nw K B t κ) pc L st B :=
  Sim.ck fun hr => fun r hr9 p e s m args below meth c0 C0 H locs ls hW hS hL => W.stand fun htot => by
    have hts := C0.2.2.2.2.2.2.1
    have hgn : gN t = N := gN_of hc
    obtain ⟨ty, htg, hty, htok⟩ := hty
    have hlim := hr
    have hzl : B0.2.1 ≤ B.2.1 := by
      have := hS.1
      rw [hW.1, C0.2.2.2.2.2.2.2.2.2.1] at this
      exact this
    have htl : B0.2.2 ≤ B.2.2 := by
      rw [hW.2.1, C0.2.2.2.2.2.2.2.2.2.2.1] at htot
      exact htot
    refine W.newc C0.1 C0.2.1 C0.2.2.2.2.2.1 (hts _ q1) (hts _ q2) (hts _ q3) rfl d (by show _ ≤ gLC G - B0.2.1; have := hK.1; omega) (by show _ ≤ gLS G - B0.2.2; have := hK.2.1; omega) fun cC kC h1 h2 h3 h4 => ?_
    have hKn := C0.2.2.2.2.2.2.2.1.1.1 t _ hc
    have hcC : (gD G).1 t = cC := Option.some.inj (hKn.2.1.symm.trans h1)
    have hat : cAt G H.size (t, 0, fun _ => 0, fun _ => none) (H.push { cls := cC, slots := kC.instanceTypes.map defaultValue, vm := .none }) := by
      refine (cAt_obj (t := t) (by show t % 1000 = t; have := gCl_lt hc; omega) (gCl_lt hc)).mpr ⟨_, hc, ?_⟩
      have hb := u_born (o := H.size) (H := H.push { cls := cC, slots := kC.instanceTypes.map defaultValue, vm := .none }) ty hts hin hKn (by rw [hcC]; exact h2) (by rw [Array.getElem?_push_size, hcC]; rfl) hty
      refine hb.to fun j hj => ?_
      rw [fV_V (by rw [hgn]; exact hj)]
      unfold fV gRef
      rw [htg]
      show _ = if gRefT (ty j) = true then _ else _
      have h9 := htok j hj
      revert h9
      cases ty j <;> first | (intro _; rfl) | (intro h9; cases h9)
    have kk9 := kk (some B.2.1) (pushB B (t, 0, fun _ => 0, fun _ => none) (gN t)) r hr9 p e s m args below meth c0 C0 _ locs ls (hW.push hK hr (by rw [Array.size_map, h4, hgn]) (by show 0 < 2147483648; omega) hat (by show t < 2000; have := gCl_lt hc; omega)) ⟨Nat.le_trans hS.1 (by rw [Array.size_push]; omega), fun q h5 h6 => by rw [Array.getElem?_push, if_neg (Nat.ne_of_lt (Nat.lt_of_lt_of_le h5 hS.1))]; exact hS.2.1 q h5 h6, hS.2.2⟩ hL
    have e1 : (pushB B (t, 0, fun _ => 0, fun _ => none) (gN t)).2.1 - B0.2.1 = B.2.1 - B0.2.1 + 1 := by show B.2.1 + 1 - _ = _; omega
    have e2 : (pushB B (t, 0, fun _ => 0, fun _ => none) (gN t)).2.2 - B0.2.2 = B.2.2 - B0.2.2 + N := by show B.2.2 + gN t - _ = _; omega
    rw [e1, e2] at kk9
    rw [hW.1]
    exact kk9
end ROWS
end
section
/-! BASE 7: calls of every kind, in general: what comes back, what is thrown on -/
section CALLX
variable {p : Program} {e : Env} {R : Room} {s : State} {m : MethodId} {args a : Array Value} {below : List Frame} {meth : Method} {c : Code} {H : Heap} {locs : List Loc} {k n k' n' mc ms : Nat} {Q : State → Prop} {G : GT} {B0 : BH} {r1 : Rv × BH}
theorem vxw_tight {l : Launch} {g : JFrame} {q : Addr} (hs : H.size ≤ s.heap.size + k') (ht : tot H ≤ tot s.heap + n') (kk : vx_W p l e R s m args below meth c H locs k' n' Q g q) : vx_W p l e R s m args below meth c H locs k n Q g q := by
  intro T hT X
  refine kk T hT { X with same := ?_ }
  obtain ⟨h1, h2, h3, h4, h5, h6⟩ := X.same
  have b1 := tot_true X.book
  have b0 : s.slotsUsed = tot s.heap := by
    have h := X.room
    simp only [State.hasRoom, Bool.and_eq_true] at h
    exact tot_true h.2
  have e4 : T.slotsUsed = s.slotsUsed + (((T.setVm s.vm).heap.toList.drop s.heap.size).map (·.slots.size)).sum := h4
  have hH : tot T.heap = tot H := by rw [hT]
  refine ⟨h1, h2, ?_, h4, by omega, h6⟩
  show T.heap.size ≤ _
  rw [hT]
  exact hs
/-- a thrown object is there: its class E -/
def Thr (s : State) (H : Heap) (E : String) (q : Nat) : Prop := ∃ ce : Cell, H[q]? = some ce ∧ ce.vm = .none ∧ s.vm.findClass E = some ce.cls
theorem run_kx {pc : Nat} {stk st : List Value} {ls : Array Slot} (hs : s.heap.size = B0.2.1) (ht : tot s.heap = B0.2.2)
    (hrun : vx_Run p (gL G) e R s m args below meth c H locs k n mc ms (F0 m pc ls stk) st (Qof G r1 a) (Xof G r1) (gAA G)) (hS : va_S (gAA G) s.heap H locs)
    (kk : r1.1.1 < 10 → ∀ (H1 : Heap) (locs1 : List Loc), World G s r1.2 H1 → va_S (gAA G) s.heap H1 locs1 → W p (gL G) e R s m args below meth c H1 locs1 (r1.2.2.1 - B0.2.1) (r1.2.2.2 - B0.2.2) Q (F0 m (pc + 3) ls ((rvO r1.1).toList ++ st)))
    (kx : 10 ≤ r1.1.1 → ∀ (H1 : Heap) (locs1 : List Loc) (q : Nat), World G s r1.2 H1 → va_S (gAA G) s.heap H1 locs1 → Thr s H1 (xN r1.1.1) q → vx_W p (gL G) e R s m args below meth c H1 locs1 (r1.2.2.1 - B0.2.1) (r1.2.2.2 - B0.2.2) Q (F0 m pc ls st) q) : W p (gL G) e R s m args below meth c H locs k n Q (F0 m pc ls stk) := by
  intro T hT X
  rcases hrun T hT X with ⟨v, st₀, t, T', Lc, h0, X', hL, e1, e2, ⟨⟨hk, hv, hW1⟩, hF⟩, stp⟩ | ⟨q, st₀, t, T', Lc, E, ce, h0, X', hL, e1, e2, ⟨⟨h10, hE, hW1⟩, hF⟩, hce, hcv, hcl, stp⟩
  · cases hv
    have hW2 : World G s r1.2 T'.heap := by
      rw [e1]
      exact hW1.moved (by rw [← e2]; exact X'.warmed.alike.symm)
    obtain ⟨-, -, hS'⟩ := vx_keep h0 e1 hS (fun _ _ h => h) (fun _ h => h) hL hF
    have h9 := w_tight (k := k + mc) (n := n + ms) (by rw [hW2.1, hs]; omega) (by rw [hW2.2.1, ht]; omega) (kk hk T'.heap (locs ++ Lc) hW2 hS')
    obtain ⟨t2, a1, b1⟩ := h9 T' rfl X'
    exact ⟨t2, stp t2 a1, b1⟩
  · subst hE
    have hW2 : World G s r1.2 T'.heap := by
      rw [e1]
      exact hW1.moved (by rw [← e2]; exact X'.warmed.alike.symm)
    obtain ⟨-, -, hS'⟩ := vx_keep h0 e1 hS (fun _ _ h => h) (fun _ h => h) hL hF
    have h9 := vxw_tight (k := k + mc) (n := n + ms) (by rw [hW2.1, hs]; omega) (by rw [hW2.2.1, ht]; omega) (kx h10 T'.heap (locs ++ Lc) q hW2 hS' ⟨ce, by rw [e1]; exact hce, hcv, hcl⟩)
    obtain ⟨t2, a1, b1⟩ := h9 T' rfl X'
    exact ⟨t2, stp.trans a1, b1⟩
theorem run_kx5 {pc : Nat} {stk st : List Value} {ls : Array Slot} (hs : s.heap.size = B0.2.1) (ht : tot s.heap = B0.2.2)
    (hrun : vx_Run5 p (gL G) e R s m args below meth c H locs k n mc ms (F0 m pc ls stk) st (Qof G r1 a) (Xof G r1) (gAA G)) (hS : va_S (gAA G) s.heap H locs)
    (kk : r1.1.1 < 10 → ∀ (H1 : Heap) (locs1 : List Loc), World G s r1.2 H1 → va_S (gAA G) s.heap H1 locs1 → W p (gL G) e R s m args below meth c H1 locs1 (r1.2.2.1 - B0.2.1) (r1.2.2.2 - B0.2.2) Q (F0 m (pc + 5) ls ((rvO r1.1).toList ++ st)))
    (kx : 10 ≤ r1.1.1 → ∀ (H1 : Heap) (locs1 : List Loc) (q : Nat), World G s r1.2 H1 → va_S (gAA G) s.heap H1 locs1 → Thr s H1 (xN r1.1.1) q → vx_W p (gL G) e R s m args below meth c H1 locs1 (r1.2.2.1 - B0.2.1) (r1.2.2.2 - B0.2.2) Q (F0 m pc ls st) q) : W p (gL G) e R s m args below meth c H locs k n Q (F0 m pc ls stk) := by
  intro T hT X
  rcases hrun T hT X with ⟨v, st₀, t, T', Lc, h0, X', hL, e1, e2, ⟨⟨hk, hv, hW1⟩, hF⟩, stp⟩ | ⟨q, st₀, t, T', Lc, E, ce, h0, X', hL, e1, e2, ⟨⟨h10, hE, hW1⟩, hF⟩, hce, hcv, hcl, stp⟩
  · cases hv
    have hW2 : World G s r1.2 T'.heap := by
      rw [e1]
      exact hW1.moved (by rw [← e2]; exact X'.warmed.alike.symm)
    obtain ⟨-, -, hS'⟩ := vx_keep h0 e1 hS (fun _ _ h => h) (fun _ h => h) hL hF
    have h9 := w_tight (k := k + mc) (n := n + ms) (by rw [hW2.1, hs]; omega) (by rw [hW2.2.1, ht]; omega) (kk hk T'.heap (locs ++ Lc) hW2 hS')
    obtain ⟨t2, a1, b1⟩ := h9 T' rfl X'
    exact ⟨t2, stp t2 a1, b1⟩
  · subst hE
    have hW2 : World G s r1.2 T'.heap := by
      rw [e1]
      exact hW1.moved (by rw [← e2]; exact X'.warmed.alike.symm)
    obtain ⟨-, -, hS'⟩ := vx_keep h0 e1 hS (fun _ _ h => h) (fun _ h => h) hL hF
    have h9 := vxw_tight (k := k + mc) (n := n + ms) (by rw [hW2.1, hs]; omega) (by rw [hW2.2.1, ht]; omega) (kx h10 T'.heap (locs ++ Lc) q hW2 hS' ⟨ce, by rw [e1]; exact hce, hcv, hcl⟩)
    obtain ⟨t2, a1, b1⟩ := h9 T' rfl X'
    exact ⟨t2, stp.trans a1, b1⟩
end CALLX
section CALLS
variable {ρ ρ' : Type} {G : GT} {M My : MI} {B0 : BH} {o : ρ → Rv × BH} {o' : ρ' → Rv × BH} {x : Option ρ} {x' : Option ρ'} {κ : ρ' → Option ρ} {pc : Nat} {L : LL} {st stk : List Value} {B : BH} {As : List Value} {b idx t N : Nat} {C : String} {T : u_T}
/-- what a call of the contract x' from here is: in every context of the method's body -/
def CRun {ρ' : Type} (G : GT) (M : MI) (B0 : BH) (pc : Nat) (L : LL) (stk st : List Value) (B : BH) (r1 : Rv × BH) : Prop :=
  ∀ (p : Program) (e : Env) (s : State) (m : MethodId) (args : Array Value) (below : List Frame) (meth : Method) (c : Code), CX G M B0 p s m args meth c → ∀ (H : Heap) (locs : List Loc) (ls : Array Slot), World G s B H → va_S (gAA G) s.heap H locs → LV ls M.2.2.1 L → B0.2.1 ≤ B.2.1 → B0.2.2 ≤ B.2.2 →
    ∃ a, vx_Run p (gL G) e (rmOf G M B0) s m args below meth c H locs (B.2.1 - B0.2.1) (B.2.2 - B0.2.2) (gLC G - B.2.1) (gLS G - B.2.2) (F0 m pc ls stk) st (Qof G r1 a) (Xof G r1) (gAA G)
def CRun5 {ρ' : Type} (G : GT) (M : MI) (B0 : BH) (pc : Nat) (L : LL) (stk st : List Value) (B : BH) (r1 : Rv × BH) : Prop :=
  ∀ (p : Program) (e : Env) (s : State) (m : MethodId) (args : Array Value) (below : List Frame) (meth : Method) (c : Code), CX G M B0 p s m args meth c → ∀ (H : Heap) (locs : List Loc) (ls : Array Slot), World G s B H → va_S (gAA G) s.heap H locs → LV ls M.2.2.1 L → B0.2.1 ≤ B.2.1 → B0.2.2 ≤ B.2.2 →
    ∃ a, vx_Run5 p (gL G) e (rmOf G M B0) s m args below meth c H locs (B.2.1 - B0.2.1) (B.2.2 - B0.2.2) (gLC G - B.2.1) (gLS G - B.2.2) (F0 m pc ls stk) st (Qof G r1 a) (Xof G r1) (gAA G)
theorem s_run (hr : ∀ r, x' = some r → CRun (ρ' := ρ') G M B0 pc L stk st B (o' r)) (hr0 : ∀ r, (o' r).1.1 < 10) (kk : ∀ r, Sim G M B0 o (κ r) (pc + 3) L ((rvO (o' r).1).toList ++ st) (o' r).2) : Sim G M B0 o (x'.bind κ) pc L stk B := by
  intro r hr9 p e s m args below meth c0 C0 H locs ls hW hS hL
  cases hx : x' with
  | none => rw [hx] at hr9; cases hr9
  | some r1 =>
    rw [hx] at hr9
    refine W.stand fun htot => ?_
    have htl : B0.2.2 ≤ B.2.2 := by
      rw [hW.2.1, C0.2.2.2.2.2.2.2.2.2.2.1] at htot
      exact htot
    have hzl : B0.2.1 ≤ B.2.1 := by
      have := hS.1
      rw [hW.1, C0.2.2.2.2.2.2.2.2.2.1] at this
      exact this
    obtain ⟨a, h1⟩ := hr r1 hx p e s m args below meth c0 C0 H locs ls hW hS hL hzl htl
    exact run_kx C0.2.2.2.2.2.2.2.2.2.1 C0.2.2.2.2.2.2.2.2.2.2.1 h1 hS (fun _ H1 locs1 hW1 hS1 => kk r1 r hr9 p e s m args below meth c0 C0 H1 locs1 ls hW1 hS1 hL) (fun h10 => by have := hr0 r1; omega)
theorem s_run5 (hr : ∀ r, x' = some r → CRun5 (ρ' := ρ') G M B0 pc L stk st B (o' r)) (hr0 : ∀ r, (o' r).1.1 < 10) (kk : ∀ r, Sim G M B0 o (κ r) (pc + 5) L ((rvO (o' r).1).toList ++ st) (o' r).2) : Sim G M B0 o (x'.bind κ) pc L stk B := by
  intro r hr9 p e s m args below meth c0 C0 H locs ls hW hS hL
  cases hx : x' with
  | none => rw [hx] at hr9; cases hr9
  | some r1 =>
    rw [hx] at hr9
    refine W.stand fun htot => ?_
    have htl : B0.2.2 ≤ B.2.2 := by
      rw [hW.2.1, C0.2.2.2.2.2.2.2.2.2.2.1] at htot
      exact htot
    have hzl : B0.2.1 ≤ B.2.1 := by
      have := hS.1
      rw [hW.1, C0.2.2.2.2.2.2.2.2.2.1] at this
      exact this
    obtain ⟨a, h1⟩ := hr r1 hx p e s m args below meth c0 C0 H locs ls hW hS hL hzl htl
    exact run_kx5 C0.2.2.2.2.2.2.2.2.2.1 C0.2.2.2.2.2.2.2.2.2.2.1 h1 hS (fun _ H1 locs1 hW1 hS1 => kk r1 r hr9 p e s m args below meth c0 C0 H1 locs1 ls hW1 hS1 hL) (fun h10 => by have := hr0 r1; omega)
/-- a body without handlers: what is thrown goes on -/
def bX (x' : Option (Rv × BH)) (κ : Rv → BH → Option (Rv × BH)) : Option (Rv × BH) := x'.bind fun r => if r.1.1 < 10 then κ r.1 r.2 else some r
theorem tabN {c : Code} {pc : Nat} (h : c.exceptionTable.toList = tableOf []) : ∀ x ∈ c.exceptionTable.toList, covers x pc = false := by
  intro x hx
  rw [h] at hx
  cases hx
theorem s_runX {x' : Option (Rv × BH)} {κ : Rv → BH → Option (Rv × BH)} (hh : M.2.2.2.2.1 = []) (hr : ∀ r, x' = some r → CRun (ρ' := Rv × BH) G M B0 pc L stk st B r) (kk : ∀ v B', v.1 < 10 → Sim G M B0 id (κ v B') (pc + 3) L ((rvO v).toList ++ st) B') : Sim G M B0 id (bX x' κ) pc L stk B := by
  intro r hr9 p e s m args below meth c0 C0 H locs ls hW hS hL
  cases hx : x' with
  | none => rw [hx] at hr9; cases hr9
  | some r1 =>
    rw [hx] at hr9
    refine W.stand fun htot => ?_
    have htl : B0.2.2 ≤ B.2.2 := by
      rw [hW.2.1, C0.2.2.2.2.2.2.2.2.2.2.1] at htot
      exact htot
    have hzl : B0.2.1 ≤ B.2.1 := by
      have := hS.1
      rw [hW.1, C0.2.2.2.2.2.2.2.2.2.1] at this
      exact this
    obtain ⟨a, h1⟩ := hr r1 hx p e s m args below meth c0 C0 H locs ls hW hS hL hzl htl
    have hr8 : (if r1.1.1 < 10 then κ r1.1 r1.2 else some r1) = some r := hr9
    refine run_kx C0.2.2.2.2.2.2.2.2.2.1 C0.2.2.2.2.2.2.2.2.2.2.1 h1 hS (fun h10 H1 locs1 hW1 hS1 => kk r1.1 r1.2 h10 r (by rwa [if_pos h10] at hr8) p e s m args below meth c0 C0 H1 locs1 ls hW1 hS1 hL) (fun h10 H1 locs1 q hW1 hS1 ht => ?_)
    rw [if_neg (by omega)] at hr8
    cases hr8
    obtain ⟨ce, t1, t2, t3⟩ := ht
    refine vx_out (E := xN r.1.1) (tabN (by rw [C0.2.2.2.2.2.2.2.2.2.2.2.2, hh])) C0.2.2.2.1 t1 t2 t3 (fun t ht hA => ⟨⟨h10, rfl, by rw [ht]; exact hW1.moved hA⟩, hS1.F ht⟩) hS1.2.2 (Nat.sub_le_sub_right hW1.2.2.2.1.2.1 _) (Nat.sub_le_sub_right hW1.2.2.2.1.2.2 _)
/-! the kinds of calls -/
abbrev rOK (M My : MI) : Prop := My.2.2.2.2.2.1 + 1 ≤ M.2.2.2.2.2.1 ∧ 8 + (My.2.2.1 + 11) + My.2.2.2.2.2.2 ≤ M.2.2.2.2.2.2
abbrev wsM (My : MI) : List Cond := ws_ My.1 My.2.1 My.2.2.1 My.2.2.2.1
abbrev dOK (y : MethodName) (n : Nat) : Prop := y.cls ≠ "java/lang/invoke/MethodHandle" ∧ y.cls ≠ "java/lang/invoke/VarHandle" ∧ (parseMethodDescriptor y.desc).map (fun d => d.parameters.length) = some n
theorem World.recv {s : State} {H : Heap} (hW : World G s B H) (hK : GOK G s) {a : Nat} {c : PC4} (hB : B.1 a = some c) (ht : c.1 % 1000 = t) (hC : gCl[t]? = some (C, T, N)) : ∃ cell : Cell, H[a]? = some cell ∧ cell.vm.isStatics = false ∧ s.vm.findClass C = some cell.cls :=
  va_recv hK.1 (hW.one hB ht (gCl_lt hC)) hC (q0 := 0) rfl
theorem cr_V (hM : MetN G My B o' x' (.ref b :: As)) (n : Nat) (hn : As.length = n) (hstk : stk = As.reverse ++ .ref b :: st) (hb : ∃ c, B.1 b = some c ∧ c.1 % 1000 = t) (hC : gCl[t]? = some (C, T, N)) (hw : GoodIn lw_all (wsV M.1.cls idx C My.1 (wsM My))) (hd : My.1.cls = C ∧ dOK My.1 n) (hR : rOK M My) (hst : cat1 st) (hst8 : st.length ≤ 8) (d : decode M.2.1 pc = .ok (.invokevirtual idx, 3)) : ∀ r, x' = some r → CRun (ρ' := ρ') G M B0 pc L stk st B (o' r) := by
  intro r hx p e s m args below meth c0 C0 H locs ls hW hS hL hzl htl
  subst hstk
  obtain ⟨c, hB, hct⟩ := hb
  have hlim := hW.2.2.2.1
  exact ⟨_, vx_runV (C := C) (n := n) ⟨C0.1, C0.2.1, C0.2.2.2.2.1, C0.2.2.2.2.2.1, C0.2.2.2.2.2.2.1⟩ (hM r hx) (cwV n C0.2.2.2.2.2.2.1 hw rfl rfl rfl hd hR) ⟨blind, hW.recv C0.2.2.2.2.2.2.2.1 hB hct hC, fun U hU hWm => ⟨rfl, by rw [hU]; exact hW.warm hWm, C0.2.2.2.2.2.2.2.1.warm hWm⟩⟩ rfl hn hL.1.1 rfl (lv_room (by rw [cat1_sum hst]; exact hst8)) d ⟨by show _ ≤ gLC G - B0.2.1; omega, by show _ ≤ gLS G - B0.2.2; omega⟩⟩
theorem cr_S (hM : MetN G My B o' x' As) (n : Nat) (hn : As.length = n) (hstk : stk = As.reverse ++ st) (hw : GoodIn lw_all (va_wsS M.1.cls idx My.1 (wsM My))) (hd : dOK My.1 n) (hR : rOK M My) (hst : cat1 st) (hst8 : st.length ≤ 8) (d : decode M.2.1 pc = .ok (.invokestatic idx, 3)) : ∀ r, x' = some r → CRun (ρ' := ρ') G M B0 pc L stk st B (o' r) := by
  intro r hx p e s m args below meth c0 C0 H locs ls hW hS hL hzl htl
  subst hstk
  have hlim := hW.2.2.2.1
  exact ⟨_, vx_runS (n := n) ⟨C0.1, C0.2.1, C0.2.2.2.2.1, C0.2.2.2.2.2.1, C0.2.2.2.2.2.2.1⟩ (hM r hx) (va_cwS n C0.2.2.2.2.2.2.1 hw rfl rfl rfl hd hR) ⟨blind, fun U hU hWm => ⟨rfl, by rw [hU]; exact hW.warm hWm, C0.2.2.2.2.2.2.2.1.warm hWm⟩⟩ rfl hn hL.1.1 rfl (lv_room (by rw [cat1_sum hst]; exact hst8)) d ⟨by show _ ≤ gLC G - B0.2.1; omega, by show _ ≤ gLS G - B0.2.2; omega⟩⟩
theorem cr_I (hret : My.2.2.2.1 = none) (hM : MetN G My B o' x' (.ref b :: As)) (n : Nat) (hn : As.length = n) (hstk : stk = As.reverse ++ .ref b :: st) (hw : GoodIn lw_all (wsM My)) (q1 : Cond.initialized My.1.cls ∈ lw_all) (q2 : Cond.methodLink M.1.cls idx My.1 ∈ lw_all) (q3 : Cond.instanceMethod My.1 ∈ lw_all) (hy : My.1.name = "<init>") (hd : dOK My.1 n) (hR : rOK M My) (hst : cat1 st) (hst8 : st.length ≤ 8) (d : decode M.2.1 pc = .ok (.invokespecial idx, 3)) : ∀ r, x' = some r → CRun (ρ' := ρ') G M B0 pc L stk st B (o' r) := by
  intro r hx p e s m args below meth c0 C0 H locs ls hW hS hL hzl htl
  subst hstk
  have hlim := hW.2.2.2.1
  have hts := C0.2.2.2.2.2.2.1
  have hM1 := hM r hx
  rw [hret] at hM1
  unfold wsM at hw
  rw [hret] at hw
  exact ⟨_, vx_runI (bytes := My.2.1) (maxL := My.2.2.1) (n := n) ⟨C0.1, C0.2.1, C0.2.2.2.2.1, C0.2.2.2.2.2.1, hts⟩ hM1 (cwI n hts hw rfl rfl rfl (hts _ q1) (hts _ q2) (hts _ q3) hy hd hR) ⟨blind, fun U hU hWm => ⟨rfl, by rw [hU]; exact hW.warm hWm, C0.2.2.2.2.2.2.2.1.warm hWm⟩⟩ rfl hn hL.1.1 rfl (lv_room (by rw [cat1_sum hst]; exact hst8)) d ⟨by show _ ≤ gLC G - B0.2.1; omega, by show _ ≤ gLS G - B0.2.2; omega⟩⟩
theorem cr_IN {host : String} (hret : My.2.2.2.1 = none) (hM : MetN G My B o' x' (.ref b :: As)) (n : Nat) (hn : As.length = n) (hstk : stk = As.reverse ++ .ref b :: st) (hw : GoodIn lw_all (wsM My)) (q1 : Cond.initialized My.1.cls ∈ lw_all) (q2 : Cond.methodLinkNest M.1.cls idx My.1 host ∈ gNw) (q3 : Cond.instanceMethod My.1 ∈ lw_all) (hy : My.1.name = "<init>") (hd : dOK My.1 n) (hR : rOK M My) (hst : cat1 st) (hst8 : st.length ≤ 8) (d : decode M.2.1 pc = .ok (.invokespecial idx, 3)) : ∀ r, x' = some r → CRun (ρ' := ρ') G M B0 pc L stk st B (o' r) := by
  intro r hx p e s m args below meth c0 C0 H locs ls hW hS hL hzl htl
  subst hstk
  have hlim := hW.2.2.2.1
  have hts := C0.2.2.2.2.2.2.1
  have hM1 := hM r hx
  rw [hret] at hM1
  unfold wsM at hw
  rw [hret] at hw
  exact ⟨_, vx_runIN (bytes := My.2.1) (maxL := My.2.2.1) (n := n) ⟨C0.1, C0.2.1, C0.2.2.2.2.1, C0.2.2.2.2.2.1, hts⟩ hM1 ⟨va_cnB n hts hw rfl rfl rfl (C0.2.2.2.2.2.2.2.1.2.1 _ q2) (hts _ q1) hd hR, hy, hts _ q3⟩ ⟨blind, fun U hU hWm => ⟨rfl, by rw [hU]; exact hW.warm hWm, C0.2.2.2.2.2.2.2.1.warm hWm⟩⟩ rfl hn hL.1.1 rfl (lv_room (by rw [cat1_sum hst]; exact hst8)) d ⟨by show _ ≤ gLC G - B0.2.1; omega, by show _ ≤ gLS G - B0.2.2; omega⟩⟩
theorem cr_F {xm : MethodName} {cnt : Nat} (hM : MetN G My B o' x' (.ref b :: As)) (n : Nat) (hn : As.length = n) (hstk : stk = As.reverse ++ .ref b :: st) (hb : ∃ c, B.1 b = some c ∧ c.1 % 1000 = t) (hC : gCl[t]? = some (C, T, N)) (hw : GoodIn lw_all (va_wsF M.1.cls idx C xm My.1 (wsM My))) (hF : (C, xm, My.1) ∈ gFw) (hd : dOK xm n) (hR : rOK M My) (hst : cat1 st) (hst8 : st.length ≤ 8) (d : decode M.2.1 pc = .ok (.invokeinterface idx cnt, 5)) : ∀ r, x' = some r → CRun5 (ρ' := ρ') G M B0 pc L stk st B (o' r) := by
  intro r hx p e s m args below meth c0 C0 H locs ls hW hS hL hzl htl
  subst hstk
  obtain ⟨c, hB, hct⟩ := hb
  have hlim := hW.2.2.2.1
  have hts := C0.2.2.2.2.2.2.1
  exact ⟨_, vx_runF (C := C) (n := n) (C0.2.2.2.2.2.2.2.1.1.1 t _ hC).2 ⟨C0.1, C0.2.1, C0.2.2.2.2.1, C0.2.2.2.2.2.1, hts⟩ (hM r hx) (va_cwF n hts hw rfl rfl rfl (C0.2.2.2.2.2.2.2.1.2.2.1 _ hF) hd hR) ⟨blind, hW.recv C0.2.2.2.2.2.2.2.1 hB hct hC, fun U hU hWm => ⟨rfl, by rw [hU]; exact hW.warm hWm, C0.2.2.2.2.2.2.2.1.warm hWm⟩⟩ rfl hn hL.1.1 rfl (lv_room (by rw [cat1_sum hst]; exact hst8)) d ⟨by show _ ≤ gLC G - B0.2.1; omega, by show _ ≤ gLS G - B0.2.2; omega⟩⟩
end CALLS
end
section
/-! BASE 8: new arrays, casts, statics, Object's constructor, further calls; the class's side in typed form -/
section ROWS8
variable {ρ ρ' : Type} {G : GT} {M My : MI} {B0 : BH} {o : ρ → Rv × BH} {o' : ρ' → Rv × BH} {x y : Option ρ} {x' : Option ρ'} {pc idx t N : Nat} {C : String} {T : u_T} {L : LL} {st stk : List Value} {B : BH} {e : Option Nat} {K : KT} {As : List Value} {b : Nat}
theorem na_end {p : Program} {e : Env} {s : State} {m : MethodId} {args : Array Value} {below : List Frame} {meth : Method} {c0 : Code} {H : Heap} {locs : List Loc} {c : PC4} {n : Nat} {cl : Cell} {Q : State → Prop} {g : JFrame} (C0 : CX G M B0 p s m args meth c0) (hW : World G s B H) (hS : va_S (gAA G) s.heap H locs) (hK : KOK G K) (hr : rmK K B n) (hz : cl.slots.size = n) (hl : c.2.1 < 2147483648) (hx : c.1 < 2000) (hat : cAt G H.size c (H.push cl)) (htot : tot s.heap ≤ tot H)
    (kk : World G s (pushB B c n) (H.push cl) → va_S (gAA G) s.heap (H.push cl) locs → W p (gL G) e (rmOf G M B0) s m args below meth c0 (H.push cl) locs ((pushB B c n).2.1 - B0.2.1) ((pushB B c n).2.2 - B0.2.2) Q g) : W p (gL G) e (rmOf G M B0) s m args below meth c0 (H.push cl) locs (B.2.1 - B0.2.1 + 1) (B.2.2 - B0.2.2 + n) Q g := by
  have hzl : B0.2.1 ≤ B.2.1 := by
    have := hS.1
    rw [hW.1, C0.2.2.2.2.2.2.2.2.2.1] at this
    exact this
  have htl : B0.2.2 ≤ B.2.2 := by
    rw [hW.2.1, C0.2.2.2.2.2.2.2.2.2.2.1] at htot
    exact htot
  have kk9 := kk (hW.push hK hr hz hl hat hx) ⟨Nat.le_trans hS.1 (by rw [Array.size_push]; omega), fun q h5 h6 => by rw [Array.getElem?_push, if_neg (Nat.ne_of_lt (Nat.lt_of_lt_of_le h5 hS.1))]; exact hS.2.1 q h5 h6, hS.2.2⟩
  have e1 : (pushB B c n).2.1 - B0.2.1 = B.2.1 - B0.2.1 + 1 := by show B.2.1 + 1 - _ = _; omega
  have e2 : (pushB B c n).2.2 - B0.2.2 = B.2.2 - B0.2.2 + n := by show B.2.2 + n - _ = _; omega
  rw [e1, e2] at kk9
  exact kk9
theorem na_lim {s : State} {H : Heap} {n : Nat} (hW : World G s B H) (hS : B0.2.1 ≤ B.2.1) (hT : B0.2.2 ≤ B.2.2) (hK : KOK G K) (hr : rmK K B n) : B.2.1 - B0.2.1 + 1 ≤ (rmOf G M B0).cells ∧ B.2.2 - B0.2.2 + n ≤ (rmOf G M B0).slots := by
  have := hK.1
  have := hK.2.1
  have := hr.1
  have := hr.2
  refine ⟨?_, ?_⟩
  · show _ ≤ gLC G - B0.2.1; omega
  · show _ ≤ gLS G - B0.2.2; omega
theorem nat_of {n : Int} (h : 0 ≤ n ∧ n < 1000000) : ¬ Int32.ofInt n < 0 ∧ (Int32.ofInt n).toNatClampNeg = n.toNat := by
  have ht : (Int32.ofInt n).toInt = n := ok32_toInt ⟨by omega, by omega⟩
  refine ⟨?_, ?_⟩
  · rw [iv_0, iv_lt ⟨by omega, by omega⟩ ok32_0]; omega
  · show (Int32.ofInt n).toInt.toNat = n.toNat
    rw [ht]
theorem h_na_int {n : Int} {κ : Option Nat → BH → Option ρ} (hK : KOK G K) (q : Cond.arrayClass .int ∈ lw_all) (d : decode M.2.1 pc = .ok (.newarray .int, 2)) (kk : ∀ v B, Sim G M B0 o (κ v B) (pc + 2) L (va_rf v :: st) B) : Sim G M B0 o (na K B 100 n κ) pc L (iv n :: st) B :=
  Sim.ck fun hr => fun r hr9 p e s m args below meth c0 C0 H locs ls hW hS hL => W.stand fun htot => by
    have hts := C0.2.2.2.2.2.2.1
    obtain ⟨n1, n2⟩ := nat_of hr.1
    have hzl : B0.2.1 ≤ B.2.1 := by
      have := hS.1
      rw [hW.1, C0.2.2.2.2.2.2.2.2.2.1] at this
      exact this
    have htl : B0.2.2 ≤ B.2.2 := by
      have := htot
      rw [hW.2.1, C0.2.2.2.2.2.2.2.2.2.2.1] at this
      exact this
    obtain ⟨l1, l2⟩ := na_lim (M := M) hW hzl htl hK hr.2
    refine W.newa (atype := .int) C0.1 C0.2.1 (hts _ q) rfl d rfl n1 (by rw [n2]; show n.toNat * 4 ≤ _; omega) l1 (by rw [n2]; exact l2) fun cA kA comp h1 h2 h3 => ?_
    have hcA : gA G 100 = cA := Option.some.inj ((C0.2.2.2.2.2.2.2.1.1.2 0 (gA G 100, .int) rfl).2.symm.trans h1)
    rw [n2]
    refine na_end C0 hW hS hK hr.2 (by rw [Array.size_replicate]) (c := (100, n.toNat, fun _ => 0, fun _ => none)) (by show n.toNat < _; omega) (by show (100 : Nat) < 2000; decide) ?_ htot (fun hW1 hS1 => ?_)
    · refine (cAt_int (t := 100) rfl (Or.inl rfl)).mpr ?_
      rw [Array.getElem?_push_size, arrV_new, hcA]
      rfl
    · rw [hW.1]
      exact kk _ _ r hr9 p e s m args below meth c0 C0 _ locs ls hW1 hS1 hL
theorem h_na_boolean {n : Int} {κ : Option Nat → BH → Option ρ} (hK : KOK G K) (q : Cond.arrayClass .boolean ∈ lw_all) (d : decode M.2.1 pc = .ok (.newarray .boolean, 2)) (kk : ∀ v B, Sim G M B0 o (κ v B) (pc + 2) L (va_rf v :: st) B) : Sim G M B0 o (na K B 101 n κ) pc L (iv n :: st) B :=
  Sim.ck fun hr => fun r hr9 p e s m args below meth c0 C0 H locs ls hW hS hL => W.stand fun htot => by
    have hts := C0.2.2.2.2.2.2.1
    obtain ⟨n1, n2⟩ := nat_of hr.1
    have hzl : B0.2.1 ≤ B.2.1 := by
      have := hS.1
      rw [hW.1, C0.2.2.2.2.2.2.2.2.2.1] at this
      exact this
    have htl : B0.2.2 ≤ B.2.2 := by
      have := htot
      rw [hW.2.1, C0.2.2.2.2.2.2.2.2.2.2.1] at this
      exact this
    obtain ⟨l1, l2⟩ := na_lim (M := M) hW hzl htl hK hr.2
    refine W.newa (atype := .boolean) C0.1 C0.2.1 (hts _ q) rfl d rfl n1 (by rw [n2]; show n.toNat * 1 ≤ _; omega) l1 (by rw [n2]; exact l2) fun cA kA comp h1 h2 h3 => ?_
    have hcA : gA G 101 = cA := Option.some.inj ((C0.2.2.2.2.2.2.2.1.1.2 1 (gA G 101, .boolean) rfl).2.symm.trans h1)
    rw [n2]
    refine na_end C0 hW hS hK hr.2 (by rw [Array.size_replicate]) (c := (101, n.toNat, fun _ => 0, fun _ => none)) (by show n.toNat < _; omega) (by show (101 : Nat) < 2000; decide) ?_ htot (fun hW1 hS1 => ?_)
    · refine (cAt_int (t := 101) rfl (Or.inr (Or.inl rfl))).mpr ?_
      rw [Array.getElem?_push_size, arrV_new, hcA]
      rfl
    · rw [hW.1]
      exact kk _ _ r hr9 p e s m args below meth c0 C0 _ locs ls hW1 hS1 hL
theorem h_na_byte {n : Int} {κ : Option Nat → BH → Option ρ} (hK : KOK G K) (q : Cond.arrayClass .byte ∈ lw_all) (d : decode M.2.1 pc = .ok (.newarray .byte, 2)) (kk : ∀ v B, Sim G M B0 o (κ v B) (pc + 2) L (va_rf v :: st) B) : Sim G M B0 o (na K B 102 n κ) pc L (iv n :: st) B :=
  Sim.ck fun hr => fun r hr9 p e s m args below meth c0 C0 H locs ls hW hS hL => W.stand fun htot => by
    have hts := C0.2.2.2.2.2.2.1
    obtain ⟨n1, n2⟩ := nat_of hr.1
    have hzl : B0.2.1 ≤ B.2.1 := by
      have := hS.1
      rw [hW.1, C0.2.2.2.2.2.2.2.2.2.1] at this
      exact this
    have htl : B0.2.2 ≤ B.2.2 := by
      have := htot
      rw [hW.2.1, C0.2.2.2.2.2.2.2.2.2.2.1] at this
      exact this
    obtain ⟨l1, l2⟩ := na_lim (M := M) hW hzl htl hK hr.2
    refine W.newa (atype := .byte) C0.1 C0.2.1 (hts _ q) rfl d rfl n1 (by rw [n2]; show n.toNat * 1 ≤ _; omega) l1 (by rw [n2]; exact l2) fun cA kA comp h1 h2 h3 => ?_
    have hcA : gA G 102 = cA := Option.some.inj ((C0.2.2.2.2.2.2.2.1.1.2 2 (gA G 102, .byte) rfl).2.symm.trans h1)
    rw [n2]
    refine na_end C0 hW hS hK hr.2 (by rw [Array.size_replicate]) (c := (102, n.toNat, fun _ => 0, fun _ => none)) (by show n.toNat < _; omega) (by show (102 : Nat) < 2000; decide) ?_ htot (fun hW1 hS1 => ?_)
    · refine (cAt_int (t := 102) rfl (Or.inr (Or.inr rfl))).mpr ?_
      rw [Array.getElem?_push_size, arrV_new, hcA]
      rfl
    · rw [hW.1]
      exact kk _ _ r hr9 p e s m args below meth c0 C0 _ locs ls hW1 hS1 hL
theorem h_na_long {n : Int} {κ : Option Nat → BH → Option ρ} (hK : KOK G K) (q : Cond.arrayClass .long ∈ lw_all) (d : decode M.2.1 pc = .ok (.newarray .long, 2)) (kk : ∀ v B, Sim G M B0 o (κ v B) (pc + 2) L (va_rf v :: st) B) : Sim G M B0 o (na K B 103 n κ) pc L (iv n :: st) B :=
  Sim.ck fun hr => fun r hr9 p e s m args below meth c0 C0 H locs ls hW hS hL => W.stand fun htot => by
    have hts := C0.2.2.2.2.2.2.1
    obtain ⟨n1, n2⟩ := nat_of hr.1
    have hzl : B0.2.1 ≤ B.2.1 := by
      have := hS.1
      rw [hW.1, C0.2.2.2.2.2.2.2.2.2.1] at this
      exact this
    have htl : B0.2.2 ≤ B.2.2 := by
      have := htot
      rw [hW.2.1, C0.2.2.2.2.2.2.2.2.2.2.1] at this
      exact this
    obtain ⟨l1, l2⟩ := na_lim (M := M) hW hzl htl hK hr.2
    refine W.newa (atype := .long) C0.1 C0.2.1 (hts _ q) rfl d rfl n1 (by rw [n2]; show n.toNat * 8 ≤ _; omega) l1 (by rw [n2]; exact l2) fun cA kA comp h1 h2 h3 => ?_
    have hcA : gA G 103 = cA := Option.some.inj ((C0.2.2.2.2.2.2.2.1.1.2 3 (gA G 103, .long) rfl).2.symm.trans h1)
    rw [n2]
    refine na_end C0 hW hS hK hr.2 (by rw [Array.size_replicate]) (c := (103, n.toNat, fun _ => 0, fun _ => none)) (by show n.toNat < _; omega) (by show (103 : Nat) < 2000; decide) ?_ htot (fun hW1 hS1 => ?_)
    · refine (cAt_long rfl).mpr ?_
      rw [Array.getElem?_push_size, arrV_new, hcA]
      rfl
    · rw [hW.1]
      exact kk _ _ r hr9 p e s m args below meth c0 C0 _ locs ls hW1 hS1 hL
theorem h_naR {n : Int} {i0 : Nat} {κ : Option Nat → BH → Option ρ} (hK : KOK G K) (q : Cond.classLink M.1.cls idx C ∈ lw_all) (hAO : C ∈ gAO) (ht : 110 ≤ t ∧ t < 1000) (hi0 : (gTys G)[i0]? = some (gA G t, .object C)) (d : decode M.2.1 pc = .ok (.anewarray idx, 3)) (kk : ∀ v B, Sim G M B0 o (κ v B) (pc + 3) L (va_rf v :: st) B) : Sim G M B0 o (na K B t n κ) pc L (iv n :: st) B :=
  Sim.ck fun hr => fun r hr9 p e s m args below meth c0 C0 H locs ls hW hS hL => W.stand fun htot => by
    have hts := C0.2.2.2.2.2.2.1
    obtain ⟨n1, n2⟩ := nat_of hr.1
    have hzl : B0.2.1 ≤ B.2.1 := by
      have := hS.1
      rw [hW.1, C0.2.2.2.2.2.2.2.2.2.1] at this
      exact this
    have htl : B0.2.2 ≤ B.2.2 := by
      have := htot
      rw [hW.2.1, C0.2.2.2.2.2.2.2.2.2.2.1] at this
      exact this
    obtain ⟨l1, l2⟩ := na_lim (M := M) hW hzl htl hK hr.2
    refine W.anew C0.1 C0.2.1 C0.2.2.2.2.2.1 (hts _ q) (va_AO.use (C0.2.2.2.2.2.2.2.1.2.2.2.1 _ hAO)) rfl d rfl n1 (by rw [n2]; omega) l1 (by rw [n2]; exact l2) fun cA kA comp h1 h2 h3 h4 => ?_
    have hcA : gA G t = cA := by
      obtain ⟨_, _, -, -, -, h9⟩ := (C0.2.2.2.2.2.2.2.1.1.2 i0 _ hi0).2
      exact Option.some.inj (h9.symm.trans h1)
    rw [n2]
    refine na_end C0 hW hS hK hr.2 (by rw [Array.size_replicate]) (c := (t, n.toNat, fun _ => 0, fun _ => none)) (by show n.toNat < _; omega) (by show t < 2000; omega) ?_ htot (fun hW1 hS1 => ?_)
    · refine (cAt_ref (t := t) (by show t % 1000 = t; omega) ht.1).mpr ?_
      rw [Array.getElem?_push_size, arrV_new, hcA]
      rfl
    · rw [hW.1]
      exact kk _ _ r hr9 p e s m args below meth c0 C0 _ locs ls hW1 hS1 hL
/-- checkcast to the class of tag t, or to an array class -/
def ctO {ρ : Type} (B : BH) (t : Nat) (e : Option Nat) (x : Option ρ) : Option ρ := match e with
  | none => x
  | some a => (B.1 a).bind fun c => ck (c.1 % 1000 = t) x
theorem ctO_some {a : Nat} {r : ρ} (h : ctO B t (some a) x = some r) : (∃ c, B.1 a = some c ∧ c.1 % 1000 = t) ∧ x = some r := by
  have h' : ((B.1 a).bind fun c => ck (c.1 % 1000 = t) x) = some r := h
  cases hB : B.1 a with
  | none => rw [hB] at h'; cases h'
  | some c => rw [hB] at h'; exact ⟨⟨c, rfl, (ck_some h').1⟩, (ck_some h').2⟩
theorem h_castO (q : Cond.classLink M.1.cls idx C ∈ lw_all) (hC : gCl[t]? = some (C, T, N)) (d : decode M.2.1 pc = .ok (.checkcast idx, 3)) (kk : Sim G M B0 o x (pc + 3) L (va_rf e :: st) B) : Sim G M B0 o (ctO B t e x) pc L (va_rf e :: st) B := by
  intro r hr p ev s m args below meth c0 C0 H locs ls hW hS hL
  cases e with
  | none => exact lv_castN C0.1 C0.2.1 d (kk r hr p ev s m args below meth c0 C0 H locs ls hW hS hL)
  | some a =>
    obtain ⟨⟨c, hB, ht⟩, hr⟩ := ctO_some hr
    exact va_castS C0.1 C0.2.1 C0.2.2.2.2.2.1 (C0.2.2.2.2.2.2.1 _ q) (C0.2.2.2.2.2.2.2.1.1.1 t _ hC).2 (hW.recv C0.2.2.2.2.2.2.2.1 hB ht hC) d (kk r hr p ev s m args below meth c0 C0 H locs ls hW hS hL)
theorem h_castA {nm : String} {i0 : Nat} {ty : FieldType} (q : Cond.classLink M.1.cls idx nm ∈ lw_all) (hi0 : (gTys G)[i0]? = some (gA G t, ty)) (hnm : nm = "[" ++ ty.toString) (ht : t = 100 ∨ (110 ≤ t ∧ t < 1000)) (hty : t = 100 → ty = .int) (hty2 : 110 ≤ t → ∃ C, ty = .object C) (d : decode M.2.1 pc = .ok (.checkcast idx, 3)) (kk : Sim G M B0 o x (pc + 3) L (va_rf e :: st) B) : Sim G M B0 o (ctO B t e x) pc L (va_rf e :: st) B := by
  intro r hr p ev s m args below meth c0 C0 H locs ls hW hS hL
  cases e with
  | none => exact lv_castN C0.1 C0.2.1 d (kk r hr p ev s m args below meth c0 C0 H locs ls hW hS hL)
  | some a =>
    obtain ⟨⟨c, hB, hct⟩, hr⟩ := ctO_some hr
    obtain ⟨w1, w2, w3⟩ := hW.2.2.1 a c hB
    have hnm1 : s.vm.findClass nm = some (gA G t) := by
      have h9 := (C0.2.2.2.2.2.2.2.1.1.2 i0 _ hi0).2
      rw [hnm]
      rcases ht with rfl | ht
      · rw [hty rfl] at h9 ⊢
        exact h9
      · obtain ⟨C9, rfl⟩ := hty2 ht.1
        obtain ⟨_, _, -, -, -, h8⟩ := h9
        exact h8
    have hP : ∃ x : vp_A, va_P (gD G) gCl [(a, .inl (gA G t, x))] H := by
      rcases ht with rfl | ht
      · refine ⟨(c.2.1, .inl (fun j => Int32.ofInt (c.2.2.1 j))), fun k q hq => ?_⟩
        cases k with
        | zero => cases hq; exact (cAt_int (H := H) hct (Or.inl rfl)).mp w1
        | succ k => simp at hq
      · refine ⟨(c.2.1, .inr (.inr (.inr (.inr c.2.2.2)))), fun k q hq => ?_⟩
        cases k with
        | zero => cases hq; exact (cAt_ref (H := H) hct ht.1).mp w1
        | succ k => simp at hq
    obtain ⟨x9, hP⟩ := hP
    exact va_castA C0.1 C0.2.1 C0.2.2.2.2.2.1 (C0.2.2.2.2.2.2.1 _ q) hP 0 rfl hnm1 d (kk r hr p ev s m args below meth c0 C0 H locs ls hW hS hL)
theorem s_gets {n dd : String} {v : Value} (hz : (C, n, dd, v) ∈ gZ G) (q : Cond.fieldLink M.1.cls idx C n dd ∈ lw_all) (d : decode M.2.1 pc = .ok (.getstatic idx, 3)) (kk : Sim G M B0 o x (pc + 3) L (v :: st) B) : Sim G M B0 o x pc L st B := fun r hr p e s m args below meth c0 C0 H locs ls hW hS hL => by
  obtain ⟨cf, kf, fi, f, a, cell, h1, h2, h3, h4, h5, h6, h7, h8⟩ := hW.2.2.2.2.1.1 _ hz
  exact W.gets C0.1 C0.2.1 C0.2.2.2.2.2.1 (C0.2.2.2.2.2.2.1 _ q) h1 h2 h3 h4 h5 (fun e => by rw [e] at h6; cases h6) h7 rfl d (kk r hr p e s m args below meth c0 C0 H locs ls hW hS hL)
theorem h_getsR {n dd : String} {i : Nat} (hK : KOK G K) (hi : gSt[i]? = some (C, n, dd)) (q : Cond.fieldLink M.1.cls idx C n dd ∈ lw_all) (d : decode M.2.1 pc = .ok (.getstatic idx, 3)) (kk : Sim G M B0 o x (pc + 3) L (va_rf (K.2.2.2.2 i) :: st) B) : Sim G M B0 o x pc L st B := s_gets (hK.2.2.1 i _ hi) q d kk
theorem h_getsI {n dd : String} {v : Int} (hK : KOK G K) (hi : (C, n, dd, v) ∈ gSi) (q : Cond.fieldLink M.1.cls idx C n dd ∈ lw_all) (d : decode M.2.1 pc = .ok (.getstatic idx, 3)) (kk : Sim G M B0 o x (pc + 3) L (iv v :: st) B) : Sim G M B0 o x pc L st B := s_gets (hK.2.2.2.1 _ hi) q d kk
theorem h_objInit (q1 : Cond.methodLink M.1.cls idx Lib.objectInit ∈ lw_all) (q2 : Cond.instanceMethod Lib.objectInit ∈ lw_all) (q3 : Cond.code Lib.objectInit ⟨#[0xb1]⟩ 1 none ∈ lw_all) (hR : 1 ≤ M.2.2.2.2.2.1 ∧ 20 ≤ M.2.2.2.2.2.2) (hst : cat1 st) (hst8 : st.length ≤ 8) (d : decode M.2.1 pc = .ok (.invokespecial idx, 3)) (kk : Sim G M B0 o x (pc + 3) L st B) : Sim G M B0 o (ck (e ≠ none) x) pc L (va_rf e :: st) B :=
  Sim.ck fun he => fun r hr p ev s m args below meth c0 C0 H locs ls hW hS hL => by
    have hts := C0.2.2.2.2.2.2.1
    cases e with
    | none => exact absurd rfl he
    | some a => exact W.objInit C0.1 C0.2.1 C0.2.2.2.2.2.1 (hts _ q1) (hts _ q2) (hts _ q3) rfl (hL.1.1.trans C0.2.2.2.2.1.symm) rfl d hR.1 (by rw [cat1_sum hst]; show 2 * 0 + _ + 12 ≤ M.2.2.2.2.2.2; omega) (kk r hr p ev s m args below meth c0 C0 H locs ls hW hS hL)
theorem cr_SN {host : String} (hM : MetN G My B o' x' As) (n : Nat) (hn : As.length = n) (hstk : stk = As.reverse ++ st) (hw : GoodIn lw_all (wsM My)) (q1 : Cond.initialized My.1.cls ∈ lw_all) (q2 : Cond.methodLinkNest M.1.cls idx My.1 host ∈ gNw) (q3 : Cond.static My.1 ∈ lw_all) (hd : dOK My.1 n) (hR : rOK M My) (hst : cat1 st) (hst8 : st.length ≤ 8) (d : decode M.2.1 pc = .ok (.invokestatic idx, 3)) : ∀ r, x' = some r → CRun (ρ' := ρ') G M B0 pc L stk st B (o' r) := by
  intro r hx p e s m args below meth c0 C0 H locs ls hW hS hL hzl htl
  subst hstk
  have hlim := hW.2.2.2.1
  have hts := C0.2.2.2.2.2.2.1
  exact ⟨_, vx_runSN (n := n) ⟨C0.1, C0.2.1, C0.2.2.2.2.1, C0.2.2.2.2.2.1, hts⟩ (hM r hx) ⟨va_cnB n hts hw rfl rfl rfl (C0.2.2.2.2.2.2.2.1.2.1 _ q2) (hts _ q1) hd hR, hts _ q3, trivial⟩ ⟨blind, fun U hU hWm => ⟨rfl, by rw [hU]; exact hW.warm hWm, C0.2.2.2.2.2.2.2.1.warm hWm⟩⟩ rfl hn hL.1.1 rfl (lv_room (by rw [cat1_sum hst]; exact hst8)) d ⟨by show _ ≤ gLC G - B0.2.1; omega, by show _ ≤ gLS G - B0.2.2; omega⟩⟩
/-- a method of a class above, by the receiver -/
theorem cr_U {xm : MethodName} {owner : String} (hM : MetN G My B o' x' (.ref b :: As)) (n : Nat) (hn : As.length = n) (hstk : stk = As.reverse ++ .ref b :: st) (hb : ∃ c, B.1 b = some c ∧ c.1 % 1000 = t) (hC : gCl[t]? = some (C, T, N)) (hw : GoodIn lw_all (va_wsU M.1.cls idx C owner xm My.1 (wsM My))) (hyx : My.1 = ⟨owner, xm.name, xm.desc⟩) (hd : owner ≠ "java/lang/invoke/MethodHandle" ∧ owner ≠ "java/lang/invoke/VarHandle" ∧ (parseMethodDescriptor xm.desc).map (fun d => d.parameters.length) = some n) (hR : rOK M My) (hst : cat1 st) (hst8 : st.length ≤ 8) (d : decode M.2.1 pc = .ok (.invokevirtual idx, 3)) : ∀ r, x' = some r → CRun (ρ' := ρ') G M B0 pc L stk st B (o' r) := by
  intro r hx p e s m args below meth c0 C0 H locs ls hW hS hL hzl htl
  subst hstk
  obtain ⟨c, hB, hct⟩ := hb
  have hlim := hW.2.2.2.1
  have hts := C0.2.2.2.2.2.2.1
  exact ⟨_, vx_runU (C := C) (owner := owner) (n := n) ⟨C0.1, C0.2.1, C0.2.2.2.2.1, C0.2.2.2.2.2.1, hts⟩ (hM r hx) (va_cwU n hts hw rfl rfl rfl hyx hd hR) ⟨blind, hW.recv C0.2.2.2.2.2.2.2.1 hB hct hC, fun U hU hWm => ⟨rfl, by rw [hU]; exact hW.warm hWm, C0.2.2.2.2.2.2.2.1.warm hWm⟩⟩ rfl hn hL.1.1 rfl (lv_room (by rw [cat1_sum hst]; exact hst8)) d ⟨by show _ ≤ gLC G - B0.2.1; omega, by show _ ≤ gLS G - B0.2.2; omega⟩⟩
/-- super.m(..) -/
theorem cr_SU (hM : MetN G My B o' x' (.ref b :: As)) (n : Nat) (hn : As.length = n) (hstk : stk = As.reverse ++ .ref b :: st) (hb : ∃ c, B.1 b = some c ∧ c.1 % 1000 = t) (hC : gCl[t]? = some (C, T, N)) (hw : GoodIn lw_all (va_wsSU M.1.cls idx My.1 (wsM My))) (hd : My.1.name ≠ "<init>" ∧ (parseMethodDescriptor My.1.desc).map (fun d => d.parameters.length) = some n) (hR : rOK M My) (hst : cat1 st) (hst8 : st.length ≤ 8) (d : decode M.2.1 pc = .ok (.invokespecial idx, 3)) : ∀ r, x' = some r → CRun (ρ' := ρ') G M B0 pc L stk st B (o' r) := by
  intro r hx p e s m args below meth c0 C0 H locs ls hW hS hL hzl htl
  subst hstk
  obtain ⟨c, hB, hct⟩ := hb
  have hlim := hW.2.2.2.1
  have hts := C0.2.2.2.2.2.2.1
  exact ⟨_, vx_runSU (C := C) (n := n) (C0.2.2.2.2.2.2.2.1.1.1 t _ hC).2 ⟨C0.1, C0.2.1, C0.2.2.2.2.1, C0.2.2.2.2.2.1, hts⟩ (hM r hx) (va_cwSU n hts hw rfl rfl rfl hd hR) ⟨blind, hW.recv C0.2.2.2.2.2.2.2.1 hB hct hC, fun U hU hWm => ⟨rfl, by rw [hU]; exact hW.warm hWm, C0.2.2.2.2.2.2.2.1.warm hWm⟩⟩ rfl hn hL.1.1 rfl (lv_room (by rw [cat1_sum hst]; exact hst8)) d ⟨by show _ ≤ gLC G - B0.2.1; omega, by show _ ≤ gLS G - B0.2.2; omega⟩⟩
/-! typed answers of the class's side -/
def oh1 (r : Int × BH) : Rv × BH := ((1, r.1, none), r.2)
def oh2 (r : Option Nat × BH) : Rv × BH := ((2, 0, r.1), r.2)
def oh0 (r : BH) : Rv × BH := ((0, 0, none), r)
def hb1 {ρ : Type} (x : Option (Int × BH)) (κ : Int → BH → Option ρ) : Option ρ := x.bind (fun r => κ r.1 r.2)
def hb2 {ρ : Type} (x : Option (Option Nat × BH)) (κ : Option Nat → BH → Option ρ) : Option ρ := x.bind (fun r => κ r.1 r.2)
def hb0 {ρ : Type} (x : Option BH) (κ : BH → Option ρ) : Option ρ := x.bind κ
/-- the receiver is an object of tag t -/
def rcv {ρ : Type} (B : BH) (t : Nat) (e : Option Nat) (κ : Nat → Option ρ) : Option ρ := match e with
  | none => none
  | some a => (B.1 a).bind fun c => ck (c.1 % 1000 = t) (κ a)
/-- no null, no more is asked -/
def rcn {ρ : Type} (e : Option Nat) (κ : Nat → Option ρ) : Option ρ := match e with
  | none => none
  | some a => κ a
theorem h_rcv {κ : Nat → Option ρ} (h : ∀ a, e = some a → (∃ c, B.1 a = some c ∧ c.1 % 1000 = t) → Sim G M B0 o (κ a) pc L stk B) : Sim G M B0 o (rcv B t e κ) pc L stk B := by
  intro r hr
  cases e with
  | none => cases hr
  | some a =>
    have h' : ((B.1 a).bind fun c => ck (c.1 % 1000 = t) (κ a)) = some r := hr
    cases hB : B.1 a with
    | none => rw [hB] at h'; cases h'
    | some c => rw [hB] at h'; exact h a rfl ⟨c, hB, (ck_some h').1⟩ r (ck_some h').2
theorem h_rcn {κ : Nat → Option ρ} (h : ∀ a, e = some a → Sim G M B0 o (κ a) pc L stk B) : Sim G M B0 o (rcn e κ) pc L stk B := by
  intro r hr
  cases e with
  | none => cases hr
  | some a => exact h a rfl r hr
theorem hr1 : ∀ r : Int × BH, (oh1 r).1.1 < 10 := fun _ => by show 1 < 10; omega
theorem hr2 : ∀ r : Option Nat × BH, (oh2 r).1.1 < 10 := fun _ => by show 2 < 10; omega
theorem hr0 : ∀ r : BH, (oh0 r).1.1 < 10 := fun _ => by show 0 < 10; omega
end ROWS8
end
section
/-! BASE 9: further rows of the class's side -/
theorem lw_l4 {a b c d : Cond} (h1 : a ∈ lw_all) (h2 : b ∈ lw_all) (h3 : c ∈ lw_all) (h4 : d ∈ lw_all) : ∀ w ∈ [a, b, c, d], w ∈ lw_all := by
  intro w hw
  simp only [List.mem_cons, List.not_mem_nil, or_false] at hw
  rcases hw with e | e | e | e <;> rw [e] <;> assumption
theorem lw_l5 {a b c d f : Cond} (h1 : a ∈ lw_all) (h2 : b ∈ lw_all) (h3 : c ∈ lw_all) (h4 : d ∈ lw_all) (h5 : f ∈ lw_all) : ∀ w ∈ [a, b, c, d, f], w ∈ lw_all := by
  intro w hw
  simp only [List.mem_cons, List.not_mem_nil, or_false] at hw
  rcases hw with e | e | e | e | e <;> rw [e] <;> assumption
def nnB (own : String) (i : Nat) (w : Cond) : Bool := match w with
  | .fieldLinkNest a j _ _ _ _ => !(decide (a = own) && decide (j = i))
  | _ => true
theorem noNest {own : String} {i : Nat} {r n d host : String} (h : gNw.all (nnB own i) = true) (hm : Cond.fieldLinkNest own i r n d host ∈ gNw) : False := by
  have h1 := List.all_eq_true.mp h _ hm
  simp [nnB] at h1
/-- what came back from a method that may throw -/
def rv0 {ρ : Type} (v : Rv) (x : Option ρ) : Option ρ := ck (v.1 = 0) x
def rv1 {ρ : Type} (v : Rv) (κ : Int → Option ρ) : Option ρ := ck (v.1 = 1) (κ v.2.1)
def rv2 {ρ : Type} (v : Rv) (κ : Option Nat → Option ρ) : Option ρ := ck (v.1 = 2) (κ v.2.2)
abbrev isBB (v : Int) : Prop := -128 ≤ v ∧ v < 128
def sB {ρ : Type} (B : BH) (e : Option Nat) (i v : Int) (κ : BH → Option ρ) : Option ρ := (cell B e).bind fun c => ck (c.1 = 102 ∧ inA c i) (κ (upB B (e.getD 0) (putI c i.toNat (bI2b v))))
theorem vx_ofWF {l : Launch} {y : MethodName} {ws ws' : List Cond} {rm : Room} {Pc : Array Value → State → Prop} {Qc : Array Value → State → Outcome → State → Prop} {XC : String → State → State → Prop} {mc ms : Nat} {free : Addr → Prop} {cc : ByteArray} {maxL : Nat} {ret : Option FieldType}
    (hy : plainFor y = true) (hw : ws = Cond.code y cc maxL ret :: ws')
    (body : ∀ p e s m args below meth c s₁, BodyLoose p l y (headSpec ws rm) cc maxL ret e s m args below meth c s₁ → c.maxLocals = maxL → (∀ x ∈ c.exceptionTable.toList, False) → Pc args s →
      W p l e (headSpec ws rm).room s m args below meth c s.heap [] 0 0 (vx_MQ below Qc XC args s mc ms free) (entryFrame m args maxL)) : vx_Met l y ws rm Pc Qc XC mc ms free := by
  refine MetFree.of_bodySF (code := cc) (maxLocals := maxL) (ret := ret) hy ?_ ?_
  · intro args s m h hn
    obtain ⟨meth, c, h1, h2, h3, h4, h5, h6, -, -⟩ := Cond.code_spec hn (atoms_spec (ws := ws) h _ (by rw [hw]; exact List.mem_cons_self))
    exact ⟨meth, c, h1, h2, h3, h4, h5, h6⟩
  · intro p e s m args below meth c s₁ B hml hP _
    have hh0 : s₁.heap = s.heap := by rw [B.state]; rfl
    have ht : ∀ x ∈ c.exceptionTable.toList, False := by
      obtain ⟨meth9, c9, h1, h2, -, -, -, -, h7, -⟩ := Cond.code_spec B.named (atoms_spec (ws := ws) B.pre _ (by rw [hw]; exact List.mem_cons_self))
      cases Option.some.inj (h1.symm.trans B.method)
      cases Option.some.inj (h2.symm.trans (Stand.of_body B).code)
      intro x hx
      rw [Array.isEmpty_iff.mp h7] at hx
      cases hx
    obtain ⟨t, a1, o, b1, b2, b3⟩ := body p e s m args below meth c s₁ B hml ht hP s₁ hh0 (Stand.of_body B)
    exact ⟨t, o, a1, b1, b2, b3⟩
theorem mk_metF {ρ : Type} {G : GT} {M : MI} {B : BH} {o : ρ → Rv × BH} {x : Option ρ} {av : List Value} {L0 : LL} (hy : plainFor M.1 = true) (hh : M.2.2.2.2.1 = []) (hc : cat1 av) (hlen : av.length ≤ M.2.2.1) (hL : av.map some ++ List.replicate (M.2.2.1 - av.length) none = L0) (h : Sim G M B o x 0 L0 [] B) : MetN G M B o x av := by
  intro r hr
  refine vx_ofWF (cc := M.2.1) (maxL := M.2.2.1) (ret := M.2.2.2.1) hy rfl ?_
  intro p e s m args below meth c s₁ Bd hml hexc hv
  obtain ⟨rfl, hW, hK⟩ := hv
  have hts := atoms_spec (ws := ws_ M.1 M.2.1 M.2.2.1 M.2.2.2.1) Bd.pre
  have he : c.exceptionTable.toList = tableOf M.2.2.2.2.1 := by
    rw [hh, List.eq_nil_iff_forall_not_mem.mpr (fun x hx => hexc x hx)]
    rfl
  have C : CX G M B p s m av.toArray meth c := ⟨Bd.exec, Bd.bytes, Bd.returns, Bd.notSynchronized, hml, findClass_of_methodNamed Bd.named, fun w h => hts w (List.mem_cons_of_mem _ h), hK, by rw [hW.1]; exact hW.2.2.2.1.1, hW.1, hW.2.1, (name_of_methodNamed Bd.named Bd.method).1, he⟩
  rw [lg_entry_eq]
  have k := h r hr p e s m av.toArray below meth c C s.heap [] _ hW va_S.rf (by rw [← hL]; exact LV_entry hc hlen)
  rw [Nat.sub_self, Nat.sub_self] at k
  exact k
section ROWS9
variable {ρ : Type} {G : GT} {M : MI} {B0 : BH} {o : ρ → Rv × BH} {x y : Option ρ} {pc idx t N : Nat} {C : String} {T : u_T} {L : LL} {st stk : List Value} {B : BH} {e : Option Nat} {K : KT}
theorem h_rv0 {v : Rv} (kk : Sim G M B0 o x pc L st B) : Sim G M B0 o (rv0 v x) pc L ((rvO v).toList ++ st) B := Sim.ck fun h => by
  unfold rvO
  rw [if_pos h]
  exact kk
theorem h_rv1 {v : Rv} {κ : Int → Option ρ} (kk : ∀ w, Sim G M B0 o (κ w) pc L (iv w :: st) B) : Sim G M B0 o (rv1 v κ) pc L ((rvO v).toList ++ st) B := Sim.ck fun h => by
  unfold rvO
  rw [if_neg (by omega), if_pos h]
  exact kk _
theorem h_rv2 {v : Rv} {κ : Option Nat → Option ρ} (kk : ∀ w, Sim G M B0 o (κ w) pc L (va_rf w :: st) B) : Sim G M B0 o (rv2 v κ) pc L ((rvO v).toList ++ st) B := Sim.ck fun h => by
  unfold rvO
  rw [if_neg (by omega), if_neg (by omega)]
  exact kk _
/-- a table's row, and its end -/
theorem h_swc {v i dflt lo hi : Int} {offs : Array Int} {len tgt : Nat} {off : Int} (d : decode M.2.1 pc = .ok (.tableswitch dflt lo hi offs, len)) (h1 : ¬ i < lo) (h2 : ¬ hi < i) (ho : offs[(i - lo).toNat]? = some off) (ht : (pc : Int) + off = (tgt : Int)) (kt : Sim G M B0 o x tgt L st B) (kf : v ≠ i → Sim G M B0 o (ck (ok32 v) y) pc L (iv v :: st) B) : Sim G M B0 o (ck (ok32 v) (if v = i then x else y)) pc L (iv v :: st) B := by
  intro r hr p e s m args below meth c C H locs ls hW hS hL
  obtain ⟨hc, hr⟩ := ck_some hr
  by_cases e9 : v = i
  · subst e9
    rw [if_pos rfl] at hr
    have hv := ok32_toInt hc
    exact lv_tableIn C.1 C.2.1 d (by rw [hv]; exact h1) (by rw [hv]; exact h2) (by rw [hv]; exact ho) ht (kt r hr p e s m args below meth c C H locs ls hW hS hL)
  · rw [if_neg e9] at hr
    exact kf e9 r ((ck_t hc).trans hr) p e s m args below meth c C H locs ls hW hS hL
theorem h_swd {v dflt lo hi : Int} {offs : Array Int} {len tgt : Nat} (d : decode M.2.1 pc = .ok (.tableswitch dflt lo hi offs, len)) (h : ok32 v → v < lo ∨ hi < v) (ht : (pc : Int) + dflt = (tgt : Int)) (kt : Sim G M B0 o x tgt L st B) : Sim G M B0 o (ck (ok32 v) x) pc L (iv v :: st) B := by
  intro r hr p e s m args below meth c C H locs ls hW hS hL
  obtain ⟨hc, hr⟩ := ck_some hr
  have hv := ok32_toInt hc
  exact lv_tableOut C.1 C.2.1 d (by rw [hv]; exact h hc) ht (kt r hr p e s m args below meth c C H locs ls hW hS hL)
theorem h_bald {i : Int} {κ : Int → Option ρ} (d : decode M.2.1 pc = .ok (.baload, 1)) (kk : ∀ v, Sim G M B0 o (κ v) (pc + 1) L (iv v :: st) B) : Sim G M B0 o (aI B 102 e i κ) pc L (iv i :: va_rf e :: st) B :=
  Sim.cell fun a c he hB => Sim.ck fun hc => fun r hr p e s m args below meth c0 C0 H locs ls hW hS hL => by
    subst he
    obtain ⟨w1, w2, w3⟩ := hW.2.2.1 a c hB
    obtain ⟨g1, g2⟩ := vp_in_iv hc.2.1 hc.2.2 w3
    have hat := (cAt_int (H := H) hc.1 (Or.inr (Or.inr rfl))).mp w1
    exact W.bald (v := iv (c.2.2.1 i.toNat)) C0.1 C0.2.1 hat ((C0.2.2.2.2.2.2.2.1.1.2 2 (gA G 102, .byte) rfl).1 _ _) (fun q => by cases q) (by rw [arrV_size]; exact g1) (by rw [arrV_read _ _ (by have := hc.2.2; have := hc.2.1; omega), g2]; rfl) rfl rfl d (kk _ r hr p e s m args below meth c0 C0 H locs ls hW hS hL)
theorem putR_arr {f : Nat → Option Nat} {k : Nat} {v : Option Nat} : (fun j => va_rf ((fun j => if j = k then v else f j) j)) = updV (fun j => va_rf (f j)) k (va_rf v) := by
  funext j
  unfold updV
  by_cases h : j = k
  · simp [h]
  · simp [h]
theorem obj_cast : ∀ q ∈ gCl, Cond.castable q.1 "java/lang/Object" ∈ gNw := by decide +kernel
theorem ints_cast : Cond.castable "[I" "java/lang/Object" ∈ gNw := by decide +kernel
/-- the names of the rows' classes, by the array's tag -/
theorem rowT_of {t : Nat} (h1 : 110 ≤ t) (h2 : t < 116) : ∃ (i0 : Nat) (E : String), (gTys G)[i0]? = some (gA G t, .object E) ∧ (rowT t = none → E = "java/lang/Object") ∧ ∀ t' q, rowT t = some t' → gCl[t']? = some q → q.1 = E := by
  have : t = 110 ∨ t = 111 ∨ t = 112 ∨ t = 113 ∨ t = 114 ∨ t = 115 := by omega
  rcases this with rfl | rfl | rfl | rfl | rfl | rfl
  · exact ⟨4, _, rfl, fun _ => rfl, fun t' q h _ => by cases h⟩
  · exact ⟨5, _, rfl, fun h => (by cases h), fun t' q h e => by cases h; cases e; rfl⟩
  · exact ⟨6, _, rfl, fun h => (by cases h), fun t' q h e => by cases h; cases e; rfl⟩
  · exact ⟨7, _, rfl, fun h => (by cases h), fun t' q h e => by cases h; cases e; rfl⟩
  · exact ⟨8, _, rfl, fun h => (by cases h), fun t' q h e => by cases h; cases e; rfl⟩
  · exact ⟨9, _, rfl, fun h => (by cases h), fun t' q h e => by cases h; cases e; rfl⟩
theorem fit_key {s : State} {H : Heap} (hW : World G s B H) (hK : GOK G s) {t v : Nat} (h1 : 110 ≤ t) (h2 : t < 116) (hfit : fitR B t (some v) = true) : ∃ (i0 : Nat) (E : String), (gTys G)[i0]? = some (gA G t, .object E) ∧ ∀ comp, s.vm.findClass E = some comp → ∃ cv kv, H[v]? = some cv ∧ (∀ q, cv.vm ≠ .statics q) ∧ s.vm.classes[cv.cls]? = some kv ∧ s.vm.assignable cv.cls comp = true := by
  obtain ⟨i0, E, hi0, hE, hE2⟩ := rowT_of (G := G) h1 h2
  refine ⟨i0, E, hi0, fun comp hcomp => ?_⟩
  unfold fitR at hfit
  cases hBv : B.1 v with
  | none => simp [hBv] at hfit
  | some c' =>
    simp only [hBv, Bool.or_eq_true, Bool.and_eq_true, decide_eq_true_eq, beq_iff_eq] at hfit
    rcases hfit with ⟨ho, hr⟩ | ⟨hn, h100⟩
    · obtain ⟨q, hq⟩ : ∃ q, gCl[c'.1 % 1000]? = some q := by
        have hl : gCl.length = 22 := rfl
        exact ⟨gCl[c'.1 % 1000]'(by omega), List.getElem?_eq_getElem (by omega)⟩
      obtain ⟨cv, g1, g2, g3⟩ := hW.recv (C := q.1) (T := q.2.1) (N := q.2.2) hK hBv rfl hq
      obtain ⟨kv, hkv, -⟩ := Vm.findClass_spec g3
      refine ⟨cv, kv, g1, (fun q9 h9 => by rw [h9] at g2; cases g2), hkv, ?_⟩
      rcases hr with hr | hr
      · obtain ⟨c0, t0, f1, f2, f3⟩ := Cond.castable_spec (va_Nw.use (A := #[]) rfl (hK.2.1 _ (obj_cast q (List.mem_of_getElem? hq))))
        cases g3.symm.trans f1
        rw [hE hr] at hcomp
        cases hcomp.symm.trans f2
        exact f3
      · have e9 := hE2 _ _ hr hq
        have hat := (hK.1.1 _ _ hq).2
        rw [e9] at hat g3
        have e8 : comp = cv.cls := Option.some.inj (hcomp.symm.trans g3)
        have e7 : comp = (gD G).1 (c'.1 % 1000) := Option.some.inj (hcomp.symm.trans hat.1)
        rw [← e8, e7]
        exact va_assign hat
    · have hat := (cAt_int (H := H) h100 (Or.inl rfl)).mp (hW.2.2.1 v c' hBv).1
      have hA := (hK.1.2 0 (gA G 100, .int) rfl).2
      have hA1 : s.vm.findClass "[I" = some (gA G 100) := hA
      obtain ⟨kv, hkv, -⟩ := Vm.findClass_spec hA1
      refine ⟨_, kv, hat, fun q9 h9 => (by cases h9), hkv, ?_⟩
      obtain ⟨c0, t0, f1, f2, f3⟩ := Cond.castable_spec (va_Nw.use (A := #[]) rfl (hK.2.1 _ ints_cast))
      cases hA1.symm.trans f1
      rw [hE hn] at hcomp
      cases hcomp.symm.trans f2
      exact f3
theorem h_aast {i : Int} {v : Option Nat} {κ : BH → Option ρ} (d : decode M.2.1 pc = .ok (.aastore, 1)) (kk : ∀ B, Sim G M B0 o (κ B) (pc + 1) L st B) : Sim G M B0 o (sR B e i v κ) pc L (va_rf v :: iv i :: va_rf e :: st) B :=
  Sim.cell fun a c he hB => Sim.ck fun hc => fun r hr p ev s m args below meth c0 C0 H locs ls hW hS hL => by
    subst he
    obtain ⟨h1, h2, hin, hfit⟩ := hc
    have htm : c.1 % 1000 = c.1 := by omega
    obtain ⟨w1, w2, w3⟩ := hW.2.2.1 a c hB
    obtain ⟨g1, g2⟩ := vp_in_iv hin.1 hin.2 w3
    have hat := (cAt_ref (H := H) htm h1).mp w1
    have hK := C0.2.2.2.2.2.2.2.1
    have fin : ∀ H' : Heap, H'[a]? = some ((arrV (gA G c.1) c.2.1 (fun j => va_rf (c.2.2.2 j))).setSlot (Int32.ofInt i).toNatClampNeg (va_rf v)) → H'.size = H.size → (∀ q, q ≠ a → H'[q]? = H[q]?) → W p (gL G) ev (rmOf G M B0) s m args below meth c0 H' (locs ++ [⟨a, (Int32.ofInt i).toNatClampNeg⟩]) (B.2.1 - B0.2.1) (B.2.2 - B0.2.2) (Fin9 G B0 (o r) below args s) (F0 m (pc + 1) ls st) := by
      intro H' e1 e2 e3
      refine kk _ r hr p ev s m args below meth c0 C0 H' _ ls (hW.put hB (by omega) rfl rfl hat e1 (by simp [Cell.setSlot]) e2 e3 ?_) (hS.put e2 e3 (w2 (by omega))) hL
      refine (cAt_ref (c := putR c i.toNat v) (t := c.1) htm h1).mpr ?_
      show H'[a]? = _
      rw [e1, arrV_store, g2]
      exact congrArg some (congrArg (arrV (gA G c.1) c.2.1) putR_arr.symm)
    cases v with
    | none =>
      obtain ⟨i0, E, hi0⟩ := gTy_of (G := G) h1 h2
      exact va_WaastN (C := E) C0.1 C0.2.1 hat ((hK.1.2 i0 _ hi0).1 _ _) (fun h => by cases h) (by rw [arrV_size]; exact g1) rfl rfl d fin
    | some v =>
      have g0 : ¬ Int32.ofInt i < 0 := fun q => g1 (Or.inl q)
      have hlt : (Int32.ofInt i).toNatClampNeg < (arrV (gA G c.1) c.2.1 (fun j => va_rf (c.2.2.2 j))).slots.size := by
        rw [arrV_size]
        exact Nat.not_le.mp fun q => g1 (Or.inr q)
      obtain ⟨i0, E, hi0, key⟩ := fit_key hW hK h1 h2 hfit
      obtain ⟨kA, comp, k1, k2, k3, -⟩ := (hK.1.2 i0 _ hi0).2
      obtain ⟨kE, hkE, -⟩ := Vm.findClass_spec k3
      obtain ⟨cv, kv, q1, q2, q3, q4⟩ := key comp k3
      exact W.aast C0.1 C0.2.1 hat (fun q h => by cases h) (fun h => by cases h) k1 k2 rfl hkE ⟨g0, hlt⟩ q1 q2 q3 q4 rfl rfl d fin
end ROWS9
end
section
/-! BASE 10: class objects, System.arraycopy, division of any sign -/
def ctA {ρ : Type} (B : BH) (t : Nat) (e : Option Nat) (x : Option ρ) : Option ρ := (cell B e).bind fun c => ck (c.1 % 1000 = t) x
def cpI {ρ : Type} (B : BH) (e1 : Option Nat) (sp : Int) (e2 : Option Nat) (dp n : Int) (κ : BH → Option ρ) : Option ρ := (cell B e1).bind fun c1 => (cell B e2).bind fun c2 => ck (c1.1 % 1000 = 100 ∧ c2.1 = 100 ∧ 0 ≤ sp ∧ 0 ≤ dp ∧ 0 ≤ n ∧ sp + n ≤ c1.2.1 ∧ dp + n ≤ c2.2.1) (κ (upB B (e2.getD 0) (c2.1, c2.2.1, va_cpy c1.2.2.1 c2.2.2.1 sp.toNat dp.toNat n.toNat, c2.2.2.2)))
def cpR {ρ : Type} (B : BH) (e1 : Option Nat) (sp : Int) (e2 : Option Nat) (dp n : Int) (κ : BH → Option ρ) : Option ρ := (cell B e1).bind fun c1 => (cell B e2).bind fun c2 => ck ((c1.1 % 1000 = 110 ∧ c2.1 = 110 ∧ 0 ≤ sp ∧ 0 ≤ dp ∧ 0 ≤ n ∧ sp + n ≤ c1.2.1 ∧ dp + n ≤ c2.2.1) ∧ ∀ i, i < n.toNat → fitR B 110 (c1.2.2.2 (sp.toNat + i)) = true) (κ (upB B (e2.getD 0) (c2.1, c2.2.1, c2.2.2.1, va_cpy c1.2.2.2 c2.2.2.2 sp.toNat dp.toNat n.toNat)))
abbrev okdT (a b : Int) : Prop := ok32 a ∧ 0 < b ∧ b < 2147483648
section ROWS10
variable {ρ : Type} {G : GT} {M : MI} {B0 : BH} {o : ρ → Rv × BH} {x y : Option ρ} {pc idx t N : Nat} {C : String} {T : u_T} {L : LL} {st stk : List Value} {B : BH} {e e1 e2 : Option Nat} {K : KT}
theorem nat_of2 {n : Int} (h : 0 ≤ n) (h2 : n < 2147483648) : ¬ Int32.ofInt n < 0 ∧ (Int32.ofInt n).toNatClampNeg = n.toNat := by
  have ht : (Int32.ofInt n).toInt = n := ok32_toInt ⟨by omega, by omega⟩
  refine ⟨?_, ?_⟩
  · rw [iv_0, iv_lt ⟨by omega, by omega⟩ ok32_0]; omega
  · show (Int32.ofInt n).toInt.toNat = n.toNat
    rw [ht]
theorem iv_tdiv {a b : Int} (h : okdT a b) : Int32.ofInt a / Int32.ofInt b = Int32.ofInt (Int.tdiv a b) := by
  obtain ⟨h1, h3, h4⟩ := h
  have hb : ∀ z : Int, -2147483648 ≤ z → z < 2147483648 → -2147483648 ≤ Int.tdiv z b ∧ Int.tdiv z b < 2147483648 := by
    intro z z1 z2
    by_cases hz : 0 ≤ z
    · rw [Int.tdiv_eq_ediv_of_nonneg hz]
      have := Int.ediv_nonneg hz (by omega : 0 ≤ b)
      have := Int.ediv_le_self b hz
      omega
    · have e9 : Int.tdiv z b = -(Int.tdiv (-z) b) := by rw [Int.neg_tdiv, Int.neg_neg]
      rw [e9, Int.tdiv_eq_ediv_of_nonneg (by omega)]
      have := Int.ediv_nonneg (by omega : 0 ≤ -z) (by omega : 0 ≤ b)
      have := Int.ediv_le_self b (by omega : 0 ≤ -z)
      omega
  obtain ⟨q1, q2⟩ := hb a h1.1 h1.2
  apply Int32.toInt_inj.mp
  rw [Int32.toInt_div, ok32_toInt h1, ok32_toInt ⟨by omega, h4⟩, ok32_toInt ⟨q1, q2⟩]
  exact Int.bmod_eq_of_le (by simp; omega) (by simp; omega)
theorem s_idivT {a b : Int} (d : decode M.2.1 pc = .ok (.idiv, 1)) (kk : Sim G M B0 o x (pc + 1) L (iv (Int.tdiv a b) :: st) B) : Sim G M B0 o (ck (okdT a b) x) pc L (iv b :: iv a :: st) B := Sim.stepc (fun hc {_ _ _ _ _ _ _ _ _ _ _ _ _ _ _} C h => lv_idiv C.1 C.2.1 d (iv_ne0 hc.2) (by rw [iv_tdiv hc]; exact h)) kk
theorem s_iremT {a b : Int} (d : decode M.2.1 pc = .ok (.irem, 1)) (kk : Sim G M B0 o x (pc + 1) L (iv (Int.tmod a b) :: st) B) : Sim G M B0 o (ck (okdT a b) x) pc L (iv b :: iv a :: st) B := Sim.stepc (fun hc {_ _ _ _ _ _ _ _ _ _ _ _ _ _ _} C h => lv_irem C.1 C.2.1 d (iv_ne0 hc.2) (by rw [iv_tdiv hc, ← Int32.ofInt_mul, ← Int32.ofInt_sub, show a - Int.tdiv a b * b = Int.tmod a b by rw [Int.tmod_def, Int.mul_comm]]; exact h)) kk
theorem h_ldcM (hK : KOK G K) (q : Cond.classLink M.1.cls idx "[Ljava/lang/Object;" ∈ lw_all) (d : decode M.2.1 pc = .ok (.ldc idx, 2)) (kk : Sim G M B0 o x (pc + 2) L (va_rf (K.2.2.2.2 50) :: st) B) : Sim G M B0 o x pc L st B := kk.step fun C h => va_ldcM C.1 C.2.1 C.2.2.2.2.2.1 (C.2.2.2.2.2.2.1 _ q) C.2.2.2.2.2.2.2.1.2.2.2.2.2.1 d (by rw [hK.2.2.2.2.1] at h; exact h)
theorem gc_decl : Cond.declares ⟨"java/lang/Object", "getClass", "()Ljava/lang/Class;"⟩ ∈ gNw := by decide +kernel
theorem h_getClass (hK : KOK G K) (q : Cond.methodLink M.1.cls idx ⟨"java/lang/Object", "getClass", "()Ljava/lang/Class;"⟩ ∈ lw_all) (q1 : Cond.selects "[Ljava/lang/Object;" ⟨"java/lang/Object", "getClass", "()Ljava/lang/Class;"⟩ ⟨"java/lang/Object", "getClass", "()Ljava/lang/Class;"⟩ ∈ lw_all) (q2 : Cond.instanceMethod ⟨"java/lang/Object", "getClass", "()Ljava/lang/Class;"⟩ ∈ lw_all) (q3 : Cond.native ⟨"java/lang/Object", "getClass", "()Ljava/lang/Class;"⟩ ∈ lw_all) (hst : cat1 st) (hst8 : st.length ≤ 8) (hR : 1 ≤ M.2.2.2.2.2.1 ∧ 22 ≤ M.2.2.2.2.2.2) (d : decode M.2.1 pc = .ok (.invokevirtual idx, 3)) (kk : Sim G M B0 o x (pc + 3) L (va_rf (K.2.2.2.2 50) :: st) B) : Sim G M B0 o (ctA B 110 e x) pc L (va_rf e :: st) B :=
  Sim.cell fun a c he hB => Sim.ck fun ht => fun r hr p ev s m args below meth c0 C0 H locs ls hW hS hL => by
    subst he
    have hts := C0.2.2.2.2.2.2.1
    have hG := C0.2.2.2.2.2.2.2.1
    have hat := (cAt_ref (H := H) ht (by omega)).mp (hW.2.2.1 a c hB).1
    obtain ⟨_, _, -, -, -, hnm⟩ := (hG.1.2 4 (gA G 110, .object "java/lang/Object") rfl).2
    have kk9 := kk r hr p ev s m args below meth c0 C0 H locs ls hW hS hL
    rw [hK.2.2.2.2.1] at kk9
    exact va_getC C0.1 C0.2.1 (C0.2.2.2.2.1.trans hL.1.1.symm) C0.2.2.2.2.2.1 (hts _ q) (va_Nw.use rfl (hG.2.1 _ gc_decl)) (hts _ q1) (hts _ q2) (hts _ q3) hG.2.2.2.2.2.1 ⟨_, hat, rfl, hnm⟩ hR.1 (by rw [cat1_sum hst]; show _ ≤ M.2.2.2.2.2.2; omega) d kk9
theorem nfw : nativeFrameWords "java/lang/System" "arraycopy" 5 + 11 ≤ 30 := by decide +kernel
theorem cp_words {M : MI} {idx : Nat} (q : Cond.methodLink M.1.cls idx arraycopyName ∈ lw_all) (q1 : Cond.native arraycopyName ∈ lw_all) (q2 : Cond.static arraycopyName ∈ lw_all) (q3 : Cond.initialized "java/lang/System" ∈ lw_all) : True := trivial
theorem int_nn {z : Int} (h : 0 ≤ z) (h2 : z < 2147483648) : (Int32.ofInt z).toInt = z := ok32_toInt ⟨by omega, by omega⟩
theorem h_copyI {sp dp n : Int} {κ : BH → Option ρ} (q : Cond.methodLink M.1.cls idx arraycopyName ∈ lw_all) (q1 : Cond.native arraycopyName ∈ lw_all) (q2 : Cond.static arraycopyName ∈ lw_all) (q3 : Cond.initialized "java/lang/System" ∈ lw_all) (hst : cat1 st) (hst8 : st.length ≤ 8) (hR : 1 ≤ M.2.2.2.2.2.1 ∧ 38 ≤ M.2.2.2.2.2.2) (d : decode M.2.1 pc = .ok (.invokestatic idx, 3)) (kk : ∀ B, Sim G M B0 o (κ B) (pc + 3) L st B) : Sim G M B0 o (cpI B e1 sp e2 dp n κ) pc L (iv n :: iv dp :: va_rf e2 :: iv sp :: va_rf e1 :: st) B :=
  Sim.cell fun a0 c1 he1 hB1 => Sim.cell fun a c2 he2 hB2 => Sim.ck fun hc => fun r hr p ev s m args below meth c0 C0 H locs ls hW hS hL => by
    subst he1 he2
    obtain ⟨t1, t2, s1, s2, s3, s4, s5⟩ := hc
    have hts := C0.2.2.2.2.2.2.1
    have hG := C0.2.2.2.2.2.2.2.1
    obtain ⟨w1, w2, w3⟩ := hW.2.2.1 a0 c1 hB1
    obtain ⟨v1, v2, v3⟩ := hW.2.2.1 a c2 hB2
    have hc0 := (cAt_int (H := H) t1 (Or.inl rfl)).mp w1
    have hc1 := (cAt_int (H := H) (t := 100) (by omega) (Or.inl rfl)).mp v1
    obtain ⟨g1, g1'⟩ := nat_of2 s1 (by omega)
    obtain ⟨g2, g2'⟩ := nat_of2 s2 (by omega)
    obtain ⟨g3, g3'⟩ := nat_of2 s3 (by omega)
    obtain ⟨-, k0, hk0, cm0, hkk0⟩ := (hG.1.2 0 (gA G 100, .int) rfl).1 c1.2.1 (fun j => .int (Int32.ofInt (c1.2.2.1 j)))
    obtain ⟨-, k1, hk1, cm1, hkk1⟩ := (hG.1.2 0 (gA G 100, .int) rfl).1 c2.2.1 (fun j => .int (Int32.ofInt (c2.2.2.1 j)))
    intro T hT X
    obtain ⟨vm', X', step⟩ := X.arraycopy C0.1 C0.2.2.2.2.2.1 (hts _ q) (hts _ q1) (hts _ q2) (hts _ q3) (src := a0) (dst := a) (srcPos := Int32.ofInt sp) (destPos := Int32.ofInt dp) (n := Int32.ofInt n) (by rw [hT]; exact hc0) (by rw [hT]; exact hc1)
      (fun _ h => by cases h) (fun _ h => by cases h) (fun h => by cases h) (fun h => by cases h) hk0 hk1 hkk0 hkk1 (by rfl) g1 g2 g3
      (by rw [int_nn s1 (by omega), int_nn s3 (by omega), arrV_size]; omega)
      (by rw [int_nn s2 (by omega), int_nn s3 (by omega), arrV_size]; omega)
      (fun vm₁ _ i hi => by
        have e9 : (arrV (gA G 100) c1.2.1 (fun j => Value.int (Int32.ofInt (c1.2.2.1 j)))).slots.getD ((Int32.ofInt sp).toNatClampNeg + i) .null = .int (Int32.ofInt (c1.2.2.1 ((Int32.ofInt sp).toNatClampNeg + i))) := by
          rw [Array.getD_eq_getD_getElem?, arrV_read _ _ (by omega)]
          rfl
        exact ⟨by rw [e9]; rfl, by rw [e9]; exact trivial⟩)
      (g := F0 m pc ls (iv n :: iv dp :: va_rf (some a) :: iv sp :: va_rf (some a0) :: st)) rfl (by rw [C0.2.2.2.2.1]; exact hL.1.1) (rest := st) rfl (by rw [C0.2.1]; exact d) hR.1 (by have := nfw; have hsum := cat1_sum hst; have h8 := hR.2; show 2 * 0 + _ + _ ≤ M.2.2.2.2.2.2; omega)
    have e1 : copied (arrV (gA G 100) c1.2.1 (fun j => Value.int (Int32.ofInt (c1.2.2.1 j)))) (arrV (gA G 100) c2.2.1 (fun j => Value.int (Int32.ofInt (c2.2.2.1 j)))) (Int32.ofInt sp) (Int32.ofInt dp) (Int32.ofInt n) = arrV (gA G 100) c2.2.1 (fun j => Value.int (Int32.ofInt (va_cpy c1.2.2.1 c2.2.2.1 sp.toNat dp.toNat n.toNat j))) := by
      have h4 : (Int32.ofInt sp).toNatClampNeg + (Int32.ofInt n).toNatClampNeg ≤ c1.2.1 := by omega
      refine (va_copied (fun z : Int => Value.int (Int32.ofInt z)) (gA G 100) (gA G 100) c1.2.2.1 c2.2.2.1 h4).trans ?_
      rw [g1', g2', g3']
    rw [e1] at X' step
    have hl : a < H.size := (Array.getElem?_eq_some_iff.mp hc1).1
    have hheap : ((T.setVm vm').setCell a (arrV (gA G 100) c2.2.1 (fun j => Value.int (Int32.ofInt (va_cpy c1.2.2.1 c2.2.2.1 sp.toNat dp.toNat n.toNat j))))).heap = H.setIfInBounds a (arrV (gA G 100) c2.2.1 (fun j => Value.int (Int32.ofInt (va_cpy c1.2.2.1 c2.2.2.1 sp.toNat dp.toNat n.toNat j)))) := by rw [← hT]; rfl
    have oq : ∀ q : Nat, q ≠ a → (H.setIfInBounds a (arrV (gA G 100) c2.2.1 (fun j => Value.int (Int32.ofInt (va_cpy c1.2.2.1 c2.2.2.1 sp.toNat dp.toNat n.toNat j)))))[q]? = H[q]? := fun q hq => by simp [Array.getElem?_setIfInBounds, Ne.symm hq]
    have ha : (H.setIfInBounds a (arrV (gA G 100) c2.2.1 (fun j => Value.int (Int32.ofInt (va_cpy c1.2.2.1 c2.2.2.1 sp.toNat dp.toNat n.toNat j)))))[a]? = some (arrV (gA G 100) c2.2.1 (fun j => Value.int (Int32.ofInt (va_cpy c1.2.2.1 c2.2.2.1 sp.toNat dp.toNat n.toNat j)))) := by simp [Array.getElem?_setIfInBounds, hl]
    have hga : gB G ≤ a := v2 (by omega)
    obtain ⟨t, a1, b1⟩ := kk _ r hr p ev s m args below meth c0 C0 _ _ ls (hW.put hB2 (by omega) (c' := (c2.1, c2.2.1, va_cpy c1.2.2.1 c2.2.2.1 sp.toNat dp.toNat n.toNat, c2.2.2.2)) rfl rfl hc1 ha (by rw [arrV_size, arrV_size]) (by simp) oq ((cAt_int (t := 100) (by show c2.1 % 1000 = 100; omega) (Or.inl rfl)).mpr ha)) ⟨by simp; exact hS.1, fun q g1 g2 => by
        rw [oq q (fun e => g2 (by rw [e]; exact hga))]
        exact hS.2.1 q g1 g2, fun q hq => by
        rcases List.mem_append.mp hq with h | h
        · exact hS.2.2 q h
        · obtain ⟨z, -, hz⟩ := List.mem_map.mp h
          rw [← hz]
          exact hga⟩ hL _ hheap X'
    exact ⟨t, step t a1, b1⟩
theorem h_copyR {sp dp n : Int} {κ : BH → Option ρ} (q : Cond.methodLink M.1.cls idx arraycopyName ∈ lw_all) (q1 : Cond.native arraycopyName ∈ lw_all) (q2 : Cond.static arraycopyName ∈ lw_all) (q3 : Cond.initialized "java/lang/System" ∈ lw_all) (hst : cat1 st) (hst8 : st.length ≤ 8) (hR : 1 ≤ M.2.2.2.2.2.1 ∧ 38 ≤ M.2.2.2.2.2.2) (d : decode M.2.1 pc = .ok (.invokestatic idx, 3)) (kk : ∀ B, Sim G M B0 o (κ B) (pc + 3) L st B) : Sim G M B0 o (cpR B e1 sp e2 dp n κ) pc L (iv n :: iv dp :: va_rf e2 :: iv sp :: va_rf e1 :: st) B :=
  Sim.cell fun a0 c1 he1 hB1 => Sim.cell fun a c2 he2 hB2 => Sim.ck fun hc => fun r hr p ev s m args below meth c0 C0 H locs ls hW hS hL => by
    subst he1 he2
    obtain ⟨⟨t1, t2, s1, s2, s3, s4, s5⟩, hfit⟩ := hc
    have hts := C0.2.2.2.2.2.2.1
    have hG := C0.2.2.2.2.2.2.2.1
    obtain ⟨w1, w2, w3⟩ := hW.2.2.1 a0 c1 hB1
    obtain ⟨v1, v2, v3⟩ := hW.2.2.1 a c2 hB2
    have hc0 := (cAt_ref (H := H) t1 (by omega)).mp w1
    have hc1 := (cAt_ref (H := H) (t := 110) (by omega) (by omega)).mp v1
    obtain ⟨g1, g1'⟩ := nat_of2 s1 (by omega)
    obtain ⟨g2, g2'⟩ := nat_of2 s2 (by omega)
    obtain ⟨g3, g3'⟩ := nat_of2 s3 (by omega)
    obtain ⟨-, k0, hk0, cm0, hkk0⟩ := (hG.1.2 4 (gA G 110, .object "java/lang/Object") rfl).1 c1.2.1 (fun j => va_rf (c1.2.2.2 j))
    obtain ⟨-, k1, hk1, cm1, hkk1⟩ := (hG.1.2 4 (gA G 110, .object "java/lang/Object") rfl).1 c2.2.1 (fun j => va_rf (c2.2.2.2 j))
    intro T hT X
    obtain ⟨vm', X', step⟩ := X.arraycopy C0.1 C0.2.2.2.2.2.1 (hts _ q) (hts _ q1) (hts _ q2) (hts _ q3) (src := a0) (dst := a) (srcPos := Int32.ofInt sp) (destPos := Int32.ofInt dp) (n := Int32.ofInt n) (by rw [hT]; exact hc0) (by rw [hT]; exact hc1)
      (fun _ h => by cases h) (fun _ h => by cases h) (fun h => by cases h) (fun h => by cases h) hk0 hk1 hkk0 hkk1 (by rfl) g1 g2 g3
      (by rw [int_nn s1 (by omega), int_nn s3 (by omega), arrV_size]; omega)
      (by rw [int_nn s2 (by omega), int_nn s3 (by omega), arrV_size]; omega)
      (fun vm₁ hal i hi => by
        have e9 : (arrV (gA G 110) c1.2.1 (fun j => va_rf (c1.2.2.2 j))).slots.getD ((Int32.ofInt sp).toNatClampNeg + i) .null = va_rf (c1.2.2.2 ((Int32.ofInt sp).toNatClampNeg + i)) := by
          rw [Array.getD_eq_getD_getElem?, arrV_read _ _ (by omega)]
          rfl
        rw [e9]
        cases hy : c1.2.2.2 ((Int32.ofInt sp).toNatClampNeg + i) with
        | none => exact ⟨rfl, trivial⟩
        | some y =>
          have hf9 := hfit i (by rw [← g3']; exact hi)
          rw [← g1', hy] at hf9
          obtain ⟨i0, E, hi0, key⟩ := fit_key hW hG (t := 110) (by omega) (by omega) hf9
          obtain ⟨kA, comp, r1, r2, r3, -⟩ := (hG.1.2 i0 _ hi0).2
          cases hk1.symm.trans r1
          cases hkk1.symm.trans r2
          obtain ⟨cellV, kC, q1, q2, hkC, q4⟩ := key _ r3
          obtain ⟨kE, hkE, -⟩ := Vm.findClass_spec r3
          obtain ⟨kC', hkC', -⟩ := hal.2.2 _ _ hkC
          obtain ⟨kE', hkE', -⟩ := hal.2.2 _ _ hkE
          refine ⟨rfl, cellV, (show T.heap[y]? = some cellV by rw [hT]; exact q1), q2, ⟨kC', hkC'⟩, ⟨kE', hkE'⟩, ?_⟩
          show vm₁.assignable _ _ = true
          rw [hal.assignable]
          exact q4)
      (g := F0 m pc ls (iv n :: iv dp :: va_rf (some a) :: iv sp :: va_rf (some a0) :: st)) rfl (by rw [C0.2.2.2.2.1]; exact hL.1.1) (rest := st) rfl (by rw [C0.2.1]; exact d) hR.1 (by have := nfw; have hsum := cat1_sum hst; have h8 := hR.2; show 2 * 0 + _ + _ ≤ M.2.2.2.2.2.2; omega)
    have e1 : copied (arrV (gA G 110) c1.2.1 (fun j => va_rf (c1.2.2.2 j))) (arrV (gA G 110) c2.2.1 (fun j => va_rf (c2.2.2.2 j))) (Int32.ofInt sp) (Int32.ofInt dp) (Int32.ofInt n) = arrV (gA G 110) c2.2.1 (fun j => va_rf (va_cpy c1.2.2.2 c2.2.2.2 sp.toNat dp.toNat n.toNat j)) := by
      have h4 : (Int32.ofInt sp).toNatClampNeg + (Int32.ofInt n).toNatClampNeg ≤ c1.2.1 := by omega
      refine (va_copied (fun z : Option Nat => va_rf z) (gA G 110) (gA G 110) c1.2.2.2 c2.2.2.2 h4).trans ?_
      rw [g1', g2', g3']
    rw [e1] at X' step
    have hl : a < H.size := (Array.getElem?_eq_some_iff.mp hc1).1
    have hheap : ((T.setVm vm').setCell a (arrV (gA G 110) c2.2.1 (fun j => va_rf (va_cpy c1.2.2.2 c2.2.2.2 sp.toNat dp.toNat n.toNat j)))).heap = H.setIfInBounds a (arrV (gA G 110) c2.2.1 (fun j => va_rf (va_cpy c1.2.2.2 c2.2.2.2 sp.toNat dp.toNat n.toNat j))) := by rw [← hT]; rfl
    have oq : ∀ q : Nat, q ≠ a → (H.setIfInBounds a (arrV (gA G 110) c2.2.1 (fun j => va_rf (va_cpy c1.2.2.2 c2.2.2.2 sp.toNat dp.toNat n.toNat j))))[q]? = H[q]? := fun q hq => by simp [Array.getElem?_setIfInBounds, Ne.symm hq]
    have ha : (H.setIfInBounds a (arrV (gA G 110) c2.2.1 (fun j => va_rf (va_cpy c1.2.2.2 c2.2.2.2 sp.toNat dp.toNat n.toNat j))))[a]? = some (arrV (gA G 110) c2.2.1 (fun j => va_rf (va_cpy c1.2.2.2 c2.2.2.2 sp.toNat dp.toNat n.toNat j))) := by simp [Array.getElem?_setIfInBounds, hl]
    have hga : gB G ≤ a := v2 (by omega)
    obtain ⟨t, a1, b1⟩ := kk _ r hr p ev s m args below meth c0 C0 _ _ ls (hW.put hB2 (by omega) (c' := (c2.1, c2.2.1, c2.2.2.1, va_cpy c1.2.2.2 c2.2.2.2 sp.toNat dp.toNat n.toNat)) rfl rfl hc1 ha (by rw [arrV_size, arrV_size]) (by simp) oq ((cAt_ref (t := 110) (by show c2.1 % 1000 = 110; omega) (by omega)).mpr ha)) ⟨by simp; exact hS.1, fun q g1 g2 => by
        rw [oq q (fun e => g2 (by rw [e]; exact hga))]
        exact hS.2.1 q g1 g2, fun q hq => by
        rcases List.mem_append.mp hq with h | h
        · exact hS.2.2 q h
        · obtain ⟨z, -, hz⟩ := List.mem_map.mp h
          rw [← hz]
          exact hga⟩ hL _ hheap X'
    exact ⟨t, step t a1, b1⟩
end ROWS10
end
section
/-! BASE 11: String constants; throwing -/
section ROWS11
variable {ρ : Type} {G : GT} {M : MI} {B0 : BH} {o : ρ → Rv × BH} {x y : Option ρ} {pc idx t N : Nat} {C : String} {T : u_T} {L : LL} {st stk : List Value} {B : BH} {e e1 e2 : Option Nat} {K : KT}
theorem h_ldcS {i : Nat} {own tx : String} (hK : KOK G K) (hc : M.1.cls = own) (hi : gStr[i]? = some (own, idx, tx)) (d : decode M.2.1 pc = .ok (.ldc idx, 2)) (kk : Sim G M B0 o x (pc + 2) L (va_rf (K.2.2.2.2 (100 + i)) :: st) B) : Sim G M B0 o x pc L st B := kk.step fun C h => by
  have hl : i < gStr.length := (List.getElem?_eq_some_iff.mp hi).1
  rw [hK.2.2.2.2.2 i hl] at h
  exact va_ldcS C.1 C.2.1 (by rw [← hc]; exact C.2.2.2.2.2.1) (C.2.2.2.2.2.2.2.1.2.2.2.2.2.2 i _ hi) d h
theorem h_ldcSW {i : Nat} {own tx : String} (hK : KOK G K) (hc : M.1.cls = own) (hi : gStr[i]? = some (own, idx, tx)) (d : decode M.2.1 pc = .ok (.ldc_w idx, 3)) (kk : Sim G M B0 o x (pc + 3) L (va_rf (K.2.2.2.2 (100 + i)) :: st) B) : Sim G M B0 o x pc L st B := kk.step fun C h => by
  have hl : i < gStr.length := (List.getElem?_eq_some_iff.mp hi).1
  rw [hK.2.2.2.2.2 i hl] at h
  have hZ := C.2.2.2.2.2.2.2.1.2.2.2.2.2.2 i _ hi
  intro T hT X
  obtain ⟨t, a1, b1⟩ := h T hT X
  exact ⟨t, X.ldcStringW C.1 (by rw [← hc]; exact C.2.2.2.2.2.1) (text := tx) hZ.1 hZ.2 (g := F0 _ pc _ st) rfl (by rw [C.2.1]; exact d) t a1, b1⟩
/-- the exception e of class tag t is made up and thrown as kind k -/
def delB (B : BH) (a : Nat) : BH := (fun q => if q = a then none else B.1 q, B.2)
def thr (B : BH) (e : Option Nat) (k : Nat) : Option (Rv × BH) := (cell B e).bind fun c => ck (c.1 = 2009 + k) (some ((k, 0, none), delB B (e.getD 0)))
def nwX {ρ : Type} (K : KT) (B : BH) (t : Nat) (κ : Option Nat → BH → Option ρ) : Option ρ := ck (rmK K B (gN t)) (κ (some B.2.1) (pushB B (2000 + t, 0, fun _ => 0, fun _ => none) (gN t)))
def xNames : List String := ["java/lang/RuntimeException", "java/lang/Exception"]
theorem xN_fit (k : Nat) : Bundle.fit (xN k) = true := by
  unfold xN
  split
  · decide +kernel
  · split
    · decide +kernel
    · decide +kernel
theorem xNames_fit : ∀ n ∈ xNames, Bundle.fit n = true := by decide +kernel
theorem xCl {k : Nat} (hk : k = 10 ∨ k = 11 ∨ k = 12) : ∃ q : vw_C, gCl[9 + k]? = some q ∧ q.1 = xN k := by
  rcases hk with rfl | rfl | rfl <;> exact ⟨_, rfl, rfl⟩
theorem back9L {p : Program} {l : Launch} {e : Env} {R : Room} {s : State} {m : MethodId} {args : Array Value} {below : List Frame} {meth : Method} {c : Code} {locs L9 : List Loc} {cells slots : Nat} {T S : State} {R' : Room} {k n : Nat} (X : Stand p l e R s m args below meth c T locs cells slots) (Y : Stand p l e R' ((T.setVm s.vm).setFrames (.invoking m args :: below)) m args below meth c T [] 0 0) (Z : Stand p l e R' ((T.setVm s.vm).setFrames (.invoking m args :: below)) m args below meth c S ([] ++ L9) k n) :
    Stand p l e R s m args below meth c S (locs ++ L9) (cells + k) (slots + n) := by
  have hW0 : s.WarmedH ((T.setVm s.vm).setFrames (.invoking m args :: below)).vm := State.WarmedH.refl s
  refine { admits := X.admits, cas := X.cas, clock := X.clock, frames := X.frames, room := X.room, hears := X.hears, method := X.method, code := X.code, here := Z.here, tail := Z.tail, warmed := State.WarmedH.trans hW0 Z.warmed, limits := Z.limits.trans (Y.limits.symm.trans X.limits), bytes := Z.bytes.trans (Y.bytes.symm.trans X.bytes), same := ?_ }
  obtain ⟨e1, e2⟩ := Z.same
  rw [State.setFrames_setFrames] at e1
  have h2 : (T.setVm s.vm).sameButNew (S.setVm s.vm) ([] ++ L9) k n := ⟨e1, e2⟩
  exact X.same.trans h2
theorem h_throw {k ic : Nat} {own : String} {m : Option Nat} (hc : M.1.cls = own) (hh : M.2.2.2.2.1 = []) (hk : k = 10 ∨ k = 11 ∨ k = 12) (hw : ∀ w ∈ vx_atS own ic (xN k) xNames, w ∈ lw_all ∨ w ∈ gNw) (hgood : ∀ w ∈ vx_atS own ic (xN k) xNames, vx_ot w = true) (hR : 6 ≤ M.2.2.2.2.2.1 ∧ 100 ≤ M.2.2.2.2.2.2) (hst : cat1 st) (hst8 : st.length ≤ 8) (d6 : decode M.2.1 pc = .ok (.invokespecial ic, 3)) (d9 : decode M.2.1 (pc + 3) = .ok (.athrow, 1)) : Sim G M B0 id (thr B e k) pc L (va_rf m :: va_rf e :: va_rf e :: st) B :=
  Sim.cell fun a c he hB => Sim.ck fun ht => fun r hr p ev s mm args below meth c0 C0 H locs ls hW hS hL => by
    subst he
    cases hr
    have hts := C0.2.2.2.2.2.2.1
    have hG := C0.2.2.2.2.2.2.2.1
    obtain ⟨w1, w2, w3, w4, w5, w6⟩ := hW
    obtain ⟨hga, cX, kX, hkX, hcell⟩ := w6 a c hB (by omega)
    obtain ⟨q, hq, hqx⟩ := xCl hk
    have hKn := hG.1.1 (9 + k) q hq
    have hfX : s.vm.findClass (xN k) = some ((gD G).1 (9 + k)) := by rw [← hqx]; exact hKn.2.1
    have hcX : (gD G).1 (9 + k) = cX := by
      obtain ⟨r9, _, hOB⟩ := (cAt_obj (H := H) (t := 9 + k) (by show c.1 % 1000 = _; omega) (by omega)).mp (w3 a c hB).1
      obtain ⟨ce, h1, h2, -⟩ := hOB
      rw [hcell] at h1
      cases h1
      exact h2.symm
    intro T hT X
    have hl9 : (gL G).stackTraces = false := by unfold Launch.stackTraces; rw [hG.2.2.2.2.1]; decide +kernel
    have htr : ev.platform.stackTraces = false := (show ev.platform.stackTraces = (gL G).stackTraces by rw [X.admits.platform]).trans hl9
    have Y := vx_rebase X (R' := { frames := M.2.2.2.2.2.1, locals := M.2.2.2.2.2.2, cells := 0, slots := 0 }) (Nat.le_refl _) (Nat.le_refl _) (Nat.sub_le_sub_right w4.2.1 _) (Nat.sub_le_sub_right w4.2.2 _)
    obtain ⟨s', hA⟩ : ∃ z, z = (T.setVm s.vm).setFrames (.invoking mm args :: below) := ⟨_, rfl⟩
    rw [← hA] at Y
    have hvm : s'.vm = s.vm := by rw [hA]; rfl
    have hhp : s'.heap = H := by rw [hA]; exact hT
    have hW0 : s.WarmedH s'.vm := by rw [hvm]; exact State.WarmedH.refl s
    have hat0 : ∀ w ∈ vx_atS own ic (xN k) xNames, w.before args s = true := fun w h9 => (hw w h9).elim (fun z => hts w z) (fun z => va_Nw.use (nwK_tab (List.all_eq_true.mp gNw_ok w z)) (hG.2.1 w z))
    have hat' : ∀ w ∈ vx_atS own ic (xN k) xNames, w.before args s' = true := fun w h9 => vx_ot_at hW0 hvm.symm (hgood w h9) (hat0 w h9)
    have hz' : Wz G s' s'.heap := by rw [hhp]; exact w5.moved hW0.alike
    have h : ∀ w ∈ Bundle.ownAtoms own ic (xN k) xNames, w.before args s' = true := vx_own hat' (vx_isRefq hz'.2.1.1) (vx_isRefq hz'.2.2.1) hz'.2.1.2.word hz'.2.2.2.word
    have hcellA : T.heap[a]? = some (freshCell cX kX) := by rw [hT]; exact hcell
    have hcat : (Value.ref a).category = 1 := rfl
    have hs1 := cat1_sum hst
    obtain ⟨V, ce, L9, Z, hL9, hlt, hcl9, hvm9, sgo⟩ := ctorMadeT (W := T) (g := { method := mm, pc := pc, locals := ls, stack := va_rf m :: .ref a :: .ref a :: st, locked := none }) Y C0.1 htr (own := own) (cls := xN k) (names := xNames) (ic := ic) (by rw [hvm, ← hc]; exact C0.2.2.2.2.2.1) (xN_fit k) xNames_fit h (fun x hx => nomatch hx) (cX := cX) (kX := kX) (by rw [hvm, hfX, hcX]) (by rw [hvm]; exact hkX) hcellA (fun cell h9 => by rw [hhp, hcell] at h9; cases h9; rfl) (msg := va_rf m) (by cases m <;> rfl) rfl (hL.1.1.trans C0.2.2.2.2.1.symm) (rest := st) rfl (by rw [C0.2.1]; exact d6) (by show 2 + 3 < _; exact hR.1) (by simp only [List.map_cons, List.sum_cons, hcat, hs1]; show 2 * 0 + (1 + st.length) + (13 * (2 + 1) + 42) ≤ _; have := hR.2; omega)
    have hcl : s.vm.findClass (xN k) = some ce.cls := by rw [hcl9, hfX, hcX]
    have hh1 : (V.setCell a ce).heap[a]? = some ce := heapAt_setCell_self (s := V) ce hlt
    obtain ⟨f1, f2⟩ := vx_frame Z.same
    obtain ⟨-, -, z3, -, -, z6⟩ := Z.same
    have z3' : (V.setCell a ce).heap.size ≤ s'.heap.size + 0 := z3
    have hq1 : ∀ q : Nat, q ≠ a → (V.setCell a ce).heap[q]? = H[q]? := by
      intro q hne
      by_cases hlq : q < s'.heap.size
      · rw [← hhp]
        exact f2 q hlq (fun z hz => by rw [List.nil_append] at hz; rw [hL9 z hz]; exact Ne.symm hne)
      · rw [Array.getElem?_eq_none_iff.mpr (by omega), Array.getElem?_eq_none_iff.mpr (by rw [← hhp]; omega)]
    have htt : tot (V.setCell a ce).heap = tot H := tot_same fun q => by
      by_cases e9 : q = a
      · subst e9
        obtain ⟨c9, y1, y2, y3, y4⟩ := z6 q (freshCell cX kX) (by rw [hhp]; exact hcell)
        have y1' : (V.setCell q ce).heap[q]? = some c9 := y1
        rw [y1', hcell, Option.map_some, Option.map_some, y3]
      · rw [hq1 q e9]
    have hsz : (V.setCell a ce).heap.size = H.size := by rw [← hhp]; exact Nat.le_antisymm z3' f1
    have hW1 : World G s (delB B a) (V.setCell a ce).heap := by
      refine ⟨hsz.trans w1, htt.trans w2, fun q d hq9 => ?_, w4, w5.kept (fun q _ hA9 => hq1 q (fun e9 => hA9 (by rw [e9]; exact hga))), fun q d hq9 hd => ?_⟩
      · have hq' : (if q = a then none else B.1 q) = some d := hq9
        by_cases e9 : q = a
        · rw [if_pos e9] at hq'; cases hq'
        · rw [if_neg e9] at hq'
          exact ⟨(w3 q d hq').1.kept (hq1 q e9), (w3 q d hq').2⟩
      · have hq' : (if q = a then none else B.1 q) = some d := hq9
        by_cases e9 : q = a
        · rw [if_pos e9] at hq'; cases hq'
        · rw [if_neg e9] at hq'
          exact (w6 q d hq' hd).kept (hq1 q e9)
    have hS1 : va_S (gAA G) s.heap (V.setCell a ce).heap (locs ++ L9) := by
      refine ⟨by rw [hsz]; exact hS.1, fun q h8 h9 => (hq1 q (fun e9 => h9 (by rw [e9]; exact hga))).trans (hS.2.1 q h8 h9), fun z hz => ?_⟩
      rcases List.mem_append.mp hz with hz | hz
      · exact hS.2.2 z hz
      · rw [hL9 z hz]; exact hga
    subst hA
    have X6 := back9L X Y Z
    have kk : vx_W p (gL G) ev (rmOf G M B0) s mm args below meth c0 (V.setCell a ce).heap (locs ++ L9) (B.2.1 - B0.2.1) (B.2.2 - B0.2.2) (Fin9 G B0 ((k, 0, none), delB B a) below args s) (F0 mm (pc + 3) ls st) a := vx_out (E := xN k) (tabN (by rw [C0.2.2.2.2.2.2.2.2.2.2.2.2, hh])) C0.2.2.2.1 hh1 hvm9 hcl (fun t ht hA => ⟨⟨by show 10 ≤ k; omega, rfl, by rw [ht]; exact hW1.moved hA⟩, hS1.F ht⟩) hS1.2.2 (Nat.sub_le_sub_right hW1.2.2.2.1.2.1 _) (Nat.sub_le_sub_right hW1.2.2.2.1.2.2 _)
    obtain ⟨t, a1, b1⟩ := vx_athrow C0.1 C0.2.1 d9 kk _ rfl X6
    exact ⟨t, sgo t a1, b1⟩
theorem h_newX {t idx N : Nat} {C : String} {T : u_T} {κ : Option Nat → BH → Option ρ} (hK : KOK G K) (hc : gCl[t]? = some (C, T, N)) (hin : ∀ w ∈ u_ws C T N, w ∈ lw_all) (hty : ∃ ty : Nat → FieldType, gTy[t]? = some ty ∧ (∀ k, k < N → parseFieldDescriptor (T k).2.2.1 = some (ty k)) ∧ ∀ k, k < N → gTok (ty k) = true) (q1 : Cond.classLink M.1.cls idx C ∈ lw_all) (q2 : Cond.instantiable C N ∈ lw_all) (q3 : Cond.initialized C ∈ lw_all) (d : decode M.2.1 pc = .ok (.new idx, 3)) (kk : ∀ v B, Sim G M B0 o (κ v B) (pc + 3) L (va_rf v :: st) B) : Sim G M B0 o (nwX K B t κ) pc L st B :=
  Sim.ck fun hr => fun r hr9 p e s m args below meth c0 C0 H locs ls hW hS hL => W.stand fun htot => by
    have hts := C0.2.2.2.2.2.2.1
    have hgn : gN t = N := gN_of hc
    obtain ⟨ty, htg, hty, htok⟩ := hty
    have hlim := hr
    have hzl : B0.2.1 ≤ B.2.1 := by
      have := hS.1
      rw [hW.1, C0.2.2.2.2.2.2.2.2.2.1] at this
      exact this
    have htl : B0.2.2 ≤ B.2.2 := by
      rw [hW.2.1, C0.2.2.2.2.2.2.2.2.2.2.1] at htot
      exact htot
    refine W.newc C0.1 C0.2.1 C0.2.2.2.2.2.1 (hts _ q1) (hts _ q2) (hts _ q3) rfl d (by show _ ≤ gLC G - B0.2.1; have := hK.1; omega) (by show _ ≤ gLS G - B0.2.2; have := hK.2.1; omega) fun cC kC h1 h2 h3 h4 => ?_
    have hKn := C0.2.2.2.2.2.2.2.1.1.1 t _ hc
    have hcC : (gD G).1 t = cC := Option.some.inj (hKn.2.1.symm.trans h1)
    have hat : cAt G H.size (2000 + t, 0, fun _ => 0, fun _ => none) (H.push { cls := cC, slots := kC.instanceTypes.map defaultValue, vm := .none }) := by
      refine (cAt_obj (t := t) (by show (2000 + t) % 1000 = t; have := gCl_lt hc; omega) (gCl_lt hc)).mpr ⟨_, hc, ?_⟩
      have hb := u_born (o := H.size) (H := H.push { cls := cC, slots := kC.instanceTypes.map defaultValue, vm := .none }) ty hts hin hKn (by rw [hcC]; exact h2) (by rw [Array.getElem?_push_size, hcC]; rfl) hty
      refine hb.to fun j hj => ?_
      rw [fV_V (by rw [hgn]; exact hj)]
      unfold fV gRef
      rw [htg]
      show _ = if gRefT (ty j) = true then _ else _
      have h9 := htok j hj
      revert h9
      cases ty j <;> first | (intro _; rfl) | (intro h9; cases h9)
    have kk9 := kk (some B.2.1) (pushB B (2000 + t, 0, fun _ => 0, fun _ => none) (gN t)) r hr9 p e s m args below meth c0 C0 _ locs ls (hW.pushX hK hr (by rw [Array.size_map, h4, hgn]) (by show 0 < 2147483648; omega) hat (fun _ => ⟨by rw [hW.1]; exact hW.2.2.2.1.1, cC, kC, h2, Array.getElem?_push_size⟩)) ⟨Nat.le_trans hS.1 (by rw [Array.size_push]; omega), fun q h5 h6 => by rw [Array.getElem?_push, if_neg (Nat.ne_of_lt (Nat.lt_of_lt_of_le h5 hS.1))]; exact hS.2.1 q h5 h6, hS.2.2⟩ hL
    have e1 : (pushB B (2000 + t, 0, fun _ => 0, fun _ => none) (gN t)).2.1 - B0.2.1 = B.2.1 - B0.2.1 + 1 := by show B.2.1 + 1 - _ = _; omega
    have e2 : (pushB B (2000 + t, 0, fun _ => 0, fun _ => none) (gN t)).2.2 - B0.2.2 = B.2.2 - B0.2.2 + N := by show B.2.2 + gN t - _ = _; omega
    rw [e1, e2] at kk9
    rw [hW.1]
    exact kk9
end ROWS11
end
section
/-! BASE 12: bytes -/
def cpB {ρ : Type} (B : BH) (e1 : Option Nat) (sp : Int) (e2 : Option Nat) (dp n : Int) (κ : BH → Option ρ) : Option ρ := (cell B e1).bind fun c1 => (cell B e2).bind fun c2 => ck ((c1.1 % 1000 = 102 ∧ c2.1 = 102 ∧ 0 ≤ sp ∧ 0 ≤ dp ∧ 0 ≤ n ∧ sp + n ≤ c1.2.1 ∧ dp + n ≤ c2.2.1) ∧ ∀ i, i < n.toNat → isBB (c1.2.2.1 (sp.toNat + i))) (κ (upB B (e2.getD 0) (c2.1, c2.2.1, va_cpy c1.2.2.1 c2.2.2.1 sp.toNat dp.toNat n.toNat, c2.2.2.2)))
section ROWS12
variable {ρ : Type} {G : GT} {M : MI} {B0 : BH} {o : ρ → Rv × BH} {x y : Option ρ} {pc idx t N : Nat} {C : String} {T : u_T} {L : LL} {st stk : List Value} {B : BH} {e e1 e2 : Option Nat} {K : KT}
theorem fits_byte {v : Int} (h : isBB v) : fits .byte (.int (Int32.ofInt v)) = true := by
  have h1 : ok32 v := ⟨by omega, by omega⟩
  simp only [fits, Bool.and_eq_true, decide_eq_true_eq, Int32.le_iff_toInt_le, ok32_toInt h1]
  exact ⟨h.1, Int.le_of_lt_add_one h.2⟩
theorem nar_byte {v : Int} (h : isBB v) : narrow .byte (.int (Int32.ofInt v)) = .int (Int32.ofInt v) := by
  have h1 : ok32 v := ⟨by omega, by omega⟩
  refine congrArg Value.int (Int32.toInt_inj.mp ?_)
  rw [Int8.toInt_toInt32, Int32.toInt_toInt8, ok32_toInt h1]
  exact Int.bmod_eq_of_le (by simp; omega) (by simp; omega)
theorem s_bBreturn {r : ρ} {v : Int} {z : Option Nat} (ho : o r = ((1, v, z), B)) (hr : M.2.2.2.1 = some .byte) (d : decode M.2.1 pc = .ok (.ireturn, 1)) : Sim G M B0 o (ck (isBB v) (some r)) pc L (iv v :: []) B := fun r' hr' p e s m args below meth c0 C0 H locs ls hW hS hL => by
  obtain ⟨h01, hr'⟩ := ck_some hr'
  cases hr'
  have hB : B = (o r).2 := by rw [ho]
  rw [hB] at hW ⊢
  refine ret_w (by rw [ho]; show 1 < 10; omega) hW hS (fun hq hf => ?_)
  exact W.zret C0.1 C0.2.1 (C0.2.2.1.trans hr) (nar_byte h01) (by
    have e9 : rvO (o r).1 = some (iv v) := by rw [ho]; rfl
    rw [e9] at hq
    exact hq) hf d C0.2.2.2.1
theorem s_bast {a : Nat} {c : PC4} {i v : Int} (hB : B.1 a = some c) (ht : c.1 = 102) (d : decode M.2.1 pc = .ok (.bastore, 1)) (kk : Sim G M B0 o x (pc + 1) L st (upB B a (putI c i.toNat (bI2b v)))) : Sim G M B0 o (ck (inA c i) x) pc L (iv v :: iv i :: .ref a :: st) B := fun r hr p e s m args below meth c0 C0 H locs ls hW hS hL => by
  obtain ⟨hc, hr⟩ := ck_some hr
  obtain ⟨w1, w2, w3⟩ := hW.2.2.1 a c hB
  obtain ⟨g1, g2⟩ := vp_in_iv hc.1 hc.2 w3
  have hat := (cAt_int (H := H) (t := 102) (by omega) (Or.inr (Or.inr rfl))).mp w1
  have hnar : narrow .byte (.int (Int32.ofInt v)) = iv (bI2b v) := by
    unfold iv bI2b
    rw [Int32.ofInt_toInt]
    rfl
  refine W.bast C0.1 C0.2.1 hat ((C0.2.2.2.2.2.2.2.1.1.2 2 (gA G 102, .byte) rfl).1 _ _) (fun q => by cases q) (by rw [arrV_size]; exact g1) rfl rfl d fun H' e1 e2 e3 => ?_
  refine kk r hr p e s m args below meth c0 C0 H' _ ls (hW.put hB (by omega) rfl rfl hat e1 (by simp [Cell.setSlot]) e2 e3 ?_) (hS.put e2 e3 (w2 (by omega))) hL
  refine (cAt_int (t := 102) (by show c.1 % 1000 = 102; omega) (Or.inr (Or.inr rfl))).mpr ?_
  rw [e1, arrV_store, g2, hnar]
  exact congrArg some (congrArg (arrV (gA G 102) c.2.1) putI_arr.symm)
theorem h_bast {i v : Int} {κ : BH → Option ρ} (d : decode M.2.1 pc = .ok (.bastore, 1)) (kk : ∀ B, Sim G M B0 o (κ B) (pc + 1) L st B) : Sim G M B0 o (sB B e i v κ) pc L (iv v :: iv i :: va_rf e :: st) B :=
  Sim.cell fun a c he hB => Sim.ck fun hc => by
    subst he
    exact fun r hr => s_bast hB hc.1 d (kk _) r ((ck_t hc.2).trans hr)
theorem h_copyB {sp dp n : Int} {κ : BH → Option ρ} (q : Cond.methodLink M.1.cls idx arraycopyName ∈ lw_all) (q1 : Cond.native arraycopyName ∈ lw_all) (q2 : Cond.static arraycopyName ∈ lw_all) (q3 : Cond.initialized "java/lang/System" ∈ lw_all) (hst : cat1 st) (hst8 : st.length ≤ 8) (hR : 1 ≤ M.2.2.2.2.2.1 ∧ 38 ≤ M.2.2.2.2.2.2) (d : decode M.2.1 pc = .ok (.invokestatic idx, 3)) (kk : ∀ B, Sim G M B0 o (κ B) (pc + 3) L st B) : Sim G M B0 o (cpB B e1 sp e2 dp n κ) pc L (iv n :: iv dp :: va_rf e2 :: iv sp :: va_rf e1 :: st) B :=
  Sim.cell fun a0 c1 he1 hB1 => Sim.cell fun a c2 he2 hB2 => Sim.ck fun hc => fun r hr p ev s m args below meth c0 C0 H locs ls hW hS hL => by
    subst he1 he2
    obtain ⟨⟨t1, t2, s1, s2, s3, s4, s5⟩, hb9⟩ := hc
    have hts := C0.2.2.2.2.2.2.1
    have hG := C0.2.2.2.2.2.2.2.1
    obtain ⟨w1, w2, w3⟩ := hW.2.2.1 a0 c1 hB1
    obtain ⟨v1, v2, v3⟩ := hW.2.2.1 a c2 hB2
    have hc0 := (cAt_int (H := H) t1 (Or.inr (Or.inr rfl))).mp w1
    have hc1 := (cAt_int (H := H) (t := 102) (by omega) (Or.inr (Or.inr rfl))).mp v1
    obtain ⟨g1, g1'⟩ := nat_of2 s1 (by omega)
    obtain ⟨g2, g2'⟩ := nat_of2 s2 (by omega)
    obtain ⟨g3, g3'⟩ := nat_of2 s3 (by omega)
    obtain ⟨-, k0, hk0, cm0, hkk0⟩ := (hG.1.2 2 (gA G 102, .byte) rfl).1 c1.2.1 (fun j => .int (Int32.ofInt (c1.2.2.1 j)))
    obtain ⟨-, k1, hk1, cm1, hkk1⟩ := (hG.1.2 2 (gA G 102, .byte) rfl).1 c2.2.1 (fun j => .int (Int32.ofInt (c2.2.2.1 j)))
    intro T hT X
    obtain ⟨vm', X', step⟩ := X.arraycopy C0.1 C0.2.2.2.2.2.1 (hts _ q) (hts _ q1) (hts _ q2) (hts _ q3) (src := a0) (dst := a) (srcPos := Int32.ofInt sp) (destPos := Int32.ofInt dp) (n := Int32.ofInt n) (by rw [hT]; exact hc0) (by rw [hT]; exact hc1)
      (fun _ h => by cases h) (fun _ h => by cases h) (fun h => by cases h) (fun h => by cases h) hk0 hk1 hkk0 hkk1 (by rfl) g1 g2 g3
      (by rw [int_nn s1 (by omega), int_nn s3 (by omega), arrV_size]; omega)
      (by rw [int_nn s2 (by omega), int_nn s3 (by omega), arrV_size]; omega)
      (fun vm₁ _ i hi => by
        have e9 : (arrV (gA G 102) c1.2.1 (fun j => Value.int (Int32.ofInt (c1.2.2.1 j)))).slots.getD ((Int32.ofInt sp).toNatClampNeg + i) .null = .int (Int32.ofInt (c1.2.2.1 ((Int32.ofInt sp).toNatClampNeg + i))) := by
          rw [Array.getD_eq_getD_getElem?, arrV_read _ _ (by omega)]
          rfl
        exact ⟨by rw [e9, g1']; exact fits_byte (hb9 i (by omega)), by rw [e9]; exact trivial⟩)
      (g := F0 m pc ls (iv n :: iv dp :: va_rf (some a) :: iv sp :: va_rf (some a0) :: st)) rfl (by rw [C0.2.2.2.2.1]; exact hL.1.1) (rest := st) rfl (by rw [C0.2.1]; exact d) hR.1 (by have := nfw; have hsum := cat1_sum hst; have h8 := hR.2; show 2 * 0 + _ + _ ≤ M.2.2.2.2.2.2; omega)
    have e1 : copied (arrV (gA G 102) c1.2.1 (fun j => Value.int (Int32.ofInt (c1.2.2.1 j)))) (arrV (gA G 102) c2.2.1 (fun j => Value.int (Int32.ofInt (c2.2.2.1 j)))) (Int32.ofInt sp) (Int32.ofInt dp) (Int32.ofInt n) = arrV (gA G 102) c2.2.1 (fun j => Value.int (Int32.ofInt (va_cpy c1.2.2.1 c2.2.2.1 sp.toNat dp.toNat n.toNat j))) := by
      have h4 : (Int32.ofInt sp).toNatClampNeg + (Int32.ofInt n).toNatClampNeg ≤ c1.2.1 := by omega
      refine (va_copied (fun z : Int => Value.int (Int32.ofInt z)) (gA G 102) (gA G 102) c1.2.2.1 c2.2.2.1 h4).trans ?_
      rw [g1', g2', g3']
    rw [e1] at X' step
    have hl : a < H.size := (Array.getElem?_eq_some_iff.mp hc1).1
    have hheap : ((T.setVm vm').setCell a (arrV (gA G 102) c2.2.1 (fun j => Value.int (Int32.ofInt (va_cpy c1.2.2.1 c2.2.2.1 sp.toNat dp.toNat n.toNat j))))).heap = H.setIfInBounds a (arrV (gA G 102) c2.2.1 (fun j => Value.int (Int32.ofInt (va_cpy c1.2.2.1 c2.2.2.1 sp.toNat dp.toNat n.toNat j)))) := by rw [← hT]; rfl
    have oq : ∀ q : Nat, q ≠ a → (H.setIfInBounds a (arrV (gA G 102) c2.2.1 (fun j => Value.int (Int32.ofInt (va_cpy c1.2.2.1 c2.2.2.1 sp.toNat dp.toNat n.toNat j)))))[q]? = H[q]? := fun q hq => by simp [Array.getElem?_setIfInBounds, Ne.symm hq]
    have ha : (H.setIfInBounds a (arrV (gA G 102) c2.2.1 (fun j => Value.int (Int32.ofInt (va_cpy c1.2.2.1 c2.2.2.1 sp.toNat dp.toNat n.toNat j)))))[a]? = some (arrV (gA G 102) c2.2.1 (fun j => Value.int (Int32.ofInt (va_cpy c1.2.2.1 c2.2.2.1 sp.toNat dp.toNat n.toNat j)))) := by simp [Array.getElem?_setIfInBounds, hl]
    have hga : gB G ≤ a := v2 (by omega)
    obtain ⟨t, a1, b1⟩ := kk _ r hr p ev s m args below meth c0 C0 _ _ ls (hW.put hB2 (by omega) (c' := (c2.1, c2.2.1, va_cpy c1.2.2.1 c2.2.2.1 sp.toNat dp.toNat n.toNat, c2.2.2.2)) rfl rfl hc1 ha (by rw [arrV_size, arrV_size]) (by simp) oq ((cAt_int (t := 102) (by show c2.1 % 1000 = 102; omega) (Or.inr (Or.inr rfl))).mpr ha)) ⟨by simp; exact hS.1, fun q g1 g2 => by
        rw [oq q (fun e => g2 (by rw [e]; exact hga))]
        exact hS.2.1 q g1 g2, fun q hq => by
        rcases List.mem_append.mp hq with h | h
        · exact hS.2.2 q h
        · obtain ⟨z, -, hz⟩ := List.mem_map.mp h
          rw [← hz]
          exact hga⟩ hL _ hheap X'
    exact ⟨t, step t a1, b1⟩
end ROWS12
end
