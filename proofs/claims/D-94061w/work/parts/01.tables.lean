-- ===== PART A: goes FIRST, ahead of the names: the tables' words, and 'selects' of the private methods out of them =====
/-- a private method of a class that the tables say can be made, by its rows of tables_1 -/
def lw_okq (q : MethodName × Nat) : Prop := (q.1.cls ≠ "java/lang/invoke/MethodHandle" ∧ q.1.cls ≠ "java/lang/invoke/VarHandle") ∧ Cond.instantiable q.1.cls q.2 ∈ tables_1 ∧ Cond.privateMethod q.1 ∈ tables_1 ∧ Cond.instanceMethod q.1 ∈ tables_1
set_option maxRecDepth 100000
theorem lw_t1 {w : Cond} (h : w ∈ tables_1_1) : w ∈ tables_1 := List.mem_append_left _ h
theorem lw_t2 {w : Cond} (h : w ∈ tables_1_2) : w ∈ tables_1 := List.mem_append_right _ (List.mem_append_left _ h)
theorem lw_t3 {w : Cond} (h : w ∈ tables_1_3) : w ∈ tables_1 := List.mem_append_right _ (List.mem_append_right _ (List.mem_append_left _ h))
theorem lw_t4 {w : Cond} (h : w ∈ tables_1_4) : w ∈ tables_1 := List.mem_append_right _ (List.mem_append_right _ (List.mem_append_right _ (List.mem_append_left _ h)))
theorem lw_t5 {w : Cond} (h : w ∈ tables_1_5) : w ∈ tables_1 := List.mem_append_right _ (List.mem_append_right _ (List.mem_append_right _ (List.mem_append_right _ (List.mem_append_left _ h))))
theorem lw_t6 {w : Cond} (h : w ∈ tables_1_6) : w ∈ tables_1 := List.mem_append_right _ (List.mem_append_right _ (List.mem_append_right _ (List.mem_append_right _ (List.mem_append_right _ (List.mem_append_left _ h)))))
theorem lw_t7 {w : Cond} (h : w ∈ tables_1_7) : w ∈ tables_1 := List.mem_append_right _ (List.mem_append_right _ (List.mem_append_right _ (List.mem_append_right _ (List.mem_append_right _ (List.mem_append_right _ (List.mem_append_left _ h))))))
theorem lw_t8 {w : Cond} (h : w ∈ tables_1_8) : w ∈ tables_1 := List.mem_append_right _ (List.mem_append_right _ (List.mem_append_right _ (List.mem_append_right _ (List.mem_append_right _ (List.mem_append_right _ (List.mem_append_right _ h))))))
theorem lw_p0 : lw_okq (⟨"java/lang/Throwable", "fillInStackTrace", "(I)Ljava/lang/Throwable;"⟩, 6) := ⟨⟨by decide +kernel, by decide +kernel⟩, lw_t1 (List.mem_of_getElem? (i := 79) rfl), lw_t1 (List.mem_of_getElem? (i := 77) rfl), lw_t1 (List.mem_of_getElem? (i := 78) rfl)⟩
theorem lw_p1 : lw_okq (⟨"TwoHalves", "four", "(I)V"⟩, 34) := ⟨⟨by decide +kernel, by decide +kernel⟩, lw_t1 (List.mem_of_getElem? (i := 36) rfl), lw_t3 (List.mem_of_getElem? (i := 40) rfl), lw_t3 (List.mem_of_getElem? (i := 41) rfl)⟩
theorem lw_p2 : lw_okq (⟨"TwoHalves", "taken", "()V"⟩, 34) := ⟨⟨by decide +kernel, by decide +kernel⟩, lw_t1 (List.mem_of_getElem? (i := 36) rfl), lw_t3 (List.mem_of_getElem? (i := 52) rfl), lw_t3 (List.mem_of_getElem? (i := 53) rfl)⟩
theorem lw_p3 : lw_okq (⟨"TwoHalves$HeadReader", "thing", "()V"⟩, 10) := ⟨⟨by decide +kernel, by decide +kernel⟩, lw_t1 (List.mem_of_getElem? (i := 141) rfl), lw_t3 (List.mem_of_getElem? (i := 159) rfl), lw_t3 (List.mem_of_getElem? (i := 160) rfl)⟩
theorem lw_p4 : lw_okq (⟨"TwoHalves$HeadReader", "fresh", "()J"⟩, 10) := ⟨⟨by decide +kernel, by decide +kernel⟩, lw_t1 (List.mem_of_getElem? (i := 141) rfl), lw_t3 (List.mem_of_getElem? (i := 163) rfl), lw_t3 (List.mem_of_getElem? (i := 164) rfl)⟩
theorem lw_p5 : lw_okq (⟨"TwoHalves$HeadReader", "word", "([Ljava/lang/String;)I"⟩, 10) := ⟨⟨by decide +kernel, by decide +kernel⟩, lw_t1 (List.mem_of_getElem? (i := 141) rfl), lw_t3 (List.mem_of_getElem? (i := 182) rfl), lw_t3 (List.mem_of_getElem? (i := 183) rfl)⟩
theorem lw_p6 : lw_okq (⟨"TwoHalves$HeadReader", "suits", "()V"⟩, 10) := ⟨⟨by decide +kernel, by decide +kernel⟩, lw_t1 (List.mem_of_getElem? (i := 141) rfl), lw_t3 (List.mem_of_getElem? (i := 209) rfl), lw_t3 (List.mem_of_getElem? (i := 210) rfl)⟩
theorem lw_p7 : lw_okq (⟨"TwoHalves$HeadReader", "known", "([LTwoHalves$Named;I)I"⟩, 10) := ⟨⟨by decide +kernel, by decide +kernel⟩, lw_t1 (List.mem_of_getElem? (i := 141) rfl), lw_t3 (List.mem_of_getElem? (i := 213) rfl), lw_t3 (List.mem_of_getElem? (i := 214) rfl)⟩
theorem lw_p8 : lw_okq (⟨"TwoHalves$HeadReader", "says", "()V"⟩, 10) := ⟨⟨by decide +kernel, by decide +kernel⟩, lw_t1 (List.mem_of_getElem? (i := 141) rfl), lw_t3 (List.mem_of_getElem? (i := 217) rfl), lw_t3 (List.mem_of_getElem? (i := 218) rfl)⟩
theorem lw_p9 : lw_okq (⟨"TwoHalves$HeadReader", "kinds", "(I)I"⟩, 10) := ⟨⟨by decide +kernel, by decide +kernel⟩, lw_t1 (List.mem_of_getElem? (i := 141) rfl), lw_t3 (List.mem_of_getElem? (i := 224) rfl), lw_t3 (List.mem_of_getElem? (i := 225) rfl)⟩
theorem lw_p10 : lw_okq (⟨"TwoHalves$HeadReader", "way", "()V"⟩, 10) := ⟨⟨by decide +kernel, by decide +kernel⟩, lw_t1 (List.mem_of_getElem? (i := 141) rfl), lw_t3 (List.mem_of_getElem? (i := 228) rfl), lw_t3 (List.mem_of_getElem? (i := 229) rfl)⟩
theorem lw_p11 : lw_okq (⟨"TwoHalves$HeadReader", "state", "(LTwoHalves$Way;)V"⟩, 10) := ⟨⟨by decide +kernel, by decide +kernel⟩, lw_t1 (List.mem_of_getElem? (i := 141) rfl), lw_t4 (List.mem_of_getElem? (i := 56) rfl), lw_t4 (List.mem_of_getElem? (i := 57) rfl)⟩
theorem lw_p12 : lw_okq (⟨"TwoHalves", "isThing", "(I)Z"⟩, 34) := ⟨⟨by decide +kernel, by decide +kernel⟩, lw_t1 (List.mem_of_getElem? (i := 36) rfl), lw_t4 (List.mem_of_getElem? (i := 97) rfl), lw_t4 (List.mem_of_getElem? (i := 98) rfl)⟩
theorem lw_p13 : lw_okq (⟨"TwoHalves", "isShowing", "(IIII)Z"⟩, 34) := ⟨⟨by decide +kernel, by decide +kernel⟩, lw_t1 (List.mem_of_getElem? (i := 36) rfl), lw_t4 (List.mem_of_getElem? (i := 101) rfl), lw_t4 (List.mem_of_getElem? (i := 102) rfl)⟩
theorem lw_p14 : lw_okq (⟨"TwoHalves", "isShown", "(I)Z"⟩, 34) := ⟨⟨by decide +kernel, by decide +kernel⟩, lw_t1 (List.mem_of_getElem? (i := 36) rfl), lw_t4 (List.mem_of_getElem? (i := 105) rfl), lw_t4 (List.mem_of_getElem? (i := 106) rfl)⟩
theorem lw_p15 : lw_okq (⟨"TwoHalves$Mind", "begin", "(LTwoHalves$Showing;)V"⟩, 2) := ⟨⟨by decide +kernel, by decide +kernel⟩, lw_t2 (List.mem_of_getElem? (i := 67) rfl), lw_t4 (List.mem_of_getElem? (i := 154) rfl), lw_t4 (List.mem_of_getElem? (i := 155) rfl)⟩
def lw_privs_1 : List (MethodName × Nat) := [(⟨"java/lang/Throwable", "fillInStackTrace", "(I)Ljava/lang/Throwable;"⟩, 6), (⟨"TwoHalves", "four", "(I)V"⟩, 34), (⟨"TwoHalves", "taken", "()V"⟩, 34), (⟨"TwoHalves$HeadReader", "thing", "()V"⟩, 10), (⟨"TwoHalves$HeadReader", "fresh", "()J"⟩, 10), (⟨"TwoHalves$HeadReader", "word", "([Ljava/lang/String;)I"⟩, 10), (⟨"TwoHalves$HeadReader", "suits", "()V"⟩, 10), (⟨"TwoHalves$HeadReader", "known", "([LTwoHalves$Named;I)I"⟩, 10), (⟨"TwoHalves$HeadReader", "says", "()V"⟩, 10), (⟨"TwoHalves$HeadReader", "kinds", "(I)I"⟩, 10), (⟨"TwoHalves$HeadReader", "way", "()V"⟩, 10), (⟨"TwoHalves$HeadReader", "state", "(LTwoHalves$Way;)V"⟩, 10), (⟨"TwoHalves", "isThing", "(I)Z"⟩, 34), (⟨"TwoHalves", "isShowing", "(IIII)Z"⟩, 34), (⟨"TwoHalves", "isShown", "(I)Z"⟩, 34), (⟨"TwoHalves$Mind", "begin", "(LTwoHalves$Showing;)V"⟩, 2)]
theorem lw_r1 : ∀ q ∈ lw_privs_1, lw_okq q := List.forall_mem_cons.mpr ⟨lw_p0, List.forall_mem_cons.mpr ⟨lw_p1, List.forall_mem_cons.mpr ⟨lw_p2, List.forall_mem_cons.mpr ⟨lw_p3, List.forall_mem_cons.mpr ⟨lw_p4, List.forall_mem_cons.mpr ⟨lw_p5, List.forall_mem_cons.mpr ⟨lw_p6, List.forall_mem_cons.mpr ⟨lw_p7, List.forall_mem_cons.mpr ⟨lw_p8, List.forall_mem_cons.mpr ⟨lw_p9, List.forall_mem_cons.mpr ⟨lw_p10, List.forall_mem_cons.mpr ⟨lw_p11, List.forall_mem_cons.mpr ⟨lw_p12, List.forall_mem_cons.mpr ⟨lw_p13, List.forall_mem_cons.mpr ⟨lw_p14, List.forall_mem_cons.mpr ⟨lw_p15, fun _ h => absurd h List.not_mem_nil⟩⟩⟩⟩⟩⟩⟩⟩⟩⟩⟩⟩⟩⟩⟩⟩
theorem lw_p16 : lw_okq (⟨"TwoHalves$Mind", "passes", "(LTwoHalves$Way;I)Z"⟩, 2) := ⟨⟨by decide +kernel, by decide +kernel⟩, lw_t2 (List.mem_of_getElem? (i := 67) rfl), lw_t4 (List.mem_of_getElem? (i := 162) rfl), lw_t4 (List.mem_of_getElem? (i := 163) rfl)⟩
theorem lw_p17 : lw_okq (⟨"TwoHalves", "shown", "(IIIIII)LTwoHalves$Showing;"⟩, 34) := ⟨⟨by decide +kernel, by decide +kernel⟩, lw_t1 (List.mem_of_getElem? (i := 36) rfl), lw_t4 (List.mem_of_getElem? (i := 170) rfl), lw_t4 (List.mem_of_getElem? (i := 171) rfl)⟩
theorem lw_p18 : lw_okq (⟨"TwoHalves", "areOffered", "(I)Z"⟩, 34) := ⟨⟨by decide +kernel, by decide +kernel⟩, lw_t1 (List.mem_of_getElem? (i := 36) rfl), lw_t4 (List.mem_of_getElem? (i := 174) rfl), lw_t4 (List.mem_of_getElem? (i := 175) rfl)⟩
theorem lw_p19 : lw_okq (⟨"TwoHalves", "one", "(I)I"⟩, 34) := ⟨⟨by decide +kernel, by decide +kernel⟩, lw_t1 (List.mem_of_getElem? (i := 36) rfl), lw_t4 (List.mem_of_getElem? (i := 178) rfl), lw_t4 (List.mem_of_getElem? (i := 179) rfl)⟩
theorem lw_p20 : lw_okq (⟨"TwoHalves", "answered", "(LTwoHalves$Showing;IIZ)I"⟩, 34) := ⟨⟨by decide +kernel, by decide +kernel⟩, lw_t1 (List.mem_of_getElem? (i := 36) rfl), lw_t4 (List.mem_of_getElem? (i := 182) rfl), lw_t4 (List.mem_of_getElem? (i := 183) rfl)⟩
theorem lw_p21 : lw_okq (⟨"TwoHalves", "explore", "(I)V"⟩, 34) := ⟨⟨by decide +kernel, by decide +kernel⟩, lw_t1 (List.mem_of_getElem? (i := 36) rfl), lw_t5 (List.mem_of_getElem? (i := 16) rfl), lw_t5 (List.mem_of_getElem? (i := 17) rfl)⟩
theorem lw_p22 : lw_okq (⟨"TwoHalves", "fits", "(LTwoHalves$Book;I)Z"⟩, 34) := ⟨⟨by decide +kernel, by decide +kernel⟩, lw_t1 (List.mem_of_getElem? (i := 36) rfl), lw_t5 (List.mem_of_getElem? (i := 20) rfl), lw_t5 (List.mem_of_getElem? (i := 21) rfl)⟩
theorem lw_p23 : lw_okq (⟨"TwoHalves", "isWay", "(I)Z"⟩, 34) := ⟨⟨by decide +kernel, by decide +kernel⟩, lw_t1 (List.mem_of_getElem? (i := 36) rfl), lw_t5 (List.mem_of_getElem? (i := 35) rfl), lw_t5 (List.mem_of_getElem? (i := 36) rfl)⟩
theorem lw_p24 : lw_okq (⟨"TwoHalves", "sureOf", "(I)I"⟩, 34) := ⟨⟨by decide +kernel, by decide +kernel⟩, lw_t1 (List.mem_of_getElem? (i := 36) rfl), lw_t5 (List.mem_of_getElem? (i := 39) rfl), lw_t5 (List.mem_of_getElem? (i := 40) rfl)⟩
theorem lw_p25 : lw_okq (⟨"TwoHalves", "partsOf", "(I)I"⟩, 34) := ⟨⟨by decide +kernel, by decide +kernel⟩, lw_t1 (List.mem_of_getElem? (i := 36) rfl), lw_t5 (List.mem_of_getElem? (i := 51) rfl), lw_t5 (List.mem_of_getElem? (i := 52) rfl)⟩
theorem lw_p26 : lw_okq (⟨"TwoHalves", "parting", "(II)I"⟩, 34) := ⟨⟨by decide +kernel, by decide +kernel⟩, lw_t1 (List.mem_of_getElem? (i := 36) rfl), lw_t5 (List.mem_of_getElem? (i := 64) rfl), lw_t5 (List.mem_of_getElem? (i := 65) rfl)⟩
theorem lw_p27 : lw_okq (⟨"TwoHalves", "need", "(I)V"⟩, 34) := ⟨⟨by decide +kernel, by decide +kernel⟩, lw_t1 (List.mem_of_getElem? (i := 36) rfl), lw_t5 (List.mem_of_getElem? (i := 68) rfl), lw_t5 (List.mem_of_getElem? (i := 69) rfl)⟩
theorem lw_p28 : lw_okq (⟨"TwoHalves", "partsAll", "(I)Z"⟩, 34) := ⟨⟨by decide +kernel, by decide +kernel⟩, lw_t1 (List.mem_of_getElem? (i := 36) rfl), lw_t5 (List.mem_of_getElem? (i := 78) rfl), lw_t5 (List.mem_of_getElem? (i := 79) rfl)⟩
theorem lw_p29 : lw_okq (⟨"TwoHalves", "leftBy", "(I)I"⟩, 34) := ⟨⟨by decide +kernel, by decide +kernel⟩, lw_t1 (List.mem_of_getElem? (i := 36) rfl), lw_t5 (List.mem_of_getElem? (i := 86) rfl), lw_t5 (List.mem_of_getElem? (i := 87) rfl)⟩
theorem lw_p30 : lw_okq (⟨"TwoHalves$SentenceReader", "any", "(I)LTwoHalves$Cond;"⟩, 12) := ⟨⟨by decide +kernel, by decide +kernel⟩, lw_t2 (List.mem_of_getElem? (i := 117) rfl), lw_t5 (List.mem_of_getElem? (i := 101) rfl), lw_t5 (List.mem_of_getElem? (i := 102) rfl)⟩
theorem lw_p31 : lw_okq (⟨"TwoHalves$SentenceReader", "both", "(I)LTwoHalves$Cond;"⟩, 12) := ⟨⟨by decide +kernel, by decide +kernel⟩, lw_t2 (List.mem_of_getElem? (i := 117) rfl), lw_t5 (List.mem_of_getElem? (i := 105) rfl), lw_t5 (List.mem_of_getElem? (i := 106) rfl)⟩
def lw_privs_2 : List (MethodName × Nat) := [(⟨"TwoHalves$Mind", "passes", "(LTwoHalves$Way;I)Z"⟩, 2), (⟨"TwoHalves", "shown", "(IIIIII)LTwoHalves$Showing;"⟩, 34), (⟨"TwoHalves", "areOffered", "(I)Z"⟩, 34), (⟨"TwoHalves", "one", "(I)I"⟩, 34), (⟨"TwoHalves", "answered", "(LTwoHalves$Showing;IIZ)I"⟩, 34), (⟨"TwoHalves", "explore", "(I)V"⟩, 34), (⟨"TwoHalves", "fits", "(LTwoHalves$Book;I)Z"⟩, 34), (⟨"TwoHalves", "isWay", "(I)Z"⟩, 34), (⟨"TwoHalves", "sureOf", "(I)I"⟩, 34), (⟨"TwoHalves", "partsOf", "(I)I"⟩, 34), (⟨"TwoHalves", "parting", "(II)I"⟩, 34), (⟨"TwoHalves", "need", "(I)V"⟩, 34), (⟨"TwoHalves", "partsAll", "(I)Z"⟩, 34), (⟨"TwoHalves", "leftBy", "(I)I"⟩, 34), (⟨"TwoHalves$SentenceReader", "any", "(I)LTwoHalves$Cond;"⟩, 12), (⟨"TwoHalves$SentenceReader", "both", "(I)LTwoHalves$Cond;"⟩, 12)]
theorem lw_r2 : ∀ q ∈ lw_privs_2, lw_okq q := List.forall_mem_cons.mpr ⟨lw_p16, List.forall_mem_cons.mpr ⟨lw_p17, List.forall_mem_cons.mpr ⟨lw_p18, List.forall_mem_cons.mpr ⟨lw_p19, List.forall_mem_cons.mpr ⟨lw_p20, List.forall_mem_cons.mpr ⟨lw_p21, List.forall_mem_cons.mpr ⟨lw_p22, List.forall_mem_cons.mpr ⟨lw_p23, List.forall_mem_cons.mpr ⟨lw_p24, List.forall_mem_cons.mpr ⟨lw_p25, List.forall_mem_cons.mpr ⟨lw_p26, List.forall_mem_cons.mpr ⟨lw_p27, List.forall_mem_cons.mpr ⟨lw_p28, List.forall_mem_cons.mpr ⟨lw_p29, List.forall_mem_cons.mpr ⟨lw_p30, List.forall_mem_cons.mpr ⟨lw_p31, fun _ h => absurd h List.not_mem_nil⟩⟩⟩⟩⟩⟩⟩⟩⟩⟩⟩⟩⟩⟩⟩⟩
theorem lw_p32 : lw_okq (⟨"TwoHalves$SentenceReader", "one", "(I)LTwoHalves$Cond;"⟩, 12) := ⟨⟨by decide +kernel, by decide +kernel⟩, lw_t2 (List.mem_of_getElem? (i := 117) rfl), lw_t5 (List.mem_of_getElem? (i := 109) rfl), lw_t5 (List.mem_of_getElem? (i := 110) rfl)⟩
theorem lw_p33 : lw_okq (⟨"TwoHalves$SentenceReader", "ofWay", "(I)LTwoHalves$Cond;"⟩, 12) := ⟨⟨by decide +kernel, by decide +kernel⟩, lw_t2 (List.mem_of_getElem? (i := 117) rfl), lw_t5 (List.mem_of_getElem? (i := 143) rfl), lw_t5 (List.mem_of_getElem? (i := 144) rfl)⟩
theorem lw_p34 : lw_okq (⟨"TwoHalves$SentenceReader", "counts", "(I)LTwoHalves$Cond;"⟩, 12) := ⟨⟨by decide +kernel, by decide +kernel⟩, lw_t2 (List.mem_of_getElem? (i := 117) rfl), lw_t5 (List.mem_of_getElem? (i := 166) rfl), lw_t5 (List.mem_of_getElem? (i := 167) rfl)⟩
theorem lw_p35 : lw_okq (⟨"TwoHalves", "luckyParts", "(II)J"⟩, 34) := ⟨⟨by decide +kernel, by decide +kernel⟩, lw_t1 (List.mem_of_getElem? (i := 36) rfl), lw_t6 (List.mem_of_getElem? (i := 68) rfl), lw_t6 (List.mem_of_getElem? (i := 69) rfl)⟩
theorem lw_p36 : lw_okq (⟨"TwoHalvesModel", "come", "(I)V"⟩, 42) := ⟨⟨by decide +kernel, by decide +kernel⟩, lw_t6 (List.mem_of_getElem? (i := 72) rfl), lw_t6 (List.mem_of_getElem? (i := 215) rfl), lw_t6 (List.mem_of_getElem? (i := 216) rfl)⟩
theorem lw_p37 : lw_okq (⟨"TwoHalvesModel", "begin", "(I)V"⟩, 42) := ⟨⟨by decide +kernel, by decide +kernel⟩, lw_t6 (List.mem_of_getElem? (i := 72) rfl), lw_t6 (List.mem_of_getElem? (i := 227) rfl), lw_t6 (List.mem_of_getElem? (i := 228) rfl)⟩
theorem lw_p38 : lw_okq (⟨"TwoHalvesModel", "lay", "()V"⟩, 42) := ⟨⟨by decide +kernel, by decide +kernel⟩, lw_t6 (List.mem_of_getElem? (i := 72) rfl), lw_t6 (List.mem_of_getElem? (i := 231) rfl), lw_t6 (List.mem_of_getElem? (i := 232) rfl)⟩
theorem lw_p39 : lw_okq (⟨"TwoHalvesModel", "take", "()I"⟩, 42) := ⟨⟨by decide +kernel, by decide +kernel⟩, lw_t6 (List.mem_of_getElem? (i := 72) rfl), lw_t6 (List.mem_of_getElem? (i := 235) rfl), lw_t6 (List.mem_of_getElem? (i := 236) rfl)⟩
theorem lw_p40 : lw_okq (⟨"TwoHalvesModel", "go", "()V"⟩, 42) := ⟨⟨by decide +kernel, by decide +kernel⟩, lw_t6 (List.mem_of_getElem? (i := 72) rfl), lw_t6 (List.mem_of_getElem? (i := 239) rfl), lw_t7 (List.mem_of_getElem? (i := 0) rfl)⟩
theorem lw_p41 : lw_okq (⟨"TwoHalvesModel", "byteAt", "(I)I"⟩, 42) := ⟨⟨by decide +kernel, by decide +kernel⟩, lw_t6 (List.mem_of_getElem? (i := 72) rfl), lw_t7 (List.mem_of_getElem? (i := 9) rfl), lw_t7 (List.mem_of_getElem? (i := 10) rfl)⟩
theorem lw_p42 : lw_okq (⟨"TwoHalvesModel", "readLine", "()Z"⟩, 42) := ⟨⟨by decide +kernel, by decide +kernel⟩, lw_t6 (List.mem_of_getElem? (i := 72) rfl), lw_t7 (List.mem_of_getElem? (i := 15) rfl), lw_t7 (List.mem_of_getElem? (i := 16) rfl)⟩
theorem lw_p43 : lw_okq (⟨"TwoHalvesModel", "lineAtHand", "()I"⟩, 42) := ⟨⟨by decide +kernel, by decide +kernel⟩, lw_t6 (List.mem_of_getElem? (i := 72) rfl), lw_t7 (List.mem_of_getElem? (i := 19) rfl), lw_t7 (List.mem_of_getElem? (i := 20) rfl)⟩
theorem lw_p44 : lw_okq (⟨"TwoHalvesModel", "bad", "(I)Z"⟩, 42) := ⟨⟨by decide +kernel, by decide +kernel⟩, lw_t6 (List.mem_of_getElem? (i := 72) rfl), lw_t7 (List.mem_of_getElem? (i := 29) rfl), lw_t7 (List.mem_of_getElem? (i := 30) rfl)⟩
theorem lw_p45 : lw_okq (⟨"TwoHalvesModel", "readThingLine", "()Z"⟩, 42) := ⟨⟨by decide +kernel, by decide +kernel⟩, lw_t6 (List.mem_of_getElem? (i := 72) rfl), lw_t7 (List.mem_of_getElem? (i := 33) rfl), lw_t7 (List.mem_of_getElem? (i := 34) rfl)⟩
theorem lw_p46 : lw_okq (⟨"TwoHalvesModel", "readNew", "(I)Z"⟩, 42) := ⟨⟨by decide +kernel, by decide +kernel⟩, lw_t6 (List.mem_of_getElem? (i := 72) rfl), lw_t7 (List.mem_of_getElem? (i := 37) rfl), lw_t7 (List.mem_of_getElem? (i := 38) rfl)⟩
theorem lw_p47 : lw_okq (⟨"TwoHalvesModel", "isName", "()Z"⟩, 42) := ⟨⟨by decide +kernel, by decide +kernel⟩, lw_t6 (List.mem_of_getElem? (i := 72) rfl), lw_t7 (List.mem_of_getElem? (i := 41) rfl), lw_t7 (List.mem_of_getElem? (i := 42) rfl)⟩
def lw_privs_3 : List (MethodName × Nat) := [(⟨"TwoHalves$SentenceReader", "one", "(I)LTwoHalves$Cond;"⟩, 12), (⟨"TwoHalves$SentenceReader", "ofWay", "(I)LTwoHalves$Cond;"⟩, 12), (⟨"TwoHalves$SentenceReader", "counts", "(I)LTwoHalves$Cond;"⟩, 12), (⟨"TwoHalves", "luckyParts", "(II)J"⟩, 34), (⟨"TwoHalvesModel", "come", "(I)V"⟩, 42), (⟨"TwoHalvesModel", "begin", "(I)V"⟩, 42), (⟨"TwoHalvesModel", "lay", "()V"⟩, 42), (⟨"TwoHalvesModel", "take", "()I"⟩, 42), (⟨"TwoHalvesModel", "go", "()V"⟩, 42), (⟨"TwoHalvesModel", "byteAt", "(I)I"⟩, 42), (⟨"TwoHalvesModel", "readLine", "()Z"⟩, 42), (⟨"TwoHalvesModel", "lineAtHand", "()I"⟩, 42), (⟨"TwoHalvesModel", "bad", "(I)Z"⟩, 42), (⟨"TwoHalvesModel", "readThingLine", "()Z"⟩, 42), (⟨"TwoHalvesModel", "readNew", "(I)Z"⟩, 42), (⟨"TwoHalvesModel", "isName", "()Z"⟩, 42)]
theorem lw_r3 : ∀ q ∈ lw_privs_3, lw_okq q := List.forall_mem_cons.mpr ⟨lw_p32, List.forall_mem_cons.mpr ⟨lw_p33, List.forall_mem_cons.mpr ⟨lw_p34, List.forall_mem_cons.mpr ⟨lw_p35, List.forall_mem_cons.mpr ⟨lw_p36, List.forall_mem_cons.mpr ⟨lw_p37, List.forall_mem_cons.mpr ⟨lw_p38, List.forall_mem_cons.mpr ⟨lw_p39, List.forall_mem_cons.mpr ⟨lw_p40, List.forall_mem_cons.mpr ⟨lw_p41, List.forall_mem_cons.mpr ⟨lw_p42, List.forall_mem_cons.mpr ⟨lw_p43, List.forall_mem_cons.mpr ⟨lw_p44, List.forall_mem_cons.mpr ⟨lw_p45, List.forall_mem_cons.mpr ⟨lw_p46, List.forall_mem_cons.mpr ⟨lw_p47, fun _ h => absurd h List.not_mem_nil⟩⟩⟩⟩⟩⟩⟩⟩⟩⟩⟩⟩⟩⟩⟩⟩
theorem lw_p48 : lw_okq (⟨"TwoHalvesModel", "kindAtHand", "()I"⟩, 42) := ⟨⟨by decide +kernel, by decide +kernel⟩, lw_t6 (List.mem_of_getElem? (i := 72) rfl), lw_t7 (List.mem_of_getElem? (i := 45) rfl), lw_t7 (List.mem_of_getElem? (i := 46) rfl)⟩
theorem lw_p49 : lw_okq (⟨"TwoHalvesModel", "halfAtHand", "()I"⟩, 42) := ⟨⟨by decide +kernel, by decide +kernel⟩, lw_t6 (List.mem_of_getElem? (i := 72) rfl), lw_t7 (List.mem_of_getElem? (i := 49) rfl), lw_t7 (List.mem_of_getElem? (i := 50) rfl)⟩
theorem lw_p50 : lw_okq (⟨"TwoHalvesModel", "flagAtHand", "()I"⟩, 42) := ⟨⟨by decide +kernel, by decide +kernel⟩, lw_t6 (List.mem_of_getElem? (i := 72) rfl), lw_t7 (List.mem_of_getElem? (i := 54) rfl), lw_t7 (List.mem_of_getElem? (i := 55) rfl)⟩
theorem lw_p51 : lw_okq (⟨"TwoHalvesModel", "stateAtHand", "()I"⟩, 42) := ⟨⟨by decide +kernel, by decide +kernel⟩, lw_t6 (List.mem_of_getElem? (i := 72) rfl), lw_t7 (List.mem_of_getElem? (i := 58) rfl), lw_t7 (List.mem_of_getElem? (i := 59) rfl)⟩
theorem lw_p52 : lw_okq (⟨"TwoHalvesModel", "isInWord", "()Z"⟩, 42) := ⟨⟨by decide +kernel, by decide +kernel⟩, lw_t6 (List.mem_of_getElem? (i := 72) rfl), lw_t7 (List.mem_of_getElem? (i := 62) rfl), lw_t7 (List.mem_of_getElem? (i := 63) rfl)⟩
theorem lw_p53 : lw_okq (⟨"TwoHalvesModel", "isKey", "(J)Z"⟩, 42) := ⟨⟨by decide +kernel, by decide +kernel⟩, lw_t6 (List.mem_of_getElem? (i := 72) rfl), lw_t7 (List.mem_of_getElem? (i := 66) rfl), lw_t7 (List.mem_of_getElem? (i := 67) rfl)⟩
theorem lw_p54 : lw_okq (⟨"TwoHalvesModel", "isOuter", "()Z"⟩, 42) := ⟨⟨by decide +kernel, by decide +kernel⟩, lw_t6 (List.mem_of_getElem? (i := 72) rfl), lw_t7 (List.mem_of_getElem? (i := 70) rfl), lw_t7 (List.mem_of_getElem? (i := 71) rfl)⟩
theorem lw_p55 : lw_okq (⟨"TwoHalvesModel", "isAfter", "()Z"⟩, 42) := ⟨⟨by decide +kernel, by decide +kernel⟩, lw_t6 (List.mem_of_getElem? (i := 72) rfl), lw_t7 (List.mem_of_getElem? (i := 74) rfl), lw_t7 (List.mem_of_getElem? (i := 75) rfl)⟩
theorem lw_p56 : lw_okq (⟨"TwoHalvesModel", "isShut", "()Z"⟩, 42) := ⟨⟨by decide +kernel, by decide +kernel⟩, lw_t6 (List.mem_of_getElem? (i := 72) rfl), lw_t7 (List.mem_of_getElem? (i := 78) rfl), lw_t7 (List.mem_of_getElem? (i := 79) rfl)⟩
theorem lw_p57 : lw_okq (⟨"TwoHalvesModel", "findRead", "()I"⟩, 42) := ⟨⟨by decide +kernel, by decide +kernel⟩, lw_t6 (List.mem_of_getElem? (i := 72) rfl), lw_t7 (List.mem_of_getElem? (i := 82) rfl), lw_t7 (List.mem_of_getElem? (i := 83) rfl)⟩
theorem lw_p58 : lw_okq (⟨"TwoHalvesModel", "readSuits", "()Z"⟩, 42) := ⟨⟨by decide +kernel, by decide +kernel⟩, lw_t6 (List.mem_of_getElem? (i := 72) rfl), lw_t7 (List.mem_of_getElem? (i := 86) rfl), lw_t7 (List.mem_of_getElem? (i := 87) rfl)⟩
theorem lw_p59 : lw_okq (⟨"TwoHalvesModel", "readThing", "()Z"⟩, 42) := ⟨⟨by decide +kernel, by decide +kernel⟩, lw_t6 (List.mem_of_getElem? (i := 72) rfl), lw_t7 (List.mem_of_getElem? (i := 90) rfl), lw_t7 (List.mem_of_getElem? (i := 91) rfl)⟩
theorem lw_p60 : lw_okq (⟨"TwoHalvesModel", "readSays", "()Z"⟩, 42) := ⟨⟨by decide +kernel, by decide +kernel⟩, lw_t6 (List.mem_of_getElem? (i := 72) rfl), lw_t7 (List.mem_of_getElem? (i := 94) rfl), lw_t7 (List.mem_of_getElem? (i := 95) rfl)⟩
theorem lw_p61 : lw_okq (⟨"TwoHalvesModel", "readWay", "()Z"⟩, 42) := ⟨⟨by decide +kernel, by decide +kernel⟩, lw_t6 (List.mem_of_getElem? (i := 72) rfl), lw_t7 (List.mem_of_getElem? (i := 98) rfl), lw_t7 (List.mem_of_getElem? (i := 99) rfl)⟩
theorem lw_p62 : lw_okq (⟨"TwoHalvesModel", "readNumber", "(II)Z"⟩, 42) := ⟨⟨by decide +kernel, by decide +kernel⟩, lw_t6 (List.mem_of_getElem? (i := 72) rfl), lw_t7 (List.mem_of_getElem? (i := 102) rfl), lw_t7 (List.mem_of_getElem? (i := 103) rfl)⟩
theorem lw_p63 : lw_okq (⟨"TwoHalvesModel", "readState", "(I)Z"⟩, 42) := ⟨⟨by decide +kernel, by decide +kernel⟩, lw_t6 (List.mem_of_getElem? (i := 72) rfl), lw_t7 (List.mem_of_getElem? (i := 109) rfl), lw_t7 (List.mem_of_getElem? (i := 110) rfl)⟩
def lw_privs_4 : List (MethodName × Nat) := [(⟨"TwoHalvesModel", "kindAtHand", "()I"⟩, 42), (⟨"TwoHalvesModel", "halfAtHand", "()I"⟩, 42), (⟨"TwoHalvesModel", "flagAtHand", "()I"⟩, 42), (⟨"TwoHalvesModel", "stateAtHand", "()I"⟩, 42), (⟨"TwoHalvesModel", "isInWord", "()Z"⟩, 42), (⟨"TwoHalvesModel", "isKey", "(J)Z"⟩, 42), (⟨"TwoHalvesModel", "isOuter", "()Z"⟩, 42), (⟨"TwoHalvesModel", "isAfter", "()Z"⟩, 42), (⟨"TwoHalvesModel", "isShut", "()Z"⟩, 42), (⟨"TwoHalvesModel", "findRead", "()I"⟩, 42), (⟨"TwoHalvesModel", "readSuits", "()Z"⟩, 42), (⟨"TwoHalvesModel", "readThing", "()Z"⟩, 42), (⟨"TwoHalvesModel", "readSays", "()Z"⟩, 42), (⟨"TwoHalvesModel", "readWay", "()Z"⟩, 42), (⟨"TwoHalvesModel", "readNumber", "(II)Z"⟩, 42), (⟨"TwoHalvesModel", "readState", "(I)Z"⟩, 42)]
theorem lw_r4 : ∀ q ∈ lw_privs_4, lw_okq q := List.forall_mem_cons.mpr ⟨lw_p48, List.forall_mem_cons.mpr ⟨lw_p49, List.forall_mem_cons.mpr ⟨lw_p50, List.forall_mem_cons.mpr ⟨lw_p51, List.forall_mem_cons.mpr ⟨lw_p52, List.forall_mem_cons.mpr ⟨lw_p53, List.forall_mem_cons.mpr ⟨lw_p54, List.forall_mem_cons.mpr ⟨lw_p55, List.forall_mem_cons.mpr ⟨lw_p56, List.forall_mem_cons.mpr ⟨lw_p57, List.forall_mem_cons.mpr ⟨lw_p58, List.forall_mem_cons.mpr ⟨lw_p59, List.forall_mem_cons.mpr ⟨lw_p60, List.forall_mem_cons.mpr ⟨lw_p61, List.forall_mem_cons.mpr ⟨lw_p62, List.forall_mem_cons.mpr ⟨lw_p63, fun _ h => absurd h List.not_mem_nil⟩⟩⟩⟩⟩⟩⟩⟩⟩⟩⟩⟩⟩⟩⟩⟩
theorem lw_p64 : lw_okq (⟨"TwoHalvesModel", "isSign", "(I)Z"⟩, 42) := ⟨⟨by decide +kernel, by decide +kernel⟩, lw_t6 (List.mem_of_getElem? (i := 72) rfl), lw_t7 (List.mem_of_getElem? (i := 113) rfl), lw_t7 (List.mem_of_getElem? (i := 114) rfl)⟩
theorem lw_p65 : lw_okq (⟨"TwoHalvesModel", "ofState", "(I)I"⟩, 42) := ⟨⟨by decide +kernel, by decide +kernel⟩, lw_t6 (List.mem_of_getElem? (i := 72) rfl), lw_t7 (List.mem_of_getElem? (i := 125) rfl), lw_t7 (List.mem_of_getElem? (i := 126) rfl)⟩
theorem lw_p66 : lw_okq (⟨"TwoHalvesModel", "ways", "()I"⟩, 42) := ⟨⟨by decide +kernel, by decide +kernel⟩, lw_t6 (List.mem_of_getElem? (i := 72) rfl), lw_t7 (List.mem_of_getElem? (i := 129) rfl), lw_t7 (List.mem_of_getElem? (i := 130) rfl)⟩
theorem lw_p67 : lw_okq (⟨"TwoHalvesModel", "wayOf", "(II)I"⟩, 42) := ⟨⟨by decide +kernel, by decide +kernel⟩, lw_t6 (List.mem_of_getElem? (i := 72) rfl), lw_t7 (List.mem_of_getElem? (i := 133) rfl), lw_t7 (List.mem_of_getElem? (i := 134) rfl)⟩
theorem lw_p68 : lw_okq (⟨"TwoHalvesModel", "refuse", "()I"⟩, 42) := ⟨⟨by decide +kernel, by decide +kernel⟩, lw_t6 (List.mem_of_getElem? (i := 72) rfl), lw_t7 (List.mem_of_getElem? (i := 145) rfl), lw_t7 (List.mem_of_getElem? (i := 146) rfl)⟩
theorem lw_p69 : lw_okq (⟨"TwoHalvesModel", "isThing", "(I)Z"⟩, 42) := ⟨⟨by decide +kernel, by decide +kernel⟩, lw_t6 (List.mem_of_getElem? (i := 72) rfl), lw_t7 (List.mem_of_getElem? (i := 153) rfl), lw_t7 (List.mem_of_getElem? (i := 154) rfl)⟩
theorem lw_p70 : lw_okq (⟨"TwoHalvesModel", "things", "()I"⟩, 42) := ⟨⟨by decide +kernel, by decide +kernel⟩, lw_t6 (List.mem_of_getElem? (i := 72) rfl), lw_t7 (List.mem_of_getElem? (i := 157) rfl), lw_t7 (List.mem_of_getElem? (i := 158) rfl)⟩
theorem lw_p71 : lw_okq (⟨"TwoHalvesModel", "isShown", "(IIII)Z"⟩, 42) := ⟨⟨by decide +kernel, by decide +kernel⟩, lw_t6 (List.mem_of_getElem? (i := 72) rfl), lw_t7 (List.mem_of_getElem? (i := 165) rfl), lw_t7 (List.mem_of_getElem? (i := 166) rfl)⟩
theorem lw_p72 : lw_okq (⟨"TwoHalvesModel", "show", "(IIIII)V"⟩, 42) := ⟨⟨by decide +kernel, by decide +kernel⟩, lw_t6 (List.mem_of_getElem? (i := 72) rfl), lw_t7 (List.mem_of_getElem? (i := 169) rfl), lw_t7 (List.mem_of_getElem? (i := 170) rfl)⟩
theorem lw_p73 : lw_okq (⟨"TwoHalvesModel", "going", "(II)I"⟩, 42) := ⟨⟨by decide +kernel, by decide +kernel⟩, lw_t6 (List.mem_of_getElem? (i := 72) rfl), lw_t7 (List.mem_of_getElem? (i := 173) rfl), lw_t7 (List.mem_of_getElem? (i := 174) rfl)⟩
theorem lw_p74 : lw_okq (⟨"TwoHalvesModel", "learn", "(I)V"⟩, 42) := ⟨⟨by decide +kernel, by decide +kernel⟩, lw_t6 (List.mem_of_getElem? (i := 72) rfl), lw_t7 (List.mem_of_getElem? (i := 177) rfl), lw_t7 (List.mem_of_getElem? (i := 178) rfl)⟩
theorem lw_p75 : lw_okq (⟨"TwoHalvesModel", "shown", "(I)I"⟩, 42) := ⟨⟨by decide +kernel, by decide +kernel⟩, lw_t6 (List.mem_of_getElem? (i := 72) rfl), lw_t7 (List.mem_of_getElem? (i := 181) rfl), lw_t7 (List.mem_of_getElem? (i := 182) rfl)⟩
theorem lw_p76 : lw_okq (⟨"TwoHalvesModel", "sinceOf", "(II)I"⟩, 42) := ⟨⟨by decide +kernel, by decide +kernel⟩, lw_t6 (List.mem_of_getElem? (i := 72) rfl), lw_t7 (List.mem_of_getElem? (i := 185) rfl), lw_t7 (List.mem_of_getElem? (i := 186) rfl)⟩
theorem lw_p77 : lw_okq (⟨"TwoHalvesModel", "takes", "(IIIII)Z"⟩, 42) := ⟨⟨by decide +kernel, by decide +kernel⟩, lw_t6 (List.mem_of_getElem? (i := 72) rfl), lw_t7 (List.mem_of_getElem? (i := 193) rfl), lw_t7 (List.mem_of_getElem? (i := 194) rfl)⟩
theorem lw_p78 : lw_okq (⟨"TwoHalvesModel", "isOffer", "(I)Z"⟩, 42) := ⟨⟨by decide +kernel, by decide +kernel⟩, lw_t6 (List.mem_of_getElem? (i := 72) rfl), lw_t7 (List.mem_of_getElem? (i := 197) rfl), lw_t7 (List.mem_of_getElem? (i := 198) rfl)⟩
theorem lw_p79 : lw_okq (⟨"TwoHalvesModel", "takeOffer", "(I)V"⟩, 42) := ⟨⟨by decide +kernel, by decide +kernel⟩, lw_t6 (List.mem_of_getElem? (i := 72) rfl), lw_t7 (List.mem_of_getElem? (i := 201) rfl), lw_t7 (List.mem_of_getElem? (i := 202) rfl)⟩
def lw_privs_5 : List (MethodName × Nat) := [(⟨"TwoHalvesModel", "isSign", "(I)Z"⟩, 42), (⟨"TwoHalvesModel", "ofState", "(I)I"⟩, 42), (⟨"TwoHalvesModel", "ways", "()I"⟩, 42), (⟨"TwoHalvesModel", "wayOf", "(II)I"⟩, 42), (⟨"TwoHalvesModel", "refuse", "()I"⟩, 42), (⟨"TwoHalvesModel", "isThing", "(I)Z"⟩, 42), (⟨"TwoHalvesModel", "things", "()I"⟩, 42), (⟨"TwoHalvesModel", "isShown", "(IIII)Z"⟩, 42), (⟨"TwoHalvesModel", "show", "(IIIII)V"⟩, 42), (⟨"TwoHalvesModel", "going", "(II)I"⟩, 42), (⟨"TwoHalvesModel", "learn", "(I)V"⟩, 42), (⟨"TwoHalvesModel", "shown", "(I)I"⟩, 42), (⟨"TwoHalvesModel", "sinceOf", "(II)I"⟩, 42), (⟨"TwoHalvesModel", "takes", "(IIIII)Z"⟩, 42), (⟨"TwoHalvesModel", "isOffer", "(I)Z"⟩, 42), (⟨"TwoHalvesModel", "takeOffer", "(I)V"⟩, 42)]
theorem lw_r5 : ∀ q ∈ lw_privs_5, lw_okq q := List.forall_mem_cons.mpr ⟨lw_p64, List.forall_mem_cons.mpr ⟨lw_p65, List.forall_mem_cons.mpr ⟨lw_p66, List.forall_mem_cons.mpr ⟨lw_p67, List.forall_mem_cons.mpr ⟨lw_p68, List.forall_mem_cons.mpr ⟨lw_p69, List.forall_mem_cons.mpr ⟨lw_p70, List.forall_mem_cons.mpr ⟨lw_p71, List.forall_mem_cons.mpr ⟨lw_p72, List.forall_mem_cons.mpr ⟨lw_p73, List.forall_mem_cons.mpr ⟨lw_p74, List.forall_mem_cons.mpr ⟨lw_p75, List.forall_mem_cons.mpr ⟨lw_p76, List.forall_mem_cons.mpr ⟨lw_p77, List.forall_mem_cons.mpr ⟨lw_p78, List.forall_mem_cons.mpr ⟨lw_p79, fun _ h => absurd h List.not_mem_nil⟩⟩⟩⟩⟩⟩⟩⟩⟩⟩⟩⟩⟩⟩⟩⟩
theorem lw_p80 : lw_okq (⟨"TwoHalvesModel", "answerBy", "(I)I"⟩, 42) := ⟨⟨by decide +kernel, by decide +kernel⟩, lw_t6 (List.mem_of_getElem? (i := 72) rfl), lw_t7 (List.mem_of_getElem? (i := 205) rfl), lw_t7 (List.mem_of_getElem? (i := 206) rfl)⟩
theorem lw_p81 : lw_okq (⟨"TwoHalvesModel", "answered", "(I)I"⟩, 42) := ⟨⟨by decide +kernel, by decide +kernel⟩, lw_t6 (List.mem_of_getElem? (i := 72) rfl), lw_t7 (List.mem_of_getElem? (i := 209) rfl), lw_t7 (List.mem_of_getElem? (i := 210) rfl)⟩
theorem lw_p82 : lw_okq (⟨"TwoHalvesModel", "said", "()I"⟩, 42) := ⟨⟨by decide +kernel, by decide +kernel⟩, lw_t6 (List.mem_of_getElem? (i := 72) rfl), lw_t7 (List.mem_of_getElem? (i := 213) rfl), lw_t7 (List.mem_of_getElem? (i := 214) rfl)⟩
theorem lw_p83 : lw_okq (⟨"TwoHalvesModel", "sayable", "(I)I"⟩, 42) := ⟨⟨by decide +kernel, by decide +kernel⟩, lw_t6 (List.mem_of_getElem? (i := 72) rfl), lw_t7 (List.mem_of_getElem? (i := 217) rfl), lw_t7 (List.mem_of_getElem? (i := 218) rfl)⟩
theorem lw_p84 : lw_okq (⟨"TwoHalvesModel", "taken", "(I)I"⟩, 42) := ⟨⟨by decide +kernel, by decide +kernel⟩, lw_t6 (List.mem_of_getElem? (i := 72) rfl), lw_t7 (List.mem_of_getElem? (i := 221) rfl), lw_t7 (List.mem_of_getElem? (i := 222) rfl)⟩
theorem lw_p85 : lw_okq (⟨"TwoHalvesModel", "cause", "(II)I"⟩, 42) := ⟨⟨by decide +kernel, by decide +kernel⟩, lw_t6 (List.mem_of_getElem? (i := 72) rfl), lw_t7 (List.mem_of_getElem? (i := 225) rfl), lw_t7 (List.mem_of_getElem? (i := 226) rfl)⟩
theorem lw_p86 : lw_okq (⟨"TwoHalvesModel", "suits", "(II)Z"⟩, 42) := ⟨⟨by decide +kernel, by decide +kernel⟩, lw_t6 (List.mem_of_getElem? (i := 72) rfl), lw_t7 (List.mem_of_getElem? (i := 229) rfl), lw_t7 (List.mem_of_getElem? (i := 230) rfl)⟩
theorem lw_p87 : lw_okq (⟨"TwoHalvesModel", "outers", "()I"⟩, 42) := ⟨⟨by decide +kernel, by decide +kernel⟩, lw_t6 (List.mem_of_getElem? (i := 72) rfl), lw_t8 (List.mem_of_getElem? (i := 9) rfl), lw_t8 (List.mem_of_getElem? (i := 10) rfl)⟩
theorem lw_p88 : lw_okq (⟨"TwoHalvesModel", "know", "()V"⟩, 42) := ⟨⟨by decide +kernel, by decide +kernel⟩, lw_t6 (List.mem_of_getElem? (i := 72) rfl), lw_t8 (List.mem_of_getElem? (i := 17) rfl), lw_t8 (List.mem_of_getElem? (i := 18) rfl)⟩
theorem lw_p89 : lw_okq (⟨"TwoHalvesModel", "store", "(II)V"⟩, 42) := ⟨⟨by decide +kernel, by decide +kernel⟩, lw_t6 (List.mem_of_getElem? (i := 72) rfl), lw_t8 (List.mem_of_getElem? (i := 34) rfl), lw_t8 (List.mem_of_getElem? (i := 35) rfl)⟩
theorem lw_p90 : lw_okq (⟨"TwoHalvesModel", "isPerson", "(I)Z"⟩, 42) := ⟨⟨by decide +kernel, by decide +kernel⟩, lw_t6 (List.mem_of_getElem? (i := 72) rfl), lw_t8 (List.mem_of_getElem? (i := 42) rfl), lw_t8 (List.mem_of_getElem? (i := 43) rfl)⟩
theorem lw_p91 : lw_okq (⟨"TwoHalvesModel", "layFits", "(I)V"⟩, 42) := ⟨⟨by decide +kernel, by decide +kernel⟩, lw_t6 (List.mem_of_getElem? (i := 72) rfl), lw_t8 (List.mem_of_getElem? (i := 46) rfl), lw_t8 (List.mem_of_getElem? (i := 47) rfl)⟩
theorem lw_p92 : lw_okq (⟨"TwoHalvesModel", "recall", "(I)V"⟩, 42) := ⟨⟨by decide +kernel, by decide +kernel⟩, lw_t6 (List.mem_of_getElem? (i := 72) rfl), lw_t8 (List.mem_of_getElem? (i := 50) rfl), lw_t8 (List.mem_of_getElem? (i := 51) rfl)⟩
theorem lw_p93 : lw_okq (⟨"TwoHalvesModel", "sureOf", "(I)I"⟩, 42) := ⟨⟨by decide +kernel, by decide +kernel⟩, lw_t6 (List.mem_of_getElem? (i := 72) rfl), lw_t8 (List.mem_of_getElem? (i := 62) rfl), lw_t8 (List.mem_of_getElem? (i := 63) rfl)⟩
theorem lw_p94 : lw_okq (⟨"TwoHalvesModel", "partsOf", "(I)I"⟩, 42) := ⟨⟨by decide +kernel, by decide +kernel⟩, lw_t6 (List.mem_of_getElem? (i := 72) rfl), lw_t8 (List.mem_of_getElem? (i := 74) rfl), lw_t8 (List.mem_of_getElem? (i := 75) rfl)⟩
theorem lw_p95 : lw_okq (⟨"TwoHalvesModel", "layReplies", "(I)V"⟩, 42) := ⟨⟨by decide +kernel, by decide +kernel⟩, lw_t6 (List.mem_of_getElem? (i := 72) rfl), lw_t8 (List.mem_of_getElem? (i := 78) rfl), lw_t8 (List.mem_of_getElem? (i := 79) rfl)⟩
def lw_privs_6 : List (MethodName × Nat) := [(⟨"TwoHalvesModel", "answerBy", "(I)I"⟩, 42), (⟨"TwoHalvesModel", "answered", "(I)I"⟩, 42), (⟨"TwoHalvesModel", "said", "()I"⟩, 42), (⟨"TwoHalvesModel", "sayable", "(I)I"⟩, 42), (⟨"TwoHalvesModel", "taken", "(I)I"⟩, 42), (⟨"TwoHalvesModel", "cause", "(II)I"⟩, 42), (⟨"TwoHalvesModel", "suits", "(II)Z"⟩, 42), (⟨"TwoHalvesModel", "outers", "()I"⟩, 42), (⟨"TwoHalvesModel", "know", "()V"⟩, 42), (⟨"TwoHalvesModel", "store", "(II)V"⟩, 42), (⟨"TwoHalvesModel", "isPerson", "(I)Z"⟩, 42), (⟨"TwoHalvesModel", "layFits", "(I)V"⟩, 42), (⟨"TwoHalvesModel", "recall", "(I)V"⟩, 42), (⟨"TwoHalvesModel", "sureOf", "(I)I"⟩, 42), (⟨"TwoHalvesModel", "partsOf", "(I)I"⟩, 42), (⟨"TwoHalvesModel", "layReplies", "(I)V"⟩, 42)]
theorem lw_r6 : ∀ q ∈ lw_privs_6, lw_okq q := List.forall_mem_cons.mpr ⟨lw_p80, List.forall_mem_cons.mpr ⟨lw_p81, List.forall_mem_cons.mpr ⟨lw_p82, List.forall_mem_cons.mpr ⟨lw_p83, List.forall_mem_cons.mpr ⟨lw_p84, List.forall_mem_cons.mpr ⟨lw_p85, List.forall_mem_cons.mpr ⟨lw_p86, List.forall_mem_cons.mpr ⟨lw_p87, List.forall_mem_cons.mpr ⟨lw_p88, List.forall_mem_cons.mpr ⟨lw_p89, List.forall_mem_cons.mpr ⟨lw_p90, List.forall_mem_cons.mpr ⟨lw_p91, List.forall_mem_cons.mpr ⟨lw_p92, List.forall_mem_cons.mpr ⟨lw_p93, List.forall_mem_cons.mpr ⟨lw_p94, List.forall_mem_cons.mpr ⟨lw_p95, fun _ h => absurd h List.not_mem_nil⟩⟩⟩⟩⟩⟩⟩⟩⟩⟩⟩⟩⟩⟩⟩⟩
theorem lw_p96 : lw_okq (⟨"TwoHalvesModel", "readOr", "()Z"⟩, 42) := ⟨⟨by decide +kernel, by decide +kernel⟩, lw_t6 (List.mem_of_getElem? (i := 72) rfl), lw_t8 (List.mem_of_getElem? (i := 101) rfl), lw_t8 (List.mem_of_getElem? (i := 102) rfl)⟩
theorem lw_p97 : lw_okq (⟨"TwoHalvesModel", "readAnd", "()Z"⟩, 42) := ⟨⟨by decide +kernel, by decide +kernel⟩, lw_t6 (List.mem_of_getElem? (i := 72) rfl), lw_t8 (List.mem_of_getElem? (i := 105) rfl), lw_t8 (List.mem_of_getElem? (i := 106) rfl)⟩
theorem lw_p98 : lw_okq (⟨"TwoHalvesModel", "readOne", "()Z"⟩, 42) := ⟨⟨by decide +kernel, by decide +kernel⟩, lw_t6 (List.mem_of_getElem? (i := 72) rfl), lw_t8 (List.mem_of_getElem? (i := 109) rfl), lw_t8 (List.mem_of_getElem? (i := 110) rfl)⟩
theorem lw_p99 : lw_okq (⟨"TwoHalvesModel", "sureAtHand", "()I"⟩, 42) := ⟨⟨by decide +kernel, by decide +kernel⟩, lw_t6 (List.mem_of_getElem? (i := 72) rfl), lw_t8 (List.mem_of_getElem? (i := 113) rfl), lw_t8 (List.mem_of_getElem? (i := 114) rfl)⟩
theorem lw_p100 : lw_okq (⟨"TwoHalvesModel", "countAtHand", "()I"⟩, 42) := ⟨⟨by decide +kernel, by decide +kernel⟩, lw_t6 (List.mem_of_getElem? (i := 72) rfl), lw_t8 (List.mem_of_getElem? (i := 117) rfl), lw_t8 (List.mem_of_getElem? (i := 118) rfl)⟩
theorem lw_p101 : lw_okq (⟨"TwoHalvesModel", "readNot", "()Z"⟩, 42) := ⟨⟨by decide +kernel, by decide +kernel⟩, lw_t6 (List.mem_of_getElem? (i := 72) rfl), lw_t8 (List.mem_of_getElem? (i := 124) rfl), lw_t8 (List.mem_of_getElem? (i := 125) rfl)⟩
theorem lw_p102 : lw_okq (⟨"TwoHalvesModel", "lays", "(IIII)I"⟩, 42) := ⟨⟨by decide +kernel, by decide +kernel⟩, lw_t6 (List.mem_of_getElem? (i := 72) rfl), lw_t8 (List.mem_of_getElem? (i := 128) rfl), lw_t8 (List.mem_of_getElem? (i := 129) rfl)⟩
theorem lw_p103 : lw_okq (⟨"TwoHalvesModel", "readBracket", "()Z"⟩, 42) := ⟨⟨by decide +kernel, by decide +kernel⟩, lw_t6 (List.mem_of_getElem? (i := 72) rfl), lw_t8 (List.mem_of_getElem? (i := 132) rfl), lw_t8 (List.mem_of_getElem? (i := 133) rfl)⟩
theorem lw_p104 : lw_okq (⟨"TwoHalvesModel", "readSure", "(I)Z"⟩, 42) := ⟨⟨by decide +kernel, by decide +kernel⟩, lw_t6 (List.mem_of_getElem? (i := 72) rfl), lw_t8 (List.mem_of_getElem? (i := 136) rfl), lw_t8 (List.mem_of_getElem? (i := 137) rfl)⟩
theorem lw_p105 : lw_okq (⟨"TwoHalvesModel", "readCount", "(I)Z"⟩, 42) := ⟨⟨by decide +kernel, by decide +kernel⟩, lw_t6 (List.mem_of_getElem? (i := 72) rfl), lw_t8 (List.mem_of_getElem? (i := 140) rfl), lw_t8 (List.mem_of_getElem? (i := 141) rfl)⟩
theorem lw_p106 : lw_okq (⟨"TwoHalvesModel", "isSo", "(II)Z"⟩, 42) := ⟨⟨by decide +kernel, by decide +kernel⟩, lw_t6 (List.mem_of_getElem? (i := 72) rfl), lw_t8 (List.mem_of_getElem? (i := 148) rfl), lw_t8 (List.mem_of_getElem? (i := 149) rfl)⟩
theorem lw_p107 : lw_okq (⟨"TwoHalvesModel", "countOf", "(II)I"⟩, 42) := ⟨⟨by decide +kernel, by decide +kernel⟩, lw_t6 (List.mem_of_getElem? (i := 72) rfl), lw_t8 (List.mem_of_getElem? (i := 152) rfl), lw_t8 (List.mem_of_getElem? (i := 153) rfl)⟩
def lw_privs_7 : List (MethodName × Nat) := [(⟨"TwoHalvesModel", "readOr", "()Z"⟩, 42), (⟨"TwoHalvesModel", "readAnd", "()Z"⟩, 42), (⟨"TwoHalvesModel", "readOne", "()Z"⟩, 42), (⟨"TwoHalvesModel", "sureAtHand", "()I"⟩, 42), (⟨"TwoHalvesModel", "countAtHand", "()I"⟩, 42), (⟨"TwoHalvesModel", "readNot", "()Z"⟩, 42), (⟨"TwoHalvesModel", "lays", "(IIII)I"⟩, 42), (⟨"TwoHalvesModel", "readBracket", "()Z"⟩, 42), (⟨"TwoHalvesModel", "readSure", "(I)Z"⟩, 42), (⟨"TwoHalvesModel", "readCount", "(I)Z"⟩, 42), (⟨"TwoHalvesModel", "isSo", "(II)Z"⟩, 42), (⟨"TwoHalvesModel", "countOf", "(II)I"⟩, 42)]
theorem lw_r7 : ∀ q ∈ lw_privs_7, lw_okq q := List.forall_mem_cons.mpr ⟨lw_p96, List.forall_mem_cons.mpr ⟨lw_p97, List.forall_mem_cons.mpr ⟨lw_p98, List.forall_mem_cons.mpr ⟨lw_p99, List.forall_mem_cons.mpr ⟨lw_p100, List.forall_mem_cons.mpr ⟨lw_p101, List.forall_mem_cons.mpr ⟨lw_p102, List.forall_mem_cons.mpr ⟨lw_p103, List.forall_mem_cons.mpr ⟨lw_p104, List.forall_mem_cons.mpr ⟨lw_p105, List.forall_mem_cons.mpr ⟨lw_p106, List.forall_mem_cons.mpr ⟨lw_p107, fun _ h => absurd h List.not_mem_nil⟩⟩⟩⟩⟩⟩⟩⟩⟩⟩⟩⟩
def lw_privs : List (MethodName × Nat) := lw_privs_1 ++ (lw_privs_2 ++ (lw_privs_3 ++ (lw_privs_4 ++ (lw_privs_5 ++ (lw_privs_6 ++ (lw_privs_7))))))
def lw_tbl : List Cond := k2_sels lw_privs ++ tables_1
theorem lw_privs_ok : ∀ q ∈ lw_privs, lw_okq q := by
  show ∀ q ∈ lw_privs_1 ++ (lw_privs_2 ++ (lw_privs_3 ++ (lw_privs_4 ++ (lw_privs_5 ++ (lw_privs_6 ++ (lw_privs_7)))))), lw_okq q
  exact List.forall_mem_append.mpr ⟨lw_r1, List.forall_mem_append.mpr ⟨lw_r2, List.forall_mem_append.mpr ⟨lw_r3, List.forall_mem_append.mpr ⟨lw_r4, List.forall_mem_append.mpr ⟨lw_r5, List.forall_mem_append.mpr ⟨lw_r6, lw_r7⟩⟩⟩⟩⟩⟩
-- ===== ONE list of words for every method: the tables' words that hold all through a run =====
def lw_all : List Cond := lw_tbl.filter goodWord
/-- a word of the tables by its place: claim/WORDS.tsv -/
theorem lw_w {w : Cond} (i : Nat) (h : lw_tbl[i]? = some w) (g : goodWord w = true) : w ∈ lw_all := List.mem_filter.mpr ⟨List.mem_of_getElem? h, g⟩
theorem lw_all_tbl {w : Cond} (h : w ∈ lw_all) : w ∈ lw_tbl := (List.mem_filter.mp h).1
theorem lw_self : GoodIn lw_all lw_all := fun w h => ⟨h, good_of_word (List.mem_filter.mp h).2⟩
/-- a class's field words, by their places -/
theorem lw_in (ws : List Cond) (ps : List Nat) (hp : ws = ps.filterMap (fun i => lw_tbl[i]?)) (hg : ws.all goodWord = true) : ∀ w ∈ ws, w ∈ lw_all := by
  intro w h
  have h1 := List.all_eq_true.mp hg w h
  rw [hp] at h
  obtain ⟨i, -, hi⟩ := List.mem_filterMap.mp h
  exact lw_w i hi h1
/-- the words of a contract for the method y with code b, L locals, answer r -/
abbrev ws_ (y : MethodName) (b : ByteArray) (L : Nat) (r : Option FieldType) : List Cond := Cond.code y b L r :: lw_all
theorem lw_meth {y : MethodName} {b : ByteArray} {L : Nat} {r : Option FieldType} (h : Cond.code y b L r ∈ lw_all) : GoodIn lw_all (ws_ y b L r) := by
  intro w hw
  rcases List.mem_cons.mp hw with e | e
  · rw [e]
    exact lw_self _ h
  · exact lw_self _ e
theorem lw_app {a c : List Cond} (ha : ∀ w ∈ a, w ∈ lw_all) (hc : GoodIn lw_all c) : GoodIn lw_all (a ++ c) := by
  intro w hw
  rcases List.mem_append.mp hw with e | e
  · exact lw_self w (ha w e)
  · exact hc w e
/-- what a call through an object asks: cwV n hts (lw_V ..) -/
theorem lw_V {own : String} {idx : Nat} {C : String} {y : MethodName} {b : ByteArray} {L : Nat} {r : Option FieldType} (h1 : Cond.methodLink own idx y ∈ lw_all) (h2 : Cond.instanceMethod y ∈ lw_all) (h3 : Cond.selects C y y ∈ lw_all) (h4 : Cond.initialized C ∈ lw_all) (h5 : Cond.code y b L r ∈ lw_all) : GoodIn lw_all (wsV own idx C y (ws_ y b L r)) := by
  refine lw_app ?_ (lw_meth h5)
  intro w hw
  simp only [List.mem_cons, List.not_mem_nil, or_false] at hw
  rcases hw with e | e | e | e
  · rw [e]; exact h1
  · rw [e]; exact h2
  · rw [e]; exact h3
  · rw [e]; exact h4
/-- what a static call asks: va_cwS n hts (lw_S ..) -/
theorem lw_S {own : String} {idx : Nat} {y : MethodName} {b : ByteArray} {L : Nat} {r : Option FieldType} (h1 : Cond.methodLink own idx y ∈ lw_all) (h2 : Cond.static y ∈ lw_all) (h3 : Cond.initialized y.cls ∈ lw_all) (h4 : Cond.code y b L r ∈ lw_all) : GoodIn lw_all (va_wsS own idx y (ws_ y b L r)) := by
  refine lw_app ?_ (lw_meth h4)
  intro w hw
  simp only [List.mem_cons, List.not_mem_nil, or_false] at hw
  rcases hw with e | e | e
  · rw [e]; exact h1
  · rw [e]; exact h2
  · rw [e]; exact h3
/-- the words of a contract for a method WITH HANDLERS (hh: its table) -/
abbrev wsW_ (y : MethodName) (b : ByteArray) (L : Nat) (r : Option FieldType) (hh : List (Nat × Nat × Nat × Nat)) : List Cond := Cond.codeWith y b L r hh :: lw_all
theorem lw_methW {y : MethodName} {b : ByteArray} {L : Nat} {r : Option FieldType} {hh : List (Nat × Nat × Nat × Nat)} (h : Cond.codeWith y b L r hh ∈ lw_all) : GoodIn lw_all (wsW_ y b L r hh) := by
  intro w hw
  rcases List.mem_cons.mp hw with e | e
  · rw [e]
    exact lw_self _ h
  · exact lw_self _ e
/-- any list of words by their places (lw_in), good -/
theorem lw_good {ws : List Cond} (h : ∀ w ∈ ws, w ∈ lw_all) : GoodIn lw_all ws := fun w hw => lw_self w (h w hw)
/-- what a call of a method with handlers asks: vx_cwVW n hts (lw_VW ..), vx_cwSW n hts (lw_SW ..) -/
theorem lw_VW {own : String} {idx : Nat} {C : String} {y : MethodName} {b : ByteArray} {L : Nat} {r : Option FieldType} {hh : List (Nat × Nat × Nat × Nat)} (h1 : Cond.methodLink own idx y ∈ lw_all) (h2 : Cond.instanceMethod y ∈ lw_all) (h3 : Cond.selects C y y ∈ lw_all) (h4 : Cond.initialized C ∈ lw_all) (h5 : Cond.codeWith y b L r hh ∈ lw_all) : GoodIn lw_all (wsV own idx C y (wsW_ y b L r hh)) := by
  refine lw_app ?_ (lw_methW h5)
  intro w hw
  simp only [List.mem_cons, List.not_mem_nil, or_false] at hw
  rcases hw with e | e | e | e
  · rw [e]; exact h1
  · rw [e]; exact h2
  · rw [e]; exact h3
  · rw [e]; exact h4
theorem lw_SW {own : String} {idx : Nat} {y : MethodName} {b : ByteArray} {L : Nat} {r : Option FieldType} {hh : List (Nat × Nat × Nat × Nat)} (h1 : Cond.methodLink own idx y ∈ lw_all) (h2 : Cond.static y ∈ lw_all) (h3 : Cond.initialized y.cls ∈ lw_all) (h4 : Cond.codeWith y b L r hh ∈ lw_all) : GoodIn lw_all (va_wsS own idx y (wsW_ y b L r hh)) := by
  refine lw_app ?_ (lw_methW h4)
  intro w hw
  simp only [List.mem_cons, List.not_mem_nil, or_false] at hw
  rcases hw with e | e | e
  · rw [e]; exact h1
  · rw [e]; exact h2
  · rw [e]; exact h3
/-- a word by its place in its run of the tables -/
theorem lw_at {r : List Cond} (hr : ∀ w ∈ r, w ∈ lw_tbl) {w : Cond} (i : Nat) (h : r[i]? = some w) : w ∈ lw_tbl := hr w (List.mem_of_getElem? h)
theorem lw_g {w : Cond} (h : w ∈ lw_tbl) (g : goodWord w = true) : w ∈ lw_all := List.mem_filter.mpr ⟨h, g⟩
theorem lw_ms : ∀ w ∈ k2_sels lw_privs, w ∈ lw_tbl := fun w h => show w ∈ k2_sels lw_privs ++ tables_1 from List.mem_append_left _ h
theorem lw_m1 : ∀ w ∈ tables_1_1, w ∈ lw_tbl := fun w h => show w ∈ k2_sels lw_privs ++ tables_1 from List.mem_append_right (k2_sels lw_privs) (show w ∈ tables_1 from List.mem_append_left _ h)
theorem lw_m2 : ∀ w ∈ tables_1_2, w ∈ lw_tbl := fun w h => show w ∈ k2_sels lw_privs ++ tables_1 from List.mem_append_right (k2_sels lw_privs) (show w ∈ tables_1 from List.mem_append_right _ (List.mem_append_left _ h))
theorem lw_m3 : ∀ w ∈ tables_1_3, w ∈ lw_tbl := fun w h => show w ∈ k2_sels lw_privs ++ tables_1 from List.mem_append_right (k2_sels lw_privs) (show w ∈ tables_1 from List.mem_append_right _ (List.mem_append_right _ (List.mem_append_left _ h)))
theorem lw_m4 : ∀ w ∈ tables_1_4, w ∈ lw_tbl := fun w h => show w ∈ k2_sels lw_privs ++ tables_1 from List.mem_append_right (k2_sels lw_privs) (show w ∈ tables_1 from List.mem_append_right _ (List.mem_append_right _ (List.mem_append_right _ (List.mem_append_left _ h))))
theorem lw_m5 : ∀ w ∈ tables_1_5, w ∈ lw_tbl := fun w h => show w ∈ k2_sels lw_privs ++ tables_1 from List.mem_append_right (k2_sels lw_privs) (show w ∈ tables_1 from List.mem_append_right _ (List.mem_append_right _ (List.mem_append_right _ (List.mem_append_right _ (List.mem_append_left _ h)))))
theorem lw_m6 : ∀ w ∈ tables_1_6, w ∈ lw_tbl := fun w h => show w ∈ k2_sels lw_privs ++ tables_1 from List.mem_append_right (k2_sels lw_privs) (show w ∈ tables_1 from List.mem_append_right _ (List.mem_append_right _ (List.mem_append_right _ (List.mem_append_right _ (List.mem_append_right _ (List.mem_append_left _ h))))))
theorem lw_m7 : ∀ w ∈ tables_1_7, w ∈ lw_tbl := fun w h => show w ∈ k2_sels lw_privs ++ tables_1 from List.mem_append_right (k2_sels lw_privs) (show w ∈ tables_1 from List.mem_append_right _ (List.mem_append_right _ (List.mem_append_right _ (List.mem_append_right _ (List.mem_append_right _ (List.mem_append_right _ (List.mem_append_left _ h)))))))
theorem lw_m8 : ∀ w ∈ tables_1_8, w ∈ lw_tbl := fun w h => show w ∈ k2_sels lw_privs ++ tables_1 from List.mem_append_right (k2_sels lw_privs) (show w ∈ tables_1 from List.mem_append_right _ (List.mem_append_right _ (List.mem_append_right _ (List.mem_append_right _ (List.mem_append_right _ (List.mem_append_right _ (List.mem_append_right _ h)))))))
theorem qs0 : (Cond.selects "java/lang/Throwable" ⟨"java/lang/Throwable", "fillInStackTrace", "(I)Ljava/lang/Throwable;"⟩ ⟨"java/lang/Throwable", "fillInStackTrace", "(I)Ljava/lang/Throwable;"⟩) ∈ lw_all := lw_g (lw_at lw_ms 0 rfl) rfl
theorem qs1 : (Cond.selects "TwoHalves" ⟨"TwoHalves", "four", "(I)V"⟩ ⟨"TwoHalves", "four", "(I)V"⟩) ∈ lw_all := lw_g (lw_at lw_ms 1 rfl) rfl
theorem qs2 : (Cond.selects "TwoHalves" ⟨"TwoHalves", "taken", "()V"⟩ ⟨"TwoHalves", "taken", "()V"⟩) ∈ lw_all := lw_g (lw_at lw_ms 2 rfl) rfl
theorem qs3 : (Cond.selects "TwoHalves$HeadReader" ⟨"TwoHalves$HeadReader", "thing", "()V"⟩ ⟨"TwoHalves$HeadReader", "thing", "()V"⟩) ∈ lw_all := lw_g (lw_at lw_ms 3 rfl) rfl
theorem qs4 : (Cond.selects "TwoHalves$HeadReader" ⟨"TwoHalves$HeadReader", "fresh", "()J"⟩ ⟨"TwoHalves$HeadReader", "fresh", "()J"⟩) ∈ lw_all := lw_g (lw_at lw_ms 4 rfl) rfl
theorem qs5 : (Cond.selects "TwoHalves$HeadReader" ⟨"TwoHalves$HeadReader", "word", "([Ljava/lang/String;)I"⟩ ⟨"TwoHalves$HeadReader", "word", "([Ljava/lang/String;)I"⟩) ∈ lw_all := lw_g (lw_at lw_ms 5 rfl) rfl
theorem qs6 : (Cond.selects "TwoHalves$HeadReader" ⟨"TwoHalves$HeadReader", "suits", "()V"⟩ ⟨"TwoHalves$HeadReader", "suits", "()V"⟩) ∈ lw_all := lw_g (lw_at lw_ms 6 rfl) rfl
theorem qs7 : (Cond.selects "TwoHalves$HeadReader" ⟨"TwoHalves$HeadReader", "known", "([LTwoHalves$Named;I)I"⟩ ⟨"TwoHalves$HeadReader", "known", "([LTwoHalves$Named;I)I"⟩) ∈ lw_all := lw_g (lw_at lw_ms 7 rfl) rfl
theorem qs8 : (Cond.selects "TwoHalves$HeadReader" ⟨"TwoHalves$HeadReader", "says", "()V"⟩ ⟨"TwoHalves$HeadReader", "says", "()V"⟩) ∈ lw_all := lw_g (lw_at lw_ms 8 rfl) rfl
theorem qs9 : (Cond.selects "TwoHalves$HeadReader" ⟨"TwoHalves$HeadReader", "kinds", "(I)I"⟩ ⟨"TwoHalves$HeadReader", "kinds", "(I)I"⟩) ∈ lw_all := lw_g (lw_at lw_ms 9 rfl) rfl
theorem qs10 : (Cond.selects "TwoHalves$HeadReader" ⟨"TwoHalves$HeadReader", "way", "()V"⟩ ⟨"TwoHalves$HeadReader", "way", "()V"⟩) ∈ lw_all := lw_g (lw_at lw_ms 10 rfl) rfl
theorem qs11 : (Cond.selects "TwoHalves$HeadReader" ⟨"TwoHalves$HeadReader", "state", "(LTwoHalves$Way;)V"⟩ ⟨"TwoHalves$HeadReader", "state", "(LTwoHalves$Way;)V"⟩) ∈ lw_all := lw_g (lw_at lw_ms 11 rfl) rfl
theorem qs12 : (Cond.selects "TwoHalves" ⟨"TwoHalves", "isThing", "(I)Z"⟩ ⟨"TwoHalves", "isThing", "(I)Z"⟩) ∈ lw_all := lw_g (lw_at lw_ms 12 rfl) rfl
theorem qs13 : (Cond.selects "TwoHalves" ⟨"TwoHalves", "isShowing", "(IIII)Z"⟩ ⟨"TwoHalves", "isShowing", "(IIII)Z"⟩) ∈ lw_all := lw_g (lw_at lw_ms 13 rfl) rfl
theorem qs14 : (Cond.selects "TwoHalves" ⟨"TwoHalves", "isShown", "(I)Z"⟩ ⟨"TwoHalves", "isShown", "(I)Z"⟩) ∈ lw_all := lw_g (lw_at lw_ms 14 rfl) rfl
theorem qs15 : (Cond.selects "TwoHalves$Mind" ⟨"TwoHalves$Mind", "begin", "(LTwoHalves$Showing;)V"⟩ ⟨"TwoHalves$Mind", "begin", "(LTwoHalves$Showing;)V"⟩) ∈ lw_all := lw_g (lw_at lw_ms 15 rfl) rfl
theorem qs16 : (Cond.selects "TwoHalves$Mind" ⟨"TwoHalves$Mind", "passes", "(LTwoHalves$Way;I)Z"⟩ ⟨"TwoHalves$Mind", "passes", "(LTwoHalves$Way;I)Z"⟩) ∈ lw_all := lw_g (lw_at lw_ms 16 rfl) rfl
theorem qs17 : (Cond.selects "TwoHalves" ⟨"TwoHalves", "shown", "(IIIIII)LTwoHalves$Showing;"⟩ ⟨"TwoHalves", "shown", "(IIIIII)LTwoHalves$Showing;"⟩) ∈ lw_all := lw_g (lw_at lw_ms 17 rfl) rfl
theorem qs18 : (Cond.selects "TwoHalves" ⟨"TwoHalves", "areOffered", "(I)Z"⟩ ⟨"TwoHalves", "areOffered", "(I)Z"⟩) ∈ lw_all := lw_g (lw_at lw_ms 18 rfl) rfl
theorem qs19 : (Cond.selects "TwoHalves" ⟨"TwoHalves", "one", "(I)I"⟩ ⟨"TwoHalves", "one", "(I)I"⟩) ∈ lw_all := lw_g (lw_at lw_ms 19 rfl) rfl
theorem qs20 : (Cond.selects "TwoHalves" ⟨"TwoHalves", "answered", "(LTwoHalves$Showing;IIZ)I"⟩ ⟨"TwoHalves", "answered", "(LTwoHalves$Showing;IIZ)I"⟩) ∈ lw_all := lw_g (lw_at lw_ms 20 rfl) rfl
theorem qs21 : (Cond.selects "TwoHalves" ⟨"TwoHalves", "explore", "(I)V"⟩ ⟨"TwoHalves", "explore", "(I)V"⟩) ∈ lw_all := lw_g (lw_at lw_ms 21 rfl) rfl
theorem qs22 : (Cond.selects "TwoHalves" ⟨"TwoHalves", "fits", "(LTwoHalves$Book;I)Z"⟩ ⟨"TwoHalves", "fits", "(LTwoHalves$Book;I)Z"⟩) ∈ lw_all := lw_g (lw_at lw_ms 22 rfl) rfl
theorem qs23 : (Cond.selects "TwoHalves" ⟨"TwoHalves", "isWay", "(I)Z"⟩ ⟨"TwoHalves", "isWay", "(I)Z"⟩) ∈ lw_all := lw_g (lw_at lw_ms 23 rfl) rfl
theorem qs24 : (Cond.selects "TwoHalves" ⟨"TwoHalves", "sureOf", "(I)I"⟩ ⟨"TwoHalves", "sureOf", "(I)I"⟩) ∈ lw_all := lw_g (lw_at lw_ms 24 rfl) rfl
theorem qs25 : (Cond.selects "TwoHalves" ⟨"TwoHalves", "partsOf", "(I)I"⟩ ⟨"TwoHalves", "partsOf", "(I)I"⟩) ∈ lw_all := lw_g (lw_at lw_ms 25 rfl) rfl
theorem qs26 : (Cond.selects "TwoHalves" ⟨"TwoHalves", "parting", "(II)I"⟩ ⟨"TwoHalves", "parting", "(II)I"⟩) ∈ lw_all := lw_g (lw_at lw_ms 26 rfl) rfl
theorem qs27 : (Cond.selects "TwoHalves" ⟨"TwoHalves", "need", "(I)V"⟩ ⟨"TwoHalves", "need", "(I)V"⟩) ∈ lw_all := lw_g (lw_at lw_ms 27 rfl) rfl
theorem qs28 : (Cond.selects "TwoHalves" ⟨"TwoHalves", "partsAll", "(I)Z"⟩ ⟨"TwoHalves", "partsAll", "(I)Z"⟩) ∈ lw_all := lw_g (lw_at lw_ms 28 rfl) rfl
theorem qs29 : (Cond.selects "TwoHalves" ⟨"TwoHalves", "leftBy", "(I)I"⟩ ⟨"TwoHalves", "leftBy", "(I)I"⟩) ∈ lw_all := lw_g (lw_at lw_ms 29 rfl) rfl
theorem qs30 : (Cond.selects "TwoHalves$SentenceReader" ⟨"TwoHalves$SentenceReader", "any", "(I)LTwoHalves$Cond;"⟩ ⟨"TwoHalves$SentenceReader", "any", "(I)LTwoHalves$Cond;"⟩) ∈ lw_all := lw_g (lw_at lw_ms 30 rfl) rfl
theorem qs31 : (Cond.selects "TwoHalves$SentenceReader" ⟨"TwoHalves$SentenceReader", "both", "(I)LTwoHalves$Cond;"⟩ ⟨"TwoHalves$SentenceReader", "both", "(I)LTwoHalves$Cond;"⟩) ∈ lw_all := lw_g (lw_at lw_ms 31 rfl) rfl
theorem qs32 : (Cond.selects "TwoHalves$SentenceReader" ⟨"TwoHalves$SentenceReader", "one", "(I)LTwoHalves$Cond;"⟩ ⟨"TwoHalves$SentenceReader", "one", "(I)LTwoHalves$Cond;"⟩) ∈ lw_all := lw_g (lw_at lw_ms 32 rfl) rfl
theorem qs33 : (Cond.selects "TwoHalves$SentenceReader" ⟨"TwoHalves$SentenceReader", "ofWay", "(I)LTwoHalves$Cond;"⟩ ⟨"TwoHalves$SentenceReader", "ofWay", "(I)LTwoHalves$Cond;"⟩) ∈ lw_all := lw_g (lw_at lw_ms 33 rfl) rfl
theorem qs34 : (Cond.selects "TwoHalves$SentenceReader" ⟨"TwoHalves$SentenceReader", "counts", "(I)LTwoHalves$Cond;"⟩ ⟨"TwoHalves$SentenceReader", "counts", "(I)LTwoHalves$Cond;"⟩) ∈ lw_all := lw_g (lw_at lw_ms 34 rfl) rfl
theorem qs35 : (Cond.selects "TwoHalves" ⟨"TwoHalves", "luckyParts", "(II)J"⟩ ⟨"TwoHalves", "luckyParts", "(II)J"⟩) ∈ lw_all := lw_g (lw_at lw_ms 35 rfl) rfl
theorem qs36 : (Cond.selects "TwoHalvesModel" ⟨"TwoHalvesModel", "come", "(I)V"⟩ ⟨"TwoHalvesModel", "come", "(I)V"⟩) ∈ lw_all := lw_g (lw_at lw_ms 36 rfl) rfl
theorem qs37 : (Cond.selects "TwoHalvesModel" ⟨"TwoHalvesModel", "begin", "(I)V"⟩ ⟨"TwoHalvesModel", "begin", "(I)V"⟩) ∈ lw_all := lw_g (lw_at lw_ms 37 rfl) rfl
theorem qs38 : (Cond.selects "TwoHalvesModel" ⟨"TwoHalvesModel", "lay", "()V"⟩ ⟨"TwoHalvesModel", "lay", "()V"⟩) ∈ lw_all := lw_g (lw_at lw_ms 38 rfl) rfl
theorem qs39 : (Cond.selects "TwoHalvesModel" ⟨"TwoHalvesModel", "take", "()I"⟩ ⟨"TwoHalvesModel", "take", "()I"⟩) ∈ lw_all := lw_g (lw_at lw_ms 39 rfl) rfl
theorem qs40 : (Cond.selects "TwoHalvesModel" ⟨"TwoHalvesModel", "go", "()V"⟩ ⟨"TwoHalvesModel", "go", "()V"⟩) ∈ lw_all := lw_g (lw_at lw_ms 40 rfl) rfl
theorem qs41 : (Cond.selects "TwoHalvesModel" ⟨"TwoHalvesModel", "byteAt", "(I)I"⟩ ⟨"TwoHalvesModel", "byteAt", "(I)I"⟩) ∈ lw_all := lw_g (lw_at lw_ms 41 rfl) rfl
theorem qs42 : (Cond.selects "TwoHalvesModel" ⟨"TwoHalvesModel", "readLine", "()Z"⟩ ⟨"TwoHalvesModel", "readLine", "()Z"⟩) ∈ lw_all := lw_g (lw_at lw_ms 42 rfl) rfl
theorem qs43 : (Cond.selects "TwoHalvesModel" ⟨"TwoHalvesModel", "lineAtHand", "()I"⟩ ⟨"TwoHalvesModel", "lineAtHand", "()I"⟩) ∈ lw_all := lw_g (lw_at lw_ms 43 rfl) rfl
theorem qs44 : (Cond.selects "TwoHalvesModel" ⟨"TwoHalvesModel", "bad", "(I)Z"⟩ ⟨"TwoHalvesModel", "bad", "(I)Z"⟩) ∈ lw_all := lw_g (lw_at lw_ms 44 rfl) rfl
theorem qs45 : (Cond.selects "TwoHalvesModel" ⟨"TwoHalvesModel", "readThingLine", "()Z"⟩ ⟨"TwoHalvesModel", "readThingLine", "()Z"⟩) ∈ lw_all := lw_g (lw_at lw_ms 45 rfl) rfl
theorem qs46 : (Cond.selects "TwoHalvesModel" ⟨"TwoHalvesModel", "readNew", "(I)Z"⟩ ⟨"TwoHalvesModel", "readNew", "(I)Z"⟩) ∈ lw_all := lw_g (lw_at lw_ms 46 rfl) rfl
theorem qs47 : (Cond.selects "TwoHalvesModel" ⟨"TwoHalvesModel", "isName", "()Z"⟩ ⟨"TwoHalvesModel", "isName", "()Z"⟩) ∈ lw_all := lw_g (lw_at lw_ms 47 rfl) rfl
theorem qs48 : (Cond.selects "TwoHalvesModel" ⟨"TwoHalvesModel", "kindAtHand", "()I"⟩ ⟨"TwoHalvesModel", "kindAtHand", "()I"⟩) ∈ lw_all := lw_g (lw_at lw_ms 48 rfl) rfl
theorem qs49 : (Cond.selects "TwoHalvesModel" ⟨"TwoHalvesModel", "halfAtHand", "()I"⟩ ⟨"TwoHalvesModel", "halfAtHand", "()I"⟩) ∈ lw_all := lw_g (lw_at lw_ms 49 rfl) rfl
theorem qs50 : (Cond.selects "TwoHalvesModel" ⟨"TwoHalvesModel", "flagAtHand", "()I"⟩ ⟨"TwoHalvesModel", "flagAtHand", "()I"⟩) ∈ lw_all := lw_g (lw_at lw_ms 50 rfl) rfl
theorem qs51 : (Cond.selects "TwoHalvesModel" ⟨"TwoHalvesModel", "stateAtHand", "()I"⟩ ⟨"TwoHalvesModel", "stateAtHand", "()I"⟩) ∈ lw_all := lw_g (lw_at lw_ms 51 rfl) rfl
theorem qs52 : (Cond.selects "TwoHalvesModel" ⟨"TwoHalvesModel", "isInWord", "()Z"⟩ ⟨"TwoHalvesModel", "isInWord", "()Z"⟩) ∈ lw_all := lw_g (lw_at lw_ms 52 rfl) rfl
theorem qs53 : (Cond.selects "TwoHalvesModel" ⟨"TwoHalvesModel", "isKey", "(J)Z"⟩ ⟨"TwoHalvesModel", "isKey", "(J)Z"⟩) ∈ lw_all := lw_g (lw_at lw_ms 53 rfl) rfl
theorem qs54 : (Cond.selects "TwoHalvesModel" ⟨"TwoHalvesModel", "isOuter", "()Z"⟩ ⟨"TwoHalvesModel", "isOuter", "()Z"⟩) ∈ lw_all := lw_g (lw_at lw_ms 54 rfl) rfl
theorem qs55 : (Cond.selects "TwoHalvesModel" ⟨"TwoHalvesModel", "isAfter", "()Z"⟩ ⟨"TwoHalvesModel", "isAfter", "()Z"⟩) ∈ lw_all := lw_g (lw_at lw_ms 55 rfl) rfl
theorem qs56 : (Cond.selects "TwoHalvesModel" ⟨"TwoHalvesModel", "isShut", "()Z"⟩ ⟨"TwoHalvesModel", "isShut", "()Z"⟩) ∈ lw_all := lw_g (lw_at lw_ms 56 rfl) rfl
theorem qs57 : (Cond.selects "TwoHalvesModel" ⟨"TwoHalvesModel", "findRead", "()I"⟩ ⟨"TwoHalvesModel", "findRead", "()I"⟩) ∈ lw_all := lw_g (lw_at lw_ms 57 rfl) rfl
theorem qs58 : (Cond.selects "TwoHalvesModel" ⟨"TwoHalvesModel", "readSuits", "()Z"⟩ ⟨"TwoHalvesModel", "readSuits", "()Z"⟩) ∈ lw_all := lw_g (lw_at lw_ms 58 rfl) rfl
theorem qs59 : (Cond.selects "TwoHalvesModel" ⟨"TwoHalvesModel", "readThing", "()Z"⟩ ⟨"TwoHalvesModel", "readThing", "()Z"⟩) ∈ lw_all := lw_g (lw_at lw_ms 59 rfl) rfl
theorem qs60 : (Cond.selects "TwoHalvesModel" ⟨"TwoHalvesModel", "readSays", "()Z"⟩ ⟨"TwoHalvesModel", "readSays", "()Z"⟩) ∈ lw_all := lw_g (lw_at lw_ms 60 rfl) rfl
theorem qs61 : (Cond.selects "TwoHalvesModel" ⟨"TwoHalvesModel", "readWay", "()Z"⟩ ⟨"TwoHalvesModel", "readWay", "()Z"⟩) ∈ lw_all := lw_g (lw_at lw_ms 61 rfl) rfl
theorem qs62 : (Cond.selects "TwoHalvesModel" ⟨"TwoHalvesModel", "readNumber", "(II)Z"⟩ ⟨"TwoHalvesModel", "readNumber", "(II)Z"⟩) ∈ lw_all := lw_g (lw_at lw_ms 62 rfl) rfl
theorem qs63 : (Cond.selects "TwoHalvesModel" ⟨"TwoHalvesModel", "readState", "(I)Z"⟩ ⟨"TwoHalvesModel", "readState", "(I)Z"⟩) ∈ lw_all := lw_g (lw_at lw_ms 63 rfl) rfl
theorem qs64 : (Cond.selects "TwoHalvesModel" ⟨"TwoHalvesModel", "isSign", "(I)Z"⟩ ⟨"TwoHalvesModel", "isSign", "(I)Z"⟩) ∈ lw_all := lw_g (lw_at lw_ms 64 rfl) rfl
theorem qs65 : (Cond.selects "TwoHalvesModel" ⟨"TwoHalvesModel", "ofState", "(I)I"⟩ ⟨"TwoHalvesModel", "ofState", "(I)I"⟩) ∈ lw_all := lw_g (lw_at lw_ms 65 rfl) rfl
theorem qs66 : (Cond.selects "TwoHalvesModel" ⟨"TwoHalvesModel", "ways", "()I"⟩ ⟨"TwoHalvesModel", "ways", "()I"⟩) ∈ lw_all := lw_g (lw_at lw_ms 66 rfl) rfl
theorem qs67 : (Cond.selects "TwoHalvesModel" ⟨"TwoHalvesModel", "wayOf", "(II)I"⟩ ⟨"TwoHalvesModel", "wayOf", "(II)I"⟩) ∈ lw_all := lw_g (lw_at lw_ms 67 rfl) rfl
theorem qs68 : (Cond.selects "TwoHalvesModel" ⟨"TwoHalvesModel", "refuse", "()I"⟩ ⟨"TwoHalvesModel", "refuse", "()I"⟩) ∈ lw_all := lw_g (lw_at lw_ms 68 rfl) rfl
theorem qs69 : (Cond.selects "TwoHalvesModel" ⟨"TwoHalvesModel", "isThing", "(I)Z"⟩ ⟨"TwoHalvesModel", "isThing", "(I)Z"⟩) ∈ lw_all := lw_g (lw_at lw_ms 69 rfl) rfl
theorem qs70 : (Cond.selects "TwoHalvesModel" ⟨"TwoHalvesModel", "things", "()I"⟩ ⟨"TwoHalvesModel", "things", "()I"⟩) ∈ lw_all := lw_g (lw_at lw_ms 70 rfl) rfl
theorem qs71 : (Cond.selects "TwoHalvesModel" ⟨"TwoHalvesModel", "isShown", "(IIII)Z"⟩ ⟨"TwoHalvesModel", "isShown", "(IIII)Z"⟩) ∈ lw_all := lw_g (lw_at lw_ms 71 rfl) rfl
theorem qs72 : (Cond.selects "TwoHalvesModel" ⟨"TwoHalvesModel", "show", "(IIIII)V"⟩ ⟨"TwoHalvesModel", "show", "(IIIII)V"⟩) ∈ lw_all := lw_g (lw_at lw_ms 72 rfl) rfl
theorem qs73 : (Cond.selects "TwoHalvesModel" ⟨"TwoHalvesModel", "going", "(II)I"⟩ ⟨"TwoHalvesModel", "going", "(II)I"⟩) ∈ lw_all := lw_g (lw_at lw_ms 73 rfl) rfl
theorem qs74 : (Cond.selects "TwoHalvesModel" ⟨"TwoHalvesModel", "learn", "(I)V"⟩ ⟨"TwoHalvesModel", "learn", "(I)V"⟩) ∈ lw_all := lw_g (lw_at lw_ms 74 rfl) rfl
theorem qs75 : (Cond.selects "TwoHalvesModel" ⟨"TwoHalvesModel", "shown", "(I)I"⟩ ⟨"TwoHalvesModel", "shown", "(I)I"⟩) ∈ lw_all := lw_g (lw_at lw_ms 75 rfl) rfl
theorem qs76 : (Cond.selects "TwoHalvesModel" ⟨"TwoHalvesModel", "sinceOf", "(II)I"⟩ ⟨"TwoHalvesModel", "sinceOf", "(II)I"⟩) ∈ lw_all := lw_g (lw_at lw_ms 76 rfl) rfl
theorem qs77 : (Cond.selects "TwoHalvesModel" ⟨"TwoHalvesModel", "takes", "(IIIII)Z"⟩ ⟨"TwoHalvesModel", "takes", "(IIIII)Z"⟩) ∈ lw_all := lw_g (lw_at lw_ms 77 rfl) rfl
theorem qs78 : (Cond.selects "TwoHalvesModel" ⟨"TwoHalvesModel", "isOffer", "(I)Z"⟩ ⟨"TwoHalvesModel", "isOffer", "(I)Z"⟩) ∈ lw_all := lw_g (lw_at lw_ms 78 rfl) rfl
theorem qs79 : (Cond.selects "TwoHalvesModel" ⟨"TwoHalvesModel", "takeOffer", "(I)V"⟩ ⟨"TwoHalvesModel", "takeOffer", "(I)V"⟩) ∈ lw_all := lw_g (lw_at lw_ms 79 rfl) rfl
theorem qs80 : (Cond.selects "TwoHalvesModel" ⟨"TwoHalvesModel", "answerBy", "(I)I"⟩ ⟨"TwoHalvesModel", "answerBy", "(I)I"⟩) ∈ lw_all := lw_g (lw_at lw_ms 80 rfl) rfl
theorem qs81 : (Cond.selects "TwoHalvesModel" ⟨"TwoHalvesModel", "answered", "(I)I"⟩ ⟨"TwoHalvesModel", "answered", "(I)I"⟩) ∈ lw_all := lw_g (lw_at lw_ms 81 rfl) rfl
theorem qs82 : (Cond.selects "TwoHalvesModel" ⟨"TwoHalvesModel", "said", "()I"⟩ ⟨"TwoHalvesModel", "said", "()I"⟩) ∈ lw_all := lw_g (lw_at lw_ms 82 rfl) rfl
theorem qs83 : (Cond.selects "TwoHalvesModel" ⟨"TwoHalvesModel", "sayable", "(I)I"⟩ ⟨"TwoHalvesModel", "sayable", "(I)I"⟩) ∈ lw_all := lw_g (lw_at lw_ms 83 rfl) rfl
theorem qs84 : (Cond.selects "TwoHalvesModel" ⟨"TwoHalvesModel", "taken", "(I)I"⟩ ⟨"TwoHalvesModel", "taken", "(I)I"⟩) ∈ lw_all := lw_g (lw_at lw_ms 84 rfl) rfl
theorem qs85 : (Cond.selects "TwoHalvesModel" ⟨"TwoHalvesModel", "cause", "(II)I"⟩ ⟨"TwoHalvesModel", "cause", "(II)I"⟩) ∈ lw_all := lw_g (lw_at lw_ms 85 rfl) rfl
theorem qs86 : (Cond.selects "TwoHalvesModel" ⟨"TwoHalvesModel", "suits", "(II)Z"⟩ ⟨"TwoHalvesModel", "suits", "(II)Z"⟩) ∈ lw_all := lw_g (lw_at lw_ms 86 rfl) rfl
theorem qs87 : (Cond.selects "TwoHalvesModel" ⟨"TwoHalvesModel", "outers", "()I"⟩ ⟨"TwoHalvesModel", "outers", "()I"⟩) ∈ lw_all := lw_g (lw_at lw_ms 87 rfl) rfl
theorem qs88 : (Cond.selects "TwoHalvesModel" ⟨"TwoHalvesModel", "know", "()V"⟩ ⟨"TwoHalvesModel", "know", "()V"⟩) ∈ lw_all := lw_g (lw_at lw_ms 88 rfl) rfl
theorem qs89 : (Cond.selects "TwoHalvesModel" ⟨"TwoHalvesModel", "store", "(II)V"⟩ ⟨"TwoHalvesModel", "store", "(II)V"⟩) ∈ lw_all := lw_g (lw_at lw_ms 89 rfl) rfl
theorem qs90 : (Cond.selects "TwoHalvesModel" ⟨"TwoHalvesModel", "isPerson", "(I)Z"⟩ ⟨"TwoHalvesModel", "isPerson", "(I)Z"⟩) ∈ lw_all := lw_g (lw_at lw_ms 90 rfl) rfl
theorem qs91 : (Cond.selects "TwoHalvesModel" ⟨"TwoHalvesModel", "layFits", "(I)V"⟩ ⟨"TwoHalvesModel", "layFits", "(I)V"⟩) ∈ lw_all := lw_g (lw_at lw_ms 91 rfl) rfl
theorem qs92 : (Cond.selects "TwoHalvesModel" ⟨"TwoHalvesModel", "recall", "(I)V"⟩ ⟨"TwoHalvesModel", "recall", "(I)V"⟩) ∈ lw_all := lw_g (lw_at lw_ms 92 rfl) rfl
theorem qs93 : (Cond.selects "TwoHalvesModel" ⟨"TwoHalvesModel", "sureOf", "(I)I"⟩ ⟨"TwoHalvesModel", "sureOf", "(I)I"⟩) ∈ lw_all := lw_g (lw_at lw_ms 93 rfl) rfl
theorem qs94 : (Cond.selects "TwoHalvesModel" ⟨"TwoHalvesModel", "partsOf", "(I)I"⟩ ⟨"TwoHalvesModel", "partsOf", "(I)I"⟩) ∈ lw_all := lw_g (lw_at lw_ms 94 rfl) rfl
theorem qs95 : (Cond.selects "TwoHalvesModel" ⟨"TwoHalvesModel", "layReplies", "(I)V"⟩ ⟨"TwoHalvesModel", "layReplies", "(I)V"⟩) ∈ lw_all := lw_g (lw_at lw_ms 95 rfl) rfl
theorem qs96 : (Cond.selects "TwoHalvesModel" ⟨"TwoHalvesModel", "readOr", "()Z"⟩ ⟨"TwoHalvesModel", "readOr", "()Z"⟩) ∈ lw_all := lw_g (lw_at lw_ms 96 rfl) rfl
theorem qs97 : (Cond.selects "TwoHalvesModel" ⟨"TwoHalvesModel", "readAnd", "()Z"⟩ ⟨"TwoHalvesModel", "readAnd", "()Z"⟩) ∈ lw_all := lw_g (lw_at lw_ms 97 rfl) rfl
theorem qs98 : (Cond.selects "TwoHalvesModel" ⟨"TwoHalvesModel", "readOne", "()Z"⟩ ⟨"TwoHalvesModel", "readOne", "()Z"⟩) ∈ lw_all := lw_g (lw_at lw_ms 98 rfl) rfl
theorem qs99 : (Cond.selects "TwoHalvesModel" ⟨"TwoHalvesModel", "sureAtHand", "()I"⟩ ⟨"TwoHalvesModel", "sureAtHand", "()I"⟩) ∈ lw_all := lw_g (lw_at lw_ms 99 rfl) rfl
theorem qs100 : (Cond.selects "TwoHalvesModel" ⟨"TwoHalvesModel", "countAtHand", "()I"⟩ ⟨"TwoHalvesModel", "countAtHand", "()I"⟩) ∈ lw_all := lw_g (lw_at lw_ms 100 rfl) rfl
theorem qs101 : (Cond.selects "TwoHalvesModel" ⟨"TwoHalvesModel", "readNot", "()Z"⟩ ⟨"TwoHalvesModel", "readNot", "()Z"⟩) ∈ lw_all := lw_g (lw_at lw_ms 101 rfl) rfl
theorem qs102 : (Cond.selects "TwoHalvesModel" ⟨"TwoHalvesModel", "lays", "(IIII)I"⟩ ⟨"TwoHalvesModel", "lays", "(IIII)I"⟩) ∈ lw_all := lw_g (lw_at lw_ms 102 rfl) rfl
theorem qs103 : (Cond.selects "TwoHalvesModel" ⟨"TwoHalvesModel", "readBracket", "()Z"⟩ ⟨"TwoHalvesModel", "readBracket", "()Z"⟩) ∈ lw_all := lw_g (lw_at lw_ms 103 rfl) rfl
theorem qs104 : (Cond.selects "TwoHalvesModel" ⟨"TwoHalvesModel", "readSure", "(I)Z"⟩ ⟨"TwoHalvesModel", "readSure", "(I)Z"⟩) ∈ lw_all := lw_g (lw_at lw_ms 104 rfl) rfl
theorem qs105 : (Cond.selects "TwoHalvesModel" ⟨"TwoHalvesModel", "readCount", "(I)Z"⟩ ⟨"TwoHalvesModel", "readCount", "(I)Z"⟩) ∈ lw_all := lw_g (lw_at lw_ms 105 rfl) rfl
theorem qs106 : (Cond.selects "TwoHalvesModel" ⟨"TwoHalvesModel", "isSo", "(II)Z"⟩ ⟨"TwoHalvesModel", "isSo", "(II)Z"⟩) ∈ lw_all := lw_g (lw_at lw_ms 106 rfl) rfl
theorem qs107 : (Cond.selects "TwoHalvesModel" ⟨"TwoHalvesModel", "countOf", "(II)I"⟩ ⟨"TwoHalvesModel", "countOf", "(II)I"⟩) ∈ lw_all := lw_g (lw_at lw_ms 107 rfl) rfl
