-- ===== PART A: goes FIRST, ahead of the names: the tables' words, and 'selects' of the private methods out of them =====
/-- a private method of a class that the tables say can be made, by its rows of tables_1 -/
def lw_okq (q : MethodName × Nat) : Prop := (q.1.cls ≠ "java/lang/invoke/MethodHandle" ∧ q.1.cls ≠ "java/lang/invoke/VarHandle") ∧ Cond.instantiable q.1.cls q.2 ∈ tables_1 ∧ Cond.privateMethod q.1 ∈ tables_1 ∧ Cond.instanceMethod q.1 ∈ tables_1
set_option maxRecDepth 100000
theorem lw_t1 {w : Cond} (h : w ∈ tables_1_1) : w ∈ tables_1 := List.mem_append_left _ h
theorem lw_t2 {w : Cond} (h : w ∈ tables_1_2) : w ∈ tables_1 := List.mem_append_right _ (List.mem_append_left _ h)
theorem lw_t3 {w : Cond} (h : w ∈ tables_1_3) : w ∈ tables_1 := List.mem_append_right _ (List.mem_append_right _ (List.mem_append_left _ h))
theorem lw_t4 {w : Cond} (h : w ∈ tables_1_4) : w ∈ tables_1 := List.mem_append_right _ (List.mem_append_right _ (List.mem_append_right _ (List.mem_append_left _ h)))
theorem lw_t5 {w : Cond} (h : w ∈ tables_1_5) : w ∈ tables_1 := List.mem_append_right _ (List.mem_append_right _ (List.mem_append_right _ (List.mem_append_right _ (List.mem_append_left _ h))))
theorem lw_t6 {w : Cond} (h : w ∈ tables_1_6) : w ∈ tables_1 := List.mem_append_right _ (List.mem_append_right _ (List.mem_append_right _ (List.mem_append_right _ (List.mem_append_right _ (List.mem_append_left _ h)))))
theorem lw_t7 {w : Cond} (h : w ∈ tables_1_7) : w ∈ tables_1 := List.mem_append_right _ (List.mem_append_right _ (List.mem_append_right _ (List.mem_append_right _ (List.mem_append_right _ (List.mem_append_right _ h)))))
theorem lw_p0 : lw_okq (⟨"java/lang/Throwable", "fillInStackTrace", "(I)Ljava/lang/Throwable;"⟩, 6) := ⟨⟨by decide +kernel, by decide +kernel⟩, lw_t1 (List.mem_of_getElem? (i := 69) rfl), lw_t1 (List.mem_of_getElem? (i := 67) rfl), lw_t1 (List.mem_of_getElem? (i := 68) rfl)⟩
theorem lw_p1 : lw_okq (⟨"LosersBooks", "lawFault", "()I"⟩, 35) := ⟨⟨by decide +kernel, by decide +kernel⟩, lw_t1 (List.mem_of_getElem? (i := 26) rfl), lw_t1 (List.mem_of_getElem? (i := 216) rfl), lw_t1 (List.mem_of_getElem? (i := 217) rfl)⟩
theorem lw_p2 : lw_okq (⟨"LosersBooks", "wholeLaw", "()LLosersBooks$Clause;"⟩, 35) := ⟨⟨by decide +kernel, by decide +kernel⟩, lw_t1 (List.mem_of_getElem? (i := 26) rfl), lw_t1 (List.mem_of_getElem? (i := 220) rfl), lw_t1 (List.mem_of_getElem? (i := 221) rfl)⟩
theorem lw_p3 : lw_okq (⟨"LosersBooks", "clause", "()LLosersBooks$Clause;"⟩, 35) := ⟨⟨by decide +kernel, by decide +kernel⟩, lw_t1 (List.mem_of_getElem? (i := 26) rfl), lw_t1 (List.mem_of_getElem? (i := 224) rfl), lw_t1 (List.mem_of_getElem? (i := 225) rfl)⟩
theorem lw_p4 : lw_okq (⟨"LosersBooks", "look", "()I"⟩, 35) := ⟨⟨by decide +kernel, by decide +kernel⟩, lw_t1 (List.mem_of_getElem? (i := 26) rfl), lw_t1 (List.mem_of_getElem? (i := 228) rfl), lw_t1 (List.mem_of_getElem? (i := 229) rfl)⟩
theorem lw_p5 : lw_okq (⟨"LosersBooks", "need", "(Z)V"⟩, 35) := ⟨⟨by decide +kernel, by decide +kernel⟩, lw_t1 (List.mem_of_getElem? (i := 26) rfl), lw_t2 (List.mem_of_getElem? (i := 79) rfl), lw_t2 (List.mem_of_getElem? (i := 80) rfl)⟩
theorem lw_p6 : lw_okq (⟨"LosersBooks", "sum", "()LLosersBooks$Sum;"⟩, 35) := ⟨⟨by decide +kernel, by decide +kernel⟩, lw_t1 (List.mem_of_getElem? (i := 26) rfl), lw_t2 (List.mem_of_getElem? (i := 83) rfl), lw_t2 (List.mem_of_getElem? (i := 84) rfl)⟩
theorem lw_p7 : lw_okq (⟨"LosersBooks", "term", "()LLosersBooks$Sum;"⟩, 35) := ⟨⟨by decide +kernel, by decide +kernel⟩, lw_t1 (List.mem_of_getElem? (i := 26) rfl), lw_t2 (List.mem_of_getElem? (i := 87) rfl), lw_t2 (List.mem_of_getElem? (i := 88) rfl)⟩
theorem lw_p8 : lw_okq (⟨"LosersBooks", "atom", "()LLosersBooks$Sum;"⟩, 35) := ⟨⟨by decide +kernel, by decide +kernel⟩, lw_t1 (List.mem_of_getElem? (i := 26) rfl), lw_t2 (List.mem_of_getElem? (i := 91) rfl), lw_t2 (List.mem_of_getElem? (i := 92) rfl)⟩
theorem lw_p9 : lw_okq (⟨"LosersBooks", "opens", "()V"⟩, 35) := ⟨⟨by decide +kernel, by decide +kernel⟩, lw_t1 (List.mem_of_getElem? (i := 26) rfl), lw_t2 (List.mem_of_getElem? (i := 95) rfl), lw_t2 (List.mem_of_getElem? (i := 96) rfl)⟩
theorem lw_p10 : lw_okq (⟨"LosersBooks", "closes", "(I)V"⟩, 35) := ⟨⟨by decide +kernel, by decide +kernel⟩, lw_t1 (List.mem_of_getElem? (i := 26) rfl), lw_t2 (List.mem_of_getElem? (i := 99) rfl), lw_t2 (List.mem_of_getElem? (i := 100) rfl)⟩
theorem lw_p11 : lw_okq (⟨"LosersBooks", "condition", "(LLosersBooks$Sum;)LLosersBooks$Test;"⟩, 35) := ⟨⟨by decide +kernel, by decide +kernel⟩, lw_t1 (List.mem_of_getElem? (i := 26) rfl), lw_t2 (List.mem_of_getElem? (i := 190) rfl), lw_t2 (List.mem_of_getElem? (i := 191) rfl)⟩
theorem lw_p12 : lw_okq (⟨"LosersBooks", "part", "(LLosersBooks$Sum;)LLosersBooks$Test;"⟩, 35) := ⟨⟨by decide +kernel, by decide +kernel⟩, lw_t1 (List.mem_of_getElem? (i := 26) rfl), lw_t2 (List.mem_of_getElem? (i := 194) rfl), lw_t2 (List.mem_of_getElem? (i := 195) rfl)⟩
theorem lw_p13 : lw_okq (⟨"LosersBooks", "unit", "()LLosersBooks$Test;"⟩, 35) := ⟨⟨by decide +kernel, by decide +kernel⟩, lw_t1 (List.mem_of_getElem? (i := 26) rfl), lw_t2 (List.mem_of_getElem? (i := 198) rfl), lw_t2 (List.mem_of_getElem? (i := 199) rfl)⟩
theorem lw_p14 : lw_okq (⟨"LosersBooks", "compare", "(LLosersBooks$Sum;)LLosersBooks$Test;"⟩, 35) := ⟨⟨by decide +kernel, by decide +kernel⟩, lw_t1 (List.mem_of_getElem? (i := 26) rfl), lw_t2 (List.mem_of_getElem? (i := 218) rfl), lw_t2 (List.mem_of_getElem? (i := 219) rfl)⟩
theorem lw_p15 : lw_okq (⟨"LosersBooks", "readAs", "(I)V"⟩, 35) := ⟨⟨by decide +kernel, by decide +kernel⟩, lw_t1 (List.mem_of_getElem? (i := 26) rfl), lw_t3 (List.mem_of_getElem? (i := 20) rfl), lw_t3 (List.mem_of_getElem? (i := 21) rfl)⟩
def lw_privs_1 : List (MethodName × Nat) := [(⟨"java/lang/Throwable", "fillInStackTrace", "(I)Ljava/lang/Throwable;"⟩, 6), (⟨"LosersBooks", "lawFault", "()I"⟩, 35), (⟨"LosersBooks", "wholeLaw", "()LLosersBooks$Clause;"⟩, 35), (⟨"LosersBooks", "clause", "()LLosersBooks$Clause;"⟩, 35), (⟨"LosersBooks", "look", "()I"⟩, 35), (⟨"LosersBooks", "need", "(Z)V"⟩, 35), (⟨"LosersBooks", "sum", "()LLosersBooks$Sum;"⟩, 35), (⟨"LosersBooks", "term", "()LLosersBooks$Sum;"⟩, 35), (⟨"LosersBooks", "atom", "()LLosersBooks$Sum;"⟩, 35), (⟨"LosersBooks", "opens", "()V"⟩, 35), (⟨"LosersBooks", "closes", "(I)V"⟩, 35), (⟨"LosersBooks", "condition", "(LLosersBooks$Sum;)LLosersBooks$Test;"⟩, 35), (⟨"LosersBooks", "part", "(LLosersBooks$Sum;)LLosersBooks$Test;"⟩, 35), (⟨"LosersBooks", "unit", "()LLosersBooks$Test;"⟩, 35), (⟨"LosersBooks", "compare", "(LLosersBooks$Sum;)LLosersBooks$Test;"⟩, 35), (⟨"LosersBooks", "readAs", "(I)V"⟩, 35)]
theorem lw_r1 : ∀ q ∈ lw_privs_1, lw_okq q := List.forall_mem_cons.mpr ⟨lw_p0, List.forall_mem_cons.mpr ⟨lw_p1, List.forall_mem_cons.mpr ⟨lw_p2, List.forall_mem_cons.mpr ⟨lw_p3, List.forall_mem_cons.mpr ⟨lw_p4, List.forall_mem_cons.mpr ⟨lw_p5, List.forall_mem_cons.mpr ⟨lw_p6, List.forall_mem_cons.mpr ⟨lw_p7, List.forall_mem_cons.mpr ⟨lw_p8, List.forall_mem_cons.mpr ⟨lw_p9, List.forall_mem_cons.mpr ⟨lw_p10, List.forall_mem_cons.mpr ⟨lw_p11, List.forall_mem_cons.mpr ⟨lw_p12, List.forall_mem_cons.mpr ⟨lw_p13, List.forall_mem_cons.mpr ⟨lw_p14, List.forall_mem_cons.mpr ⟨lw_p15, fun _ h => absurd h List.not_mem_nil⟩⟩⟩⟩⟩⟩⟩⟩⟩⟩⟩⟩⟩⟩⟩⟩
theorem lw_p16 : lw_okq (⟨"LosersBooks", "wholeRealm", "()V"⟩, 35) := ⟨⟨by decide +kernel, by decide +kernel⟩, lw_t1 (List.mem_of_getElem? (i := 26) rfl), lw_t3 (List.mem_of_getElem? (i := 24) rfl), lw_t3 (List.mem_of_getElem? (i := 25) rfl)⟩
theorem lw_p17 : lw_okq (⟨"LosersBooks", "items", "(I[III)V"⟩, 35) := ⟨⟨by decide +kernel, by decide +kernel⟩, lw_t1 (List.mem_of_getElem? (i := 26) rfl), lw_t3 (List.mem_of_getElem? (i := 31) rfl), lw_t3 (List.mem_of_getElem? (i := 32) rfl)⟩
theorem lw_p18 : lw_okq (⟨"LosersBooks", "byteHere", "()I"⟩, 35) := ⟨⟨by decide +kernel, by decide +kernel⟩, lw_t1 (List.mem_of_getElem? (i := 26) rfl), lw_t3 (List.mem_of_getElem? (i := 35) rfl), lw_t3 (List.mem_of_getElem? (i := 36) rfl)⟩
theorem lw_p19 : lw_okq (⟨"LosersBooks", "number", "(II)I"⟩, 35) := ⟨⟨by decide +kernel, by decide +kernel⟩, lw_t1 (List.mem_of_getElem? (i := 26) rfl), lw_t3 (List.mem_of_getElem? (i := 51) rfl), lw_t3 (List.mem_of_getElem? (i := 52) rfl)⟩
theorem lw_p20 : lw_okq (⟨"LosersBooks", "isWhole", "()Z"⟩, 35) := ⟨⟨by decide +kernel, by decide +kernel⟩, lw_t1 (List.mem_of_getElem? (i := 26) rfl), lw_t3 (List.mem_of_getElem? (i := 58) rfl), lw_t3 (List.mem_of_getElem? (i := 59) rfl)⟩
theorem lw_p21 : lw_okq (⟨"LosersBooks", "wholeCampaign", "(I)V"⟩, 35) := ⟨⟨by decide +kernel, by decide +kernel⟩, lw_t1 (List.mem_of_getElem? (i := 26) rfl), lw_t3 (List.mem_of_getElem? (i := 62) rfl), lw_t3 (List.mem_of_getElem? (i := 63) rfl)⟩
theorem lw_p22 : lw_okq (⟨"LosersBooks", "stepRead", "(I)V"⟩, 35) := ⟨⟨by decide +kernel, by decide +kernel⟩, lw_t1 (List.mem_of_getElem? (i := 26) rfl), lw_t3 (List.mem_of_getElem? (i := 66) rfl), lw_t3 (List.mem_of_getElem? (i := 67) rfl)⟩
theorem lw_p23 : lw_okq (⟨"LosersBooks", "lawRead", "()I"⟩, 35) := ⟨⟨by decide +kernel, by decide +kernel⟩, lw_t1 (List.mem_of_getElem? (i := 26) rfl), lw_t3 (List.mem_of_getElem? (i := 75) rfl), lw_t3 (List.mem_of_getElem? (i := 76) rfl)⟩
theorem lw_p24 : lw_okq (⟨"LosersBooks", "campaignRead", "()I"⟩, 35) := ⟨⟨by decide +kernel, by decide +kernel⟩, lw_t1 (List.mem_of_getElem? (i := 26) rfl), lw_t3 (List.mem_of_getElem? (i := 79) rfl), lw_t3 (List.mem_of_getElem? (i := 80) rfl)⟩
theorem lw_p25 : lw_okq (⟨"LosersBooks", "isField", "(I)Z"⟩, 35) := ⟨⟨by decide +kernel, by decide +kernel⟩, lw_t1 (List.mem_of_getElem? (i := 26) rfl), lw_t3 (List.mem_of_getElem? (i := 88) rfl), lw_t3 (List.mem_of_getElem? (i := 89) rfl)⟩
theorem lw_p26 : lw_okq (⟨"LosersBooks", "of", "(II)I"⟩, 35) := ⟨⟨by decide +kernel, by decide +kernel⟩, lw_t1 (List.mem_of_getElem? (i := 26) rfl), lw_t3 (List.mem_of_getElem? (i := 92) rfl), lw_t3 (List.mem_of_getElem? (i := 93) rfl)⟩
theorem lw_p27 : lw_okq (⟨"LosersBooks", "canPass", "(I)Z"⟩, 35) := ⟨⟨by decide +kernel, by decide +kernel⟩, lw_t1 (List.mem_of_getElem? (i := 26) rfl), lw_t3 (List.mem_of_getElem? (i := 108) rfl), lw_t3 (List.mem_of_getElem? (i := 109) rfl)⟩
theorem lw_p28 : lw_okq (⟨"LosersBooks", "isRealm", "()Z"⟩, 35) := ⟨⟨by decide +kernel, by decide +kernel⟩, lw_t1 (List.mem_of_getElem? (i := 26) rfl), lw_t3 (List.mem_of_getElem? (i := 112) rfl), lw_t3 (List.mem_of_getElem? (i := 113) rfl)⟩
theorem lw_p29 : lw_okq (⟨"LosersBooks", "act", "()V"⟩, 35) := ⟨⟨by decide +kernel, by decide +kernel⟩, lw_t1 (List.mem_of_getElem? (i := 26) rfl), lw_t3 (List.mem_of_getElem? (i := 116) rfl), lw_t3 (List.mem_of_getElem? (i := 117) rfl)⟩
theorem lw_p30 : lw_okq (⟨"LosersBooks", "passYear", "()I"⟩, 35) := ⟨⟨by decide +kernel, by decide +kernel⟩, lw_t1 (List.mem_of_getElem? (i := 26) rfl), lw_t3 (List.mem_of_getElem? (i := 120) rfl), lw_t3 (List.mem_of_getElem? (i := 121) rfl)⟩
theorem lw_p31 : lw_okq (⟨"LosersBooks", "liveYear", "()I"⟩, 35) := ⟨⟨by decide +kernel, by decide +kernel⟩, lw_t1 (List.mem_of_getElem? (i := 26) rfl), lw_t3 (List.mem_of_getElem? (i := 124) rfl), lw_t3 (List.mem_of_getElem? (i := 125) rfl)⟩
def lw_privs_2 : List (MethodName × Nat) := [(⟨"LosersBooks", "wholeRealm", "()V"⟩, 35), (⟨"LosersBooks", "items", "(I[III)V"⟩, 35), (⟨"LosersBooks", "byteHere", "()I"⟩, 35), (⟨"LosersBooks", "number", "(II)I"⟩, 35), (⟨"LosersBooks", "isWhole", "()Z"⟩, 35), (⟨"LosersBooks", "wholeCampaign", "(I)V"⟩, 35), (⟨"LosersBooks", "stepRead", "(I)V"⟩, 35), (⟨"LosersBooks", "lawRead", "()I"⟩, 35), (⟨"LosersBooks", "campaignRead", "()I"⟩, 35), (⟨"LosersBooks", "isField", "(I)Z"⟩, 35), (⟨"LosersBooks", "of", "(II)I"⟩, 35), (⟨"LosersBooks", "canPass", "(I)Z"⟩, 35), (⟨"LosersBooks", "isRealm", "()Z"⟩, 35), (⟨"LosersBooks", "act", "()V"⟩, 35), (⟨"LosersBooks", "passYear", "()I"⟩, 35), (⟨"LosersBooks", "liveYear", "()I"⟩, 35)]
theorem lw_r2 : ∀ q ∈ lw_privs_2, lw_okq q := List.forall_mem_cons.mpr ⟨lw_p16, List.forall_mem_cons.mpr ⟨lw_p17, List.forall_mem_cons.mpr ⟨lw_p18, List.forall_mem_cons.mpr ⟨lw_p19, List.forall_mem_cons.mpr ⟨lw_p20, List.forall_mem_cons.mpr ⟨lw_p21, List.forall_mem_cons.mpr ⟨lw_p22, List.forall_mem_cons.mpr ⟨lw_p23, List.forall_mem_cons.mpr ⟨lw_p24, List.forall_mem_cons.mpr ⟨lw_p25, List.forall_mem_cons.mpr ⟨lw_p26, List.forall_mem_cons.mpr ⟨lw_p27, List.forall_mem_cons.mpr ⟨lw_p28, List.forall_mem_cons.mpr ⟨lw_p29, List.forall_mem_cons.mpr ⟨lw_p30, List.forall_mem_cons.mpr ⟨lw_p31, fun _ h => absurd h List.not_mem_nil⟩⟩⟩⟩⟩⟩⟩⟩⟩⟩⟩⟩⟩⟩⟩⟩
theorem lw_p32 : lw_okq (⟨"LosersBooks", "winnerOf", "(I)I"⟩, 35) := ⟨⟨by decide +kernel, by decide +kernel⟩, lw_t1 (List.mem_of_getElem? (i := 26) rfl), lw_t3 (List.mem_of_getElem? (i := 128) rfl), lw_t3 (List.mem_of_getElem? (i := 129) rfl)⟩
theorem lw_p33 : lw_okq (⟨"LosersBooks", "forceOf", "(II)I"⟩, 35) := ⟨⟨by decide +kernel, by decide +kernel⟩, lw_t1 (List.mem_of_getElem? (i := 26) rfl), lw_t3 (List.mem_of_getElem? (i := 132) rfl), lw_t3 (List.mem_of_getElem? (i := 133) rfl)⟩
theorem lw_p34 : lw_okq (⟨"LosersBooks", "forget", "()V"⟩, 35) := ⟨⟨by decide +kernel, by decide +kernel⟩, lw_t1 (List.mem_of_getElem? (i := 26) rfl), lw_t3 (List.mem_of_getElem? (i := 136) rfl), lw_t3 (List.mem_of_getElem? (i := 137) rfl)⟩
theorem lw_p35 : lw_okq (⟨"LosersBooks", "pagesOf", "(I)I"⟩, 35) := ⟨⟨by decide +kernel, by decide +kernel⟩, lw_t1 (List.mem_of_getElem? (i := 26) rfl), lw_t3 (List.mem_of_getElem? (i := 161) rfl), lw_t3 (List.mem_of_getElem? (i := 162) rfl)⟩
theorem lw_p36 : lw_okq (⟨"LosersBooks", "pageOf", "(II)I"⟩, 35) := ⟨⟨by decide +kernel, by decide +kernel⟩, lw_t1 (List.mem_of_getElem? (i := 26) rfl), lw_t3 (List.mem_of_getElem? (i := 165) rfl), lw_t3 (List.mem_of_getElem? (i := 166) rfl)⟩
theorem lw_p37 : lw_okq (⟨"LosersBooks", "beatenOf", "(I)I"⟩, 35) := ⟨⟨by decide +kernel, by decide +kernel⟩, lw_t1 (List.mem_of_getElem? (i := 26) rfl), lw_t3 (List.mem_of_getElem? (i := 215) rfl), lw_t3 (List.mem_of_getElem? (i := 216) rfl)⟩
theorem lw_p38 : lw_okq (⟨"LosersBooks", "writePage", "(II)V"⟩, 35) := ⟨⟨by decide +kernel, by decide +kernel⟩, lw_t1 (List.mem_of_getElem? (i := 26) rfl), lw_t3 (List.mem_of_getElem? (i := 219) rfl), lw_t3 (List.mem_of_getElem? (i := 220) rfl)⟩
theorem lw_p39 : lw_okq (⟨"LosersBooks", "dropPage", "(I)V"⟩, 35) := ⟨⟨by decide +kernel, by decide +kernel⟩, lw_t1 (List.mem_of_getElem? (i := 26) rfl), lw_t3 (List.mem_of_getElem? (i := 223) rfl), lw_t3 (List.mem_of_getElem? (i := 224) rfl)⟩
theorem lw_p40 : lw_okq (⟨"LosersBooks", "isKingdom", "(I)Z"⟩, 35) := ⟨⟨by decide +kernel, by decide +kernel⟩, lw_t1 (List.mem_of_getElem? (i := 26) rfl), lw_t3 (List.mem_of_getElem? (i := 231) rfl), lw_t3 (List.mem_of_getElem? (i := 232) rfl)⟩
theorem lw_p41 : lw_okq (⟨"LosersBooks", "canArm", "(I)Z"⟩, 35) := ⟨⟨by decide +kernel, by decide +kernel⟩, lw_t1 (List.mem_of_getElem? (i := 26) rfl), lw_t3 (List.mem_of_getElem? (i := 239) rfl), lw_t4 (List.mem_of_getElem? (i := 0) rfl)⟩
theorem lw_p42 : lw_okq (⟨"LosersBooks", "armNow", "(I)V"⟩, 35) := ⟨⟨by decide +kernel, by decide +kernel⟩, lw_t1 (List.mem_of_getElem? (i := 26) rfl), lw_t4 (List.mem_of_getElem? (i := 3) rfl), lw_t4 (List.mem_of_getElem? (i := 4) rfl)⟩
theorem lw_p43 : lw_okq (⟨"LosersBooks", "canTeach", "(I)Z"⟩, 35) := ⟨⟨by decide +kernel, by decide +kernel⟩, lw_t1 (List.mem_of_getElem? (i := 26) rfl), lw_t4 (List.mem_of_getElem? (i := 11) rfl), lw_t4 (List.mem_of_getElem? (i := 12) rfl)⟩
theorem lw_p44 : lw_okq (⟨"LosersBooks", "teachNow", "(I)V"⟩, 35) := ⟨⟨by decide +kernel, by decide +kernel⟩, lw_t1 (List.mem_of_getElem? (i := 26) rfl), lw_t4 (List.mem_of_getElem? (i := 15) rfl), lw_t4 (List.mem_of_getElem? (i := 16) rfl)⟩
theorem lw_p45 : lw_okq (⟨"LosersBooks", "drawYear", "()V"⟩, 35) := ⟨⟨by decide +kernel, by decide +kernel⟩, lw_t1 (List.mem_of_getElem? (i := 26) rfl), lw_t4 (List.mem_of_getElem? (i := 35) rfl), lw_t4 (List.mem_of_getElem? (i := 36) rfl)⟩
theorem lw_p46 : lw_okq (⟨"LosersBooks", "draw", "(I)I"⟩, 35) := ⟨⟨by decide +kernel, by decide +kernel⟩, lw_t1 (List.mem_of_getElem? (i := 26) rfl), lw_t4 (List.mem_of_getElem? (i := 39) rfl), lw_t4 (List.mem_of_getElem? (i := 40) rfl)⟩
theorem lw_p47 : lw_okq (⟨"LosersBooks", "isCampaign", "(I)Z"⟩, 35) := ⟨⟨by decide +kernel, by decide +kernel⟩, lw_t1 (List.mem_of_getElem? (i := 26) rfl), lw_t4 (List.mem_of_getElem? (i := 58) rfl), lw_t4 (List.mem_of_getElem? (i := 59) rfl)⟩
def lw_privs_3 : List (MethodName × Nat) := [(⟨"LosersBooks", "winnerOf", "(I)I"⟩, 35), (⟨"LosersBooks", "forceOf", "(II)I"⟩, 35), (⟨"LosersBooks", "forget", "()V"⟩, 35), (⟨"LosersBooks", "pagesOf", "(I)I"⟩, 35), (⟨"LosersBooks", "pageOf", "(II)I"⟩, 35), (⟨"LosersBooks", "beatenOf", "(I)I"⟩, 35), (⟨"LosersBooks", "writePage", "(II)V"⟩, 35), (⟨"LosersBooks", "dropPage", "(I)V"⟩, 35), (⟨"LosersBooks", "isKingdom", "(I)Z"⟩, 35), (⟨"LosersBooks", "canArm", "(I)Z"⟩, 35), (⟨"LosersBooks", "armNow", "(I)V"⟩, 35), (⟨"LosersBooks", "canTeach", "(I)Z"⟩, 35), (⟨"LosersBooks", "teachNow", "(I)V"⟩, 35), (⟨"LosersBooks", "drawYear", "()V"⟩, 35), (⟨"LosersBooks", "draw", "(I)I"⟩, 35), (⟨"LosersBooks", "isCampaign", "(I)Z"⟩, 35)]
theorem lw_r3 : ∀ q ∈ lw_privs_3, lw_okq q := List.forall_mem_cons.mpr ⟨lw_p32, List.forall_mem_cons.mpr ⟨lw_p33, List.forall_mem_cons.mpr ⟨lw_p34, List.forall_mem_cons.mpr ⟨lw_p35, List.forall_mem_cons.mpr ⟨lw_p36, List.forall_mem_cons.mpr ⟨lw_p37, List.forall_mem_cons.mpr ⟨lw_p38, List.forall_mem_cons.mpr ⟨lw_p39, List.forall_mem_cons.mpr ⟨lw_p40, List.forall_mem_cons.mpr ⟨lw_p41, List.forall_mem_cons.mpr ⟨lw_p42, List.forall_mem_cons.mpr ⟨lw_p43, List.forall_mem_cons.mpr ⟨lw_p44, List.forall_mem_cons.mpr ⟨lw_p45, List.forall_mem_cons.mpr ⟨lw_p46, List.forall_mem_cons.mpr ⟨lw_p47, fun _ h => absurd h List.not_mem_nil⟩⟩⟩⟩⟩⟩⟩⟩⟩⟩⟩⟩⟩⟩⟩⟩
theorem lw_p48 : lw_okq (⟨"LosersBooks", "putAside", "()V"⟩, 35) := ⟨⟨by decide +kernel, by decide +kernel⟩, lw_t1 (List.mem_of_getElem? (i := 26) rfl), lw_t4 (List.mem_of_getElem? (i := 66) rfl), lw_t4 (List.mem_of_getElem? (i := 67) rfl)⟩
theorem lw_p49 : lw_okq (⟨"LosersBooks", "canStep", "(I)Z"⟩, 35) := ⟨⟨by decide +kernel, by decide +kernel⟩, lw_t1 (List.mem_of_getElem? (i := 26) rfl), lw_t4 (List.mem_of_getElem? (i := 70) rfl), lw_t4 (List.mem_of_getElem? (i := 71) rfl)⟩
theorem lw_p50 : lw_okq (⟨"LosersBooks", "doStep", "(IZ)I"⟩, 35) := ⟨⟨by decide +kernel, by decide +kernel⟩, lw_t1 (List.mem_of_getElem? (i := 26) rfl), lw_t4 (List.mem_of_getElem? (i := 74) rfl), lw_t4 (List.mem_of_getElem? (i := 75) rfl)⟩
theorem lw_p51 : lw_okq (⟨"LosersBooks", "takeBack", "()V"⟩, 35) := ⟨⟨by decide +kernel, by decide +kernel⟩, lw_t1 (List.mem_of_getElem? (i := 26) rfl), lw_t4 (List.mem_of_getElem? (i := 78) rfl), lw_t4 (List.mem_of_getElem? (i := 79) rfl)⟩
theorem lw_p52 : lw_okq (⟨"LosersBooks", "meetsAt", "(II)Z"⟩, 35) := ⟨⟨by decide +kernel, by decide +kernel⟩, lw_t1 (List.mem_of_getElem? (i := 26) rfl), lw_t4 (List.mem_of_getElem? (i := 90) rfl), lw_t4 (List.mem_of_getElem? (i := 91) rfl)⟩
theorem lw_p53 : lw_okq (⟨"LosersBooks", "pagesBy", "(III)I"⟩, 35) := ⟨⟨by decide +kernel, by decide +kernel⟩, lw_t1 (List.mem_of_getElem? (i := 26) rfl), lw_t4 (List.mem_of_getElem? (i := 106) rfl), lw_t4 (List.mem_of_getElem? (i := 107) rfl)⟩
theorem lw_p54 : lw_okq (⟨"LosersBooks", "codes", "()I"⟩, 35) := ⟨⟨by decide +kernel, by decide +kernel⟩, lw_t1 (List.mem_of_getElem? (i := 26) rfl), lw_t4 (List.mem_of_getElem? (i := 132) rfl), lw_t4 (List.mem_of_getElem? (i := 133) rfl)⟩
theorem lw_p55 : lw_okq (⟨"LosersBooks", "layBiases", "(I)V"⟩, 35) := ⟨⟨by decide +kernel, by decide +kernel⟩, lw_t1 (List.mem_of_getElem? (i := 26) rfl), lw_t4 (List.mem_of_getElem? (i := 136) rfl), lw_t4 (List.mem_of_getElem? (i := 137) rfl)⟩
theorem lw_p56 : lw_okq (⟨"LosersBooks", "areBiases", "()Z"⟩, 35) := ⟨⟨by decide +kernel, by decide +kernel⟩, lw_t1 (List.mem_of_getElem? (i := 26) rfl), lw_t4 (List.mem_of_getElem? (i := 140) rfl), lw_t4 (List.mem_of_getElem? (i := 141) rfl)⟩
theorem lw_p57 : lw_okq (⟨"LosersBooks", "isTruth", "(II)Z"⟩, 35) := ⟨⟨by decide +kernel, by decide +kernel⟩, lw_t1 (List.mem_of_getElem? (i := 26) rfl), lw_t4 (List.mem_of_getElem? (i := 144) rfl), lw_t4 (List.mem_of_getElem? (i := 145) rfl)⟩
theorem lw_p58 : lw_okq (⟨"LosersBooks", "layTells", "(I)V"⟩, 35) := ⟨⟨by decide +kernel, by decide +kernel⟩, lw_t1 (List.mem_of_getElem? (i := 26) rfl), lw_t4 (List.mem_of_getElem? (i := 159) rfl), lw_t4 (List.mem_of_getElem? (i := 160) rfl)⟩
theorem lw_p59 : lw_okq (⟨"LosersBooks", "gameOf", "(IIII)I"⟩, 35) := ⟨⟨by decide +kernel, by decide +kernel⟩, lw_t1 (List.mem_of_getElem? (i := 26) rfl), lw_t4 (List.mem_of_getElem? (i := 167) rfl), lw_t4 (List.mem_of_getElem? (i := 168) rfl)⟩
theorem lw_p60 : lw_okq (⟨"LosersBooks", "beatenIf", "(III)I"⟩, 35) := ⟨⟨by decide +kernel, by decide +kernel⟩, lw_t1 (List.mem_of_getElem? (i := 26) rfl), lw_t4 (List.mem_of_getElem? (i := 171) rfl), lw_t4 (List.mem_of_getElem? (i := 172) rfl)⟩
theorem lw_p61 : lw_okq (⟨"LosersBooks", "believers", "(Z)I"⟩, 35) := ⟨⟨by decide +kernel, by decide +kernel⟩, lw_t1 (List.mem_of_getElem? (i := 26) rfl), lw_t4 (List.mem_of_getElem? (i := 196) rfl), lw_t4 (List.mem_of_getElem? (i := 197) rfl)⟩
theorem lw_p62 : lw_okq (⟨"LosersBooks", "winsOfAll", "()I"⟩, 35) := ⟨⟨by decide +kernel, by decide +kernel⟩, lw_t1 (List.mem_of_getElem? (i := 26) rfl), lw_t4 (List.mem_of_getElem? (i := 200) rfl), lw_t4 (List.mem_of_getElem? (i := 201) rfl)⟩
theorem lw_p63 : lw_okq (⟨"LosersBooks", "bloodiest", "()I"⟩, 35) := ⟨⟨by decide +kernel, by decide +kernel⟩, lw_t1 (List.mem_of_getElem? (i := 26) rfl), lw_t4 (List.mem_of_getElem? (i := 204) rfl), lw_t4 (List.mem_of_getElem? (i := 205) rfl)⟩
def lw_privs_4 : List (MethodName × Nat) := [(⟨"LosersBooks", "putAside", "()V"⟩, 35), (⟨"LosersBooks", "canStep", "(I)Z"⟩, 35), (⟨"LosersBooks", "doStep", "(IZ)I"⟩, 35), (⟨"LosersBooks", "takeBack", "()V"⟩, 35), (⟨"LosersBooks", "meetsAt", "(II)Z"⟩, 35), (⟨"LosersBooks", "pagesBy", "(III)I"⟩, 35), (⟨"LosersBooks", "codes", "()I"⟩, 35), (⟨"LosersBooks", "layBiases", "(I)V"⟩, 35), (⟨"LosersBooks", "areBiases", "()Z"⟩, 35), (⟨"LosersBooks", "isTruth", "(II)Z"⟩, 35), (⟨"LosersBooks", "layTells", "(I)V"⟩, 35), (⟨"LosersBooks", "gameOf", "(IIII)I"⟩, 35), (⟨"LosersBooks", "beatenIf", "(III)I"⟩, 35), (⟨"LosersBooks", "believers", "(Z)I"⟩, 35), (⟨"LosersBooks", "winsOfAll", "()I"⟩, 35), (⟨"LosersBooks", "bloodiest", "()I"⟩, 35)]
theorem lw_r4 : ∀ q ∈ lw_privs_4, lw_okq q := List.forall_mem_cons.mpr ⟨lw_p48, List.forall_mem_cons.mpr ⟨lw_p49, List.forall_mem_cons.mpr ⟨lw_p50, List.forall_mem_cons.mpr ⟨lw_p51, List.forall_mem_cons.mpr ⟨lw_p52, List.forall_mem_cons.mpr ⟨lw_p53, List.forall_mem_cons.mpr ⟨lw_p54, List.forall_mem_cons.mpr ⟨lw_p55, List.forall_mem_cons.mpr ⟨lw_p56, List.forall_mem_cons.mpr ⟨lw_p57, List.forall_mem_cons.mpr ⟨lw_p58, List.forall_mem_cons.mpr ⟨lw_p59, List.forall_mem_cons.mpr ⟨lw_p60, List.forall_mem_cons.mpr ⟨lw_p61, List.forall_mem_cons.mpr ⟨lw_p62, List.forall_mem_cons.mpr ⟨lw_p63, fun _ h => absurd h List.not_mem_nil⟩⟩⟩⟩⟩⟩⟩⟩⟩⟩⟩⟩⟩⟩⟩⟩
theorem lw_p64 : lw_okq (⟨"LosersBooks", "lieOfAll", "()I"⟩, 35) := ⟨⟨by decide +kernel, by decide +kernel⟩, lw_t1 (List.mem_of_getElem? (i := 26) rfl), lw_t4 (List.mem_of_getElem? (i := 208) rfl), lw_t4 (List.mem_of_getElem? (i := 209) rfl)⟩
theorem lw_p65 : lw_okq (⟨"LosersBooks", "sameOnes", "()I"⟩, 35) := ⟨⟨by decide +kernel, by decide +kernel⟩, lw_t1 (List.mem_of_getElem? (i := 26) rfl), lw_t4 (List.mem_of_getElem? (i := 212) rfl), lw_t4 (List.mem_of_getElem? (i := 213) rfl)⟩
theorem lw_p66 : lw_okq (⟨"LosersBooks", "silentOnes", "()I"⟩, 35) := ⟨⟨by decide +kernel, by decide +kernel⟩, lw_t1 (List.mem_of_getElem? (i := 26) rfl), lw_t4 (List.mem_of_getElem? (i := 216) rfl), lw_t4 (List.mem_of_getElem? (i := 217) rfl)⟩
theorem lw_p67 : lw_okq (⟨"LosersBooks", "topBy", "(I)I"⟩, 35) := ⟨⟨by decide +kernel, by decide +kernel⟩, lw_t1 (List.mem_of_getElem? (i := 26) rfl), lw_t4 (List.mem_of_getElem? (i := 220) rfl), lw_t4 (List.mem_of_getElem? (i := 221) rfl)⟩
theorem lw_p68 : lw_okq (⟨"LosersBooks", "valueOf", "(II)I"⟩, 35) := ⟨⟨by decide +kernel, by decide +kernel⟩, lw_t1 (List.mem_of_getElem? (i := 26) rfl), lw_t4 (List.mem_of_getElem? (i := 224) rfl), lw_t4 (List.mem_of_getElem? (i := 225) rfl)⟩
theorem lw_p69 : lw_okq (⟨"LosersBooksModel", "put", "(I)V"⟩, 48) := ⟨⟨by decide +kernel, by decide +kernel⟩, lw_t5 (List.mem_of_getElem? (i := 36) rfl), lw_t5 (List.mem_of_getElem? (i := 201) rfl), lw_t5 (List.mem_of_getElem? (i := 202) rfl)⟩
theorem lw_p70 : lw_okq (⟨"LosersBooksModel", "readRealm", "()V"⟩, 48) := ⟨⟨by decide +kernel, by decide +kernel⟩, lw_t5 (List.mem_of_getElem? (i := 36) rfl), lw_t5 (List.mem_of_getElem? (i := 217) rfl), lw_t5 (List.mem_of_getElem? (i := 218) rfl)⟩
theorem lw_p71 : lw_okq (⟨"LosersBooksModel", "starts", "([BII)V"⟩, 48) := ⟨⟨by decide +kernel, by decide +kernel⟩, lw_t5 (List.mem_of_getElem? (i := 36) rfl), lw_t5 (List.mem_of_getElem? (i := 221) rfl), lw_t5 (List.mem_of_getElem? (i := 222) rfl)⟩
theorem lw_p72 : lw_okq (⟨"LosersBooksModel", "readClause", "()V"⟩, 48) := ⟨⟨by decide +kernel, by decide +kernel⟩, lw_t5 (List.mem_of_getElem? (i := 36) rfl), lw_t5 (List.mem_of_getElem? (i := 228) rfl), lw_t5 (List.mem_of_getElem? (i := 229) rfl)⟩
theorem lw_p73 : lw_okq (⟨"LosersBooksModel", "look", "()I"⟩, 48) := ⟨⟨by decide +kernel, by decide +kernel⟩, lw_t5 (List.mem_of_getElem? (i := 36) rfl), lw_t5 (List.mem_of_getElem? (i := 232) rfl), lw_t5 (List.mem_of_getElem? (i := 233) rfl)⟩
theorem lw_p74 : lw_okq (⟨"LosersBooksModel", "fails", "()Z"⟩, 48) := ⟨⟨by decide +kernel, by decide +kernel⟩, lw_t5 (List.mem_of_getElem? (i := 36) rfl), lw_t5 (List.mem_of_getElem? (i := 236) rfl), lw_t5 (List.mem_of_getElem? (i := 237) rfl)⟩
theorem lw_p75 : lw_okq (⟨"LosersBooksModel", "readItems", "(I[IILjava/lang/String;)V"⟩, 48) := ⟨⟨by decide +kernel, by decide +kernel⟩, lw_t5 (List.mem_of_getElem? (i := 36) rfl), lw_t6 (List.mem_of_getElem? (i := 1) rfl), lw_t6 (List.mem_of_getElem? (i := 2) rfl)⟩
theorem lw_p76 : lw_okq (⟨"LosersBooksModel", "number", "(I)I"⟩, 48) := ⟨⟨by decide +kernel, by decide +kernel⟩, lw_t5 (List.mem_of_getElem? (i := 36) rfl), lw_t6 (List.mem_of_getElem? (i := 16) rfl), lw_t6 (List.mem_of_getElem? (i := 17) rfl)⟩
theorem lw_p77 : lw_okq (⟨"LosersBooksModel", "isDigit", "()Z"⟩, 48) := ⟨⟨by decide +kernel, by decide +kernel⟩, lw_t5 (List.mem_of_getElem? (i := 36) rfl), lw_t6 (List.mem_of_getElem? (i := 20) rfl), lw_t6 (List.mem_of_getElem? (i := 21) rfl)⟩
theorem lw_p78 : lw_okq (⟨"LosersBooksModel", "here", "()I"⟩, 48) := ⟨⟨by decide +kernel, by decide +kernel⟩, lw_t5 (List.mem_of_getElem? (i := 36) rfl), lw_t6 (List.mem_of_getElem? (i := 24) rfl), lw_t6 (List.mem_of_getElem? (i := 25) rfl)⟩
theorem lw_p79 : lw_okq (⟨"LosersBooksModel", "isWhole", "()Z"⟩, 48) := ⟨⟨by decide +kernel, by decide +kernel⟩, lw_t5 (List.mem_of_getElem? (i := 36) rfl), lw_t6 (List.mem_of_getElem? (i := 30) rfl), lw_t6 (List.mem_of_getElem? (i := 31) rfl)⟩
def lw_privs_5 : List (MethodName × Nat) := [(⟨"LosersBooks", "lieOfAll", "()I"⟩, 35), (⟨"LosersBooks", "sameOnes", "()I"⟩, 35), (⟨"LosersBooks", "silentOnes", "()I"⟩, 35), (⟨"LosersBooks", "topBy", "(I)I"⟩, 35), (⟨"LosersBooks", "valueOf", "(II)I"⟩, 35), (⟨"LosersBooksModel", "put", "(I)V"⟩, 48), (⟨"LosersBooksModel", "readRealm", "()V"⟩, 48), (⟨"LosersBooksModel", "starts", "([BII)V"⟩, 48), (⟨"LosersBooksModel", "readClause", "()V"⟩, 48), (⟨"LosersBooksModel", "look", "()I"⟩, 48), (⟨"LosersBooksModel", "fails", "()Z"⟩, 48), (⟨"LosersBooksModel", "readItems", "(I[IILjava/lang/String;)V"⟩, 48), (⟨"LosersBooksModel", "number", "(I)I"⟩, 48), (⟨"LosersBooksModel", "isDigit", "()Z"⟩, 48), (⟨"LosersBooksModel", "here", "()I"⟩, 48), (⟨"LosersBooksModel", "isWhole", "()Z"⟩, 48)]
theorem lw_r5 : ∀ q ∈ lw_privs_5, lw_okq q := List.forall_mem_cons.mpr ⟨lw_p64, List.forall_mem_cons.mpr ⟨lw_p65, List.forall_mem_cons.mpr ⟨lw_p66, List.forall_mem_cons.mpr ⟨lw_p67, List.forall_mem_cons.mpr ⟨lw_p68, List.forall_mem_cons.mpr ⟨lw_p69, List.forall_mem_cons.mpr ⟨lw_p70, List.forall_mem_cons.mpr ⟨lw_p71, List.forall_mem_cons.mpr ⟨lw_p72, List.forall_mem_cons.mpr ⟨lw_p73, List.forall_mem_cons.mpr ⟨lw_p74, List.forall_mem_cons.mpr ⟨lw_p75, List.forall_mem_cons.mpr ⟨lw_p76, List.forall_mem_cons.mpr ⟨lw_p77, List.forall_mem_cons.mpr ⟨lw_p78, List.forall_mem_cons.mpr ⟨lw_p79, fun _ h => absurd h List.not_mem_nil⟩⟩⟩⟩⟩⟩⟩⟩⟩⟩⟩⟩⟩⟩⟩⟩
theorem lw_p80 : lw_okq (⟨"LosersBooksModel", "goThrough", "([BII)V"⟩, 48) := ⟨⟨by decide +kernel, by decide +kernel⟩, lw_t5 (List.mem_of_getElem? (i := 36) rfl), lw_t6 (List.mem_of_getElem? (i := 34) rfl), lw_t6 (List.mem_of_getElem? (i := 35) rfl)⟩
theorem lw_p81 : lw_okq (⟨"LosersBooksModel", "clause", "()V"⟩, 48) := ⟨⟨by decide +kernel, by decide +kernel⟩, lw_t5 (List.mem_of_getElem? (i := 36) rfl), lw_t6 (List.mem_of_getElem? (i := 38) rfl), lw_t6 (List.mem_of_getElem? (i := 39) rfl)⟩
theorem lw_p82 : lw_okq (⟨"LosersBooksModel", "takes", "(I)Z"⟩, 48) := ⟨⟨by decide +kernel, by decide +kernel⟩, lw_t5 (List.mem_of_getElem? (i := 36) rfl), lw_t6 (List.mem_of_getElem? (i := 45) rfl), lw_t6 (List.mem_of_getElem? (i := 46) rfl)⟩
theorem lw_p83 : lw_okq (⟨"LosersBooksModel", "condition", "(ZI)Z"⟩, 48) := ⟨⟨by decide +kernel, by decide +kernel⟩, lw_t5 (List.mem_of_getElem? (i := 36) rfl), lw_t6 (List.mem_of_getElem? (i := 49) rfl), lw_t6 (List.mem_of_getElem? (i := 50) rfl)⟩
theorem lw_p84 : lw_okq (⟨"LosersBooksModel", "part", "(ZI)Z"⟩, 48) := ⟨⟨by decide +kernel, by decide +kernel⟩, lw_t5 (List.mem_of_getElem? (i := 36) rfl), lw_t6 (List.mem_of_getElem? (i := 53) rfl), lw_t6 (List.mem_of_getElem? (i := 54) rfl)⟩
theorem lw_p85 : lw_okq (⟨"LosersBooksModel", "compares", "(ZI)Z"⟩, 48) := ⟨⟨by decide +kernel, by decide +kernel⟩, lw_t5 (List.mem_of_getElem? (i := 36) rfl), lw_t6 (List.mem_of_getElem? (i := 57) rfl), lw_t6 (List.mem_of_getElem? (i := 58) rfl)⟩
theorem lw_p86 : lw_okq (⟨"LosersBooksModel", "sum", "()I"⟩, 48) := ⟨⟨by decide +kernel, by decide +kernel⟩, lw_t5 (List.mem_of_getElem? (i := 36) rfl), lw_t6 (List.mem_of_getElem? (i := 61) rfl), lw_t6 (List.mem_of_getElem? (i := 62) rfl)⟩
theorem lw_p87 : lw_okq (⟨"LosersBooksModel", "term", "()I"⟩, 48) := ⟨⟨by decide +kernel, by decide +kernel⟩, lw_t5 (List.mem_of_getElem? (i := 36) rfl), lw_t6 (List.mem_of_getElem? (i := 65) rfl), lw_t6 (List.mem_of_getElem? (i := 66) rfl)⟩
theorem lw_p88 : lw_okq (⟨"LosersBooksModel", "atom", "()I"⟩, 48) := ⟨⟨by decide +kernel, by decide +kernel⟩, lw_t5 (List.mem_of_getElem? (i := 36) rfl), lw_t6 (List.mem_of_getElem? (i := 69) rfl), lw_t6 (List.mem_of_getElem? (i := 70) rfl)⟩
theorem lw_p89 : lw_okq (⟨"LosersBooksModel", "goesIn", "()Z"⟩, 48) := ⟨⟨by decide +kernel, by decide +kernel⟩, lw_t5 (List.mem_of_getElem? (i := 36) rfl), lw_t6 (List.mem_of_getElem? (i := 73) rfl), lw_t6 (List.mem_of_getElem? (i := 74) rfl)⟩
theorem lw_p90 : lw_okq (⟨"LosersBooksModel", "unit", "()Z"⟩, 48) := ⟨⟨by decide +kernel, by decide +kernel⟩, lw_t5 (List.mem_of_getElem? (i := 36) rfl), lw_t6 (List.mem_of_getElem? (i := 87) rfl), lw_t6 (List.mem_of_getElem? (i := 88) rfl)⟩
theorem lw_p91 : lw_okq (⟨"LosersBooksModel", "readPlan", "()V"⟩, 48) := ⟨⟨by decide +kernel, by decide +kernel⟩, lw_t5 (List.mem_of_getElem? (i := 36) rfl), lw_t6 (List.mem_of_getElem? (i := 91) rfl), lw_t6 (List.mem_of_getElem? (i := 92) rfl)⟩
theorem lw_p92 : lw_okq (⟨"LosersBooksModel", "readStep", "(I)V"⟩, 48) := ⟨⟨by decide +kernel, by decide +kernel⟩, lw_t5 (List.mem_of_getElem? (i := 36) rfl), lw_t6 (List.mem_of_getElem? (i := 95) rfl), lw_t6 (List.mem_of_getElem? (i := 96) rfl)⟩
theorem lw_p93 : lw_okq (⟨"LosersBooksModel", "isKingdom", "(I)Z"⟩, 48) := ⟨⟨by decide +kernel, by decide +kernel⟩, lw_t5 (List.mem_of_getElem? (i := 36) rfl), lw_t6 (List.mem_of_getElem? (i := 109) rfl), lw_t6 (List.mem_of_getElem? (i := 110) rfl)⟩
theorem lw_p94 : lw_okq (⟨"LosersBooksModel", "isField", "(I)Z"⟩, 48) := ⟨⟨by decide +kernel, by decide +kernel⟩, lw_t5 (List.mem_of_getElem? (i := 36) rfl), lw_t6 (List.mem_of_getElem? (i := 121) rfl), lw_t6 (List.mem_of_getElem? (i := 122) rfl)⟩
theorem lw_p95 : lw_okq (⟨"LosersBooksModel", "remember", "()V"⟩, 48) := ⟨⟨by decide +kernel, by decide +kernel⟩, lw_t5 (List.mem_of_getElem? (i := 36) rfl), lw_t6 (List.mem_of_getElem? (i := 139) rfl), lw_t6 (List.mem_of_getElem? (i := 140) rfl)⟩
def lw_privs_6 : List (MethodName × Nat) := [(⟨"LosersBooksModel", "goThrough", "([BII)V"⟩, 48), (⟨"LosersBooksModel", "clause", "()V"⟩, 48), (⟨"LosersBooksModel", "takes", "(I)Z"⟩, 48), (⟨"LosersBooksModel", "condition", "(ZI)Z"⟩, 48), (⟨"LosersBooksModel", "part", "(ZI)Z"⟩, 48), (⟨"LosersBooksModel", "compares", "(ZI)Z"⟩, 48), (⟨"LosersBooksModel", "sum", "()I"⟩, 48), (⟨"LosersBooksModel", "term", "()I"⟩, 48), (⟨"LosersBooksModel", "atom", "()I"⟩, 48), (⟨"LosersBooksModel", "goesIn", "()Z"⟩, 48), (⟨"LosersBooksModel", "unit", "()Z"⟩, 48), (⟨"LosersBooksModel", "readPlan", "()V"⟩, 48), (⟨"LosersBooksModel", "readStep", "(I)V"⟩, 48), (⟨"LosersBooksModel", "isKingdom", "(I)Z"⟩, 48), (⟨"LosersBooksModel", "isField", "(I)Z"⟩, 48), (⟨"LosersBooksModel", "remember", "()V"⟩, 48)]
theorem lw_r6 : ∀ q ∈ lw_privs_6, lw_okq q := List.forall_mem_cons.mpr ⟨lw_p80, List.forall_mem_cons.mpr ⟨lw_p81, List.forall_mem_cons.mpr ⟨lw_p82, List.forall_mem_cons.mpr ⟨lw_p83, List.forall_mem_cons.mpr ⟨lw_p84, List.forall_mem_cons.mpr ⟨lw_p85, List.forall_mem_cons.mpr ⟨lw_p86, List.forall_mem_cons.mpr ⟨lw_p87, List.forall_mem_cons.mpr ⟨lw_p88, List.forall_mem_cons.mpr ⟨lw_p89, List.forall_mem_cons.mpr ⟨lw_p90, List.forall_mem_cons.mpr ⟨lw_p91, List.forall_mem_cons.mpr ⟨lw_p92, List.forall_mem_cons.mpr ⟨lw_p93, List.forall_mem_cons.mpr ⟨lw_p94, List.forall_mem_cons.mpr ⟨lw_p95, fun _ h => absurd h List.not_mem_nil⟩⟩⟩⟩⟩⟩⟩⟩⟩⟩⟩⟩⟩⟩⟩⟩
theorem lw_p96 : lw_okq (⟨"LosersBooksModel", "goYear", "([I)I"⟩, 48) := ⟨⟨by decide +kernel, by decide +kernel⟩, lw_t5 (List.mem_of_getElem? (i := 36) rfl), lw_t6 (List.mem_of_getElem? (i := 143) rfl), lw_t6 (List.mem_of_getElem? (i := 144) rfl)⟩
theorem lw_p97 : lw_okq (⟨"LosersBooksModel", "sideNow", "([II)I"⟩, 48) := ⟨⟨by decide +kernel, by decide +kernel⟩, lw_t5 (List.mem_of_getElem? (i := 36) rfl), lw_t6 (List.mem_of_getElem? (i := 147) rfl), lw_t6 (List.mem_of_getElem? (i := 148) rfl)⟩
theorem lw_p98 : lw_okq (⟨"LosersBooksModel", "sideBy", "([IIZZ)I"⟩, 48) := ⟨⟨by decide +kernel, by decide +kernel⟩, lw_t5 (List.mem_of_getElem? (i := 36) rfl), lw_t6 (List.mem_of_getElem? (i := 151) rfl), lw_t6 (List.mem_of_getElem? (i := 152) rfl)⟩
theorem lw_p99 : lw_okq (⟨"LosersBooksModel", "forceBy", "([IIIZ)I"⟩, 48) := ⟨⟨by decide +kernel, by decide +kernel⟩, lw_t5 (List.mem_of_getElem? (i := 36) rfl), lw_t6 (List.mem_of_getElem? (i := 155) rfl), lw_t6 (List.mem_of_getElem? (i := 156) rfl)⟩
theorem lw_p100 : lw_okq (⟨"LosersBooksModel", "worthOf", "(IIIIII)I"⟩, 48) := ⟨⟨by decide +kernel, by decide +kernel⟩, lw_t5 (List.mem_of_getElem? (i := 36) rfl), lw_t6 (List.mem_of_getElem? (i := 159) rfl), lw_t6 (List.mem_of_getElem? (i := 160) rfl)⟩
theorem lw_p101 : lw_okq (⟨"LosersBooksModel", "writes", "([IIII)V"⟩, 48) := ⟨⟨by decide +kernel, by decide +kernel⟩, lw_t5 (List.mem_of_getElem? (i := 36) rfl), lw_t6 (List.mem_of_getElem? (i := 170) rfl), lw_t6 (List.mem_of_getElem? (i := 171) rfl)⟩
theorem lw_p102 : lw_okq (⟨"LosersBooksModel", "canArm", "([II)Z"⟩, 48) := ⟨⟨by decide +kernel, by decide +kernel⟩, lw_t5 (List.mem_of_getElem? (i := 36) rfl), lw_t6 (List.mem_of_getElem? (i := 185) rfl), lw_t6 (List.mem_of_getElem? (i := 186) rfl)⟩
theorem lw_p103 : lw_okq (⟨"LosersBooksModel", "canTeach", "([II)Z"⟩, 48) := ⟨⟨by decide +kernel, by decide +kernel⟩, lw_t5 (List.mem_of_getElem? (i := 36) rfl), lw_t6 (List.mem_of_getElem? (i := 196) rfl), lw_t6 (List.mem_of_getElem? (i := 197) rfl)⟩
theorem lw_p104 : lw_okq (⟨"LosersBooksModel", "draw", "(I)I"⟩, 48) := ⟨⟨by decide +kernel, by decide +kernel⟩, lw_t5 (List.mem_of_getElem? (i := 36) rfl), lw_t6 (List.mem_of_getElem? (i := 218) rfl), lw_t6 (List.mem_of_getElem? (i := 219) rfl)⟩
theorem lw_p105 : lw_okq (⟨"LosersBooksModel", "isPlan", "(I)Z"⟩, 48) := ⟨⟨by decide +kernel, by decide +kernel⟩, lw_t5 (List.mem_of_getElem? (i := 36) rfl), lw_t6 (List.mem_of_getElem? (i := 237) rfl), lw_t6 (List.mem_of_getElem? (i := 238) rfl)⟩
theorem lw_p106 : lw_okq (⟨"LosersBooksModel", "canStep", "([II)Z"⟩, 48) := ⟨⟨by decide +kernel, by decide +kernel⟩, lw_t5 (List.mem_of_getElem? (i := 36) rfl), lw_t7 (List.mem_of_getElem? (i := 8) rfl), lw_t7 (List.mem_of_getElem? (i := 9) rfl)⟩
theorem lw_p107 : lw_okq (⟨"LosersBooksModel", "goStep", "([II)I"⟩, 48) := ⟨⟨by decide +kernel, by decide +kernel⟩, lw_t5 (List.mem_of_getElem? (i := 36) rfl), lw_t7 (List.mem_of_getElem? (i := 12) rfl), lw_t7 (List.mem_of_getElem? (i := 13) rfl)⟩
theorem lw_p108 : lw_okq (⟨"LosersBooksModel", "codes", "()I"⟩, 48) := ⟨⟨by decide +kernel, by decide +kernel⟩, lw_t5 (List.mem_of_getElem? (i := 36) rfl), lw_t7 (List.mem_of_getElem? (i := 55) rfl), lw_t7 (List.mem_of_getElem? (i := 56) rfl)⟩
theorem lw_p109 : lw_okq (⟨"LosersBooksModel", "fitsAll", "(I)Z"⟩, 48) := ⟨⟨by decide +kernel, by decide +kernel⟩, lw_t5 (List.mem_of_getElem? (i := 36) rfl), lw_t7 (List.mem_of_getElem? (i := 59) rfl), lw_t7 (List.mem_of_getElem? (i := 60) rfl)⟩
theorem lw_p110 : lw_okq (⟨"LosersBooksModel", "gameOf", "(IIII)I"⟩, 48) := ⟨⟨by decide +kernel, by decide +kernel⟩, lw_t5 (List.mem_of_getElem? (i := 36) rfl), lw_t7 (List.mem_of_getElem? (i := 79) rfl), lw_t7 (List.mem_of_getElem? (i := 80) rfl)⟩
theorem lw_p111 : lw_okq (⟨"LosersBooksModel", "lostBy", "(IIII)I"⟩, 48) := ⟨⟨by decide +kernel, by decide +kernel⟩, lw_t5 (List.mem_of_getElem? (i := 36) rfl), lw_t7 (List.mem_of_getElem? (i := 94) rfl), lw_t7 (List.mem_of_getElem? (i := 95) rfl)⟩
def lw_privs_7 : List (MethodName × Nat) := [(⟨"LosersBooksModel", "goYear", "([I)I"⟩, 48), (⟨"LosersBooksModel", "sideNow", "([II)I"⟩, 48), (⟨"LosersBooksModel", "sideBy", "([IIZZ)I"⟩, 48), (⟨"LosersBooksModel", "forceBy", "([IIIZ)I"⟩, 48), (⟨"LosersBooksModel", "worthOf", "(IIIIII)I"⟩, 48), (⟨"LosersBooksModel", "writes", "([IIII)V"⟩, 48), (⟨"LosersBooksModel", "canArm", "([II)Z"⟩, 48), (⟨"LosersBooksModel", "canTeach", "([II)Z"⟩, 48), (⟨"LosersBooksModel", "draw", "(I)I"⟩, 48), (⟨"LosersBooksModel", "isPlan", "(I)Z"⟩, 48), (⟨"LosersBooksModel", "canStep", "([II)Z"⟩, 48), (⟨"LosersBooksModel", "goStep", "([II)I"⟩, 48), (⟨"LosersBooksModel", "codes", "()I"⟩, 48), (⟨"LosersBooksModel", "fitsAll", "(I)Z"⟩, 48), (⟨"LosersBooksModel", "gameOf", "(IIII)I"⟩, 48), (⟨"LosersBooksModel", "lostBy", "(IIII)I"⟩, 48)]
theorem lw_r7 : ∀ q ∈ lw_privs_7, lw_okq q := List.forall_mem_cons.mpr ⟨lw_p96, List.forall_mem_cons.mpr ⟨lw_p97, List.forall_mem_cons.mpr ⟨lw_p98, List.forall_mem_cons.mpr ⟨lw_p99, List.forall_mem_cons.mpr ⟨lw_p100, List.forall_mem_cons.mpr ⟨lw_p101, List.forall_mem_cons.mpr ⟨lw_p102, List.forall_mem_cons.mpr ⟨lw_p103, List.forall_mem_cons.mpr ⟨lw_p104, List.forall_mem_cons.mpr ⟨lw_p105, List.forall_mem_cons.mpr ⟨lw_p106, List.forall_mem_cons.mpr ⟨lw_p107, List.forall_mem_cons.mpr ⟨lw_p108, List.forall_mem_cons.mpr ⟨lw_p109, List.forall_mem_cons.mpr ⟨lw_p110, List.forall_mem_cons.mpr ⟨lw_p111, fun _ h => absurd h List.not_mem_nil⟩⟩⟩⟩⟩⟩⟩⟩⟩⟩⟩⟩⟩⟩⟩⟩
theorem lw_p112 : lw_okq (⟨"LosersBooksModel", "greatest", "(I)I"⟩, 48) := ⟨⟨by decide +kernel, by decide +kernel⟩, lw_t5 (List.mem_of_getElem? (i := 36) rfl), lw_t7 (List.mem_of_getElem? (i := 107) rfl), lw_t7 (List.mem_of_getElem? (i := 108) rfl)⟩
theorem lw_p113 : lw_okq (⟨"LosersBooksModel", "valueOf", "(II)I"⟩, 48) := ⟨⟨by decide +kernel, by decide +kernel⟩, lw_t5 (List.mem_of_getElem? (i := 36) rfl), lw_t7 (List.mem_of_getElem? (i := 111) rfl), lw_t7 (List.mem_of_getElem? (i := 112) rfl)⟩
theorem lw_p114 : lw_okq (⟨"LosersBooksModel", "writers", "(Z)I"⟩, 48) := ⟨⟨by decide +kernel, by decide +kernel⟩, lw_t5 (List.mem_of_getElem? (i := 36) rfl), lw_t7 (List.mem_of_getElem? (i := 115) rfl), lw_t7 (List.mem_of_getElem? (i := 116) rfl)⟩
theorem lw_p115 : lw_okq (⟨"LosersBooksModel", "bloodiest", "()I"⟩, 48) := ⟨⟨by decide +kernel, by decide +kernel⟩, lw_t5 (List.mem_of_getElem? (i := 36) rfl), lw_t7 (List.mem_of_getElem? (i := 119) rfl), lw_t7 (List.mem_of_getElem? (i := 120) rfl)⟩
theorem lw_p116 : lw_okq (⟨"LosersBooksModel", "lies", "()I"⟩, 48) := ⟨⟨by decide +kernel, by decide +kernel⟩, lw_t5 (List.mem_of_getElem? (i := 36) rfl), lw_t7 (List.mem_of_getElem? (i := 123) rfl), lw_t7 (List.mem_of_getElem? (i := 124) rfl)⟩
theorem lw_p117 : lw_okq (⟨"LosersBooksModel", "told0", "(Z)I"⟩, 48) := ⟨⟨by decide +kernel, by decide +kernel⟩, lw_t5 (List.mem_of_getElem? (i := 36) rfl), lw_t7 (List.mem_of_getElem? (i := 127) rfl), lw_t7 (List.mem_of_getElem? (i := 128) rfl)⟩
def lw_privs_8 : List (MethodName × Nat) := [(⟨"LosersBooksModel", "greatest", "(I)I"⟩, 48), (⟨"LosersBooksModel", "valueOf", "(II)I"⟩, 48), (⟨"LosersBooksModel", "writers", "(Z)I"⟩, 48), (⟨"LosersBooksModel", "bloodiest", "()I"⟩, 48), (⟨"LosersBooksModel", "lies", "()I"⟩, 48), (⟨"LosersBooksModel", "told0", "(Z)I"⟩, 48)]
theorem lw_r8 : ∀ q ∈ lw_privs_8, lw_okq q := List.forall_mem_cons.mpr ⟨lw_p112, List.forall_mem_cons.mpr ⟨lw_p113, List.forall_mem_cons.mpr ⟨lw_p114, List.forall_mem_cons.mpr ⟨lw_p115, List.forall_mem_cons.mpr ⟨lw_p116, List.forall_mem_cons.mpr ⟨lw_p117, fun _ h => absurd h List.not_mem_nil⟩⟩⟩⟩⟩⟩
def lw_privs : List (MethodName × Nat) := lw_privs_1 ++ (lw_privs_2 ++ (lw_privs_3 ++ (lw_privs_4 ++ (lw_privs_5 ++ (lw_privs_6 ++ (lw_privs_7 ++ (lw_privs_8)))))))
def lw_tbl : List Cond := k2_sels lw_privs ++ tables_1
theorem lw_privs_ok : ∀ q ∈ lw_privs, lw_okq q := by
  show ∀ q ∈ lw_privs_1 ++ (lw_privs_2 ++ (lw_privs_3 ++ (lw_privs_4 ++ (lw_privs_5 ++ (lw_privs_6 ++ (lw_privs_7 ++ (lw_privs_8))))))), lw_okq q
  exact List.forall_mem_append.mpr ⟨lw_r1, List.forall_mem_append.mpr ⟨lw_r2, List.forall_mem_append.mpr ⟨lw_r3, List.forall_mem_append.mpr ⟨lw_r4, List.forall_mem_append.mpr ⟨lw_r5, List.forall_mem_append.mpr ⟨lw_r6, List.forall_mem_append.mpr ⟨lw_r7, lw_r8⟩⟩⟩⟩⟩⟩⟩
-- ===== ONE list of words for every method: the tables' words that hold all through a run =====
def lw_all : List Cond := lw_tbl.filter goodWord
/-- a word of the tables by its place: claim/WORDS.tsv -/
theorem lw_w {w : Cond} (i : Nat) (h : lw_tbl[i]? = some w) (g : goodWord w = true) : w ∈ lw_all := List.mem_filter.mpr ⟨List.mem_of_getElem? h, g⟩
theorem lw_all_tbl {w : Cond} (h : w ∈ lw_all) : w ∈ lw_tbl := (List.mem_filter.mp h).1
theorem lw_self : GoodIn lw_all lw_all := fun w h => ⟨h, good_of_word (List.mem_filter.mp h).2⟩
/-- a class's field words, by their places -/
theorem lw_in (ws : List Cond) (ps : List Nat) (hp : ws = ps.filterMap (fun i => lw_tbl[i]?)) (hg : ws.all goodWord = true) : ∀ w ∈ ws, w ∈ lw_all := by
  intro w h
  have h1 := List.all_eq_true.mp hg w h
  rw [hp] at h
  obtain ⟨i, -, hi⟩ := List.mem_filterMap.mp h
  exact lw_w i hi h1
/-- the words of a contract for the method y with code b, L locals, answer r -/
abbrev ws_ (y : MethodName) (b : ByteArray) (L : Nat) (r : Option FieldType) : List Cond := Cond.code y b L r :: lw_all
theorem lw_meth {y : MethodName} {b : ByteArray} {L : Nat} {r : Option FieldType} (h : Cond.code y b L r ∈ lw_all) : GoodIn lw_all (ws_ y b L r) := by
  intro w hw
  rcases List.mem_cons.mp hw with e | e
  · rw [e]
    exact lw_self _ h
  · exact lw_self _ e
theorem lw_app {a c : List Cond} (ha : ∀ w ∈ a, w ∈ lw_all) (hc : GoodIn lw_all c) : GoodIn lw_all (a ++ c) := by
  intro w hw
  rcases List.mem_append.mp hw with e | e
  · exact lw_self w (ha w e)
  · exact hc w e
/-- what a call through an object asks: cwV n hts (lw_V ..) -/
theorem lw_V {own : String} {idx : Nat} {C : String} {y : MethodName} {b : ByteArray} {L : Nat} {r : Option FieldType} (h1 : Cond.methodLink own idx y ∈ lw_all) (h2 : Cond.instanceMethod y ∈ lw_all) (h3 : Cond.selects C y y ∈ lw_all) (h4 : Cond.initialized C ∈ lw_all) (h5 : Cond.code y b L r ∈ lw_all) : GoodIn lw_all (wsV own idx C y (ws_ y b L r)) := by
  refine lw_app ?_ (lw_meth h5)
  intro w hw
  simp only [List.mem_cons, List.not_mem_nil, or_false] at hw
  rcases hw with e | e | e | e
  · rw [e]; exact h1
  · rw [e]; exact h2
  · rw [e]; exact h3
  · rw [e]; exact h4
/-- what a static call asks: va_cwS n hts (lw_S ..) -/
theorem lw_S {own : String} {idx : Nat} {y : MethodName} {b : ByteArray} {L : Nat} {r : Option FieldType} (h1 : Cond.methodLink own idx y ∈ lw_all) (h2 : Cond.static y ∈ lw_all) (h3 : Cond.initialized y.cls ∈ lw_all) (h4 : Cond.code y b L r ∈ lw_all) : GoodIn lw_all (va_wsS own idx y (ws_ y b L r)) := by
  refine lw_app ?_ (lw_meth h4)
  intro w hw
  simp only [List.mem_cons, List.not_mem_nil, or_false] at hw
  rcases hw with e | e | e
  · rw [e]; exact h1
  · rw [e]; exact h2
  · rw [e]; exact h3
/-- the words of a contract for a method WITH HANDLERS (hh: its table) -/
abbrev wsW_ (y : MethodName) (b : ByteArray) (L : Nat) (r : Option FieldType) (hh : List (Nat × Nat × Nat × Nat)) : List Cond := Cond.codeWith y b L r hh :: lw_all
theorem lw_methW {y : MethodName} {b : ByteArray} {L : Nat} {r : Option FieldType} {hh : List (Nat × Nat × Nat × Nat)} (h : Cond.codeWith y b L r hh ∈ lw_all) : GoodIn lw_all (wsW_ y b L r hh) := by
  intro w hw
  rcases List.mem_cons.mp hw with e | e
  · rw [e]
    exact lw_self _ h
  · exact lw_self _ e
/-- any list of words by their places (lw_in), good -/
theorem lw_good {ws : List Cond} (h : ∀ w ∈ ws, w ∈ lw_all) : GoodIn lw_all ws := fun w hw => lw_self w (h w hw)
/-- what a call of a method with handlers asks: vx_cwVW n hts (lw_VW ..), vx_cwSW n hts (lw_SW ..) -/
theorem lw_VW {own : String} {idx : Nat} {C : String} {y : MethodName} {b : ByteArray} {L : Nat} {r : Option FieldType} {hh : List (Nat × Nat × Nat × Nat)} (h1 : Cond.methodLink own idx y ∈ lw_all) (h2 : Cond.instanceMethod y ∈ lw_all) (h3 : Cond.selects C y y ∈ lw_all) (h4 : Cond.initialized C ∈ lw_all) (h5 : Cond.codeWith y b L r hh ∈ lw_all) : GoodIn lw_all (wsV own idx C y (wsW_ y b L r hh)) := by
  refine lw_app ?_ (lw_methW h5)
  intro w hw
  simp only [List.mem_cons, List.not_mem_nil, or_false] at hw
  rcases hw with e | e | e | e
  · rw [e]; exact h1
  · rw [e]; exact h2
  · rw [e]; exact h3
  · rw [e]; exact h4
theorem lw_SW {own : String} {idx : Nat} {y : MethodName} {b : ByteArray} {L : Nat} {r : Option FieldType} {hh : List (Nat × Nat × Nat × Nat)} (h1 : Cond.methodLink own idx y ∈ lw_all) (h2 : Cond.static y ∈ lw_all) (h3 : Cond.initialized y.cls ∈ lw_all) (h4 : Cond.codeWith y b L r hh ∈ lw_all) : GoodIn lw_all (va_wsS own idx y (wsW_ y b L r hh)) := by
  refine lw_app ?_ (lw_methW h4)
  intro w hw
  simp only [List.mem_cons, List.not_mem_nil, or_false] at hw
  rcases hw with e | e | e
  · rw [e]; exact h1
  · rw [e]; exact h2
  · rw [e]; exact h3
/-- a word by its place in its run of the tables -/
theorem lw_at {r : List Cond} (hr : ∀ w ∈ r, w ∈ lw_tbl) {w : Cond} (i : Nat) (h : r[i]? = some w) : w ∈ lw_tbl := hr w (List.mem_of_getElem? h)
theorem lw_g {w : Cond} (h : w ∈ lw_tbl) (g : goodWord w = true) : w ∈ lw_all := List.mem_filter.mpr ⟨h, g⟩
theorem lw_ms : ∀ w ∈ k2_sels lw_privs, w ∈ lw_tbl := fun w h => show w ∈ k2_sels lw_privs ++ tables_1 from List.mem_append_left _ h
theorem lw_m1 : ∀ w ∈ tables_1_1, w ∈ lw_tbl := fun w h => show w ∈ k2_sels lw_privs ++ tables_1 from List.mem_append_right (k2_sels lw_privs) (show w ∈ tables_1 from List.mem_append_left _ h)
theorem lw_m2 : ∀ w ∈ tables_1_2, w ∈ lw_tbl := fun w h => show w ∈ k2_sels lw_privs ++ tables_1 from List.mem_append_right (k2_sels lw_privs) (show w ∈ tables_1 from List.mem_append_right _ (List.mem_append_left _ h))
theorem lw_m3 : ∀ w ∈ tables_1_3, w ∈ lw_tbl := fun w h => show w ∈ k2_sels lw_privs ++ tables_1 from List.mem_append_right (k2_sels lw_privs) (show w ∈ tables_1 from List.mem_append_right _ (List.mem_append_right _ (List.mem_append_left _ h)))
theorem lw_m4 : ∀ w ∈ tables_1_4, w ∈ lw_tbl := fun w h => show w ∈ k2_sels lw_privs ++ tables_1 from List.mem_append_right (k2_sels lw_privs) (show w ∈ tables_1 from List.mem_append_right _ (List.mem_append_right _ (List.mem_append_right _ (List.mem_append_left _ h))))
theorem lw_m5 : ∀ w ∈ tables_1_5, w ∈ lw_tbl := fun w h => show w ∈ k2_sels lw_privs ++ tables_1 from List.mem_append_right (k2_sels lw_privs) (show w ∈ tables_1 from List.mem_append_right _ (List.mem_append_right _ (List.mem_append_right _ (List.mem_append_right _ (List.mem_append_left _ h)))))
theorem lw_m6 : ∀ w ∈ tables_1_6, w ∈ lw_tbl := fun w h => show w ∈ k2_sels lw_privs ++ tables_1 from List.mem_append_right (k2_sels lw_privs) (show w ∈ tables_1 from List.mem_append_right _ (List.mem_append_right _ (List.mem_append_right _ (List.mem_append_right _ (List.mem_append_right _ (List.mem_append_left _ h))))))
theorem lw_m7 : ∀ w ∈ tables_1_7, w ∈ lw_tbl := fun w h => show w ∈ k2_sels lw_privs ++ tables_1 from List.mem_append_right (k2_sels lw_privs) (show w ∈ tables_1 from List.mem_append_right _ (List.mem_append_right _ (List.mem_append_right _ (List.mem_append_right _ (List.mem_append_right _ (List.mem_append_right _ h))))))
theorem qs0 : (Cond.selects "java/lang/Throwable" ⟨"java/lang/Throwable", "fillInStackTrace", "(I)Ljava/lang/Throwable;"⟩ ⟨"java/lang/Throwable", "fillInStackTrace", "(I)Ljava/lang/Throwable;"⟩) ∈ lw_all := lw_g (lw_at lw_ms 0 rfl) rfl
theorem qs1 : (Cond.selects "LosersBooks" ⟨"LosersBooks", "lawFault", "()I"⟩ ⟨"LosersBooks", "lawFault", "()I"⟩) ∈ lw_all := lw_g (lw_at lw_ms 1 rfl) rfl
theorem qs2 : (Cond.selects "LosersBooks" ⟨"LosersBooks", "wholeLaw", "()LLosersBooks$Clause;"⟩ ⟨"LosersBooks", "wholeLaw", "()LLosersBooks$Clause;"⟩) ∈ lw_all := lw_g (lw_at lw_ms 2 rfl) rfl
theorem qs3 : (Cond.selects "LosersBooks" ⟨"LosersBooks", "clause", "()LLosersBooks$Clause;"⟩ ⟨"LosersBooks", "clause", "()LLosersBooks$Clause;"⟩) ∈ lw_all := lw_g (lw_at lw_ms 3 rfl) rfl
theorem qs4 : (Cond.selects "LosersBooks" ⟨"LosersBooks", "look", "()I"⟩ ⟨"LosersBooks", "look", "()I"⟩) ∈ lw_all := lw_g (lw_at lw_ms 4 rfl) rfl
theorem qs5 : (Cond.selects "LosersBooks" ⟨"LosersBooks", "need", "(Z)V"⟩ ⟨"LosersBooks", "need", "(Z)V"⟩) ∈ lw_all := lw_g (lw_at lw_ms 5 rfl) rfl
theorem qs6 : (Cond.selects "LosersBooks" ⟨"LosersBooks", "sum", "()LLosersBooks$Sum;"⟩ ⟨"LosersBooks", "sum", "()LLosersBooks$Sum;"⟩) ∈ lw_all := lw_g (lw_at lw_ms 6 rfl) rfl
theorem qs7 : (Cond.selects "LosersBooks" ⟨"LosersBooks", "term", "()LLosersBooks$Sum;"⟩ ⟨"LosersBooks", "term", "()LLosersBooks$Sum;"⟩) ∈ lw_all := lw_g (lw_at lw_ms 7 rfl) rfl
theorem qs8 : (Cond.selects "LosersBooks" ⟨"LosersBooks", "atom", "()LLosersBooks$Sum;"⟩ ⟨"LosersBooks", "atom", "()LLosersBooks$Sum;"⟩) ∈ lw_all := lw_g (lw_at lw_ms 8 rfl) rfl
theorem qs9 : (Cond.selects "LosersBooks" ⟨"LosersBooks", "opens", "()V"⟩ ⟨"LosersBooks", "opens", "()V"⟩) ∈ lw_all := lw_g (lw_at lw_ms 9 rfl) rfl
theorem qs10 : (Cond.selects "LosersBooks" ⟨"LosersBooks", "closes", "(I)V"⟩ ⟨"LosersBooks", "closes", "(I)V"⟩) ∈ lw_all := lw_g (lw_at lw_ms 10 rfl) rfl
theorem qs11 : (Cond.selects "LosersBooks" ⟨"LosersBooks", "condition", "(LLosersBooks$Sum;)LLosersBooks$Test;"⟩ ⟨"LosersBooks", "condition", "(LLosersBooks$Sum;)LLosersBooks$Test;"⟩) ∈ lw_all := lw_g (lw_at lw_ms 11 rfl) rfl
theorem qs12 : (Cond.selects "LosersBooks" ⟨"LosersBooks", "part", "(LLosersBooks$Sum;)LLosersBooks$Test;"⟩ ⟨"LosersBooks", "part", "(LLosersBooks$Sum;)LLosersBooks$Test;"⟩) ∈ lw_all := lw_g (lw_at lw_ms 12 rfl) rfl
theorem qs13 : (Cond.selects "LosersBooks" ⟨"LosersBooks", "unit", "()LLosersBooks$Test;"⟩ ⟨"LosersBooks", "unit", "()LLosersBooks$Test;"⟩) ∈ lw_all := lw_g (lw_at lw_ms 13 rfl) rfl
theorem qs14 : (Cond.selects "LosersBooks" ⟨"LosersBooks", "compare", "(LLosersBooks$Sum;)LLosersBooks$Test;"⟩ ⟨"LosersBooks", "compare", "(LLosersBooks$Sum;)LLosersBooks$Test;"⟩) ∈ lw_all := lw_g (lw_at lw_ms 14 rfl) rfl
theorem qs15 : (Cond.selects "LosersBooks" ⟨"LosersBooks", "readAs", "(I)V"⟩ ⟨"LosersBooks", "readAs", "(I)V"⟩) ∈ lw_all := lw_g (lw_at lw_ms 15 rfl) rfl
theorem qs16 : (Cond.selects "LosersBooks" ⟨"LosersBooks", "wholeRealm", "()V"⟩ ⟨"LosersBooks", "wholeRealm", "()V"⟩) ∈ lw_all := lw_g (lw_at lw_ms 16 rfl) rfl
theorem qs17 : (Cond.selects "LosersBooks" ⟨"LosersBooks", "items", "(I[III)V"⟩ ⟨"LosersBooks", "items", "(I[III)V"⟩) ∈ lw_all := lw_g (lw_at lw_ms 17 rfl) rfl
theorem qs18 : (Cond.selects "LosersBooks" ⟨"LosersBooks", "byteHere", "()I"⟩ ⟨"LosersBooks", "byteHere", "()I"⟩) ∈ lw_all := lw_g (lw_at lw_ms 18 rfl) rfl
theorem qs19 : (Cond.selects "LosersBooks" ⟨"LosersBooks", "number", "(II)I"⟩ ⟨"LosersBooks", "number", "(II)I"⟩) ∈ lw_all := lw_g (lw_at lw_ms 19 rfl) rfl
theorem qs20 : (Cond.selects "LosersBooks" ⟨"LosersBooks", "isWhole", "()Z"⟩ ⟨"LosersBooks", "isWhole", "()Z"⟩) ∈ lw_all := lw_g (lw_at lw_ms 20 rfl) rfl
theorem qs21 : (Cond.selects "LosersBooks" ⟨"LosersBooks", "wholeCampaign", "(I)V"⟩ ⟨"LosersBooks", "wholeCampaign", "(I)V"⟩) ∈ lw_all := lw_g (lw_at lw_ms 21 rfl) rfl
theorem qs22 : (Cond.selects "LosersBooks" ⟨"LosersBooks", "stepRead", "(I)V"⟩ ⟨"LosersBooks", "stepRead", "(I)V"⟩) ∈ lw_all := lw_g (lw_at lw_ms 22 rfl) rfl
theorem qs23 : (Cond.selects "LosersBooks" ⟨"LosersBooks", "lawRead", "()I"⟩ ⟨"LosersBooks", "lawRead", "()I"⟩) ∈ lw_all := lw_g (lw_at lw_ms 23 rfl) rfl
theorem qs24 : (Cond.selects "LosersBooks" ⟨"LosersBooks", "campaignRead", "()I"⟩ ⟨"LosersBooks", "campaignRead", "()I"⟩) ∈ lw_all := lw_g (lw_at lw_ms 24 rfl) rfl
theorem qs25 : (Cond.selects "LosersBooks" ⟨"LosersBooks", "isField", "(I)Z"⟩ ⟨"LosersBooks", "isField", "(I)Z"⟩) ∈ lw_all := lw_g (lw_at lw_ms 25 rfl) rfl
theorem qs26 : (Cond.selects "LosersBooks" ⟨"LosersBooks", "of", "(II)I"⟩ ⟨"LosersBooks", "of", "(II)I"⟩) ∈ lw_all := lw_g (lw_at lw_ms 26 rfl) rfl
theorem qs27 : (Cond.selects "LosersBooks" ⟨"LosersBooks", "canPass", "(I)Z"⟩ ⟨"LosersBooks", "canPass", "(I)Z"⟩) ∈ lw_all := lw_g (lw_at lw_ms 27 rfl) rfl
theorem qs28 : (Cond.selects "LosersBooks" ⟨"LosersBooks", "isRealm", "()Z"⟩ ⟨"LosersBooks", "isRealm", "()Z"⟩) ∈ lw_all := lw_g (lw_at lw_ms 28 rfl) rfl
theorem qs29 : (Cond.selects "LosersBooks" ⟨"LosersBooks", "act", "()V"⟩ ⟨"LosersBooks", "act", "()V"⟩) ∈ lw_all := lw_g (lw_at lw_ms 29 rfl) rfl
theorem qs30 : (Cond.selects "LosersBooks" ⟨"LosersBooks", "passYear", "()I"⟩ ⟨"LosersBooks", "passYear", "()I"⟩) ∈ lw_all := lw_g (lw_at lw_ms 30 rfl) rfl
theorem qs31 : (Cond.selects "LosersBooks" ⟨"LosersBooks", "liveYear", "()I"⟩ ⟨"LosersBooks", "liveYear", "()I"⟩) ∈ lw_all := lw_g (lw_at lw_ms 31 rfl) rfl
theorem qs32 : (Cond.selects "LosersBooks" ⟨"LosersBooks", "winnerOf", "(I)I"⟩ ⟨"LosersBooks", "winnerOf", "(I)I"⟩) ∈ lw_all := lw_g (lw_at lw_ms 32 rfl) rfl
theorem qs33 : (Cond.selects "LosersBooks" ⟨"LosersBooks", "forceOf", "(II)I"⟩ ⟨"LosersBooks", "forceOf", "(II)I"⟩) ∈ lw_all := lw_g (lw_at lw_ms 33 rfl) rfl
theorem qs34 : (Cond.selects "LosersBooks" ⟨"LosersBooks", "forget", "()V"⟩ ⟨"LosersBooks", "forget", "()V"⟩) ∈ lw_all := lw_g (lw_at lw_ms 34 rfl) rfl
theorem qs35 : (Cond.selects "LosersBooks" ⟨"LosersBooks", "pagesOf", "(I)I"⟩ ⟨"LosersBooks", "pagesOf", "(I)I"⟩) ∈ lw_all := lw_g (lw_at lw_ms 35 rfl) rfl
theorem qs36 : (Cond.selects "LosersBooks" ⟨"LosersBooks", "pageOf", "(II)I"⟩ ⟨"LosersBooks", "pageOf", "(II)I"⟩) ∈ lw_all := lw_g (lw_at lw_ms 36 rfl) rfl
theorem qs37 : (Cond.selects "LosersBooks" ⟨"LosersBooks", "beatenOf", "(I)I"⟩ ⟨"LosersBooks", "beatenOf", "(I)I"⟩) ∈ lw_all := lw_g (lw_at lw_ms 37 rfl) rfl
theorem qs38 : (Cond.selects "LosersBooks" ⟨"LosersBooks", "writePage", "(II)V"⟩ ⟨"LosersBooks", "writePage", "(II)V"⟩) ∈ lw_all := lw_g (lw_at lw_ms 38 rfl) rfl
theorem qs39 : (Cond.selects "LosersBooks" ⟨"LosersBooks", "dropPage", "(I)V"⟩ ⟨"LosersBooks", "dropPage", "(I)V"⟩) ∈ lw_all := lw_g (lw_at lw_ms 39 rfl) rfl
theorem qs40 : (Cond.selects "LosersBooks" ⟨"LosersBooks", "isKingdom", "(I)Z"⟩ ⟨"LosersBooks", "isKingdom", "(I)Z"⟩) ∈ lw_all := lw_g (lw_at lw_ms 40 rfl) rfl
theorem qs41 : (Cond.selects "LosersBooks" ⟨"LosersBooks", "canArm", "(I)Z"⟩ ⟨"LosersBooks", "canArm", "(I)Z"⟩) ∈ lw_all := lw_g (lw_at lw_ms 41 rfl) rfl
theorem qs42 : (Cond.selects "LosersBooks" ⟨"LosersBooks", "armNow", "(I)V"⟩ ⟨"LosersBooks", "armNow", "(I)V"⟩) ∈ lw_all := lw_g (lw_at lw_ms 42 rfl) rfl
theorem qs43 : (Cond.selects "LosersBooks" ⟨"LosersBooks", "canTeach", "(I)Z"⟩ ⟨"LosersBooks", "canTeach", "(I)Z"⟩) ∈ lw_all := lw_g (lw_at lw_ms 43 rfl) rfl
theorem qs44 : (Cond.selects "LosersBooks" ⟨"LosersBooks", "teachNow", "(I)V"⟩ ⟨"LosersBooks", "teachNow", "(I)V"⟩) ∈ lw_all := lw_g (lw_at lw_ms 44 rfl) rfl
theorem qs45 : (Cond.selects "LosersBooks" ⟨"LosersBooks", "drawYear", "()V"⟩ ⟨"LosersBooks", "drawYear", "()V"⟩) ∈ lw_all := lw_g (lw_at lw_ms 45 rfl) rfl
theorem qs46 : (Cond.selects "LosersBooks" ⟨"LosersBooks", "draw", "(I)I"⟩ ⟨"LosersBooks", "draw", "(I)I"⟩) ∈ lw_all := lw_g (lw_at lw_ms 46 rfl) rfl
theorem qs47 : (Cond.selects "LosersBooks" ⟨"LosersBooks", "isCampaign", "(I)Z"⟩ ⟨"LosersBooks", "isCampaign", "(I)Z"⟩) ∈ lw_all := lw_g (lw_at lw_ms 47 rfl) rfl
theorem qs48 : (Cond.selects "LosersBooks" ⟨"LosersBooks", "putAside", "()V"⟩ ⟨"LosersBooks", "putAside", "()V"⟩) ∈ lw_all := lw_g (lw_at lw_ms 48 rfl) rfl
theorem qs49 : (Cond.selects "LosersBooks" ⟨"LosersBooks", "canStep", "(I)Z"⟩ ⟨"LosersBooks", "canStep", "(I)Z"⟩) ∈ lw_all := lw_g (lw_at lw_ms 49 rfl) rfl
theorem qs50 : (Cond.selects "LosersBooks" ⟨"LosersBooks", "doStep", "(IZ)I"⟩ ⟨"LosersBooks", "doStep", "(IZ)I"⟩) ∈ lw_all := lw_g (lw_at lw_ms 50 rfl) rfl
theorem qs51 : (Cond.selects "LosersBooks" ⟨"LosersBooks", "takeBack", "()V"⟩ ⟨"LosersBooks", "takeBack", "()V"⟩) ∈ lw_all := lw_g (lw_at lw_ms 51 rfl) rfl
theorem qs52 : (Cond.selects "LosersBooks" ⟨"LosersBooks", "meetsAt", "(II)Z"⟩ ⟨"LosersBooks", "meetsAt", "(II)Z"⟩) ∈ lw_all := lw_g (lw_at lw_ms 52 rfl) rfl
theorem qs53 : (Cond.selects "LosersBooks" ⟨"LosersBooks", "pagesBy", "(III)I"⟩ ⟨"LosersBooks", "pagesBy", "(III)I"⟩) ∈ lw_all := lw_g (lw_at lw_ms 53 rfl) rfl
theorem qs54 : (Cond.selects "LosersBooks" ⟨"LosersBooks", "codes", "()I"⟩ ⟨"LosersBooks", "codes", "()I"⟩) ∈ lw_all := lw_g (lw_at lw_ms 54 rfl) rfl
theorem qs55 : (Cond.selects "LosersBooks" ⟨"LosersBooks", "layBiases", "(I)V"⟩ ⟨"LosersBooks", "layBiases", "(I)V"⟩) ∈ lw_all := lw_g (lw_at lw_ms 55 rfl) rfl
theorem qs56 : (Cond.selects "LosersBooks" ⟨"LosersBooks", "areBiases", "()Z"⟩ ⟨"LosersBooks", "areBiases", "()Z"⟩) ∈ lw_all := lw_g (lw_at lw_ms 56 rfl) rfl
theorem qs57 : (Cond.selects "LosersBooks" ⟨"LosersBooks", "isTruth", "(II)Z"⟩ ⟨"LosersBooks", "isTruth", "(II)Z"⟩) ∈ lw_all := lw_g (lw_at lw_ms 57 rfl) rfl
theorem qs58 : (Cond.selects "LosersBooks" ⟨"LosersBooks", "layTells", "(I)V"⟩ ⟨"LosersBooks", "layTells", "(I)V"⟩) ∈ lw_all := lw_g (lw_at lw_ms 58 rfl) rfl
theorem qs59 : (Cond.selects "LosersBooks" ⟨"LosersBooks", "gameOf", "(IIII)I"⟩ ⟨"LosersBooks", "gameOf", "(IIII)I"⟩) ∈ lw_all := lw_g (lw_at lw_ms 59 rfl) rfl
theorem qs60 : (Cond.selects "LosersBooks" ⟨"LosersBooks", "beatenIf", "(III)I"⟩ ⟨"LosersBooks", "beatenIf", "(III)I"⟩) ∈ lw_all := lw_g (lw_at lw_ms 60 rfl) rfl
theorem qs61 : (Cond.selects "LosersBooks" ⟨"LosersBooks", "believers", "(Z)I"⟩ ⟨"LosersBooks", "believers", "(Z)I"⟩) ∈ lw_all := lw_g (lw_at lw_ms 61 rfl) rfl
theorem qs62 : (Cond.selects "LosersBooks" ⟨"LosersBooks", "winsOfAll", "()I"⟩ ⟨"LosersBooks", "winsOfAll", "()I"⟩) ∈ lw_all := lw_g (lw_at lw_ms 62 rfl) rfl
theorem qs63 : (Cond.selects "LosersBooks" ⟨"LosersBooks", "bloodiest", "()I"⟩ ⟨"LosersBooks", "bloodiest", "()I"⟩) ∈ lw_all := lw_g (lw_at lw_ms 63 rfl) rfl
theorem qs64 : (Cond.selects "LosersBooks" ⟨"LosersBooks", "lieOfAll", "()I"⟩ ⟨"LosersBooks", "lieOfAll", "()I"⟩) ∈ lw_all := lw_g (lw_at lw_ms 64 rfl) rfl
theorem qs65 : (Cond.selects "LosersBooks" ⟨"LosersBooks", "sameOnes", "()I"⟩ ⟨"LosersBooks", "sameOnes", "()I"⟩) ∈ lw_all := lw_g (lw_at lw_ms 65 rfl) rfl
theorem qs66 : (Cond.selects "LosersBooks" ⟨"LosersBooks", "silentOnes", "()I"⟩ ⟨"LosersBooks", "silentOnes", "()I"⟩) ∈ lw_all := lw_g (lw_at lw_ms 66 rfl) rfl
theorem qs67 : (Cond.selects "LosersBooks" ⟨"LosersBooks", "topBy", "(I)I"⟩ ⟨"LosersBooks", "topBy", "(I)I"⟩) ∈ lw_all := lw_g (lw_at lw_ms 67 rfl) rfl
theorem qs68 : (Cond.selects "LosersBooks" ⟨"LosersBooks", "valueOf", "(II)I"⟩ ⟨"LosersBooks", "valueOf", "(II)I"⟩) ∈ lw_all := lw_g (lw_at lw_ms 68 rfl) rfl
theorem qs69 : (Cond.selects "LosersBooksModel" ⟨"LosersBooksModel", "put", "(I)V"⟩ ⟨"LosersBooksModel", "put", "(I)V"⟩) ∈ lw_all := lw_g (lw_at lw_ms 69 rfl) rfl
theorem qs70 : (Cond.selects "LosersBooksModel" ⟨"LosersBooksModel", "readRealm", "()V"⟩ ⟨"LosersBooksModel", "readRealm", "()V"⟩) ∈ lw_all := lw_g (lw_at lw_ms 70 rfl) rfl
theorem qs71 : (Cond.selects "LosersBooksModel" ⟨"LosersBooksModel", "starts", "([BII)V"⟩ ⟨"LosersBooksModel", "starts", "([BII)V"⟩) ∈ lw_all := lw_g (lw_at lw_ms 71 rfl) rfl
theorem qs72 : (Cond.selects "LosersBooksModel" ⟨"LosersBooksModel", "readClause", "()V"⟩ ⟨"LosersBooksModel", "readClause", "()V"⟩) ∈ lw_all := lw_g (lw_at lw_ms 72 rfl) rfl
theorem qs73 : (Cond.selects "LosersBooksModel" ⟨"LosersBooksModel", "look", "()I"⟩ ⟨"LosersBooksModel", "look", "()I"⟩) ∈ lw_all := lw_g (lw_at lw_ms 73 rfl) rfl
theorem qs74 : (Cond.selects "LosersBooksModel" ⟨"LosersBooksModel", "fails", "()Z"⟩ ⟨"LosersBooksModel", "fails", "()Z"⟩) ∈ lw_all := lw_g (lw_at lw_ms 74 rfl) rfl
theorem qs75 : (Cond.selects "LosersBooksModel" ⟨"LosersBooksModel", "readItems", "(I[IILjava/lang/String;)V"⟩ ⟨"LosersBooksModel", "readItems", "(I[IILjava/lang/String;)V"⟩) ∈ lw_all := lw_g (lw_at lw_ms 75 rfl) rfl
theorem qs76 : (Cond.selects "LosersBooksModel" ⟨"LosersBooksModel", "number", "(I)I"⟩ ⟨"LosersBooksModel", "number", "(I)I"⟩) ∈ lw_all := lw_g (lw_at lw_ms 76 rfl) rfl
theorem qs77 : (Cond.selects "LosersBooksModel" ⟨"LosersBooksModel", "isDigit", "()Z"⟩ ⟨"LosersBooksModel", "isDigit", "()Z"⟩) ∈ lw_all := lw_g (lw_at lw_ms 77 rfl) rfl
theorem qs78 : (Cond.selects "LosersBooksModel" ⟨"LosersBooksModel", "here", "()I"⟩ ⟨"LosersBooksModel", "here", "()I"⟩) ∈ lw_all := lw_g (lw_at lw_ms 78 rfl) rfl
theorem qs79 : (Cond.selects "LosersBooksModel" ⟨"LosersBooksModel", "isWhole", "()Z"⟩ ⟨"LosersBooksModel", "isWhole", "()Z"⟩) ∈ lw_all := lw_g (lw_at lw_ms 79 rfl) rfl
theorem qs80 : (Cond.selects "LosersBooksModel" ⟨"LosersBooksModel", "goThrough", "([BII)V"⟩ ⟨"LosersBooksModel", "goThrough", "([BII)V"⟩) ∈ lw_all := lw_g (lw_at lw_ms 80 rfl) rfl
theorem qs81 : (Cond.selects "LosersBooksModel" ⟨"LosersBooksModel", "clause", "()V"⟩ ⟨"LosersBooksModel", "clause", "()V"⟩) ∈ lw_all := lw_g (lw_at lw_ms 81 rfl) rfl
theorem qs82 : (Cond.selects "LosersBooksModel" ⟨"LosersBooksModel", "takes", "(I)Z"⟩ ⟨"LosersBooksModel", "takes", "(I)Z"⟩) ∈ lw_all := lw_g (lw_at lw_ms 82 rfl) rfl
theorem qs83 : (Cond.selects "LosersBooksModel" ⟨"LosersBooksModel", "condition", "(ZI)Z"⟩ ⟨"LosersBooksModel", "condition", "(ZI)Z"⟩) ∈ lw_all := lw_g (lw_at lw_ms 83 rfl) rfl
theorem qs84 : (Cond.selects "LosersBooksModel" ⟨"LosersBooksModel", "part", "(ZI)Z"⟩ ⟨"LosersBooksModel", "part", "(ZI)Z"⟩) ∈ lw_all := lw_g (lw_at lw_ms 84 rfl) rfl
theorem qs85 : (Cond.selects "LosersBooksModel" ⟨"LosersBooksModel", "compares", "(ZI)Z"⟩ ⟨"LosersBooksModel", "compares", "(ZI)Z"⟩) ∈ lw_all := lw_g (lw_at lw_ms 85 rfl) rfl
theorem qs86 : (Cond.selects "LosersBooksModel" ⟨"LosersBooksModel", "sum", "()I"⟩ ⟨"LosersBooksModel", "sum", "()I"⟩) ∈ lw_all := lw_g (lw_at lw_ms 86 rfl) rfl
theorem qs87 : (Cond.selects "LosersBooksModel" ⟨"LosersBooksModel", "term", "()I"⟩ ⟨"LosersBooksModel", "term", "()I"⟩) ∈ lw_all := lw_g (lw_at lw_ms 87 rfl) rfl
theorem qs88 : (Cond.selects "LosersBooksModel" ⟨"LosersBooksModel", "atom", "()I"⟩ ⟨"LosersBooksModel", "atom", "()I"⟩) ∈ lw_all := lw_g (lw_at lw_ms 88 rfl) rfl
theorem qs89 : (Cond.selects "LosersBooksModel" ⟨"LosersBooksModel", "goesIn", "()Z"⟩ ⟨"LosersBooksModel", "goesIn", "()Z"⟩) ∈ lw_all := lw_g (lw_at lw_ms 89 rfl) rfl
theorem qs90 : (Cond.selects "LosersBooksModel" ⟨"LosersBooksModel", "unit", "()Z"⟩ ⟨"LosersBooksModel", "unit", "()Z"⟩) ∈ lw_all := lw_g (lw_at lw_ms 90 rfl) rfl
theorem qs91 : (Cond.selects "LosersBooksModel" ⟨"LosersBooksModel", "readPlan", "()V"⟩ ⟨"LosersBooksModel", "readPlan", "()V"⟩) ∈ lw_all := lw_g (lw_at lw_ms 91 rfl) rfl
theorem qs92 : (Cond.selects "LosersBooksModel" ⟨"LosersBooksModel", "readStep", "(I)V"⟩ ⟨"LosersBooksModel", "readStep", "(I)V"⟩) ∈ lw_all := lw_g (lw_at lw_ms 92 rfl) rfl
theorem qs93 : (Cond.selects "LosersBooksModel" ⟨"LosersBooksModel", "isKingdom", "(I)Z"⟩ ⟨"LosersBooksModel", "isKingdom", "(I)Z"⟩) ∈ lw_all := lw_g (lw_at lw_ms 93 rfl) rfl
theorem qs94 : (Cond.selects "LosersBooksModel" ⟨"LosersBooksModel", "isField", "(I)Z"⟩ ⟨"LosersBooksModel", "isField", "(I)Z"⟩) ∈ lw_all := lw_g (lw_at lw_ms 94 rfl) rfl
theorem qs95 : (Cond.selects "LosersBooksModel" ⟨"LosersBooksModel", "remember", "()V"⟩ ⟨"LosersBooksModel", "remember", "()V"⟩) ∈ lw_all := lw_g (lw_at lw_ms 95 rfl) rfl
theorem qs96 : (Cond.selects "LosersBooksModel" ⟨"LosersBooksModel", "goYear", "([I)I"⟩ ⟨"LosersBooksModel", "goYear", "([I)I"⟩) ∈ lw_all := lw_g (lw_at lw_ms 96 rfl) rfl
theorem qs97 : (Cond.selects "LosersBooksModel" ⟨"LosersBooksModel", "sideNow", "([II)I"⟩ ⟨"LosersBooksModel", "sideNow", "([II)I"⟩) ∈ lw_all := lw_g (lw_at lw_ms 97 rfl) rfl
theorem qs98 : (Cond.selects "LosersBooksModel" ⟨"LosersBooksModel", "sideBy", "([IIZZ)I"⟩ ⟨"LosersBooksModel", "sideBy", "([IIZZ)I"⟩) ∈ lw_all := lw_g (lw_at lw_ms 98 rfl) rfl
theorem qs99 : (Cond.selects "LosersBooksModel" ⟨"LosersBooksModel", "forceBy", "([IIIZ)I"⟩ ⟨"LosersBooksModel", "forceBy", "([IIIZ)I"⟩) ∈ lw_all := lw_g (lw_at lw_ms 99 rfl) rfl
theorem qs100 : (Cond.selects "LosersBooksModel" ⟨"LosersBooksModel", "worthOf", "(IIIIII)I"⟩ ⟨"LosersBooksModel", "worthOf", "(IIIIII)I"⟩) ∈ lw_all := lw_g (lw_at lw_ms 100 rfl) rfl
theorem qs101 : (Cond.selects "LosersBooksModel" ⟨"LosersBooksModel", "writes", "([IIII)V"⟩ ⟨"LosersBooksModel", "writes", "([IIII)V"⟩) ∈ lw_all := lw_g (lw_at lw_ms 101 rfl) rfl
theorem qs102 : (Cond.selects "LosersBooksModel" ⟨"LosersBooksModel", "canArm", "([II)Z"⟩ ⟨"LosersBooksModel", "canArm", "([II)Z"⟩) ∈ lw_all := lw_g (lw_at lw_ms 102 rfl) rfl
theorem qs103 : (Cond.selects "LosersBooksModel" ⟨"LosersBooksModel", "canTeach", "([II)Z"⟩ ⟨"LosersBooksModel", "canTeach", "([II)Z"⟩) ∈ lw_all := lw_g (lw_at lw_ms 103 rfl) rfl
theorem qs104 : (Cond.selects "LosersBooksModel" ⟨"LosersBooksModel", "draw", "(I)I"⟩ ⟨"LosersBooksModel", "draw", "(I)I"⟩) ∈ lw_all := lw_g (lw_at lw_ms 104 rfl) rfl
theorem qs105 : (Cond.selects "LosersBooksModel" ⟨"LosersBooksModel", "isPlan", "(I)Z"⟩ ⟨"LosersBooksModel", "isPlan", "(I)Z"⟩) ∈ lw_all := lw_g (lw_at lw_ms 105 rfl) rfl
theorem qs106 : (Cond.selects "LosersBooksModel" ⟨"LosersBooksModel", "canStep", "([II)Z"⟩ ⟨"LosersBooksModel", "canStep", "([II)Z"⟩) ∈ lw_all := lw_g (lw_at lw_ms 106 rfl) rfl
theorem qs107 : (Cond.selects "LosersBooksModel" ⟨"LosersBooksModel", "goStep", "([II)I"⟩ ⟨"LosersBooksModel", "goStep", "([II)I"⟩) ∈ lw_all := lw_g (lw_at lw_ms 107 rfl) rfl
theorem qs108 : (Cond.selects "LosersBooksModel" ⟨"LosersBooksModel", "codes", "()I"⟩ ⟨"LosersBooksModel", "codes", "()I"⟩) ∈ lw_all := lw_g (lw_at lw_ms 108 rfl) rfl
theorem qs109 : (Cond.selects "LosersBooksModel" ⟨"LosersBooksModel", "fitsAll", "(I)Z"⟩ ⟨"LosersBooksModel", "fitsAll", "(I)Z"⟩) ∈ lw_all := lw_g (lw_at lw_ms 109 rfl) rfl
theorem qs110 : (Cond.selects "LosersBooksModel" ⟨"LosersBooksModel", "gameOf", "(IIII)I"⟩ ⟨"LosersBooksModel", "gameOf", "(IIII)I"⟩) ∈ lw_all := lw_g (lw_at lw_ms 110 rfl) rfl
theorem qs111 : (Cond.selects "LosersBooksModel" ⟨"LosersBooksModel", "lostBy", "(IIII)I"⟩ ⟨"LosersBooksModel", "lostBy", "(IIII)I"⟩) ∈ lw_all := lw_g (lw_at lw_ms 111 rfl) rfl
theorem qs112 : (Cond.selects "LosersBooksModel" ⟨"LosersBooksModel", "greatest", "(I)I"⟩ ⟨"LosersBooksModel", "greatest", "(I)I"⟩) ∈ lw_all := lw_g (lw_at lw_ms 112 rfl) rfl
theorem qs113 : (Cond.selects "LosersBooksModel" ⟨"LosersBooksModel", "valueOf", "(II)I"⟩ ⟨"LosersBooksModel", "valueOf", "(II)I"⟩) ∈ lw_all := lw_g (lw_at lw_ms 113 rfl) rfl
theorem qs114 : (Cond.selects "LosersBooksModel" ⟨"LosersBooksModel", "writers", "(Z)I"⟩ ⟨"LosersBooksModel", "writers", "(Z)I"⟩) ∈ lw_all := lw_g (lw_at lw_ms 114 rfl) rfl
theorem qs115 : (Cond.selects "LosersBooksModel" ⟨"LosersBooksModel", "bloodiest", "()I"⟩ ⟨"LosersBooksModel", "bloodiest", "()I"⟩) ∈ lw_all := lw_g (lw_at lw_ms 115 rfl) rfl
theorem qs116 : (Cond.selects "LosersBooksModel" ⟨"LosersBooksModel", "lies", "()I"⟩ ⟨"LosersBooksModel", "lies", "()I"⟩) ∈ lw_all := lw_g (lw_at lw_ms 116 rfl) rfl
theorem qs117 : (Cond.selects "LosersBooksModel" ⟨"LosersBooksModel", "told0", "(Z)I"⟩ ⟨"LosersBooksModel", "told0", "(Z)I"⟩) ∈ lw_all := lw_g (lw_at lw_ms 117 rfl) rfl
-- ===== end of PART A; then your names; then what follows =====
