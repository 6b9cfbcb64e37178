-- ===== PART A: goes FIRST, ahead of the names: the tables' words, and 'selects' of the private methods out of them =====
/-- a private method of a class that the tables say can be made, by its rows of tables_1 -/
def lw_okq (q : MethodName × Nat) : Prop := (q.1.cls ≠ "java/lang/invoke/MethodHandle" ∧ q.1.cls ≠ "java/lang/invoke/VarHandle") ∧ Cond.instantiable q.1.cls q.2 ∈ tables_1 ∧ Cond.privateMethod q.1 ∈ tables_1 ∧ Cond.instanceMethod q.1 ∈ tables_1
set_option maxRecDepth 100000
theorem lw_t1 {w : Cond} (h : w ∈ tables_1_1) : w ∈ tables_1 := List.mem_append_left _ h
theorem lw_t2 {w : Cond} (h : w ∈ tables_1_2) : w ∈ tables_1 := List.mem_append_right _ (List.mem_append_left _ h)
theorem lw_t3 {w : Cond} (h : w ∈ tables_1_3) : w ∈ tables_1 := List.mem_append_right _ (List.mem_append_right _ (List.mem_append_left _ h))
theorem lw_t4 {w : Cond} (h : w ∈ tables_1_4) : w ∈ tables_1 := List.mem_append_right _ (List.mem_append_right _ (List.mem_append_right _ (List.mem_append_left _ h)))
theorem lw_t5 {w : Cond} (h : w ∈ tables_1_5) : w ∈ tables_1 := List.mem_append_right _ (List.mem_append_right _ (List.mem_append_right _ (List.mem_append_right _ (List.mem_append_left _ h))))
theorem lw_t6 {w : Cond} (h : w ∈ tables_1_6) : w ∈ tables_1 := List.mem_append_right _ (List.mem_append_right _ (List.mem_append_right _ (List.mem_append_right _ (List.mem_append_right _ (List.mem_append_left _ h)))))
theorem lw_t7 {w : Cond} (h : w ∈ tables_1_7) : w ∈ tables_1 := List.mem_append_right _ (List.mem_append_right _ (List.mem_append_right _ (List.mem_append_right _ (List.mem_append_right _ (List.mem_append_right _ (List.mem_append_left _ h))))))
theorem lw_t8 {w : Cond} (h : w ∈ tables_1_8) : w ∈ tables_1 := List.mem_append_right _ (List.mem_append_right _ (List.mem_append_right _ (List.mem_append_right _ (List.mem_append_right _ (List.mem_append_right _ (List.mem_append_right _ (List.mem_append_left _ h)))))))
theorem lw_t9 {w : Cond} (h : w ∈ tables_1_9) : w ∈ tables_1 := List.mem_append_right _ (List.mem_append_right _ (List.mem_append_right _ (List.mem_append_right _ (List.mem_append_right _ (List.mem_append_right _ (List.mem_append_right _ (List.mem_append_right _ h)))))))
theorem lw_p0 : lw_okq (⟨"LoanNames$Reader", "look", "()V"⟩, 7) := ⟨⟨by decide +kernel, by decide +kernel⟩, lw_t2 (List.mem_of_getElem? (i := 16) rfl), lw_t2 (List.mem_of_getElem? (i := 14) rfl), lw_t2 (List.mem_of_getElem? (i := 15) rfl)⟩
theorem lw_p1 : lw_okq (⟨"LoanNames$Reader", "isLetter", "(I)Z"⟩, 7) := ⟨⟨by decide +kernel, by decide +kernel⟩, lw_t2 (List.mem_of_getElem? (i := 16) rfl), lw_t2 (List.mem_of_getElem? (i := 19) rfl), lw_t2 (List.mem_of_getElem? (i := 20) rfl)⟩
theorem lw_p2 : lw_okq (⟨"LoanNames$Reader", "isDigit", "(I)Z"⟩, 7) := ⟨⟨by decide +kernel, by decide +kernel⟩, lw_t2 (List.mem_of_getElem? (i := 16) rfl), lw_t2 (List.mem_of_getElem? (i := 24) rfl), lw_t2 (List.mem_of_getElem? (i := 25) rfl)⟩
theorem lw_p3 : lw_okq (⟨"LoanNames$DealReader", "all", "()LLoanNames$All;"⟩, 11) := ⟨⟨by decide +kernel, by decide +kernel⟩, lw_t2 (List.mem_of_getElem? (i := 5) rfl), lw_t2 (List.mem_of_getElem? (i := 82) rfl), lw_t2 (List.mem_of_getElem? (i := 83) rfl)⟩
theorem lw_p4 : lw_okq (⟨"LoanNames$DealReader", "part", "()LLoanNames$Part;"⟩, 11) := ⟨⟨by decide +kernel, by decide +kernel⟩, lw_t2 (List.mem_of_getElem? (i := 5) rfl), lw_t2 (List.mem_of_getElem? (i := 104) rfl), lw_t2 (List.mem_of_getElem? (i := 105) rfl)⟩
theorem lw_p5 : lw_okq (⟨"LoanNames$DealReader", "leaf", "(I)LLoanNames$Part;"⟩, 11) := ⟨⟨by decide +kernel, by decide +kernel⟩, lw_t2 (List.mem_of_getElem? (i := 5) rfl), lw_t2 (List.mem_of_getElem? (i := 113) rfl), lw_t2 (List.mem_of_getElem? (i := 114) rfl)⟩
theorem lw_p6 : lw_okq (⟨"LoanNames$DealReader", "inner", "()LLoanNames$All;"⟩, 11) := ⟨⟨by decide +kernel, by decide +kernel⟩, lw_t2 (List.mem_of_getElem? (i := 5) rfl), lw_t3 (List.mem_of_getElem? (i := 26) rfl), lw_t3 (List.mem_of_getElem? (i := 27) rfl)⟩
theorem lw_p7 : lw_okq (⟨"LoanNames$DealReader", "choice", "()LLoanNames$Part;"⟩, 11) := ⟨⟨by decide +kernel, by decide +kernel⟩, lw_t2 (List.mem_of_getElem? (i := 5) rfl), lw_t3 (List.mem_of_getElem? (i := 87) rfl), lw_t3 (List.mem_of_getElem? (i := 88) rfl)⟩
theorem lw_p8 : lw_okq (⟨"LoanNames", "reads", "(III)LLoanNames$Law;"⟩, 17) := ⟨⟨by decide +kernel, by decide +kernel⟩, lw_t1 (List.mem_of_getElem? (i := 28) rfl), lw_t3 (List.mem_of_getElem? (i := 193) rfl), lw_t3 (List.mem_of_getElem? (i := 194) rfl)⟩
theorem lw_p9 : lw_okq (⟨"LoanNames$LawReader", "rule", "()LLoanNames$Rule;"⟩, 8) := ⟨⟨by decide +kernel, by decide +kernel⟩, lw_t3 (List.mem_of_getElem? (i := 197) rfl), lw_t3 (List.mem_of_getElem? (i := 221) rfl), lw_t3 (List.mem_of_getElem? (i := 222) rfl)⟩
theorem lw_p10 : lw_okq (⟨"LoanNames", "dealAt", "(I)LLoanNames$Deal;"⟩, 17) := ⟨⟨by decide +kernel, by decide +kernel⟩, lw_t1 (List.mem_of_getElem? (i := 28) rfl), lw_t4 (List.mem_of_getElem? (i := 67) rfl), lw_t4 (List.mem_of_getElem? (i := 68) rfl)⟩
theorem lw_p11 : lw_okq (⟨"LoanNames", "familiesOf", "(LLoanNames$Deal;)I"⟩, 17) := ⟨⟨by decide +kernel, by decide +kernel⟩, lw_t1 (List.mem_of_getElem? (i := 28) rfl), lw_t4 (List.mem_of_getElem? (i := 71) rfl), lw_t4 (List.mem_of_getElem? (i := 72) rfl)⟩
theorem lw_p12 : lw_okq (⟨"LoanNames", "areTwo", "(II)Z"⟩, 17) := ⟨⟨by decide +kernel, by decide +kernel⟩, lw_t1 (List.mem_of_getElem? (i := 28) rfl), lw_t5 (List.mem_of_getElem? (i := 167) rfl), lw_t5 (List.mem_of_getElem? (i := 168) rfl)⟩
theorem lw_p13 : lw_okq (⟨"LoanNames$Bundle", "dayAt", "(I)I"⟩, 12) := ⟨⟨by decide +kernel, by decide +kernel⟩, lw_t1 (List.mem_of_getElem? (i := 62) rfl), lw_t5 (List.mem_of_getElem? (i := 183) rfl), lw_t5 (List.mem_of_getElem? (i := 184) rfl)⟩
theorem lw_p14 : lw_okq (⟨"LoanNames$Bundle", "gets", "(IIJ)V"⟩, 12) := ⟨⟨by decide +kernel, by decide +kernel⟩, lw_t1 (List.mem_of_getElem? (i := 62) rfl), lw_t5 (List.mem_of_getElem? (i := 187) rfl), lw_t5 (List.mem_of_getElem? (i := 188) rfl)⟩
theorem lw_p15 : lw_okq (⟨"LoanNames$Bundle", "isEven", "(I)Z"⟩, 12) := ⟨⟨by decide +kernel, by decide +kernel⟩, lw_t1 (List.mem_of_getElem? (i := 62) rfl), lw_t5 (List.mem_of_getElem? (i := 195) rfl), lw_t5 (List.mem_of_getElem? (i := 196) rfl)⟩
def lw_privs_1 : List (MethodName × Nat) := [(⟨"LoanNames$Reader", "look", "()V"⟩, 7), (⟨"LoanNames$Reader", "isLetter", "(I)Z"⟩, 7), (⟨"LoanNames$Reader", "isDigit", "(I)Z"⟩, 7), (⟨"LoanNames$DealReader", "all", "()LLoanNames$All;"⟩, 11), (⟨"LoanNames$DealReader", "part", "()LLoanNames$Part;"⟩, 11), (⟨"LoanNames$DealReader", "leaf", "(I)LLoanNames$Part;"⟩, 11), (⟨"LoanNames$DealReader", "inner", "()LLoanNames$All;"⟩, 11), (⟨"LoanNames$DealReader", "choice", "()LLoanNames$Part;"⟩, 11), (⟨"LoanNames", "reads", "(III)LLoanNames$Law;"⟩, 17), (⟨"LoanNames$LawReader", "rule", "()LLoanNames$Rule;"⟩, 8), (⟨"LoanNames", "dealAt", "(I)LLoanNames$Deal;"⟩, 17), (⟨"LoanNames", "familiesOf", "(LLoanNames$Deal;)I"⟩, 17), (⟨"LoanNames", "areTwo", "(II)Z"⟩, 17), (⟨"LoanNames$Bundle", "dayAt", "(I)I"⟩, 12), (⟨"LoanNames$Bundle", "gets", "(IIJ)V"⟩, 12), (⟨"LoanNames$Bundle", "isEven", "(I)Z"⟩, 12)]
theorem lw_r1 : ∀ q ∈ lw_privs_1, lw_okq q := List.forall_mem_cons.mpr ⟨lw_p0, List.forall_mem_cons.mpr ⟨lw_p1, List.forall_mem_cons.mpr ⟨lw_p2, List.forall_mem_cons.mpr ⟨lw_p3, List.forall_mem_cons.mpr ⟨lw_p4, List.forall_mem_cons.mpr ⟨lw_p5, List.forall_mem_cons.mpr ⟨lw_p6, List.forall_mem_cons.mpr ⟨lw_p7, List.forall_mem_cons.mpr ⟨lw_p8, List.forall_mem_cons.mpr ⟨lw_p9, List.forall_mem_cons.mpr ⟨lw_p10, List.forall_mem_cons.mpr ⟨lw_p11, List.forall_mem_cons.mpr ⟨lw_p12, List.forall_mem_cons.mpr ⟨lw_p13, List.forall_mem_cons.mpr ⟨lw_p14, List.forall_mem_cons.mpr ⟨lw_p15, fun _ h => absurd h List.not_mem_nil⟩⟩⟩⟩⟩⟩⟩⟩⟩⟩⟩⟩⟩⟩⟩⟩
theorem lw_p16 : lw_okq (⟨"LoanNames$Bundle", "firstDay", "(I)I"⟩, 12) := ⟨⟨by decide +kernel, by decide +kernel⟩, lw_t1 (List.mem_of_getElem? (i := 62) rfl), lw_t5 (List.mem_of_getElem? (i := 203) rfl), lw_t5 (List.mem_of_getElem? (i := 204) rfl)⟩
theorem lw_p17 : lw_okq (⟨"LoanNames", "isSly", "(I)Z"⟩, 17) := ⟨⟨by decide +kernel, by decide +kernel⟩, lw_t1 (List.mem_of_getElem? (i := 28) rfl), lw_t6 (List.mem_of_getElem? (i := 56) rfl), lw_t6 (List.mem_of_getElem? (i := 57) rfl)⟩
theorem lw_p18 : lw_okq (⟨"LoanNames", "areAlike", "(LLoanNames$Bundle;LLoanNames$Bundle;I)Z"⟩, 17) := ⟨⟨by decide +kernel, by decide +kernel⟩, lw_t1 (List.mem_of_getElem? (i := 28) rfl), lw_t6 (List.mem_of_getElem? (i := 79) rfl), lw_t6 (List.mem_of_getElem? (i := 80) rfl)⟩
theorem lw_p19 : lw_okq (⟨"LoanNames", "barring", "(LLoanNames$Bundle;)I"⟩, 17) := ⟨⟨by decide +kernel, by decide +kernel⟩, lw_t1 (List.mem_of_getElem? (i := 28) rfl), lw_t6 (List.mem_of_getElem? (i := 87) rfl), lw_t6 (List.mem_of_getElem? (i := 88) rfl)⟩
theorem lw_p20 : lw_okq (⟨"LoanNames", "groups", "(I)V"⟩, 17) := ⟨⟨by decide +kernel, by decide +kernel⟩, lw_t1 (List.mem_of_getElem? (i := 28) rfl), lw_t6 (List.mem_of_getElem? (i := 95) rfl), lw_t6 (List.mem_of_getElem? (i := 96) rfl)⟩
theorem lw_p21 : lw_okq (⟨"LoanNames", "hang", "(LLoanNames$Deal;LLoanNames$Deal;I)Z"⟩, 17) := ⟨⟨by decide +kernel, by decide +kernel⟩, lw_t1 (List.mem_of_getElem? (i := 28) rfl), lw_t6 (List.mem_of_getElem? (i := 99) rfl), lw_t6 (List.mem_of_getElem? (i := 100) rfl)⟩
theorem lw_p22 : lw_okq (⟨"LoanNamesModel", "beginsText", "(I)V"⟩, 93) := ⟨⟨by decide +kernel, by decide +kernel⟩, lw_t6 (List.mem_of_getElem? (i := 114) rfl), lw_t7 (List.mem_of_getElem? (i := 175) rfl), lw_t7 (List.mem_of_getElem? (i := 176) rfl)⟩
theorem lw_p23 : lw_okq (⟨"LoanNamesModel", "next", "()V"⟩, 93) := ⟨⟨by decide +kernel, by decide +kernel⟩, lw_t6 (List.mem_of_getElem? (i := 114) rfl), lw_t7 (List.mem_of_getElem? (i := 179) rfl), lw_t7 (List.mem_of_getElem? (i := 180) rfl)⟩
theorem lw_p24 : lw_okq (⟨"LoanNamesModel", "here", "()I"⟩, 93) := ⟨⟨by decide +kernel, by decide +kernel⟩, lw_t6 (List.mem_of_getElem? (i := 114) rfl), lw_t7 (List.mem_of_getElem? (i := 183) rfl), lw_t7 (List.mem_of_getElem? (i := 184) rfl)⟩
theorem lw_p25 : lw_okq (⟨"LoanNamesModel", "kindHere", "()I"⟩, 93) := ⟨⟨by decide +kernel, by decide +kernel⟩, lw_t6 (List.mem_of_getElem? (i := 114) rfl), lw_t7 (List.mem_of_getElem? (i := 190) rfl), lw_t7 (List.mem_of_getElem? (i := 191) rfl)⟩
theorem lw_p26 : lw_okq (⟨"LoanNamesModel", "errs", "()V"⟩, 93) := ⟨⟨by decide +kernel, by decide +kernel⟩, lw_t6 (List.mem_of_getElem? (i := 114) rfl), lw_t7 (List.mem_of_getElem? (i := 202) rfl), lw_t7 (List.mem_of_getElem? (i := 203) rfl)⟩
theorem lw_p27 : lw_okq (⟨"LoanNamesModel", "readLeaf", "(I)V"⟩, 93) := ⟨⟨by decide +kernel, by decide +kernel⟩, lw_t6 (List.mem_of_getElem? (i := 114) rfl), lw_t7 (List.mem_of_getElem? (i := 206) rfl), lw_t7 (List.mem_of_getElem? (i := 207) rfl)⟩
theorem lw_p28 : lw_okq (⟨"LoanNamesModel", "newNode", "(I)I"⟩, 93) := ⟨⟨by decide +kernel, by decide +kernel⟩, lw_t6 (List.mem_of_getElem? (i := 114) rfl), lw_t7 (List.mem_of_getElem? (i := 210) rfl), lw_t7 (List.mem_of_getElem? (i := 211) rfl)⟩
theorem lw_p29 : lw_okq (⟨"LoanNamesModel", "hand", "(I)I"⟩, 93) := ⟨⟨by decide +kernel, by decide +kernel⟩, lw_t6 (List.mem_of_getElem? (i := 114) rfl), lw_t7 (List.mem_of_getElem? (i := 214) rfl), lw_t7 (List.mem_of_getElem? (i := 215) rfl)⟩
theorem lw_p30 : lw_okq (⟨"LoanNamesModel", "thingOf", "()I"⟩, 93) := ⟨⟨by decide +kernel, by decide +kernel⟩, lw_t6 (List.mem_of_getElem? (i := 114) rfl), lw_t7 (List.mem_of_getElem? (i := 219) rfl), lw_t7 (List.mem_of_getElem? (i := 220) rfl)⟩
theorem lw_p31 : lw_okq (⟨"LoanNamesModel", "thingHere", "()I"⟩, 93) := ⟨⟨by decide +kernel, by decide +kernel⟩, lw_t6 (List.mem_of_getElem? (i := 114) rfl), lw_t7 (List.mem_of_getElem? (i := 223) rfl), lw_t7 (List.mem_of_getElem? (i := 224) rfl)⟩
def lw_privs_2 : List (MethodName × Nat) := [(⟨"LoanNames$Bundle", "firstDay", "(I)I"⟩, 12), (⟨"LoanNames", "isSly", "(I)Z"⟩, 17), (⟨"LoanNames", "areAlike", "(LLoanNames$Bundle;LLoanNames$Bundle;I)Z"⟩, 17), (⟨"LoanNames", "barring", "(LLoanNames$Bundle;)I"⟩, 17), (⟨"LoanNames", "groups", "(I)V"⟩, 17), (⟨"LoanNames", "hang", "(LLoanNames$Deal;LLoanNames$Deal;I)Z"⟩, 17), (⟨"LoanNamesModel", "beginsText", "(I)V"⟩, 93), (⟨"LoanNamesModel", "next", "()V"⟩, 93), (⟨"LoanNamesModel", "here", "()I"⟩, 93), (⟨"LoanNamesModel", "kindHere", "()I"⟩, 93), (⟨"LoanNamesModel", "errs", "()V"⟩, 93), (⟨"LoanNamesModel", "readLeaf", "(I)V"⟩, 93), (⟨"LoanNamesModel", "newNode", "(I)I"⟩, 93), (⟨"LoanNamesModel", "hand", "(I)I"⟩, 93), (⟨"LoanNamesModel", "thingOf", "()I"⟩, 93), (⟨"LoanNamesModel", "thingHere", "()I"⟩, 93)]
theorem lw_r2 : ∀ q ∈ lw_privs_2, lw_okq q := List.forall_mem_cons.mpr ⟨lw_p16, List.forall_mem_cons.mpr ⟨lw_p17, List.forall_mem_cons.mpr ⟨lw_p18, List.forall_mem_cons.mpr ⟨lw_p19, List.forall_mem_cons.mpr ⟨lw_p20, List.forall_mem_cons.mpr ⟨lw_p21, List.forall_mem_cons.mpr ⟨lw_p22, List.forall_mem_cons.mpr ⟨lw_p23, List.forall_mem_cons.mpr ⟨lw_p24, List.forall_mem_cons.mpr ⟨lw_p25, List.forall_mem_cons.mpr ⟨lw_p26, List.forall_mem_cons.mpr ⟨lw_p27, List.forall_mem_cons.mpr ⟨lw_p28, List.forall_mem_cons.mpr ⟨lw_p29, List.forall_mem_cons.mpr ⟨lw_p30, List.forall_mem_cons.mpr ⟨lw_p31, fun _ h => absurd h List.not_mem_nil⟩⟩⟩⟩⟩⟩⟩⟩⟩⟩⟩⟩⟩⟩⟩⟩
theorem lw_p32 : lw_okq (⟨"LoanNamesModel", "numeral", "(II)I"⟩, 93) := ⟨⟨by decide +kernel, by decide +kernel⟩, lw_t6 (List.mem_of_getElem? (i := 114) rfl), lw_t7 (List.mem_of_getElem? (i := 233) rfl), lw_t7 (List.mem_of_getElem? (i := 234) rfl)⟩
theorem lw_p33 : lw_okq (⟨"LoanNamesModel", "mustBe", "(J)V"⟩, 93) := ⟨⟨by decide +kernel, by decide +kernel⟩, lw_t6 (List.mem_of_getElem? (i := 114) rfl), lw_t7 (List.mem_of_getElem? (i := 238) rfl), lw_t7 (List.mem_of_getElem? (i := 239) rfl)⟩
theorem lw_p34 : lw_okq (⟨"LoanNamesModel", "is", "(J)Z"⟩, 93) := ⟨⟨by decide +kernel, by decide +kernel⟩, lw_t6 (List.mem_of_getElem? (i := 114) rfl), lw_t8 (List.mem_of_getElem? (i := 2) rfl), lw_t8 (List.mem_of_getElem? (i := 3) rfl)⟩
theorem lw_p35 : lw_okq (⟨"LoanNamesModel", "closes", "()Z"⟩, 93) := ⟨⟨by decide +kernel, by decide +kernel⟩, lw_t6 (List.mem_of_getElem? (i := 114) rfl), lw_t8 (List.mem_of_getElem? (i := 9) rfl), lw_t8 (List.mem_of_getElem? (i := 10) rfl)⟩
theorem lw_p36 : lw_okq (⟨"LoanNamesModel", "opens", "(II)V"⟩, 93) := ⟨⟨by decide +kernel, by decide +kernel⟩, lw_t6 (List.mem_of_getElem? (i := 114) rfl), lw_t8 (List.mem_of_getElem? (i := 15) rfl), lw_t8 (List.mem_of_getElem? (i := 16) rfl)⟩
theorem lw_p37 : lw_okq (⟨"LoanNamesModel", "readGroup", "(I)V"⟩, 93) := ⟨⟨by decide +kernel, by decide +kernel⟩, lw_t6 (List.mem_of_getElem? (i := 114) rfl), lw_t8 (List.mem_of_getElem? (i := 19) rfl), lw_t8 (List.mem_of_getElem? (i := 20) rfl)⟩
theorem lw_p38 : lw_okq (⟨"LoanNamesModel", "eventHere", "()I"⟩, 93) := ⟨⟨by decide +kernel, by decide +kernel⟩, lw_t6 (List.mem_of_getElem? (i := 114) rfl), lw_t8 (List.mem_of_getElem? (i := 23) rfl), lw_t8 (List.mem_of_getElem? (i := 24) rfl)⟩
theorem lw_p39 : lw_okq (⟨"LoanNamesModel", "isDeal", "(I)Z"⟩, 93) := ⟨⟨by decide +kernel, by decide +kernel⟩, lw_t6 (List.mem_of_getElem? (i := 114) rfl), lw_t8 (List.mem_of_getElem? (i := 40) rfl), lw_t8 (List.mem_of_getElem? (i := 41) rfl)⟩
theorem lw_p40 : lw_okq (⟨"LoanNamesModel", "isLeaf", "(I)Z"⟩, 93) := ⟨⟨by decide +kernel, by decide +kernel⟩, lw_t6 (List.mem_of_getElem? (i := 114) rfl), lw_t8 (List.mem_of_getElem? (i := 44) rfl), lw_t8 (List.mem_of_getElem? (i := 45) rfl)⟩
theorem lw_p41 : lw_okq (⟨"LoanNamesModel", "told", "(II)I"⟩, 93) := ⟨⟨by decide +kernel, by decide +kernel⟩, lw_t6 (List.mem_of_getElem? (i := 114) rfl), lw_t8 (List.mem_of_getElem? (i := 52) rfl), lw_t8 (List.mem_of_getElem? (i := 53) rfl)⟩
theorem lw_p42 : lw_okq (⟨"LoanNamesModel", "later", "(I)I"⟩, 93) := ⟨⟨by decide +kernel, by decide +kernel⟩, lw_t6 (List.mem_of_getElem? (i := 114) rfl), lw_t8 (List.mem_of_getElem? (i := 56) rfl), lw_t8 (List.mem_of_getElem? (i := 57) rfl)⟩
theorem lw_p43 : lw_okq (⟨"LoanNamesModel", "simplifies", "(II)V"⟩, 93) := ⟨⟨by decide +kernel, by decide +kernel⟩, lw_t6 (List.mem_of_getElem? (i := 114) rfl), lw_t8 (List.mem_of_getElem? (i := 64) rfl), lw_t8 (List.mem_of_getElem? (i := 65) rfl)⟩
theorem lw_p44 : lw_okq (⟨"LoanNamesModel", "partsLeft", "(III)I"⟩, 93) := ⟨⟨by decide +kernel, by decide +kernel⟩, lw_t6 (List.mem_of_getElem? (i := 114) rfl), lw_t8 (List.mem_of_getElem? (i := 68) rfl), lw_t8 (List.mem_of_getElem? (i := 69) rfl)⟩
theorem lw_p45 : lw_okq (⟨"LoanNamesModel", "areAlike", "(II)Z"⟩, 93) := ⟨⟨by decide +kernel, by decide +kernel⟩, lw_t6 (List.mem_of_getElem? (i := 114) rfl), lw_t8 (List.mem_of_getElem? (i := 72) rfl), lw_t8 (List.mem_of_getElem? (i := 73) rfl)⟩
theorem lw_p46 : lw_okq (⟨"LoanNamesModel", "laysOut", "(IIII)I"⟩, 93) := ⟨⟨by decide +kernel, by decide +kernel⟩, lw_t6 (List.mem_of_getElem? (i := 114) rfl), lw_t8 (List.mem_of_getElem? (i := 76) rfl), lw_t8 (List.mem_of_getElem? (i := 77) rfl)⟩
theorem lw_p47 : lw_okq (⟨"LoanNamesModel", "closesUp", "(II)V"⟩, 93) := ⟨⟨by decide +kernel, by decide +kernel⟩, lw_t6 (List.mem_of_getElem? (i := 114) rfl), lw_t8 (List.mem_of_getElem? (i := 80) rfl), lw_t8 (List.mem_of_getElem? (i := 81) rfl)⟩
def lw_privs_3 : List (MethodName × Nat) := [(⟨"LoanNamesModel", "numeral", "(II)I"⟩, 93), (⟨"LoanNamesModel", "mustBe", "(J)V"⟩, 93), (⟨"LoanNamesModel", "is", "(J)Z"⟩, 93), (⟨"LoanNamesModel", "closes", "()Z"⟩, 93), (⟨"LoanNamesModel", "opens", "(II)V"⟩, 93), (⟨"LoanNamesModel", "readGroup", "(I)V"⟩, 93), (⟨"LoanNamesModel", "eventHere", "()I"⟩, 93), (⟨"LoanNamesModel", "isDeal", "(I)Z"⟩, 93), (⟨"LoanNamesModel", "isLeaf", "(I)Z"⟩, 93), (⟨"LoanNamesModel", "told", "(II)I"⟩, 93), (⟨"LoanNamesModel", "later", "(I)I"⟩, 93), (⟨"LoanNamesModel", "simplifies", "(II)V"⟩, 93), (⟨"LoanNamesModel", "partsLeft", "(III)I"⟩, 93), (⟨"LoanNamesModel", "areAlike", "(II)Z"⟩, 93), (⟨"LoanNamesModel", "laysOut", "(IIII)I"⟩, 93), (⟨"LoanNamesModel", "closesUp", "(II)V"⟩, 93)]
theorem lw_r3 : ∀ q ∈ lw_privs_3, lw_okq q := List.forall_mem_cons.mpr ⟨lw_p32, List.forall_mem_cons.mpr ⟨lw_p33, List.forall_mem_cons.mpr ⟨lw_p34, List.forall_mem_cons.mpr ⟨lw_p35, List.forall_mem_cons.mpr ⟨lw_p36, List.forall_mem_cons.mpr ⟨lw_p37, List.forall_mem_cons.mpr ⟨lw_p38, List.forall_mem_cons.mpr ⟨lw_p39, List.forall_mem_cons.mpr ⟨lw_p40, List.forall_mem_cons.mpr ⟨lw_p41, List.forall_mem_cons.mpr ⟨lw_p42, List.forall_mem_cons.mpr ⟨lw_p43, List.forall_mem_cons.mpr ⟨lw_p44, List.forall_mem_cons.mpr ⟨lw_p45, List.forall_mem_cons.mpr ⟨lw_p46, List.forall_mem_cons.mpr ⟨lw_p47, fun _ h => absurd h List.not_mem_nil⟩⟩⟩⟩⟩⟩⟩⟩⟩⟩⟩⟩⟩⟩⟩⟩
theorem lw_p48 : lw_okq (⟨"LoanNamesModel", "sign", "(II)V"⟩, 93) := ⟨⟨by decide +kernel, by decide +kernel⟩, lw_t6 (List.mem_of_getElem? (i := 114) rfl), lw_t8 (List.mem_of_getElem? (i := 84) rfl), lw_t8 (List.mem_of_getElem? (i := 85) rfl)⟩
theorem lw_p49 : lw_okq (⟨"LoanNamesModel", "partLeft", "(III)I"⟩, 93) := ⟨⟨by decide +kernel, by decide +kernel⟩, lw_t6 (List.mem_of_getElem? (i := 114) rfl), lw_t8 (List.mem_of_getElem? (i := 88) rfl), lw_t8 (List.mem_of_getElem? (i := 89) rfl)⟩
theorem lw_p50 : lw_okq (⟨"LoanNamesModel", "passes", "(III)V"⟩, 93) := ⟨⟨by decide +kernel, by decide +kernel⟩, lw_t6 (List.mem_of_getElem? (i := 114) rfl), lw_t8 (List.mem_of_getElem? (i := 96) rfl), lw_t8 (List.mem_of_getElem? (i := 97) rfl)⟩
theorem lw_p51 : lw_okq (⟨"LoanNamesModel", "times", "(III)J"⟩, 93) := ⟨⟨by decide +kernel, by decide +kernel⟩, lw_t6 (List.mem_of_getElem? (i := 114) rfl), lw_t8 (List.mem_of_getElem? (i := 100) rfl), lw_t8 (List.mem_of_getElem? (i := 101) rfl)⟩
theorem lw_p52 : lw_okq (⟨"LoanNamesModel", "flow", "(IIIIJ)V"⟩, 93) := ⟨⟨by decide +kernel, by decide +kernel⟩, lw_t6 (List.mem_of_getElem? (i := 114) rfl), lw_t8 (List.mem_of_getElem? (i := 104) rfl), lw_t8 (List.mem_of_getElem? (i := 105) rfl)⟩
theorem lw_p53 : lw_okq (⟨"LoanNamesModel", "among", "(III)J"⟩, 93) := ⟨⟨by decide +kernel, by decide +kernel⟩, lw_t6 (List.mem_of_getElem? (i := 114) rfl), lw_t8 (List.mem_of_getElem? (i := 108) rfl), lw_t8 (List.mem_of_getElem? (i := 109) rfl)⟩
theorem lw_p54 : lw_okq (⟨"LoanNamesModel", "bundleAtHand", "()V"⟩, 93) := ⟨⟨by decide +kernel, by decide +kernel⟩, lw_t6 (List.mem_of_getElem? (i := 114) rfl), lw_t8 (List.mem_of_getElem? (i := 124) rfl), lw_t8 (List.mem_of_getElem? (i := 125) rfl)⟩
theorem lw_p55 : lw_okq (⟨"LoanNamesModel", "codesAtHand", "()I"⟩, 93) := ⟨⟨by decide +kernel, by decide +kernel⟩, lw_t6 (List.mem_of_getElem? (i := 114) rfl), lw_t8 (List.mem_of_getElem? (i := 128) rfl), lw_t8 (List.mem_of_getElem? (i := 129) rfl)⟩
theorem lw_p56 : lw_okq (⟨"LoanNamesModel", "choicesAtHand", "()I"⟩, 93) := ⟨⟨by decide +kernel, by decide +kernel⟩, lw_t6 (List.mem_of_getElem? (i := 114) rfl), lw_t8 (List.mem_of_getElem? (i := 132) rfl), lw_t8 (List.mem_of_getElem? (i := 133) rfl)⟩
theorem lw_p57 : lw_okq (⟨"LoanNamesModel", "rowsOfDeal", "(III)I"⟩, 93) := ⟨⟨by decide +kernel, by decide +kernel⟩, lw_t6 (List.mem_of_getElem? (i := 114) rfl), lw_t8 (List.mem_of_getElem? (i := 136) rfl), lw_t8 (List.mem_of_getElem? (i := 137) rfl)⟩
theorem lw_p58 : lw_okq (⟨"LoanNamesModel", "rowsOf", "(I)I"⟩, 93) := ⟨⟨by decide +kernel, by decide +kernel⟩, lw_t6 (List.mem_of_getElem? (i := 114) rfl), lw_t8 (List.mem_of_getElem? (i := 140) rfl), lw_t8 (List.mem_of_getElem? (i := 141) rfl)⟩
theorem lw_p59 : lw_okq (⟨"LoanNamesModel", "findRow", "(IIII)V"⟩, 93) := ⟨⟨by decide +kernel, by decide +kernel⟩, lw_t6 (List.mem_of_getElem? (i := 114) rfl), lw_t8 (List.mem_of_getElem? (i := 144) rfl), lw_t8 (List.mem_of_getElem? (i := 145) rfl)⟩
theorem lw_p60 : lw_okq (⟨"LoanNamesModel", "rowTold", "(I)J"⟩, 93) := ⟨⟨by decide +kernel, by decide +kernel⟩, lw_t6 (List.mem_of_getElem? (i := 114) rfl), lw_t8 (List.mem_of_getElem? (i := 148) rfl), lw_t8 (List.mem_of_getElem? (i := 149) rfl)⟩
theorem lw_p61 : lw_okq (⟨"LoanNamesModel", "passesAll", "(I)V"⟩, 93) := ⟨⟨by decide +kernel, by decide +kernel⟩, lw_t6 (List.mem_of_getElem? (i := 114) rfl), lw_t8 (List.mem_of_getElem? (i := 157) rfl), lw_t8 (List.mem_of_getElem? (i := 158) rfl)⟩
theorem lw_p62 : lw_okq (⟨"LoanNamesModel", "netOf", "(III)J"⟩, 93) := ⟨⟨by decide +kernel, by decide +kernel⟩, lw_t6 (List.mem_of_getElem? (i := 114) rfl), lw_t8 (List.mem_of_getElem? (i := 161) rfl), lw_t8 (List.mem_of_getElem? (i := 162) rfl)⟩
theorem lw_p63 : lw_okq (⟨"LoanNamesModel", "isLookedAt", "()Z"⟩, 93) := ⟨⟨by decide +kernel, by decide +kernel⟩, lw_t6 (List.mem_of_getElem? (i := 114) rfl), lw_t8 (List.mem_of_getElem? (i := 169) rfl), lw_t8 (List.mem_of_getElem? (i := 170) rfl)⟩
def lw_privs_4 : List (MethodName × Nat) := [(⟨"LoanNamesModel", "sign", "(II)V"⟩, 93), (⟨"LoanNamesModel", "partLeft", "(III)I"⟩, 93), (⟨"LoanNamesModel", "passes", "(III)V"⟩, 93), (⟨"LoanNamesModel", "times", "(III)J"⟩, 93), (⟨"LoanNamesModel", "flow", "(IIIIJ)V"⟩, 93), (⟨"LoanNamesModel", "among", "(III)J"⟩, 93), (⟨"LoanNamesModel", "bundleAtHand", "()V"⟩, 93), (⟨"LoanNamesModel", "codesAtHand", "()I"⟩, 93), (⟨"LoanNamesModel", "choicesAtHand", "()I"⟩, 93), (⟨"LoanNamesModel", "rowsOfDeal", "(III)I"⟩, 93), (⟨"LoanNamesModel", "rowsOf", "(I)I"⟩, 93), (⟨"LoanNamesModel", "findRow", "(IIII)V"⟩, 93), (⟨"LoanNamesModel", "rowTold", "(I)J"⟩, 93), (⟨"LoanNamesModel", "passesAll", "(I)V"⟩, 93), (⟨"LoanNamesModel", "netOf", "(III)J"⟩, 93), (⟨"LoanNamesModel", "isLookedAt", "()Z"⟩, 93)]
theorem lw_r4 : ∀ q ∈ lw_privs_4, lw_okq q := List.forall_mem_cons.mpr ⟨lw_p48, List.forall_mem_cons.mpr ⟨lw_p49, List.forall_mem_cons.mpr ⟨lw_p50, List.forall_mem_cons.mpr ⟨lw_p51, List.forall_mem_cons.mpr ⟨lw_p52, List.forall_mem_cons.mpr ⟨lw_p53, List.forall_mem_cons.mpr ⟨lw_p54, List.forall_mem_cons.mpr ⟨lw_p55, List.forall_mem_cons.mpr ⟨lw_p56, List.forall_mem_cons.mpr ⟨lw_p57, List.forall_mem_cons.mpr ⟨lw_p58, List.forall_mem_cons.mpr ⟨lw_p59, List.forall_mem_cons.mpr ⟨lw_p60, List.forall_mem_cons.mpr ⟨lw_p61, List.forall_mem_cons.mpr ⟨lw_p62, List.forall_mem_cons.mpr ⟨lw_p63, fun _ h => absurd h List.not_mem_nil⟩⟩⟩⟩⟩⟩⟩⟩⟩⟩⟩⟩⟩⟩⟩⟩
theorem lw_p64 : lw_okq (⟨"LoanNamesModel", "eventsAtHand", "()I"⟩, 93) := ⟨⟨by decide +kernel, by decide +kernel⟩, lw_t6 (List.mem_of_getElem? (i := 114) rfl), lw_t8 (List.mem_of_getElem? (i := 173) rfl), lw_t8 (List.mem_of_getElem? (i := 174) rfl)⟩
theorem lw_p65 : lw_okq (⟨"LoanNamesModel", "codeFrom", "(I)I"⟩, 93) := ⟨⟨by decide +kernel, by decide +kernel⟩, lw_t6 (List.mem_of_getElem? (i := 114) rfl), lw_t8 (List.mem_of_getElem? (i := 187) rfl), lw_t8 (List.mem_of_getElem? (i := 188) rfl)⟩
theorem lw_p66 : lw_okq (⟨"LoanNamesModel", "findLending", "(I)V"⟩, 93) := ⟨⟨by decide +kernel, by decide +kernel⟩, lw_t6 (List.mem_of_getElem? (i := 114) rfl), lw_t8 (List.mem_of_getElem? (i := 191) rfl), lw_t8 (List.mem_of_getElem? (i := 192) rfl)⟩
theorem lw_p67 : lw_okq (⟨"LoanNamesModel", "findDays", "()V"⟩, 93) := ⟨⟨by decide +kernel, by decide +kernel⟩, lw_t6 (List.mem_of_getElem? (i := 114) rfl), lw_t8 (List.mem_of_getElem? (i := 195) rfl), lw_t8 (List.mem_of_getElem? (i := 196) rfl)⟩
theorem lw_p68 : lw_okq (⟨"LoanNamesModel", "lendingDay", "(I)I"⟩, 93) := ⟨⟨by decide +kernel, by decide +kernel⟩, lw_t6 (List.mem_of_getElem? (i := 114) rfl), lw_t8 (List.mem_of_getElem? (i := 199) rfl), lw_t8 (List.mem_of_getElem? (i := 200) rfl)⟩
theorem lw_p69 : lw_okq (⟨"LoanNamesModel", "outOf", "(I)J"⟩, 93) := ⟨⟨by decide +kernel, by decide +kernel⟩, lw_t6 (List.mem_of_getElem? (i := 114) rfl), lw_t8 (List.mem_of_getElem? (i := 207) rfl), lw_t8 (List.mem_of_getElem? (i := 208) rfl)⟩
theorem lw_p70 : lw_okq (⟨"LoanNamesModel", "loanAtHand", "()I"⟩, 93) := ⟨⟨by decide +kernel, by decide +kernel⟩, lw_t6 (List.mem_of_getElem? (i := 114) rfl), lw_t8 (List.mem_of_getElem? (i := 221) rfl), lw_t8 (List.mem_of_getElem? (i := 222) rfl)⟩
theorem lw_p71 : lw_okq (⟨"LoanNamesModel", "readBars", "(II)I"⟩, 93) := ⟨⟨by decide +kernel, by decide +kernel⟩, lw_t6 (List.mem_of_getElem? (i := 114) rfl), lw_t9 (List.mem_of_getElem? (i := 1) rfl), lw_t9 (List.mem_of_getElem? (i := 2) rfl)⟩
theorem lw_p72 : lw_okq (⟨"LoanNamesModel", "readBar", "(I)V"⟩, 93) := ⟨⟨by decide +kernel, by decide +kernel⟩, lw_t6 (List.mem_of_getElem? (i := 114) rfl), lw_t9 (List.mem_of_getElem? (i := 5) rfl), lw_t9 (List.mem_of_getElem? (i := 6) rfl)⟩
theorem lw_p73 : lw_okq (⟨"LoanNamesModel", "formHere", "()I"⟩, 93) := ⟨⟨by decide +kernel, by decide +kernel⟩, lw_t6 (List.mem_of_getElem? (i := 114) rfl), lw_t9 (List.mem_of_getElem? (i := 10) rfl), lw_t9 (List.mem_of_getElem? (i := 11) rfl)⟩
theorem lw_p74 : lw_okq (⟨"LoanNamesModel", "ofHere", "()I"⟩, 93) := ⟨⟨by decide +kernel, by decide +kernel⟩, lw_t6 (List.mem_of_getElem? (i := 114) rfl), lw_t9 (List.mem_of_getElem? (i := 15) rfl), lw_t9 (List.mem_of_getElem? (i := 16) rfl)⟩
theorem lw_p75 : lw_okq (⟨"LoanNamesModel", "askedHere", "()I"⟩, 93) := ⟨⟨by decide +kernel, by decide +kernel⟩, lw_t6 (List.mem_of_getElem? (i := 114) rfl), lw_t9 (List.mem_of_getElem? (i := 21) rfl), lw_t9 (List.mem_of_getElem? (i := 22) rfl)⟩
theorem lw_p76 : lw_okq (⟨"LoanNamesModel", "breachNow", "()I"⟩, 93) := ⟨⟨by decide +kernel, by decide +kernel⟩, lw_t6 (List.mem_of_getElem? (i := 114) rfl), lw_t9 (List.mem_of_getElem? (i := 36) rfl), lw_t9 (List.mem_of_getElem? (i := 37) rfl)⟩
theorem lw_p77 : lw_okq (⟨"LoanNamesModel", "findLeaves", "()V"⟩, 93) := ⟨⟨by decide +kernel, by decide +kernel⟩, lw_t6 (List.mem_of_getElem? (i := 114) rfl), lw_t9 (List.mem_of_getElem? (i := 40) rfl), lw_t9 (List.mem_of_getElem? (i := 41) rfl)⟩
theorem lw_p78 : lw_okq (⟨"LoanNamesModel", "doesBar", "(I)Z"⟩, 93) := ⟨⟨by decide +kernel, by decide +kernel⟩, lw_t6 (List.mem_of_getElem? (i := 114) rfl), lw_t9 (List.mem_of_getElem? (i := 44) rfl), lw_t9 (List.mem_of_getElem? (i := 45) rfl)⟩
theorem lw_p79 : lw_okq (⟨"LoanNamesModel", "isOf", "(III)Z"⟩, 93) := ⟨⟨by decide +kernel, by decide +kernel⟩, lw_t6 (List.mem_of_getElem? (i := 114) rfl), lw_t9 (List.mem_of_getElem? (i := 48) rfl), lw_t9 (List.mem_of_getElem? (i := 49) rfl)⟩
def lw_privs_5 : List (MethodName × Nat) := [(⟨"LoanNamesModel", "eventsAtHand", "()I"⟩, 93), (⟨"LoanNamesModel", "codeFrom", "(I)I"⟩, 93), (⟨"LoanNamesModel", "findLending", "(I)V"⟩, 93), (⟨"LoanNamesModel", "findDays", "()V"⟩, 93), (⟨"LoanNamesModel", "lendingDay", "(I)I"⟩, 93), (⟨"LoanNamesModel", "outOf", "(I)J"⟩, 93), (⟨"LoanNamesModel", "loanAtHand", "()I"⟩, 93), (⟨"LoanNamesModel", "readBars", "(II)I"⟩, 93), (⟨"LoanNamesModel", "readBar", "(I)V"⟩, 93), (⟨"LoanNamesModel", "formHere", "()I"⟩, 93), (⟨"LoanNamesModel", "ofHere", "()I"⟩, 93), (⟨"LoanNamesModel", "askedHere", "()I"⟩, 93), (⟨"LoanNamesModel", "breachNow", "()I"⟩, 93), (⟨"LoanNamesModel", "findLeaves", "()V"⟩, 93), (⟨"LoanNamesModel", "doesBar", "(I)Z"⟩, 93), (⟨"LoanNamesModel", "isOf", "(III)Z"⟩, 93)]
theorem lw_r5 : ∀ q ∈ lw_privs_5, lw_okq q := List.forall_mem_cons.mpr ⟨lw_p64, List.forall_mem_cons.mpr ⟨lw_p65, List.forall_mem_cons.mpr ⟨lw_p66, List.forall_mem_cons.mpr ⟨lw_p67, List.forall_mem_cons.mpr ⟨lw_p68, List.forall_mem_cons.mpr ⟨lw_p69, List.forall_mem_cons.mpr ⟨lw_p70, List.forall_mem_cons.mpr ⟨lw_p71, List.forall_mem_cons.mpr ⟨lw_p72, List.forall_mem_cons.mpr ⟨lw_p73, List.forall_mem_cons.mpr ⟨lw_p74, List.forall_mem_cons.mpr ⟨lw_p75, List.forall_mem_cons.mpr ⟨lw_p76, List.forall_mem_cons.mpr ⟨lw_p77, List.forall_mem_cons.mpr ⟨lw_p78, List.forall_mem_cons.mpr ⟨lw_p79, fun _ h => absurd h List.not_mem_nil⟩⟩⟩⟩⟩⟩⟩⟩⟩⟩⟩⟩⟩⟩⟩⟩
theorem lw_p80 : lw_okq (⟨"LoanNamesModel", "isPair", "(III)Z"⟩, 93) := ⟨⟨by decide +kernel, by decide +kernel⟩, lw_t6 (List.mem_of_getElem? (i := 114) rfl), lw_t9 (List.mem_of_getElem? (i := 52) rfl), lw_t9 (List.mem_of_getElem? (i := 53) rfl)⟩
theorem lw_p81 : lw_okq (⟨"LoanNamesModel", "doesWordBar", "(I)Z"⟩, 93) := ⟨⟨by decide +kernel, by decide +kernel⟩, lw_t6 (List.mem_of_getElem? (i := 114) rfl), lw_t9 (List.mem_of_getElem? (i := 60) rfl), lw_t9 (List.mem_of_getElem? (i := 61) rfl)⟩
theorem lw_p82 : lw_okq (⟨"LoanNamesModel", "findSly", "(I)V"⟩, 93) := ⟨⟨by decide +kernel, by decide +kernel⟩, lw_t6 (List.mem_of_getElem? (i := 114) rfl), lw_t9 (List.mem_of_getElem? (i := 72) rfl), lw_t9 (List.mem_of_getElem? (i := 73) rfl)⟩
theorem lw_p83 : lw_okq (⟨"LoanNamesModel", "wordsThatBar", "()I"⟩, 93) := ⟨⟨by decide +kernel, by decide +kernel⟩, lw_t6 (List.mem_of_getElem? (i := 114) rfl), lw_t9 (List.mem_of_getElem? (i := 76) rfl), lw_t9 (List.mem_of_getElem? (i := 77) rfl)⟩
theorem lw_p84 : lw_okq (⟨"LoanNamesModel", "honestAtHand", "(I)V"⟩, 93) := ⟨⟨by decide +kernel, by decide +kernel⟩, lw_t6 (List.mem_of_getElem? (i := 114) rfl), lw_t9 (List.mem_of_getElem? (i := 88) rfl), lw_t9 (List.mem_of_getElem? (i := 89) rfl)⟩
theorem lw_p85 : lw_okq (⟨"LoanNamesModel", "doPart", "(II)Z"⟩, 93) := ⟨⟨by decide +kernel, by decide +kernel⟩, lw_t6 (List.mem_of_getElem? (i := 114) rfl), lw_t9 (List.mem_of_getElem? (i := 96) rfl), lw_t9 (List.mem_of_getElem? (i := 97) rfl)⟩
theorem lw_p86 : lw_okq (⟨"LoanNamesModel", "findGroups", "(I)V"⟩, 93) := ⟨⟨by decide +kernel, by decide +kernel⟩, lw_t6 (List.mem_of_getElem? (i := 114) rfl), lw_t9 (List.mem_of_getElem? (i := 108) rfl), lw_t9 (List.mem_of_getElem? (i := 109) rfl)⟩
theorem lw_p87 : lw_okq (⟨"LoanNamesModel", "doHang", "(III)Z"⟩, 93) := ⟨⟨by decide +kernel, by decide +kernel⟩, lw_t6 (List.mem_of_getElem? (i := 114) rfl), lw_t9 (List.mem_of_getElem? (i := 112) rfl), lw_t9 (List.mem_of_getElem? (i := 113) rfl)⟩
theorem lw_p88 : lw_okq (⟨"LoanNamesModel", "leavesTold", "()I"⟩, 93) := ⟨⟨by decide +kernel, by decide +kernel⟩, lw_t6 (List.mem_of_getElem? (i := 114) rfl), lw_t9 (List.mem_of_getElem? (i := 125) rfl), lw_t9 (List.mem_of_getElem? (i := 126) rfl)⟩
theorem lw_p89 : lw_okq (⟨"LoanNamesModel", "choicesTold", "()I"⟩, 93) := ⟨⟨by decide +kernel, by decide +kernel⟩, lw_t6 (List.mem_of_getElem? (i := 114) rfl), lw_t9 (List.mem_of_getElem? (i := 129) rfl), lw_t9 (List.mem_of_getElem? (i := 130) rfl)⟩
def lw_privs_6 : List (MethodName × Nat) := [(⟨"LoanNamesModel", "isPair", "(III)Z"⟩, 93), (⟨"LoanNamesModel", "doesWordBar", "(I)Z"⟩, 93), (⟨"LoanNamesModel", "findSly", "(I)V"⟩, 93), (⟨"LoanNamesModel", "wordsThatBar", "()I"⟩, 93), (⟨"LoanNamesModel", "honestAtHand", "(I)V"⟩, 93), (⟨"LoanNamesModel", "doPart", "(II)Z"⟩, 93), (⟨"LoanNamesModel", "findGroups", "(I)V"⟩, 93), (⟨"LoanNamesModel", "doHang", "(III)Z"⟩, 93), (⟨"LoanNamesModel", "leavesTold", "()I"⟩, 93), (⟨"LoanNamesModel", "choicesTold", "()I"⟩, 93)]
theorem lw_r6 : ∀ q ∈ lw_privs_6, lw_okq q := List.forall_mem_cons.mpr ⟨lw_p80, List.forall_mem_cons.mpr ⟨lw_p81, List.forall_mem_cons.mpr ⟨lw_p82, List.forall_mem_cons.mpr ⟨lw_p83, List.forall_mem_cons.mpr ⟨lw_p84, List.forall_mem_cons.mpr ⟨lw_p85, List.forall_mem_cons.mpr ⟨lw_p86, List.forall_mem_cons.mpr ⟨lw_p87, List.forall_mem_cons.mpr ⟨lw_p88, List.forall_mem_cons.mpr ⟨lw_p89, fun _ h => absurd h List.not_mem_nil⟩⟩⟩⟩⟩⟩⟩⟩⟩⟩
def lw_privs : List (MethodName × Nat) := lw_privs_1 ++ (lw_privs_2 ++ (lw_privs_3 ++ (lw_privs_4 ++ (lw_privs_5 ++ (lw_privs_6)))))
def lw_tbl : List Cond := k2_sels lw_privs ++ tables_1
theorem lw_privs_ok : ∀ q ∈ lw_privs, lw_okq q := by
  show ∀ q ∈ lw_privs_1 ++ (lw_privs_2 ++ (lw_privs_3 ++ (lw_privs_4 ++ (lw_privs_5 ++ (lw_privs_6))))), lw_okq q
  exact List.forall_mem_append.mpr ⟨lw_r1, List.forall_mem_append.mpr ⟨lw_r2, List.forall_mem_append.mpr ⟨lw_r3, List.forall_mem_append.mpr ⟨lw_r4, List.forall_mem_append.mpr ⟨lw_r5, lw_r6⟩⟩⟩⟩⟩
-- ===== ONE list of words for every method: the tables' words that hold all through a run =====
def lw_all : List Cond := lw_tbl.filter goodWord
/-- a word of the tables by its place: claim/WORDS.tsv -/
theorem lw_w {w : Cond} (i : Nat) (h : lw_tbl[i]? = some w) (g : goodWord w = true) : w ∈ lw_all := List.mem_filter.mpr ⟨List.mem_of_getElem? h, g⟩
theorem lw_all_tbl {w : Cond} (h : w ∈ lw_all) : w ∈ lw_tbl := (List.mem_filter.mp h).1
theorem lw_self : GoodIn lw_all lw_all := fun w h => ⟨h, good_of_word (List.mem_filter.mp h).2⟩
/-- a class's field words, by their places -/
theorem lw_in (ws : List Cond) (ps : List Nat) (hp : ws = ps.filterMap (fun i => lw_tbl[i]?)) (hg : ws.all goodWord = true) : ∀ w ∈ ws, w ∈ lw_all := by
  intro w h
  have h1 := List.all_eq_true.mp hg w h
  rw [hp] at h
  obtain ⟨i, -, hi⟩ := List.mem_filterMap.mp h
  exact lw_w i hi h1
/-- the words of a contract for the method y with code b, L locals, answer r -/
abbrev ws_ (y : MethodName) (b : ByteArray) (L : Nat) (r : Option FieldType) : List Cond := Cond.code y b L r :: lw_all
theorem lw_meth {y : MethodName} {b : ByteArray} {L : Nat} {r : Option FieldType} (h : Cond.code y b L r ∈ lw_all) : GoodIn lw_all (ws_ y b L r) := by
  intro w hw
  rcases List.mem_cons.mp hw with e | e
  · rw [e]
    exact lw_self _ h
  · exact lw_self _ e
theorem lw_app {a c : List Cond} (ha : ∀ w ∈ a, w ∈ lw_all) (hc : GoodIn lw_all c) : GoodIn lw_all (a ++ c) := by
  intro w hw
  rcases List.mem_append.mp hw with e | e
  · exact lw_self w (ha w e)
  · exact hc w e
/-- what a call through an object asks: cwV n hts (lw_V ..) -/
theorem lw_V {own : String} {idx : Nat} {C : String} {y : MethodName} {b : ByteArray} {L : Nat} {r : Option FieldType} (h1 : Cond.methodLink own idx y ∈ lw_all) (h2 : Cond.instanceMethod y ∈ lw_all) (h3 : Cond.selects C y y ∈ lw_all) (h4 : Cond.initialized C ∈ lw_all) (h5 : Cond.code y b L r ∈ lw_all) : GoodIn lw_all (wsV own idx C y (ws_ y b L r)) := by
  refine lw_app ?_ (lw_meth h5)
  intro w hw
  simp only [List.mem_cons, List.not_mem_nil, or_false] at hw
  rcases hw with e | e | e | e
  · rw [e]; exact h1
  · rw [e]; exact h2
  · rw [e]; exact h3
  · rw [e]; exact h4
/-- what a static call asks: va_cwS n hts (lw_S ..) -/
theorem lw_S {own : String} {idx : Nat} {y : MethodName} {b : ByteArray} {L : Nat} {r : Option FieldType} (h1 : Cond.methodLink own idx y ∈ lw_all) (h2 : Cond.static y ∈ lw_all) (h3 : Cond.initialized y.cls ∈ lw_all) (h4 : Cond.code y b L r ∈ lw_all) : GoodIn lw_all (va_wsS own idx y (ws_ y b L r)) := by
  refine lw_app ?_ (lw_meth h4)
  intro w hw
  simp only [List.mem_cons, List.not_mem_nil, or_false] at hw
  rcases hw with e | e | e
  · rw [e]; exact h1
  · rw [e]; exact h2
  · rw [e]; exact h3
/-- the words of a contract for a method WITH HANDLERS (hh: its table) -/
abbrev wsW_ (y : MethodName) (b : ByteArray) (L : Nat) (r : Option FieldType) (hh : List (Nat × Nat × Nat × Nat)) : List Cond := Cond.codeWith y b L r hh :: lw_all
theorem lw_methW {y : MethodName} {b : ByteArray} {L : Nat} {r : Option FieldType} {hh : List (Nat × Nat × Nat × Nat)} (h : Cond.codeWith y b L r hh ∈ lw_all) : GoodIn lw_all (wsW_ y b L r hh) := by
  intro w hw
  rcases List.mem_cons.mp hw with e | e
  · rw [e]
    exact lw_self _ h
  · exact lw_self _ e
/-- any list of words by their places (lw_in), good -/
theorem lw_good {ws : List Cond} (h : ∀ w ∈ ws, w ∈ lw_all) : GoodIn lw_all ws := fun w hw => lw_self w (h w hw)
/-- what a call of a method with handlers asks: vx_cwVW n hts (lw_VW ..), vx_cwSW n hts (lw_SW ..) -/
theorem lw_VW {own : String} {idx : Nat} {C : String} {y : MethodName} {b : ByteArray} {L : Nat} {r : Option FieldType} {hh : List (Nat × Nat × Nat × Nat)} (h1 : Cond.methodLink own idx y ∈ lw_all) (h2 : Cond.instanceMethod y ∈ lw_all) (h3 : Cond.selects C y y ∈ lw_all) (h4 : Cond.initialized C ∈ lw_all) (h5 : Cond.codeWith y b L r hh ∈ lw_all) : GoodIn lw_all (wsV own idx C y (wsW_ y b L r hh)) := by
  refine lw_app ?_ (lw_methW h5)
  intro w hw
  simp only [List.mem_cons, List.not_mem_nil, or_false] at hw
  rcases hw with e | e | e | e
  · rw [e]; exact h1
  · rw [e]; exact h2
  · rw [e]; exact h3
  · rw [e]; exact h4
theorem lw_SW {own : String} {idx : Nat} {y : MethodName} {b : ByteArray} {L : Nat} {r : Option FieldType} {hh : List (Nat × Nat × Nat × Nat)} (h1 : Cond.methodLink own idx y ∈ lw_all) (h2 : Cond.static y ∈ lw_all) (h3 : Cond.initialized y.cls ∈ lw_all) (h4 : Cond.codeWith y b L r hh ∈ lw_all) : GoodIn lw_all (va_wsS own idx y (wsW_ y b L r hh)) := by
  refine lw_app ?_ (lw_methW h4)
  intro w hw
  simp only [List.mem_cons, List.not_mem_nil, or_false] at hw
  rcases hw with e | e | e
  · rw [e]; exact h1
  · rw [e]; exact h2
  · rw [e]; exact h3
/-- a word by its place in its run of the tables -/
theorem lw_at {r : List Cond} (hr : ∀ w ∈ r, w ∈ lw_tbl) {w : Cond} (i : Nat) (h : r[i]? = some w) : w ∈ lw_tbl := hr w (List.mem_of_getElem? h)
theorem lw_g {w : Cond} (h : w ∈ lw_tbl) (g : goodWord w = true) : w ∈ lw_all := List.mem_filter.mpr ⟨h, g⟩
theorem lw_ms : ∀ w ∈ k2_sels lw_privs, w ∈ lw_tbl := fun w h => show w ∈ k2_sels lw_privs ++ tables_1 from List.mem_append_left _ h
theorem lw_m1 : ∀ w ∈ tables_1_1, w ∈ lw_tbl := fun w h => show w ∈ k2_sels lw_privs ++ tables_1 from List.mem_append_right (k2_sels lw_privs) (show w ∈ tables_1 from List.mem_append_left _ h)
theorem lw_m2 : ∀ w ∈ tables_1_2, w ∈ lw_tbl := fun w h => show w ∈ k2_sels lw_privs ++ tables_1 from List.mem_append_right (k2_sels lw_privs) (show w ∈ tables_1 from List.mem_append_right _ (List.mem_append_left _ h))
theorem lw_m3 : ∀ w ∈ tables_1_3, w ∈ lw_tbl := fun w h => show w ∈ k2_sels lw_privs ++ tables_1 from List.mem_append_right (k2_sels lw_privs) (show w ∈ tables_1 from List.mem_append_right _ (List.mem_append_right _ (List.mem_append_left _ h)))
theorem lw_m4 : ∀ w ∈ tables_1_4, w ∈ lw_tbl := fun w h => show w ∈ k2_sels lw_privs ++ tables_1 from List.mem_append_right (k2_sels lw_privs) (show w ∈ tables_1 from List.mem_append_right _ (List.mem_append_right _ (List.mem_append_right _ (List.mem_append_left _ h))))
theorem lw_m5 : ∀ w ∈ tables_1_5, w ∈ lw_tbl := fun w h => show w ∈ k2_sels lw_privs ++ tables_1 from List.mem_append_right (k2_sels lw_privs) (show w ∈ tables_1 from List.mem_append_right _ (List.mem_append_right _ (List.mem_append_right _ (List.mem_append_right _ (List.mem_append_left _ h)))))
theorem lw_m6 : ∀ w ∈ tables_1_6, w ∈ lw_tbl := fun w h => show w ∈ k2_sels lw_privs ++ tables_1 from List.mem_append_right (k2_sels lw_privs) (show w ∈ tables_1 from List.mem_append_right _ (List.mem_append_right _ (List.mem_append_right _ (List.mem_append_right _ (List.mem_append_right _ (List.mem_append_left _ h))))))
theorem lw_m7 : ∀ w ∈ tables_1_7, w ∈ lw_tbl := fun w h => show w ∈ k2_sels lw_privs ++ tables_1 from List.mem_append_right (k2_sels lw_privs) (show w ∈ tables_1 from List.mem_append_right _ (List.mem_append_right _ (List.mem_append_right _ (List.mem_append_right _ (List.mem_append_right _ (List.mem_append_right _ (List.mem_append_left _ h)))))))
theorem lw_m8 : ∀ w ∈ tables_1_8, w ∈ lw_tbl := fun w h => show w ∈ k2_sels lw_privs ++ tables_1 from List.mem_append_right (k2_sels lw_privs) (show w ∈ tables_1 from List.mem_append_right _ (List.mem_append_right _ (List.mem_append_right _ (List.mem_append_right _ (List.mem_append_right _ (List.mem_append_right _ (List.mem_append_right _ (List.mem_append_left _ h))))))))
theorem lw_m9 : ∀ w ∈ tables_1_9, w ∈ lw_tbl := fun w h => show w ∈ k2_sels lw_privs ++ tables_1 from List.mem_append_right (k2_sels lw_privs) (show w ∈ tables_1 from List.mem_append_right _ (List.mem_append_right _ (List.mem_append_right _ (List.mem_append_right _ (List.mem_append_right _ (List.mem_append_right _ (List.mem_append_right _ (List.mem_append_right _ h))))))))
theorem qs0 : (Cond.selects "LoanNames$Reader" ⟨"LoanNames$Reader", "look", "()V"⟩ ⟨"LoanNames$Reader", "look", "()V"⟩) ∈ lw_all := lw_g (lw_at lw_ms 0 rfl) rfl
theorem qs1 : (Cond.selects "LoanNames$Reader" ⟨"LoanNames$Reader", "isLetter", "(I)Z"⟩ ⟨"LoanNames$Reader", "isLetter", "(I)Z"⟩) ∈ lw_all := lw_g (lw_at lw_ms 1 rfl) rfl
theorem qs2 : (Cond.selects "LoanNames$Reader" ⟨"LoanNames$Reader", "isDigit", "(I)Z"⟩ ⟨"LoanNames$Reader", "isDigit", "(I)Z"⟩) ∈ lw_all := lw_g (lw_at lw_ms 2 rfl) rfl
theorem qs3 : (Cond.selects "LoanNames$DealReader" ⟨"LoanNames$DealReader", "all", "()LLoanNames$All;"⟩ ⟨"LoanNames$DealReader", "all", "()LLoanNames$All;"⟩) ∈ lw_all := lw_g (lw_at lw_ms 3 rfl) rfl
theorem qs4 : (Cond.selects "LoanNames$DealReader" ⟨"LoanNames$DealReader", "part", "()LLoanNames$Part;"⟩ ⟨"LoanNames$DealReader", "part", "()LLoanNames$Part;"⟩) ∈ lw_all := lw_g (lw_at lw_ms 4 rfl) rfl
theorem qs5 : (Cond.selects "LoanNames$DealReader" ⟨"LoanNames$DealReader", "leaf", "(I)LLoanNames$Part;"⟩ ⟨"LoanNames$DealReader", "leaf", "(I)LLoanNames$Part;"⟩) ∈ lw_all := lw_g (lw_at lw_ms 5 rfl) rfl
theorem qs6 : (Cond.selects "LoanNames$DealReader" ⟨"LoanNames$DealReader", "inner", "()LLoanNames$All;"⟩ ⟨"LoanNames$DealReader", "inner", "()LLoanNames$All;"⟩) ∈ lw_all := lw_g (lw_at lw_ms 6 rfl) rfl
theorem qs7 : (Cond.selects "LoanNames$DealReader" ⟨"LoanNames$DealReader", "choice", "()LLoanNames$Part;"⟩ ⟨"LoanNames$DealReader", "choice", "()LLoanNames$Part;"⟩) ∈ lw_all := lw_g (lw_at lw_ms 7 rfl) rfl
theorem qs8 : (Cond.selects "LoanNames" ⟨"LoanNames", "reads", "(III)LLoanNames$Law;"⟩ ⟨"LoanNames", "reads", "(III)LLoanNames$Law;"⟩) ∈ lw_all := lw_g (lw_at lw_ms 8 rfl) rfl
theorem qs9 : (Cond.selects "LoanNames$LawReader" ⟨"LoanNames$LawReader", "rule", "()LLoanNames$Rule;"⟩ ⟨"LoanNames$LawReader", "rule", "()LLoanNames$Rule;"⟩) ∈ lw_all := lw_g (lw_at lw_ms 9 rfl) rfl
theorem qs10 : (Cond.selects "LoanNames" ⟨"LoanNames", "dealAt", "(I)LLoanNames$Deal;"⟩ ⟨"LoanNames", "dealAt", "(I)LLoanNames$Deal;"⟩) ∈ lw_all := lw_g (lw_at lw_ms 10 rfl) rfl
theorem qs11 : (Cond.selects "LoanNames" ⟨"LoanNames", "familiesOf", "(LLoanNames$Deal;)I"⟩ ⟨"LoanNames", "familiesOf", "(LLoanNames$Deal;)I"⟩) ∈ lw_all := lw_g (lw_at lw_ms 11 rfl) rfl
theorem qs12 : (Cond.selects "LoanNames" ⟨"LoanNames", "areTwo", "(II)Z"⟩ ⟨"LoanNames", "areTwo", "(II)Z"⟩) ∈ lw_all := lw_g (lw_at lw_ms 12 rfl) rfl
theorem qs13 : (Cond.selects "LoanNames$Bundle" ⟨"LoanNames$Bundle", "dayAt", "(I)I"⟩ ⟨"LoanNames$Bundle", "dayAt", "(I)I"⟩) ∈ lw_all := lw_g (lw_at lw_ms 13 rfl) rfl
theorem qs14 : (Cond.selects "LoanNames$Bundle" ⟨"LoanNames$Bundle", "gets", "(IIJ)V"⟩ ⟨"LoanNames$Bundle", "gets", "(IIJ)V"⟩) ∈ lw_all := lw_g (lw_at lw_ms 14 rfl) rfl
theorem qs15 : (Cond.selects "LoanNames$Bundle" ⟨"LoanNames$Bundle", "isEven", "(I)Z"⟩ ⟨"LoanNames$Bundle", "isEven", "(I)Z"⟩) ∈ lw_all := lw_g (lw_at lw_ms 15 rfl) rfl
theorem qs16 : (Cond.selects "LoanNames$Bundle" ⟨"LoanNames$Bundle", "firstDay", "(I)I"⟩ ⟨"LoanNames$Bundle", "firstDay", "(I)I"⟩) ∈ lw_all := lw_g (lw_at lw_ms 16 rfl) rfl
theorem qs17 : (Cond.selects "LoanNames" ⟨"LoanNames", "isSly", "(I)Z"⟩ ⟨"LoanNames", "isSly", "(I)Z"⟩) ∈ lw_all := lw_g (lw_at lw_ms 17 rfl) rfl
theorem qs18 : (Cond.selects "LoanNames" ⟨"LoanNames", "areAlike", "(LLoanNames$Bundle;LLoanNames$Bundle;I)Z"⟩ ⟨"LoanNames", "areAlike", "(LLoanNames$Bundle;LLoanNames$Bundle;I)Z"⟩) ∈ lw_all := lw_g (lw_at lw_ms 18 rfl) rfl
theorem qs19 : (Cond.selects "LoanNames" ⟨"LoanNames", "barring", "(LLoanNames$Bundle;)I"⟩ ⟨"LoanNames", "barring", "(LLoanNames$Bundle;)I"⟩) ∈ lw_all := lw_g (lw_at lw_ms 19 rfl) rfl
theorem qs20 : (Cond.selects "LoanNames" ⟨"LoanNames", "groups", "(I)V"⟩ ⟨"LoanNames", "groups", "(I)V"⟩) ∈ lw_all := lw_g (lw_at lw_ms 20 rfl) rfl
theorem qs21 : (Cond.selects "LoanNames" ⟨"LoanNames", "hang", "(LLoanNames$Deal;LLoanNames$Deal;I)Z"⟩ ⟨"LoanNames", "hang", "(LLoanNames$Deal;LLoanNames$Deal;I)Z"⟩) ∈ lw_all := lw_g (lw_at lw_ms 21 rfl) rfl
theorem qs22 : (Cond.selects "LoanNamesModel" ⟨"LoanNamesModel", "beginsText", "(I)V"⟩ ⟨"LoanNamesModel", "beginsText", "(I)V"⟩) ∈ lw_all := lw_g (lw_at lw_ms 22 rfl) rfl
theorem qs23 : (Cond.selects "LoanNamesModel" ⟨"LoanNamesModel", "next", "()V"⟩ ⟨"LoanNamesModel", "next", "()V"⟩) ∈ lw_all := lw_g (lw_at lw_ms 23 rfl) rfl
theorem qs24 : (Cond.selects "LoanNamesModel" ⟨"LoanNamesModel", "here", "()I"⟩ ⟨"LoanNamesModel", "here", "()I"⟩) ∈ lw_all := lw_g (lw_at lw_ms 24 rfl) rfl
theorem qs25 : (Cond.selects "LoanNamesModel" ⟨"LoanNamesModel", "kindHere", "()I"⟩ ⟨"LoanNamesModel", "kindHere", "()I"⟩) ∈ lw_all := lw_g (lw_at lw_ms 25 rfl) rfl
theorem qs26 : (Cond.selects "LoanNamesModel" ⟨"LoanNamesModel", "errs", "()V"⟩ ⟨"LoanNamesModel", "errs", "()V"⟩) ∈ lw_all := lw_g (lw_at lw_ms 26 rfl) rfl
theorem qs27 : (Cond.selects "LoanNamesModel" ⟨"LoanNamesModel", "readLeaf", "(I)V"⟩ ⟨"LoanNamesModel", "readLeaf", "(I)V"⟩) ∈ lw_all := lw_g (lw_at lw_ms 27 rfl) rfl
theorem qs28 : (Cond.selects "LoanNamesModel" ⟨"LoanNamesModel", "newNode", "(I)I"⟩ ⟨"LoanNamesModel", "newNode", "(I)I"⟩) ∈ lw_all := lw_g (lw_at lw_ms 28 rfl) rfl
theorem qs29 : (Cond.selects "LoanNamesModel" ⟨"LoanNamesModel", "hand", "(I)I"⟩ ⟨"LoanNamesModel", "hand", "(I)I"⟩) ∈ lw_all := lw_g (lw_at lw_ms 29 rfl) rfl
theorem qs30 : (Cond.selects "LoanNamesModel" ⟨"LoanNamesModel", "thingOf", "()I"⟩ ⟨"LoanNamesModel", "thingOf", "()I"⟩) ∈ lw_all := lw_g (lw_at lw_ms 30 rfl) rfl
theorem qs31 : (Cond.selects "LoanNamesModel" ⟨"LoanNamesModel", "thingHere", "()I"⟩ ⟨"LoanNamesModel", "thingHere", "()I"⟩) ∈ lw_all := lw_g (lw_at lw_ms 31 rfl) rfl
theorem qs32 : (Cond.selects "LoanNamesModel" ⟨"LoanNamesModel", "numeral", "(II)I"⟩ ⟨"LoanNamesModel", "numeral", "(II)I"⟩) ∈ lw_all := lw_g (lw_at lw_ms 32 rfl) rfl
theorem qs33 : (Cond.selects "LoanNamesModel" ⟨"LoanNamesModel", "mustBe", "(J)V"⟩ ⟨"LoanNamesModel", "mustBe", "(J)V"⟩) ∈ lw_all := lw_g (lw_at lw_ms 33 rfl) rfl
theorem qs34 : (Cond.selects "LoanNamesModel" ⟨"LoanNamesModel", "is", "(J)Z"⟩ ⟨"LoanNamesModel", "is", "(J)Z"⟩) ∈ lw_all := lw_g (lw_at lw_ms 34 rfl) rfl
theorem qs35 : (Cond.selects "LoanNamesModel" ⟨"LoanNamesModel", "closes", "()Z"⟩ ⟨"LoanNamesModel", "closes", "()Z"⟩) ∈ lw_all := lw_g (lw_at lw_ms 35 rfl) rfl
theorem qs36 : (Cond.selects "LoanNamesModel" ⟨"LoanNamesModel", "opens", "(II)V"⟩ ⟨"LoanNamesModel", "opens", "(II)V"⟩) ∈ lw_all := lw_g (lw_at lw_ms 36 rfl) rfl
theorem qs37 : (Cond.selects "LoanNamesModel" ⟨"LoanNamesModel", "readGroup", "(I)V"⟩ ⟨"LoanNamesModel", "readGroup", "(I)V"⟩) ∈ lw_all := lw_g (lw_at lw_ms 37 rfl) rfl
theorem qs38 : (Cond.selects "LoanNamesModel" ⟨"LoanNamesModel", "eventHere", "()I"⟩ ⟨"LoanNamesModel", "eventHere", "()I"⟩) ∈ lw_all := lw_g (lw_at lw_ms 38 rfl) rfl
theorem qs39 : (Cond.selects "LoanNamesModel" ⟨"LoanNamesModel", "isDeal", "(I)Z"⟩ ⟨"LoanNamesModel", "isDeal", "(I)Z"⟩) ∈ lw_all := lw_g (lw_at lw_ms 39 rfl) rfl
theorem qs40 : (Cond.selects "LoanNamesModel" ⟨"LoanNamesModel", "isLeaf", "(I)Z"⟩ ⟨"LoanNamesModel", "isLeaf", "(I)Z"⟩) ∈ lw_all := lw_g (lw_at lw_ms 40 rfl) rfl
theorem qs41 : (Cond.selects "LoanNamesModel" ⟨"LoanNamesModel", "told", "(II)I"⟩ ⟨"LoanNamesModel", "told", "(II)I"⟩) ∈ lw_all := lw_g (lw_at lw_ms 41 rfl) rfl
theorem qs42 : (Cond.selects "LoanNamesModel" ⟨"LoanNamesModel", "later", "(I)I"⟩ ⟨"LoanNamesModel", "later", "(I)I"⟩) ∈ lw_all := lw_g (lw_at lw_ms 42 rfl) rfl
theorem qs43 : (Cond.selects "LoanNamesModel" ⟨"LoanNamesModel", "simplifies", "(II)V"⟩ ⟨"LoanNamesModel", "simplifies", "(II)V"⟩) ∈ lw_all := lw_g (lw_at lw_ms 43 rfl) rfl
theorem qs44 : (Cond.selects "LoanNamesModel" ⟨"LoanNamesModel", "partsLeft", "(III)I"⟩ ⟨"LoanNamesModel", "partsLeft", "(III)I"⟩) ∈ lw_all := lw_g (lw_at lw_ms 44 rfl) rfl
theorem qs45 : (Cond.selects "LoanNamesModel" ⟨"LoanNamesModel", "areAlike", "(II)Z"⟩ ⟨"LoanNamesModel", "areAlike", "(II)Z"⟩) ∈ lw_all := lw_g (lw_at lw_ms 45 rfl) rfl
theorem qs46 : (Cond.selects "LoanNamesModel" ⟨"LoanNamesModel", "laysOut", "(IIII)I"⟩ ⟨"LoanNamesModel", "laysOut", "(IIII)I"⟩) ∈ lw_all := lw_g (lw_at lw_ms 46 rfl) rfl
theorem qs47 : (Cond.selects "LoanNamesModel" ⟨"LoanNamesModel", "closesUp", "(II)V"⟩ ⟨"LoanNamesModel", "closesUp", "(II)V"⟩) ∈ lw_all := lw_g (lw_at lw_ms 47 rfl) rfl
theorem qs48 : (Cond.selects "LoanNamesModel" ⟨"LoanNamesModel", "sign", "(II)V"⟩ ⟨"LoanNamesModel", "sign", "(II)V"⟩) ∈ lw_all := lw_g (lw_at lw_ms 48 rfl) rfl
theorem qs49 : (Cond.selects "LoanNamesModel" ⟨"LoanNamesModel", "partLeft", "(III)I"⟩ ⟨"LoanNamesModel", "partLeft", "(III)I"⟩) ∈ lw_all := lw_g (lw_at lw_ms 49 rfl) rfl
theorem qs50 : (Cond.selects "LoanNamesModel" ⟨"LoanNamesModel", "passes", "(III)V"⟩ ⟨"LoanNamesModel", "passes", "(III)V"⟩) ∈ lw_all := lw_g (lw_at lw_ms 50 rfl) rfl
theorem qs51 : (Cond.selects "LoanNamesModel" ⟨"LoanNamesModel", "times", "(III)J"⟩ ⟨"LoanNamesModel", "times", "(III)J"⟩) ∈ lw_all := lw_g (lw_at lw_ms 51 rfl) rfl
theorem qs52 : (Cond.selects "LoanNamesModel" ⟨"LoanNamesModel", "flow", "(IIIIJ)V"⟩ ⟨"LoanNamesModel", "flow", "(IIIIJ)V"⟩) ∈ lw_all := lw_g (lw_at lw_ms 52 rfl) rfl
theorem qs53 : (Cond.selects "LoanNamesModel" ⟨"LoanNamesModel", "among", "(III)J"⟩ ⟨"LoanNamesModel", "among", "(III)J"⟩) ∈ lw_all := lw_g (lw_at lw_ms 53 rfl) rfl
theorem qs54 : (Cond.selects "LoanNamesModel" ⟨"LoanNamesModel", "bundleAtHand", "()V"⟩ ⟨"LoanNamesModel", "bundleAtHand", "()V"⟩) ∈ lw_all := lw_g (lw_at lw_ms 54 rfl) rfl
theorem qs55 : (Cond.selects "LoanNamesModel" ⟨"LoanNamesModel", "codesAtHand", "()I"⟩ ⟨"LoanNamesModel", "codesAtHand", "()I"⟩) ∈ lw_all := lw_g (lw_at lw_ms 55 rfl) rfl
theorem qs56 : (Cond.selects "LoanNamesModel" ⟨"LoanNamesModel", "choicesAtHand", "()I"⟩ ⟨"LoanNamesModel", "choicesAtHand", "()I"⟩) ∈ lw_all := lw_g (lw_at lw_ms 56 rfl) rfl
theorem qs57 : (Cond.selects "LoanNamesModel" ⟨"LoanNamesModel", "rowsOfDeal", "(III)I"⟩ ⟨"LoanNamesModel", "rowsOfDeal", "(III)I"⟩) ∈ lw_all := lw_g (lw_at lw_ms 57 rfl) rfl
theorem qs58 : (Cond.selects "LoanNamesModel" ⟨"LoanNamesModel", "rowsOf", "(I)I"⟩ ⟨"LoanNamesModel", "rowsOf", "(I)I"⟩) ∈ lw_all := lw_g (lw_at lw_ms 58 rfl) rfl
theorem qs59 : (Cond.selects "LoanNamesModel" ⟨"LoanNamesModel", "findRow", "(IIII)V"⟩ ⟨"LoanNamesModel", "findRow", "(IIII)V"⟩) ∈ lw_all := lw_g (lw_at lw_ms 59 rfl) rfl
theorem qs60 : (Cond.selects "LoanNamesModel" ⟨"LoanNamesModel", "rowTold", "(I)J"⟩ ⟨"LoanNamesModel", "rowTold", "(I)J"⟩) ∈ lw_all := lw_g (lw_at lw_ms 60 rfl) rfl
theorem qs61 : (Cond.selects "LoanNamesModel" ⟨"LoanNamesModel", "passesAll", "(I)V"⟩ ⟨"LoanNamesModel", "passesAll", "(I)V"⟩) ∈ lw_all := lw_g (lw_at lw_ms 61 rfl) rfl
theorem qs62 : (Cond.selects "LoanNamesModel" ⟨"LoanNamesModel", "netOf", "(III)J"⟩ ⟨"LoanNamesModel", "netOf", "(III)J"⟩) ∈ lw_all := lw_g (lw_at lw_ms 62 rfl) rfl
theorem qs63 : (Cond.selects "LoanNamesModel" ⟨"LoanNamesModel", "isLookedAt", "()Z"⟩ ⟨"LoanNamesModel", "isLookedAt", "()Z"⟩) ∈ lw_all := lw_g (lw_at lw_ms 63 rfl) rfl
theorem qs64 : (Cond.selects "LoanNamesModel" ⟨"LoanNamesModel", "eventsAtHand", "()I"⟩ ⟨"LoanNamesModel", "eventsAtHand", "()I"⟩) ∈ lw_all := lw_g (lw_at lw_ms 64 rfl) rfl
theorem qs65 : (Cond.selects "LoanNamesModel" ⟨"LoanNamesModel", "codeFrom", "(I)I"⟩ ⟨"LoanNamesModel", "codeFrom", "(I)I"⟩) ∈ lw_all := lw_g (lw_at lw_ms 65 rfl) rfl
theorem qs66 : (Cond.selects "LoanNamesModel" ⟨"LoanNamesModel", "findLending", "(I)V"⟩ ⟨"LoanNamesModel", "findLending", "(I)V"⟩) ∈ lw_all := lw_g (lw_at lw_ms 66 rfl) rfl
theorem qs67 : (Cond.selects "LoanNamesModel" ⟨"LoanNamesModel", "findDays", "()V"⟩ ⟨"LoanNamesModel", "findDays", "()V"⟩) ∈ lw_all := lw_g (lw_at lw_ms 67 rfl) rfl
theorem qs68 : (Cond.selects "LoanNamesModel" ⟨"LoanNamesModel", "lendingDay", "(I)I"⟩ ⟨"LoanNamesModel", "lendingDay", "(I)I"⟩) ∈ lw_all := lw_g (lw_at lw_ms 68 rfl) rfl
theorem qs69 : (Cond.selects "LoanNamesModel" ⟨"LoanNamesModel", "outOf", "(I)J"⟩ ⟨"LoanNamesModel", "outOf", "(I)J"⟩) ∈ lw_all := lw_g (lw_at lw_ms 69 rfl) rfl
theorem qs70 : (Cond.selects "LoanNamesModel" ⟨"LoanNamesModel", "loanAtHand", "()I"⟩ ⟨"LoanNamesModel", "loanAtHand", "()I"⟩) ∈ lw_all := lw_g (lw_at lw_ms 70 rfl) rfl
theorem qs71 : (Cond.selects "LoanNamesModel" ⟨"LoanNamesModel", "readBars", "(II)I"⟩ ⟨"LoanNamesModel", "readBars", "(II)I"⟩) ∈ lw_all := lw_g (lw_at lw_ms 71 rfl) rfl
theorem qs72 : (Cond.selects "LoanNamesModel" ⟨"LoanNamesModel", "readBar", "(I)V"⟩ ⟨"LoanNamesModel", "readBar", "(I)V"⟩) ∈ lw_all := lw_g (lw_at lw_ms 72 rfl) rfl
theorem qs73 : (Cond.selects "LoanNamesModel" ⟨"LoanNamesModel", "formHere", "()I"⟩ ⟨"LoanNamesModel", "formHere", "()I"⟩) ∈ lw_all := lw_g (lw_at lw_ms 73 rfl) rfl
theorem qs74 : (Cond.selects "LoanNamesModel" ⟨"LoanNamesModel", "ofHere", "()I"⟩ ⟨"LoanNamesModel", "ofHere", "()I"⟩) ∈ lw_all := lw_g (lw_at lw_ms 74 rfl) rfl
theorem qs75 : (Cond.selects "LoanNamesModel" ⟨"LoanNamesModel", "askedHere", "()I"⟩ ⟨"LoanNamesModel", "askedHere", "()I"⟩) ∈ lw_all := lw_g (lw_at lw_ms 75 rfl) rfl
theorem qs76 : (Cond.selects "LoanNamesModel" ⟨"LoanNamesModel", "breachNow", "()I"⟩ ⟨"LoanNamesModel", "breachNow", "()I"⟩) ∈ lw_all := lw_g (lw_at lw_ms 76 rfl) rfl
theorem qs77 : (Cond.selects "LoanNamesModel" ⟨"LoanNamesModel", "findLeaves", "()V"⟩ ⟨"LoanNamesModel", "findLeaves", "()V"⟩) ∈ lw_all := lw_g (lw_at lw_ms 77 rfl) rfl
theorem qs78 : (Cond.selects "LoanNamesModel" ⟨"LoanNamesModel", "doesBar", "(I)Z"⟩ ⟨"LoanNamesModel", "doesBar", "(I)Z"⟩) ∈ lw_all := lw_g (lw_at lw_ms 78 rfl) rfl
theorem qs79 : (Cond.selects "LoanNamesModel" ⟨"LoanNamesModel", "isOf", "(III)Z"⟩ ⟨"LoanNamesModel", "isOf", "(III)Z"⟩) ∈ lw_all := lw_g (lw_at lw_ms 79 rfl) rfl
theorem qs80 : (Cond.selects "LoanNamesModel" ⟨"LoanNamesModel", "isPair", "(III)Z"⟩ ⟨"LoanNamesModel", "isPair", "(III)Z"⟩) ∈ lw_all := lw_g (lw_at lw_ms 80 rfl) rfl
theorem qs81 : (Cond.selects "LoanNamesModel" ⟨"LoanNamesModel", "doesWordBar", "(I)Z"⟩ ⟨"LoanNamesModel", "doesWordBar", "(I)Z"⟩) ∈ lw_all := lw_g (lw_at lw_ms 81 rfl) rfl
theorem qs82 : (Cond.selects "LoanNamesModel" ⟨"LoanNamesModel", "findSly", "(I)V"⟩ ⟨"LoanNamesModel", "findSly", "(I)V"⟩) ∈ lw_all := lw_g (lw_at lw_ms 82 rfl) rfl
theorem qs83 : (Cond.selects "LoanNamesModel" ⟨"LoanNamesModel", "wordsThatBar", "()I"⟩ ⟨"LoanNamesModel", "wordsThatBar", "()I"⟩) ∈ lw_all := lw_g (lw_at lw_ms 83 rfl) rfl
theorem qs84 : (Cond.selects "LoanNamesModel" ⟨"LoanNamesModel", "honestAtHand", "(I)V"⟩ ⟨"LoanNamesModel", "honestAtHand", "(I)V"⟩) ∈ lw_all := lw_g (lw_at lw_ms 84 rfl) rfl
theorem qs85 : (Cond.selects "LoanNamesModel" ⟨"LoanNamesModel", "doPart", "(II)Z"⟩ ⟨"LoanNamesModel", "doPart", "(II)Z"⟩) ∈ lw_all := lw_g (lw_at lw_ms 85 rfl) rfl
theorem qs86 : (Cond.selects "LoanNamesModel" ⟨"LoanNamesModel", "findGroups", "(I)V"⟩ ⟨"LoanNamesModel", "findGroups", "(I)V"⟩) ∈ lw_all := lw_g (lw_at lw_ms 86 rfl) rfl
theorem qs87 : (Cond.selects "LoanNamesModel" ⟨"LoanNamesModel", "doHang", "(III)Z"⟩ ⟨"LoanNamesModel", "doHang", "(III)Z"⟩) ∈ lw_all := lw_g (lw_at lw_ms 87 rfl) rfl
theorem qs88 : (Cond.selects "LoanNamesModel" ⟨"LoanNamesModel", "leavesTold", "()I"⟩ ⟨"LoanNamesModel", "leavesTold", "()I"⟩) ∈ lw_all := lw_g (lw_at lw_ms 88 rfl) rfl
theorem qs89 : (Cond.selects "LoanNamesModel" ⟨"LoanNamesModel", "choicesTold", "()I"⟩ ⟨"LoanNamesModel", "choicesTold", "()I"⟩) ∈ lw_all := lw_g (lw_at lw_ms 89 rfl) rfl
