section
/-! PART 01: the tables' words, the classes (names by the kit's own lists) -/
set_option maxRecDepth 100000
/-- a private method of a class that the tables say can be made, by its rows of tables_1 -/
def lw_okq (q : MethodName × Nat) : Prop := (q.1.cls ≠ "java/lang/invoke/MethodHandle" ∧ q.1.cls ≠ "java/lang/invoke/VarHandle") ∧ Cond.instantiable q.1.cls q.2 ∈ tables_1 ∧ Cond.privateMethod q.1 ∈ tables_1 ∧ Cond.instanceMethod q.1 ∈ tables_1
set_option maxRecDepth 100000
theorem lw_t1 {w : Cond} (h : w ∈ tables_1_1) : w ∈ tables_1 := List.mem_append_left _ h
theorem lw_t2 {w : Cond} (h : w ∈ tables_1_2) : w ∈ tables_1 := List.mem_append_right _ (List.mem_append_left _ h)
theorem lw_t3 {w : Cond} (h : w ∈ tables_1_3) : w ∈ tables_1 := List.mem_append_right _ (List.mem_append_right _ (List.mem_append_left _ h))
theorem lw_t4 {w : Cond} (h : w ∈ tables_1_4) : w ∈ tables_1 := List.mem_append_right _ (List.mem_append_right _ (List.mem_append_right _ (List.mem_append_left _ h)))
theorem lw_t5 {w : Cond} (h : w ∈ tables_1_5) : w ∈ tables_1 := List.mem_append_right _ (List.mem_append_right _ (List.mem_append_right _ (List.mem_append_right _ (List.mem_append_left _ h))))
theorem lw_t6 {w : Cond} (h : w ∈ tables_1_6) : w ∈ tables_1 := List.mem_append_right _ (List.mem_append_right _ (List.mem_append_right _ (List.mem_append_right _ (List.mem_append_right _ (List.mem_append_left _ h)))))
theorem lw_t7 {w : Cond} (h : w ∈ tables_1_7) : w ∈ tables_1 := List.mem_append_right _ (List.mem_append_right _ (List.mem_append_right _ (List.mem_append_right _ (List.mem_append_right _ (List.mem_append_right _ (List.mem_append_left _ h))))))
theorem lw_t8 {w : Cond} (h : w ∈ tables_1_8) : w ∈ tables_1 := List.mem_append_right _ (List.mem_append_right _ (List.mem_append_right _ (List.mem_append_right _ (List.mem_append_right _ (List.mem_append_right _ (List.mem_append_right _ (List.mem_append_left _ h)))))))
theorem lw_t9 {w : Cond} (h : w ∈ tables_1_9) : w ∈ tables_1 := List.mem_append_right _ (List.mem_append_right _ (List.mem_append_right _ (List.mem_append_right _ (List.mem_append_right _ (List.mem_append_right _ (List.mem_append_right _ (List.mem_append_right _ h)))))))
theorem lw_p0 : lw_okq (⟨"DawnPerquisite", "buyers", "()I"⟩, 11) := ⟨⟨by decide +kernel, by decide +kernel⟩, lw_t1 (List.mem_of_getElem? (i := 37) rfl), lw_t1 (List.mem_of_getElem? (i := 173) rfl), lw_t1 (List.mem_of_getElem? (i := 174) rfl)⟩
theorem lw_p1 : lw_okq (⟨"DawnPerquisite", "put", "(I)V"⟩, 11) := ⟨⟨by decide +kernel, by decide +kernel⟩, lw_t1 (List.mem_of_getElem? (i := 37) rfl), lw_t1 (List.mem_of_getElem? (i := 188) rfl), lw_t1 (List.mem_of_getElem? (i := 189) rfl)⟩
theorem lw_p2 : lw_okq (⟨"DawnPerquisite$Tokens", "next", "()V"⟩, 8) := ⟨⟨by decide +kernel, by decide +kernel⟩, lw_t1 (List.mem_of_getElem? (i := 201) rfl), lw_t2 (List.mem_of_getElem? (i := 44) rfl), lw_t2 (List.mem_of_getElem? (i := 45) rfl)⟩
theorem lw_p3 : lw_okq (⟨"DawnPerquisite$Tokens", "isWord", "(Ljava/lang/String;)Z"⟩, 8) := ⟨⟨by decide +kernel, by decide +kernel⟩, lw_t1 (List.mem_of_getElem? (i := 201) rfl), lw_t2 (List.mem_of_getElem? (i := 53) rfl), lw_t2 (List.mem_of_getElem? (i := 54) rfl)⟩
theorem lw_p4 : lw_okq (⟨"DawnPerquisite$Tokens", "wrong", "(I)LDawnPerquisite$Wrong;"⟩, 8) := ⟨⟨by decide +kernel, by decide +kernel⟩, lw_t1 (List.mem_of_getElem? (i := 201) rfl), lw_t2 (List.mem_of_getElem? (i := 113) rfl), lw_t2 (List.mem_of_getElem? (i := 114) rfl)⟩
theorem lw_p5 : lw_okq (⟨"java/lang/Throwable", "fillInStackTrace", "(I)Ljava/lang/Throwable;"⟩, 6) := ⟨⟨by decide +kernel, by decide +kernel⟩, lw_t2 (List.mem_of_getElem? (i := 151) rfl), lw_t2 (List.mem_of_getElem? (i := 149) rfl), lw_t2 (List.mem_of_getElem? (i := 150) rfl)⟩
theorem lw_p6 : lw_okq (⟨"DawnPerquisite$Tokens", "sum", "()LDawnPerquisite$Sum;"⟩, 8) := ⟨⟨by decide +kernel, by decide +kernel⟩, lw_t1 (List.mem_of_getElem? (i := 201) rfl), lw_t2 (List.mem_of_getElem? (i := 181) rfl), lw_t2 (List.mem_of_getElem? (i := 182) rfl)⟩
theorem lw_p7 : lw_okq (⟨"DawnPerquisite$Tokens", "product", "()LDawnPerquisite$Sum;"⟩, 8) := ⟨⟨by decide +kernel, by decide +kernel⟩, lw_t1 (List.mem_of_getElem? (i := 201) rfl), lw_t2 (List.mem_of_getElem? (i := 187) rfl), lw_t2 (List.mem_of_getElem? (i := 188) rfl)⟩
theorem lw_p8 : lw_okq (⟨"DawnPerquisite$Tokens", "one", "()LDawnPerquisite$Sum;"⟩, 8) := ⟨⟨by decide +kernel, by decide +kernel⟩, lw_t1 (List.mem_of_getElem? (i := 201) rfl), lw_t2 (List.mem_of_getElem? (i := 191) rfl), lw_t2 (List.mem_of_getElem? (i := 192) rfl)⟩
theorem lw_p9 : lw_okq (⟨"DawnPerquisite$Tokens", "number", "(II)I"⟩, 8) := ⟨⟨by decide +kernel, by decide +kernel⟩, lw_t1 (List.mem_of_getElem? (i := 201) rfl), lw_t2 (List.mem_of_getElem? (i := 197) rfl), lw_t2 (List.mem_of_getElem? (i := 198) rfl)⟩
theorem lw_p10 : lw_okq (⟨"DawnPerquisite$Tokens", "choice", "()LDawnPerquisite$Sum;"⟩, 8) := ⟨⟨by decide +kernel, by decide +kernel⟩, lw_t1 (List.mem_of_getElem? (i := 201) rfl), lw_t2 (List.mem_of_getElem? (i := 212) rfl), lw_t2 (List.mem_of_getElem? (i := 213) rfl)⟩
theorem lw_p11 : lw_okq (⟨"DawnPerquisite$Tokens", "opens", "()V"⟩, 8) := ⟨⟨by decide +kernel, by decide +kernel⟩, lw_t1 (List.mem_of_getElem? (i := 201) rfl), lw_t2 (List.mem_of_getElem? (i := 216) rfl), lw_t2 (List.mem_of_getElem? (i := 217) rfl)⟩
theorem lw_p12 : lw_okq (⟨"DawnPerquisite$Tokens", "either", "()LDawnPerquisite$Asked;"⟩, 8) := ⟨⟨by decide +kernel, by decide +kernel⟩, lw_t1 (List.mem_of_getElem? (i := 201) rfl), lw_t2 (List.mem_of_getElem? (i := 220) rfl), lw_t2 (List.mem_of_getElem? (i := 221) rfl)⟩
theorem lw_p13 : lw_okq (⟨"DawnPerquisite$Tokens", "both", "()LDawnPerquisite$Asked;"⟩, 8) := ⟨⟨by decide +kernel, by decide +kernel⟩, lw_t1 (List.mem_of_getElem? (i := 201) rfl), lw_t2 (List.mem_of_getElem? (i := 226) rfl), lw_t2 (List.mem_of_getElem? (i := 227) rfl)⟩
theorem lw_p14 : lw_okq (⟨"DawnPerquisite$Tokens", "ask", "()LDawnPerquisite$Asked;"⟩, 8) := ⟨⟨by decide +kernel, by decide +kernel⟩, lw_t1 (List.mem_of_getElem? (i := 201) rfl), lw_t2 (List.mem_of_getElem? (i := 230) rfl), lw_t2 (List.mem_of_getElem? (i := 231) rfl)⟩
theorem lw_p15 : lw_okq (⟨"java/util/ArrayList", "add", "(Ljava/lang/Object;[Ljava/lang/Object;I)V"⟩, 3) := ⟨⟨by decide +kernel, by decide +kernel⟩, lw_t2 (List.mem_of_getElem? (i := 4) rfl), lw_t3 (List.mem_of_getElem? (i := 24) rfl), lw_t3 (List.mem_of_getElem? (i := 25) rfl)⟩
def lw_privs_1 : List (MethodName × Nat) := [(⟨"DawnPerquisite", "buyers", "()I"⟩, 11), (⟨"DawnPerquisite", "put", "(I)V"⟩, 11), (⟨"DawnPerquisite$Tokens", "next", "()V"⟩, 8), (⟨"DawnPerquisite$Tokens", "isWord", "(Ljava/lang/String;)Z"⟩, 8), (⟨"DawnPerquisite$Tokens", "wrong", "(I)LDawnPerquisite$Wrong;"⟩, 8), (⟨"java/lang/Throwable", "fillInStackTrace", "(I)Ljava/lang/Throwable;"⟩, 6), (⟨"DawnPerquisite$Tokens", "sum", "()LDawnPerquisite$Sum;"⟩, 8), (⟨"DawnPerquisite$Tokens", "product", "()LDawnPerquisite$Sum;"⟩, 8), (⟨"DawnPerquisite$Tokens", "one", "()LDawnPerquisite$Sum;"⟩, 8), (⟨"DawnPerquisite$Tokens", "number", "(II)I"⟩, 8), (⟨"DawnPerquisite$Tokens", "choice", "()LDawnPerquisite$Sum;"⟩, 8), (⟨"DawnPerquisite$Tokens", "opens", "()V"⟩, 8), (⟨"DawnPerquisite$Tokens", "either", "()LDawnPerquisite$Asked;"⟩, 8), (⟨"DawnPerquisite$Tokens", "both", "()LDawnPerquisite$Asked;"⟩, 8), (⟨"DawnPerquisite$Tokens", "ask", "()LDawnPerquisite$Asked;"⟩, 8), (⟨"java/util/ArrayList", "add", "(Ljava/lang/Object;[Ljava/lang/Object;I)V"⟩, 3)]
theorem lw_r1 : ∀ q ∈ lw_privs_1, lw_okq q := List.forall_mem_cons.mpr ⟨lw_p0, List.forall_mem_cons.mpr ⟨lw_p1, List.forall_mem_cons.mpr ⟨lw_p2, List.forall_mem_cons.mpr ⟨lw_p3, List.forall_mem_cons.mpr ⟨lw_p4, List.forall_mem_cons.mpr ⟨lw_p5, List.forall_mem_cons.mpr ⟨lw_p6, List.forall_mem_cons.mpr ⟨lw_p7, List.forall_mem_cons.mpr ⟨lw_p8, List.forall_mem_cons.mpr ⟨lw_p9, List.forall_mem_cons.mpr ⟨lw_p10, List.forall_mem_cons.mpr ⟨lw_p11, List.forall_mem_cons.mpr ⟨lw_p12, List.forall_mem_cons.mpr ⟨lw_p13, List.forall_mem_cons.mpr ⟨lw_p14, List.forall_mem_cons.mpr ⟨lw_p15, fun _ h => absurd h List.not_mem_nil⟩⟩⟩⟩⟩⟩⟩⟩⟩⟩⟩⟩⟩⟩⟩⟩
theorem lw_p16 : lw_okq (⟨"java/util/ArrayList", "grow", "()[Ljava/lang/Object;"⟩, 3) := ⟨⟨by decide +kernel, by decide +kernel⟩, lw_t2 (List.mem_of_getElem? (i := 4) rfl), lw_t3 (List.mem_of_getElem? (i := 28) rfl), lw_t3 (List.mem_of_getElem? (i := 29) rfl)⟩
theorem lw_p17 : lw_okq (⟨"java/util/ArrayList", "grow", "(I)[Ljava/lang/Object;"⟩, 3) := ⟨⟨by decide +kernel, by decide +kernel⟩, lw_t2 (List.mem_of_getElem? (i := 4) rfl), lw_t3 (List.mem_of_getElem? (i := 32) rfl), lw_t3 (List.mem_of_getElem? (i := 33) rfl)⟩
theorem lw_p18 : lw_okq (⟨"DawnPerquisite$Tokens", "want", "(I)V"⟩, 8) := ⟨⟨by decide +kernel, by decide +kernel⟩, lw_t1 (List.mem_of_getElem? (i := 201) rfl), lw_t3 (List.mem_of_getElem? (i := 112) rfl), lw_t3 (List.mem_of_getElem? (i := 113) rfl)⟩
theorem lw_p19 : lw_okq (⟨"DawnPerquisite$Tokens", "nameNow", "()I"⟩, 8) := ⟨⟨by decide +kernel, by decide +kernel⟩, lw_t1 (List.mem_of_getElem? (i := 201) rfl), lw_t3 (List.mem_of_getElem? (i := 132) rfl), lw_t3 (List.mem_of_getElem? (i := 133) rfl)⟩
theorem lw_p20 : lw_okq (⟨"DawnPerquisite$Tokens", "mayName", "(I)Z"⟩, 8) := ⟨⟨by decide +kernel, by decide +kernel⟩, lw_t1 (List.mem_of_getElem? (i := 201) rfl), lw_t3 (List.mem_of_getElem? (i := 138) rfl), lw_t3 (List.mem_of_getElem? (i := 139) rfl)⟩
theorem lw_p21 : lw_okq (⟨"DawnPerquisite$Tokens", "doing", "(I)LDawnPerquisite$Doing;"⟩, 8) := ⟨⟨by decide +kernel, by decide +kernel⟩, lw_t1 (List.mem_of_getElem? (i := 201) rfl), lw_t3 (List.mem_of_getElem? (i := 231) rfl), lw_t3 (List.mem_of_getElem? (i := 232) rfl)⟩
theorem lw_p22 : lw_okq (⟨"DawnPerquisite", "isText", "(I)Z"⟩, 11) := ⟨⟨by decide +kernel, by decide +kernel⟩, lw_t1 (List.mem_of_getElem? (i := 37) rfl), lw_t4 (List.mem_of_getElem? (i := 22) rfl), lw_t4 (List.mem_of_getElem? (i := 23) rfl)⟩
theorem lw_p23 : lw_okq (⟨"DawnPerquisite", "canSell", "(I)Z"⟩, 11) := ⟨⟨by decide +kernel, by decide +kernel⟩, lw_t1 (List.mem_of_getElem? (i := 37) rfl), lw_t4 (List.mem_of_getElem? (i := 30) rfl), lw_t4 (List.mem_of_getElem? (i := 31) rfl)⟩
theorem lw_p24 : lw_okq (⟨"DawnPerquisite", "isBuyer", "(I)Z"⟩, 11) := ⟨⟨by decide +kernel, by decide +kernel⟩, lw_t1 (List.mem_of_getElem? (i := 37) rfl), lw_t4 (List.mem_of_getElem? (i := 34) rfl), lw_t4 (List.mem_of_getElem? (i := 35) rfl)⟩
theorem lw_p25 : lw_okq (⟨"DawnPerquisite", "doesWant", "(II)Z"⟩, 11) := ⟨⟨by decide +kernel, by decide +kernel⟩, lw_t1 (List.mem_of_getElem? (i := 37) rfl), lw_t4 (List.mem_of_getElem? (i := 38) rfl), lw_t4 (List.mem_of_getElem? (i := 39) rfl)⟩
theorem lw_p26 : lw_okq (⟨"DawnPerquisite", "slicesOf", "(I)I"⟩, 11) := ⟨⟨by decide +kernel, by decide +kernel⟩, lw_t1 (List.mem_of_getElem? (i := 37) rfl), lw_t4 (List.mem_of_getElem? (i := 45) rfl), lw_t4 (List.mem_of_getElem? (i := 46) rfl)⟩
theorem lw_p27 : lw_okq (⟨"DawnPerquisite", "bidsNow", "(II)I"⟩, 11) := ⟨⟨by decide +kernel, by decide +kernel⟩, lw_t1 (List.mem_of_getElem? (i := 37) rfl), lw_t4 (List.mem_of_getElem? (i := 52) rfl), lw_t4 (List.mem_of_getElem? (i := 53) rfl)⟩
theorem lw_p28 : lw_okq (⟨"DawnPerquisite", "rules", "()LDawnPerquisite$Text;"⟩, 11) := ⟨⟨by decide +kernel, by decide +kernel⟩, lw_t1 (List.mem_of_getElem? (i := 37) rfl), lw_t4 (List.mem_of_getElem? (i := 56) rfl), lw_t4 (List.mem_of_getElem? (i := 57) rfl)⟩
theorem lw_p29 : lw_okq (⟨"DawnPerquisite", "bidsBy", "(LDawnPerquisite$Text;[III)I"⟩, 11) := ⟨⟨by decide +kernel, by decide +kernel⟩, lw_t1 (List.mem_of_getElem? (i := 37) rfl), lw_t4 (List.mem_of_getElem? (i := 62) rfl), lw_t4 (List.mem_of_getElem? (i := 63) rfl)⟩
theorem lw_p30 : lw_okq (⟨"DawnPerquisite", "namesOf", "([III)V"⟩, 11) := ⟨⟨by decide +kernel, by decide +kernel⟩, lw_t1 (List.mem_of_getElem? (i := 37) rfl), lw_t4 (List.mem_of_getElem? (i := 66) rfl), lw_t4 (List.mem_of_getElem? (i := 67) rfl)⟩
theorem lw_p31 : lw_okq (⟨"DawnPerquisite", "longOf", "(I)I"⟩, 11) := ⟨⟨by decide +kernel, by decide +kernel⟩, lw_t1 (List.mem_of_getElem? (i := 37) rfl), lw_t4 (List.mem_of_getElem? (i := 70) rfl), lw_t4 (List.mem_of_getElem? (i := 71) rfl)⟩
def lw_privs_2 : List (MethodName × Nat) := [(⟨"java/util/ArrayList", "grow", "()[Ljava/lang/Object;"⟩, 3), (⟨"java/util/ArrayList", "grow", "(I)[Ljava/lang/Object;"⟩, 3), (⟨"DawnPerquisite$Tokens", "want", "(I)V"⟩, 8), (⟨"DawnPerquisite$Tokens", "nameNow", "()I"⟩, 8), (⟨"DawnPerquisite$Tokens", "mayName", "(I)Z"⟩, 8), (⟨"DawnPerquisite$Tokens", "doing", "(I)LDawnPerquisite$Doing;"⟩, 8), (⟨"DawnPerquisite", "isText", "(I)Z"⟩, 11), (⟨"DawnPerquisite", "canSell", "(I)Z"⟩, 11), (⟨"DawnPerquisite", "isBuyer", "(I)Z"⟩, 11), (⟨"DawnPerquisite", "doesWant", "(II)Z"⟩, 11), (⟨"DawnPerquisite", "slicesOf", "(I)I"⟩, 11), (⟨"DawnPerquisite", "bidsNow", "(II)I"⟩, 11), (⟨"DawnPerquisite", "rules", "()LDawnPerquisite$Text;"⟩, 11), (⟨"DawnPerquisite", "bidsBy", "(LDawnPerquisite$Text;[III)I"⟩, 11), (⟨"DawnPerquisite", "namesOf", "([III)V"⟩, 11), (⟨"DawnPerquisite", "longOf", "(I)I"⟩, 11)]
theorem lw_r2 : ∀ q ∈ lw_privs_2, lw_okq q := List.forall_mem_cons.mpr ⟨lw_p16, List.forall_mem_cons.mpr ⟨lw_p17, List.forall_mem_cons.mpr ⟨lw_p18, List.forall_mem_cons.mpr ⟨lw_p19, List.forall_mem_cons.mpr ⟨lw_p20, List.forall_mem_cons.mpr ⟨lw_p21, List.forall_mem_cons.mpr ⟨lw_p22, List.forall_mem_cons.mpr ⟨lw_p23, List.forall_mem_cons.mpr ⟨lw_p24, List.forall_mem_cons.mpr ⟨lw_p25, List.forall_mem_cons.mpr ⟨lw_p26, List.forall_mem_cons.mpr ⟨lw_p27, List.forall_mem_cons.mpr ⟨lw_p28, List.forall_mem_cons.mpr ⟨lw_p29, List.forall_mem_cons.mpr ⟨lw_p30, List.forall_mem_cons.mpr ⟨lw_p31, fun _ h => absurd h List.not_mem_nil⟩⟩⟩⟩⟩⟩⟩⟩⟩⟩⟩⟩⟩⟩⟩⟩
theorem lw_p32 : lw_okq (⟨"DawnPerquisite", "sells", "(I)I"⟩, 11) := ⟨⟨by decide +kernel, by decide +kernel⟩, lw_t1 (List.mem_of_getElem? (i := 37) rfl), lw_t4 (List.mem_of_getElem? (i := 195) rfl), lw_t4 (List.mem_of_getElem? (i := 196) rfl)⟩
theorem lw_p33 : lw_okq (⟨"DawnPerquisite", "canGive", "(I)Z"⟩, 11) := ⟨⟨by decide +kernel, by decide +kernel⟩, lw_t1 (List.mem_of_getElem? (i := 37) rfl), lw_t4 (List.mem_of_getElem? (i := 209) rfl), lw_t4 (List.mem_of_getElem? (i := 210) rfl)⟩
theorem lw_p34 : lw_okq (⟨"DawnPerquisite", "gives", "(I)V"⟩, 11) := ⟨⟨by decide +kernel, by decide +kernel⟩, lw_t1 (List.mem_of_getElem? (i := 37) rfl), lw_t4 (List.mem_of_getElem? (i := 213) rfl), lw_t4 (List.mem_of_getElem? (i := 214) rfl)⟩
theorem lw_p35 : lw_okq (⟨"DawnPerquisite", "canTurn", "(I)Z"⟩, 11) := ⟨⟨by decide +kernel, by decide +kernel⟩, lw_t1 (List.mem_of_getElem? (i := 37) rfl), lw_t4 (List.mem_of_getElem? (i := 221) rfl), lw_t4 (List.mem_of_getElem? (i := 222) rfl)⟩
theorem lw_p36 : lw_okq (⟨"DawnPerquisite", "turns", "(I)V"⟩, 11) := ⟨⟨by decide +kernel, by decide +kernel⟩, lw_t1 (List.mem_of_getElem? (i := 37) rfl), lw_t4 (List.mem_of_getElem? (i := 225) rfl), lw_t4 (List.mem_of_getElem? (i := 226) rfl)⟩
theorem lw_p37 : lw_okq (⟨"DawnPerquisite", "canPass", "(II)Z"⟩, 11) := ⟨⟨by decide +kernel, by decide +kernel⟩, lw_t1 (List.mem_of_getElem? (i := 37) rfl), lw_t4 (List.mem_of_getElem? (i := 233) rfl), lw_t4 (List.mem_of_getElem? (i := 234) rfl)⟩
theorem lw_p38 : lw_okq (⟨"DawnPerquisite", "priceOf", "(II)I"⟩, 11) := ⟨⟨by decide +kernel, by decide +kernel⟩, lw_t1 (List.mem_of_getElem? (i := 37) rfl), lw_t4 (List.mem_of_getElem? (i := 237) rfl), lw_t4 (List.mem_of_getElem? (i := 238) rfl)⟩
theorem lw_p39 : lw_okq (⟨"DawnPerquisite", "passes", "([I)I"⟩, 11) := ⟨⟨by decide +kernel, by decide +kernel⟩, lw_t1 (List.mem_of_getElem? (i := 37) rfl), lw_t5 (List.mem_of_getElem? (i := 5) rfl), lw_t5 (List.mem_of_getElem? (i := 6) rfl)⟩
theorem lw_p40 : lw_okq (⟨"DawnPerquisite", "earnsOf", "([II)I"⟩, 11) := ⟨⟨by decide +kernel, by decide +kernel⟩, lw_t1 (List.mem_of_getElem? (i := 37) rfl), lw_t5 (List.mem_of_getElem? (i := 9) rfl), lw_t5 (List.mem_of_getElem? (i := 10) rfl)⟩
theorem lw_p41 : lw_okq (⟨"DawnPerquisite", "toldOdds", "()I"⟩, 11) := ⟨⟨by decide +kernel, by decide +kernel⟩, lw_t1 (List.mem_of_getElem? (i := 37) rfl), lw_t5 (List.mem_of_getElem? (i := 13) rfl), lw_t5 (List.mem_of_getElem? (i := 14) rfl)⟩
theorem lw_p42 : lw_okq (⟨"DawnPerquisite", "sortBy", "(I)I"⟩, 11) := ⟨⟨by decide +kernel, by decide +kernel⟩, lw_t1 (List.mem_of_getElem? (i := 37) rfl), lw_t5 (List.mem_of_getElem? (i := 20) rfl), lw_t5 (List.mem_of_getElem? (i := 21) rfl)⟩
theorem lw_p43 : lw_okq (⟨"DawnPerquisite", "oddsOf", "(I)I"⟩, 11) := ⟨⟨by decide +kernel, by decide +kernel⟩, lw_t1 (List.mem_of_getElem? (i := 37) rfl), lw_t5 (List.mem_of_getElem? (i := 24) rfl), lw_t5 (List.mem_of_getElem? (i := 25) rfl)⟩
theorem lw_p44 : lw_okq (⟨"DawnPerquisite", "does", "(LDawnPerquisite$Doing;)Z"⟩, 11) := ⟨⟨by decide +kernel, by decide +kernel⟩, lw_t1 (List.mem_of_getElem? (i := 37) rfl), lw_t5 (List.mem_of_getElem? (i := 35) rfl), lw_t5 (List.mem_of_getElem? (i := 36) rfl)⟩
theorem lw_p45 : lw_okq (⟨"DawnPerquisite", "passesAll", "(I)Z"⟩, 11) := ⟨⟨by decide +kernel, by decide +kernel⟩, lw_t1 (List.mem_of_getElem? (i := 37) rfl), lw_t5 (List.mem_of_getElem? (i := 56) rfl), lw_t5 (List.mem_of_getElem? (i := 57) rfl)⟩
theorem lw_p46 : lw_okq (⟨"DawnPerquisite", "befalls", "(I)V"⟩, 11) := ⟨⟨by decide +kernel, by decide +kernel⟩, lw_t1 (List.mem_of_getElem? (i := 37) rfl), lw_t5 (List.mem_of_getElem? (i := 69) rfl), lw_t5 (List.mem_of_getElem? (i := 70) rfl)⟩
theorem lw_p47 : lw_okq (⟨"DawnPerquisite", "pursesOf", "([I)I"⟩, 11) := ⟨⟨by decide +kernel, by decide +kernel⟩, lw_t1 (List.mem_of_getElem? (i := 37) rfl), lw_t5 (List.mem_of_getElem? (i := 102) rfl), lw_t5 (List.mem_of_getElem? (i := 103) rfl)⟩
def lw_privs_3 : List (MethodName × Nat) := [(⟨"DawnPerquisite", "sells", "(I)I"⟩, 11), (⟨"DawnPerquisite", "canGive", "(I)Z"⟩, 11), (⟨"DawnPerquisite", "gives", "(I)V"⟩, 11), (⟨"DawnPerquisite", "canTurn", "(I)Z"⟩, 11), (⟨"DawnPerquisite", "turns", "(I)V"⟩, 11), (⟨"DawnPerquisite", "canPass", "(II)Z"⟩, 11), (⟨"DawnPerquisite", "priceOf", "(II)I"⟩, 11), (⟨"DawnPerquisite", "passes", "([I)I"⟩, 11), (⟨"DawnPerquisite", "earnsOf", "([II)I"⟩, 11), (⟨"DawnPerquisite", "toldOdds", "()I"⟩, 11), (⟨"DawnPerquisite", "sortBy", "(I)I"⟩, 11), (⟨"DawnPerquisite", "oddsOf", "(I)I"⟩, 11), (⟨"DawnPerquisite", "does", "(LDawnPerquisite$Doing;)Z"⟩, 11), (⟨"DawnPerquisite", "passesAll", "(I)Z"⟩, 11), (⟨"DawnPerquisite", "befalls", "(I)V"⟩, 11), (⟨"DawnPerquisite", "pursesOf", "([I)I"⟩, 11)]
theorem lw_r3 : ∀ q ∈ lw_privs_3, lw_okq q := List.forall_mem_cons.mpr ⟨lw_p32, List.forall_mem_cons.mpr ⟨lw_p33, List.forall_mem_cons.mpr ⟨lw_p34, List.forall_mem_cons.mpr ⟨lw_p35, List.forall_mem_cons.mpr ⟨lw_p36, List.forall_mem_cons.mpr ⟨lw_p37, List.forall_mem_cons.mpr ⟨lw_p38, List.forall_mem_cons.mpr ⟨lw_p39, List.forall_mem_cons.mpr ⟨lw_p40, List.forall_mem_cons.mpr ⟨lw_p41, List.forall_mem_cons.mpr ⟨lw_p42, List.forall_mem_cons.mpr ⟨lw_p43, List.forall_mem_cons.mpr ⟨lw_p44, List.forall_mem_cons.mpr ⟨lw_p45, List.forall_mem_cons.mpr ⟨lw_p46, List.forall_mem_cons.mpr ⟨lw_p47, fun _ h => absurd h List.not_mem_nil⟩⟩⟩⟩⟩⟩⟩⟩⟩⟩⟩⟩⟩⟩⟩⟩
theorem lw_p48 : lw_okq (⟨"DawnPerquisite", "packOf", "(II)I"⟩, 11) := ⟨⟨by decide +kernel, by decide +kernel⟩, lw_t1 (List.mem_of_getElem? (i := 37) rfl), lw_t5 (List.mem_of_getElem? (i := 110) rfl), lw_t5 (List.mem_of_getElem? (i := 111) rfl)⟩
theorem lw_p49 : lw_okq (⟨"DawnPerquisite", "everybody", "()I"⟩, 11) := ⟨⟨by decide +kernel, by decide +kernel⟩, lw_t1 (List.mem_of_getElem? (i := 37) rfl), lw_t5 (List.mem_of_getElem? (i := 114) rfl), lw_t5 (List.mem_of_getElem? (i := 115) rfl)⟩
theorem lw_p50 : lw_okq (⟨"DawnPerquisite", "bringsOf", "(II)I"⟩, 11) := ⟨⟨by decide +kernel, by decide +kernel⟩, lw_t1 (List.mem_of_getElem? (i := 37) rfl), lw_t5 (List.mem_of_getElem? (i := 118) rfl), lw_t5 (List.mem_of_getElem? (i := 119) rfl)⟩
theorem lw_p51 : lw_okq (⟨"DawnPerquisite", "hopeOf", "(I)J"⟩, 11) := ⟨⟨by decide +kernel, by decide +kernel⟩, lw_t1 (List.mem_of_getElem? (i := 37) rfl), lw_t5 (List.mem_of_getElem? (i := 131) rfl), lw_t5 (List.mem_of_getElem? (i := 132) rfl)⟩
theorem lw_p52 : lw_okq (⟨"DawnPerquisite", "allOdds", "()I"⟩, 11) := ⟨⟨by decide +kernel, by decide +kernel⟩, lw_t1 (List.mem_of_getElem? (i := 37) rfl), lw_t5 (List.mem_of_getElem? (i := 135) rfl), lw_t5 (List.mem_of_getElem? (i := 136) rfl)⟩
theorem lw_p53 : lw_okq (⟨"DawnPerquisite", "told", "()I"⟩, 11) := ⟨⟨by decide +kernel, by decide +kernel⟩, lw_t1 (List.mem_of_getElem? (i := 37) rfl), lw_t5 (List.mem_of_getElem? (i := 170) rfl), lw_t5 (List.mem_of_getElem? (i := 171) rfl)⟩
theorem lw_p54 : lw_okq (⟨"DawnPerquisite", "couldBe", "(I)Z"⟩, 11) := ⟨⟨by decide +kernel, by decide +kernel⟩, lw_t1 (List.mem_of_getElem? (i := 37) rfl), lw_t5 (List.mem_of_getElem? (i := 178) rfl), lw_t5 (List.mem_of_getElem? (i := 179) rfl)⟩
theorem lw_p55 : lw_okq (⟨"DawnPerquisite", "oddsThatFit", "()I"⟩, 11) := ⟨⟨by decide +kernel, by decide +kernel⟩, lw_t1 (List.mem_of_getElem? (i := 37) rfl), lw_t5 (List.mem_of_getElem? (i := 191) rfl), lw_t5 (List.mem_of_getElem? (i := 192) rfl)⟩
theorem lw_p56 : lw_okq (⟨"DawnPerquisite", "greaterPart", "(I)I"⟩, 11) := ⟨⟨by decide +kernel, by decide +kernel⟩, lw_t1 (List.mem_of_getElem? (i := 37) rfl), lw_t5 (List.mem_of_getElem? (i := 200) rfl), lw_t5 (List.mem_of_getElem? (i := 201) rfl)⟩
theorem lw_p57 : lw_okq (⟨"DawnPerquisite", "bidsFor", "(II)I"⟩, 11) := ⟨⟨by decide +kernel, by decide +kernel⟩, lw_t1 (List.mem_of_getElem? (i := 37) rfl), lw_t5 (List.mem_of_getElem? (i := 208) rfl), lw_t5 (List.mem_of_getElem? (i := 209) rfl)⟩
theorem lw_p58 : lw_okq (⟨"DawnPerquisite", "servesAll", "(I)Z"⟩, 11) := ⟨⟨by decide +kernel, by decide +kernel⟩, lw_t1 (List.mem_of_getElem? (i := 37) rfl), lw_t5 (List.mem_of_getElem? (i := 216) rfl), lw_t5 (List.mem_of_getElem? (i := 217) rfl)⟩
theorem lw_p59 : lw_okq (⟨"DawnPerquisite", "wantedBy", "(I)I"⟩, 11) := ⟨⟨by decide +kernel, by decide +kernel⟩, lw_t1 (List.mem_of_getElem? (i := 37) rfl), lw_t5 (List.mem_of_getElem? (i := 224) rfl), lw_t5 (List.mem_of_getElem? (i := 225) rfl)⟩
theorem lw_p60 : lw_okq (⟨"DawnPerquisite", "nextBuyer", "()I"⟩, 11) := ⟨⟨by decide +kernel, by decide +kernel⟩, lw_t1 (List.mem_of_getElem? (i := 37) rfl), lw_t5 (List.mem_of_getElem? (i := 233) rfl), lw_t5 (List.mem_of_getElem? (i := 234) rfl)⟩
theorem lw_p61 : lw_okq (⟨"DawnPerquisite", "laysMore", "()V"⟩, 11) := ⟨⟨by decide +kernel, by decide +kernel⟩, lw_t1 (List.mem_of_getElem? (i := 37) rfl), lw_t6 (List.mem_of_getElem? (i := 13) rfl), lw_t6 (List.mem_of_getElem? (i := 14) rfl)⟩
theorem lw_p62 : lw_okq (⟨"DawnPerquisite", "leftFirst", "(II)I"⟩, 11) := ⟨⟨by decide +kernel, by decide +kernel⟩, lw_t1 (List.mem_of_getElem? (i := 37) rfl), lw_t6 (List.mem_of_getElem? (i := 17) rfl), lw_t6 (List.mem_of_getElem? (i := 18) rfl)⟩
theorem lw_p63 : lw_okq (⟨"DawnPerquisite", "rightFirst", "(II)I"⟩, 11) := ⟨⟨by decide +kernel, by decide +kernel⟩, lw_t1 (List.mem_of_getElem? (i := 37) rfl), lw_t6 (List.mem_of_getElem? (i := 21) rfl), lw_t6 (List.mem_of_getElem? (i := 22) rfl)⟩
def lw_privs_4 : List (MethodName × Nat) := [(⟨"DawnPerquisite", "packOf", "(II)I"⟩, 11), (⟨"DawnPerquisite", "everybody", "()I"⟩, 11), (⟨"DawnPerquisite", "bringsOf", "(II)I"⟩, 11), (⟨"DawnPerquisite", "hopeOf", "(I)J"⟩, 11), (⟨"DawnPerquisite", "allOdds", "()I"⟩, 11), (⟨"DawnPerquisite", "told", "()I"⟩, 11), (⟨"DawnPerquisite", "couldBe", "(I)Z"⟩, 11), (⟨"DawnPerquisite", "oddsThatFit", "()I"⟩, 11), (⟨"DawnPerquisite", "greaterPart", "(I)I"⟩, 11), (⟨"DawnPerquisite", "bidsFor", "(II)I"⟩, 11), (⟨"DawnPerquisite", "servesAll", "(I)Z"⟩, 11), (⟨"DawnPerquisite", "wantedBy", "(I)I"⟩, 11), (⟨"DawnPerquisite", "nextBuyer", "()I"⟩, 11), (⟨"DawnPerquisite", "laysMore", "()V"⟩, 11), (⟨"DawnPerquisite", "leftFirst", "(II)I"⟩, 11), (⟨"DawnPerquisite", "rightFirst", "(II)I"⟩, 11)]
theorem lw_r4 : ∀ q ∈ lw_privs_4, lw_okq q := List.forall_mem_cons.mpr ⟨lw_p48, List.forall_mem_cons.mpr ⟨lw_p49, List.forall_mem_cons.mpr ⟨lw_p50, List.forall_mem_cons.mpr ⟨lw_p51, List.forall_mem_cons.mpr ⟨lw_p52, List.forall_mem_cons.mpr ⟨lw_p53, List.forall_mem_cons.mpr ⟨lw_p54, List.forall_mem_cons.mpr ⟨lw_p55, List.forall_mem_cons.mpr ⟨lw_p56, List.forall_mem_cons.mpr ⟨lw_p57, List.forall_mem_cons.mpr ⟨lw_p58, List.forall_mem_cons.mpr ⟨lw_p59, List.forall_mem_cons.mpr ⟨lw_p60, List.forall_mem_cons.mpr ⟨lw_p61, List.forall_mem_cons.mpr ⟨lw_p62, List.forall_mem_cons.mpr ⟨lw_p63, fun _ h => absurd h List.not_mem_nil⟩⟩⟩⟩⟩⟩⟩⟩⟩⟩⟩⟩⟩⟩⟩⟩
theorem lw_p64 : lw_okq (⟨"DawnPerquisite", "runOf", "(II)I"⟩, 11) := ⟨⟨by decide +kernel, by decide +kernel⟩, lw_t1 (List.mem_of_getElem? (i := 37) rfl), lw_t6 (List.mem_of_getElem? (i := 33) rfl), lw_t6 (List.mem_of_getElem? (i := 34) rfl)⟩
theorem lw_p65 : lw_okq (⟨"DawnPerquisite", "isLaw", "(LDawnPerquisite$Text;)Z"⟩, 11) := ⟨⟨by decide +kernel, by decide +kernel⟩, lw_t1 (List.mem_of_getElem? (i := 37) rfl), lw_t6 (List.mem_of_getElem? (i := 45) rfl), lw_t6 (List.mem_of_getElem? (i := 46) rfl)⟩
theorem lw_p66 : lw_okq (⟨"DawnPerquisiteModel", "four", "(I)V"⟩, 28) := ⟨⟨by decide +kernel, by decide +kernel⟩, lw_t6 (List.mem_of_getElem? (i := 106) rfl), lw_t6 (List.mem_of_getElem? (i := 223) rfl), lw_t6 (List.mem_of_getElem? (i := 224) rfl)⟩
theorem lw_p67 : lw_okq (⟨"DawnPerquisiteModel", "readText", "()I"⟩, 28) := ⟨⟨by decide +kernel, by decide +kernel⟩, lw_t6 (List.mem_of_getElem? (i := 106) rfl), lw_t6 (List.mem_of_getElem? (i := 235) rfl), lw_t6 (List.mem_of_getElem? (i := 236) rfl)⟩
theorem lw_p68 : lw_okq (⟨"DawnPerquisiteModel", "nextToken", "()V"⟩, 28) := ⟨⟨by decide +kernel, by decide +kernel⟩, lw_t6 (List.mem_of_getElem? (i := 106) rfl), lw_t6 (List.mem_of_getElem? (i := 239) rfl), lw_t7 (List.mem_of_getElem? (i := 0) rfl)⟩
theorem lw_p69 : lw_okq (⟨"DawnPerquisiteModel", "byteAt", "(I)I"⟩, 28) := ⟨⟨by decide +kernel, by decide +kernel⟩, lw_t6 (List.mem_of_getElem? (i := 106) rfl), lw_t7 (List.mem_of_getElem? (i := 3) rfl), lw_t7 (List.mem_of_getElem? (i := 4) rfl)⟩
theorem lw_p70 : lw_okq (⟨"DawnPerquisiteModel", "clause", "()I"⟩, 28) := ⟨⟨by decide +kernel, by decide +kernel⟩, lw_t6 (List.mem_of_getElem? (i := 106) rfl), lw_t7 (List.mem_of_getElem? (i := 18) rfl), lw_t7 (List.mem_of_getElem? (i := 19) rfl)⟩
theorem lw_p71 : lw_okq (⟨"DawnPerquisiteModel", "sortOf", "()I"⟩, 28) := ⟨⟨by decide +kernel, by decide +kernel⟩, lw_t6 (List.mem_of_getElem? (i := 106) rfl), lw_t7 (List.mem_of_getElem? (i := 22) rfl), lw_t7 (List.mem_of_getElem? (i := 23) rfl)⟩
theorem lw_p72 : lw_okq (⟨"DawnPerquisiteModel", "isWord", "(J)Z"⟩, 28) := ⟨⟨by decide +kernel, by decide +kernel⟩, lw_t6 (List.mem_of_getElem? (i := 106) rfl), lw_t7 (List.mem_of_getElem? (i := 35) rfl), lw_t7 (List.mem_of_getElem? (i := 36) rfl)⟩
theorem lw_p73 : lw_okq (⟨"DawnPerquisiteModel", "body", "(II)I"⟩, 28) := ⟨⟨by decide +kernel, by decide +kernel⟩, lw_t6 (List.mem_of_getElem? (i := 106) rfl), lw_t7 (List.mem_of_getElem? (i := 45) rfl), lw_t7 (List.mem_of_getElem? (i := 46) rfl)⟩
theorem lw_p74 : lw_okq (⟨"DawnPerquisiteModel", "buyerClause", "(I)I"⟩, 28) := ⟨⟨by decide +kernel, by decide +kernel⟩, lw_t6 (List.mem_of_getElem? (i := 106) rfl), lw_t7 (List.mem_of_getElem? (i := 49) rfl), lw_t7 (List.mem_of_getElem? (i := 50) rfl)⟩
theorem lw_p75 : lw_okq (⟨"DawnPerquisiteModel", "figure", "(III)I"⟩, 28) := ⟨⟨by decide +kernel, by decide +kernel⟩, lw_t6 (List.mem_of_getElem? (i := 106) rfl), lw_t7 (List.mem_of_getElem? (i := 53) rfl), lw_t7 (List.mem_of_getElem? (i := 54) rfl)⟩
theorem lw_p76 : lw_okq (⟨"DawnPerquisiteModel", "sortClause", "(I)I"⟩, 28) := ⟨⟨by decide +kernel, by decide +kernel⟩, lw_t6 (List.mem_of_getElem? (i := 106) rfl), lw_t7 (List.mem_of_getElem? (i := 57) rfl), lw_t7 (List.mem_of_getElem? (i := 58) rfl)⟩
theorem lw_p77 : lw_okq (⟨"DawnPerquisiteModel", "lawClause", "(I)I"⟩, 28) := ⟨⟨by decide +kernel, by decide +kernel⟩, lw_t6 (List.mem_of_getElem? (i := 106) rfl), lw_t7 (List.mem_of_getElem? (i := 61) rfl), lw_t7 (List.mem_of_getElem? (i := 62) rfl)⟩
theorem lw_p78 : lw_okq (⟨"DawnPerquisiteModel", "summed", "()I"⟩, 28) := ⟨⟨by decide +kernel, by decide +kernel⟩, lw_t6 (List.mem_of_getElem? (i := 106) rfl), lw_t7 (List.mem_of_getElem? (i := 65) rfl), lw_t7 (List.mem_of_getElem? (i := 66) rfl)⟩
theorem lw_p79 : lw_okq (⟨"DawnPerquisiteModel", "behindOne", "()Z"⟩, 28) := ⟨⟨by decide +kernel, by decide +kernel⟩, lw_t6 (List.mem_of_getElem? (i := 106) rfl), lw_t7 (List.mem_of_getElem? (i := 69) rfl), lw_t7 (List.mem_of_getElem? (i := 70) rfl)⟩
def lw_privs_5 : List (MethodName × Nat) := [(⟨"DawnPerquisite", "runOf", "(II)I"⟩, 11), (⟨"DawnPerquisite", "isLaw", "(LDawnPerquisite$Text;)Z"⟩, 11), (⟨"DawnPerquisiteModel", "four", "(I)V"⟩, 28), (⟨"DawnPerquisiteModel", "readText", "()I"⟩, 28), (⟨"DawnPerquisiteModel", "nextToken", "()V"⟩, 28), (⟨"DawnPerquisiteModel", "byteAt", "(I)I"⟩, 28), (⟨"DawnPerquisiteModel", "clause", "()I"⟩, 28), (⟨"DawnPerquisiteModel", "sortOf", "()I"⟩, 28), (⟨"DawnPerquisiteModel", "isWord", "(J)Z"⟩, 28), (⟨"DawnPerquisiteModel", "body", "(II)I"⟩, 28), (⟨"DawnPerquisiteModel", "buyerClause", "(I)I"⟩, 28), (⟨"DawnPerquisiteModel", "figure", "(III)I"⟩, 28), (⟨"DawnPerquisiteModel", "sortClause", "(I)I"⟩, 28), (⟨"DawnPerquisiteModel", "lawClause", "(I)I"⟩, 28), (⟨"DawnPerquisiteModel", "summed", "()I"⟩, 28), (⟨"DawnPerquisiteModel", "behindOne", "()Z"⟩, 28)]
theorem lw_r5 : ∀ q ∈ lw_privs_5, lw_okq q := List.forall_mem_cons.mpr ⟨lw_p64, List.forall_mem_cons.mpr ⟨lw_p65, List.forall_mem_cons.mpr ⟨lw_p66, List.forall_mem_cons.mpr ⟨lw_p67, List.forall_mem_cons.mpr ⟨lw_p68, List.forall_mem_cons.mpr ⟨lw_p69, List.forall_mem_cons.mpr ⟨lw_p70, List.forall_mem_cons.mpr ⟨lw_p71, List.forall_mem_cons.mpr ⟨lw_p72, List.forall_mem_cons.mpr ⟨lw_p73, List.forall_mem_cons.mpr ⟨lw_p74, List.forall_mem_cons.mpr ⟨lw_p75, List.forall_mem_cons.mpr ⟨lw_p76, List.forall_mem_cons.mpr ⟨lw_p77, List.forall_mem_cons.mpr ⟨lw_p78, List.forall_mem_cons.mpr ⟨lw_p79, fun _ h => absurd h List.not_mem_nil⟩⟩⟩⟩⟩⟩⟩⟩⟩⟩⟩⟩⟩⟩⟩⟩
theorem lw_p80 : lw_okq (⟨"DawnPerquisiteModel", "betweenOf", "()I"⟩, 28) := ⟨⟨by decide +kernel, by decide +kernel⟩, lw_t6 (List.mem_of_getElem? (i := 106) rfl), lw_t7 (List.mem_of_getElem? (i := 73) rfl), lw_t7 (List.mem_of_getElem? (i := 74) rfl)⟩
theorem lw_p81 : lw_okq (⟨"DawnPerquisiteModel", "openNow", "()I"⟩, 28) := ⟨⟨by decide +kernel, by decide +kernel⟩, lw_t6 (List.mem_of_getElem? (i := 106) rfl), lw_t7 (List.mem_of_getElem? (i := 77) rfl), lw_t7 (List.mem_of_getElem? (i := 78) rfl)⟩
theorem lw_p82 : lw_okq (⟨"DawnPerquisiteModel", "openAt", "()I"⟩, 28) := ⟨⟨by decide +kernel, by decide +kernel⟩, lw_t6 (List.mem_of_getElem? (i := 106) rfl), lw_t7 (List.mem_of_getElem? (i := 81) rfl), lw_t7 (List.mem_of_getElem? (i := 82) rfl)⟩
theorem lw_p83 : lw_okq (⟨"DawnPerquisiteModel", "isCompared", "()Z"⟩, 28) := ⟨⟨by decide +kernel, by decide +kernel⟩, lw_t6 (List.mem_of_getElem? (i := 106) rfl), lw_t7 (List.mem_of_getElem? (i := 85) rfl), lw_t7 (List.mem_of_getElem? (i := 86) rfl)⟩
theorem lw_p84 : lw_okq (⟨"DawnPerquisiteModel", "compareOf", "()I"⟩, 28) := ⟨⟨by decide +kernel, by decide +kernel⟩, lw_t6 (List.mem_of_getElem? (i := 106) rfl), lw_t7 (List.mem_of_getElem? (i := 92) rfl), lw_t7 (List.mem_of_getElem? (i := 93) rfl)⟩
theorem lw_p85 : lw_okq (⟨"DawnPerquisiteModel", "settle", "(I)V"⟩, 28) := ⟨⟨by decide +kernel, by decide +kernel⟩, lw_t6 (List.mem_of_getElem? (i := 106) rfl), lw_t7 (List.mem_of_getElem? (i := 96) rfl), lw_t7 (List.mem_of_getElem? (i := 97) rfl)⟩
theorem lw_p86 : lw_okq (⟨"DawnPerquisiteModel", "emit", "(II)V"⟩, 28) := ⟨⟨by decide +kernel, by decide +kernel⟩, lw_t6 (List.mem_of_getElem? (i := 106) rfl), lw_t7 (List.mem_of_getElem? (i := 100) rfl), lw_t7 (List.mem_of_getElem? (i := 101) rfl)⟩
theorem lw_p87 : lw_okq (⟨"DawnPerquisiteModel", "partOf", "(I)I"⟩, 28) := ⟨⟨by decide +kernel, by decide +kernel⟩, lw_t6 (List.mem_of_getElem? (i := 106) rfl), lw_t7 (List.mem_of_getElem? (i := 104) rfl), lw_t7 (List.mem_of_getElem? (i := 105) rfl)⟩
theorem lw_p88 : lw_okq (⟨"DawnPerquisiteModel", "beginOne", "()I"⟩, 28) := ⟨⟨by decide +kernel, by decide +kernel⟩, lw_t6 (List.mem_of_getElem? (i := 106) rfl), lw_t7 (List.mem_of_getElem? (i := 108) rfl), lw_t7 (List.mem_of_getElem? (i := 109) rfl)⟩
theorem lw_p89 : lw_okq (⟨"DawnPerquisiteModel", "nameOf", "()I"⟩, 28) := ⟨⟨by decide +kernel, by decide +kernel⟩, lw_t6 (List.mem_of_getElem? (i := 106) rfl), lw_t7 (List.mem_of_getElem? (i := 112) rfl), lw_t7 (List.mem_of_getElem? (i := 113) rfl)⟩
theorem lw_p90 : lw_okq (⟨"DawnPerquisiteModel", "isOf", "(I)Z"⟩, 28) := ⟨⟨by decide +kernel, by decide +kernel⟩, lw_t6 (List.mem_of_getElem? (i := 106) rfl), lw_t7 (List.mem_of_getElem? (i := 116) rfl), lw_t7 (List.mem_of_getElem? (i := 117) rfl)⟩
theorem lw_p91 : lw_okq (⟨"DawnPerquisiteModel", "opened", "(I)I"⟩, 28) := ⟨⟨by decide +kernel, by decide +kernel⟩, lw_t6 (List.mem_of_getElem? (i := 106) rfl), lw_t7 (List.mem_of_getElem? (i := 120) rfl), lw_t7 (List.mem_of_getElem? (i := 121) rfl)⟩
theorem lw_p92 : lw_okq (⟨"DawnPerquisiteModel", "isAskAhead", "()Z"⟩, 28) := ⟨⟨by decide +kernel, by decide +kernel⟩, lw_t6 (List.mem_of_getElem? (i := 106) rfl), lw_t7 (List.mem_of_getElem? (i := 124) rfl), lw_t7 (List.mem_of_getElem? (i := 125) rfl)⟩
theorem lw_p93 : lw_okq (⟨"DawnPerquisiteModel", "canSell", "(I)Z"⟩, 28) := ⟨⟨by decide +kernel, by decide +kernel⟩, lw_t6 (List.mem_of_getElem? (i := 106) rfl), lw_t7 (List.mem_of_getElem? (i := 144) rfl), lw_t7 (List.mem_of_getElem? (i := 145) rfl)⟩
theorem lw_p94 : lw_okq (⟨"DawnPerquisiteModel", "isBuyer", "(I)Z"⟩, 28) := ⟨⟨by decide +kernel, by decide +kernel⟩, lw_t6 (List.mem_of_getElem? (i := 106) rfl), lw_t7 (List.mem_of_getElem? (i := 148) rfl), lw_t7 (List.mem_of_getElem? (i := 149) rfl)⟩
theorem lw_p95 : lw_okq (⟨"DawnPerquisiteModel", "doesWant", "(II)Z"⟩, 28) := ⟨⟨by decide +kernel, by decide +kernel⟩, lw_t6 (List.mem_of_getElem? (i := 106) rfl), lw_t7 (List.mem_of_getElem? (i := 152) rfl), lw_t7 (List.mem_of_getElem? (i := 153) rfl)⟩
def lw_privs_6 : List (MethodName × Nat) := [(⟨"DawnPerquisiteModel", "betweenOf", "()I"⟩, 28), (⟨"DawnPerquisiteModel", "openNow", "()I"⟩, 28), (⟨"DawnPerquisiteModel", "openAt", "()I"⟩, 28), (⟨"DawnPerquisiteModel", "isCompared", "()Z"⟩, 28), (⟨"DawnPerquisiteModel", "compareOf", "()I"⟩, 28), (⟨"DawnPerquisiteModel", "settle", "(I)V"⟩, 28), (⟨"DawnPerquisiteModel", "emit", "(II)V"⟩, 28), (⟨"DawnPerquisiteModel", "partOf", "(I)I"⟩, 28), (⟨"DawnPerquisiteModel", "beginOne", "()I"⟩, 28), (⟨"DawnPerquisiteModel", "nameOf", "()I"⟩, 28), (⟨"DawnPerquisiteModel", "isOf", "(I)Z"⟩, 28), (⟨"DawnPerquisiteModel", "opened", "(I)I"⟩, 28), (⟨"DawnPerquisiteModel", "isAskAhead", "()Z"⟩, 28), (⟨"DawnPerquisiteModel", "canSell", "(I)Z"⟩, 28), (⟨"DawnPerquisiteModel", "isBuyer", "(I)Z"⟩, 28), (⟨"DawnPerquisiteModel", "doesWant", "(II)Z"⟩, 28)]
theorem lw_r6 : ∀ q ∈ lw_privs_6, lw_okq q := List.forall_mem_cons.mpr ⟨lw_p80, List.forall_mem_cons.mpr ⟨lw_p81, List.forall_mem_cons.mpr ⟨lw_p82, List.forall_mem_cons.mpr ⟨lw_p83, List.forall_mem_cons.mpr ⟨lw_p84, List.forall_mem_cons.mpr ⟨lw_p85, List.forall_mem_cons.mpr ⟨lw_p86, List.forall_mem_cons.mpr ⟨lw_p87, List.forall_mem_cons.mpr ⟨lw_p88, List.forall_mem_cons.mpr ⟨lw_p89, List.forall_mem_cons.mpr ⟨lw_p90, List.forall_mem_cons.mpr ⟨lw_p91, List.forall_mem_cons.mpr ⟨lw_p92, List.forall_mem_cons.mpr ⟨lw_p93, List.forall_mem_cons.mpr ⟨lw_p94, List.forall_mem_cons.mpr ⟨lw_p95, fun _ h => absurd h List.not_mem_nil⟩⟩⟩⟩⟩⟩⟩⟩⟩⟩⟩⟩⟩⟩⟩⟩
theorem lw_p96 : lw_okq (⟨"DawnPerquisiteModel", "slicesOf", "(I)I"⟩, 28) := ⟨⟨by decide +kernel, by decide +kernel⟩, lw_t6 (List.mem_of_getElem? (i := 106) rfl), lw_t7 (List.mem_of_getElem? (i := 156) rfl), lw_t7 (List.mem_of_getElem? (i := 157) rfl)⟩
theorem lw_p97 : lw_okq (⟨"DawnPerquisiteModel", "longOf", "(I)I"⟩, 28) := ⟨⟨by decide +kernel, by decide +kernel⟩, lw_t6 (List.mem_of_getElem? (i := 106) rfl), lw_t7 (List.mem_of_getElem? (i := 160) rfl), lw_t7 (List.mem_of_getElem? (i := 161) rfl)⟩
theorem lw_p98 : lw_okq (⟨"DawnPerquisiteModel", "freeNow", "()I"⟩, 28) := ⟨⟨by decide +kernel, by decide +kernel⟩, lw_t6 (List.mem_of_getElem? (i := 106) rfl), lw_t7 (List.mem_of_getElem? (i := 164) rfl), lw_t7 (List.mem_of_getElem? (i := 165) rfl)⟩
theorem lw_p99 : lw_okq (⟨"DawnPerquisiteModel", "bidsNow", "(I)I"⟩, 28) := ⟨⟨by decide +kernel, by decide +kernel⟩, lw_t6 (List.mem_of_getElem? (i := 106) rfl), lw_t7 (List.mem_of_getElem? (i := 168) rfl), lw_t7 (List.mem_of_getElem? (i := 169) rfl)⟩
theorem lw_p100 : lw_okq (⟨"DawnPerquisiteModel", "bidsOf", "(III)I"⟩, 28) := ⟨⟨by decide +kernel, by decide +kernel⟩, lw_t6 (List.mem_of_getElem? (i := 106) rfl), lw_t7 (List.mem_of_getElem? (i := 172) rfl), lw_t7 (List.mem_of_getElem? (i := 173) rfl)⟩
theorem lw_p101 : lw_okq (⟨"DawnPerquisiteModel", "name", "(II)V"⟩, 28) := ⟨⟨by decide +kernel, by decide +kernel⟩, lw_t6 (List.mem_of_getElem? (i := 106) rfl), lw_t7 (List.mem_of_getElem? (i := 176) rfl), lw_t7 (List.mem_of_getElem? (i := 177) rfl)⟩
theorem lw_p102 : lw_okq (⟨"DawnPerquisiteModel", "hasNow", "(I)I"⟩, 28) := ⟨⟨by decide +kernel, by decide +kernel⟩, lw_t6 (List.mem_of_getElem? (i := 106) rfl), lw_t7 (List.mem_of_getElem? (i := 183) rfl), lw_t7 (List.mem_of_getElem? (i := 184) rfl)⟩
theorem lw_p103 : lw_okq (⟨"DawnPerquisiteModel", "ownNow", "(I)I"⟩, 28) := ⟨⟨by decide +kernel, by decide +kernel⟩, lw_t6 (List.mem_of_getElem? (i := 106) rfl), lw_t7 (List.mem_of_getElem? (i := 187) rfl), lw_t7 (List.mem_of_getElem? (i := 188) rfl)⟩
theorem lw_p104 : lw_okq (⟨"DawnPerquisiteModel", "says", "(IIIII)I"⟩, 28) := ⟨⟨by decide +kernel, by decide +kernel⟩, lw_t6 (List.mem_of_getElem? (i := 106) rfl), lw_t7 (List.mem_of_getElem? (i := 191) rfl), lw_t7 (List.mem_of_getElem? (i := 192) rfl)⟩
theorem lw_p105 : lw_okq (⟨"DawnPerquisiteModel", "summedUp", "(II)J"⟩, 28) := ⟨⟨by decide +kernel, by decide +kernel⟩, lw_t6 (List.mem_of_getElem? (i := 106) rfl), lw_t7 (List.mem_of_getElem? (i := 195) rfl), lw_t7 (List.mem_of_getElem? (i := 196) rfl)⟩
theorem lw_p106 : lw_okq (⟨"DawnPerquisiteModel", "ofOne", "(IJ)J"⟩, 28) := ⟨⟨by decide +kernel, by decide +kernel⟩, lw_t6 (List.mem_of_getElem? (i := 106) rfl), lw_t7 (List.mem_of_getElem? (i := 199) rfl), lw_t7 (List.mem_of_getElem? (i := 200) rfl)⟩
theorem lw_p107 : lw_okq (⟨"DawnPerquisiteModel", "keepStep", "()V"⟩, 28) := ⟨⟨by decide +kernel, by decide +kernel⟩, lw_t6 (List.mem_of_getElem? (i := 106) rfl), lw_t7 (List.mem_of_getElem? (i := 221) rfl), lw_t7 (List.mem_of_getElem? (i := 222) rfl)⟩
theorem lw_p108 : lw_okq (⟨"DawnPerquisiteModel", "sellNow", "(I)I"⟩, 28) := ⟨⟨by decide +kernel, by decide +kernel⟩, lw_t6 (List.mem_of_getElem? (i := 106) rfl), lw_t7 (List.mem_of_getElem? (i := 225) rfl), lw_t7 (List.mem_of_getElem? (i := 226) rfl)⟩
theorem lw_p109 : lw_okq (⟨"DawnPerquisiteModel", "write", "(III)V"⟩, 28) := ⟨⟨by decide +kernel, by decide +kernel⟩, lw_t6 (List.mem_of_getElem? (i := 106) rfl), lw_t7 (List.mem_of_getElem? (i := 229) rfl), lw_t7 (List.mem_of_getElem? (i := 230) rfl)⟩
theorem lw_p110 : lw_okq (⟨"DawnPerquisiteModel", "canGive", "(I)Z"⟩, 28) := ⟨⟨by decide +kernel, by decide +kernel⟩, lw_t6 (List.mem_of_getElem? (i := 106) rfl), lw_t7 (List.mem_of_getElem? (i := 237) rfl), lw_t7 (List.mem_of_getElem? (i := 238) rfl)⟩
theorem lw_p111 : lw_okq (⟨"DawnPerquisiteModel", "giveNow", "(I)V"⟩, 28) := ⟨⟨by decide +kernel, by decide +kernel⟩, lw_t6 (List.mem_of_getElem? (i := 106) rfl), lw_t8 (List.mem_of_getElem? (i := 4) rfl), lw_t8 (List.mem_of_getElem? (i := 5) rfl)⟩
def lw_privs_7 : List (MethodName × Nat) := [(⟨"DawnPerquisiteModel", "slicesOf", "(I)I"⟩, 28), (⟨"DawnPerquisiteModel", "longOf", "(I)I"⟩, 28), (⟨"DawnPerquisiteModel", "freeNow", "()I"⟩, 28), (⟨"DawnPerquisiteModel", "bidsNow", "(I)I"⟩, 28), (⟨"DawnPerquisiteModel", "bidsOf", "(III)I"⟩, 28), (⟨"DawnPerquisiteModel", "name", "(II)V"⟩, 28), (⟨"DawnPerquisiteModel", "hasNow", "(I)I"⟩, 28), (⟨"DawnPerquisiteModel", "ownNow", "(I)I"⟩, 28), (⟨"DawnPerquisiteModel", "says", "(IIIII)I"⟩, 28), (⟨"DawnPerquisiteModel", "summedUp", "(II)J"⟩, 28), (⟨"DawnPerquisiteModel", "ofOne", "(IJ)J"⟩, 28), (⟨"DawnPerquisiteModel", "keepStep", "()V"⟩, 28), (⟨"DawnPerquisiteModel", "sellNow", "(I)I"⟩, 28), (⟨"DawnPerquisiteModel", "write", "(III)V"⟩, 28), (⟨"DawnPerquisiteModel", "canGive", "(I)Z"⟩, 28), (⟨"DawnPerquisiteModel", "giveNow", "(I)V"⟩, 28)]
theorem lw_r7 : ∀ q ∈ lw_privs_7, lw_okq q := List.forall_mem_cons.mpr ⟨lw_p96, List.forall_mem_cons.mpr ⟨lw_p97, List.forall_mem_cons.mpr ⟨lw_p98, List.forall_mem_cons.mpr ⟨lw_p99, List.forall_mem_cons.mpr ⟨lw_p100, List.forall_mem_cons.mpr ⟨lw_p101, List.forall_mem_cons.mpr ⟨lw_p102, List.forall_mem_cons.mpr ⟨lw_p103, List.forall_mem_cons.mpr ⟨lw_p104, List.forall_mem_cons.mpr ⟨lw_p105, List.forall_mem_cons.mpr ⟨lw_p106, List.forall_mem_cons.mpr ⟨lw_p107, List.forall_mem_cons.mpr ⟨lw_p108, List.forall_mem_cons.mpr ⟨lw_p109, List.forall_mem_cons.mpr ⟨lw_p110, List.forall_mem_cons.mpr ⟨lw_p111, fun _ h => absurd h List.not_mem_nil⟩⟩⟩⟩⟩⟩⟩⟩⟩⟩⟩⟩⟩⟩⟩⟩
theorem lw_p112 : lw_okq (⟨"DawnPerquisiteModel", "canTurn", "(I)Z"⟩, 28) := ⟨⟨by decide +kernel, by decide +kernel⟩, lw_t6 (List.mem_of_getElem? (i := 106) rfl), lw_t8 (List.mem_of_getElem? (i := 12) rfl), lw_t8 (List.mem_of_getElem? (i := 13) rfl)⟩
theorem lw_p113 : lw_okq (⟨"DawnPerquisiteModel", "turnNow", "(I)V"⟩, 28) := ⟨⟨by decide +kernel, by decide +kernel⟩, lw_t6 (List.mem_of_getElem? (i := 106) rfl), lw_t8 (List.mem_of_getElem? (i := 16) rfl), lw_t8 (List.mem_of_getElem? (i := 17) rfl)⟩
theorem lw_p114 : lw_okq (⟨"DawnPerquisiteModel", "canPass", "(II)Z"⟩, 28) := ⟨⟨by decide +kernel, by decide +kernel⟩, lw_t6 (List.mem_of_getElem? (i := 106) rfl), lw_t8 (List.mem_of_getElem? (i := 24) rfl), lw_t8 (List.mem_of_getElem? (i := 25) rfl)⟩
theorem lw_p115 : lw_okq (⟨"DawnPerquisiteModel", "arePassed", "(I)Z"⟩, 28) := ⟨⟨by decide +kernel, by decide +kernel⟩, lw_t6 (List.mem_of_getElem? (i := 106) rfl), lw_t8 (List.mem_of_getElem? (i := 32) rfl), lw_t8 (List.mem_of_getElem? (i := 33) rfl)⟩
theorem lw_p116 : lw_okq (⟨"DawnPerquisiteModel", "passDay", "()V"⟩, 28) := ⟨⟨by decide +kernel, by decide +kernel⟩, lw_t6 (List.mem_of_getElem? (i := 106) rfl), lw_t8 (List.mem_of_getElem? (i := 36) rfl), lw_t8 (List.mem_of_getElem? (i := 37) rfl)⟩
theorem lw_p117 : lw_okq (⟨"DawnPerquisiteModel", "earnsOf", "(I)I"⟩, 28) := ⟨⟨by decide +kernel, by decide +kernel⟩, lw_t6 (List.mem_of_getElem? (i := 106) rfl), lw_t8 (List.mem_of_getElem? (i := 40) rfl), lw_t8 (List.mem_of_getElem? (i := 41) rfl)⟩
theorem lw_p118 : lw_okq (⟨"DawnPerquisiteModel", "nextSort", "()I"⟩, 28) := ⟨⟨by decide +kernel, by decide +kernel⟩, lw_t6 (List.mem_of_getElem? (i := 106) rfl), lw_t8 (List.mem_of_getElem? (i := 44) rfl), lw_t8 (List.mem_of_getElem? (i := 45) rfl)⟩
theorem lw_p119 : lw_okq (⟨"DawnPerquisiteModel", "allOdds", "()I"⟩, 28) := ⟨⟨by decide +kernel, by decide +kernel⟩, lw_t6 (List.mem_of_getElem? (i := 106) rfl), lw_t8 (List.mem_of_getElem? (i := 48) rfl), lw_t8 (List.mem_of_getElem? (i := 49) rfl)⟩
theorem lw_p120 : lw_okq (⟨"DawnPerquisiteModel", "drawnBy", "(I)I"⟩, 28) := ⟨⟨by decide +kernel, by decide +kernel⟩, lw_t6 (List.mem_of_getElem? (i := 106) rfl), lw_t8 (List.mem_of_getElem? (i := 52) rfl), lw_t8 (List.mem_of_getElem? (i := 53) rfl)⟩
theorem lw_p121 : lw_okq (⟨"DawnPerquisiteModel", "anew", "()V"⟩, 28) := ⟨⟨by decide +kernel, by decide +kernel⟩, lw_t6 (List.mem_of_getElem? (i := 106) rfl), lw_t8 (List.mem_of_getElem? (i := 56) rfl), lw_t8 (List.mem_of_getElem? (i := 57) rfl)⟩
theorem lw_p122 : lw_okq (⟨"DawnPerquisiteModel", "isPlayed", "(I)Z"⟩, 28) := ⟨⟨by decide +kernel, by decide +kernel⟩, lw_t6 (List.mem_of_getElem? (i := 106) rfl), lw_t8 (List.mem_of_getElem? (i := 67) rfl), lw_t8 (List.mem_of_getElem? (i := 68) rfl)⟩
theorem lw_p123 : lw_okq (⟨"DawnPerquisiteModel", "happens", "(I)V"⟩, 28) := ⟨⟨by decide +kernel, by decide +kernel⟩, lw_t6 (List.mem_of_getElem? (i := 106) rfl), lw_t8 (List.mem_of_getElem? (i := 80) rfl), lw_t8 (List.mem_of_getElem? (i := 81) rfl)⟩
theorem lw_p124 : lw_okq (⟨"DawnPerquisiteModel", "lineOf", "(II)I"⟩, 28) := ⟨⟨by decide +kernel, by decide +kernel⟩, lw_t6 (List.mem_of_getElem? (i := 106) rfl), lw_t8 (List.mem_of_getElem? (i := 104) rfl), lw_t8 (List.mem_of_getElem? (i := 105) rfl)⟩
theorem lw_p125 : lw_okq (⟨"DawnPerquisiteModel", "bestSet", "(II)I"⟩, 28) := ⟨⟨by decide +kernel, by decide +kernel⟩, lw_t6 (List.mem_of_getElem? (i := 106) rfl), lw_t8 (List.mem_of_getElem? (i := 167) rfl), lw_t8 (List.mem_of_getElem? (i := 168) rfl)⟩
theorem lw_p126 : lw_okq (⟨"DawnPerquisiteModel", "broughtBy", "(II)I"⟩, 28) := ⟨⟨by decide +kernel, by decide +kernel⟩, lw_t6 (List.mem_of_getElem? (i := 106) rfl), lw_t8 (List.mem_of_getElem? (i := 171) rfl), lw_t8 (List.mem_of_getElem? (i := 172) rfl)⟩
theorem lw_p127 : lw_okq (⟨"DawnPerquisiteModel", "hoped", "(I)J"⟩, 28) := ⟨⟨by decide +kernel, by decide +kernel⟩, lw_t6 (List.mem_of_getElem? (i := 106) rfl), lw_t8 (List.mem_of_getElem? (i := 186) rfl), lw_t8 (List.mem_of_getElem? (i := 187) rfl)⟩
def lw_privs_8 : List (MethodName × Nat) := [(⟨"DawnPerquisiteModel", "canTurn", "(I)Z"⟩, 28), (⟨"DawnPerquisiteModel", "turnNow", "(I)V"⟩, 28), (⟨"DawnPerquisiteModel", "canPass", "(II)Z"⟩, 28), (⟨"DawnPerquisiteModel", "arePassed", "(I)Z"⟩, 28), (⟨"DawnPerquisiteModel", "passDay", "()V"⟩, 28), (⟨"DawnPerquisiteModel", "earnsOf", "(I)I"⟩, 28), (⟨"DawnPerquisiteModel", "nextSort", "()I"⟩, 28), (⟨"DawnPerquisiteModel", "allOdds", "()I"⟩, 28), (⟨"DawnPerquisiteModel", "drawnBy", "(I)I"⟩, 28), (⟨"DawnPerquisiteModel", "anew", "()V"⟩, 28), (⟨"DawnPerquisiteModel", "isPlayed", "(I)Z"⟩, 28), (⟨"DawnPerquisiteModel", "happens", "(I)V"⟩, 28), (⟨"DawnPerquisiteModel", "lineOf", "(II)I"⟩, 28), (⟨"DawnPerquisiteModel", "bestSet", "(II)I"⟩, 28), (⟨"DawnPerquisiteModel", "broughtBy", "(II)I"⟩, 28), (⟨"DawnPerquisiteModel", "hoped", "(I)J"⟩, 28)]
theorem lw_r8 : ∀ q ∈ lw_privs_8, lw_okq q := List.forall_mem_cons.mpr ⟨lw_p112, List.forall_mem_cons.mpr ⟨lw_p113, List.forall_mem_cons.mpr ⟨lw_p114, List.forall_mem_cons.mpr ⟨lw_p115, List.forall_mem_cons.mpr ⟨lw_p116, List.forall_mem_cons.mpr ⟨lw_p117, List.forall_mem_cons.mpr ⟨lw_p118, List.forall_mem_cons.mpr ⟨lw_p119, List.forall_mem_cons.mpr ⟨lw_p120, List.forall_mem_cons.mpr ⟨lw_p121, List.forall_mem_cons.mpr ⟨lw_p122, List.forall_mem_cons.mpr ⟨lw_p123, List.forall_mem_cons.mpr ⟨lw_p124, List.forall_mem_cons.mpr ⟨lw_p125, List.forall_mem_cons.mpr ⟨lw_p126, List.forall_mem_cons.mpr ⟨lw_p127, fun _ h => absurd h List.not_mem_nil⟩⟩⟩⟩⟩⟩⟩⟩⟩⟩⟩⟩⟩⟩⟩⟩
theorem lw_p128 : lw_okq (⟨"DawnPerquisiteModel", "allRows", "(I)J"⟩, 28) := ⟨⟨by decide +kernel, by decide +kernel⟩, lw_t6 (List.mem_of_getElem? (i := 106) rfl), lw_t8 (List.mem_of_getElem? (i := 190) rfl), lw_t8 (List.mem_of_getElem? (i := 191) rfl)⟩
theorem lw_p129 : lw_okq (⟨"DawnPerquisiteModel", "whole", "()I"⟩, 28) := ⟨⟨by decide +kernel, by decide +kernel⟩, lw_t6 (List.mem_of_getElem? (i := 106) rfl), lw_t8 (List.mem_of_getElem? (i := 194) rfl), lw_t8 (List.mem_of_getElem? (i := 195) rfl)⟩
theorem lw_p130 : lw_okq (⟨"DawnPerquisiteModel", "oddsOf", "(I)I"⟩, 28) := ⟨⟨by decide +kernel, by decide +kernel⟩, lw_t6 (List.mem_of_getElem? (i := 106) rfl), lw_t8 (List.mem_of_getElem? (i := 198) rfl), lw_t8 (List.mem_of_getElem? (i := 199) rfl)⟩
theorem lw_p131 : lw_okq (⟨"DawnPerquisiteModel", "fitting", "()I"⟩, 28) := ⟨⟨by decide +kernel, by decide +kernel⟩, lw_t6 (List.mem_of_getElem? (i := 106) rfl), lw_t8 (List.mem_of_getElem? (i := 223) rfl), lw_t8 (List.mem_of_getElem? (i := 224) rfl)⟩
theorem lw_p132 : lw_okq (⟨"DawnPerquisiteModel", "doesFit", "(I)Z"⟩, 28) := ⟨⟨by decide +kernel, by decide +kernel⟩, lw_t6 (List.mem_of_getElem? (i := 106) rfl), lw_t8 (List.mem_of_getElem? (i := 227) rfl), lw_t8 (List.mem_of_getElem? (i := 228) rfl)⟩
theorem lw_p133 : lw_okq (⟨"DawnPerquisiteModel", "likeliestNow", "()I"⟩, 28) := ⟨⟨by decide +kernel, by decide +kernel⟩, lw_t6 (List.mem_of_getElem? (i := 106) rfl), lw_t8 (List.mem_of_getElem? (i := 235) rfl), lw_t8 (List.mem_of_getElem? (i := 236) rfl)⟩
theorem lw_p134 : lw_okq (⟨"DawnPerquisiteModel", "oddsOfSet", "(I)I"⟩, 28) := ⟨⟨by decide +kernel, by decide +kernel⟩, lw_t6 (List.mem_of_getElem? (i := 106) rfl), lw_t9 (List.mem_of_getElem? (i := 3) rfl), lw_t9 (List.mem_of_getElem? (i := 4) rfl)⟩
theorem lw_p135 : lw_okq (⟨"DawnPerquisiteModel", "greaterPart", "(I)I"⟩, 28) := ⟨⟨by decide +kernel, by decide +kernel⟩, lw_t6 (List.mem_of_getElem? (i := 106) rfl), lw_t9 (List.mem_of_getElem? (i := 11) rfl), lw_t9 (List.mem_of_getElem? (i := 12) rfl)⟩
theorem lw_p136 : lw_okq (⟨"DawnPerquisiteModel", "bidderOf", "(II)I"⟩, 28) := ⟨⟨by decide +kernel, by decide +kernel⟩, lw_t6 (List.mem_of_getElem? (i := 106) rfl), lw_t9 (List.mem_of_getElem? (i := 19) rfl), lw_t9 (List.mem_of_getElem? (i := 20) rfl)⟩
theorem lw_p137 : lw_okq (⟨"DawnPerquisiteModel", "doesBid", "(II)Z"⟩, 28) := ⟨⟨by decide +kernel, by decide +kernel⟩, lw_t6 (List.mem_of_getElem? (i := 106) rfl), lw_t9 (List.mem_of_getElem? (i := 23) rfl), lw_t9 (List.mem_of_getElem? (i := 24) rfl)⟩
theorem lw_p138 : lw_okq (⟨"DawnPerquisiteModel", "bidFor", "(I)I"⟩, 28) := ⟨⟨by decide +kernel, by decide +kernel⟩, lw_t6 (List.mem_of_getElem? (i := 106) rfl), lw_t9 (List.mem_of_getElem? (i := 27) rfl), lw_t9 (List.mem_of_getElem? (i := 28) rfl)⟩
theorem lw_p139 : lw_okq (⟨"DawnPerquisiteModel", "areServed", "(I)Z"⟩, 28) := ⟨⟨by decide +kernel, by decide +kernel⟩, lw_t6 (List.mem_of_getElem? (i := 106) rfl), lw_t9 (List.mem_of_getElem? (i := 35) rfl), lw_t9 (List.mem_of_getElem? (i := 36) rfl)⟩
theorem lw_p140 : lw_okq (⟨"DawnPerquisiteModel", "crowdAt", "(I)I"⟩, 28) := ⟨⟨by decide +kernel, by decide +kernel⟩, lw_t6 (List.mem_of_getElem? (i := 106) rfl), lw_t9 (List.mem_of_getElem? (i := 43) rfl), lw_t9 (List.mem_of_getElem? (i := 44) rfl)⟩
theorem lw_p141 : lw_okq (⟨"DawnPerquisiteModel", "layDawns", "()V"⟩, 28) := ⟨⟨by decide +kernel, by decide +kernel⟩, lw_t6 (List.mem_of_getElem? (i := 106) rfl), lw_t9 (List.mem_of_getElem? (i := 51) rfl), lw_t9 (List.mem_of_getElem? (i := 52) rfl)⟩
theorem lw_p142 : lw_okq (⟨"DawnPerquisiteModel", "layGames", "()V"⟩, 28) := ⟨⟨by decide +kernel, by decide +kernel⟩, lw_t6 (List.mem_of_getElem? (i := 106) rfl), lw_t9 (List.mem_of_getElem? (i := 67) rfl), lw_t9 (List.mem_of_getElem? (i := 68) rfl)⟩
theorem lw_p143 : lw_okq (⟨"DawnPerquisiteModel", "byLeft", "(II)I"⟩, 28) := ⟨⟨by decide +kernel, by decide +kernel⟩, lw_t6 (List.mem_of_getElem? (i := 106) rfl), lw_t9 (List.mem_of_getElem? (i := 71) rfl), lw_t9 (List.mem_of_getElem? (i := 72) rfl)⟩
def lw_privs_9 : List (MethodName × Nat) := [(⟨"DawnPerquisiteModel", "allRows", "(I)J"⟩, 28), (⟨"DawnPerquisiteModel", "whole", "()I"⟩, 28), (⟨"DawnPerquisiteModel", "oddsOf", "(I)I"⟩, 28), (⟨"DawnPerquisiteModel", "fitting", "()I"⟩, 28), (⟨"DawnPerquisiteModel", "doesFit", "(I)Z"⟩, 28), (⟨"DawnPerquisiteModel", "likeliestNow", "()I"⟩, 28), (⟨"DawnPerquisiteModel", "oddsOfSet", "(I)I"⟩, 28), (⟨"DawnPerquisiteModel", "greaterPart", "(I)I"⟩, 28), (⟨"DawnPerquisiteModel", "bidderOf", "(II)I"⟩, 28), (⟨"DawnPerquisiteModel", "doesBid", "(II)Z"⟩, 28), (⟨"DawnPerquisiteModel", "bidFor", "(I)I"⟩, 28), (⟨"DawnPerquisiteModel", "areServed", "(I)Z"⟩, 28), (⟨"DawnPerquisiteModel", "crowdAt", "(I)I"⟩, 28), (⟨"DawnPerquisiteModel", "layDawns", "()V"⟩, 28), (⟨"DawnPerquisiteModel", "layGames", "()V"⟩, 28), (⟨"DawnPerquisiteModel", "byLeft", "(II)I"⟩, 28)]
theorem lw_r9 : ∀ q ∈ lw_privs_9, lw_okq q := List.forall_mem_cons.mpr ⟨lw_p128, List.forall_mem_cons.mpr ⟨lw_p129, List.forall_mem_cons.mpr ⟨lw_p130, List.forall_mem_cons.mpr ⟨lw_p131, List.forall_mem_cons.mpr ⟨lw_p132, List.forall_mem_cons.mpr ⟨lw_p133, List.forall_mem_cons.mpr ⟨lw_p134, List.forall_mem_cons.mpr ⟨lw_p135, List.forall_mem_cons.mpr ⟨lw_p136, List.forall_mem_cons.mpr ⟨lw_p137, List.forall_mem_cons.mpr ⟨lw_p138, List.forall_mem_cons.mpr ⟨lw_p139, List.forall_mem_cons.mpr ⟨lw_p140, List.forall_mem_cons.mpr ⟨lw_p141, List.forall_mem_cons.mpr ⟨lw_p142, List.forall_mem_cons.mpr ⟨lw_p143, fun _ h => absurd h List.not_mem_nil⟩⟩⟩⟩⟩⟩⟩⟩⟩⟩⟩⟩⟩⟩⟩⟩
theorem lw_p144 : lw_okq (⟨"DawnPerquisiteModel", "byRight", "(II)I"⟩, 28) := ⟨⟨by decide +kernel, by decide +kernel⟩, lw_t6 (List.mem_of_getElem? (i := 106) rfl), lw_t9 (List.mem_of_getElem? (i := 75) rfl), lw_t9 (List.mem_of_getElem? (i := 76) rfl)⟩
theorem lw_p145 : lw_okq (⟨"DawnPerquisiteModel", "runOf", "(II)I"⟩, 28) := ⟨⟨by decide +kernel, by decide +kernel⟩, lw_t6 (List.mem_of_getElem? (i := 106) rfl), lw_t9 (List.mem_of_getElem? (i := 87) rfl), lw_t9 (List.mem_of_getElem? (i := 88) rfl)⟩
def lw_privs_10 : List (MethodName × Nat) := [(⟨"DawnPerquisiteModel", "byRight", "(II)I"⟩, 28), (⟨"DawnPerquisiteModel", "runOf", "(II)I"⟩, 28)]
theorem lw_r10 : ∀ q ∈ lw_privs_10, lw_okq q := List.forall_mem_cons.mpr ⟨lw_p144, List.forall_mem_cons.mpr ⟨lw_p145, fun _ h => absurd h List.not_mem_nil⟩⟩
def lw_privs : List (MethodName × Nat) := lw_privs_1 ++ (lw_privs_2 ++ (lw_privs_3 ++ (lw_privs_4 ++ (lw_privs_5 ++ (lw_privs_6 ++ (lw_privs_7 ++ (lw_privs_8 ++ (lw_privs_9 ++ (lw_privs_10)))))))))
def lw_tbl : List Cond := k2_sels lw_privs ++ tables_1
theorem lw_privs_ok : ∀ q ∈ lw_privs, lw_okq q := by
  show ∀ q ∈ lw_privs_1 ++ (lw_privs_2 ++ (lw_privs_3 ++ (lw_privs_4 ++ (lw_privs_5 ++ (lw_privs_6 ++ (lw_privs_7 ++ (lw_privs_8 ++ (lw_privs_9 ++ (lw_privs_10))))))))), lw_okq q
  exact List.forall_mem_append.mpr ⟨lw_r1, List.forall_mem_append.mpr ⟨lw_r2, List.forall_mem_append.mpr ⟨lw_r3, List.forall_mem_append.mpr ⟨lw_r4, List.forall_mem_append.mpr ⟨lw_r5, List.forall_mem_append.mpr ⟨lw_r6, List.forall_mem_append.mpr ⟨lw_r7, List.forall_mem_append.mpr ⟨lw_r8, List.forall_mem_append.mpr ⟨lw_r9, lw_r10⟩⟩⟩⟩⟩⟩⟩⟩⟩
-- ===== ONE list of words for every method: the tables' words that hold all through a run =====
def lw_all : List Cond := lw_tbl.filter goodWord
/-- a word of the tables by its place: claim/WORDS.tsv -/
theorem lw_w {w : Cond} (i : Nat) (h : lw_tbl[i]? = some w) (g : goodWord w = true) : w ∈ lw_all := List.mem_filter.mpr ⟨List.mem_of_getElem? h, g⟩
theorem lw_all_tbl {w : Cond} (h : w ∈ lw_all) : w ∈ lw_tbl := (List.mem_filter.mp h).1
theorem lw_self : GoodIn lw_all lw_all := fun w h => ⟨h, good_of_word (List.mem_filter.mp h).2⟩
/-- a class's field words, by their places -/
theorem lw_in (ws : List Cond) (ps : List Nat) (hp : ws = ps.filterMap (fun i => lw_tbl[i]?)) (hg : ws.all goodWord = true) : ∀ w ∈ ws, w ∈ lw_all := by
  intro w h
  have h1 := List.all_eq_true.mp hg w h
  rw [hp] at h
  obtain ⟨i, -, hi⟩ := List.mem_filterMap.mp h
  exact lw_w i hi h1
/-- the words of a contract for the method y with code b, L locals, answer r -/
abbrev ws_ (y : MethodName) (b : ByteArray) (L : Nat) (r : Option FieldType) : List Cond := Cond.code y b L r :: lw_all
theorem lw_meth {y : MethodName} {b : ByteArray} {L : Nat} {r : Option FieldType} (h : Cond.code y b L r ∈ lw_all) : GoodIn lw_all (ws_ y b L r) := by
  intro w hw
  rcases List.mem_cons.mp hw with e | e
  · rw [e]
    exact lw_self _ h
  · exact lw_self _ e
theorem lw_app {a c : List Cond} (ha : ∀ w ∈ a, w ∈ lw_all) (hc : GoodIn lw_all c) : GoodIn lw_all (a ++ c) := by
  intro w hw
  rcases List.mem_append.mp hw with e | e
  · exact lw_self w (ha w e)
  · exact hc w e
/-- what a call through an object asks: cwV n hts (lw_V ..) -/
theorem lw_V {own : String} {idx : Nat} {C : String} {y : MethodName} {b : ByteArray} {L : Nat} {r : Option FieldType} (h1 : Cond.methodLink own idx y ∈ lw_all) (h2 : Cond.instanceMethod y ∈ lw_all) (h3 : Cond.selects C y y ∈ lw_all) (h4 : Cond.initialized C ∈ lw_all) (h5 : Cond.code y b L r ∈ lw_all) : GoodIn lw_all (wsV own idx C y (ws_ y b L r)) := by
  refine lw_app ?_ (lw_meth h5)
  intro w hw
  simp only [List.mem_cons, List.not_mem_nil, or_false] at hw
  rcases hw with e | e | e | e
  · rw [e]; exact h1
  · rw [e]; exact h2
  · rw [e]; exact h3
  · rw [e]; exact h4
/-- what a static call asks: va_cwS n hts (lw_S ..) -/
theorem lw_S {own : String} {idx : Nat} {y : MethodName} {b : ByteArray} {L : Nat} {r : Option FieldType} (h1 : Cond.methodLink own idx y ∈ lw_all) (h2 : Cond.static y ∈ lw_all) (h3 : Cond.initialized y.cls ∈ lw_all) (h4 : Cond.code y b L r ∈ lw_all) : GoodIn lw_all (va_wsS own idx y (ws_ y b L r)) := by
  refine lw_app ?_ (lw_meth h4)
  intro w hw
  simp only [List.mem_cons, List.not_mem_nil, or_false] at hw
  rcases hw with e | e | e
  · rw [e]; exact h1
  · rw [e]; exact h2
  · rw [e]; exact h3
/-- the words of a contract for a method WITH HANDLERS (hh: its table) -/
abbrev wsW_ (y : MethodName) (b : ByteArray) (L : Nat) (r : Option FieldType) (hh : List (Nat × Nat × Nat × Nat)) : List Cond := Cond.codeWith y b L r hh :: lw_all
theorem lw_methW {y : MethodName} {b : ByteArray} {L : Nat} {r : Option FieldType} {hh : List (Nat × Nat × Nat × Nat)} (h : Cond.codeWith y b L r hh ∈ lw_all) : GoodIn lw_all (wsW_ y b L r hh) := by
  intro w hw
  rcases List.mem_cons.mp hw with e | e
  · rw [e]
    exact lw_self _ h
  · exact lw_self _ e
/-- any list of words by their places (lw_in), good -/
theorem lw_good {ws : List Cond} (h : ∀ w ∈ ws, w ∈ lw_all) : GoodIn lw_all ws := fun w hw => lw_self w (h w hw)
/-- what a call of a method with handlers asks: vx_cwVW n hts (lw_VW ..), vx_cwSW n hts (lw_SW ..) -/
theorem lw_VW {own : String} {idx : Nat} {C : String} {y : MethodName} {b : ByteArray} {L : Nat} {r : Option FieldType} {hh : List (Nat × Nat × Nat × Nat)} (h1 : Cond.methodLink own idx y ∈ lw_all) (h2 : Cond.instanceMethod y ∈ lw_all) (h3 : Cond.selects C y y ∈ lw_all) (h4 : Cond.initialized C ∈ lw_all) (h5 : Cond.codeWith y b L r hh ∈ lw_all) : GoodIn lw_all (wsV own idx C y (wsW_ y b L r hh)) := by
  refine lw_app ?_ (lw_methW h5)
  intro w hw
  simp only [List.mem_cons, List.not_mem_nil, or_false] at hw
  rcases hw with e | e | e | e
  · rw [e]; exact h1
  · rw [e]; exact h2
  · rw [e]; exact h3
  · rw [e]; exact h4
theorem lw_SW {own : String} {idx : Nat} {y : MethodName} {b : ByteArray} {L : Nat} {r : Option FieldType} {hh : List (Nat × Nat × Nat × Nat)} (h1 : Cond.methodLink own idx y ∈ lw_all) (h2 : Cond.static y ∈ lw_all) (h3 : Cond.initialized y.cls ∈ lw_all) (h4 : Cond.codeWith y b L r hh ∈ lw_all) : GoodIn lw_all (va_wsS own idx y (wsW_ y b L r hh)) := by
  refine lw_app ?_ (lw_methW h4)
  intro w hw
  simp only [List.mem_cons, List.not_mem_nil, or_false] at hw
  rcases hw with e | e | e
  · rw [e]; exact h1
  · rw [e]; exact h2
  · rw [e]; exact h3
/-- a word by its place in its run of the tables -/
theorem lw_at {r : List Cond} (hr : ∀ w ∈ r, w ∈ lw_tbl) {w : Cond} (i : Nat) (h : r[i]? = some w) : w ∈ lw_tbl := hr w (List.mem_of_getElem? h)
theorem lw_g {w : Cond} (h : w ∈ lw_tbl) (g : goodWord w = true) : w ∈ lw_all := List.mem_filter.mpr ⟨h, g⟩
theorem lw_ms : ∀ w ∈ k2_sels lw_privs, w ∈ lw_tbl := fun w h => show w ∈ k2_sels lw_privs ++ tables_1 from List.mem_append_left _ h
theorem lw_m1 : ∀ w ∈ tables_1_1, w ∈ lw_tbl := fun w h => show w ∈ k2_sels lw_privs ++ tables_1 from List.mem_append_right (k2_sels lw_privs) (show w ∈ tables_1 from List.mem_append_left _ h)
theorem lw_m2 : ∀ w ∈ tables_1_2, w ∈ lw_tbl := fun w h => show w ∈ k2_sels lw_privs ++ tables_1 from List.mem_append_right (k2_sels lw_privs) (show w ∈ tables_1 from List.mem_append_right _ (List.mem_append_left _ h))
theorem lw_m3 : ∀ w ∈ tables_1_3, w ∈ lw_tbl := fun w h => show w ∈ k2_sels lw_privs ++ tables_1 from List.mem_append_right (k2_sels lw_privs) (show w ∈ tables_1 from List.mem_append_right _ (List.mem_append_right _ (List.mem_append_left _ h)))
theorem lw_m4 : ∀ w ∈ tables_1_4, w ∈ lw_tbl := fun w h => show w ∈ k2_sels lw_privs ++ tables_1 from List.mem_append_right (k2_sels lw_privs) (show w ∈ tables_1 from List.mem_append_right _ (List.mem_append_right _ (List.mem_append_right _ (List.mem_append_left _ h))))
theorem lw_m5 : ∀ w ∈ tables_1_5, w ∈ lw_tbl := fun w h => show w ∈ k2_sels lw_privs ++ tables_1 from List.mem_append_right (k2_sels lw_privs) (show w ∈ tables_1 from List.mem_append_right _ (List.mem_append_right _ (List.mem_append_right _ (List.mem_append_right _ (List.mem_append_left _ h)))))
theorem lw_m6 : ∀ w ∈ tables_1_6, w ∈ lw_tbl := fun w h => show w ∈ k2_sels lw_privs ++ tables_1 from List.mem_append_right (k2_sels lw_privs) (show w ∈ tables_1 from List.mem_append_right _ (List.mem_append_right _ (List.mem_append_right _ (List.mem_append_right _ (List.mem_append_right _ (List.mem_append_left _ h))))))
theorem lw_m7 : ∀ w ∈ tables_1_7, w ∈ lw_tbl := fun w h => show w ∈ k2_sels lw_privs ++ tables_1 from List.mem_append_right (k2_sels lw_privs) (show w ∈ tables_1 from List.mem_append_right _ (List.mem_append_right _ (List.mem_append_right _ (List.mem_append_right _ (List.mem_append_right _ (List.mem_append_right _ (List.mem_append_left _ h)))))))
theorem lw_m8 : ∀ w ∈ tables_1_8, w ∈ lw_tbl := fun w h => show w ∈ k2_sels lw_privs ++ tables_1 from List.mem_append_right (k2_sels lw_privs) (show w ∈ tables_1 from List.mem_append_right _ (List.mem_append_right _ (List.mem_append_right _ (List.mem_append_right _ (List.mem_append_right _ (List.mem_append_right _ (List.mem_append_right _ (List.mem_append_left _ h))))))))
theorem lw_m9 : ∀ w ∈ tables_1_9, w ∈ lw_tbl := fun w h => show w ∈ k2_sels lw_privs ++ tables_1 from List.mem_append_right (k2_sels lw_privs) (show w ∈ tables_1 from List.mem_append_right _ (List.mem_append_right _ (List.mem_append_right _ (List.mem_append_right _ (List.mem_append_right _ (List.mem_append_right _ (List.mem_append_right _ (List.mem_append_right _ h))))))))
theorem qs0 : (Cond.selects "DawnPerquisite" ⟨"DawnPerquisite", "buyers", "()I"⟩ ⟨"DawnPerquisite", "buyers", "()I"⟩) ∈ lw_all := lw_g (lw_at lw_ms 0 rfl) rfl
theorem qs1 : (Cond.selects "DawnPerquisite" ⟨"DawnPerquisite", "put", "(I)V"⟩ ⟨"DawnPerquisite", "put", "(I)V"⟩) ∈ lw_all := lw_g (lw_at lw_ms 1 rfl) rfl
theorem qs2 : (Cond.selects "DawnPerquisite$Tokens" ⟨"DawnPerquisite$Tokens", "next", "()V"⟩ ⟨"DawnPerquisite$Tokens", "next", "()V"⟩) ∈ lw_all := lw_g (lw_at lw_ms 2 rfl) rfl
theorem qs3 : (Cond.selects "DawnPerquisite$Tokens" ⟨"DawnPerquisite$Tokens", "isWord", "(Ljava/lang/String;)Z"⟩ ⟨"DawnPerquisite$Tokens", "isWord", "(Ljava/lang/String;)Z"⟩) ∈ lw_all := lw_g (lw_at lw_ms 3 rfl) rfl
theorem qs4 : (Cond.selects "DawnPerquisite$Tokens" ⟨"DawnPerquisite$Tokens", "wrong", "(I)LDawnPerquisite$Wrong;"⟩ ⟨"DawnPerquisite$Tokens", "wrong", "(I)LDawnPerquisite$Wrong;"⟩) ∈ lw_all := lw_g (lw_at lw_ms 4 rfl) rfl
theorem qs5 : (Cond.selects "java/lang/Throwable" ⟨"java/lang/Throwable", "fillInStackTrace", "(I)Ljava/lang/Throwable;"⟩ ⟨"java/lang/Throwable", "fillInStackTrace", "(I)Ljava/lang/Throwable;"⟩) ∈ lw_all := lw_g (lw_at lw_ms 5 rfl) rfl
theorem qs6 : (Cond.selects "DawnPerquisite$Tokens" ⟨"DawnPerquisite$Tokens", "sum", "()LDawnPerquisite$Sum;"⟩ ⟨"DawnPerquisite$Tokens", "sum", "()LDawnPerquisite$Sum;"⟩) ∈ lw_all := lw_g (lw_at lw_ms 6 rfl) rfl
theorem qs7 : (Cond.selects "DawnPerquisite$Tokens" ⟨"DawnPerquisite$Tokens", "product", "()LDawnPerquisite$Sum;"⟩ ⟨"DawnPerquisite$Tokens", "product", "()LDawnPerquisite$Sum;"⟩) ∈ lw_all := lw_g (lw_at lw_ms 7 rfl) rfl
theorem qs8 : (Cond.selects "DawnPerquisite$Tokens" ⟨"DawnPerquisite$Tokens", "one", "()LDawnPerquisite$Sum;"⟩ ⟨"DawnPerquisite$Tokens", "one", "()LDawnPerquisite$Sum;"⟩) ∈ lw_all := lw_g (lw_at lw_ms 8 rfl) rfl
theorem qs9 : (Cond.selects "DawnPerquisite$Tokens" ⟨"DawnPerquisite$Tokens", "number", "(II)I"⟩ ⟨"DawnPerquisite$Tokens", "number", "(II)I"⟩) ∈ lw_all := lw_g (lw_at lw_ms 9 rfl) rfl
theorem qs10 : (Cond.selects "DawnPerquisite$Tokens" ⟨"DawnPerquisite$Tokens", "choice", "()LDawnPerquisite$Sum;"⟩ ⟨"DawnPerquisite$Tokens", "choice", "()LDawnPerquisite$Sum;"⟩) ∈ lw_all := lw_g (lw_at lw_ms 10 rfl) rfl
theorem qs11 : (Cond.selects "DawnPerquisite$Tokens" ⟨"DawnPerquisite$Tokens", "opens", "()V"⟩ ⟨"DawnPerquisite$Tokens", "opens", "()V"⟩) ∈ lw_all := lw_g (lw_at lw_ms 11 rfl) rfl
theorem qs12 : (Cond.selects "DawnPerquisite$Tokens" ⟨"DawnPerquisite$Tokens", "either", "()LDawnPerquisite$Asked;"⟩ ⟨"DawnPerquisite$Tokens", "either", "()LDawnPerquisite$Asked;"⟩) ∈ lw_all := lw_g (lw_at lw_ms 12 rfl) rfl
theorem qs13 : (Cond.selects "DawnPerquisite$Tokens" ⟨"DawnPerquisite$Tokens", "both", "()LDawnPerquisite$Asked;"⟩ ⟨"DawnPerquisite$Tokens", "both", "()LDawnPerquisite$Asked;"⟩) ∈ lw_all := lw_g (lw_at lw_ms 13 rfl) rfl
theorem qs14 : (Cond.selects "DawnPerquisite$Tokens" ⟨"DawnPerquisite$Tokens", "ask", "()LDawnPerquisite$Asked;"⟩ ⟨"DawnPerquisite$Tokens", "ask", "()LDawnPerquisite$Asked;"⟩) ∈ lw_all := lw_g (lw_at lw_ms 14 rfl) rfl
theorem qs15 : (Cond.selects "java/util/ArrayList" ⟨"java/util/ArrayList", "add", "(Ljava/lang/Object;[Ljava/lang/Object;I)V"⟩ ⟨"java/util/ArrayList", "add", "(Ljava/lang/Object;[Ljava/lang/Object;I)V"⟩) ∈ lw_all := lw_g (lw_at lw_ms 15 rfl) rfl
theorem qs16 : (Cond.selects "java/util/ArrayList" ⟨"java/util/ArrayList", "grow", "()[Ljava/lang/Object;"⟩ ⟨"java/util/ArrayList", "grow", "()[Ljava/lang/Object;"⟩) ∈ lw_all := lw_g (lw_at lw_ms 16 rfl) rfl
theorem qs17 : (Cond.selects "java/util/ArrayList" ⟨"java/util/ArrayList", "grow", "(I)[Ljava/lang/Object;"⟩ ⟨"java/util/ArrayList", "grow", "(I)[Ljava/lang/Object;"⟩) ∈ lw_all := lw_g (lw_at lw_ms 17 rfl) rfl
theorem qs18 : (Cond.selects "DawnPerquisite$Tokens" ⟨"DawnPerquisite$Tokens", "want", "(I)V"⟩ ⟨"DawnPerquisite$Tokens", "want", "(I)V"⟩) ∈ lw_all := lw_g (lw_at lw_ms 18 rfl) rfl
theorem qs19 : (Cond.selects "DawnPerquisite$Tokens" ⟨"DawnPerquisite$Tokens", "nameNow", "()I"⟩ ⟨"DawnPerquisite$Tokens", "nameNow", "()I"⟩) ∈ lw_all := lw_g (lw_at lw_ms 19 rfl) rfl
theorem qs20 : (Cond.selects "DawnPerquisite$Tokens" ⟨"DawnPerquisite$Tokens", "mayName", "(I)Z"⟩ ⟨"DawnPerquisite$Tokens", "mayName", "(I)Z"⟩) ∈ lw_all := lw_g (lw_at lw_ms 20 rfl) rfl
theorem qs21 : (Cond.selects "DawnPerquisite$Tokens" ⟨"DawnPerquisite$Tokens", "doing", "(I)LDawnPerquisite$Doing;"⟩ ⟨"DawnPerquisite$Tokens", "doing", "(I)LDawnPerquisite$Doing;"⟩) ∈ lw_all := lw_g (lw_at lw_ms 21 rfl) rfl
theorem qs22 : (Cond.selects "DawnPerquisite" ⟨"DawnPerquisite", "isText", "(I)Z"⟩ ⟨"DawnPerquisite", "isText", "(I)Z"⟩) ∈ lw_all := lw_g (lw_at lw_ms 22 rfl) rfl
theorem qs23 : (Cond.selects "DawnPerquisite" ⟨"DawnPerquisite", "canSell", "(I)Z"⟩ ⟨"DawnPerquisite", "canSell", "(I)Z"⟩) ∈ lw_all := lw_g (lw_at lw_ms 23 rfl) rfl
theorem qs24 : (Cond.selects "DawnPerquisite" ⟨"DawnPerquisite", "isBuyer", "(I)Z"⟩ ⟨"DawnPerquisite", "isBuyer", "(I)Z"⟩) ∈ lw_all := lw_g (lw_at lw_ms 24 rfl) rfl
theorem qs25 : (Cond.selects "DawnPerquisite" ⟨"DawnPerquisite", "doesWant", "(II)Z"⟩ ⟨"DawnPerquisite", "doesWant", "(II)Z"⟩) ∈ lw_all := lw_g (lw_at lw_ms 25 rfl) rfl
theorem qs26 : (Cond.selects "DawnPerquisite" ⟨"DawnPerquisite", "slicesOf", "(I)I"⟩ ⟨"DawnPerquisite", "slicesOf", "(I)I"⟩) ∈ lw_all := lw_g (lw_at lw_ms 26 rfl) rfl
theorem qs27 : (Cond.selects "DawnPerquisite" ⟨"DawnPerquisite", "bidsNow", "(II)I"⟩ ⟨"DawnPerquisite", "bidsNow", "(II)I"⟩) ∈ lw_all := lw_g (lw_at lw_ms 27 rfl) rfl
theorem qs28 : (Cond.selects "DawnPerquisite" ⟨"DawnPerquisite", "rules", "()LDawnPerquisite$Text;"⟩ ⟨"DawnPerquisite", "rules", "()LDawnPerquisite$Text;"⟩) ∈ lw_all := lw_g (lw_at lw_ms 28 rfl) rfl
theorem qs29 : (Cond.selects "DawnPerquisite" ⟨"DawnPerquisite", "bidsBy", "(LDawnPerquisite$Text;[III)I"⟩ ⟨"DawnPerquisite", "bidsBy", "(LDawnPerquisite$Text;[III)I"⟩) ∈ lw_all := lw_g (lw_at lw_ms 29 rfl) rfl
theorem qs30 : (Cond.selects "DawnPerquisite" ⟨"DawnPerquisite", "namesOf", "([III)V"⟩ ⟨"DawnPerquisite", "namesOf", "([III)V"⟩) ∈ lw_all := lw_g (lw_at lw_ms 30 rfl) rfl
theorem qs31 : (Cond.selects "DawnPerquisite" ⟨"DawnPerquisite", "longOf", "(I)I"⟩ ⟨"DawnPerquisite", "longOf", "(I)I"⟩) ∈ lw_all := lw_g (lw_at lw_ms 31 rfl) rfl
theorem qs32 : (Cond.selects "DawnPerquisite" ⟨"DawnPerquisite", "sells", "(I)I"⟩ ⟨"DawnPerquisite", "sells", "(I)I"⟩) ∈ lw_all := lw_g (lw_at lw_ms 32 rfl) rfl
theorem qs33 : (Cond.selects "DawnPerquisite" ⟨"DawnPerquisite", "canGive", "(I)Z"⟩ ⟨"DawnPerquisite", "canGive", "(I)Z"⟩) ∈ lw_all := lw_g (lw_at lw_ms 33 rfl) rfl
theorem qs34 : (Cond.selects "DawnPerquisite" ⟨"DawnPerquisite", "gives", "(I)V"⟩ ⟨"DawnPerquisite", "gives", "(I)V"⟩) ∈ lw_all := lw_g (lw_at lw_ms 34 rfl) rfl
theorem qs35 : (Cond.selects "DawnPerquisite" ⟨"DawnPerquisite", "canTurn", "(I)Z"⟩ ⟨"DawnPerquisite", "canTurn", "(I)Z"⟩) ∈ lw_all := lw_g (lw_at lw_ms 35 rfl) rfl
theorem qs36 : (Cond.selects "DawnPerquisite" ⟨"DawnPerquisite", "turns", "(I)V"⟩ ⟨"DawnPerquisite", "turns", "(I)V"⟩) ∈ lw_all := lw_g (lw_at lw_ms 36 rfl) rfl
theorem qs37 : (Cond.selects "DawnPerquisite" ⟨"DawnPerquisite", "canPass", "(II)Z"⟩ ⟨"DawnPerquisite", "canPass", "(II)Z"⟩) ∈ lw_all := lw_g (lw_at lw_ms 37 rfl) rfl
theorem qs38 : (Cond.selects "DawnPerquisite" ⟨"DawnPerquisite", "priceOf", "(II)I"⟩ ⟨"DawnPerquisite", "priceOf", "(II)I"⟩) ∈ lw_all := lw_g (lw_at lw_ms 38 rfl) rfl
theorem qs39 : (Cond.selects "DawnPerquisite" ⟨"DawnPerquisite", "passes", "([I)I"⟩ ⟨"DawnPerquisite", "passes", "([I)I"⟩) ∈ lw_all := lw_g (lw_at lw_ms 39 rfl) rfl
theorem qs40 : (Cond.selects "DawnPerquisite" ⟨"DawnPerquisite", "earnsOf", "([II)I"⟩ ⟨"DawnPerquisite", "earnsOf", "([II)I"⟩) ∈ lw_all := lw_g (lw_at lw_ms 40 rfl) rfl
theorem qs41 : (Cond.selects "DawnPerquisite" ⟨"DawnPerquisite", "toldOdds", "()I"⟩ ⟨"DawnPerquisite", "toldOdds", "()I"⟩) ∈ lw_all := lw_g (lw_at lw_ms 41 rfl) rfl
theorem qs42 : (Cond.selects "DawnPerquisite" ⟨"DawnPerquisite", "sortBy", "(I)I"⟩ ⟨"DawnPerquisite", "sortBy", "(I)I"⟩) ∈ lw_all := lw_g (lw_at lw_ms 42 rfl) rfl
theorem qs43 : (Cond.selects "DawnPerquisite" ⟨"DawnPerquisite", "oddsOf", "(I)I"⟩ ⟨"DawnPerquisite", "oddsOf", "(I)I"⟩) ∈ lw_all := lw_g (lw_at lw_ms 43 rfl) rfl
theorem qs44 : (Cond.selects "DawnPerquisite" ⟨"DawnPerquisite", "does", "(LDawnPerquisite$Doing;)Z"⟩ ⟨"DawnPerquisite", "does", "(LDawnPerquisite$Doing;)Z"⟩) ∈ lw_all := lw_g (lw_at lw_ms 44 rfl) rfl
theorem qs45 : (Cond.selects "DawnPerquisite" ⟨"DawnPerquisite", "passesAll", "(I)Z"⟩ ⟨"DawnPerquisite", "passesAll", "(I)Z"⟩) ∈ lw_all := lw_g (lw_at lw_ms 45 rfl) rfl
theorem qs46 : (Cond.selects "DawnPerquisite" ⟨"DawnPerquisite", "befalls", "(I)V"⟩ ⟨"DawnPerquisite", "befalls", "(I)V"⟩) ∈ lw_all := lw_g (lw_at lw_ms 46 rfl) rfl
theorem qs47 : (Cond.selects "DawnPerquisite" ⟨"DawnPerquisite", "pursesOf", "([I)I"⟩ ⟨"DawnPerquisite", "pursesOf", "([I)I"⟩) ∈ lw_all := lw_g (lw_at lw_ms 47 rfl) rfl
theorem qs48 : (Cond.selects "DawnPerquisite" ⟨"DawnPerquisite", "packOf", "(II)I"⟩ ⟨"DawnPerquisite", "packOf", "(II)I"⟩) ∈ lw_all := lw_g (lw_at lw_ms 48 rfl) rfl
theorem qs49 : (Cond.selects "DawnPerquisite" ⟨"DawnPerquisite", "everybody", "()I"⟩ ⟨"DawnPerquisite", "everybody", "()I"⟩) ∈ lw_all := lw_g (lw_at lw_ms 49 rfl) rfl
theorem qs50 : (Cond.selects "DawnPerquisite" ⟨"DawnPerquisite", "bringsOf", "(II)I"⟩ ⟨"DawnPerquisite", "bringsOf", "(II)I"⟩) ∈ lw_all := lw_g (lw_at lw_ms 50 rfl) rfl
theorem qs51 : (Cond.selects "DawnPerquisite" ⟨"DawnPerquisite", "hopeOf", "(I)J"⟩ ⟨"DawnPerquisite", "hopeOf", "(I)J"⟩) ∈ lw_all := lw_g (lw_at lw_ms 51 rfl) rfl
theorem qs52 : (Cond.selects "DawnPerquisite" ⟨"DawnPerquisite", "allOdds", "()I"⟩ ⟨"DawnPerquisite", "allOdds", "()I"⟩) ∈ lw_all := lw_g (lw_at lw_ms 52 rfl) rfl
theorem qs53 : (Cond.selects "DawnPerquisite" ⟨"DawnPerquisite", "told", "()I"⟩ ⟨"DawnPerquisite", "told", "()I"⟩) ∈ lw_all := lw_g (lw_at lw_ms 53 rfl) rfl
theorem qs54 : (Cond.selects "DawnPerquisite" ⟨"DawnPerquisite", "couldBe", "(I)Z"⟩ ⟨"DawnPerquisite", "couldBe", "(I)Z"⟩) ∈ lw_all := lw_g (lw_at lw_ms 54 rfl) rfl
theorem qs55 : (Cond.selects "DawnPerquisite" ⟨"DawnPerquisite", "oddsThatFit", "()I"⟩ ⟨"DawnPerquisite", "oddsThatFit", "()I"⟩) ∈ lw_all := lw_g (lw_at lw_ms 55 rfl) rfl
theorem qs56 : (Cond.selects "DawnPerquisite" ⟨"DawnPerquisite", "greaterPart", "(I)I"⟩ ⟨"DawnPerquisite", "greaterPart", "(I)I"⟩) ∈ lw_all := lw_g (lw_at lw_ms 56 rfl) rfl
theorem qs57 : (Cond.selects "DawnPerquisite" ⟨"DawnPerquisite", "bidsFor", "(II)I"⟩ ⟨"DawnPerquisite", "bidsFor", "(II)I"⟩) ∈ lw_all := lw_g (lw_at lw_ms 57 rfl) rfl
theorem qs58 : (Cond.selects "DawnPerquisite" ⟨"DawnPerquisite", "servesAll", "(I)Z"⟩ ⟨"DawnPerquisite", "servesAll", "(I)Z"⟩) ∈ lw_all := lw_g (lw_at lw_ms 58 rfl) rfl
theorem qs59 : (Cond.selects "DawnPerquisite" ⟨"DawnPerquisite", "wantedBy", "(I)I"⟩ ⟨"DawnPerquisite", "wantedBy", "(I)I"⟩) ∈ lw_all := lw_g (lw_at lw_ms 59 rfl) rfl
theorem qs60 : (Cond.selects "DawnPerquisite" ⟨"DawnPerquisite", "nextBuyer", "()I"⟩ ⟨"DawnPerquisite", "nextBuyer", "()I"⟩) ∈ lw_all := lw_g (lw_at lw_ms 60 rfl) rfl
theorem qs61 : (Cond.selects "DawnPerquisite" ⟨"DawnPerquisite", "laysMore", "()V"⟩ ⟨"DawnPerquisite", "laysMore", "()V"⟩) ∈ lw_all := lw_g (lw_at lw_ms 61 rfl) rfl
theorem qs62 : (Cond.selects "DawnPerquisite" ⟨"DawnPerquisite", "leftFirst", "(II)I"⟩ ⟨"DawnPerquisite", "leftFirst", "(II)I"⟩) ∈ lw_all := lw_g (lw_at lw_ms 62 rfl) rfl
theorem qs63 : (Cond.selects "DawnPerquisite" ⟨"DawnPerquisite", "rightFirst", "(II)I"⟩ ⟨"DawnPerquisite", "rightFirst", "(II)I"⟩) ∈ lw_all := lw_g (lw_at lw_ms 63 rfl) rfl
theorem qs64 : (Cond.selects "DawnPerquisite" ⟨"DawnPerquisite", "runOf", "(II)I"⟩ ⟨"DawnPerquisite", "runOf", "(II)I"⟩) ∈ lw_all := lw_g (lw_at lw_ms 64 rfl) rfl
theorem qs65 : (Cond.selects "DawnPerquisite" ⟨"DawnPerquisite", "isLaw", "(LDawnPerquisite$Text;)Z"⟩ ⟨"DawnPerquisite", "isLaw", "(LDawnPerquisite$Text;)Z"⟩) ∈ lw_all := lw_g (lw_at lw_ms 65 rfl) rfl
theorem qs66 : (Cond.selects "DawnPerquisiteModel" ⟨"DawnPerquisiteModel", "four", "(I)V"⟩ ⟨"DawnPerquisiteModel", "four", "(I)V"⟩) ∈ lw_all := lw_g (lw_at lw_ms 66 rfl) rfl
theorem qs67 : (Cond.selects "DawnPerquisiteModel" ⟨"DawnPerquisiteModel", "readText", "()I"⟩ ⟨"DawnPerquisiteModel", "readText", "()I"⟩) ∈ lw_all := lw_g (lw_at lw_ms 67 rfl) rfl
theorem qs68 : (Cond.selects "DawnPerquisiteModel" ⟨"DawnPerquisiteModel", "nextToken", "()V"⟩ ⟨"DawnPerquisiteModel", "nextToken", "()V"⟩) ∈ lw_all := lw_g (lw_at lw_ms 68 rfl) rfl
theorem qs69 : (Cond.selects "DawnPerquisiteModel" ⟨"DawnPerquisiteModel", "byteAt", "(I)I"⟩ ⟨"DawnPerquisiteModel", "byteAt", "(I)I"⟩) ∈ lw_all := lw_g (lw_at lw_ms 69 rfl) rfl
theorem qs70 : (Cond.selects "DawnPerquisiteModel" ⟨"DawnPerquisiteModel", "clause", "()I"⟩ ⟨"DawnPerquisiteModel", "clause", "()I"⟩) ∈ lw_all := lw_g (lw_at lw_ms 70 rfl) rfl
theorem qs71 : (Cond.selects "DawnPerquisiteModel" ⟨"DawnPerquisiteModel", "sortOf", "()I"⟩ ⟨"DawnPerquisiteModel", "sortOf", "()I"⟩) ∈ lw_all := lw_g (lw_at lw_ms 71 rfl) rfl
theorem qs72 : (Cond.selects "DawnPerquisiteModel" ⟨"DawnPerquisiteModel", "isWord", "(J)Z"⟩ ⟨"DawnPerquisiteModel", "isWord", "(J)Z"⟩) ∈ lw_all := lw_g (lw_at lw_ms 72 rfl) rfl
theorem qs73 : (Cond.selects "DawnPerquisiteModel" ⟨"DawnPerquisiteModel", "body", "(II)I"⟩ ⟨"DawnPerquisiteModel", "body", "(II)I"⟩) ∈ lw_all := lw_g (lw_at lw_ms 73 rfl) rfl
theorem qs74 : (Cond.selects "DawnPerquisiteModel" ⟨"DawnPerquisiteModel", "buyerClause", "(I)I"⟩ ⟨"DawnPerquisiteModel", "buyerClause", "(I)I"⟩) ∈ lw_all := lw_g (lw_at lw_ms 74 rfl) rfl
theorem qs75 : (Cond.selects "DawnPerquisiteModel" ⟨"DawnPerquisiteModel", "figure", "(III)I"⟩ ⟨"DawnPerquisiteModel", "figure", "(III)I"⟩) ∈ lw_all := lw_g (lw_at lw_ms 75 rfl) rfl
theorem qs76 : (Cond.selects "DawnPerquisiteModel" ⟨"DawnPerquisiteModel", "sortClause", "(I)I"⟩ ⟨"DawnPerquisiteModel", "sortClause", "(I)I"⟩) ∈ lw_all := lw_g (lw_at lw_ms 76 rfl) rfl
theorem qs77 : (Cond.selects "DawnPerquisiteModel" ⟨"DawnPerquisiteModel", "lawClause", "(I)I"⟩ ⟨"DawnPerquisiteModel", "lawClause", "(I)I"⟩) ∈ lw_all := lw_g (lw_at lw_ms 77 rfl) rfl
theorem qs78 : (Cond.selects "DawnPerquisiteModel" ⟨"DawnPerquisiteModel", "summed", "()I"⟩ ⟨"DawnPerquisiteModel", "summed", "()I"⟩) ∈ lw_all := lw_g (lw_at lw_ms 78 rfl) rfl
theorem qs79 : (Cond.selects "DawnPerquisiteModel" ⟨"DawnPerquisiteModel", "behindOne", "()Z"⟩ ⟨"DawnPerquisiteModel", "behindOne", "()Z"⟩) ∈ lw_all := lw_g (lw_at lw_ms 79 rfl) rfl
theorem qs80 : (Cond.selects "DawnPerquisiteModel" ⟨"DawnPerquisiteModel", "betweenOf", "()I"⟩ ⟨"DawnPerquisiteModel", "betweenOf", "()I"⟩) ∈ lw_all := lw_g (lw_at lw_ms 80 rfl) rfl
theorem qs81 : (Cond.selects "DawnPerquisiteModel" ⟨"DawnPerquisiteModel", "openNow", "()I"⟩ ⟨"DawnPerquisiteModel", "openNow", "()I"⟩) ∈ lw_all := lw_g (lw_at lw_ms 81 rfl) rfl
theorem qs82 : (Cond.selects "DawnPerquisiteModel" ⟨"DawnPerquisiteModel", "openAt", "()I"⟩ ⟨"DawnPerquisiteModel", "openAt", "()I"⟩) ∈ lw_all := lw_g (lw_at lw_ms 82 rfl) rfl
theorem qs83 : (Cond.selects "DawnPerquisiteModel" ⟨"DawnPerquisiteModel", "isCompared", "()Z"⟩ ⟨"DawnPerquisiteModel", "isCompared", "()Z"⟩) ∈ lw_all := lw_g (lw_at lw_ms 83 rfl) rfl
theorem qs84 : (Cond.selects "DawnPerquisiteModel" ⟨"DawnPerquisiteModel", "compareOf", "()I"⟩ ⟨"DawnPerquisiteModel", "compareOf", "()I"⟩) ∈ lw_all := lw_g (lw_at lw_ms 84 rfl) rfl
theorem qs85 : (Cond.selects "DawnPerquisiteModel" ⟨"DawnPerquisiteModel", "settle", "(I)V"⟩ ⟨"DawnPerquisiteModel", "settle", "(I)V"⟩) ∈ lw_all := lw_g (lw_at lw_ms 85 rfl) rfl
theorem qs86 : (Cond.selects "DawnPerquisiteModel" ⟨"DawnPerquisiteModel", "emit", "(II)V"⟩ ⟨"DawnPerquisiteModel", "emit", "(II)V"⟩) ∈ lw_all := lw_g (lw_at lw_ms 86 rfl) rfl
theorem qs87 : (Cond.selects "DawnPerquisiteModel" ⟨"DawnPerquisiteModel", "partOf", "(I)I"⟩ ⟨"DawnPerquisiteModel", "partOf", "(I)I"⟩) ∈ lw_all := lw_g (lw_at lw_ms 87 rfl) rfl
theorem qs88 : (Cond.selects "DawnPerquisiteModel" ⟨"DawnPerquisiteModel", "beginOne", "()I"⟩ ⟨"DawnPerquisiteModel", "beginOne", "()I"⟩) ∈ lw_all := lw_g (lw_at lw_ms 88 rfl) rfl
theorem qs89 : (Cond.selects "DawnPerquisiteModel" ⟨"DawnPerquisiteModel", "nameOf", "()I"⟩ ⟨"DawnPerquisiteModel", "nameOf", "()I"⟩) ∈ lw_all := lw_g (lw_at lw_ms 89 rfl) rfl
theorem qs90 : (Cond.selects "DawnPerquisiteModel" ⟨"DawnPerquisiteModel", "isOf", "(I)Z"⟩ ⟨"DawnPerquisiteModel", "isOf", "(I)Z"⟩) ∈ lw_all := lw_g (lw_at lw_ms 90 rfl) rfl
theorem qs91 : (Cond.selects "DawnPerquisiteModel" ⟨"DawnPerquisiteModel", "opened", "(I)I"⟩ ⟨"DawnPerquisiteModel", "opened", "(I)I"⟩) ∈ lw_all := lw_g (lw_at lw_ms 91 rfl) rfl
theorem qs92 : (Cond.selects "DawnPerquisiteModel" ⟨"DawnPerquisiteModel", "isAskAhead", "()Z"⟩ ⟨"DawnPerquisiteModel", "isAskAhead", "()Z"⟩) ∈ lw_all := lw_g (lw_at lw_ms 92 rfl) rfl
theorem qs93 : (Cond.selects "DawnPerquisiteModel" ⟨"DawnPerquisiteModel", "canSell", "(I)Z"⟩ ⟨"DawnPerquisiteModel", "canSell", "(I)Z"⟩) ∈ lw_all := lw_g (lw_at lw_ms 93 rfl) rfl
theorem qs94 : (Cond.selects "DawnPerquisiteModel" ⟨"DawnPerquisiteModel", "isBuyer", "(I)Z"⟩ ⟨"DawnPerquisiteModel", "isBuyer", "(I)Z"⟩) ∈ lw_all := lw_g (lw_at lw_ms 94 rfl) rfl
theorem qs95 : (Cond.selects "DawnPerquisiteModel" ⟨"DawnPerquisiteModel", "doesWant", "(II)Z"⟩ ⟨"DawnPerquisiteModel", "doesWant", "(II)Z"⟩) ∈ lw_all := lw_g (lw_at lw_ms 95 rfl) rfl
theorem qs96 : (Cond.selects "DawnPerquisiteModel" ⟨"DawnPerquisiteModel", "slicesOf", "(I)I"⟩ ⟨"DawnPerquisiteModel", "slicesOf", "(I)I"⟩) ∈ lw_all := lw_g (lw_at lw_ms 96 rfl) rfl
theorem qs97 : (Cond.selects "DawnPerquisiteModel" ⟨"DawnPerquisiteModel", "longOf", "(I)I"⟩ ⟨"DawnPerquisiteModel", "longOf", "(I)I"⟩) ∈ lw_all := lw_g (lw_at lw_ms 97 rfl) rfl
theorem qs98 : (Cond.selects "DawnPerquisiteModel" ⟨"DawnPerquisiteModel", "freeNow", "()I"⟩ ⟨"DawnPerquisiteModel", "freeNow", "()I"⟩) ∈ lw_all := lw_g (lw_at lw_ms 98 rfl) rfl
theorem qs99 : (Cond.selects "DawnPerquisiteModel" ⟨"DawnPerquisiteModel", "bidsNow", "(I)I"⟩ ⟨"DawnPerquisiteModel", "bidsNow", "(I)I"⟩) ∈ lw_all := lw_g (lw_at lw_ms 99 rfl) rfl
theorem qs100 : (Cond.selects "DawnPerquisiteModel" ⟨"DawnPerquisiteModel", "bidsOf", "(III)I"⟩ ⟨"DawnPerquisiteModel", "bidsOf", "(III)I"⟩) ∈ lw_all := lw_g (lw_at lw_ms 100 rfl) rfl
theorem qs101 : (Cond.selects "DawnPerquisiteModel" ⟨"DawnPerquisiteModel", "name", "(II)V"⟩ ⟨"DawnPerquisiteModel", "name", "(II)V"⟩) ∈ lw_all := lw_g (lw_at lw_ms 101 rfl) rfl
theorem qs102 : (Cond.selects "DawnPerquisiteModel" ⟨"DawnPerquisiteModel", "hasNow", "(I)I"⟩ ⟨"DawnPerquisiteModel", "hasNow", "(I)I"⟩) ∈ lw_all := lw_g (lw_at lw_ms 102 rfl) rfl
theorem qs103 : (Cond.selects "DawnPerquisiteModel" ⟨"DawnPerquisiteModel", "ownNow", "(I)I"⟩ ⟨"DawnPerquisiteModel", "ownNow", "(I)I"⟩) ∈ lw_all := lw_g (lw_at lw_ms 103 rfl) rfl
theorem qs104 : (Cond.selects "DawnPerquisiteModel" ⟨"DawnPerquisiteModel", "says", "(IIIII)I"⟩ ⟨"DawnPerquisiteModel", "says", "(IIIII)I"⟩) ∈ lw_all := lw_g (lw_at lw_ms 104 rfl) rfl
theorem qs105 : (Cond.selects "DawnPerquisiteModel" ⟨"DawnPerquisiteModel", "summedUp", "(II)J"⟩ ⟨"DawnPerquisiteModel", "summedUp", "(II)J"⟩) ∈ lw_all := lw_g (lw_at lw_ms 105 rfl) rfl
theorem qs106 : (Cond.selects "DawnPerquisiteModel" ⟨"DawnPerquisiteModel", "ofOne", "(IJ)J"⟩ ⟨"DawnPerquisiteModel", "ofOne", "(IJ)J"⟩) ∈ lw_all := lw_g (lw_at lw_ms 106 rfl) rfl
theorem qs107 : (Cond.selects "DawnPerquisiteModel" ⟨"DawnPerquisiteModel", "keepStep", "()V"⟩ ⟨"DawnPerquisiteModel", "keepStep", "()V"⟩) ∈ lw_all := lw_g (lw_at lw_ms 107 rfl) rfl
theorem qs108 : (Cond.selects "DawnPerquisiteModel" ⟨"DawnPerquisiteModel", "sellNow", "(I)I"⟩ ⟨"DawnPerquisiteModel", "sellNow", "(I)I"⟩) ∈ lw_all := lw_g (lw_at lw_ms 108 rfl) rfl
theorem qs109 : (Cond.selects "DawnPerquisiteModel" ⟨"DawnPerquisiteModel", "write", "(III)V"⟩ ⟨"DawnPerquisiteModel", "write", "(III)V"⟩) ∈ lw_all := lw_g (lw_at lw_ms 109 rfl) rfl
theorem qs110 : (Cond.selects "DawnPerquisiteModel" ⟨"DawnPerquisiteModel", "canGive", "(I)Z"⟩ ⟨"DawnPerquisiteModel", "canGive", "(I)Z"⟩) ∈ lw_all := lw_g (lw_at lw_ms 110 rfl) rfl
theorem qs111 : (Cond.selects "DawnPerquisiteModel" ⟨"DawnPerquisiteModel", "giveNow", "(I)V"⟩ ⟨"DawnPerquisiteModel", "giveNow", "(I)V"⟩) ∈ lw_all := lw_g (lw_at lw_ms 111 rfl) rfl
theorem qs112 : (Cond.selects "DawnPerquisiteModel" ⟨"DawnPerquisiteModel", "canTurn", "(I)Z"⟩ ⟨"DawnPerquisiteModel", "canTurn", "(I)Z"⟩) ∈ lw_all := lw_g (lw_at lw_ms 112 rfl) rfl
theorem qs113 : (Cond.selects "DawnPerquisiteModel" ⟨"DawnPerquisiteModel", "turnNow", "(I)V"⟩ ⟨"DawnPerquisiteModel", "turnNow", "(I)V"⟩) ∈ lw_all := lw_g (lw_at lw_ms 113 rfl) rfl
theorem qs114 : (Cond.selects "DawnPerquisiteModel" ⟨"DawnPerquisiteModel", "canPass", "(II)Z"⟩ ⟨"DawnPerquisiteModel", "canPass", "(II)Z"⟩) ∈ lw_all := lw_g (lw_at lw_ms 114 rfl) rfl
theorem qs115 : (Cond.selects "DawnPerquisiteModel" ⟨"DawnPerquisiteModel", "arePassed", "(I)Z"⟩ ⟨"DawnPerquisiteModel", "arePassed", "(I)Z"⟩) ∈ lw_all := lw_g (lw_at lw_ms 115 rfl) rfl
theorem qs116 : (Cond.selects "DawnPerquisiteModel" ⟨"DawnPerquisiteModel", "passDay", "()V"⟩ ⟨"DawnPerquisiteModel", "passDay", "()V"⟩) ∈ lw_all := lw_g (lw_at lw_ms 116 rfl) rfl
theorem qs117 : (Cond.selects "DawnPerquisiteModel" ⟨"DawnPerquisiteModel", "earnsOf", "(I)I"⟩ ⟨"DawnPerquisiteModel", "earnsOf", "(I)I"⟩) ∈ lw_all := lw_g (lw_at lw_ms 117 rfl) rfl
theorem qs118 : (Cond.selects "DawnPerquisiteModel" ⟨"DawnPerquisiteModel", "nextSort", "()I"⟩ ⟨"DawnPerquisiteModel", "nextSort", "()I"⟩) ∈ lw_all := lw_g (lw_at lw_ms 118 rfl) rfl
theorem qs119 : (Cond.selects "DawnPerquisiteModel" ⟨"DawnPerquisiteModel", "allOdds", "()I"⟩ ⟨"DawnPerquisiteModel", "allOdds", "()I"⟩) ∈ lw_all := lw_g (lw_at lw_ms 119 rfl) rfl
theorem qs120 : (Cond.selects "DawnPerquisiteModel" ⟨"DawnPerquisiteModel", "drawnBy", "(I)I"⟩ ⟨"DawnPerquisiteModel", "drawnBy", "(I)I"⟩) ∈ lw_all := lw_g (lw_at lw_ms 120 rfl) rfl
theorem qs121 : (Cond.selects "DawnPerquisiteModel" ⟨"DawnPerquisiteModel", "anew", "()V"⟩ ⟨"DawnPerquisiteModel", "anew", "()V"⟩) ∈ lw_all := lw_g (lw_at lw_ms 121 rfl) rfl
theorem qs122 : (Cond.selects "DawnPerquisiteModel" ⟨"DawnPerquisiteModel", "isPlayed", "(I)Z"⟩ ⟨"DawnPerquisiteModel", "isPlayed", "(I)Z"⟩) ∈ lw_all := lw_g (lw_at lw_ms 122 rfl) rfl
theorem qs123 : (Cond.selects "DawnPerquisiteModel" ⟨"DawnPerquisiteModel", "happens", "(I)V"⟩ ⟨"DawnPerquisiteModel", "happens", "(I)V"⟩) ∈ lw_all := lw_g (lw_at lw_ms 123 rfl) rfl
theorem qs124 : (Cond.selects "DawnPerquisiteModel" ⟨"DawnPerquisiteModel", "lineOf", "(II)I"⟩ ⟨"DawnPerquisiteModel", "lineOf", "(II)I"⟩) ∈ lw_all := lw_g (lw_at lw_ms 124 rfl) rfl
theorem qs125 : (Cond.selects "DawnPerquisiteModel" ⟨"DawnPerquisiteModel", "bestSet", "(II)I"⟩ ⟨"DawnPerquisiteModel", "bestSet", "(II)I"⟩) ∈ lw_all := lw_g (lw_at lw_ms 125 rfl) rfl
theorem qs126 : (Cond.selects "DawnPerquisiteModel" ⟨"DawnPerquisiteModel", "broughtBy", "(II)I"⟩ ⟨"DawnPerquisiteModel", "broughtBy", "(II)I"⟩) ∈ lw_all := lw_g (lw_at lw_ms 126 rfl) rfl
theorem qs127 : (Cond.selects "DawnPerquisiteModel" ⟨"DawnPerquisiteModel", "hoped", "(I)J"⟩ ⟨"DawnPerquisiteModel", "hoped", "(I)J"⟩) ∈ lw_all := lw_g (lw_at lw_ms 127 rfl) rfl
theorem qs128 : (Cond.selects "DawnPerquisiteModel" ⟨"DawnPerquisiteModel", "allRows", "(I)J"⟩ ⟨"DawnPerquisiteModel", "allRows", "(I)J"⟩) ∈ lw_all := lw_g (lw_at lw_ms 128 rfl) rfl
theorem qs129 : (Cond.selects "DawnPerquisiteModel" ⟨"DawnPerquisiteModel", "whole", "()I"⟩ ⟨"DawnPerquisiteModel", "whole", "()I"⟩) ∈ lw_all := lw_g (lw_at lw_ms 129 rfl) rfl
theorem qs130 : (Cond.selects "DawnPerquisiteModel" ⟨"DawnPerquisiteModel", "oddsOf", "(I)I"⟩ ⟨"DawnPerquisiteModel", "oddsOf", "(I)I"⟩) ∈ lw_all := lw_g (lw_at lw_ms 130 rfl) rfl
theorem qs131 : (Cond.selects "DawnPerquisiteModel" ⟨"DawnPerquisiteModel", "fitting", "()I"⟩ ⟨"DawnPerquisiteModel", "fitting", "()I"⟩) ∈ lw_all := lw_g (lw_at lw_ms 131 rfl) rfl
theorem qs132 : (Cond.selects "DawnPerquisiteModel" ⟨"DawnPerquisiteModel", "doesFit", "(I)Z"⟩ ⟨"DawnPerquisiteModel", "doesFit", "(I)Z"⟩) ∈ lw_all := lw_g (lw_at lw_ms 132 rfl) rfl
theorem qs133 : (Cond.selects "DawnPerquisiteModel" ⟨"DawnPerquisiteModel", "likeliestNow", "()I"⟩ ⟨"DawnPerquisiteModel", "likeliestNow", "()I"⟩) ∈ lw_all := lw_g (lw_at lw_ms 133 rfl) rfl
theorem qs134 : (Cond.selects "DawnPerquisiteModel" ⟨"DawnPerquisiteModel", "oddsOfSet", "(I)I"⟩ ⟨"DawnPerquisiteModel", "oddsOfSet", "(I)I"⟩) ∈ lw_all := lw_g (lw_at lw_ms 134 rfl) rfl
theorem qs135 : (Cond.selects "DawnPerquisiteModel" ⟨"DawnPerquisiteModel", "greaterPart", "(I)I"⟩ ⟨"DawnPerquisiteModel", "greaterPart", "(I)I"⟩) ∈ lw_all := lw_g (lw_at lw_ms 135 rfl) rfl
theorem qs136 : (Cond.selects "DawnPerquisiteModel" ⟨"DawnPerquisiteModel", "bidderOf", "(II)I"⟩ ⟨"DawnPerquisiteModel", "bidderOf", "(II)I"⟩) ∈ lw_all := lw_g (lw_at lw_ms 136 rfl) rfl
theorem qs137 : (Cond.selects "DawnPerquisiteModel" ⟨"DawnPerquisiteModel", "doesBid", "(II)Z"⟩ ⟨"DawnPerquisiteModel", "doesBid", "(II)Z"⟩) ∈ lw_all := lw_g (lw_at lw_ms 137 rfl) rfl
theorem qs138 : (Cond.selects "DawnPerquisiteModel" ⟨"DawnPerquisiteModel", "bidFor", "(I)I"⟩ ⟨"DawnPerquisiteModel", "bidFor", "(I)I"⟩) ∈ lw_all := lw_g (lw_at lw_ms 138 rfl) rfl
theorem qs139 : (Cond.selects "DawnPerquisiteModel" ⟨"DawnPerquisiteModel", "areServed", "(I)Z"⟩ ⟨"DawnPerquisiteModel", "areServed", "(I)Z"⟩) ∈ lw_all := lw_g (lw_at lw_ms 139 rfl) rfl
theorem qs140 : (Cond.selects "DawnPerquisiteModel" ⟨"DawnPerquisiteModel", "crowdAt", "(I)I"⟩ ⟨"DawnPerquisiteModel", "crowdAt", "(I)I"⟩) ∈ lw_all := lw_g (lw_at lw_ms 140 rfl) rfl
theorem qs141 : (Cond.selects "DawnPerquisiteModel" ⟨"DawnPerquisiteModel", "layDawns", "()V"⟩ ⟨"DawnPerquisiteModel", "layDawns", "()V"⟩) ∈ lw_all := lw_g (lw_at lw_ms 141 rfl) rfl
theorem qs142 : (Cond.selects "DawnPerquisiteModel" ⟨"DawnPerquisiteModel", "layGames", "()V"⟩ ⟨"DawnPerquisiteModel", "layGames", "()V"⟩) ∈ lw_all := lw_g (lw_at lw_ms 142 rfl) rfl
theorem qs143 : (Cond.selects "DawnPerquisiteModel" ⟨"DawnPerquisiteModel", "byLeft", "(II)I"⟩ ⟨"DawnPerquisiteModel", "byLeft", "(II)I"⟩) ∈ lw_all := lw_g (lw_at lw_ms 143 rfl) rfl
theorem qs144 : (Cond.selects "DawnPerquisiteModel" ⟨"DawnPerquisiteModel", "byRight", "(II)I"⟩ ⟨"DawnPerquisiteModel", "byRight", "(II)I"⟩) ∈ lw_all := lw_g (lw_at lw_ms 144 rfl) rfl
theorem qs145 : (Cond.selects "DawnPerquisiteModel" ⟨"DawnPerquisiteModel", "runOf", "(II)I"⟩ ⟨"DawnPerquisiteModel", "runOf", "(II)I"⟩) ∈ lw_all := lw_g (lw_at lw_ms 145 rfl) rfl
/-! DawnPerquisite -/
def RX0 : String := "DawnPerquisite"
def TX0 : u_T := fun k => match k with
  | 0 => ("DawnPerquisite", "now", "LDawnPerquisite$State;", true)
  | 1 => ("DawnPerquisite", "image", "LDawnPerquisite$State;", true)
  | 2 => ("DawnPerquisite", "tape", "[B", true)
  | 3 => ("DawnPerquisite", "taped", "I", false)
  | 4 => ("DawnPerquisite", "fault", "I", false)
  | 5 => ("DawnPerquisite", "faultAt", "I", false)
  | 6 => ("DawnPerquisite", "names", "[I", true)
  | 7 => ("DawnPerquisite", "tried", "[I", true)
  | 8 => ("DawnPerquisite", "takenOn", "[I", true)
  | 9 => ("DawnPerquisite", "dawnOf", "[I", true)
  | _ => ("DawnPerquisite", "more", "[[I", true)
def tyX0 : Nat → FieldType := fun k => match k with
  | 0 => .object "DawnPerquisite$State"
  | 1 => .object "DawnPerquisite$State"
  | 2 => .array .byte
  | 3 => .int
  | 4 => .int
  | 5 => .int
  | 6 => .array .int
  | 7 => .array .int
  | 8 => .array .int
  | 9 => .array .int
  | _ => .array (.array .int)
abbrev wsX00 : List Cond := u_ws RX0 TX0 11
set_option maxRecDepth 100000 in
theorem nmX0 : ∀ a, a < 11 → ∀ b, b < 11 → a ≠ b → (TX0 a).2.1 ≠ (TX0 b).2.1 := by decide +kernel
set_option maxRecDepth 100000 in
theorem tyX0_ok : ∀ k, k < 11 → parseFieldDescriptor (TX0 k).2.2.1 = some (tyX0 k) := by decide +kernel
/-! DawnPerquisite$State -/
def RX1 : String := "DawnPerquisite$State"
def TX1 : u_T := fun k => match k with
  | 0 => ("DawnPerquisite$State", "n", "[I", true)
  | 1 => ("DawnPerquisite$State", "row", "[I", true)
  | 2 => ("DawnPerquisite$State", "odds", "[I", true)
  | 3 => ("DawnPerquisite$State", "worth", "[I", true)
  | 4 => ("DawnPerquisite$State", "wants", "[I", true)
  | 5 => ("DawnPerquisite$State", "from", "[I", true)
  | 6 => ("DawnPerquisite$State", "to", "[I", true)
  | 7 => ("DawnPerquisite$State", "value", "[I", true)
  | 8 => ("DawnPerquisite$State", "said", "[[I", true)
  | 9 => ("DawnPerquisite$State", "step", "[[I", true)
  | _ => ("DawnPerquisite$State", "text", "[LDawnPerquisite$Text;", true)
def tyX1 : Nat → FieldType := fun k => match k with
  | 0 => .array .int
  | 1 => .array .int
  | 2 => .array .int
  | 3 => .array .int
  | 4 => .array .int
  | 5 => .array .int
  | 6 => .array .int
  | 7 => .array .int
  | 8 => .array (.array .int)
  | 9 => .array (.array .int)
  | _ => .array (.object "DawnPerquisite$Text")
abbrev wsX10 : List Cond := u_ws RX1 TX1 11
set_option maxRecDepth 100000 in
theorem nmX1 : ∀ a, a < 11 → ∀ b, b < 11 → a ≠ b → (TX1 a).2.1 ≠ (TX1 b).2.1 := by decide +kernel
set_option maxRecDepth 100000 in
theorem tyX1_ok : ∀ k, k < 11 → parseFieldDescriptor (TX1 k).2.2.1 = some (tyX1 k) := by decide +kernel
/-! DawnPerquisiteModel -/
def RX2 : String := "DawnPerquisiteModel"
def TX2 : u_T := fun k => match k with
  | 0 => ("DawnPerquisiteModel", "a", "[I", true)
  | 1 => ("DawnPerquisiteModel", "image", "[I", true)
  | 2 => ("DawnPerquisiteModel", "texts", "[I", true)
  | 3 => ("DawnPerquisiteModel", "tape", "[I", true)
  | 4 => ("DawnPerquisiteModel", "taped", "I", false)
  | 5 => ("DawnPerquisiteModel", "fault", "I", false)
  | 6 => ("DawnPerquisiteModel", "faultPlace", "I", false)
  | 7 => ("DawnPerquisiteModel", "cursor", "I", false)
  | 8 => ("DawnPerquisiteModel", "place", "I", false)
  | 9 => ("DawnPerquisiteModel", "token", "I", false)
  | 10 => ("DawnPerquisiteModel", "number", "I", false)
  | 11 => ("DawnPerquisiteModel", "word", "J", false)
  | 12 => ("DawnPerquisiteModel", "text0", "I", false)
  | 13 => ("DawnPerquisiteModel", "written", "I", false)
  | 14 => ("DawnPerquisiteModel", "sort0", "I", false)
  | 15 => ("DawnPerquisiteModel", "pile", "[I", true)
  | 16 => ("DawnPerquisiteModel", "piled", "I", false)
  | 17 => ("DawnPerquisiteModel", "opens", "I", false)
  | 18 => ("DawnPerquisiteModel", "isWhole", "Z", false)
  | 19 => ("DawnPerquisiteModel", "once", "I", false)
  | 20 => ("DawnPerquisiteModel", "named", "[I", true)
  | 21 => ("DawnPerquisiteModel", "values", "[J", true)
  | 22 => ("DawnPerquisiteModel", "truth", "[Z", true)
  | 23 => ("DawnPerquisiteModel", "isWritten", "Z", false)
  | 24 => ("DawnPerquisiteModel", "aside", "[I", true)
  | 25 => ("DawnPerquisiteModel", "dawnFull", "[I", true)
  | 26 => ("DawnPerquisiteModel", "dawnOf", "[I", true)
  | _ => ("DawnPerquisiteModel", "games", "[I", true)
def tyX2 : Nat → FieldType := fun k => match k with
  | 0 => .array .int
  | 1 => .array .int
  | 2 => .array .int
  | 3 => .array .int
  | 4 => .int
  | 5 => .int
  | 6 => .int
  | 7 => .int
  | 8 => .int
  | 9 => .int
  | 10 => .int
  | 11 => .long
  | 12 => .int
  | 13 => .int
  | 14 => .int
  | 15 => .array .int
  | 16 => .int
  | 17 => .int
  | 18 => .boolean
  | 19 => .int
  | 20 => .array .int
  | 21 => .array .long
  | 22 => .array .boolean
  | 23 => .boolean
  | 24 => .array .int
  | 25 => .array .int
  | 26 => .array .int
  | _ => .array .int
abbrev wsX20 : List Cond := u_ws RX2 TX2 28
set_option maxRecDepth 100000 in
theorem nmX2 : ∀ a, a < 28 → ∀ b, b < 28 → a ≠ b → (TX2 a).2.1 ≠ (TX2 b).2.1 := by decide +kernel
set_option maxRecDepth 100000 in
theorem tyX2_ok : ∀ k, k < 28 → parseFieldDescriptor (TX2 k).2.2.1 = some (tyX2 k) := by decide +kernel
/-! DawnPerquisite$Tokens -/
def RX3 : String := "DawnPerquisite$Tokens"
def TX3 : u_T := fun k => match k with
  | 0 => ("DawnPerquisite$Tokens", "text", "[B", true)
  | 1 => ("DawnPerquisite$Tokens", "size", "I", true)
  | 2 => ("DawnPerquisite$Tokens", "at", "I", false)
  | 3 => ("DawnPerquisite$Tokens", "token", "I", false)
  | 4 => ("DawnPerquisite$Tokens", "sort", "I", false)
  | 5 => ("DawnPerquisite$Tokens", "number", "I", false)
  | 6 => ("DawnPerquisite$Tokens", "open", "I", false)
  | _ => ("DawnPerquisite$Tokens", "kind", "I", false)
def tyX3 : Nat → FieldType := fun k => match k with
  | 0 => .array .byte
  | 1 => .int
  | 2 => .int
  | 3 => .int
  | 4 => .int
  | 5 => .int
  | 6 => .int
  | _ => .int
abbrev wsX30 : List Cond := u_ws RX3 TX3 8
set_option maxRecDepth 100000 in
theorem nmX3 : ∀ a, a < 8 → ∀ b, b < 8 → a ≠ b → (TX3 a).2.1 ≠ (TX3 b).2.1 := by decide +kernel
set_option maxRecDepth 100000 in
theorem tyX3_ok : ∀ k, k < 8 → parseFieldDescriptor (TX3 k).2.2.1 = some (tyX3 k) := by decide +kernel
/-! DawnPerquisite$Text -/
def RX4 : String := "DawnPerquisite$Text"
def TX4 : u_T := fun k => match k with
  | 0 => ("DawnPerquisite$Text", "law", "[LDawnPerquisite$Sum;", true)
  | 1 => ("DawnPerquisite$Text", "clauses", "I", false)
  | _ => ("DawnPerquisite$Text", "doings", "Ljava/util/ArrayList;", true)
def tyX4 : Nat → FieldType := fun k => match k with
  | 0 => .array (.object "DawnPerquisite$Sum")
  | 1 => .int
  | _ => .object "java/util/ArrayList"
abbrev wsX40 : List Cond := u_ws RX4 TX4 3
set_option maxRecDepth 100000 in
theorem nmX4 : ∀ a, a < 3 → ∀ b, b < 3 → a ≠ b → (TX4 a).2.1 ≠ (TX4 b).2.1 := by decide +kernel
set_option maxRecDepth 100000 in
theorem tyX4_ok : ∀ k, k < 3 → parseFieldDescriptor (TX4 k).2.2.1 = some (tyX4 k) := by decide +kernel
/-! DawnPerquisite$Wrong -/
def RX5 : String := "DawnPerquisite$Wrong"
def TX5 : u_T := fun k => match k with
  | 0 => ("DawnPerquisite$Wrong", "fault", "I", true)
  | _ => ("DawnPerquisite$Wrong", "place", "I", true)
def tyX5 : Nat → FieldType := fun k => match k with
  | _ => .int
abbrev wsX50 : List Cond := u_ws RX5 TX5 2
theorem nmX5 : ∀ a, a < 2 → ∀ b, b < 2 → a ≠ b → (TX5 a).2.1 ≠ (TX5 b).2.1 := by decide +kernel
theorem tyX5_ok : ∀ k, k < 2 → parseFieldDescriptor (TX5 k).2.2.1 = some (tyX5 k) := by decide +kernel
/-! DawnPerquisite$Chain -/
def RX6 : String := "DawnPerquisite$Chain"
def TX6 : u_T := fun k => match k with
  | 0 => ("DawnPerquisite$Chain", "first", "LDawnPerquisite$Sum;", true)
  | 1 => ("DawnPerquisite$Chain", "more", "Ljava/util/ArrayList;", true)
  | _ => ("DawnPerquisite$Chain", "signs", "Ljava/util/ArrayList;", true)
def tyX6 : Nat → FieldType := fun k => match k with
  | 0 => .object "DawnPerquisite$Sum"
  | 1 => .object "java/util/ArrayList"
  | _ => .object "java/util/ArrayList"
abbrev wsX60 : List Cond := u_ws RX6 TX6 3
set_option maxRecDepth 100000 in
theorem nmX6 : ∀ a, a < 3 → ∀ b, b < 3 → a ≠ b → (TX6 a).2.1 ≠ (TX6 b).2.1 := by decide +kernel
set_option maxRecDepth 100000 in
theorem tyX6_ok : ∀ k, k < 3 → parseFieldDescriptor (TX6 k).2.2.1 = some (tyX6 k) := by decide +kernel
/-! DawnPerquisite$Plain -/
def RX7 : String := "DawnPerquisite$Plain"
def TX7 : u_T := fun k => match k with
  | _ => ("DawnPerquisite$Plain", "n", "I", true)
def tyX7 : Nat → FieldType := fun k => match k with
  | _ => .int
abbrev wsX70 : List Cond := u_ws RX7 TX7 1
set_option maxRecDepth 100000 in
theorem nmX7 : ∀ a, a < 1 → ∀ b, b < 1 → a ≠ b → (TX7 a).2.1 ≠ (TX7 b).2.1 := by decide +kernel
set_option maxRecDepth 100000 in
theorem tyX7_ok : ∀ k, k < 1 → parseFieldDescriptor (TX7 k).2.2.1 = some (tyX7 k) := by decide +kernel
/-! DawnPerquisite$Not -/
def RX8 : String := "DawnPerquisite$Not"
def TX8 : u_T := fun k => match k with
  | _ => ("DawnPerquisite$Not", "x", "LDawnPerquisite$Asked;", true)
def tyX8 : Nat → FieldType := fun k => match k with
  | _ => .object "DawnPerquisite$Asked"
abbrev wsX80 : List Cond := u_ws RX8 TX8 1
set_option maxRecDepth 100000 in
theorem nmX8 : ∀ a, a < 1 → ∀ b, b < 1 → a ≠ b → (TX8 a).2.1 ≠ (TX8 b).2.1 := by decide +kernel
set_option maxRecDepth 100000 in
theorem tyX8_ok : ∀ k, k < 1 → parseFieldDescriptor (TX8 k).2.2.1 = some (tyX8 k) := by decide +kernel
/-! DawnPerquisite$Compared -/
def RX9 : String := "DawnPerquisite$Compared"
def TX9 : u_T := fun k => match k with
  | 0 => ("DawnPerquisite$Compared", "sign", "I", true)
  | 1 => ("DawnPerquisite$Compared", "a", "LDawnPerquisite$Sum;", true)
  | _ => ("DawnPerquisite$Compared", "b", "LDawnPerquisite$Sum;", true)
def tyX9 : Nat → FieldType := fun k => match k with
  | 0 => .int
  | 1 => .object "DawnPerquisite$Sum"
  | _ => .object "DawnPerquisite$Sum"
abbrev wsX90 : List Cond := u_ws RX9 TX9 3
set_option maxRecDepth 100000 in
theorem nmX9 : ∀ a, a < 3 → ∀ b, b < 3 → a ≠ b → (TX9 a).2.1 ≠ (TX9 b).2.1 := by decide +kernel
set_option maxRecDepth 100000 in
theorem tyX9_ok : ∀ k, k < 3 → parseFieldDescriptor (TX9 k).2.2.1 = some (tyX9 k) := by decide +kernel
/-! DawnPerquisite$All -/
def RX10 : String := "DawnPerquisite$All"
def TX10 : u_T := fun k => match k with
  | 0 => ("DawnPerquisite$All", "and", "Z", true)
  | _ => ("DawnPerquisite$All", "of", "Ljava/util/ArrayList;", true)
def tyX10 : Nat → FieldType := fun k => match k with
  | 0 => .boolean
  | _ => .object "java/util/ArrayList"
abbrev wsX100 : List Cond := u_ws RX10 TX10 2
set_option maxRecDepth 100000 in
theorem nmX10 : ∀ a, a < 2 → ∀ b, b < 2 → a ≠ b → (TX10 a).2.1 ≠ (TX10 b).2.1 := by decide +kernel
set_option maxRecDepth 100000 in
theorem tyX10_ok : ∀ k, k < 2 → parseFieldDescriptor (TX10 k).2.2.1 = some (tyX10 k) := by decide +kernel
/-! DawnPerquisite$If -/
def RX11 : String := "DawnPerquisite$If"
def TX11 : u_T := fun k => match k with
  | 0 => ("DawnPerquisite$If", "asked", "LDawnPerquisite$Asked;", true)
  | 1 => ("DawnPerquisite$If", "yes", "LDawnPerquisite$Sum;", true)
  | _ => ("DawnPerquisite$If", "no", "LDawnPerquisite$Sum;", true)
def tyX11 : Nat → FieldType := fun k => match k with
  | 0 => .object "DawnPerquisite$Asked"
  | 1 => .object "DawnPerquisite$Sum"
  | _ => .object "DawnPerquisite$Sum"
abbrev wsX110 : List Cond := u_ws RX11 TX11 3
set_option maxRecDepth 100000 in
theorem nmX11 : ∀ a, a < 3 → ∀ b, b < 3 → a ≠ b → (TX11 a).2.1 ≠ (TX11 b).2.1 := by decide +kernel
set_option maxRecDepth 100000 in
theorem tyX11_ok : ∀ k, k < 3 → parseFieldDescriptor (TX11 k).2.2.1 = some (tyX11 k) := by decide +kernel
/-! DawnPerquisite$Name -/
def RX12 : String := "DawnPerquisite$Name"
def TX12 : u_T := fun k => match k with
  | _ => ("DawnPerquisite$Name", "which", "I", true)
def tyX12 : Nat → FieldType := fun k => match k with
  | _ => .int
abbrev wsX120 : List Cond := u_ws RX12 TX12 1
set_option maxRecDepth 100000 in
theorem nmX12 : ∀ a, a < 1 → ∀ b, b < 1 → a ≠ b → (TX12 a).2.1 ≠ (TX12 b).2.1 := by decide +kernel
set_option maxRecDepth 100000 in
theorem tyX12_ok : ∀ k, k < 1 → parseFieldDescriptor (TX12 k).2.2.1 = some (tyX12 k) := by decide +kernel
/-! DawnPerquisite$Worth -/
def RX13 : String := "DawnPerquisite$Worth"
def TX13 : u_T := fun k => match k with
  | _ => ("DawnPerquisite$Worth", "sort", "LDawnPerquisite$Sum;", true)
def tyX13 : Nat → FieldType := fun k => match k with
  | _ => .object "DawnPerquisite$Sum"
abbrev wsX130 : List Cond := u_ws RX13 TX13 1
set_option maxRecDepth 100000 in
theorem nmX13 : ∀ a, a < 1 → ∀ b, b < 1 → a ≠ b → (TX13 a).2.1 ≠ (TX13 b).2.1 := by decide +kernel
set_option maxRecDepth 100000 in
theorem tyX13_ok : ∀ k, k < 1 → parseFieldDescriptor (TX13 k).2.2.1 = some (tyX13 k) := by decide +kernel
/-! DawnPerquisite$Purse -/
def RX14 : String := "DawnPerquisite$Purse"
def TX14 : u_T := fun k => match k with
  | _ => ("DawnPerquisite$Purse", "buyer", "LDawnPerquisite$Sum;", true)
def tyX14 : Nat → FieldType := fun k => match k with
  | _ => .object "DawnPerquisite$Sum"
abbrev wsX140 : List Cond := u_ws RX14 TX14 1
set_option maxRecDepth 100000 in
theorem nmX14 : ∀ a, a < 1 → ∀ b, b < 1 → a ≠ b → (TX14 a).2.1 ≠ (TX14 b).2.1 := by decide +kernel
set_option maxRecDepth 100000 in
theorem tyX14_ok : ∀ k, k < 1 → parseFieldDescriptor (TX14 k).2.2.1 = some (tyX14 k) := by decide +kernel
/-! DawnPerquisite$Minus -/
def RX15 : String := "DawnPerquisite$Minus"
def TX15 : u_T := fun k => match k with
  | _ => ("DawnPerquisite$Minus", "x", "LDawnPerquisite$Sum;", true)
def tyX15 : Nat → FieldType := fun k => match k with
  | _ => .object "DawnPerquisite$Sum"
abbrev wsX150 : List Cond := u_ws RX15 TX15 1
set_option maxRecDepth 100000 in
theorem nmX15 : ∀ a, a < 1 → ∀ b, b < 1 → a ≠ b → (TX15 a).2.1 ≠ (TX15 b).2.1 := by decide +kernel
set_option maxRecDepth 100000 in
theorem tyX15_ok : ∀ k, k < 1 → parseFieldDescriptor (TX15 k).2.2.1 = some (tyX15 k) := by decide +kernel
/-! DawnPerquisite$Doing -/
def RX16 : String := "DawnPerquisite$Doing"
def TX16 : u_T := fun k => match k with
  | 0 => ("DawnPerquisite$Doing", "sort", "I", true)
  | 1 => ("DawnPerquisite$Doing", "a", "I", true)
  | 2 => ("DawnPerquisite$Doing", "b", "I", true)
  | _ => ("DawnPerquisite$Doing", "number", "I", true)
def tyX16 : Nat → FieldType := fun k => match k with
  | 0 => .int
  | 1 => .int
  | 2 => .int
  | _ => .int
abbrev wsX160 : List Cond := u_ws RX16 TX16 4
set_option maxRecDepth 100000 in
theorem nmX16 : ∀ a, a < 4 → ∀ b, b < 4 → a ≠ b → (TX16 a).2.1 ≠ (TX16 b).2.1 := by decide +kernel
set_option maxRecDepth 100000 in
theorem tyX16_ok : ∀ k, k < 4 → parseFieldDescriptor (TX16 k).2.2.1 = some (tyX16 k) := by decide +kernel
/-! java/util/ArrayList -/
def RJ3 : String := "java/util/ArrayList"
def TJ3 : u_T := fun k => match k with
  | 0 => ("java/util/AbstractList", "modCount", "I", false)
  | 1 => ("java/util/ArrayList", "elementData", "[Ljava/lang/Object;", false)
  | _ => ("java/util/ArrayList", "size", "I", false)
def tyJ3 : Nat → FieldType := fun k => match k with
  | 0 => .int
  | 1 => .array (.object "java/lang/Object")
  | _ => .int
abbrev wsJ30 : List Cond := u_ws RJ3 TJ3 3
set_option maxRecDepth 100000 in
theorem nmJ3 : ∀ a, a < 3 → ∀ b, b < 3 → a ≠ b → (TJ3 a).2.1 ≠ (TJ3 b).2.1 := by decide +kernel
set_option maxRecDepth 100000 in
theorem tyJ3_ok : ∀ k, k < 3 → parseFieldDescriptor (TJ3 k).2.2.1 = some (tyJ3 k) := by decide +kernel
/-! java/util/Arrays -/
def RJ0 : String := "java/util/Arrays"
/-! java/util/AbstractCollection -/
def RJ1 : String := "java/util/AbstractCollection"
/-! java/util/AbstractList -/
def RJ2 : String := "java/util/AbstractList"
/-! java/lang/String -/
def RJ4 : String := "java/lang/String"
/-! java/lang/StringLatin1 -/
def RJ5 : String := "java/lang/StringLatin1"
/-! jdk/internal/util/Preconditions -/
def RJ6 : String := "jdk/internal/util/Preconditions"
/-! java/lang/StringUTF16 -/
def RJ7 : String := "java/lang/StringUTF16"
/-! java/lang/Math -/
def RJ8 : String := "java/lang/Math"
/-! java/lang/Throwable -/
def RJ9 : String := "java/lang/Throwable"
def TJ9 : u_T := fun k => match k with
  | 0 => ("java/lang/Throwable", "cause", "Ljava/lang/Throwable;", false)
  | 1 => ("java/lang/Throwable", "stackTrace", "[Ljava/lang/StackTraceElement;", false)
  | 2 => ("java/lang/Throwable", "suppressedExceptions", "Ljava/util/List;", false)
  | 3 => ("java/lang/Throwable", "detailMessage", "Ljava/lang/String;", false)
  | _ => ("java/lang/Throwable", "backtrace", "Ljava/lang/Object;", false)
def tyJ9 : Nat → FieldType := fun k => match k with
  | 0 => .object "java/lang/Throwable"
  | 1 => .array (.object "java/lang/StackTraceElement")
  | 2 => .object "java/util/List"
  | 3 => .object "java/lang/String"
  | _ => .object "java/lang/Object"
abbrev wsJ90 : List Cond := u_ws RJ9 TJ9 5
set_option maxRecDepth 100000 in
theorem nmJ9 : ∀ a, a < 5 → ∀ b, b < 5 → a ≠ b → (TJ9 a).2.1 ≠ (TJ9 b).2.1 := by decide +kernel
set_option maxRecDepth 100000 in
theorem tyJ9_ok : ∀ k, k < 5 → parseFieldDescriptor (TJ9 k).2.2.1 = some (tyJ9 k) := by decide +kernel
/-! java/lang/Exception -/
def RJ10 : String := "java/lang/Exception"
/-! java/lang/Record -/
def RJ11 : String := "java/lang/Record"
/-! jdk/internal/util/ArraysSupport -/
def RJ12 : String := "jdk/internal/util/ArraysSupport"
/-! java/util/Objects -/
def RJ13 : String := "java/util/Objects"
/-! java/lang/Number -/
def RJ14 : String := "java/lang/Number"
/-! java/lang/Integer -/
def RJ15 : String := "java/lang/Integer"
def TJ15 : u_T := fun k => match k with
  | _ => ("java/lang/Integer", "value", "I", true)
def tyJ15 : Nat → FieldType := fun k => match k with
  | _ => .int
abbrev wsJ150 : List Cond := u_ws RJ15 TJ15 1
set_option maxRecDepth 100000 in
theorem nmJ15 : ∀ a, a < 1 → ∀ b, b < 1 → a ≠ b → (TJ15 a).2.1 ≠ (TJ15 b).2.1 := by decide +kernel
set_option maxRecDepth 100000 in
theorem tyJ15_ok : ∀ k, k < 1 → parseFieldDescriptor (TJ15 k).2.2.1 = some (tyJ15 k) := by decide +kernel
/-! java/lang/Object -/
def RJ16 : String := "java/lang/Object"
theorem q146 : (Jvm.Cond.initialized "DawnPerquisiteLaw") ∈ lw_all := lw_g (lw_at lw_m1 0 rfl) rfl
theorem q147 : (Jvm.Cond.initialized "DawnPerquisite") ∈ lw_all := lw_g (lw_at lw_m1 1 rfl) rfl
theorem q148 : (Jvm.Cond.initialized "DawnPerquisite$State") ∈ lw_all := lw_g (lw_at lw_m1 2 rfl) rfl
theorem q149 : (Jvm.Cond.initialized "java/util/Arrays") ∈ lw_all := lw_g (lw_at lw_m1 3 rfl) rfl
theorem q150 : (Jvm.Cond.initialized "java/lang/System") ∈ lw_all := lw_g (lw_at lw_m1 4 rfl) rfl
theorem q151 : (Jvm.Cond.initialized "DawnPerquisiteModel") ∈ lw_all := lw_g (lw_at lw_m1 5 rfl) rfl
theorem q152 : (Jvm.Cond.initialized "DawnPerquisite$Tokens") ∈ lw_all := lw_g (lw_at lw_m1 6 rfl) rfl
theorem q153 : (Jvm.Cond.initialized "DawnPerquisite$Text") ∈ lw_all := lw_g (lw_at lw_m1 7 rfl) rfl
theorem q154 : (Jvm.Cond.initialized "java/util/AbstractCollection") ∈ lw_all := lw_g (lw_at lw_m1 8 rfl) rfl
theorem q155 : (Jvm.Cond.initialized "java/util/AbstractList") ∈ lw_all := lw_g (lw_at lw_m1 9 rfl) rfl
theorem q156 : (Jvm.Cond.initialized "java/util/ArrayList") ∈ lw_all := lw_g (lw_at lw_m1 10 rfl) rfl
theorem q157 : (Jvm.Cond.initialized "java/lang/String") ∈ lw_all := lw_g (lw_at lw_m1 11 rfl) rfl
theorem q158 : (Jvm.Cond.initialized "java/lang/StringLatin1") ∈ lw_all := lw_g (lw_at lw_m1 12 rfl) rfl
theorem q159 : (Jvm.Cond.initialized "jdk/internal/util/Preconditions") ∈ lw_all := lw_g (lw_at lw_m1 13 rfl) rfl
theorem q160 : (Jvm.Cond.initialized "java/lang/StringUTF16") ∈ lw_all := lw_g (lw_at lw_m1 14 rfl) rfl
theorem q161 : (Jvm.Cond.initialized "java/lang/Math") ∈ lw_all := lw_g (lw_at lw_m1 15 rfl) rfl
theorem q162 : (Jvm.Cond.initialized "java/lang/Throwable") ∈ lw_all := lw_g (lw_at lw_m1 16 rfl) rfl
theorem q163 : (Jvm.Cond.initialized "java/lang/Exception") ∈ lw_all := lw_g (lw_at lw_m1 17 rfl) rfl
theorem q164 : (Jvm.Cond.initialized "DawnPerquisite$Wrong") ∈ lw_all := lw_g (lw_at lw_m1 18 rfl) rfl
theorem q165 : (Jvm.Cond.initialized "DawnPerquisite$Chain") ∈ lw_all := lw_g (lw_at lw_m1 19 rfl) rfl
theorem q166 : (Jvm.Cond.initialized "java/lang/Record") ∈ lw_all := lw_g (lw_at lw_m1 20 rfl) rfl
theorem q167 : (Jvm.Cond.initialized "DawnPerquisite$Plain") ∈ lw_all := lw_g (lw_at lw_m1 21 rfl) rfl
theorem q168 : (Jvm.Cond.initialized "DawnPerquisite$Not") ∈ lw_all := lw_g (lw_at lw_m1 22 rfl) rfl
theorem q169 : (Jvm.Cond.initialized "DawnPerquisite$Compared") ∈ lw_all := lw_g (lw_at lw_m1 23 rfl) rfl
theorem q170 : (Jvm.Cond.initialized "jdk/internal/util/ArraysSupport") ∈ lw_all := lw_g (lw_at lw_m1 24 rfl) rfl
theorem q171 : (Jvm.Cond.initialized "java/util/Objects") ∈ lw_all := lw_g (lw_at lw_m1 25 rfl) rfl
theorem q172 : (Jvm.Cond.initialized "DawnPerquisite$All") ∈ lw_all := lw_g (lw_at lw_m1 26 rfl) rfl
theorem q173 : (Jvm.Cond.initialized "DawnPerquisite$If") ∈ lw_all := lw_g (lw_at lw_m1 27 rfl) rfl
theorem q174 : (Jvm.Cond.initialized "DawnPerquisite$Name") ∈ lw_all := lw_g (lw_at lw_m1 28 rfl) rfl
theorem q175 : (Jvm.Cond.initialized "DawnPerquisite$Worth") ∈ lw_all := lw_g (lw_at lw_m1 29 rfl) rfl
theorem q176 : (Jvm.Cond.initialized "DawnPerquisite$Purse") ∈ lw_all := lw_g (lw_at lw_m1 30 rfl) rfl
theorem q177 : (Jvm.Cond.initialized "DawnPerquisite$Minus") ∈ lw_all := lw_g (lw_at lw_m1 31 rfl) rfl
theorem q178 : (Jvm.Cond.initialized "java/lang/Number") ∈ lw_all := lw_g (lw_at lw_m1 32 rfl) rfl
theorem q179 : (Jvm.Cond.initialized "java/lang/Integer") ∈ lw_all := lw_g (lw_at lw_m1 33 rfl) rfl
theorem q180 : (Jvm.Cond.initialized "java/lang/Integer$IntegerCache") ∈ lw_all := lw_g (lw_at lw_m1 34 rfl) rfl
theorem q181 : (Jvm.Cond.initialized "DawnPerquisite$Doing") ∈ lw_all := lw_g (lw_at lw_m1 35 rfl) rfl
theorem q182 : (Jvm.Cond.classLink "DawnPerquisiteLaw" (7 : Nat) "DawnPerquisite") ∈ lw_all := lw_g (lw_at lw_m1 36 rfl) rfl
theorem q183 : (Jvm.Cond.instantiable "DawnPerquisite" (11 : Nat)) ∈ lw_all := lw_g (lw_at lw_m1 37 rfl) rfl
theorem q184 : (Jvm.Cond.methodLink "DawnPerquisiteLaw" (9 : Nat) ({ cls := "DawnPerquisite", name := "<init>", desc := "()V" } : Jvm.MethodName)) ∈ lw_all := lw_g (lw_at lw_m1 38 rfl) rfl
theorem q185 : (Jvm.Cond.instanceMethod ({ cls := "DawnPerquisite", name := "<init>", desc := "()V" } : Jvm.MethodName)) ∈ lw_all := lw_g (lw_at lw_m1 39 rfl) rfl
theorem q186 : (Jvm.Cond.code ({ cls := "DawnPerquisite", name := "<init>", desc := "()V" } : Jvm.MethodName) prog_1_method_4_code (1 : Nat) (Option.none : Option Jvm.ClassFile.FieldType)) ∈ lw_all := lw_g (lw_at lw_m1 40 rfl) rfl
theorem q187 : (Jvm.Cond.methodLink "DawnPerquisite" (12 : Nat) ({ cls := "java/lang/Object", name := "<init>", desc := "()V" } : Jvm.MethodName)) ∈ lw_all := lw_g (lw_at lw_m1 41 rfl) rfl
theorem q188 : (Jvm.Cond.instanceMethod ({ cls := "java/lang/Object", name := "<init>", desc := "()V" } : Jvm.MethodName)) ∈ lw_all := lw_g (lw_at lw_m1 42 rfl) rfl
theorem q189 : (Jvm.Cond.code ({ cls := "java/lang/Object", name := "<init>", desc := "()V" } : Jvm.MethodName) object_method_1_code (1 : Nat) (Option.none : Option Jvm.ClassFile.FieldType)) ∈ lw_all := lw_g (lw_at lw_m1 43 rfl) rfl
theorem q190 : (Jvm.Cond.classLink "DawnPerquisite" (18 : Nat) "DawnPerquisite$State") ∈ lw_all := lw_g (lw_at lw_m1 44 rfl) rfl
theorem q191 : (Jvm.Cond.instantiable "DawnPerquisite$State" (11 : Nat)) ∈ lw_all := lw_g (lw_at lw_m1 45 rfl) rfl
theorem q192 : (Jvm.Cond.methodLink "DawnPerquisite" (20 : Nat) ({ cls := "DawnPerquisite$State", name := "<init>", desc := "()V" } : Jvm.MethodName)) ∈ lw_all := lw_g (lw_at lw_m1 46 rfl) rfl
theorem q193 : (Jvm.Cond.instanceMethod ({ cls := "DawnPerquisite$State", name := "<init>", desc := "()V" } : Jvm.MethodName)) ∈ lw_all := lw_g (lw_at lw_m1 47 rfl) rfl
theorem q194 : (Jvm.Cond.code ({ cls := "DawnPerquisite$State", name := "<init>", desc := "()V" } : Jvm.MethodName) prog_13_method_1_code (2 : Nat) (Option.none : Option Jvm.ClassFile.FieldType)) ∈ lw_all := lw_g (lw_at lw_m1 48 rfl) rfl
theorem q195 : (Jvm.Cond.methodLink "DawnPerquisite$State" (3 : Nat) ({ cls := "java/lang/Object", name := "<init>", desc := "()V" } : Jvm.MethodName)) ∈ lw_all := lw_g (lw_at lw_m1 49 rfl) rfl
theorem q196 : (Jvm.Cond.classLink "DawnPerquisite$State" (36 : Nat) "[[I") ∈ lw_all := lw_g (lw_at lw_m1 50 rfl) rfl
theorem q197 : (Jvm.Cond.arrayOver (Jvm.ClassFile.FieldType.array Jvm.ClassFile.FieldType.int)) ∈ lw_tbl := lw_at lw_m1 51 rfl
theorem q198 : (Jvm.Cond.classLink "DawnPerquisite$State" (44 : Nat) "DawnPerquisite$Text") ∈ lw_all := lw_g (lw_at lw_m1 52 rfl) rfl
theorem q199 : (Jvm.Cond.arrayOver (Jvm.ClassFile.FieldType.object "DawnPerquisite$Text")) ∈ lw_tbl := lw_at lw_m1 53 rfl
theorem q200 : (Jvm.Cond.methodLink "DawnPerquisite$State" (50 : Nat) ({ cls := "java/util/Arrays", name := "fill", desc := "([IIII)V" } : Jvm.MethodName)) ∈ lw_all := lw_g (lw_at lw_m1 54 rfl) rfl
theorem q201 : (Jvm.Cond.static ({ cls := "java/util/Arrays", name := "fill", desc := "([IIII)V" } : Jvm.MethodName)) ∈ lw_all := lw_g (lw_at lw_m1 55 rfl) rfl
theorem q202 : (Jvm.Cond.code ({ cls := "java/util/Arrays", name := "fill", desc := "([IIII)V" } : Jvm.MethodName) prog_42_method_104_code (5 : Nat) (Option.none : Option Jvm.ClassFile.FieldType)) ∈ lw_all := lw_g (lw_at lw_m1 56 rfl) rfl
theorem q203 : (Jvm.Cond.methodLink "java/util/Arrays" (13 : Nat) ({ cls := "java/util/Arrays", name := "rangeCheck", desc := "(III)V" } : Jvm.MethodName)) ∈ lw_all := lw_g (lw_at lw_m1 57 rfl) rfl
theorem q204 : (Jvm.Cond.static ({ cls := "java/util/Arrays", name := "rangeCheck", desc := "(III)V" } : Jvm.MethodName)) ∈ lw_all := lw_g (lw_at lw_m1 58 rfl) rfl
theorem q205 : (Jvm.Cond.code ({ cls := "java/util/Arrays", name := "rangeCheck", desc := "(III)V" } : Jvm.MethodName) prog_42_method_30_code (3 : Nat) (Option.none : Option Jvm.ClassFile.FieldType)) ∈ lw_all := lw_g (lw_at lw_m1 59 rfl) rfl
theorem q206 : (Jvm.Cond.methodLink "DawnPerquisite$State" (56 : Nat) ({ cls := "java/util/Arrays", name := "fill", desc := "([II)V" } : Jvm.MethodName)) ∈ lw_all := lw_g (lw_at lw_m1 60 rfl) rfl
theorem q207 : (Jvm.Cond.static ({ cls := "java/util/Arrays", name := "fill", desc := "([II)V" } : Jvm.MethodName)) ∈ lw_all := lw_g (lw_at lw_m1 61 rfl) rfl
theorem q208 : (Jvm.Cond.code ({ cls := "java/util/Arrays", name := "fill", desc := "([II)V" } : Jvm.MethodName) prog_42_method_103_code (4 : Nat) (Option.none : Option Jvm.ClassFile.FieldType)) ∈ lw_all := lw_g (lw_at lw_m1 62 rfl) rfl
theorem q209 : (Jvm.Cond.fieldLink "DawnPerquisite$State" (9 : Nat) "DawnPerquisite$State" "n" "[I") ∈ lw_all := lw_g (lw_at lw_m1 63 rfl) rfl
theorem q210 : (Jvm.Cond.fieldLinkNest "DawnPerquisite" (61 : Nat) "DawnPerquisite$State" "n" "[I" "DawnPerquisite") ∈ lw_tbl := lw_at lw_m1 64 rfl
theorem q211 : (Jvm.Cond.fieldLink "DawnPerquisite$State" (15 : Nat) "DawnPerquisite$State" "row" "[I") ∈ lw_all := lw_g (lw_at lw_m1 65 rfl) rfl
theorem q212 : (Jvm.Cond.fieldLinkNest "DawnPerquisite" (173 : Nat) "DawnPerquisite$State" "row" "[I" "DawnPerquisite") ∈ lw_tbl := lw_at lw_m1 66 rfl
theorem q213 : (Jvm.Cond.fieldLink "DawnPerquisite$State" (18 : Nat) "DawnPerquisite$State" "odds" "[I") ∈ lw_all := lw_g (lw_at lw_m1 67 rfl) rfl
theorem q214 : (Jvm.Cond.fieldLinkNest "DawnPerquisite" (76 : Nat) "DawnPerquisite$State" "odds" "[I" "DawnPerquisite") ∈ lw_tbl := lw_at lw_m1 68 rfl
theorem q215 : (Jvm.Cond.fieldLink "DawnPerquisite$State" (21 : Nat) "DawnPerquisite$State" "worth" "[I") ∈ lw_all := lw_g (lw_at lw_m1 69 rfl) rfl
theorem q216 : (Jvm.Cond.fieldLinkNest "DawnPerquisite" (79 : Nat) "DawnPerquisite$State" "worth" "[I" "DawnPerquisite") ∈ lw_tbl := lw_at lw_m1 70 rfl
theorem q217 : (Jvm.Cond.fieldLink "DawnPerquisite$State" (24 : Nat) "DawnPerquisite$State" "wants" "[I") ∈ lw_all := lw_g (lw_at lw_m1 71 rfl) rfl
theorem q218 : (Jvm.Cond.fieldLinkNest "DawnPerquisite" (85 : Nat) "DawnPerquisite$State" "wants" "[I" "DawnPerquisite") ∈ lw_tbl := lw_at lw_m1 72 rfl
theorem q219 : (Jvm.Cond.fieldLink "DawnPerquisite$State" (27 : Nat) "DawnPerquisite$State" "from" "[I") ∈ lw_all := lw_g (lw_at lw_m1 73 rfl) rfl
theorem q220 : (Jvm.Cond.fieldLinkNest "DawnPerquisite" (88 : Nat) "DawnPerquisite$State" "from" "[I" "DawnPerquisite") ∈ lw_tbl := lw_at lw_m1 74 rfl
theorem q221 : (Jvm.Cond.fieldLink "DawnPerquisite$State" (30 : Nat) "DawnPerquisite$State" "to" "[I") ∈ lw_all := lw_g (lw_at lw_m1 75 rfl) rfl
theorem q222 : (Jvm.Cond.fieldLinkNest "DawnPerquisite" (91 : Nat) "DawnPerquisite$State" "to" "[I" "DawnPerquisite") ∈ lw_tbl := lw_at lw_m1 76 rfl
theorem q223 : (Jvm.Cond.fieldLink "DawnPerquisite$State" (33 : Nat) "DawnPerquisite$State" "value" "[I") ∈ lw_all := lw_g (lw_at lw_m1 77 rfl) rfl
theorem q224 : (Jvm.Cond.fieldLinkNest "DawnPerquisite" (393 : Nat) "DawnPerquisite$State" "value" "[I" "DawnPerquisite") ∈ lw_tbl := lw_at lw_m1 78 rfl
theorem q225 : (Jvm.Cond.fieldLink "DawnPerquisite$State" (38 : Nat) "DawnPerquisite$State" "said" "[[I") ∈ lw_all := lw_g (lw_at lw_m1 79 rfl) rfl
theorem q226 : (Jvm.Cond.fieldLinkNest "DawnPerquisite" (411 : Nat) "DawnPerquisite$State" "said" "[[I" "DawnPerquisite") ∈ lw_tbl := lw_at lw_m1 80 rfl
theorem q227 : (Jvm.Cond.fieldLink "DawnPerquisite$State" (41 : Nat) "DawnPerquisite$State" "step" "[[I") ∈ lw_all := lw_g (lw_at lw_m1 81 rfl) rfl
theorem q228 : (Jvm.Cond.fieldLinkNest "DawnPerquisite" (312 : Nat) "DawnPerquisite$State" "step" "[[I" "DawnPerquisite") ∈ lw_tbl := lw_at lw_m1 82 rfl
theorem q229 : (Jvm.Cond.fieldLink "DawnPerquisite$State" (46 : Nat) "DawnPerquisite$State" "text" "[LDawnPerquisite$Text;") ∈ lw_all := lw_g (lw_at lw_m1 83 rfl) rfl
theorem q230 : (Jvm.Cond.fieldLinkNest "DawnPerquisite" (105 : Nat) "DawnPerquisite$State" "text" "[LDawnPerquisite$Text;" "DawnPerquisite") ∈ lw_tbl := lw_at lw_m1 84 rfl
theorem q231 : (Jvm.Cond.laysFinal "DawnPerquisite$State" "DawnPerquisite$State" "n" "[I") ∈ lw_all := lw_g (lw_at lw_m1 85 rfl) rfl
theorem q232 : (Jvm.Cond.soleField "DawnPerquisite$State" "n") ∈ lw_all := lw_g (lw_at lw_m1 86 rfl) rfl
theorem q233 : (Jvm.Cond.laysFinal "DawnPerquisite$State" "DawnPerquisite$State" "row" "[I") ∈ lw_all := lw_g (lw_at lw_m1 87 rfl) rfl
theorem q234 : (Jvm.Cond.soleField "DawnPerquisite$State" "row") ∈ lw_all := lw_g (lw_at lw_m1 88 rfl) rfl
theorem q235 : (Jvm.Cond.laysFinal "DawnPerquisite$State" "DawnPerquisite$State" "odds" "[I") ∈ lw_all := lw_g (lw_at lw_m1 89 rfl) rfl
theorem q236 : (Jvm.Cond.soleField "DawnPerquisite$State" "odds") ∈ lw_all := lw_g (lw_at lw_m1 90 rfl) rfl
theorem q237 : (Jvm.Cond.laysFinal "DawnPerquisite$State" "DawnPerquisite$State" "worth" "[I") ∈ lw_all := lw_g (lw_at lw_m1 91 rfl) rfl
theorem q238 : (Jvm.Cond.soleField "DawnPerquisite$State" "worth") ∈ lw_all := lw_g (lw_at lw_m1 92 rfl) rfl
theorem q239 : (Jvm.Cond.laysFinal "DawnPerquisite$State" "DawnPerquisite$State" "wants" "[I") ∈ lw_all := lw_g (lw_at lw_m1 93 rfl) rfl
theorem q240 : (Jvm.Cond.soleField "DawnPerquisite$State" "wants") ∈ lw_all := lw_g (lw_at lw_m1 94 rfl) rfl
theorem q241 : (Jvm.Cond.laysFinal "DawnPerquisite$State" "DawnPerquisite$State" "from" "[I") ∈ lw_all := lw_g (lw_at lw_m1 95 rfl) rfl
theorem q242 : (Jvm.Cond.soleField "DawnPerquisite$State" "from") ∈ lw_all := lw_g (lw_at lw_m1 96 rfl) rfl
theorem q243 : (Jvm.Cond.laysFinal "DawnPerquisite$State" "DawnPerquisite$State" "to" "[I") ∈ lw_all := lw_g (lw_at lw_m1 97 rfl) rfl
theorem q244 : (Jvm.Cond.soleField "DawnPerquisite$State" "to") ∈ lw_all := lw_g (lw_at lw_m1 98 rfl) rfl
theorem q245 : (Jvm.Cond.laysFinal "DawnPerquisite$State" "DawnPerquisite$State" "value" "[I") ∈ lw_all := lw_g (lw_at lw_m1 99 rfl) rfl
theorem q246 : (Jvm.Cond.soleField "DawnPerquisite$State" "value") ∈ lw_all := lw_g (lw_at lw_m1 100 rfl) rfl
theorem q247 : (Jvm.Cond.laysFinal "DawnPerquisite$State" "DawnPerquisite$State" "said" "[[I") ∈ lw_all := lw_g (lw_at lw_m1 101 rfl) rfl
theorem q248 : (Jvm.Cond.soleField "DawnPerquisite$State" "said") ∈ lw_all := lw_g (lw_at lw_m1 102 rfl) rfl
theorem q249 : (Jvm.Cond.laysFinal "DawnPerquisite$State" "DawnPerquisite$State" "step" "[[I") ∈ lw_all := lw_g (lw_at lw_m1 103 rfl) rfl
theorem q250 : (Jvm.Cond.soleField "DawnPerquisite$State" "step") ∈ lw_all := lw_g (lw_at lw_m1 104 rfl) rfl
theorem q251 : (Jvm.Cond.laysFinal "DawnPerquisite$State" "DawnPerquisite$State" "text" "[LDawnPerquisite$Text;") ∈ lw_all := lw_g (lw_at lw_m1 105 rfl) rfl
theorem q252 : (Jvm.Cond.soleField "DawnPerquisite$State" "text") ∈ lw_all := lw_g (lw_at lw_m1 106 rfl) rfl
theorem q253 : (Jvm.Cond.superclass "DawnPerquisite$State" "java/lang/Object") ∈ lw_all := lw_g (lw_at lw_m1 107 rfl) rfl
theorem q254 : (Jvm.Cond.arrayClass Jvm.ClassFile.FieldType.int) ∈ lw_all := lw_g (lw_at lw_m1 108 rfl) rfl
theorem q255 : (Jvm.Cond.classLink "DawnPerquisite" (52 : Nat) "[[I") ∈ lw_all := lw_g (lw_at lw_m1 109 rfl) rfl
theorem q256 : (Jvm.Cond.methodLink "DawnPerquisite" (57 : Nat) ({ cls := "DawnPerquisite$State", name := "be", desc := "(LDawnPerquisite$State;)V" } : Jvm.MethodName)) ∈ lw_all := lw_g (lw_at lw_m1 110 rfl) rfl
theorem q257 : (Jvm.Cond.instanceMethod ({ cls := "DawnPerquisite$State", name := "be", desc := "(LDawnPerquisite$State;)V" } : Jvm.MethodName)) ∈ lw_all := lw_g (lw_at lw_m1 111 rfl) rfl
theorem q258 : (Jvm.Cond.selects "DawnPerquisite$State" ({ cls := "DawnPerquisite$State", name := "be", desc := "(LDawnPerquisite$State;)V" } : Jvm.MethodName) ({ cls := "DawnPerquisite$State", name := "be", desc := "(LDawnPerquisite$State;)V" } : Jvm.MethodName)) ∈ lw_all := lw_g (lw_at lw_m1 112 rfl) rfl
theorem q259 : (Jvm.Cond.code ({ cls := "DawnPerquisite$State", name := "be", desc := "(LDawnPerquisite$State;)V" } : Jvm.MethodName) prog_13_method_4_code (2 : Nat) (Option.none : Option Jvm.ClassFile.FieldType)) ∈ lw_all := lw_g (lw_at lw_m1 113 rfl) rfl
theorem q260 : (Jvm.Cond.methodLink "DawnPerquisite$State" (65 : Nat) ({ cls := "DawnPerquisite$State", name := "copy", desc := "([I[I)V" } : Jvm.MethodName)) ∈ lw_all := lw_g (lw_at lw_m1 114 rfl) rfl
theorem q261 : (Jvm.Cond.static ({ cls := "DawnPerquisite$State", name := "copy", desc := "([I[I)V" } : Jvm.MethodName)) ∈ lw_all := lw_g (lw_at lw_m1 115 rfl) rfl
theorem q262 : (Jvm.Cond.code ({ cls := "DawnPerquisite$State", name := "copy", desc := "([I[I)V" } : Jvm.MethodName) prog_13_method_2_code (2 : Nat) (Option.none : Option Jvm.ClassFile.FieldType)) ∈ lw_all := lw_g (lw_at lw_m1 116 rfl) rfl
theorem q263 : (Jvm.Cond.methodLink "DawnPerquisite$State" (59 : Nat) ({ cls := "java/lang/System", name := "arraycopy", desc := "(Ljava/lang/Object;ILjava/lang/Object;II)V" } : Jvm.MethodName)) ∈ lw_all := lw_g (lw_at lw_m1 117 rfl) rfl
theorem q264 : (Jvm.Cond.static ({ cls := "java/lang/System", name := "arraycopy", desc := "(Ljava/lang/Object;ILjava/lang/Object;II)V" } : Jvm.MethodName)) ∈ lw_all := lw_g (lw_at lw_m1 118 rfl) rfl
theorem q265 : (Jvm.Cond.native ({ cls := "java/lang/System", name := "arraycopy", desc := "(Ljava/lang/Object;ILjava/lang/Object;II)V" } : Jvm.MethodName)) ∈ lw_all := lw_g (lw_at lw_m1 119 rfl) rfl
theorem q266 : (Jvm.Cond.methodLink "DawnPerquisite$State" (69 : Nat) ({ cls := "DawnPerquisite$State", name := "copy", desc := "([[I[[I)V" } : Jvm.MethodName)) ∈ lw_all := lw_g (lw_at lw_m1 120 rfl) rfl
theorem q267 : (Jvm.Cond.static ({ cls := "DawnPerquisite$State", name := "copy", desc := "([[I[[I)V" } : Jvm.MethodName)) ∈ lw_all := lw_g (lw_at lw_m1 121 rfl) rfl
theorem q268 : (Jvm.Cond.code ({ cls := "DawnPerquisite$State", name := "copy", desc := "([[I[[I)V" } : Jvm.MethodName) prog_13_method_3_code (3 : Nat) (Option.none : Option Jvm.ClassFile.FieldType)) ∈ lw_all := lw_g (lw_at lw_m1 122 rfl) rfl
theorem q269 : (Jvm.Cond.fieldLink "DawnPerquisite" (21 : Nat) "DawnPerquisite" "now" "LDawnPerquisite$State;") ∈ lw_all := lw_g (lw_at lw_m1 123 rfl) rfl
theorem q270 : (Jvm.Cond.fieldLink "DawnPerquisite" (25 : Nat) "DawnPerquisite" "image" "LDawnPerquisite$State;") ∈ lw_all := lw_g (lw_at lw_m1 124 rfl) rfl
theorem q271 : (Jvm.Cond.fieldLink "DawnPerquisite" (28 : Nat) "DawnPerquisite" "tape" "[B") ∈ lw_all := lw_g (lw_at lw_m1 125 rfl) rfl
theorem q272 : (Jvm.Cond.fieldLink "DawnPerquisite" (98 : Nat) "DawnPerquisite" "taped" "I") ∈ lw_all := lw_g (lw_at lw_m1 126 rfl) rfl
theorem q273 : (Jvm.Cond.fieldLink "DawnPerquisite" (32 : Nat) "DawnPerquisite" "fault" "I") ∈ lw_all := lw_g (lw_at lw_m1 127 rfl) rfl
theorem q274 : (Jvm.Cond.fieldLink "DawnPerquisite" (36 : Nat) "DawnPerquisite" "faultAt" "I") ∈ lw_all := lw_g (lw_at lw_m1 128 rfl) rfl
theorem q275 : (Jvm.Cond.fieldLink "DawnPerquisite" (39 : Nat) "DawnPerquisite" "names" "[I") ∈ lw_all := lw_g (lw_at lw_m1 129 rfl) rfl
theorem q276 : (Jvm.Cond.fieldLink "DawnPerquisite" (43 : Nat) "DawnPerquisite" "tried" "[I") ∈ lw_all := lw_g (lw_at lw_m1 130 rfl) rfl
theorem q277 : (Jvm.Cond.fieldLink "DawnPerquisite" (46 : Nat) "DawnPerquisite" "takenOn" "[I") ∈ lw_all := lw_g (lw_at lw_m1 131 rfl) rfl
theorem q278 : (Jvm.Cond.fieldLink "DawnPerquisite" (49 : Nat) "DawnPerquisite" "dawnOf" "[I") ∈ lw_all := lw_g (lw_at lw_m1 132 rfl) rfl
theorem q279 : (Jvm.Cond.fieldLink "DawnPerquisite" (54 : Nat) "DawnPerquisite" "more" "[[I") ∈ lw_all := lw_g (lw_at lw_m1 133 rfl) rfl
theorem q280 : (Jvm.Cond.laysFinal "DawnPerquisite" "DawnPerquisite" "now" "LDawnPerquisite$State;") ∈ lw_all := lw_g (lw_at lw_m1 134 rfl) rfl
theorem q281 : (Jvm.Cond.soleField "DawnPerquisite" "now") ∈ lw_all := lw_g (lw_at lw_m1 135 rfl) rfl
theorem q282 : (Jvm.Cond.laysFinal "DawnPerquisite" "DawnPerquisite" "image" "LDawnPerquisite$State;") ∈ lw_all := lw_g (lw_at lw_m1 136 rfl) rfl
theorem q283 : (Jvm.Cond.soleField "DawnPerquisite" "image") ∈ lw_all := lw_g (lw_at lw_m1 137 rfl) rfl
theorem q284 : (Jvm.Cond.laysFinal "DawnPerquisite" "DawnPerquisite" "tape" "[B") ∈ lw_all := lw_g (lw_at lw_m1 138 rfl) rfl
theorem q285 : (Jvm.Cond.soleField "DawnPerquisite" "tape") ∈ lw_all := lw_g (lw_at lw_m1 139 rfl) rfl
theorem q286 : (Jvm.Cond.lays "DawnPerquisite" "DawnPerquisite" "taped" "I") ∈ lw_all := lw_g (lw_at lw_m1 140 rfl) rfl
theorem q287 : (Jvm.Cond.soleField "DawnPerquisite" "taped") ∈ lw_all := lw_g (lw_at lw_m1 141 rfl) rfl
theorem q288 : (Jvm.Cond.lays "DawnPerquisite" "DawnPerquisite" "fault" "I") ∈ lw_all := lw_g (lw_at lw_m1 142 rfl) rfl
theorem q289 : (Jvm.Cond.soleField "DawnPerquisite" "fault") ∈ lw_all := lw_g (lw_at lw_m1 143 rfl) rfl
theorem q290 : (Jvm.Cond.lays "DawnPerquisite" "DawnPerquisite" "faultAt" "I") ∈ lw_all := lw_g (lw_at lw_m1 144 rfl) rfl
theorem q291 : (Jvm.Cond.soleField "DawnPerquisite" "faultAt") ∈ lw_all := lw_g (lw_at lw_m1 145 rfl) rfl
theorem q292 : (Jvm.Cond.laysFinal "DawnPerquisite" "DawnPerquisite" "names" "[I") ∈ lw_all := lw_g (lw_at lw_m1 146 rfl) rfl
theorem q293 : (Jvm.Cond.soleField "DawnPerquisite" "names") ∈ lw_all := lw_g (lw_at lw_m1 147 rfl) rfl
theorem q294 : (Jvm.Cond.laysFinal "DawnPerquisite" "DawnPerquisite" "tried" "[I") ∈ lw_all := lw_g (lw_at lw_m1 148 rfl) rfl
theorem q295 : (Jvm.Cond.soleField "DawnPerquisite" "tried") ∈ lw_all := lw_g (lw_at lw_m1 149 rfl) rfl
theorem q296 : (Jvm.Cond.laysFinal "DawnPerquisite" "DawnPerquisite" "takenOn" "[I") ∈ lw_all := lw_g (lw_at lw_m1 150 rfl) rfl
theorem q297 : (Jvm.Cond.soleField "DawnPerquisite" "takenOn") ∈ lw_all := lw_g (lw_at lw_m1 151 rfl) rfl
theorem q298 : (Jvm.Cond.laysFinal "DawnPerquisite" "DawnPerquisite" "dawnOf" "[I") ∈ lw_all := lw_g (lw_at lw_m1 152 rfl) rfl
theorem q299 : (Jvm.Cond.soleField "DawnPerquisite" "dawnOf") ∈ lw_all := lw_g (lw_at lw_m1 153 rfl) rfl
theorem q300 : (Jvm.Cond.laysFinal "DawnPerquisite" "DawnPerquisite" "more" "[[I") ∈ lw_all := lw_g (lw_at lw_m1 154 rfl) rfl
theorem q301 : (Jvm.Cond.soleField "DawnPerquisite" "more") ∈ lw_all := lw_g (lw_at lw_m1 155 rfl) rfl
theorem q302 : (Jvm.Cond.superclass "DawnPerquisite" "java/lang/Object") ∈ lw_all := lw_g (lw_at lw_m1 156 rfl) rfl
theorem q303 : (Jvm.Cond.arrayClass Jvm.ClassFile.FieldType.byte) ∈ lw_all := lw_g (lw_at lw_m1 157 rfl) rfl
theorem q304 : (Jvm.Cond.methodLink "DawnPerquisiteLaw" (13 : Nat) ({ cls := "DawnPerquisite", name := "sort", desc := "(III)Z" } : Jvm.MethodName)) ∈ lw_all := lw_g (lw_at lw_m1 158 rfl) rfl
theorem q305 : (Jvm.Cond.instanceMethod ({ cls := "DawnPerquisite", name := "sort", desc := "(III)Z" } : Jvm.MethodName)) ∈ lw_all := lw_g (lw_at lw_m1 159 rfl) rfl
theorem q306 : (Jvm.Cond.selects "DawnPerquisite" ({ cls := "DawnPerquisite", name := "sort", desc := "(III)Z" } : Jvm.MethodName) ({ cls := "DawnPerquisite", name := "sort", desc := "(III)Z" } : Jvm.MethodName)) ∈ lw_all := lw_g (lw_at lw_m1 160 rfl) rfl
theorem q307 : (Jvm.Cond.code ({ cls := "DawnPerquisite", name := "sort", desc := "(III)Z" } : Jvm.MethodName) prog_1_method_9_code (4 : Nat) (Option.some Jvm.ClassFile.FieldType.boolean)) ∈ lw_all := lw_g (lw_at lw_m1 161 rfl) rfl
theorem q308 : (Jvm.Cond.methodLink "DawnPerquisite" (72 : Nat) ({ cls := "DawnPerquisite", name := "isSort", desc := "(I)Z" } : Jvm.MethodName)) ∈ lw_all := lw_g (lw_at lw_m1 162 rfl) rfl
theorem q309 : (Jvm.Cond.static ({ cls := "DawnPerquisite", name := "isSort", desc := "(I)Z" } : Jvm.MethodName)) ∈ lw_all := lw_g (lw_at lw_m1 163 rfl) rfl
theorem q310 : (Jvm.Cond.code ({ cls := "DawnPerquisite", name := "isSort", desc := "(I)Z" } : Jvm.MethodName) prog_1_method_7_code (1 : Nat) (Option.some Jvm.ClassFile.FieldType.boolean)) ∈ lw_all := lw_g (lw_at lw_m1 164 rfl) rfl
theorem q311 : (Jvm.Cond.methodLink "DawnPerquisite" (68 : Nat) ({ cls := "DawnPerquisite", name := "in", desc := "(III)Z" } : Jvm.MethodName)) ∈ lw_all := lw_g (lw_at lw_m1 165 rfl) rfl
theorem q312 : (Jvm.Cond.static ({ cls := "DawnPerquisite", name := "in", desc := "(III)Z" } : Jvm.MethodName)) ∈ lw_all := lw_g (lw_at lw_m1 166 rfl) rfl
theorem q313 : (Jvm.Cond.code ({ cls := "DawnPerquisite", name := "in", desc := "(III)Z" } : Jvm.MethodName) prog_1_method_1_code (3 : Nat) (Option.some Jvm.ClassFile.FieldType.boolean)) ∈ lw_all := lw_g (lw_at lw_m1 167 rfl) rfl
theorem q314 : (Jvm.Cond.methodLink "DawnPerquisiteLaw" (18 : Nat) ({ cls := "DawnPerquisite", name := "buyer", desc := "(IIII)I" } : Jvm.MethodName)) ∈ lw_all := lw_g (lw_at lw_m1 168 rfl) rfl
theorem q315 : (Jvm.Cond.instanceMethod ({ cls := "DawnPerquisite", name := "buyer", desc := "(IIII)I" } : Jvm.MethodName)) ∈ lw_all := lw_g (lw_at lw_m1 169 rfl) rfl
theorem q316 : (Jvm.Cond.selects "DawnPerquisite" ({ cls := "DawnPerquisite", name := "buyer", desc := "(IIII)I" } : Jvm.MethodName) ({ cls := "DawnPerquisite", name := "buyer", desc := "(IIII)I" } : Jvm.MethodName)) ∈ lw_all := lw_g (lw_at lw_m1 170 rfl) rfl
theorem q317 : (Jvm.Cond.code ({ cls := "DawnPerquisite", name := "buyer", desc := "(IIII)I" } : Jvm.MethodName) prog_1_method_10_code (6 : Nat) (Option.some Jvm.ClassFile.FieldType.int)) ∈ lw_all := lw_g (lw_at lw_m1 171 rfl) rfl
theorem q318 : (Jvm.Cond.methodLink "DawnPerquisite" (64 : Nat) ({ cls := "DawnPerquisite", name := "buyers", desc := "()I" } : Jvm.MethodName)) ∈ lw_all := lw_g (lw_at lw_m1 172 rfl) rfl
theorem q319 : (Jvm.Cond.privateMethod ({ cls := "DawnPerquisite", name := "buyers", desc := "()I" } : Jvm.MethodName)) ∈ lw_tbl := lw_at lw_m1 173 rfl
theorem q320 : (Jvm.Cond.instanceMethod ({ cls := "DawnPerquisite", name := "buyers", desc := "()I" } : Jvm.MethodName)) ∈ lw_all := lw_g (lw_at lw_m1 174 rfl) rfl
theorem q321 : (Jvm.Cond.code ({ cls := "DawnPerquisite", name := "buyers", desc := "()I" } : Jvm.MethodName) prog_1_method_5_code (1 : Nat) (Option.some Jvm.ClassFile.FieldType.int)) ∈ lw_all := lw_g (lw_at lw_m1 175 rfl) rfl
theorem q322 : (Jvm.Cond.methodLink "DawnPerquisite" (82 : Nat) ({ cls := "DawnPerquisite", name := "isSlice", desc := "(I)Z" } : Jvm.MethodName)) ∈ lw_all := lw_g (lw_at lw_m1 176 rfl) rfl
theorem q323 : (Jvm.Cond.static ({ cls := "DawnPerquisite", name := "isSlice", desc := "(I)Z" } : Jvm.MethodName)) ∈ lw_all := lw_g (lw_at lw_m1 177 rfl) rfl
theorem q324 : (Jvm.Cond.code ({ cls := "DawnPerquisite", name := "isSlice", desc := "(I)Z" } : Jvm.MethodName) prog_1_method_8_code (1 : Nat) (Option.some Jvm.ClassFile.FieldType.boolean)) ∈ lw_all := lw_g (lw_at lw_m1 178 rfl) rfl
theorem q325 : (Jvm.Cond.methodLink "DawnPerquisite" (94 : Nat) ({ cls := "DawnPerquisite$State", name := "tells", desc := "(II)V" } : Jvm.MethodName)) ∈ lw_all := lw_g (lw_at lw_m1 179 rfl) rfl
theorem q326 : (Jvm.Cond.instanceMethod ({ cls := "DawnPerquisite$State", name := "tells", desc := "(II)V" } : Jvm.MethodName)) ∈ lw_all := lw_g (lw_at lw_m1 180 rfl) rfl
theorem q327 : (Jvm.Cond.selects "DawnPerquisite$State" ({ cls := "DawnPerquisite$State", name := "tells", desc := "(II)V" } : Jvm.MethodName) ({ cls := "DawnPerquisite$State", name := "tells", desc := "(II)V" } : Jvm.MethodName)) ∈ lw_all := lw_g (lw_at lw_m1 181 rfl) rfl
theorem q328 : (Jvm.Cond.code ({ cls := "DawnPerquisite$State", name := "tells", desc := "(II)V" } : Jvm.MethodName) prog_13_method_6_code (4 : Nat) (Option.none : Option Jvm.ClassFile.FieldType)) ∈ lw_all := lw_g (lw_at lw_m1 182 rfl) rfl
theorem q329 : (Jvm.Cond.methodLink "DawnPerquisiteLaw" (23 : Nat) ({ cls := "DawnPerquisite", name := "feed", desc := "(IIIII)I" } : Jvm.MethodName)) ∈ lw_all := lw_g (lw_at lw_m1 183 rfl) rfl
theorem q330 : (Jvm.Cond.instanceMethod ({ cls := "DawnPerquisite", name := "feed", desc := "(IIIII)I" } : Jvm.MethodName)) ∈ lw_all := lw_g (lw_at lw_m1 184 rfl) rfl
theorem q331 : (Jvm.Cond.selects "DawnPerquisite" ({ cls := "DawnPerquisite", name := "feed", desc := "(IIIII)I" } : Jvm.MethodName) ({ cls := "DawnPerquisite", name := "feed", desc := "(IIIII)I" } : Jvm.MethodName)) ∈ lw_all := lw_g (lw_at lw_m1 185 rfl) rfl
theorem q332 : (Jvm.Cond.code ({ cls := "DawnPerquisite", name := "feed", desc := "(IIIII)I" } : Jvm.MethodName) prog_1_method_12_code (6 : Nat) (Option.some Jvm.ClassFile.FieldType.int)) ∈ lw_all := lw_g (lw_at lw_m1 186 rfl) rfl
theorem q333 : (Jvm.Cond.methodLink "DawnPerquisite" (101 : Nat) ({ cls := "DawnPerquisite", name := "put", desc := "(I)V" } : Jvm.MethodName)) ∈ lw_all := lw_g (lw_at lw_m1 187 rfl) rfl
theorem q334 : (Jvm.Cond.privateMethod ({ cls := "DawnPerquisite", name := "put", desc := "(I)V" } : Jvm.MethodName)) ∈ lw_tbl := lw_at lw_m1 188 rfl
theorem q335 : (Jvm.Cond.instanceMethod ({ cls := "DawnPerquisite", name := "put", desc := "(I)V" } : Jvm.MethodName)) ∈ lw_all := lw_g (lw_at lw_m1 189 rfl) rfl
theorem q336 : (Jvm.Cond.code ({ cls := "DawnPerquisite", name := "put", desc := "(I)V" } : Jvm.MethodName) prog_1_method_11_code (3 : Nat) (Option.none : Option Jvm.ClassFile.FieldType)) ∈ lw_all := lw_g (lw_at lw_m1 190 rfl) rfl
theorem q337 : (Jvm.Cond.methodLink "DawnPerquisiteLaw" (28 : Nat) ({ cls := "DawnPerquisite", name := "end", desc := "(I)I" } : Jvm.MethodName)) ∈ lw_all := lw_g (lw_at lw_m1 191 rfl) rfl
theorem q338 : (Jvm.Cond.instanceMethod ({ cls := "DawnPerquisite", name := "end", desc := "(I)I" } : Jvm.MethodName)) ∈ lw_all := lw_g (lw_at lw_m1 192 rfl) rfl
theorem q339 : (Jvm.Cond.selects "DawnPerquisite" ({ cls := "DawnPerquisite", name := "end", desc := "(I)I" } : Jvm.MethodName) ({ cls := "DawnPerquisite", name := "end", desc := "(I)I" } : Jvm.MethodName)) ∈ lw_all := lw_g (lw_at lw_m1 193 rfl) rfl
theorem q340 : (Jvm.Cond.code ({ cls := "DawnPerquisite", name := "end", desc := "(I)I" } : Jvm.MethodName) prog_1_method_13_code (2 : Nat) (Option.some Jvm.ClassFile.FieldType.int)) ∈ lw_all := lw_g (lw_at lw_m1 194 rfl) rfl
theorem q341 : (Jvm.Cond.methodLink "DawnPerquisiteLaw" (33 : Nat) ({ cls := "DawnPerquisite", name := "text", desc := "()I" } : Jvm.MethodName)) ∈ lw_all := lw_g (lw_at lw_m1 195 rfl) rfl
theorem q342 : (Jvm.Cond.instanceMethod ({ cls := "DawnPerquisite", name := "text", desc := "()I" } : Jvm.MethodName)) ∈ lw_all := lw_g (lw_at lw_m1 196 rfl) rfl
theorem q343 : (Jvm.Cond.selects "DawnPerquisite" ({ cls := "DawnPerquisite", name := "text", desc := "()I" } : Jvm.MethodName) ({ cls := "DawnPerquisite", name := "text", desc := "()I" } : Jvm.MethodName)) ∈ lw_all := lw_g (lw_at lw_m1 197 rfl) rfl
theorem q344 : (Jvm.Cond.codeWith ({ cls := "DawnPerquisite", name := "text", desc := "()I" } : Jvm.MethodName) prog_1_method_14_code (5 : Nat) (Option.some Jvm.ClassFile.FieldType.int) [((30 : Nat), (62 : Nat), (70 : Nat), (118 : Nat)), ((30 : Nat), (62 : Nat), (96 : Nat), (0 : Nat)), ((70 : Nat), (89 : Nat), (96 : Nat), (0 : Nat)), ((96 : Nat), (98 : Nat), (96 : Nat), (0 : Nat))]) ∈ lw_all := lw_g (lw_at lw_m1 198 rfl) rfl
theorem q345 : (Jvm.Cond.classLink "DawnPerquisite" (118 : Nat) "DawnPerquisite$Wrong") ∈ lw_all := lw_g (lw_at lw_m1 199 rfl) rfl
theorem q346 : (Jvm.Cond.classLink "DawnPerquisite" (109 : Nat) "DawnPerquisite$Tokens") ∈ lw_all := lw_g (lw_at lw_m1 200 rfl) rfl
theorem q347 : (Jvm.Cond.instantiable "DawnPerquisite$Tokens" (8 : Nat)) ∈ lw_all := lw_g (lw_at lw_m1 201 rfl) rfl
theorem q348 : (Jvm.Cond.methodLink "DawnPerquisite" (111 : Nat) ({ cls := "DawnPerquisite$Tokens", name := "<init>", desc := "([BI)V" } : Jvm.MethodName)) ∈ lw_all := lw_g (lw_at lw_m1 202 rfl) rfl
theorem q349 : (Jvm.Cond.instanceMethod ({ cls := "DawnPerquisite$Tokens", name := "<init>", desc := "([BI)V" } : Jvm.MethodName)) ∈ lw_all := lw_g (lw_at lw_m1 203 rfl) rfl
theorem q350 : (Jvm.Cond.code ({ cls := "DawnPerquisite$Tokens", name := "<init>", desc := "([BI)V" } : Jvm.MethodName) prog_16_method_1_code (3 : Nat) (Option.none : Option Jvm.ClassFile.FieldType)) ∈ lw_all := lw_g (lw_at lw_m1 204 rfl) rfl
theorem q351 : (Jvm.Cond.methodLink "DawnPerquisite$Tokens" (3 : Nat) ({ cls := "java/lang/Object", name := "<init>", desc := "()V" } : Jvm.MethodName)) ∈ lw_all := lw_g (lw_at lw_m1 205 rfl) rfl
theorem q352 : (Jvm.Cond.fieldLink "DawnPerquisite$Tokens" (9 : Nat) "DawnPerquisite$Tokens" "text" "[B") ∈ lw_all := lw_g (lw_at lw_m1 206 rfl) rfl
theorem q353 : (Jvm.Cond.fieldLink "DawnPerquisite$Tokens" (15 : Nat) "DawnPerquisite$Tokens" "size" "I") ∈ lw_all := lw_g (lw_at lw_m1 207 rfl) rfl
theorem q354 : (Jvm.Cond.fieldLink "DawnPerquisite$Tokens" (19 : Nat) "DawnPerquisite$Tokens" "at" "I") ∈ lw_all := lw_g (lw_at lw_m1 208 rfl) rfl
theorem q355 : (Jvm.Cond.fieldLink "DawnPerquisite$Tokens" (22 : Nat) "DawnPerquisite$Tokens" "token" "I") ∈ lw_all := lw_g (lw_at lw_m1 209 rfl) rfl
theorem q356 : (Jvm.Cond.fieldLink "DawnPerquisite$Tokens" (25 : Nat) "DawnPerquisite$Tokens" "sort" "I") ∈ lw_all := lw_g (lw_at lw_m1 210 rfl) rfl
theorem q357 : (Jvm.Cond.fieldLink "DawnPerquisite$Tokens" (43 : Nat) "DawnPerquisite$Tokens" "number" "I") ∈ lw_all := lw_g (lw_at lw_m1 211 rfl) rfl
theorem q358 : (Jvm.Cond.fieldLink "DawnPerquisite$Tokens" (77 : Nat) "DawnPerquisite$Tokens" "open" "I") ∈ lw_all := lw_g (lw_at lw_m1 212 rfl) rfl
theorem q359 : (Jvm.Cond.fieldLink "DawnPerquisite$Tokens" (83 : Nat) "DawnPerquisite$Tokens" "kind" "I") ∈ lw_all := lw_g (lw_at lw_m1 213 rfl) rfl
theorem q360 : (Jvm.Cond.laysFinal "DawnPerquisite$Tokens" "DawnPerquisite$Tokens" "text" "[B") ∈ lw_all := lw_g (lw_at lw_m1 214 rfl) rfl
theorem q361 : (Jvm.Cond.soleField "DawnPerquisite$Tokens" "text") ∈ lw_all := lw_g (lw_at lw_m1 215 rfl) rfl
theorem q362 : (Jvm.Cond.laysFinal "DawnPerquisite$Tokens" "DawnPerquisite$Tokens" "size" "I") ∈ lw_all := lw_g (lw_at lw_m1 216 rfl) rfl
theorem q363 : (Jvm.Cond.soleField "DawnPerquisite$Tokens" "size") ∈ lw_all := lw_g (lw_at lw_m1 217 rfl) rfl
theorem q364 : (Jvm.Cond.lays "DawnPerquisite$Tokens" "DawnPerquisite$Tokens" "at" "I") ∈ lw_all := lw_g (lw_at lw_m1 218 rfl) rfl
theorem q365 : (Jvm.Cond.soleField "DawnPerquisite$Tokens" "at") ∈ lw_all := lw_g (lw_at lw_m1 219 rfl) rfl
theorem q366 : (Jvm.Cond.lays "DawnPerquisite$Tokens" "DawnPerquisite$Tokens" "token" "I") ∈ lw_all := lw_g (lw_at lw_m1 220 rfl) rfl
theorem q367 : (Jvm.Cond.soleField "DawnPerquisite$Tokens" "token") ∈ lw_all := lw_g (lw_at lw_m1 221 rfl) rfl
theorem q368 : (Jvm.Cond.lays "DawnPerquisite$Tokens" "DawnPerquisite$Tokens" "sort" "I") ∈ lw_all := lw_g (lw_at lw_m1 222 rfl) rfl
theorem q369 : (Jvm.Cond.soleField "DawnPerquisite$Tokens" "sort") ∈ lw_all := lw_g (lw_at lw_m1 223 rfl) rfl
theorem q370 : (Jvm.Cond.lays "DawnPerquisite$Tokens" "DawnPerquisite$Tokens" "number" "I") ∈ lw_all := lw_g (lw_at lw_m1 224 rfl) rfl
theorem q371 : (Jvm.Cond.soleField "DawnPerquisite$Tokens" "number") ∈ lw_all := lw_g (lw_at lw_m1 225 rfl) rfl
theorem q372 : (Jvm.Cond.lays "DawnPerquisite$Tokens" "DawnPerquisite$Tokens" "open" "I") ∈ lw_all := lw_g (lw_at lw_m1 226 rfl) rfl
theorem q373 : (Jvm.Cond.soleField "DawnPerquisite$Tokens" "open") ∈ lw_all := lw_g (lw_at lw_m1 227 rfl) rfl
theorem q374 : (Jvm.Cond.lays "DawnPerquisite$Tokens" "DawnPerquisite$Tokens" "kind" "I") ∈ lw_all := lw_g (lw_at lw_m1 228 rfl) rfl
theorem q375 : (Jvm.Cond.soleField "DawnPerquisite$Tokens" "kind") ∈ lw_all := lw_g (lw_at lw_m1 229 rfl) rfl
theorem q376 : (Jvm.Cond.superclass "DawnPerquisite$Tokens" "java/lang/Object") ∈ lw_all := lw_g (lw_at lw_m1 230 rfl) rfl
theorem q377 : (Jvm.Cond.methodLink "DawnPerquisite" (114 : Nat) ({ cls := "DawnPerquisite$Tokens", name := "read", desc := "()LDawnPerquisite$Text;" } : Jvm.MethodName)) ∈ lw_all := lw_g (lw_at lw_m1 231 rfl) rfl
theorem q378 : (Jvm.Cond.instanceMethod ({ cls := "DawnPerquisite$Tokens", name := "read", desc := "()LDawnPerquisite$Text;" } : Jvm.MethodName)) ∈ lw_all := lw_g (lw_at lw_m1 232 rfl) rfl
theorem q379 : (Jvm.Cond.selects "DawnPerquisite$Tokens" ({ cls := "DawnPerquisite$Tokens", name := "read", desc := "()LDawnPerquisite$Text;" } : Jvm.MethodName) ({ cls := "DawnPerquisite$Tokens", name := "read", desc := "()LDawnPerquisite$Text;" } : Jvm.MethodName)) ∈ lw_all := lw_g (lw_at lw_m1 233 rfl) rfl
theorem q380 : (Jvm.Cond.code ({ cls := "DawnPerquisite$Tokens", name := "read", desc := "()LDawnPerquisite$Text;" } : Jvm.MethodName) prog_16_method_10_code (2 : Nat) (Option.some (Jvm.ClassFile.FieldType.object "DawnPerquisite$Text"))) ∈ lw_all := lw_g (lw_at lw_m1 234 rfl) rfl
theorem q381 : (Jvm.Cond.classLink "DawnPerquisite$Tokens" (80 : Nat) "DawnPerquisite$Text") ∈ lw_all := lw_g (lw_at lw_m1 235 rfl) rfl
theorem q382 : (Jvm.Cond.instantiable "DawnPerquisite$Text" (3 : Nat)) ∈ lw_all := lw_g (lw_at lw_m1 236 rfl) rfl
theorem q383 : (Jvm.Cond.methodLinkNest "DawnPerquisite$Tokens" (82 : Nat) ({ cls := "DawnPerquisite$Text", name := "<init>", desc := "()V" } : Jvm.MethodName) "DawnPerquisite") ∈ lw_tbl := lw_at lw_m1 237 rfl
theorem q384 : (Jvm.Cond.instanceMethod ({ cls := "DawnPerquisite$Text", name := "<init>", desc := "()V" } : Jvm.MethodName)) ∈ lw_all := lw_g (lw_at lw_m1 238 rfl) rfl
theorem q385 : (Jvm.Cond.code ({ cls := "DawnPerquisite$Text", name := "<init>", desc := "()V" } : Jvm.MethodName) prog_15_method_1_code (1 : Nat) (Option.none : Option Jvm.ClassFile.FieldType)) ∈ lw_all := lw_g (lw_at lw_m1 239 rfl) rfl
theorem q386 : (Jvm.Cond.methodLink "DawnPerquisite$Text" (1 : Nat) ({ cls := "java/lang/Object", name := "<init>", desc := "()V" } : Jvm.MethodName)) ∈ lw_all := lw_g (lw_at lw_m2 0 rfl) rfl
theorem q387 : (Jvm.Cond.classLink "DawnPerquisite$Text" (7 : Nat) "DawnPerquisite$Sum") ∈ lw_all := lw_g (lw_at lw_m2 1 rfl) rfl
theorem q388 : (Jvm.Cond.arrayOver (Jvm.ClassFile.FieldType.object "DawnPerquisite$Sum")) ∈ lw_tbl := lw_at lw_m2 2 rfl
theorem q389 : (Jvm.Cond.classLink "DawnPerquisite$Text" (15 : Nat) "java/util/ArrayList") ∈ lw_all := lw_g (lw_at lw_m2 3 rfl) rfl
theorem q390 : (Jvm.Cond.instantiable "java/util/ArrayList" (3 : Nat)) ∈ lw_all := lw_g (lw_at lw_m2 4 rfl) rfl
theorem q391 : (Jvm.Cond.methodLink "DawnPerquisite$Text" (17 : Nat) ({ cls := "java/util/ArrayList", name := "<init>", desc := "()V" } : Jvm.MethodName)) ∈ lw_all := lw_g (lw_at lw_m2 5 rfl) rfl
theorem q392 : (Jvm.Cond.instanceMethod ({ cls := "java/util/ArrayList", name := "<init>", desc := "()V" } : Jvm.MethodName)) ∈ lw_all := lw_g (lw_at lw_m2 6 rfl) rfl
theorem q393 : (Jvm.Cond.code ({ cls := "java/util/ArrayList", name := "<init>", desc := "()V" } : Jvm.MethodName) prog_41_method_2_code (1 : Nat) (Option.none : Option Jvm.ClassFile.FieldType)) ∈ lw_all := lw_g (lw_at lw_m2 7 rfl) rfl
theorem q394 : (Jvm.Cond.methodLink "java/util/ArrayList" (1 : Nat) ({ cls := "java/util/AbstractList", name := "<init>", desc := "()V" } : Jvm.MethodName)) ∈ lw_all := lw_g (lw_at lw_m2 8 rfl) rfl
theorem q395 : (Jvm.Cond.instanceMethod ({ cls := "java/util/AbstractList", name := "<init>", desc := "()V" } : Jvm.MethodName)) ∈ lw_all := lw_g (lw_at lw_m2 9 rfl) rfl
theorem q396 : (Jvm.Cond.code ({ cls := "java/util/AbstractList", name := "<init>", desc := "()V" } : Jvm.MethodName) prog_40_method_1_code (1 : Nat) (Option.none : Option Jvm.ClassFile.FieldType)) ∈ lw_all := lw_g (lw_at lw_m2 10 rfl) rfl
theorem q397 : (Jvm.Cond.methodLink "java/util/AbstractList" (1 : Nat) ({ cls := "java/util/AbstractCollection", name := "<init>", desc := "()V" } : Jvm.MethodName)) ∈ lw_all := lw_g (lw_at lw_m2 11 rfl) rfl
theorem q398 : (Jvm.Cond.instanceMethod ({ cls := "java/util/AbstractCollection", name := "<init>", desc := "()V" } : Jvm.MethodName)) ∈ lw_all := lw_g (lw_at lw_m2 12 rfl) rfl
theorem q399 : (Jvm.Cond.code ({ cls := "java/util/AbstractCollection", name := "<init>", desc := "()V" } : Jvm.MethodName) prog_39_method_1_code (1 : Nat) (Option.none : Option Jvm.ClassFile.FieldType)) ∈ lw_all := lw_g (lw_at lw_m2 13 rfl) rfl
theorem q400 : (Jvm.Cond.methodLink "java/util/AbstractCollection" (1 : Nat) ({ cls := "java/lang/Object", name := "<init>", desc := "()V" } : Jvm.MethodName)) ∈ lw_all := lw_g (lw_at lw_m2 14 rfl) rfl
theorem q401 : (Jvm.Cond.fieldLink "java/util/ArrayList" (39 : Nat) "java/util/ArrayList" "DEFAULTCAPACITY_EMPTY_ELEMENTDATA" "[Ljava/lang/Object;") ∈ lw_all := lw_g (lw_at lw_m2 15 rfl) rfl
theorem q402 : (Jvm.Cond.laysStatic "java/util/ArrayList" "DEFAULTCAPACITY_EMPTY_ELEMENTDATA" "[Ljava/lang/Object;") ∈ lw_tbl := lw_at lw_m2 16 rfl
theorem q403 : (Jvm.Cond.fieldLink "java/util/ArrayList" (9 : Nat) "java/util/ArrayList" "elementData" "[Ljava/lang/Object;") ∈ lw_all := lw_g (lw_at lw_m2 17 rfl) rfl
theorem q404 : (Jvm.Cond.fieldLink "java/util/ArrayList" (48 : Nat) "java/util/ArrayList" "size" "I") ∈ lw_all := lw_g (lw_at lw_m2 18 rfl) rfl
theorem q405 : (Jvm.Cond.fieldLink "java/util/AbstractList" (7 : Nat) "java/util/AbstractList" "modCount" "I") ∈ lw_all := lw_g (lw_at lw_m2 19 rfl) rfl
theorem q406 : (Jvm.Cond.fieldLink "java/util/ArrayList" (63 : Nat) "java/util/ArrayList" "modCount" "I") ∈ lw_all := lw_g (lw_at lw_m2 20 rfl) rfl
theorem q407 : (Jvm.Cond.sameField "java/util/ArrayList" "java/util/AbstractList" "modCount" "I") ∈ lw_all := lw_g (lw_at lw_m2 21 rfl) rfl
theorem q408 : (Jvm.Cond.lays "java/util/ArrayList" "java/util/ArrayList" "elementData" "[Ljava/lang/Object;") ∈ lw_all := lw_g (lw_at lw_m2 22 rfl) rfl
theorem q409 : (Jvm.Cond.soleField "java/util/ArrayList" "elementData") ∈ lw_all := lw_g (lw_at lw_m2 23 rfl) rfl
theorem q410 : (Jvm.Cond.lays "java/util/ArrayList" "java/util/ArrayList" "size" "I") ∈ lw_all := lw_g (lw_at lw_m2 24 rfl) rfl
theorem q411 : (Jvm.Cond.soleField "java/util/ArrayList" "size") ∈ lw_all := lw_g (lw_at lw_m2 25 rfl) rfl
theorem q412 : (Jvm.Cond.lays "java/util/ArrayList" "java/util/AbstractList" "modCount" "I") ∈ lw_all := lw_g (lw_at lw_m2 26 rfl) rfl
theorem q413 : (Jvm.Cond.soleField "java/util/AbstractList" "modCount") ∈ lw_all := lw_g (lw_at lw_m2 27 rfl) rfl
theorem q414 : (Jvm.Cond.superclass "java/util/ArrayList" "java/util/AbstractList") ∈ lw_all := lw_g (lw_at lw_m2 28 rfl) rfl
theorem q415 : (Jvm.Cond.fieldLink "DawnPerquisite$Text" (9 : Nat) "DawnPerquisite$Text" "law" "[LDawnPerquisite$Sum;") ∈ lw_all := lw_g (lw_at lw_m2 29 rfl) rfl
theorem q416 : (Jvm.Cond.fieldLinkNest "DawnPerquisite$Tokens" (86 : Nat) "DawnPerquisite$Text" "law" "[LDawnPerquisite$Sum;" "DawnPerquisite") ∈ lw_tbl := lw_at lw_m2 30 rfl
theorem q417 : (Jvm.Cond.fieldLinkNest "DawnPerquisite" (154 : Nat) "DawnPerquisite$Text" "law" "[LDawnPerquisite$Sum;" "DawnPerquisite") ∈ lw_tbl := lw_at lw_m2 31 rfl
theorem q418 : (Jvm.Cond.fieldLinkNest "DawnPerquisite$Tokens" (90 : Nat) "DawnPerquisite$Text" "clauses" "I" "DawnPerquisite") ∈ lw_tbl := lw_at lw_m2 32 rfl
theorem q419 : (Jvm.Cond.fieldLink "DawnPerquisite$Text" (18 : Nat) "DawnPerquisite$Text" "doings" "Ljava/util/ArrayList;") ∈ lw_all := lw_g (lw_at lw_m2 33 rfl) rfl
theorem q420 : (Jvm.Cond.fieldLinkNest "DawnPerquisite$Tokens" (97 : Nat) "DawnPerquisite$Text" "doings" "Ljava/util/ArrayList;" "DawnPerquisite") ∈ lw_tbl := lw_at lw_m2 34 rfl
theorem q421 : (Jvm.Cond.fieldLinkNest "DawnPerquisite" (289 : Nat) "DawnPerquisite$Text" "doings" "Ljava/util/ArrayList;" "DawnPerquisite") ∈ lw_tbl := lw_at lw_m2 35 rfl
theorem q422 : (Jvm.Cond.laysFinal "DawnPerquisite$Text" "DawnPerquisite$Text" "law" "[LDawnPerquisite$Sum;") ∈ lw_all := lw_g (lw_at lw_m2 36 rfl) rfl
theorem q423 : (Jvm.Cond.soleField "DawnPerquisite$Text" "law") ∈ lw_all := lw_g (lw_at lw_m2 37 rfl) rfl
theorem q424 : (Jvm.Cond.lays "DawnPerquisite$Text" "DawnPerquisite$Text" "clauses" "I") ∈ lw_all := lw_g (lw_at lw_m2 38 rfl) rfl
theorem q425 : (Jvm.Cond.soleField "DawnPerquisite$Text" "clauses") ∈ lw_all := lw_g (lw_at lw_m2 39 rfl) rfl
theorem q426 : (Jvm.Cond.laysFinal "DawnPerquisite$Text" "DawnPerquisite$Text" "doings" "Ljava/util/ArrayList;") ∈ lw_all := lw_g (lw_at lw_m2 40 rfl) rfl
theorem q427 : (Jvm.Cond.soleField "DawnPerquisite$Text" "doings") ∈ lw_all := lw_g (lw_at lw_m2 41 rfl) rfl
theorem q428 : (Jvm.Cond.superclass "DawnPerquisite$Text" "java/lang/Object") ∈ lw_all := lw_g (lw_at lw_m2 42 rfl) rfl
theorem q429 : (Jvm.Cond.methodLink "DawnPerquisite$Tokens" (74 : Nat) ({ cls := "DawnPerquisite$Tokens", name := "next", desc := "()V" } : Jvm.MethodName)) ∈ lw_all := lw_g (lw_at lw_m2 43 rfl) rfl
theorem q430 : (Jvm.Cond.privateMethod ({ cls := "DawnPerquisite$Tokens", name := "next", desc := "()V" } : Jvm.MethodName)) ∈ lw_tbl := lw_at lw_m2 44 rfl
theorem q431 : (Jvm.Cond.instanceMethod ({ cls := "DawnPerquisite$Tokens", name := "next", desc := "()V" } : Jvm.MethodName)) ∈ lw_all := lw_g (lw_at lw_m2 45 rfl) rfl
theorem q432 : (Jvm.Cond.code ({ cls := "DawnPerquisite$Tokens", name := "next", desc := "()V" } : Jvm.MethodName) prog_16_method_4_code (3 : Nat) (Option.none : Option Jvm.ClassFile.FieldType)) ∈ lw_all := lw_g (lw_at lw_m2 46 rfl) rfl
theorem q433 : (Jvm.Cond.methodLink "DawnPerquisite$Tokens" (28 : Nat) ({ cls := "DawnPerquisite$Tokens", name := "isLetter", desc := "(I)Z" } : Jvm.MethodName)) ∈ lw_all := lw_g (lw_at lw_m2 47 rfl) rfl
theorem q434 : (Jvm.Cond.static ({ cls := "DawnPerquisite$Tokens", name := "isLetter", desc := "(I)Z" } : Jvm.MethodName)) ∈ lw_all := lw_g (lw_at lw_m2 48 rfl) rfl
theorem q435 : (Jvm.Cond.code ({ cls := "DawnPerquisite$Tokens", name := "isLetter", desc := "(I)Z" } : Jvm.MethodName) prog_16_method_2_code (1 : Nat) (Option.some Jvm.ClassFile.FieldType.boolean)) ∈ lw_all := lw_g (lw_at lw_m2 49 rfl) rfl
theorem q436 : (Jvm.Cond.fieldLink "DawnPerquisite$Tokens" (32 : Nat) "DawnPerquisite$Tokens" "WORDS" "[Ljava/lang/String;") ∈ lw_all := lw_g (lw_at lw_m2 50 rfl) rfl
theorem q437 : (Jvm.Cond.laysStatic "DawnPerquisite$Tokens" "WORDS" "[Ljava/lang/String;") ∈ lw_tbl := lw_at lw_m2 51 rfl
theorem q438 : (Jvm.Cond.methodLink "DawnPerquisite$Tokens" (36 : Nat) ({ cls := "DawnPerquisite$Tokens", name := "isWord", desc := "(Ljava/lang/String;)Z" } : Jvm.MethodName)) ∈ lw_all := lw_g (lw_at lw_m2 52 rfl) rfl
theorem q439 : (Jvm.Cond.privateMethod ({ cls := "DawnPerquisite$Tokens", name := "isWord", desc := "(Ljava/lang/String;)Z" } : Jvm.MethodName)) ∈ lw_tbl := lw_at lw_m2 53 rfl
theorem q440 : (Jvm.Cond.instanceMethod ({ cls := "DawnPerquisite$Tokens", name := "isWord", desc := "(Ljava/lang/String;)Z" } : Jvm.MethodName)) ∈ lw_all := lw_g (lw_at lw_m2 54 rfl) rfl
theorem q441 : (Jvm.Cond.code ({ cls := "DawnPerquisite$Tokens", name := "isWord", desc := "(Ljava/lang/String;)Z" } : Jvm.MethodName) prog_16_method_5_code (3 : Nat) (Option.some Jvm.ClassFile.FieldType.boolean)) ∈ lw_all := lw_g (lw_at lw_m2 55 rfl) rfl
theorem q442 : (Jvm.Cond.methodLink "DawnPerquisite$Tokens" (55 : Nat) ({ cls := "java/lang/String", name := "length", desc := "()I" } : Jvm.MethodName)) ∈ lw_all := lw_g (lw_at lw_m2 56 rfl) rfl
theorem q443 : (Jvm.Cond.instanceMethod ({ cls := "java/lang/String", name := "length", desc := "()I" } : Jvm.MethodName)) ∈ lw_all := lw_g (lw_at lw_m2 57 rfl) rfl
theorem q444 : (Jvm.Cond.selects "java/lang/String" ({ cls := "java/lang/String", name := "length", desc := "()I" } : Jvm.MethodName) ({ cls := "java/lang/String", name := "length", desc := "()I" } : Jvm.MethodName)) ∈ lw_all := lw_g (lw_at lw_m2 58 rfl) rfl
theorem q445 : (Jvm.Cond.code ({ cls := "java/lang/String", name := "length", desc := "()I" } : Jvm.MethodName) prog_32_method_54_code (1 : Nat) (Option.some Jvm.ClassFile.FieldType.int)) ∈ lw_all := lw_g (lw_at lw_m2 59 rfl) rfl
theorem q446 : (Jvm.Cond.methodLink "java/lang/String" (335 : Nat) ({ cls := "java/lang/String", name := "coder", desc := "()B" } : Jvm.MethodName)) ∈ lw_all := lw_g (lw_at lw_m2 60 rfl) rfl
theorem q447 : (Jvm.Cond.instanceMethod ({ cls := "java/lang/String", name := "coder", desc := "()B" } : Jvm.MethodName)) ∈ lw_all := lw_g (lw_at lw_m2 61 rfl) rfl
theorem q448 : (Jvm.Cond.selects "java/lang/String" ({ cls := "java/lang/String", name := "coder", desc := "()B" } : Jvm.MethodName) ({ cls := "java/lang/String", name := "coder", desc := "()B" } : Jvm.MethodName)) ∈ lw_all := lw_g (lw_at lw_m2 62 rfl) rfl
theorem q449 : (Jvm.Cond.code ({ cls := "java/lang/String", name := "coder", desc := "()B" } : Jvm.MethodName) prog_32_method_152_code (1 : Nat) (Option.some Jvm.ClassFile.FieldType.byte)) ∈ lw_all := lw_g (lw_at lw_m2 63 rfl) rfl
theorem q450 : (Jvm.Cond.fieldLink "java/lang/String" (38 : Nat) "java/lang/String" "COMPACT_STRINGS" "Z") ∈ lw_all := lw_g (lw_at lw_m2 64 rfl) rfl
theorem q451 : (Jvm.Cond.laysStatic "java/lang/String" "COMPACT_STRINGS" "Z") ∈ lw_tbl := lw_at lw_m2 65 rfl
theorem q452 : (Jvm.Cond.methodLink "DawnPerquisite$Tokens" (61 : Nat) ({ cls := "java/lang/String", name := "charAt", desc := "(I)C" } : Jvm.MethodName)) ∈ lw_all := lw_g (lw_at lw_m2 66 rfl) rfl
theorem q453 : (Jvm.Cond.instanceMethod ({ cls := "java/lang/String", name := "charAt", desc := "(I)C" } : Jvm.MethodName)) ∈ lw_all := lw_g (lw_at lw_m2 67 rfl) rfl
theorem q454 : (Jvm.Cond.selects "java/lang/String" ({ cls := "java/lang/String", name := "charAt", desc := "(I)C" } : Jvm.MethodName) ({ cls := "java/lang/String", name := "charAt", desc := "(I)C" } : Jvm.MethodName)) ∈ lw_all := lw_g (lw_at lw_m2 68 rfl) rfl
theorem q455 : (Jvm.Cond.code ({ cls := "java/lang/String", name := "charAt", desc := "(I)C" } : Jvm.MethodName) prog_32_method_56_code (2 : Nat) (Option.some Jvm.ClassFile.FieldType.char)) ∈ lw_all := lw_g (lw_at lw_m2 69 rfl) rfl
theorem q456 : (Jvm.Cond.methodLink "java/lang/String" (492 : Nat) ({ cls := "java/lang/String", name := "isLatin1", desc := "()Z" } : Jvm.MethodName)) ∈ lw_all := lw_g (lw_at lw_m2 70 rfl) rfl
theorem q457 : (Jvm.Cond.instanceMethod ({ cls := "java/lang/String", name := "isLatin1", desc := "()Z" } : Jvm.MethodName)) ∈ lw_all := lw_g (lw_at lw_m2 71 rfl) rfl
theorem q458 : (Jvm.Cond.selects "java/lang/String" ({ cls := "java/lang/String", name := "isLatin1", desc := "()Z" } : Jvm.MethodName) ({ cls := "java/lang/String", name := "isLatin1", desc := "()Z" } : Jvm.MethodName)) ∈ lw_all := lw_g (lw_at lw_m2 72 rfl) rfl
theorem q459 : (Jvm.Cond.code ({ cls := "java/lang/String", name := "isLatin1", desc := "()Z" } : Jvm.MethodName) prog_32_method_154_code (1 : Nat) (Option.some Jvm.ClassFile.FieldType.boolean)) ∈ lw_all := lw_g (lw_at lw_m2 73 rfl) rfl
theorem q460 : (Jvm.Cond.methodLink "java/lang/String" (495 : Nat) ({ cls := "java/lang/StringLatin1", name := "charAt", desc := "([BI)C" } : Jvm.MethodName)) ∈ lw_all := lw_g (lw_at lw_m2 74 rfl) rfl
theorem q461 : (Jvm.Cond.static ({ cls := "java/lang/StringLatin1", name := "charAt", desc := "([BI)C" } : Jvm.MethodName)) ∈ lw_all := lw_g (lw_at lw_m2 75 rfl) rfl
theorem q462 : (Jvm.Cond.code ({ cls := "java/lang/StringLatin1", name := "charAt", desc := "([BI)C" } : Jvm.MethodName) prog_33_method_2_code (2 : Nat) (Option.some Jvm.ClassFile.FieldType.char)) ∈ lw_all := lw_g (lw_at lw_m2 76 rfl) rfl
theorem q463 : (Jvm.Cond.methodLink "java/lang/StringLatin1" (9 : Nat) ({ cls := "java/lang/String", name := "checkIndex", desc := "(II)V" } : Jvm.MethodName)) ∈ lw_all := lw_g (lw_at lw_m2 77 rfl) rfl
theorem q464 : (Jvm.Cond.static ({ cls := "java/lang/String", name := "checkIndex", desc := "(II)V" } : Jvm.MethodName)) ∈ lw_all := lw_g (lw_at lw_m2 78 rfl) rfl
theorem q465 : (Jvm.Cond.code ({ cls := "java/lang/String", name := "checkIndex", desc := "(II)V" } : Jvm.MethodName) prog_32_method_155_code (2 : Nat) (Option.none : Option Jvm.ClassFile.FieldType)) ∈ lw_all := lw_g (lw_at lw_m2 79 rfl) rfl
theorem q466 : (Jvm.Cond.fieldLink "java/lang/String" (1053 : Nat) "jdk/internal/util/Preconditions" "SIOOBE_FORMATTER" "Ljava/util/function/BiFunction;") ∈ lw_all := lw_g (lw_at lw_m2 80 rfl) rfl
theorem q467 : (Jvm.Cond.laysStatic "jdk/internal/util/Preconditions" "SIOOBE_FORMATTER" "Ljava/util/function/BiFunction;") ∈ lw_tbl := lw_at lw_m2 81 rfl
theorem q468 : (Jvm.Cond.methodLink "java/lang/String" (1059 : Nat) ({ cls := "jdk/internal/util/Preconditions", name := "checkIndex", desc := "(IILjava/util/function/BiFunction;)I" } : Jvm.MethodName)) ∈ lw_all := lw_g (lw_at lw_m2 82 rfl) rfl
theorem q469 : (Jvm.Cond.static ({ cls := "jdk/internal/util/Preconditions", name := "checkIndex", desc := "(IILjava/util/function/BiFunction;)I" } : Jvm.MethodName)) ∈ lw_all := lw_g (lw_at lw_m2 83 rfl) rfl
theorem q470 : (Jvm.Cond.code ({ cls := "jdk/internal/util/Preconditions", name := "checkIndex", desc := "(IILjava/util/function/BiFunction;)I" } : Jvm.MethodName) prog_49_method_11_code (3 : Nat) (Option.some Jvm.ClassFile.FieldType.int)) ∈ lw_all := lw_g (lw_at lw_m2 84 rfl) rfl
theorem q471 : (Jvm.Cond.methodLink "java/lang/String" (498 : Nat) ({ cls := "java/lang/StringUTF16", name := "charAt", desc := "([BI)C" } : Jvm.MethodName)) ∈ lw_all := lw_g (lw_at lw_m2 85 rfl) rfl
theorem q472 : (Jvm.Cond.static ({ cls := "java/lang/StringUTF16", name := "charAt", desc := "([BI)C" } : Jvm.MethodName)) ∈ lw_all := lw_g (lw_at lw_m2 86 rfl) rfl
theorem q473 : (Jvm.Cond.code ({ cls := "java/lang/StringUTF16", name := "charAt", desc := "([BI)C" } : Jvm.MethodName) prog_34_method_83_code (2 : Nat) (Option.some Jvm.ClassFile.FieldType.char)) ∈ lw_all := lw_g (lw_at lw_m2 87 rfl) rfl
theorem q474 : (Jvm.Cond.methodLink "java/lang/StringUTF16" (67 : Nat) ({ cls := "java/lang/StringUTF16", name := "checkIndex", desc := "(I[B)V" } : Jvm.MethodName)) ∈ lw_all := lw_g (lw_at lw_m2 88 rfl) rfl
theorem q475 : (Jvm.Cond.static ({ cls := "java/lang/StringUTF16", name := "checkIndex", desc := "(I[B)V" } : Jvm.MethodName)) ∈ lw_all := lw_g (lw_at lw_m2 89 rfl) rfl
theorem q476 : (Jvm.Cond.code ({ cls := "java/lang/StringUTF16", name := "checkIndex", desc := "(I[B)V" } : Jvm.MethodName) prog_34_method_91_code (2 : Nat) (Option.none : Option Jvm.ClassFile.FieldType)) ∈ lw_all := lw_g (lw_at lw_m2 90 rfl) rfl
theorem q477 : (Jvm.Cond.methodLink "java/lang/StringUTF16" (48 : Nat) ({ cls := "java/lang/StringUTF16", name := "length", desc := "([B)I" } : Jvm.MethodName)) ∈ lw_all := lw_g (lw_at lw_m2 91 rfl) rfl
theorem q478 : (Jvm.Cond.static ({ cls := "java/lang/StringUTF16", name := "length", desc := "([B)I" } : Jvm.MethodName)) ∈ lw_all := lw_g (lw_at lw_m2 92 rfl) rfl
theorem q479 : (Jvm.Cond.code ({ cls := "java/lang/StringUTF16", name := "length", desc := "([B)I" } : Jvm.MethodName) prog_34_method_6_code (1 : Nat) (Option.some Jvm.ClassFile.FieldType.int)) ∈ lw_all := lw_g (lw_at lw_m2 93 rfl) rfl
theorem q480 : (Jvm.Cond.methodLink "java/lang/StringUTF16" (414 : Nat) ({ cls := "java/lang/String", name := "checkIndex", desc := "(II)V" } : Jvm.MethodName)) ∈ lw_all := lw_g (lw_at lw_m2 94 rfl) rfl
theorem q481 : (Jvm.Cond.methodLink "java/lang/StringUTF16" (71 : Nat) ({ cls := "java/lang/StringUTF16", name := "getChar", desc := "([BI)C" } : Jvm.MethodName)) ∈ lw_all := lw_g (lw_at lw_m2 95 rfl) rfl
theorem q482 : (Jvm.Cond.static ({ cls := "java/lang/StringUTF16", name := "getChar", desc := "([BI)C" } : Jvm.MethodName)) ∈ lw_all := lw_g (lw_at lw_m2 96 rfl) rfl
theorem q483 : (Jvm.Cond.code ({ cls := "java/lang/StringUTF16", name := "getChar", desc := "([BI)C" } : Jvm.MethodName) prog_34_method_5_code (2 : Nat) (Option.some Jvm.ClassFile.FieldType.char)) ∈ lw_all := lw_g (lw_at lw_m2 97 rfl) rfl
theorem q484 : (Jvm.Cond.fieldLink "java/lang/StringUTF16" (44 : Nat) "java/lang/StringUTF16" "$assertionsDisabled" "Z") ∈ lw_all := lw_g (lw_at lw_m2 98 rfl) rfl
theorem q485 : (Jvm.Cond.laysStatic "java/lang/StringUTF16" "$assertionsDisabled" "Z") ∈ lw_tbl := lw_at lw_m2 99 rfl
theorem q486 : (Jvm.Cond.fieldLink "java/lang/StringUTF16" (59 : Nat) "java/lang/StringUTF16" "HI_BYTE_SHIFT" "I") ∈ lw_all := lw_g (lw_at lw_m2 100 rfl) rfl
theorem q487 : (Jvm.Cond.laysStatic "java/lang/StringUTF16" "HI_BYTE_SHIFT" "I") ∈ lw_tbl := lw_at lw_m2 101 rfl
theorem q488 : (Jvm.Cond.fieldLink "java/lang/StringUTF16" (63 : Nat) "java/lang/StringUTF16" "LO_BYTE_SHIFT" "I") ∈ lw_all := lw_g (lw_at lw_m2 102 rfl) rfl
theorem q489 : (Jvm.Cond.laysStatic "java/lang/StringUTF16" "LO_BYTE_SHIFT" "I") ∈ lw_tbl := lw_at lw_m2 103 rfl
theorem q490 : (Jvm.Cond.methodLink "DawnPerquisite$Tokens" (40 : Nat) ({ cls := "DawnPerquisite$Tokens", name := "isDigit", desc := "(I)Z" } : Jvm.MethodName)) ∈ lw_all := lw_g (lw_at lw_m2 104 rfl) rfl
theorem q491 : (Jvm.Cond.static ({ cls := "DawnPerquisite$Tokens", name := "isDigit", desc := "(I)Z" } : Jvm.MethodName)) ∈ lw_all := lw_g (lw_at lw_m2 105 rfl) rfl
theorem q492 : (Jvm.Cond.code ({ cls := "DawnPerquisite$Tokens", name := "isDigit", desc := "(I)Z" } : Jvm.MethodName) prog_16_method_3_code (1 : Nat) (Option.some Jvm.ClassFile.FieldType.boolean)) ∈ lw_all := lw_g (lw_at lw_m2 106 rfl) rfl
theorem q493 : (Jvm.Cond.constant "DawnPerquisite$Tokens" (46 : Nat) (99999 : Int32)) ∈ lw_all := lw_g (lw_at lw_m2 107 rfl) rfl
theorem q494 : (Jvm.Cond.methodLink "DawnPerquisite$Tokens" (47 : Nat) ({ cls := "java/lang/Math", name := "min", desc := "(II)I" } : Jvm.MethodName)) ∈ lw_all := lw_g (lw_at lw_m2 108 rfl) rfl
theorem q495 : (Jvm.Cond.static ({ cls := "java/lang/Math", name := "min", desc := "(II)I" } : Jvm.MethodName)) ∈ lw_all := lw_g (lw_at lw_m2 109 rfl) rfl
theorem q496 : (Jvm.Cond.code ({ cls := "java/lang/Math", name := "min", desc := "(II)I" } : Jvm.MethodName) prog_29_method_69_code (2 : Nat) (Option.some Jvm.ClassFile.FieldType.int)) ∈ lw_all := lw_g (lw_at lw_m2 110 rfl) rfl
theorem q497 : (Jvm.Cond.stringRef "DawnPerquisite$Tokens" (53 : Nat) "<>=#+-*/();") ∈ lw_tbl := lw_at lw_m2 111 rfl
theorem q498 : (Jvm.Cond.methodLink "DawnPerquisite$Tokens" (70 : Nat) ({ cls := "DawnPerquisite$Tokens", name := "wrong", desc := "(I)LDawnPerquisite$Wrong;" } : Jvm.MethodName)) ∈ lw_all := lw_g (lw_at lw_m2 112 rfl) rfl
theorem q499 : (Jvm.Cond.privateMethod ({ cls := "DawnPerquisite$Tokens", name := "wrong", desc := "(I)LDawnPerquisite$Wrong;" } : Jvm.MethodName)) ∈ lw_tbl := lw_at lw_m2 113 rfl
theorem q500 : (Jvm.Cond.instanceMethod ({ cls := "DawnPerquisite$Tokens", name := "wrong", desc := "(I)LDawnPerquisite$Wrong;" } : Jvm.MethodName)) ∈ lw_all := lw_g (lw_at lw_m2 114 rfl) rfl
theorem q501 : (Jvm.Cond.code ({ cls := "DawnPerquisite$Tokens", name := "wrong", desc := "(I)LDawnPerquisite$Wrong;" } : Jvm.MethodName) prog_16_method_6_code (2 : Nat) (Option.some (Jvm.ClassFile.FieldType.object "DawnPerquisite$Wrong"))) ∈ lw_all := lw_g (lw_at lw_m2 115 rfl) rfl
theorem q502 : (Jvm.Cond.classLink "DawnPerquisite$Tokens" (65 : Nat) "DawnPerquisite$Wrong") ∈ lw_all := lw_g (lw_at lw_m2 116 rfl) rfl
theorem q503 : (Jvm.Cond.instantiable "DawnPerquisite$Wrong" (8 : Nat)) ∈ lw_all := lw_g (lw_at lw_m2 117 rfl) rfl
theorem q504 : (Jvm.Cond.castable "DawnPerquisite$Wrong" "DawnPerquisite$Wrong") ∈ lw_tbl := lw_at lw_m2 118 rfl
theorem q505 : (Jvm.Cond.declares ({ cls := "java/lang/Exception", name := "<init>", desc := "()V" } : Jvm.MethodName)) ∈ lw_tbl := lw_at lw_m2 119 rfl
theorem q506 : (Jvm.Cond.declares ({ cls := "java/lang/Exception", name := "<init>", desc := "(Ljava/lang/String;)V" } : Jvm.MethodName)) ∈ lw_tbl := lw_at lw_m2 120 rfl
theorem q507 : (Jvm.Cond.declares ({ cls := "java/lang/Throwable", name := "<init>", desc := "()V" } : Jvm.MethodName)) ∈ lw_tbl := lw_at lw_m2 121 rfl
theorem q508 : (Jvm.Cond.declares ({ cls := "java/lang/Throwable", name := "<init>", desc := "(Ljava/lang/String;)V" } : Jvm.MethodName)) ∈ lw_tbl := lw_at lw_m2 122 rfl
theorem q509 : (Jvm.Cond.selects "DawnPerquisite$Wrong" ({ cls := "java/lang/Throwable", name := "fillInStackTrace", desc := "(I)Ljava/lang/Throwable;" } : Jvm.MethodName) ({ cls := "java/lang/Throwable", name := "fillInStackTrace", desc := "(I)Ljava/lang/Throwable;" } : Jvm.MethodName)) ∈ lw_all := lw_g (lw_at lw_m2 123 rfl) rfl
theorem q510 : (Jvm.Cond.selects "DawnPerquisite$Wrong" ({ cls := "java/lang/Throwable", name := "fillInStackTrace", desc := "()Ljava/lang/Throwable;" } : Jvm.MethodName) ({ cls := "java/lang/Throwable", name := "fillInStackTrace", desc := "()Ljava/lang/Throwable;" } : Jvm.MethodName)) ∈ lw_all := lw_g (lw_at lw_m2 124 rfl) rfl
theorem q511 : (Jvm.Cond.lays "DawnPerquisite$Wrong" "java/lang/Throwable" "cause" "Ljava/lang/Throwable;") ∈ lw_all := lw_g (lw_at lw_m2 125 rfl) rfl
theorem q512 : (Jvm.Cond.lays "java/lang/Throwable" "java/lang/Throwable" "cause" "Ljava/lang/Throwable;") ∈ lw_all := lw_g (lw_at lw_m2 126 rfl) rfl
theorem q513 : (Jvm.Cond.lays "DawnPerquisite$Wrong" "java/lang/Throwable" "stackTrace" "[Ljava/lang/StackTraceElement;") ∈ lw_all := lw_g (lw_at lw_m2 127 rfl) rfl
theorem q514 : (Jvm.Cond.lays "java/lang/Throwable" "java/lang/Throwable" "stackTrace" "[Ljava/lang/StackTraceElement;") ∈ lw_all := lw_g (lw_at lw_m2 128 rfl) rfl
theorem q515 : (Jvm.Cond.lays "DawnPerquisite$Wrong" "java/lang/Throwable" "suppressedExceptions" "Ljava/util/List;") ∈ lw_all := lw_g (lw_at lw_m2 129 rfl) rfl
theorem q516 : (Jvm.Cond.lays "java/lang/Throwable" "java/lang/Throwable" "suppressedExceptions" "Ljava/util/List;") ∈ lw_all := lw_g (lw_at lw_m2 130 rfl) rfl
theorem q517 : (Jvm.Cond.lays "DawnPerquisite$Wrong" "java/lang/Throwable" "detailMessage" "Ljava/lang/String;") ∈ lw_all := lw_g (lw_at lw_m2 131 rfl) rfl
theorem q518 : (Jvm.Cond.lays "java/lang/Throwable" "java/lang/Throwable" "detailMessage" "Ljava/lang/String;") ∈ lw_all := lw_g (lw_at lw_m2 132 rfl) rfl
theorem q519 : (Jvm.Cond.lays "DawnPerquisite$Wrong" "java/lang/Throwable" "backtrace" "Ljava/lang/Object;") ∈ lw_all := lw_g (lw_at lw_m2 133 rfl) rfl
theorem q520 : (Jvm.Cond.lays "java/lang/Throwable" "java/lang/Throwable" "backtrace" "Ljava/lang/Object;") ∈ lw_all := lw_g (lw_at lw_m2 134 rfl) rfl
theorem q521 : (Jvm.Cond.fieldLink "java/lang/Throwable" (198 : Nat) "java/lang/Throwable" "backtrace" "Ljava/lang/Object;") ∈ lw_all := lw_g (lw_at lw_m2 135 rfl) rfl
theorem q522 : (Jvm.Cond.superclass "java/lang/Throwable" "java/lang/Object") ∈ lw_all := lw_g (lw_at lw_m2 136 rfl) rfl
theorem q523 : (Jvm.Cond.instanceMethod ({ cls := "java/lang/Throwable", name := "<init>", desc := "()V" } : Jvm.MethodName)) ∈ lw_all := lw_g (lw_at lw_m2 137 rfl) rfl
theorem q524 : (Jvm.Cond.code ({ cls := "java/lang/Throwable", name := "<init>", desc := "()V" } : Jvm.MethodName) prog_36_method_1_code (1 : Nat) (Option.none : Option Jvm.ClassFile.FieldType)) ∈ lw_all := lw_g (lw_at lw_m2 138 rfl) rfl
theorem q525 : (Jvm.Cond.methodLink "java/lang/Throwable" (1 : Nat) ({ cls := "java/lang/Object", name := "<init>", desc := "()V" } : Jvm.MethodName)) ∈ lw_all := lw_g (lw_at lw_m2 139 rfl) rfl
theorem q526 : (Jvm.Cond.fieldLink "java/lang/Throwable" (13 : Nat) "java/lang/Throwable" "UNASSIGNED_STACK" "[Ljava/lang/StackTraceElement;") ∈ lw_all := lw_g (lw_at lw_m2 140 rfl) rfl
theorem q527 : (Jvm.Cond.laysStatic "java/lang/Throwable" "UNASSIGNED_STACK" "[Ljava/lang/StackTraceElement;") ∈ lw_tbl := lw_at lw_m2 141 rfl
theorem q528 : (Jvm.Cond.fieldLink "java/lang/Throwable" (20 : Nat) "java/lang/Throwable" "SUPPRESSED_SENTINEL" "Ljava/util/List;") ∈ lw_all := lw_g (lw_at lw_m2 142 rfl) rfl
theorem q529 : (Jvm.Cond.laysStatic "java/lang/Throwable" "SUPPRESSED_SENTINEL" "Ljava/util/List;") ∈ lw_tbl := lw_at lw_m2 143 rfl
theorem q530 : (Jvm.Cond.methodLink "java/lang/Throwable" (27 : Nat) ({ cls := "java/lang/Throwable", name := "fillInStackTrace", desc := "()Ljava/lang/Throwable;" } : Jvm.MethodName)) ∈ lw_all := lw_g (lw_at lw_m2 144 rfl) rfl
theorem q531 : (Jvm.Cond.instanceMethod ({ cls := "java/lang/Throwable", name := "fillInStackTrace", desc := "()Ljava/lang/Throwable;" } : Jvm.MethodName)) ∈ lw_all := lw_g (lw_at lw_m2 145 rfl) rfl
theorem q532 : (Jvm.Cond.sameMethod "java/lang/Throwable" "java/lang/Throwable" "fillInStackTrace" "()Ljava/lang/Throwable;") ∈ lw_all := lw_g (lw_at lw_m2 146 rfl) rfl
theorem q533 : (Jvm.Cond.codeSync ({ cls := "java/lang/Throwable", name := "fillInStackTrace", desc := "()Ljava/lang/Throwable;" } : Jvm.MethodName) prog_36_method_18_code (1 : Nat) (Option.some (Jvm.ClassFile.FieldType.object "java/lang/Throwable"))) ∈ lw_all := lw_g (lw_at lw_m2 147 rfl) rfl
theorem q534 : (Jvm.Cond.methodLink "java/lang/Throwable" (202 : Nat) ({ cls := "java/lang/Throwable", name := "fillInStackTrace", desc := "(I)Ljava/lang/Throwable;" } : Jvm.MethodName)) ∈ lw_all := lw_g (lw_at lw_m2 148 rfl) rfl
theorem q535 : (Jvm.Cond.privateMethod ({ cls := "java/lang/Throwable", name := "fillInStackTrace", desc := "(I)Ljava/lang/Throwable;" } : Jvm.MethodName)) ∈ lw_tbl := lw_at lw_m2 149 rfl
theorem q536 : (Jvm.Cond.instanceMethod ({ cls := "java/lang/Throwable", name := "fillInStackTrace", desc := "(I)Ljava/lang/Throwable;" } : Jvm.MethodName)) ∈ lw_all := lw_g (lw_at lw_m2 150 rfl) rfl
theorem q537 : (Jvm.Cond.instantiable "java/lang/Throwable" (6 : Nat)) ∈ lw_all := lw_g (lw_at lw_m2 151 rfl) rfl
theorem q538 : (Jvm.Cond.native ({ cls := "java/lang/Throwable", name := "fillInStackTrace", desc := "(I)Ljava/lang/Throwable;" } : Jvm.MethodName)) ∈ lw_all := lw_g (lw_at lw_m2 152 rfl) rfl
theorem q539 : (Jvm.Cond.methodLink "DawnPerquisite$Tokens" (67 : Nat) ({ cls := "DawnPerquisite$Wrong", name := "<init>", desc := "(II)V" } : Jvm.MethodName)) ∈ lw_all := lw_g (lw_at lw_m2 153 rfl) rfl
theorem q540 : (Jvm.Cond.instanceMethod ({ cls := "DawnPerquisite$Wrong", name := "<init>", desc := "(II)V" } : Jvm.MethodName)) ∈ lw_all := lw_g (lw_at lw_m2 154 rfl) rfl
theorem q541 : (Jvm.Cond.code ({ cls := "DawnPerquisite$Wrong", name := "<init>", desc := "(II)V" } : Jvm.MethodName) prog_18_method_1_code (3 : Nat) (Option.none : Option Jvm.ClassFile.FieldType)) ∈ lw_all := lw_g (lw_at lw_m2 155 rfl) rfl
theorem q542 : (Jvm.Cond.methodLink "DawnPerquisite$Wrong" (1 : Nat) ({ cls := "java/lang/Exception", name := "<init>", desc := "()V" } : Jvm.MethodName)) ∈ lw_all := lw_g (lw_at lw_m2 156 rfl) rfl
theorem q543 : (Jvm.Cond.instanceMethod ({ cls := "java/lang/Exception", name := "<init>", desc := "()V" } : Jvm.MethodName)) ∈ lw_all := lw_g (lw_at lw_m2 157 rfl) rfl
theorem q544 : (Jvm.Cond.code ({ cls := "java/lang/Exception", name := "<init>", desc := "()V" } : Jvm.MethodName) prog_25_method_1_code (1 : Nat) (Option.none : Option Jvm.ClassFile.FieldType)) ∈ lw_all := lw_g (lw_at lw_m2 158 rfl) rfl
theorem q545 : (Jvm.Cond.methodLink "java/lang/Exception" (1 : Nat) ({ cls := "java/lang/Throwable", name := "<init>", desc := "()V" } : Jvm.MethodName)) ∈ lw_all := lw_g (lw_at lw_m2 159 rfl) rfl
theorem q546 : (Jvm.Cond.fieldLink "DawnPerquisite$Wrong" (7 : Nat) "DawnPerquisite$Wrong" "fault" "I") ∈ lw_all := lw_g (lw_at lw_m2 160 rfl) rfl
theorem q547 : (Jvm.Cond.fieldLinkNest "DawnPerquisite" (120 : Nat) "DawnPerquisite$Wrong" "fault" "I" "DawnPerquisite") ∈ lw_tbl := lw_at lw_m2 161 rfl
theorem q548 : (Jvm.Cond.fieldLink "DawnPerquisite$Wrong" (13 : Nat) "DawnPerquisite$Wrong" "place" "I") ∈ lw_all := lw_g (lw_at lw_m2 162 rfl) rfl
theorem q549 : (Jvm.Cond.fieldLinkNest "DawnPerquisite" (121 : Nat) "DawnPerquisite$Wrong" "place" "I" "DawnPerquisite") ∈ lw_tbl := lw_at lw_m2 163 rfl
theorem q550 : (Jvm.Cond.fieldLink "java/lang/Throwable" (198 : Nat) "java/lang/Throwable" "backtrace" "Ljava/lang/Object;") ∈ lw_all := lw_g (lw_at lw_m2 164 rfl) rfl
theorem q551 : (Jvm.Cond.fieldLink "java/lang/Throwable" (7 : Nat) "java/lang/Throwable" "cause" "Ljava/lang/Throwable;") ∈ lw_all := lw_g (lw_at lw_m2 165 rfl) rfl
theorem q552 : (Jvm.Cond.fieldLink "java/lang/Throwable" (17 : Nat) "java/lang/Throwable" "stackTrace" "[Ljava/lang/StackTraceElement;") ∈ lw_all := lw_g (lw_at lw_m2 166 rfl) rfl
theorem q553 : (Jvm.Cond.fieldLink "java/lang/Throwable" (24 : Nat) "java/lang/Throwable" "suppressedExceptions" "Ljava/util/List;") ∈ lw_all := lw_g (lw_at lw_m2 167 rfl) rfl
theorem q554 : (Jvm.Cond.laysFinal "DawnPerquisite$Wrong" "DawnPerquisite$Wrong" "fault" "I") ∈ lw_all := lw_g (lw_at lw_m2 168 rfl) rfl
theorem q555 : (Jvm.Cond.soleField "DawnPerquisite$Wrong" "fault") ∈ lw_all := lw_g (lw_at lw_m2 169 rfl) rfl
theorem q556 : (Jvm.Cond.laysFinal "DawnPerquisite$Wrong" "DawnPerquisite$Wrong" "place" "I") ∈ lw_all := lw_g (lw_at lw_m2 170 rfl) rfl
theorem q557 : (Jvm.Cond.soleField "DawnPerquisite$Wrong" "place") ∈ lw_all := lw_g (lw_at lw_m2 171 rfl) rfl
theorem q558 : (Jvm.Cond.soleField "java/lang/Throwable" "backtrace") ∈ lw_all := lw_g (lw_at lw_m2 172 rfl) rfl
theorem q559 : (Jvm.Cond.soleField "java/lang/Throwable" "detailMessage") ∈ lw_all := lw_g (lw_at lw_m2 173 rfl) rfl
theorem q560 : (Jvm.Cond.soleField "java/lang/Throwable" "cause") ∈ lw_all := lw_g (lw_at lw_m2 174 rfl) rfl
theorem q561 : (Jvm.Cond.soleField "java/lang/Throwable" "stackTrace") ∈ lw_all := lw_g (lw_at lw_m2 175 rfl) rfl
theorem q562 : (Jvm.Cond.lays "DawnPerquisite$Wrong" "java/lang/Throwable" "depth" "I") ∈ lw_all := lw_g (lw_at lw_m2 176 rfl) rfl
theorem q563 : (Jvm.Cond.soleField "java/lang/Throwable" "depth") ∈ lw_all := lw_g (lw_at lw_m2 177 rfl) rfl
theorem q564 : (Jvm.Cond.soleField "java/lang/Throwable" "suppressedExceptions") ∈ lw_all := lw_g (lw_at lw_m2 178 rfl) rfl
theorem q565 : (Jvm.Cond.superclass "DawnPerquisite$Wrong" "java/lang/Exception") ∈ lw_all := lw_g (lw_at lw_m2 179 rfl) rfl
theorem q566 : (Jvm.Cond.methodLink "DawnPerquisite$Tokens" (93 : Nat) ({ cls := "DawnPerquisite$Tokens", name := "sum", desc := "()LDawnPerquisite$Sum;" } : Jvm.MethodName)) ∈ lw_all := lw_g (lw_at lw_m2 180 rfl) rfl
theorem q567 : (Jvm.Cond.privateMethod ({ cls := "DawnPerquisite$Tokens", name := "sum", desc := "()LDawnPerquisite$Sum;" } : Jvm.MethodName)) ∈ lw_tbl := lw_at lw_m2 181 rfl
theorem q568 : (Jvm.Cond.instanceMethod ({ cls := "DawnPerquisite$Tokens", name := "sum", desc := "()LDawnPerquisite$Sum;" } : Jvm.MethodName)) ∈ lw_all := lw_g (lw_at lw_m2 182 rfl) rfl
theorem q569 : (Jvm.Cond.code ({ cls := "DawnPerquisite$Tokens", name := "sum", desc := "()LDawnPerquisite$Sum;" } : Jvm.MethodName) prog_16_method_15_code (3 : Nat) (Option.some (Jvm.ClassFile.FieldType.object "DawnPerquisite$Sum"))) ∈ lw_all := lw_g (lw_at lw_m2 183 rfl) rfl
theorem q570 : (Jvm.Cond.classLink "DawnPerquisite$Tokens" (156 : Nat) "DawnPerquisite$Chain") ∈ lw_all := lw_g (lw_at lw_m2 184 rfl) rfl
theorem q571 : (Jvm.Cond.instantiable "DawnPerquisite$Chain" (3 : Nat)) ∈ lw_all := lw_g (lw_at lw_m2 185 rfl) rfl
theorem q572 : (Jvm.Cond.methodLink "DawnPerquisite$Tokens" (158 : Nat) ({ cls := "DawnPerquisite$Tokens", name := "product", desc := "()LDawnPerquisite$Sum;" } : Jvm.MethodName)) ∈ lw_all := lw_g (lw_at lw_m2 186 rfl) rfl
theorem q573 : (Jvm.Cond.privateMethod ({ cls := "DawnPerquisite$Tokens", name := "product", desc := "()LDawnPerquisite$Sum;" } : Jvm.MethodName)) ∈ lw_tbl := lw_at lw_m2 187 rfl
theorem q574 : (Jvm.Cond.instanceMethod ({ cls := "DawnPerquisite$Tokens", name := "product", desc := "()LDawnPerquisite$Sum;" } : Jvm.MethodName)) ∈ lw_all := lw_g (lw_at lw_m2 188 rfl) rfl
theorem q575 : (Jvm.Cond.code ({ cls := "DawnPerquisite$Tokens", name := "product", desc := "()LDawnPerquisite$Sum;" } : Jvm.MethodName) prog_16_method_16_code (3 : Nat) (Option.some (Jvm.ClassFile.FieldType.object "DawnPerquisite$Sum"))) ∈ lw_all := lw_g (lw_at lw_m2 189 rfl) rfl
theorem q576 : (Jvm.Cond.methodLink "DawnPerquisite$Tokens" (170 : Nat) ({ cls := "DawnPerquisite$Tokens", name := "one", desc := "()LDawnPerquisite$Sum;" } : Jvm.MethodName)) ∈ lw_all := lw_g (lw_at lw_m2 190 rfl) rfl
theorem q577 : (Jvm.Cond.privateMethod ({ cls := "DawnPerquisite$Tokens", name := "one", desc := "()LDawnPerquisite$Sum;" } : Jvm.MethodName)) ∈ lw_tbl := lw_at lw_m2 191 rfl
theorem q578 : (Jvm.Cond.instanceMethod ({ cls := "DawnPerquisite$Tokens", name := "one", desc := "()LDawnPerquisite$Sum;" } : Jvm.MethodName)) ∈ lw_all := lw_g (lw_at lw_m2 192 rfl) rfl
theorem q579 : (Jvm.Cond.code ({ cls := "DawnPerquisite$Tokens", name := "one", desc := "()LDawnPerquisite$Sum;" } : Jvm.MethodName) prog_16_method_20_code (5 : Nat) (Option.some (Jvm.ClassFile.FieldType.object "DawnPerquisite$Sum"))) ∈ lw_all := lw_g (lw_at lw_m2 193 rfl) rfl
theorem q580 : (Jvm.Cond.classLink "DawnPerquisite$Tokens" (185 : Nat) "DawnPerquisite$Plain") ∈ lw_all := lw_g (lw_at lw_m2 194 rfl) rfl
theorem q581 : (Jvm.Cond.instantiable "DawnPerquisite$Plain" (1 : Nat)) ∈ lw_all := lw_g (lw_at lw_m2 195 rfl) rfl
theorem q582 : (Jvm.Cond.methodLink "DawnPerquisite$Tokens" (115 : Nat) ({ cls := "DawnPerquisite$Tokens", name := "number", desc := "(II)I" } : Jvm.MethodName)) ∈ lw_all := lw_g (lw_at lw_m2 196 rfl) rfl
theorem q583 : (Jvm.Cond.privateMethod ({ cls := "DawnPerquisite$Tokens", name := "number", desc := "(II)I" } : Jvm.MethodName)) ∈ lw_tbl := lw_at lw_m2 197 rfl
theorem q584 : (Jvm.Cond.instanceMethod ({ cls := "DawnPerquisite$Tokens", name := "number", desc := "(II)I" } : Jvm.MethodName)) ∈ lw_all := lw_g (lw_at lw_m2 198 rfl) rfl
theorem q585 : (Jvm.Cond.code ({ cls := "DawnPerquisite$Tokens", name := "number", desc := "(II)I" } : Jvm.MethodName) prog_16_method_8_code (4 : Nat) (Option.some Jvm.ClassFile.FieldType.int)) ∈ lw_all := lw_g (lw_at lw_m2 199 rfl) rfl
theorem q586 : (Jvm.Cond.methodLinkNest "DawnPerquisite$Tokens" (187 : Nat) ({ cls := "DawnPerquisite$Plain", name := "<init>", desc := "(I)V" } : Jvm.MethodName) "DawnPerquisite") ∈ lw_tbl := lw_at lw_m2 200 rfl
theorem q587 : (Jvm.Cond.instanceMethod ({ cls := "DawnPerquisite$Plain", name := "<init>", desc := "(I)V" } : Jvm.MethodName)) ∈ lw_all := lw_g (lw_at lw_m2 201 rfl) rfl
theorem q588 : (Jvm.Cond.code ({ cls := "DawnPerquisite$Plain", name := "<init>", desc := "(I)V" } : Jvm.MethodName) prog_11_method_1_code (2 : Nat) (Option.none : Option Jvm.ClassFile.FieldType)) ∈ lw_all := lw_g (lw_at lw_m2 202 rfl) rfl
theorem q589 : (Jvm.Cond.methodLink "DawnPerquisite$Plain" (1 : Nat) ({ cls := "java/lang/Record", name := "<init>", desc := "()V" } : Jvm.MethodName)) ∈ lw_all := lw_g (lw_at lw_m2 203 rfl) rfl
theorem q590 : (Jvm.Cond.instanceMethod ({ cls := "java/lang/Record", name := "<init>", desc := "()V" } : Jvm.MethodName)) ∈ lw_all := lw_g (lw_at lw_m2 204 rfl) rfl
theorem q591 : (Jvm.Cond.code ({ cls := "java/lang/Record", name := "<init>", desc := "()V" } : Jvm.MethodName) prog_31_method_1_code (1 : Nat) (Option.none : Option Jvm.ClassFile.FieldType)) ∈ lw_all := lw_g (lw_at lw_m2 205 rfl) rfl
theorem q592 : (Jvm.Cond.methodLink "java/lang/Record" (1 : Nat) ({ cls := "java/lang/Object", name := "<init>", desc := "()V" } : Jvm.MethodName)) ∈ lw_all := lw_g (lw_at lw_m2 206 rfl) rfl
theorem q593 : (Jvm.Cond.fieldLink "DawnPerquisite$Plain" (7 : Nat) "DawnPerquisite$Plain" "n" "I") ∈ lw_all := lw_g (lw_at lw_m2 207 rfl) rfl
theorem q594 : (Jvm.Cond.laysFinal "DawnPerquisite$Plain" "DawnPerquisite$Plain" "n" "I") ∈ lw_all := lw_g (lw_at lw_m2 208 rfl) rfl
theorem q595 : (Jvm.Cond.soleField "DawnPerquisite$Plain" "n") ∈ lw_all := lw_g (lw_at lw_m2 209 rfl) rfl
theorem q596 : (Jvm.Cond.superclass "DawnPerquisite$Plain" "java/lang/Record") ∈ lw_all := lw_g (lw_at lw_m2 210 rfl) rfl
theorem q597 : (Jvm.Cond.methodLink "DawnPerquisite$Tokens" (189 : Nat) ({ cls := "DawnPerquisite$Tokens", name := "choice", desc := "()LDawnPerquisite$Sum;" } : Jvm.MethodName)) ∈ lw_all := lw_g (lw_at lw_m2 211 rfl) rfl
theorem q598 : (Jvm.Cond.privateMethod ({ cls := "DawnPerquisite$Tokens", name := "choice", desc := "()LDawnPerquisite$Sum;" } : Jvm.MethodName)) ∈ lw_tbl := lw_at lw_m2 212 rfl
theorem q599 : (Jvm.Cond.instanceMethod ({ cls := "DawnPerquisite$Tokens", name := "choice", desc := "()LDawnPerquisite$Sum;" } : Jvm.MethodName)) ∈ lw_all := lw_g (lw_at lw_m2 213 rfl) rfl
theorem q600 : (Jvm.Cond.code ({ cls := "DawnPerquisite$Tokens", name := "choice", desc := "()LDawnPerquisite$Sum;" } : Jvm.MethodName) prog_16_method_19_code (4 : Nat) (Option.some (Jvm.ClassFile.FieldType.object "DawnPerquisite$Sum"))) ∈ lw_all := lw_g (lw_at lw_m2 214 rfl) rfl
theorem q601 : (Jvm.Cond.methodLink "DawnPerquisite$Tokens" (143 : Nat) ({ cls := "DawnPerquisite$Tokens", name := "opens", desc := "()V" } : Jvm.MethodName)) ∈ lw_all := lw_g (lw_at lw_m2 215 rfl) rfl
theorem q602 : (Jvm.Cond.privateMethod ({ cls := "DawnPerquisite$Tokens", name := "opens", desc := "()V" } : Jvm.MethodName)) ∈ lw_tbl := lw_at lw_m2 216 rfl
theorem q603 : (Jvm.Cond.instanceMethod ({ cls := "DawnPerquisite$Tokens", name := "opens", desc := "()V" } : Jvm.MethodName)) ∈ lw_all := lw_g (lw_at lw_m2 217 rfl) rfl
theorem q604 : (Jvm.Cond.code ({ cls := "DawnPerquisite$Tokens", name := "opens", desc := "()V" } : Jvm.MethodName) prog_16_method_9_code (1 : Nat) (Option.none : Option Jvm.ClassFile.FieldType)) ∈ lw_all := lw_g (lw_at lw_m2 218 rfl) rfl
theorem q605 : (Jvm.Cond.methodLink "DawnPerquisite$Tokens" (177 : Nat) ({ cls := "DawnPerquisite$Tokens", name := "either", desc := "()LDawnPerquisite$Asked;" } : Jvm.MethodName)) ∈ lw_all := lw_g (lw_at lw_m2 219 rfl) rfl
theorem q606 : (Jvm.Cond.privateMethod ({ cls := "DawnPerquisite$Tokens", name := "either", desc := "()LDawnPerquisite$Asked;" } : Jvm.MethodName)) ∈ lw_tbl := lw_at lw_m2 220 rfl
theorem q607 : (Jvm.Cond.instanceMethod ({ cls := "DawnPerquisite$Tokens", name := "either", desc := "()LDawnPerquisite$Asked;" } : Jvm.MethodName)) ∈ lw_all := lw_g (lw_at lw_m2 221 rfl) rfl
theorem q608 : (Jvm.Cond.code ({ cls := "DawnPerquisite$Tokens", name := "either", desc := "()LDawnPerquisite$Asked;" } : Jvm.MethodName) prog_16_method_12_code (2 : Nat) (Option.some (Jvm.ClassFile.FieldType.object "DawnPerquisite$Asked"))) ∈ lw_all := lw_g (lw_at lw_m2 222 rfl) rfl
theorem q609 : (Jvm.Cond.classLink "DawnPerquisite$Tokens" (106 : Nat) "java/util/ArrayList") ∈ lw_all := lw_g (lw_at lw_m2 223 rfl) rfl
theorem q610 : (Jvm.Cond.methodLink "DawnPerquisite$Tokens" (122 : Nat) ({ cls := "java/util/ArrayList", name := "<init>", desc := "()V" } : Jvm.MethodName)) ∈ lw_all := lw_g (lw_at lw_m2 224 rfl) rfl
theorem q611 : (Jvm.Cond.methodLink "DawnPerquisite$Tokens" (123 : Nat) ({ cls := "DawnPerquisite$Tokens", name := "both", desc := "()LDawnPerquisite$Asked;" } : Jvm.MethodName)) ∈ lw_all := lw_g (lw_at lw_m2 225 rfl) rfl
theorem q612 : (Jvm.Cond.privateMethod ({ cls := "DawnPerquisite$Tokens", name := "both", desc := "()LDawnPerquisite$Asked;" } : Jvm.MethodName)) ∈ lw_tbl := lw_at lw_m2 226 rfl
theorem q613 : (Jvm.Cond.instanceMethod ({ cls := "DawnPerquisite$Tokens", name := "both", desc := "()LDawnPerquisite$Asked;" } : Jvm.MethodName)) ∈ lw_all := lw_g (lw_at lw_m2 227 rfl) rfl
theorem q614 : (Jvm.Cond.code ({ cls := "DawnPerquisite$Tokens", name := "both", desc := "()LDawnPerquisite$Asked;" } : Jvm.MethodName) prog_16_method_13_code (2 : Nat) (Option.some (Jvm.ClassFile.FieldType.object "DawnPerquisite$Asked"))) ∈ lw_all := lw_g (lw_at lw_m2 228 rfl) rfl
theorem q615 : (Jvm.Cond.methodLink "DawnPerquisite$Tokens" (140 : Nat) ({ cls := "DawnPerquisite$Tokens", name := "ask", desc := "()LDawnPerquisite$Asked;" } : Jvm.MethodName)) ∈ lw_all := lw_g (lw_at lw_m2 229 rfl) rfl
theorem q616 : (Jvm.Cond.privateMethod ({ cls := "DawnPerquisite$Tokens", name := "ask", desc := "()LDawnPerquisite$Asked;" } : Jvm.MethodName)) ∈ lw_tbl := lw_at lw_m2 230 rfl
theorem q617 : (Jvm.Cond.instanceMethod ({ cls := "DawnPerquisite$Tokens", name := "ask", desc := "()LDawnPerquisite$Asked;" } : Jvm.MethodName)) ∈ lw_all := lw_g (lw_at lw_m2 231 rfl) rfl
theorem q618 : (Jvm.Cond.code ({ cls := "DawnPerquisite$Tokens", name := "ask", desc := "()LDawnPerquisite$Asked;" } : Jvm.MethodName) prog_16_method_14_code (3 : Nat) (Option.some (Jvm.ClassFile.FieldType.object "DawnPerquisite$Asked"))) ∈ lw_all := lw_g (lw_at lw_m2 232 rfl) rfl
theorem q619 : (Jvm.Cond.classLink "DawnPerquisite$Tokens" (146 : Nat) "DawnPerquisite$Not") ∈ lw_all := lw_g (lw_at lw_m2 233 rfl) rfl
theorem q620 : (Jvm.Cond.instantiable "DawnPerquisite$Not" (1 : Nat)) ∈ lw_all := lw_g (lw_at lw_m2 234 rfl) rfl
theorem q621 : (Jvm.Cond.methodLinkNest "DawnPerquisite$Tokens" (148 : Nat) ({ cls := "DawnPerquisite$Not", name := "<init>", desc := "(LDawnPerquisite$Asked;)V" } : Jvm.MethodName) "DawnPerquisite") ∈ lw_tbl := lw_at lw_m2 235 rfl
theorem q622 : (Jvm.Cond.instanceMethod ({ cls := "DawnPerquisite$Not", name := "<init>", desc := "(LDawnPerquisite$Asked;)V" } : Jvm.MethodName)) ∈ lw_all := lw_g (lw_at lw_m2 236 rfl) rfl
theorem q623 : (Jvm.Cond.code ({ cls := "DawnPerquisite$Not", name := "<init>", desc := "(LDawnPerquisite$Asked;)V" } : Jvm.MethodName) prog_10_method_1_code (2 : Nat) (Option.none : Option Jvm.ClassFile.FieldType)) ∈ lw_all := lw_g (lw_at lw_m2 237 rfl) rfl
theorem q624 : (Jvm.Cond.methodLink "DawnPerquisite$Not" (1 : Nat) ({ cls := "java/lang/Record", name := "<init>", desc := "()V" } : Jvm.MethodName)) ∈ lw_all := lw_g (lw_at lw_m2 238 rfl) rfl
theorem q625 : (Jvm.Cond.fieldLink "DawnPerquisite$Not" (7 : Nat) "DawnPerquisite$Not" "x" "LDawnPerquisite$Asked;") ∈ lw_all := lw_g (lw_at lw_m2 239 rfl) rfl
theorem q626 : (Jvm.Cond.laysFinal "DawnPerquisite$Not" "DawnPerquisite$Not" "x" "LDawnPerquisite$Asked;") ∈ lw_all := lw_g (lw_at lw_m3 0 rfl) rfl
theorem q627 : (Jvm.Cond.soleField "DawnPerquisite$Not" "x") ∈ lw_all := lw_g (lw_at lw_m3 1 rfl) rfl
theorem q628 : (Jvm.Cond.superclass "DawnPerquisite$Not" "java/lang/Record") ∈ lw_all := lw_g (lw_at lw_m3 2 rfl) rfl
theorem q629 : (Jvm.Cond.classLink "DawnPerquisite$Tokens" (151 : Nat) "DawnPerquisite$Compared") ∈ lw_all := lw_g (lw_at lw_m3 3 rfl) rfl
theorem q630 : (Jvm.Cond.instantiable "DawnPerquisite$Compared" (3 : Nat)) ∈ lw_all := lw_g (lw_at lw_m3 4 rfl) rfl
theorem q631 : (Jvm.Cond.methodLinkNest "DawnPerquisite$Tokens" (153 : Nat) ({ cls := "DawnPerquisite$Compared", name := "<init>", desc := "(ILDawnPerquisite$Sum;LDawnPerquisite$Sum;)V" } : Jvm.MethodName) "DawnPerquisite") ∈ lw_tbl := lw_at lw_m3 5 rfl
theorem q632 : (Jvm.Cond.instanceMethod ({ cls := "DawnPerquisite$Compared", name := "<init>", desc := "(ILDawnPerquisite$Sum;LDawnPerquisite$Sum;)V" } : Jvm.MethodName)) ∈ lw_all := lw_g (lw_at lw_m3 6 rfl) rfl
theorem q633 : (Jvm.Cond.code ({ cls := "DawnPerquisite$Compared", name := "<init>", desc := "(ILDawnPerquisite$Sum;LDawnPerquisite$Sum;)V" } : Jvm.MethodName) prog_5_method_1_code (4 : Nat) (Option.none : Option Jvm.ClassFile.FieldType)) ∈ lw_all := lw_g (lw_at lw_m3 7 rfl) rfl
theorem q634 : (Jvm.Cond.methodLink "DawnPerquisite$Compared" (1 : Nat) ({ cls := "java/lang/Record", name := "<init>", desc := "()V" } : Jvm.MethodName)) ∈ lw_all := lw_g (lw_at lw_m3 8 rfl) rfl
theorem q635 : (Jvm.Cond.fieldLink "DawnPerquisite$Compared" (7 : Nat) "DawnPerquisite$Compared" "sign" "I") ∈ lw_all := lw_g (lw_at lw_m3 9 rfl) rfl
theorem q636 : (Jvm.Cond.fieldLink "DawnPerquisite$Compared" (13 : Nat) "DawnPerquisite$Compared" "a" "LDawnPerquisite$Sum;") ∈ lw_all := lw_g (lw_at lw_m3 10 rfl) rfl
theorem q637 : (Jvm.Cond.fieldLink "DawnPerquisite$Compared" (17 : Nat) "DawnPerquisite$Compared" "b" "LDawnPerquisite$Sum;") ∈ lw_all := lw_g (lw_at lw_m3 11 rfl) rfl
theorem q638 : (Jvm.Cond.laysFinal "DawnPerquisite$Compared" "DawnPerquisite$Compared" "sign" "I") ∈ lw_all := lw_g (lw_at lw_m3 12 rfl) rfl
theorem q639 : (Jvm.Cond.soleField "DawnPerquisite$Compared" "sign") ∈ lw_all := lw_g (lw_at lw_m3 13 rfl) rfl
theorem q640 : (Jvm.Cond.laysFinal "DawnPerquisite$Compared" "DawnPerquisite$Compared" "a" "LDawnPerquisite$Sum;") ∈ lw_all := lw_g (lw_at lw_m3 14 rfl) rfl
theorem q641 : (Jvm.Cond.soleField "DawnPerquisite$Compared" "a") ∈ lw_all := lw_g (lw_at lw_m3 15 rfl) rfl
theorem q642 : (Jvm.Cond.laysFinal "DawnPerquisite$Compared" "DawnPerquisite$Compared" "b" "LDawnPerquisite$Sum;") ∈ lw_all := lw_g (lw_at lw_m3 16 rfl) rfl
theorem q643 : (Jvm.Cond.soleField "DawnPerquisite$Compared" "b") ∈ lw_all := lw_g (lw_at lw_m3 17 rfl) rfl
theorem q644 : (Jvm.Cond.superclass "DawnPerquisite$Compared" "java/lang/Record") ∈ lw_all := lw_g (lw_at lw_m3 18 rfl) rfl
theorem q645 : (Jvm.Cond.methodLink "DawnPerquisite$Tokens" (105 : Nat) ({ cls := "java/util/ArrayList", name := "add", desc := "(Ljava/lang/Object;)Z" } : Jvm.MethodName)) ∈ lw_all := lw_g (lw_at lw_m3 19 rfl) rfl
theorem q646 : (Jvm.Cond.instanceMethod ({ cls := "java/util/ArrayList", name := "add", desc := "(Ljava/lang/Object;)Z" } : Jvm.MethodName)) ∈ lw_all := lw_g (lw_at lw_m3 20 rfl) rfl
theorem q647 : (Jvm.Cond.selects "java/util/ArrayList" ({ cls := "java/util/ArrayList", name := "add", desc := "(Ljava/lang/Object;)Z" } : Jvm.MethodName) ({ cls := "java/util/ArrayList", name := "add", desc := "(Ljava/lang/Object;)Z" } : Jvm.MethodName)) ∈ lw_all := lw_g (lw_at lw_m3 21 rfl) rfl
theorem q648 : (Jvm.Cond.code ({ cls := "java/util/ArrayList", name := "add", desc := "(Ljava/lang/Object;)Z" } : Jvm.MethodName) prog_41_method_25_code (2 : Nat) (Option.some Jvm.ClassFile.FieldType.boolean)) ∈ lw_all := lw_g (lw_at lw_m3 22 rfl) rfl
theorem q649 : (Jvm.Cond.methodLink "java/util/ArrayList" (131 : Nat) ({ cls := "java/util/ArrayList", name := "add", desc := "(Ljava/lang/Object;[Ljava/lang/Object;I)V" } : Jvm.MethodName)) ∈ lw_all := lw_g (lw_at lw_m3 23 rfl) rfl
theorem q650 : (Jvm.Cond.privateMethod ({ cls := "java/util/ArrayList", name := "add", desc := "(Ljava/lang/Object;[Ljava/lang/Object;I)V" } : Jvm.MethodName)) ∈ lw_tbl := lw_at lw_m3 24 rfl
theorem q651 : (Jvm.Cond.instanceMethod ({ cls := "java/util/ArrayList", name := "add", desc := "(Ljava/lang/Object;[Ljava/lang/Object;I)V" } : Jvm.MethodName)) ∈ lw_all := lw_g (lw_at lw_m3 25 rfl) rfl
theorem q652 : (Jvm.Cond.code ({ cls := "java/util/ArrayList", name := "add", desc := "(Ljava/lang/Object;[Ljava/lang/Object;I)V" } : Jvm.MethodName) prog_41_method_24_code (4 : Nat) (Option.none : Option Jvm.ClassFile.FieldType)) ∈ lw_all := lw_g (lw_at lw_m3 26 rfl) rfl
theorem q653 : (Jvm.Cond.methodLink "java/util/ArrayList" (129 : Nat) ({ cls := "java/util/ArrayList", name := "grow", desc := "()[Ljava/lang/Object;" } : Jvm.MethodName)) ∈ lw_all := lw_g (lw_at lw_m3 27 rfl) rfl
theorem q654 : (Jvm.Cond.privateMethod ({ cls := "java/util/ArrayList", name := "grow", desc := "()[Ljava/lang/Object;" } : Jvm.MethodName)) ∈ lw_tbl := lw_at lw_m3 28 rfl
theorem q655 : (Jvm.Cond.instanceMethod ({ cls := "java/util/ArrayList", name := "grow", desc := "()[Ljava/lang/Object;" } : Jvm.MethodName)) ∈ lw_all := lw_g (lw_at lw_m3 29 rfl) rfl
theorem q656 : (Jvm.Cond.code ({ cls := "java/util/ArrayList", name := "grow", desc := "()[Ljava/lang/Object;" } : Jvm.MethodName) prog_41_method_7_code (1 : Nat) (Option.some (Jvm.ClassFile.FieldType.array (Jvm.ClassFile.FieldType.object "java/lang/Object")))) ∈ lw_all := lw_g (lw_at lw_m3 30 rfl) rfl
theorem q657 : (Jvm.Cond.methodLink "java/util/ArrayList" (69 : Nat) ({ cls := "java/util/ArrayList", name := "grow", desc := "(I)[Ljava/lang/Object;" } : Jvm.MethodName)) ∈ lw_all := lw_g (lw_at lw_m3 31 rfl) rfl
theorem q658 : (Jvm.Cond.privateMethod ({ cls := "java/util/ArrayList", name := "grow", desc := "(I)[Ljava/lang/Object;" } : Jvm.MethodName)) ∈ lw_tbl := lw_at lw_m3 32 rfl
theorem q659 : (Jvm.Cond.instanceMethod ({ cls := "java/util/ArrayList", name := "grow", desc := "(I)[Ljava/lang/Object;" } : Jvm.MethodName)) ∈ lw_all := lw_g (lw_at lw_m3 33 rfl) rfl
theorem q660 : (Jvm.Cond.code ({ cls := "java/util/ArrayList", name := "grow", desc := "(I)[Ljava/lang/Object;" } : Jvm.MethodName) prog_41_method_6_code (4 : Nat) (Option.some (Jvm.ClassFile.FieldType.array (Jvm.ClassFile.FieldType.object "java/lang/Object")))) ∈ lw_all := lw_g (lw_at lw_m3 34 rfl) rfl
theorem q661 : (Jvm.Cond.methodLink "java/util/ArrayList" (73 : Nat) ({ cls := "jdk/internal/util/ArraysSupport", name := "newLength", desc := "(III)I" } : Jvm.MethodName)) ∈ lw_all := lw_g (lw_at lw_m3 35 rfl) rfl
theorem q662 : (Jvm.Cond.static ({ cls := "jdk/internal/util/ArraysSupport", name := "newLength", desc := "(III)I" } : Jvm.MethodName)) ∈ lw_all := lw_g (lw_at lw_m3 36 rfl) rfl
theorem q663 : (Jvm.Cond.code ({ cls := "jdk/internal/util/ArraysSupport", name := "newLength", desc := "(III)I" } : Jvm.MethodName) prog_48_method_27_code (4 : Nat) (Option.some Jvm.ClassFile.FieldType.int)) ∈ lw_all := lw_g (lw_at lw_m3 37 rfl) rfl
theorem q664 : (Jvm.Cond.methodLink "jdk/internal/util/ArraysSupport" (194 : Nat) ({ cls := "java/lang/Math", name := "max", desc := "(II)I" } : Jvm.MethodName)) ∈ lw_all := lw_g (lw_at lw_m3 38 rfl) rfl
theorem q665 : (Jvm.Cond.static ({ cls := "java/lang/Math", name := "max", desc := "(II)I" } : Jvm.MethodName)) ∈ lw_all := lw_g (lw_at lw_m3 39 rfl) rfl
theorem q666 : (Jvm.Cond.code ({ cls := "java/lang/Math", name := "max", desc := "(II)I" } : Jvm.MethodName) prog_29_method_65_code (2 : Nat) (Option.some Jvm.ClassFile.FieldType.int)) ∈ lw_all := lw_g (lw_at lw_m3 40 rfl) rfl
theorem q667 : (Jvm.Cond.constant "jdk/internal/util/ArraysSupport" (200 : Nat) (2147483639 : Int32)) ∈ lw_all := lw_g (lw_at lw_m3 41 rfl) rfl
theorem q668 : (Jvm.Cond.methodLink "jdk/internal/util/ArraysSupport" (201 : Nat) ({ cls := "jdk/internal/util/ArraysSupport", name := "hugeLength", desc := "(II)I" } : Jvm.MethodName)) ∈ lw_all := lw_g (lw_at lw_m3 42 rfl) rfl
theorem q669 : (Jvm.Cond.static ({ cls := "jdk/internal/util/ArraysSupport", name := "hugeLength", desc := "(II)I" } : Jvm.MethodName)) ∈ lw_all := lw_g (lw_at lw_m3 43 rfl) rfl
theorem q670 : (Jvm.Cond.code ({ cls := "jdk/internal/util/ArraysSupport", name := "hugeLength", desc := "(II)I" } : Jvm.MethodName) prog_48_method_28_code (3 : Nat) (Option.some Jvm.ClassFile.FieldType.int)) ∈ lw_all := lw_g (lw_at lw_m3 44 rfl) rfl
theorem q671 : (Jvm.Cond.methodLink "java/util/ArrayList" (66 : Nat) ({ cls := "java/util/Arrays", name := "copyOf", desc := "([Ljava/lang/Object;I)[Ljava/lang/Object;" } : Jvm.MethodName)) ∈ lw_all := lw_g (lw_at lw_m3 45 rfl) rfl
theorem q672 : (Jvm.Cond.static ({ cls := "java/util/Arrays", name := "copyOf", desc := "([Ljava/lang/Object;I)[Ljava/lang/Object;" } : Jvm.MethodName)) ∈ lw_all := lw_g (lw_at lw_m3 46 rfl) rfl
theorem q673 : (Jvm.Cond.code ({ cls := "java/util/Arrays", name := "copyOf", desc := "([Ljava/lang/Object;I)[Ljava/lang/Object;" } : Jvm.MethodName) prog_42_method_119_code (2 : Nat) (Option.some (Jvm.ClassFile.FieldType.array (Jvm.ClassFile.FieldType.object "java/lang/Object")))) ∈ lw_all := lw_g (lw_at lw_m3 47 rfl) rfl
theorem q674 : (Jvm.Cond.methodLink "java/util/Arrays" (86 : Nat) ({ cls := "java/lang/Object", name := "getClass", desc := "()Ljava/lang/Class;" } : Jvm.MethodName)) ∈ lw_all := lw_g (lw_at lw_m3 48 rfl) rfl
theorem q675 : (Jvm.Cond.instanceMethod ({ cls := "java/lang/Object", name := "getClass", desc := "()Ljava/lang/Class;" } : Jvm.MethodName)) ∈ lw_all := lw_g (lw_at lw_m3 49 rfl) rfl
theorem q676 : (Jvm.Cond.sameMethod "java/lang/Object" "java/lang/Object" "getClass" "()Ljava/lang/Class;") ∈ lw_all := lw_g (lw_at lw_m3 50 rfl) rfl
theorem q677 : (Jvm.Cond.selects "DawnPerquisite" ({ cls := "java/lang/Object", name := "getClass", desc := "()Ljava/lang/Class;" } : Jvm.MethodName) ({ cls := "java/lang/Object", name := "getClass", desc := "()Ljava/lang/Class;" } : Jvm.MethodName)) ∈ lw_all := lw_g (lw_at lw_m3 51 rfl) rfl
theorem q678 : (Jvm.Cond.selects "DawnPerquisite$All" ({ cls := "java/lang/Object", name := "getClass", desc := "()Ljava/lang/Class;" } : Jvm.MethodName) ({ cls := "java/lang/Object", name := "getClass", desc := "()Ljava/lang/Class;" } : Jvm.MethodName)) ∈ lw_all := lw_g (lw_at lw_m3 52 rfl) rfl
theorem q679 : (Jvm.Cond.selects "DawnPerquisite$Chain" ({ cls := "java/lang/Object", name := "getClass", desc := "()Ljava/lang/Class;" } : Jvm.MethodName) ({ cls := "java/lang/Object", name := "getClass", desc := "()Ljava/lang/Class;" } : Jvm.MethodName)) ∈ lw_all := lw_g (lw_at lw_m3 53 rfl) rfl
theorem q680 : (Jvm.Cond.selects "DawnPerquisite$Compared" ({ cls := "java/lang/Object", name := "getClass", desc := "()Ljava/lang/Class;" } : Jvm.MethodName) ({ cls := "java/lang/Object", name := "getClass", desc := "()Ljava/lang/Class;" } : Jvm.MethodName)) ∈ lw_all := lw_g (lw_at lw_m3 54 rfl) rfl
theorem q681 : (Jvm.Cond.selects "DawnPerquisite$Doing" ({ cls := "java/lang/Object", name := "getClass", desc := "()Ljava/lang/Class;" } : Jvm.MethodName) ({ cls := "java/lang/Object", name := "getClass", desc := "()Ljava/lang/Class;" } : Jvm.MethodName)) ∈ lw_all := lw_g (lw_at lw_m3 55 rfl) rfl
theorem q682 : (Jvm.Cond.selects "DawnPerquisite$If" ({ cls := "java/lang/Object", name := "getClass", desc := "()Ljava/lang/Class;" } : Jvm.MethodName) ({ cls := "java/lang/Object", name := "getClass", desc := "()Ljava/lang/Class;" } : Jvm.MethodName)) ∈ lw_all := lw_g (lw_at lw_m3 56 rfl) rfl
theorem q683 : (Jvm.Cond.selects "DawnPerquisite$Minus" ({ cls := "java/lang/Object", name := "getClass", desc := "()Ljava/lang/Class;" } : Jvm.MethodName) ({ cls := "java/lang/Object", name := "getClass", desc := "()Ljava/lang/Class;" } : Jvm.MethodName)) ∈ lw_all := lw_g (lw_at lw_m3 57 rfl) rfl
theorem q684 : (Jvm.Cond.selects "DawnPerquisite$Name" ({ cls := "java/lang/Object", name := "getClass", desc := "()Ljava/lang/Class;" } : Jvm.MethodName) ({ cls := "java/lang/Object", name := "getClass", desc := "()Ljava/lang/Class;" } : Jvm.MethodName)) ∈ lw_all := lw_g (lw_at lw_m3 58 rfl) rfl
theorem q685 : (Jvm.Cond.selects "DawnPerquisite$Not" ({ cls := "java/lang/Object", name := "getClass", desc := "()Ljava/lang/Class;" } : Jvm.MethodName) ({ cls := "java/lang/Object", name := "getClass", desc := "()Ljava/lang/Class;" } : Jvm.MethodName)) ∈ lw_all := lw_g (lw_at lw_m3 59 rfl) rfl
theorem q686 : (Jvm.Cond.selects "DawnPerquisite$Plain" ({ cls := "java/lang/Object", name := "getClass", desc := "()Ljava/lang/Class;" } : Jvm.MethodName) ({ cls := "java/lang/Object", name := "getClass", desc := "()Ljava/lang/Class;" } : Jvm.MethodName)) ∈ lw_all := lw_g (lw_at lw_m3 60 rfl) rfl
theorem q687 : (Jvm.Cond.selects "DawnPerquisite$Purse" ({ cls := "java/lang/Object", name := "getClass", desc := "()Ljava/lang/Class;" } : Jvm.MethodName) ({ cls := "java/lang/Object", name := "getClass", desc := "()Ljava/lang/Class;" } : Jvm.MethodName)) ∈ lw_all := lw_g (lw_at lw_m3 61 rfl) rfl
theorem q688 : (Jvm.Cond.selects "DawnPerquisite$State" ({ cls := "java/lang/Object", name := "getClass", desc := "()Ljava/lang/Class;" } : Jvm.MethodName) ({ cls := "java/lang/Object", name := "getClass", desc := "()Ljava/lang/Class;" } : Jvm.MethodName)) ∈ lw_all := lw_g (lw_at lw_m3 62 rfl) rfl
theorem q689 : (Jvm.Cond.selects "DawnPerquisite$Text" ({ cls := "java/lang/Object", name := "getClass", desc := "()Ljava/lang/Class;" } : Jvm.MethodName) ({ cls := "java/lang/Object", name := "getClass", desc := "()Ljava/lang/Class;" } : Jvm.MethodName)) ∈ lw_all := lw_g (lw_at lw_m3 63 rfl) rfl
theorem q690 : (Jvm.Cond.selects "DawnPerquisite$Tokens" ({ cls := "java/lang/Object", name := "getClass", desc := "()Ljava/lang/Class;" } : Jvm.MethodName) ({ cls := "java/lang/Object", name := "getClass", desc := "()Ljava/lang/Class;" } : Jvm.MethodName)) ∈ lw_all := lw_g (lw_at lw_m3 64 rfl) rfl
theorem q691 : (Jvm.Cond.selects "DawnPerquisite$Worth" ({ cls := "java/lang/Object", name := "getClass", desc := "()Ljava/lang/Class;" } : Jvm.MethodName) ({ cls := "java/lang/Object", name := "getClass", desc := "()Ljava/lang/Class;" } : Jvm.MethodName)) ∈ lw_all := lw_g (lw_at lw_m3 65 rfl) rfl
theorem q692 : (Jvm.Cond.selects "DawnPerquisite$Wrong" ({ cls := "java/lang/Object", name := "getClass", desc := "()Ljava/lang/Class;" } : Jvm.MethodName) ({ cls := "java/lang/Object", name := "getClass", desc := "()Ljava/lang/Class;" } : Jvm.MethodName)) ∈ lw_all := lw_g (lw_at lw_m3 66 rfl) rfl
theorem q693 : (Jvm.Cond.selects "DawnPerquisiteModel" ({ cls := "java/lang/Object", name := "getClass", desc := "()Ljava/lang/Class;" } : Jvm.MethodName) ({ cls := "java/lang/Object", name := "getClass", desc := "()Ljava/lang/Class;" } : Jvm.MethodName)) ∈ lw_all := lw_g (lw_at lw_m3 67 rfl) rfl
theorem q694 : (Jvm.Cond.selects "java/lang/Integer" ({ cls := "java/lang/Object", name := "getClass", desc := "()Ljava/lang/Class;" } : Jvm.MethodName) ({ cls := "java/lang/Object", name := "getClass", desc := "()Ljava/lang/Class;" } : Jvm.MethodName)) ∈ lw_all := lw_g (lw_at lw_m3 68 rfl) rfl
theorem q695 : (Jvm.Cond.selects "java/util/ArrayList" ({ cls := "java/lang/Object", name := "getClass", desc := "()Ljava/lang/Class;" } : Jvm.MethodName) ({ cls := "java/lang/Object", name := "getClass", desc := "()Ljava/lang/Class;" } : Jvm.MethodName)) ∈ lw_all := lw_g (lw_at lw_m3 69 rfl) rfl
theorem q696 : (Jvm.Cond.native ({ cls := "java/lang/Object", name := "getClass", desc := "()Ljava/lang/Class;" } : Jvm.MethodName)) ∈ lw_all := lw_g (lw_at lw_m3 70 rfl) rfl
theorem q697 : (Jvm.Cond.methodLink "java/util/Arrays" (300 : Nat) ({ cls := "java/util/Arrays", name := "copyOf", desc := "([Ljava/lang/Object;ILjava/lang/Class;)[Ljava/lang/Object;" } : Jvm.MethodName)) ∈ lw_all := lw_g (lw_at lw_m3 71 rfl) rfl
theorem q698 : (Jvm.Cond.static ({ cls := "java/util/Arrays", name := "copyOf", desc := "([Ljava/lang/Object;ILjava/lang/Class;)[Ljava/lang/Object;" } : Jvm.MethodName)) ∈ lw_all := lw_g (lw_at lw_m3 72 rfl) rfl
theorem q699 : (Jvm.Cond.code ({ cls := "java/util/Arrays", name := "copyOf", desc := "([Ljava/lang/Object;ILjava/lang/Class;)[Ljava/lang/Object;" } : Jvm.MethodName) prog_42_method_120_code (4 : Nat) (Option.some (Jvm.ClassFile.FieldType.array (Jvm.ClassFile.FieldType.object "java/lang/Object")))) ∈ lw_all := lw_g (lw_at lw_m3 73 rfl) rfl
theorem q700 : (Jvm.Cond.classLink "java/util/Arrays" (110 : Nat) "[Ljava/lang/Object;") ∈ lw_all := lw_g (lw_at lw_m3 74 rfl) rfl
theorem q701 : (Jvm.Cond.arrayOver (Jvm.ClassFile.FieldType.object "java/lang/Object")) ∈ lw_tbl := lw_at lw_m3 75 rfl
theorem q702 : (Jvm.Cond.classLink "java/util/Arrays" (2 : Nat) "java/lang/Object") ∈ lw_all := lw_g (lw_at lw_m3 76 rfl) rfl
theorem q703 : (Jvm.Cond.methodLink "java/util/Arrays" (304 : Nat) ({ cls := "java/lang/Math", name := "min", desc := "(II)I" } : Jvm.MethodName)) ∈ lw_all := lw_g (lw_at lw_m3 77 rfl) rfl
theorem q704 : (Jvm.Cond.methodLink "java/util/Arrays" (150 : Nat) ({ cls := "java/lang/System", name := "arraycopy", desc := "(Ljava/lang/Object;ILjava/lang/Object;II)V" } : Jvm.MethodName)) ∈ lw_all := lw_g (lw_at lw_m3 78 rfl) rfl
theorem q705 : (Jvm.Cond.methodLink "java/util/ArrayList" (79 : Nat) ({ cls := "java/lang/Math", name := "max", desc := "(II)I" } : Jvm.MethodName)) ∈ lw_all := lw_g (lw_at lw_m3 79 rfl) rfl
theorem q706 : (Jvm.Cond.classLink "java/util/ArrayList" (7 : Nat) "java/lang/Object") ∈ lw_all := lw_g (lw_at lw_m3 80 rfl) rfl
theorem q707 : (Jvm.Cond.methodLink "DawnPerquisite$Tokens" (127 : Nat) ({ cls := "java/util/ArrayList", name := "size", desc := "()I" } : Jvm.MethodName)) ∈ lw_all := lw_g (lw_at lw_m3 81 rfl) rfl
theorem q708 : (Jvm.Cond.instanceMethod ({ cls := "java/util/ArrayList", name := "size", desc := "()I" } : Jvm.MethodName)) ∈ lw_all := lw_g (lw_at lw_m3 82 rfl) rfl
theorem q709 : (Jvm.Cond.selects "java/util/ArrayList" ({ cls := "java/util/ArrayList", name := "size", desc := "()I" } : Jvm.MethodName) ({ cls := "java/util/ArrayList", name := "size", desc := "()I" } : Jvm.MethodName)) ∈ lw_all := lw_g (lw_at lw_m3 83 rfl) rfl
theorem q710 : (Jvm.Cond.code ({ cls := "java/util/ArrayList", name := "size", desc := "()I" } : Jvm.MethodName) prog_41_method_8_code (1 : Nat) (Option.some Jvm.ClassFile.FieldType.int)) ∈ lw_all := lw_g (lw_at lw_m3 84 rfl) rfl
theorem q711 : (Jvm.Cond.methodLink "DawnPerquisite$Tokens" (129 : Nat) ({ cls := "java/util/ArrayList", name := "get", desc := "(I)Ljava/lang/Object;" } : Jvm.MethodName)) ∈ lw_all := lw_g (lw_at lw_m3 85 rfl) rfl
theorem q712 : (Jvm.Cond.instanceMethod ({ cls := "java/util/ArrayList", name := "get", desc := "(I)Ljava/lang/Object;" } : Jvm.MethodName)) ∈ lw_all := lw_g (lw_at lw_m3 86 rfl) rfl
theorem q713 : (Jvm.Cond.selects "java/util/ArrayList" ({ cls := "java/util/ArrayList", name := "get", desc := "(I)Ljava/lang/Object;" } : Jvm.MethodName) ({ cls := "java/util/ArrayList", name := "get", desc := "(I)Ljava/lang/Object;" } : Jvm.MethodName)) ∈ lw_all := lw_g (lw_at lw_m3 87 rfl) rfl
theorem q714 : (Jvm.Cond.code ({ cls := "java/util/ArrayList", name := "get", desc := "(I)Ljava/lang/Object;" } : Jvm.MethodName) prog_41_method_20_code (2 : Nat) (Option.some (Jvm.ClassFile.FieldType.object "java/lang/Object"))) ∈ lw_all := lw_g (lw_at lw_m3 88 rfl) rfl
theorem q715 : (Jvm.Cond.methodLink "java/util/ArrayList" (118 : Nat) ({ cls := "java/util/Objects", name := "checkIndex", desc := "(II)I" } : Jvm.MethodName)) ∈ lw_all := lw_g (lw_at lw_m3 89 rfl) rfl
theorem q716 : (Jvm.Cond.static ({ cls := "java/util/Objects", name := "checkIndex", desc := "(II)I" } : Jvm.MethodName)) ∈ lw_all := lw_g (lw_at lw_m3 90 rfl) rfl
theorem q717 : (Jvm.Cond.code ({ cls := "java/util/Objects", name := "checkIndex", desc := "(II)I" } : Jvm.MethodName) prog_45_method_17_code (2 : Nat) (Option.some Jvm.ClassFile.FieldType.int)) ∈ lw_all := lw_g (lw_at lw_m3 91 rfl) rfl
theorem q718 : (Jvm.Cond.methodLink "java/util/Objects" (105 : Nat) ({ cls := "jdk/internal/util/Preconditions", name := "checkIndex", desc := "(IILjava/util/function/BiFunction;)I" } : Jvm.MethodName)) ∈ lw_all := lw_g (lw_at lw_m3 92 rfl) rfl
theorem q719 : (Jvm.Cond.methodLink "java/util/ArrayList" (123 : Nat) ({ cls := "java/util/ArrayList", name := "elementData", desc := "(I)Ljava/lang/Object;" } : Jvm.MethodName)) ∈ lw_all := lw_g (lw_at lw_m3 93 rfl) rfl
theorem q720 : (Jvm.Cond.instanceMethod ({ cls := "java/util/ArrayList", name := "elementData", desc := "(I)Ljava/lang/Object;" } : Jvm.MethodName)) ∈ lw_all := lw_g (lw_at lw_m3 94 rfl) rfl
theorem q721 : (Jvm.Cond.selects "java/util/ArrayList" ({ cls := "java/util/ArrayList", name := "elementData", desc := "(I)Ljava/lang/Object;" } : Jvm.MethodName) ({ cls := "java/util/ArrayList", name := "elementData", desc := "(I)Ljava/lang/Object;" } : Jvm.MethodName)) ∈ lw_all := lw_g (lw_at lw_m3 95 rfl) rfl
theorem q722 : (Jvm.Cond.code ({ cls := "java/util/ArrayList", name := "elementData", desc := "(I)Ljava/lang/Object;" } : Jvm.MethodName) prog_41_method_18_code (2 : Nat) (Option.some (Jvm.ClassFile.FieldType.object "java/lang/Object"))) ∈ lw_all := lw_g (lw_at lw_m3 96 rfl) rfl
theorem q723 : (Jvm.Cond.classLink "DawnPerquisite$Tokens" (133 : Nat) "DawnPerquisite$Asked") ∈ lw_all := lw_g (lw_at lw_m3 97 rfl) rfl
theorem q724 : (Jvm.Cond.classLink "DawnPerquisite$Tokens" (135 : Nat) "DawnPerquisite$All") ∈ lw_all := lw_g (lw_at lw_m3 98 rfl) rfl
theorem q725 : (Jvm.Cond.instantiable "DawnPerquisite$All" (2 : Nat)) ∈ lw_all := lw_g (lw_at lw_m3 99 rfl) rfl
theorem q726 : (Jvm.Cond.methodLinkNest "DawnPerquisite$Tokens" (137 : Nat) ({ cls := "DawnPerquisite$All", name := "<init>", desc := "(ZLjava/util/ArrayList;)V" } : Jvm.MethodName) "DawnPerquisite") ∈ lw_tbl := lw_at lw_m3 100 rfl
theorem q727 : (Jvm.Cond.instanceMethod ({ cls := "DawnPerquisite$All", name := "<init>", desc := "(ZLjava/util/ArrayList;)V" } : Jvm.MethodName)) ∈ lw_all := lw_g (lw_at lw_m3 101 rfl) rfl
theorem q728 : (Jvm.Cond.code ({ cls := "DawnPerquisite$All", name := "<init>", desc := "(ZLjava/util/ArrayList;)V" } : Jvm.MethodName) prog_2_method_1_code (3 : Nat) (Option.none : Option Jvm.ClassFile.FieldType)) ∈ lw_all := lw_g (lw_at lw_m3 102 rfl) rfl
theorem q729 : (Jvm.Cond.methodLink "DawnPerquisite$All" (1 : Nat) ({ cls := "java/lang/Record", name := "<init>", desc := "()V" } : Jvm.MethodName)) ∈ lw_all := lw_g (lw_at lw_m3 103 rfl) rfl
theorem q730 : (Jvm.Cond.fieldLink "DawnPerquisite$All" (7 : Nat) "DawnPerquisite$All" "and" "Z") ∈ lw_all := lw_g (lw_at lw_m3 104 rfl) rfl
theorem q731 : (Jvm.Cond.fieldLink "DawnPerquisite$All" (13 : Nat) "DawnPerquisite$All" "of" "Ljava/util/ArrayList;") ∈ lw_all := lw_g (lw_at lw_m3 105 rfl) rfl
theorem q732 : (Jvm.Cond.laysFinal "DawnPerquisite$All" "DawnPerquisite$All" "and" "Z") ∈ lw_all := lw_g (lw_at lw_m3 106 rfl) rfl
theorem q733 : (Jvm.Cond.soleField "DawnPerquisite$All" "and") ∈ lw_all := lw_g (lw_at lw_m3 107 rfl) rfl
theorem q734 : (Jvm.Cond.laysFinal "DawnPerquisite$All" "DawnPerquisite$All" "of" "Ljava/util/ArrayList;") ∈ lw_all := lw_g (lw_at lw_m3 108 rfl) rfl
theorem q735 : (Jvm.Cond.soleField "DawnPerquisite$All" "of") ∈ lw_all := lw_g (lw_at lw_m3 109 rfl) rfl
theorem q736 : (Jvm.Cond.superclass "DawnPerquisite$All" "java/lang/Record") ∈ lw_all := lw_g (lw_at lw_m3 110 rfl) rfl
theorem q737 : (Jvm.Cond.methodLink "DawnPerquisite$Tokens" (111 : Nat) ({ cls := "DawnPerquisite$Tokens", name := "want", desc := "(I)V" } : Jvm.MethodName)) ∈ lw_all := lw_g (lw_at lw_m3 111 rfl) rfl
theorem q738 : (Jvm.Cond.privateMethod ({ cls := "DawnPerquisite$Tokens", name := "want", desc := "(I)V" } : Jvm.MethodName)) ∈ lw_tbl := lw_at lw_m3 112 rfl
theorem q739 : (Jvm.Cond.instanceMethod ({ cls := "DawnPerquisite$Tokens", name := "want", desc := "(I)V" } : Jvm.MethodName)) ∈ lw_all := lw_g (lw_at lw_m3 113 rfl) rfl
theorem q740 : (Jvm.Cond.code ({ cls := "DawnPerquisite$Tokens", name := "want", desc := "(I)V" } : Jvm.MethodName) prog_16_method_7_code (2 : Nat) (Option.none : Option Jvm.ClassFile.FieldType)) ∈ lw_all := lw_g (lw_at lw_m3 114 rfl) rfl
theorem q741 : (Jvm.Cond.classLink "DawnPerquisite$Tokens" (180 : Nat) "DawnPerquisite$If") ∈ lw_all := lw_g (lw_at lw_m3 115 rfl) rfl
theorem q742 : (Jvm.Cond.instantiable "DawnPerquisite$If" (3 : Nat)) ∈ lw_all := lw_g (lw_at lw_m3 116 rfl) rfl
theorem q743 : (Jvm.Cond.methodLinkNest "DawnPerquisite$Tokens" (182 : Nat) ({ cls := "DawnPerquisite$If", name := "<init>", desc := "(LDawnPerquisite$Asked;LDawnPerquisite$Sum;LDawnPerquisite$Sum;)V" } : Jvm.MethodName) "DawnPerquisite") ∈ lw_tbl := lw_at lw_m3 117 rfl
theorem q744 : (Jvm.Cond.instanceMethod ({ cls := "DawnPerquisite$If", name := "<init>", desc := "(LDawnPerquisite$Asked;LDawnPerquisite$Sum;LDawnPerquisite$Sum;)V" } : Jvm.MethodName)) ∈ lw_all := lw_g (lw_at lw_m3 118 rfl) rfl
theorem q745 : (Jvm.Cond.code ({ cls := "DawnPerquisite$If", name := "<init>", desc := "(LDawnPerquisite$Asked;LDawnPerquisite$Sum;LDawnPerquisite$Sum;)V" } : Jvm.MethodName) prog_7_method_1_code (4 : Nat) (Option.none : Option Jvm.ClassFile.FieldType)) ∈ lw_all := lw_g (lw_at lw_m3 119 rfl) rfl
theorem q746 : (Jvm.Cond.methodLink "DawnPerquisite$If" (1 : Nat) ({ cls := "java/lang/Record", name := "<init>", desc := "()V" } : Jvm.MethodName)) ∈ lw_all := lw_g (lw_at lw_m3 120 rfl) rfl
theorem q747 : (Jvm.Cond.fieldLink "DawnPerquisite$If" (7 : Nat) "DawnPerquisite$If" "asked" "LDawnPerquisite$Asked;") ∈ lw_all := lw_g (lw_at lw_m3 121 rfl) rfl
theorem q748 : (Jvm.Cond.fieldLink "DawnPerquisite$If" (13 : Nat) "DawnPerquisite$If" "yes" "LDawnPerquisite$Sum;") ∈ lw_all := lw_g (lw_at lw_m3 122 rfl) rfl
theorem q749 : (Jvm.Cond.fieldLink "DawnPerquisite$If" (17 : Nat) "DawnPerquisite$If" "no" "LDawnPerquisite$Sum;") ∈ lw_all := lw_g (lw_at lw_m3 123 rfl) rfl
theorem q750 : (Jvm.Cond.laysFinal "DawnPerquisite$If" "DawnPerquisite$If" "asked" "LDawnPerquisite$Asked;") ∈ lw_all := lw_g (lw_at lw_m3 124 rfl) rfl
theorem q751 : (Jvm.Cond.soleField "DawnPerquisite$If" "asked") ∈ lw_all := lw_g (lw_at lw_m3 125 rfl) rfl
theorem q752 : (Jvm.Cond.laysFinal "DawnPerquisite$If" "DawnPerquisite$If" "yes" "LDawnPerquisite$Sum;") ∈ lw_all := lw_g (lw_at lw_m3 126 rfl) rfl
theorem q753 : (Jvm.Cond.soleField "DawnPerquisite$If" "yes") ∈ lw_all := lw_g (lw_at lw_m3 127 rfl) rfl
theorem q754 : (Jvm.Cond.laysFinal "DawnPerquisite$If" "DawnPerquisite$If" "no" "LDawnPerquisite$Sum;") ∈ lw_all := lw_g (lw_at lw_m3 128 rfl) rfl
theorem q755 : (Jvm.Cond.soleField "DawnPerquisite$If" "no") ∈ lw_all := lw_g (lw_at lw_m3 129 rfl) rfl
theorem q756 : (Jvm.Cond.superclass "DawnPerquisite$If" "java/lang/Record") ∈ lw_all := lw_g (lw_at lw_m3 130 rfl) rfl
theorem q757 : (Jvm.Cond.methodLink "DawnPerquisite$Tokens" (192 : Nat) ({ cls := "DawnPerquisite$Tokens", name := "nameNow", desc := "()I" } : Jvm.MethodName)) ∈ lw_all := lw_g (lw_at lw_m3 131 rfl) rfl
theorem q758 : (Jvm.Cond.privateMethod ({ cls := "DawnPerquisite$Tokens", name := "nameNow", desc := "()I" } : Jvm.MethodName)) ∈ lw_tbl := lw_at lw_m3 132 rfl
theorem q759 : (Jvm.Cond.instanceMethod ({ cls := "DawnPerquisite$Tokens", name := "nameNow", desc := "()I" } : Jvm.MethodName)) ∈ lw_all := lw_g (lw_at lw_m3 133 rfl) rfl
theorem q760 : (Jvm.Cond.code ({ cls := "DawnPerquisite$Tokens", name := "nameNow", desc := "()I" } : Jvm.MethodName) prog_16_method_17_code (2 : Nat) (Option.some Jvm.ClassFile.FieldType.int)) ∈ lw_all := lw_g (lw_at lw_m3 134 rfl) rfl
theorem q761 : (Jvm.Cond.fieldLink "DawnPerquisite$Tokens" (173 : Nat) "DawnPerquisite$Tokens" "NAMED" "[I") ∈ lw_all := lw_g (lw_at lw_m3 135 rfl) rfl
theorem q762 : (Jvm.Cond.laysStatic "DawnPerquisite$Tokens" "NAMED" "[I") ∈ lw_tbl := lw_at lw_m3 136 rfl
theorem q763 : (Jvm.Cond.methodLink "DawnPerquisite$Tokens" (195 : Nat) ({ cls := "DawnPerquisite$Tokens", name := "mayName", desc := "(I)Z" } : Jvm.MethodName)) ∈ lw_all := lw_g (lw_at lw_m3 137 rfl) rfl
theorem q764 : (Jvm.Cond.privateMethod ({ cls := "DawnPerquisite$Tokens", name := "mayName", desc := "(I)Z" } : Jvm.MethodName)) ∈ lw_tbl := lw_at lw_m3 138 rfl
theorem q765 : (Jvm.Cond.instanceMethod ({ cls := "DawnPerquisite$Tokens", name := "mayName", desc := "(I)Z" } : Jvm.MethodName)) ∈ lw_all := lw_g (lw_at lw_m3 139 rfl) rfl
theorem q766 : (Jvm.Cond.code ({ cls := "DawnPerquisite$Tokens", name := "mayName", desc := "(I)Z" } : Jvm.MethodName) prog_16_method_18_code (2 : Nat) (Option.some Jvm.ClassFile.FieldType.boolean)) ∈ lw_all := lw_g (lw_at lw_m3 140 rfl) rfl
theorem q767 : (Jvm.Cond.classLink "DawnPerquisite$Tokens" (198 : Nat) "DawnPerquisite$Name") ∈ lw_all := lw_g (lw_at lw_m3 141 rfl) rfl
theorem q768 : (Jvm.Cond.instantiable "DawnPerquisite$Name" (1 : Nat)) ∈ lw_all := lw_g (lw_at lw_m3 142 rfl) rfl
theorem q769 : (Jvm.Cond.methodLinkNest "DawnPerquisite$Tokens" (200 : Nat) ({ cls := "DawnPerquisite$Name", name := "<init>", desc := "(I)V" } : Jvm.MethodName) "DawnPerquisite") ∈ lw_tbl := lw_at lw_m3 143 rfl
theorem q770 : (Jvm.Cond.instanceMethod ({ cls := "DawnPerquisite$Name", name := "<init>", desc := "(I)V" } : Jvm.MethodName)) ∈ lw_all := lw_g (lw_at lw_m3 144 rfl) rfl
theorem q771 : (Jvm.Cond.code ({ cls := "DawnPerquisite$Name", name := "<init>", desc := "(I)V" } : Jvm.MethodName) prog_9_method_1_code (2 : Nat) (Option.none : Option Jvm.ClassFile.FieldType)) ∈ lw_all := lw_g (lw_at lw_m3 145 rfl) rfl
theorem q772 : (Jvm.Cond.methodLink "DawnPerquisite$Name" (1 : Nat) ({ cls := "java/lang/Record", name := "<init>", desc := "()V" } : Jvm.MethodName)) ∈ lw_all := lw_g (lw_at lw_m3 146 rfl) rfl
theorem q773 : (Jvm.Cond.fieldLink "DawnPerquisite$Name" (7 : Nat) "DawnPerquisite$Name" "which" "I") ∈ lw_all := lw_g (lw_at lw_m3 147 rfl) rfl
theorem q774 : (Jvm.Cond.laysFinal "DawnPerquisite$Name" "DawnPerquisite$Name" "which" "I") ∈ lw_all := lw_g (lw_at lw_m3 148 rfl) rfl
theorem q775 : (Jvm.Cond.soleField "DawnPerquisite$Name" "which") ∈ lw_all := lw_g (lw_at lw_m3 149 rfl) rfl
theorem q776 : (Jvm.Cond.superclass "DawnPerquisite$Name" "java/lang/Record") ∈ lw_all := lw_g (lw_at lw_m3 150 rfl) rfl
theorem q777 : (Jvm.Cond.classLink "DawnPerquisite$Tokens" (201 : Nat) "DawnPerquisite$Worth") ∈ lw_all := lw_g (lw_at lw_m3 151 rfl) rfl
theorem q778 : (Jvm.Cond.instantiable "DawnPerquisite$Worth" (1 : Nat)) ∈ lw_all := lw_g (lw_at lw_m3 152 rfl) rfl
theorem q779 : (Jvm.Cond.methodLinkNest "DawnPerquisite$Tokens" (203 : Nat) ({ cls := "DawnPerquisite$Worth", name := "<init>", desc := "(LDawnPerquisite$Sum;)V" } : Jvm.MethodName) "DawnPerquisite") ∈ lw_tbl := lw_at lw_m3 153 rfl
theorem q780 : (Jvm.Cond.instanceMethod ({ cls := "DawnPerquisite$Worth", name := "<init>", desc := "(LDawnPerquisite$Sum;)V" } : Jvm.MethodName)) ∈ lw_all := lw_g (lw_at lw_m3 154 rfl) rfl
theorem q781 : (Jvm.Cond.code ({ cls := "DawnPerquisite$Worth", name := "<init>", desc := "(LDawnPerquisite$Sum;)V" } : Jvm.MethodName) prog_17_method_1_code (2 : Nat) (Option.none : Option Jvm.ClassFile.FieldType)) ∈ lw_all := lw_g (lw_at lw_m3 155 rfl) rfl
theorem q782 : (Jvm.Cond.methodLink "DawnPerquisite$Worth" (3 : Nat) ({ cls := "java/lang/Record", name := "<init>", desc := "()V" } : Jvm.MethodName)) ∈ lw_all := lw_g (lw_at lw_m3 156 rfl) rfl
theorem q783 : (Jvm.Cond.fieldLink "DawnPerquisite$Worth" (9 : Nat) "DawnPerquisite$Worth" "sort" "LDawnPerquisite$Sum;") ∈ lw_all := lw_g (lw_at lw_m3 157 rfl) rfl
theorem q784 : (Jvm.Cond.laysFinal "DawnPerquisite$Worth" "DawnPerquisite$Worth" "sort" "LDawnPerquisite$Sum;") ∈ lw_all := lw_g (lw_at lw_m3 158 rfl) rfl
theorem q785 : (Jvm.Cond.soleField "DawnPerquisite$Worth" "sort") ∈ lw_all := lw_g (lw_at lw_m3 159 rfl) rfl
theorem q786 : (Jvm.Cond.superclass "DawnPerquisite$Worth" "java/lang/Record") ∈ lw_all := lw_g (lw_at lw_m3 160 rfl) rfl
theorem q787 : (Jvm.Cond.classLink "DawnPerquisite$Tokens" (204 : Nat) "DawnPerquisite$Purse") ∈ lw_all := lw_g (lw_at lw_m3 161 rfl) rfl
theorem q788 : (Jvm.Cond.instantiable "DawnPerquisite$Purse" (1 : Nat)) ∈ lw_all := lw_g (lw_at lw_m3 162 rfl) rfl
theorem q789 : (Jvm.Cond.methodLinkNest "DawnPerquisite$Tokens" (206 : Nat) ({ cls := "DawnPerquisite$Purse", name := "<init>", desc := "(LDawnPerquisite$Sum;)V" } : Jvm.MethodName) "DawnPerquisite") ∈ lw_tbl := lw_at lw_m3 163 rfl
theorem q790 : (Jvm.Cond.instanceMethod ({ cls := "DawnPerquisite$Purse", name := "<init>", desc := "(LDawnPerquisite$Sum;)V" } : Jvm.MethodName)) ∈ lw_all := lw_g (lw_at lw_m3 164 rfl) rfl
theorem q791 : (Jvm.Cond.code ({ cls := "DawnPerquisite$Purse", name := "<init>", desc := "(LDawnPerquisite$Sum;)V" } : Jvm.MethodName) prog_12_method_1_code (2 : Nat) (Option.none : Option Jvm.ClassFile.FieldType)) ∈ lw_all := lw_g (lw_at lw_m3 165 rfl) rfl
theorem q792 : (Jvm.Cond.methodLink "DawnPerquisite$Purse" (3 : Nat) ({ cls := "java/lang/Record", name := "<init>", desc := "()V" } : Jvm.MethodName)) ∈ lw_all := lw_g (lw_at lw_m3 166 rfl) rfl
theorem q793 : (Jvm.Cond.fieldLink "DawnPerquisite$Purse" (9 : Nat) "DawnPerquisite$Purse" "buyer" "LDawnPerquisite$Sum;") ∈ lw_all := lw_g (lw_at lw_m3 167 rfl) rfl
theorem q794 : (Jvm.Cond.laysFinal "DawnPerquisite$Purse" "DawnPerquisite$Purse" "buyer" "LDawnPerquisite$Sum;") ∈ lw_all := lw_g (lw_at lw_m3 168 rfl) rfl
theorem q795 : (Jvm.Cond.soleField "DawnPerquisite$Purse" "buyer") ∈ lw_all := lw_g (lw_at lw_m3 169 rfl) rfl
theorem q796 : (Jvm.Cond.superclass "DawnPerquisite$Purse" "java/lang/Record") ∈ lw_all := lw_g (lw_at lw_m3 170 rfl) rfl
theorem q797 : (Jvm.Cond.classLink "DawnPerquisite$Tokens" (207 : Nat) "DawnPerquisite$Minus") ∈ lw_all := lw_g (lw_at lw_m3 171 rfl) rfl
theorem q798 : (Jvm.Cond.instantiable "DawnPerquisite$Minus" (1 : Nat)) ∈ lw_all := lw_g (lw_at lw_m3 172 rfl) rfl
theorem q799 : (Jvm.Cond.methodLinkNest "DawnPerquisite$Tokens" (209 : Nat) ({ cls := "DawnPerquisite$Minus", name := "<init>", desc := "(LDawnPerquisite$Sum;)V" } : Jvm.MethodName) "DawnPerquisite") ∈ lw_tbl := lw_at lw_m3 173 rfl
theorem q800 : (Jvm.Cond.instanceMethod ({ cls := "DawnPerquisite$Minus", name := "<init>", desc := "(LDawnPerquisite$Sum;)V" } : Jvm.MethodName)) ∈ lw_all := lw_g (lw_at lw_m3 174 rfl) rfl
theorem q801 : (Jvm.Cond.code ({ cls := "DawnPerquisite$Minus", name := "<init>", desc := "(LDawnPerquisite$Sum;)V" } : Jvm.MethodName) prog_8_method_1_code (2 : Nat) (Option.none : Option Jvm.ClassFile.FieldType)) ∈ lw_all := lw_g (lw_at lw_m3 175 rfl) rfl
theorem q802 : (Jvm.Cond.methodLink "DawnPerquisite$Minus" (1 : Nat) ({ cls := "java/lang/Record", name := "<init>", desc := "()V" } : Jvm.MethodName)) ∈ lw_all := lw_g (lw_at lw_m3 176 rfl) rfl
theorem q803 : (Jvm.Cond.fieldLink "DawnPerquisite$Minus" (7 : Nat) "DawnPerquisite$Minus" "x" "LDawnPerquisite$Sum;") ∈ lw_all := lw_g (lw_at lw_m3 177 rfl) rfl
theorem q804 : (Jvm.Cond.laysFinal "DawnPerquisite$Minus" "DawnPerquisite$Minus" "x" "LDawnPerquisite$Sum;") ∈ lw_all := lw_g (lw_at lw_m3 178 rfl) rfl
theorem q805 : (Jvm.Cond.soleField "DawnPerquisite$Minus" "x") ∈ lw_all := lw_g (lw_at lw_m3 179 rfl) rfl
theorem q806 : (Jvm.Cond.superclass "DawnPerquisite$Minus" "java/lang/Record") ∈ lw_all := lw_g (lw_at lw_m3 180 rfl) rfl
theorem q807 : (Jvm.Cond.methodLink "DawnPerquisite$Tokens" (161 : Nat) ({ cls := "DawnPerquisite$Chain", name := "<init>", desc := "(LDawnPerquisite$Sum;)V" } : Jvm.MethodName)) ∈ lw_all := lw_g (lw_at lw_m3 181 rfl) rfl
theorem q808 : (Jvm.Cond.instanceMethod ({ cls := "DawnPerquisite$Chain", name := "<init>", desc := "(LDawnPerquisite$Sum;)V" } : Jvm.MethodName)) ∈ lw_all := lw_g (lw_at lw_m3 182 rfl) rfl
theorem q809 : (Jvm.Cond.code ({ cls := "DawnPerquisite$Chain", name := "<init>", desc := "(LDawnPerquisite$Sum;)V" } : Jvm.MethodName) prog_4_method_1_code (2 : Nat) (Option.none : Option Jvm.ClassFile.FieldType)) ∈ lw_all := lw_g (lw_at lw_m3 183 rfl) rfl
theorem q810 : (Jvm.Cond.methodLink "DawnPerquisite$Chain" (3 : Nat) ({ cls := "java/lang/Object", name := "<init>", desc := "()V" } : Jvm.MethodName)) ∈ lw_all := lw_g (lw_at lw_m3 184 rfl) rfl
theorem q811 : (Jvm.Cond.classLink "DawnPerquisite$Chain" (9 : Nat) "java/util/ArrayList") ∈ lw_all := lw_g (lw_at lw_m3 185 rfl) rfl
theorem q812 : (Jvm.Cond.methodLink "DawnPerquisite$Chain" (11 : Nat) ({ cls := "java/util/ArrayList", name := "<init>", desc := "()V" } : Jvm.MethodName)) ∈ lw_all := lw_g (lw_at lw_m3 186 rfl) rfl
theorem q813 : (Jvm.Cond.fieldLink "DawnPerquisite$Chain" (21 : Nat) "DawnPerquisite$Chain" "first" "LDawnPerquisite$Sum;") ∈ lw_all := lw_g (lw_at lw_m3 187 rfl) rfl
theorem q814 : (Jvm.Cond.fieldLink "DawnPerquisite$Chain" (12 : Nat) "DawnPerquisite$Chain" "more" "Ljava/util/ArrayList;") ∈ lw_all := lw_g (lw_at lw_m3 188 rfl) rfl
theorem q815 : (Jvm.Cond.fieldLink "DawnPerquisite$Chain" (18 : Nat) "DawnPerquisite$Chain" "signs" "Ljava/util/ArrayList;") ∈ lw_all := lw_g (lw_at lw_m3 189 rfl) rfl
theorem q816 : (Jvm.Cond.laysFinal "DawnPerquisite$Chain" "DawnPerquisite$Chain" "first" "LDawnPerquisite$Sum;") ∈ lw_all := lw_g (lw_at lw_m3 190 rfl) rfl
theorem q817 : (Jvm.Cond.soleField "DawnPerquisite$Chain" "first") ∈ lw_all := lw_g (lw_at lw_m3 191 rfl) rfl
theorem q818 : (Jvm.Cond.laysFinal "DawnPerquisite$Chain" "DawnPerquisite$Chain" "more" "Ljava/util/ArrayList;") ∈ lw_all := lw_g (lw_at lw_m3 192 rfl) rfl
theorem q819 : (Jvm.Cond.soleField "DawnPerquisite$Chain" "more") ∈ lw_all := lw_g (lw_at lw_m3 193 rfl) rfl
theorem q820 : (Jvm.Cond.laysFinal "DawnPerquisite$Chain" "DawnPerquisite$Chain" "signs" "Ljava/util/ArrayList;") ∈ lw_all := lw_g (lw_at lw_m3 194 rfl) rfl
theorem q821 : (Jvm.Cond.soleField "DawnPerquisite$Chain" "signs") ∈ lw_all := lw_g (lw_at lw_m3 195 rfl) rfl
theorem q822 : (Jvm.Cond.superclass "DawnPerquisite$Chain" "java/lang/Object") ∈ lw_all := lw_g (lw_at lw_m3 196 rfl) rfl
theorem q823 : (Jvm.Cond.methodLink "DawnPerquisite$Tokens" (164 : Nat) ({ cls := "DawnPerquisite$Chain", name := "add", desc := "(ILDawnPerquisite$Sum;)V" } : Jvm.MethodName)) ∈ lw_all := lw_g (lw_at lw_m3 197 rfl) rfl
theorem q824 : (Jvm.Cond.instanceMethod ({ cls := "DawnPerquisite$Chain", name := "add", desc := "(ILDawnPerquisite$Sum;)V" } : Jvm.MethodName)) ∈ lw_all := lw_g (lw_at lw_m3 198 rfl) rfl
theorem q825 : (Jvm.Cond.selects "DawnPerquisite$Chain" ({ cls := "DawnPerquisite$Chain", name := "add", desc := "(ILDawnPerquisite$Sum;)V" } : Jvm.MethodName) ({ cls := "DawnPerquisite$Chain", name := "add", desc := "(ILDawnPerquisite$Sum;)V" } : Jvm.MethodName)) ∈ lw_all := lw_g (lw_at lw_m3 199 rfl) rfl
theorem q826 : (Jvm.Cond.code ({ cls := "DawnPerquisite$Chain", name := "add", desc := "(ILDawnPerquisite$Sum;)V" } : Jvm.MethodName) prog_4_method_2_code (3 : Nat) (Option.none : Option Jvm.ClassFile.FieldType)) ∈ lw_all := lw_g (lw_at lw_m3 200 rfl) rfl
theorem q827 : (Jvm.Cond.methodLink "DawnPerquisite$Chain" (25 : Nat) ({ cls := "java/lang/Integer", name := "valueOf", desc := "(I)Ljava/lang/Integer;" } : Jvm.MethodName)) ∈ lw_all := lw_g (lw_at lw_m3 201 rfl) rfl
theorem q828 : (Jvm.Cond.static ({ cls := "java/lang/Integer", name := "valueOf", desc := "(I)Ljava/lang/Integer;" } : Jvm.MethodName)) ∈ lw_all := lw_g (lw_at lw_m3 202 rfl) rfl
theorem q829 : (Jvm.Cond.code ({ cls := "java/lang/Integer", name := "valueOf", desc := "(I)Ljava/lang/Integer;" } : Jvm.MethodName) prog_26_method_22_code (1 : Nat) (Option.some (Jvm.ClassFile.FieldType.object "java/lang/Integer"))) ∈ lw_all := lw_g (lw_at lw_m3 203 rfl) rfl
theorem q830 : (Jvm.Cond.fieldLink "java/lang/Integer" (191 : Nat) "java/lang/Integer$IntegerCache" "high" "I") ∈ lw_all := lw_g (lw_at lw_m3 204 rfl) rfl
theorem q831 : (Jvm.Cond.laysStatic "java/lang/Integer$IntegerCache" "high" "I") ∈ lw_tbl := lw_at lw_m3 205 rfl
theorem q832 : (Jvm.Cond.fieldLink "java/lang/Integer" (195 : Nat) "java/lang/Integer$IntegerCache" "cache" "[Ljava/lang/Integer;") ∈ lw_all := lw_g (lw_at lw_m3 206 rfl) rfl
theorem q833 : (Jvm.Cond.laysStatic "java/lang/Integer$IntegerCache" "cache" "[Ljava/lang/Integer;") ∈ lw_tbl := lw_at lw_m3 207 rfl
theorem q834 : (Jvm.Cond.classLink "java/lang/Integer" (1 : Nat) "java/lang/Integer") ∈ lw_all := lw_g (lw_at lw_m3 208 rfl) rfl
theorem q835 : (Jvm.Cond.instantiable "java/lang/Integer" (1 : Nat)) ∈ lw_all := lw_g (lw_at lw_m3 209 rfl) rfl
theorem q836 : (Jvm.Cond.methodLink "java/lang/Integer" (199 : Nat) ({ cls := "java/lang/Integer", name := "<init>", desc := "(I)V" } : Jvm.MethodName)) ∈ lw_all := lw_g (lw_at lw_m3 210 rfl) rfl
theorem q837 : (Jvm.Cond.instanceMethod ({ cls := "java/lang/Integer", name := "<init>", desc := "(I)V" } : Jvm.MethodName)) ∈ lw_all := lw_g (lw_at lw_m3 211 rfl) rfl
theorem q838 : (Jvm.Cond.code ({ cls := "java/lang/Integer", name := "<init>", desc := "(I)V" } : Jvm.MethodName) prog_26_method_23_code (2 : Nat) (Option.none : Option Jvm.ClassFile.FieldType)) ∈ lw_all := lw_g (lw_at lw_m3 212 rfl) rfl
theorem q839 : (Jvm.Cond.methodLink "java/lang/Integer" (202 : Nat) ({ cls := "java/lang/Number", name := "<init>", desc := "()V" } : Jvm.MethodName)) ∈ lw_all := lw_g (lw_at lw_m3 213 rfl) rfl
theorem q840 : (Jvm.Cond.instanceMethod ({ cls := "java/lang/Number", name := "<init>", desc := "()V" } : Jvm.MethodName)) ∈ lw_all := lw_g (lw_at lw_m3 214 rfl) rfl
theorem q841 : (Jvm.Cond.code ({ cls := "java/lang/Number", name := "<init>", desc := "()V" } : Jvm.MethodName) prog_30_method_1_code (1 : Nat) (Option.none : Option Jvm.ClassFile.FieldType)) ∈ lw_all := lw_g (lw_at lw_m3 215 rfl) rfl
theorem q842 : (Jvm.Cond.methodLink "java/lang/Number" (1 : Nat) ({ cls := "java/lang/Object", name := "<init>", desc := "()V" } : Jvm.MethodName)) ∈ lw_all := lw_g (lw_at lw_m3 216 rfl) rfl
theorem q843 : (Jvm.Cond.fieldLink "java/lang/Integer" (205 : Nat) "java/lang/Integer" "value" "I") ∈ lw_all := lw_g (lw_at lw_m3 217 rfl) rfl
theorem q844 : (Jvm.Cond.laysFinal "java/lang/Integer" "java/lang/Integer" "value" "I") ∈ lw_all := lw_g (lw_at lw_m3 218 rfl) rfl
theorem q845 : (Jvm.Cond.soleField "java/lang/Integer" "value") ∈ lw_all := lw_g (lw_at lw_m3 219 rfl) rfl
theorem q846 : (Jvm.Cond.superclass "java/lang/Integer" "java/lang/Number") ∈ lw_all := lw_g (lw_at lw_m3 220 rfl) rfl
theorem q847 : (Jvm.Cond.methodLink "DawnPerquisite$Chain" (31 : Nat) ({ cls := "java/util/ArrayList", name := "add", desc := "(Ljava/lang/Object;)Z" } : Jvm.MethodName)) ∈ lw_all := lw_g (lw_at lw_m3 221 rfl) rfl
theorem q848 : (Jvm.Cond.methodLink "DawnPerquisite$Tokens" (167 : Nat) ({ cls := "DawnPerquisite$Chain", name := "itself", desc := "()LDawnPerquisite$Sum;" } : Jvm.MethodName)) ∈ lw_all := lw_g (lw_at lw_m3 222 rfl) rfl
theorem q849 : (Jvm.Cond.instanceMethod ({ cls := "DawnPerquisite$Chain", name := "itself", desc := "()LDawnPerquisite$Sum;" } : Jvm.MethodName)) ∈ lw_all := lw_g (lw_at lw_m3 223 rfl) rfl
theorem q850 : (Jvm.Cond.selects "DawnPerquisite$Chain" ({ cls := "DawnPerquisite$Chain", name := "itself", desc := "()LDawnPerquisite$Sum;" } : Jvm.MethodName) ({ cls := "DawnPerquisite$Chain", name := "itself", desc := "()LDawnPerquisite$Sum;" } : Jvm.MethodName)) ∈ lw_all := lw_g (lw_at lw_m3 224 rfl) rfl
theorem q851 : (Jvm.Cond.code ({ cls := "DawnPerquisite$Chain", name := "itself", desc := "()LDawnPerquisite$Sum;" } : Jvm.MethodName) prog_4_method_3_code (1 : Nat) (Option.some (Jvm.ClassFile.FieldType.object "DawnPerquisite$Sum"))) ∈ lw_all := lw_g (lw_at lw_m3 225 rfl) rfl
theorem q852 : (Jvm.Cond.methodLink "DawnPerquisite$Chain" (35 : Nat) ({ cls := "java/util/ArrayList", name := "isEmpty", desc := "()Z" } : Jvm.MethodName)) ∈ lw_all := lw_g (lw_at lw_m3 226 rfl) rfl
theorem q853 : (Jvm.Cond.instanceMethod ({ cls := "java/util/ArrayList", name := "isEmpty", desc := "()Z" } : Jvm.MethodName)) ∈ lw_all := lw_g (lw_at lw_m3 227 rfl) rfl
theorem q854 : (Jvm.Cond.selects "java/util/ArrayList" ({ cls := "java/util/ArrayList", name := "isEmpty", desc := "()Z" } : Jvm.MethodName) ({ cls := "java/util/ArrayList", name := "isEmpty", desc := "()Z" } : Jvm.MethodName)) ∈ lw_all := lw_g (lw_at lw_m3 228 rfl) rfl
theorem q855 : (Jvm.Cond.code ({ cls := "java/util/ArrayList", name := "isEmpty", desc := "()Z" } : Jvm.MethodName) prog_41_method_9_code (1 : Nat) (Option.some Jvm.ClassFile.FieldType.boolean)) ∈ lw_all := lw_g (lw_at lw_m3 229 rfl) rfl
theorem q856 : (Jvm.Cond.methodLink "DawnPerquisite$Tokens" (101 : Nat) ({ cls := "DawnPerquisite$Tokens", name := "doing", desc := "(I)LDawnPerquisite$Doing;" } : Jvm.MethodName)) ∈ lw_all := lw_g (lw_at lw_m3 230 rfl) rfl
theorem q857 : (Jvm.Cond.privateMethod ({ cls := "DawnPerquisite$Tokens", name := "doing", desc := "(I)LDawnPerquisite$Doing;" } : Jvm.MethodName)) ∈ lw_tbl := lw_at lw_m3 231 rfl
theorem q858 : (Jvm.Cond.instanceMethod ({ cls := "DawnPerquisite$Tokens", name := "doing", desc := "(I)LDawnPerquisite$Doing;" } : Jvm.MethodName)) ∈ lw_all := lw_g (lw_at lw_m3 232 rfl) rfl
theorem q859 : (Jvm.Cond.code ({ cls := "DawnPerquisite$Tokens", name := "doing", desc := "(I)LDawnPerquisite$Doing;" } : Jvm.MethodName) prog_16_method_11_code (3 : Nat) (Option.some (Jvm.ClassFile.FieldType.object "DawnPerquisite$Doing"))) ∈ lw_all := lw_g (lw_at lw_m3 233 rfl) rfl
theorem q860 : (Jvm.Cond.classLink "DawnPerquisite$Tokens" (117 : Nat) "DawnPerquisite$Doing") ∈ lw_all := lw_g (lw_at lw_m3 234 rfl) rfl
theorem q861 : (Jvm.Cond.instantiable "DawnPerquisite$Doing" (4 : Nat)) ∈ lw_all := lw_g (lw_at lw_m3 235 rfl) rfl
theorem q862 : (Jvm.Cond.methodLinkNest "DawnPerquisite$Tokens" (119 : Nat) ({ cls := "DawnPerquisite$Doing", name := "<init>", desc := "(IIII)V" } : Jvm.MethodName) "DawnPerquisite") ∈ lw_tbl := lw_at lw_m3 236 rfl
theorem q863 : (Jvm.Cond.instanceMethod ({ cls := "DawnPerquisite$Doing", name := "<init>", desc := "(IIII)V" } : Jvm.MethodName)) ∈ lw_all := lw_g (lw_at lw_m3 237 rfl) rfl
theorem q864 : (Jvm.Cond.code ({ cls := "DawnPerquisite$Doing", name := "<init>", desc := "(IIII)V" } : Jvm.MethodName) prog_6_method_1_code (5 : Nat) (Option.none : Option Jvm.ClassFile.FieldType)) ∈ lw_all := lw_g (lw_at lw_m3 238 rfl) rfl
theorem q865 : (Jvm.Cond.methodLink "DawnPerquisite$Doing" (1 : Nat) ({ cls := "java/lang/Record", name := "<init>", desc := "()V" } : Jvm.MethodName)) ∈ lw_all := lw_g (lw_at lw_m3 239 rfl) rfl
theorem q866 : (Jvm.Cond.fieldLink "DawnPerquisite$Doing" (7 : Nat) "DawnPerquisite$Doing" "sort" "I") ∈ lw_all := lw_g (lw_at lw_m4 0 rfl) rfl
theorem q867 : (Jvm.Cond.fieldLink "DawnPerquisite$Doing" (13 : Nat) "DawnPerquisite$Doing" "a" "I") ∈ lw_all := lw_g (lw_at lw_m4 1 rfl) rfl
theorem q868 : (Jvm.Cond.fieldLink "DawnPerquisite$Doing" (16 : Nat) "DawnPerquisite$Doing" "b" "I") ∈ lw_all := lw_g (lw_at lw_m4 2 rfl) rfl
theorem q869 : (Jvm.Cond.fieldLink "DawnPerquisite$Doing" (19 : Nat) "DawnPerquisite$Doing" "number" "I") ∈ lw_all := lw_g (lw_at lw_m4 3 rfl) rfl
theorem q870 : (Jvm.Cond.laysFinal "DawnPerquisite$Doing" "DawnPerquisite$Doing" "sort" "I") ∈ lw_all := lw_g (lw_at lw_m4 4 rfl) rfl
theorem q871 : (Jvm.Cond.soleField "DawnPerquisite$Doing" "sort") ∈ lw_all := lw_g (lw_at lw_m4 5 rfl) rfl
theorem q872 : (Jvm.Cond.laysFinal "DawnPerquisite$Doing" "DawnPerquisite$Doing" "a" "I") ∈ lw_all := lw_g (lw_at lw_m4 6 rfl) rfl
theorem q873 : (Jvm.Cond.soleField "DawnPerquisite$Doing" "a") ∈ lw_all := lw_g (lw_at lw_m4 7 rfl) rfl
theorem q874 : (Jvm.Cond.laysFinal "DawnPerquisite$Doing" "DawnPerquisite$Doing" "b" "I") ∈ lw_all := lw_g (lw_at lw_m4 8 rfl) rfl
theorem q875 : (Jvm.Cond.soleField "DawnPerquisite$Doing" "b") ∈ lw_all := lw_g (lw_at lw_m4 9 rfl) rfl
theorem q876 : (Jvm.Cond.laysFinal "DawnPerquisite$Doing" "DawnPerquisite$Doing" "number" "I") ∈ lw_all := lw_g (lw_at lw_m4 10 rfl) rfl
theorem q877 : (Jvm.Cond.soleField "DawnPerquisite$Doing" "number") ∈ lw_all := lw_g (lw_at lw_m4 11 rfl) rfl
theorem q878 : (Jvm.Cond.superclass "DawnPerquisite$Doing" "java/lang/Record") ∈ lw_all := lw_g (lw_at lw_m4 12 rfl) rfl
theorem q879 : (Jvm.Cond.methodLink "DawnPerquisiteLaw" (38 : Nat) ({ cls := "DawnPerquisite", name := "fault", desc := "(I)I" } : Jvm.MethodName)) ∈ lw_all := lw_g (lw_at lw_m4 13 rfl) rfl
theorem q880 : (Jvm.Cond.instanceMethod ({ cls := "DawnPerquisite", name := "fault", desc := "(I)I" } : Jvm.MethodName)) ∈ lw_all := lw_g (lw_at lw_m4 14 rfl) rfl
theorem q881 : (Jvm.Cond.selects "DawnPerquisite" ({ cls := "DawnPerquisite", name := "fault", desc := "(I)I" } : Jvm.MethodName) ({ cls := "DawnPerquisite", name := "fault", desc := "(I)I" } : Jvm.MethodName)) ∈ lw_all := lw_g (lw_at lw_m4 15 rfl) rfl
theorem q882 : (Jvm.Cond.code ({ cls := "DawnPerquisite", name := "fault", desc := "(I)I" } : Jvm.MethodName) prog_1_method_15_code (2 : Nat) (Option.some Jvm.ClassFile.FieldType.int)) ∈ lw_all := lw_g (lw_at lw_m4 16 rfl) rfl
theorem q883 : (Jvm.Cond.methodLink "DawnPerquisiteLaw" (42 : Nat) ({ cls := "DawnPerquisite", name := "by", desc := "(I)Z" } : Jvm.MethodName)) ∈ lw_all := lw_g (lw_at lw_m4 17 rfl) rfl
theorem q884 : (Jvm.Cond.instanceMethod ({ cls := "DawnPerquisite", name := "by", desc := "(I)Z" } : Jvm.MethodName)) ∈ lw_all := lw_g (lw_at lw_m4 18 rfl) rfl
theorem q885 : (Jvm.Cond.selects "DawnPerquisite" ({ cls := "DawnPerquisite", name := "by", desc := "(I)Z" } : Jvm.MethodName) ({ cls := "DawnPerquisite", name := "by", desc := "(I)Z" } : Jvm.MethodName)) ∈ lw_all := lw_g (lw_at lw_m4 19 rfl) rfl
theorem q886 : (Jvm.Cond.code ({ cls := "DawnPerquisite", name := "by", desc := "(I)Z" } : Jvm.MethodName) prog_1_method_17_code (2 : Nat) (Option.some Jvm.ClassFile.FieldType.boolean)) ∈ lw_all := lw_g (lw_at lw_m4 20 rfl) rfl
theorem q887 : (Jvm.Cond.methodLink "DawnPerquisite" (124 : Nat) ({ cls := "DawnPerquisite", name := "isText", desc := "(I)Z" } : Jvm.MethodName)) ∈ lw_all := lw_g (lw_at lw_m4 21 rfl) rfl
theorem q888 : (Jvm.Cond.privateMethod ({ cls := "DawnPerquisite", name := "isText", desc := "(I)Z" } : Jvm.MethodName)) ∈ lw_tbl := lw_at lw_m4 22 rfl
theorem q889 : (Jvm.Cond.instanceMethod ({ cls := "DawnPerquisite", name := "isText", desc := "(I)Z" } : Jvm.MethodName)) ∈ lw_all := lw_g (lw_at lw_m4 23 rfl) rfl
theorem q890 : (Jvm.Cond.code ({ cls := "DawnPerquisite", name := "isText", desc := "(I)Z" } : Jvm.MethodName) prog_1_method_16_code (2 : Nat) (Option.some Jvm.ClassFile.FieldType.boolean)) ∈ lw_all := lw_g (lw_at lw_m4 24 rfl) rfl
theorem q891 : (Jvm.Cond.methodLink "DawnPerquisiteLaw" (47 : Nat) ({ cls := "DawnPerquisite", name := "sell", desc := "(I)I" } : Jvm.MethodName)) ∈ lw_all := lw_g (lw_at lw_m4 25 rfl) rfl
theorem q892 : (Jvm.Cond.instanceMethod ({ cls := "DawnPerquisite", name := "sell", desc := "(I)I" } : Jvm.MethodName)) ∈ lw_all := lw_g (lw_at lw_m4 26 rfl) rfl
theorem q893 : (Jvm.Cond.selects "DawnPerquisite" ({ cls := "DawnPerquisite", name := "sell", desc := "(I)I" } : Jvm.MethodName) ({ cls := "DawnPerquisite", name := "sell", desc := "(I)I" } : Jvm.MethodName)) ∈ lw_all := lw_g (lw_at lw_m4 27 rfl) rfl
theorem q894 : (Jvm.Cond.code ({ cls := "DawnPerquisite", name := "sell", desc := "(I)I" } : Jvm.MethodName) prog_1_method_34_code (2 : Nat) (Option.some Jvm.ClassFile.FieldType.int)) ∈ lw_all := lw_g (lw_at lw_m4 28 rfl) rfl
theorem q895 : (Jvm.Cond.methodLink "DawnPerquisite" (209 : Nat) ({ cls := "DawnPerquisite", name := "canSell", desc := "(I)Z" } : Jvm.MethodName)) ∈ lw_all := lw_g (lw_at lw_m4 29 rfl) rfl
theorem q896 : (Jvm.Cond.privateMethod ({ cls := "DawnPerquisite", name := "canSell", desc := "(I)Z" } : Jvm.MethodName)) ∈ lw_tbl := lw_at lw_m4 30 rfl
theorem q897 : (Jvm.Cond.instanceMethod ({ cls := "DawnPerquisite", name := "canSell", desc := "(I)Z" } : Jvm.MethodName)) ∈ lw_all := lw_g (lw_at lw_m4 31 rfl) rfl
theorem q898 : (Jvm.Cond.code ({ cls := "DawnPerquisite", name := "canSell", desc := "(I)Z" } : Jvm.MethodName) prog_1_method_28_code (2 : Nat) (Option.some Jvm.ClassFile.FieldType.boolean)) ∈ lw_all := lw_g (lw_at lw_m4 32 rfl) rfl
theorem q899 : (Jvm.Cond.methodLink "DawnPerquisite" (184 : Nat) ({ cls := "DawnPerquisite", name := "isBuyer", desc := "(I)Z" } : Jvm.MethodName)) ∈ lw_all := lw_g (lw_at lw_m4 33 rfl) rfl
theorem q900 : (Jvm.Cond.privateMethod ({ cls := "DawnPerquisite", name := "isBuyer", desc := "(I)Z" } : Jvm.MethodName)) ∈ lw_tbl := lw_at lw_m4 34 rfl
theorem q901 : (Jvm.Cond.instanceMethod ({ cls := "DawnPerquisite", name := "isBuyer", desc := "(I)Z" } : Jvm.MethodName)) ∈ lw_all := lw_g (lw_at lw_m4 35 rfl) rfl
theorem q902 : (Jvm.Cond.code ({ cls := "DawnPerquisite", name := "isBuyer", desc := "(I)Z" } : Jvm.MethodName) prog_1_method_6_code (2 : Nat) (Option.some Jvm.ClassFile.FieldType.boolean)) ∈ lw_all := lw_g (lw_at lw_m4 36 rfl) rfl
theorem q903 : (Jvm.Cond.methodLink "DawnPerquisite" (187 : Nat) ({ cls := "DawnPerquisite", name := "doesWant", desc := "(II)Z" } : Jvm.MethodName)) ∈ lw_all := lw_g (lw_at lw_m4 37 rfl) rfl
theorem q904 : (Jvm.Cond.privateMethod ({ cls := "DawnPerquisite", name := "doesWant", desc := "(II)Z" } : Jvm.MethodName)) ∈ lw_tbl := lw_at lw_m4 38 rfl
theorem q905 : (Jvm.Cond.instanceMethod ({ cls := "DawnPerquisite", name := "doesWant", desc := "(II)Z" } : Jvm.MethodName)) ∈ lw_all := lw_g (lw_at lw_m4 39 rfl) rfl
theorem q906 : (Jvm.Cond.code ({ cls := "DawnPerquisite", name := "doesWant", desc := "(II)Z" } : Jvm.MethodName) prog_1_method_27_code (3 : Nat) (Option.some Jvm.ClassFile.FieldType.boolean)) ∈ lw_all := lw_g (lw_at lw_m4 40 rfl) rfl
theorem q907 : (Jvm.Cond.methodLink "DawnPerquisite" (180 : Nat) ({ cls := "DawnPerquisite", name := "has", desc := "(II)Z" } : Jvm.MethodName)) ∈ lw_all := lw_g (lw_at lw_m4 41 rfl) rfl
theorem q908 : (Jvm.Cond.static ({ cls := "DawnPerquisite", name := "has", desc := "(II)Z" } : Jvm.MethodName)) ∈ lw_all := lw_g (lw_at lw_m4 42 rfl) rfl
theorem q909 : (Jvm.Cond.code ({ cls := "DawnPerquisite", name := "has", desc := "(II)Z" } : Jvm.MethodName) prog_1_method_2_code (2 : Nat) (Option.some Jvm.ClassFile.FieldType.boolean)) ∈ lw_all := lw_g (lw_at lw_m4 43 rfl) rfl
theorem q910 : (Jvm.Cond.methodLink "DawnPerquisite" (190 : Nat) ({ cls := "DawnPerquisite", name := "slicesOf", desc := "(I)I" } : Jvm.MethodName)) ∈ lw_all := lw_g (lw_at lw_m4 44 rfl) rfl
theorem q911 : (Jvm.Cond.privateMethod ({ cls := "DawnPerquisite", name := "slicesOf", desc := "(I)I" } : Jvm.MethodName)) ∈ lw_tbl := lw_at lw_m4 45 rfl
theorem q912 : (Jvm.Cond.instanceMethod ({ cls := "DawnPerquisite", name := "slicesOf", desc := "(I)I" } : Jvm.MethodName)) ∈ lw_all := lw_g (lw_at lw_m4 46 rfl) rfl
theorem q913 : (Jvm.Cond.code ({ cls := "DawnPerquisite", name := "slicesOf", desc := "(I)I" } : Jvm.MethodName) prog_1_method_21_code (2 : Nat) (Option.some Jvm.ClassFile.FieldType.int)) ∈ lw_all := lw_g (lw_at lw_m4 47 rfl) rfl
theorem q914 : (Jvm.Cond.methodLink "DawnPerquisite" (135 : Nat) ({ cls := "DawnPerquisite", name := "slicesBy", desc := "([II)I" } : Jvm.MethodName)) ∈ lw_all := lw_g (lw_at lw_m4 48 rfl) rfl
theorem q915 : (Jvm.Cond.static ({ cls := "DawnPerquisite", name := "slicesBy", desc := "([II)I" } : Jvm.MethodName)) ∈ lw_all := lw_g (lw_at lw_m4 49 rfl) rfl
theorem q916 : (Jvm.Cond.code ({ cls := "DawnPerquisite", name := "slicesBy", desc := "([II)I" } : Jvm.MethodName) prog_1_method_19_code (4 : Nat) (Option.some Jvm.ClassFile.FieldType.int)) ∈ lw_all := lw_g (lw_at lw_m4 50 rfl) rfl
theorem q917 : (Jvm.Cond.methodLink "DawnPerquisite" (193 : Nat) ({ cls := "DawnPerquisite", name := "bidsNow", desc := "(II)I" } : Jvm.MethodName)) ∈ lw_all := lw_g (lw_at lw_m4 51 rfl) rfl
theorem q918 : (Jvm.Cond.privateMethod ({ cls := "DawnPerquisite", name := "bidsNow", desc := "(II)I" } : Jvm.MethodName)) ∈ lw_tbl := lw_at lw_m4 52 rfl
theorem q919 : (Jvm.Cond.instanceMethod ({ cls := "DawnPerquisite", name := "bidsNow", desc := "(II)I" } : Jvm.MethodName)) ∈ lw_all := lw_g (lw_at lw_m4 53 rfl) rfl
theorem q920 : (Jvm.Cond.code ({ cls := "DawnPerquisite", name := "bidsNow", desc := "(II)I" } : Jvm.MethodName) prog_1_method_24_code (3 : Nat) (Option.some Jvm.ClassFile.FieldType.int)) ∈ lw_all := lw_g (lw_at lw_m4 54 rfl) rfl
theorem q921 : (Jvm.Cond.methodLink "DawnPerquisite" (170 : Nat) ({ cls := "DawnPerquisite", name := "rules", desc := "()LDawnPerquisite$Text;" } : Jvm.MethodName)) ∈ lw_all := lw_g (lw_at lw_m4 55 rfl) rfl
theorem q922 : (Jvm.Cond.privateMethod ({ cls := "DawnPerquisite", name := "rules", desc := "()LDawnPerquisite$Text;" } : Jvm.MethodName)) ∈ lw_tbl := lw_at lw_m4 56 rfl
theorem q923 : (Jvm.Cond.instanceMethod ({ cls := "DawnPerquisite", name := "rules", desc := "()LDawnPerquisite$Text;" } : Jvm.MethodName)) ∈ lw_all := lw_g (lw_at lw_m4 57 rfl) rfl
theorem q924 : (Jvm.Cond.code ({ cls := "DawnPerquisite", name := "rules", desc := "()LDawnPerquisite$Text;" } : Jvm.MethodName) prog_1_method_18_code (1 : Nat) (Option.some (Jvm.ClassFile.FieldType.object "DawnPerquisite$Text"))) ∈ lw_all := lw_g (lw_at lw_m4 58 rfl) rfl
theorem q925 : (Jvm.Cond.fieldLink "DawnPerquisite" (127 : Nat) "DawnPerquisite" "NOTHING" "LDawnPerquisite$Text;") ∈ lw_all := lw_g (lw_at lw_m4 59 rfl) rfl
theorem q926 : (Jvm.Cond.laysStatic "DawnPerquisite" "NOTHING" "LDawnPerquisite$Text;") ∈ lw_tbl := lw_at lw_m4 60 rfl
theorem q927 : (Jvm.Cond.methodLink "DawnPerquisite" (176 : Nat) ({ cls := "DawnPerquisite", name := "bidsBy", desc := "(LDawnPerquisite$Text;[III)I" } : Jvm.MethodName)) ∈ lw_all := lw_g (lw_at lw_m4 61 rfl) rfl
theorem q928 : (Jvm.Cond.privateMethod ({ cls := "DawnPerquisite", name := "bidsBy", desc := "(LDawnPerquisite$Text;[III)I" } : Jvm.MethodName)) ∈ lw_tbl := lw_at lw_m4 62 rfl
theorem q929 : (Jvm.Cond.instanceMethod ({ cls := "DawnPerquisite", name := "bidsBy", desc := "(LDawnPerquisite$Text;[III)I" } : Jvm.MethodName)) ∈ lw_all := lw_g (lw_at lw_m4 63 rfl) rfl
theorem q930 : (Jvm.Cond.code ({ cls := "DawnPerquisite", name := "bidsBy", desc := "(LDawnPerquisite$Text;[III)I" } : Jvm.MethodName) prog_1_method_23_code (5 : Nat) (Option.some Jvm.ClassFile.FieldType.int)) ∈ lw_all := lw_g (lw_at lw_m4 64 rfl) rfl
theorem q931 : (Jvm.Cond.methodLink "DawnPerquisite" (150 : Nat) ({ cls := "DawnPerquisite", name := "namesOf", desc := "([III)V" } : Jvm.MethodName)) ∈ lw_all := lw_g (lw_at lw_m4 65 rfl) rfl
theorem q932 : (Jvm.Cond.privateMethod ({ cls := "DawnPerquisite", name := "namesOf", desc := "([III)V" } : Jvm.MethodName)) ∈ lw_tbl := lw_at lw_m4 66 rfl
theorem q933 : (Jvm.Cond.instanceMethod ({ cls := "DawnPerquisite", name := "namesOf", desc := "([III)V" } : Jvm.MethodName)) ∈ lw_all := lw_g (lw_at lw_m4 67 rfl) rfl
theorem q934 : (Jvm.Cond.code ({ cls := "DawnPerquisite", name := "namesOf", desc := "([III)V" } : Jvm.MethodName) prog_1_method_22_code (5 : Nat) (Option.none : Option Jvm.ClassFile.FieldType)) ∈ lw_all := lw_g (lw_at lw_m4 68 rfl) rfl
theorem q935 : (Jvm.Cond.methodLink "DawnPerquisite" (131 : Nat) ({ cls := "DawnPerquisite", name := "longOf", desc := "(I)I" } : Jvm.MethodName)) ∈ lw_all := lw_g (lw_at lw_m4 69 rfl) rfl
theorem q936 : (Jvm.Cond.privateMethod ({ cls := "DawnPerquisite", name := "longOf", desc := "(I)I" } : Jvm.MethodName)) ∈ lw_tbl := lw_at lw_m4 70 rfl
theorem q937 : (Jvm.Cond.instanceMethod ({ cls := "DawnPerquisite", name := "longOf", desc := "(I)I" } : Jvm.MethodName)) ∈ lw_all := lw_g (lw_at lw_m4 71 rfl) rfl
theorem q938 : (Jvm.Cond.code ({ cls := "DawnPerquisite", name := "longOf", desc := "(I)I" } : Jvm.MethodName) prog_1_method_20_code (2 : Nat) (Option.some Jvm.ClassFile.FieldType.int)) ∈ lw_all := lw_g (lw_at lw_m4 72 rfl) rfl
theorem q939 : (Jvm.Cond.methodLink "DawnPerquisite" (139 : Nat) ({ cls := "java/lang/Integer", name := "bitCount", desc := "(I)I" } : Jvm.MethodName)) ∈ lw_all := lw_g (lw_at lw_m4 73 rfl) rfl
theorem q940 : (Jvm.Cond.static ({ cls := "java/lang/Integer", name := "bitCount", desc := "(I)I" } : Jvm.MethodName)) ∈ lw_all := lw_g (lw_at lw_m4 74 rfl) rfl
theorem q941 : (Jvm.Cond.code ({ cls := "java/lang/Integer", name := "bitCount", desc := "(I)I" } : Jvm.MethodName) prog_26_method_49_code (1 : Nat) (Option.some Jvm.ClassFile.FieldType.int)) ∈ lw_all := lw_g (lw_at lw_m4 75 rfl) rfl
theorem q942 : (Jvm.Cond.constant "java/lang/Integer" (265 : Nat) (1431655765 : Int32)) ∈ lw_all := lw_g (lw_at lw_m4 76 rfl) rfl
theorem q943 : (Jvm.Cond.constant "java/lang/Integer" (266 : Nat) (858993459 : Int32)) ∈ lw_all := lw_g (lw_at lw_m4 77 rfl) rfl
theorem q944 : (Jvm.Cond.constant "java/lang/Integer" (267 : Nat) (252645135 : Int32)) ∈ lw_all := lw_g (lw_at lw_m4 78 rfl) rfl
theorem q945 : (Jvm.Cond.methodLink "DawnPerquisite" (144 : Nat) ({ cls := "java/lang/System", name := "arraycopy", desc := "(Ljava/lang/Object;ILjava/lang/Object;II)V" } : Jvm.MethodName)) ∈ lw_all := lw_g (lw_at lw_m4 79 rfl) rfl
theorem q946 : (Jvm.Cond.interfaceEntry "DawnPerquisite" (160 : Nat)) ∈ lw_tbl := lw_at lw_m4 80 rfl
theorem q947 : (Jvm.Cond.methodLink "DawnPerquisite" (160 : Nat) ({ cls := "DawnPerquisite$Sum", name := "of", desc := "([I)J" } : Jvm.MethodName)) ∈ lw_all := lw_g (lw_at lw_m4 81 rfl) rfl
theorem q948 : (Jvm.Cond.interfaceMethod "DawnPerquisite$Sum" "DawnPerquisite$Sum" "of" "([I)J") ∈ lw_tbl := lw_at lw_m4 82 rfl
theorem q949 : (Jvm.Cond.declares ({ cls := "DawnPerquisite$Sum", name := "of", desc := "([I)J" } : Jvm.MethodName)) ∈ lw_tbl := lw_at lw_m4 83 rfl
theorem q950 : (Jvm.Cond.castable "DawnPerquisite$Chain" "DawnPerquisite$Sum") ∈ lw_tbl := lw_at lw_m4 84 rfl
theorem q951 : (Jvm.Cond.selects "DawnPerquisite$Chain" ({ cls := "DawnPerquisite$Sum", name := "of", desc := "([I)J" } : Jvm.MethodName) ({ cls := "DawnPerquisite$Chain", name := "of", desc := "([I)J" } : Jvm.MethodName)) ∈ lw_all := lw_g (lw_at lw_m4 85 rfl) rfl
theorem q952 : (Jvm.Cond.unhidden "DawnPerquisite$Chain" "of" "([I)J") ∈ lw_tbl := lw_at lw_m4 86 rfl
theorem q953 : (Jvm.Cond.instanceMethod ({ cls := "DawnPerquisite$Chain", name := "of", desc := "([I)J" } : Jvm.MethodName)) ∈ lw_all := lw_g (lw_at lw_m4 87 rfl) rfl
theorem q954 : (Jvm.Cond.publicMethod ({ cls := "DawnPerquisite$Chain", name := "of", desc := "([I)J" } : Jvm.MethodName)) ∈ lw_tbl := lw_at lw_m4 88 rfl
theorem q955 : (Jvm.Cond.code ({ cls := "DawnPerquisite$Chain", name := "of", desc := "([I)J" } : Jvm.MethodName) prog_4_method_4_code (10 : Nat) (Option.some Jvm.ClassFile.FieldType.long)) ∈ lw_all := lw_g (lw_at lw_m4 89 rfl) rfl
theorem q956 : (Jvm.Cond.interfaceEntry "DawnPerquisite$Chain" (39 : Nat)) ∈ lw_tbl := lw_at lw_m4 90 rfl
theorem q957 : (Jvm.Cond.methodLink "DawnPerquisite$Chain" (39 : Nat) ({ cls := "DawnPerquisite$Sum", name := "of", desc := "([I)J" } : Jvm.MethodName)) ∈ lw_all := lw_g (lw_at lw_m4 91 rfl) rfl
theorem q958 : (Jvm.Cond.castable "DawnPerquisite$If" "DawnPerquisite$Sum") ∈ lw_tbl := lw_at lw_m4 92 rfl
theorem q959 : (Jvm.Cond.selects "DawnPerquisite$If" ({ cls := "DawnPerquisite$Sum", name := "of", desc := "([I)J" } : Jvm.MethodName) ({ cls := "DawnPerquisite$If", name := "of", desc := "([I)J" } : Jvm.MethodName)) ∈ lw_all := lw_g (lw_at lw_m4 93 rfl) rfl
theorem q960 : (Jvm.Cond.unhidden "DawnPerquisite$If" "of" "([I)J") ∈ lw_tbl := lw_at lw_m4 94 rfl
theorem q961 : (Jvm.Cond.instanceMethod ({ cls := "DawnPerquisite$If", name := "of", desc := "([I)J" } : Jvm.MethodName)) ∈ lw_all := lw_g (lw_at lw_m4 95 rfl) rfl
theorem q962 : (Jvm.Cond.publicMethod ({ cls := "DawnPerquisite$If", name := "of", desc := "([I)J" } : Jvm.MethodName)) ∈ lw_tbl := lw_at lw_m4 96 rfl
theorem q963 : (Jvm.Cond.code ({ cls := "DawnPerquisite$If", name := "of", desc := "([I)J" } : Jvm.MethodName) prog_7_method_2_code (2 : Nat) (Option.some Jvm.ClassFile.FieldType.long)) ∈ lw_all := lw_g (lw_at lw_m4 97 rfl) rfl
theorem q964 : (Jvm.Cond.interfaceEntry "DawnPerquisite$If" (20 : Nat)) ∈ lw_tbl := lw_at lw_m4 98 rfl
theorem q965 : (Jvm.Cond.methodLink "DawnPerquisite$If" (20 : Nat) ({ cls := "DawnPerquisite$Asked", name := "is", desc := "([I)Z" } : Jvm.MethodName)) ∈ lw_all := lw_g (lw_at lw_m4 99 rfl) rfl
theorem q966 : (Jvm.Cond.interfaceMethod "DawnPerquisite$Asked" "DawnPerquisite$Asked" "is" "([I)Z") ∈ lw_tbl := lw_at lw_m4 100 rfl
theorem q967 : (Jvm.Cond.declares ({ cls := "DawnPerquisite$Asked", name := "is", desc := "([I)Z" } : Jvm.MethodName)) ∈ lw_tbl := lw_at lw_m4 101 rfl
theorem q968 : (Jvm.Cond.castable "DawnPerquisite$All" "DawnPerquisite$Asked") ∈ lw_tbl := lw_at lw_m4 102 rfl
theorem q969 : (Jvm.Cond.selects "DawnPerquisite$All" ({ cls := "DawnPerquisite$Asked", name := "is", desc := "([I)Z" } : Jvm.MethodName) ({ cls := "DawnPerquisite$All", name := "is", desc := "([I)Z" } : Jvm.MethodName)) ∈ lw_all := lw_g (lw_at lw_m4 103 rfl) rfl
theorem q970 : (Jvm.Cond.unhidden "DawnPerquisite$All" "is" "([I)Z") ∈ lw_tbl := lw_at lw_m4 104 rfl
theorem q971 : (Jvm.Cond.instanceMethod ({ cls := "DawnPerquisite$All", name := "is", desc := "([I)Z" } : Jvm.MethodName)) ∈ lw_all := lw_g (lw_at lw_m4 105 rfl) rfl
theorem q972 : (Jvm.Cond.publicMethod ({ cls := "DawnPerquisite$All", name := "is", desc := "([I)Z" } : Jvm.MethodName)) ∈ lw_tbl := lw_at lw_m4 106 rfl
theorem q973 : (Jvm.Cond.code ({ cls := "DawnPerquisite$All", name := "is", desc := "([I)Z" } : Jvm.MethodName) prog_2_method_2_code (4 : Nat) (Option.some Jvm.ClassFile.FieldType.boolean)) ∈ lw_all := lw_g (lw_at lw_m4 107 rfl) rfl
theorem q974 : (Jvm.Cond.methodLink "DawnPerquisite$All" (17 : Nat) ({ cls := "java/util/ArrayList", name := "size", desc := "()I" } : Jvm.MethodName)) ∈ lw_all := lw_g (lw_at lw_m4 108 rfl) rfl
theorem q975 : (Jvm.Cond.methodLink "DawnPerquisite$All" (23 : Nat) ({ cls := "java/util/ArrayList", name := "get", desc := "(I)Ljava/lang/Object;" } : Jvm.MethodName)) ∈ lw_all := lw_g (lw_at lw_m4 109 rfl) rfl
theorem q976 : (Jvm.Cond.classLink "DawnPerquisite$All" (27 : Nat) "DawnPerquisite$Asked") ∈ lw_all := lw_g (lw_at lw_m4 110 rfl) rfl
theorem q977 : (Jvm.Cond.interfaceEntry "DawnPerquisite$All" (29 : Nat)) ∈ lw_tbl := lw_at lw_m4 111 rfl
theorem q978 : (Jvm.Cond.methodLink "DawnPerquisite$All" (29 : Nat) ({ cls := "DawnPerquisite$Asked", name := "is", desc := "([I)Z" } : Jvm.MethodName)) ∈ lw_all := lw_g (lw_at lw_m4 112 rfl) rfl
theorem q979 : (Jvm.Cond.castable "DawnPerquisite$Compared" "DawnPerquisite$Asked") ∈ lw_tbl := lw_at lw_m4 113 rfl
theorem q980 : (Jvm.Cond.selects "DawnPerquisite$Compared" ({ cls := "DawnPerquisite$Asked", name := "is", desc := "([I)Z" } : Jvm.MethodName) ({ cls := "DawnPerquisite$Compared", name := "is", desc := "([I)Z" } : Jvm.MethodName)) ∈ lw_all := lw_g (lw_at lw_m4 114 rfl) rfl
theorem q981 : (Jvm.Cond.unhidden "DawnPerquisite$Compared" "is" "([I)Z") ∈ lw_tbl := lw_at lw_m4 115 rfl
theorem q982 : (Jvm.Cond.instanceMethod ({ cls := "DawnPerquisite$Compared", name := "is", desc := "([I)Z" } : Jvm.MethodName)) ∈ lw_all := lw_g (lw_at lw_m4 116 rfl) rfl
theorem q983 : (Jvm.Cond.publicMethod ({ cls := "DawnPerquisite$Compared", name := "is", desc := "([I)Z" } : Jvm.MethodName)) ∈ lw_tbl := lw_at lw_m4 117 rfl
theorem q984 : (Jvm.Cond.code ({ cls := "DawnPerquisite$Compared", name := "is", desc := "([I)Z" } : Jvm.MethodName) prog_5_method_2_code (4 : Nat) (Option.some Jvm.ClassFile.FieldType.boolean)) ∈ lw_all := lw_g (lw_at lw_m4 118 rfl) rfl
theorem q985 : (Jvm.Cond.interfaceEntry "DawnPerquisite$Compared" (20 : Nat)) ∈ lw_tbl := lw_at lw_m4 119 rfl
theorem q986 : (Jvm.Cond.methodLink "DawnPerquisite$Compared" (20 : Nat) ({ cls := "DawnPerquisite$Sum", name := "of", desc := "([I)J" } : Jvm.MethodName)) ∈ lw_all := lw_g (lw_at lw_m4 120 rfl) rfl
theorem q987 : (Jvm.Cond.castable "DawnPerquisite$Minus" "DawnPerquisite$Sum") ∈ lw_tbl := lw_at lw_m4 121 rfl
theorem q988 : (Jvm.Cond.selects "DawnPerquisite$Minus" ({ cls := "DawnPerquisite$Sum", name := "of", desc := "([I)J" } : Jvm.MethodName) ({ cls := "DawnPerquisite$Minus", name := "of", desc := "([I)J" } : Jvm.MethodName)) ∈ lw_all := lw_g (lw_at lw_m4 122 rfl) rfl
theorem q989 : (Jvm.Cond.unhidden "DawnPerquisite$Minus" "of" "([I)J") ∈ lw_tbl := lw_at lw_m4 123 rfl
theorem q990 : (Jvm.Cond.instanceMethod ({ cls := "DawnPerquisite$Minus", name := "of", desc := "([I)J" } : Jvm.MethodName)) ∈ lw_all := lw_g (lw_at lw_m4 124 rfl) rfl
theorem q991 : (Jvm.Cond.publicMethod ({ cls := "DawnPerquisite$Minus", name := "of", desc := "([I)J" } : Jvm.MethodName)) ∈ lw_tbl := lw_at lw_m4 125 rfl
theorem q992 : (Jvm.Cond.code ({ cls := "DawnPerquisite$Minus", name := "of", desc := "([I)J" } : Jvm.MethodName) prog_8_method_2_code (2 : Nat) (Option.some Jvm.ClassFile.FieldType.long)) ∈ lw_all := lw_g (lw_at lw_m4 126 rfl) rfl
theorem q993 : (Jvm.Cond.interfaceEntry "DawnPerquisite$Minus" (13 : Nat)) ∈ lw_tbl := lw_at lw_m4 127 rfl
theorem q994 : (Jvm.Cond.methodLink "DawnPerquisite$Minus" (13 : Nat) ({ cls := "DawnPerquisite$Sum", name := "of", desc := "([I)J" } : Jvm.MethodName)) ∈ lw_all := lw_g (lw_at lw_m4 128 rfl) rfl
theorem q995 : (Jvm.Cond.castable "DawnPerquisite$Name" "DawnPerquisite$Sum") ∈ lw_tbl := lw_at lw_m4 129 rfl
theorem q996 : (Jvm.Cond.selects "DawnPerquisite$Name" ({ cls := "DawnPerquisite$Sum", name := "of", desc := "([I)J" } : Jvm.MethodName) ({ cls := "DawnPerquisite$Name", name := "of", desc := "([I)J" } : Jvm.MethodName)) ∈ lw_all := lw_g (lw_at lw_m4 130 rfl) rfl
theorem q997 : (Jvm.Cond.unhidden "DawnPerquisite$Name" "of" "([I)J") ∈ lw_tbl := lw_at lw_m4 131 rfl
theorem q998 : (Jvm.Cond.instanceMethod ({ cls := "DawnPerquisite$Name", name := "of", desc := "([I)J" } : Jvm.MethodName)) ∈ lw_all := lw_g (lw_at lw_m4 132 rfl) rfl
theorem q999 : (Jvm.Cond.publicMethod ({ cls := "DawnPerquisite$Name", name := "of", desc := "([I)J" } : Jvm.MethodName)) ∈ lw_tbl := lw_at lw_m4 133 rfl
theorem q1000 : (Jvm.Cond.code ({ cls := "DawnPerquisite$Name", name := "of", desc := "([I)J" } : Jvm.MethodName) prog_9_method_2_code (2 : Nat) (Option.some Jvm.ClassFile.FieldType.long)) ∈ lw_all := lw_g (lw_at lw_m4 134 rfl) rfl
theorem q1001 : (Jvm.Cond.castable "DawnPerquisite$Plain" "DawnPerquisite$Sum") ∈ lw_tbl := lw_at lw_m4 135 rfl
theorem q1002 : (Jvm.Cond.selects "DawnPerquisite$Plain" ({ cls := "DawnPerquisite$Sum", name := "of", desc := "([I)J" } : Jvm.MethodName) ({ cls := "DawnPerquisite$Plain", name := "of", desc := "([I)J" } : Jvm.MethodName)) ∈ lw_all := lw_g (lw_at lw_m4 136 rfl) rfl
theorem q1003 : (Jvm.Cond.unhidden "DawnPerquisite$Plain" "of" "([I)J") ∈ lw_tbl := lw_at lw_m4 137 rfl
theorem q1004 : (Jvm.Cond.instanceMethod ({ cls := "DawnPerquisite$Plain", name := "of", desc := "([I)J" } : Jvm.MethodName)) ∈ lw_all := lw_g (lw_at lw_m4 138 rfl) rfl
theorem q1005 : (Jvm.Cond.publicMethod ({ cls := "DawnPerquisite$Plain", name := "of", desc := "([I)J" } : Jvm.MethodName)) ∈ lw_tbl := lw_at lw_m4 139 rfl
theorem q1006 : (Jvm.Cond.code ({ cls := "DawnPerquisite$Plain", name := "of", desc := "([I)J" } : Jvm.MethodName) prog_11_method_2_code (2 : Nat) (Option.some Jvm.ClassFile.FieldType.long)) ∈ lw_all := lw_g (lw_at lw_m4 140 rfl) rfl
theorem q1007 : (Jvm.Cond.castable "DawnPerquisite$Purse" "DawnPerquisite$Sum") ∈ lw_tbl := lw_at lw_m4 141 rfl
theorem q1008 : (Jvm.Cond.selects "DawnPerquisite$Purse" ({ cls := "DawnPerquisite$Sum", name := "of", desc := "([I)J" } : Jvm.MethodName) ({ cls := "DawnPerquisite$Purse", name := "of", desc := "([I)J" } : Jvm.MethodName)) ∈ lw_all := lw_g (lw_at lw_m4 142 rfl) rfl
theorem q1009 : (Jvm.Cond.unhidden "DawnPerquisite$Purse" "of" "([I)J") ∈ lw_tbl := lw_at lw_m4 143 rfl
theorem q1010 : (Jvm.Cond.instanceMethod ({ cls := "DawnPerquisite$Purse", name := "of", desc := "([I)J" } : Jvm.MethodName)) ∈ lw_all := lw_g (lw_at lw_m4 144 rfl) rfl
theorem q1011 : (Jvm.Cond.publicMethod ({ cls := "DawnPerquisite$Purse", name := "of", desc := "([I)J" } : Jvm.MethodName)) ∈ lw_tbl := lw_at lw_m4 145 rfl
theorem q1012 : (Jvm.Cond.code ({ cls := "DawnPerquisite$Purse", name := "of", desc := "([I)J" } : Jvm.MethodName) prog_12_method_2_code (4 : Nat) (Option.some Jvm.ClassFile.FieldType.long)) ∈ lw_all := lw_g (lw_at lw_m4 146 rfl) rfl
theorem q1013 : (Jvm.Cond.interfaceEntry "DawnPerquisite$Purse" (15 : Nat)) ∈ lw_tbl := lw_at lw_m4 147 rfl
theorem q1014 : (Jvm.Cond.methodLink "DawnPerquisite$Purse" (15 : Nat) ({ cls := "DawnPerquisite$Sum", name := "of", desc := "([I)J" } : Jvm.MethodName)) ∈ lw_all := lw_g (lw_at lw_m4 148 rfl) rfl
theorem q1015 : (Jvm.Cond.castable "DawnPerquisite$Worth" "DawnPerquisite$Sum") ∈ lw_tbl := lw_at lw_m4 149 rfl
theorem q1016 : (Jvm.Cond.selects "DawnPerquisite$Worth" ({ cls := "DawnPerquisite$Sum", name := "of", desc := "([I)J" } : Jvm.MethodName) ({ cls := "DawnPerquisite$Worth", name := "of", desc := "([I)J" } : Jvm.MethodName)) ∈ lw_all := lw_g (lw_at lw_m4 150 rfl) rfl
theorem q1017 : (Jvm.Cond.unhidden "DawnPerquisite$Worth" "of" "([I)J") ∈ lw_tbl := lw_at lw_m4 151 rfl
theorem q1018 : (Jvm.Cond.instanceMethod ({ cls := "DawnPerquisite$Worth", name := "of", desc := "([I)J" } : Jvm.MethodName)) ∈ lw_all := lw_g (lw_at lw_m4 152 rfl) rfl
theorem q1019 : (Jvm.Cond.publicMethod ({ cls := "DawnPerquisite$Worth", name := "of", desc := "([I)J" } : Jvm.MethodName)) ∈ lw_tbl := lw_at lw_m4 153 rfl
theorem q1020 : (Jvm.Cond.code ({ cls := "DawnPerquisite$Worth", name := "of", desc := "([I)J" } : Jvm.MethodName) prog_17_method_2_code (4 : Nat) (Option.some Jvm.ClassFile.FieldType.long)) ∈ lw_all := lw_g (lw_at lw_m4 154 rfl) rfl
theorem q1021 : (Jvm.Cond.interfaceEntry "DawnPerquisite$Worth" (15 : Nat)) ∈ lw_tbl := lw_at lw_m4 155 rfl
theorem q1022 : (Jvm.Cond.methodLink "DawnPerquisite$Worth" (15 : Nat) ({ cls := "DawnPerquisite$Sum", name := "of", desc := "([I)J" } : Jvm.MethodName)) ∈ lw_all := lw_g (lw_at lw_m4 156 rfl) rfl
theorem q1023 : (Jvm.Cond.constantLong "DawnPerquisite$Worth" (21 : Nat) (5 : Int64)) ∈ lw_all := lw_g (lw_at lw_m4 157 rfl) rfl
theorem q1024 : (Jvm.Cond.constantLong "DawnPerquisite$Purse" (21 : Nat) (6 : Int64)) ∈ lw_all := lw_g (lw_at lw_m4 158 rfl) rfl
theorem q1025 : (Jvm.Cond.castable "DawnPerquisite$Not" "DawnPerquisite$Asked") ∈ lw_tbl := lw_at lw_m4 159 rfl
theorem q1026 : (Jvm.Cond.selects "DawnPerquisite$Not" ({ cls := "DawnPerquisite$Asked", name := "is", desc := "([I)Z" } : Jvm.MethodName) ({ cls := "DawnPerquisite$Not", name := "is", desc := "([I)Z" } : Jvm.MethodName)) ∈ lw_all := lw_g (lw_at lw_m4 160 rfl) rfl
theorem q1027 : (Jvm.Cond.unhidden "DawnPerquisite$Not" "is" "([I)Z") ∈ lw_tbl := lw_at lw_m4 161 rfl
theorem q1028 : (Jvm.Cond.instanceMethod ({ cls := "DawnPerquisite$Not", name := "is", desc := "([I)Z" } : Jvm.MethodName)) ∈ lw_all := lw_g (lw_at lw_m4 162 rfl) rfl
theorem q1029 : (Jvm.Cond.publicMethod ({ cls := "DawnPerquisite$Not", name := "is", desc := "([I)Z" } : Jvm.MethodName)) ∈ lw_tbl := lw_at lw_m4 163 rfl
theorem q1030 : (Jvm.Cond.code ({ cls := "DawnPerquisite$Not", name := "is", desc := "([I)Z" } : Jvm.MethodName) prog_10_method_2_code (2 : Nat) (Option.some Jvm.ClassFile.FieldType.boolean)) ∈ lw_all := lw_g (lw_at lw_m4 164 rfl) rfl
theorem q1031 : (Jvm.Cond.interfaceEntry "DawnPerquisite$Not" (13 : Nat)) ∈ lw_tbl := lw_at lw_m4 165 rfl
theorem q1032 : (Jvm.Cond.methodLink "DawnPerquisite$Not" (13 : Nat) ({ cls := "DawnPerquisite$Asked", name := "is", desc := "([I)Z" } : Jvm.MethodName)) ∈ lw_all := lw_g (lw_at lw_m4 166 rfl) rfl
theorem q1033 : (Jvm.Cond.interfaceEntry "DawnPerquisite$If" (26 : Nat)) ∈ lw_tbl := lw_at lw_m4 167 rfl
theorem q1034 : (Jvm.Cond.methodLink "DawnPerquisite$If" (26 : Nat) ({ cls := "DawnPerquisite$Sum", name := "of", desc := "([I)J" } : Jvm.MethodName)) ∈ lw_all := lw_g (lw_at lw_m4 168 rfl) rfl
theorem q1035 : (Jvm.Cond.methodLink "DawnPerquisite$Chain" (45 : Nat) ({ cls := "java/util/ArrayList", name := "size", desc := "()I" } : Jvm.MethodName)) ∈ lw_all := lw_g (lw_at lw_m4 169 rfl) rfl
theorem q1036 : (Jvm.Cond.methodLink "DawnPerquisite$Chain" (49 : Nat) ({ cls := "java/util/ArrayList", name := "get", desc := "(I)Ljava/lang/Object;" } : Jvm.MethodName)) ∈ lw_all := lw_g (lw_at lw_m4 170 rfl) rfl
theorem q1037 : (Jvm.Cond.classLink "DawnPerquisite$Chain" (40 : Nat) "DawnPerquisite$Sum") ∈ lw_all := lw_g (lw_at lw_m4 171 rfl) rfl
theorem q1038 : (Jvm.Cond.classLink "DawnPerquisite$Chain" (26 : Nat) "java/lang/Integer") ∈ lw_all := lw_g (lw_at lw_m4 172 rfl) rfl
theorem q1039 : (Jvm.Cond.methodLink "DawnPerquisite$Chain" (53 : Nat) ({ cls := "java/lang/Integer", name := "intValue", desc := "()I" } : Jvm.MethodName)) ∈ lw_all := lw_g (lw_at lw_m4 173 rfl) rfl
theorem q1040 : (Jvm.Cond.instanceMethod ({ cls := "java/lang/Integer", name := "intValue", desc := "()I" } : Jvm.MethodName)) ∈ lw_all := lw_g (lw_at lw_m4 174 rfl) rfl
theorem q1041 : (Jvm.Cond.selects "java/lang/Integer" ({ cls := "java/lang/Integer", name := "intValue", desc := "()I" } : Jvm.MethodName) ({ cls := "java/lang/Integer", name := "intValue", desc := "()I" } : Jvm.MethodName)) ∈ lw_all := lw_g (lw_at lw_m4 175 rfl) rfl
theorem q1042 : (Jvm.Cond.code ({ cls := "java/lang/Integer", name := "intValue", desc := "()I" } : Jvm.MethodName) prog_26_method_27_code (1 : Nat) (Option.some Jvm.ClassFile.FieldType.int)) ∈ lw_all := lw_g (lw_at lw_m4 176 rfl) rfl
theorem q1043 : (Jvm.Cond.constantLong "DawnPerquisite$Chain" (56 : Nat) (-1000000 : Int64)) ∈ lw_all := lw_g (lw_at lw_m4 177 rfl) rfl
theorem q1044 : (Jvm.Cond.constantLong "DawnPerquisite$Chain" (58 : Nat) (1000000 : Int64)) ∈ lw_all := lw_g (lw_at lw_m4 178 rfl) rfl
theorem q1045 : (Jvm.Cond.methodLink "DawnPerquisite$Chain" (60 : Nat) ({ cls := "java/lang/Math", name := "min", desc := "(JJ)J" } : Jvm.MethodName)) ∈ lw_all := lw_g (lw_at lw_m4 179 rfl) rfl
theorem q1046 : (Jvm.Cond.static ({ cls := "java/lang/Math", name := "min", desc := "(JJ)J" } : Jvm.MethodName)) ∈ lw_all := lw_g (lw_at lw_m4 180 rfl) rfl
theorem q1047 : (Jvm.Cond.code ({ cls := "java/lang/Math", name := "min", desc := "(JJ)J" } : Jvm.MethodName) prog_29_method_70_code (4 : Nat) (Option.some Jvm.ClassFile.FieldType.long)) ∈ lw_all := lw_g (lw_at lw_m4 181 rfl) rfl
theorem q1048 : (Jvm.Cond.methodLink "DawnPerquisite$Chain" (66 : Nat) ({ cls := "java/lang/Math", name := "max", desc := "(JJ)J" } : Jvm.MethodName)) ∈ lw_all := lw_g (lw_at lw_m4 182 rfl) rfl
theorem q1049 : (Jvm.Cond.static ({ cls := "java/lang/Math", name := "max", desc := "(JJ)J" } : Jvm.MethodName)) ∈ lw_all := lw_g (lw_at lw_m4 183 rfl) rfl
theorem q1050 : (Jvm.Cond.code ({ cls := "java/lang/Math", name := "max", desc := "(JJ)J" } : Jvm.MethodName) prog_29_method_66_code (4 : Nat) (Option.some Jvm.ClassFile.FieldType.long)) ∈ lw_all := lw_g (lw_at lw_m4 184 rfl) rfl
theorem q1051 : (Jvm.Cond.methodLink "DawnPerquisite" (166 : Nat) ({ cls := "DawnPerquisite", name := "held", desc := "(JII)I" } : Jvm.MethodName)) ∈ lw_all := lw_g (lw_at lw_m4 185 rfl) rfl
theorem q1052 : (Jvm.Cond.static ({ cls := "DawnPerquisite", name := "held", desc := "(JII)I" } : Jvm.MethodName)) ∈ lw_all := lw_g (lw_at lw_m4 186 rfl) rfl
theorem q1053 : (Jvm.Cond.code ({ cls := "DawnPerquisite", name := "held", desc := "(JII)I" } : Jvm.MethodName) prog_1_method_3_code (4 : Nat) (Option.some Jvm.ClassFile.FieldType.int)) ∈ lw_all := lw_g (lw_at lw_m4 187 rfl) rfl
theorem q1054 : (Jvm.Cond.methodLink "DawnPerquisite" (3 : Nat) ({ cls := "java/lang/Math", name := "min", desc := "(JJ)J" } : Jvm.MethodName)) ∈ lw_all := lw_g (lw_at lw_m4 188 rfl) rfl
theorem q1055 : (Jvm.Cond.methodLink "DawnPerquisite" (9 : Nat) ({ cls := "java/lang/Math", name := "max", desc := "(JJ)J" } : Jvm.MethodName)) ∈ lw_all := lw_g (lw_at lw_m4 189 rfl) rfl
theorem q1056 : (Jvm.Cond.methodLink "DawnPerquisite" (212 : Nat) ({ cls := "DawnPerquisite$State", name := "keeps", desc := "()V" } : Jvm.MethodName)) ∈ lw_all := lw_g (lw_at lw_m4 190 rfl) rfl
theorem q1057 : (Jvm.Cond.instanceMethod ({ cls := "DawnPerquisite$State", name := "keeps", desc := "()V" } : Jvm.MethodName)) ∈ lw_all := lw_g (lw_at lw_m4 191 rfl) rfl
theorem q1058 : (Jvm.Cond.selects "DawnPerquisite$State" ({ cls := "DawnPerquisite$State", name := "keeps", desc := "()V" } : Jvm.MethodName) ({ cls := "DawnPerquisite$State", name := "keeps", desc := "()V" } : Jvm.MethodName)) ∈ lw_all := lw_g (lw_at lw_m4 192 rfl) rfl
theorem q1059 : (Jvm.Cond.code ({ cls := "DawnPerquisite$State", name := "keeps", desc := "()V" } : Jvm.MethodName) prog_13_method_5_code (2 : Nat) (Option.none : Option Jvm.ClassFile.FieldType)) ∈ lw_all := lw_g (lw_at lw_m4 193 rfl) rfl
theorem q1060 : (Jvm.Cond.methodLink "DawnPerquisite" (215 : Nat) ({ cls := "DawnPerquisite", name := "sells", desc := "(I)I" } : Jvm.MethodName)) ∈ lw_all := lw_g (lw_at lw_m4 194 rfl) rfl
theorem q1061 : (Jvm.Cond.privateMethod ({ cls := "DawnPerquisite", name := "sells", desc := "(I)I" } : Jvm.MethodName)) ∈ lw_tbl := lw_at lw_m4 195 rfl
theorem q1062 : (Jvm.Cond.instanceMethod ({ cls := "DawnPerquisite", name := "sells", desc := "(I)I" } : Jvm.MethodName)) ∈ lw_all := lw_g (lw_at lw_m4 196 rfl) rfl
theorem q1063 : (Jvm.Cond.code ({ cls := "DawnPerquisite", name := "sells", desc := "(I)I" } : Jvm.MethodName) prog_1_method_29_code (3 : Nat) (Option.some Jvm.ClassFile.FieldType.int)) ∈ lw_all := lw_g (lw_at lw_m4 197 rfl) rfl
theorem q1064 : (Jvm.Cond.methodLink "DawnPerquisite" (197 : Nat) ({ cls := "java/util/Arrays", name := "fill", desc := "([IIII)V" } : Jvm.MethodName)) ∈ lw_all := lw_g (lw_at lw_m4 198 rfl) rfl
theorem q1065 : (Jvm.Cond.constant "DawnPerquisite" (203 : Nat) (99999 : Int32)) ∈ lw_all := lw_g (lw_at lw_m4 199 rfl) rfl
theorem q1066 : (Jvm.Cond.methodLink "DawnPerquisite" (204 : Nat) ({ cls := "java/lang/Math", name := "min", desc := "(II)I" } : Jvm.MethodName)) ∈ lw_all := lw_g (lw_at lw_m4 200 rfl) rfl
theorem q1067 : (Jvm.Cond.methodLink "DawnPerquisite" (206 : Nat) ({ cls := "DawnPerquisite", name := "writes", desc := "([IIII)V" } : Jvm.MethodName)) ∈ lw_all := lw_g (lw_at lw_m4 201 rfl) rfl
theorem q1068 : (Jvm.Cond.static ({ cls := "DawnPerquisite", name := "writes", desc := "([IIII)V" } : Jvm.MethodName)) ∈ lw_all := lw_g (lw_at lw_m4 202 rfl) rfl
theorem q1069 : (Jvm.Cond.code ({ cls := "DawnPerquisite", name := "writes", desc := "([IIII)V" } : Jvm.MethodName) prog_1_method_26_code (5 : Nat) (Option.none : Option Jvm.ClassFile.FieldType)) ∈ lw_all := lw_g (lw_at lw_m4 203 rfl) rfl
theorem q1070 : (Jvm.Cond.methodLink "DawnPerquisiteLaw" (51 : Nat) ({ cls := "DawnPerquisite", name := "give", desc := "(I)Z" } : Jvm.MethodName)) ∈ lw_all := lw_g (lw_at lw_m4 204 rfl) rfl
theorem q1071 : (Jvm.Cond.instanceMethod ({ cls := "DawnPerquisite", name := "give", desc := "(I)Z" } : Jvm.MethodName)) ∈ lw_all := lw_g (lw_at lw_m4 205 rfl) rfl
theorem q1072 : (Jvm.Cond.selects "DawnPerquisite" ({ cls := "DawnPerquisite", name := "give", desc := "(I)Z" } : Jvm.MethodName) ({ cls := "DawnPerquisite", name := "give", desc := "(I)Z" } : Jvm.MethodName)) ∈ lw_all := lw_g (lw_at lw_m4 206 rfl) rfl
theorem q1073 : (Jvm.Cond.code ({ cls := "DawnPerquisite", name := "give", desc := "(I)Z" } : Jvm.MethodName) prog_1_method_35_code (2 : Nat) (Option.some Jvm.ClassFile.FieldType.boolean)) ∈ lw_all := lw_g (lw_at lw_m4 207 rfl) rfl
theorem q1074 : (Jvm.Cond.methodLink "DawnPerquisite" (218 : Nat) ({ cls := "DawnPerquisite", name := "canGive", desc := "(I)Z" } : Jvm.MethodName)) ∈ lw_all := lw_g (lw_at lw_m4 208 rfl) rfl
theorem q1075 : (Jvm.Cond.privateMethod ({ cls := "DawnPerquisite", name := "canGive", desc := "(I)Z" } : Jvm.MethodName)) ∈ lw_tbl := lw_at lw_m4 209 rfl
theorem q1076 : (Jvm.Cond.instanceMethod ({ cls := "DawnPerquisite", name := "canGive", desc := "(I)Z" } : Jvm.MethodName)) ∈ lw_all := lw_g (lw_at lw_m4 210 rfl) rfl
theorem q1077 : (Jvm.Cond.code ({ cls := "DawnPerquisite", name := "canGive", desc := "(I)Z" } : Jvm.MethodName) prog_1_method_30_code (2 : Nat) (Option.some Jvm.ClassFile.FieldType.boolean)) ∈ lw_all := lw_g (lw_at lw_m4 211 rfl) rfl
theorem q1078 : (Jvm.Cond.methodLink "DawnPerquisite" (221 : Nat) ({ cls := "DawnPerquisite", name := "gives", desc := "(I)V" } : Jvm.MethodName)) ∈ lw_all := lw_g (lw_at lw_m4 212 rfl) rfl
theorem q1079 : (Jvm.Cond.privateMethod ({ cls := "DawnPerquisite", name := "gives", desc := "(I)V" } : Jvm.MethodName)) ∈ lw_tbl := lw_at lw_m4 213 rfl
theorem q1080 : (Jvm.Cond.instanceMethod ({ cls := "DawnPerquisite", name := "gives", desc := "(I)V" } : Jvm.MethodName)) ∈ lw_all := lw_g (lw_at lw_m4 214 rfl) rfl
theorem q1081 : (Jvm.Cond.code ({ cls := "DawnPerquisite", name := "gives", desc := "(I)V" } : Jvm.MethodName) prog_1_method_31_code (2 : Nat) (Option.none : Option Jvm.ClassFile.FieldType)) ∈ lw_all := lw_g (lw_at lw_m4 215 rfl) rfl
theorem q1082 : (Jvm.Cond.methodLink "DawnPerquisiteLaw" (55 : Nat) ({ cls := "DawnPerquisite", name := "turn", desc := "(I)Z" } : Jvm.MethodName)) ∈ lw_all := lw_g (lw_at lw_m4 216 rfl) rfl
theorem q1083 : (Jvm.Cond.instanceMethod ({ cls := "DawnPerquisite", name := "turn", desc := "(I)Z" } : Jvm.MethodName)) ∈ lw_all := lw_g (lw_at lw_m4 217 rfl) rfl
theorem q1084 : (Jvm.Cond.selects "DawnPerquisite" ({ cls := "DawnPerquisite", name := "turn", desc := "(I)Z" } : Jvm.MethodName) ({ cls := "DawnPerquisite", name := "turn", desc := "(I)Z" } : Jvm.MethodName)) ∈ lw_all := lw_g (lw_at lw_m4 218 rfl) rfl
theorem q1085 : (Jvm.Cond.code ({ cls := "DawnPerquisite", name := "turn", desc := "(I)Z" } : Jvm.MethodName) prog_1_method_36_code (2 : Nat) (Option.some Jvm.ClassFile.FieldType.boolean)) ∈ lw_all := lw_g (lw_at lw_m4 219 rfl) rfl
theorem q1086 : (Jvm.Cond.methodLink "DawnPerquisite" (224 : Nat) ({ cls := "DawnPerquisite", name := "canTurn", desc := "(I)Z" } : Jvm.MethodName)) ∈ lw_all := lw_g (lw_at lw_m4 220 rfl) rfl
theorem q1087 : (Jvm.Cond.privateMethod ({ cls := "DawnPerquisite", name := "canTurn", desc := "(I)Z" } : Jvm.MethodName)) ∈ lw_tbl := lw_at lw_m4 221 rfl
theorem q1088 : (Jvm.Cond.instanceMethod ({ cls := "DawnPerquisite", name := "canTurn", desc := "(I)Z" } : Jvm.MethodName)) ∈ lw_all := lw_g (lw_at lw_m4 222 rfl) rfl
theorem q1089 : (Jvm.Cond.code ({ cls := "DawnPerquisite", name := "canTurn", desc := "(I)Z" } : Jvm.MethodName) prog_1_method_32_code (2 : Nat) (Option.some Jvm.ClassFile.FieldType.boolean)) ∈ lw_all := lw_g (lw_at lw_m4 223 rfl) rfl
theorem q1090 : (Jvm.Cond.methodLink "DawnPerquisite" (227 : Nat) ({ cls := "DawnPerquisite", name := "turns", desc := "(I)V" } : Jvm.MethodName)) ∈ lw_all := lw_g (lw_at lw_m4 224 rfl) rfl
theorem q1091 : (Jvm.Cond.privateMethod ({ cls := "DawnPerquisite", name := "turns", desc := "(I)V" } : Jvm.MethodName)) ∈ lw_tbl := lw_at lw_m4 225 rfl
theorem q1092 : (Jvm.Cond.instanceMethod ({ cls := "DawnPerquisite", name := "turns", desc := "(I)V" } : Jvm.MethodName)) ∈ lw_all := lw_g (lw_at lw_m4 226 rfl) rfl
theorem q1093 : (Jvm.Cond.code ({ cls := "DawnPerquisite", name := "turns", desc := "(I)V" } : Jvm.MethodName) prog_1_method_33_code (3 : Nat) (Option.none : Option Jvm.ClassFile.FieldType)) ∈ lw_all := lw_g (lw_at lw_m4 227 rfl) rfl
theorem q1094 : (Jvm.Cond.methodLink "DawnPerquisiteLaw" (59 : Nat) ({ cls := "DawnPerquisite", name := "pass", desc := "(II)I" } : Jvm.MethodName)) ∈ lw_all := lw_g (lw_at lw_m4 228 rfl) rfl
theorem q1095 : (Jvm.Cond.instanceMethod ({ cls := "DawnPerquisite", name := "pass", desc := "(II)I" } : Jvm.MethodName)) ∈ lw_all := lw_g (lw_at lw_m4 229 rfl) rfl
theorem q1096 : (Jvm.Cond.selects "DawnPerquisite" ({ cls := "DawnPerquisite", name := "pass", desc := "(II)I" } : Jvm.MethodName) ({ cls := "DawnPerquisite", name := "pass", desc := "(II)I" } : Jvm.MethodName)) ∈ lw_all := lw_g (lw_at lw_m4 230 rfl) rfl
theorem q1097 : (Jvm.Cond.code ({ cls := "DawnPerquisite", name := "pass", desc := "(II)I" } : Jvm.MethodName) prog_1_method_39_code (5 : Nat) (Option.some Jvm.ClassFile.FieldType.int)) ∈ lw_all := lw_g (lw_at lw_m4 231 rfl) rfl
theorem q1098 : (Jvm.Cond.methodLink "DawnPerquisite" (233 : Nat) ({ cls := "DawnPerquisite", name := "canPass", desc := "(II)Z" } : Jvm.MethodName)) ∈ lw_all := lw_g (lw_at lw_m4 232 rfl) rfl
theorem q1099 : (Jvm.Cond.privateMethod ({ cls := "DawnPerquisite", name := "canPass", desc := "(II)Z" } : Jvm.MethodName)) ∈ lw_tbl := lw_at lw_m4 233 rfl
theorem q1100 : (Jvm.Cond.instanceMethod ({ cls := "DawnPerquisite", name := "canPass", desc := "(II)Z" } : Jvm.MethodName)) ∈ lw_all := lw_g (lw_at lw_m4 234 rfl) rfl
theorem q1101 : (Jvm.Cond.code ({ cls := "DawnPerquisite", name := "canPass", desc := "(II)Z" } : Jvm.MethodName) prog_1_method_38_code (4 : Nat) (Option.some Jvm.ClassFile.FieldType.boolean)) ∈ lw_all := lw_g (lw_at lw_m4 235 rfl) rfl
theorem q1102 : (Jvm.Cond.methodLink "DawnPerquisite" (230 : Nat) ({ cls := "DawnPerquisite", name := "priceOf", desc := "(II)I" } : Jvm.MethodName)) ∈ lw_all := lw_g (lw_at lw_m4 236 rfl) rfl
theorem q1103 : (Jvm.Cond.privateMethod ({ cls := "DawnPerquisite", name := "priceOf", desc := "(II)I" } : Jvm.MethodName)) ∈ lw_tbl := lw_at lw_m4 237 rfl
theorem q1104 : (Jvm.Cond.instanceMethod ({ cls := "DawnPerquisite", name := "priceOf", desc := "(II)I" } : Jvm.MethodName)) ∈ lw_all := lw_g (lw_at lw_m4 238 rfl) rfl
theorem q1105 : (Jvm.Cond.code ({ cls := "DawnPerquisite", name := "priceOf", desc := "(II)I" } : Jvm.MethodName) prog_1_method_37_code (3 : Nat) (Option.some Jvm.ClassFile.FieldType.int)) ∈ lw_all := lw_g (lw_at lw_m4 239 rfl) rfl
theorem q1106 : (Jvm.Cond.methodLink "DawnPerquisiteLaw" (64 : Nat) ({ cls := "DawnPerquisite", name := "day", desc := "(I)I" } : Jvm.MethodName)) ∈ lw_all := lw_g (lw_at lw_m5 0 rfl) rfl
theorem q1107 : (Jvm.Cond.instanceMethod ({ cls := "DawnPerquisite", name := "day", desc := "(I)I" } : Jvm.MethodName)) ∈ lw_all := lw_g (lw_at lw_m5 1 rfl) rfl
theorem q1108 : (Jvm.Cond.selects "DawnPerquisite" ({ cls := "DawnPerquisite", name := "day", desc := "(I)I" } : Jvm.MethodName) ({ cls := "DawnPerquisite", name := "day", desc := "(I)I" } : Jvm.MethodName)) ∈ lw_all := lw_g (lw_at lw_m5 2 rfl) rfl
theorem q1109 : (Jvm.Cond.code ({ cls := "DawnPerquisite", name := "day", desc := "(I)I" } : Jvm.MethodName) prog_1_method_46_code (4 : Nat) (Option.some Jvm.ClassFile.FieldType.int)) ∈ lw_all := lw_g (lw_at lw_m5 3 rfl) rfl
theorem q1110 : (Jvm.Cond.methodLink "DawnPerquisite" (253 : Nat) ({ cls := "DawnPerquisite", name := "passes", desc := "([I)I" } : Jvm.MethodName)) ∈ lw_all := lw_g (lw_at lw_m5 4 rfl) rfl
theorem q1111 : (Jvm.Cond.privateMethod ({ cls := "DawnPerquisite", name := "passes", desc := "([I)I" } : Jvm.MethodName)) ∈ lw_tbl := lw_at lw_m5 5 rfl
theorem q1112 : (Jvm.Cond.instanceMethod ({ cls := "DawnPerquisite", name := "passes", desc := "([I)I" } : Jvm.MethodName)) ∈ lw_all := lw_g (lw_at lw_m5 6 rfl) rfl
theorem q1113 : (Jvm.Cond.code ({ cls := "DawnPerquisite", name := "passes", desc := "([I)I" } : Jvm.MethodName) prog_1_method_45_code (3 : Nat) (Option.some Jvm.ClassFile.FieldType.int)) ∈ lw_all := lw_g (lw_at lw_m5 7 rfl) rfl
theorem q1114 : (Jvm.Cond.methodLink "DawnPerquisite" (244 : Nat) ({ cls := "DawnPerquisite", name := "earnsOf", desc := "([II)I" } : Jvm.MethodName)) ∈ lw_all := lw_g (lw_at lw_m5 8 rfl) rfl
theorem q1115 : (Jvm.Cond.privateMethod ({ cls := "DawnPerquisite", name := "earnsOf", desc := "([II)I" } : Jvm.MethodName)) ∈ lw_tbl := lw_at lw_m5 9 rfl
theorem q1116 : (Jvm.Cond.instanceMethod ({ cls := "DawnPerquisite", name := "earnsOf", desc := "([II)I" } : Jvm.MethodName)) ∈ lw_all := lw_g (lw_at lw_m5 10 rfl) rfl
theorem q1117 : (Jvm.Cond.code ({ cls := "DawnPerquisite", name := "earnsOf", desc := "([II)I" } : Jvm.MethodName) prog_1_method_25_code (3 : Nat) (Option.some Jvm.ClassFile.FieldType.int)) ∈ lw_all := lw_g (lw_at lw_m5 11 rfl) rfl
theorem q1118 : (Jvm.Cond.methodLink "DawnPerquisite" (236 : Nat) ({ cls := "DawnPerquisite", name := "toldOdds", desc := "()I" } : Jvm.MethodName)) ∈ lw_all := lw_g (lw_at lw_m5 12 rfl) rfl
theorem q1119 : (Jvm.Cond.privateMethod ({ cls := "DawnPerquisite", name := "toldOdds", desc := "()I" } : Jvm.MethodName)) ∈ lw_tbl := lw_at lw_m5 13 rfl
theorem q1120 : (Jvm.Cond.instanceMethod ({ cls := "DawnPerquisite", name := "toldOdds", desc := "()I" } : Jvm.MethodName)) ∈ lw_all := lw_g (lw_at lw_m5 14 rfl) rfl
theorem q1121 : (Jvm.Cond.code ({ cls := "DawnPerquisite", name := "toldOdds", desc := "()I" } : Jvm.MethodName) prog_1_method_41_code (3 : Nat) (Option.some Jvm.ClassFile.FieldType.int)) ∈ lw_all := lw_g (lw_at lw_m5 15 rfl) rfl
theorem q1122 : (Jvm.Cond.methodLink "DawnPerquisite" (247 : Nat) ({ cls := "DawnPerquisite", name := "drawn", desc := "([II)I" } : Jvm.MethodName)) ∈ lw_all := lw_g (lw_at lw_m5 16 rfl) rfl
theorem q1123 : (Jvm.Cond.static ({ cls := "DawnPerquisite", name := "drawn", desc := "([II)I" } : Jvm.MethodName)) ∈ lw_all := lw_g (lw_at lw_m5 17 rfl) rfl
theorem q1124 : (Jvm.Cond.code ({ cls := "DawnPerquisite", name := "drawn", desc := "([II)I" } : Jvm.MethodName) prog_1_method_40_code (3 : Nat) (Option.some Jvm.ClassFile.FieldType.int)) ∈ lw_all := lw_g (lw_at lw_m5 18 rfl) rfl
theorem q1125 : (Jvm.Cond.methodLink "DawnPerquisite" (250 : Nat) ({ cls := "DawnPerquisite", name := "sortBy", desc := "(I)I" } : Jvm.MethodName)) ∈ lw_all := lw_g (lw_at lw_m5 19 rfl) rfl
theorem q1126 : (Jvm.Cond.privateMethod ({ cls := "DawnPerquisite", name := "sortBy", desc := "(I)I" } : Jvm.MethodName)) ∈ lw_tbl := lw_at lw_m5 20 rfl
theorem q1127 : (Jvm.Cond.instanceMethod ({ cls := "DawnPerquisite", name := "sortBy", desc := "(I)I" } : Jvm.MethodName)) ∈ lw_all := lw_g (lw_at lw_m5 21 rfl) rfl
theorem q1128 : (Jvm.Cond.code ({ cls := "DawnPerquisite", name := "sortBy", desc := "(I)I" } : Jvm.MethodName) prog_1_method_44_code (4 : Nat) (Option.some Jvm.ClassFile.FieldType.int)) ∈ lw_all := lw_g (lw_at lw_m5 22 rfl) rfl
theorem q1129 : (Jvm.Cond.methodLink "DawnPerquisite" (241 : Nat) ({ cls := "DawnPerquisite", name := "oddsOf", desc := "(I)I" } : Jvm.MethodName)) ∈ lw_all := lw_g (lw_at lw_m5 23 rfl) rfl
theorem q1130 : (Jvm.Cond.privateMethod ({ cls := "DawnPerquisite", name := "oddsOf", desc := "(I)I" } : Jvm.MethodName)) ∈ lw_tbl := lw_at lw_m5 24 rfl
theorem q1131 : (Jvm.Cond.instanceMethod ({ cls := "DawnPerquisite", name := "oddsOf", desc := "(I)I" } : Jvm.MethodName)) ∈ lw_all := lw_g (lw_at lw_m5 25 rfl) rfl
theorem q1132 : (Jvm.Cond.code ({ cls := "DawnPerquisite", name := "oddsOf", desc := "(I)I" } : Jvm.MethodName) prog_1_method_42_code (2 : Nat) (Option.some Jvm.ClassFile.FieldType.int)) ∈ lw_all := lw_g (lw_at lw_m5 26 rfl) rfl
theorem q1133 : (Jvm.Cond.methodLink "DawnPerquisiteLaw" (68 : Nat) ({ cls := "DawnPerquisite", name := "played", desc := "(I)I" } : Jvm.MethodName)) ∈ lw_all := lw_g (lw_at lw_m5 27 rfl) rfl
theorem q1134 : (Jvm.Cond.instanceMethod ({ cls := "DawnPerquisite", name := "played", desc := "(I)I" } : Jvm.MethodName)) ∈ lw_all := lw_g (lw_at lw_m5 28 rfl) rfl
theorem q1135 : (Jvm.Cond.selects "DawnPerquisite" ({ cls := "DawnPerquisite", name := "played", desc := "(I)I" } : Jvm.MethodName) ({ cls := "DawnPerquisite", name := "played", desc := "(I)I" } : Jvm.MethodName)) ∈ lw_all := lw_g (lw_at lw_m5 29 rfl) rfl
theorem q1136 : (Jvm.Cond.code ({ cls := "DawnPerquisite", name := "played", desc := "(I)I" } : Jvm.MethodName) prog_1_method_49_code (4 : Nat) (Option.some Jvm.ClassFile.FieldType.int)) ∈ lw_all := lw_g (lw_at lw_m5 30 rfl) rfl
theorem q1137 : (Jvm.Cond.methodLink "DawnPerquisite" (293 : Nat) ({ cls := "java/util/ArrayList", name := "size", desc := "()I" } : Jvm.MethodName)) ∈ lw_all := lw_g (lw_at lw_m5 31 rfl) rfl
theorem q1138 : (Jvm.Cond.methodLink "DawnPerquisite" (298 : Nat) ({ cls := "java/util/ArrayList", name := "get", desc := "(I)Ljava/lang/Object;" } : Jvm.MethodName)) ∈ lw_all := lw_g (lw_at lw_m5 32 rfl) rfl
theorem q1139 : (Jvm.Cond.classLink "DawnPerquisite" (261 : Nat) "DawnPerquisite$Doing") ∈ lw_all := lw_g (lw_at lw_m5 33 rfl) rfl
theorem q1140 : (Jvm.Cond.methodLink "DawnPerquisite" (302 : Nat) ({ cls := "DawnPerquisite", name := "does", desc := "(LDawnPerquisite$Doing;)Z" } : Jvm.MethodName)) ∈ lw_all := lw_g (lw_at lw_m5 34 rfl) rfl
theorem q1141 : (Jvm.Cond.privateMethod ({ cls := "DawnPerquisite", name := "does", desc := "(LDawnPerquisite$Doing;)Z" } : Jvm.MethodName)) ∈ lw_tbl := lw_at lw_m5 35 rfl
theorem q1142 : (Jvm.Cond.instanceMethod ({ cls := "DawnPerquisite", name := "does", desc := "(LDawnPerquisite$Doing;)Z" } : Jvm.MethodName)) ∈ lw_all := lw_g (lw_at lw_m5 36 rfl) rfl
theorem q1143 : (Jvm.Cond.code ({ cls := "DawnPerquisite", name := "does", desc := "(LDawnPerquisite$Doing;)Z" } : Jvm.MethodName) prog_1_method_48_code (2 : Nat) (Option.some Jvm.ClassFile.FieldType.boolean)) ∈ lw_all := lw_g (lw_at lw_m5 37 rfl) rfl
theorem q1144 : (Jvm.Cond.methodLink "DawnPerquisite" (260 : Nat) ({ cls := "DawnPerquisite$Doing", name := "sort", desc := "()I" } : Jvm.MethodName)) ∈ lw_all := lw_g (lw_at lw_m5 38 rfl) rfl
theorem q1145 : (Jvm.Cond.instanceMethod ({ cls := "DawnPerquisite$Doing", name := "sort", desc := "()I" } : Jvm.MethodName)) ∈ lw_all := lw_g (lw_at lw_m5 39 rfl) rfl
theorem q1146 : (Jvm.Cond.selects "DawnPerquisite$Doing" ({ cls := "DawnPerquisite$Doing", name := "sort", desc := "()I" } : Jvm.MethodName) ({ cls := "DawnPerquisite$Doing", name := "sort", desc := "()I" } : Jvm.MethodName)) ∈ lw_all := lw_g (lw_at lw_m5 40 rfl) rfl
theorem q1147 : (Jvm.Cond.code ({ cls := "DawnPerquisite$Doing", name := "sort", desc := "()I" } : Jvm.MethodName) prog_6_method_5_code (1 : Nat) (Option.some Jvm.ClassFile.FieldType.int)) ∈ lw_all := lw_g (lw_at lw_m5 41 rfl) rfl
theorem q1148 : (Jvm.Cond.methodLink "DawnPerquisite" (265 : Nat) ({ cls := "DawnPerquisite$Doing", name := "a", desc := "()I" } : Jvm.MethodName)) ∈ lw_all := lw_g (lw_at lw_m5 42 rfl) rfl
theorem q1149 : (Jvm.Cond.instanceMethod ({ cls := "DawnPerquisite$Doing", name := "a", desc := "()I" } : Jvm.MethodName)) ∈ lw_all := lw_g (lw_at lw_m5 43 rfl) rfl
theorem q1150 : (Jvm.Cond.selects "DawnPerquisite$Doing" ({ cls := "DawnPerquisite$Doing", name := "a", desc := "()I" } : Jvm.MethodName) ({ cls := "DawnPerquisite$Doing", name := "a", desc := "()I" } : Jvm.MethodName)) ∈ lw_all := lw_g (lw_at lw_m5 44 rfl) rfl
theorem q1151 : (Jvm.Cond.code ({ cls := "DawnPerquisite$Doing", name := "a", desc := "()I" } : Jvm.MethodName) prog_6_method_6_code (1 : Nat) (Option.some Jvm.ClassFile.FieldType.int)) ∈ lw_all := lw_g (lw_at lw_m5 45 rfl) rfl
theorem q1152 : (Jvm.Cond.methodLink "DawnPerquisite" (268 : Nat) ({ cls := "DawnPerquisite$Doing", name := "b", desc := "()I" } : Jvm.MethodName)) ∈ lw_all := lw_g (lw_at lw_m5 46 rfl) rfl
theorem q1153 : (Jvm.Cond.instanceMethod ({ cls := "DawnPerquisite$Doing", name := "b", desc := "()I" } : Jvm.MethodName)) ∈ lw_all := lw_g (lw_at lw_m5 47 rfl) rfl
theorem q1154 : (Jvm.Cond.selects "DawnPerquisite$Doing" ({ cls := "DawnPerquisite$Doing", name := "b", desc := "()I" } : Jvm.MethodName) ({ cls := "DawnPerquisite$Doing", name := "b", desc := "()I" } : Jvm.MethodName)) ∈ lw_all := lw_g (lw_at lw_m5 48 rfl) rfl
theorem q1155 : (Jvm.Cond.code ({ cls := "DawnPerquisite$Doing", name := "b", desc := "()I" } : Jvm.MethodName) prog_6_method_7_code (1 : Nat) (Option.some Jvm.ClassFile.FieldType.int)) ∈ lw_all := lw_g (lw_at lw_m5 49 rfl) rfl
theorem q1156 : (Jvm.Cond.methodLink "DawnPerquisite" (271 : Nat) ({ cls := "DawnPerquisite", name := "buyer", desc := "(IIII)I" } : Jvm.MethodName)) ∈ lw_all := lw_g (lw_at lw_m5 50 rfl) rfl
theorem q1157 : (Jvm.Cond.methodLink "DawnPerquisite" (275 : Nat) ({ cls := "DawnPerquisite", name := "sort", desc := "(III)Z" } : Jvm.MethodName)) ∈ lw_all := lw_g (lw_at lw_m5 51 rfl) rfl
theorem q1158 : (Jvm.Cond.methodLink "DawnPerquisite" (277 : Nat) ({ cls := "DawnPerquisite", name := "sell", desc := "(I)I" } : Jvm.MethodName)) ∈ lw_all := lw_g (lw_at lw_m5 52 rfl) rfl
theorem q1159 : (Jvm.Cond.methodLink "DawnPerquisite" (280 : Nat) ({ cls := "DawnPerquisite", name := "give", desc := "(I)Z" } : Jvm.MethodName)) ∈ lw_all := lw_g (lw_at lw_m5 53 rfl) rfl
theorem q1160 : (Jvm.Cond.methodLink "DawnPerquisite" (283 : Nat) ({ cls := "DawnPerquisite", name := "turn", desc := "(I)Z" } : Jvm.MethodName)) ∈ lw_all := lw_g (lw_at lw_m5 54 rfl) rfl
theorem q1161 : (Jvm.Cond.methodLink "DawnPerquisite" (286 : Nat) ({ cls := "DawnPerquisite", name := "passesAll", desc := "(I)Z" } : Jvm.MethodName)) ∈ lw_all := lw_g (lw_at lw_m5 55 rfl) rfl
theorem q1162 : (Jvm.Cond.privateMethod ({ cls := "DawnPerquisite", name := "passesAll", desc := "(I)Z" } : Jvm.MethodName)) ∈ lw_tbl := lw_at lw_m5 56 rfl
theorem q1163 : (Jvm.Cond.instanceMethod ({ cls := "DawnPerquisite", name := "passesAll", desc := "(I)Z" } : Jvm.MethodName)) ∈ lw_all := lw_g (lw_at lw_m5 57 rfl) rfl
theorem q1164 : (Jvm.Cond.code ({ cls := "DawnPerquisite", name := "passesAll", desc := "(I)Z" } : Jvm.MethodName) prog_1_method_47_code (3 : Nat) (Option.some Jvm.ClassFile.FieldType.boolean)) ∈ lw_all := lw_g (lw_at lw_m5 58 rfl) rfl
theorem q1165 : (Jvm.Cond.methodLink "DawnPerquisite" (257 : Nat) ({ cls := "DawnPerquisite", name := "day", desc := "(I)I" } : Jvm.MethodName)) ∈ lw_all := lw_g (lw_at lw_m5 59 rfl) rfl
theorem q1166 : (Jvm.Cond.methodLink "DawnPerquisite" (306 : Nat) ({ cls := "DawnPerquisite$Doing", name := "number", desc := "()I" } : Jvm.MethodName)) ∈ lw_all := lw_g (lw_at lw_m5 60 rfl) rfl
theorem q1167 : (Jvm.Cond.instanceMethod ({ cls := "DawnPerquisite$Doing", name := "number", desc := "()I" } : Jvm.MethodName)) ∈ lw_all := lw_g (lw_at lw_m5 61 rfl) rfl
theorem q1168 : (Jvm.Cond.selects "DawnPerquisite$Doing" ({ cls := "DawnPerquisite$Doing", name := "number", desc := "()I" } : Jvm.MethodName) ({ cls := "DawnPerquisite$Doing", name := "number", desc := "()I" } : Jvm.MethodName)) ∈ lw_all := lw_g (lw_at lw_m5 62 rfl) rfl
theorem q1169 : (Jvm.Cond.code ({ cls := "DawnPerquisite$Doing", name := "number", desc := "()I" } : Jvm.MethodName) prog_6_method_8_code (1 : Nat) (Option.some Jvm.ClassFile.FieldType.int)) ∈ lw_all := lw_g (lw_at lw_m5 63 rfl) rfl
theorem q1170 : (Jvm.Cond.methodLink "DawnPerquisiteLaw" (72 : Nat) ({ cls := "DawnPerquisite", name := "years", desc := "(II)I" } : Jvm.MethodName)) ∈ lw_all := lw_g (lw_at lw_m5 64 rfl) rfl
theorem q1171 : (Jvm.Cond.instanceMethod ({ cls := "DawnPerquisite", name := "years", desc := "(II)I" } : Jvm.MethodName)) ∈ lw_all := lw_g (lw_at lw_m5 65 rfl) rfl
theorem q1172 : (Jvm.Cond.selects "DawnPerquisite" ({ cls := "DawnPerquisite", name := "years", desc := "(II)I" } : Jvm.MethodName) ({ cls := "DawnPerquisite", name := "years", desc := "(II)I" } : Jvm.MethodName)) ∈ lw_all := lw_g (lw_at lw_m5 66 rfl) rfl
theorem q1173 : (Jvm.Cond.code ({ cls := "DawnPerquisite", name := "years", desc := "(II)I" } : Jvm.MethodName) prog_1_method_51_code (7 : Nat) (Option.some Jvm.ClassFile.FieldType.int)) ∈ lw_all := lw_g (lw_at lw_m5 67 rfl) rfl
theorem q1174 : (Jvm.Cond.methodLink "DawnPerquisite" (309 : Nat) ({ cls := "DawnPerquisite", name := "befalls", desc := "(I)V" } : Jvm.MethodName)) ∈ lw_all := lw_g (lw_at lw_m5 68 rfl) rfl
theorem q1175 : (Jvm.Cond.privateMethod ({ cls := "DawnPerquisite", name := "befalls", desc := "(I)V" } : Jvm.MethodName)) ∈ lw_tbl := lw_at lw_m5 69 rfl
theorem q1176 : (Jvm.Cond.instanceMethod ({ cls := "DawnPerquisite", name := "befalls", desc := "(I)V" } : Jvm.MethodName)) ∈ lw_all := lw_g (lw_at lw_m5 70 rfl) rfl
theorem q1177 : (Jvm.Cond.code ({ cls := "DawnPerquisite", name := "befalls", desc := "(I)V" } : Jvm.MethodName) prog_1_method_50_code (4 : Nat) (Option.none : Option Jvm.ClassFile.FieldType)) ∈ lw_all := lw_g (lw_at lw_m5 71 rfl) rfl
theorem q1178 : (Jvm.Cond.methodLink "DawnPerquisiteLaw" (76 : Nat) ({ cls := "DawnPerquisite", name := "undo", desc := "()I" } : Jvm.MethodName)) ∈ lw_all := lw_g (lw_at lw_m5 72 rfl) rfl
theorem q1179 : (Jvm.Cond.instanceMethod ({ cls := "DawnPerquisite", name := "undo", desc := "()I" } : Jvm.MethodName)) ∈ lw_all := lw_g (lw_at lw_m5 73 rfl) rfl
theorem q1180 : (Jvm.Cond.selects "DawnPerquisite" ({ cls := "DawnPerquisite", name := "undo", desc := "()I" } : Jvm.MethodName) ({ cls := "DawnPerquisite", name := "undo", desc := "()I" } : Jvm.MethodName)) ∈ lw_all := lw_g (lw_at lw_m5 74 rfl) rfl
theorem q1181 : (Jvm.Cond.code ({ cls := "DawnPerquisite", name := "undo", desc := "()I" } : Jvm.MethodName) prog_1_method_52_code (1 : Nat) (Option.some Jvm.ClassFile.FieldType.int)) ∈ lw_all := lw_g (lw_at lw_m5 75 rfl) rfl
theorem q1182 : (Jvm.Cond.methodLinkNest "DawnPerquisite" (315 : Nat) ({ cls := "DawnPerquisite$State", name := "copy", desc := "([I[I)V" } : Jvm.MethodName) "DawnPerquisite") ∈ lw_tbl := lw_at lw_m5 76 rfl
theorem q1183 : (Jvm.Cond.methodLink "DawnPerquisiteLaw" (80 : Nat) ({ cls := "DawnPerquisite", name := "of", desc := "(II)I" } : Jvm.MethodName)) ∈ lw_all := lw_g (lw_at lw_m5 77 rfl) rfl
theorem q1184 : (Jvm.Cond.instanceMethod ({ cls := "DawnPerquisite", name := "of", desc := "(II)I" } : Jvm.MethodName)) ∈ lw_all := lw_g (lw_at lw_m5 78 rfl) rfl
theorem q1185 : (Jvm.Cond.selects "DawnPerquisite" ({ cls := "DawnPerquisite", name := "of", desc := "(II)I" } : Jvm.MethodName) ({ cls := "DawnPerquisite", name := "of", desc := "(II)I" } : Jvm.MethodName)) ∈ lw_all := lw_g (lw_at lw_m5 79 rfl) rfl
theorem q1186 : (Jvm.Cond.code ({ cls := "DawnPerquisite", name := "of", desc := "(II)I" } : Jvm.MethodName) prog_1_method_53_code (3 : Nat) (Option.some Jvm.ClassFile.FieldType.int)) ∈ lw_all := lw_g (lw_at lw_m5 80 rfl) rfl
theorem q1187 : (Jvm.Cond.methodLink "DawnPerquisiteLaw" (84 : Nat) ({ cls := "DawnPerquisite", name := "ofSort", desc := "(II)I" } : Jvm.MethodName)) ∈ lw_all := lw_g (lw_at lw_m5 81 rfl) rfl
theorem q1188 : (Jvm.Cond.instanceMethod ({ cls := "DawnPerquisite", name := "ofSort", desc := "(II)I" } : Jvm.MethodName)) ∈ lw_all := lw_g (lw_at lw_m5 82 rfl) rfl
theorem q1189 : (Jvm.Cond.selects "DawnPerquisite" ({ cls := "DawnPerquisite", name := "ofSort", desc := "(II)I" } : Jvm.MethodName) ({ cls := "DawnPerquisite", name := "ofSort", desc := "(II)I" } : Jvm.MethodName)) ∈ lw_all := lw_g (lw_at lw_m5 83 rfl) rfl
theorem q1190 : (Jvm.Cond.code ({ cls := "DawnPerquisite", name := "ofSort", desc := "(II)I" } : Jvm.MethodName) prog_1_method_54_code (3 : Nat) (Option.some Jvm.ClassFile.FieldType.int)) ∈ lw_all := lw_g (lw_at lw_m5 84 rfl) rfl
theorem q1191 : (Jvm.Cond.methodLink "DawnPerquisiteLaw" (88 : Nat) ({ cls := "DawnPerquisite", name := "at", desc := "(I)I" } : Jvm.MethodName)) ∈ lw_all := lw_g (lw_at lw_m5 85 rfl) rfl
theorem q1192 : (Jvm.Cond.instanceMethod ({ cls := "DawnPerquisite", name := "at", desc := "(I)I" } : Jvm.MethodName)) ∈ lw_all := lw_g (lw_at lw_m5 86 rfl) rfl
theorem q1193 : (Jvm.Cond.selects "DawnPerquisite" ({ cls := "DawnPerquisite", name := "at", desc := "(I)I" } : Jvm.MethodName) ({ cls := "DawnPerquisite", name := "at", desc := "(I)I" } : Jvm.MethodName)) ∈ lw_all := lw_g (lw_at lw_m5 87 rfl) rfl
theorem q1194 : (Jvm.Cond.code ({ cls := "DawnPerquisite", name := "at", desc := "(I)I" } : Jvm.MethodName) prog_1_method_55_code (2 : Nat) (Option.some Jvm.ClassFile.FieldType.int)) ∈ lw_all := lw_g (lw_at lw_m5 88 rfl) rfl
theorem q1195 : (Jvm.Cond.methodLink "DawnPerquisiteLaw" (92 : Nat) ({ cls := "DawnPerquisite", name := "is", desc := "(I)I" } : Jvm.MethodName)) ∈ lw_all := lw_g (lw_at lw_m5 89 rfl) rfl
theorem q1196 : (Jvm.Cond.instanceMethod ({ cls := "DawnPerquisite", name := "is", desc := "(I)I" } : Jvm.MethodName)) ∈ lw_all := lw_g (lw_at lw_m5 90 rfl) rfl
theorem q1197 : (Jvm.Cond.selects "DawnPerquisite" ({ cls := "DawnPerquisite", name := "is", desc := "(I)I" } : Jvm.MethodName) ({ cls := "DawnPerquisite", name := "is", desc := "(I)I" } : Jvm.MethodName)) ∈ lw_all := lw_g (lw_at lw_m5 91 rfl) rfl
theorem q1198 : (Jvm.Cond.code ({ cls := "DawnPerquisite", name := "is", desc := "(I)I" } : Jvm.MethodName) prog_1_method_56_code (2 : Nat) (Option.some Jvm.ClassFile.FieldType.int)) ∈ lw_all := lw_g (lw_at lw_m5 92 rfl) rfl
theorem q1199 : (Jvm.Cond.methodLink "DawnPerquisiteLaw" (96 : Nat) ({ cls := "DawnPerquisite", name := "book", desc := "(II)I" } : Jvm.MethodName)) ∈ lw_all := lw_g (lw_at lw_m5 93 rfl) rfl
theorem q1200 : (Jvm.Cond.instanceMethod ({ cls := "DawnPerquisite", name := "book", desc := "(II)I" } : Jvm.MethodName)) ∈ lw_all := lw_g (lw_at lw_m5 94 rfl) rfl
theorem q1201 : (Jvm.Cond.selects "DawnPerquisite" ({ cls := "DawnPerquisite", name := "book", desc := "(II)I" } : Jvm.MethodName) ({ cls := "DawnPerquisite", name := "book", desc := "(II)I" } : Jvm.MethodName)) ∈ lw_all := lw_g (lw_at lw_m5 95 rfl) rfl
theorem q1202 : (Jvm.Cond.code ({ cls := "DawnPerquisite", name := "book", desc := "(II)I" } : Jvm.MethodName) prog_1_method_57_code (3 : Nat) (Option.some Jvm.ClassFile.FieldType.int)) ∈ lw_all := lw_g (lw_at lw_m5 96 rfl) rfl
theorem q1203 : (Jvm.Cond.methodLink "DawnPerquisiteLaw" (100 : Nat) ({ cls := "DawnPerquisite", name := "foretold", desc := "(II)I" } : Jvm.MethodName)) ∈ lw_all := lw_g (lw_at lw_m5 97 rfl) rfl
theorem q1204 : (Jvm.Cond.instanceMethod ({ cls := "DawnPerquisite", name := "foretold", desc := "(II)I" } : Jvm.MethodName)) ∈ lw_all := lw_g (lw_at lw_m5 98 rfl) rfl
theorem q1205 : (Jvm.Cond.selects "DawnPerquisite" ({ cls := "DawnPerquisite", name := "foretold", desc := "(II)I" } : Jvm.MethodName) ({ cls := "DawnPerquisite", name := "foretold", desc := "(II)I" } : Jvm.MethodName)) ∈ lw_all := lw_g (lw_at lw_m5 99 rfl) rfl
theorem q1206 : (Jvm.Cond.code ({ cls := "DawnPerquisite", name := "foretold", desc := "(II)I" } : Jvm.MethodName) prog_1_method_59_code (5 : Nat) (Option.some Jvm.ClassFile.FieldType.int)) ∈ lw_all := lw_g (lw_at lw_m5 100 rfl) rfl
theorem q1207 : (Jvm.Cond.methodLink "DawnPerquisite" (319 : Nat) ({ cls := "DawnPerquisite", name := "pursesOf", desc := "([I)I" } : Jvm.MethodName)) ∈ lw_all := lw_g (lw_at lw_m5 101 rfl) rfl
theorem q1208 : (Jvm.Cond.privateMethod ({ cls := "DawnPerquisite", name := "pursesOf", desc := "([I)I" } : Jvm.MethodName)) ∈ lw_tbl := lw_at lw_m5 102 rfl
theorem q1209 : (Jvm.Cond.instanceMethod ({ cls := "DawnPerquisite", name := "pursesOf", desc := "([I)I" } : Jvm.MethodName)) ∈ lw_all := lw_g (lw_at lw_m5 103 rfl) rfl
theorem q1210 : (Jvm.Cond.code ({ cls := "DawnPerquisite", name := "pursesOf", desc := "([I)I" } : Jvm.MethodName) prog_1_method_58_code (4 : Nat) (Option.some Jvm.ClassFile.FieldType.int)) ∈ lw_all := lw_g (lw_at lw_m5 104 rfl) rfl
theorem q1211 : (Jvm.Cond.methodLink "DawnPerquisiteLaw" (104 : Nat) ({ cls := "DawnPerquisite", name := "pack", desc := "(IZ)I" } : Jvm.MethodName)) ∈ lw_all := lw_g (lw_at lw_m5 105 rfl) rfl
theorem q1212 : (Jvm.Cond.instanceMethod ({ cls := "DawnPerquisite", name := "pack", desc := "(IZ)I" } : Jvm.MethodName)) ∈ lw_all := lw_g (lw_at lw_m5 106 rfl) rfl
theorem q1213 : (Jvm.Cond.selects "DawnPerquisite" ({ cls := "DawnPerquisite", name := "pack", desc := "(IZ)I" } : Jvm.MethodName) ({ cls := "DawnPerquisite", name := "pack", desc := "(IZ)I" } : Jvm.MethodName)) ∈ lw_all := lw_g (lw_at lw_m5 107 rfl) rfl
theorem q1214 : (Jvm.Cond.code ({ cls := "DawnPerquisite", name := "pack", desc := "(IZ)I" } : Jvm.MethodName) prog_1_method_63_code (3 : Nat) (Option.some Jvm.ClassFile.FieldType.int)) ∈ lw_all := lw_g (lw_at lw_m5 108 rfl) rfl
theorem q1215 : (Jvm.Cond.methodLink "DawnPerquisite" (328 : Nat) ({ cls := "DawnPerquisite", name := "packOf", desc := "(II)I" } : Jvm.MethodName)) ∈ lw_all := lw_g (lw_at lw_m5 109 rfl) rfl
theorem q1216 : (Jvm.Cond.privateMethod ({ cls := "DawnPerquisite", name := "packOf", desc := "(II)I" } : Jvm.MethodName)) ∈ lw_tbl := lw_at lw_m5 110 rfl
theorem q1217 : (Jvm.Cond.instanceMethod ({ cls := "DawnPerquisite", name := "packOf", desc := "(II)I" } : Jvm.MethodName)) ∈ lw_all := lw_g (lw_at lw_m5 111 rfl) rfl
theorem q1218 : (Jvm.Cond.code ({ cls := "DawnPerquisite", name := "packOf", desc := "(II)I" } : Jvm.MethodName) prog_1_method_62_code (7 : Nat) (Option.some Jvm.ClassFile.FieldType.int)) ∈ lw_all := lw_g (lw_at lw_m5 112 rfl) rfl
theorem q1219 : (Jvm.Cond.methodLink "DawnPerquisite" (322 : Nat) ({ cls := "DawnPerquisite", name := "everybody", desc := "()I" } : Jvm.MethodName)) ∈ lw_all := lw_g (lw_at lw_m5 113 rfl) rfl
theorem q1220 : (Jvm.Cond.privateMethod ({ cls := "DawnPerquisite", name := "everybody", desc := "()I" } : Jvm.MethodName)) ∈ lw_tbl := lw_at lw_m5 114 rfl
theorem q1221 : (Jvm.Cond.instanceMethod ({ cls := "DawnPerquisite", name := "everybody", desc := "()I" } : Jvm.MethodName)) ∈ lw_all := lw_g (lw_at lw_m5 115 rfl) rfl
theorem q1222 : (Jvm.Cond.code ({ cls := "DawnPerquisite", name := "everybody", desc := "()I" } : Jvm.MethodName) prog_1_method_61_code (1 : Nat) (Option.some Jvm.ClassFile.FieldType.int)) ∈ lw_all := lw_g (lw_at lw_m5 116 rfl) rfl
theorem q1223 : (Jvm.Cond.methodLink "DawnPerquisite" (325 : Nat) ({ cls := "DawnPerquisite", name := "bringsOf", desc := "(II)I" } : Jvm.MethodName)) ∈ lw_all := lw_g (lw_at lw_m5 117 rfl) rfl
theorem q1224 : (Jvm.Cond.privateMethod ({ cls := "DawnPerquisite", name := "bringsOf", desc := "(II)I" } : Jvm.MethodName)) ∈ lw_tbl := lw_at lw_m5 118 rfl
theorem q1225 : (Jvm.Cond.instanceMethod ({ cls := "DawnPerquisite", name := "bringsOf", desc := "(II)I" } : Jvm.MethodName)) ∈ lw_all := lw_g (lw_at lw_m5 119 rfl) rfl
theorem q1226 : (Jvm.Cond.code ({ cls := "DawnPerquisite", name := "bringsOf", desc := "(II)I" } : Jvm.MethodName) prog_1_method_60_code (6 : Nat) (Option.some Jvm.ClassFile.FieldType.int)) ∈ lw_all := lw_g (lw_at lw_m5 120 rfl) rfl
theorem q1227 : (Jvm.Cond.methodLink "DawnPerquisite" (239 : Nat) ({ cls := "java/lang/Math", name := "max", desc := "(II)I" } : Jvm.MethodName)) ∈ lw_all := lw_g (lw_at lw_m5 121 rfl) rfl
theorem q1228 : (Jvm.Cond.methodLink "DawnPerquisiteLaw" (109 : Nat) ({ cls := "DawnPerquisite", name := "see", desc := "(II)I" } : Jvm.MethodName)) ∈ lw_all := lw_g (lw_at lw_m5 122 rfl) rfl
theorem q1229 : (Jvm.Cond.instanceMethod ({ cls := "DawnPerquisite", name := "see", desc := "(II)I" } : Jvm.MethodName)) ∈ lw_all := lw_g (lw_at lw_m5 123 rfl) rfl
theorem q1230 : (Jvm.Cond.selects "DawnPerquisite" ({ cls := "DawnPerquisite", name := "see", desc := "(II)I" } : Jvm.MethodName) ({ cls := "DawnPerquisite", name := "see", desc := "(II)I" } : Jvm.MethodName)) ∈ lw_all := lw_g (lw_at lw_m5 124 rfl) rfl
theorem q1231 : (Jvm.Cond.code ({ cls := "DawnPerquisite", name := "see", desc := "(II)I" } : Jvm.MethodName) prog_1_method_64_code (3 : Nat) (Option.some Jvm.ClassFile.FieldType.int)) ∈ lw_all := lw_g (lw_at lw_m5 125 rfl) rfl
theorem q1232 : (Jvm.Cond.methodLink "DawnPerquisiteLaw" (113 : Nat) ({ cls := "DawnPerquisite", name := "hope", desc := "(IZ)J" } : Jvm.MethodName)) ∈ lw_all := lw_g (lw_at lw_m5 126 rfl) rfl
theorem q1233 : (Jvm.Cond.instanceMethod ({ cls := "DawnPerquisite", name := "hope", desc := "(IZ)J" } : Jvm.MethodName)) ∈ lw_all := lw_g (lw_at lw_m5 127 rfl) rfl
theorem q1234 : (Jvm.Cond.selects "DawnPerquisite" ({ cls := "DawnPerquisite", name := "hope", desc := "(IZ)J" } : Jvm.MethodName) ({ cls := "DawnPerquisite", name := "hope", desc := "(IZ)J" } : Jvm.MethodName)) ∈ lw_all := lw_g (lw_at lw_m5 128 rfl) rfl
theorem q1235 : (Jvm.Cond.code ({ cls := "DawnPerquisite", name := "hope", desc := "(IZ)J" } : Jvm.MethodName) prog_1_method_69_code (3 : Nat) (Option.some Jvm.ClassFile.FieldType.long)) ∈ lw_all := lw_g (lw_at lw_m5 129 rfl) rfl
theorem q1236 : (Jvm.Cond.methodLink "DawnPerquisite" (338 : Nat) ({ cls := "DawnPerquisite", name := "hopeOf", desc := "(I)J" } : Jvm.MethodName)) ∈ lw_all := lw_g (lw_at lw_m5 130 rfl) rfl
theorem q1237 : (Jvm.Cond.privateMethod ({ cls := "DawnPerquisite", name := "hopeOf", desc := "(I)J" } : Jvm.MethodName)) ∈ lw_tbl := lw_at lw_m5 131 rfl
theorem q1238 : (Jvm.Cond.instanceMethod ({ cls := "DawnPerquisite", name := "hopeOf", desc := "(I)J" } : Jvm.MethodName)) ∈ lw_all := lw_g (lw_at lw_m5 132 rfl) rfl
theorem q1239 : (Jvm.Cond.code ({ cls := "DawnPerquisite", name := "hopeOf", desc := "(I)J" } : Jvm.MethodName) prog_1_method_68_code (9 : Nat) (Option.some Jvm.ClassFile.FieldType.long)) ∈ lw_all := lw_g (lw_at lw_m5 133 rfl) rfl
theorem q1240 : (Jvm.Cond.methodLink "DawnPerquisite" (342 : Nat) ({ cls := "DawnPerquisite", name := "allOdds", desc := "()I" } : Jvm.MethodName)) ∈ lw_all := lw_g (lw_at lw_m5 134 rfl) rfl
theorem q1241 : (Jvm.Cond.privateMethod ({ cls := "DawnPerquisite", name := "allOdds", desc := "()I" } : Jvm.MethodName)) ∈ lw_tbl := lw_at lw_m5 135 rfl
theorem q1242 : (Jvm.Cond.instanceMethod ({ cls := "DawnPerquisite", name := "allOdds", desc := "()I" } : Jvm.MethodName)) ∈ lw_all := lw_g (lw_at lw_m5 136 rfl) rfl
theorem q1243 : (Jvm.Cond.code ({ cls := "DawnPerquisite", name := "allOdds", desc := "()I" } : Jvm.MethodName) prog_1_method_43_code (1 : Nat) (Option.some Jvm.ClassFile.FieldType.int)) ∈ lw_all := lw_g (lw_at lw_m5 137 rfl) rfl
theorem q1244 : (Jvm.Cond.methodLink "DawnPerquisite" (334 : Nat) ({ cls := "DawnPerquisite", name := "power", desc := "(JI)J" } : Jvm.MethodName)) ∈ lw_all := lw_g (lw_at lw_m5 138 rfl) rfl
theorem q1245 : (Jvm.Cond.static ({ cls := "DawnPerquisite", name := "power", desc := "(JI)J" } : Jvm.MethodName)) ∈ lw_all := lw_g (lw_at lw_m5 139 rfl) rfl
theorem q1246 : (Jvm.Cond.code ({ cls := "DawnPerquisite", name := "power", desc := "(JI)J" } : Jvm.MethodName) prog_1_method_67_code (3 : Nat) (Option.some Jvm.ClassFile.FieldType.long)) ∈ lw_all := lw_g (lw_at lw_m5 140 rfl) rfl
theorem q1247 : (Jvm.Cond.methodLink "DawnPerquisite" (345 : Nat) ({ cls := "DawnPerquisite", name := "part", desc := "(JJZ)J" } : Jvm.MethodName)) ∈ lw_all := lw_g (lw_at lw_m5 141 rfl) rfl
theorem q1248 : (Jvm.Cond.static ({ cls := "DawnPerquisite", name := "part", desc := "(JJZ)J" } : Jvm.MethodName)) ∈ lw_all := lw_g (lw_at lw_m5 142 rfl) rfl
theorem q1249 : (Jvm.Cond.code ({ cls := "DawnPerquisite", name := "part", desc := "(JJZ)J" } : Jvm.MethodName) prog_1_method_66_code (5 : Nat) (Option.some Jvm.ClassFile.FieldType.long)) ∈ lw_all := lw_g (lw_at lw_m5 143 rfl) rfl
theorem q1250 : (Jvm.Cond.methodLink "DawnPerquisite" (331 : Nat) ({ cls := "DawnPerquisite", name := "common", desc := "(JJ)J" } : Jvm.MethodName)) ∈ lw_all := lw_g (lw_at lw_m5 144 rfl) rfl
theorem q1251 : (Jvm.Cond.static ({ cls := "DawnPerquisite", name := "common", desc := "(JJ)J" } : Jvm.MethodName)) ∈ lw_all := lw_g (lw_at lw_m5 145 rfl) rfl
theorem q1252 : (Jvm.Cond.code ({ cls := "DawnPerquisite", name := "common", desc := "(JJ)J" } : Jvm.MethodName) prog_1_method_65_code (4 : Nat) (Option.some Jvm.ClassFile.FieldType.long)) ∈ lw_all := lw_g (lw_at lw_m5 146 rfl) rfl
theorem q1253 : (Jvm.Cond.constantLong "DawnPerquisite" (349 : Nat) (-1 : Int64)) ∈ lw_all := lw_g (lw_at lw_m5 147 rfl) rfl
theorem q1254 : (Jvm.Cond.methodLink "DawnPerquisiteLaw" (118 : Nat) ({ cls := "DawnPerquisite", name := "keep", desc := "(I)Z" } : Jvm.MethodName)) ∈ lw_all := lw_g (lw_at lw_m5 148 rfl) rfl
theorem q1255 : (Jvm.Cond.instanceMethod ({ cls := "DawnPerquisite", name := "keep", desc := "(I)Z" } : Jvm.MethodName)) ∈ lw_all := lw_g (lw_at lw_m5 149 rfl) rfl
theorem q1256 : (Jvm.Cond.selects "DawnPerquisite" ({ cls := "DawnPerquisite", name := "keep", desc := "(I)Z" } : Jvm.MethodName) ({ cls := "DawnPerquisite", name := "keep", desc := "(I)Z" } : Jvm.MethodName)) ∈ lw_all := lw_g (lw_at lw_m5 150 rfl) rfl
theorem q1257 : (Jvm.Cond.code ({ cls := "DawnPerquisite", name := "keep", desc := "(I)Z" } : Jvm.MethodName) prog_1_method_70_code (2 : Nat) (Option.some Jvm.ClassFile.FieldType.boolean)) ∈ lw_all := lw_g (lw_at lw_m5 151 rfl) rfl
theorem q1258 : (Jvm.Cond.methodLink "DawnPerquisiteLaw" (122 : Nat) ({ cls := "DawnPerquisite", name := "chance", desc := "(IZ)J" } : Jvm.MethodName)) ∈ lw_all := lw_g (lw_at lw_m5 152 rfl) rfl
theorem q1259 : (Jvm.Cond.instanceMethod ({ cls := "DawnPerquisite", name := "chance", desc := "(IZ)J" } : Jvm.MethodName)) ∈ lw_all := lw_g (lw_at lw_m5 153 rfl) rfl
theorem q1260 : (Jvm.Cond.selects "DawnPerquisite" ({ cls := "DawnPerquisite", name := "chance", desc := "(IZ)J" } : Jvm.MethodName) ({ cls := "DawnPerquisite", name := "chance", desc := "(IZ)J" } : Jvm.MethodName)) ∈ lw_all := lw_g (lw_at lw_m5 154 rfl) rfl
theorem q1261 : (Jvm.Cond.code ({ cls := "DawnPerquisite", name := "chance", desc := "(IZ)J" } : Jvm.MethodName) prog_1_method_71_code (3 : Nat) (Option.some Jvm.ClassFile.FieldType.long)) ∈ lw_all := lw_g (lw_at lw_m5 155 rfl) rfl
theorem q1262 : (Jvm.Cond.methodLink "DawnPerquisiteLaw" (126 : Nat) ({ cls := "DawnPerquisite", name := "first", desc := "(I)I" } : Jvm.MethodName)) ∈ lw_all := lw_g (lw_at lw_m5 156 rfl) rfl
theorem q1263 : (Jvm.Cond.instanceMethod ({ cls := "DawnPerquisite", name := "first", desc := "(I)I" } : Jvm.MethodName)) ∈ lw_all := lw_g (lw_at lw_m5 157 rfl) rfl
theorem q1264 : (Jvm.Cond.selects "DawnPerquisite" ({ cls := "DawnPerquisite", name := "first", desc := "(I)I" } : Jvm.MethodName) ({ cls := "DawnPerquisite", name := "first", desc := "(I)I" } : Jvm.MethodName)) ∈ lw_all := lw_g (lw_at lw_m5 158 rfl) rfl
theorem q1265 : (Jvm.Cond.code ({ cls := "DawnPerquisite", name := "first", desc := "(I)I" } : Jvm.MethodName) prog_1_method_72_code (3 : Nat) (Option.some Jvm.ClassFile.FieldType.int)) ∈ lw_all := lw_g (lw_at lw_m5 159 rfl) rfl
theorem q1266 : (Jvm.Cond.constantLong "DawnPerquisite" (351 : Nat) (2 : Int64)) ∈ lw_all := lw_g (lw_at lw_m5 160 rfl) rfl
theorem q1267 : (Jvm.Cond.methodLink "DawnPerquisiteLaw" (130 : Nat) ({ cls := "DawnPerquisite", name := "paid", desc := "(IZ)I" } : Jvm.MethodName)) ∈ lw_all := lw_g (lw_at lw_m5 161 rfl) rfl
theorem q1268 : (Jvm.Cond.instanceMethod ({ cls := "DawnPerquisite", name := "paid", desc := "(IZ)I" } : Jvm.MethodName)) ∈ lw_all := lw_g (lw_at lw_m5 162 rfl) rfl
theorem q1269 : (Jvm.Cond.selects "DawnPerquisite" ({ cls := "DawnPerquisite", name := "paid", desc := "(IZ)I" } : Jvm.MethodName) ({ cls := "DawnPerquisite", name := "paid", desc := "(IZ)I" } : Jvm.MethodName)) ∈ lw_all := lw_g (lw_at lw_m5 163 rfl) rfl
theorem q1270 : (Jvm.Cond.code ({ cls := "DawnPerquisite", name := "paid", desc := "(IZ)I" } : Jvm.MethodName) prog_1_method_73_code (3 : Nat) (Option.some Jvm.ClassFile.FieldType.int)) ∈ lw_all := lw_g (lw_at lw_m5 164 rfl) rfl
theorem q1271 : (Jvm.Cond.methodLink "DawnPerquisite" (353 : Nat) ({ cls := "DawnPerquisite$State", name := "clears", desc := "(I)I" } : Jvm.MethodName)) ∈ lw_all := lw_g (lw_at lw_m5 165 rfl) rfl
theorem q1272 : (Jvm.Cond.instanceMethod ({ cls := "DawnPerquisite$State", name := "clears", desc := "(I)I" } : Jvm.MethodName)) ∈ lw_all := lw_g (lw_at lw_m5 166 rfl) rfl
theorem q1273 : (Jvm.Cond.selects "DawnPerquisite$State" ({ cls := "DawnPerquisite$State", name := "clears", desc := "(I)I" } : Jvm.MethodName) ({ cls := "DawnPerquisite$State", name := "clears", desc := "(I)I" } : Jvm.MethodName)) ∈ lw_all := lw_g (lw_at lw_m5 167 rfl) rfl
theorem q1274 : (Jvm.Cond.code ({ cls := "DawnPerquisite$State", name := "clears", desc := "(I)I" } : Jvm.MethodName) prog_13_method_7_code (2 : Nat) (Option.some Jvm.ClassFile.FieldType.int)) ∈ lw_all := lw_g (lw_at lw_m5 168 rfl) rfl
theorem q1275 : (Jvm.Cond.methodLink "DawnPerquisite" (356 : Nat) ({ cls := "DawnPerquisite", name := "told", desc := "()I" } : Jvm.MethodName)) ∈ lw_all := lw_g (lw_at lw_m5 169 rfl) rfl
theorem q1276 : (Jvm.Cond.privateMethod ({ cls := "DawnPerquisite", name := "told", desc := "()I" } : Jvm.MethodName)) ∈ lw_tbl := lw_at lw_m5 170 rfl
theorem q1277 : (Jvm.Cond.instanceMethod ({ cls := "DawnPerquisite", name := "told", desc := "()I" } : Jvm.MethodName)) ∈ lw_all := lw_g (lw_at lw_m5 171 rfl) rfl
theorem q1278 : (Jvm.Cond.code ({ cls := "DawnPerquisite", name := "told", desc := "()I" } : Jvm.MethodName) prog_1_method_74_code (1 : Nat) (Option.some Jvm.ClassFile.FieldType.int)) ∈ lw_all := lw_g (lw_at lw_m5 172 rfl) rfl
theorem q1279 : (Jvm.Cond.methodLink "DawnPerquisiteLaw" (134 : Nat) ({ cls := "DawnPerquisite", name := "was", desc := "()I" } : Jvm.MethodName)) ∈ lw_all := lw_g (lw_at lw_m5 173 rfl) rfl
theorem q1280 : (Jvm.Cond.instanceMethod ({ cls := "DawnPerquisite", name := "was", desc := "()I" } : Jvm.MethodName)) ∈ lw_all := lw_g (lw_at lw_m5 174 rfl) rfl
theorem q1281 : (Jvm.Cond.selects "DawnPerquisite" ({ cls := "DawnPerquisite", name := "was", desc := "()I" } : Jvm.MethodName) ({ cls := "DawnPerquisite", name := "was", desc := "()I" } : Jvm.MethodName)) ∈ lw_all := lw_g (lw_at lw_m5 175 rfl) rfl
theorem q1282 : (Jvm.Cond.code ({ cls := "DawnPerquisite", name := "was", desc := "()I" } : Jvm.MethodName) prog_1_method_76_code (3 : Nat) (Option.some Jvm.ClassFile.FieldType.int)) ∈ lw_all := lw_g (lw_at lw_m5 176 rfl) rfl
theorem q1283 : (Jvm.Cond.methodLink "DawnPerquisite" (359 : Nat) ({ cls := "DawnPerquisite", name := "couldBe", desc := "(I)Z" } : Jvm.MethodName)) ∈ lw_all := lw_g (lw_at lw_m5 177 rfl) rfl
theorem q1284 : (Jvm.Cond.privateMethod ({ cls := "DawnPerquisite", name := "couldBe", desc := "(I)Z" } : Jvm.MethodName)) ∈ lw_tbl := lw_at lw_m5 178 rfl
theorem q1285 : (Jvm.Cond.instanceMethod ({ cls := "DawnPerquisite", name := "couldBe", desc := "(I)Z" } : Jvm.MethodName)) ∈ lw_all := lw_g (lw_at lw_m5 179 rfl) rfl
theorem q1286 : (Jvm.Cond.code ({ cls := "DawnPerquisite", name := "couldBe", desc := "(I)Z" } : Jvm.MethodName) prog_1_method_75_code (4 : Nat) (Option.some Jvm.ClassFile.FieldType.boolean)) ∈ lw_all := lw_g (lw_at lw_m5 180 rfl) rfl
theorem q1287 : (Jvm.Cond.methodLink "DawnPerquisiteLaw" (143 : Nat) ({ cls := "DawnPerquisite", name := "likeliest", desc := "()I" } : Jvm.MethodName)) ∈ lw_all := lw_g (lw_at lw_m5 181 rfl) rfl
theorem q1288 : (Jvm.Cond.instanceMethod ({ cls := "DawnPerquisite", name := "likeliest", desc := "()I" } : Jvm.MethodName)) ∈ lw_all := lw_g (lw_at lw_m5 182 rfl) rfl
theorem q1289 : (Jvm.Cond.selects "DawnPerquisite" ({ cls := "DawnPerquisite", name := "likeliest", desc := "()I" } : Jvm.MethodName) ({ cls := "DawnPerquisite", name := "likeliest", desc := "()I" } : Jvm.MethodName)) ∈ lw_all := lw_g (lw_at lw_m5 183 rfl) rfl
theorem q1290 : (Jvm.Cond.code ({ cls := "DawnPerquisite", name := "likeliest", desc := "()I" } : Jvm.MethodName) prog_1_method_77_code (3 : Nat) (Option.some Jvm.ClassFile.FieldType.int)) ∈ lw_all := lw_g (lw_at lw_m5 184 rfl) rfl
theorem q1291 : (Jvm.Cond.methodLink "DawnPerquisiteLaw" (138 : Nat) ({ cls := "DawnPerquisite", name := "surest", desc := "(Z)J" } : Jvm.MethodName)) ∈ lw_all := lw_g (lw_at lw_m5 185 rfl) rfl
theorem q1292 : (Jvm.Cond.instanceMethod ({ cls := "DawnPerquisite", name := "surest", desc := "(Z)J" } : Jvm.MethodName)) ∈ lw_all := lw_g (lw_at lw_m5 186 rfl) rfl
theorem q1293 : (Jvm.Cond.selects "DawnPerquisite" ({ cls := "DawnPerquisite", name := "surest", desc := "(Z)J" } : Jvm.MethodName) ({ cls := "DawnPerquisite", name := "surest", desc := "(Z)J" } : Jvm.MethodName)) ∈ lw_all := lw_g (lw_at lw_m5 187 rfl) rfl
theorem q1294 : (Jvm.Cond.code ({ cls := "DawnPerquisite", name := "surest", desc := "(Z)J" } : Jvm.MethodName) prog_1_method_79_code (2 : Nat) (Option.some Jvm.ClassFile.FieldType.long)) ∈ lw_all := lw_g (lw_at lw_m5 188 rfl) rfl
theorem q1295 : (Jvm.Cond.methodLink "DawnPerquisite" (362 : Nat) ({ cls := "DawnPerquisite", name := "likeliest", desc := "()I" } : Jvm.MethodName)) ∈ lw_all := lw_g (lw_at lw_m5 189 rfl) rfl
theorem q1296 : (Jvm.Cond.methodLink "DawnPerquisite" (365 : Nat) ({ cls := "DawnPerquisite", name := "oddsThatFit", desc := "()I" } : Jvm.MethodName)) ∈ lw_all := lw_g (lw_at lw_m5 190 rfl) rfl
theorem q1297 : (Jvm.Cond.privateMethod ({ cls := "DawnPerquisite", name := "oddsThatFit", desc := "()I" } : Jvm.MethodName)) ∈ lw_tbl := lw_at lw_m5 191 rfl
theorem q1298 : (Jvm.Cond.instanceMethod ({ cls := "DawnPerquisite", name := "oddsThatFit", desc := "()I" } : Jvm.MethodName)) ∈ lw_all := lw_g (lw_at lw_m5 192 rfl) rfl
theorem q1299 : (Jvm.Cond.code ({ cls := "DawnPerquisite", name := "oddsThatFit", desc := "()I" } : Jvm.MethodName) prog_1_method_78_code (3 : Nat) (Option.some Jvm.ClassFile.FieldType.int)) ∈ lw_all := lw_g (lw_at lw_m5 193 rfl) rfl
theorem q1300 : (Jvm.Cond.methodLink "DawnPerquisiteLaw" (147 : Nat) ({ cls := "DawnPerquisite", name := "ask", desc := "()I" } : Jvm.MethodName)) ∈ lw_all := lw_g (lw_at lw_m5 194 rfl) rfl
theorem q1301 : (Jvm.Cond.instanceMethod ({ cls := "DawnPerquisite", name := "ask", desc := "()I" } : Jvm.MethodName)) ∈ lw_all := lw_g (lw_at lw_m5 195 rfl) rfl
theorem q1302 : (Jvm.Cond.selects "DawnPerquisite" ({ cls := "DawnPerquisite", name := "ask", desc := "()I" } : Jvm.MethodName) ({ cls := "DawnPerquisite", name := "ask", desc := "()I" } : Jvm.MethodName)) ∈ lw_all := lw_g (lw_at lw_m5 196 rfl) rfl
theorem q1303 : (Jvm.Cond.code ({ cls := "DawnPerquisite", name := "ask", desc := "()I" } : Jvm.MethodName) prog_1_method_81_code (3 : Nat) (Option.some Jvm.ClassFile.FieldType.int)) ∈ lw_all := lw_g (lw_at lw_m5 197 rfl) rfl
theorem q1304 : (Jvm.Cond.methodLink "DawnPerquisite" (368 : Nat) ({ cls := "DawnPerquisite", name := "was", desc := "()I" } : Jvm.MethodName)) ∈ lw_all := lw_g (lw_at lw_m5 198 rfl) rfl
theorem q1305 : (Jvm.Cond.methodLink "DawnPerquisite" (371 : Nat) ({ cls := "DawnPerquisite", name := "greaterPart", desc := "(I)I" } : Jvm.MethodName)) ∈ lw_all := lw_g (lw_at lw_m5 199 rfl) rfl
theorem q1306 : (Jvm.Cond.privateMethod ({ cls := "DawnPerquisite", name := "greaterPart", desc := "(I)I" } : Jvm.MethodName)) ∈ lw_tbl := lw_at lw_m5 200 rfl
theorem q1307 : (Jvm.Cond.instanceMethod ({ cls := "DawnPerquisite", name := "greaterPart", desc := "(I)I" } : Jvm.MethodName)) ∈ lw_all := lw_g (lw_at lw_m5 201 rfl) rfl
theorem q1308 : (Jvm.Cond.code ({ cls := "DawnPerquisite", name := "greaterPart", desc := "(I)I" } : Jvm.MethodName) prog_1_method_80_code (4 : Nat) (Option.some Jvm.ClassFile.FieldType.int)) ∈ lw_all := lw_g (lw_at lw_m5 202 rfl) rfl
theorem q1309 : (Jvm.Cond.methodLink "DawnPerquisiteLaw" (151 : Nat) ({ cls := "DawnPerquisite", name := "auction", desc := "(II)I" } : Jvm.MethodName)) ∈ lw_all := lw_g (lw_at lw_m5 203 rfl) rfl
theorem q1310 : (Jvm.Cond.instanceMethod ({ cls := "DawnPerquisite", name := "auction", desc := "(II)I" } : Jvm.MethodName)) ∈ lw_all := lw_g (lw_at lw_m5 204 rfl) rfl
theorem q1311 : (Jvm.Cond.selects "DawnPerquisite" ({ cls := "DawnPerquisite", name := "auction", desc := "(II)I" } : Jvm.MethodName) ({ cls := "DawnPerquisite", name := "auction", desc := "(II)I" } : Jvm.MethodName)) ∈ lw_all := lw_g (lw_at lw_m5 205 rfl) rfl
theorem q1312 : (Jvm.Cond.code ({ cls := "DawnPerquisite", name := "auction", desc := "(II)I" } : Jvm.MethodName) prog_1_method_83_code (9 : Nat) (Option.some Jvm.ClassFile.FieldType.int)) ∈ lw_all := lw_g (lw_at lw_m5 206 rfl) rfl
theorem q1313 : (Jvm.Cond.methodLink "DawnPerquisite" (374 : Nat) ({ cls := "DawnPerquisite", name := "bidsFor", desc := "(II)I" } : Jvm.MethodName)) ∈ lw_all := lw_g (lw_at lw_m5 207 rfl) rfl
theorem q1314 : (Jvm.Cond.privateMethod ({ cls := "DawnPerquisite", name := "bidsFor", desc := "(II)I" } : Jvm.MethodName)) ∈ lw_tbl := lw_at lw_m5 208 rfl
theorem q1315 : (Jvm.Cond.instanceMethod ({ cls := "DawnPerquisite", name := "bidsFor", desc := "(II)I" } : Jvm.MethodName)) ∈ lw_all := lw_g (lw_at lw_m5 209 rfl) rfl
theorem q1316 : (Jvm.Cond.code ({ cls := "DawnPerquisite", name := "bidsFor", desc := "(II)I" } : Jvm.MethodName) prog_1_method_82_code (3 : Nat) (Option.some Jvm.ClassFile.FieldType.int)) ∈ lw_all := lw_g (lw_at lw_m5 210 rfl) rfl
theorem q1317 : (Jvm.Cond.methodLink "DawnPerquisiteLaw" (155 : Nat) ({ cls := "DawnPerquisite", name := "stab", desc := "(Z)I" } : Jvm.MethodName)) ∈ lw_all := lw_g (lw_at lw_m5 211 rfl) rfl
theorem q1318 : (Jvm.Cond.instanceMethod ({ cls := "DawnPerquisite", name := "stab", desc := "(Z)I" } : Jvm.MethodName)) ∈ lw_all := lw_g (lw_at lw_m5 212 rfl) rfl
theorem q1319 : (Jvm.Cond.selects "DawnPerquisite" ({ cls := "DawnPerquisite", name := "stab", desc := "(Z)I" } : Jvm.MethodName) ({ cls := "DawnPerquisite", name := "stab", desc := "(Z)I" } : Jvm.MethodName)) ∈ lw_all := lw_g (lw_at lw_m5 213 rfl) rfl
theorem q1320 : (Jvm.Cond.code ({ cls := "DawnPerquisite", name := "stab", desc := "(Z)I" } : Jvm.MethodName) prog_1_method_85_code (4 : Nat) (Option.some Jvm.ClassFile.FieldType.int)) ∈ lw_all := lw_g (lw_at lw_m5 214 rfl) rfl
theorem q1321 : (Jvm.Cond.methodLink "DawnPerquisite" (377 : Nat) ({ cls := "DawnPerquisite", name := "servesAll", desc := "(I)Z" } : Jvm.MethodName)) ∈ lw_all := lw_g (lw_at lw_m5 215 rfl) rfl
theorem q1322 : (Jvm.Cond.privateMethod ({ cls := "DawnPerquisite", name := "servesAll", desc := "(I)Z" } : Jvm.MethodName)) ∈ lw_tbl := lw_at lw_m5 216 rfl
theorem q1323 : (Jvm.Cond.instanceMethod ({ cls := "DawnPerquisite", name := "servesAll", desc := "(I)Z" } : Jvm.MethodName)) ∈ lw_all := lw_g (lw_at lw_m5 217 rfl) rfl
theorem q1324 : (Jvm.Cond.code ({ cls := "DawnPerquisite", name := "servesAll", desc := "(I)Z" } : Jvm.MethodName) prog_1_method_84_code (3 : Nat) (Option.some Jvm.ClassFile.FieldType.boolean)) ∈ lw_all := lw_g (lw_at lw_m5 218 rfl) rfl
theorem q1325 : (Jvm.Cond.methodLink "DawnPerquisiteLaw" (160 : Nat) ({ cls := "DawnPerquisite", name := "crowd", desc := "(Z)I" } : Jvm.MethodName)) ∈ lw_all := lw_g (lw_at lw_m5 219 rfl) rfl
theorem q1326 : (Jvm.Cond.instanceMethod ({ cls := "DawnPerquisite", name := "crowd", desc := "(Z)I" } : Jvm.MethodName)) ∈ lw_all := lw_g (lw_at lw_m5 220 rfl) rfl
theorem q1327 : (Jvm.Cond.selects "DawnPerquisite" ({ cls := "DawnPerquisite", name := "crowd", desc := "(Z)I" } : Jvm.MethodName) ({ cls := "DawnPerquisite", name := "crowd", desc := "(Z)I" } : Jvm.MethodName)) ∈ lw_all := lw_g (lw_at lw_m5 221 rfl) rfl
theorem q1328 : (Jvm.Cond.code ({ cls := "DawnPerquisite", name := "crowd", desc := "(Z)I" } : Jvm.MethodName) prog_1_method_87_code (4 : Nat) (Option.some Jvm.ClassFile.FieldType.int)) ∈ lw_all := lw_g (lw_at lw_m5 222 rfl) rfl
theorem q1329 : (Jvm.Cond.methodLink "DawnPerquisite" (380 : Nat) ({ cls := "DawnPerquisite", name := "wantedBy", desc := "(I)I" } : Jvm.MethodName)) ∈ lw_all := lw_g (lw_at lw_m5 223 rfl) rfl
theorem q1330 : (Jvm.Cond.privateMethod ({ cls := "DawnPerquisite", name := "wantedBy", desc := "(I)I" } : Jvm.MethodName)) ∈ lw_tbl := lw_at lw_m5 224 rfl
theorem q1331 : (Jvm.Cond.instanceMethod ({ cls := "DawnPerquisite", name := "wantedBy", desc := "(I)I" } : Jvm.MethodName)) ∈ lw_all := lw_g (lw_at lw_m5 225 rfl) rfl
theorem q1332 : (Jvm.Cond.code ({ cls := "DawnPerquisite", name := "wantedBy", desc := "(I)I" } : Jvm.MethodName) prog_1_method_86_code (4 : Nat) (Option.some Jvm.ClassFile.FieldType.int)) ∈ lw_all := lw_g (lw_at lw_m5 226 rfl) rfl
theorem q1333 : (Jvm.Cond.methodLink "DawnPerquisiteLaw" (164 : Nat) ({ cls := "DawnPerquisite", name := "dawns", desc := "(I)I" } : Jvm.MethodName)) ∈ lw_all := lw_g (lw_at lw_m5 227 rfl) rfl
theorem q1334 : (Jvm.Cond.instanceMethod ({ cls := "DawnPerquisite", name := "dawns", desc := "(I)I" } : Jvm.MethodName)) ∈ lw_all := lw_g (lw_at lw_m5 228 rfl) rfl
theorem q1335 : (Jvm.Cond.selects "DawnPerquisite" ({ cls := "DawnPerquisite", name := "dawns", desc := "(I)I" } : Jvm.MethodName) ({ cls := "DawnPerquisite", name := "dawns", desc := "(I)I" } : Jvm.MethodName)) ∈ lw_all := lw_g (lw_at lw_m5 229 rfl) rfl
theorem q1336 : (Jvm.Cond.code ({ cls := "DawnPerquisite", name := "dawns", desc := "(I)I" } : Jvm.MethodName) prog_1_method_89_code (4 : Nat) (Option.some Jvm.ClassFile.FieldType.int)) ∈ lw_all := lw_g (lw_at lw_m5 230 rfl) rfl
theorem q1337 : (Jvm.Cond.methodLink "DawnPerquisite" (383 : Nat) ({ cls := "java/util/Arrays", name := "fill", desc := "([II)V" } : Jvm.MethodName)) ∈ lw_all := lw_g (lw_at lw_m5 231 rfl) rfl
theorem q1338 : (Jvm.Cond.methodLink "DawnPerquisite" (386 : Nat) ({ cls := "DawnPerquisite", name := "nextBuyer", desc := "()I" } : Jvm.MethodName)) ∈ lw_all := lw_g (lw_at lw_m5 232 rfl) rfl
theorem q1339 : (Jvm.Cond.privateMethod ({ cls := "DawnPerquisite", name := "nextBuyer", desc := "()I" } : Jvm.MethodName)) ∈ lw_tbl := lw_at lw_m5 233 rfl
theorem q1340 : (Jvm.Cond.instanceMethod ({ cls := "DawnPerquisite", name := "nextBuyer", desc := "()I" } : Jvm.MethodName)) ∈ lw_all := lw_g (lw_at lw_m5 234 rfl) rfl
theorem q1341 : (Jvm.Cond.code ({ cls := "DawnPerquisite", name := "nextBuyer", desc := "()I" } : Jvm.MethodName) prog_1_method_88_code (3 : Nat) (Option.some Jvm.ClassFile.FieldType.int)) ∈ lw_all := lw_g (lw_at lw_m5 235 rfl) rfl
theorem q1342 : (Jvm.Cond.methodLink "DawnPerquisiteLaw" (168 : Nat) ({ cls := "DawnPerquisite", name := "month", desc := "(IZ)J" } : Jvm.MethodName)) ∈ lw_all := lw_g (lw_at lw_m5 236 rfl) rfl
theorem q1343 : (Jvm.Cond.instanceMethod ({ cls := "DawnPerquisite", name := "month", desc := "(IZ)J" } : Jvm.MethodName)) ∈ lw_all := lw_g (lw_at lw_m5 237 rfl) rfl
theorem q1344 : (Jvm.Cond.selects "DawnPerquisite" ({ cls := "DawnPerquisite", name := "month", desc := "(IZ)J" } : Jvm.MethodName) ({ cls := "DawnPerquisite", name := "month", desc := "(IZ)J" } : Jvm.MethodName)) ∈ lw_all := lw_g (lw_at lw_m5 238 rfl) rfl
theorem q1345 : (Jvm.Cond.code ({ cls := "DawnPerquisite", name := "month", desc := "(IZ)J" } : Jvm.MethodName) prog_1_method_90_code (6 : Nat) (Option.some Jvm.ClassFile.FieldType.long)) ∈ lw_all := lw_g (lw_at lw_m5 239 rfl) rfl
theorem q1346 : (Jvm.Cond.methodLink "DawnPerquisite" (389 : Nat) ({ cls := "DawnPerquisite", name := "pack", desc := "(IZ)I" } : Jvm.MethodName)) ∈ lw_all := lw_g (lw_at lw_m6 0 rfl) rfl
theorem q1347 : (Jvm.Cond.methodLink "DawnPerquisiteLaw" (172 : Nat) ({ cls := "DawnPerquisite", name := "value", desc := "(II)Z" } : Jvm.MethodName)) ∈ lw_all := lw_g (lw_at lw_m6 1 rfl) rfl
theorem q1348 : (Jvm.Cond.instanceMethod ({ cls := "DawnPerquisite", name := "value", desc := "(II)Z" } : Jvm.MethodName)) ∈ lw_all := lw_g (lw_at lw_m6 2 rfl) rfl
theorem q1349 : (Jvm.Cond.selects "DawnPerquisite" ({ cls := "DawnPerquisite", name := "value", desc := "(II)Z" } : Jvm.MethodName) ({ cls := "DawnPerquisite", name := "value", desc := "(II)Z" } : Jvm.MethodName)) ∈ lw_all := lw_g (lw_at lw_m6 3 rfl) rfl
theorem q1350 : (Jvm.Cond.code ({ cls := "DawnPerquisite", name := "value", desc := "(II)Z" } : Jvm.MethodName) prog_1_method_91_code (3 : Nat) (Option.some Jvm.ClassFile.FieldType.boolean)) ∈ lw_all := lw_g (lw_at lw_m6 4 rfl) rfl
theorem q1351 : (Jvm.Cond.methodLink "DawnPerquisiteLaw" (177 : Nat) ({ cls := "DawnPerquisite", name := "ends", desc := "(II)I" } : Jvm.MethodName)) ∈ lw_all := lw_g (lw_at lw_m6 5 rfl) rfl
theorem q1352 : (Jvm.Cond.instanceMethod ({ cls := "DawnPerquisite", name := "ends", desc := "(II)I" } : Jvm.MethodName)) ∈ lw_all := lw_g (lw_at lw_m6 6 rfl) rfl
theorem q1353 : (Jvm.Cond.selects "DawnPerquisite" ({ cls := "DawnPerquisite", name := "ends", desc := "(II)I" } : Jvm.MethodName) ({ cls := "DawnPerquisite", name := "ends", desc := "(II)I" } : Jvm.MethodName)) ∈ lw_all := lw_g (lw_at lw_m6 7 rfl) rfl
theorem q1354 : (Jvm.Cond.code ({ cls := "DawnPerquisite", name := "ends", desc := "(II)I" } : Jvm.MethodName) prog_1_method_96_code (3 : Nat) (Option.some Jvm.ClassFile.FieldType.int)) ∈ lw_all := lw_g (lw_at lw_m6 8 rfl) rfl
theorem q1355 : (Jvm.Cond.methodLink "DawnPerquisite" (402 : Nat) ({ cls := "DawnPerquisite", name := "areSlices", desc := "(II)Z" } : Jvm.MethodName)) ∈ lw_all := lw_g (lw_at lw_m6 9 rfl) rfl
theorem q1356 : (Jvm.Cond.static ({ cls := "DawnPerquisite", name := "areSlices", desc := "(II)Z" } : Jvm.MethodName)) ∈ lw_all := lw_g (lw_at lw_m6 10 rfl) rfl
theorem q1357 : (Jvm.Cond.code ({ cls := "DawnPerquisite", name := "areSlices", desc := "(II)Z" } : Jvm.MethodName) prog_1_method_92_code (2 : Nat) (Option.some Jvm.ClassFile.FieldType.boolean)) ∈ lw_all := lw_g (lw_at lw_m6 11 rfl) rfl
theorem q1358 : (Jvm.Cond.methodLink "DawnPerquisite" (405 : Nat) ({ cls := "DawnPerquisite", name := "laysMore", desc := "()V" } : Jvm.MethodName)) ∈ lw_all := lw_g (lw_at lw_m6 12 rfl) rfl
theorem q1359 : (Jvm.Cond.privateMethod ({ cls := "DawnPerquisite", name := "laysMore", desc := "()V" } : Jvm.MethodName)) ∈ lw_tbl := lw_at lw_m6 13 rfl
theorem q1360 : (Jvm.Cond.instanceMethod ({ cls := "DawnPerquisite", name := "laysMore", desc := "()V" } : Jvm.MethodName)) ∈ lw_all := lw_g (lw_at lw_m6 14 rfl) rfl
theorem q1361 : (Jvm.Cond.code ({ cls := "DawnPerquisite", name := "laysMore", desc := "()V" } : Jvm.MethodName) prog_1_method_95_code (3 : Nat) (Option.none : Option Jvm.ClassFile.FieldType)) ∈ lw_all := lw_g (lw_at lw_m6 15 rfl) rfl
theorem q1362 : (Jvm.Cond.methodLink "DawnPerquisite" (396 : Nat) ({ cls := "DawnPerquisite", name := "leftFirst", desc := "(II)I" } : Jvm.MethodName)) ∈ lw_all := lw_g (lw_at lw_m6 16 rfl) rfl
theorem q1363 : (Jvm.Cond.privateMethod ({ cls := "DawnPerquisite", name := "leftFirst", desc := "(II)I" } : Jvm.MethodName)) ∈ lw_tbl := lw_at lw_m6 17 rfl
theorem q1364 : (Jvm.Cond.instanceMethod ({ cls := "DawnPerquisite", name := "leftFirst", desc := "(II)I" } : Jvm.MethodName)) ∈ lw_all := lw_g (lw_at lw_m6 18 rfl) rfl
theorem q1365 : (Jvm.Cond.code ({ cls := "DawnPerquisite", name := "leftFirst", desc := "(II)I" } : Jvm.MethodName) prog_1_method_93_code (3 : Nat) (Option.some Jvm.ClassFile.FieldType.int)) ∈ lw_all := lw_g (lw_at lw_m6 19 rfl) rfl
theorem q1366 : (Jvm.Cond.methodLink "DawnPerquisite" (399 : Nat) ({ cls := "DawnPerquisite", name := "rightFirst", desc := "(II)I" } : Jvm.MethodName)) ∈ lw_all := lw_g (lw_at lw_m6 20 rfl) rfl
theorem q1367 : (Jvm.Cond.privateMethod ({ cls := "DawnPerquisite", name := "rightFirst", desc := "(II)I" } : Jvm.MethodName)) ∈ lw_tbl := lw_at lw_m6 21 rfl
theorem q1368 : (Jvm.Cond.instanceMethod ({ cls := "DawnPerquisite", name := "rightFirst", desc := "(II)I" } : Jvm.MethodName)) ∈ lw_all := lw_g (lw_at lw_m6 22 rfl) rfl
theorem q1369 : (Jvm.Cond.code ({ cls := "DawnPerquisite", name := "rightFirst", desc := "(II)I" } : Jvm.MethodName) prog_1_method_94_code (3 : Nat) (Option.some Jvm.ClassFile.FieldType.int)) ∈ lw_all := lw_g (lw_at lw_m6 23 rfl) rfl
theorem q1370 : (Jvm.Cond.methodLink "DawnPerquisiteLaw" (181 : Nat) ({ cls := "DawnPerquisite", name := "take", desc := "(II)I" } : Jvm.MethodName)) ∈ lw_all := lw_g (lw_at lw_m6 24 rfl) rfl
theorem q1371 : (Jvm.Cond.instanceMethod ({ cls := "DawnPerquisite", name := "take", desc := "(II)I" } : Jvm.MethodName)) ∈ lw_all := lw_g (lw_at lw_m6 25 rfl) rfl
theorem q1372 : (Jvm.Cond.selects "DawnPerquisite" ({ cls := "DawnPerquisite", name := "take", desc := "(II)I" } : Jvm.MethodName) ({ cls := "DawnPerquisite", name := "take", desc := "(II)I" } : Jvm.MethodName)) ∈ lw_all := lw_g (lw_at lw_m6 26 rfl) rfl
theorem q1373 : (Jvm.Cond.code ({ cls := "DawnPerquisite", name := "take", desc := "(II)I" } : Jvm.MethodName) prog_1_method_97_code (3 : Nat) (Option.some Jvm.ClassFile.FieldType.int)) ∈ lw_all := lw_g (lw_at lw_m6 27 rfl) rfl
theorem q1374 : (Jvm.Cond.methodLink "DawnPerquisiteLaw" (185 : Nat) ({ cls := "DawnPerquisite", name := "best", desc := "(III)I" } : Jvm.MethodName)) ∈ lw_all := lw_g (lw_at lw_m6 28 rfl) rfl
theorem q1375 : (Jvm.Cond.instanceMethod ({ cls := "DawnPerquisite", name := "best", desc := "(III)I" } : Jvm.MethodName)) ∈ lw_all := lw_g (lw_at lw_m6 29 rfl) rfl
theorem q1376 : (Jvm.Cond.selects "DawnPerquisite" ({ cls := "DawnPerquisite", name := "best", desc := "(III)I" } : Jvm.MethodName) ({ cls := "DawnPerquisite", name := "best", desc := "(III)I" } : Jvm.MethodName)) ∈ lw_all := lw_g (lw_at lw_m6 30 rfl) rfl
theorem q1377 : (Jvm.Cond.code ({ cls := "DawnPerquisite", name := "best", desc := "(III)I" } : Jvm.MethodName) prog_1_method_99_code (8 : Nat) (Option.some Jvm.ClassFile.FieldType.int)) ∈ lw_all := lw_g (lw_at lw_m6 31 rfl) rfl
theorem q1378 : (Jvm.Cond.methodLink "DawnPerquisite" (408 : Nat) ({ cls := "DawnPerquisite", name := "runOf", desc := "(II)I" } : Jvm.MethodName)) ∈ lw_all := lw_g (lw_at lw_m6 32 rfl) rfl
theorem q1379 : (Jvm.Cond.privateMethod ({ cls := "DawnPerquisite", name := "runOf", desc := "(II)I" } : Jvm.MethodName)) ∈ lw_tbl := lw_at lw_m6 33 rfl
theorem q1380 : (Jvm.Cond.instanceMethod ({ cls := "DawnPerquisite", name := "runOf", desc := "(II)I" } : Jvm.MethodName)) ∈ lw_all := lw_g (lw_at lw_m6 34 rfl) rfl
theorem q1381 : (Jvm.Cond.code ({ cls := "DawnPerquisite", name := "runOf", desc := "(II)I" } : Jvm.MethodName) prog_1_method_98_code (5 : Nat) (Option.some Jvm.ClassFile.FieldType.int)) ∈ lw_all := lw_g (lw_at lw_m6 35 rfl) rfl
theorem q1382 : (Jvm.Cond.methodLink "DawnPerquisiteLaw" (190 : Nat) ({ cls := "DawnPerquisite", name := "said", desc := "(II)I" } : Jvm.MethodName)) ∈ lw_all := lw_g (lw_at lw_m6 36 rfl) rfl
theorem q1383 : (Jvm.Cond.instanceMethod ({ cls := "DawnPerquisite", name := "said", desc := "(II)I" } : Jvm.MethodName)) ∈ lw_all := lw_g (lw_at lw_m6 37 rfl) rfl
theorem q1384 : (Jvm.Cond.selects "DawnPerquisite" ({ cls := "DawnPerquisite", name := "said", desc := "(II)I" } : Jvm.MethodName) ({ cls := "DawnPerquisite", name := "said", desc := "(II)I" } : Jvm.MethodName)) ∈ lw_all := lw_g (lw_at lw_m6 38 rfl) rfl
theorem q1385 : (Jvm.Cond.code ({ cls := "DawnPerquisite", name := "said", desc := "(II)I" } : Jvm.MethodName) prog_1_method_100_code (3 : Nat) (Option.some Jvm.ClassFile.FieldType.int)) ∈ lw_all := lw_g (lw_at lw_m6 39 rfl) rfl
theorem q1386 : (Jvm.Cond.methodLink "DawnPerquisiteLaw" (194 : Nat) ({ cls := "DawnPerquisite", name := "whose", desc := "()I" } : Jvm.MethodName)) ∈ lw_all := lw_g (lw_at lw_m6 40 rfl) rfl
theorem q1387 : (Jvm.Cond.instanceMethod ({ cls := "DawnPerquisite", name := "whose", desc := "()I" } : Jvm.MethodName)) ∈ lw_all := lw_g (lw_at lw_m6 41 rfl) rfl
theorem q1388 : (Jvm.Cond.selects "DawnPerquisite" ({ cls := "DawnPerquisite", name := "whose", desc := "()I" } : Jvm.MethodName) ({ cls := "DawnPerquisite", name := "whose", desc := "()I" } : Jvm.MethodName)) ∈ lw_all := lw_g (lw_at lw_m6 42 rfl) rfl
theorem q1389 : (Jvm.Cond.code ({ cls := "DawnPerquisite", name := "whose", desc := "()I" } : Jvm.MethodName) prog_1_method_102_code (3 : Nat) (Option.some Jvm.ClassFile.FieldType.int)) ∈ lw_all := lw_g (lw_at lw_m6 43 rfl) rfl
theorem q1390 : (Jvm.Cond.methodLink "DawnPerquisite" (414 : Nat) ({ cls := "DawnPerquisite", name := "isLaw", desc := "(LDawnPerquisite$Text;)Z" } : Jvm.MethodName)) ∈ lw_all := lw_g (lw_at lw_m6 44 rfl) rfl
theorem q1391 : (Jvm.Cond.privateMethod ({ cls := "DawnPerquisite", name := "isLaw", desc := "(LDawnPerquisite$Text;)Z" } : Jvm.MethodName)) ∈ lw_tbl := lw_at lw_m6 45 rfl
theorem q1392 : (Jvm.Cond.instanceMethod ({ cls := "DawnPerquisite", name := "isLaw", desc := "(LDawnPerquisite$Text;)Z" } : Jvm.MethodName)) ∈ lw_all := lw_g (lw_at lw_m6 46 rfl) rfl
theorem q1393 : (Jvm.Cond.code ({ cls := "DawnPerquisite", name := "isLaw", desc := "(LDawnPerquisite$Text;)Z" } : Jvm.MethodName) prog_1_method_101_code (3 : Nat) (Option.some Jvm.ClassFile.FieldType.boolean)) ∈ lw_all := lw_g (lw_at lw_m6 47 rfl) rfl
theorem q1394 : (Jvm.Cond.methodLink "DawnPerquisiteLaw" (198 : Nat) ({ cls := "DawnPerquisite", name := "richest", desc := "()I" } : Jvm.MethodName)) ∈ lw_all := lw_g (lw_at lw_m6 48 rfl) rfl
theorem q1395 : (Jvm.Cond.instanceMethod ({ cls := "DawnPerquisite", name := "richest", desc := "()I" } : Jvm.MethodName)) ∈ lw_all := lw_g (lw_at lw_m6 49 rfl) rfl
theorem q1396 : (Jvm.Cond.selects "DawnPerquisite" ({ cls := "DawnPerquisite", name := "richest", desc := "()I" } : Jvm.MethodName) ({ cls := "DawnPerquisite", name := "richest", desc := "()I" } : Jvm.MethodName)) ∈ lw_all := lw_g (lw_at lw_m6 50 rfl) rfl
theorem q1397 : (Jvm.Cond.code ({ cls := "DawnPerquisite", name := "richest", desc := "()I" } : Jvm.MethodName) prog_1_method_103_code (3 : Nat) (Option.some Jvm.ClassFile.FieldType.int)) ∈ lw_all := lw_g (lw_at lw_m6 51 rfl) rfl
theorem q1398 : (Jvm.Cond.methodLink "DawnPerquisiteLaw" (202 : Nat) ({ cls := "DawnPerquisite", name := "rival", desc := "(I)I" } : Jvm.MethodName)) ∈ lw_all := lw_g (lw_at lw_m6 52 rfl) rfl
theorem q1399 : (Jvm.Cond.instanceMethod ({ cls := "DawnPerquisite", name := "rival", desc := "(I)I" } : Jvm.MethodName)) ∈ lw_all := lw_g (lw_at lw_m6 53 rfl) rfl
theorem q1400 : (Jvm.Cond.selects "DawnPerquisite" ({ cls := "DawnPerquisite", name := "rival", desc := "(I)I" } : Jvm.MethodName) ({ cls := "DawnPerquisite", name := "rival", desc := "(I)I" } : Jvm.MethodName)) ∈ lw_all := lw_g (lw_at lw_m6 54 rfl) rfl
theorem q1401 : (Jvm.Cond.code ({ cls := "DawnPerquisite", name := "rival", desc := "(I)I" } : Jvm.MethodName) prog_1_method_104_code (4 : Nat) (Option.some Jvm.ClassFile.FieldType.int)) ∈ lw_all := lw_g (lw_at lw_m6 55 rfl) rfl
theorem q1402 : (Jvm.Cond.methodLink "DawnPerquisiteLaw" (206 : Nat) ({ cls := "DawnPerquisite", name := "learnt", desc := "(IZ)J" } : Jvm.MethodName)) ∈ lw_all := lw_g (lw_at lw_m6 56 rfl) rfl
theorem q1403 : (Jvm.Cond.instanceMethod ({ cls := "DawnPerquisite", name := "learnt", desc := "(IZ)J" } : Jvm.MethodName)) ∈ lw_all := lw_g (lw_at lw_m6 57 rfl) rfl
theorem q1404 : (Jvm.Cond.selects "DawnPerquisite" ({ cls := "DawnPerquisite", name := "learnt", desc := "(IZ)J" } : Jvm.MethodName) ({ cls := "DawnPerquisite", name := "learnt", desc := "(IZ)J" } : Jvm.MethodName)) ∈ lw_all := lw_g (lw_at lw_m6 58 rfl) rfl
theorem q1405 : (Jvm.Cond.code ({ cls := "DawnPerquisite", name := "learnt", desc := "(IZ)J" } : Jvm.MethodName) prog_1_method_105_code (8 : Nat) (Option.some Jvm.ClassFile.FieldType.long)) ∈ lw_all := lw_g (lw_at lw_m6 59 rfl) rfl
theorem q1406 : (Jvm.Cond.constantLong "DawnPerquisite" (418 : Nat) (5 : Int64)) ∈ lw_all := lw_g (lw_at lw_m6 60 rfl) rfl
theorem q1407 : (Jvm.Cond.methodLink "DawnPerquisiteLaw" (210 : Nat) ({ cls := "DawnPerquisite", name := "wanted", desc := "(I)I" } : Jvm.MethodName)) ∈ lw_all := lw_g (lw_at lw_m6 61 rfl) rfl
theorem q1408 : (Jvm.Cond.instanceMethod ({ cls := "DawnPerquisite", name := "wanted", desc := "(I)I" } : Jvm.MethodName)) ∈ lw_all := lw_g (lw_at lw_m6 62 rfl) rfl
theorem q1409 : (Jvm.Cond.selects "DawnPerquisite" ({ cls := "DawnPerquisite", name := "wanted", desc := "(I)I" } : Jvm.MethodName) ({ cls := "DawnPerquisite", name := "wanted", desc := "(I)I" } : Jvm.MethodName)) ∈ lw_all := lw_g (lw_at lw_m6 63 rfl) rfl
theorem q1410 : (Jvm.Cond.code ({ cls := "DawnPerquisite", name := "wanted", desc := "(I)I" } : Jvm.MethodName) prog_1_method_106_code (4 : Nat) (Option.some Jvm.ClassFile.FieldType.int)) ∈ lw_all := lw_g (lw_at lw_m6 64 rfl) rfl
theorem q1411 : (Jvm.Cond.methodLink "DawnPerquisiteLaw" (214 : Nat) ({ cls := "DawnPerquisite", name := "alone", desc := "(I)I" } : Jvm.MethodName)) ∈ lw_all := lw_g (lw_at lw_m6 65 rfl) rfl
theorem q1412 : (Jvm.Cond.instanceMethod ({ cls := "DawnPerquisite", name := "alone", desc := "(I)I" } : Jvm.MethodName)) ∈ lw_all := lw_g (lw_at lw_m6 66 rfl) rfl
theorem q1413 : (Jvm.Cond.selects "DawnPerquisite" ({ cls := "DawnPerquisite", name := "alone", desc := "(I)I" } : Jvm.MethodName) ({ cls := "DawnPerquisite", name := "alone", desc := "(I)I" } : Jvm.MethodName)) ∈ lw_all := lw_g (lw_at lw_m6 67 rfl) rfl
theorem q1414 : (Jvm.Cond.code ({ cls := "DawnPerquisite", name := "alone", desc := "(I)I" } : Jvm.MethodName) prog_1_method_107_code (4 : Nat) (Option.some Jvm.ClassFile.FieldType.int)) ∈ lw_all := lw_g (lw_at lw_m6 68 rfl) rfl
theorem q1415 : (Jvm.Cond.methodLink "DawnPerquisiteLaw" (218 : Nat) ({ cls := "DawnPerquisite", name := "since", desc := "(I)I" } : Jvm.MethodName)) ∈ lw_all := lw_g (lw_at lw_m6 69 rfl) rfl
theorem q1416 : (Jvm.Cond.instanceMethod ({ cls := "DawnPerquisite", name := "since", desc := "(I)I" } : Jvm.MethodName)) ∈ lw_all := lw_g (lw_at lw_m6 70 rfl) rfl
theorem q1417 : (Jvm.Cond.selects "DawnPerquisite" ({ cls := "DawnPerquisite", name := "since", desc := "(I)I" } : Jvm.MethodName) ({ cls := "DawnPerquisite", name := "since", desc := "(I)I" } : Jvm.MethodName)) ∈ lw_all := lw_g (lw_at lw_m6 71 rfl) rfl
theorem q1418 : (Jvm.Cond.code ({ cls := "DawnPerquisite", name := "since", desc := "(I)I" } : Jvm.MethodName) prog_1_method_108_code (4 : Nat) (Option.some Jvm.ClassFile.FieldType.int)) ∈ lw_all := lw_g (lw_at lw_m6 72 rfl) rfl
theorem q1419 : (Jvm.Cond.methodLink "DawnPerquisiteLaw" (222 : Nat) ({ cls := "DawnPerquisite", name := "idle", desc := "()I" } : Jvm.MethodName)) ∈ lw_all := lw_g (lw_at lw_m6 73 rfl) rfl
theorem q1420 : (Jvm.Cond.instanceMethod ({ cls := "DawnPerquisite", name := "idle", desc := "()I" } : Jvm.MethodName)) ∈ lw_all := lw_g (lw_at lw_m6 74 rfl) rfl
theorem q1421 : (Jvm.Cond.selects "DawnPerquisite" ({ cls := "DawnPerquisite", name := "idle", desc := "()I" } : Jvm.MethodName) ({ cls := "DawnPerquisite", name := "idle", desc := "()I" } : Jvm.MethodName)) ∈ lw_all := lw_g (lw_at lw_m6 75 rfl) rfl
theorem q1422 : (Jvm.Cond.code ({ cls := "DawnPerquisite", name := "idle", desc := "()I" } : Jvm.MethodName) prog_1_method_109_code (3 : Nat) (Option.some Jvm.ClassFile.FieldType.int)) ∈ lw_all := lw_g (lw_at lw_m6 76 rfl) rfl
theorem q1423 : (Jvm.Cond.methodLink "DawnPerquisiteLaw" (226 : Nat) ({ cls := "DawnPerquisite", name := "poor", desc := "()I" } : Jvm.MethodName)) ∈ lw_all := lw_g (lw_at lw_m6 77 rfl) rfl
theorem q1424 : (Jvm.Cond.instanceMethod ({ cls := "DawnPerquisite", name := "poor", desc := "()I" } : Jvm.MethodName)) ∈ lw_all := lw_g (lw_at lw_m6 78 rfl) rfl
theorem q1425 : (Jvm.Cond.selects "DawnPerquisite" ({ cls := "DawnPerquisite", name := "poor", desc := "()I" } : Jvm.MethodName) ({ cls := "DawnPerquisite", name := "poor", desc := "()I" } : Jvm.MethodName)) ∈ lw_all := lw_g (lw_at lw_m6 79 rfl) rfl
theorem q1426 : (Jvm.Cond.code ({ cls := "DawnPerquisite", name := "poor", desc := "()I" } : Jvm.MethodName) prog_1_method_110_code (3 : Nat) (Option.some Jvm.ClassFile.FieldType.int)) ∈ lw_all := lw_g (lw_at lw_m6 80 rfl) rfl
theorem q1427 : (Jvm.Cond.methodLink "DawnPerquisiteLaw" (230 : Nat) ({ cls := "DawnPerquisite", name := "room", desc := "(I)I" } : Jvm.MethodName)) ∈ lw_all := lw_g (lw_at lw_m6 81 rfl) rfl
theorem q1428 : (Jvm.Cond.instanceMethod ({ cls := "DawnPerquisite", name := "room", desc := "(I)I" } : Jvm.MethodName)) ∈ lw_all := lw_g (lw_at lw_m6 82 rfl) rfl
theorem q1429 : (Jvm.Cond.selects "DawnPerquisite" ({ cls := "DawnPerquisite", name := "room", desc := "(I)I" } : Jvm.MethodName) ({ cls := "DawnPerquisite", name := "room", desc := "(I)I" } : Jvm.MethodName)) ∈ lw_all := lw_g (lw_at lw_m6 83 rfl) rfl
theorem q1430 : (Jvm.Cond.code ({ cls := "DawnPerquisite", name := "room", desc := "(I)I" } : Jvm.MethodName) prog_1_method_111_code (4 : Nat) (Option.some Jvm.ClassFile.FieldType.int)) ∈ lw_all := lw_g (lw_at lw_m6 84 rfl) rfl
theorem q1431 : (Jvm.Cond.methodLink "DawnPerquisiteLaw" (234 : Nat) ({ cls := "DawnPerquisite", name := "can", desc := "(I)Z" } : Jvm.MethodName)) ∈ lw_all := lw_g (lw_at lw_m6 85 rfl) rfl
theorem q1432 : (Jvm.Cond.instanceMethod ({ cls := "DawnPerquisite", name := "can", desc := "(I)Z" } : Jvm.MethodName)) ∈ lw_all := lw_g (lw_at lw_m6 86 rfl) rfl
theorem q1433 : (Jvm.Cond.selects "DawnPerquisite" ({ cls := "DawnPerquisite", name := "can", desc := "(I)Z" } : Jvm.MethodName) ({ cls := "DawnPerquisite", name := "can", desc := "(I)Z" } : Jvm.MethodName)) ∈ lw_all := lw_g (lw_at lw_m6 87 rfl) rfl
theorem q1434 : (Jvm.Cond.code ({ cls := "DawnPerquisite", name := "can", desc := "(I)Z" } : Jvm.MethodName) prog_1_method_112_code (2 : Nat) (Option.some Jvm.ClassFile.FieldType.boolean)) ∈ lw_all := lw_g (lw_at lw_m6 88 rfl) rfl
theorem q1435 : (Jvm.Cond.methodLink "DawnPerquisiteLaw" (238 : Nat) ({ cls := "DawnPerquisite", name := "ledger", desc := "(I)I" } : Jvm.MethodName)) ∈ lw_all := lw_g (lw_at lw_m6 89 rfl) rfl
theorem q1436 : (Jvm.Cond.instanceMethod ({ cls := "DawnPerquisite", name := "ledger", desc := "(I)I" } : Jvm.MethodName)) ∈ lw_all := lw_g (lw_at lw_m6 90 rfl) rfl
theorem q1437 : (Jvm.Cond.selects "DawnPerquisite" ({ cls := "DawnPerquisite", name := "ledger", desc := "(I)I" } : Jvm.MethodName) ({ cls := "DawnPerquisite", name := "ledger", desc := "(I)I" } : Jvm.MethodName)) ∈ lw_all := lw_g (lw_at lw_m6 91 rfl) rfl
theorem q1438 : (Jvm.Cond.code ({ cls := "DawnPerquisite", name := "ledger", desc := "(I)I" } : Jvm.MethodName) prog_1_method_113_code (4 : Nat) (Option.some Jvm.ClassFile.FieldType.int)) ∈ lw_all := lw_g (lw_at lw_m6 92 rfl) rfl
theorem q1439 : (Jvm.Cond.methodLink "DawnPerquisiteLaw" (242 : Nat) ({ cls := "DawnPerquisite", name := "image", desc := "()I" } : Jvm.MethodName)) ∈ lw_all := lw_g (lw_at lw_m6 93 rfl) rfl
theorem q1440 : (Jvm.Cond.instanceMethod ({ cls := "DawnPerquisite", name := "image", desc := "()I" } : Jvm.MethodName)) ∈ lw_all := lw_g (lw_at lw_m6 94 rfl) rfl
theorem q1441 : (Jvm.Cond.selects "DawnPerquisite" ({ cls := "DawnPerquisite", name := "image", desc := "()I" } : Jvm.MethodName) ({ cls := "DawnPerquisite", name := "image", desc := "()I" } : Jvm.MethodName)) ∈ lw_all := lw_g (lw_at lw_m6 95 rfl) rfl
theorem q1442 : (Jvm.Cond.code ({ cls := "DawnPerquisite", name := "image", desc := "()I" } : Jvm.MethodName) prog_1_method_114_code (1 : Nat) (Option.some Jvm.ClassFile.FieldType.int)) ∈ lw_all := lw_g (lw_at lw_m6 96 rfl) rfl
theorem q1443 : (Jvm.Cond.methodLink "DawnPerquisiteLaw" (246 : Nat) ({ cls := "DawnPerquisite", name := "back", desc := "()I" } : Jvm.MethodName)) ∈ lw_all := lw_g (lw_at lw_m6 97 rfl) rfl
theorem q1444 : (Jvm.Cond.instanceMethod ({ cls := "DawnPerquisite", name := "back", desc := "()I" } : Jvm.MethodName)) ∈ lw_all := lw_g (lw_at lw_m6 98 rfl) rfl
theorem q1445 : (Jvm.Cond.selects "DawnPerquisite" ({ cls := "DawnPerquisite", name := "back", desc := "()I" } : Jvm.MethodName) ({ cls := "DawnPerquisite", name := "back", desc := "()I" } : Jvm.MethodName)) ∈ lw_all := lw_g (lw_at lw_m6 99 rfl) rfl
theorem q1446 : (Jvm.Cond.code ({ cls := "DawnPerquisite", name := "back", desc := "()I" } : Jvm.MethodName) prog_1_method_115_code (1 : Nat) (Option.some Jvm.ClassFile.FieldType.int)) ∈ lw_all := lw_g (lw_at lw_m6 100 rfl) rfl
theorem q1447 : (Jvm.Cond.methodLink "DawnPerquisiteLaw" (250 : Nat) ({ cls := "DawnPerquisite", name := "about", desc := "(I)I" } : Jvm.MethodName)) ∈ lw_all := lw_g (lw_at lw_m6 101 rfl) rfl
theorem q1448 : (Jvm.Cond.instanceMethod ({ cls := "DawnPerquisite", name := "about", desc := "(I)I" } : Jvm.MethodName)) ∈ lw_all := lw_g (lw_at lw_m6 102 rfl) rfl
theorem q1449 : (Jvm.Cond.selects "DawnPerquisite" ({ cls := "DawnPerquisite", name := "about", desc := "(I)I" } : Jvm.MethodName) ({ cls := "DawnPerquisite", name := "about", desc := "(I)I" } : Jvm.MethodName)) ∈ lw_all := lw_g (lw_at lw_m6 103 rfl) rfl
theorem q1450 : (Jvm.Cond.code ({ cls := "DawnPerquisite", name := "about", desc := "(I)I" } : Jvm.MethodName) prog_1_method_116_code (2 : Nat) (Option.some Jvm.ClassFile.FieldType.int)) ∈ lw_all := lw_g (lw_at lw_m6 104 rfl) rfl
theorem q1451 : (Jvm.Cond.classLink "DawnPerquisiteLaw" (10 : Nat) "DawnPerquisiteModel") ∈ lw_all := lw_g (lw_at lw_m6 105 rfl) rfl
theorem q1452 : (Jvm.Cond.instantiable "DawnPerquisiteModel" (28 : Nat)) ∈ lw_all := lw_g (lw_at lw_m6 106 rfl) rfl
theorem q1453 : (Jvm.Cond.methodLink "DawnPerquisiteLaw" (12 : Nat) ({ cls := "DawnPerquisiteModel", name := "<init>", desc := "()V" } : Jvm.MethodName)) ∈ lw_all := lw_g (lw_at lw_m6 107 rfl) rfl
theorem q1454 : (Jvm.Cond.instanceMethod ({ cls := "DawnPerquisiteModel", name := "<init>", desc := "()V" } : Jvm.MethodName)) ∈ lw_all := lw_g (lw_at lw_m6 108 rfl) rfl
theorem q1455 : (Jvm.Cond.code ({ cls := "DawnPerquisiteModel", name := "<init>", desc := "()V" } : Jvm.MethodName) prog_20_method_1_code (2 : Nat) (Option.none : Option Jvm.ClassFile.FieldType)) ∈ lw_all := lw_g (lw_at lw_m6 109 rfl) rfl
theorem q1456 : (Jvm.Cond.methodLink "DawnPerquisiteModel" (1 : Nat) ({ cls := "java/lang/Object", name := "<init>", desc := "()V" } : Jvm.MethodName)) ∈ lw_all := lw_g (lw_at lw_m6 110 rfl) rfl
theorem q1457 : (Jvm.Cond.methodLink "DawnPerquisiteModel" (59 : Nat) ({ cls := "DawnPerquisiteModel", name := "copy", desc := "([I[I)V" } : Jvm.MethodName)) ∈ lw_all := lw_g (lw_at lw_m6 111 rfl) rfl
theorem q1458 : (Jvm.Cond.static ({ cls := "DawnPerquisiteModel", name := "copy", desc := "([I[I)V" } : Jvm.MethodName)) ∈ lw_all := lw_g (lw_at lw_m6 112 rfl) rfl
theorem q1459 : (Jvm.Cond.code ({ cls := "DawnPerquisiteModel", name := "copy", desc := "([I[I)V" } : Jvm.MethodName) prog_20_method_2_code (3 : Nat) (Option.none : Option Jvm.ClassFile.FieldType)) ∈ lw_all := lw_g (lw_at lw_m6 113 rfl) rfl
theorem q1460 : (Jvm.Cond.fieldLink "DawnPerquisiteModel" (7 : Nat) "DawnPerquisiteModel" "a" "[I") ∈ lw_all := lw_g (lw_at lw_m6 114 rfl) rfl
theorem q1461 : (Jvm.Cond.fieldLink "DawnPerquisiteModel" (13 : Nat) "DawnPerquisiteModel" "image" "[I") ∈ lw_all := lw_g (lw_at lw_m6 115 rfl) rfl
theorem q1462 : (Jvm.Cond.fieldLink "DawnPerquisiteModel" (16 : Nat) "DawnPerquisiteModel" "texts" "[I") ∈ lw_all := lw_g (lw_at lw_m6 116 rfl) rfl
theorem q1463 : (Jvm.Cond.fieldLink "DawnPerquisiteModel" (19 : Nat) "DawnPerquisiteModel" "tape" "[I") ∈ lw_all := lw_g (lw_at lw_m6 117 rfl) rfl
theorem q1464 : (Jvm.Cond.fieldLink "DawnPerquisiteModel" (88 : Nat) "DawnPerquisiteModel" "taped" "I") ∈ lw_all := lw_g (lw_at lw_m6 118 rfl) rfl
theorem q1465 : (Jvm.Cond.fieldLink "DawnPerquisiteModel" (22 : Nat) "DawnPerquisiteModel" "fault" "I") ∈ lw_all := lw_g (lw_at lw_m6 119 rfl) rfl
theorem q1466 : (Jvm.Cond.fieldLink "DawnPerquisiteModel" (26 : Nat) "DawnPerquisiteModel" "faultPlace" "I") ∈ lw_all := lw_g (lw_at lw_m6 120 rfl) rfl
theorem q1467 : (Jvm.Cond.fieldLink "DawnPerquisiteModel" (95 : Nat) "DawnPerquisiteModel" "cursor" "I") ∈ lw_all := lw_g (lw_at lw_m6 121 rfl) rfl
theorem q1468 : (Jvm.Cond.fieldLink "DawnPerquisiteModel" (101 : Nat) "DawnPerquisiteModel" "place" "I") ∈ lw_all := lw_g (lw_at lw_m6 122 rfl) rfl
theorem q1469 : (Jvm.Cond.fieldLink "DawnPerquisiteModel" (104 : Nat) "DawnPerquisiteModel" "token" "I") ∈ lw_all := lw_g (lw_at lw_m6 123 rfl) rfl
theorem q1470 : (Jvm.Cond.fieldLink "DawnPerquisiteModel" (110 : Nat) "DawnPerquisiteModel" "number" "I") ∈ lw_all := lw_g (lw_at lw_m6 124 rfl) rfl
theorem q1471 : (Jvm.Cond.fieldLink "DawnPerquisiteModel" (117 : Nat) "DawnPerquisiteModel" "word" "J") ∈ lw_all := lw_g (lw_at lw_m6 125 rfl) rfl
theorem q1472 : (Jvm.Cond.fieldLink "DawnPerquisiteModel" (142 : Nat) "DawnPerquisiteModel" "text0" "I") ∈ lw_all := lw_g (lw_at lw_m6 126 rfl) rfl
theorem q1473 : (Jvm.Cond.fieldLink "DawnPerquisiteModel" (145 : Nat) "DawnPerquisiteModel" "written" "I") ∈ lw_all := lw_g (lw_at lw_m6 127 rfl) rfl
theorem q1474 : (Jvm.Cond.fieldLink "DawnPerquisiteModel" (148 : Nat) "DawnPerquisiteModel" "sort0" "I") ∈ lw_all := lw_g (lw_at lw_m6 128 rfl) rfl
theorem q1475 : (Jvm.Cond.fieldLink "DawnPerquisiteModel" (29 : Nat) "DawnPerquisiteModel" "pile" "[I") ∈ lw_all := lw_g (lw_at lw_m6 129 rfl) rfl
theorem q1476 : (Jvm.Cond.fieldLink "DawnPerquisiteModel" (151 : Nat) "DawnPerquisiteModel" "piled" "I") ∈ lw_all := lw_g (lw_at lw_m6 130 rfl) rfl
theorem q1477 : (Jvm.Cond.fieldLink "DawnPerquisiteModel" (161 : Nat) "DawnPerquisiteModel" "opens" "I") ∈ lw_all := lw_g (lw_at lw_m6 131 rfl) rfl
theorem q1478 : (Jvm.Cond.fieldLink "DawnPerquisiteModel" (180 : Nat) "DawnPerquisiteModel" "isWhole" "Z") ∈ lw_all := lw_g (lw_at lw_m6 132 rfl) rfl
theorem q1479 : (Jvm.Cond.fieldLink "DawnPerquisiteModel" (234 : Nat) "DawnPerquisiteModel" "once" "I") ∈ lw_all := lw_g (lw_at lw_m6 133 rfl) rfl
theorem q1480 : (Jvm.Cond.fieldLink "DawnPerquisiteModel" (32 : Nat) "DawnPerquisiteModel" "named" "[I") ∈ lw_all := lw_g (lw_at lw_m6 134 rfl) rfl
theorem q1481 : (Jvm.Cond.fieldLink "DawnPerquisiteModel" (35 : Nat) "DawnPerquisiteModel" "values" "[J") ∈ lw_all := lw_g (lw_at lw_m6 135 rfl) rfl
theorem q1482 : (Jvm.Cond.fieldLink "DawnPerquisiteModel" (39 : Nat) "DawnPerquisiteModel" "truth" "[Z") ∈ lw_all := lw_g (lw_at lw_m6 136 rfl) rfl
theorem q1483 : (Jvm.Cond.fieldLink "DawnPerquisiteModel" (43 : Nat) "DawnPerquisiteModel" "isWritten" "Z") ∈ lw_all := lw_g (lw_at lw_m6 137 rfl) rfl
theorem q1484 : (Jvm.Cond.fieldLink "DawnPerquisiteModel" (47 : Nat) "DawnPerquisiteModel" "aside" "[I") ∈ lw_all := lw_g (lw_at lw_m6 138 rfl) rfl
theorem q1485 : (Jvm.Cond.fieldLink "DawnPerquisiteModel" (50 : Nat) "DawnPerquisiteModel" "dawnFull" "[I") ∈ lw_all := lw_g (lw_at lw_m6 139 rfl) rfl
theorem q1486 : (Jvm.Cond.fieldLink "DawnPerquisiteModel" (53 : Nat) "DawnPerquisiteModel" "dawnOf" "[I") ∈ lw_all := lw_g (lw_at lw_m6 140 rfl) rfl
theorem q1487 : (Jvm.Cond.fieldLink "DawnPerquisiteModel" (56 : Nat) "DawnPerquisiteModel" "games" "[I") ∈ lw_all := lw_g (lw_at lw_m6 141 rfl) rfl
theorem q1488 : (Jvm.Cond.laysFinal "DawnPerquisiteModel" "DawnPerquisiteModel" "a" "[I") ∈ lw_all := lw_g (lw_at lw_m6 142 rfl) rfl
theorem q1489 : (Jvm.Cond.soleField "DawnPerquisiteModel" "a") ∈ lw_all := lw_g (lw_at lw_m6 143 rfl) rfl
theorem q1490 : (Jvm.Cond.laysFinal "DawnPerquisiteModel" "DawnPerquisiteModel" "image" "[I") ∈ lw_all := lw_g (lw_at lw_m6 144 rfl) rfl
theorem q1491 : (Jvm.Cond.soleField "DawnPerquisiteModel" "image") ∈ lw_all := lw_g (lw_at lw_m6 145 rfl) rfl
theorem q1492 : (Jvm.Cond.laysFinal "DawnPerquisiteModel" "DawnPerquisiteModel" "texts" "[I") ∈ lw_all := lw_g (lw_at lw_m6 146 rfl) rfl
theorem q1493 : (Jvm.Cond.soleField "DawnPerquisiteModel" "texts") ∈ lw_all := lw_g (lw_at lw_m6 147 rfl) rfl
theorem q1494 : (Jvm.Cond.laysFinal "DawnPerquisiteModel" "DawnPerquisiteModel" "tape" "[I") ∈ lw_all := lw_g (lw_at lw_m6 148 rfl) rfl
theorem q1495 : (Jvm.Cond.soleField "DawnPerquisiteModel" "tape") ∈ lw_all := lw_g (lw_at lw_m6 149 rfl) rfl
theorem q1496 : (Jvm.Cond.lays "DawnPerquisiteModel" "DawnPerquisiteModel" "taped" "I") ∈ lw_all := lw_g (lw_at lw_m6 150 rfl) rfl
theorem q1497 : (Jvm.Cond.soleField "DawnPerquisiteModel" "taped") ∈ lw_all := lw_g (lw_at lw_m6 151 rfl) rfl
theorem q1498 : (Jvm.Cond.lays "DawnPerquisiteModel" "DawnPerquisiteModel" "fault" "I") ∈ lw_all := lw_g (lw_at lw_m6 152 rfl) rfl
theorem q1499 : (Jvm.Cond.soleField "DawnPerquisiteModel" "fault") ∈ lw_all := lw_g (lw_at lw_m6 153 rfl) rfl
theorem q1500 : (Jvm.Cond.lays "DawnPerquisiteModel" "DawnPerquisiteModel" "faultPlace" "I") ∈ lw_all := lw_g (lw_at lw_m6 154 rfl) rfl
theorem q1501 : (Jvm.Cond.soleField "DawnPerquisiteModel" "faultPlace") ∈ lw_all := lw_g (lw_at lw_m6 155 rfl) rfl
theorem q1502 : (Jvm.Cond.lays "DawnPerquisiteModel" "DawnPerquisiteModel" "cursor" "I") ∈ lw_all := lw_g (lw_at lw_m6 156 rfl) rfl
theorem q1503 : (Jvm.Cond.soleField "DawnPerquisiteModel" "cursor") ∈ lw_all := lw_g (lw_at lw_m6 157 rfl) rfl
theorem q1504 : (Jvm.Cond.lays "DawnPerquisiteModel" "DawnPerquisiteModel" "place" "I") ∈ lw_all := lw_g (lw_at lw_m6 158 rfl) rfl
theorem q1505 : (Jvm.Cond.soleField "DawnPerquisiteModel" "place") ∈ lw_all := lw_g (lw_at lw_m6 159 rfl) rfl
theorem q1506 : (Jvm.Cond.lays "DawnPerquisiteModel" "DawnPerquisiteModel" "token" "I") ∈ lw_all := lw_g (lw_at lw_m6 160 rfl) rfl
theorem q1507 : (Jvm.Cond.soleField "DawnPerquisiteModel" "token") ∈ lw_all := lw_g (lw_at lw_m6 161 rfl) rfl
theorem q1508 : (Jvm.Cond.lays "DawnPerquisiteModel" "DawnPerquisiteModel" "number" "I") ∈ lw_all := lw_g (lw_at lw_m6 162 rfl) rfl
theorem q1509 : (Jvm.Cond.soleField "DawnPerquisiteModel" "number") ∈ lw_all := lw_g (lw_at lw_m6 163 rfl) rfl
theorem q1510 : (Jvm.Cond.lays "DawnPerquisiteModel" "DawnPerquisiteModel" "word" "J") ∈ lw_all := lw_g (lw_at lw_m6 164 rfl) rfl
theorem q1511 : (Jvm.Cond.soleField "DawnPerquisiteModel" "word") ∈ lw_all := lw_g (lw_at lw_m6 165 rfl) rfl
theorem q1512 : (Jvm.Cond.lays "DawnPerquisiteModel" "DawnPerquisiteModel" "text0" "I") ∈ lw_all := lw_g (lw_at lw_m6 166 rfl) rfl
theorem q1513 : (Jvm.Cond.soleField "DawnPerquisiteModel" "text0") ∈ lw_all := lw_g (lw_at lw_m6 167 rfl) rfl
theorem q1514 : (Jvm.Cond.lays "DawnPerquisiteModel" "DawnPerquisiteModel" "written" "I") ∈ lw_all := lw_g (lw_at lw_m6 168 rfl) rfl
theorem q1515 : (Jvm.Cond.soleField "DawnPerquisiteModel" "written") ∈ lw_all := lw_g (lw_at lw_m6 169 rfl) rfl
theorem q1516 : (Jvm.Cond.lays "DawnPerquisiteModel" "DawnPerquisiteModel" "sort0" "I") ∈ lw_all := lw_g (lw_at lw_m6 170 rfl) rfl
theorem q1517 : (Jvm.Cond.soleField "DawnPerquisiteModel" "sort0") ∈ lw_all := lw_g (lw_at lw_m6 171 rfl) rfl
theorem q1518 : (Jvm.Cond.laysFinal "DawnPerquisiteModel" "DawnPerquisiteModel" "pile" "[I") ∈ lw_all := lw_g (lw_at lw_m6 172 rfl) rfl
theorem q1519 : (Jvm.Cond.soleField "DawnPerquisiteModel" "pile") ∈ lw_all := lw_g (lw_at lw_m6 173 rfl) rfl
theorem q1520 : (Jvm.Cond.lays "DawnPerquisiteModel" "DawnPerquisiteModel" "piled" "I") ∈ lw_all := lw_g (lw_at lw_m6 174 rfl) rfl
theorem q1521 : (Jvm.Cond.soleField "DawnPerquisiteModel" "piled") ∈ lw_all := lw_g (lw_at lw_m6 175 rfl) rfl
theorem q1522 : (Jvm.Cond.lays "DawnPerquisiteModel" "DawnPerquisiteModel" "opens" "I") ∈ lw_all := lw_g (lw_at lw_m6 176 rfl) rfl
theorem q1523 : (Jvm.Cond.soleField "DawnPerquisiteModel" "opens") ∈ lw_all := lw_g (lw_at lw_m6 177 rfl) rfl
theorem q1524 : (Jvm.Cond.lays "DawnPerquisiteModel" "DawnPerquisiteModel" "isWhole" "Z") ∈ lw_all := lw_g (lw_at lw_m6 178 rfl) rfl
theorem q1525 : (Jvm.Cond.soleField "DawnPerquisiteModel" "isWhole") ∈ lw_all := lw_g (lw_at lw_m6 179 rfl) rfl
theorem q1526 : (Jvm.Cond.lays "DawnPerquisiteModel" "DawnPerquisiteModel" "once" "I") ∈ lw_all := lw_g (lw_at lw_m6 180 rfl) rfl
theorem q1527 : (Jvm.Cond.soleField "DawnPerquisiteModel" "once") ∈ lw_all := lw_g (lw_at lw_m6 181 rfl) rfl
theorem q1528 : (Jvm.Cond.laysFinal "DawnPerquisiteModel" "DawnPerquisiteModel" "named" "[I") ∈ lw_all := lw_g (lw_at lw_m6 182 rfl) rfl
theorem q1529 : (Jvm.Cond.soleField "DawnPerquisiteModel" "named") ∈ lw_all := lw_g (lw_at lw_m6 183 rfl) rfl
theorem q1530 : (Jvm.Cond.laysFinal "DawnPerquisiteModel" "DawnPerquisiteModel" "values" "[J") ∈ lw_all := lw_g (lw_at lw_m6 184 rfl) rfl
theorem q1531 : (Jvm.Cond.soleField "DawnPerquisiteModel" "values") ∈ lw_all := lw_g (lw_at lw_m6 185 rfl) rfl
theorem q1532 : (Jvm.Cond.laysFinal "DawnPerquisiteModel" "DawnPerquisiteModel" "truth" "[Z") ∈ lw_all := lw_g (lw_at lw_m6 186 rfl) rfl
theorem q1533 : (Jvm.Cond.soleField "DawnPerquisiteModel" "truth") ∈ lw_all := lw_g (lw_at lw_m6 187 rfl) rfl
theorem q1534 : (Jvm.Cond.lays "DawnPerquisiteModel" "DawnPerquisiteModel" "isWritten" "Z") ∈ lw_all := lw_g (lw_at lw_m6 188 rfl) rfl
theorem q1535 : (Jvm.Cond.soleField "DawnPerquisiteModel" "isWritten") ∈ lw_all := lw_g (lw_at lw_m6 189 rfl) rfl
theorem q1536 : (Jvm.Cond.laysFinal "DawnPerquisiteModel" "DawnPerquisiteModel" "aside" "[I") ∈ lw_all := lw_g (lw_at lw_m6 190 rfl) rfl
theorem q1537 : (Jvm.Cond.soleField "DawnPerquisiteModel" "aside") ∈ lw_all := lw_g (lw_at lw_m6 191 rfl) rfl
theorem q1538 : (Jvm.Cond.laysFinal "DawnPerquisiteModel" "DawnPerquisiteModel" "dawnFull" "[I") ∈ lw_all := lw_g (lw_at lw_m6 192 rfl) rfl
theorem q1539 : (Jvm.Cond.soleField "DawnPerquisiteModel" "dawnFull") ∈ lw_all := lw_g (lw_at lw_m6 193 rfl) rfl
theorem q1540 : (Jvm.Cond.laysFinal "DawnPerquisiteModel" "DawnPerquisiteModel" "dawnOf" "[I") ∈ lw_all := lw_g (lw_at lw_m6 194 rfl) rfl
theorem q1541 : (Jvm.Cond.soleField "DawnPerquisiteModel" "dawnOf") ∈ lw_all := lw_g (lw_at lw_m6 195 rfl) rfl
theorem q1542 : (Jvm.Cond.laysFinal "DawnPerquisiteModel" "DawnPerquisiteModel" "games" "[I") ∈ lw_all := lw_g (lw_at lw_m6 196 rfl) rfl
theorem q1543 : (Jvm.Cond.soleField "DawnPerquisiteModel" "games") ∈ lw_all := lw_g (lw_at lw_m6 197 rfl) rfl
theorem q1544 : (Jvm.Cond.superclass "DawnPerquisiteModel" "java/lang/Object") ∈ lw_all := lw_g (lw_at lw_m6 198 rfl) rfl
theorem q1545 : (Jvm.Cond.arrayClass Jvm.ClassFile.FieldType.long) ∈ lw_all := lw_g (lw_at lw_m6 199 rfl) rfl
theorem q1546 : (Jvm.Cond.arrayClass Jvm.ClassFile.FieldType.boolean) ∈ lw_all := lw_g (lw_at lw_m6 200 rfl) rfl
theorem q1547 : (Jvm.Cond.methodLink "DawnPerquisiteLaw" (17 : Nat) ({ cls := "DawnPerquisiteModel", name := "sort", desc := "(III)Z" } : Jvm.MethodName)) ∈ lw_all := lw_g (lw_at lw_m6 201 rfl) rfl
theorem q1548 : (Jvm.Cond.instanceMethod ({ cls := "DawnPerquisiteModel", name := "sort", desc := "(III)Z" } : Jvm.MethodName)) ∈ lw_all := lw_g (lw_at lw_m6 202 rfl) rfl
theorem q1549 : (Jvm.Cond.selects "DawnPerquisiteModel" ({ cls := "DawnPerquisiteModel", name := "sort", desc := "(III)Z" } : Jvm.MethodName) ({ cls := "DawnPerquisiteModel", name := "sort", desc := "(III)Z" } : Jvm.MethodName)) ∈ lw_all := lw_g (lw_at lw_m6 203 rfl) rfl
theorem q1550 : (Jvm.Cond.code ({ cls := "DawnPerquisiteModel", name := "sort", desc := "(III)Z" } : Jvm.MethodName) prog_20_method_18_code (4 : Nat) (Option.some Jvm.ClassFile.FieldType.boolean)) ∈ lw_all := lw_g (lw_at lw_m6 204 rfl) rfl
theorem q1551 : (Jvm.Cond.methodLink "DawnPerquisiteModel" (81 : Nat) ({ cls := "DawnPerquisiteModel", name := "isSort", desc := "(I)Z" } : Jvm.MethodName)) ∈ lw_all := lw_g (lw_at lw_m6 205 rfl) rfl
theorem q1552 : (Jvm.Cond.static ({ cls := "DawnPerquisiteModel", name := "isSort", desc := "(I)Z" } : Jvm.MethodName)) ∈ lw_all := lw_g (lw_at lw_m6 206 rfl) rfl
theorem q1553 : (Jvm.Cond.code ({ cls := "DawnPerquisiteModel", name := "isSort", desc := "(I)Z" } : Jvm.MethodName) prog_20_method_8_code (1 : Nat) (Option.some Jvm.ClassFile.FieldType.boolean)) ∈ lw_all := lw_g (lw_at lw_m6 207 rfl) rfl
theorem q1554 : (Jvm.Cond.methodLink "DawnPerquisiteModel" (63 : Nat) ({ cls := "DawnPerquisiteModel", name := "isIn", desc := "(III)Z" } : Jvm.MethodName)) ∈ lw_all := lw_g (lw_at lw_m6 208 rfl) rfl
theorem q1555 : (Jvm.Cond.static ({ cls := "DawnPerquisiteModel", name := "isIn", desc := "(III)Z" } : Jvm.MethodName)) ∈ lw_all := lw_g (lw_at lw_m6 209 rfl) rfl
theorem q1556 : (Jvm.Cond.code ({ cls := "DawnPerquisiteModel", name := "isIn", desc := "(III)Z" } : Jvm.MethodName) prog_20_method_3_code (3 : Nat) (Option.some Jvm.ClassFile.FieldType.boolean)) ∈ lw_all := lw_g (lw_at lw_m6 210 rfl) rfl
theorem q1557 : (Jvm.Cond.methodLink "DawnPerquisiteLaw" (22 : Nat) ({ cls := "DawnPerquisiteModel", name := "buyer", desc := "(IIII)I" } : Jvm.MethodName)) ∈ lw_all := lw_g (lw_at lw_m6 211 rfl) rfl
theorem q1558 : (Jvm.Cond.instanceMethod ({ cls := "DawnPerquisiteModel", name := "buyer", desc := "(IIII)I" } : Jvm.MethodName)) ∈ lw_all := lw_g (lw_at lw_m6 212 rfl) rfl
theorem q1559 : (Jvm.Cond.selects "DawnPerquisiteModel" ({ cls := "DawnPerquisiteModel", name := "buyer", desc := "(IIII)I" } : Jvm.MethodName) ({ cls := "DawnPerquisiteModel", name := "buyer", desc := "(IIII)I" } : Jvm.MethodName)) ∈ lw_all := lw_g (lw_at lw_m6 213 rfl) rfl
theorem q1560 : (Jvm.Cond.code ({ cls := "DawnPerquisiteModel", name := "buyer", desc := "(IIII)I" } : Jvm.MethodName) prog_20_method_19_code (6 : Nat) (Option.some Jvm.ClassFile.FieldType.int)) ∈ lw_all := lw_g (lw_at lw_m6 214 rfl) rfl
theorem q1561 : (Jvm.Cond.methodLink "DawnPerquisiteModel" (85 : Nat) ({ cls := "DawnPerquisiteModel", name := "areSlices", desc := "(II)Z" } : Jvm.MethodName)) ∈ lw_all := lw_g (lw_at lw_m6 215 rfl) rfl
theorem q1562 : (Jvm.Cond.static ({ cls := "DawnPerquisiteModel", name := "areSlices", desc := "(II)Z" } : Jvm.MethodName)) ∈ lw_all := lw_g (lw_at lw_m6 216 rfl) rfl
theorem q1563 : (Jvm.Cond.code ({ cls := "DawnPerquisiteModel", name := "areSlices", desc := "(II)Z" } : Jvm.MethodName) prog_20_method_10_code (2 : Nat) (Option.some Jvm.ClassFile.FieldType.boolean)) ∈ lw_all := lw_g (lw_at lw_m6 217 rfl) rfl
theorem q1564 : (Jvm.Cond.methodLink "DawnPerquisiteLaw" (27 : Nat) ({ cls := "DawnPerquisiteModel", name := "feed", desc := "(IIIII)I" } : Jvm.MethodName)) ∈ lw_all := lw_g (lw_at lw_m6 218 rfl) rfl
theorem q1565 : (Jvm.Cond.instanceMethod ({ cls := "DawnPerquisiteModel", name := "feed", desc := "(IIIII)I" } : Jvm.MethodName)) ∈ lw_all := lw_g (lw_at lw_m6 219 rfl) rfl
theorem q1566 : (Jvm.Cond.selects "DawnPerquisiteModel" ({ cls := "DawnPerquisiteModel", name := "feed", desc := "(IIIII)I" } : Jvm.MethodName) ({ cls := "DawnPerquisiteModel", name := "feed", desc := "(IIIII)I" } : Jvm.MethodName)) ∈ lw_all := lw_g (lw_at lw_m6 220 rfl) rfl
theorem q1567 : (Jvm.Cond.code ({ cls := "DawnPerquisiteModel", name := "feed", desc := "(IIIII)I" } : Jvm.MethodName) prog_20_method_21_code (6 : Nat) (Option.some Jvm.ClassFile.FieldType.int)) ∈ lw_all := lw_g (lw_at lw_m6 221 rfl) rfl
theorem q1568 : (Jvm.Cond.methodLink "DawnPerquisiteModel" (91 : Nat) ({ cls := "DawnPerquisiteModel", name := "four", desc := "(I)V" } : Jvm.MethodName)) ∈ lw_all := lw_g (lw_at lw_m6 222 rfl) rfl
theorem q1569 : (Jvm.Cond.privateMethod ({ cls := "DawnPerquisiteModel", name := "four", desc := "(I)V" } : Jvm.MethodName)) ∈ lw_tbl := lw_at lw_m6 223 rfl
theorem q1570 : (Jvm.Cond.instanceMethod ({ cls := "DawnPerquisiteModel", name := "four", desc := "(I)V" } : Jvm.MethodName)) ∈ lw_all := lw_g (lw_at lw_m6 224 rfl) rfl
theorem q1571 : (Jvm.Cond.code ({ cls := "DawnPerquisiteModel", name := "four", desc := "(I)V" } : Jvm.MethodName) prog_20_method_20_code (3 : Nat) (Option.none : Option Jvm.ClassFile.FieldType)) ∈ lw_all := lw_g (lw_at lw_m6 225 rfl) rfl
theorem q1572 : (Jvm.Cond.methodLink "DawnPerquisiteLaw" (32 : Nat) ({ cls := "DawnPerquisiteModel", name := "end", desc := "(I)I" } : Jvm.MethodName)) ∈ lw_all := lw_g (lw_at lw_m6 226 rfl) rfl
theorem q1573 : (Jvm.Cond.instanceMethod ({ cls := "DawnPerquisiteModel", name := "end", desc := "(I)I" } : Jvm.MethodName)) ∈ lw_all := lw_g (lw_at lw_m6 227 rfl) rfl
theorem q1574 : (Jvm.Cond.selects "DawnPerquisiteModel" ({ cls := "DawnPerquisiteModel", name := "end", desc := "(I)I" } : Jvm.MethodName) ({ cls := "DawnPerquisiteModel", name := "end", desc := "(I)I" } : Jvm.MethodName)) ∈ lw_all := lw_g (lw_at lw_m6 228 rfl) rfl
theorem q1575 : (Jvm.Cond.code ({ cls := "DawnPerquisiteModel", name := "end", desc := "(I)I" } : Jvm.MethodName) prog_20_method_22_code (2 : Nat) (Option.some Jvm.ClassFile.FieldType.int)) ∈ lw_all := lw_g (lw_at lw_m6 229 rfl) rfl
theorem q1576 : (Jvm.Cond.methodLink "DawnPerquisiteLaw" (37 : Nat) ({ cls := "DawnPerquisiteModel", name := "text", desc := "()I" } : Jvm.MethodName)) ∈ lw_all := lw_g (lw_at lw_m6 230 rfl) rfl
theorem q1577 : (Jvm.Cond.instanceMethod ({ cls := "DawnPerquisiteModel", name := "text", desc := "()I" } : Jvm.MethodName)) ∈ lw_all := lw_g (lw_at lw_m6 231 rfl) rfl
theorem q1578 : (Jvm.Cond.selects "DawnPerquisiteModel" ({ cls := "DawnPerquisiteModel", name := "text", desc := "()I" } : Jvm.MethodName) ({ cls := "DawnPerquisiteModel", name := "text", desc := "()I" } : Jvm.MethodName)) ∈ lw_all := lw_g (lw_at lw_m6 232 rfl) rfl
theorem q1579 : (Jvm.Cond.code ({ cls := "DawnPerquisiteModel", name := "text", desc := "()I" } : Jvm.MethodName) prog_20_method_58_code (1 : Nat) (Option.some Jvm.ClassFile.FieldType.int)) ∈ lw_all := lw_g (lw_at lw_m6 233 rfl) rfl
theorem q1580 : (Jvm.Cond.methodLink "DawnPerquisiteModel" (244 : Nat) ({ cls := "DawnPerquisiteModel", name := "readText", desc := "()I" } : Jvm.MethodName)) ∈ lw_all := lw_g (lw_at lw_m6 234 rfl) rfl
theorem q1581 : (Jvm.Cond.privateMethod ({ cls := "DawnPerquisiteModel", name := "readText", desc := "()I" } : Jvm.MethodName)) ∈ lw_tbl := lw_at lw_m6 235 rfl
theorem q1582 : (Jvm.Cond.instanceMethod ({ cls := "DawnPerquisiteModel", name := "readText", desc := "()I" } : Jvm.MethodName)) ∈ lw_all := lw_g (lw_at lw_m6 236 rfl) rfl
theorem q1583 : (Jvm.Cond.code ({ cls := "DawnPerquisiteModel", name := "readText", desc := "()I" } : Jvm.MethodName) prog_20_method_57_code (2 : Nat) (Option.some Jvm.ClassFile.FieldType.int)) ∈ lw_all := lw_g (lw_at lw_m6 237 rfl) rfl
theorem q1584 : (Jvm.Cond.methodLink "DawnPerquisiteModel" (171 : Nat) ({ cls := "DawnPerquisiteModel", name := "nextToken", desc := "()V" } : Jvm.MethodName)) ∈ lw_all := lw_g (lw_at lw_m6 238 rfl) rfl
theorem q1585 : (Jvm.Cond.privateMethod ({ cls := "DawnPerquisiteModel", name := "nextToken", desc := "()V" } : Jvm.MethodName)) ∈ lw_tbl := lw_at lw_m6 239 rfl
theorem q1586 : (Jvm.Cond.instanceMethod ({ cls := "DawnPerquisiteModel", name := "nextToken", desc := "()V" } : Jvm.MethodName)) ∈ lw_all := lw_g (lw_at lw_m7 0 rfl) rfl
theorem q1587 : (Jvm.Cond.code ({ cls := "DawnPerquisiteModel", name := "nextToken", desc := "()V" } : Jvm.MethodName) prog_20_method_27_code (2 : Nat) (Option.none : Option Jvm.ClassFile.FieldType)) ∈ lw_all := lw_g (lw_at lw_m7 1 rfl) rfl
theorem q1588 : (Jvm.Cond.methodLink "DawnPerquisiteModel" (98 : Nat) ({ cls := "DawnPerquisiteModel", name := "byteAt", desc := "(I)I" } : Jvm.MethodName)) ∈ lw_all := lw_g (lw_at lw_m7 2 rfl) rfl
theorem q1589 : (Jvm.Cond.privateMethod ({ cls := "DawnPerquisiteModel", name := "byteAt", desc := "(I)I" } : Jvm.MethodName)) ∈ lw_tbl := lw_at lw_m7 3 rfl
theorem q1590 : (Jvm.Cond.instanceMethod ({ cls := "DawnPerquisiteModel", name := "byteAt", desc := "(I)I" } : Jvm.MethodName)) ∈ lw_all := lw_g (lw_at lw_m7 4 rfl) rfl
theorem q1591 : (Jvm.Cond.code ({ cls := "DawnPerquisiteModel", name := "byteAt", desc := "(I)I" } : Jvm.MethodName) prog_20_method_23_code (2 : Nat) (Option.some Jvm.ClassFile.FieldType.int)) ∈ lw_all := lw_g (lw_at lw_m7 5 rfl) rfl
theorem q1592 : (Jvm.Cond.methodLink "DawnPerquisiteModel" (107 : Nat) ({ cls := "DawnPerquisiteModel", name := "isFigure", desc := "(I)Z" } : Jvm.MethodName)) ∈ lw_all := lw_g (lw_at lw_m7 6 rfl) rfl
theorem q1593 : (Jvm.Cond.static ({ cls := "DawnPerquisiteModel", name := "isFigure", desc := "(I)Z" } : Jvm.MethodName)) ∈ lw_all := lw_g (lw_at lw_m7 7 rfl) rfl
theorem q1594 : (Jvm.Cond.code ({ cls := "DawnPerquisiteModel", name := "isFigure", desc := "(I)Z" } : Jvm.MethodName) prog_20_method_25_code (1 : Nat) (Option.some Jvm.ClassFile.FieldType.boolean)) ∈ lw_all := lw_g (lw_at lw_m7 8 rfl) rfl
theorem q1595 : (Jvm.Cond.constant "DawnPerquisiteModel" (113 : Nat) (99999 : Int32)) ∈ lw_all := lw_g (lw_at lw_m7 9 rfl) rfl
theorem q1596 : (Jvm.Cond.methodLink "DawnPerquisiteModel" (114 : Nat) ({ cls := "DawnPerquisiteModel", name := "isLetterByte", desc := "(I)Z" } : Jvm.MethodName)) ∈ lw_all := lw_g (lw_at lw_m7 10 rfl) rfl
theorem q1597 : (Jvm.Cond.static ({ cls := "DawnPerquisiteModel", name := "isLetterByte", desc := "(I)Z" } : Jvm.MethodName)) ∈ lw_all := lw_g (lw_at lw_m7 11 rfl) rfl
theorem q1598 : (Jvm.Cond.code ({ cls := "DawnPerquisiteModel", name := "isLetterByte", desc := "(I)Z" } : Jvm.MethodName) prog_20_method_24_code (1 : Nat) (Option.some Jvm.ClassFile.FieldType.boolean)) ∈ lw_all := lw_g (lw_at lw_m7 12 rfl) rfl
theorem q1599 : (Jvm.Cond.constantLong "DawnPerquisiteModel" (121 : Nat) (1152921504606846976 : Int64)) ∈ lw_all := lw_g (lw_at lw_m7 13 rfl) rfl
theorem q1600 : (Jvm.Cond.methodLink "DawnPerquisiteModel" (123 : Nat) ({ cls := "DawnPerquisiteModel", name := "isSign", desc := "(I)Z" } : Jvm.MethodName)) ∈ lw_all := lw_g (lw_at lw_m7 14 rfl) rfl
theorem q1601 : (Jvm.Cond.static ({ cls := "DawnPerquisiteModel", name := "isSign", desc := "(I)Z" } : Jvm.MethodName)) ∈ lw_all := lw_g (lw_at lw_m7 15 rfl) rfl
theorem q1602 : (Jvm.Cond.code ({ cls := "DawnPerquisiteModel", name := "isSign", desc := "(I)Z" } : Jvm.MethodName) prog_20_method_26_code (1 : Nat) (Option.some Jvm.ClassFile.FieldType.boolean)) ∈ lw_all := lw_g (lw_at lw_m7 16 rfl) rfl
theorem q1603 : (Jvm.Cond.methodLink "DawnPerquisiteModel" (241 : Nat) ({ cls := "DawnPerquisiteModel", name := "clause", desc := "()I" } : Jvm.MethodName)) ∈ lw_all := lw_g (lw_at lw_m7 17 rfl) rfl
theorem q1604 : (Jvm.Cond.privateMethod ({ cls := "DawnPerquisiteModel", name := "clause", desc := "()I" } : Jvm.MethodName)) ∈ lw_tbl := lw_at lw_m7 18 rfl
theorem q1605 : (Jvm.Cond.instanceMethod ({ cls := "DawnPerquisiteModel", name := "clause", desc := "()I" } : Jvm.MethodName)) ∈ lw_all := lw_g (lw_at lw_m7 19 rfl) rfl
theorem q1606 : (Jvm.Cond.code ({ cls := "DawnPerquisiteModel", name := "clause", desc := "()I" } : Jvm.MethodName) prog_20_method_56_code (5 : Nat) (Option.some Jvm.ClassFile.FieldType.int)) ∈ lw_all := lw_g (lw_at lw_m7 20 rfl) rfl
theorem q1607 : (Jvm.Cond.methodLink "DawnPerquisiteModel" (231 : Nat) ({ cls := "DawnPerquisiteModel", name := "sortOf", desc := "()I" } : Jvm.MethodName)) ∈ lw_all := lw_g (lw_at lw_m7 21 rfl) rfl
theorem q1608 : (Jvm.Cond.privateMethod ({ cls := "DawnPerquisiteModel", name := "sortOf", desc := "()I" } : Jvm.MethodName)) ∈ lw_tbl := lw_at lw_m7 22 rfl
theorem q1609 : (Jvm.Cond.instanceMethod ({ cls := "DawnPerquisiteModel", name := "sortOf", desc := "()I" } : Jvm.MethodName)) ∈ lw_all := lw_g (lw_at lw_m7 23 rfl) rfl
theorem q1610 : (Jvm.Cond.code ({ cls := "DawnPerquisiteModel", name := "sortOf", desc := "()I" } : Jvm.MethodName) prog_20_method_55_code (1 : Nat) (Option.some Jvm.ClassFile.FieldType.int)) ∈ lw_all := lw_g (lw_at lw_m7 24 rfl) rfl
theorem q1611 : (Jvm.Cond.methodLink "DawnPerquisiteModel" (134 : Nat) ({ cls := "DawnPerquisiteModel", name := "w4", desc := "(IIII)J" } : Jvm.MethodName)) ∈ lw_all := lw_g (lw_at lw_m7 25 rfl) rfl
theorem q1612 : (Jvm.Cond.static ({ cls := "DawnPerquisiteModel", name := "w4", desc := "(IIII)J" } : Jvm.MethodName)) ∈ lw_all := lw_g (lw_at lw_m7 26 rfl) rfl
theorem q1613 : (Jvm.Cond.code ({ cls := "DawnPerquisiteModel", name := "w4", desc := "(IIII)J" } : Jvm.MethodName) prog_20_method_30_code (4 : Nat) (Option.some Jvm.ClassFile.FieldType.long)) ∈ lw_all := lw_g (lw_at lw_m7 27 rfl) rfl
theorem q1614 : (Jvm.Cond.methodLink "DawnPerquisiteModel" (130 : Nat) ({ cls := "DawnPerquisiteModel", name := "w3", desc := "(III)J" } : Jvm.MethodName)) ∈ lw_all := lw_g (lw_at lw_m7 28 rfl) rfl
theorem q1615 : (Jvm.Cond.static ({ cls := "DawnPerquisiteModel", name := "w3", desc := "(III)J" } : Jvm.MethodName)) ∈ lw_all := lw_g (lw_at lw_m7 29 rfl) rfl
theorem q1616 : (Jvm.Cond.code ({ cls := "DawnPerquisiteModel", name := "w3", desc := "(III)J" } : Jvm.MethodName) prog_20_method_29_code (3 : Nat) (Option.some Jvm.ClassFile.FieldType.long)) ∈ lw_all := lw_g (lw_at lw_m7 30 rfl) rfl
theorem q1617 : (Jvm.Cond.methodLink "DawnPerquisiteModel" (126 : Nat) ({ cls := "DawnPerquisiteModel", name := "w2", desc := "(II)J" } : Jvm.MethodName)) ∈ lw_all := lw_g (lw_at lw_m7 31 rfl) rfl
theorem q1618 : (Jvm.Cond.static ({ cls := "DawnPerquisiteModel", name := "w2", desc := "(II)J" } : Jvm.MethodName)) ∈ lw_all := lw_g (lw_at lw_m7 32 rfl) rfl
theorem q1619 : (Jvm.Cond.code ({ cls := "DawnPerquisiteModel", name := "w2", desc := "(II)J" } : Jvm.MethodName) prog_20_method_28_code (2 : Nat) (Option.some Jvm.ClassFile.FieldType.long)) ∈ lw_all := lw_g (lw_at lw_m7 33 rfl) rfl
theorem q1620 : (Jvm.Cond.methodLink "DawnPerquisiteModel" (189 : Nat) ({ cls := "DawnPerquisiteModel", name := "isWord", desc := "(J)Z" } : Jvm.MethodName)) ∈ lw_all := lw_g (lw_at lw_m7 34 rfl) rfl
theorem q1621 : (Jvm.Cond.privateMethod ({ cls := "DawnPerquisiteModel", name := "isWord", desc := "(J)Z" } : Jvm.MethodName)) ∈ lw_tbl := lw_at lw_m7 35 rfl
theorem q1622 : (Jvm.Cond.instanceMethod ({ cls := "DawnPerquisiteModel", name := "isWord", desc := "(J)Z" } : Jvm.MethodName)) ∈ lw_all := lw_g (lw_at lw_m7 36 rfl) rfl
theorem q1623 : (Jvm.Cond.code ({ cls := "DawnPerquisiteModel", name := "isWord", desc := "(J)Z" } : Jvm.MethodName) prog_20_method_33_code (3 : Nat) (Option.some Jvm.ClassFile.FieldType.boolean)) ∈ lw_all := lw_g (lw_at lw_m7 37 rfl) rfl
theorem q1624 : (Jvm.Cond.methodLink "DawnPerquisiteModel" (138 : Nat) ({ cls := "DawnPerquisiteModel", name := "w5", desc := "(IIIII)J" } : Jvm.MethodName)) ∈ lw_all := lw_g (lw_at lw_m7 38 rfl) rfl
theorem q1625 : (Jvm.Cond.static ({ cls := "DawnPerquisiteModel", name := "w5", desc := "(IIIII)J" } : Jvm.MethodName)) ∈ lw_all := lw_g (lw_at lw_m7 39 rfl) rfl
theorem q1626 : (Jvm.Cond.code ({ cls := "DawnPerquisiteModel", name := "w5", desc := "(IIIII)J" } : Jvm.MethodName) prog_20_method_31_code (5 : Nat) (Option.some Jvm.ClassFile.FieldType.long)) ∈ lw_all := lw_g (lw_at lw_m7 40 rfl) rfl
theorem q1627 : (Jvm.Cond.methodLink "DawnPerquisiteModel" (67 : Nat) ({ cls := "DawnPerquisiteModel", name := "has", desc := "(II)Z" } : Jvm.MethodName)) ∈ lw_all := lw_g (lw_at lw_m7 41 rfl) rfl
theorem q1628 : (Jvm.Cond.static ({ cls := "DawnPerquisiteModel", name := "has", desc := "(II)Z" } : Jvm.MethodName)) ∈ lw_all := lw_g (lw_at lw_m7 42 rfl) rfl
theorem q1629 : (Jvm.Cond.code ({ cls := "DawnPerquisiteModel", name := "has", desc := "(II)Z" } : Jvm.MethodName) prog_20_method_5_code (2 : Nat) (Option.some Jvm.ClassFile.FieldType.boolean)) ∈ lw_all := lw_g (lw_at lw_m7 43 rfl) rfl
theorem q1630 : (Jvm.Cond.methodLink "DawnPerquisiteModel" (237 : Nat) ({ cls := "DawnPerquisiteModel", name := "body", desc := "(II)I" } : Jvm.MethodName)) ∈ lw_all := lw_g (lw_at lw_m7 44 rfl) rfl
theorem q1631 : (Jvm.Cond.privateMethod ({ cls := "DawnPerquisiteModel", name := "body", desc := "(II)I" } : Jvm.MethodName)) ∈ lw_tbl := lw_at lw_m7 45 rfl
theorem q1632 : (Jvm.Cond.instanceMethod ({ cls := "DawnPerquisiteModel", name := "body", desc := "(II)I" } : Jvm.MethodName)) ∈ lw_all := lw_g (lw_at lw_m7 46 rfl) rfl
theorem q1633 : (Jvm.Cond.code ({ cls := "DawnPerquisiteModel", name := "body", desc := "(II)I" } : Jvm.MethodName) prog_20_method_54_code (3 : Nat) (Option.some Jvm.ClassFile.FieldType.int)) ∈ lw_all := lw_g (lw_at lw_m7 47 rfl) rfl
theorem q1634 : (Jvm.Cond.methodLink "DawnPerquisiteModel" (222 : Nat) ({ cls := "DawnPerquisiteModel", name := "buyerClause", desc := "(I)I" } : Jvm.MethodName)) ∈ lw_all := lw_g (lw_at lw_m7 48 rfl) rfl
theorem q1635 : (Jvm.Cond.privateMethod ({ cls := "DawnPerquisiteModel", name := "buyerClause", desc := "(I)I" } : Jvm.MethodName)) ∈ lw_tbl := lw_at lw_m7 49 rfl
theorem q1636 : (Jvm.Cond.instanceMethod ({ cls := "DawnPerquisiteModel", name := "buyerClause", desc := "(I)I" } : Jvm.MethodName)) ∈ lw_all := lw_g (lw_at lw_m7 50 rfl) rfl
theorem q1637 : (Jvm.Cond.code ({ cls := "DawnPerquisiteModel", name := "buyerClause", desc := "(I)I" } : Jvm.MethodName) prog_20_method_52_code (3 : Nat) (Option.some Jvm.ClassFile.FieldType.int)) ∈ lw_all := lw_g (lw_at lw_m7 51 rfl) rfl
theorem q1638 : (Jvm.Cond.methodLink "DawnPerquisiteModel" (218 : Nat) ({ cls := "DawnPerquisiteModel", name := "figure", desc := "(III)I" } : Jvm.MethodName)) ∈ lw_all := lw_g (lw_at lw_m7 52 rfl) rfl
theorem q1639 : (Jvm.Cond.privateMethod ({ cls := "DawnPerquisiteModel", name := "figure", desc := "(III)I" } : Jvm.MethodName)) ∈ lw_tbl := lw_at lw_m7 53 rfl
theorem q1640 : (Jvm.Cond.instanceMethod ({ cls := "DawnPerquisiteModel", name := "figure", desc := "(III)I" } : Jvm.MethodName)) ∈ lw_all := lw_g (lw_at lw_m7 54 rfl) rfl
theorem q1641 : (Jvm.Cond.code ({ cls := "DawnPerquisiteModel", name := "figure", desc := "(III)I" } : Jvm.MethodName) prog_20_method_50_code (4 : Nat) (Option.some Jvm.ClassFile.FieldType.int)) ∈ lw_all := lw_g (lw_at lw_m7 55 rfl) rfl
theorem q1642 : (Jvm.Cond.methodLink "DawnPerquisiteModel" (225 : Nat) ({ cls := "DawnPerquisiteModel", name := "sortClause", desc := "(I)I" } : Jvm.MethodName)) ∈ lw_all := lw_g (lw_at lw_m7 56 rfl) rfl
theorem q1643 : (Jvm.Cond.privateMethod ({ cls := "DawnPerquisiteModel", name := "sortClause", desc := "(I)I" } : Jvm.MethodName)) ∈ lw_tbl := lw_at lw_m7 57 rfl
theorem q1644 : (Jvm.Cond.instanceMethod ({ cls := "DawnPerquisiteModel", name := "sortClause", desc := "(I)I" } : Jvm.MethodName)) ∈ lw_all := lw_g (lw_at lw_m7 58 rfl) rfl
theorem q1645 : (Jvm.Cond.code ({ cls := "DawnPerquisiteModel", name := "sortClause", desc := "(I)I" } : Jvm.MethodName) prog_20_method_53_code (3 : Nat) (Option.some Jvm.ClassFile.FieldType.int)) ∈ lw_all := lw_g (lw_at lw_m7 59 rfl) rfl
theorem q1646 : (Jvm.Cond.methodLink "DawnPerquisiteModel" (228 : Nat) ({ cls := "DawnPerquisiteModel", name := "lawClause", desc := "(I)I" } : Jvm.MethodName)) ∈ lw_all := lw_g (lw_at lw_m7 60 rfl) rfl
theorem q1647 : (Jvm.Cond.privateMethod ({ cls := "DawnPerquisiteModel", name := "lawClause", desc := "(I)I" } : Jvm.MethodName)) ∈ lw_tbl := lw_at lw_m7 61 rfl
theorem q1648 : (Jvm.Cond.instanceMethod ({ cls := "DawnPerquisiteModel", name := "lawClause", desc := "(I)I" } : Jvm.MethodName)) ∈ lw_all := lw_g (lw_at lw_m7 62 rfl) rfl
theorem q1649 : (Jvm.Cond.code ({ cls := "DawnPerquisiteModel", name := "lawClause", desc := "(I)I" } : Jvm.MethodName) prog_20_method_51_code (3 : Nat) (Option.some Jvm.ClassFile.FieldType.int)) ∈ lw_all := lw_g (lw_at lw_m7 63 rfl) rfl
theorem q1650 : (Jvm.Cond.methodLink "DawnPerquisiteModel" (215 : Nat) ({ cls := "DawnPerquisiteModel", name := "summed", desc := "()I" } : Jvm.MethodName)) ∈ lw_all := lw_g (lw_at lw_m7 64 rfl) rfl
theorem q1651 : (Jvm.Cond.privateMethod ({ cls := "DawnPerquisiteModel", name := "summed", desc := "()I" } : Jvm.MethodName)) ∈ lw_tbl := lw_at lw_m7 65 rfl
theorem q1652 : (Jvm.Cond.instanceMethod ({ cls := "DawnPerquisiteModel", name := "summed", desc := "()I" } : Jvm.MethodName)) ∈ lw_all := lw_g (lw_at lw_m7 66 rfl) rfl
theorem q1653 : (Jvm.Cond.code ({ cls := "DawnPerquisiteModel", name := "summed", desc := "()I" } : Jvm.MethodName) prog_20_method_49_code (2 : Nat) (Option.some Jvm.ClassFile.FieldType.int)) ∈ lw_all := lw_g (lw_at lw_m7 67 rfl) rfl
theorem q1654 : (Jvm.Cond.methodLink "DawnPerquisiteModel" (209 : Nat) ({ cls := "DawnPerquisiteModel", name := "behindOne", desc := "()Z" } : Jvm.MethodName)) ∈ lw_all := lw_g (lw_at lw_m7 68 rfl) rfl
theorem q1655 : (Jvm.Cond.privateMethod ({ cls := "DawnPerquisiteModel", name := "behindOne", desc := "()Z" } : Jvm.MethodName)) ∈ lw_tbl := lw_at lw_m7 69 rfl
theorem q1656 : (Jvm.Cond.instanceMethod ({ cls := "DawnPerquisiteModel", name := "behindOne", desc := "()Z" } : Jvm.MethodName)) ∈ lw_all := lw_g (lw_at lw_m7 70 rfl) rfl
theorem q1657 : (Jvm.Cond.code ({ cls := "DawnPerquisiteModel", name := "behindOne", desc := "()Z" } : Jvm.MethodName) prog_20_method_48_code (4 : Nat) (Option.some Jvm.ClassFile.FieldType.boolean)) ∈ lw_all := lw_g (lw_at lw_m7 71 rfl) rfl
theorem q1658 : (Jvm.Cond.methodLink "DawnPerquisiteModel" (203 : Nat) ({ cls := "DawnPerquisiteModel", name := "betweenOf", desc := "()I" } : Jvm.MethodName)) ∈ lw_all := lw_g (lw_at lw_m7 72 rfl) rfl
theorem q1659 : (Jvm.Cond.privateMethod ({ cls := "DawnPerquisiteModel", name := "betweenOf", desc := "()I" } : Jvm.MethodName)) ∈ lw_tbl := lw_at lw_m7 73 rfl
theorem q1660 : (Jvm.Cond.instanceMethod ({ cls := "DawnPerquisiteModel", name := "betweenOf", desc := "()I" } : Jvm.MethodName)) ∈ lw_all := lw_g (lw_at lw_m7 74 rfl) rfl
theorem q1661 : (Jvm.Cond.code ({ cls := "DawnPerquisiteModel", name := "betweenOf", desc := "()I" } : Jvm.MethodName) prog_20_method_46_code (1 : Nat) (Option.some Jvm.ClassFile.FieldType.int)) ∈ lw_all := lw_g (lw_at lw_m7 75 rfl) rfl
theorem q1662 : (Jvm.Cond.methodLink "DawnPerquisiteModel" (168 : Nat) ({ cls := "DawnPerquisiteModel", name := "openNow", desc := "()I" } : Jvm.MethodName)) ∈ lw_all := lw_g (lw_at lw_m7 76 rfl) rfl
theorem q1663 : (Jvm.Cond.privateMethod ({ cls := "DawnPerquisiteModel", name := "openNow", desc := "()I" } : Jvm.MethodName)) ∈ lw_tbl := lw_at lw_m7 77 rfl
theorem q1664 : (Jvm.Cond.instanceMethod ({ cls := "DawnPerquisiteModel", name := "openNow", desc := "()I" } : Jvm.MethodName)) ∈ lw_all := lw_g (lw_at lw_m7 78 rfl) rfl
theorem q1665 : (Jvm.Cond.code ({ cls := "DawnPerquisiteModel", name := "openNow", desc := "()I" } : Jvm.MethodName) prog_20_method_40_code (1 : Nat) (Option.some Jvm.ClassFile.FieldType.int)) ∈ lw_all := lw_g (lw_at lw_m7 79 rfl) rfl
theorem q1666 : (Jvm.Cond.methodLink "DawnPerquisiteModel" (164 : Nat) ({ cls := "DawnPerquisiteModel", name := "openAt", desc := "()I" } : Jvm.MethodName)) ∈ lw_all := lw_g (lw_at lw_m7 80 rfl) rfl
theorem q1667 : (Jvm.Cond.privateMethod ({ cls := "DawnPerquisiteModel", name := "openAt", desc := "()I" } : Jvm.MethodName)) ∈ lw_tbl := lw_at lw_m7 81 rfl
theorem q1668 : (Jvm.Cond.instanceMethod ({ cls := "DawnPerquisiteModel", name := "openAt", desc := "()I" } : Jvm.MethodName)) ∈ lw_all := lw_g (lw_at lw_m7 82 rfl) rfl
theorem q1669 : (Jvm.Cond.code ({ cls := "DawnPerquisiteModel", name := "openAt", desc := "()I" } : Jvm.MethodName) prog_20_method_39_code (2 : Nat) (Option.some Jvm.ClassFile.FieldType.int)) ∈ lw_all := lw_g (lw_at lw_m7 83 rfl) rfl
theorem q1670 : (Jvm.Cond.methodLink "DawnPerquisiteModel" (197 : Nat) ({ cls := "DawnPerquisiteModel", name := "isCompared", desc := "()Z" } : Jvm.MethodName)) ∈ lw_all := lw_g (lw_at lw_m7 84 rfl) rfl
theorem q1671 : (Jvm.Cond.privateMethod ({ cls := "DawnPerquisiteModel", name := "isCompared", desc := "()Z" } : Jvm.MethodName)) ∈ lw_tbl := lw_at lw_m7 85 rfl
theorem q1672 : (Jvm.Cond.instanceMethod ({ cls := "DawnPerquisiteModel", name := "isCompared", desc := "()Z" } : Jvm.MethodName)) ∈ lw_all := lw_g (lw_at lw_m7 86 rfl) rfl
theorem q1673 : (Jvm.Cond.code ({ cls := "DawnPerquisiteModel", name := "isCompared", desc := "()Z" } : Jvm.MethodName) prog_20_method_41_code (2 : Nat) (Option.some Jvm.ClassFile.FieldType.boolean)) ∈ lw_all := lw_g (lw_at lw_m7 87 rfl) rfl
theorem q1674 : (Jvm.Cond.methodLink "DawnPerquisiteModel" (154 : Nat) ({ cls := "DawnPerquisiteModel", name := "rank", desc := "(I)I" } : Jvm.MethodName)) ∈ lw_all := lw_g (lw_at lw_m7 88 rfl) rfl
theorem q1675 : (Jvm.Cond.static ({ cls := "DawnPerquisiteModel", name := "rank", desc := "(I)I" } : Jvm.MethodName)) ∈ lw_all := lw_g (lw_at lw_m7 89 rfl) rfl
theorem q1676 : (Jvm.Cond.code ({ cls := "DawnPerquisiteModel", name := "rank", desc := "(I)I" } : Jvm.MethodName) prog_20_method_37_code (1 : Nat) (Option.some Jvm.ClassFile.FieldType.int)) ∈ lw_all := lw_g (lw_at lw_m7 90 rfl) rfl
theorem q1677 : (Jvm.Cond.methodLink "DawnPerquisiteModel" (200 : Nat) ({ cls := "DawnPerquisiteModel", name := "compareOf", desc := "()I" } : Jvm.MethodName)) ∈ lw_all := lw_g (lw_at lw_m7 91 rfl) rfl
theorem q1678 : (Jvm.Cond.privateMethod ({ cls := "DawnPerquisiteModel", name := "compareOf", desc := "()I" } : Jvm.MethodName)) ∈ lw_tbl := lw_at lw_m7 92 rfl
theorem q1679 : (Jvm.Cond.instanceMethod ({ cls := "DawnPerquisiteModel", name := "compareOf", desc := "()I" } : Jvm.MethodName)) ∈ lw_all := lw_g (lw_at lw_m7 93 rfl) rfl
theorem q1680 : (Jvm.Cond.code ({ cls := "DawnPerquisiteModel", name := "compareOf", desc := "()I" } : Jvm.MethodName) prog_20_method_45_code (1 : Nat) (Option.some Jvm.ClassFile.FieldType.int)) ∈ lw_all := lw_g (lw_at lw_m7 94 rfl) rfl
theorem q1681 : (Jvm.Cond.methodLink "DawnPerquisiteModel" (183 : Nat) ({ cls := "DawnPerquisiteModel", name := "settle", desc := "(I)V" } : Jvm.MethodName)) ∈ lw_all := lw_g (lw_at lw_m7 95 rfl) rfl
theorem q1682 : (Jvm.Cond.privateMethod ({ cls := "DawnPerquisiteModel", name := "settle", desc := "(I)V" } : Jvm.MethodName)) ∈ lw_tbl := lw_at lw_m7 96 rfl
theorem q1683 : (Jvm.Cond.instanceMethod ({ cls := "DawnPerquisiteModel", name := "settle", desc := "(I)V" } : Jvm.MethodName)) ∈ lw_all := lw_g (lw_at lw_m7 97 rfl) rfl
theorem q1684 : (Jvm.Cond.code ({ cls := "DawnPerquisiteModel", name := "settle", desc := "(I)V" } : Jvm.MethodName) prog_20_method_38_code (2 : Nat) (Option.none : Option Jvm.ClassFile.FieldType)) ∈ lw_all := lw_g (lw_at lw_m7 98 rfl) rfl
theorem q1685 : (Jvm.Cond.methodLink "DawnPerquisiteModel" (157 : Nat) ({ cls := "DawnPerquisiteModel", name := "emit", desc := "(II)V" } : Jvm.MethodName)) ∈ lw_all := lw_g (lw_at lw_m7 99 rfl) rfl
theorem q1686 : (Jvm.Cond.privateMethod ({ cls := "DawnPerquisiteModel", name := "emit", desc := "(II)V" } : Jvm.MethodName)) ∈ lw_tbl := lw_at lw_m7 100 rfl
theorem q1687 : (Jvm.Cond.instanceMethod ({ cls := "DawnPerquisiteModel", name := "emit", desc := "(II)V" } : Jvm.MethodName)) ∈ lw_all := lw_g (lw_at lw_m7 101 rfl) rfl
theorem q1688 : (Jvm.Cond.code ({ cls := "DawnPerquisiteModel", name := "emit", desc := "(II)V" } : Jvm.MethodName) prog_20_method_34_code (3 : Nat) (Option.none : Option Jvm.ClassFile.FieldType)) ∈ lw_all := lw_g (lw_at lw_m7 102 rfl) rfl
theorem q1689 : (Jvm.Cond.methodLink "DawnPerquisiteModel" (206 : Nat) ({ cls := "DawnPerquisiteModel", name := "partOf", desc := "(I)I" } : Jvm.MethodName)) ∈ lw_all := lw_g (lw_at lw_m7 103 rfl) rfl
theorem q1690 : (Jvm.Cond.privateMethod ({ cls := "DawnPerquisiteModel", name := "partOf", desc := "(I)I" } : Jvm.MethodName)) ∈ lw_tbl := lw_at lw_m7 104 rfl
theorem q1691 : (Jvm.Cond.instanceMethod ({ cls := "DawnPerquisiteModel", name := "partOf", desc := "(I)I" } : Jvm.MethodName)) ∈ lw_all := lw_g (lw_at lw_m7 105 rfl) rfl
theorem q1692 : (Jvm.Cond.code ({ cls := "DawnPerquisiteModel", name := "partOf", desc := "(I)I" } : Jvm.MethodName) prog_20_method_47_code (2 : Nat) (Option.some Jvm.ClassFile.FieldType.int)) ∈ lw_all := lw_g (lw_at lw_m7 106 rfl) rfl
theorem q1693 : (Jvm.Cond.methodLink "DawnPerquisiteModel" (212 : Nat) ({ cls := "DawnPerquisiteModel", name := "beginOne", desc := "()I" } : Jvm.MethodName)) ∈ lw_all := lw_g (lw_at lw_m7 107 rfl) rfl
theorem q1694 : (Jvm.Cond.privateMethod ({ cls := "DawnPerquisiteModel", name := "beginOne", desc := "()I" } : Jvm.MethodName)) ∈ lw_tbl := lw_at lw_m7 108 rfl
theorem q1695 : (Jvm.Cond.instanceMethod ({ cls := "DawnPerquisiteModel", name := "beginOne", desc := "()I" } : Jvm.MethodName)) ∈ lw_all := lw_g (lw_at lw_m7 109 rfl) rfl
theorem q1696 : (Jvm.Cond.code ({ cls := "DawnPerquisiteModel", name := "beginOne", desc := "()I" } : Jvm.MethodName) prog_20_method_44_code (2 : Nat) (Option.some Jvm.ClassFile.FieldType.int)) ∈ lw_all := lw_g (lw_at lw_m7 110 rfl) rfl
theorem q1697 : (Jvm.Cond.methodLink "DawnPerquisiteModel" (174 : Nat) ({ cls := "DawnPerquisiteModel", name := "nameOf", desc := "()I" } : Jvm.MethodName)) ∈ lw_all := lw_g (lw_at lw_m7 111 rfl) rfl
theorem q1698 : (Jvm.Cond.privateMethod ({ cls := "DawnPerquisiteModel", name := "nameOf", desc := "()I" } : Jvm.MethodName)) ∈ lw_tbl := lw_at lw_m7 112 rfl
theorem q1699 : (Jvm.Cond.instanceMethod ({ cls := "DawnPerquisiteModel", name := "nameOf", desc := "()I" } : Jvm.MethodName)) ∈ lw_all := lw_g (lw_at lw_m7 113 rfl) rfl
theorem q1700 : (Jvm.Cond.code ({ cls := "DawnPerquisiteModel", name := "nameOf", desc := "()I" } : Jvm.MethodName) prog_20_method_35_code (1 : Nat) (Option.some Jvm.ClassFile.FieldType.int)) ∈ lw_all := lw_g (lw_at lw_m7 114 rfl) rfl
theorem q1701 : (Jvm.Cond.methodLink "DawnPerquisiteModel" (177 : Nat) ({ cls := "DawnPerquisiteModel", name := "isOf", desc := "(I)Z" } : Jvm.MethodName)) ∈ lw_all := lw_g (lw_at lw_m7 115 rfl) rfl
theorem q1702 : (Jvm.Cond.privateMethod ({ cls := "DawnPerquisiteModel", name := "isOf", desc := "(I)Z" } : Jvm.MethodName)) ∈ lw_tbl := lw_at lw_m7 116 rfl
theorem q1703 : (Jvm.Cond.instanceMethod ({ cls := "DawnPerquisiteModel", name := "isOf", desc := "(I)Z" } : Jvm.MethodName)) ∈ lw_all := lw_g (lw_at lw_m7 117 rfl) rfl
theorem q1704 : (Jvm.Cond.code ({ cls := "DawnPerquisiteModel", name := "isOf", desc := "(I)Z" } : Jvm.MethodName) prog_20_method_36_code (2 : Nat) (Option.some Jvm.ClassFile.FieldType.boolean)) ∈ lw_all := lw_g (lw_at lw_m7 118 rfl) rfl
theorem q1705 : (Jvm.Cond.methodLink "DawnPerquisiteModel" (186 : Nat) ({ cls := "DawnPerquisiteModel", name := "opened", desc := "(I)I" } : Jvm.MethodName)) ∈ lw_all := lw_g (lw_at lw_m7 119 rfl) rfl
theorem q1706 : (Jvm.Cond.privateMethod ({ cls := "DawnPerquisiteModel", name := "opened", desc := "(I)I" } : Jvm.MethodName)) ∈ lw_tbl := lw_at lw_m7 120 rfl
theorem q1707 : (Jvm.Cond.instanceMethod ({ cls := "DawnPerquisiteModel", name := "opened", desc := "(I)I" } : Jvm.MethodName)) ∈ lw_all := lw_g (lw_at lw_m7 121 rfl) rfl
theorem q1708 : (Jvm.Cond.code ({ cls := "DawnPerquisiteModel", name := "opened", desc := "(I)I" } : Jvm.MethodName) prog_20_method_43_code (2 : Nat) (Option.some Jvm.ClassFile.FieldType.int)) ∈ lw_all := lw_g (lw_at lw_m7 122 rfl) rfl
theorem q1709 : (Jvm.Cond.methodLink "DawnPerquisiteModel" (193 : Nat) ({ cls := "DawnPerquisiteModel", name := "isAskAhead", desc := "()Z" } : Jvm.MethodName)) ∈ lw_all := lw_g (lw_at lw_m7 123 rfl) rfl
theorem q1710 : (Jvm.Cond.privateMethod ({ cls := "DawnPerquisiteModel", name := "isAskAhead", desc := "()Z" } : Jvm.MethodName)) ∈ lw_tbl := lw_at lw_m7 124 rfl
theorem q1711 : (Jvm.Cond.instanceMethod ({ cls := "DawnPerquisiteModel", name := "isAskAhead", desc := "()Z" } : Jvm.MethodName)) ∈ lw_all := lw_g (lw_at lw_m7 125 rfl) rfl
theorem q1712 : (Jvm.Cond.code ({ cls := "DawnPerquisiteModel", name := "isAskAhead", desc := "()Z" } : Jvm.MethodName) prog_20_method_42_code (1 : Nat) (Option.some Jvm.ClassFile.FieldType.boolean)) ∈ lw_all := lw_g (lw_at lw_m7 126 rfl) rfl
theorem q1713 : (Jvm.Cond.methodLink "DawnPerquisiteLaw" (41 : Nat) ({ cls := "DawnPerquisiteModel", name := "fault", desc := "(I)I" } : Jvm.MethodName)) ∈ lw_all := lw_g (lw_at lw_m7 127 rfl) rfl
theorem q1714 : (Jvm.Cond.instanceMethod ({ cls := "DawnPerquisiteModel", name := "fault", desc := "(I)I" } : Jvm.MethodName)) ∈ lw_all := lw_g (lw_at lw_m7 128 rfl) rfl
theorem q1715 : (Jvm.Cond.selects "DawnPerquisiteModel" ({ cls := "DawnPerquisiteModel", name := "fault", desc := "(I)I" } : Jvm.MethodName) ({ cls := "DawnPerquisiteModel", name := "fault", desc := "(I)I" } : Jvm.MethodName)) ∈ lw_all := lw_g (lw_at lw_m7 129 rfl) rfl
theorem q1716 : (Jvm.Cond.code ({ cls := "DawnPerquisiteModel", name := "fault", desc := "(I)I" } : Jvm.MethodName) prog_20_method_59_code (2 : Nat) (Option.some Jvm.ClassFile.FieldType.int)) ∈ lw_all := lw_g (lw_at lw_m7 130 rfl) rfl
theorem q1717 : (Jvm.Cond.methodLink "DawnPerquisiteLaw" (46 : Nat) ({ cls := "DawnPerquisiteModel", name := "by", desc := "(I)Z" } : Jvm.MethodName)) ∈ lw_all := lw_g (lw_at lw_m7 131 rfl) rfl
theorem q1718 : (Jvm.Cond.instanceMethod ({ cls := "DawnPerquisiteModel", name := "by", desc := "(I)Z" } : Jvm.MethodName)) ∈ lw_all := lw_g (lw_at lw_m7 132 rfl) rfl
theorem q1719 : (Jvm.Cond.selects "DawnPerquisiteModel" ({ cls := "DawnPerquisiteModel", name := "by", desc := "(I)Z" } : Jvm.MethodName) ({ cls := "DawnPerquisiteModel", name := "by", desc := "(I)Z" } : Jvm.MethodName)) ∈ lw_all := lw_g (lw_at lw_m7 133 rfl) rfl
theorem q1720 : (Jvm.Cond.code ({ cls := "DawnPerquisiteModel", name := "by", desc := "(I)Z" } : Jvm.MethodName) prog_20_method_60_code (2 : Nat) (Option.some Jvm.ClassFile.FieldType.boolean)) ∈ lw_all := lw_g (lw_at lw_m7 134 rfl) rfl
theorem q1721 : (Jvm.Cond.methodLink "DawnPerquisiteLaw" (79 : Nat) ({ cls := "DawnPerquisiteModel", name := "undo", desc := "()I" } : Jvm.MethodName)) ∈ lw_all := lw_g (lw_at lw_m7 135 rfl) rfl
theorem q1722 : (Jvm.Cond.instanceMethod ({ cls := "DawnPerquisiteModel", name := "undo", desc := "()I" } : Jvm.MethodName)) ∈ lw_all := lw_g (lw_at lw_m7 136 rfl) rfl
theorem q1723 : (Jvm.Cond.selects "DawnPerquisiteModel" ({ cls := "DawnPerquisiteModel", name := "undo", desc := "()I" } : Jvm.MethodName) ({ cls := "DawnPerquisiteModel", name := "undo", desc := "()I" } : Jvm.MethodName)) ∈ lw_all := lw_g (lw_at lw_m7 137 rfl) rfl
theorem q1724 : (Jvm.Cond.code ({ cls := "DawnPerquisiteModel", name := "undo", desc := "()I" } : Jvm.MethodName) prog_20_method_84_code (3 : Nat) (Option.some Jvm.ClassFile.FieldType.int)) ∈ lw_all := lw_g (lw_at lw_m7 138 rfl) rfl
theorem q1725 : (Jvm.Cond.methodLink "DawnPerquisiteLaw" (50 : Nat) ({ cls := "DawnPerquisiteModel", name := "sell", desc := "(I)I" } : Jvm.MethodName)) ∈ lw_all := lw_g (lw_at lw_m7 139 rfl) rfl
theorem q1726 : (Jvm.Cond.instanceMethod ({ cls := "DawnPerquisiteModel", name := "sell", desc := "(I)I" } : Jvm.MethodName)) ∈ lw_all := lw_g (lw_at lw_m7 140 rfl) rfl
theorem q1727 : (Jvm.Cond.selects "DawnPerquisiteModel" ({ cls := "DawnPerquisiteModel", name := "sell", desc := "(I)I" } : Jvm.MethodName) ({ cls := "DawnPerquisiteModel", name := "sell", desc := "(I)I" } : Jvm.MethodName)) ∈ lw_all := lw_g (lw_at lw_m7 141 rfl) rfl
theorem q1728 : (Jvm.Cond.code ({ cls := "DawnPerquisiteModel", name := "sell", desc := "(I)I" } : Jvm.MethodName) prog_20_method_85_code (2 : Nat) (Option.some Jvm.ClassFile.FieldType.int)) ∈ lw_all := lw_g (lw_at lw_m7 142 rfl) rfl
theorem q1729 : (Jvm.Cond.methodLink "DawnPerquisiteModel" (336 : Nat) ({ cls := "DawnPerquisiteModel", name := "canSell", desc := "(I)Z" } : Jvm.MethodName)) ∈ lw_all := lw_g (lw_at lw_m7 143 rfl) rfl
theorem q1730 : (Jvm.Cond.privateMethod ({ cls := "DawnPerquisiteModel", name := "canSell", desc := "(I)Z" } : Jvm.MethodName)) ∈ lw_tbl := lw_at lw_m7 144 rfl
theorem q1731 : (Jvm.Cond.instanceMethod ({ cls := "DawnPerquisiteModel", name := "canSell", desc := "(I)Z" } : Jvm.MethodName)) ∈ lw_all := lw_g (lw_at lw_m7 145 rfl) rfl
theorem q1732 : (Jvm.Cond.code ({ cls := "DawnPerquisiteModel", name := "canSell", desc := "(I)Z" } : Jvm.MethodName) prog_20_method_75_code (2 : Nat) (Option.some Jvm.ClassFile.FieldType.boolean)) ∈ lw_all := lw_g (lw_at lw_m7 146 rfl) rfl
theorem q1733 : (Jvm.Cond.methodLink "DawnPerquisiteModel" (308 : Nat) ({ cls := "DawnPerquisiteModel", name := "isBuyer", desc := "(I)Z" } : Jvm.MethodName)) ∈ lw_all := lw_g (lw_at lw_m7 147 rfl) rfl
theorem q1734 : (Jvm.Cond.privateMethod ({ cls := "DawnPerquisiteModel", name := "isBuyer", desc := "(I)Z" } : Jvm.MethodName)) ∈ lw_tbl := lw_at lw_m7 148 rfl
theorem q1735 : (Jvm.Cond.instanceMethod ({ cls := "DawnPerquisiteModel", name := "isBuyer", desc := "(I)Z" } : Jvm.MethodName)) ∈ lw_all := lw_g (lw_at lw_m7 149 rfl) rfl
theorem q1736 : (Jvm.Cond.code ({ cls := "DawnPerquisiteModel", name := "isBuyer", desc := "(I)Z" } : Jvm.MethodName) prog_20_method_7_code (2 : Nat) (Option.some Jvm.ClassFile.FieldType.boolean)) ∈ lw_all := lw_g (lw_at lw_m7 150 rfl) rfl
theorem q1737 : (Jvm.Cond.methodLink "DawnPerquisiteModel" (283 : Nat) ({ cls := "DawnPerquisiteModel", name := "doesWant", desc := "(II)Z" } : Jvm.MethodName)) ∈ lw_all := lw_g (lw_at lw_m7 151 rfl) rfl
theorem q1738 : (Jvm.Cond.privateMethod ({ cls := "DawnPerquisiteModel", name := "doesWant", desc := "(II)Z" } : Jvm.MethodName)) ∈ lw_tbl := lw_at lw_m7 152 rfl
theorem q1739 : (Jvm.Cond.instanceMethod ({ cls := "DawnPerquisiteModel", name := "doesWant", desc := "(II)Z" } : Jvm.MethodName)) ∈ lw_all := lw_g (lw_at lw_m7 153 rfl) rfl
theorem q1740 : (Jvm.Cond.code ({ cls := "DawnPerquisiteModel", name := "doesWant", desc := "(II)Z" } : Jvm.MethodName) prog_20_method_11_code (3 : Nat) (Option.some Jvm.ClassFile.FieldType.boolean)) ∈ lw_all := lw_g (lw_at lw_m7 154 rfl) rfl
theorem q1741 : (Jvm.Cond.methodLink "DawnPerquisiteModel" (311 : Nat) ({ cls := "DawnPerquisiteModel", name := "slicesOf", desc := "(I)I" } : Jvm.MethodName)) ∈ lw_all := lw_g (lw_at lw_m7 155 rfl) rfl
theorem q1742 : (Jvm.Cond.privateMethod ({ cls := "DawnPerquisiteModel", name := "slicesOf", desc := "(I)I" } : Jvm.MethodName)) ∈ lw_tbl := lw_at lw_m7 156 rfl
theorem q1743 : (Jvm.Cond.instanceMethod ({ cls := "DawnPerquisiteModel", name := "slicesOf", desc := "(I)I" } : Jvm.MethodName)) ∈ lw_all := lw_g (lw_at lw_m7 157 rfl) rfl
theorem q1744 : (Jvm.Cond.code ({ cls := "DawnPerquisiteModel", name := "slicesOf", desc := "(I)I" } : Jvm.MethodName) prog_20_method_13_code (2 : Nat) (Option.some Jvm.ClassFile.FieldType.int)) ∈ lw_all := lw_g (lw_at lw_m7 158 rfl) rfl
theorem q1745 : (Jvm.Cond.methodLink "DawnPerquisiteModel" (71 : Nat) ({ cls := "DawnPerquisiteModel", name := "longOf", desc := "(I)I" } : Jvm.MethodName)) ∈ lw_all := lw_g (lw_at lw_m7 159 rfl) rfl
theorem q1746 : (Jvm.Cond.privateMethod ({ cls := "DawnPerquisiteModel", name := "longOf", desc := "(I)I" } : Jvm.MethodName)) ∈ lw_tbl := lw_at lw_m7 160 rfl
theorem q1747 : (Jvm.Cond.instanceMethod ({ cls := "DawnPerquisiteModel", name := "longOf", desc := "(I)I" } : Jvm.MethodName)) ∈ lw_all := lw_g (lw_at lw_m7 161 rfl) rfl
theorem q1748 : (Jvm.Cond.code ({ cls := "DawnPerquisiteModel", name := "longOf", desc := "(I)I" } : Jvm.MethodName) prog_20_method_12_code (2 : Nat) (Option.some Jvm.ClassFile.FieldType.int)) ∈ lw_all := lw_g (lw_at lw_m7 162 rfl) rfl
theorem q1749 : (Jvm.Cond.methodLink "DawnPerquisiteModel" (280 : Nat) ({ cls := "DawnPerquisiteModel", name := "freeNow", desc := "()I" } : Jvm.MethodName)) ∈ lw_all := lw_g (lw_at lw_m7 163 rfl) rfl
theorem q1750 : (Jvm.Cond.privateMethod ({ cls := "DawnPerquisiteModel", name := "freeNow", desc := "()I" } : Jvm.MethodName)) ∈ lw_tbl := lw_at lw_m7 164 rfl
theorem q1751 : (Jvm.Cond.instanceMethod ({ cls := "DawnPerquisiteModel", name := "freeNow", desc := "()I" } : Jvm.MethodName)) ∈ lw_all := lw_g (lw_at lw_m7 165 rfl) rfl
theorem q1752 : (Jvm.Cond.code ({ cls := "DawnPerquisiteModel", name := "freeNow", desc := "()I" } : Jvm.MethodName) prog_20_method_14_code (3 : Nat) (Option.some Jvm.ClassFile.FieldType.int)) ∈ lw_all := lw_g (lw_at lw_m7 166 rfl) rfl
theorem q1753 : (Jvm.Cond.methodLink "DawnPerquisiteModel" (314 : Nat) ({ cls := "DawnPerquisiteModel", name := "bidsNow", desc := "(I)I" } : Jvm.MethodName)) ∈ lw_all := lw_g (lw_at lw_m7 167 rfl) rfl
theorem q1754 : (Jvm.Cond.privateMethod ({ cls := "DawnPerquisiteModel", name := "bidsNow", desc := "(I)I" } : Jvm.MethodName)) ∈ lw_tbl := lw_at lw_m7 168 rfl
theorem q1755 : (Jvm.Cond.instanceMethod ({ cls := "DawnPerquisiteModel", name := "bidsNow", desc := "(I)I" } : Jvm.MethodName)) ∈ lw_all := lw_g (lw_at lw_m7 169 rfl) rfl
theorem q1756 : (Jvm.Cond.code ({ cls := "DawnPerquisiteModel", name := "bidsNow", desc := "(I)I" } : Jvm.MethodName) prog_20_method_70_code (2 : Nat) (Option.some Jvm.ClassFile.FieldType.int)) ∈ lw_all := lw_g (lw_at lw_m7 170 rfl) rfl
theorem q1757 : (Jvm.Cond.methodLink "DawnPerquisiteModel" (296 : Nat) ({ cls := "DawnPerquisiteModel", name := "bidsOf", desc := "(III)I" } : Jvm.MethodName)) ∈ lw_all := lw_g (lw_at lw_m7 171 rfl) rfl
theorem q1758 : (Jvm.Cond.privateMethod ({ cls := "DawnPerquisiteModel", name := "bidsOf", desc := "(III)I" } : Jvm.MethodName)) ∈ lw_tbl := lw_at lw_m7 172 rfl
theorem q1759 : (Jvm.Cond.instanceMethod ({ cls := "DawnPerquisiteModel", name := "bidsOf", desc := "(III)I" } : Jvm.MethodName)) ∈ lw_all := lw_g (lw_at lw_m7 173 rfl) rfl
theorem q1760 : (Jvm.Cond.code ({ cls := "DawnPerquisiteModel", name := "bidsOf", desc := "(III)I" } : Jvm.MethodName) prog_20_method_69_code (4 : Nat) (Option.some Jvm.ClassFile.FieldType.int)) ∈ lw_all := lw_g (lw_at lw_m7 174 rfl) rfl
theorem q1761 : (Jvm.Cond.methodLink "DawnPerquisiteModel" (289 : Nat) ({ cls := "DawnPerquisiteModel", name := "name", desc := "(II)V" } : Jvm.MethodName)) ∈ lw_all := lw_g (lw_at lw_m7 175 rfl) rfl
theorem q1762 : (Jvm.Cond.privateMethod ({ cls := "DawnPerquisiteModel", name := "name", desc := "(II)V" } : Jvm.MethodName)) ∈ lw_tbl := lw_at lw_m7 176 rfl
theorem q1763 : (Jvm.Cond.instanceMethod ({ cls := "DawnPerquisiteModel", name := "name", desc := "(II)V" } : Jvm.MethodName)) ∈ lw_all := lw_g (lw_at lw_m7 177 rfl) rfl
theorem q1764 : (Jvm.Cond.code ({ cls := "DawnPerquisiteModel", name := "name", desc := "(II)V" } : Jvm.MethodName) prog_20_method_68_code (3 : Nat) (Option.none : Option Jvm.ClassFile.FieldType)) ∈ lw_all := lw_g (lw_at lw_m7 178 rfl) rfl
theorem q1765 : (Jvm.Cond.methodLink "DawnPerquisiteModel" (78 : Nat) ({ cls := "DawnPerquisiteModel", name := "bits", desc := "(I)I" } : Jvm.MethodName)) ∈ lw_all := lw_g (lw_at lw_m7 179 rfl) rfl
theorem q1766 : (Jvm.Cond.static ({ cls := "DawnPerquisiteModel", name := "bits", desc := "(I)I" } : Jvm.MethodName)) ∈ lw_all := lw_g (lw_at lw_m7 180 rfl) rfl
theorem q1767 : (Jvm.Cond.code ({ cls := "DawnPerquisiteModel", name := "bits", desc := "(I)I" } : Jvm.MethodName) prog_20_method_6_code (3 : Nat) (Option.some Jvm.ClassFile.FieldType.int)) ∈ lw_all := lw_g (lw_at lw_m7 181 rfl) rfl
theorem q1768 : (Jvm.Cond.methodLink "DawnPerquisiteModel" (286 : Nat) ({ cls := "DawnPerquisiteModel", name := "hasNow", desc := "(I)I" } : Jvm.MethodName)) ∈ lw_all := lw_g (lw_at lw_m7 182 rfl) rfl
theorem q1769 : (Jvm.Cond.privateMethod ({ cls := "DawnPerquisiteModel", name := "hasNow", desc := "(I)I" } : Jvm.MethodName)) ∈ lw_tbl := lw_at lw_m7 183 rfl
theorem q1770 : (Jvm.Cond.instanceMethod ({ cls := "DawnPerquisiteModel", name := "hasNow", desc := "(I)I" } : Jvm.MethodName)) ∈ lw_all := lw_g (lw_at lw_m7 184 rfl) rfl
theorem q1771 : (Jvm.Cond.code ({ cls := "DawnPerquisiteModel", name := "hasNow", desc := "(I)I" } : Jvm.MethodName) prog_20_method_16_code (2 : Nat) (Option.some Jvm.ClassFile.FieldType.int)) ∈ lw_all := lw_g (lw_at lw_m7 185 rfl) rfl
theorem q1772 : (Jvm.Cond.methodLink "DawnPerquisiteModel" (75 : Nat) ({ cls := "DawnPerquisiteModel", name := "ownNow", desc := "(I)I" } : Jvm.MethodName)) ∈ lw_all := lw_g (lw_at lw_m7 186 rfl) rfl
theorem q1773 : (Jvm.Cond.privateMethod ({ cls := "DawnPerquisiteModel", name := "ownNow", desc := "(I)I" } : Jvm.MethodName)) ∈ lw_tbl := lw_at lw_m7 187 rfl
theorem q1774 : (Jvm.Cond.instanceMethod ({ cls := "DawnPerquisiteModel", name := "ownNow", desc := "(I)I" } : Jvm.MethodName)) ∈ lw_all := lw_g (lw_at lw_m7 188 rfl) rfl
theorem q1775 : (Jvm.Cond.code ({ cls := "DawnPerquisiteModel", name := "ownNow", desc := "(I)I" } : Jvm.MethodName) prog_20_method_15_code (4 : Nat) (Option.some Jvm.ClassFile.FieldType.int)) ∈ lw_all := lw_g (lw_at lw_m7 189 rfl) rfl
theorem q1776 : (Jvm.Cond.methodLink "DawnPerquisiteModel" (292 : Nat) ({ cls := "DawnPerquisiteModel", name := "says", desc := "(IIIII)I" } : Jvm.MethodName)) ∈ lw_all := lw_g (lw_at lw_m7 190 rfl) rfl
theorem q1777 : (Jvm.Cond.privateMethod ({ cls := "DawnPerquisiteModel", name := "says", desc := "(IIIII)I" } : Jvm.MethodName)) ∈ lw_tbl := lw_at lw_m7 191 rfl
theorem q1778 : (Jvm.Cond.instanceMethod ({ cls := "DawnPerquisiteModel", name := "says", desc := "(IIIII)I" } : Jvm.MethodName)) ∈ lw_all := lw_g (lw_at lw_m7 192 rfl) rfl
theorem q1779 : (Jvm.Cond.code ({ cls := "DawnPerquisiteModel", name := "says", desc := "(IIIII)I" } : Jvm.MethodName) prog_20_method_67_code (7 : Nat) (Option.some Jvm.ClassFile.FieldType.int)) ∈ lw_all := lw_g (lw_at lw_m7 193 rfl) rfl
theorem q1780 : (Jvm.Cond.methodLink "DawnPerquisiteModel" (273 : Nat) ({ cls := "DawnPerquisiteModel", name := "summedUp", desc := "(II)J" } : Jvm.MethodName)) ∈ lw_all := lw_g (lw_at lw_m7 194 rfl) rfl
theorem q1781 : (Jvm.Cond.privateMethod ({ cls := "DawnPerquisiteModel", name := "summedUp", desc := "(II)J" } : Jvm.MethodName)) ∈ lw_tbl := lw_at lw_m7 195 rfl
theorem q1782 : (Jvm.Cond.instanceMethod ({ cls := "DawnPerquisiteModel", name := "summedUp", desc := "(II)J" } : Jvm.MethodName)) ∈ lw_all := lw_g (lw_at lw_m7 196 rfl) rfl
theorem q1783 : (Jvm.Cond.code ({ cls := "DawnPerquisiteModel", name := "summedUp", desc := "(II)J" } : Jvm.MethodName) prog_20_method_66_code (10 : Nat) (Option.some Jvm.ClassFile.FieldType.long)) ∈ lw_all := lw_g (lw_at lw_m7 197 rfl) rfl
theorem q1784 : (Jvm.Cond.methodLink "DawnPerquisiteModel" (257 : Nat) ({ cls := "DawnPerquisiteModel", name := "ofOne", desc := "(IJ)J" } : Jvm.MethodName)) ∈ lw_all := lw_g (lw_at lw_m7 198 rfl) rfl
theorem q1785 : (Jvm.Cond.privateMethod ({ cls := "DawnPerquisiteModel", name := "ofOne", desc := "(IJ)J" } : Jvm.MethodName)) ∈ lw_tbl := lw_at lw_m7 199 rfl
theorem q1786 : (Jvm.Cond.instanceMethod ({ cls := "DawnPerquisiteModel", name := "ofOne", desc := "(IJ)J" } : Jvm.MethodName)) ∈ lw_all := lw_g (lw_at lw_m7 200 rfl) rfl
theorem q1787 : (Jvm.Cond.code ({ cls := "DawnPerquisiteModel", name := "ofOne", desc := "(IJ)J" } : Jvm.MethodName) prog_20_method_64_code (4 : Nat) (Option.some Jvm.ClassFile.FieldType.long)) ∈ lw_all := lw_g (lw_at lw_m7 201 rfl) rfl
theorem q1788 : (Jvm.Cond.constantLong "DawnPerquisiteModel" (255 : Nat) (5 : Int64)) ∈ lw_all := lw_g (lw_at lw_m7 202 rfl) rfl
theorem q1789 : (Jvm.Cond.methodLink "DawnPerquisiteModel" (261 : Nat) ({ cls := "DawnPerquisiteModel", name := "two", desc := "(IJJ)J" } : Jvm.MethodName)) ∈ lw_all := lw_g (lw_at lw_m7 203 rfl) rfl
theorem q1790 : (Jvm.Cond.static ({ cls := "DawnPerquisiteModel", name := "two", desc := "(IJJ)J" } : Jvm.MethodName)) ∈ lw_all := lw_g (lw_at lw_m7 204 rfl) rfl
theorem q1791 : (Jvm.Cond.code ({ cls := "DawnPerquisiteModel", name := "two", desc := "(IJJ)J" } : Jvm.MethodName) prog_20_method_62_code (5 : Nat) (Option.some Jvm.ClassFile.FieldType.long)) ∈ lw_all := lw_g (lw_at lw_m7 205 rfl) rfl
theorem q1792 : (Jvm.Cond.methodLink "DawnPerquisiteModel" (251 : Nat) ({ cls := "DawnPerquisiteModel", name := "clip", desc := "(J)J" } : Jvm.MethodName)) ∈ lw_all := lw_g (lw_at lw_m7 206 rfl) rfl
theorem q1793 : (Jvm.Cond.static ({ cls := "DawnPerquisiteModel", name := "clip", desc := "(J)J" } : Jvm.MethodName)) ∈ lw_all := lw_g (lw_at lw_m7 207 rfl) rfl
theorem q1794 : (Jvm.Cond.code ({ cls := "DawnPerquisiteModel", name := "clip", desc := "(J)J" } : Jvm.MethodName) prog_20_method_61_code (2 : Nat) (Option.some Jvm.ClassFile.FieldType.long)) ∈ lw_all := lw_g (lw_at lw_m7 208 rfl) rfl
theorem q1795 : (Jvm.Cond.constantLong "DawnPerquisiteModel" (247 : Nat) (1000000 : Int64)) ∈ lw_all := lw_g (lw_at lw_m7 209 rfl) rfl
theorem q1796 : (Jvm.Cond.constantLong "DawnPerquisiteModel" (249 : Nat) (-1000000 : Int64)) ∈ lw_all := lw_g (lw_at lw_m7 210 rfl) rfl
theorem q1797 : (Jvm.Cond.methodLink "DawnPerquisiteModel" (265 : Nat) ({ cls := "DawnPerquisiteModel", name := "isAsked", desc := "(IJJ)Z" } : Jvm.MethodName)) ∈ lw_all := lw_g (lw_at lw_m7 211 rfl) rfl
theorem q1798 : (Jvm.Cond.static ({ cls := "DawnPerquisiteModel", name := "isAsked", desc := "(IJJ)Z" } : Jvm.MethodName)) ∈ lw_all := lw_g (lw_at lw_m7 212 rfl) rfl
theorem q1799 : (Jvm.Cond.code ({ cls := "DawnPerquisiteModel", name := "isAsked", desc := "(IJJ)Z" } : Jvm.MethodName) prog_20_method_63_code (5 : Nat) (Option.some Jvm.ClassFile.FieldType.boolean)) ∈ lw_all := lw_g (lw_at lw_m7 213 rfl) rfl
theorem q1800 : (Jvm.Cond.methodLink "DawnPerquisiteModel" (269 : Nat) ({ cls := "DawnPerquisiteModel", name := "joined", desc := "(IZZ)Z" } : Jvm.MethodName)) ∈ lw_all := lw_g (lw_at lw_m7 214 rfl) rfl
theorem q1801 : (Jvm.Cond.static ({ cls := "DawnPerquisiteModel", name := "joined", desc := "(IZZ)Z" } : Jvm.MethodName)) ∈ lw_all := lw_g (lw_at lw_m7 215 rfl) rfl
theorem q1802 : (Jvm.Cond.code ({ cls := "DawnPerquisiteModel", name := "joined", desc := "(IZZ)Z" } : Jvm.MethodName) prog_20_method_65_code (3 : Nat) (Option.some Jvm.ClassFile.FieldType.boolean)) ∈ lw_all := lw_g (lw_at lw_m7 216 rfl) rfl
theorem q1803 : (Jvm.Cond.methodLink "DawnPerquisiteModel" (276 : Nat) ({ cls := "DawnPerquisiteModel", name := "held", desc := "(JII)I" } : Jvm.MethodName)) ∈ lw_all := lw_g (lw_at lw_m7 217 rfl) rfl
theorem q1804 : (Jvm.Cond.static ({ cls := "DawnPerquisiteModel", name := "held", desc := "(JII)I" } : Jvm.MethodName)) ∈ lw_all := lw_g (lw_at lw_m7 218 rfl) rfl
theorem q1805 : (Jvm.Cond.code ({ cls := "DawnPerquisiteModel", name := "held", desc := "(JII)I" } : Jvm.MethodName) prog_20_method_4_code (4 : Nat) (Option.some Jvm.ClassFile.FieldType.int)) ∈ lw_all := lw_g (lw_at lw_m7 219 rfl) rfl
theorem q1806 : (Jvm.Cond.methodLink "DawnPerquisiteModel" (339 : Nat) ({ cls := "DawnPerquisiteModel", name := "keepStep", desc := "()V" } : Jvm.MethodName)) ∈ lw_all := lw_g (lw_at lw_m7 220 rfl) rfl
theorem q1807 : (Jvm.Cond.privateMethod ({ cls := "DawnPerquisiteModel", name := "keepStep", desc := "()V" } : Jvm.MethodName)) ∈ lw_tbl := lw_at lw_m7 221 rfl
theorem q1808 : (Jvm.Cond.instanceMethod ({ cls := "DawnPerquisiteModel", name := "keepStep", desc := "()V" } : Jvm.MethodName)) ∈ lw_all := lw_g (lw_at lw_m7 222 rfl) rfl
theorem q1809 : (Jvm.Cond.code ({ cls := "DawnPerquisiteModel", name := "keepStep", desc := "()V" } : Jvm.MethodName) prog_20_method_83_code (3 : Nat) (Option.none : Option Jvm.ClassFile.FieldType)) ∈ lw_all := lw_g (lw_at lw_m7 223 rfl) rfl
theorem q1810 : (Jvm.Cond.methodLink "DawnPerquisiteModel" (342 : Nat) ({ cls := "DawnPerquisiteModel", name := "sellNow", desc := "(I)I" } : Jvm.MethodName)) ∈ lw_all := lw_g (lw_at lw_m7 224 rfl) rfl
theorem q1811 : (Jvm.Cond.privateMethod ({ cls := "DawnPerquisiteModel", name := "sellNow", desc := "(I)I" } : Jvm.MethodName)) ∈ lw_tbl := lw_at lw_m7 225 rfl
theorem q1812 : (Jvm.Cond.instanceMethod ({ cls := "DawnPerquisiteModel", name := "sellNow", desc := "(I)I" } : Jvm.MethodName)) ∈ lw_all := lw_g (lw_at lw_m7 226 rfl) rfl
theorem q1813 : (Jvm.Cond.code ({ cls := "DawnPerquisiteModel", name := "sellNow", desc := "(I)I" } : Jvm.MethodName) prog_20_method_76_code (4 : Nat) (Option.some Jvm.ClassFile.FieldType.int)) ∈ lw_all := lw_g (lw_at lw_m7 227 rfl) rfl
theorem q1814 : (Jvm.Cond.methodLink "DawnPerquisiteModel" (317 : Nat) ({ cls := "DawnPerquisiteModel", name := "write", desc := "(III)V" } : Jvm.MethodName)) ∈ lw_all := lw_g (lw_at lw_m7 228 rfl) rfl
theorem q1815 : (Jvm.Cond.privateMethod ({ cls := "DawnPerquisiteModel", name := "write", desc := "(III)V" } : Jvm.MethodName)) ∈ lw_tbl := lw_at lw_m7 229 rfl
theorem q1816 : (Jvm.Cond.instanceMethod ({ cls := "DawnPerquisiteModel", name := "write", desc := "(III)V" } : Jvm.MethodName)) ∈ lw_all := lw_g (lw_at lw_m7 230 rfl) rfl
theorem q1817 : (Jvm.Cond.code ({ cls := "DawnPerquisiteModel", name := "write", desc := "(III)V" } : Jvm.MethodName) prog_20_method_72_code (5 : Nat) (Option.none : Option Jvm.ClassFile.FieldType)) ∈ lw_all := lw_g (lw_at lw_m7 231 rfl) rfl
theorem q1818 : (Jvm.Cond.methodLink "DawnPerquisiteLaw" (54 : Nat) ({ cls := "DawnPerquisiteModel", name := "give", desc := "(I)Z" } : Jvm.MethodName)) ∈ lw_all := lw_g (lw_at lw_m7 232 rfl) rfl
theorem q1819 : (Jvm.Cond.instanceMethod ({ cls := "DawnPerquisiteModel", name := "give", desc := "(I)Z" } : Jvm.MethodName)) ∈ lw_all := lw_g (lw_at lw_m7 233 rfl) rfl
theorem q1820 : (Jvm.Cond.selects "DawnPerquisiteModel" ({ cls := "DawnPerquisiteModel", name := "give", desc := "(I)Z" } : Jvm.MethodName) ({ cls := "DawnPerquisiteModel", name := "give", desc := "(I)Z" } : Jvm.MethodName)) ∈ lw_all := lw_g (lw_at lw_m7 234 rfl) rfl
theorem q1821 : (Jvm.Cond.code ({ cls := "DawnPerquisiteModel", name := "give", desc := "(I)Z" } : Jvm.MethodName) prog_20_method_86_code (2 : Nat) (Option.some Jvm.ClassFile.FieldType.boolean)) ∈ lw_all := lw_g (lw_at lw_m7 235 rfl) rfl
theorem q1822 : (Jvm.Cond.methodLink "DawnPerquisiteModel" (345 : Nat) ({ cls := "DawnPerquisiteModel", name := "canGive", desc := "(I)Z" } : Jvm.MethodName)) ∈ lw_all := lw_g (lw_at lw_m7 236 rfl) rfl
theorem q1823 : (Jvm.Cond.privateMethod ({ cls := "DawnPerquisiteModel", name := "canGive", desc := "(I)Z" } : Jvm.MethodName)) ∈ lw_tbl := lw_at lw_m7 237 rfl
theorem q1824 : (Jvm.Cond.instanceMethod ({ cls := "DawnPerquisiteModel", name := "canGive", desc := "(I)Z" } : Jvm.MethodName)) ∈ lw_all := lw_g (lw_at lw_m7 238 rfl) rfl
theorem q1825 : (Jvm.Cond.code ({ cls := "DawnPerquisiteModel", name := "canGive", desc := "(I)Z" } : Jvm.MethodName) prog_20_method_77_code (2 : Nat) (Option.some Jvm.ClassFile.FieldType.boolean)) ∈ lw_all := lw_g (lw_at lw_m7 239 rfl) rfl
theorem q1826 : (Jvm.Cond.methodLink "DawnPerquisiteModel" (321 : Nat) ({ cls := "DawnPerquisiteModel", name := "isSlice", desc := "(I)Z" } : Jvm.MethodName)) ∈ lw_all := lw_g (lw_at lw_m8 0 rfl) rfl
theorem q1827 : (Jvm.Cond.static ({ cls := "DawnPerquisiteModel", name := "isSlice", desc := "(I)Z" } : Jvm.MethodName)) ∈ lw_all := lw_g (lw_at lw_m8 1 rfl) rfl
theorem q1828 : (Jvm.Cond.code ({ cls := "DawnPerquisiteModel", name := "isSlice", desc := "(I)Z" } : Jvm.MethodName) prog_20_method_9_code (1 : Nat) (Option.some Jvm.ClassFile.FieldType.boolean)) ∈ lw_all := lw_g (lw_at lw_m8 2 rfl) rfl
theorem q1829 : (Jvm.Cond.methodLink "DawnPerquisiteModel" (348 : Nat) ({ cls := "DawnPerquisiteModel", name := "giveNow", desc := "(I)V" } : Jvm.MethodName)) ∈ lw_all := lw_g (lw_at lw_m8 3 rfl) rfl
theorem q1830 : (Jvm.Cond.privateMethod ({ cls := "DawnPerquisiteModel", name := "giveNow", desc := "(I)V" } : Jvm.MethodName)) ∈ lw_tbl := lw_at lw_m8 4 rfl
theorem q1831 : (Jvm.Cond.instanceMethod ({ cls := "DawnPerquisiteModel", name := "giveNow", desc := "(I)V" } : Jvm.MethodName)) ∈ lw_all := lw_g (lw_at lw_m8 5 rfl) rfl
theorem q1832 : (Jvm.Cond.code ({ cls := "DawnPerquisiteModel", name := "giveNow", desc := "(I)V" } : Jvm.MethodName) prog_20_method_78_code (2 : Nat) (Option.none : Option Jvm.ClassFile.FieldType)) ∈ lw_all := lw_g (lw_at lw_m8 6 rfl) rfl
theorem q1833 : (Jvm.Cond.methodLink "DawnPerquisiteLaw" (58 : Nat) ({ cls := "DawnPerquisiteModel", name := "turn", desc := "(I)Z" } : Jvm.MethodName)) ∈ lw_all := lw_g (lw_at lw_m8 7 rfl) rfl
theorem q1834 : (Jvm.Cond.instanceMethod ({ cls := "DawnPerquisiteModel", name := "turn", desc := "(I)Z" } : Jvm.MethodName)) ∈ lw_all := lw_g (lw_at lw_m8 8 rfl) rfl
theorem q1835 : (Jvm.Cond.selects "DawnPerquisiteModel" ({ cls := "DawnPerquisiteModel", name := "turn", desc := "(I)Z" } : Jvm.MethodName) ({ cls := "DawnPerquisiteModel", name := "turn", desc := "(I)Z" } : Jvm.MethodName)) ∈ lw_all := lw_g (lw_at lw_m8 9 rfl) rfl
theorem q1836 : (Jvm.Cond.code ({ cls := "DawnPerquisiteModel", name := "turn", desc := "(I)Z" } : Jvm.MethodName) prog_20_method_87_code (2 : Nat) (Option.some Jvm.ClassFile.FieldType.boolean)) ∈ lw_all := lw_g (lw_at lw_m8 10 rfl) rfl
theorem q1837 : (Jvm.Cond.methodLink "DawnPerquisiteModel" (351 : Nat) ({ cls := "DawnPerquisiteModel", name := "canTurn", desc := "(I)Z" } : Jvm.MethodName)) ∈ lw_all := lw_g (lw_at lw_m8 11 rfl) rfl
theorem q1838 : (Jvm.Cond.privateMethod ({ cls := "DawnPerquisiteModel", name := "canTurn", desc := "(I)Z" } : Jvm.MethodName)) ∈ lw_tbl := lw_at lw_m8 12 rfl
theorem q1839 : (Jvm.Cond.instanceMethod ({ cls := "DawnPerquisiteModel", name := "canTurn", desc := "(I)Z" } : Jvm.MethodName)) ∈ lw_all := lw_g (lw_at lw_m8 13 rfl) rfl
theorem q1840 : (Jvm.Cond.code ({ cls := "DawnPerquisiteModel", name := "canTurn", desc := "(I)Z" } : Jvm.MethodName) prog_20_method_79_code (2 : Nat) (Option.some Jvm.ClassFile.FieldType.boolean)) ∈ lw_all := lw_g (lw_at lw_m8 14 rfl) rfl
theorem q1841 : (Jvm.Cond.methodLink "DawnPerquisiteModel" (354 : Nat) ({ cls := "DawnPerquisiteModel", name := "turnNow", desc := "(I)V" } : Jvm.MethodName)) ∈ lw_all := lw_g (lw_at lw_m8 15 rfl) rfl
theorem q1842 : (Jvm.Cond.privateMethod ({ cls := "DawnPerquisiteModel", name := "turnNow", desc := "(I)V" } : Jvm.MethodName)) ∈ lw_tbl := lw_at lw_m8 16 rfl
theorem q1843 : (Jvm.Cond.instanceMethod ({ cls := "DawnPerquisiteModel", name := "turnNow", desc := "(I)V" } : Jvm.MethodName)) ∈ lw_all := lw_g (lw_at lw_m8 17 rfl) rfl
theorem q1844 : (Jvm.Cond.code ({ cls := "DawnPerquisiteModel", name := "turnNow", desc := "(I)V" } : Jvm.MethodName) prog_20_method_80_code (3 : Nat) (Option.none : Option Jvm.ClassFile.FieldType)) ∈ lw_all := lw_g (lw_at lw_m8 18 rfl) rfl
theorem q1845 : (Jvm.Cond.methodLink "DawnPerquisiteLaw" (63 : Nat) ({ cls := "DawnPerquisiteModel", name := "pass", desc := "(II)I" } : Jvm.MethodName)) ∈ lw_all := lw_g (lw_at lw_m8 19 rfl) rfl
theorem q1846 : (Jvm.Cond.instanceMethod ({ cls := "DawnPerquisiteModel", name := "pass", desc := "(II)I" } : Jvm.MethodName)) ∈ lw_all := lw_g (lw_at lw_m8 20 rfl) rfl
theorem q1847 : (Jvm.Cond.selects "DawnPerquisiteModel" ({ cls := "DawnPerquisiteModel", name := "pass", desc := "(II)I" } : Jvm.MethodName) ({ cls := "DawnPerquisiteModel", name := "pass", desc := "(II)I" } : Jvm.MethodName)) ∈ lw_all := lw_g (lw_at lw_m8 21 rfl) rfl
theorem q1848 : (Jvm.Cond.code ({ cls := "DawnPerquisiteModel", name := "pass", desc := "(II)I" } : Jvm.MethodName) prog_20_method_89_code (5 : Nat) (Option.some Jvm.ClassFile.FieldType.int)) ∈ lw_all := lw_g (lw_at lw_m8 22 rfl) rfl
theorem q1849 : (Jvm.Cond.methodLink "DawnPerquisiteModel" (357 : Nat) ({ cls := "DawnPerquisiteModel", name := "canPass", desc := "(II)Z" } : Jvm.MethodName)) ∈ lw_all := lw_g (lw_at lw_m8 23 rfl) rfl
theorem q1850 : (Jvm.Cond.privateMethod ({ cls := "DawnPerquisiteModel", name := "canPass", desc := "(II)Z" } : Jvm.MethodName)) ∈ lw_tbl := lw_at lw_m8 24 rfl
theorem q1851 : (Jvm.Cond.instanceMethod ({ cls := "DawnPerquisiteModel", name := "canPass", desc := "(II)Z" } : Jvm.MethodName)) ∈ lw_all := lw_g (lw_at lw_m8 25 rfl) rfl
theorem q1852 : (Jvm.Cond.code ({ cls := "DawnPerquisiteModel", name := "canPass", desc := "(II)Z" } : Jvm.MethodName) prog_20_method_88_code (3 : Nat) (Option.some Jvm.ClassFile.FieldType.boolean)) ∈ lw_all := lw_g (lw_at lw_m8 26 rfl) rfl
theorem q1853 : (Jvm.Cond.methodLink "DawnPerquisiteLaw" (67 : Nat) ({ cls := "DawnPerquisiteModel", name := "day", desc := "(I)I" } : Jvm.MethodName)) ∈ lw_all := lw_g (lw_at lw_m8 27 rfl) rfl
theorem q1854 : (Jvm.Cond.instanceMethod ({ cls := "DawnPerquisiteModel", name := "day", desc := "(I)I" } : Jvm.MethodName)) ∈ lw_all := lw_g (lw_at lw_m8 28 rfl) rfl
theorem q1855 : (Jvm.Cond.selects "DawnPerquisiteModel" ({ cls := "DawnPerquisiteModel", name := "day", desc := "(I)I" } : Jvm.MethodName) ({ cls := "DawnPerquisiteModel", name := "day", desc := "(I)I" } : Jvm.MethodName)) ∈ lw_all := lw_g (lw_at lw_m8 29 rfl) rfl
theorem q1856 : (Jvm.Cond.code ({ cls := "DawnPerquisiteModel", name := "day", desc := "(I)I" } : Jvm.MethodName) prog_20_method_91_code (2 : Nat) (Option.some Jvm.ClassFile.FieldType.int)) ∈ lw_all := lw_g (lw_at lw_m8 30 rfl) rfl
theorem q1857 : (Jvm.Cond.methodLink "DawnPerquisiteModel" (363 : Nat) ({ cls := "DawnPerquisiteModel", name := "arePassed", desc := "(I)Z" } : Jvm.MethodName)) ∈ lw_all := lw_g (lw_at lw_m8 31 rfl) rfl
theorem q1858 : (Jvm.Cond.privateMethod ({ cls := "DawnPerquisiteModel", name := "arePassed", desc := "(I)Z" } : Jvm.MethodName)) ∈ lw_tbl := lw_at lw_m8 32 rfl
theorem q1859 : (Jvm.Cond.instanceMethod ({ cls := "DawnPerquisiteModel", name := "arePassed", desc := "(I)Z" } : Jvm.MethodName)) ∈ lw_all := lw_g (lw_at lw_m8 33 rfl) rfl
theorem q1860 : (Jvm.Cond.code ({ cls := "DawnPerquisiteModel", name := "arePassed", desc := "(I)Z" } : Jvm.MethodName) prog_20_method_90_code (3 : Nat) (Option.some Jvm.ClassFile.FieldType.boolean)) ∈ lw_all := lw_g (lw_at lw_m8 34 rfl) rfl
theorem q1861 : (Jvm.Cond.methodLink "DawnPerquisiteModel" (360 : Nat) ({ cls := "DawnPerquisiteModel", name := "passDay", desc := "()V" } : Jvm.MethodName)) ∈ lw_all := lw_g (lw_at lw_m8 35 rfl) rfl
theorem q1862 : (Jvm.Cond.privateMethod ({ cls := "DawnPerquisiteModel", name := "passDay", desc := "()V" } : Jvm.MethodName)) ∈ lw_tbl := lw_at lw_m8 36 rfl
theorem q1863 : (Jvm.Cond.instanceMethod ({ cls := "DawnPerquisiteModel", name := "passDay", desc := "()V" } : Jvm.MethodName)) ∈ lw_all := lw_g (lw_at lw_m8 37 rfl) rfl
theorem q1864 : (Jvm.Cond.code ({ cls := "DawnPerquisiteModel", name := "passDay", desc := "()V" } : Jvm.MethodName) prog_20_method_82_code (2 : Nat) (Option.none : Option Jvm.ClassFile.FieldType)) ∈ lw_all := lw_g (lw_at lw_m8 38 rfl) rfl
theorem q1865 : (Jvm.Cond.methodLink "DawnPerquisiteModel" (330 : Nat) ({ cls := "DawnPerquisiteModel", name := "earnsOf", desc := "(I)I" } : Jvm.MethodName)) ∈ lw_all := lw_g (lw_at lw_m8 39 rfl) rfl
theorem q1866 : (Jvm.Cond.privateMethod ({ cls := "DawnPerquisiteModel", name := "earnsOf", desc := "(I)I" } : Jvm.MethodName)) ∈ lw_tbl := lw_at lw_m8 40 rfl
theorem q1867 : (Jvm.Cond.instanceMethod ({ cls := "DawnPerquisiteModel", name := "earnsOf", desc := "(I)I" } : Jvm.MethodName)) ∈ lw_all := lw_g (lw_at lw_m8 41 rfl) rfl
theorem q1868 : (Jvm.Cond.code ({ cls := "DawnPerquisiteModel", name := "earnsOf", desc := "(I)I" } : Jvm.MethodName) prog_20_method_71_code (2 : Nat) (Option.some Jvm.ClassFile.FieldType.int)) ∈ lw_all := lw_g (lw_at lw_m8 42 rfl) rfl
theorem q1869 : (Jvm.Cond.methodLink "DawnPerquisiteModel" (333 : Nat) ({ cls := "DawnPerquisiteModel", name := "nextSort", desc := "()I" } : Jvm.MethodName)) ∈ lw_all := lw_g (lw_at lw_m8 43 rfl) rfl
theorem q1870 : (Jvm.Cond.privateMethod ({ cls := "DawnPerquisiteModel", name := "nextSort", desc := "()I" } : Jvm.MethodName)) ∈ lw_tbl := lw_at lw_m8 44 rfl
theorem q1871 : (Jvm.Cond.instanceMethod ({ cls := "DawnPerquisiteModel", name := "nextSort", desc := "()I" } : Jvm.MethodName)) ∈ lw_all := lw_g (lw_at lw_m8 45 rfl) rfl
theorem q1872 : (Jvm.Cond.code ({ cls := "DawnPerquisiteModel", name := "nextSort", desc := "()I" } : Jvm.MethodName) prog_20_method_81_code (4 : Nat) (Option.some Jvm.ClassFile.FieldType.int)) ∈ lw_all := lw_g (lw_at lw_m8 46 rfl) rfl
theorem q1873 : (Jvm.Cond.methodLink "DawnPerquisiteModel" (324 : Nat) ({ cls := "DawnPerquisiteModel", name := "allOdds", desc := "()I" } : Jvm.MethodName)) ∈ lw_all := lw_g (lw_at lw_m8 47 rfl) rfl
theorem q1874 : (Jvm.Cond.privateMethod ({ cls := "DawnPerquisiteModel", name := "allOdds", desc := "()I" } : Jvm.MethodName)) ∈ lw_tbl := lw_at lw_m8 48 rfl
theorem q1875 : (Jvm.Cond.instanceMethod ({ cls := "DawnPerquisiteModel", name := "allOdds", desc := "()I" } : Jvm.MethodName)) ∈ lw_all := lw_g (lw_at lw_m8 49 rfl) rfl
theorem q1876 : (Jvm.Cond.code ({ cls := "DawnPerquisiteModel", name := "allOdds", desc := "()I" } : Jvm.MethodName) prog_20_method_17_code (3 : Nat) (Option.some Jvm.ClassFile.FieldType.int)) ∈ lw_all := lw_g (lw_at lw_m8 50 rfl) rfl
theorem q1877 : (Jvm.Cond.methodLink "DawnPerquisiteModel" (327 : Nat) ({ cls := "DawnPerquisiteModel", name := "drawnBy", desc := "(I)I" } : Jvm.MethodName)) ∈ lw_all := lw_g (lw_at lw_m8 51 rfl) rfl
theorem q1878 : (Jvm.Cond.privateMethod ({ cls := "DawnPerquisiteModel", name := "drawnBy", desc := "(I)I" } : Jvm.MethodName)) ∈ lw_tbl := lw_at lw_m8 52 rfl
theorem q1879 : (Jvm.Cond.instanceMethod ({ cls := "DawnPerquisiteModel", name := "drawnBy", desc := "(I)I" } : Jvm.MethodName)) ∈ lw_all := lw_g (lw_at lw_m8 53 rfl) rfl
theorem q1880 : (Jvm.Cond.code ({ cls := "DawnPerquisiteModel", name := "drawnBy", desc := "(I)I" } : Jvm.MethodName) prog_20_method_73_code (3 : Nat) (Option.some Jvm.ClassFile.FieldType.int)) ∈ lw_all := lw_g (lw_at lw_m8 54 rfl) rfl
theorem q1881 : (Jvm.Cond.methodLink "DawnPerquisiteModel" (299 : Nat) ({ cls := "DawnPerquisiteModel", name := "anew", desc := "()V" } : Jvm.MethodName)) ∈ lw_all := lw_g (lw_at lw_m8 55 rfl) rfl
theorem q1882 : (Jvm.Cond.privateMethod ({ cls := "DawnPerquisiteModel", name := "anew", desc := "()V" } : Jvm.MethodName)) ∈ lw_tbl := lw_at lw_m8 56 rfl
theorem q1883 : (Jvm.Cond.instanceMethod ({ cls := "DawnPerquisiteModel", name := "anew", desc := "()V" } : Jvm.MethodName)) ∈ lw_all := lw_g (lw_at lw_m8 57 rfl) rfl
theorem q1884 : (Jvm.Cond.code ({ cls := "DawnPerquisiteModel", name := "anew", desc := "()V" } : Jvm.MethodName) prog_20_method_74_code (1 : Nat) (Option.none : Option Jvm.ClassFile.FieldType)) ∈ lw_all := lw_g (lw_at lw_m8 58 rfl) rfl
theorem q1885 : (Jvm.Cond.constantLong "DawnPerquisiteModel" (302 : Nat) (719 : Int64)) ∈ lw_all := lw_g (lw_at lw_m8 59 rfl) rfl
theorem q1886 : (Jvm.Cond.constantLong "DawnPerquisiteModel" (304 : Nat) (587 : Int64)) ∈ lw_all := lw_g (lw_at lw_m8 60 rfl) rfl
theorem q1887 : (Jvm.Cond.constantLong "DawnPerquisiteModel" (306 : Nat) (31039 : Int64)) ∈ lw_all := lw_g (lw_at lw_m8 61 rfl) rfl
theorem q1888 : (Jvm.Cond.methodLink "DawnPerquisiteLaw" (71 : Nat) ({ cls := "DawnPerquisiteModel", name := "played", desc := "(I)I" } : Jvm.MethodName)) ∈ lw_all := lw_g (lw_at lw_m8 62 rfl) rfl
theorem q1889 : (Jvm.Cond.instanceMethod ({ cls := "DawnPerquisiteModel", name := "played", desc := "(I)I" } : Jvm.MethodName)) ∈ lw_all := lw_g (lw_at lw_m8 63 rfl) rfl
theorem q1890 : (Jvm.Cond.selects "DawnPerquisiteModel" ({ cls := "DawnPerquisiteModel", name := "played", desc := "(I)I" } : Jvm.MethodName) ({ cls := "DawnPerquisiteModel", name := "played", desc := "(I)I" } : Jvm.MethodName)) ∈ lw_all := lw_g (lw_at lw_m8 64 rfl) rfl
theorem q1891 : (Jvm.Cond.code ({ cls := "DawnPerquisiteModel", name := "played", desc := "(I)I" } : Jvm.MethodName) prog_20_method_93_code (3 : Nat) (Option.some Jvm.ClassFile.FieldType.int)) ∈ lw_all := lw_g (lw_at lw_m8 65 rfl) rfl
theorem q1892 : (Jvm.Cond.methodLink "DawnPerquisiteModel" (382 : Nat) ({ cls := "DawnPerquisiteModel", name := "isPlayed", desc := "(I)Z" } : Jvm.MethodName)) ∈ lw_all := lw_g (lw_at lw_m8 66 rfl) rfl
theorem q1893 : (Jvm.Cond.privateMethod ({ cls := "DawnPerquisiteModel", name := "isPlayed", desc := "(I)Z" } : Jvm.MethodName)) ∈ lw_tbl := lw_at lw_m8 67 rfl
theorem q1894 : (Jvm.Cond.instanceMethod ({ cls := "DawnPerquisiteModel", name := "isPlayed", desc := "(I)Z" } : Jvm.MethodName)) ∈ lw_all := lw_g (lw_at lw_m8 68 rfl) rfl
theorem q1895 : (Jvm.Cond.code ({ cls := "DawnPerquisiteModel", name := "isPlayed", desc := "(I)Z" } : Jvm.MethodName) prog_20_method_92_code (4 : Nat) (Option.some Jvm.ClassFile.FieldType.boolean)) ∈ lw_all := lw_g (lw_at lw_m8 69 rfl) rfl
theorem q1896 : (Jvm.Cond.methodLink "DawnPerquisiteModel" (366 : Nat) ({ cls := "DawnPerquisiteModel", name := "buyer", desc := "(IIII)I" } : Jvm.MethodName)) ∈ lw_all := lw_g (lw_at lw_m8 70 rfl) rfl
theorem q1897 : (Jvm.Cond.methodLink "DawnPerquisiteModel" (370 : Nat) ({ cls := "DawnPerquisiteModel", name := "sort", desc := "(III)Z" } : Jvm.MethodName)) ∈ lw_all := lw_g (lw_at lw_m8 71 rfl) rfl
theorem q1898 : (Jvm.Cond.methodLink "DawnPerquisiteModel" (373 : Nat) ({ cls := "DawnPerquisiteModel", name := "sell", desc := "(I)I" } : Jvm.MethodName)) ∈ lw_all := lw_g (lw_at lw_m8 72 rfl) rfl
theorem q1899 : (Jvm.Cond.methodLink "DawnPerquisiteModel" (376 : Nat) ({ cls := "DawnPerquisiteModel", name := "give", desc := "(I)Z" } : Jvm.MethodName)) ∈ lw_all := lw_g (lw_at lw_m8 73 rfl) rfl
theorem q1900 : (Jvm.Cond.methodLink "DawnPerquisiteModel" (379 : Nat) ({ cls := "DawnPerquisiteModel", name := "turn", desc := "(I)Z" } : Jvm.MethodName)) ∈ lw_all := lw_g (lw_at lw_m8 74 rfl) rfl
theorem q1901 : (Jvm.Cond.methodLink "DawnPerquisiteLaw" (75 : Nat) ({ cls := "DawnPerquisiteModel", name := "years", desc := "(II)I" } : Jvm.MethodName)) ∈ lw_all := lw_g (lw_at lw_m8 75 rfl) rfl
theorem q1902 : (Jvm.Cond.instanceMethod ({ cls := "DawnPerquisiteModel", name := "years", desc := "(II)I" } : Jvm.MethodName)) ∈ lw_all := lw_g (lw_at lw_m8 76 rfl) rfl
theorem q1903 : (Jvm.Cond.selects "DawnPerquisiteModel" ({ cls := "DawnPerquisiteModel", name := "years", desc := "(II)I" } : Jvm.MethodName) ({ cls := "DawnPerquisiteModel", name := "years", desc := "(II)I" } : Jvm.MethodName)) ∈ lw_all := lw_g (lw_at lw_m8 77 rfl) rfl
theorem q1904 : (Jvm.Cond.code ({ cls := "DawnPerquisiteModel", name := "years", desc := "(II)I" } : Jvm.MethodName) prog_20_method_95_code (5 : Nat) (Option.some Jvm.ClassFile.FieldType.int)) ∈ lw_all := lw_g (lw_at lw_m8 78 rfl) rfl
theorem q1905 : (Jvm.Cond.methodLink "DawnPerquisiteModel" (385 : Nat) ({ cls := "DawnPerquisiteModel", name := "happens", desc := "(I)V" } : Jvm.MethodName)) ∈ lw_all := lw_g (lw_at lw_m8 79 rfl) rfl
theorem q1906 : (Jvm.Cond.privateMethod ({ cls := "DawnPerquisiteModel", name := "happens", desc := "(I)V" } : Jvm.MethodName)) ∈ lw_tbl := lw_at lw_m8 80 rfl
theorem q1907 : (Jvm.Cond.instanceMethod ({ cls := "DawnPerquisiteModel", name := "happens", desc := "(I)V" } : Jvm.MethodName)) ∈ lw_all := lw_g (lw_at lw_m8 81 rfl) rfl
theorem q1908 : (Jvm.Cond.code ({ cls := "DawnPerquisiteModel", name := "happens", desc := "(I)V" } : Jvm.MethodName) prog_20_method_94_code (3 : Nat) (Option.none : Option Jvm.ClassFile.FieldType)) ∈ lw_all := lw_g (lw_at lw_m8 82 rfl) rfl
theorem q1909 : (Jvm.Cond.methodLink "DawnPerquisiteLaw" (83 : Nat) ({ cls := "DawnPerquisiteModel", name := "of", desc := "(II)I" } : Jvm.MethodName)) ∈ lw_all := lw_g (lw_at lw_m8 83 rfl) rfl
theorem q1910 : (Jvm.Cond.instanceMethod ({ cls := "DawnPerquisiteModel", name := "of", desc := "(II)I" } : Jvm.MethodName)) ∈ lw_all := lw_g (lw_at lw_m8 84 rfl) rfl
theorem q1911 : (Jvm.Cond.selects "DawnPerquisiteModel" ({ cls := "DawnPerquisiteModel", name := "of", desc := "(II)I" } : Jvm.MethodName) ({ cls := "DawnPerquisiteModel", name := "of", desc := "(II)I" } : Jvm.MethodName)) ∈ lw_all := lw_g (lw_at lw_m8 85 rfl) rfl
theorem q1912 : (Jvm.Cond.code ({ cls := "DawnPerquisiteModel", name := "of", desc := "(II)I" } : Jvm.MethodName) prog_20_method_96_code (3 : Nat) (Option.some Jvm.ClassFile.FieldType.int)) ∈ lw_all := lw_g (lw_at lw_m8 86 rfl) rfl
theorem q1913 : (Jvm.Cond.methodLink "DawnPerquisiteLaw" (87 : Nat) ({ cls := "DawnPerquisiteModel", name := "ofSort", desc := "(II)I" } : Jvm.MethodName)) ∈ lw_all := lw_g (lw_at lw_m8 87 rfl) rfl
theorem q1914 : (Jvm.Cond.instanceMethod ({ cls := "DawnPerquisiteModel", name := "ofSort", desc := "(II)I" } : Jvm.MethodName)) ∈ lw_all := lw_g (lw_at lw_m8 88 rfl) rfl
theorem q1915 : (Jvm.Cond.selects "DawnPerquisiteModel" ({ cls := "DawnPerquisiteModel", name := "ofSort", desc := "(II)I" } : Jvm.MethodName) ({ cls := "DawnPerquisiteModel", name := "ofSort", desc := "(II)I" } : Jvm.MethodName)) ∈ lw_all := lw_g (lw_at lw_m8 89 rfl) rfl
theorem q1916 : (Jvm.Cond.code ({ cls := "DawnPerquisiteModel", name := "ofSort", desc := "(II)I" } : Jvm.MethodName) prog_20_method_97_code (3 : Nat) (Option.some Jvm.ClassFile.FieldType.int)) ∈ lw_all := lw_g (lw_at lw_m8 90 rfl) rfl
theorem q1917 : (Jvm.Cond.methodLink "DawnPerquisiteLaw" (91 : Nat) ({ cls := "DawnPerquisiteModel", name := "at", desc := "(I)I" } : Jvm.MethodName)) ∈ lw_all := lw_g (lw_at lw_m8 91 rfl) rfl
theorem q1918 : (Jvm.Cond.instanceMethod ({ cls := "DawnPerquisiteModel", name := "at", desc := "(I)I" } : Jvm.MethodName)) ∈ lw_all := lw_g (lw_at lw_m8 92 rfl) rfl
theorem q1919 : (Jvm.Cond.selects "DawnPerquisiteModel" ({ cls := "DawnPerquisiteModel", name := "at", desc := "(I)I" } : Jvm.MethodName) ({ cls := "DawnPerquisiteModel", name := "at", desc := "(I)I" } : Jvm.MethodName)) ∈ lw_all := lw_g (lw_at lw_m8 93 rfl) rfl
theorem q1920 : (Jvm.Cond.code ({ cls := "DawnPerquisiteModel", name := "at", desc := "(I)I" } : Jvm.MethodName) prog_20_method_98_code (2 : Nat) (Option.some Jvm.ClassFile.FieldType.int)) ∈ lw_all := lw_g (lw_at lw_m8 94 rfl) rfl
theorem q1921 : (Jvm.Cond.methodLink "DawnPerquisiteLaw" (95 : Nat) ({ cls := "DawnPerquisiteModel", name := "is", desc := "(I)I" } : Jvm.MethodName)) ∈ lw_all := lw_g (lw_at lw_m8 95 rfl) rfl
theorem q1922 : (Jvm.Cond.instanceMethod ({ cls := "DawnPerquisiteModel", name := "is", desc := "(I)I" } : Jvm.MethodName)) ∈ lw_all := lw_g (lw_at lw_m8 96 rfl) rfl
theorem q1923 : (Jvm.Cond.selects "DawnPerquisiteModel" ({ cls := "DawnPerquisiteModel", name := "is", desc := "(I)I" } : Jvm.MethodName) ({ cls := "DawnPerquisiteModel", name := "is", desc := "(I)I" } : Jvm.MethodName)) ∈ lw_all := lw_g (lw_at lw_m8 97 rfl) rfl
theorem q1924 : (Jvm.Cond.code ({ cls := "DawnPerquisiteModel", name := "is", desc := "(I)I" } : Jvm.MethodName) prog_20_method_99_code (2 : Nat) (Option.some Jvm.ClassFile.FieldType.int)) ∈ lw_all := lw_g (lw_at lw_m8 98 rfl) rfl
theorem q1925 : (Jvm.Cond.methodLink "DawnPerquisiteLaw" (99 : Nat) ({ cls := "DawnPerquisiteModel", name := "book", desc := "(II)I" } : Jvm.MethodName)) ∈ lw_all := lw_g (lw_at lw_m8 99 rfl) rfl
theorem q1926 : (Jvm.Cond.instanceMethod ({ cls := "DawnPerquisiteModel", name := "book", desc := "(II)I" } : Jvm.MethodName)) ∈ lw_all := lw_g (lw_at lw_m8 100 rfl) rfl
theorem q1927 : (Jvm.Cond.selects "DawnPerquisiteModel" ({ cls := "DawnPerquisiteModel", name := "book", desc := "(II)I" } : Jvm.MethodName) ({ cls := "DawnPerquisiteModel", name := "book", desc := "(II)I" } : Jvm.MethodName)) ∈ lw_all := lw_g (lw_at lw_m8 101 rfl) rfl
theorem q1928 : (Jvm.Cond.code ({ cls := "DawnPerquisiteModel", name := "book", desc := "(II)I" } : Jvm.MethodName) prog_20_method_101_code (3 : Nat) (Option.some Jvm.ClassFile.FieldType.int)) ∈ lw_all := lw_g (lw_at lw_m8 102 rfl) rfl
theorem q1929 : (Jvm.Cond.methodLink "DawnPerquisiteModel" (388 : Nat) ({ cls := "DawnPerquisiteModel", name := "lineOf", desc := "(II)I" } : Jvm.MethodName)) ∈ lw_all := lw_g (lw_at lw_m8 103 rfl) rfl
theorem q1930 : (Jvm.Cond.privateMethod ({ cls := "DawnPerquisiteModel", name := "lineOf", desc := "(II)I" } : Jvm.MethodName)) ∈ lw_tbl := lw_at lw_m8 104 rfl
theorem q1931 : (Jvm.Cond.instanceMethod ({ cls := "DawnPerquisiteModel", name := "lineOf", desc := "(II)I" } : Jvm.MethodName)) ∈ lw_all := lw_g (lw_at lw_m8 105 rfl) rfl
theorem q1932 : (Jvm.Cond.code ({ cls := "DawnPerquisiteModel", name := "lineOf", desc := "(II)I" } : Jvm.MethodName) prog_20_method_100_code (4 : Nat) (Option.some Jvm.ClassFile.FieldType.int)) ∈ lw_all := lw_g (lw_at lw_m8 106 rfl) rfl
theorem q1933 : (Jvm.Cond.methodLink "DawnPerquisiteLaw" (241 : Nat) ({ cls := "DawnPerquisiteModel", name := "ledger", desc := "(I)I" } : Jvm.MethodName)) ∈ lw_all := lw_g (lw_at lw_m8 107 rfl) rfl
theorem q1934 : (Jvm.Cond.instanceMethod ({ cls := "DawnPerquisiteModel", name := "ledger", desc := "(I)I" } : Jvm.MethodName)) ∈ lw_all := lw_g (lw_at lw_m8 108 rfl) rfl
theorem q1935 : (Jvm.Cond.selects "DawnPerquisiteModel" ({ cls := "DawnPerquisiteModel", name := "ledger", desc := "(I)I" } : Jvm.MethodName) ({ cls := "DawnPerquisiteModel", name := "ledger", desc := "(I)I" } : Jvm.MethodName)) ∈ lw_all := lw_g (lw_at lw_m8 109 rfl) rfl
theorem q1936 : (Jvm.Cond.code ({ cls := "DawnPerquisiteModel", name := "ledger", desc := "(I)I" } : Jvm.MethodName) prog_20_method_102_code (4 : Nat) (Option.some Jvm.ClassFile.FieldType.int)) ∈ lw_all := lw_g (lw_at lw_m8 110 rfl) rfl
theorem q1937 : (Jvm.Cond.methodLink "DawnPerquisiteLaw" (201 : Nat) ({ cls := "DawnPerquisiteModel", name := "richest", desc := "()I" } : Jvm.MethodName)) ∈ lw_all := lw_g (lw_at lw_m8 111 rfl) rfl
theorem q1938 : (Jvm.Cond.instanceMethod ({ cls := "DawnPerquisiteModel", name := "richest", desc := "()I" } : Jvm.MethodName)) ∈ lw_all := lw_g (lw_at lw_m8 112 rfl) rfl
theorem q1939 : (Jvm.Cond.selects "DawnPerquisiteModel" ({ cls := "DawnPerquisiteModel", name := "richest", desc := "()I" } : Jvm.MethodName) ({ cls := "DawnPerquisiteModel", name := "richest", desc := "()I" } : Jvm.MethodName)) ∈ lw_all := lw_g (lw_at lw_m8 113 rfl) rfl
theorem q1940 : (Jvm.Cond.code ({ cls := "DawnPerquisiteModel", name := "richest", desc := "()I" } : Jvm.MethodName) prog_20_method_103_code (3 : Nat) (Option.some Jvm.ClassFile.FieldType.int)) ∈ lw_all := lw_g (lw_at lw_m8 114 rfl) rfl
theorem q1941 : (Jvm.Cond.methodLink "DawnPerquisiteLaw" (205 : Nat) ({ cls := "DawnPerquisiteModel", name := "rival", desc := "(I)I" } : Jvm.MethodName)) ∈ lw_all := lw_g (lw_at lw_m8 115 rfl) rfl
theorem q1942 : (Jvm.Cond.instanceMethod ({ cls := "DawnPerquisiteModel", name := "rival", desc := "(I)I" } : Jvm.MethodName)) ∈ lw_all := lw_g (lw_at lw_m8 116 rfl) rfl
theorem q1943 : (Jvm.Cond.selects "DawnPerquisiteModel" ({ cls := "DawnPerquisiteModel", name := "rival", desc := "(I)I" } : Jvm.MethodName) ({ cls := "DawnPerquisiteModel", name := "rival", desc := "(I)I" } : Jvm.MethodName)) ∈ lw_all := lw_g (lw_at lw_m8 117 rfl) rfl
theorem q1944 : (Jvm.Cond.code ({ cls := "DawnPerquisiteModel", name := "rival", desc := "(I)I" } : Jvm.MethodName) prog_20_method_104_code (4 : Nat) (Option.some Jvm.ClassFile.FieldType.int)) ∈ lw_all := lw_g (lw_at lw_m8 118 rfl) rfl
theorem q1945 : (Jvm.Cond.methodLink "DawnPerquisiteLaw" (237 : Nat) ({ cls := "DawnPerquisiteModel", name := "can", desc := "(I)Z" } : Jvm.MethodName)) ∈ lw_all := lw_g (lw_at lw_m8 119 rfl) rfl
theorem q1946 : (Jvm.Cond.instanceMethod ({ cls := "DawnPerquisiteModel", name := "can", desc := "(I)Z" } : Jvm.MethodName)) ∈ lw_all := lw_g (lw_at lw_m8 120 rfl) rfl
theorem q1947 : (Jvm.Cond.selects "DawnPerquisiteModel" ({ cls := "DawnPerquisiteModel", name := "can", desc := "(I)Z" } : Jvm.MethodName) ({ cls := "DawnPerquisiteModel", name := "can", desc := "(I)Z" } : Jvm.MethodName)) ∈ lw_all := lw_g (lw_at lw_m8 121 rfl) rfl
theorem q1948 : (Jvm.Cond.code ({ cls := "DawnPerquisiteModel", name := "can", desc := "(I)Z" } : Jvm.MethodName) prog_20_method_105_code (2 : Nat) (Option.some Jvm.ClassFile.FieldType.boolean)) ∈ lw_all := lw_g (lw_at lw_m8 122 rfl) rfl
theorem q1949 : (Jvm.Cond.methodLink "DawnPerquisiteLaw" (209 : Nat) ({ cls := "DawnPerquisiteModel", name := "learnt", desc := "(IZ)J" } : Jvm.MethodName)) ∈ lw_all := lw_g (lw_at lw_m8 123 rfl) rfl
theorem q1950 : (Jvm.Cond.instanceMethod ({ cls := "DawnPerquisiteModel", name := "learnt", desc := "(IZ)J" } : Jvm.MethodName)) ∈ lw_all := lw_g (lw_at lw_m8 124 rfl) rfl
theorem q1951 : (Jvm.Cond.selects "DawnPerquisiteModel" ({ cls := "DawnPerquisiteModel", name := "learnt", desc := "(IZ)J" } : Jvm.MethodName) ({ cls := "DawnPerquisiteModel", name := "learnt", desc := "(IZ)J" } : Jvm.MethodName)) ∈ lw_all := lw_g (lw_at lw_m8 125 rfl) rfl
theorem q1952 : (Jvm.Cond.code ({ cls := "DawnPerquisiteModel", name := "learnt", desc := "(IZ)J" } : Jvm.MethodName) prog_20_method_106_code (6 : Nat) (Option.some Jvm.ClassFile.FieldType.long)) ∈ lw_all := lw_g (lw_at lw_m8 126 rfl) rfl
theorem q1953 : (Jvm.Cond.constantLong "DawnPerquisiteModel" (391 : Nat) (-1 : Int64)) ∈ lw_all := lw_g (lw_at lw_m8 127 rfl) rfl
theorem q1954 : (Jvm.Cond.methodLink "DawnPerquisiteModel" (393 : Nat) ({ cls := "DawnPerquisiteModel", name := "partOfAll", desc := "(JJZ)J" } : Jvm.MethodName)) ∈ lw_all := lw_g (lw_at lw_m8 128 rfl) rfl
theorem q1955 : (Jvm.Cond.static ({ cls := "DawnPerquisiteModel", name := "partOfAll", desc := "(JJZ)J" } : Jvm.MethodName)) ∈ lw_all := lw_g (lw_at lw_m8 129 rfl) rfl
theorem q1956 : (Jvm.Cond.code ({ cls := "DawnPerquisiteModel", name := "partOfAll", desc := "(JJZ)J" } : Jvm.MethodName) prog_20_method_119_code (5 : Nat) (Option.some Jvm.ClassFile.FieldType.long)) ∈ lw_all := lw_g (lw_at lw_m8 130 rfl) rfl
theorem q1957 : (Jvm.Cond.methodLink "DawnPerquisiteModel" (403 : Nat) ({ cls := "DawnPerquisiteModel", name := "divisor", desc := "(JJ)J" } : Jvm.MethodName)) ∈ lw_all := lw_g (lw_at lw_m8 131 rfl) rfl
theorem q1958 : (Jvm.Cond.static ({ cls := "DawnPerquisiteModel", name := "divisor", desc := "(JJ)J" } : Jvm.MethodName)) ∈ lw_all := lw_g (lw_at lw_m8 132 rfl) rfl
theorem q1959 : (Jvm.Cond.code ({ cls := "DawnPerquisiteModel", name := "divisor", desc := "(JJ)J" } : Jvm.MethodName) prog_20_method_118_code (10 : Nat) (Option.some Jvm.ClassFile.FieldType.long)) ∈ lw_all := lw_g (lw_at lw_m8 133 rfl) rfl
theorem q1960 : (Jvm.Cond.methodLink "DawnPerquisiteLaw" (213 : Nat) ({ cls := "DawnPerquisiteModel", name := "wanted", desc := "(I)I" } : Jvm.MethodName)) ∈ lw_all := lw_g (lw_at lw_m8 134 rfl) rfl
theorem q1961 : (Jvm.Cond.instanceMethod ({ cls := "DawnPerquisiteModel", name := "wanted", desc := "(I)I" } : Jvm.MethodName)) ∈ lw_all := lw_g (lw_at lw_m8 135 rfl) rfl
theorem q1962 : (Jvm.Cond.selects "DawnPerquisiteModel" ({ cls := "DawnPerquisiteModel", name := "wanted", desc := "(I)I" } : Jvm.MethodName) ({ cls := "DawnPerquisiteModel", name := "wanted", desc := "(I)I" } : Jvm.MethodName)) ∈ lw_all := lw_g (lw_at lw_m8 136 rfl) rfl
theorem q1963 : (Jvm.Cond.code ({ cls := "DawnPerquisiteModel", name := "wanted", desc := "(I)I" } : Jvm.MethodName) prog_20_method_107_code (4 : Nat) (Option.some Jvm.ClassFile.FieldType.int)) ∈ lw_all := lw_g (lw_at lw_m8 137 rfl) rfl
theorem q1964 : (Jvm.Cond.methodLink "DawnPerquisiteLaw" (217 : Nat) ({ cls := "DawnPerquisiteModel", name := "alone", desc := "(I)I" } : Jvm.MethodName)) ∈ lw_all := lw_g (lw_at lw_m8 138 rfl) rfl
theorem q1965 : (Jvm.Cond.instanceMethod ({ cls := "DawnPerquisiteModel", name := "alone", desc := "(I)I" } : Jvm.MethodName)) ∈ lw_all := lw_g (lw_at lw_m8 139 rfl) rfl
theorem q1966 : (Jvm.Cond.selects "DawnPerquisiteModel" ({ cls := "DawnPerquisiteModel", name := "alone", desc := "(I)I" } : Jvm.MethodName) ({ cls := "DawnPerquisiteModel", name := "alone", desc := "(I)I" } : Jvm.MethodName)) ∈ lw_all := lw_g (lw_at lw_m8 140 rfl) rfl
theorem q1967 : (Jvm.Cond.code ({ cls := "DawnPerquisiteModel", name := "alone", desc := "(I)I" } : Jvm.MethodName) prog_20_method_108_code (4 : Nat) (Option.some Jvm.ClassFile.FieldType.int)) ∈ lw_all := lw_g (lw_at lw_m8 141 rfl) rfl
theorem q1968 : (Jvm.Cond.methodLink "DawnPerquisiteLaw" (221 : Nat) ({ cls := "DawnPerquisiteModel", name := "since", desc := "(I)I" } : Jvm.MethodName)) ∈ lw_all := lw_g (lw_at lw_m8 142 rfl) rfl
theorem q1969 : (Jvm.Cond.instanceMethod ({ cls := "DawnPerquisiteModel", name := "since", desc := "(I)I" } : Jvm.MethodName)) ∈ lw_all := lw_g (lw_at lw_m8 143 rfl) rfl
theorem q1970 : (Jvm.Cond.selects "DawnPerquisiteModel" ({ cls := "DawnPerquisiteModel", name := "since", desc := "(I)I" } : Jvm.MethodName) ({ cls := "DawnPerquisiteModel", name := "since", desc := "(I)I" } : Jvm.MethodName)) ∈ lw_all := lw_g (lw_at lw_m8 144 rfl) rfl
theorem q1971 : (Jvm.Cond.code ({ cls := "DawnPerquisiteModel", name := "since", desc := "(I)I" } : Jvm.MethodName) prog_20_method_109_code (3 : Nat) (Option.some Jvm.ClassFile.FieldType.int)) ∈ lw_all := lw_g (lw_at lw_m8 145 rfl) rfl
theorem q1972 : (Jvm.Cond.methodLink "DawnPerquisiteLaw" (225 : Nat) ({ cls := "DawnPerquisiteModel", name := "idle", desc := "()I" } : Jvm.MethodName)) ∈ lw_all := lw_g (lw_at lw_m8 146 rfl) rfl
theorem q1973 : (Jvm.Cond.instanceMethod ({ cls := "DawnPerquisiteModel", name := "idle", desc := "()I" } : Jvm.MethodName)) ∈ lw_all := lw_g (lw_at lw_m8 147 rfl) rfl
theorem q1974 : (Jvm.Cond.selects "DawnPerquisiteModel" ({ cls := "DawnPerquisiteModel", name := "idle", desc := "()I" } : Jvm.MethodName) ({ cls := "DawnPerquisiteModel", name := "idle", desc := "()I" } : Jvm.MethodName)) ∈ lw_all := lw_g (lw_at lw_m8 148 rfl) rfl
theorem q1975 : (Jvm.Cond.code ({ cls := "DawnPerquisiteModel", name := "idle", desc := "()I" } : Jvm.MethodName) prog_20_method_110_code (3 : Nat) (Option.some Jvm.ClassFile.FieldType.int)) ∈ lw_all := lw_g (lw_at lw_m8 149 rfl) rfl
theorem q1976 : (Jvm.Cond.methodLink "DawnPerquisiteLaw" (229 : Nat) ({ cls := "DawnPerquisiteModel", name := "poor", desc := "()I" } : Jvm.MethodName)) ∈ lw_all := lw_g (lw_at lw_m8 150 rfl) rfl
theorem q1977 : (Jvm.Cond.instanceMethod ({ cls := "DawnPerquisiteModel", name := "poor", desc := "()I" } : Jvm.MethodName)) ∈ lw_all := lw_g (lw_at lw_m8 151 rfl) rfl
theorem q1978 : (Jvm.Cond.selects "DawnPerquisiteModel" ({ cls := "DawnPerquisiteModel", name := "poor", desc := "()I" } : Jvm.MethodName) ({ cls := "DawnPerquisiteModel", name := "poor", desc := "()I" } : Jvm.MethodName)) ∈ lw_all := lw_g (lw_at lw_m8 152 rfl) rfl
theorem q1979 : (Jvm.Cond.code ({ cls := "DawnPerquisiteModel", name := "poor", desc := "()I" } : Jvm.MethodName) prog_20_method_111_code (3 : Nat) (Option.some Jvm.ClassFile.FieldType.int)) ∈ lw_all := lw_g (lw_at lw_m8 153 rfl) rfl
theorem q1980 : (Jvm.Cond.methodLink "DawnPerquisiteLaw" (233 : Nat) ({ cls := "DawnPerquisiteModel", name := "room", desc := "(I)I" } : Jvm.MethodName)) ∈ lw_all := lw_g (lw_at lw_m8 154 rfl) rfl
theorem q1981 : (Jvm.Cond.instanceMethod ({ cls := "DawnPerquisiteModel", name := "room", desc := "(I)I" } : Jvm.MethodName)) ∈ lw_all := lw_g (lw_at lw_m8 155 rfl) rfl
theorem q1982 : (Jvm.Cond.selects "DawnPerquisiteModel" ({ cls := "DawnPerquisiteModel", name := "room", desc := "(I)I" } : Jvm.MethodName) ({ cls := "DawnPerquisiteModel", name := "room", desc := "(I)I" } : Jvm.MethodName)) ∈ lw_all := lw_g (lw_at lw_m8 156 rfl) rfl
theorem q1983 : (Jvm.Cond.code ({ cls := "DawnPerquisiteModel", name := "room", desc := "(I)I" } : Jvm.MethodName) prog_20_method_112_code (3 : Nat) (Option.some Jvm.ClassFile.FieldType.int)) ∈ lw_all := lw_g (lw_at lw_m8 157 rfl) rfl
theorem q1984 : (Jvm.Cond.methodLink "DawnPerquisiteLaw" (103 : Nat) ({ cls := "DawnPerquisiteModel", name := "foretold", desc := "(II)I" } : Jvm.MethodName)) ∈ lw_all := lw_g (lw_at lw_m8 158 rfl) rfl
theorem q1985 : (Jvm.Cond.instanceMethod ({ cls := "DawnPerquisiteModel", name := "foretold", desc := "(II)I" } : Jvm.MethodName)) ∈ lw_all := lw_g (lw_at lw_m8 159 rfl) rfl
theorem q1986 : (Jvm.Cond.selects "DawnPerquisiteModel" ({ cls := "DawnPerquisiteModel", name := "foretold", desc := "(II)I" } : Jvm.MethodName) ({ cls := "DawnPerquisiteModel", name := "foretold", desc := "(II)I" } : Jvm.MethodName)) ∈ lw_all := lw_g (lw_at lw_m8 160 rfl) rfl
theorem q1987 : (Jvm.Cond.code ({ cls := "DawnPerquisiteModel", name := "foretold", desc := "(II)I" } : Jvm.MethodName) prog_20_method_113_code (5 : Nat) (Option.some Jvm.ClassFile.FieldType.int)) ∈ lw_all := lw_g (lw_at lw_m8 161 rfl) rfl
theorem q1988 : (Jvm.Cond.methodLink "DawnPerquisiteLaw" (108 : Nat) ({ cls := "DawnPerquisiteModel", name := "pack", desc := "(IZ)I" } : Jvm.MethodName)) ∈ lw_all := lw_g (lw_at lw_m8 162 rfl) rfl
theorem q1989 : (Jvm.Cond.instanceMethod ({ cls := "DawnPerquisiteModel", name := "pack", desc := "(IZ)I" } : Jvm.MethodName)) ∈ lw_all := lw_g (lw_at lw_m8 163 rfl) rfl
theorem q1990 : (Jvm.Cond.selects "DawnPerquisiteModel" ({ cls := "DawnPerquisiteModel", name := "pack", desc := "(IZ)I" } : Jvm.MethodName) ({ cls := "DawnPerquisiteModel", name := "pack", desc := "(IZ)I" } : Jvm.MethodName)) ∈ lw_all := lw_g (lw_at lw_m8 164 rfl) rfl
theorem q1991 : (Jvm.Cond.code ({ cls := "DawnPerquisiteModel", name := "pack", desc := "(IZ)I" } : Jvm.MethodName) prog_20_method_116_code (3 : Nat) (Option.some Jvm.ClassFile.FieldType.int)) ∈ lw_all := lw_g (lw_at lw_m8 165 rfl) rfl
theorem q1992 : (Jvm.Cond.methodLink "DawnPerquisiteModel" (400 : Nat) ({ cls := "DawnPerquisiteModel", name := "bestSet", desc := "(II)I" } : Jvm.MethodName)) ∈ lw_all := lw_g (lw_at lw_m8 166 rfl) rfl
theorem q1993 : (Jvm.Cond.privateMethod ({ cls := "DawnPerquisiteModel", name := "bestSet", desc := "(II)I" } : Jvm.MethodName)) ∈ lw_tbl := lw_at lw_m8 167 rfl
theorem q1994 : (Jvm.Cond.instanceMethod ({ cls := "DawnPerquisiteModel", name := "bestSet", desc := "(II)I" } : Jvm.MethodName)) ∈ lw_all := lw_g (lw_at lw_m8 168 rfl) rfl
theorem q1995 : (Jvm.Cond.code ({ cls := "DawnPerquisiteModel", name := "bestSet", desc := "(II)I" } : Jvm.MethodName) prog_20_method_115_code (5 : Nat) (Option.some Jvm.ClassFile.FieldType.int)) ∈ lw_all := lw_g (lw_at lw_m8 169 rfl) rfl
theorem q1996 : (Jvm.Cond.methodLink "DawnPerquisiteModel" (397 : Nat) ({ cls := "DawnPerquisiteModel", name := "broughtBy", desc := "(II)I" } : Jvm.MethodName)) ∈ lw_all := lw_g (lw_at lw_m8 170 rfl) rfl
theorem q1997 : (Jvm.Cond.privateMethod ({ cls := "DawnPerquisiteModel", name := "broughtBy", desc := "(II)I" } : Jvm.MethodName)) ∈ lw_tbl := lw_at lw_m8 171 rfl
theorem q1998 : (Jvm.Cond.instanceMethod ({ cls := "DawnPerquisiteModel", name := "broughtBy", desc := "(II)I" } : Jvm.MethodName)) ∈ lw_all := lw_g (lw_at lw_m8 172 rfl) rfl
theorem q1999 : (Jvm.Cond.code ({ cls := "DawnPerquisiteModel", name := "broughtBy", desc := "(II)I" } : Jvm.MethodName) prog_20_method_114_code (6 : Nat) (Option.some Jvm.ClassFile.FieldType.int)) ∈ lw_all := lw_g (lw_at lw_m8 173 rfl) rfl
theorem q2000 : (Jvm.Cond.methodLink "DawnPerquisiteLaw" (112 : Nat) ({ cls := "DawnPerquisiteModel", name := "see", desc := "(II)I" } : Jvm.MethodName)) ∈ lw_all := lw_g (lw_at lw_m8 174 rfl) rfl
theorem q2001 : (Jvm.Cond.instanceMethod ({ cls := "DawnPerquisiteModel", name := "see", desc := "(II)I" } : Jvm.MethodName)) ∈ lw_all := lw_g (lw_at lw_m8 175 rfl) rfl
theorem q2002 : (Jvm.Cond.selects "DawnPerquisiteModel" ({ cls := "DawnPerquisiteModel", name := "see", desc := "(II)I" } : Jvm.MethodName) ({ cls := "DawnPerquisiteModel", name := "see", desc := "(II)I" } : Jvm.MethodName)) ∈ lw_all := lw_g (lw_at lw_m8 176 rfl) rfl
theorem q2003 : (Jvm.Cond.code ({ cls := "DawnPerquisiteModel", name := "see", desc := "(II)I" } : Jvm.MethodName) prog_20_method_117_code (4 : Nat) (Option.some Jvm.ClassFile.FieldType.int)) ∈ lw_all := lw_g (lw_at lw_m8 177 rfl) rfl
theorem q2004 : (Jvm.Cond.methodLink "DawnPerquisiteLaw" (117 : Nat) ({ cls := "DawnPerquisiteModel", name := "hope", desc := "(IZ)J" } : Jvm.MethodName)) ∈ lw_all := lw_g (lw_at lw_m8 178 rfl) rfl
theorem q2005 : (Jvm.Cond.instanceMethod ({ cls := "DawnPerquisiteModel", name := "hope", desc := "(IZ)J" } : Jvm.MethodName)) ∈ lw_all := lw_g (lw_at lw_m8 179 rfl) rfl
theorem q2006 : (Jvm.Cond.selects "DawnPerquisiteModel" ({ cls := "DawnPerquisiteModel", name := "hope", desc := "(IZ)J" } : Jvm.MethodName) ({ cls := "DawnPerquisiteModel", name := "hope", desc := "(IZ)J" } : Jvm.MethodName)) ∈ lw_all := lw_g (lw_at lw_m8 180 rfl) rfl
theorem q2007 : (Jvm.Cond.code ({ cls := "DawnPerquisiteModel", name := "hope", desc := "(IZ)J" } : Jvm.MethodName) prog_20_method_125_code (3 : Nat) (Option.some Jvm.ClassFile.FieldType.long)) ∈ lw_all := lw_g (lw_at lw_m8 181 rfl) rfl
theorem q2008 : (Jvm.Cond.methodLink "DawnPerquisiteModel" (417 : Nat) ({ cls := "DawnPerquisiteModel", name := "isHope", desc := "(I)Z" } : Jvm.MethodName)) ∈ lw_all := lw_g (lw_at lw_m8 182 rfl) rfl
theorem q2009 : (Jvm.Cond.static ({ cls := "DawnPerquisiteModel", name := "isHope", desc := "(I)Z" } : Jvm.MethodName)) ∈ lw_all := lw_g (lw_at lw_m8 183 rfl) rfl
theorem q2010 : (Jvm.Cond.code ({ cls := "DawnPerquisiteModel", name := "isHope", desc := "(I)Z" } : Jvm.MethodName) prog_20_method_124_code (1 : Nat) (Option.some Jvm.ClassFile.FieldType.boolean)) ∈ lw_all := lw_g (lw_at lw_m8 184 rfl) rfl
theorem q2011 : (Jvm.Cond.methodLink "DawnPerquisiteModel" (420 : Nat) ({ cls := "DawnPerquisiteModel", name := "hoped", desc := "(I)J" } : Jvm.MethodName)) ∈ lw_all := lw_g (lw_at lw_m8 185 rfl) rfl
theorem q2012 : (Jvm.Cond.privateMethod ({ cls := "DawnPerquisiteModel", name := "hoped", desc := "(I)J" } : Jvm.MethodName)) ∈ lw_tbl := lw_at lw_m8 186 rfl
theorem q2013 : (Jvm.Cond.instanceMethod ({ cls := "DawnPerquisiteModel", name := "hoped", desc := "(I)J" } : Jvm.MethodName)) ∈ lw_all := lw_g (lw_at lw_m8 187 rfl) rfl
theorem q2014 : (Jvm.Cond.code ({ cls := "DawnPerquisiteModel", name := "hoped", desc := "(I)J" } : Jvm.MethodName) prog_20_method_123_code (10 : Nat) (Option.some Jvm.ClassFile.FieldType.long)) ∈ lw_all := lw_g (lw_at lw_m8 188 rfl) rfl
theorem q2015 : (Jvm.Cond.methodLink "DawnPerquisiteModel" (410 : Nat) ({ cls := "DawnPerquisiteModel", name := "allRows", desc := "(I)J" } : Jvm.MethodName)) ∈ lw_all := lw_g (lw_at lw_m8 189 rfl) rfl
theorem q2016 : (Jvm.Cond.privateMethod ({ cls := "DawnPerquisiteModel", name := "allRows", desc := "(I)J" } : Jvm.MethodName)) ∈ lw_tbl := lw_at lw_m8 190 rfl
theorem q2017 : (Jvm.Cond.instanceMethod ({ cls := "DawnPerquisiteModel", name := "allRows", desc := "(I)J" } : Jvm.MethodName)) ∈ lw_all := lw_g (lw_at lw_m8 191 rfl) rfl
theorem q2018 : (Jvm.Cond.code ({ cls := "DawnPerquisiteModel", name := "allRows", desc := "(I)J" } : Jvm.MethodName) prog_20_method_122_code (5 : Nat) (Option.some Jvm.ClassFile.FieldType.long)) ∈ lw_all := lw_g (lw_at lw_m8 192 rfl) rfl
theorem q2019 : (Jvm.Cond.methodLink "DawnPerquisiteModel" (407 : Nat) ({ cls := "DawnPerquisiteModel", name := "whole", desc := "()I" } : Jvm.MethodName)) ∈ lw_all := lw_g (lw_at lw_m8 193 rfl) rfl
theorem q2020 : (Jvm.Cond.privateMethod ({ cls := "DawnPerquisiteModel", name := "whole", desc := "()I" } : Jvm.MethodName)) ∈ lw_tbl := lw_at lw_m8 194 rfl
theorem q2021 : (Jvm.Cond.instanceMethod ({ cls := "DawnPerquisiteModel", name := "whole", desc := "()I" } : Jvm.MethodName)) ∈ lw_all := lw_g (lw_at lw_m8 195 rfl) rfl
theorem q2022 : (Jvm.Cond.code ({ cls := "DawnPerquisiteModel", name := "whole", desc := "()I" } : Jvm.MethodName) prog_20_method_121_code (1 : Nat) (Option.some Jvm.ClassFile.FieldType.int)) ∈ lw_all := lw_g (lw_at lw_m8 196 rfl) rfl
theorem q2023 : (Jvm.Cond.methodLink "DawnPerquisiteModel" (414 : Nat) ({ cls := "DawnPerquisiteModel", name := "oddsOf", desc := "(I)I" } : Jvm.MethodName)) ∈ lw_all := lw_g (lw_at lw_m8 197 rfl) rfl
theorem q2024 : (Jvm.Cond.privateMethod ({ cls := "DawnPerquisiteModel", name := "oddsOf", desc := "(I)I" } : Jvm.MethodName)) ∈ lw_tbl := lw_at lw_m8 198 rfl
theorem q2025 : (Jvm.Cond.instanceMethod ({ cls := "DawnPerquisiteModel", name := "oddsOf", desc := "(I)I" } : Jvm.MethodName)) ∈ lw_all := lw_g (lw_at lw_m8 199 rfl) rfl
theorem q2026 : (Jvm.Cond.code ({ cls := "DawnPerquisiteModel", name := "oddsOf", desc := "(I)I" } : Jvm.MethodName) prog_20_method_120_code (2 : Nat) (Option.some Jvm.ClassFile.FieldType.int)) ∈ lw_all := lw_g (lw_at lw_m8 200 rfl) rfl
theorem q2027 : (Jvm.Cond.methodLink "DawnPerquisiteLaw" (121 : Nat) ({ cls := "DawnPerquisiteModel", name := "keep", desc := "(I)Z" } : Jvm.MethodName)) ∈ lw_all := lw_g (lw_at lw_m8 201 rfl) rfl
theorem q2028 : (Jvm.Cond.instanceMethod ({ cls := "DawnPerquisiteModel", name := "keep", desc := "(I)Z" } : Jvm.MethodName)) ∈ lw_all := lw_g (lw_at lw_m8 202 rfl) rfl
theorem q2029 : (Jvm.Cond.selects "DawnPerquisiteModel" ({ cls := "DawnPerquisiteModel", name := "keep", desc := "(I)Z" } : Jvm.MethodName) ({ cls := "DawnPerquisiteModel", name := "keep", desc := "(I)Z" } : Jvm.MethodName)) ∈ lw_all := lw_g (lw_at lw_m8 203 rfl) rfl
theorem q2030 : (Jvm.Cond.code ({ cls := "DawnPerquisiteModel", name := "keep", desc := "(I)Z" } : Jvm.MethodName) prog_20_method_126_code (2 : Nat) (Option.some Jvm.ClassFile.FieldType.boolean)) ∈ lw_all := lw_g (lw_at lw_m8 204 rfl) rfl
theorem q2031 : (Jvm.Cond.methodLink "DawnPerquisiteLaw" (125 : Nat) ({ cls := "DawnPerquisiteModel", name := "chance", desc := "(IZ)J" } : Jvm.MethodName)) ∈ lw_all := lw_g (lw_at lw_m8 205 rfl) rfl
theorem q2032 : (Jvm.Cond.instanceMethod ({ cls := "DawnPerquisiteModel", name := "chance", desc := "(IZ)J" } : Jvm.MethodName)) ∈ lw_all := lw_g (lw_at lw_m8 206 rfl) rfl
theorem q2033 : (Jvm.Cond.selects "DawnPerquisiteModel" ({ cls := "DawnPerquisiteModel", name := "chance", desc := "(IZ)J" } : Jvm.MethodName) ({ cls := "DawnPerquisiteModel", name := "chance", desc := "(IZ)J" } : Jvm.MethodName)) ∈ lw_all := lw_g (lw_at lw_m8 207 rfl) rfl
theorem q2034 : (Jvm.Cond.code ({ cls := "DawnPerquisiteModel", name := "chance", desc := "(IZ)J" } : Jvm.MethodName) prog_20_method_127_code (3 : Nat) (Option.some Jvm.ClassFile.FieldType.long)) ∈ lw_all := lw_g (lw_at lw_m8 208 rfl) rfl
theorem q2035 : (Jvm.Cond.methodLink "DawnPerquisiteLaw" (129 : Nat) ({ cls := "DawnPerquisiteModel", name := "first", desc := "(I)I" } : Jvm.MethodName)) ∈ lw_all := lw_g (lw_at lw_m8 209 rfl) rfl
theorem q2036 : (Jvm.Cond.instanceMethod ({ cls := "DawnPerquisiteModel", name := "first", desc := "(I)I" } : Jvm.MethodName)) ∈ lw_all := lw_g (lw_at lw_m8 210 rfl) rfl
theorem q2037 : (Jvm.Cond.selects "DawnPerquisiteModel" ({ cls := "DawnPerquisiteModel", name := "first", desc := "(I)I" } : Jvm.MethodName) ({ cls := "DawnPerquisiteModel", name := "first", desc := "(I)I" } : Jvm.MethodName)) ∈ lw_all := lw_g (lw_at lw_m8 211 rfl) rfl
theorem q2038 : (Jvm.Cond.code ({ cls := "DawnPerquisiteModel", name := "first", desc := "(I)I" } : Jvm.MethodName) prog_20_method_128_code (5 : Nat) (Option.some Jvm.ClassFile.FieldType.int)) ∈ lw_all := lw_g (lw_at lw_m8 212 rfl) rfl
theorem q2039 : (Jvm.Cond.constantLong "DawnPerquisiteModel" (423 : Nat) (2 : Int64)) ∈ lw_all := lw_g (lw_at lw_m8 213 rfl) rfl
theorem q2040 : (Jvm.Cond.methodLink "DawnPerquisiteLaw" (133 : Nat) ({ cls := "DawnPerquisiteModel", name := "paid", desc := "(IZ)I" } : Jvm.MethodName)) ∈ lw_all := lw_g (lw_at lw_m8 214 rfl) rfl
theorem q2041 : (Jvm.Cond.instanceMethod ({ cls := "DawnPerquisiteModel", name := "paid", desc := "(IZ)I" } : Jvm.MethodName)) ∈ lw_all := lw_g (lw_at lw_m8 215 rfl) rfl
theorem q2042 : (Jvm.Cond.selects "DawnPerquisiteModel" ({ cls := "DawnPerquisiteModel", name := "paid", desc := "(IZ)I" } : Jvm.MethodName) ({ cls := "DawnPerquisiteModel", name := "paid", desc := "(IZ)I" } : Jvm.MethodName)) ∈ lw_all := lw_g (lw_at lw_m8 216 rfl) rfl
theorem q2043 : (Jvm.Cond.code ({ cls := "DawnPerquisiteModel", name := "paid", desc := "(IZ)I" } : Jvm.MethodName) prog_20_method_129_code (4 : Nat) (Option.some Jvm.ClassFile.FieldType.int)) ∈ lw_all := lw_g (lw_at lw_m8 217 rfl) rfl
theorem q2044 : (Jvm.Cond.methodLink "DawnPerquisiteLaw" (137 : Nat) ({ cls := "DawnPerquisiteModel", name := "was", desc := "()I" } : Jvm.MethodName)) ∈ lw_all := lw_g (lw_at lw_m8 218 rfl) rfl
theorem q2045 : (Jvm.Cond.instanceMethod ({ cls := "DawnPerquisiteModel", name := "was", desc := "()I" } : Jvm.MethodName)) ∈ lw_all := lw_g (lw_at lw_m8 219 rfl) rfl
theorem q2046 : (Jvm.Cond.selects "DawnPerquisiteModel" ({ cls := "DawnPerquisiteModel", name := "was", desc := "()I" } : Jvm.MethodName) ({ cls := "DawnPerquisiteModel", name := "was", desc := "()I" } : Jvm.MethodName)) ∈ lw_all := lw_g (lw_at lw_m8 220 rfl) rfl
theorem q2047 : (Jvm.Cond.code ({ cls := "DawnPerquisiteModel", name := "was", desc := "()I" } : Jvm.MethodName) prog_20_method_132_code (1 : Nat) (Option.some Jvm.ClassFile.FieldType.int)) ∈ lw_all := lw_g (lw_at lw_m8 221 rfl) rfl
theorem q2048 : (Jvm.Cond.methodLink "DawnPerquisiteModel" (428 : Nat) ({ cls := "DawnPerquisiteModel", name := "fitting", desc := "()I" } : Jvm.MethodName)) ∈ lw_all := lw_g (lw_at lw_m8 222 rfl) rfl
theorem q2049 : (Jvm.Cond.privateMethod ({ cls := "DawnPerquisiteModel", name := "fitting", desc := "()I" } : Jvm.MethodName)) ∈ lw_tbl := lw_at lw_m8 223 rfl
theorem q2050 : (Jvm.Cond.instanceMethod ({ cls := "DawnPerquisiteModel", name := "fitting", desc := "()I" } : Jvm.MethodName)) ∈ lw_all := lw_g (lw_at lw_m8 224 rfl) rfl
theorem q2051 : (Jvm.Cond.code ({ cls := "DawnPerquisiteModel", name := "fitting", desc := "()I" } : Jvm.MethodName) prog_20_method_131_code (3 : Nat) (Option.some Jvm.ClassFile.FieldType.int)) ∈ lw_all := lw_g (lw_at lw_m8 225 rfl) rfl
theorem q2052 : (Jvm.Cond.methodLink "DawnPerquisiteModel" (425 : Nat) ({ cls := "DawnPerquisiteModel", name := "doesFit", desc := "(I)Z" } : Jvm.MethodName)) ∈ lw_all := lw_g (lw_at lw_m8 226 rfl) rfl
theorem q2053 : (Jvm.Cond.privateMethod ({ cls := "DawnPerquisiteModel", name := "doesFit", desc := "(I)Z" } : Jvm.MethodName)) ∈ lw_tbl := lw_at lw_m8 227 rfl
theorem q2054 : (Jvm.Cond.instanceMethod ({ cls := "DawnPerquisiteModel", name := "doesFit", desc := "(I)Z" } : Jvm.MethodName)) ∈ lw_all := lw_g (lw_at lw_m8 228 rfl) rfl
theorem q2055 : (Jvm.Cond.code ({ cls := "DawnPerquisiteModel", name := "doesFit", desc := "(I)Z" } : Jvm.MethodName) prog_20_method_130_code (3 : Nat) (Option.some Jvm.ClassFile.FieldType.boolean)) ∈ lw_all := lw_g (lw_at lw_m8 229 rfl) rfl
theorem q2056 : (Jvm.Cond.methodLink "DawnPerquisiteLaw" (146 : Nat) ({ cls := "DawnPerquisiteModel", name := "likeliest", desc := "()I" } : Jvm.MethodName)) ∈ lw_all := lw_g (lw_at lw_m8 230 rfl) rfl
theorem q2057 : (Jvm.Cond.instanceMethod ({ cls := "DawnPerquisiteModel", name := "likeliest", desc := "()I" } : Jvm.MethodName)) ∈ lw_all := lw_g (lw_at lw_m8 231 rfl) rfl
theorem q2058 : (Jvm.Cond.selects "DawnPerquisiteModel" ({ cls := "DawnPerquisiteModel", name := "likeliest", desc := "()I" } : Jvm.MethodName) ({ cls := "DawnPerquisiteModel", name := "likeliest", desc := "()I" } : Jvm.MethodName)) ∈ lw_all := lw_g (lw_at lw_m8 232 rfl) rfl
theorem q2059 : (Jvm.Cond.code ({ cls := "DawnPerquisiteModel", name := "likeliest", desc := "()I" } : Jvm.MethodName) prog_20_method_135_code (1 : Nat) (Option.some Jvm.ClassFile.FieldType.int)) ∈ lw_all := lw_g (lw_at lw_m8 233 rfl) rfl
theorem q2060 : (Jvm.Cond.methodLink "DawnPerquisiteModel" (431 : Nat) ({ cls := "DawnPerquisiteModel", name := "likeliestNow", desc := "()I" } : Jvm.MethodName)) ∈ lw_all := lw_g (lw_at lw_m8 234 rfl) rfl
theorem q2061 : (Jvm.Cond.privateMethod ({ cls := "DawnPerquisiteModel", name := "likeliestNow", desc := "()I" } : Jvm.MethodName)) ∈ lw_tbl := lw_at lw_m8 235 rfl
theorem q2062 : (Jvm.Cond.instanceMethod ({ cls := "DawnPerquisiteModel", name := "likeliestNow", desc := "()I" } : Jvm.MethodName)) ∈ lw_all := lw_g (lw_at lw_m8 236 rfl) rfl
theorem q2063 : (Jvm.Cond.code ({ cls := "DawnPerquisiteModel", name := "likeliestNow", desc := "()I" } : Jvm.MethodName) prog_20_method_134_code (3 : Nat) (Option.some Jvm.ClassFile.FieldType.int)) ∈ lw_all := lw_g (lw_at lw_m8 237 rfl) rfl
theorem q2064 : (Jvm.Cond.methodLink "DawnPerquisiteLaw" (142 : Nat) ({ cls := "DawnPerquisiteModel", name := "surest", desc := "(Z)J" } : Jvm.MethodName)) ∈ lw_all := lw_g (lw_at lw_m8 238 rfl) rfl
theorem q2065 : (Jvm.Cond.instanceMethod ({ cls := "DawnPerquisiteModel", name := "surest", desc := "(Z)J" } : Jvm.MethodName)) ∈ lw_all := lw_g (lw_at lw_m8 239 rfl) rfl
theorem q2066 : (Jvm.Cond.selects "DawnPerquisiteModel" ({ cls := "DawnPerquisiteModel", name := "surest", desc := "(Z)J" } : Jvm.MethodName) ({ cls := "DawnPerquisiteModel", name := "surest", desc := "(Z)J" } : Jvm.MethodName)) ∈ lw_all := lw_g (lw_at lw_m9 0 rfl) rfl
theorem q2067 : (Jvm.Cond.code ({ cls := "DawnPerquisiteModel", name := "surest", desc := "(Z)J" } : Jvm.MethodName) prog_20_method_136_code (3 : Nat) (Option.some Jvm.ClassFile.FieldType.long)) ∈ lw_all := lw_g (lw_at lw_m9 1 rfl) rfl
theorem q2068 : (Jvm.Cond.methodLink "DawnPerquisiteModel" (434 : Nat) ({ cls := "DawnPerquisiteModel", name := "oddsOfSet", desc := "(I)I" } : Jvm.MethodName)) ∈ lw_all := lw_g (lw_at lw_m9 2 rfl) rfl
theorem q2069 : (Jvm.Cond.privateMethod ({ cls := "DawnPerquisiteModel", name := "oddsOfSet", desc := "(I)I" } : Jvm.MethodName)) ∈ lw_tbl := lw_at lw_m9 3 rfl
theorem q2070 : (Jvm.Cond.instanceMethod ({ cls := "DawnPerquisiteModel", name := "oddsOfSet", desc := "(I)I" } : Jvm.MethodName)) ∈ lw_all := lw_g (lw_at lw_m9 4 rfl) rfl
theorem q2071 : (Jvm.Cond.code ({ cls := "DawnPerquisiteModel", name := "oddsOfSet", desc := "(I)I" } : Jvm.MethodName) prog_20_method_133_code (4 : Nat) (Option.some Jvm.ClassFile.FieldType.int)) ∈ lw_all := lw_g (lw_at lw_m9 5 rfl) rfl
theorem q2072 : (Jvm.Cond.methodLink "DawnPerquisiteLaw" (150 : Nat) ({ cls := "DawnPerquisiteModel", name := "ask", desc := "()I" } : Jvm.MethodName)) ∈ lw_all := lw_g (lw_at lw_m9 6 rfl) rfl
theorem q2073 : (Jvm.Cond.instanceMethod ({ cls := "DawnPerquisiteModel", name := "ask", desc := "()I" } : Jvm.MethodName)) ∈ lw_all := lw_g (lw_at lw_m9 7 rfl) rfl
theorem q2074 : (Jvm.Cond.selects "DawnPerquisiteModel" ({ cls := "DawnPerquisiteModel", name := "ask", desc := "()I" } : Jvm.MethodName) ({ cls := "DawnPerquisiteModel", name := "ask", desc := "()I" } : Jvm.MethodName)) ∈ lw_all := lw_g (lw_at lw_m9 8 rfl) rfl
theorem q2075 : (Jvm.Cond.code ({ cls := "DawnPerquisiteModel", name := "ask", desc := "()I" } : Jvm.MethodName) prog_20_method_138_code (3 : Nat) (Option.some Jvm.ClassFile.FieldType.int)) ∈ lw_all := lw_g (lw_at lw_m9 9 rfl) rfl
theorem q2076 : (Jvm.Cond.methodLink "DawnPerquisiteModel" (437 : Nat) ({ cls := "DawnPerquisiteModel", name := "greaterPart", desc := "(I)I" } : Jvm.MethodName)) ∈ lw_all := lw_g (lw_at lw_m9 10 rfl) rfl
theorem q2077 : (Jvm.Cond.privateMethod ({ cls := "DawnPerquisiteModel", name := "greaterPart", desc := "(I)I" } : Jvm.MethodName)) ∈ lw_tbl := lw_at lw_m9 11 rfl
theorem q2078 : (Jvm.Cond.instanceMethod ({ cls := "DawnPerquisiteModel", name := "greaterPart", desc := "(I)I" } : Jvm.MethodName)) ∈ lw_all := lw_g (lw_at lw_m9 12 rfl) rfl
theorem q2079 : (Jvm.Cond.code ({ cls := "DawnPerquisiteModel", name := "greaterPart", desc := "(I)I" } : Jvm.MethodName) prog_20_method_137_code (4 : Nat) (Option.some Jvm.ClassFile.FieldType.int)) ∈ lw_all := lw_g (lw_at lw_m9 13 rfl) rfl
theorem q2080 : (Jvm.Cond.methodLink "DawnPerquisiteLaw" (154 : Nat) ({ cls := "DawnPerquisiteModel", name := "auction", desc := "(II)I" } : Jvm.MethodName)) ∈ lw_all := lw_g (lw_at lw_m9 14 rfl) rfl
theorem q2081 : (Jvm.Cond.instanceMethod ({ cls := "DawnPerquisiteModel", name := "auction", desc := "(II)I" } : Jvm.MethodName)) ∈ lw_all := lw_g (lw_at lw_m9 15 rfl) rfl
theorem q2082 : (Jvm.Cond.selects "DawnPerquisiteModel" ({ cls := "DawnPerquisiteModel", name := "auction", desc := "(II)I" } : Jvm.MethodName) ({ cls := "DawnPerquisiteModel", name := "auction", desc := "(II)I" } : Jvm.MethodName)) ∈ lw_all := lw_g (lw_at lw_m9 16 rfl) rfl
theorem q2083 : (Jvm.Cond.code ({ cls := "DawnPerquisiteModel", name := "auction", desc := "(II)I" } : Jvm.MethodName) prog_20_method_142_code (7 : Nat) (Option.some Jvm.ClassFile.FieldType.int)) ∈ lw_all := lw_g (lw_at lw_m9 17 rfl) rfl
theorem q2084 : (Jvm.Cond.methodLink "DawnPerquisiteModel" (446 : Nat) ({ cls := "DawnPerquisiteModel", name := "bidderOf", desc := "(II)I" } : Jvm.MethodName)) ∈ lw_all := lw_g (lw_at lw_m9 18 rfl) rfl
theorem q2085 : (Jvm.Cond.privateMethod ({ cls := "DawnPerquisiteModel", name := "bidderOf", desc := "(II)I" } : Jvm.MethodName)) ∈ lw_tbl := lw_at lw_m9 19 rfl
theorem q2086 : (Jvm.Cond.instanceMethod ({ cls := "DawnPerquisiteModel", name := "bidderOf", desc := "(II)I" } : Jvm.MethodName)) ∈ lw_all := lw_g (lw_at lw_m9 20 rfl) rfl
theorem q2087 : (Jvm.Cond.code ({ cls := "DawnPerquisiteModel", name := "bidderOf", desc := "(II)I" } : Jvm.MethodName) prog_20_method_141_code (5 : Nat) (Option.some Jvm.ClassFile.FieldType.int)) ∈ lw_all := lw_g (lw_at lw_m9 21 rfl) rfl
theorem q2088 : (Jvm.Cond.methodLink "DawnPerquisiteModel" (440 : Nat) ({ cls := "DawnPerquisiteModel", name := "doesBid", desc := "(II)Z" } : Jvm.MethodName)) ∈ lw_all := lw_g (lw_at lw_m9 22 rfl) rfl
theorem q2089 : (Jvm.Cond.privateMethod ({ cls := "DawnPerquisiteModel", name := "doesBid", desc := "(II)Z" } : Jvm.MethodName)) ∈ lw_tbl := lw_at lw_m9 23 rfl
theorem q2090 : (Jvm.Cond.instanceMethod ({ cls := "DawnPerquisiteModel", name := "doesBid", desc := "(II)Z" } : Jvm.MethodName)) ∈ lw_all := lw_g (lw_at lw_m9 24 rfl) rfl
theorem q2091 : (Jvm.Cond.code ({ cls := "DawnPerquisiteModel", name := "doesBid", desc := "(II)Z" } : Jvm.MethodName) prog_20_method_139_code (3 : Nat) (Option.some Jvm.ClassFile.FieldType.boolean)) ∈ lw_all := lw_g (lw_at lw_m9 25 rfl) rfl
theorem q2092 : (Jvm.Cond.methodLink "DawnPerquisiteModel" (443 : Nat) ({ cls := "DawnPerquisiteModel", name := "bidFor", desc := "(I)I" } : Jvm.MethodName)) ∈ lw_all := lw_g (lw_at lw_m9 26 rfl) rfl
theorem q2093 : (Jvm.Cond.privateMethod ({ cls := "DawnPerquisiteModel", name := "bidFor", desc := "(I)I" } : Jvm.MethodName)) ∈ lw_tbl := lw_at lw_m9 27 rfl
theorem q2094 : (Jvm.Cond.instanceMethod ({ cls := "DawnPerquisiteModel", name := "bidFor", desc := "(I)I" } : Jvm.MethodName)) ∈ lw_all := lw_g (lw_at lw_m9 28 rfl) rfl
theorem q2095 : (Jvm.Cond.code ({ cls := "DawnPerquisiteModel", name := "bidFor", desc := "(I)I" } : Jvm.MethodName) prog_20_method_140_code (2 : Nat) (Option.some Jvm.ClassFile.FieldType.int)) ∈ lw_all := lw_g (lw_at lw_m9 29 rfl) rfl
theorem q2096 : (Jvm.Cond.methodLink "DawnPerquisiteLaw" (159 : Nat) ({ cls := "DawnPerquisiteModel", name := "stab", desc := "(Z)I" } : Jvm.MethodName)) ∈ lw_all := lw_g (lw_at lw_m9 30 rfl) rfl
theorem q2097 : (Jvm.Cond.instanceMethod ({ cls := "DawnPerquisiteModel", name := "stab", desc := "(Z)I" } : Jvm.MethodName)) ∈ lw_all := lw_g (lw_at lw_m9 31 rfl) rfl
theorem q2098 : (Jvm.Cond.selects "DawnPerquisiteModel" ({ cls := "DawnPerquisiteModel", name := "stab", desc := "(Z)I" } : Jvm.MethodName) ({ cls := "DawnPerquisiteModel", name := "stab", desc := "(Z)I" } : Jvm.MethodName)) ∈ lw_all := lw_g (lw_at lw_m9 32 rfl) rfl
theorem q2099 : (Jvm.Cond.code ({ cls := "DawnPerquisiteModel", name := "stab", desc := "(Z)I" } : Jvm.MethodName) prog_20_method_144_code (4 : Nat) (Option.some Jvm.ClassFile.FieldType.int)) ∈ lw_all := lw_g (lw_at lw_m9 33 rfl) rfl
theorem q2100 : (Jvm.Cond.methodLink "DawnPerquisiteModel" (449 : Nat) ({ cls := "DawnPerquisiteModel", name := "areServed", desc := "(I)Z" } : Jvm.MethodName)) ∈ lw_all := lw_g (lw_at lw_m9 34 rfl) rfl
theorem q2101 : (Jvm.Cond.privateMethod ({ cls := "DawnPerquisiteModel", name := "areServed", desc := "(I)Z" } : Jvm.MethodName)) ∈ lw_tbl := lw_at lw_m9 35 rfl
theorem q2102 : (Jvm.Cond.instanceMethod ({ cls := "DawnPerquisiteModel", name := "areServed", desc := "(I)Z" } : Jvm.MethodName)) ∈ lw_all := lw_g (lw_at lw_m9 36 rfl) rfl
theorem q2103 : (Jvm.Cond.code ({ cls := "DawnPerquisiteModel", name := "areServed", desc := "(I)Z" } : Jvm.MethodName) prog_20_method_143_code (3 : Nat) (Option.some Jvm.ClassFile.FieldType.boolean)) ∈ lw_all := lw_g (lw_at lw_m9 37 rfl) rfl
theorem q2104 : (Jvm.Cond.methodLink "DawnPerquisiteLaw" (163 : Nat) ({ cls := "DawnPerquisiteModel", name := "crowd", desc := "(Z)I" } : Jvm.MethodName)) ∈ lw_all := lw_g (lw_at lw_m9 38 rfl) rfl
theorem q2105 : (Jvm.Cond.instanceMethod ({ cls := "DawnPerquisiteModel", name := "crowd", desc := "(Z)I" } : Jvm.MethodName)) ∈ lw_all := lw_g (lw_at lw_m9 39 rfl) rfl
theorem q2106 : (Jvm.Cond.selects "DawnPerquisiteModel" ({ cls := "DawnPerquisiteModel", name := "crowd", desc := "(Z)I" } : Jvm.MethodName) ({ cls := "DawnPerquisiteModel", name := "crowd", desc := "(Z)I" } : Jvm.MethodName)) ∈ lw_all := lw_g (lw_at lw_m9 40 rfl) rfl
theorem q2107 : (Jvm.Cond.code ({ cls := "DawnPerquisiteModel", name := "crowd", desc := "(Z)I" } : Jvm.MethodName) prog_20_method_146_code (4 : Nat) (Option.some Jvm.ClassFile.FieldType.int)) ∈ lw_all := lw_g (lw_at lw_m9 41 rfl) rfl
theorem q2108 : (Jvm.Cond.methodLink "DawnPerquisiteModel" (452 : Nat) ({ cls := "DawnPerquisiteModel", name := "crowdAt", desc := "(I)I" } : Jvm.MethodName)) ∈ lw_all := lw_g (lw_at lw_m9 42 rfl) rfl
theorem q2109 : (Jvm.Cond.privateMethod ({ cls := "DawnPerquisiteModel", name := "crowdAt", desc := "(I)I" } : Jvm.MethodName)) ∈ lw_tbl := lw_at lw_m9 43 rfl
theorem q2110 : (Jvm.Cond.instanceMethod ({ cls := "DawnPerquisiteModel", name := "crowdAt", desc := "(I)I" } : Jvm.MethodName)) ∈ lw_all := lw_g (lw_at lw_m9 44 rfl) rfl
theorem q2111 : (Jvm.Cond.code ({ cls := "DawnPerquisiteModel", name := "crowdAt", desc := "(I)I" } : Jvm.MethodName) prog_20_method_145_code (4 : Nat) (Option.some Jvm.ClassFile.FieldType.int)) ∈ lw_all := lw_g (lw_at lw_m9 45 rfl) rfl
theorem q2112 : (Jvm.Cond.methodLink "DawnPerquisiteLaw" (167 : Nat) ({ cls := "DawnPerquisiteModel", name := "dawns", desc := "(I)I" } : Jvm.MethodName)) ∈ lw_all := lw_g (lw_at lw_m9 46 rfl) rfl
theorem q2113 : (Jvm.Cond.instanceMethod ({ cls := "DawnPerquisiteModel", name := "dawns", desc := "(I)I" } : Jvm.MethodName)) ∈ lw_all := lw_g (lw_at lw_m9 47 rfl) rfl
theorem q2114 : (Jvm.Cond.selects "DawnPerquisiteModel" ({ cls := "DawnPerquisiteModel", name := "dawns", desc := "(I)I" } : Jvm.MethodName) ({ cls := "DawnPerquisiteModel", name := "dawns", desc := "(I)I" } : Jvm.MethodName)) ∈ lw_all := lw_g (lw_at lw_m9 48 rfl) rfl
theorem q2115 : (Jvm.Cond.code ({ cls := "DawnPerquisiteModel", name := "dawns", desc := "(I)I" } : Jvm.MethodName) prog_20_method_148_code (2 : Nat) (Option.some Jvm.ClassFile.FieldType.int)) ∈ lw_all := lw_g (lw_at lw_m9 49 rfl) rfl
theorem q2116 : (Jvm.Cond.methodLink "DawnPerquisiteModel" (455 : Nat) ({ cls := "DawnPerquisiteModel", name := "layDawns", desc := "()V" } : Jvm.MethodName)) ∈ lw_all := lw_g (lw_at lw_m9 50 rfl) rfl
theorem q2117 : (Jvm.Cond.privateMethod ({ cls := "DawnPerquisiteModel", name := "layDawns", desc := "()V" } : Jvm.MethodName)) ∈ lw_tbl := lw_at lw_m9 51 rfl
theorem q2118 : (Jvm.Cond.instanceMethod ({ cls := "DawnPerquisiteModel", name := "layDawns", desc := "()V" } : Jvm.MethodName)) ∈ lw_all := lw_g (lw_at lw_m9 52 rfl) rfl
theorem q2119 : (Jvm.Cond.code ({ cls := "DawnPerquisiteModel", name := "layDawns", desc := "()V" } : Jvm.MethodName) prog_20_method_147_code (4 : Nat) (Option.none : Option Jvm.ClassFile.FieldType)) ∈ lw_all := lw_g (lw_at lw_m9 53 rfl) rfl
theorem q2120 : (Jvm.Cond.methodLink "DawnPerquisiteLaw" (171 : Nat) ({ cls := "DawnPerquisiteModel", name := "month", desc := "(IZ)J" } : Jvm.MethodName)) ∈ lw_all := lw_g (lw_at lw_m9 54 rfl) rfl
theorem q2121 : (Jvm.Cond.instanceMethod ({ cls := "DawnPerquisiteModel", name := "month", desc := "(IZ)J" } : Jvm.MethodName)) ∈ lw_all := lw_g (lw_at lw_m9 55 rfl) rfl
theorem q2122 : (Jvm.Cond.selects "DawnPerquisiteModel" ({ cls := "DawnPerquisiteModel", name := "month", desc := "(IZ)J" } : Jvm.MethodName) ({ cls := "DawnPerquisiteModel", name := "month", desc := "(IZ)J" } : Jvm.MethodName)) ∈ lw_all := lw_g (lw_at lw_m9 56 rfl) rfl
theorem q2123 : (Jvm.Cond.code ({ cls := "DawnPerquisiteModel", name := "month", desc := "(IZ)J" } : Jvm.MethodName) prog_20_method_149_code (6 : Nat) (Option.some Jvm.ClassFile.FieldType.long)) ∈ lw_all := lw_g (lw_at lw_m9 57 rfl) rfl
theorem q2124 : (Jvm.Cond.methodLink "DawnPerquisiteLaw" (176 : Nat) ({ cls := "DawnPerquisiteModel", name := "value", desc := "(II)Z" } : Jvm.MethodName)) ∈ lw_all := lw_g (lw_at lw_m9 58 rfl) rfl
theorem q2125 : (Jvm.Cond.instanceMethod ({ cls := "DawnPerquisiteModel", name := "value", desc := "(II)Z" } : Jvm.MethodName)) ∈ lw_all := lw_g (lw_at lw_m9 59 rfl) rfl
theorem q2126 : (Jvm.Cond.selects "DawnPerquisiteModel" ({ cls := "DawnPerquisiteModel", name := "value", desc := "(II)Z" } : Jvm.MethodName) ({ cls := "DawnPerquisiteModel", name := "value", desc := "(II)Z" } : Jvm.MethodName)) ∈ lw_all := lw_g (lw_at lw_m9 60 rfl) rfl
theorem q2127 : (Jvm.Cond.code ({ cls := "DawnPerquisiteModel", name := "value", desc := "(II)Z" } : Jvm.MethodName) prog_20_method_150_code (3 : Nat) (Option.some Jvm.ClassFile.FieldType.boolean)) ∈ lw_all := lw_g (lw_at lw_m9 61 rfl) rfl
theorem q2128 : (Jvm.Cond.methodLink "DawnPerquisiteLaw" (180 : Nat) ({ cls := "DawnPerquisiteModel", name := "ends", desc := "(II)I" } : Jvm.MethodName)) ∈ lw_all := lw_g (lw_at lw_m9 62 rfl) rfl
theorem q2129 : (Jvm.Cond.instanceMethod ({ cls := "DawnPerquisiteModel", name := "ends", desc := "(II)I" } : Jvm.MethodName)) ∈ lw_all := lw_g (lw_at lw_m9 63 rfl) rfl
theorem q2130 : (Jvm.Cond.selects "DawnPerquisiteModel" ({ cls := "DawnPerquisiteModel", name := "ends", desc := "(II)I" } : Jvm.MethodName) ({ cls := "DawnPerquisiteModel", name := "ends", desc := "(II)I" } : Jvm.MethodName)) ∈ lw_all := lw_g (lw_at lw_m9 64 rfl) rfl
theorem q2131 : (Jvm.Cond.code ({ cls := "DawnPerquisiteModel", name := "ends", desc := "(II)I" } : Jvm.MethodName) prog_20_method_154_code (3 : Nat) (Option.some Jvm.ClassFile.FieldType.int)) ∈ lw_all := lw_g (lw_at lw_m9 65 rfl) rfl
theorem q2132 : (Jvm.Cond.methodLink "DawnPerquisiteModel" (464 : Nat) ({ cls := "DawnPerquisiteModel", name := "layGames", desc := "()V" } : Jvm.MethodName)) ∈ lw_all := lw_g (lw_at lw_m9 66 rfl) rfl
theorem q2133 : (Jvm.Cond.privateMethod ({ cls := "DawnPerquisiteModel", name := "layGames", desc := "()V" } : Jvm.MethodName)) ∈ lw_tbl := lw_at lw_m9 67 rfl
theorem q2134 : (Jvm.Cond.instanceMethod ({ cls := "DawnPerquisiteModel", name := "layGames", desc := "()V" } : Jvm.MethodName)) ∈ lw_all := lw_g (lw_at lw_m9 68 rfl) rfl
theorem q2135 : (Jvm.Cond.code ({ cls := "DawnPerquisiteModel", name := "layGames", desc := "()V" } : Jvm.MethodName) prog_20_method_153_code (5 : Nat) (Option.none : Option Jvm.ClassFile.FieldType)) ∈ lw_all := lw_g (lw_at lw_m9 69 rfl) rfl
theorem q2136 : (Jvm.Cond.methodLink "DawnPerquisiteModel" (458 : Nat) ({ cls := "DawnPerquisiteModel", name := "byLeft", desc := "(II)I" } : Jvm.MethodName)) ∈ lw_all := lw_g (lw_at lw_m9 70 rfl) rfl
theorem q2137 : (Jvm.Cond.privateMethod ({ cls := "DawnPerquisiteModel", name := "byLeft", desc := "(II)I" } : Jvm.MethodName)) ∈ lw_tbl := lw_at lw_m9 71 rfl
theorem q2138 : (Jvm.Cond.instanceMethod ({ cls := "DawnPerquisiteModel", name := "byLeft", desc := "(II)I" } : Jvm.MethodName)) ∈ lw_all := lw_g (lw_at lw_m9 72 rfl) rfl
theorem q2139 : (Jvm.Cond.code ({ cls := "DawnPerquisiteModel", name := "byLeft", desc := "(II)I" } : Jvm.MethodName) prog_20_method_151_code (3 : Nat) (Option.some Jvm.ClassFile.FieldType.int)) ∈ lw_all := lw_g (lw_at lw_m9 73 rfl) rfl
theorem q2140 : (Jvm.Cond.methodLink "DawnPerquisiteModel" (461 : Nat) ({ cls := "DawnPerquisiteModel", name := "byRight", desc := "(II)I" } : Jvm.MethodName)) ∈ lw_all := lw_g (lw_at lw_m9 74 rfl) rfl
theorem q2141 : (Jvm.Cond.privateMethod ({ cls := "DawnPerquisiteModel", name := "byRight", desc := "(II)I" } : Jvm.MethodName)) ∈ lw_tbl := lw_at lw_m9 75 rfl
theorem q2142 : (Jvm.Cond.instanceMethod ({ cls := "DawnPerquisiteModel", name := "byRight", desc := "(II)I" } : Jvm.MethodName)) ∈ lw_all := lw_g (lw_at lw_m9 76 rfl) rfl
theorem q2143 : (Jvm.Cond.code ({ cls := "DawnPerquisiteModel", name := "byRight", desc := "(II)I" } : Jvm.MethodName) prog_20_method_152_code (3 : Nat) (Option.some Jvm.ClassFile.FieldType.int)) ∈ lw_all := lw_g (lw_at lw_m9 77 rfl) rfl
theorem q2144 : (Jvm.Cond.methodLink "DawnPerquisiteLaw" (184 : Nat) ({ cls := "DawnPerquisiteModel", name := "take", desc := "(II)I" } : Jvm.MethodName)) ∈ lw_all := lw_g (lw_at lw_m9 78 rfl) rfl
theorem q2145 : (Jvm.Cond.instanceMethod ({ cls := "DawnPerquisiteModel", name := "take", desc := "(II)I" } : Jvm.MethodName)) ∈ lw_all := lw_g (lw_at lw_m9 79 rfl) rfl
theorem q2146 : (Jvm.Cond.selects "DawnPerquisiteModel" ({ cls := "DawnPerquisiteModel", name := "take", desc := "(II)I" } : Jvm.MethodName) ({ cls := "DawnPerquisiteModel", name := "take", desc := "(II)I" } : Jvm.MethodName)) ∈ lw_all := lw_g (lw_at lw_m9 80 rfl) rfl
theorem q2147 : (Jvm.Cond.code ({ cls := "DawnPerquisiteModel", name := "take", desc := "(II)I" } : Jvm.MethodName) prog_20_method_155_code (3 : Nat) (Option.some Jvm.ClassFile.FieldType.int)) ∈ lw_all := lw_g (lw_at lw_m9 81 rfl) rfl
theorem q2148 : (Jvm.Cond.methodLink "DawnPerquisiteLaw" (189 : Nat) ({ cls := "DawnPerquisiteModel", name := "best", desc := "(III)I" } : Jvm.MethodName)) ∈ lw_all := lw_g (lw_at lw_m9 82 rfl) rfl
theorem q2149 : (Jvm.Cond.instanceMethod ({ cls := "DawnPerquisiteModel", name := "best", desc := "(III)I" } : Jvm.MethodName)) ∈ lw_all := lw_g (lw_at lw_m9 83 rfl) rfl
theorem q2150 : (Jvm.Cond.selects "DawnPerquisiteModel" ({ cls := "DawnPerquisiteModel", name := "best", desc := "(III)I" } : Jvm.MethodName) ({ cls := "DawnPerquisiteModel", name := "best", desc := "(III)I" } : Jvm.MethodName)) ∈ lw_all := lw_g (lw_at lw_m9 84 rfl) rfl
theorem q2151 : (Jvm.Cond.code ({ cls := "DawnPerquisiteModel", name := "best", desc := "(III)I" } : Jvm.MethodName) prog_20_method_157_code (8 : Nat) (Option.some Jvm.ClassFile.FieldType.int)) ∈ lw_all := lw_g (lw_at lw_m9 85 rfl) rfl
theorem q2152 : (Jvm.Cond.methodLink "DawnPerquisiteModel" (467 : Nat) ({ cls := "DawnPerquisiteModel", name := "runOf", desc := "(II)I" } : Jvm.MethodName)) ∈ lw_all := lw_g (lw_at lw_m9 86 rfl) rfl
theorem q2153 : (Jvm.Cond.privateMethod ({ cls := "DawnPerquisiteModel", name := "runOf", desc := "(II)I" } : Jvm.MethodName)) ∈ lw_tbl := lw_at lw_m9 87 rfl
theorem q2154 : (Jvm.Cond.instanceMethod ({ cls := "DawnPerquisiteModel", name := "runOf", desc := "(II)I" } : Jvm.MethodName)) ∈ lw_all := lw_g (lw_at lw_m9 88 rfl) rfl
theorem q2155 : (Jvm.Cond.code ({ cls := "DawnPerquisiteModel", name := "runOf", desc := "(II)I" } : Jvm.MethodName) prog_20_method_156_code (5 : Nat) (Option.some Jvm.ClassFile.FieldType.int)) ∈ lw_all := lw_g (lw_at lw_m9 89 rfl) rfl
theorem q2156 : (Jvm.Cond.methodLink "DawnPerquisiteLaw" (193 : Nat) ({ cls := "DawnPerquisiteModel", name := "said", desc := "(II)I" } : Jvm.MethodName)) ∈ lw_all := lw_g (lw_at lw_m9 90 rfl) rfl
theorem q2157 : (Jvm.Cond.instanceMethod ({ cls := "DawnPerquisiteModel", name := "said", desc := "(II)I" } : Jvm.MethodName)) ∈ lw_all := lw_g (lw_at lw_m9 91 rfl) rfl
theorem q2158 : (Jvm.Cond.selects "DawnPerquisiteModel" ({ cls := "DawnPerquisiteModel", name := "said", desc := "(II)I" } : Jvm.MethodName) ({ cls := "DawnPerquisiteModel", name := "said", desc := "(II)I" } : Jvm.MethodName)) ∈ lw_all := lw_g (lw_at lw_m9 92 rfl) rfl
theorem q2159 : (Jvm.Cond.code ({ cls := "DawnPerquisiteModel", name := "said", desc := "(II)I" } : Jvm.MethodName) prog_20_method_158_code (3 : Nat) (Option.some Jvm.ClassFile.FieldType.int)) ∈ lw_all := lw_g (lw_at lw_m9 93 rfl) rfl
theorem q2160 : (Jvm.Cond.methodLink "DawnPerquisiteLaw" (197 : Nat) ({ cls := "DawnPerquisiteModel", name := "whose", desc := "()I" } : Jvm.MethodName)) ∈ lw_all := lw_g (lw_at lw_m9 94 rfl) rfl
theorem q2161 : (Jvm.Cond.instanceMethod ({ cls := "DawnPerquisiteModel", name := "whose", desc := "()I" } : Jvm.MethodName)) ∈ lw_all := lw_g (lw_at lw_m9 95 rfl) rfl
theorem q2162 : (Jvm.Cond.selects "DawnPerquisiteModel" ({ cls := "DawnPerquisiteModel", name := "whose", desc := "()I" } : Jvm.MethodName) ({ cls := "DawnPerquisiteModel", name := "whose", desc := "()I" } : Jvm.MethodName)) ∈ lw_all := lw_g (lw_at lw_m9 96 rfl) rfl
theorem q2163 : (Jvm.Cond.code ({ cls := "DawnPerquisiteModel", name := "whose", desc := "()I" } : Jvm.MethodName) prog_20_method_159_code (5 : Nat) (Option.some Jvm.ClassFile.FieldType.int)) ∈ lw_all := lw_g (lw_at lw_m9 97 rfl) rfl
theorem q2164 : (Jvm.Cond.methodLink "DawnPerquisiteLaw" (245 : Nat) ({ cls := "DawnPerquisiteModel", name := "image", desc := "()I" } : Jvm.MethodName)) ∈ lw_all := lw_g (lw_at lw_m9 98 rfl) rfl
theorem q2165 : (Jvm.Cond.instanceMethod ({ cls := "DawnPerquisiteModel", name := "image", desc := "()I" } : Jvm.MethodName)) ∈ lw_all := lw_g (lw_at lw_m9 99 rfl) rfl
theorem q2166 : (Jvm.Cond.selects "DawnPerquisiteModel" ({ cls := "DawnPerquisiteModel", name := "image", desc := "()I" } : Jvm.MethodName) ({ cls := "DawnPerquisiteModel", name := "image", desc := "()I" } : Jvm.MethodName)) ∈ lw_all := lw_g (lw_at lw_m9 100 rfl) rfl
theorem q2167 : (Jvm.Cond.code ({ cls := "DawnPerquisiteModel", name := "image", desc := "()I" } : Jvm.MethodName) prog_20_method_160_code (1 : Nat) (Option.some Jvm.ClassFile.FieldType.int)) ∈ lw_all := lw_g (lw_at lw_m9 101 rfl) rfl
theorem q2168 : (Jvm.Cond.methodLink "DawnPerquisiteLaw" (249 : Nat) ({ cls := "DawnPerquisiteModel", name := "back", desc := "()I" } : Jvm.MethodName)) ∈ lw_all := lw_g (lw_at lw_m9 102 rfl) rfl
theorem q2169 : (Jvm.Cond.instanceMethod ({ cls := "DawnPerquisiteModel", name := "back", desc := "()I" } : Jvm.MethodName)) ∈ lw_all := lw_g (lw_at lw_m9 103 rfl) rfl
theorem q2170 : (Jvm.Cond.selects "DawnPerquisiteModel" ({ cls := "DawnPerquisiteModel", name := "back", desc := "()I" } : Jvm.MethodName) ({ cls := "DawnPerquisiteModel", name := "back", desc := "()I" } : Jvm.MethodName)) ∈ lw_all := lw_g (lw_at lw_m9 104 rfl) rfl
theorem q2171 : (Jvm.Cond.code ({ cls := "DawnPerquisiteModel", name := "back", desc := "()I" } : Jvm.MethodName) prog_20_method_161_code (1 : Nat) (Option.some Jvm.ClassFile.FieldType.int)) ∈ lw_all := lw_g (lw_at lw_m9 105 rfl) rfl
theorem q2172 : (Jvm.Cond.methodLink "DawnPerquisiteLaw" (253 : Nat) ({ cls := "DawnPerquisiteModel", name := "about", desc := "(I)I" } : Jvm.MethodName)) ∈ lw_all := lw_g (lw_at lw_m9 106 rfl) rfl
theorem q2173 : (Jvm.Cond.instanceMethod ({ cls := "DawnPerquisiteModel", name := "about", desc := "(I)I" } : Jvm.MethodName)) ∈ lw_all := lw_g (lw_at lw_m9 107 rfl) rfl
theorem q2174 : (Jvm.Cond.selects "DawnPerquisiteModel" ({ cls := "DawnPerquisiteModel", name := "about", desc := "(I)I" } : Jvm.MethodName) ({ cls := "DawnPerquisiteModel", name := "about", desc := "(I)I" } : Jvm.MethodName)) ∈ lw_all := lw_g (lw_at lw_m9 108 rfl) rfl
theorem q2175 : (Jvm.Cond.code ({ cls := "DawnPerquisiteModel", name := "about", desc := "(I)I" } : Jvm.MethodName) prog_20_method_162_code (2 : Nat) (Option.some Jvm.ClassFile.FieldType.int)) ∈ lw_all := lw_g (lw_at lw_m9 109 rfl) rfl
theorem q2176 : (Jvm.Cond.sameMethod "java/lang/Throwable" "java/lang/Throwable" "fillInStackTrace" "(I)Ljava/lang/Throwable;") ∈ lw_all := lw_g (lw_at lw_m9 110 rfl) rfl
theorem q2177 : (Jvm.Cond.initialized "java/lang/Object") ∈ lw_all := lw_g (lw_at lw_m9 111 rfl) rfl
theorem q2178 : (Jvm.Cond.castable "DawnPerquisite$Text" "java/lang/Object") ∈ lw_tbl := lw_at lw_m9 112 rfl
theorem q2179 : (Jvm.Cond.castable "DawnPerquisite$Sum" "java/lang/Object") ∈ lw_tbl := lw_at lw_m9 113 rfl
theorem q2180 : (Jvm.Cond.castable "java/lang/String" "java/lang/Object") ∈ lw_tbl := lw_at lw_m9 114 rfl
theorem q2181 : (Jvm.Cond.castable "DawnPerquisite" "java/lang/Object") ∈ lw_tbl := lw_at lw_m9 115 rfl
theorem q2182 : (Jvm.Cond.castable "DawnPerquisite$State" "java/lang/Object") ∈ lw_tbl := lw_at lw_m9 116 rfl
theorem q2183 : (Jvm.Cond.castable "DawnPerquisiteModel" "java/lang/Object") ∈ lw_tbl := lw_at lw_m9 117 rfl
theorem q2184 : (Jvm.Cond.castable "DawnPerquisite$Tokens" "java/lang/Object") ∈ lw_tbl := lw_at lw_m9 118 rfl
theorem q2185 : (Jvm.Cond.castable "java/util/ArrayList" "java/lang/Object") ∈ lw_tbl := lw_at lw_m9 119 rfl
theorem q2186 : (Jvm.Cond.castable "DawnPerquisite$Wrong" "java/lang/Object") ∈ lw_tbl := lw_at lw_m9 120 rfl
theorem q2187 : (Jvm.Cond.castable "DawnPerquisite$Chain" "java/lang/Object") ∈ lw_tbl := lw_at lw_m9 121 rfl
theorem q2188 : (Jvm.Cond.castable "DawnPerquisite$Plain" "java/lang/Object") ∈ lw_tbl := lw_at lw_m9 122 rfl
theorem q2189 : (Jvm.Cond.castable "DawnPerquisite$Not" "java/lang/Object") ∈ lw_tbl := lw_at lw_m9 123 rfl
theorem q2190 : (Jvm.Cond.castable "DawnPerquisite$Compared" "java/lang/Object") ∈ lw_tbl := lw_at lw_m9 124 rfl
theorem q2191 : (Jvm.Cond.castable "DawnPerquisite$All" "java/lang/Object") ∈ lw_tbl := lw_at lw_m9 125 rfl
theorem q2192 : (Jvm.Cond.castable "DawnPerquisite$If" "java/lang/Object") ∈ lw_tbl := lw_at lw_m9 126 rfl
theorem q2193 : (Jvm.Cond.castable "DawnPerquisite$Name" "java/lang/Object") ∈ lw_tbl := lw_at lw_m9 127 rfl
theorem q2194 : (Jvm.Cond.castable "DawnPerquisite$Worth" "java/lang/Object") ∈ lw_tbl := lw_at lw_m9 128 rfl
theorem q2195 : (Jvm.Cond.castable "DawnPerquisite$Purse" "java/lang/Object") ∈ lw_tbl := lw_at lw_m9 129 rfl
theorem q2196 : (Jvm.Cond.castable "DawnPerquisite$Minus" "java/lang/Object") ∈ lw_tbl := lw_at lw_m9 130 rfl
theorem q2197 : (Jvm.Cond.castable "java/lang/Integer" "java/lang/Object") ∈ lw_tbl := lw_at lw_m9 131 rfl
theorem q2198 : (Jvm.Cond.castable "DawnPerquisite$Doing" "java/lang/Object") ∈ lw_tbl := lw_at lw_m9 132 rfl
theorem q2199 : (Jvm.Cond.castable "java/lang/Throwable" "java/lang/Object") ∈ lw_tbl := lw_at lw_m9 133 rfl
theorem q2200 : (Jvm.Cond.sameMethod "[Ljava/lang/Object;" "java/lang/Object" "getClass" "()Ljava/lang/Class;") ∈ lw_all := lw_g (lw_at lw_m9 134 rfl) rfl
theorem q2201 : (Jvm.Cond.selects "[Ljava/lang/Object;" ({ cls := "java/lang/Object", name := "getClass", desc := "()Ljava/lang/Class;" } : Jvm.MethodName) ({ cls := "java/lang/Object", name := "getClass", desc := "()Ljava/lang/Class;" } : Jvm.MethodName)) ∈ lw_all := lw_g (lw_at lw_m9 135 rfl) rfl
theorem q2202 : (Jvm.Cond.declares ({ cls := "java/lang/Object", name := "getClass", desc := "()Ljava/lang/Class;" } : Jvm.MethodName)) ∈ lw_tbl := lw_at lw_m9 136 rfl
theorem q2203 : (Jvm.Cond.castable "[[I" "java/lang/Object") ∈ lw_tbl := lw_at lw_m9 137 rfl
theorem q2204 : (Jvm.Cond.castable "[LDawnPerquisite$Text;" "java/lang/Object") ∈ lw_tbl := lw_at lw_m9 138 rfl
theorem q2205 : (Jvm.Cond.castable "[I" "java/lang/Object") ∈ lw_tbl := lw_at lw_m9 139 rfl
theorem q2206 : (Jvm.Cond.castable "[B" "java/lang/Object") ∈ lw_tbl := lw_at lw_m9 140 rfl
theorem q2207 : (Jvm.Cond.castable "[LDawnPerquisite$Sum;" "java/lang/Object") ∈ lw_tbl := lw_at lw_m9 141 rfl
theorem q2208 : (Jvm.Cond.castable "[Ljava/lang/Object;" "java/lang/Object") ∈ lw_tbl := lw_at lw_m9 142 rfl
theorem q2209 : (Jvm.Cond.castable "[J" "java/lang/Object") ∈ lw_tbl := lw_at lw_m9 143 rfl
theorem q2210 : (Jvm.Cond.castable "[Z" "java/lang/Object") ∈ lw_tbl := lw_at lw_m9 144 rfl
theorem q2211 : (Jvm.Cond.castable "[Ljava/lang/String;" "java/lang/Object") ∈ lw_tbl := lw_at lw_m9 145 rfl
theorem q2212 : (Jvm.Cond.fieldLink "java/lang/String" (9 : Nat) "java/lang/String" "value" "[B") ∈ lw_all := lw_g (lw_at lw_m9 146 rfl) rfl
theorem q2213 : (Jvm.Cond.fieldLink "java/lang/String" (15 : Nat) "java/lang/String" "coder" "B") ∈ lw_all := lw_g (lw_at lw_m9 147 rfl) rfl
theorem q2214 : (Jvm.Cond.stringRef "DawnPerquisite$Tokens" (210 : Nat) "bids") ∈ lw_tbl := lw_at lw_m9 148 rfl
theorem q2215 : (Jvm.Cond.stringRef "DawnPerquisite$Tokens" (212 : Nat) "earns") ∈ lw_tbl := lw_at lw_m9 149 rfl
theorem q2216 : (Jvm.Cond.stringRef "DawnPerquisite$Tokens" (214 : Nat) "buyer") ∈ lw_tbl := lw_at lw_m9 150 rfl
theorem q2217 : (Jvm.Cond.stringRef "DawnPerquisite$Tokens" (216 : Nat) "sort") ∈ lw_tbl := lw_at lw_m9 151 rfl
theorem q2218 : (Jvm.Cond.stringRef "DawnPerquisite$Tokens" (217 : Nat) "sell") ∈ lw_tbl := lw_at lw_m9 152 rfl
theorem q2219 : (Jvm.Cond.stringRef "DawnPerquisite$Tokens" (219 : Nat) "give") ∈ lw_tbl := lw_at lw_m9 153 rfl
theorem q2220 : (Jvm.Cond.stringRef "DawnPerquisite$Tokens" (221 : Nat) "turn") ∈ lw_tbl := lw_at lw_m9 154 rfl
theorem q2221 : (Jvm.Cond.stringRef "DawnPerquisite$Tokens" (223 : Nat) "day") ∈ lw_tbl := lw_at lw_m9 155 rfl
theorem q2222 : (Jvm.Cond.stringRef "DawnPerquisite$Tokens" (225 : Nat) "to") ∈ lw_tbl := lw_at lw_m9 156 rfl
theorem q2223 : (Jvm.Cond.stringRef "DawnPerquisite$Tokens" (227 : Nat) "by") ∈ lw_tbl := lw_at lw_m9 157 rfl
theorem q2224 : (Jvm.Cond.stringRef "DawnPerquisite$Tokens" (229 : Nat) "worth") ∈ lw_tbl := lw_at lw_m9 158 rfl
theorem q2225 : (Jvm.Cond.stringRef "DawnPerquisite$Tokens" (231 : Nat) "purse") ∈ lw_tbl := lw_at lw_m9 159 rfl
theorem q2226 : (Jvm.Cond.stringRef "DawnPerquisite$Tokens" (233 : Nat) "if") ∈ lw_tbl := lw_at lw_m9 160 rfl
theorem q2227 : (Jvm.Cond.stringRef "DawnPerquisite$Tokens" (235 : Nat) "then") ∈ lw_tbl := lw_at lw_m9 161 rfl
theorem q2228 : (Jvm.Cond.stringRef "DawnPerquisite$Tokens" (237 : Nat) "else") ∈ lw_tbl := lw_at lw_m9 162 rfl
theorem q2229 : (Jvm.Cond.stringRef "DawnPerquisite$Tokens" (239 : Nat) "end") ∈ lw_tbl := lw_at lw_m9 163 rfl
theorem q2230 : (Jvm.Cond.stringRef "DawnPerquisite$Tokens" (241 : Nat) "or") ∈ lw_tbl := lw_at lw_m9 164 rfl
theorem q2231 : (Jvm.Cond.stringRef "DawnPerquisite$Tokens" (243 : Nat) "and") ∈ lw_tbl := lw_at lw_m9 165 rfl
theorem q2232 : (Jvm.Cond.stringRef "DawnPerquisite$Tokens" (245 : Nat) "not") ∈ lw_tbl := lw_at lw_m9 166 rfl
theorem q2233 : (Jvm.Cond.stringRef "DawnPerquisite$Tokens" (247 : Nat) "long") ∈ lw_tbl := lw_at lw_m9 167 rfl
theorem q2234 : (Jvm.Cond.stringRef "DawnPerquisite$Tokens" (249 : Nat) "own") ∈ lw_tbl := lw_at lw_m9 168 rfl
theorem q2235 : (Jvm.Cond.stringRef "DawnPerquisite$Tokens" (251 : Nat) "free") ∈ lw_tbl := lw_at lw_m9 169 rfl
theorem q2236 : (Jvm.Cond.stringRef "DawnPerquisite$Tokens" (253 : Nat) "wants") ∈ lw_tbl := lw_at lw_m9 170 rfl
theorem q2237 : (Jvm.Cond.stringRef "DawnPerquisite$Tokens" (255 : Nat) "has") ∈ lw_tbl := lw_at lw_m9 171 rfl
theorem q2238 : (Jvm.Cond.arrayOver (Jvm.ClassFile.FieldType.object "java/lang/String")) ∈ lw_tbl := lw_at lw_m9 172 rfl
theorem in_X0 : ∀ w ∈ wsX00, w ∈ lw_all := lw_in wsX00 [280, 282, 284, 286, 288, 290, 292, 294, 296, 298, 300] (by decide +kernel) (by decide +kernel)
theorem in_X1 : ∀ w ∈ wsX10, w ∈ lw_all := lw_in wsX10 [231, 233, 235, 237, 239, 241, 243, 245, 247, 249, 251] (by decide +kernel) (by decide +kernel)
theorem in_X2 : ∀ w ∈ wsX20, w ∈ lw_all := lw_in wsX20 [1488, 1490, 1492, 1494, 1496, 1498, 1500, 1502, 1504, 1506, 1508, 1510, 1512, 1514, 1516, 1518, 1520, 1522, 1524, 1526, 1528, 1530, 1532, 1534, 1536, 1538, 1540, 1542] (by decide +kernel) (by decide +kernel)
theorem in_X3 : ∀ w ∈ wsX30, w ∈ lw_all := lw_in wsX30 [360, 362, 364, 366, 368, 370, 372, 374] (by decide +kernel) (by decide +kernel)
theorem in_X4 : ∀ w ∈ wsX40, w ∈ lw_all := lw_in wsX40 [422, 424, 426] (by decide +kernel) (by decide +kernel)
theorem in_X5 : ∀ w ∈ wsX50, w ∈ lw_all := lw_in wsX50 [554, 556] (by decide +kernel) (by decide +kernel)
theorem in_X6 : ∀ w ∈ wsX60, w ∈ lw_all := lw_in wsX60 [816, 818, 820] (by decide +kernel) (by decide +kernel)
theorem in_X7 : ∀ w ∈ wsX70, w ∈ lw_all := lw_in wsX70 [594] (by decide +kernel) (by decide +kernel)
theorem in_X8 : ∀ w ∈ wsX80, w ∈ lw_all := lw_in wsX80 [626] (by decide +kernel) (by decide +kernel)
theorem in_X9 : ∀ w ∈ wsX90, w ∈ lw_all := lw_in wsX90 [638, 640, 642] (by decide +kernel) (by decide +kernel)
theorem in_X10 : ∀ w ∈ wsX100, w ∈ lw_all := lw_in wsX100 [732, 734] (by decide +kernel) (by decide +kernel)
theorem in_X11 : ∀ w ∈ wsX110, w ∈ lw_all := lw_in wsX110 [750, 752, 754] (by decide +kernel) (by decide +kernel)
theorem in_X12 : ∀ w ∈ wsX120, w ∈ lw_all := lw_in wsX120 [774] (by decide +kernel) (by decide +kernel)
theorem in_X13 : ∀ w ∈ wsX130, w ∈ lw_all := lw_in wsX130 [784] (by decide +kernel) (by decide +kernel)
theorem in_X14 : ∀ w ∈ wsX140, w ∈ lw_all := lw_in wsX140 [794] (by decide +kernel) (by decide +kernel)
theorem in_X15 : ∀ w ∈ wsX150, w ∈ lw_all := lw_in wsX150 [804] (by decide +kernel) (by decide +kernel)
theorem in_X16 : ∀ w ∈ wsX160, w ∈ lw_all := lw_in wsX160 [870, 872, 874, 876] (by decide +kernel) (by decide +kernel)
theorem in_J3 : ∀ w ∈ wsJ30, w ∈ lw_all := lw_in wsJ30 [412, 408, 410] (by decide +kernel) (by decide +kernel)
theorem in_J9 : ∀ w ∈ wsJ90, w ∈ lw_all := lw_in wsJ90 [512, 514, 516, 518, 520] (by decide +kernel) (by decide +kernel)
theorem in_J15 : ∀ w ∈ wsJ150, w ∈ lw_all := lw_in wsJ150 [844] (by decide +kernel) (by decide +kernel)
end
section
/-! PART 02: every method's code as a list of instructions -/
set_option maxRecDepth 100000
/-- how long an instruction is, of those that are run here -/
def iln (i : Instr) : Nat := match i with
  | .bipush _ => 2
  | .iload _ => 2
  | .lload _ => 2
  | .aload _ => 2
  | .istore _ => 2
  | .lstore _ => 2
  | .astore _ => 2
  | .newarray _ => 2
  | .ldc _ => 2
  | .sipush _ => 3
  | .iinc _ _ => 3
  | .ifCond _ _ => 3
  | .if_icmp _ _ => 3
  | .if_acmp _ _ => 3
  | .ifnull _ => 3
  | .ifnonnull _ => 3
  | .goto _ => 3
  | .getfield _ => 3
  | .putfield _ => 3
  | .getstatic _ => 3
  | .invokevirtual _ => 3
  | .invokespecial _ => 3
  | .invokestatic _ => 3
  | .new _ => 3
  | .anewarray _ => 3
  | .checkcast _ => 3
  | .ldc_w _ => 3
  | .ldc2_w _ => 3
  | .multianewarray _ _ => 4
  | .invokeinterface _ _ => 5
  | _ => 1
/-- the listed places of a code hold the listed instructions, of their usual length -/
def dck (c : ByteArray) (l : List (Nat × Instr)) : Prop := ∀ r ∈ l, decode c r.1 = .ok (r.2, iln r.2)
theorem dck_at {c : ByteArray} {l : List (Nat × Instr)} (h : dck c l) (k : Nat) {pc : Nat} {i : Instr} (e : l[k]? = some (pc, i)) : decode c pc = .ok (i, iln i) := h _ (List.mem_of_getElem? e)
/-! 0: DawnPerquisite.<init>()V -/
abbrev c0 : ByteArray := prog_1_method_4_code
def l0_0 : List (Nat × Instr) := [(0, .aload_n 0), (1, .invokespecial 12), (4, .aload_n 0), (5, .new 18), (8, .dup), (9, .invokespecial 20), (12, .putfield 21), (15, .aload_n 0), (16, .new 18), (19, .dup), (20, .invokespecial 20), (23, .putfield 25), (26, .aload_n 0), (27, .sipush 300), (30, .newarray .byte), (32, .putfield 28), (35, .aload_n 0), (36, .iconst (-1)), (37, .putfield 32), (40, .aload_n 0), (41, .iconst (-1)), (42, .putfield 36), (45, .aload_n 0), (46, .bipush 19), (48, .newarray .int), (50, .putfield 39), (53, .aload_n 0), (54, .bipush 123), (56, .newarray .int), (58, .putfield 43), (61, .aload_n 0), (62, .bipush 6), (64, .newarray .int), (66, .putfield 46), (69, .aload_n 0), (70, .bipush 6), (72, .newarray .int), (74, .putfield 49), (77, .aload_n 0), (78, .bipush 12), (80, .bipush 12), (82, .multianewarray 52 2), (86, .putfield 54), (89, .aload_n 0), (90, .getfield 25), (93, .aload_n 0), (94, .getfield 21), (97, .invokevirtual 57), (100, .return_)]
theorem k0_0 : dck c0 l0_0 := by unfold dck; decide +kernel
/-! 1: DawnPerquisite.sort(III)Z -/
abbrev c1 : ByteArray := prog_1_method_9_code
def l1_0 : List (Nat × Instr) := [(0, .iload_n 1), (1, .invokestatic 72), (4, .ifCond .eq 23), (7, .iload_n 2), (8, .iconst 0), (9, .bipush 9), (11, .invokestatic 68), (14, .ifCond .eq 13), (17, .iload_n 3), (18, .iconst 0), (19, .bipush 99), (21, .invokestatic 68), (24, .ifCond .ne 5), (27, .iconst 0), (28, .ireturn), (29, .aload_n 0), (30, .getfield 21), (33, .getfield 76), (36, .iload_n 1), (37, .iload_n 2), (38, .iastore), (39, .aload_n 0), (40, .getfield 21), (43, .getfield 79), (46, .iload_n 1), (47, .iload_n 3), (48, .iastore), (49, .iconst 1), (50, .ireturn)]
theorem k1_0 : dck c1 l1_0 := by unfold dck; decide +kernel
/-! 2: DawnPerquisite.isSort(I)Z -/
abbrev c2 : ByteArray := prog_1_method_7_code
def l2_0 : List (Nat × Instr) := [(0, .iload_n 0), (1, .iconst 0), (2, .iconst 4), (3, .invokestatic 68), (6, .ireturn)]
theorem k2_0 : dck c2 l2_0 := by unfold dck; decide +kernel
/-! 3: DawnPerquisite.in(III)Z -/
abbrev c3 : ByteArray := prog_1_method_1_code
def l3_0 : List (Nat × Instr) := [(0, .iload_n 0), (1, .iload_n 1), (2, .if_icmp .lt 12), (5, .iload_n 0), (6, .iload_n 2), (7, .if_icmp .gt 7), (10, .iconst 1), (11, .goto 4), (14, .iconst 0), (15, .ireturn)]
theorem k3_0 : dck c3 l3_0 := by unfold dck; decide +kernel
/-! 4: DawnPerquisite.buyer(IIII)I -/
abbrev c4 : ByteArray := prog_1_method_10_code
def l4_0 : List (Nat × Instr) := [(0, .aload_n 0), (1, .invokevirtual 64), (4, .istore 5), (6, .iload_n 1), (7, .iconst 0), (8, .bipush 31), (10, .invokestatic 68), (13, .ifCond .eq 38), (16, .iload_n 3), (17, .invokestatic 82), (20, .ifCond .eq 31), (23, .iload_n 2), (24, .iconst 0), (25, .iload_n 3), (26, .invokestatic 68), (29, .ifCond .eq 22), (32, .iload 4), (34, .iconst 0), (35, .sipush 999), (38, .invokestatic 68), (41, .ifCond .eq 10), (44, .iload 5), (46, .bipush 6), (48, .if_icmp .ne 5), (51, .iconst (-1)), (52, .ireturn), (53, .aload_n 0), (54, .getfield 21), (57, .getfield 85), (60, .iload 5), (62, .iload_n 1), (63, .iastore), (64, .aload_n 0), (65, .getfield 21), (68, .getfield 88), (71, .iload 5), (73, .iload_n 2), (74, .iastore), (75, .aload_n 0), (76, .getfield 21), (79, .getfield 91), (82, .iload 5), (84, .iload_n 3), (85, .iastore), (86, .aload_n 0), (87, .getfield 21), (90, .getfield 61), (93, .iconst 0), (94, .dup2), (95, .iaload), (96, .iconst 1), (97, .iadd), (98, .iastore), (99, .aload_n 0), (100, .getfield 21), (103, .bipush 16), (105, .iload 5), (107, .iadd), (108, .iload 4), (110, .invokevirtual 94)]
theorem k4_0 : dck c4 l4_0 := by unfold dck; decide +kernel
def l4_1 : List (Nat × Instr) := [(113, .iload 5), (115, .ireturn)]
theorem k4_1 : dck c4 l4_1 := by unfold dck; decide +kernel
/-! 5: DawnPerquisite.buyers()I -/
abbrev c5 : ByteArray := prog_1_method_5_code
def l5_0 : List (Nat × Instr) := [(0, .aload_n 0), (1, .getfield 21), (4, .getfield 61), (7, .iconst 0), (8, .iaload), (9, .ireturn)]
theorem k5_0 : dck c5 l5_0 := by unfold dck; decide +kernel
/-! 6: DawnPerquisite.isSlice(I)Z -/
abbrev c6 : ByteArray := prog_1_method_8_code
def l6_0 : List (Nat × Instr) := [(0, .iload_n 0), (1, .iconst 0), (2, .bipush 11), (4, .invokestatic 68), (7, .ireturn)]
theorem k6_0 : dck c6 l6_0 := by unfold dck; decide +kernel
/-! 7: DawnPerquisite.feed(IIIII)I -/
abbrev c7 : ByteArray := prog_1_method_12_code
def l7_0 : List (Nat × Instr) := [(0, .aload_n 0), (1, .getfield 98), (4, .bipush 20), (6, .iadd), (7, .sipush 300), (10, .if_icmp .le 5), (13, .iconst (-1)), (14, .ireturn), (15, .aload_n 0), (16, .iload_n 1), (17, .invokevirtual 101), (20, .aload_n 0), (21, .iload_n 2), (22, .invokevirtual 101), (25, .aload_n 0), (26, .iload_n 3), (27, .invokevirtual 101), (30, .aload_n 0), (31, .iload 4), (33, .invokevirtual 101), (36, .aload_n 0), (37, .iload 5), (39, .invokevirtual 101), (42, .aload_n 0), (43, .getfield 98), (46, .ireturn)]
theorem k7_0 : dck c7 l7_0 := by unfold dck; decide +kernel
/-! 8: DawnPerquisite.put(I)V -/
abbrev c8 : ByteArray := prog_1_method_11_code
def l8_0 : List (Nat × Instr) := [(0, .bipush 24), (2, .istore_n 2), (3, .iload_n 2), (4, .ifCond .lt 32), (7, .aload_n 0), (8, .getfield 28), (11, .aload_n 0), (12, .getfield 98), (15, .iload_n 1), (16, .iload_n 2), (17, .ishr), (18, .i2b), (19, .bastore), (20, .aload_n 0), (21, .dup), (22, .getfield 98), (25, .iconst 1), (26, .iadd), (27, .putfield 98), (30, .iinc 2 (-8)), (33, .goto (-30)), (36, .return_)]
theorem k8_0 : dck c8 l8_0 := by unfold dck; decide +kernel
/-! 9: DawnPerquisite.end(I)I -/
abbrev c9 : ByteArray := prog_1_method_13_code
def l9_0 : List (Nat × Instr) := [(0, .iload_n 1), (1, .iconst 0), (2, .aload_n 0), (3, .getfield 98), (6, .invokestatic 68), (9, .ifCond .ne 5), (12, .iconst (-1)), (13, .ireturn), (14, .aload_n 0), (15, .iload_n 1), (16, .putfield 98), (19, .iload_n 1), (20, .ireturn)]
theorem k9_0 : dck c9 l9_0 := by unfold dck; decide +kernel
/-! 10: DawnPerquisite.text()I -/
abbrev c10 : ByteArray := prog_1_method_14_code
def l10_0 : List (Nat × Instr) := [(0, .aload_n 0), (1, .getfield 21), (4, .getfield 61), (7, .iconst 1), (8, .iaload), (9, .iconst 4), (10, .if_icmp .ne 5), (13, .iconst (-1)), (14, .ireturn), (15, .aload_n 0), (16, .getfield 98), (19, .istore_n 1), (20, .aload_n 0), (21, .iconst 0), (22, .putfield 32), (25, .aload_n 0), (26, .iconst (-1)), (27, .putfield 36), (30, .aload_n 0), (31, .getfield 21), (34, .getfield 105), (37, .aload_n 0), (38, .getfield 21), (41, .getfield 61), (44, .iconst 1), (45, .iaload), (46, .new 109), (49, .dup), (50, .aload_n 0), (51, .getfield 28), (54, .iload_n 1), (55, .invokespecial 111), (58, .invokevirtual 114), (61, .aastore), (62, .aload_n 0), (63, .iconst 0), (64, .putfield 98), (67, .goto 39), (70, .astore_n 2), (71, .aload_n 0), (72, .aload_n 2), (73, .getfield 120), (76, .putfield 32), (79, .aload_n 0), (80, .aload_n 2), (81, .getfield 121), (84, .putfield 36), (87, .iconst (-1)), (88, .istore_n 3), (89, .aload_n 0), (90, .iconst 0), (91, .putfield 98), (94, .iload_n 3), (95, .ireturn), (96, .astore 4), (98, .aload_n 0), (99, .iconst 0), (100, .putfield 98), (103, .aload 4), (105, .athrow)]
theorem k10_0 : dck c10 l10_0 := by unfold dck; decide +kernel
def l10_1 : List (Nat × Instr) := [(106, .aload_n 0), (107, .getfield 21), (110, .getfield 61), (113, .iconst 1), (114, .dup2), (115, .iaload), (116, .iconst 1), (117, .iadd), (118, .iastore), (119, .aload_n 0), (120, .getfield 21), (123, .getfield 61), (126, .iconst 1), (127, .iaload), (128, .iconst 1), (129, .isub), (130, .ireturn)]
theorem k10_1 : dck c10 l10_1 := by unfold dck; decide +kernel
/-! 11: DawnPerquisite.fault(I)I -/
abbrev c11 : ByteArray := prog_1_method_15_code
def l11_0 : List (Nat × Instr) := [(0, .iload_n 1), (1, .ifCond .ne 10), (4, .aload_n 0), (5, .getfield 32), (8, .goto 16), (11, .iload_n 1), (12, .iconst 1), (13, .if_icmp .ne 10), (16, .aload_n 0), (17, .getfield 36), (20, .goto 4), (23, .iconst (-1)), (24, .ireturn)]
theorem k11_0 : dck c11 l11_0 := by unfold dck; decide +kernel
/-! 12: DawnPerquisite.by(I)Z -/
abbrev c12 : ByteArray := prog_1_method_17_code
def l12_0 : List (Nat × Instr) := [(0, .iload_n 1), (1, .iconst (-1)), (2, .if_icmp .eq 13), (5, .aload_n 0), (6, .iload_n 1), (7, .invokevirtual 124), (10, .ifCond .ne 5), (13, .iconst 0), (14, .ireturn), (15, .aload_n 0), (16, .getfield 21), (19, .getfield 61), (22, .iconst 2), (23, .iload_n 1), (24, .iastore), (25, .iconst 1), (26, .ireturn)]
theorem k12_0 : dck c12 l12_0 := by unfold dck; decide +kernel
/-! 13: DawnPerquisite.isText(I)Z -/
abbrev c13 : ByteArray := prog_1_method_16_code
def l13_0 : List (Nat × Instr) := [(0, .iload_n 1), (1, .iconst 0), (2, .aload_n 0), (3, .getfield 21), (6, .getfield 61), (9, .iconst 1), (10, .iaload), (11, .iconst 1), (12, .isub), (13, .invokestatic 68), (16, .ireturn)]
theorem k13_0 : dck c13 l13_0 := by unfold dck; decide +kernel
/-! 14: DawnPerquisite.sell(I)I -/
abbrev c14 : ByteArray := prog_1_method_34_code
def l14_0 : List (Nat × Instr) := [(0, .aload_n 0), (1, .iload_n 1), (2, .invokevirtual 209), (5, .ifCond .ne 5), (8, .iconst (-1)), (9, .ireturn), (10, .aload_n 0), (11, .getfield 21), (14, .invokevirtual 212), (17, .aload_n 0), (18, .iload_n 1), (19, .invokevirtual 215), (22, .ireturn)]
theorem k14_0 : dck c14 l14_0 := by unfold dck; decide +kernel
/-! 15: DawnPerquisite.canSell(I)Z -/
abbrev c15 : ByteArray := prog_1_method_28_code
def l15_0 : List (Nat × Instr) := [(0, .aload_n 0), (1, .iload_n 1), (2, .invokevirtual 184), (5, .ifCond .eq 75), (8, .aload_n 0), (9, .iload_n 1), (10, .aload_n 0), (11, .getfield 21), (14, .getfield 173), (17, .iconst 3), (18, .iaload), (19, .invokevirtual 187), (22, .ifCond .eq 58), (25, .aload_n 0), (26, .iload_n 1), (27, .invokevirtual 190), (30, .aload_n 0), (31, .getfield 21), (34, .getfield 173), (37, .iconst (-1)), (38, .invokestatic 135), (41, .iconst (-1)), (42, .ixor), (43, .iand), (44, .ifCond .ne 36), (47, .aload_n 0), (48, .getfield 21), (51, .getfield 173), (54, .bipush 16), (56, .iload_n 1), (57, .iadd), (58, .iaload), (59, .aload_n 0), (60, .iload_n 1), (61, .aload_n 0), (62, .getfield 21), (65, .getfield 173), (68, .iconst 3), (69, .iaload), (70, .invokevirtual 193), (73, .if_icmp .lt 7), (76, .iconst 1), (77, .goto 4), (80, .iconst 0), (81, .ireturn)]
theorem k15_0 : dck c15 l15_0 := by unfold dck; decide +kernel
/-! 16: DawnPerquisite.isBuyer(I)Z -/
abbrev c16 : ByteArray := prog_1_method_6_code
def l16_0 : List (Nat × Instr) := [(0, .iload_n 1), (1, .iconst 0), (2, .aload_n 0), (3, .invokevirtual 64), (6, .iconst 1), (7, .isub), (8, .invokestatic 68), (11, .ireturn)]
theorem k16_0 : dck c16 l16_0 := by unfold dck; decide +kernel
/-! 17: DawnPerquisite.doesWant(II)Z -/
abbrev c17 : ByteArray := prog_1_method_27_code
def l17_0 : List (Nat × Instr) := [(0, .aload_n 0), (1, .getfield 21), (4, .getfield 85), (7, .iload_n 1), (8, .iaload), (9, .iload_n 2), (10, .invokestatic 180), (13, .ireturn)]
theorem k17_0 : dck c17 l17_0 := by unfold dck; decide +kernel
/-! 18: DawnPerquisite.has(II)Z -/
abbrev c18 : ByteArray := prog_1_method_2_code
def l18_0 : List (Nat × Instr) := [(0, .iload_n 0), (1, .iload_n 1), (2, .ishr), (3, .iconst 1), (4, .iand), (5, .iconst 1), (6, .if_icmp .ne 7), (9, .iconst 1), (10, .goto 4), (13, .iconst 0), (14, .ireturn)]
theorem k18_0 : dck c18 l18_0 := by unfold dck; decide +kernel
/-! 19: DawnPerquisite.slicesOf(I)I -/
abbrev c19 : ByteArray := prog_1_method_21_code
def l19_0 : List (Nat × Instr) := [(0, .iconst 2), (1, .aload_n 0), (2, .getfield 21), (5, .getfield 91), (8, .iload_n 1), (9, .iaload), (10, .ishl), (11, .iconst 1), (12, .aload_n 0), (13, .getfield 21), (16, .getfield 88), (19, .iload_n 1), (20, .iaload), (21, .ishl), (22, .isub), (23, .ireturn)]
theorem k19_0 : dck c19 l19_0 := by unfold dck; decide +kernel
/-! 20: DawnPerquisite.slicesBy([II)I -/
abbrev c20 : ByteArray := prog_1_method_19_code
def l20_0 : List (Nat × Instr) := [(0, .iconst 0), (1, .istore_n 2), (2, .iconst 0), (3, .istore_n 3), (4, .iload_n 3), (5, .bipush 12), (7, .if_icmp .ge 28), (10, .iload_n 2), (11, .aload_n 0), (12, .iconst 4), (13, .iload_n 3), (14, .iadd), (15, .iaload), (16, .iload_n 1), (17, .if_icmp .ne 9), (20, .iconst 1), (21, .iload_n 3), (22, .ishl), (23, .goto 4), (26, .iconst 0), (27, .ior), (28, .istore_n 2), (29, .iinc 3 1), (32, .goto (-28)), (35, .iload_n 2), (36, .ireturn)]
theorem k20_0 : dck c20 l20_0 := by unfold dck; decide +kernel
/-! 21: DawnPerquisite.bidsNow(II)I -/
abbrev c21 : ByteArray := prog_1_method_24_code
def l21_0 : List (Nat × Instr) := [(0, .aload_n 0), (1, .aload_n 0), (2, .invokevirtual 170), (5, .aload_n 0), (6, .getfield 21), (9, .getfield 173), (12, .iload_n 1), (13, .iload_n 2), (14, .invokevirtual 176), (17, .ireturn)]
theorem k21_0 : dck c21 l21_0 := by unfold dck; decide +kernel
/-! 22: DawnPerquisite.rules()LDawnPerquisite$Text; -/
abbrev c22 : ByteArray := prog_1_method_18_code
def l22_0 : List (Nat × Instr) := [(0, .aload_n 0), (1, .getfield 21), (4, .getfield 61), (7, .iconst 2), (8, .iaload), (9, .iconst (-1)), (10, .if_icmp .ne 9), (13, .getstatic 127), (16, .goto 20), (19, .aload_n 0), (20, .getfield 21), (23, .getfield 105), (26, .aload_n 0), (27, .getfield 21), (30, .getfield 61), (33, .iconst 2), (34, .iaload), (35, .aaload), (36, .areturn)]
theorem k22_0 : dck c22 l22_0 := by unfold dck; decide +kernel
/-! 23: DawnPerquisite.bidsBy(LDawnPerquisite$Text;[III)I -/
abbrev c23 : ByteArray := prog_1_method_23_code
def l23_0 : List (Nat × Instr) := [(0, .aload_n 0), (1, .aload_n 2), (2, .iload_n 3), (3, .iload 4), (5, .invokevirtual 150), (8, .aload_n 1), (9, .getfield 154), (12, .iconst 0), (13, .aaload), (14, .ifnonnull 27), (17, .aload_n 0), (18, .getfield 21), (21, .getfield 79), (24, .iload 4), (26, .iaload), (27, .aload_n 0), (28, .getfield 39), (31, .iconst 3), (32, .iaload), (33, .imul), (34, .bipush 12), (36, .idiv), (37, .i2l), (38, .goto 18), (41, .aload_n 1), (42, .getfield 154), (45, .iconst 0), (46, .aaload), (47, .aload_n 0), (48, .getfield 39), (51, .invokeinterface 160 2), (56, .iconst 0), (57, .bipush 99), (59, .invokestatic 166), (62, .ireturn)]
theorem k23_0 : dck c23 l23_0 := by unfold dck; decide +kernel
/-! 24: DawnPerquisite.namesOf([III)V -/
abbrev c24 : ByteArray := prog_1_method_22_code
def l24_0 : List (Nat × Instr) := [(0, .aload_n 0), (1, .getfield 39), (4, .iconst 0), (5, .aload_n 1), (6, .iconst 0), (7, .iaload), (8, .iastore), (9, .aload_n 0), (10, .getfield 39), (13, .iconst 1), (14, .iload_n 2), (15, .iastore), (16, .aload_n 0), (17, .getfield 39), (20, .iconst 2), (21, .iload_n 3), (22, .iastore), (23, .aload_n 0), (24, .getfield 39), (27, .iconst 3), (28, .aload_n 0), (29, .iload_n 2), (30, .invokevirtual 131), (33, .iastore), (34, .aload_n 0), (35, .getfield 39), (38, .iconst 4), (39, .aload_n 1), (40, .bipush 16), (42, .iload_n 2), (43, .iadd), (44, .iaload), (45, .iastore), (46, .aload_n 0), (47, .getfield 39), (50, .iconst 5), (51, .aload_n 1), (52, .iconst (-1)), (53, .invokestatic 135), (56, .invokestatic 139), (59, .iastore), (60, .aload_n 0), (61, .getfield 39), (64, .bipush 6), (66, .aload_n 0), (67, .getfield 21), (70, .getfield 85), (73, .iload_n 2), (74, .iaload), (75, .iload_n 3), (76, .ishr), (77, .iconst 1), (78, .iand), (79, .iastore), (80, .aload_n 0), (81, .getfield 39), (84, .bipush 7), (86, .aload_n 1), (87, .iload_n 2), (88, .invokestatic 135)]
theorem k24_0 : dck c24 l24_0 := by unfold dck; decide +kernel
def l24_1 : List (Nat × Instr) := [(91, .invokestatic 139), (94, .iastore), (95, .aload_n 0), (96, .getfield 21), (99, .getfield 79), (102, .iconst 0), (103, .aload_n 0), (104, .getfield 39), (107, .bipush 8), (109, .iconst 5), (110, .invokestatic 144), (113, .iconst 0), (114, .istore 4), (116, .iload 4), (118, .bipush 6), (120, .if_icmp .ge 39), (123, .aload_n 0), (124, .getfield 39), (127, .bipush 13), (129, .iload 4), (131, .iadd), (132, .iload 4), (134, .aload_n 0), (135, .invokevirtual 64), (138, .if_icmp .ge 13), (141, .aload_n 1), (142, .bipush 16), (144, .iload 4), (146, .iadd), (147, .iaload), (148, .goto 4), (151, .iconst 0), (152, .iastore), (153, .iinc 4 1), (156, .goto (-40)), (159, .return_)]
theorem k24_1 : dck c24 l24_1 := by unfold dck; decide +kernel
/-! 25: DawnPerquisite.longOf(I)I -/
abbrev c25 : ByteArray := prog_1_method_20_code
def l25_0 : List (Nat × Instr) := [(0, .aload_n 0), (1, .getfield 21), (4, .getfield 91), (7, .iload_n 1), (8, .iaload), (9, .aload_n 0), (10, .getfield 21), (13, .getfield 88), (16, .iload_n 1), (17, .iaload), (18, .isub), (19, .iconst 1), (20, .iadd), (21, .ireturn)]
theorem k25_0 : dck c25 l25_0 := by unfold dck; decide +kernel
/-! 26: DawnPerquisite.held(JII)I -/
abbrev c26 : ByteArray := prog_1_method_3_code
def l26_0 : List (Nat × Instr) := [(0, .iload_n 2), (1, .i2l), (2, .iload_n 3), (3, .i2l), (4, .lload_n 0), (5, .invokestatic 3), (8, .invokestatic 9), (11, .l2i), (12, .ireturn)]
theorem k26_0 : dck c26 l26_0 := by unfold dck; decide +kernel
/-! 27: DawnPerquisite.sells(I)I -/
abbrev c27 : ByteArray := prog_1_method_29_code
def l27_0 : List (Nat × Instr) := [(0, .aload_n 0), (1, .iload_n 1), (2, .aload_n 0), (3, .getfield 21), (6, .getfield 173), (9, .iconst 3), (10, .iaload), (11, .invokevirtual 193), (14, .istore_n 2), (15, .aload_n 0), (16, .getfield 21), (19, .getfield 173), (22, .iconst 4), (23, .aload_n 0), (24, .getfield 21), (27, .getfield 88), (30, .iload_n 1), (31, .iaload), (32, .iadd), (33, .iconst 4), (34, .aload_n 0), (35, .getfield 21), (38, .getfield 91), (41, .iload_n 1), (42, .iaload), (43, .iadd), (44, .iconst 1), (45, .iadd), (46, .iload_n 1), (47, .invokestatic 197), (50, .aload_n 0), (51, .getfield 21), (54, .getfield 173), (57, .bipush 16), (59, .iload_n 1), (60, .iadd), (61, .dup2), (62, .iaload), (63, .iload_n 2), (64, .isub), (65, .iastore), (66, .aload_n 0), (67, .getfield 21), (70, .getfield 173), (73, .iconst 2), (74, .ldc 203), (76, .aload_n 0), (77, .getfield 21), (80, .getfield 173), (83, .iconst 2), (84, .iaload), (85, .iload_n 2), (86, .iadd), (87, .invokestatic 204), (90, .iastore), (91, .aload_n 0), (92, .getfield 21), (95, .getfield 173), (98, .iconst 0), (99, .iload_n 1)]
theorem k27_0 : dck c27 l27_0 := by unfold dck; decide +kernel
def l27_1 : List (Nat × Instr) := [(100, .iload_n 2), (101, .invokestatic 206), (104, .iload_n 2), (105, .ireturn)]
theorem k27_1 : dck c27 l27_1 := by unfold dck; decide +kernel
/-! 28: DawnPerquisite.writes([IIII)V -/
abbrev c28 : ByteArray := prog_1_method_26_code
def l28_0 : List (Nat × Instr) := [(0, .aload_n 0), (1, .bipush 22), (3, .iaload), (4, .bipush 25), (6, .if_icmp .ne 22), (9, .aload_n 0), (10, .bipush 27), (12, .aload_n 0), (13, .bipush 23), (15, .bipush 96), (17, .invokestatic 144), (20, .aload_n 0), (21, .bipush 22), (23, .dup2), (24, .iaload), (25, .iconst 1), (26, .isub), (27, .iastore), (28, .bipush 23), (30, .iconst 4), (31, .aload_n 0), (32, .bipush 22), (34, .iaload), (35, .imul), (36, .iadd), (37, .istore 4), (39, .aload_n 0), (40, .iload 4), (42, .aload_n 0), (43, .iconst 0), (44, .iaload), (45, .iastore), (46, .aload_n 0), (47, .iload 4), (49, .iconst 1), (50, .iadd), (51, .iload_n 1), (52, .iastore), (53, .aload_n 0), (54, .iload 4), (56, .iconst 2), (57, .iadd), (58, .iload_n 2), (59, .iastore), (60, .aload_n 0), (61, .iload 4), (63, .iconst 3), (64, .iadd), (65, .iload_n 3), (66, .iastore), (67, .aload_n 0), (68, .bipush 22), (70, .dup2), (71, .iaload), (72, .iconst 1), (73, .iadd), (74, .iastore), (75, .return_)]
theorem k28_0 : dck c28 l28_0 := by unfold dck; decide +kernel
/-! 29: DawnPerquisite.give(I)Z -/
abbrev c29 : ByteArray := prog_1_method_35_code
def l29_0 : List (Nat × Instr) := [(0, .aload_n 0), (1, .iload_n 1), (2, .invokevirtual 218), (5, .ifCond .ne 5), (8, .iconst 0), (9, .ireturn), (10, .aload_n 0), (11, .getfield 21), (14, .invokevirtual 212), (17, .aload_n 0), (18, .iload_n 1), (19, .invokevirtual 221), (22, .iconst 1), (23, .ireturn)]
theorem k29_0 : dck c29 l29_0 := by unfold dck; decide +kernel
/-! 30: DawnPerquisite.canGive(I)Z -/
abbrev c30 : ByteArray := prog_1_method_30_code
def l30_0 : List (Nat × Instr) := [(0, .iload_n 1), (1, .invokestatic 82), (4, .ifCond .eq 22), (7, .aload_n 0), (8, .getfield 21), (11, .getfield 173), (14, .iconst 4), (15, .iload_n 1), (16, .iadd), (17, .iaload), (18, .iconst (-1)), (19, .if_icmp .ne 7), (22, .iconst 1), (23, .goto 4), (26, .iconst 0), (27, .ireturn)]
theorem k30_0 : dck c30 l30_0 := by unfold dck; decide +kernel
/-! 31: DawnPerquisite.gives(I)V -/
abbrev c31 : ByteArray := prog_1_method_31_code
def l31_0 : List (Nat × Instr) := [(0, .aload_n 0), (1, .getfield 21), (4, .getfield 173), (7, .iconst 4), (8, .iload_n 1), (9, .iadd), (10, .bipush 6), (12, .iastore), (13, .aload_n 0), (14, .getfield 21), (17, .getfield 173), (20, .iconst 1), (21, .iload_n 1), (22, .iconst 0), (23, .invokestatic 206), (26, .return_)]
theorem k31_0 : dck c31 l31_0 := by unfold dck; decide +kernel
/-! 32: DawnPerquisite.turn(I)Z -/
abbrev c32 : ByteArray := prog_1_method_36_code
def l32_0 : List (Nat × Instr) := [(0, .aload_n 0), (1, .iload_n 1), (2, .invokevirtual 224), (5, .ifCond .ne 5), (8, .iconst 0), (9, .ireturn), (10, .aload_n 0), (11, .getfield 21), (14, .invokevirtual 212), (17, .aload_n 0), (18, .iload_n 1), (19, .invokevirtual 227), (22, .iconst 1), (23, .ireturn)]
theorem k32_0 : dck c32 l32_0 := by unfold dck; decide +kernel
/-! 33: DawnPerquisite.canTurn(I)Z -/
abbrev c33 : ByteArray := prog_1_method_32_code
def l33_0 : List (Nat × Instr) := [(0, .aload_n 0), (1, .iload_n 1), (2, .invokevirtual 184), (5, .ifCond .eq 21), (8, .aload_n 0), (9, .getfield 21), (12, .getfield 173), (15, .iload_n 1), (16, .invokestatic 135), (19, .ifCond .eq 7), (22, .iconst 1), (23, .goto 4), (26, .iconst 0), (27, .ireturn)]
theorem k33_0 : dck c33 l33_0 := by unfold dck; decide +kernel
/-! 34: DawnPerquisite.turns(I)V -/
abbrev c34 : ByteArray := prog_1_method_33_code
def l34_0 : List (Nat × Instr) := [(0, .iconst 0), (1, .istore_n 2), (2, .iload_n 2), (3, .bipush 12), (5, .if_icmp .ge 36), (8, .aload_n 0), (9, .getfield 21), (12, .getfield 173), (15, .iconst 4), (16, .iload_n 2), (17, .iadd), (18, .iaload), (19, .iload_n 1), (20, .if_icmp .ne 15), (23, .aload_n 0), (24, .getfield 21), (27, .getfield 173), (30, .iconst 4), (31, .iload_n 2), (32, .iadd), (33, .iconst (-1)), (34, .iastore), (35, .iinc 2 1), (38, .goto (-36)), (41, .aload_n 0), (42, .getfield 21), (45, .getfield 173), (48, .iconst 2), (49, .iload_n 1), (50, .iconst 0), (51, .invokestatic 206), (54, .return_)]
theorem k34_0 : dck c34 l34_0 := by unfold dck; decide +kernel
/-! 35: DawnPerquisite.pass(II)I -/
abbrev c35 : ByteArray := prog_1_method_39_code
def l35_0 : List (Nat × Instr) := [(0, .aload_n 0), (1, .iload_n 1), (2, .iload_n 2), (3, .invokevirtual 233), (6, .ifCond .ne 5), (9, .iconst (-1)), (10, .ireturn), (11, .aload_n 0), (12, .iload_n 1), (13, .iload_n 2), (14, .invokevirtual 230), (17, .istore_n 3), (18, .aload_n 0), (19, .getfield 21), (22, .invokevirtual 212), (25, .iconst 0), (26, .istore 4), (28, .iload 4), (30, .bipush 12), (32, .if_icmp .ge 38), (35, .aload_n 0), (36, .getfield 21), (39, .getfield 173), (42, .iconst 4), (43, .iload 4), (45, .iadd), (46, .iaload), (47, .iload_n 1), (48, .if_icmp .ne 16), (51, .aload_n 0), (52, .getfield 21), (55, .getfield 173), (58, .iconst 4), (59, .iload 4), (61, .iadd), (62, .iload_n 2), (63, .iastore), (64, .iinc 4 1), (67, .goto (-39)), (70, .aload_n 0), (71, .getfield 21), (74, .getfield 173), (77, .bipush 16), (79, .iload_n 2), (80, .iadd), (81, .dup2), (82, .iaload), (83, .iload_n 3), (84, .isub), (85, .iastore), (86, .aload_n 0), (87, .getfield 21), (90, .getfield 173), (93, .bipush 16), (95, .iload_n 1), (96, .iadd), (97, .sipush 999), (100, .aload_n 0), (101, .getfield 21), (104, .getfield 173)]
theorem k35_0 : dck c35 l35_0 := by unfold dck; decide +kernel
def l35_1 : List (Nat × Instr) := [(107, .bipush 16), (109, .iload_n 1), (110, .iadd), (111, .iaload), (112, .iload_n 3), (113, .iadd), (114, .invokestatic 204), (117, .iastore), (118, .aload_n 0), (119, .getfield 21), (122, .getfield 173), (125, .iconst 4), (126, .iload_n 2), (127, .iload_n 3), (128, .invokestatic 206), (131, .iload_n 3), (132, .ireturn)]
theorem k35_1 : dck c35 l35_1 := by unfold dck; decide +kernel
/-! 36: DawnPerquisite.canPass(II)Z -/
abbrev c36 : ByteArray := prog_1_method_38_code
def l36_0 : List (Nat × Instr) := [(0, .aload_n 0), (1, .iload_n 1), (2, .invokevirtual 224), (5, .ifCond .eq 42), (8, .aload_n 0), (9, .iload_n 2), (10, .invokevirtual 184), (13, .ifCond .eq 34), (16, .aload_n 0), (17, .getfield 21), (20, .getfield 173), (23, .iload_n 2), (24, .invokestatic 135), (27, .ifCond .ne 20), (30, .aload_n 0), (31, .iload_n 2), (32, .aload_n 0), (33, .getfield 21), (36, .getfield 173), (39, .iconst 3), (40, .iaload), (41, .invokevirtual 187), (44, .ifCond .ne 5), (47, .iconst 0), (48, .ireturn), (49, .aload_n 0), (50, .getfield 21), (53, .getfield 173), (56, .iload_n 1), (57, .invokestatic 135), (60, .aload_n 0), (61, .iload_n 2), (62, .invokevirtual 190), (65, .iconst (-1)), (66, .ixor), (67, .iand), (68, .ifCond .ne 7), (71, .iconst 1), (72, .goto 4), (75, .iconst 0), (76, .istore_n 3), (77, .iload_n 3), (78, .ifCond .eq 59), (81, .aload_n 0), (82, .iload_n 2), (83, .aload_n 0), (84, .getfield 21), (87, .getfield 173), (90, .iconst 3), (91, .iaload), (92, .invokevirtual 193), (95, .aload_n 0), (96, .iload_n 1), (97, .aload_n 0), (98, .getfield 21), (101, .getfield 173), (104, .iconst 3), (105, .iaload), (106, .invokevirtual 193), (109, .if_icmp .le 28)]
theorem k36_0 : dck c36 l36_0 := by unfold dck; decide +kernel
def l36_1 : List (Nat × Instr) := [(112, .aload_n 0), (113, .getfield 21), (116, .getfield 173), (119, .bipush 16), (121, .iload_n 2), (122, .iadd), (123, .iaload), (124, .aload_n 0), (125, .iload_n 1), (126, .iload_n 2), (127, .invokevirtual 230), (130, .if_icmp .lt 7), (133, .iconst 1), (134, .goto 4), (137, .iconst 0), (138, .ireturn)]
theorem k36_1 : dck c36 l36_1 := by unfold dck; decide +kernel
/-! 37: DawnPerquisite.priceOf(II)I -/
abbrev c37 : ByteArray := prog_1_method_37_code
def l37_0 : List (Nat × Instr) := [(0, .aload_n 0), (1, .iload_n 1), (2, .aload_n 0), (3, .getfield 21), (6, .getfield 173), (9, .iconst 3), (10, .iaload), (11, .invokevirtual 193), (14, .aload_n 0), (15, .iload_n 2), (16, .aload_n 0), (17, .getfield 21), (20, .getfield 173), (23, .iconst 3), (24, .iaload), (25, .invokevirtual 193), (28, .iadd), (29, .iconst 2), (30, .idiv), (31, .ireturn)]
theorem k37_0 : dck c37 l37_0 := by unfold dck; decide +kernel
/-! 38: DawnPerquisite.day(I)I -/
abbrev c38 : ByteArray := prog_1_method_46_code
def l38_0 : List (Nat × Instr) := [(0, .iload_n 1), (1, .iconst 1), (2, .bipush 60), (4, .invokestatic 68), (7, .ifCond .eq 20), (10, .aload_n 0), (11, .getfield 21), (14, .getfield 173), (17, .iconst 0), (18, .iaload), (19, .iload_n 1), (20, .iadd), (21, .sipush 9999), (24, .if_icmp .le 5), (27, .iconst (-1)), (28, .ireturn), (29, .iconst 0), (30, .istore_n 2), (31, .iconst 0), (32, .istore_n 3), (33, .iload_n 3), (34, .iload_n 1), (35, .if_icmp .ge 28), (38, .aload_n 0), (39, .getfield 21), (42, .invokevirtual 212), (45, .aload_n 0), (46, .aload_n 0), (47, .getfield 21), (50, .getfield 173), (53, .invokevirtual 253), (56, .istore_n 2), (57, .iinc 3 1), (60, .goto (-27)), (63, .iload_n 2), (64, .ireturn)]
theorem k38_0 : dck c38 l38_0 := by unfold dck; decide +kernel
/-! 39: DawnPerquisite.passes([I)I -/
abbrev c39 : ByteArray := prog_1_method_45_code
def l39_0 : List (Nat × Instr) := [(0, .iconst 0), (1, .istore_n 2), (2, .iload_n 2), (3, .aload_n 0), (4, .invokevirtual 64), (7, .if_icmp .ge 36), (10, .aload_n 1), (11, .bipush 16), (13, .iload_n 2), (14, .iadd), (15, .aload_n 1), (16, .bipush 16), (18, .iload_n 2), (19, .iadd), (20, .iaload), (21, .aload_n 0), (22, .aload_n 1), (23, .iload_n 2), (24, .invokevirtual 244), (27, .iadd), (28, .i2l), (29, .iconst 0), (30, .sipush 999), (33, .invokestatic 166), (36, .iastore), (37, .iinc 2 1), (40, .goto (-38)), (43, .aload_n 1), (44, .iconst 4), (45, .bipush 16), (47, .iconst (-1)), (48, .invokestatic 197), (51, .aload_n 1), (52, .iconst 3), (53, .aload_n 0), (54, .invokevirtual 236), (57, .ifCond .le 18), (60, .aload_n 0), (61, .aload_n 1), (62, .aload_n 0), (63, .invokevirtual 236), (66, .invokestatic 247), (69, .invokevirtual 250), (72, .goto 4), (75, .iconst 0), (76, .iastore), (77, .aload_n 1), (78, .iconst 0), (79, .dup2), (80, .iaload), (81, .iconst 1), (82, .iadd), (83, .iastore), (84, .aload_n 1), (85, .iconst 3), (86, .aload_n 1), (87, .iconst 3), (88, .iaload), (89, .iconst 0), (90, .invokestatic 206)]
theorem k39_0 : dck c39 l39_0 := by unfold dck; decide +kernel
def l39_1 : List (Nat × Instr) := [(93, .aload_n 1), (94, .iconst 3), (95, .iaload), (96, .ireturn)]
theorem k39_1 : dck c39 l39_1 := by unfold dck; decide +kernel
/-! 40: DawnPerquisite.earnsOf([II)I -/
abbrev c40 : ByteArray := prog_1_method_25_code
def l40_0 : List (Nat × Instr) := [(0, .aload_n 0), (1, .aload_n 1), (2, .iload_n 2), (3, .aload_n 1), (4, .iconst 3), (5, .iaload), (6, .invokevirtual 150), (9, .aload_n 0), (10, .invokevirtual 170), (13, .getfield 154), (16, .iconst 1), (17, .aaload), (18, .ifnonnull 7), (21, .lconst 1), (22, .goto 21), (25, .aload_n 0), (26, .invokevirtual 170), (29, .getfield 154), (32, .iconst 1), (33, .aaload), (34, .aload_n 0), (35, .getfield 39), (38, .invokeinterface 160 2), (43, .bipush (-9)), (45, .bipush 9), (47, .invokestatic 166), (50, .ireturn)]
theorem k40_0 : dck c40 l40_0 := by unfold dck; decide +kernel
/-! 41: DawnPerquisite.toldOdds()I -/
abbrev c41 : ByteArray := prog_1_method_41_code
def l41_0 : List (Nat × Instr) := [(0, .iconst 0), (1, .istore_n 1), (2, .iconst 0), (3, .istore_n 2), (4, .iload_n 2), (5, .iconst 5), (6, .if_icmp .ge 21), (9, .iload_n 1), (10, .aload_n 0), (11, .getfield 21), (14, .getfield 76), (17, .iload_n 2), (18, .iaload), (19, .iadd), (20, .istore_n 1), (21, .iinc 2 1), (24, .goto (-20)), (27, .iload_n 1), (28, .ireturn)]
theorem k41_0 : dck c41 l41_0 := by unfold dck; decide +kernel
/-! 42: DawnPerquisite.drawn([II)I -/
abbrev c42 : ByteArray := prog_1_method_40_code
def l42_0 : List (Nat × Instr) := [(0, .aload_n 0), (1, .iconst 1), (2, .iaload), (3, .iload_n 1), (4, .irem), (5, .istore_n 2), (6, .aload_n 0), (7, .iconst 1), (8, .aload_n 0), (9, .iconst 1), (10, .iaload), (11, .sipush 719), (14, .imul), (15, .sipush 587), (18, .iadd), (19, .sipush 31039), (22, .irem), (23, .iastore), (24, .iload_n 2), (25, .ireturn)]
theorem k42_0 : dck c42 l42_0 := by unfold dck; decide +kernel
/-! 43: DawnPerquisite.sortBy(I)I -/
abbrev c43 : ByteArray := prog_1_method_44_code
def l43_0 : List (Nat × Instr) := [(0, .iload_n 1), (1, .istore_n 2), (2, .iconst 0), (3, .istore_n 3), (4, .iload_n 2), (5, .aload_n 0), (6, .iload_n 3), (7, .invokevirtual 241), (10, .if_icmp .lt 17), (13, .iload_n 2), (14, .aload_n 0), (15, .iload_n 3), (16, .invokevirtual 241), (19, .isub), (20, .istore_n 2), (21, .iinc 3 1), (24, .goto (-20)), (27, .iload_n 3), (28, .ireturn)]
theorem k43_0 : dck c43 l43_0 := by unfold dck; decide +kernel
/-! 44: DawnPerquisite.oddsOf(I)I -/
abbrev c44 : ByteArray := prog_1_method_42_code
def l44_0 : List (Nat × Instr) := [(0, .aload_n 0), (1, .invokevirtual 236), (4, .ifCond .le 15), (7, .aload_n 0), (8, .getfield 21), (11, .getfield 76), (14, .iload_n 1), (15, .iaload), (16, .goto 12), (19, .iload_n 1), (20, .ifCond .ne 7), (23, .iconst 1), (24, .goto 4), (27, .iconst 0), (28, .ireturn)]
theorem k44_0 : dck c44 l44_0 := by unfold dck; decide +kernel
/-! 45: DawnPerquisite.played(I)I -/
abbrev c45 : ByteArray := prog_1_method_49_code
def l45_0 : List (Nat × Instr) := [(0, .aload_n 0), (1, .iload_n 1), (2, .invokevirtual 124), (5, .ifCond .ne 6), (8, .bipush (-2)), (10, .ireturn), (11, .aload_n 0), (12, .getfield 21), (15, .getfield 105), (18, .iload_n 1), (19, .aaload), (20, .getfield 289), (23, .astore_n 2), (24, .iconst 0), (25, .istore_n 3), (26, .iload_n 3), (27, .aload_n 2), (28, .invokevirtual 293), (31, .if_icmp .ge 36), (34, .aload_n 0), (35, .aload_n 2), (36, .iload_n 3), (37, .invokevirtual 298), (40, .checkcast 261), (43, .invokevirtual 302), (46, .ifCond .ne 15), (49, .aload_n 2), (50, .iload_n 3), (51, .invokevirtual 298), (54, .checkcast 261), (57, .invokevirtual 306), (60, .ireturn), (61, .iinc 3 1), (64, .goto (-38)), (67, .iconst (-1)), (68, .ireturn)]
theorem k45_0 : dck c45 l45_0 := by unfold dck; decide +kernel
/-! 46: DawnPerquisite.does(LDawnPerquisite$Doing;)Z -/
abbrev c46 : ByteArray := prog_1_method_48_code
def l46_0 : List (Nat × Instr) := [(0, .aload_n 1), (1, .invokevirtual 260), (40, .aload_n 0), (41, .bipush 31), (43, .aload_n 1), (44, .invokevirtual 265), (47, .aload_n 1), (48, .invokevirtual 268), (51, .bipush 50), (53, .invokevirtual 271), (56, .iconst (-1)), (57, .if_icmp .eq 7), (60, .iconst 1), (61, .goto 4), (64, .iconst 0), (65, .ireturn), (66, .aload_n 0), (67, .aload_n 1), (68, .invokevirtual 265), (71, .aload_n 1), (72, .invokevirtual 268), (75, .aload_n 0), (76, .getfield 21), (79, .getfield 79), (82, .aload_n 1), (83, .invokevirtual 265), (86, .iaload), (87, .invokevirtual 275), (90, .ireturn), (91, .aload_n 0), (92, .aload_n 1), (93, .invokevirtual 265), (96, .invokevirtual 277), (99, .iconst (-1)), (100, .if_icmp .eq 7), (103, .iconst 1), (104, .goto 4), (107, .iconst 0), (108, .ireturn), (109, .aload_n 0), (110, .aload_n 1), (111, .invokevirtual 265), (114, .invokevirtual 280), (117, .ireturn), (118, .aload_n 0), (119, .aload_n 1), (120, .invokevirtual 265), (123, .invokevirtual 283), (126, .ireturn), (127, .aload_n 0), (128, .aload_n 1), (129, .invokevirtual 265), (132, .invokevirtual 286), (135, .ireturn)]
theorem k46_0 : dck c46 l46_0 := by unfold dck; decide +kernel
theorem w46_4 : decode c46 4 = .ok (.tableswitch 123 202 206 #[36, 62, 87, 105, 114], 36) := by decide +kernel
/-! 47: DawnPerquisite.passesAll(I)Z -/
abbrev c47 : ByteArray := prog_1_method_47_code
def l47_0 : List (Nat × Instr) := [(0, .iconst 0), (1, .istore_n 2), (2, .iload_n 2), (3, .iload_n 1), (4, .if_icmp .ge 20), (7, .aload_n 0), (8, .iconst 1), (9, .invokevirtual 257), (12, .iconst (-1)), (13, .if_icmp .ne 5), (16, .iconst 0), (17, .ireturn), (18, .iinc 2 1), (21, .goto (-19)), (24, .iconst 1), (25, .ireturn)]
theorem k47_0 : dck c47 l47_0 := by unfold dck; decide +kernel
/-! 48: DawnPerquisite.years(II)I -/
abbrev c48 : ByteArray := prog_1_method_51_code
def l48_0 : List (Nat × Instr) := [(0, .iload_n 1), (1, .iconst 0), (2, .sipush 9999), (5, .invokestatic 68), (8, .ifCond .eq 13), (11, .iload_n 2), (12, .iconst 1), (13, .bipush 40), (15, .invokestatic 68), (18, .ifCond .ne 5), (21, .iconst (-1)), (22, .ireturn), (23, .aload_n 0), (24, .getfield 21), (27, .invokevirtual 212), (30, .aload_n 0), (31, .getfield 21), (34, .getfield 173), (37, .iconst 1), (38, .iload_n 1), (39, .iconst 2), (40, .imul), (41, .sipush 457), (44, .iadd), (45, .iastore), (46, .iconst 0), (47, .istore_n 3), (48, .iconst 0), (49, .istore 4), (51, .iload 4), (53, .iload_n 2), (54, .if_icmp .ge 81), (57, .aload_n 0), (58, .getfield 21), (61, .getfield 173), (64, .iconst 1), (65, .iaload), (66, .istore 5), (68, .aload_n 0), (69, .getfield 21), (72, .getfield 173), (75, .bipush 10), (77, .invokestatic 247), (80, .istore 6), (82, .iload 5), (84, .bipush 6), (86, .irem), (87, .iconst 4), (88, .if_icmp .ge 12), (91, .aload_n 0), (92, .iload 5), (94, .invokevirtual 309), (97, .goto 32), (100, .aload_n 0), (101, .getfield 21), (104, .getfield 173), (107, .iconst 0), (108, .iaload), (109, .sipush 9999), (112, .if_icmp .ge 17)]
theorem k48_0 : dck c48 l48_0 := by unfold dck; decide +kernel
def l48_1 : List (Nat × Instr) := [(115, .iload_n 3), (116, .aload_n 0), (117, .aload_n 0), (118, .getfield 21), (121, .getfield 173), (124, .invokevirtual 253), (127, .iadd), (128, .istore_n 3), (129, .iinc 4 1), (132, .goto (-81)), (135, .aload_n 0), (136, .getfield 21), (139, .getfield 173), (142, .iconst 0), (143, .iaload), (144, .ireturn)]
theorem k48_1 : dck c48 l48_1 := by unfold dck; decide +kernel
/-! 49: DawnPerquisite.befalls(I)V -/
abbrev c49 : ByteArray := prog_1_method_50_code
def l49_0 : List (Nat × Instr) := [(0, .iload_n 1), (1, .bipush 6), (3, .idiv), (4, .bipush 6), (6, .irem), (7, .istore_n 2), (8, .iconst 0), (9, .istore_n 3), (10, .iload_n 1), (11, .bipush 6), (13, .irem), (40, .iload_n 1), (41, .bipush 6), (43, .idiv), (44, .iconst 3), (45, .irem), (46, .iconst 1), (47, .if_icmp .ne 64), (50, .aload_n 0), (51, .iload_n 1), (52, .bipush 12), (54, .irem), (55, .invokevirtual 218), (58, .ifCond .eq 53), (61, .aload_n 0), (62, .iload_n 1), (63, .bipush 12), (65, .irem), (66, .invokevirtual 221), (69, .goto 42), (72, .iload_n 1), (73, .iconst 4), (74, .irem), (75, .iconst 3), (76, .if_icmp .ne 35), (79, .aload_n 0), (80, .iload_n 2), (81, .invokevirtual 224), (84, .ifCond .eq 27), (87, .aload_n 0), (88, .iload_n 2), (89, .invokevirtual 227), (92, .goto 19), (95, .aload_n 0), (96, .iload_n 2), (97, .invokevirtual 209), (100, .ifCond .eq 11), (103, .iload_n 3), (104, .aload_n 0), (105, .iload_n 2), (106, .invokevirtual 215), (109, .iadd), (110, .istore_n 3), (111, .return_)]
theorem k49_0 : dck c49 l49_0 := by unfold dck; decide +kernel
theorem w49_14 : decode c49 14 = .ok (.lookupswitch 81 #[(2, 26), (3, 58)], 26) := by decide +kernel
/-! 50: DawnPerquisite.undo()I -/
abbrev c50 : ByteArray := prog_1_method_52_code
def l50_0 : List (Nat × Instr) := [(0, .aload_n 0), (1, .getfield 21), (4, .getfield 61), (7, .iconst 3), (8, .iaload), (9, .ifCond .ne 5), (12, .iconst (-1)), (13, .ireturn), (14, .aload_n 0), (15, .getfield 21), (18, .getfield 61), (21, .iconst 3), (22, .dup2), (23, .iaload), (24, .iconst 1), (25, .isub), (26, .iastore), (27, .aload_n 0), (28, .getfield 21), (31, .getfield 312), (34, .aload_n 0), (35, .getfield 21), (38, .getfield 61), (41, .iconst 3), (42, .iaload), (43, .aaload), (44, .aload_n 0), (45, .getfield 21), (48, .getfield 173), (51, .invokestatic 315), (54, .aload_n 0), (55, .getfield 21), (58, .getfield 61), (61, .iconst 3), (62, .iaload), (63, .ireturn)]
theorem k50_0 : dck c50 l50_0 := by unfold dck; decide +kernel
/-! 51: DawnPerquisite.of(II)I -/
abbrev c51 : ByteArray := prog_1_method_53_code
def l51_0 : List (Nat × Instr) := [(0, .aload_n 0), (1, .iload_n 1), (2, .invokevirtual 184), (5, .ifCond .ne 6), (8, .bipush (-10)), (10, .ireturn), (11, .iload_n 2), (56, .aload_n 0), (57, .getfield 21), (60, .getfield 85), (63, .iload_n 1), (64, .iaload), (65, .ireturn), (66, .aload_n 0), (67, .getfield 21), (70, .getfield 88), (73, .iload_n 1), (74, .iaload), (75, .ireturn), (76, .aload_n 0), (77, .getfield 21), (80, .getfield 91), (83, .iload_n 1), (84, .iaload), (85, .ireturn), (86, .aload_n 0), (87, .getfield 21), (90, .getfield 173), (93, .bipush 16), (95, .iload_n 1), (96, .iadd), (97, .iaload), (98, .ireturn), (99, .aload_n 0), (100, .iload_n 1), (101, .aload_n 0), (102, .getfield 21), (105, .getfield 173), (108, .iconst 3), (109, .iaload), (110, .invokevirtual 193), (113, .ireturn), (114, .aload_n 0), (115, .aload_n 0), (116, .getfield 21), (119, .getfield 173), (122, .iload_n 1), (123, .invokevirtual 244), (126, .ireturn), (127, .aload_n 0), (128, .getfield 21), (131, .getfield 173), (134, .iload_n 1), (135, .invokestatic 135), (138, .invokestatic 139), (141, .ireturn), (142, .bipush (-10)), (144, .ireturn)]
theorem k51_0 : dck c51 l51_0 := by unfold dck; decide +kernel
theorem w51_12 : decode c51 12 = .ok (.tableswitch 130 0 6 #[44, 54, 64, 74, 87, 102, 115], 44) := by decide +kernel
/-! 52: DawnPerquisite.ofSort(II)I -/
abbrev c52 : ByteArray := prog_1_method_54_code
def l52_0 : List (Nat × Instr) := [(0, .iload_n 1), (1, .invokestatic 72), (4, .ifCond .ne 7), (7, .iconst (-1)), (8, .goto 37), (11, .iload_n 2), (12, .ifCond .ne 15), (15, .aload_n 0), (16, .getfield 21), (19, .getfield 76), (22, .iload_n 1), (23, .iaload), (24, .goto 21), (27, .iload_n 2), (28, .iconst 1), (29, .if_icmp .ne 15), (32, .aload_n 0), (33, .getfield 21), (36, .getfield 79), (39, .iload_n 1), (40, .iaload), (41, .goto 4), (44, .iconst (-1)), (45, .ireturn)]
theorem k52_0 : dck c52 l52_0 := by unfold dck; decide +kernel
/-! 53: DawnPerquisite.at(I)I -/
abbrev c53 : ByteArray := prog_1_method_55_code
def l53_0 : List (Nat × Instr) := [(0, .iload_n 1), (1, .invokestatic 82), (4, .ifCond .eq 17), (7, .aload_n 0), (8, .getfield 21), (11, .getfield 173), (14, .iconst 4), (15, .iload_n 1), (16, .iadd), (17, .iaload), (18, .goto 5), (21, .bipush (-2)), (23, .ireturn)]
theorem k53_0 : dck c53 l53_0 := by unfold dck; decide +kernel
/-! 54: DawnPerquisite.is(I)I -/
abbrev c54 : ByteArray := prog_1_method_56_code
def l54_0 : List (Nat × Instr) := [(0, .iload_n 1), (1, .iconst 0), (2, .iconst 3), (3, .invokestatic 68), (6, .ifCond .eq 15), (9, .aload_n 0), (10, .getfield 21), (13, .getfield 173), (16, .iload_n 1), (17, .iaload), (18, .goto 24), (21, .iload_n 1), (22, .iconst 4), (23, .if_icmp .ne 17), (26, .aload_n 0), (27, .getfield 21), (30, .getfield 173), (33, .iconst (-1)), (34, .invokestatic 135), (37, .goto 5), (40, .bipush (-2)), (42, .ireturn)]
theorem k54_0 : dck c54 l54_0 := by unfold dck; decide +kernel
/-! 55: DawnPerquisite.book(II)I -/
abbrev c55 : ByteArray := prog_1_method_57_code
def l55_0 : List (Nat × Instr) := [(0, .iload_n 1), (1, .iconst (-1)), (2, .if_icmp .ne 14), (5, .aload_n 0), (6, .getfield 21), (9, .getfield 173), (12, .bipush 22), (14, .iaload), (15, .ireturn), (16, .iload_n 1), (17, .iconst 0), (18, .aload_n 0), (19, .getfield 21), (22, .getfield 173), (25, .bipush 22), (27, .iaload), (28, .iconst 1), (29, .isub), (30, .invokestatic 68), (33, .ifCond .eq 31), (36, .iload_n 2), (37, .iconst 0), (38, .iconst 3), (39, .invokestatic 68), (42, .ifCond .eq 22), (45, .aload_n 0), (46, .getfield 21), (49, .getfield 173), (52, .bipush 23), (54, .iconst 4), (55, .iload_n 1), (56, .imul), (57, .iadd), (58, .iload_n 2), (59, .iadd), (60, .iaload), (61, .goto 5), (64, .bipush (-2)), (66, .ireturn)]
theorem k55_0 : dck c55 l55_0 := by unfold dck; decide +kernel
/-! 56: DawnPerquisite.foretold(II)I -/
abbrev c56 : ByteArray := prog_1_method_59_code
def l56_0 : List (Nat × Instr) := [(0, .iload_n 1), (1, .iconst 1), (2, .bipush 60), (4, .invokestatic 68), (7, .ifCond .eq 12), (10, .iload_n 2), (11, .iconst 0), (12, .iconst 1), (13, .invokestatic 68), (16, .ifCond .ne 5), (19, .iconst (-1)), (20, .ireturn), (21, .aload_n 0), (22, .getfield 21), (25, .getfield 173), (28, .aload_n 0), (29, .getfield 43), (32, .invokestatic 315), (35, .iconst 0), (36, .istore_n 3), (37, .iconst 0), (38, .istore 4), (40, .iload 4), (42, .iload_n 1), (43, .if_icmp .ge 32), (46, .aload_n 0), (47, .getfield 43), (50, .iconst 0), (51, .iaload), (52, .sipush 9999), (55, .if_icmp .ge 20), (58, .iload_n 3), (59, .aload_n 0), (60, .aload_n 0), (61, .getfield 43), (64, .invokevirtual 253), (67, .iadd), (68, .istore_n 3), (69, .iinc 4 1), (72, .goto (-32)), (75, .iload_n 2), (76, .ifCond .ne 12), (79, .aload_n 0), (80, .getfield 43), (83, .iconst 3), (84, .iaload), (85, .goto 11), (88, .aload_n 0), (89, .aload_n 0), (90, .getfield 43), (93, .invokevirtual 319), (96, .ireturn)]
theorem k56_0 : dck c56 l56_0 := by unfold dck; decide +kernel
/-! 57: DawnPerquisite.pursesOf([I)I -/
abbrev c57 : ByteArray := prog_1_method_58_code
def l57_0 : List (Nat × Instr) := [(0, .iconst 0), (1, .istore_n 2), (2, .iconst 0), (3, .istore_n 3), (4, .iload_n 3), (5, .aload_n 0), (6, .invokevirtual 64), (9, .if_icmp .ge 18), (12, .iload_n 2), (13, .aload_n 1), (14, .bipush 16), (16, .iload_n 3), (17, .iadd), (18, .iaload), (19, .iadd), (20, .istore_n 2), (21, .iinc 3 1), (24, .goto (-20)), (27, .iload_n 2), (28, .ireturn)]
theorem k57_0 : dck c57 l57_0 := by unfold dck; decide +kernel
/-! 58: DawnPerquisite.pack(IZ)I -/
abbrev c58 : ByteArray := prog_1_method_63_code
def l58_0 : List (Nat × Instr) := [(0, .iload_n 1), (1, .invokestatic 72), (4, .ifCond .ne 7), (7, .iconst (-1)), (8, .goto 27), (11, .iload_n 2), (12, .ifCond .eq 12), (15, .aload_n 0), (16, .iconst 0), (17, .iload_n 1), (18, .invokevirtual 328), (21, .goto 14), (24, .aload_n 0), (25, .aload_n 0), (26, .iconst 0), (27, .iload_n 1), (28, .invokevirtual 328), (31, .iload_n 1), (32, .invokevirtual 325), (35, .ireturn)]
theorem k58_0 : dck c58 l58_0 := by unfold dck; decide +kernel
/-! 59: DawnPerquisite.packOf(II)I -/
abbrev c59 : ByteArray := prog_1_method_62_code
def l59_0 : List (Nat × Instr) := [(0, .iconst (-1)), (1, .istore_n 3), (2, .iconst (-1)), (3, .istore 4), (5, .iconst 0), (6, .istore 5), (8, .iload 5), (10, .aload_n 0), (11, .invokevirtual 322), (14, .if_icmp .gt 53), (17, .iload 5), (19, .iload_n 1), (20, .iand), (21, .iload_n 1), (22, .if_icmp .ne 13), (25, .aload_n 0), (26, .iload 5), (28, .iload_n 2), (29, .invokevirtual 325), (32, .goto 4), (35, .iconst (-1)), (36, .istore 6), (38, .iload 6), (40, .iload 4), (42, .if_icmp .le 8), (45, .iload 5), (47, .goto 4), (50, .iload_n 3), (51, .istore_n 3), (52, .iload 4), (54, .iload 6), (56, .invokestatic 239), (59, .istore 4), (61, .iinc 5 1), (64, .goto (-56)), (67, .iload_n 3), (68, .ireturn)]
theorem k59_0 : dck c59 l59_0 := by unfold dck; decide +kernel
/-! 60: DawnPerquisite.everybody()I -/
abbrev c60 : ByteArray := prog_1_method_61_code
def l60_0 : List (Nat × Instr) := [(0, .iconst 1), (1, .aload_n 0), (2, .invokevirtual 64), (5, .ishl), (6, .iconst 1), (7, .isub), (8, .ireturn)]
theorem k60_0 : dck c60 l60_0 := by unfold dck; decide +kernel
/-! 61: DawnPerquisite.bringsOf(II)I -/
abbrev c61 : ByteArray := prog_1_method_60_code
def l61_0 : List (Nat × Instr) := [(0, .iconst 0), (1, .istore_n 3), (2, .iconst 0), (3, .istore 4), (5, .iconst 0), (6, .istore 5), (8, .iload 5), (10, .aload_n 0), (11, .invokevirtual 64), (14, .if_icmp .ge 65), (17, .iload_n 1), (18, .iload 5), (20, .invokestatic 180), (23, .ifCond .ne 6), (26, .goto 47), (29, .aload_n 0), (30, .iload 5), (32, .iload_n 2), (33, .invokevirtual 187), (36, .ifCond .eq 14), (39, .iload_n 3), (40, .aload_n 0), (41, .iload 5), (43, .invokevirtual 190), (46, .iand), (47, .ifCond .eq 5), (50, .iconst (-1)), (51, .ireturn), (52, .iload_n 3), (53, .aload_n 0), (54, .iload 5), (56, .invokevirtual 190), (59, .ior), (60, .istore_n 3), (61, .iload 4), (63, .aload_n 0), (64, .iload 5), (66, .iload_n 2), (67, .invokevirtual 193), (70, .iadd), (71, .istore 4), (73, .iinc 5 1), (76, .goto (-68)), (79, .iload 4), (81, .ireturn)]
theorem k61_0 : dck c61 l61_0 := by unfold dck; decide +kernel
/-! 62: DawnPerquisite.see(II)I -/
abbrev c62 : ByteArray := prog_1_method_64_code
def l62_0 : List (Nat × Instr) := [(0, .iload_n 1), (1, .iconst 0), (2, .aload_n 0), (3, .invokevirtual 322), (6, .invokestatic 68), (9, .ifCond .eq 20), (12, .iload_n 2), (13, .invokestatic 72), (16, .ifCond .eq 13), (19, .aload_n 0), (20, .iload_n 1), (21, .iload_n 2), (22, .invokevirtual 328), (25, .iconst (-1)), (26, .if_icmp .ne 5), (29, .iconst (-1)), (30, .ireturn), (31, .aload_n 0), (32, .aload_n 0), (33, .iload_n 1), (34, .iload_n 2), (35, .invokevirtual 328), (38, .iload_n 2), (39, .invokevirtual 325), (42, .ireturn)]
theorem k62_0 : dck c62 l62_0 := by unfold dck; decide +kernel
/-! 63: DawnPerquisite.hope(IZ)J -/
abbrev c63 : ByteArray := prog_1_method_69_code
def l63_0 : List (Nat × Instr) := [(0, .iload_n 1), (1, .iconst 0), (2, .bipush 6), (4, .invokestatic 68), (7, .ifCond .eq 24), (10, .aload_n 0), (11, .iload_n 1), (12, .invokevirtual 338), (15, .aload_n 0), (16, .invokevirtual 342), (19, .i2l), (20, .iload_n 1), (21, .invokestatic 334), (24, .iload_n 2), (25, .invokestatic 345), (28, .goto 6), (31, .ldc2_w 349), (34, .lreturn)]
theorem k63_0 : dck c63 l63_0 := by unfold dck; decide +kernel
/-! 64: DawnPerquisite.hopeOf(I)J -/
abbrev c64 : ByteArray := prog_1_method_68_code
def l64_0 : List (Nat × Instr) := [(0, .iload_n 1), (1, .ifCond .ne 5), (4, .lconst 0), (5, .lreturn), (6, .aload_n 0), (7, .iload_n 1), (8, .iconst 1), (9, .isub), (10, .invokevirtual 338), (13, .lstore_n 2), (14, .aload_n 0), (15, .invokevirtual 342), (18, .i2l), (19, .iload_n 1), (20, .iconst 1), (21, .isub), (22, .invokestatic 334), (25, .lstore 4), (27, .lconst 0), (28, .lstore 6), (30, .iconst 0), (31, .istore 8), (33, .iload 8), (35, .iconst 5), (36, .if_icmp .ge 40), (39, .lload 6), (41, .aload_n 0), (42, .iload 8), (44, .invokevirtual 241), (47, .i2l), (48, .aload_n 0), (49, .getfield 21), (52, .getfield 79), (55, .iload 8), (57, .iaload), (58, .i2l), (59, .lload 4), (61, .lmul), (62, .lload_n 2), (63, .invokestatic 9), (66, .lmul), (67, .ladd), (68, .lstore 6), (70, .iinc 8 1), (73, .goto (-40)), (76, .lload 6), (78, .lreturn)]
theorem k64_0 : dck c64 l64_0 := by unfold dck; decide +kernel
/-! 65: DawnPerquisite.allOdds()I -/
abbrev c65 : ByteArray := prog_1_method_43_code
def l65_0 : List (Nat × Instr) := [(0, .iconst 1), (1, .aload_n 0), (2, .invokevirtual 236), (5, .invokestatic 239), (8, .ireturn)]
theorem k65_0 : dck c65 l65_0 := by unfold dck; decide +kernel
/-! 66: DawnPerquisite.power(JI)J -/
abbrev c66 : ByteArray := prog_1_method_67_code
def l66_0 : List (Nat × Instr) := [(0, .iload_n 2), (1, .ifCond .ne 7), (4, .lconst 1), (5, .goto 12), (8, .lload_n 0), (9, .lload_n 0), (10, .iload_n 2), (11, .iconst 1), (12, .isub), (13, .invokestatic 334), (16, .lmul), (17, .lreturn)]
theorem k66_0 : dck c66 l66_0 := by unfold dck; decide +kernel
/-! 67: DawnPerquisite.part(JJZ)J -/
abbrev c67 : ByteArray := prog_1_method_66_code
def l67_0 : List (Nat × Instr) := [(0, .iload 4), (2, .ifCond .eq 7), (5, .lload_n 2), (6, .goto 4), (9, .lload_n 0), (10, .lload_n 2), (11, .lload_n 0), (12, .invokestatic 331), (15, .ldiv), (16, .lreturn)]
theorem k67_0 : dck c67 l67_0 := by unfold dck; decide +kernel
/-! 68: DawnPerquisite.common(JJ)J -/
abbrev c68 : ByteArray := prog_1_method_65_code
def l68_0 : List (Nat × Instr) := [(0, .lload_n 2), (1, .lconst 0), (2, .lcmp), (3, .ifCond .ne 7), (6, .lload_n 0), (7, .goto 10), (10, .lload_n 2), (11, .lload_n 0), (12, .lload_n 2), (13, .lrem), (14, .invokestatic 331), (17, .lreturn)]
theorem k68_0 : dck c68 l68_0 := by unfold dck; decide +kernel
/-! 69: DawnPerquisite.keep(I)Z -/
abbrev c69 : ByteArray := prog_1_method_70_code
def l69_0 : List (Nat × Instr) := [(0, .iload_n 1), (1, .iconst 0), (2, .bipush 6), (4, .invokestatic 68), (7, .ifCond .eq 44), (10, .aload_n 0), (11, .iload_n 1), (12, .invokevirtual 338), (15, .aload_n 0), (16, .getfield 21), (19, .getfield 79), (22, .aload_n 0), (23, .getfield 21), (26, .getfield 173), (29, .iconst 3), (30, .iaload), (31, .iaload), (32, .i2l), (33, .aload_n 0), (34, .invokevirtual 342), (37, .i2l), (38, .iload_n 1), (39, .invokestatic 334), (42, .lmul), (43, .lcmp), (44, .ifCond .le 7), (47, .iconst 1), (48, .goto 4), (51, .iconst 0), (52, .ireturn)]
theorem k69_0 : dck c69 l69_0 := by unfold dck; decide +kernel
/-! 70: DawnPerquisite.chance(IZ)J -/
abbrev c70 : ByteArray := prog_1_method_71_code
def l70_0 : List (Nat × Instr) := [(0, .iload_n 1), (1, .invokestatic 72), (4, .ifCond .eq 21), (7, .aload_n 0), (8, .iload_n 1), (9, .invokevirtual 241), (12, .i2l), (13, .aload_n 0), (14, .invokevirtual 342), (17, .i2l), (18, .iload_n 2), (19, .invokestatic 345), (22, .goto 6), (25, .ldc2_w 349), (28, .lreturn)]
theorem k70_0 : dck c70 l70_0 := by unfold dck; decide +kernel
/-! 71: DawnPerquisite.first(I)I -/
abbrev c71 : ByteArray := prog_1_method_72_code
def l71_0 : List (Nat × Instr) := [(0, .iconst 1), (1, .istore_n 2), (2, .iload_n 1), (3, .invokestatic 72), (6, .ifCond .eq 49), (9, .iload_n 2), (10, .bipush 10), (12, .if_icmp .gt 43), (15, .ldc2_w 351), (18, .aload_n 0), (19, .invokevirtual 342), (22, .aload_n 0), (23, .iload_n 1), (24, .invokevirtual 241), (27, .isub), (28, .i2l), (29, .iload_n 2), (30, .invokestatic 334), (33, .lmul), (34, .aload_n 0), (35, .invokevirtual 342), (38, .i2l), (39, .iload_n 2), (40, .invokestatic 334), (43, .lcmp), (44, .ifCond .gt 5), (47, .iload_n 2), (48, .ireturn), (49, .iinc 2 1), (52, .goto (-50)), (55, .iconst (-1)), (56, .ireturn)]
theorem k71_0 : dck c71 l71_0 := by unfold dck; decide +kernel
/-! 72: DawnPerquisite.paid(IZ)I -/
abbrev c72 : ByteArray := prog_1_method_73_code
def l72_0 : List (Nat × Instr) := [(0, .iload_n 1), (1, .iconst (-1)), (2, .if_icmp .ne 22), (5, .aload_n 0), (6, .getfield 21), (9, .getfield 61), (12, .iconst 5), (13, .iconst 0), (14, .iastore), (15, .aload_n 0), (16, .getfield 21), (19, .iconst 4), (20, .invokevirtual 353), (23, .ireturn), (24, .aload_n 0), (25, .iload_n 1), (26, .invokevirtual 184), (29, .ifCond .eq 29), (32, .aload_n 0), (33, .getfield 21), (36, .getfield 61), (39, .iconst 4), (40, .iaload), (41, .aload_n 0), (42, .getfield 21), (45, .getfield 61), (48, .iconst 5), (49, .iaload), (50, .ior), (51, .iload_n 1), (52, .invokestatic 180), (55, .ifCond .eq 6), (58, .bipush (-2)), (60, .ireturn), (61, .aload_n 0), (62, .getfield 21), (65, .getfield 61), (68, .iload_n 2), (69, .ifCond .eq 7), (72, .iconst 4), (73, .goto 4), (76, .iconst 5), (77, .dup2), (78, .iaload), (79, .iconst 1), (80, .iload_n 1), (81, .ishl), (82, .ior), (83, .iastore), (84, .aload_n 0), (85, .invokevirtual 356), (88, .ireturn)]
theorem k72_0 : dck c72 l72_0 := by unfold dck; decide +kernel
/-! 73: DawnPerquisite.told()I -/
abbrev c73 : ByteArray := prog_1_method_74_code
def l73_0 : List (Nat × Instr) := [(0, .aload_n 0), (1, .getfield 21), (4, .getfield 61), (7, .iconst 4), (8, .iaload), (9, .aload_n 0), (10, .getfield 21), (13, .getfield 61), (16, .iconst 5), (17, .iaload), (18, .ior), (19, .invokestatic 139), (22, .ireturn)]
theorem k73_0 : dck c73 l73_0 := by unfold dck; decide +kernel
/-! 74: DawnPerquisite.was()I -/
abbrev c74 : ByteArray := prog_1_method_76_code
def l74_0 : List (Nat × Instr) := [(0, .iconst 0), (1, .istore_n 1), (2, .iconst 0), (3, .istore_n 2), (4, .iload_n 2), (5, .iconst 5), (6, .if_icmp .ge 27), (9, .iload_n 1), (10, .aload_n 0), (11, .iload_n 2), (12, .invokevirtual 359), (15, .ifCond .eq 9), (18, .iconst 1), (19, .iload_n 2), (20, .ishl), (21, .goto 4), (24, .iconst 0), (25, .ior), (26, .istore_n 1), (27, .iinc 2 1), (30, .goto (-26)), (33, .iload_n 1), (34, .ireturn)]
theorem k74_0 : dck c74 l74_0 := by unfold dck; decide +kernel
/-! 75: DawnPerquisite.couldBe(I)Z -/
abbrev c75 : ByteArray := prog_1_method_75_code
def l75_0 : List (Nat × Instr) := [(0, .aload_n 0), (1, .iload_n 1), (2, .invokevirtual 241), (5, .ifCond .le 7), (8, .iconst 1), (9, .goto 4), (12, .iconst 0), (13, .istore_n 2), (14, .iconst 0), (15, .istore_n 3), (16, .iload_n 3), (17, .aload_n 0), (18, .invokevirtual 64), (21, .if_icmp .ge 66), (24, .iload_n 2), (25, .aload_n 0), (26, .iload_n 3), (27, .iload_n 1), (28, .invokevirtual 187), (31, .ifCond .eq 27), (34, .aload_n 0), (35, .getfield 21), (38, .getfield 61), (41, .iconst 5), (42, .iaload), (43, .iload_n 3), (44, .invokestatic 180), (47, .ifCond .ne 7), (50, .iconst 1), (51, .goto 28), (54, .iconst 0), (55, .goto 24), (58, .aload_n 0), (59, .getfield 21), (62, .getfield 61), (65, .iconst 4), (66, .iaload), (67, .iload_n 3), (68, .invokestatic 180), (71, .ifCond .ne 7), (74, .iconst 1), (75, .goto 4), (78, .iconst 0), (79, .iand), (80, .istore_n 2), (81, .iinc 3 1), (84, .goto (-68)), (87, .iload_n 2), (88, .ireturn)]
theorem k75_0 : dck c75 l75_0 := by unfold dck; decide +kernel
/-! 76: DawnPerquisite.likeliest()I -/
abbrev c76 : ByteArray := prog_1_method_77_code
def l76_0 : List (Nat × Instr) := [(0, .iconst (-1)), (1, .istore_n 1), (2, .iconst 0), (3, .istore_n 2), (4, .iload_n 2), (5, .iconst 5), (6, .if_icmp .ge 37), (9, .aload_n 0), (10, .iload_n 2), (11, .invokevirtual 359), (14, .ifCond .eq 23), (17, .iload_n 1), (18, .iconst (-1)), (19, .if_icmp .eq 16), (22, .aload_n 0), (23, .iload_n 2), (24, .invokevirtual 241), (27, .aload_n 0), (28, .iload_n 1), (29, .invokevirtual 241), (32, .if_icmp .le 5), (35, .iload_n 2), (36, .istore_n 1), (37, .iinc 2 1), (40, .goto (-36)), (43, .iload_n 1), (44, .ireturn)]
theorem k76_0 : dck c76 l76_0 := by unfold dck; decide +kernel
/-! 77: DawnPerquisite.surest(Z)J -/
abbrev c77 : ByteArray := prog_1_method_79_code
def l77_0 : List (Nat × Instr) := [(0, .aload_n 0), (1, .invokevirtual 362), (4, .iconst (-1)), (5, .if_icmp .ne 15), (8, .iload_n 1), (9, .ifCond .eq 7), (12, .lconst 1), (13, .goto 25), (16, .lconst 0), (17, .goto 21), (20, .aload_n 0), (21, .aload_n 0), (22, .invokevirtual 362), (25, .invokevirtual 241), (28, .i2l), (29, .aload_n 0), (30, .invokevirtual 365), (33, .i2l), (34, .iload_n 1), (35, .invokestatic 345), (38, .lreturn)]
theorem k77_0 : dck c77 l77_0 := by unfold dck; decide +kernel
/-! 78: DawnPerquisite.oddsThatFit()I -/
abbrev c78 : ByteArray := prog_1_method_78_code
def l78_0 : List (Nat × Instr) := [(0, .iconst 0), (1, .istore_n 1), (2, .iconst 0), (3, .istore_n 2), (4, .iload_n 2), (5, .iconst 5), (6, .if_icmp .ge 29), (9, .iload_n 1), (10, .aload_n 0), (11, .iload_n 2), (12, .invokevirtual 359), (15, .ifCond .eq 11), (18, .aload_n 0), (19, .iload_n 2), (20, .invokevirtual 241), (23, .goto 4), (26, .iconst 0), (27, .iadd), (28, .istore_n 1), (29, .iinc 2 1), (32, .goto (-28)), (35, .iload_n 1), (36, .ireturn)]
theorem k78_0 : dck c78 l78_0 := by unfold dck; decide +kernel
/-! 79: DawnPerquisite.ask()I -/
abbrev c79 : ByteArray := prog_1_method_81_code
def l79_0 : List (Nat × Instr) := [(0, .aload_n 0), (1, .invokevirtual 368), (4, .invokestatic 139), (7, .iconst 2), (8, .if_icmp .ge 5), (11, .iconst (-1)), (12, .ireturn), (13, .iconst (-1)), (14, .istore_n 1), (15, .iconst 0), (16, .istore_n 2), (17, .iload_n 2), (18, .aload_n 0), (19, .invokevirtual 64), (22, .if_icmp .ge 55), (25, .aload_n 0), (26, .getfield 21), (29, .getfield 61), (32, .iconst 4), (33, .iaload), (34, .aload_n 0), (35, .getfield 21), (38, .getfield 61), (41, .iconst 5), (42, .iaload), (43, .ior), (44, .iload_n 2), (45, .invokestatic 180), (48, .ifCond .ne 23), (51, .iload_n 1), (52, .iconst (-1)), (53, .if_icmp .eq 16), (56, .aload_n 0), (57, .iload_n 2), (58, .invokevirtual 371), (61, .aload_n 0), (62, .iload_n 1), (63, .invokevirtual 371), (66, .if_icmp .ge 5), (69, .iload_n 2), (70, .istore_n 1), (71, .iinc 2 1), (74, .goto (-57)), (77, .iload_n 1), (78, .ireturn)]
theorem k79_0 : dck c79 l79_0 := by unfold dck; decide +kernel
/-! 80: DawnPerquisite.greaterPart(I)I -/
abbrev c80 : ByteArray := prog_1_method_80_code
def l80_0 : List (Nat × Instr) := [(0, .iconst 0), (1, .istore_n 2), (2, .iconst 0), (3, .istore_n 3), (4, .iload_n 3), (5, .iconst 5), (6, .if_icmp .ge 38), (9, .iload_n 2), (10, .aload_n 0), (11, .iload_n 3), (12, .invokevirtual 359), (15, .ifCond .eq 20), (18, .aload_n 0), (19, .iload_n 1), (20, .iload_n 3), (21, .invokevirtual 187), (24, .ifCond .eq 11), (27, .aload_n 0), (28, .iload_n 3), (29, .invokevirtual 241), (32, .goto 4), (35, .iconst 0), (36, .iadd), (37, .istore_n 2), (38, .iinc 3 1), (41, .goto (-37)), (44, .iload_n 2), (45, .aload_n 0), (46, .invokevirtual 365), (49, .iload_n 2), (50, .isub), (51, .invokestatic 239), (54, .ireturn)]
theorem k80_0 : dck c80 l80_0 := by unfold dck; decide +kernel
/-! 81: DawnPerquisite.auction(II)I -/
abbrev c81 : ByteArray := prog_1_method_83_code
def l81_0 : List (Nat × Instr) := [(0, .iload_n 1), (1, .invokestatic 82), (4, .ifCond .ne 5), (7, .iconst (-1)), (8, .ireturn), (9, .iconst (-1)), (10, .istore_n 3), (11, .iconst (-1)), (12, .istore 4), (14, .iconst 0), (15, .istore 5), (17, .iconst 0), (18, .istore 6), (20, .iconst 0), (21, .istore 7), (23, .iload 7), (25, .aload_n 0), (26, .invokevirtual 64), (29, .if_icmp .ge 67), (32, .aload_n 0), (33, .iload 7), (35, .iload_n 1), (36, .invokevirtual 374), (39, .istore 8), (41, .iload 8), (43, .iconst (-1)), (44, .if_icmp .ne 6), (47, .goto 43), (50, .iinc 6 1), (53, .iload 5), (55, .iload 8), (57, .iload 4), (59, .invokestatic 204), (62, .invokestatic 239), (65, .istore 5), (67, .iload 8), (69, .iload 4), (71, .if_icmp .le 8), (74, .iload 7), (76, .goto 4), (79, .iload_n 3), (80, .istore_n 3), (81, .iload 4), (83, .iload 8), (85, .invokestatic 239), (88, .istore 4), (90, .iinc 7 1), (93, .goto (-70)), (96, .iload_n 2), (97, .ifCond .eq 8), (100, .iload 6), (102, .ifCond .ne 7), (105, .iload_n 3), (106, .goto 24), (109, .iload_n 2), (110, .iconst 1), (111, .if_icmp .ne 8), (114, .iload 5), (116, .goto 14), (119, .iload_n 2)]
theorem k81_0 : dck c81 l81_0 := by unfold dck; decide +kernel
def l81_1 : List (Nat × Instr) := [(120, .iconst 2), (121, .if_icmp .ne 8), (124, .iload 6), (126, .goto 4), (129, .iconst (-1)), (130, .ireturn)]
theorem k81_1 : dck c81 l81_1 := by unfold dck; decide +kernel
/-! 82: DawnPerquisite.bidsFor(II)I -/
abbrev c82 : ByteArray := prog_1_method_82_code
def l82_0 : List (Nat × Instr) := [(0, .aload_n 0), (1, .iload_n 1), (2, .aload_n 0), (3, .getfield 21), (6, .getfield 173), (9, .iconst 3), (10, .iaload), (11, .invokevirtual 187), (14, .ifCond .eq 38), (17, .aload_n 0), (18, .iload_n 1), (19, .invokevirtual 190), (22, .iload_n 2), (23, .invokestatic 180), (26, .ifCond .eq 26), (29, .aload_n 0), (30, .iload_n 1), (31, .aload_n 0), (32, .getfield 21), (35, .getfield 173), (38, .iconst 3), (39, .iaload), (40, .invokevirtual 193), (43, .aload_n 0), (44, .iload_n 1), (45, .invokevirtual 131), (48, .idiv), (49, .goto 4), (52, .iconst (-1)), (53, .ireturn)]
theorem k82_0 : dck c82 l82_0 := by unfold dck; decide +kernel
/-! 83: DawnPerquisite.stab(Z)I -/
abbrev c83 : ByteArray := prog_1_method_85_code
def l83_0 : List (Nat × Instr) := [(0, .iconst (-1)), (1, .istore_n 2), (2, .iconst 0), (3, .istore_n 3), (4, .iload_n 3), (5, .sipush 4096), (8, .if_icmp .ge 35), (11, .iload_n 2), (12, .iconst (-1)), (13, .if_icmp .eq 14), (16, .iload_n 3), (17, .invokestatic 139), (20, .iload_n 2), (21, .invokestatic 139), (24, .if_icmp .ge 13), (27, .aload_n 0), (28, .iload_n 3), (29, .invokevirtual 377), (32, .ifCond .eq 5), (35, .iload_n 3), (36, .istore_n 2), (37, .iinc 3 1), (40, .goto (-36)), (43, .iload_n 1), (44, .ifCond .eq 10), (47, .iload_n 2), (48, .invokestatic 139), (51, .goto 4), (54, .iload_n 2), (55, .ireturn)]
theorem k83_0 : dck c83 l83_0 := by unfold dck; decide +kernel
/-! 84: DawnPerquisite.servesAll(I)Z -/
abbrev c84 : ByteArray := prog_1_method_84_code
def l84_0 : List (Nat × Instr) := [(0, .iconst 0), (1, .istore_n 2), (2, .iload_n 2), (3, .aload_n 0), (4, .invokevirtual 64), (7, .if_icmp .ge 21), (10, .iload_n 1), (11, .aload_n 0), (12, .iload_n 2), (13, .invokevirtual 190), (16, .iand), (17, .ifCond .ne 5), (20, .iconst 0), (21, .ireturn), (22, .iinc 2 1), (25, .goto (-23)), (28, .iconst 1), (29, .ireturn)]
theorem k84_0 : dck c84 l84_0 := by unfold dck; decide +kernel
/-! 85: DawnPerquisite.crowd(Z)I -/
abbrev c85 : ByteArray := prog_1_method_87_code
def l85_0 : List (Nat × Instr) := [(0, .iconst 0), (1, .istore_n 2), (2, .iconst 1), (3, .istore_n 3), (4, .iload_n 3), (5, .bipush 12), (7, .if_icmp .ge 24), (10, .aload_n 0), (11, .iload_n 3), (12, .invokevirtual 380), (15, .aload_n 0), (16, .iload_n 2), (17, .invokevirtual 380), (20, .if_icmp .le 5), (23, .iload_n 3), (24, .istore_n 2), (25, .iinc 3 1), (28, .goto (-24)), (31, .iload_n 1), (32, .ifCond .eq 7), (35, .iload_n 2), (36, .goto 8), (39, .aload_n 0), (40, .iload_n 2), (41, .invokevirtual 380), (44, .ireturn)]
theorem k85_0 : dck c85 l85_0 := by unfold dck; decide +kernel
/-! 86: DawnPerquisite.wantedBy(I)I -/
abbrev c86 : ByteArray := prog_1_method_86_code
def l86_0 : List (Nat × Instr) := [(0, .iconst 0), (1, .istore_n 2), (2, .iconst 0), (3, .istore_n 3), (4, .iload_n 3), (5, .aload_n 0), (6, .invokevirtual 64), (9, .if_icmp .ge 29), (12, .iload_n 2), (13, .aload_n 0), (14, .iload_n 3), (15, .invokevirtual 190), (18, .iload_n 1), (19, .invokestatic 180), (22, .ifCond .eq 7), (25, .iconst 1), (26, .goto 4), (29, .iconst 0), (30, .iadd), (31, .istore_n 2), (32, .iinc 3 1), (35, .goto (-31)), (38, .iload_n 2), (39, .ireturn)]
theorem k86_0 : dck c86 l86_0 := by unfold dck; decide +kernel
/-! 87: DawnPerquisite.dawns(I)I -/
abbrev c87 : ByteArray := prog_1_method_89_code
def l87_0 : List (Nat × Instr) := [(0, .aload_n 0), (1, .iload_n 1), (2, .invokevirtual 184), (5, .ifCond .ne 5), (8, .iconst (-1)), (9, .ireturn), (10, .aload_n 0), (11, .getfield 46), (14, .iconst 0), (15, .invokestatic 383), (18, .aload_n 0), (19, .getfield 49), (22, .iconst (-1)), (23, .invokestatic 383), (26, .aload_n 0), (27, .invokevirtual 386), (30, .istore_n 2), (31, .iload_n 2), (32, .iconst (-1)), (33, .if_icmp .eq 55), (36, .iconst 0), (37, .istore_n 3), (38, .aload_n 0), (39, .getfield 46), (42, .iload_n 3), (43, .iaload), (44, .aload_n 0), (45, .iload_n 2), (46, .invokevirtual 190), (49, .iand), (50, .ifCond .eq 9), (53, .iinc 3 1), (56, .goto (-18)), (59, .aload_n 0), (60, .getfield 46), (63, .iload_n 3), (64, .dup2), (65, .iaload), (66, .aload_n 0), (67, .iload_n 2), (68, .invokevirtual 190), (71, .ior), (72, .iastore), (73, .aload_n 0), (74, .getfield 49), (77, .iload_n 2), (78, .iload_n 3), (79, .iastore), (80, .aload_n 0), (81, .invokevirtual 386), (84, .istore_n 2), (85, .goto (-54)), (88, .aload_n 0), (89, .getfield 49), (92, .iload_n 1), (93, .iaload), (94, .ireturn)]
theorem k87_0 : dck c87 l87_0 := by unfold dck; decide +kernel
/-! 88: DawnPerquisite.nextBuyer()I -/
abbrev c88 : ByteArray := prog_1_method_88_code
def l88_0 : List (Nat × Instr) := [(0, .iconst (-1)), (1, .istore_n 1), (2, .iconst 0), (3, .istore_n 2), (4, .iload_n 2), (5, .aload_n 0), (6, .invokevirtual 64), (9, .if_icmp .ge 47), (12, .aload_n 0), (13, .getfield 49), (16, .iload_n 2), (17, .iaload), (18, .iconst (-1)), (19, .if_icmp .ne 31), (22, .iload_n 1), (23, .iconst (-1)), (24, .if_icmp .eq 24), (27, .aload_n 0), (28, .getfield 21), (31, .getfield 88), (34, .iload_n 2), (35, .iaload), (36, .aload_n 0), (37, .getfield 21), (40, .getfield 88), (43, .iload_n 1), (44, .iaload), (45, .if_icmp .ge 5), (48, .iload_n 2), (49, .istore_n 1), (50, .iinc 2 1), (53, .goto (-49)), (56, .iload_n 1), (57, .ireturn)]
theorem k88_0 : dck c88 l88_0 := by unfold dck; decide +kernel
/-! 89: DawnPerquisite.month(IZ)J -/
abbrev c89 : ByteArray := prog_1_method_90_code
def l89_0 : List (Nat × Instr) := [(0, .iload_n 1), (1, .iconst 1), (2, .bipush 60), (4, .invokestatic 68), (7, .ifCond .ne 7), (10, .ldc2_w 349), (13, .lreturn), (14, .lconst 0), (15, .lstore_n 3), (16, .iconst 0), (17, .istore 5), (19, .iload 5), (21, .iconst 5), (22, .if_icmp .ge 27), (25, .lload_n 3), (26, .aload_n 0), (27, .iload 5), (29, .invokevirtual 241), (32, .aload_n 0), (33, .iload 5), (35, .iconst 0), (36, .invokevirtual 389), (39, .imul), (40, .i2l), (41, .ladd), (42, .lstore_n 3), (43, .iinc 5 1), (46, .goto (-27)), (49, .iload_n 1), (50, .i2l), (51, .lload_n 3), (52, .lmul), (53, .aload_n 0), (54, .invokevirtual 342), (57, .i2l), (58, .iload_n 2), (59, .invokestatic 345), (62, .lreturn)]
theorem k89_0 : dck c89 l89_0 := by unfold dck; decide +kernel
/-! 90: DawnPerquisite.value(II)Z -/
abbrev c90 : ByteArray := prog_1_method_91_code
def l90_0 : List (Nat × Instr) := [(0, .iload_n 1), (1, .invokestatic 82), (4, .ifCond .eq 13), (7, .iload_n 2), (8, .iconst 0), (9, .bipush 99), (11, .invokestatic 68), (14, .ifCond .ne 5), (17, .iconst 0), (18, .ireturn), (19, .aload_n 0), (20, .getfield 21), (23, .getfield 393), (26, .iload_n 1), (27, .iload_n 2), (28, .iastore), (29, .iconst 1), (30, .ireturn)]
theorem k90_0 : dck c90 l90_0 := by unfold dck; decide +kernel
/-! 91: DawnPerquisite.ends(II)I -/
abbrev c91 : ByteArray := prog_1_method_96_code
def l91_0 : List (Nat × Instr) := [(0, .iload_n 1), (1, .iload_n 2), (2, .invokestatic 402), (5, .ifCond .ne 7), (8, .sipush (-1000)), (11, .ireturn), (12, .aload_n 0), (13, .invokevirtual 405), (16, .aload_n 0), (17, .getfield 54), (20, .iload_n 1), (21, .aaload), (22, .iload_n 2), (23, .iaload), (24, .ireturn)]
theorem k91_0 : dck c91 l91_0 := by unfold dck; decide +kernel
/-! 92: DawnPerquisite.areSlices(II)Z -/
abbrev c92 : ByteArray := prog_1_method_92_code
def l92_0 : List (Nat × Instr) := [(0, .iload_n 1), (1, .invokestatic 82), (4, .ifCond .eq 16), (7, .iload_n 0), (8, .iconst 0), (9, .iload_n 1), (10, .invokestatic 68), (13, .ifCond .eq 7), (16, .iconst 1), (17, .goto 4), (20, .iconst 0), (21, .ireturn)]
theorem k92_0 : dck c92 l92_0 := by unfold dck; decide +kernel
/-! 93: DawnPerquisite.laysMore()V -/
abbrev c93 : ByteArray := prog_1_method_95_code
def l93_0 : List (Nat × Instr) := [(0, .iconst 0), (1, .istore_n 1), (2, .iload_n 1), (3, .bipush 12), (5, .if_icmp .ge 44), (8, .iload_n 1), (9, .istore_n 2), (10, .iload_n 2), (11, .ifCond .lt 32), (14, .aload_n 0), (15, .getfield 54), (18, .iload_n 2), (19, .aaload), (20, .iload_n 1), (21, .aload_n 0), (22, .iload_n 2), (23, .iload_n 1), (24, .invokevirtual 396), (27, .aload_n 0), (28, .iload_n 2), (29, .iload_n 1), (30, .invokevirtual 399), (33, .invokestatic 239), (36, .iastore), (37, .iinc 2 (-1)), (40, .goto (-30)), (43, .iinc 1 1), (46, .goto (-44)), (49, .return_)]
theorem k93_0 : dck c93 l93_0 := by unfold dck; decide +kernel
/-! 94: DawnPerquisite.leftFirst(II)I -/
abbrev c94 : ByteArray := prog_1_method_93_code
def l94_0 : List (Nat × Instr) := [(0, .aload_n 0), (1, .getfield 21), (4, .getfield 393), (7, .iload_n 1), (8, .iaload), (9, .iload_n 1), (10, .iload_n 2), (11, .if_icmp .ne 7), (14, .iconst 0), (15, .goto 13), (18, .aload_n 0), (19, .getfield 54), (22, .iload_n 1), (23, .iconst 1), (24, .iadd), (25, .aaload), (26, .iload_n 2), (27, .iaload), (28, .isub), (29, .ireturn)]
theorem k94_0 : dck c94 l94_0 := by unfold dck; decide +kernel
/-! 95: DawnPerquisite.rightFirst(II)I -/
abbrev c95 : ByteArray := prog_1_method_94_code
def l95_0 : List (Nat × Instr) := [(0, .aload_n 0), (1, .getfield 21), (4, .getfield 393), (7, .iload_n 2), (8, .iaload), (9, .iload_n 1), (10, .iload_n 2), (11, .if_icmp .ne 7), (14, .iconst 0), (15, .goto 13), (18, .aload_n 0), (19, .getfield 54), (22, .iload_n 1), (23, .aaload), (24, .iload_n 2), (25, .iconst 1), (26, .isub), (27, .iaload), (28, .isub), (29, .ireturn)]
theorem k95_0 : dck c95 l95_0 := by unfold dck; decide +kernel
/-! 96: DawnPerquisite.take(II)I -/
abbrev c96 : ByteArray := prog_1_method_97_code
def l96_0 : List (Nat × Instr) := [(0, .iload_n 1), (1, .iload_n 2), (2, .invokestatic 402), (5, .ifCond .ne 5), (8, .iconst (-1)), (9, .ireturn), (10, .aload_n 0), (11, .invokevirtual 405), (14, .aload_n 0), (15, .iload_n 1), (16, .iload_n 2), (17, .invokevirtual 396), (20, .aload_n 0), (21, .iload_n 1), (22, .iload_n 2), (23, .invokevirtual 399), (26, .if_icmp .lt 7), (29, .iconst 0), (30, .goto 4), (33, .iconst 1), (34, .ireturn)]
theorem k96_0 : dck c96 l96_0 := by unfold dck; decide +kernel
/-! 97: DawnPerquisite.best(III)I -/
abbrev c97 : ByteArray := prog_1_method_99_code
def l97_0 : List (Nat × Instr) := [(0, .iload_n 1), (1, .iload_n 2), (2, .invokestatic 402), (5, .ifCond .eq 12), (8, .iload_n 3), (9, .iconst 0), (10, .iconst 2), (11, .invokestatic 68), (14, .ifCond .ne 7), (17, .sipush (-1000)), (20, .ireturn), (21, .iload_n 1), (22, .istore 4), (24, .iload_n 1), (25, .istore 5), (27, .iload_n 1), (28, .istore 6), (30, .iload 6), (32, .iload_n 2), (33, .if_icmp .gt 55), (36, .iload 6), (38, .istore 7), (40, .iload 7), (42, .iload_n 2), (43, .if_icmp .gt 39), (46, .aload_n 0), (47, .iload 6), (49, .iload 7), (51, .invokevirtual 408), (54, .aload_n 0), (55, .iload 4), (57, .iload 5), (59, .invokevirtual 408), (62, .if_icmp .gt 6), (65, .goto 11), (68, .iload 6), (70, .istore 4), (72, .iload 7), (74, .istore 5), (76, .iinc 7 1), (79, .goto (-39)), (82, .iinc 6 1), (85, .goto (-55)), (88, .iload_n 3), (89, .ifCond .ne 14), (92, .aload_n 0), (93, .iload 4), (95, .iload 5), (97, .invokevirtual 408), (100, .goto 15), (103, .iload_n 3), (104, .iconst 1), (105, .if_icmp .ne 8), (108, .iload 4), (110, .goto 5), (113, .iload 5), (115, .ireturn)]
theorem k97_0 : dck c97 l97_0 := by unfold dck; decide +kernel
/-! 98: DawnPerquisite.runOf(II)I -/
abbrev c98 : ByteArray := prog_1_method_98_code
def l98_0 : List (Nat × Instr) := [(0, .iconst 0), (1, .istore_n 3), (2, .iload_n 1), (3, .istore 4), (5, .iload 4), (7, .iload_n 2), (8, .if_icmp .gt 25), (11, .iload_n 3), (12, .aload_n 0), (13, .getfield 21), (16, .getfield 393), (19, .iload 4), (21, .iaload), (22, .bipush 50), (24, .isub), (25, .iadd), (26, .istore_n 3), (27, .iinc 4 1), (30, .goto (-25)), (33, .iload_n 3), (34, .ireturn)]
theorem k98_0 : dck c98 l98_0 := by unfold dck; decide +kernel
/-! 99: DawnPerquisite.said(II)I -/
abbrev c99 : ByteArray := prog_1_method_100_code
def l99_0 : List (Nat × Instr) := [(0, .iload_n 1), (1, .iconst (-1)), (2, .if_icmp .ne 13), (5, .aload_n 0), (6, .getfield 21), (9, .bipush 6), (11, .invokevirtual 353), (14, .ireturn), (15, .aload_n 0), (16, .iload_n 1), (17, .invokevirtual 184), (20, .ifCond .eq 28), (23, .iload_n 2), (24, .iconst 0), (25, .bipush 99), (27, .invokestatic 68), (30, .ifCond .eq 18), (33, .aload_n 0), (34, .getfield 21), (37, .getfield 61), (40, .bipush 6), (42, .iaload), (43, .bipush 8), (45, .if_icmp .ne 6), (48, .bipush (-2)), (50, .ireturn), (51, .aload_n 0), (52, .getfield 21), (55, .getfield 411), (58, .aload_n 0), (59, .getfield 21), (62, .getfield 61), (65, .bipush 6), (67, .iaload), (68, .aaload), (69, .iconst 0), (70, .iload_n 1), (71, .iastore), (72, .aload_n 0), (73, .getfield 21), (76, .getfield 411), (79, .aload_n 0), (80, .getfield 21), (83, .getfield 61), (86, .bipush 6), (88, .iaload), (89, .aaload), (90, .iconst 1), (91, .iload_n 2), (92, .iastore), (93, .aload_n 0), (94, .getfield 21), (97, .getfield 61), (100, .bipush 6), (102, .dup2), (103, .iaload), (104, .iconst 1), (105, .iadd), (106, .iastore), (107, .aload_n 0)]
theorem k99_0 : dck c99 l99_0 := by unfold dck; decide +kernel
def l99_1 : List (Nat × Instr) := [(108, .getfield 21), (111, .getfield 61), (114, .bipush 6), (116, .iaload), (117, .ireturn)]
theorem k99_1 : dck c99 l99_1 := by unfold dck; decide +kernel
/-! 100: DawnPerquisite.whose()I -/
abbrev c100 : ByteArray := prog_1_method_102_code
def l100_0 : List (Nat × Instr) := [(0, .iconst 0), (1, .istore_n 1), (2, .iconst 0), (3, .istore_n 2), (4, .iload_n 2), (5, .aload_n 0), (6, .getfield 21), (9, .getfield 61), (12, .iconst 1), (13, .iaload), (14, .if_icmp .ge 35), (17, .iload_n 1), (18, .aload_n 0), (19, .aload_n 0), (20, .getfield 21), (23, .getfield 105), (26, .iload_n 2), (27, .aaload), (28, .invokevirtual 414), (31, .ifCond .eq 9), (34, .iconst 1), (35, .iload_n 2), (36, .ishl), (37, .goto 4), (40, .iconst 0), (41, .ior), (42, .istore_n 1), (43, .iinc 2 1), (46, .goto (-42)), (49, .iload_n 1), (50, .ireturn)]
theorem k100_0 : dck c100 l100_0 := by unfold dck; decide +kernel
/-! 101: DawnPerquisite.isLaw(LDawnPerquisite$Text;)Z -/
abbrev c101 : ByteArray := prog_1_method_101_code
def l101_0 : List (Nat × Instr) := [(0, .iconst 0), (1, .istore_n 2), (2, .iload_n 2), (3, .aload_n 0), (4, .getfield 21), (7, .getfield 61), (10, .bipush 6), (12, .iaload), (13, .if_icmp .ge 57), (16, .aload_n 0), (17, .aload_n 1), (18, .aload_n 0), (19, .getfield 21), (22, .getfield 173), (25, .aload_n 0), (26, .getfield 21), (29, .getfield 411), (32, .iload_n 2), (33, .aaload), (34, .iconst 0), (35, .iaload), (36, .aload_n 0), (37, .getfield 21), (40, .getfield 173), (43, .iconst 3), (44, .iaload), (45, .invokevirtual 176), (48, .aload_n 0), (49, .getfield 21), (52, .getfield 411), (55, .iload_n 2), (56, .aaload), (57, .iconst 1), (58, .iaload), (59, .if_icmp .eq 5), (62, .iconst 0), (63, .ireturn), (64, .iinc 2 1), (67, .goto (-65)), (70, .iconst 1), (71, .ireturn)]
theorem k101_0 : dck c101 l101_0 := by unfold dck; decide +kernel
/-! 102: DawnPerquisite.richest()I -/
abbrev c102 : ByteArray := prog_1_method_103_code
def l102_0 : List (Nat × Instr) := [(0, .iconst (-1)), (1, .istore_n 1), (2, .iconst 0), (3, .istore_n 2), (4, .iload_n 2), (5, .aload_n 0), (6, .invokevirtual 64), (9, .if_icmp .ge 47), (12, .aload_n 0), (13, .getfield 21), (16, .getfield 173), (19, .bipush 16), (21, .iload_n 2), (22, .iadd), (23, .iaload), (24, .iload_n 1), (25, .iconst (-1)), (26, .if_icmp .ne 7), (29, .iconst 0), (30, .goto 15), (33, .aload_n 0), (34, .getfield 21), (37, .getfield 173), (40, .bipush 16), (42, .iload_n 1), (43, .iadd), (44, .iaload), (45, .if_icmp .le 5), (48, .iload_n 2), (49, .istore_n 1), (50, .iinc 2 1), (53, .goto (-49)), (56, .iload_n 1), (57, .ireturn)]
theorem k102_0 : dck c102 l102_0 := by unfold dck; decide +kernel
/-! 103: DawnPerquisite.rival(I)I -/
abbrev c103 : ByteArray := prog_1_method_104_code
def l103_0 : List (Nat × Instr) := [(0, .aload_n 0), (1, .iload_n 1), (2, .invokevirtual 184), (5, .ifCond .ne 5), (8, .iconst (-1)), (9, .ireturn), (10, .iconst 0), (11, .istore_n 2), (12, .iconst 0), (13, .istore_n 3), (14, .iload_n 3), (15, .aload_n 0), (16, .invokevirtual 64), (19, .if_icmp .ge 60), (22, .iload_n 2), (23, .iload_n 3), (24, .iload_n 1), (25, .if_icmp .eq 45), (28, .aload_n 0), (29, .getfield 21), (32, .getfield 85), (35, .iload_n 3), (36, .iaload), (37, .aload_n 0), (38, .getfield 21), (41, .getfield 85), (44, .iload_n 1), (45, .iaload), (46, .iand), (47, .ifCond .eq 23), (50, .aload_n 0), (51, .iload_n 3), (52, .invokevirtual 190), (55, .aload_n 0), (56, .iload_n 1), (57, .invokevirtual 190), (60, .iand), (61, .ifCond .eq 9), (64, .iconst 1), (65, .iload_n 3), (66, .ishl), (67, .goto 4), (70, .iconst 0), (71, .ior), (72, .istore_n 2), (73, .iinc 3 1), (76, .goto (-62)), (79, .iload_n 2), (80, .ireturn)]
theorem k103_0 : dck c103 l103_0 := by unfold dck; decide +kernel
/-! 104: DawnPerquisite.learnt(IZ)J -/
abbrev c104 : ByteArray := prog_1_method_105_code
def l104_0 : List (Nat × Instr) := [(0, .iload_n 1), (1, .invokestatic 72), (4, .ifCond .ne 7), (7, .ldc2_w 349), (10, .lreturn), (11, .lconst 1), (12, .lstore_n 3), (13, .ldc2_w 418), (16, .lstore 5), (18, .iconst 0), (19, .istore 7), (21, .iload 7), (23, .aload_n 0), (24, .getfield 21), (27, .getfield 173), (30, .bipush 22), (32, .iaload), (33, .if_icmp .ge 68), (36, .aload_n 0), (37, .getfield 21), (40, .getfield 173), (43, .bipush 23), (45, .iconst 4), (46, .iload 7), (48, .imul), (49, .iadd), (50, .iconst 1), (51, .iadd), (52, .iaload), (53, .iconst 3), (54, .if_icmp .eq 6), (57, .goto 38), (60, .lload 5), (62, .lconst 1), (63, .ladd), (64, .lstore 5), (66, .lload_n 3), (67, .aload_n 0), (68, .getfield 21), (71, .getfield 173), (74, .bipush 23), (76, .iconst 4), (77, .iload 7), (79, .imul), (80, .iadd), (81, .iconst 2), (82, .iadd), (83, .iaload), (84, .iload_n 1), (85, .if_icmp .ne 7), (88, .lconst 1), (89, .goto 4), (92, .lconst 0), (93, .ladd), (94, .lstore_n 3), (95, .iinc 7 1), (98, .goto (-77)), (101, .lload_n 3), (102, .lload 5), (104, .iload_n 2)]
theorem k104_0 : dck c104 l104_0 := by unfold dck; decide +kernel
def l104_1 : List (Nat × Instr) := [(105, .invokestatic 345), (108, .lreturn)]
theorem k104_1 : dck c104 l104_1 := by unfold dck; decide +kernel
/-! 105: DawnPerquisite.wanted(I)I -/
abbrev c105 : ByteArray := prog_1_method_106_code
def l105_0 : List (Nat × Instr) := [(0, .iload_n 1), (1, .invokestatic 72), (4, .ifCond .ne 5), (7, .iconst (-1)), (8, .ireturn), (9, .iconst 0), (10, .istore_n 2), (11, .iconst 0), (12, .istore_n 3), (13, .iload_n 3), (14, .aload_n 0), (15, .invokevirtual 64), (18, .if_icmp .ge 26), (21, .iload_n 2), (22, .aload_n 0), (23, .iload_n 3), (24, .iload_n 1), (25, .invokevirtual 187), (28, .ifCond .eq 7), (31, .iconst 1), (32, .goto 4), (35, .iconst 0), (36, .iadd), (37, .istore_n 2), (38, .iinc 3 1), (41, .goto (-28)), (44, .iload_n 2), (45, .ireturn)]
theorem k105_0 : dck c105 l105_0 := by unfold dck; decide +kernel
/-! 106: DawnPerquisite.alone(I)I -/
abbrev c106 : ByteArray := prog_1_method_107_code
def l106_0 : List (Nat × Instr) := [(0, .aload_n 0), (1, .iload_n 1), (2, .invokevirtual 184), (5, .ifCond .ne 5), (8, .iconst (-1)), (9, .ireturn), (10, .aload_n 0), (11, .iload_n 1), (12, .invokevirtual 190), (15, .istore_n 2), (16, .iconst 0), (17, .istore_n 3), (18, .iload_n 3), (19, .aload_n 0), (20, .invokevirtual 64), (23, .if_icmp .ge 28), (26, .iload_n 2), (27, .iload_n 3), (28, .iload_n 1), (29, .if_icmp .ne 7), (32, .iload_n 2), (33, .goto 10), (36, .aload_n 0), (37, .iload_n 3), (38, .invokevirtual 190), (41, .iconst (-1)), (42, .ixor), (43, .iand), (44, .istore_n 2), (45, .iinc 3 1), (48, .goto (-30)), (51, .iload_n 2), (52, .ireturn)]
theorem k106_0 : dck c106 l106_0 := by unfold dck; decide +kernel
/-! 107: DawnPerquisite.since(I)I -/
abbrev c107 : ByteArray := prog_1_method_108_code
def l107_0 : List (Nat × Instr) := [(0, .aload_n 0), (1, .getfield 21), (4, .getfield 173), (7, .bipush 22), (9, .iaload), (10, .iconst 1), (11, .isub), (12, .istore_n 2), (13, .iload_n 2), (14, .ifCond .lt 73), (17, .iload_n 1), (18, .invokestatic 72), (21, .ifCond .eq 66), (24, .bipush 23), (26, .iconst 4), (27, .iload_n 2), (28, .imul), (29, .iadd), (30, .istore_n 3), (31, .aload_n 0), (32, .getfield 21), (35, .getfield 173), (38, .iload_n 3), (39, .iconst 1), (40, .iadd), (41, .iaload), (42, .iconst 3), (43, .if_icmp .ne 38), (46, .aload_n 0), (47, .getfield 21), (50, .getfield 173), (53, .iload_n 3), (54, .iconst 2), (55, .iadd), (56, .iaload), (57, .iload_n 1), (58, .if_icmp .ne 23), (61, .aload_n 0), (62, .getfield 21), (65, .getfield 173), (68, .iconst 0), (69, .iaload), (70, .aload_n 0), (71, .getfield 21), (74, .getfield 173), (77, .iload_n 3), (78, .iaload), (79, .isub), (80, .ireturn), (81, .iinc 2 (-1)), (84, .goto (-71)), (87, .iconst (-1)), (88, .ireturn)]
theorem k107_0 : dck c107 l107_0 := by unfold dck; decide +kernel
/-! 108: DawnPerquisite.idle()I -/
abbrev c108 : ByteArray := prog_1_method_109_code
def l108_0 : List (Nat × Instr) := [(0, .aload_n 0), (1, .getfield 21), (4, .getfield 173), (7, .iconst (-1)), (8, .invokestatic 135), (11, .istore_n 1), (12, .iconst 0), (13, .istore_n 2), (14, .iload_n 2), (15, .aload_n 0), (16, .invokevirtual 64), (19, .if_icmp .ge 40), (22, .iload_n 1), (23, .aload_n 0), (24, .iload_n 2), (25, .aload_n 0), (26, .getfield 21), (29, .getfield 173), (32, .iconst 3), (33, .iaload), (34, .invokevirtual 187), (37, .ifCond .eq 13), (40, .aload_n 0), (41, .iload_n 2), (42, .invokevirtual 190), (45, .iconst (-1)), (46, .ixor), (47, .goto 4), (50, .iload_n 1), (51, .iand), (52, .istore_n 1), (53, .iinc 2 1), (56, .goto (-42)), (59, .iload_n 1), (60, .ireturn)]
theorem k108_0 : dck c108 l108_0 := by unfold dck; decide +kernel
/-! 109: DawnPerquisite.poor()I -/
abbrev c109 : ByteArray := prog_1_method_110_code
def l109_0 : List (Nat × Instr) := [(0, .iconst 0), (1, .istore_n 1), (2, .iconst 0), (3, .istore_n 2), (4, .iload_n 2), (5, .aload_n 0), (6, .invokevirtual 64), (9, .if_icmp .ge 48), (12, .iload_n 1), (13, .aload_n 0), (14, .getfield 21), (17, .getfield 173), (20, .bipush 16), (22, .iload_n 2), (23, .iadd), (24, .iaload), (25, .aload_n 0), (26, .iload_n 2), (27, .aload_n 0), (28, .getfield 21), (31, .getfield 173), (34, .iconst 3), (35, .iaload), (36, .invokevirtual 193), (39, .if_icmp .ge 9), (42, .iconst 1), (43, .iload_n 2), (44, .ishl), (45, .goto 4), (48, .iconst 0), (49, .ior), (50, .istore_n 1), (51, .iinc 2 1), (54, .goto (-50)), (57, .iload_n 1), (58, .ireturn)]
theorem k109_0 : dck c109 l109_0 := by unfold dck; decide +kernel
/-! 110: DawnPerquisite.room(I)I -/
abbrev c110 : ByteArray := prog_1_method_111_code
def l110_0 : List (Nat × Instr) := [(0, .iload_n 1), (1, .iconst 1), (2, .bipush 12), (4, .invokestatic 68), (7, .ifCond .ne 5), (10, .iconst (-1)), (11, .ireturn), (12, .iconst 1), (13, .iload_n 1), (14, .ishl), (15, .iconst 1), (16, .isub), (17, .istore_n 2), (18, .iconst 0), (19, .istore_n 3), (20, .iload_n 3), (21, .iload_n 1), (22, .iadd), (23, .bipush 12), (25, .if_icmp .gt 30), (28, .aload_n 0), (29, .getfield 21), (32, .getfield 173), (35, .iconst (-1)), (36, .invokestatic 135), (39, .iload_n 3), (40, .ishr), (41, .iload_n 2), (42, .iand), (43, .iload_n 2), (44, .if_icmp .ne 5), (47, .iload_n 3), (48, .ireturn), (49, .iinc 3 1), (52, .goto (-32)), (55, .iconst (-1)), (56, .ireturn)]
theorem k110_0 : dck c110 l110_0 := by unfold dck; decide +kernel
/-! 111: DawnPerquisite.can(I)Z -/
abbrev c111 : ByteArray := prog_1_method_112_code
def l111_0 : List (Nat × Instr) := [(0, .aload_n 0), (1, .iload_n 1), (2, .invokevirtual 209), (5, .ireturn)]
theorem k111_0 : dck c111 l111_0 := by unfold dck; decide +kernel
/-! 112: DawnPerquisite.ledger(I)I -/
abbrev c112 : ByteArray := prog_1_method_113_code
def l112_0 : List (Nat × Instr) := [(0, .iload_n 1), (1, .iconst 0), (2, .iconst 4), (3, .invokestatic 68), (6, .ifCond .ne 6), (9, .bipush (-2)), (11, .ireturn), (12, .iconst 0), (13, .istore_n 2), (14, .iconst 0), (15, .istore_n 3), (16, .iload_n 3), (17, .aload_n 0), (18, .getfield 21), (21, .getfield 173), (24, .bipush 22), (26, .iaload), (27, .if_icmp .ge 37), (30, .iload_n 2), (31, .aload_n 0), (32, .getfield 21), (35, .getfield 173), (38, .bipush 23), (40, .iconst 4), (41, .iload_n 3), (42, .imul), (43, .iadd), (44, .iconst 1), (45, .iadd), (46, .iaload), (47, .iload_n 1), (48, .if_icmp .ne 7), (51, .iconst 1), (52, .goto 4), (55, .iconst 0), (56, .iadd), (57, .istore_n 2), (58, .iinc 3 1), (61, .goto (-45)), (64, .iload_n 2), (65, .ireturn)]
theorem k112_0 : dck c112 l112_0 := by unfold dck; decide +kernel
/-! 113: DawnPerquisite.image()I -/
abbrev c113 : ByteArray := prog_1_method_114_code
def l113_0 : List (Nat × Instr) := [(0, .aload_n 0), (1, .getfield 25), (4, .aload_n 0), (5, .getfield 21), (8, .invokevirtual 57), (11, .aload_n 0), (12, .getfield 21), (15, .getfield 173), (18, .iconst 0), (19, .iaload), (20, .ireturn)]
theorem k113_0 : dck c113 l113_0 := by unfold dck; decide +kernel
/-! 114: DawnPerquisite.back()I -/
abbrev c114 : ByteArray := prog_1_method_115_code
def l114_0 : List (Nat × Instr) := [(0, .aload_n 0), (1, .getfield 21), (4, .aload_n 0), (5, .getfield 25), (8, .invokevirtual 57), (11, .aload_n 0), (12, .getfield 21), (15, .getfield 173), (18, .iconst 0), (19, .iaload), (20, .ireturn)]
theorem k114_0 : dck c114 l114_0 := by unfold dck; decide +kernel
/-! 115: DawnPerquisite.about(I)I -/
abbrev c115 : ByteArray := prog_1_method_116_code
def l115_0 : List (Nat × Instr) := [(0, .iload_n 1), (44, .aload_n 0), (45, .invokevirtual 64), (48, .ireturn), (49, .aload_n 0), (50, .getfield 21), (53, .getfield 61), (56, .iconst 1), (57, .iaload), (58, .ireturn), (59, .aload_n 0), (60, .getfield 21), (63, .getfield 61), (66, .iconst 2), (67, .iaload), (68, .ireturn), (69, .aload_n 0), (70, .getfield 21), (73, .getfield 61), (76, .iconst 3), (77, .iaload), (78, .ireturn), (79, .aload_n 0), (80, .invokevirtual 356), (83, .ireturn), (84, .aload_n 0), (85, .getfield 21), (88, .getfield 61), (91, .bipush 6), (93, .iaload), (94, .ireturn), (95, .aload_n 0), (96, .getfield 98), (99, .ireturn), (100, .bipush (-2)), (102, .ireturn)]
theorem k115_0 : dck c115 l115_0 := by unfold dck; decide +kernel
theorem w115_1 : decode c115 1 = .ok (.tableswitch 99 0 6 #[43, 48, 58, 68, 78, 83, 94], 43) := by decide +kernel
/-! 116: DawnPerquisite$State.<init>()V -/
abbrev c116 : ByteArray := prog_13_method_1_code
def l116_0 : List (Nat × Instr) := [(0, .aload_n 0), (1, .invokespecial 3), (4, .aload_n 0), (5, .bipush 7), (7, .newarray .int), (9, .putfield 9), (12, .aload_n 0), (13, .bipush 123), (15, .newarray .int), (17, .putfield 15), (20, .aload_n 0), (21, .iconst 5), (22, .newarray .int), (24, .putfield 18), (27, .aload_n 0), (28, .iconst 5), (29, .newarray .int), (31, .putfield 21), (34, .aload_n 0), (35, .bipush 6), (37, .newarray .int), (39, .putfield 24), (42, .aload_n 0), (43, .bipush 6), (45, .newarray .int), (47, .putfield 27), (50, .aload_n 0), (51, .bipush 6), (53, .newarray .int), (55, .putfield 30), (58, .aload_n 0), (59, .bipush 12), (61, .newarray .int), (63, .putfield 33), (66, .aload_n 0), (67, .bipush 8), (69, .iconst 2), (70, .multianewarray 36 2), (74, .putfield 38), (77, .aload_n 0), (78, .bipush 30), (80, .bipush 123), (82, .multianewarray 36 2), (86, .putfield 41), (89, .aload_n 0), (90, .iconst 4), (91, .anewarray 44), (94, .putfield 46), (97, .aload_n 0), (98, .getfield 9), (101, .iconst 2), (102, .iconst (-1)), (103, .iastore), (104, .aload_n 0), (105, .getfield 15), (108, .iconst 1), (109, .sipush 457), (112, .iastore), (113, .aload_n 0), (114, .getfield 15)]
theorem k116_0 : dck c116 l116_0 := by unfold dck; decide +kernel
def l116_1 : List (Nat × Instr) := [(117, .iconst 4), (118, .bipush 16), (120, .iconst (-1)), (121, .invokestatic 50), (124, .aload_n 0), (125, .getfield 18), (128, .iconst 1), (129, .invokestatic 56), (132, .iconst 0), (133, .istore_n 1), (134, .iload_n 1), (135, .iconst 5), (136, .if_icmp .ge 19), (139, .aload_n 0), (140, .getfield 21), (143, .iload_n 1), (144, .bipush 10), (146, .iload_n 1), (147, .imul), (148, .iastore), (149, .iinc 1 1), (152, .goto (-18)), (155, .return_)]
theorem k116_1 : dck c116 l116_1 := by unfold dck; decide +kernel
/-! 117: DawnPerquisite$State.be(LDawnPerquisite$State;)V -/
abbrev c117 : ByteArray := prog_13_method_4_code
def l117_0 : List (Nat × Instr) := [(0, .aload_n 1), (1, .getfield 9), (4, .aload_n 0), (5, .getfield 9), (8, .invokestatic 65), (11, .aload_n 1), (12, .getfield 15), (15, .aload_n 0), (16, .getfield 15), (19, .invokestatic 65), (22, .aload_n 1), (23, .getfield 18), (26, .aload_n 0), (27, .getfield 18), (30, .invokestatic 65), (33, .aload_n 1), (34, .getfield 21), (37, .aload_n 0), (38, .getfield 21), (41, .invokestatic 65), (44, .aload_n 1), (45, .getfield 24), (48, .aload_n 0), (49, .getfield 24), (52, .invokestatic 65), (55, .aload_n 1), (56, .getfield 27), (59, .aload_n 0), (60, .getfield 27), (63, .invokestatic 65), (66, .aload_n 1), (67, .getfield 30), (70, .aload_n 0), (71, .getfield 30), (74, .invokestatic 65), (77, .aload_n 1), (78, .getfield 33), (81, .aload_n 0), (82, .getfield 33), (85, .invokestatic 65), (88, .aload_n 1), (89, .getfield 38), (92, .aload_n 0), (93, .getfield 38), (96, .invokestatic 69), (99, .aload_n 1), (100, .getfield 41), (103, .aload_n 0), (104, .getfield 41), (107, .invokestatic 69), (110, .aload_n 1), (111, .getfield 46), (114, .iconst 0), (115, .aload_n 0), (116, .getfield 46), (119, .iconst 0), (120, .iconst 4), (121, .invokestatic 59), (124, .return_)]
theorem k117_0 : dck c117 l117_0 := by unfold dck; decide +kernel
/-! 118: DawnPerquisite$State.copy([I[I)V -/
abbrev c118 : ByteArray := prog_13_method_2_code
def l118_0 : List (Nat × Instr) := [(0, .aload_n 0), (1, .iconst 0), (2, .aload_n 1), (3, .iconst 0), (4, .aload_n 0), (5, .arraylength), (6, .invokestatic 59), (9, .return_)]
theorem k118_0 : dck c118 l118_0 := by unfold dck; decide +kernel
/-! 119: DawnPerquisite$State.copy([[I[[I)V -/
abbrev c119 : ByteArray := prog_13_method_3_code
def l119_0 : List (Nat × Instr) := [(0, .iconst 0), (1, .istore_n 2), (2, .iload_n 2), (3, .aload_n 0), (4, .arraylength), (5, .if_icmp .ge 18), (8, .aload_n 0), (9, .iload_n 2), (10, .aaload), (11, .aload_n 1), (12, .iload_n 2), (13, .aaload), (14, .invokestatic 65), (17, .iinc 2 1), (20, .goto (-18)), (23, .return_)]
theorem k119_0 : dck c119 l119_0 := by unfold dck; decide +kernel
/-! 120: DawnPerquisite$State.tells(II)V -/
abbrev c120 : ByteArray := prog_13_method_6_code
def l120_0 : List (Nat × Instr) := [(0, .aload_n 0), (1, .getfield 15), (4, .iload_n 1), (5, .iload_n 2), (6, .iastore), (7, .iconst 0), (8, .istore_n 3), (9, .iload_n 3), (10, .aload_n 0), (11, .getfield 9), (14, .iconst 3), (15, .iaload), (16, .if_icmp .ge 18), (19, .aload_n 0), (20, .getfield 41), (23, .iload_n 3), (24, .aaload), (25, .iload_n 1), (26, .iload_n 2), (27, .iastore), (28, .iinc 3 1), (31, .goto (-22)), (34, .return_)]
theorem k120_0 : dck c120 l120_0 := by unfold dck; decide +kernel
/-! 121: DawnPerquisite$State.keeps()V -/
abbrev c121 : ByteArray := prog_13_method_5_code
def l121_0 : List (Nat × Instr) := [(0, .aload_n 0), (1, .getfield 9), (4, .iconst 3), (5, .iaload), (6, .bipush 30), (8, .if_icmp .ne 44), (11, .iconst 1), (12, .istore_n 1), (13, .iload_n 1), (14, .bipush 30), (16, .if_icmp .ge 26), (19, .aload_n 0), (20, .getfield 41), (23, .iload_n 1), (24, .aaload), (25, .aload_n 0), (26, .getfield 41), (29, .iload_n 1), (30, .iconst 1), (31, .isub), (32, .aaload), (33, .invokestatic 65), (36, .iinc 1 1), (39, .goto (-26)), (42, .aload_n 0), (43, .getfield 9), (46, .iconst 3), (47, .dup2), (48, .iaload), (49, .iconst 1), (50, .isub), (51, .iastore), (52, .aload_n 0), (53, .getfield 15), (56, .aload_n 0), (57, .getfield 41), (60, .aload_n 0), (61, .getfield 9), (64, .iconst 3), (65, .iaload), (66, .aaload), (67, .invokestatic 65), (70, .aload_n 0), (71, .getfield 9), (74, .iconst 3), (75, .dup2), (76, .iaload), (77, .iconst 1), (78, .iadd), (79, .iastore), (80, .return_)]
theorem k121_0 : dck c121 l121_0 := by unfold dck; decide +kernel
/-! 122: DawnPerquisite$State.clears(I)I -/
abbrev c122 : ByteArray := prog_13_method_7_code
def l122_0 : List (Nat × Instr) := [(0, .aload_n 0), (1, .getfield 9), (4, .iload_n 1), (5, .iconst 0), (6, .iastore), (7, .iconst 0), (8, .ireturn)]
theorem k122_0 : dck c122 l122_0 := by unfold dck; decide +kernel
/-! 123: java/util/Arrays.fill([IIII)V -/
abbrev c123 : ByteArray := prog_42_method_104_code
def l123_0 : List (Nat × Instr) := [(0, .aload_n 0), (1, .arraylength), (2, .iload_n 1), (3, .iload_n 2), (4, .invokestatic 13), (7, .iload_n 1), (8, .istore 4), (10, .iload 4), (12, .iload_n 2), (13, .if_icmp .ge 14), (16, .aload_n 0), (17, .iload 4), (19, .iload_n 3), (20, .iastore), (21, .iinc 4 1), (24, .goto (-14)), (27, .return_)]
theorem k123_0 : dck c123 l123_0 := by unfold dck; decide +kernel
/-! 124: java/util/Arrays.rangeCheck(III)V -/
abbrev c124 : ByteArray := prog_42_method_30_code
def l124_0 : List (Nat × Instr) := [(0, .iload_n 1), (1, .iload_n 2), (2, .if_icmp .le 44), (5, .new 43), (8, .dup), (9, .new 45), (12, .dup), (13, .invokespecial 47), (16, .ldc 48), (18, .invokevirtual 50), (21, .iload_n 1), (22, .invokevirtual 54), (25, .ldc 57), (27, .invokevirtual 50), (30, .iload_n 2), (31, .invokevirtual 54), (34, .ldc 59), (36, .invokevirtual 50), (39, .invokevirtual 61), (42, .invokespecial 65), (45, .athrow), (46, .iload_n 1), (47, .ifCond .ge 12), (50, .new 68), (53, .dup), (54, .iload_n 1), (55, .invokespecial 70), (58, .athrow), (59, .iload_n 2), (60, .iload_n 0), (61, .if_icmp .le 12), (64, .new 68), (67, .dup), (68, .iload_n 2), (69, .invokespecial 70), (72, .athrow), (73, .return_)]
theorem k124_0 : dck c124 l124_0 := by unfold dck; decide +kernel
/-! 125: java/util/Arrays.fill([II)V -/
abbrev c125 : ByteArray := prog_42_method_103_code
def l125_0 : List (Nat × Instr) := [(0, .iconst 0), (1, .istore_n 2), (2, .aload_n 0), (3, .arraylength), (4, .istore_n 3), (5, .iload_n 2), (6, .iload_n 3), (7, .if_icmp .ge 13), (10, .aload_n 0), (11, .iload_n 2), (12, .iload_n 1), (13, .iastore), (14, .iinc 2 1), (17, .goto (-12)), (20, .return_)]
theorem k125_0 : dck c125 l125_0 := by unfold dck; decide +kernel
/-! 126: java/util/Arrays.copyOf([Ljava/lang/Object;I)[Ljava/lang/Object; -/
abbrev c126 : ByteArray := prog_42_method_119_code
def l126_0 : List (Nat × Instr) := [(0, .aload_n 0), (1, .iload_n 1), (2, .aload_n 0), (3, .invokevirtual 86), (6, .invokestatic 300), (9, .areturn)]
theorem k126_0 : dck c126 l126_0 := by unfold dck; decide +kernel
/-! 127: java/util/Arrays.copyOf([Ljava/lang/Object;ILjava/lang/Class;)[Ljava/lang/Object; -/
abbrev c127 : ByteArray := prog_42_method_120_code
def l127_0 : List (Nat × Instr) := [(0, .aload_n 2), (1, .ldc 110), (3, .if_acmp .ne 10), (6, .iload_n 1), (7, .anewarray 2), (10, .goto 14), (13, .aload_n 2), (14, .invokevirtual 90), (17, .iload_n 1), (18, .invokestatic 95), (21, .checkcast 110), (24, .astore_n 3), (25, .aload_n 0), (26, .iconst 0), (27, .aload_n 3), (28, .iconst 0), (29, .aload_n 0), (30, .arraylength), (31, .iload_n 1), (32, .invokestatic 304), (35, .invokestatic 150), (38, .aload_n 3), (39, .areturn)]
theorem k127_0 : dck c127 l127_0 := by unfold dck; decide +kernel
/-! 128: DawnPerquisiteModel.<init>()V -/
abbrev c128 : ByteArray := prog_20_method_1_code
def l128_0 : List (Nat × Instr) := [(0, .aload_n 0), (1, .invokespecial 1), (4, .aload_n 0), (5, .sipush 1592), (8, .newarray .int), (10, .putfield 7), (13, .aload_n 0), (14, .sipush 1592), (17, .newarray .int), (19, .putfield 13), (22, .aload_n 0), (23, .sipush 2724), (26, .newarray .int), (28, .putfield 16), (31, .aload_n 0), (32, .sipush 300), (35, .newarray .int), (37, .putfield 19), (40, .aload_n 0), (41, .iconst (-1)), (42, .putfield 22), (45, .aload_n 0), (46, .iconst (-1)), (47, .putfield 26), (50, .aload_n 0), (51, .sipush 160), (54, .newarray .int), (56, .putfield 29), (59, .aload_n 0), (60, .bipush 8), (62, .newarray .int), (64, .putfield 32), (67, .aload_n 0), (68, .sipush 330), (71, .newarray .long), (73, .putfield 35), (76, .aload_n 0), (77, .sipush 330), (80, .newarray .boolean), (82, .putfield 39), (85, .aload_n 0), (86, .iconst 1), (87, .putfield 43), (90, .aload_n 0), (91, .bipush 29), (93, .newarray .int), (95, .putfield 47), (98, .aload_n 0), (99, .bipush 6), (101, .newarray .int), (103, .putfield 50), (106, .aload_n 0), (107, .bipush 6), (109, .newarray .int), (111, .putfield 53), (114, .aload_n 0), (115, .sipush 144), (118, .newarray .int), (120, .putfield 56), (123, .aload_n 0)]
theorem k128_0 : dck c128 l128_0 := by unfold dck; decide +kernel
def l128_1 : List (Nat × Instr) := [(124, .getfield 7), (127, .bipush 7), (129, .sipush 457), (132, .iastore), (133, .aload_n 0), (134, .getfield 7), (137, .iconst 2), (138, .iconst (-1)), (139, .iastore), (140, .iconst 0), (141, .istore_n 1), (142, .iload_n 1), (143, .iconst 5), (144, .if_icmp .ge 32), (147, .aload_n 0), (148, .getfield 7), (151, .bipush 29), (153, .iload_n 1), (154, .iadd), (155, .iconst 1), (156, .iastore), (157, .aload_n 0), (158, .getfield 7), (161, .bipush 34), (163, .iload_n 1), (164, .iadd), (165, .bipush 10), (167, .iload_n 1), (168, .imul), (169, .iastore), (170, .iinc 1 1), (173, .goto (-31)), (176, .iconst 0), (177, .istore_n 1), (178, .iload_n 1), (179, .bipush 12), (181, .if_icmp .ge 19), (184, .aload_n 0), (185, .getfield 7), (188, .bipush 11), (190, .iload_n 1), (191, .iadd), (192, .iconst (-1)), (193, .iastore), (194, .iinc 1 1), (197, .goto (-19)), (200, .aload_n 0), (201, .getfield 7), (204, .aload_n 0), (205, .getfield 13), (208, .invokestatic 59), (211, .return_)]
theorem k128_1 : dck c128 l128_1 := by unfold dck; decide +kernel
/-! 129: DawnPerquisiteModel.copy([I[I)V -/
abbrev c129 : ByteArray := prog_20_method_2_code
def l129_0 : List (Nat × Instr) := [(0, .iconst 0), (1, .istore_n 2), (2, .iload_n 2), (3, .sipush 1592), (6, .if_icmp .ge 15), (9, .aload_n 1), (10, .iload_n 2), (11, .aload_n 0), (12, .iload_n 2), (13, .iaload), (14, .iastore), (15, .iinc 2 1), (18, .goto (-16)), (21, .return_)]
theorem k129_0 : dck c129 l129_0 := by unfold dck; decide +kernel
/-! 130: DawnPerquisiteModel.sort(III)Z -/
abbrev c130 : ByteArray := prog_20_method_18_code
def l130_0 : List (Nat × Instr) := [(0, .iload_n 1), (1, .invokestatic 81), (4, .ifCond .eq 23), (7, .iload_n 2), (8, .iconst 0), (9, .bipush 9), (11, .invokestatic 63), (14, .ifCond .eq 13), (17, .iload_n 3), (18, .iconst 0), (19, .bipush 99), (21, .invokestatic 63), (24, .ifCond .ne 5), (27, .iconst 0), (28, .ireturn), (29, .aload_n 0), (30, .getfield 7), (33, .bipush 29), (35, .iload_n 1), (36, .iadd), (37, .iload_n 2), (38, .iastore), (39, .aload_n 0), (40, .getfield 7), (43, .bipush 34), (45, .iload_n 1), (46, .iadd), (47, .iload_n 3), (48, .iastore), (49, .iconst 1), (50, .ireturn)]
theorem k130_0 : dck c130 l130_0 := by unfold dck; decide +kernel
/-! 131: DawnPerquisiteModel.isSort(I)Z -/
abbrev c131 : ByteArray := prog_20_method_8_code
def l131_0 : List (Nat × Instr) := [(0, .iload_n 0), (1, .iconst 0), (2, .iconst 4), (3, .invokestatic 63), (6, .ireturn)]
theorem k131_0 : dck c131 l131_0 := by unfold dck; decide +kernel
/-! 132: DawnPerquisiteModel.isIn(III)Z -/
abbrev c132 : ByteArray := prog_20_method_3_code
def l132_0 : List (Nat × Instr) := [(0, .iload_n 0), (1, .iload_n 1), (2, .if_icmp .lt 12), (5, .iload_n 0), (6, .iload_n 2), (7, .if_icmp .gt 7), (10, .iconst 1), (11, .goto 4), (14, .iconst 0), (15, .ireturn)]
theorem k132_0 : dck c132 l132_0 := by unfold dck; decide +kernel
/-! 133: DawnPerquisiteModel.buyer(IIII)I -/
abbrev c133 : ByteArray := prog_20_method_19_code
def l133_0 : List (Nat × Instr) := [(0, .iload_n 1), (1, .iconst 0), (2, .bipush 31), (4, .invokestatic 63), (7, .ifCond .eq 34), (10, .iload_n 2), (11, .iload_n 3), (12, .invokestatic 85), (15, .ifCond .eq 26), (18, .iload 4), (20, .iconst 0), (21, .sipush 999), (24, .invokestatic 63), (27, .ifCond .eq 14), (30, .aload_n 0), (31, .getfield 7), (34, .iconst 0), (35, .iaload), (36, .bipush 6), (38, .if_icmp .ne 5), (41, .iconst (-1)), (42, .ireturn), (43, .aload_n 0), (44, .getfield 7), (47, .iconst 0), (48, .iaload), (49, .istore 5), (51, .aload_n 0), (52, .getfield 7), (55, .bipush 39), (57, .iload 5), (59, .iadd), (60, .iload_n 1), (61, .iastore), (62, .aload_n 0), (63, .getfield 7), (66, .bipush 45), (68, .iload 5), (70, .iadd), (71, .iload_n 2), (72, .iastore), (73, .aload_n 0), (74, .getfield 7), (77, .bipush 51), (79, .iload 5), (81, .iadd), (82, .iload_n 3), (83, .iastore), (84, .aload_n 0), (85, .getfield 7), (88, .bipush 57), (90, .iload 5), (92, .iadd), (93, .iload 4), (95, .iastore), (96, .aload_n 0), (97, .getfield 7), (100, .bipush 23), (102, .iload 5), (104, .iadd)]
theorem k133_0 : dck c133 l133_0 := by unfold dck; decide +kernel
def l133_1 : List (Nat × Instr) := [(105, .iload 4), (107, .iastore), (108, .aload_n 0), (109, .getfield 7), (112, .iconst 0), (113, .dup2), (114, .iaload), (115, .iconst 1), (116, .iadd), (117, .iastore), (118, .iload 5), (120, .ireturn)]
theorem k133_1 : dck c133 l133_1 := by unfold dck; decide +kernel
/-! 134: DawnPerquisiteModel.areSlices(II)Z -/
abbrev c134 : ByteArray := prog_20_method_10_code
def l134_0 : List (Nat × Instr) := [(0, .iload_n 1), (1, .iconst 0), (2, .bipush 11), (4, .invokestatic 63), (7, .ifCond .eq 16), (10, .iload_n 0), (11, .iconst 0), (12, .iload_n 1), (13, .invokestatic 63), (16, .ifCond .eq 7), (19, .iconst 1), (20, .goto 4), (23, .iconst 0), (24, .ireturn)]
theorem k134_0 : dck c134 l134_0 := by unfold dck; decide +kernel
/-! 135: DawnPerquisiteModel.feed(IIIII)I -/
abbrev c135 : ByteArray := prog_20_method_21_code
def l135_0 : List (Nat × Instr) := [(0, .aload_n 0), (1, .getfield 88), (4, .bipush 20), (6, .iadd), (7, .sipush 300), (10, .if_icmp .le 5), (13, .iconst (-1)), (14, .ireturn), (15, .aload_n 0), (16, .iload_n 1), (17, .invokevirtual 91), (20, .aload_n 0), (21, .iload_n 2), (22, .invokevirtual 91), (25, .aload_n 0), (26, .iload_n 3), (27, .invokevirtual 91), (30, .aload_n 0), (31, .iload 4), (33, .invokevirtual 91), (36, .aload_n 0), (37, .iload 5), (39, .invokevirtual 91), (42, .aload_n 0), (43, .getfield 88), (46, .ireturn)]
theorem k135_0 : dck c135 l135_0 := by unfold dck; decide +kernel
/-! 136: DawnPerquisiteModel.four(I)V -/
abbrev c136 : ByteArray := prog_20_method_20_code
def l136_0 : List (Nat × Instr) := [(0, .bipush 24), (2, .istore_n 2), (3, .iload_n 2), (4, .ifCond .lt 35), (7, .aload_n 0), (8, .getfield 19), (11, .aload_n 0), (12, .getfield 88), (15, .iload_n 1), (16, .iload_n 2), (17, .ishr), (18, .sipush 255), (21, .iand), (22, .iastore), (23, .aload_n 0), (24, .dup), (25, .getfield 88), (28, .iconst 1), (29, .iadd), (30, .putfield 88), (33, .iinc 2 (-8)), (36, .goto (-33)), (39, .return_)]
theorem k136_0 : dck c136 l136_0 := by unfold dck; decide +kernel
/-! 137: DawnPerquisiteModel.end(I)I -/
abbrev c137 : ByteArray := prog_20_method_22_code
def l137_0 : List (Nat × Instr) := [(0, .iload_n 1), (1, .iconst 0), (2, .aload_n 0), (3, .getfield 88), (6, .invokestatic 63), (9, .ifCond .ne 5), (12, .iconst (-1)), (13, .ireturn), (14, .aload_n 0), (15, .iload_n 1), (16, .putfield 88), (19, .iload_n 1), (20, .ireturn)]
theorem k137_0 : dck c137 l137_0 := by unfold dck; decide +kernel
/-! 138: DawnPerquisiteModel.text()I -/
abbrev c138 : ByteArray := prog_20_method_58_code
def l138_0 : List (Nat × Instr) := [(0, .aload_n 0), (1, .getfield 7), (4, .iconst 1), (5, .iaload), (6, .iconst 4), (7, .if_icmp .ne 5), (10, .iconst (-1)), (11, .ireturn), (12, .aload_n 0), (13, .aload_n 0), (14, .invokevirtual 244), (17, .putfield 22), (20, .aload_n 0), (21, .aload_n 0), (22, .getfield 22), (25, .ifCond .ne 7), (28, .iconst (-1)), (29, .goto 7), (32, .aload_n 0), (33, .getfield 101), (36, .putfield 26), (39, .aload_n 0), (40, .iconst 0), (41, .putfield 88), (44, .aload_n 0), (45, .getfield 22), (48, .ifCond .eq 5), (51, .iconst (-1)), (52, .ireturn), (53, .aload_n 0), (54, .getfield 7), (57, .iconst 1), (58, .dup2), (59, .iaload), (60, .iconst 1), (61, .iadd), (62, .iastore), (63, .aload_n 0), (64, .getfield 7), (67, .iconst 1), (68, .iaload), (69, .iconst 1), (70, .isub), (71, .ireturn)]
theorem k138_0 : dck c138 l138_0 := by unfold dck; decide +kernel
/-! 139: DawnPerquisiteModel.readText()I -/
abbrev c139 : ByteArray := prog_20_method_57_code
def l139_0 : List (Nat × Instr) := [(0, .aload_n 0), (1, .sipush 681), (4, .aload_n 0), (5, .getfield 7), (8, .iconst 1), (9, .iaload), (10, .imul), (11, .putfield 142), (14, .aload_n 0), (15, .getfield 16), (18, .aload_n 0), (19, .getfield 142), (22, .iconst 0), (23, .iastore), (24, .aload_n 0), (25, .iconst 0), (26, .putfield 145), (29, .aload_n 0), (30, .iconst 0), (31, .putfield 234), (34, .aload_n 0), (35, .iconst 0), (36, .putfield 95), (39, .aload_n 0), (40, .invokevirtual 171), (43, .aload_n 0), (44, .getfield 104), (47, .ifCond .eq 17), (50, .aload_n 0), (51, .invokevirtual 241), (54, .istore_n 1), (55, .iload_n 1), (56, .ifCond .eq 5), (59, .iload_n 1), (60, .ireturn), (61, .goto (-18)), (64, .iconst 0), (65, .ireturn)]
theorem k139_0 : dck c139 l139_0 := by unfold dck; decide +kernel
/-! 140: DawnPerquisiteModel.nextToken()V -/
abbrev c140 : ByteArray := prog_20_method_27_code
def l140_0 : List (Nat × Instr) := [(0, .aload_n 0), (1, .aload_n 0), (2, .getfield 95), (5, .invokevirtual 98), (8, .bipush 32), (10, .if_icmp .eq 16), (13, .aload_n 0), (14, .aload_n 0), (15, .getfield 95), (18, .invokevirtual 98), (21, .bipush 10), (23, .if_icmp .ne 16), (26, .aload_n 0), (27, .dup), (28, .getfield 95), (31, .iconst 1), (32, .iadd), (33, .putfield 95), (36, .goto (-36)), (39, .aload_n 0), (40, .aload_n 0), (41, .getfield 95), (44, .putfield 101), (47, .aload_n 0), (48, .aload_n 0), (49, .getfield 95), (52, .invokevirtual 98), (55, .istore_n 1), (56, .iload_n 1), (57, .ifCond .ge 11), (60, .aload_n 0), (61, .iconst 0), (62, .putfield 104), (65, .goto 245), (68, .iload_n 1), (69, .invokestatic 107), (72, .ifCond .eq 79), (75, .aload_n 0), (76, .iconst 1), (77, .putfield 104), (80, .aload_n 0), (81, .iconst 0), (82, .putfield 110), (85, .aload_n 0), (86, .aload_n 0), (87, .getfield 95), (90, .invokevirtual 98), (93, .invokestatic 107), (96, .ifCond .eq 214), (99, .aload_n 0), (100, .aload_n 0), (101, .getfield 110), (104, .ldc 113), (106, .if_icmp .le 10), (109, .aload_n 0), (110, .getfield 110), (113, .goto 22), (116, .bipush 10), (118, .aload_n 0), (119, .getfield 110)]
theorem k140_0 : dck c140 l140_0 := by unfold dck; decide +kernel
def l140_1 : List (Nat × Instr) := [(122, .imul), (123, .aload_n 0), (124, .aload_n 0), (125, .getfield 95), (128, .invokevirtual 98), (131, .iadd), (132, .bipush 48), (134, .isub), (135, .putfield 110), (138, .aload_n 0), (139, .dup), (140, .getfield 95), (143, .iconst 1), (144, .iadd), (145, .putfield 95), (148, .goto (-63)), (151, .iload_n 1), (152, .invokestatic 114), (155, .ifCond .eq 79), (158, .aload_n 0), (159, .iconst 2), (160, .putfield 104), (163, .aload_n 0), (164, .lconst 0), (165, .putfield 117), (168, .aload_n 0), (169, .aload_n 0), (170, .getfield 95), (173, .invokevirtual 98), (176, .invokestatic 114), (179, .ifCond .eq 131), (182, .aload_n 0), (183, .aload_n 0), (184, .getfield 117), (187, .bipush 48), (189, .lshr), (190, .lconst 0), (191, .lcmp), (192, .ifCond .eq 9), (195, .ldc2_w 121), (198, .goto 20), (201, .aload_n 0), (202, .getfield 117), (205, .bipush 8), (207, .lshl), (208, .aload_n 0), (209, .aload_n 0), (210, .getfield 95), (213, .invokevirtual 98), (216, .i2l), (217, .lor), (218, .putfield 117), (221, .aload_n 0), (222, .dup), (223, .getfield 95), (226, .iconst 1), (227, .iadd), (228, .putfield 95), (231, .goto (-63)), (234, .aload_n 0)]
theorem k140_1 : dck c140 l140_1 := by unfold dck; decide +kernel
def l140_2 : List (Nat × Instr) := [(235, .iload_n 1), (236, .invokestatic 123), (239, .ifCond .eq 7), (242, .iload_n 1), (243, .goto 4), (246, .iconst 3), (247, .putfield 104), (250, .aload_n 0), (251, .dup), (252, .getfield 95), (255, .iconst 1), (256, .iadd), (257, .putfield 95), (260, .iload_n 1), (261, .bipush 60), (263, .if_icmp .eq 9), (266, .iload_n 1), (267, .bipush 62), (269, .if_icmp .ne 41), (272, .aload_n 0), (273, .aload_n 0), (274, .getfield 95), (277, .invokevirtual 98), (280, .bipush 61), (282, .if_icmp .ne 28), (285, .aload_n 0), (286, .iload_n 1), (287, .bipush 60), (289, .if_icmp .ne 7), (292, .iconst 4), (293, .goto 4), (296, .iconst 5), (297, .putfield 104), (300, .aload_n 0), (301, .dup), (302, .getfield 95), (305, .iconst 1), (306, .iadd), (307, .putfield 95), (310, .return_)]
theorem k140_2 : dck c140 l140_2 := by unfold dck; decide +kernel
/-! 141: DawnPerquisiteModel.byteAt(I)I -/
abbrev c141 : ByteArray := prog_20_method_23_code
def l141_0 : List (Nat × Instr) := [(0, .iload_n 1), (1, .aload_n 0), (2, .getfield 88), (5, .if_icmp .ge 12), (8, .aload_n 0), (9, .getfield 19), (12, .iload_n 1), (13, .iaload), (14, .goto 4), (17, .iconst (-1)), (18, .ireturn)]
theorem k141_0 : dck c141 l141_0 := by unfold dck; decide +kernel
/-! 142: DawnPerquisiteModel.isFigure(I)Z -/
abbrev c142 : ByteArray := prog_20_method_25_code
def l142_0 : List (Nat × Instr) := [(0, .iload_n 0), (1, .bipush 48), (3, .if_icmp .lt 13), (6, .iload_n 0), (7, .bipush 57), (9, .if_icmp .gt 7), (12, .iconst 1), (13, .goto 4), (16, .iconst 0), (17, .ireturn)]
theorem k142_0 : dck c142 l142_0 := by unfold dck; decide +kernel
/-! 143: DawnPerquisiteModel.isLetterByte(I)Z -/
abbrev c143 : ByteArray := prog_20_method_24_code
def l143_0 : List (Nat × Instr) := [(0, .iload_n 0), (1, .bipush 97), (3, .if_icmp .lt 9), (6, .iload_n 0), (7, .bipush 122), (9, .if_icmp .le 15), (12, .iload_n 0), (13, .bipush 65), (15, .if_icmp .lt 13), (18, .iload_n 0), (19, .bipush 90), (21, .if_icmp .gt 7), (24, .iconst 1), (25, .goto 4), (28, .iconst 0), (29, .ireturn)]
theorem k143_0 : dck c143 l143_0 := by unfold dck; decide +kernel
/-! 144: DawnPerquisiteModel.isSign(I)Z -/
abbrev c144 : ByteArray := prog_20_method_26_code
def l144_0 : List (Nat × Instr) := [(0, .iload_n 0), (128, .iconst 1), (129, .ireturn), (130, .iconst 0), (131, .ireturn)]
theorem k144_0 : dck c144 l144_0 := by unfold dck; decide +kernel
theorem w144_1 : decode c144 1 = .ok (.tableswitch 129 35 62 #[127, 129, 129, 129, 129, 127, 127, 127, 127, 129, 127, 129, 127, 129, 129, 129, 129, 129, 129, 129, 129, 129, 129, 127, 127, 127, 127, 127], 127) := by decide +kernel
/-! 145: DawnPerquisiteModel.clause()I -/
abbrev c145 : ByteArray := prog_20_method_56_code
def l145_0 : List (Nat × Instr) := [(0, .aload_n 0), (1, .invokevirtual 231), (4, .istore_n 1), (5, .iload_n 1), (6, .ifCond .ge 5), (9, .iconst 1), (10, .ireturn), (11, .iload_n 1), (12, .iconst 1), (13, .if_icmp .gt 16), (16, .aload_n 0), (17, .getfield 234), (20, .iload_n 1), (21, .invokestatic 67), (24, .ifCond .eq 5), (27, .iconst 4), (28, .ireturn), (29, .aload_n 0), (30, .getfield 16), (33, .aload_n 0), (34, .getfield 142), (37, .iaload), (38, .istore_n 2), (39, .iload_n 2), (40, .bipush 24), (42, .if_icmp .ne 6), (45, .bipush 6), (47, .ireturn), (48, .iload_n 1), (49, .iconst 1), (50, .if_icmp .gt 15), (53, .aload_n 0), (54, .dup), (55, .getfield 234), (58, .iconst 1), (59, .iload_n 1), (60, .ishl), (61, .ior), (62, .putfield 234), (65, .aload_n 0), (66, .iload_n 1), (67, .putfield 148), (70, .aload_n 0), (71, .invokevirtual 171), (74, .aload_n 0), (75, .getfield 142), (78, .iconst 1), (79, .iadd), (80, .iconst 3), (81, .iload_n 2), (82, .imul), (83, .iadd), (84, .istore_n 3), (85, .aload_n 0), (86, .getfield 16), (89, .iload_n 3), (90, .iload_n 1), (91, .iastore), (92, .aload_n 0), (93, .iload_n 1)]
theorem k145_0 : dck c145 l145_0 := by unfold dck; decide +kernel
def l145_1 : List (Nat × Instr) := [(94, .iload_n 3), (95, .invokevirtual 237), (98, .istore 4), (100, .iload 4), (102, .ifCond .eq 6), (105, .iload 4), (107, .ireturn), (108, .aload_n 0), (109, .getfield 16), (112, .aload_n 0), (113, .getfield 142), (116, .dup2), (117, .iaload), (118, .iconst 1), (119, .iadd), (120, .iastore), (121, .aload_n 0), (122, .getfield 104), (125, .bipush 59), (127, .if_icmp .eq 5), (130, .iconst 1), (131, .ireturn), (132, .aload_n 0), (133, .invokevirtual 171), (136, .iconst 0), (137, .ireturn)]
theorem k145_1 : dck c145 l145_1 := by unfold dck; decide +kernel
/-! 146: DawnPerquisiteModel.sortOf()I -/
abbrev c146 : ByteArray := prog_20_method_55_code
def l146_0 : List (Nat × Instr) := [(0, .aload_n 0), (1, .bipush 98), (3, .bipush 105), (5, .bipush 100), (7, .bipush 115), (9, .invokestatic 134), (12, .invokevirtual 189), (15, .ifCond .eq 5), (18, .iconst 0), (19, .ireturn), (20, .aload_n 0), (21, .bipush 101), (23, .bipush 97), (25, .bipush 114), (27, .bipush 110), (29, .bipush 115), (31, .invokestatic 138), (34, .invokevirtual 189), (37, .ifCond .eq 5), (40, .iconst 1), (41, .ireturn), (42, .aload_n 0), (43, .bipush 98), (45, .bipush 117), (47, .bipush 121), (49, .bipush 101), (51, .bipush 114), (53, .invokestatic 138), (56, .invokevirtual 189), (59, .ifCond .eq 5), (62, .iconst 2), (63, .ireturn), (64, .aload_n 0), (65, .bipush 115), (67, .bipush 111), (69, .bipush 114), (71, .bipush 116), (73, .invokestatic 134), (76, .invokevirtual 189), (79, .ifCond .eq 5), (82, .iconst 3), (83, .ireturn), (84, .aload_n 0), (85, .bipush 115), (87, .bipush 101), (89, .bipush 108), (91, .bipush 108), (93, .invokestatic 134), (96, .invokevirtual 189), (99, .ifCond .eq 5), (102, .iconst 4), (103, .ireturn), (104, .aload_n 0), (105, .bipush 103), (107, .bipush 105), (109, .bipush 118), (111, .bipush 101), (113, .invokestatic 134), (116, .invokevirtual 189), (119, .ifCond .eq 5)]
theorem k146_0 : dck c146 l146_0 := by unfold dck; decide +kernel
def l146_1 : List (Nat × Instr) := [(122, .iconst 5), (123, .ireturn), (124, .aload_n 0), (125, .bipush 116), (127, .bipush 117), (129, .bipush 114), (131, .bipush 110), (133, .invokestatic 134), (136, .invokevirtual 189), (139, .ifCond .eq 8), (142, .bipush 6), (144, .goto 25), (147, .aload_n 0), (148, .bipush 100), (150, .bipush 97), (152, .bipush 121), (154, .invokestatic 130), (157, .invokevirtual 189), (160, .ifCond .eq 8), (163, .bipush 7), (165, .goto 4), (168, .iconst (-1)), (169, .ireturn)]
theorem k146_1 : dck c146 l146_1 := by unfold dck; decide +kernel
/-! 147: DawnPerquisiteModel.w4(IIII)J -/
abbrev c147 : ByteArray := prog_20_method_30_code
def l147_0 : List (Nat × Instr) := [(0, .iload_n 0), (1, .iload_n 1), (2, .iload_n 2), (3, .invokestatic 130), (6, .bipush 8), (8, .lshl), (9, .iload_n 3), (10, .i2l), (11, .lor), (12, .lreturn)]
theorem k147_0 : dck c147 l147_0 := by unfold dck; decide +kernel
/-! 148: DawnPerquisiteModel.w3(III)J -/
abbrev c148 : ByteArray := prog_20_method_29_code
def l148_0 : List (Nat × Instr) := [(0, .iload_n 0), (1, .iload_n 1), (2, .invokestatic 126), (5, .bipush 8), (7, .lshl), (8, .iload_n 2), (9, .i2l), (10, .lor), (11, .lreturn)]
theorem k148_0 : dck c148 l148_0 := by unfold dck; decide +kernel
/-! 149: DawnPerquisiteModel.w2(II)J -/
abbrev c149 : ByteArray := prog_20_method_28_code
def l149_0 : List (Nat × Instr) := [(0, .iload_n 0), (1, .i2l), (2, .bipush 8), (4, .lshl), (5, .iload_n 1), (6, .i2l), (7, .lor), (8, .lreturn)]
theorem k149_0 : dck c149 l149_0 := by unfold dck; decide +kernel
/-! 150: DawnPerquisiteModel.isWord(J)Z -/
abbrev c150 : ByteArray := prog_20_method_33_code
def l150_0 : List (Nat × Instr) := [(0, .aload_n 0), (1, .getfield 104), (4, .iconst 2), (5, .if_icmp .ne 16), (8, .aload_n 0), (9, .getfield 117), (12, .lload_n 1), (13, .lcmp), (14, .ifCond .ne 7), (17, .iconst 1), (18, .goto 4), (21, .iconst 0), (22, .ireturn)]
theorem k150_0 : dck c150 l150_0 := by unfold dck; decide +kernel
/-! 151: DawnPerquisiteModel.w5(IIIII)J -/
abbrev c151 : ByteArray := prog_20_method_31_code
def l151_0 : List (Nat × Instr) := [(0, .iload_n 0), (1, .iload_n 1), (2, .iload_n 2), (3, .iload_n 3), (4, .invokestatic 134), (7, .bipush 8), (9, .lshl), (10, .iload 4), (12, .i2l), (13, .lor), (14, .lreturn)]
theorem k151_0 : dck c151 l151_0 := by unfold dck; decide +kernel
/-! 152: DawnPerquisiteModel.has(II)Z -/
abbrev c152 : ByteArray := prog_20_method_5_code
def l152_0 : List (Nat × Instr) := [(0, .iload_n 0), (1, .iload_n 1), (2, .ishr), (3, .iconst 1), (4, .iand), (5, .iconst 1), (6, .if_icmp .ne 7), (9, .iconst 1), (10, .goto 4), (13, .iconst 0), (14, .ireturn)]
theorem k152_0 : dck c152 l152_0 := by unfold dck; decide +kernel
/-! 153: DawnPerquisiteModel.body(II)I -/
abbrev c153 : ByteArray := prog_20_method_54_code
def l153_0 : List (Nat × Instr) := [(0, .iload_n 1), (40, .aload_n 0), (41, .iload_n 2), (42, .invokevirtual 222), (45, .ireturn), (46, .aload_n 0), (47, .iload_n 2), (48, .invokevirtual 225), (51, .ireturn), (52, .aload_n 0), (53, .iload_n 2), (54, .iconst 1), (55, .iadd), (56, .iconst 0), (57, .iconst 5), (58, .invokevirtual 218), (61, .ireturn), (62, .aload_n 0), (63, .iload_n 2), (64, .iconst 1), (65, .iadd), (66, .iconst 0), (67, .bipush 11), (69, .invokevirtual 218), (72, .ireturn), (73, .aload_n 0), (74, .iload_n 2), (75, .iconst 1), (76, .iadd), (77, .iconst 0), (78, .iconst 5), (79, .invokevirtual 218), (82, .ireturn), (83, .aload_n 0), (84, .iload_n 2), (85, .iconst 1), (86, .iadd), (87, .iconst 1), (88, .bipush 60), (90, .invokevirtual 218), (93, .ireturn), (94, .aload_n 0), (95, .iload_n 2), (96, .invokevirtual 228), (99, .ireturn)]
theorem k153_0 : dck c153 l153_0 := by unfold dck; decide +kernel
theorem w153_1 : decode c153 1 = .ok (.tableswitch 93 2 7 #[39, 45, 51, 61, 72, 82], 39) := by decide +kernel
/-! 154: DawnPerquisiteModel.buyerClause(I)I -/
abbrev c154 : ByteArray := prog_20_method_52_code
def l154_0 : List (Nat × Instr) := [(0, .aload_n 0), (1, .iload_n 1), (2, .iconst 1), (3, .iadd), (4, .iconst 0), (5, .bipush 11), (7, .invokevirtual 218), (10, .istore_n 2), (11, .iload_n 2), (12, .ifCond .eq 5), (15, .iload_n 2), (16, .ireturn), (17, .aload_n 0), (18, .bipush 116), (20, .bipush 111), (22, .invokestatic 126), (25, .invokevirtual 189), (28, .ifCond .ne 5), (31, .iconst 1), (32, .ireturn), (33, .aload_n 0), (34, .invokevirtual 171), (37, .aload_n 0), (38, .iload_n 1), (39, .iconst 2), (40, .iadd), (41, .aload_n 0), (42, .getfield 16), (45, .iload_n 1), (46, .iconst 1), (47, .iadd), (48, .iaload), (49, .bipush 11), (51, .invokevirtual 218), (54, .ireturn)]
theorem k154_0 : dck c154 l154_0 := by unfold dck; decide +kernel
/-! 155: DawnPerquisiteModel.figure(III)I -/
abbrev c155 : ByteArray := prog_20_method_50_code
def l155_0 : List (Nat × Instr) := [(0, .aload_n 0), (1, .getfield 104), (4, .iconst 1), (5, .if_icmp .eq 5), (8, .iconst 1), (9, .ireturn), (10, .aload_n 0), (11, .getfield 110), (14, .iload_n 2), (15, .iload_n 3), (16, .invokestatic 63), (19, .ifCond .ne 5), (22, .iconst 2), (23, .ireturn), (24, .aload_n 0), (25, .getfield 16), (28, .iload_n 1), (29, .aload_n 0), (30, .getfield 110), (33, .iastore), (34, .aload_n 0), (35, .invokevirtual 171), (38, .iconst 0), (39, .ireturn)]
theorem k155_0 : dck c155 l155_0 := by unfold dck; decide +kernel
/-! 156: DawnPerquisiteModel.sortClause(I)I -/
abbrev c156 : ByteArray := prog_20_method_53_code
def l156_0 : List (Nat × Instr) := [(0, .aload_n 0), (1, .iload_n 1), (2, .iconst 1), (3, .iadd), (4, .iconst 0), (5, .iconst 4), (6, .invokevirtual 218), (9, .istore_n 2), (10, .iload_n 2), (11, .ifCond .eq 5), (14, .iload_n 2), (15, .ireturn), (16, .aload_n 0), (17, .bipush 98), (19, .bipush 121), (21, .invokestatic 126), (24, .invokevirtual 189), (27, .ifCond .ne 5), (30, .iconst 1), (31, .ireturn), (32, .aload_n 0), (33, .invokevirtual 171), (36, .aload_n 0), (37, .iload_n 1), (38, .iconst 2), (39, .iadd), (40, .iconst 0), (41, .bipush 9), (43, .invokevirtual 218), (46, .ireturn)]
theorem k156_0 : dck c156 l156_0 := by unfold dck; decide +kernel
/-! 157: DawnPerquisiteModel.lawClause(I)I -/
abbrev c157 : ByteArray := prog_20_method_51_code
def l157_0 : List (Nat × Instr) := [(0, .aload_n 0), (1, .getfield 16), (4, .iload_n 1), (5, .iconst 1), (6, .iadd), (7, .aload_n 0), (8, .getfield 145), (11, .iastore), (12, .aload_n 0), (13, .invokevirtual 215), (16, .istore_n 2), (17, .aload_n 0), (18, .getfield 16), (21, .iload_n 1), (22, .iconst 2), (23, .iadd), (24, .aload_n 0), (25, .getfield 145), (28, .iastore), (29, .iload_n 2), (30, .ireturn)]
theorem k157_0 : dck c157 l157_0 := by unfold dck; decide +kernel
/-! 158: DawnPerquisiteModel.summed()I -/
abbrev c158 : ByteArray := prog_20_method_49_code
def l158_0 : List (Nat × Instr) := [(0, .aload_n 0), (1, .iconst 0), (2, .putfield 151), (5, .aload_n 0), (6, .iconst 0), (7, .putfield 161), (10, .aload_n 0), (11, .iconst 0), (12, .putfield 180), (15, .aload_n 0), (16, .getfield 180), (19, .ifCond .eq 29), (22, .aload_n 0), (23, .invokevirtual 209), (26, .ifCond .eq 6), (29, .goto (-14)), (32, .aload_n 0), (33, .invokevirtual 168), (36, .ifCond .lt 5), (39, .iconst 1), (40, .ireturn), (41, .aload_n 0), (42, .iconst 1), (43, .invokevirtual 183), (46, .iconst 0), (47, .ireturn), (48, .aload_n 0), (49, .invokevirtual 212), (52, .istore_n 1), (53, .iload_n 1), (54, .ifCond .eq 5), (57, .iload_n 1), (58, .ireturn), (59, .goto (-44))]
theorem k158_0 : dck c158 l158_0 := by unfold dck; decide +kernel
/-! 159: DawnPerquisiteModel.behindOne()Z -/
abbrev c159 : ByteArray := prog_20_method_48_code
def l159_0 : List (Nat × Instr) := [(0, .aload_n 0), (1, .invokevirtual 203), (4, .istore_n 1), (5, .iload_n 1), (6, .ifCond .lt 54), (9, .aload_n 0), (10, .iload_n 1), (11, .invokestatic 154), (14, .iconst 4), (15, .if_icmp .ne 7), (18, .iconst 5), (19, .goto 7), (22, .iload_n 1), (23, .invokestatic 154), (26, .invokevirtual 183), (29, .aload_n 0), (30, .getfield 29), (33, .aload_n 0), (34, .getfield 151), (37, .iload_n 1), (38, .iastore), (39, .aload_n 0), (40, .dup), (41, .getfield 151), (44, .iconst 1), (45, .iadd), (46, .putfield 151), (49, .aload_n 0), (50, .iconst 0), (51, .putfield 180), (54, .aload_n 0), (55, .invokevirtual 171), (58, .iconst 1), (59, .ireturn), (60, .aload_n 0), (61, .invokevirtual 168), (64, .istore_n 2), (65, .aload_n 0), (66, .iload_n 2), (67, .invokevirtual 206), (70, .istore_n 3), (71, .iload_n 3), (72, .ifCond .ge 5), (75, .iconst 0), (76, .ireturn), (77, .aload_n 0), (78, .iconst 1), (79, .invokevirtual 183), (82, .aload_n 0), (83, .invokevirtual 171), (86, .iload_n 3), (87, .ifCond .le 20), (90, .aload_n 0), (91, .getfield 29), (94, .aload_n 0), (95, .invokevirtual 164), (98, .iload_n 3), (99, .iastore), (100, .aload_n 0), (101, .iconst 0)]
theorem k159_0 : dck c159 l159_0 := by unfold dck; decide +kernel
def l159_1 : List (Nat × Instr) := [(102, .putfield 180), (105, .iconst 1), (106, .ireturn), (107, .aload_n 0), (108, .dup), (109, .getfield 161), (112, .iconst 1), (113, .isub), (114, .putfield 161), (117, .aload_n 0), (118, .dup), (119, .getfield 151), (122, .iconst 1), (123, .isub), (124, .putfield 151), (127, .iload_n 2), (128, .bipush 43), (130, .if_icmp .ne 9), (133, .aload_n 0), (134, .iconst 3), (135, .iconst 0), (136, .invokevirtual 157), (139, .aload_n 0), (140, .bipush 7), (142, .invokevirtual 183), (145, .iconst 1), (146, .ireturn)]
theorem k159_1 : dck c159 l159_1 := by unfold dck; decide +kernel
/-! 160: DawnPerquisiteModel.betweenOf()I -/
abbrev c160 : ByteArray := prog_20_method_46_code
def l160_0 : List (Nat × Instr) := [(0, .aload_n 0), (1, .getfield 104), (4, .bipush 43), (6, .if_icmp .ne 6), (9, .bipush 6), (11, .ireturn), (12, .aload_n 0), (13, .getfield 104), (16, .bipush 45), (18, .if_icmp .ne 6), (21, .bipush 7), (23, .ireturn), (24, .aload_n 0), (25, .getfield 104), (28, .bipush 42), (30, .if_icmp .ne 6), (33, .bipush 8), (35, .ireturn), (36, .aload_n 0), (37, .getfield 104), (40, .bipush 47), (42, .if_icmp .ne 6), (45, .bipush 9), (47, .ireturn), (48, .aload_n 0), (49, .invokevirtual 168), (52, .bipush 41), (54, .if_icmp .eq 5), (57, .iconst (-1)), (58, .ireturn), (59, .aload_n 0), (60, .invokevirtual 197), (63, .ifCond .ne 8), (66, .aload_n 0), (67, .invokevirtual 200), (70, .ireturn), (71, .aload_n 0), (72, .bipush 97), (74, .bipush 110), (76, .bipush 100), (78, .invokestatic 130), (81, .invokevirtual 189), (84, .ifCond .eq 8), (87, .bipush 21), (89, .goto 23), (92, .aload_n 0), (93, .bipush 111), (95, .bipush 114), (97, .invokestatic 126), (100, .invokevirtual 189), (103, .ifCond .eq 8), (106, .bipush 22), (108, .goto 4), (111, .iconst (-1)), (112, .ireturn)]
theorem k160_0 : dck c160 l160_0 := by unfold dck; decide +kernel
/-! 161: DawnPerquisiteModel.openNow()I -/
abbrev c161 : ByteArray := prog_20_method_40_code
def l161_0 : List (Nat × Instr) := [(0, .aload_n 0), (1, .invokevirtual 164), (4, .ifCond .ge 7), (7, .iconst (-1)), (8, .goto 12), (11, .aload_n 0), (12, .getfield 29), (15, .aload_n 0), (16, .invokevirtual 164), (19, .iaload), (20, .ireturn)]
theorem k161_0 : dck c161 l161_0 := by unfold dck; decide +kernel
/-! 162: DawnPerquisiteModel.openAt()I -/
abbrev c162 : ByteArray := prog_20_method_39_code
def l162_0 : List (Nat × Instr) := [(0, .aload_n 0), (1, .getfield 151), (4, .iconst 1), (5, .isub), (6, .istore_n 1), (7, .iload_n 1), (8, .ifCond .lt 20), (11, .aload_n 0), (12, .getfield 29), (15, .iload_n 1), (16, .iaload), (17, .bipush 40), (19, .if_icmp .ge 9), (22, .iinc 1 (-1)), (25, .goto (-18)), (28, .iload_n 1), (29, .ireturn)]
theorem k162_0 : dck c162 l162_0 := by unfold dck; decide +kernel
/-! 163: DawnPerquisiteModel.isCompared()Z -/
abbrev c163 : ByteArray := prog_20_method_41_code
def l163_0 : List (Nat × Instr) := [(0, .aload_n 0), (1, .getfield 151), (4, .iconst 1), (5, .isub), (6, .istore_n 1), (7, .iload_n 1), (8, .ifCond .lt 22), (11, .aload_n 0), (12, .getfield 29), (15, .iload_n 1), (16, .iaload), (17, .invokestatic 154), (20, .iconst 4), (21, .if_icmp .le 9), (24, .iinc 1 (-1)), (27, .goto (-20)), (30, .iload_n 1), (31, .ifCond .lt 20), (34, .aload_n 0), (35, .getfield 29), (38, .iload_n 1), (39, .iaload), (40, .invokestatic 154), (43, .iconst 4), (44, .if_icmp .ne 7), (47, .iconst 1), (48, .goto 4), (51, .iconst 0), (52, .ireturn)]
theorem k163_0 : dck c163 l163_0 := by unfold dck; decide +kernel
/-! 164: DawnPerquisiteModel.rank(I)I -/
abbrev c164 : ByteArray := prog_20_method_37_code
def l164_0 : List (Nat × Instr) := [(0, .iload_n 0), (1, .bipush 40), (3, .if_icmp .lt 7), (6, .iconst 0), (7, .goto 66), (10, .iload_n 0), (11, .bipush 22), (13, .if_icmp .ne 7), (16, .iconst 1), (17, .goto 56), (20, .iload_n 0), (21, .bipush 21), (23, .if_icmp .ne 7), (26, .iconst 2), (27, .goto 46), (30, .iload_n 0), (31, .bipush 20), (33, .if_icmp .ne 7), (36, .iconst 3), (37, .goto 36), (40, .iload_n 0), (41, .bipush 10), (43, .if_icmp .lt 7), (46, .iconst 4), (47, .goto 26), (50, .iload_n 0), (51, .bipush 8), (53, .if_icmp .lt 8), (56, .bipush 6), (58, .goto 15), (61, .iload_n 0), (62, .bipush 6), (64, .if_icmp .lt 7), (67, .iconst 5), (68, .goto 5), (71, .bipush 7), (73, .ireturn)]
theorem k164_0 : dck c164 l164_0 := by unfold dck; decide +kernel
/-! 165: DawnPerquisiteModel.compareOf()I -/
abbrev c165 : ByteArray := prog_20_method_45_code
def l165_0 : List (Nat × Instr) := [(0, .aload_n 0), (1, .getfield 104), (4, .bipush 60), (6, .if_icmp .ne 8), (9, .bipush 10), (11, .goto 72), (14, .aload_n 0), (15, .getfield 104), (18, .iconst 4), (19, .if_icmp .ne 8), (22, .bipush 11), (24, .goto 59), (27, .aload_n 0), (28, .getfield 104), (31, .bipush 62), (33, .if_icmp .ne 8), (36, .bipush 12), (38, .goto 45), (41, .aload_n 0), (42, .getfield 104), (45, .iconst 5), (46, .if_icmp .ne 8), (49, .bipush 13), (51, .goto 32), (54, .aload_n 0), (55, .getfield 104), (58, .bipush 61), (60, .if_icmp .ne 8), (63, .bipush 14), (65, .goto 18), (68, .aload_n 0), (69, .getfield 104), (72, .bipush 35), (74, .if_icmp .ne 8), (77, .bipush 15), (79, .goto 4), (82, .iconst (-1)), (83, .ireturn)]
theorem k165_0 : dck c165 l165_0 := by unfold dck; decide +kernel
/-! 166: DawnPerquisiteModel.settle(I)V -/
abbrev c166 : ByteArray := prog_20_method_38_code
def l166_0 : List (Nat × Instr) := [(0, .aload_n 0), (1, .getfield 151), (4, .ifCond .le 89), (7, .aload_n 0), (8, .getfield 29), (11, .aload_n 0), (12, .getfield 151), (15, .iconst 1), (16, .isub), (17, .iaload), (18, .invokestatic 154), (21, .iload_n 1), (22, .if_icmp .lt 71), (25, .aload_n 0), (26, .dup), (27, .getfield 151), (30, .iconst 1), (31, .isub), (32, .putfield 151), (35, .aload_n 0), (36, .aload_n 0), (37, .getfield 29), (40, .aload_n 0), (41, .getfield 151), (44, .iaload), (45, .iconst 0), (46, .invokevirtual 157), (49, .aload_n 0), (50, .getfield 29), (53, .aload_n 0), (54, .getfield 151), (57, .iaload), (58, .invokestatic 154), (61, .bipush 7), (63, .if_icmp .eq 17), (66, .aload_n 0), (67, .getfield 29), (70, .aload_n 0), (71, .getfield 151), (74, .iaload), (75, .bipush 20), (77, .if_icmp .ne (-77)), (80, .aload_n 0), (81, .dup), (82, .getfield 161), (85, .iconst 1), (86, .isub), (87, .putfield 161), (90, .goto (-90)), (93, .return_)]
theorem k166_0 : dck c166 l166_0 := by unfold dck; decide +kernel
/-! 167: DawnPerquisiteModel.emit(II)V -/
abbrev c167 : ByteArray := prog_20_method_34_code
def l167_0 : List (Nat × Instr) := [(0, .aload_n 0), (1, .getfield 16), (4, .aload_n 0), (5, .getfield 142), (8, .bipush 73), (10, .iadd), (11, .iconst 2), (12, .aload_n 0), (13, .getfield 145), (16, .imul), (17, .iadd), (18, .iload_n 1), (19, .iastore), (20, .aload_n 0), (21, .getfield 16), (24, .aload_n 0), (25, .getfield 142), (28, .bipush 73), (30, .iadd), (31, .iconst 2), (32, .aload_n 0), (33, .getfield 145), (36, .imul), (37, .iadd), (38, .iconst 1), (39, .iadd), (40, .iload_n 2), (41, .iastore), (42, .aload_n 0), (43, .dup), (44, .getfield 145), (47, .iconst 1), (48, .iadd), (49, .putfield 145), (52, .return_)]
theorem k167_0 : dck c167 l167_0 := by unfold dck; decide +kernel
/-! 168: DawnPerquisiteModel.partOf(I)I -/
abbrev c168 : ByteArray := prog_20_method_47_code
def l168_0 : List (Nat × Instr) := [(0, .iload_n 1), (32, .aload_n 0), (33, .getfield 104), (36, .bipush 41), (38, .if_icmp .ne 7), (41, .iconst 0), (42, .goto 4), (45, .iconst (-1)), (46, .ireturn), (47, .aload_n 0), (48, .bipush 116), (50, .bipush 104), (52, .bipush 101), (54, .bipush 110), (56, .invokestatic 134), (59, .invokevirtual 189), (62, .ifCond .eq 15), (65, .aload_n 0), (66, .invokevirtual 197), (69, .ifCond .eq 8), (72, .bipush 42), (74, .goto 4), (77, .iconst (-1)), (78, .ireturn), (79, .aload_n 0), (80, .bipush 101), (82, .bipush 108), (84, .bipush 115), (86, .bipush 101), (88, .invokestatic 134), (91, .invokevirtual 189), (94, .ifCond .eq 8), (97, .bipush 43), (99, .goto 4), (102, .iconst (-1)), (103, .ireturn), (104, .aload_n 0), (105, .bipush 101), (107, .bipush 110), (109, .bipush 100), (111, .invokestatic 130), (114, .invokevirtual 189), (117, .ifCond .eq 7), (120, .iconst 0), (121, .goto 4), (124, .iconst (-1)), (125, .ireturn), (126, .iconst (-1)), (127, .ireturn)]
theorem k168_0 : dck c168 l168_0 := by unfold dck; decide +kernel
theorem w168_1 : decode c168 1 = .ok (.tableswitch 125 40 43 #[31, 46, 78, 103], 31) := by decide +kernel
/-! 169: DawnPerquisiteModel.beginOne()I -/
abbrev c169 : ByteArray := prog_20_method_44_code
def l169_0 : List (Nat × Instr) := [(0, .aload_n 0), (1, .getfield 104), (4, .iconst 1), (5, .if_icmp .ne 15), (8, .aload_n 0), (9, .getfield 110), (12, .sipush 9999), (15, .if_icmp .le 5), (18, .iconst 2), (19, .ireturn), (20, .aload_n 0), (21, .invokevirtual 174), (24, .istore_n 1), (25, .iload_n 1), (26, .ifCond .lt 13), (29, .aload_n 0), (30, .iload_n 1), (31, .invokevirtual 177), (34, .ifCond .ne 5), (37, .iconst 5), (38, .ireturn), (39, .aload_n 0), (40, .getfield 104), (43, .iconst 1), (44, .if_icmp .eq 7), (47, .iload_n 1), (48, .ifCond .lt 53), (51, .aload_n 0), (52, .aload_n 0), (53, .getfield 104), (56, .iconst 1), (57, .if_icmp .ne 7), (60, .iconst 0), (61, .goto 4), (64, .iconst 1), (65, .aload_n 0), (66, .getfield 104), (69, .iconst 1), (70, .if_icmp .ne 10), (73, .aload_n 0), (74, .getfield 110), (77, .goto 4), (80, .iload_n 1), (81, .invokevirtual 157), (84, .aload_n 0), (85, .invokevirtual 171), (88, .aload_n 0), (89, .iconst 1), (90, .putfield 180), (93, .aload_n 0), (94, .bipush 7), (96, .invokevirtual 183), (99, .iconst 0), (100, .ireturn), (101, .aload_n 0), (102, .getfield 104), (105, .bipush 40), (107, .if_icmp .ne 10), (110, .aload_n 0), (111, .bipush 40)]
theorem k169_0 : dck c169 l169_0 := by unfold dck; decide +kernel
def l169_1 : List (Nat × Instr) := [(113, .invokevirtual 186), (116, .ireturn), (117, .aload_n 0), (118, .getfield 104), (121, .bipush 45), (123, .if_icmp .ne 9), (126, .aload_n 0), (127, .iconst 5), (128, .invokevirtual 186), (131, .ireturn), (132, .aload_n 0), (133, .bipush 119), (135, .bipush 111), (137, .bipush 114), (139, .bipush 116), (141, .bipush 104), (143, .invokestatic 138), (146, .invokevirtual 189), (149, .ifCond .eq 9), (152, .aload_n 0), (153, .iconst 2), (154, .invokevirtual 186), (157, .ireturn), (158, .aload_n 0), (159, .bipush 112), (161, .bipush 117), (163, .bipush 114), (165, .bipush 115), (167, .bipush 101), (169, .invokestatic 138), (172, .invokevirtual 189), (175, .ifCond .eq 9), (178, .aload_n 0), (179, .iconst 4), (180, .invokevirtual 186), (183, .ireturn), (184, .aload_n 0), (185, .bipush 105), (187, .bipush 102), (189, .invokestatic 126), (192, .invokevirtual 189), (195, .ifCond .eq 10), (198, .aload_n 0), (199, .bipush 41), (201, .invokevirtual 186), (204, .ireturn), (205, .aload_n 0), (206, .bipush 110), (208, .bipush 111), (210, .bipush 116), (212, .invokestatic 130), (215, .invokevirtual 189), (218, .ifCond .eq 19), (221, .aload_n 0), (222, .invokevirtual 193), (225, .ifCond .eq 12), (228, .aload_n 0), (229, .bipush 20), (231, .invokevirtual 186), (234, .goto 4)]
theorem k169_1 : dck c169 l169_1 := by unfold dck; decide +kernel
def l169_2 : List (Nat × Instr) := [(237, .iconst 1), (238, .ireturn)]
theorem k169_2 : dck c169 l169_2 := by unfold dck; decide +kernel
/-! 170: DawnPerquisiteModel.nameOf()I -/
abbrev c170 : ByteArray := prog_20_method_35_code
def l170_0 : List (Nat × Instr) := [(0, .aload_n 0), (1, .getfield 104), (4, .iconst 2), (5, .if_icmp .eq 5), (8, .iconst (-1)), (9, .ireturn), (10, .aload_n 0), (11, .getfield 117), (14, .bipush 100), (16, .bipush 97), (18, .bipush 121), (20, .invokestatic 130), (23, .lcmp), (24, .ifCond .ne 5), (27, .iconst 0), (28, .ireturn), (29, .aload_n 0), (30, .getfield 117), (33, .bipush 98), (35, .bipush 117), (37, .bipush 121), (39, .bipush 101), (41, .bipush 114), (43, .invokestatic 138), (46, .lcmp), (47, .ifCond .ne 5), (50, .iconst 1), (51, .ireturn), (52, .aload_n 0), (53, .getfield 117), (56, .bipush 115), (58, .bipush 111), (60, .bipush 114), (62, .bipush 116), (64, .invokestatic 134), (67, .lcmp), (68, .ifCond .ne 5), (71, .iconst 2), (72, .ireturn), (73, .aload_n 0), (74, .getfield 117), (77, .bipush 108), (79, .bipush 111), (81, .bipush 110), (83, .bipush 103), (85, .invokestatic 134), (88, .lcmp), (89, .ifCond .ne 5), (92, .iconst 3), (93, .ireturn), (94, .aload_n 0), (95, .getfield 117), (98, .bipush 111), (100, .bipush 119), (102, .bipush 110), (104, .invokestatic 130), (107, .lcmp), (108, .ifCond .ne 5), (111, .iconst 4), (112, .ireturn)]
theorem k170_0 : dck c170 l170_0 := by unfold dck; decide +kernel
def l170_1 : List (Nat × Instr) := [(113, .aload_n 0), (114, .getfield 117), (117, .bipush 102), (119, .bipush 114), (121, .bipush 101), (123, .bipush 101), (125, .invokestatic 134), (128, .lcmp), (129, .ifCond .ne 5), (132, .iconst 5), (133, .ireturn), (134, .aload_n 0), (135, .getfield 117), (138, .bipush 119), (140, .bipush 97), (142, .bipush 110), (144, .bipush 116), (146, .bipush 115), (148, .invokestatic 138), (151, .lcmp), (152, .ifCond .ne 8), (155, .bipush 6), (157, .goto 26), (160, .aload_n 0), (161, .getfield 117), (164, .bipush 104), (166, .bipush 97), (168, .bipush 115), (170, .invokestatic 130), (173, .lcmp), (174, .ifCond .ne 8), (177, .bipush 7), (179, .goto 4), (182, .iconst (-1)), (183, .ireturn)]
theorem k170_1 : dck c170 l170_1 := by unfold dck; decide +kernel
/-! 171: DawnPerquisiteModel.isOf(I)Z -/
abbrev c171 : ByteArray := prog_20_method_36_code
def l171_0 : List (Nat × Instr) := [(0, .iload_n 1), (1, .bipush 6), (3, .if_icmp .lt 27), (6, .iload_n 1), (7, .bipush 6), (9, .if_icmp .ne 13), (12, .aload_n 0), (13, .getfield 148), (16, .ifCond .ne 18), (19, .goto 11), (22, .aload_n 0), (23, .getfield 148), (26, .iconst 1), (27, .if_icmp .ne 7), (30, .iconst 1), (31, .goto 4), (34, .iconst 0), (35, .ireturn)]
theorem k171_0 : dck c171 l171_0 := by unfold dck; decide +kernel
/-! 172: DawnPerquisiteModel.opened(I)I -/
abbrev c172 : ByteArray := prog_20_method_43_code
def l172_0 : List (Nat × Instr) := [(0, .aload_n 0), (1, .getfield 161), (4, .bipush 8), (6, .if_icmp .ne 5), (9, .iconst 3), (10, .ireturn), (11, .aload_n 0), (12, .dup), (13, .getfield 161), (16, .iconst 1), (17, .iadd), (18, .putfield 161), (21, .aload_n 0), (22, .getfield 29), (25, .aload_n 0), (26, .getfield 151), (29, .iload_n 1), (30, .iastore), (31, .aload_n 0), (32, .dup), (33, .getfield 151), (36, .iconst 1), (37, .iadd), (38, .putfield 151), (41, .aload_n 0), (42, .invokevirtual 171), (45, .iconst 0), (46, .ireturn)]
theorem k172_0 : dck c172 l172_0 := by unfold dck; decide +kernel
/-! 173: DawnPerquisiteModel.isAskAhead()Z -/
abbrev c173 : ByteArray := prog_20_method_42_code
def l173_0 : List (Nat × Instr) := [(0, .aload_n 0), (1, .invokevirtual 168), (4, .bipush 41), (6, .if_icmp .ne 45), (9, .aload_n 0), (10, .getfield 29), (13, .aload_n 0), (14, .getfield 151), (17, .iconst 1), (18, .isub), (19, .iaload), (20, .bipush 40), (22, .if_icmp .ge 25), (25, .aload_n 0), (26, .getfield 29), (29, .aload_n 0), (30, .getfield 151), (33, .iconst 1), (34, .isub), (35, .iaload), (36, .invokestatic 154), (39, .iconst 1), (40, .iconst 3), (41, .invokestatic 63), (44, .ifCond .eq 7), (47, .iconst 1), (48, .goto 4), (51, .iconst 0), (52, .ireturn)]
theorem k173_0 : dck c173 l173_0 := by unfold dck; decide +kernel
/-! 174: DawnPerquisiteModel.fault(I)I -/
abbrev c174 : ByteArray := prog_20_method_59_code
def l174_0 : List (Nat × Instr) := [(0, .iload_n 1), (1, .ifCond .ne 10), (4, .aload_n 0), (5, .getfield 22), (8, .goto 16), (11, .iload_n 1), (12, .iconst 1), (13, .if_icmp .ne 10), (16, .aload_n 0), (17, .getfield 26), (20, .goto 4), (23, .iconst (-1)), (24, .ireturn)]
theorem k174_0 : dck c174 l174_0 := by unfold dck; decide +kernel
/-! 175: DawnPerquisiteModel.by(I)Z -/
abbrev c175 : ByteArray := prog_20_method_60_code
def l175_0 : List (Nat × Instr) := [(0, .iload_n 1), (1, .iconst (-1)), (2, .aload_n 0), (3, .getfield 7), (6, .iconst 1), (7, .iaload), (8, .iconst 1), (9, .isub), (10, .invokestatic 63), (13, .ifCond .ne 5), (16, .iconst 0), (17, .ireturn), (18, .aload_n 0), (19, .getfield 7), (22, .iconst 2), (23, .iload_n 1), (24, .iastore), (25, .iconst 1), (26, .ireturn)]
theorem k175_0 : dck c175 l175_0 := by unfold dck; decide +kernel
/-! 176: DawnPerquisiteModel.undo()I -/
abbrev c176 : ByteArray := prog_20_method_84_code
def l176_0 : List (Nat × Instr) := [(0, .aload_n 0), (1, .getfield 7), (4, .iconst 3), (5, .iaload), (6, .ifCond .ne 5), (9, .iconst (-1)), (10, .ireturn), (11, .aload_n 0), (12, .getfield 7), (15, .iconst 3), (16, .dup2), (17, .iaload), (18, .iconst 1), (19, .isub), (20, .iastore), (21, .bipush 97), (23, .bipush 49), (25, .aload_n 0), (26, .getfield 7), (29, .iconst 3), (30, .iaload), (31, .imul), (32, .iadd), (33, .istore_n 1), (34, .iconst 0), (35, .istore_n 2), (36, .iload_n 2), (37, .bipush 23), (39, .if_icmp .ge 28), (42, .aload_n 0), (43, .getfield 7), (46, .bipush 6), (48, .iload_n 2), (49, .iadd), (50, .aload_n 0), (51, .getfield 7), (54, .iload_n 1), (55, .iconst 1), (56, .iadd), (57, .iload_n 2), (58, .iadd), (59, .iaload), (60, .iastore), (61, .iinc 2 1), (64, .goto (-28)), (67, .aload_n 0), (68, .getfield 7), (71, .iload_n 1), (72, .iaload), (73, .istore_n 2), (74, .iload_n 2), (75, .aload_n 0), (76, .getfield 7), (79, .iconst 0), (80, .iaload), (81, .if_icmp .ge 27), (84, .aload_n 0), (85, .getfield 7), (88, .bipush 23), (90, .iload_n 2)]
theorem k176_0 : dck c176 l176_0 := by unfold dck; decide +kernel
def l176_1 : List (Nat × Instr) := [(91, .iadd), (92, .aload_n 0), (93, .getfield 7), (96, .bipush 57), (98, .iload_n 2), (99, .iadd), (100, .iaload), (101, .iastore), (102, .iinc 2 1), (105, .goto (-31)), (108, .iconst 0), (109, .istore_n 2), (110, .iload_n 2), (111, .bipush 25), (113, .if_icmp .ge 32), (116, .aload_n 0), (117, .getfield 7), (120, .sipush 1567), (123, .iload_n 2), (124, .iadd), (125, .aload_n 0), (126, .getfield 7), (129, .iload_n 1), (130, .iconst 1), (131, .iadd), (132, .bipush 23), (134, .iadd), (135, .iload_n 2), (136, .iadd), (137, .iaload), (138, .iastore), (139, .iinc 2 1), (142, .goto (-32)), (145, .aload_n 0), (146, .getfield 7), (149, .iconst 3), (150, .iaload), (151, .ireturn)]
theorem k176_1 : dck c176 l176_1 := by unfold dck; decide +kernel
/-! 177: DawnPerquisiteModel.sell(I)I -/
abbrev c177 : ByteArray := prog_20_method_85_code
def l177_0 : List (Nat × Instr) := [(0, .aload_n 0), (1, .iload_n 1), (2, .invokevirtual 336), (5, .ifCond .ne 5), (8, .iconst (-1)), (9, .ireturn), (10, .aload_n 0), (11, .invokevirtual 339), (14, .aload_n 0), (15, .iload_n 1), (16, .invokevirtual 342), (19, .ireturn)]
theorem k177_0 : dck c177 l177_0 := by unfold dck; decide +kernel
/-! 178: DawnPerquisiteModel.canSell(I)Z -/
abbrev c178 : ByteArray := prog_20_method_75_code
def l178_0 : List (Nat × Instr) := [(0, .aload_n 0), (1, .iload_n 1), (2, .invokevirtual 308), (5, .ifCond .eq 54), (8, .aload_n 0), (9, .iload_n 1), (10, .aload_n 0), (11, .getfield 7), (14, .bipush 9), (16, .iaload), (17, .invokevirtual 283), (20, .ifCond .eq 39), (23, .aload_n 0), (24, .iload_n 1), (25, .invokevirtual 311), (28, .aload_n 0), (29, .invokevirtual 280), (32, .iconst (-1)), (33, .ixor), (34, .iand), (35, .ifCond .ne 24), (38, .aload_n 0), (39, .getfield 7), (42, .bipush 23), (44, .iload_n 1), (45, .iadd), (46, .iaload), (47, .aload_n 0), (48, .iload_n 1), (49, .invokevirtual 314), (52, .if_icmp .lt 7), (55, .iconst 1), (56, .goto 4), (59, .iconst 0), (60, .ireturn)]
theorem k178_0 : dck c178 l178_0 := by unfold dck; decide +kernel
/-! 179: DawnPerquisiteModel.isBuyer(I)Z -/
abbrev c179 : ByteArray := prog_20_method_7_code
def l179_0 : List (Nat × Instr) := [(0, .iload_n 1), (1, .iconst 0), (2, .aload_n 0), (3, .getfield 7), (6, .iconst 0), (7, .iaload), (8, .iconst 1), (9, .isub), (10, .invokestatic 63), (13, .ireturn)]
theorem k179_0 : dck c179 l179_0 := by unfold dck; decide +kernel
/-! 180: DawnPerquisiteModel.doesWant(II)Z -/
abbrev c180 : ByteArray := prog_20_method_11_code
def l180_0 : List (Nat × Instr) := [(0, .aload_n 0), (1, .getfield 7), (4, .bipush 39), (6, .iload_n 1), (7, .iadd), (8, .iaload), (9, .iload_n 2), (10, .invokestatic 67), (13, .ireturn)]
theorem k180_0 : dck c180 l180_0 := by unfold dck; decide +kernel
/-! 181: DawnPerquisiteModel.slicesOf(I)I -/
abbrev c181 : ByteArray := prog_20_method_13_code
def l181_0 : List (Nat × Instr) := [(0, .iconst 1), (1, .aload_n 0), (2, .iload_n 1), (3, .invokevirtual 71), (6, .ishl), (7, .iconst 1), (8, .isub), (9, .aload_n 0), (10, .getfield 7), (13, .bipush 45), (15, .iload_n 1), (16, .iadd), (17, .iaload), (18, .ishl), (19, .ireturn)]
theorem k181_0 : dck c181 l181_0 := by unfold dck; decide +kernel
/-! 182: DawnPerquisiteModel.longOf(I)I -/
abbrev c182 : ByteArray := prog_20_method_12_code
def l182_0 : List (Nat × Instr) := [(0, .aload_n 0), (1, .getfield 7), (4, .bipush 51), (6, .iload_n 1), (7, .iadd), (8, .iaload), (9, .aload_n 0), (10, .getfield 7), (13, .bipush 45), (15, .iload_n 1), (16, .iadd), (17, .iaload), (18, .isub), (19, .iconst 1), (20, .iadd), (21, .ireturn)]
theorem k182_0 : dck c182 l182_0 := by unfold dck; decide +kernel
/-! 183: DawnPerquisiteModel.freeNow()I -/
abbrev c183 : ByteArray := prog_20_method_14_code
def l183_0 : List (Nat × Instr) := [(0, .iconst 0), (1, .istore_n 1), (2, .iconst 0), (3, .istore_n 2), (4, .iload_n 2), (5, .bipush 12), (7, .if_icmp .ge 32), (10, .iload_n 1), (11, .aload_n 0), (12, .getfield 7), (15, .bipush 11), (17, .iload_n 2), (18, .iadd), (19, .iaload), (20, .iconst (-1)), (21, .if_icmp .ne 9), (24, .iconst 1), (25, .iload_n 2), (26, .ishl), (27, .goto 4), (30, .iconst 0), (31, .ior), (32, .istore_n 1), (33, .iinc 2 1), (36, .goto (-32)), (39, .iload_n 1), (40, .ireturn)]
theorem k183_0 : dck c183 l183_0 := by unfold dck; decide +kernel
/-! 184: DawnPerquisiteModel.bidsNow(I)I -/
abbrev c184 : ByteArray := prog_20_method_70_code
def l184_0 : List (Nat × Instr) := [(0, .aload_n 0), (1, .aload_n 0), (2, .getfield 7), (5, .iconst 2), (6, .iaload), (7, .iload_n 1), (8, .aload_n 0), (9, .getfield 7), (12, .bipush 9), (14, .iaload), (15, .invokevirtual 296), (18, .ireturn)]
theorem k184_0 : dck c184 l184_0 := by unfold dck; decide +kernel
/-! 185: DawnPerquisiteModel.bidsOf(III)I -/
abbrev c185 : ByteArray := prog_20_method_69_code
def l185_0 : List (Nat × Instr) := [(0, .aload_n 0), (1, .iload_n 2), (2, .iload_n 3), (3, .invokevirtual 289), (6, .aload_n 0), (7, .iload_n 1), (8, .iconst 0), (9, .aload_n 0), (10, .getfield 7), (13, .bipush 34), (15, .iload_n 3), (16, .iadd), (17, .iaload), (18, .aload_n 0), (19, .iload_n 2), (20, .invokevirtual 71), (23, .imul), (24, .bipush 12), (26, .idiv), (27, .iconst 0), (28, .bipush 99), (30, .invokevirtual 292), (33, .ireturn)]
theorem k185_0 : dck c185 l185_0 := by unfold dck; decide +kernel
/-! 186: DawnPerquisiteModel.name(II)V -/
abbrev c186 : ByteArray := prog_20_method_68_code
def l186_0 : List (Nat × Instr) := [(0, .aload_n 0), (1, .getfield 32), (4, .iconst 0), (5, .aload_n 0), (6, .getfield 7), (9, .bipush 6), (11, .iaload), (12, .iastore), (13, .aload_n 0), (14, .getfield 32), (17, .iconst 1), (18, .iload_n 1), (19, .iastore), (20, .aload_n 0), (21, .getfield 32), (24, .iconst 2), (25, .iload_n 2), (26, .iastore), (27, .aload_n 0), (28, .getfield 32), (31, .iconst 3), (32, .aload_n 0), (33, .iload_n 1), (34, .invokevirtual 71), (37, .iastore), (38, .aload_n 0), (39, .getfield 32), (42, .iconst 4), (43, .aload_n 0), (44, .getfield 7), (47, .bipush 23), (49, .iload_n 1), (50, .iadd), (51, .iaload), (52, .iastore), (53, .aload_n 0), (54, .getfield 32), (57, .iconst 5), (58, .aload_n 0), (59, .invokevirtual 280), (62, .invokestatic 78), (65, .iastore), (66, .aload_n 0), (67, .getfield 32), (70, .bipush 6), (72, .aload_n 0), (73, .iload_n 1), (74, .iload_n 2), (75, .invokevirtual 283), (78, .ifCond .eq 7), (81, .iconst 1), (82, .goto 4), (85, .iconst 0), (86, .iastore), (87, .aload_n 0), (88, .getfield 32), (91, .bipush 7), (93, .aload_n 0), (94, .iload_n 1), (95, .invokevirtual 286)]
theorem k186_0 : dck c186 l186_0 := by unfold dck; decide +kernel
def l186_1 : List (Nat × Instr) := [(98, .iastore), (99, .return_)]
theorem k186_1 : dck c186 l186_1 := by unfold dck; decide +kernel
/-! 187: DawnPerquisiteModel.bits(I)I -/
abbrev c187 : ByteArray := prog_20_method_6_code
def l187_0 : List (Nat × Instr) := [(0, .iconst 0), (1, .istore_n 1), (2, .iload_n 0), (3, .istore_n 2), (4, .iload_n 2), (5, .ifCond .eq 15), (8, .iinc 1 1), (11, .iload_n 2), (12, .iload_n 2), (13, .iconst 1), (14, .isub), (15, .iand), (16, .istore_n 2), (17, .goto (-13)), (20, .iload_n 1), (21, .ireturn)]
theorem k187_0 : dck c187 l187_0 := by unfold dck; decide +kernel
/-! 188: DawnPerquisiteModel.hasNow(I)I -/
abbrev c188 : ByteArray := prog_20_method_16_code
def l188_0 : List (Nat × Instr) := [(0, .aload_n 0), (1, .iload_n 1), (2, .invokevirtual 75), (5, .invokestatic 78), (8, .ireturn)]
theorem k188_0 : dck c188 l188_0 := by unfold dck; decide +kernel
/-! 189: DawnPerquisiteModel.ownNow(I)I -/
abbrev c189 : ByteArray := prog_20_method_15_code
def l189_0 : List (Nat × Instr) := [(0, .iconst 0), (1, .istore_n 2), (2, .iconst 0), (3, .istore_n 3), (4, .iload_n 3), (5, .bipush 12), (7, .if_icmp .ge 32), (10, .iload_n 2), (11, .aload_n 0), (12, .getfield 7), (15, .bipush 11), (17, .iload_n 3), (18, .iadd), (19, .iaload), (20, .iload_n 1), (21, .if_icmp .ne 9), (24, .iconst 1), (25, .iload_n 3), (26, .ishl), (27, .goto 4), (30, .iconst 0), (31, .ior), (32, .istore_n 2), (33, .iinc 3 1), (36, .goto (-32)), (39, .iload_n 2), (40, .ireturn)]
theorem k189_0 : dck c189 l189_0 := by unfold dck; decide +kernel
/-! 190: DawnPerquisiteModel.says(IIIII)I -/
abbrev c190 : ByteArray := prog_20_method_67_code
def l190_0 : List (Nat × Instr) := [(0, .iconst 0), (1, .istore 6), (3, .iload_n 1), (4, .ifCond .lt 60), (7, .iload 6), (9, .aload_n 0), (10, .getfield 16), (13, .sipush 681), (16, .iload_n 1), (17, .imul), (18, .iaload), (19, .if_icmp .ge 45), (22, .aload_n 0), (23, .getfield 16), (26, .sipush 681), (29, .iload_n 1), (30, .imul), (31, .iconst 1), (32, .iadd), (33, .iconst 3), (34, .iload 6), (36, .imul), (37, .iadd), (38, .iaload), (39, .iload_n 2), (40, .if_icmp .ne 18), (43, .aload_n 0), (44, .iload_n 1), (45, .iload 6), (47, .invokevirtual 273), (50, .iload 4), (52, .iload 5), (54, .invokestatic 276), (57, .ireturn), (58, .iinc 6 1), (61, .goto (-58)), (64, .iload_n 3), (65, .ireturn)]
theorem k190_0 : dck c190 l190_0 := by unfold dck; decide +kernel
/-! 191: DawnPerquisiteModel.summedUp(II)J -/
abbrev c191 : ByteArray := prog_20_method_66_code
def l191_0 : List (Nat × Instr) := [(0, .sipush 681), (3, .iload_n 1), (4, .imul), (5, .iconst 1), (6, .iadd), (7, .iconst 3), (8, .iload_n 2), (9, .imul), (10, .iadd), (11, .istore_n 3), (12, .sipush 681), (15, .iload_n 1), (16, .imul), (17, .bipush 73), (19, .iadd), (20, .istore 4), (22, .iconst 0), (23, .istore 5), (25, .iconst 0), (26, .istore 6), (28, .aload_n 0), (29, .getfield 16), (32, .iload_n 3), (33, .iconst 1), (34, .iadd), (35, .iaload), (36, .istore 7), (38, .iload 7), (40, .aload_n 0), (41, .getfield 16), (44, .iload_n 3), (45, .iconst 2), (46, .iadd), (47, .iaload), (48, .if_icmp .ge 307), (51, .aload_n 0), (52, .getfield 16), (55, .iload 4), (57, .iconst 2), (58, .iload 7), (60, .imul), (61, .iadd), (62, .iaload), (63, .istore 8), (65, .aload_n 0), (66, .getfield 16), (69, .iload 4), (71, .iconst 2), (72, .iload 7), (74, .imul), (75, .iadd), (76, .iconst 1), (77, .iadd), (78, .iaload), (79, .istore 9), (81, .iload 8), (83, .iconst 1), (84, .if_icmp .gt 35), (87, .aload_n 0), (88, .getfield 35)]
theorem k191_0 : dck c191 l191_0 := by unfold dck; decide +kernel
def l191_1 : List (Nat × Instr) := [(91, .iload 5), (93, .iload 8), (95, .ifCond .ne 9), (98, .iload 9), (100, .i2l), (101, .goto 11), (104, .aload_n 0), (105, .getfield 32), (108, .iload 9), (110, .iaload), (111, .i2l), (112, .lastore), (113, .iinc 5 1), (116, .goto 233), (119, .iload 8), (121, .iconst 3), (122, .if_icmp .ne 38), (125, .iinc 5 (-1)), (128, .iinc 6 (-1)), (131, .aload_n 0), (132, .getfield 39), (135, .iload 6), (137, .baload), (138, .ifCond .ne 211), (141, .aload_n 0), (142, .getfield 35), (145, .iload 5), (147, .iconst 1), (148, .isub), (149, .aload_n 0), (150, .getfield 35), (153, .iload 5), (155, .laload), (156, .lastore), (157, .goto 192), (160, .iload 8), (162, .iconst 5), (163, .if_icmp .gt 30), (166, .aload_n 0), (167, .getfield 35), (170, .iload 5), (172, .iconst 1), (173, .isub), (174, .aload_n 0), (175, .iload 8), (177, .aload_n 0), (178, .getfield 35), (181, .iload 5), (183, .iconst 1), (184, .isub), (185, .laload), (186, .invokevirtual 257), (189, .lastore), (190, .goto 159), (193, .iload 8), (195, .bipush 10), (197, .if_icmp .ge 39), (200, .iinc 5 (-1)), (203, .aload_n 0), (204, .getfield 35)]
theorem k191_1 : dck c191 l191_1 := by unfold dck; decide +kernel
def l191_2 : List (Nat × Instr) := [(207, .iload 5), (209, .iconst 1), (210, .isub), (211, .iload 8), (213, .aload_n 0), (214, .getfield 35), (217, .iload 5), (219, .iconst 1), (220, .isub), (221, .laload), (222, .aload_n 0), (223, .getfield 35), (226, .iload 5), (228, .laload), (229, .invokestatic 261), (232, .lastore), (233, .goto 116), (236, .iload 8), (238, .bipush 20), (240, .if_icmp .ge 40), (243, .iinc 5 (-2)), (246, .aload_n 0), (247, .getfield 39), (250, .iload 6), (252, .iload 8), (254, .aload_n 0), (255, .getfield 35), (258, .iload 5), (260, .laload), (261, .aload_n 0), (262, .getfield 35), (265, .iload 5), (267, .iconst 1), (268, .iadd), (269, .laload), (270, .invokestatic 265), (273, .bastore), (274, .iinc 6 1), (277, .goto 72), (280, .iload 8), (282, .bipush 20), (284, .if_icmp .ne 32), (287, .aload_n 0), (288, .getfield 39), (291, .iload 6), (293, .iconst 1), (294, .isub), (295, .aload_n 0), (296, .getfield 39), (299, .iload 6), (301, .iconst 1), (302, .isub), (303, .baload), (304, .ifCond .ne 7), (307, .iconst 1), (308, .goto 4), (311, .iconst 0), (312, .bastore), (313, .goto 36), (316, .iinc 6 (-1))]
theorem k191_2 : dck c191 l191_2 := by unfold dck; decide +kernel
def l191_3 : List (Nat × Instr) := [(319, .aload_n 0), (320, .getfield 39), (323, .iload 6), (325, .iconst 1), (326, .isub), (327, .iload 8), (329, .aload_n 0), (330, .getfield 39), (333, .iload 6), (335, .iconst 1), (336, .isub), (337, .baload), (338, .aload_n 0), (339, .getfield 39), (342, .iload 6), (344, .baload), (345, .invokestatic 269), (348, .bastore), (349, .iinc 7 1), (352, .goto (-314)), (355, .aload_n 0), (356, .getfield 35), (359, .iconst 0), (360, .laload), (361, .lreturn)]
theorem k191_3 : dck c191 l191_3 := by unfold dck; decide +kernel
/-! 192: DawnPerquisiteModel.ofOne(IJ)J -/
abbrev c192 : ByteArray := prog_20_method_64_code
def l192_0 : List (Nat × Instr) := [(0, .iload_n 1), (1, .iconst 5), (2, .if_icmp .ne 6), (5, .lload_n 2), (6, .lneg), (7, .lreturn), (8, .iload_n 1), (9, .iconst 2), (10, .if_icmp .ne 33), (13, .lload_n 2), (14, .lconst 0), (15, .lcmp), (16, .ifCond .lt 25), (19, .lload_n 2), (20, .ldc2_w 255), (23, .lcmp), (24, .ifCond .ge 17), (27, .aload_n 0), (28, .getfield 7), (31, .bipush 34), (33, .lload_n 2), (34, .l2i), (35, .iadd), (36, .iaload), (37, .i2l), (38, .goto 4), (41, .lconst 0), (42, .lreturn), (43, .lload_n 2), (44, .lconst 0), (45, .lcmp), (46, .ifCond .lt 29), (49, .lload_n 2), (50, .aload_n 0), (51, .getfield 7), (54, .iconst 0), (55, .iaload), (56, .i2l), (57, .lcmp), (58, .ifCond .ge 17), (61, .aload_n 0), (62, .getfield 7), (65, .bipush 23), (67, .lload_n 2), (68, .l2i), (69, .iadd), (70, .iaload), (71, .i2l), (72, .goto 4), (75, .lconst 0), (76, .lreturn)]
theorem k192_0 : dck c192 l192_0 := by unfold dck; decide +kernel
/-! 193: DawnPerquisiteModel.two(IJJ)J -/
abbrev c193 : ByteArray := prog_20_method_62_code
def l193_0 : List (Nat × Instr) := [(0, .iload_n 0), (28, .lload_n 1), (29, .lload_n 3), (30, .ladd), (31, .invokestatic 251), (34, .lreturn), (35, .lload_n 1), (36, .lload_n 3), (37, .lsub), (38, .invokestatic 251), (41, .lreturn), (42, .lload_n 1), (43, .lload_n 3), (44, .lmul), (45, .invokestatic 251), (48, .lreturn), (49, .lload_n 3), (50, .lconst 0), (51, .lcmp), (52, .ifCond .ne 7), (55, .lconst 0), (56, .goto 9), (59, .lload_n 1), (60, .lload_n 3), (61, .ldiv), (62, .invokestatic 251), (65, .lreturn)]
theorem k193_0 : dck c193 l193_0 := by unfold dck; decide +kernel
theorem w193_1 : decode c193 1 = .ok (.tableswitch 48 6 8 #[27, 34, 41], 27) := by decide +kernel
/-! 194: DawnPerquisiteModel.clip(J)J -/
abbrev c194 : ByteArray := prog_20_method_61_code
def l194_0 : List (Nat × Instr) := [(0, .lload_n 0), (1, .ldc2_w 247), (4, .lcmp), (5, .ifCond .le 9), (8, .ldc2_w 247), (11, .goto 18), (14, .lload_n 0), (15, .ldc2_w 249), (18, .lcmp), (19, .ifCond .ge 9), (22, .ldc2_w 249), (25, .goto 4), (28, .lload_n 0), (29, .lreturn)]
theorem k194_0 : dck c194 l194_0 := by unfold dck; decide +kernel
/-! 195: DawnPerquisiteModel.isAsked(IJJ)Z -/
abbrev c195 : ByteArray := prog_20_method_63_code
def l195_0 : List (Nat × Instr) := [(0, .iload_n 0), (1, .bipush 10), (3, .if_icmp .ne 17), (6, .lload_n 1), (7, .lload_n 3), (8, .lcmp), (9, .ifCond .ge 7), (12, .iconst 1), (13, .goto 98), (16, .iconst 0), (17, .goto 94), (20, .iload_n 0), (21, .bipush 11), (23, .if_icmp .ne 17), (26, .lload_n 1), (27, .lload_n 3), (28, .lcmp), (29, .ifCond .gt 7), (32, .iconst 1), (33, .goto 78), (36, .iconst 0), (37, .goto 74), (40, .iload_n 0), (41, .bipush 12), (43, .if_icmp .ne 17), (46, .lload_n 1), (47, .lload_n 3), (48, .lcmp), (49, .ifCond .le 7), (52, .iconst 1), (53, .goto 58), (56, .iconst 0), (57, .goto 54), (60, .iload_n 0), (61, .bipush 13), (63, .if_icmp .ne 17), (66, .lload_n 1), (67, .lload_n 3), (68, .lcmp), (69, .ifCond .lt 7), (72, .iconst 1), (73, .goto 38), (76, .iconst 0), (77, .goto 34), (80, .iload_n 0), (81, .bipush 14), (83, .if_icmp .ne 17), (86, .lload_n 1), (87, .lload_n 3), (88, .lcmp), (89, .ifCond .ne 7), (92, .iconst 1), (93, .goto 18), (96, .iconst 0), (97, .goto 14), (100, .lload_n 1), (101, .lload_n 3), (102, .lcmp), (103, .ifCond .eq 7), (106, .iconst 1)]
theorem k195_0 : dck c195 l195_0 := by unfold dck; decide +kernel
def l195_1 : List (Nat × Instr) := [(107, .goto 4), (110, .iconst 0), (111, .ireturn)]
theorem k195_1 : dck c195 l195_1 := by unfold dck; decide +kernel
/-! 196: DawnPerquisiteModel.joined(IZZ)Z -/
abbrev c196 : ByteArray := prog_20_method_65_code
def l196_0 : List (Nat × Instr) := [(0, .iload_n 0), (1, .bipush 21), (3, .if_icmp .ne 19), (6, .iload_n 1), (7, .ifCond .eq 11), (10, .iload_n 2), (11, .ifCond .eq 7), (14, .iconst 1), (15, .goto 20), (18, .iconst 0), (19, .goto 16), (22, .iload_n 1), (23, .ifCond .ne 7), (26, .iload_n 2), (27, .ifCond .eq 7), (30, .iconst 1), (31, .goto 4), (34, .iconst 0), (35, .ireturn)]
theorem k196_0 : dck c196 l196_0 := by unfold dck; decide +kernel
/-! 197: DawnPerquisiteModel.held(JII)I -/
abbrev c197 : ByteArray := prog_20_method_4_code
def l197_0 : List (Nat × Instr) := [(0, .lload_n 0), (1, .iload_n 2), (2, .i2l), (3, .lcmp), (4, .ifCond .ge 7), (7, .iload_n 2), (8, .goto 16), (11, .lload_n 0), (12, .iload_n 3), (13, .i2l), (14, .lcmp), (15, .ifCond .le 7), (18, .iload_n 3), (19, .goto 5), (22, .lload_n 0), (23, .l2i), (24, .ireturn)]
theorem k197_0 : dck c197 l197_0 := by unfold dck; decide +kernel
/-! 198: DawnPerquisiteModel.keepStep()V -/
abbrev c198 : ByteArray := prog_20_method_83_code
def l198_0 : List (Nat × Instr) := [(0, .aload_n 0), (1, .getfield 7), (4, .iconst 3), (5, .iaload), (6, .bipush 30), (8, .if_icmp .ne 47), (11, .iconst 0), (12, .istore_n 1), (13, .iload_n 1), (14, .sipush 1421), (17, .if_icmp .ge 28), (20, .aload_n 0), (21, .getfield 7), (24, .bipush 97), (26, .iload_n 1), (27, .iadd), (28, .aload_n 0), (29, .getfield 7), (32, .sipush 146), (35, .iload_n 1), (36, .iadd), (37, .iaload), (38, .iastore), (39, .iinc 1 1), (42, .goto (-29)), (45, .aload_n 0), (46, .getfield 7), (49, .iconst 3), (50, .dup2), (51, .iaload), (52, .iconst 1), (53, .isub), (54, .iastore), (55, .bipush 97), (57, .bipush 49), (59, .aload_n 0), (60, .getfield 7), (63, .iconst 3), (64, .iaload), (65, .imul), (66, .iadd), (67, .istore_n 1), (68, .aload_n 0), (69, .getfield 7), (72, .iload_n 1), (73, .aload_n 0), (74, .getfield 7), (77, .iconst 0), (78, .iaload), (79, .iastore), (80, .iconst 0), (81, .istore_n 2), (82, .iload_n 2), (83, .bipush 23), (85, .if_icmp .ge 28), (88, .aload_n 0), (89, .getfield 7), (92, .iload_n 1), (93, .iconst 1), (94, .iadd)]
theorem k198_0 : dck c198 l198_0 := by unfold dck; decide +kernel
def l198_1 : List (Nat × Instr) := [(95, .iload_n 2), (96, .iadd), (97, .aload_n 0), (98, .getfield 7), (101, .bipush 6), (103, .iload_n 2), (104, .iadd), (105, .iaload), (106, .iastore), (107, .iinc 2 1), (110, .goto (-28)), (113, .iconst 0), (114, .istore_n 2), (115, .iload_n 2), (116, .bipush 25), (118, .if_icmp .ge 32), (121, .aload_n 0), (122, .getfield 7), (125, .iload_n 1), (126, .iconst 1), (127, .iadd), (128, .bipush 23), (130, .iadd), (131, .iload_n 2), (132, .iadd), (133, .aload_n 0), (134, .getfield 7), (137, .sipush 1567), (140, .iload_n 2), (141, .iadd), (142, .iaload), (143, .iastore), (144, .iinc 2 1), (147, .goto (-32)), (150, .aload_n 0), (151, .getfield 7), (154, .iconst 3), (155, .dup2), (156, .iaload), (157, .iconst 1), (158, .iadd), (159, .iastore), (160, .return_)]
theorem k198_1 : dck c198 l198_1 := by unfold dck; decide +kernel
/-! 199: DawnPerquisiteModel.sellNow(I)I -/
abbrev c199 : ByteArray := prog_20_method_76_code
def l199_0 : List (Nat × Instr) := [(0, .aload_n 0), (1, .iload_n 1), (2, .invokevirtual 314), (5, .istore_n 2), (6, .aload_n 0), (7, .getfield 7), (10, .bipush 23), (12, .iload_n 1), (13, .iadd), (14, .dup2), (15, .iaload), (16, .iload_n 2), (17, .isub), (18, .iastore), (19, .aload_n 0), (20, .getfield 7), (23, .bipush 8), (25, .aload_n 0), (26, .getfield 7), (29, .bipush 8), (31, .iaload), (32, .iload_n 2), (33, .iadd), (34, .i2l), (35, .iconst 0), (36, .ldc 113), (38, .invokestatic 276), (41, .iastore), (42, .aload_n 0), (43, .getfield 7), (46, .bipush 45), (48, .iload_n 1), (49, .iadd), (50, .iaload), (51, .istore_n 3), (52, .iload_n 3), (53, .aload_n 0), (54, .getfield 7), (57, .bipush 51), (59, .iload_n 1), (60, .iadd), (61, .iaload), (62, .if_icmp .gt 19), (65, .aload_n 0), (66, .getfield 7), (69, .bipush 11), (71, .iload_n 3), (72, .iadd), (73, .iload_n 1), (74, .iastore), (75, .iinc 3 1), (78, .goto (-26)), (81, .aload_n 0), (82, .iconst 0), (83, .iload_n 1), (84, .iload_n 2), (85, .invokevirtual 317), (88, .iload_n 2), (89, .ireturn)]
theorem k199_0 : dck c199 l199_0 := by unfold dck; decide +kernel
/-! 200: DawnPerquisiteModel.write(III)V -/
abbrev c200 : ByteArray := prog_20_method_72_code
def l200_0 : List (Nat × Instr) := [(0, .aload_n 0), (1, .getfield 43), (4, .ifCond .ne 4), (7, .return_), (8, .aload_n 0), (9, .getfield 7), (12, .bipush 10), (14, .iaload), (15, .bipush 25), (17, .if_icmp .ne 54), (20, .iconst 1), (21, .istore 4), (23, .iload 4), (25, .bipush 25), (27, .if_icmp .ge 33), (30, .aload_n 0), (31, .getfield 7), (34, .sipush 1567), (37, .iload 4), (39, .iadd), (40, .iconst 1), (41, .isub), (42, .aload_n 0), (43, .getfield 7), (46, .sipush 1567), (49, .iload 4), (51, .iadd), (52, .iaload), (53, .iastore), (54, .iinc 4 1), (57, .goto (-34)), (60, .aload_n 0), (61, .getfield 7), (64, .bipush 10), (66, .dup2), (67, .iaload), (68, .iconst 1), (69, .isub), (70, .iastore), (71, .aload_n 0), (72, .getfield 7), (75, .sipush 1567), (78, .aload_n 0), (79, .getfield 7), (82, .bipush 10), (84, .iaload), (85, .iadd), (86, .aload_n 0), (87, .getfield 7), (90, .bipush 6), (92, .iaload), (93, .iconst 5), (94, .imul), (95, .iload_n 1), (96, .iadd), (97, .bipush 12), (99, .imul), (100, .iload_n 2), (101, .iadd), (102, .bipush 100)]
theorem k200_0 : dck c200 l200_0 := by unfold dck; decide +kernel
def l200_1 : List (Nat × Instr) := [(104, .imul), (105, .iload_n 3), (106, .iadd), (107, .iastore), (108, .aload_n 0), (109, .getfield 7), (112, .bipush 10), (114, .dup2), (115, .iaload), (116, .iconst 1), (117, .iadd), (118, .iastore), (119, .return_)]
theorem k200_1 : dck c200 l200_1 := by unfold dck; decide +kernel
/-! 201: DawnPerquisiteModel.give(I)Z -/
abbrev c201 : ByteArray := prog_20_method_86_code
def l201_0 : List (Nat × Instr) := [(0, .aload_n 0), (1, .iload_n 1), (2, .invokevirtual 345), (5, .ifCond .ne 5), (8, .iconst 0), (9, .ireturn), (10, .aload_n 0), (11, .invokevirtual 339), (14, .aload_n 0), (15, .iload_n 1), (16, .invokevirtual 348), (19, .iconst 1), (20, .ireturn)]
theorem k201_0 : dck c201 l201_0 := by unfold dck; decide +kernel
/-! 202: DawnPerquisiteModel.canGive(I)Z -/
abbrev c202 : ByteArray := prog_20_method_77_code
def l202_0 : List (Nat × Instr) := [(0, .iload_n 1), (1, .invokestatic 321), (4, .ifCond .eq 20), (7, .aload_n 0), (8, .getfield 7), (11, .bipush 11), (13, .iload_n 1), (14, .iadd), (15, .iaload), (16, .iconst (-1)), (17, .if_icmp .ne 7), (20, .iconst 1), (21, .goto 4), (24, .iconst 0), (25, .ireturn)]
theorem k202_0 : dck c202 l202_0 := by unfold dck; decide +kernel
/-! 203: DawnPerquisiteModel.isSlice(I)Z -/
abbrev c203 : ByteArray := prog_20_method_9_code
def l203_0 : List (Nat × Instr) := [(0, .iload_n 0), (1, .iconst 0), (2, .bipush 11), (4, .invokestatic 63), (7, .ireturn)]
theorem k203_0 : dck c203 l203_0 := by unfold dck; decide +kernel
/-! 204: DawnPerquisiteModel.giveNow(I)V -/
abbrev c204 : ByteArray := prog_20_method_78_code
def l204_0 : List (Nat × Instr) := [(0, .aload_n 0), (1, .getfield 7), (4, .bipush 11), (6, .iload_n 1), (7, .iadd), (8, .bipush 6), (10, .iastore), (11, .aload_n 0), (12, .iconst 1), (13, .iload_n 1), (14, .iconst 0), (15, .invokevirtual 317), (18, .return_)]
theorem k204_0 : dck c204 l204_0 := by unfold dck; decide +kernel
/-! 205: DawnPerquisiteModel.turn(I)Z -/
abbrev c205 : ByteArray := prog_20_method_87_code
def l205_0 : List (Nat × Instr) := [(0, .aload_n 0), (1, .iload_n 1), (2, .invokevirtual 351), (5, .ifCond .ne 5), (8, .iconst 0), (9, .ireturn), (10, .aload_n 0), (11, .invokevirtual 339), (14, .aload_n 0), (15, .iload_n 1), (16, .invokevirtual 354), (19, .iconst 1), (20, .ireturn)]
theorem k205_0 : dck c205 l205_0 := by unfold dck; decide +kernel
/-! 206: DawnPerquisiteModel.canTurn(I)Z -/
abbrev c206 : ByteArray := prog_20_method_79_code
def l206_0 : List (Nat × Instr) := [(0, .aload_n 0), (1, .iload_n 1), (2, .invokevirtual 308), (5, .ifCond .eq 15), (8, .aload_n 0), (9, .iload_n 1), (10, .invokevirtual 286), (13, .ifCond .le 7), (16, .iconst 1), (17, .goto 4), (20, .iconst 0), (21, .ireturn)]
theorem k206_0 : dck c206 l206_0 := by unfold dck; decide +kernel
/-! 207: DawnPerquisiteModel.turnNow(I)V -/
abbrev c207 : ByteArray := prog_20_method_80_code
def l207_0 : List (Nat × Instr) := [(0, .iconst 0), (1, .istore_n 2), (2, .iload_n 2), (3, .bipush 12), (5, .if_icmp .ge 32), (8, .aload_n 0), (9, .getfield 7), (12, .bipush 11), (14, .iload_n 2), (15, .iadd), (16, .iaload), (17, .iload_n 1), (18, .if_icmp .ne 13), (21, .aload_n 0), (22, .getfield 7), (25, .bipush 11), (27, .iload_n 2), (28, .iadd), (29, .iconst (-1)), (30, .iastore), (31, .iinc 2 1), (34, .goto (-32)), (37, .aload_n 0), (38, .iconst 2), (39, .iload_n 1), (40, .iconst 0), (41, .invokevirtual 317), (44, .return_)]
theorem k207_0 : dck c207 l207_0 := by unfold dck; decide +kernel
/-! 208: DawnPerquisiteModel.pass(II)I -/
abbrev c208 : ByteArray := prog_20_method_89_code
def l208_0 : List (Nat × Instr) := [(0, .aload_n 0), (1, .iload_n 1), (2, .iload_n 2), (3, .invokevirtual 357), (6, .ifCond .ne 5), (9, .iconst (-1)), (10, .ireturn), (11, .aload_n 0), (12, .invokevirtual 339), (15, .aload_n 0), (16, .iload_n 1), (17, .invokevirtual 314), (20, .aload_n 0), (21, .iload_n 2), (22, .invokevirtual 314), (25, .iadd), (26, .iconst 2), (27, .idiv), (28, .istore_n 3), (29, .aload_n 0), (30, .getfield 7), (33, .bipush 23), (35, .iload_n 2), (36, .iadd), (37, .dup2), (38, .iaload), (39, .iload_n 3), (40, .isub), (41, .iastore), (42, .aload_n 0), (43, .getfield 7), (46, .bipush 23), (48, .iload_n 1), (49, .iadd), (50, .aload_n 0), (51, .getfield 7), (54, .bipush 23), (56, .iload_n 1), (57, .iadd), (58, .iaload), (59, .iload_n 3), (60, .iadd), (61, .i2l), (62, .iconst 0), (63, .sipush 999), (66, .invokestatic 276), (69, .iastore), (70, .iconst 0), (71, .istore 4), (73, .iload 4), (75, .bipush 12), (77, .if_icmp .ge 34), (80, .aload_n 0), (81, .getfield 7), (84, .bipush 11), (86, .iload 4), (88, .iadd), (89, .iaload), (90, .iload_n 1), (91, .if_icmp .ne 14)]
theorem k208_0 : dck c208 l208_0 := by unfold dck; decide +kernel
def l208_1 : List (Nat × Instr) := [(94, .aload_n 0), (95, .getfield 7), (98, .bipush 11), (100, .iload 4), (102, .iadd), (103, .iload_n 2), (104, .iastore), (105, .iinc 4 1), (108, .goto (-35)), (111, .aload_n 0), (112, .iconst 4), (113, .iload_n 2), (114, .iload_n 3), (115, .invokevirtual 317), (118, .iload_n 3), (119, .ireturn)]
theorem k208_1 : dck c208 l208_1 := by unfold dck; decide +kernel
/-! 209: DawnPerquisiteModel.canPass(II)Z -/
abbrev c209 : ByteArray := prog_20_method_88_code
def l209_0 : List (Nat × Instr) := [(0, .aload_n 0), (1, .iload_n 1), (2, .invokevirtual 308), (5, .ifCond .eq 27), (8, .aload_n 0), (9, .iload_n 2), (10, .invokevirtual 308), (13, .ifCond .eq 19), (16, .aload_n 0), (17, .iload_n 1), (18, .invokevirtual 75), (21, .ifCond .eq 11), (24, .aload_n 0), (25, .iload_n 2), (26, .invokevirtual 75), (29, .ifCond .eq 5), (32, .iconst 0), (33, .ireturn), (34, .aload_n 0), (35, .iload_n 2), (36, .aload_n 0), (37, .getfield 7), (40, .bipush 9), (42, .iaload), (43, .invokevirtual 283), (46, .ifCond .eq 32), (49, .aload_n 0), (50, .iload_n 1), (51, .invokevirtual 75), (54, .aload_n 0), (55, .iload_n 2), (56, .invokevirtual 311), (59, .iconst (-1)), (60, .ixor), (61, .iand), (62, .ifCond .ne 16), (65, .aload_n 0), (66, .iload_n 2), (67, .invokevirtual 314), (70, .aload_n 0), (71, .iload_n 1), (72, .invokevirtual 314), (75, .if_icmp .gt 5), (78, .iconst 0), (79, .ireturn), (80, .aload_n 0), (81, .getfield 7), (84, .bipush 23), (86, .iload_n 2), (87, .iadd), (88, .iaload), (89, .aload_n 0), (90, .iload_n 1), (91, .invokevirtual 314), (94, .aload_n 0), (95, .iload_n 2), (96, .invokevirtual 314), (99, .iadd), (100, .iconst 2), (101, .idiv)]
theorem k209_0 : dck c209 l209_0 := by unfold dck; decide +kernel
def l209_1 : List (Nat × Instr) := [(102, .if_icmp .lt 7), (105, .iconst 1), (106, .goto 4), (109, .iconst 0), (110, .ireturn)]
theorem k209_1 : dck c209 l209_1 := by unfold dck; decide +kernel
/-! 210: DawnPerquisiteModel.day(I)I -/
abbrev c210 : ByteArray := prog_20_method_91_code
def l210_0 : List (Nat × Instr) := [(0, .iload_n 1), (1, .iconst 1), (2, .bipush 60), (4, .invokestatic 63), (7, .ifCond .eq 36), (10, .aload_n 0), (11, .getfield 7), (14, .bipush 6), (16, .iaload), (17, .iload_n 1), (18, .iadd), (19, .sipush 9999), (22, .if_icmp .gt 21), (25, .aload_n 0), (26, .iload_n 1), (27, .invokevirtual 363), (30, .ifCond .eq 13), (33, .aload_n 0), (34, .getfield 7), (37, .bipush 9), (39, .iaload), (40, .goto 4), (43, .iconst (-1)), (44, .ireturn)]
theorem k210_0 : dck c210 l210_0 := by unfold dck; decide +kernel
/-! 211: DawnPerquisiteModel.arePassed(I)Z -/
abbrev c211 : ByteArray := prog_20_method_90_code
def l211_0 : List (Nat × Instr) := [(0, .iconst 0), (1, .istore_n 2), (2, .iload_n 2), (3, .iload_n 1), (4, .if_icmp .ge 32), (7, .aload_n 0), (8, .getfield 7), (11, .bipush 6), (13, .iaload), (14, .sipush 9999), (17, .if_icmp .ne 5), (20, .iconst 0), (21, .ireturn), (22, .aload_n 0), (23, .invokevirtual 339), (26, .aload_n 0), (27, .invokevirtual 360), (30, .iinc 2 1), (33, .goto (-31)), (36, .iconst 1), (37, .ireturn)]
theorem k211_0 : dck c211 l211_0 := by unfold dck; decide +kernel
/-! 212: DawnPerquisiteModel.passDay()V -/
abbrev c212 : ByteArray := prog_20_method_82_code
def l212_0 : List (Nat × Instr) := [(0, .iconst 0), (1, .istore_n 1), (2, .iload_n 1), (3, .aload_n 0), (4, .getfield 7), (7, .iconst 0), (8, .iaload), (9, .if_icmp .ge 41), (12, .aload_n 0), (13, .getfield 7), (16, .bipush 23), (18, .iload_n 1), (19, .iadd), (20, .aload_n 0), (21, .getfield 7), (24, .bipush 23), (26, .iload_n 1), (27, .iadd), (28, .iaload), (29, .aload_n 0), (30, .iload_n 1), (31, .invokevirtual 330), (34, .iadd), (35, .i2l), (36, .iconst 0), (37, .sipush 999), (40, .invokestatic 276), (43, .iastore), (44, .iinc 1 1), (47, .goto (-45)), (50, .iconst 0), (51, .istore_n 1), (52, .iload_n 1), (53, .bipush 12), (55, .if_icmp .ge 19), (58, .aload_n 0), (59, .getfield 7), (62, .bipush 11), (64, .iload_n 1), (65, .iadd), (66, .iconst (-1)), (67, .iastore), (68, .iinc 1 1), (71, .goto (-19)), (74, .aload_n 0), (75, .getfield 7), (78, .bipush 9), (80, .aload_n 0), (81, .invokevirtual 333), (84, .iastore), (85, .aload_n 0), (86, .getfield 7), (89, .bipush 6), (91, .dup2), (92, .iaload), (93, .iconst 1), (94, .iadd), (95, .iastore), (96, .aload_n 0), (97, .iconst 3)]
theorem k212_0 : dck c212 l212_0 := by unfold dck; decide +kernel
def l212_1 : List (Nat × Instr) := [(98, .aload_n 0), (99, .getfield 7), (102, .bipush 9), (104, .iaload), (105, .iconst 0), (106, .invokevirtual 317), (109, .return_)]
theorem k212_1 : dck c212 l212_1 := by unfold dck; decide +kernel
/-! 213: DawnPerquisiteModel.earnsOf(I)I -/
abbrev c213 : ByteArray := prog_20_method_71_code
def l213_0 : List (Nat × Instr) := [(0, .aload_n 0), (1, .iload_n 1), (2, .aload_n 0), (3, .getfield 7), (6, .bipush 9), (8, .iaload), (9, .invokevirtual 289), (12, .aload_n 0), (13, .aload_n 0), (14, .getfield 7), (17, .iconst 2), (18, .iaload), (19, .iconst 1), (20, .iconst 1), (21, .bipush (-9)), (23, .bipush 9), (25, .invokevirtual 292), (28, .ireturn)]
theorem k213_0 : dck c213 l213_0 := by unfold dck; decide +kernel
/-! 214: DawnPerquisiteModel.nextSort()I -/
abbrev c214 : ByteArray := prog_20_method_81_code
def l214_0 : List (Nat × Instr) := [(0, .aload_n 0), (1, .invokevirtual 324), (4, .ifCond .ne 5), (7, .iconst 0), (8, .ireturn), (9, .aload_n 0), (10, .aload_n 0), (11, .invokevirtual 324), (14, .invokevirtual 327), (17, .istore_n 1), (18, .iconst 0), (19, .istore_n 2), (20, .aload_n 0), (21, .getfield 7), (24, .bipush 29), (26, .iaload), (27, .istore_n 3), (28, .iload_n 3), (29, .iload_n 1), (30, .if_icmp .gt 21), (33, .iinc 2 1), (36, .iload_n 3), (37, .aload_n 0), (38, .getfield 7), (41, .bipush 29), (43, .iload_n 2), (44, .iadd), (45, .iaload), (46, .iadd), (47, .istore_n 3), (48, .goto (-20)), (51, .iload_n 2), (52, .ireturn)]
theorem k214_0 : dck c214 l214_0 := by unfold dck; decide +kernel
/-! 215: DawnPerquisiteModel.allOdds()I -/
abbrev c215 : ByteArray := prog_20_method_17_code
def l215_0 : List (Nat × Instr) := [(0, .iconst 0), (1, .istore_n 1), (2, .iconst 0), (3, .istore_n 2), (4, .iload_n 2), (5, .iconst 5), (6, .if_icmp .ge 21), (9, .iload_n 1), (10, .aload_n 0), (11, .getfield 7), (14, .bipush 29), (16, .iload_n 2), (17, .iadd), (18, .iaload), (19, .iadd), (20, .istore_n 1), (21, .iinc 2 1), (24, .goto (-20)), (27, .iload_n 1), (28, .ireturn)]
theorem k215_0 : dck c215 l215_0 := by unfold dck; decide +kernel
/-! 216: DawnPerquisiteModel.drawnBy(I)I -/
abbrev c216 : ByteArray := prog_20_method_73_code
def l216_0 : List (Nat × Instr) := [(0, .aload_n 0), (1, .getfield 7), (4, .bipush 7), (6, .iaload), (7, .iload_n 1), (8, .irem), (9, .istore_n 2), (10, .aload_n 0), (11, .invokevirtual 299), (14, .iload_n 2), (15, .ireturn)]
theorem k216_0 : dck c216 l216_0 := by unfold dck; decide +kernel
/-! 217: DawnPerquisiteModel.anew()V -/
abbrev c217 : ByteArray := prog_20_method_74_code
def l217_0 : List (Nat × Instr) := [(0, .aload_n 0), (1, .getfield 7), (4, .bipush 7), (6, .aload_n 0), (7, .getfield 7), (10, .bipush 7), (12, .iaload), (13, .i2l), (14, .ldc2_w 302), (17, .lmul), (18, .ldc2_w 304), (21, .ladd), (22, .ldc2_w 306), (25, .lrem), (26, .l2i), (27, .iastore), (28, .return_)]
theorem k217_0 : dck c217 l217_0 := by unfold dck; decide +kernel
/-! 218: DawnPerquisiteModel.played(I)I -/
abbrev c218 : ByteArray := prog_20_method_93_code
def l218_0 : List (Nat × Instr) := [(0, .iload_n 1), (1, .iconst 0), (2, .aload_n 0), (3, .getfield 7), (6, .iconst 1), (7, .iaload), (8, .iconst 1), (9, .isub), (10, .invokestatic 63), (13, .ifCond .ne 6), (16, .bipush (-2)), (18, .ireturn), (19, .iconst 0), (20, .istore_n 2), (21, .iload_n 2), (22, .aload_n 0), (23, .getfield 16), (26, .sipush 681), (29, .iload_n 1), (30, .imul), (31, .iaload), (32, .if_icmp .ge 29), (35, .aload_n 0), (36, .sipush 681), (39, .iload_n 1), (40, .imul), (41, .iconst 1), (42, .iadd), (43, .iconst 3), (44, .iload_n 2), (45, .imul), (46, .iadd), (47, .invokevirtual 382), (50, .ifCond .ne 5), (53, .iload_n 2), (54, .ireturn), (55, .iinc 2 1), (58, .goto (-37)), (61, .iconst (-1)), (62, .ireturn)]
theorem k218_0 : dck c218 l218_0 := by unfold dck; decide +kernel
/-! 219: DawnPerquisiteModel.isPlayed(I)Z -/
abbrev c219 : ByteArray := prog_20_method_92_code
def l219_0 : List (Nat × Instr) := [(0, .aload_n 0), (1, .getfield 16), (4, .iload_n 1), (5, .iconst 1), (6, .iadd), (7, .iaload), (8, .istore_n 2), (9, .aload_n 0), (10, .getfield 16), (13, .iload_n 1), (14, .iconst 2), (15, .iadd), (16, .iaload), (17, .istore_n 3), (18, .aload_n 0), (19, .getfield 16), (22, .iload_n 1), (23, .iaload), (64, .aload_n 0), (65, .bipush 31), (67, .iload_n 2), (68, .iload_n 3), (69, .bipush 50), (71, .invokevirtual 366), (74, .ifCond .lt 7), (77, .iconst 1), (78, .goto 4), (81, .iconst 0), (82, .ireturn), (83, .aload_n 0), (84, .iload_n 2), (85, .iload_n 3), (86, .aload_n 0), (87, .getfield 7), (90, .bipush 34), (92, .iload_n 2), (93, .iadd), (94, .iaload), (95, .invokevirtual 370), (98, .ireturn), (99, .aload_n 0), (100, .iload_n 2), (101, .invokevirtual 373), (104, .ifCond .lt 7), (107, .iconst 1), (108, .goto 4), (111, .iconst 0), (112, .ireturn), (113, .aload_n 0), (114, .iload_n 2), (115, .invokevirtual 376), (118, .ireturn), (119, .aload_n 0), (120, .iload_n 2), (121, .invokevirtual 379), (124, .ireturn), (125, .aload_n 0), (126, .iload_n 2), (127, .invokevirtual 363), (130, .ireturn)]
theorem k219_0 : dck c219 l219_0 := by unfold dck; decide +kernel
def l219_1 : List (Nat × Instr) := [(131, .iconst 1), (132, .ireturn)]
theorem k219_1 : dck c219 l219_1 := by unfold dck; decide +kernel
theorem w219_24 : decode c219 24 = .ok (.tableswitch 107 2 7 #[40, 59, 75, 89, 95, 101], 40) := by decide +kernel
/-! 220: DawnPerquisiteModel.years(II)I -/
abbrev c220 : ByteArray := prog_20_method_95_code
def l220_0 : List (Nat × Instr) := [(0, .iload_n 1), (1, .iconst 0), (2, .sipush 9999), (5, .invokestatic 63), (8, .ifCond .eq 13), (11, .iload_n 2), (12, .iconst 1), (13, .bipush 40), (15, .invokestatic 63), (18, .ifCond .ne 5), (21, .iconst (-1)), (22, .ireturn), (23, .aload_n 0), (24, .invokevirtual 339), (27, .aload_n 0), (28, .getfield 7), (31, .bipush 7), (33, .iload_n 1), (34, .iconst 2), (35, .imul), (36, .sipush 457), (39, .iadd), (40, .iastore), (41, .iconst 0), (42, .istore_n 3), (43, .iload_n 3), (44, .iload_n 2), (45, .if_icmp .ge 28), (48, .aload_n 0), (49, .getfield 7), (52, .bipush 7), (54, .iaload), (55, .istore 4), (57, .aload_n 0), (58, .invokevirtual 299), (61, .aload_n 0), (62, .iload 4), (64, .invokevirtual 385), (67, .iinc 3 1), (70, .goto (-27)), (73, .aload_n 0), (74, .getfield 7), (77, .bipush 6), (79, .iaload), (80, .ireturn)]
theorem k220_0 : dck c220 l220_0 := by unfold dck; decide +kernel
/-! 221: DawnPerquisiteModel.happens(I)V -/
abbrev c221 : ByteArray := prog_20_method_94_code
def l221_0 : List (Nat × Instr) := [(0, .iload_n 1), (1, .bipush 6), (3, .idiv), (4, .bipush 6), (6, .irem), (7, .istore_n 2), (8, .iload_n 1), (9, .bipush 6), (11, .irem), (44, .aload_n 0), (45, .iload_n 2), (46, .invokevirtual 336), (49, .ifCond .eq 84), (52, .aload_n 0), (53, .iload_n 2), (54, .invokevirtual 342), (57, .pop), (58, .goto 75), (61, .iload_n 1), (62, .bipush 6), (64, .idiv), (65, .iconst 3), (66, .irem), (67, .iconst 1), (68, .if_icmp .ne 65), (71, .aload_n 0), (72, .iload_n 1), (73, .bipush 12), (75, .irem), (76, .invokevirtual 345), (79, .ifCond .eq 54), (82, .aload_n 0), (83, .iload_n 1), (84, .bipush 12), (86, .irem), (87, .invokevirtual 348), (90, .goto 43), (93, .iload_n 1), (94, .iconst 4), (95, .irem), (96, .iconst 3), (97, .if_icmp .ne 36), (100, .aload_n 0), (101, .iload_n 2), (102, .invokevirtual 351), (105, .ifCond .eq 28), (108, .aload_n 0), (109, .iload_n 2), (110, .invokevirtual 354), (113, .goto 20), (116, .aload_n 0), (117, .getfield 7), (120, .bipush 6), (122, .iaload), (123, .sipush 9999), (126, .if_icmp .ge 7), (129, .aload_n 0), (130, .invokevirtual 360), (133, .return_)]
theorem k221_0 : dck c221 l221_0 := by unfold dck; decide +kernel
theorem w221_12 : decode c221 12 = .ok (.tableswitch 104 0 3 #[32, 32, 49, 81], 32) := by decide +kernel
/-! 222: DawnPerquisiteModel.of(II)I -/
abbrev c222 : ByteArray := prog_20_method_96_code
def l222_0 : List (Nat × Instr) := [(0, .aload_n 0), (1, .iload_n 1), (2, .invokevirtual 308), (5, .ifCond .ne 6), (8, .bipush (-10)), (10, .ireturn), (11, .iload_n 2), (56, .aload_n 0), (57, .getfield 7), (60, .bipush 39), (62, .iload_n 1), (63, .iadd), (64, .iaload), (65, .ireturn), (66, .aload_n 0), (67, .getfield 7), (70, .bipush 45), (72, .iload_n 1), (73, .iadd), (74, .iaload), (75, .ireturn), (76, .aload_n 0), (77, .getfield 7), (80, .bipush 51), (82, .iload_n 1), (83, .iadd), (84, .iaload), (85, .ireturn), (86, .aload_n 0), (87, .getfield 7), (90, .bipush 23), (92, .iload_n 1), (93, .iadd), (94, .iaload), (95, .ireturn), (96, .aload_n 0), (97, .iload_n 1), (98, .invokevirtual 314), (101, .ireturn), (102, .aload_n 0), (103, .iload_n 1), (104, .invokevirtual 330), (107, .ireturn), (108, .aload_n 0), (109, .iload_n 1), (110, .invokevirtual 286), (113, .ireturn), (114, .bipush (-10)), (116, .ireturn)]
theorem k222_0 : dck c222 l222_0 := by unfold dck; decide +kernel
theorem w222_12 : decode c222 12 = .ok (.tableswitch 102 0 6 #[44, 54, 64, 74, 84, 90, 96], 44) := by decide +kernel
/-! 223: DawnPerquisiteModel.ofSort(II)I -/
abbrev c223 : ByteArray := prog_20_method_97_code
def l223_0 : List (Nat × Instr) := [(0, .iload_n 1), (1, .invokestatic 81), (4, .ifCond .ne 7), (7, .iconst (-1)), (8, .goto 37), (11, .iload_n 2), (12, .ifCond .ne 15), (15, .aload_n 0), (16, .getfield 7), (19, .bipush 29), (21, .iload_n 1), (22, .iadd), (23, .iaload), (24, .goto 21), (27, .iload_n 2), (28, .iconst 1), (29, .if_icmp .ne 15), (32, .aload_n 0), (33, .getfield 7), (36, .bipush 34), (38, .iload_n 1), (39, .iadd), (40, .iaload), (41, .goto 4), (44, .iconst (-1)), (45, .ireturn)]
theorem k223_0 : dck c223 l223_0 := by unfold dck; decide +kernel
/-! 224: DawnPerquisiteModel.at(I)I -/
abbrev c224 : ByteArray := prog_20_method_98_code
def l224_0 : List (Nat × Instr) := [(0, .iload_n 1), (1, .invokestatic 321), (4, .ifCond .eq 15), (7, .aload_n 0), (8, .getfield 7), (11, .bipush 11), (13, .iload_n 1), (14, .iadd), (15, .iaload), (16, .goto 5), (19, .bipush (-2)), (21, .ireturn)]
theorem k224_0 : dck c224 l224_0 := by unfold dck; decide +kernel
/-! 225: DawnPerquisiteModel.is(I)I -/
abbrev c225 : ByteArray := prog_20_method_99_code
def l225_0 : List (Nat × Instr) := [(0, .iload_n 1), (1, .iconst 0), (2, .iconst 3), (3, .invokestatic 63), (6, .ifCond .eq 15), (9, .aload_n 0), (10, .getfield 7), (13, .bipush 6), (15, .iload_n 1), (16, .iadd), (17, .iaload), (18, .goto 17), (21, .iload_n 1), (22, .iconst 4), (23, .if_icmp .ne 10), (26, .aload_n 0), (27, .invokevirtual 280), (30, .goto 5), (33, .bipush (-2)), (35, .ireturn)]
theorem k225_0 : dck c225 l225_0 := by unfold dck; decide +kernel
/-! 226: DawnPerquisiteModel.book(II)I -/
abbrev c226 : ByteArray := prog_20_method_101_code
def l226_0 : List (Nat × Instr) := [(0, .iload_n 1), (1, .iconst (-1)), (2, .if_icmp .ne 11), (5, .aload_n 0), (6, .getfield 7), (9, .bipush 10), (11, .iaload), (12, .ireturn), (13, .iload_n 1), (14, .iconst 0), (15, .aload_n 0), (16, .getfield 7), (19, .bipush 10), (21, .iaload), (22, .iconst 1), (23, .isub), (24, .invokestatic 63), (27, .ifCond .eq 21), (30, .iload_n 2), (31, .iconst 0), (32, .iconst 3), (33, .invokestatic 63), (36, .ifCond .eq 12), (39, .aload_n 0), (40, .iload_n 1), (41, .iload_n 2), (42, .invokevirtual 388), (45, .goto 5), (48, .bipush (-2)), (50, .ireturn)]
theorem k226_0 : dck c226 l226_0 := by unfold dck; decide +kernel
/-! 227: DawnPerquisiteModel.lineOf(II)I -/
abbrev c227 : ByteArray := prog_20_method_100_code
def l227_0 : List (Nat × Instr) := [(0, .aload_n 0), (1, .getfield 7), (4, .sipush 1567), (7, .iload_n 1), (8, .iadd), (9, .iaload), (10, .istore_n 3), (11, .iload_n 2), (12, .ifCond .ne 11), (15, .iload_n 3), (16, .sipush 6000), (19, .idiv), (20, .goto 37), (23, .iload_n 2), (24, .iconst 1), (25, .if_icmp .ne 13), (28, .iload_n 3), (29, .sipush 1200), (32, .idiv), (33, .iconst 5), (34, .irem), (35, .goto 22), (38, .iload_n 2), (39, .iconst 2), (40, .if_icmp .ne 13), (43, .iload_n 3), (44, .bipush 100), (46, .idiv), (47, .bipush 12), (49, .irem), (50, .goto 7), (53, .iload_n 3), (54, .bipush 100), (56, .irem), (57, .ireturn)]
theorem k227_0 : dck c227 l227_0 := by unfold dck; decide +kernel
/-! 228: DawnPerquisiteModel.ledger(I)I -/
abbrev c228 : ByteArray := prog_20_method_102_code
def l228_0 : List (Nat × Instr) := [(0, .iload_n 1), (1, .iconst 0), (2, .iconst 4), (3, .invokestatic 63), (6, .ifCond .ne 6), (9, .bipush (-2)), (11, .ireturn), (12, .iconst 0), (13, .istore_n 2), (14, .iconst 0), (15, .istore_n 3), (16, .iload_n 3), (17, .aload_n 0), (18, .getfield 7), (21, .bipush 10), (23, .iaload), (24, .if_icmp .ge 27), (27, .iload_n 2), (28, .aload_n 0), (29, .iload_n 3), (30, .iconst 1), (31, .invokevirtual 388), (34, .iload_n 1), (35, .if_icmp .ne 7), (38, .iconst 1), (39, .goto 4), (42, .iconst 0), (43, .iadd), (44, .istore_n 2), (45, .iinc 3 1), (48, .goto (-32)), (51, .iload_n 2), (52, .ireturn)]
theorem k228_0 : dck c228 l228_0 := by unfold dck; decide +kernel
/-! 229: DawnPerquisiteModel.richest()I -/
abbrev c229 : ByteArray := prog_20_method_103_code
def l229_0 : List (Nat × Instr) := [(0, .iconst (-1)), (1, .istore_n 1), (2, .iconst 0), (3, .istore_n 2), (4, .iload_n 2), (5, .aload_n 0), (6, .getfield 7), (9, .iconst 0), (10, .iaload), (11, .if_icmp .ge 41), (14, .aload_n 0), (15, .getfield 7), (18, .bipush 23), (20, .iload_n 2), (21, .iadd), (22, .iaload), (23, .iload_n 1), (24, .iconst (-1)), (25, .if_icmp .ne 7), (28, .iconst 0), (29, .goto 12), (32, .aload_n 0), (33, .getfield 7), (36, .bipush 23), (38, .iload_n 1), (39, .iadd), (40, .iaload), (41, .if_icmp .le 5), (44, .iload_n 2), (45, .istore_n 1), (46, .iinc 2 1), (49, .goto (-45)), (52, .iload_n 1), (53, .ireturn)]
theorem k229_0 : dck c229 l229_0 := by unfold dck; decide +kernel
/-! 230: DawnPerquisiteModel.rival(I)I -/
abbrev c230 : ByteArray := prog_20_method_104_code
def l230_0 : List (Nat × Instr) := [(0, .aload_n 0), (1, .iload_n 1), (2, .invokevirtual 308), (5, .ifCond .ne 5), (8, .iconst (-1)), (9, .ireturn), (10, .iconst 0), (11, .istore_n 2), (12, .iconst 0), (13, .istore_n 3), (14, .iload_n 3), (15, .aload_n 0), (16, .getfield 7), (19, .iconst 0), (20, .iaload), (21, .if_icmp .ge 56), (24, .iload_n 3), (25, .iload_n 1), (26, .if_icmp .eq 45), (29, .aload_n 0), (30, .getfield 7), (33, .bipush 39), (35, .iload_n 3), (36, .iadd), (37, .iaload), (38, .aload_n 0), (39, .getfield 7), (42, .bipush 39), (44, .iload_n 1), (45, .iadd), (46, .iaload), (47, .iand), (48, .ifCond .eq 23), (51, .aload_n 0), (52, .iload_n 3), (53, .invokevirtual 311), (56, .aload_n 0), (57, .iload_n 1), (58, .invokevirtual 311), (61, .iand), (62, .ifCond .eq 9), (65, .iload_n 2), (66, .iconst 1), (67, .iload_n 3), (68, .ishl), (69, .ior), (70, .istore_n 2), (71, .iinc 3 1), (74, .goto (-60)), (77, .iload_n 2), (78, .ireturn)]
theorem k230_0 : dck c230 l230_0 := by unfold dck; decide +kernel
/-! 231: DawnPerquisiteModel.can(I)Z -/
abbrev c231 : ByteArray := prog_20_method_105_code
def l231_0 : List (Nat × Instr) := [(0, .aload_n 0), (1, .iload_n 1), (2, .invokevirtual 336), (5, .ireturn)]
theorem k231_0 : dck c231 l231_0 := by unfold dck; decide +kernel
/-! 232: DawnPerquisiteModel.learnt(IZ)J -/
abbrev c232 : ByteArray := prog_20_method_106_code
def l232_0 : List (Nat × Instr) := [(0, .iload_n 1), (1, .invokestatic 81), (4, .ifCond .ne 7), (7, .ldc2_w 391), (10, .lreturn), (11, .iconst 1), (12, .istore_n 3), (13, .iconst 5), (14, .istore 4), (16, .iconst 0), (17, .istore 5), (19, .iload 5), (21, .aload_n 0), (22, .getfield 7), (25, .bipush 10), (27, .iaload), (28, .if_icmp .ge 45), (31, .aload_n 0), (32, .iload 5), (34, .iconst 1), (35, .invokevirtual 388), (38, .iconst 3), (39, .if_icmp .eq 6), (42, .goto 25), (45, .iinc 4 1), (48, .iload_n 3), (49, .aload_n 0), (50, .iload 5), (52, .iconst 2), (53, .invokevirtual 388), (56, .iload_n 1), (57, .if_icmp .ne 7), (60, .iconst 1), (61, .goto 4), (64, .iconst 0), (65, .iadd), (66, .istore_n 3), (67, .iinc 5 1), (70, .goto (-51)), (73, .iload_n 3), (74, .i2l), (75, .iload 4), (77, .i2l), (78, .iload_n 2), (79, .invokestatic 393), (82, .lreturn)]
theorem k232_0 : dck c232 l232_0 := by unfold dck; decide +kernel
/-! 233: DawnPerquisiteModel.partOfAll(JJZ)J -/
abbrev c233 : ByteArray := prog_20_method_119_code
def l233_0 : List (Nat × Instr) := [(0, .iload 4), (2, .ifCond .eq 7), (5, .lload_n 2), (6, .goto 4), (9, .lload_n 0), (10, .lload_n 0), (11, .lload_n 2), (12, .invokestatic 403), (15, .ldiv), (16, .lreturn)]
theorem k233_0 : dck c233 l233_0 := by unfold dck; decide +kernel
/-! 234: DawnPerquisiteModel.divisor(JJ)J -/
abbrev c234 : ByteArray := prog_20_method_118_code
def l234_0 : List (Nat × Instr) := [(0, .lload_n 0), (1, .lstore 4), (3, .lload_n 2), (4, .lstore 6), (6, .lload 6), (8, .lconst 0), (9, .lcmp), (10, .ifCond .eq 21), (13, .lload 4), (15, .lload 6), (17, .lrem), (18, .lstore 8), (20, .lload 6), (22, .lstore 4), (24, .lload 8), (26, .lstore 6), (28, .goto (-22)), (31, .lload 4), (33, .lreturn)]
theorem k234_0 : dck c234 l234_0 := by unfold dck; decide +kernel
/-! 235: DawnPerquisiteModel.wanted(I)I -/
abbrev c235 : ByteArray := prog_20_method_107_code
def l235_0 : List (Nat × Instr) := [(0, .iload_n 1), (1, .invokestatic 81), (4, .ifCond .ne 5), (7, .iconst (-1)), (8, .ireturn), (9, .iconst 0), (10, .istore_n 2), (11, .iconst 0), (12, .istore_n 3), (13, .iload_n 3), (14, .aload_n 0), (15, .getfield 7), (18, .iconst 0), (19, .iaload), (20, .if_icmp .ge 26), (23, .iload_n 2), (24, .aload_n 0), (25, .iload_n 3), (26, .iload_n 1), (27, .invokevirtual 283), (30, .ifCond .eq 7), (33, .iconst 1), (34, .goto 4), (37, .iconst 0), (38, .iadd), (39, .istore_n 2), (40, .iinc 3 1), (43, .goto (-30)), (46, .iload_n 2), (47, .ireturn)]
theorem k235_0 : dck c235 l235_0 := by unfold dck; decide +kernel
/-! 236: DawnPerquisiteModel.alone(I)I -/
abbrev c236 : ByteArray := prog_20_method_108_code
def l236_0 : List (Nat × Instr) := [(0, .aload_n 0), (1, .iload_n 1), (2, .invokevirtual 308), (5, .ifCond .ne 5), (8, .iconst (-1)), (9, .ireturn), (10, .aload_n 0), (11, .iload_n 1), (12, .invokevirtual 311), (15, .istore_n 2), (16, .iconst 0), (17, .istore_n 3), (18, .iload_n 3), (19, .aload_n 0), (20, .getfield 7), (23, .iconst 0), (24, .iaload), (25, .if_icmp .ge 24), (28, .iload_n 3), (29, .iload_n 1), (30, .if_icmp .eq 13), (33, .iload_n 2), (34, .aload_n 0), (35, .iload_n 3), (36, .invokevirtual 311), (39, .iconst (-1)), (40, .ixor), (41, .iand), (42, .istore_n 2), (43, .iinc 3 1), (46, .goto (-28)), (49, .iload_n 2), (50, .ireturn)]
theorem k236_0 : dck c236 l236_0 := by unfold dck; decide +kernel
/-! 237: DawnPerquisiteModel.since(I)I -/
abbrev c237 : ByteArray := prog_20_method_109_code
def l237_0 : List (Nat × Instr) := [(0, .iload_n 1), (1, .invokestatic 81), (4, .ifCond .ne 5), (7, .iconst (-1)), (8, .ireturn), (9, .aload_n 0), (10, .getfield 7), (13, .bipush 10), (15, .iaload), (16, .iconst 1), (17, .isub), (18, .istore_n 2), (19, .iload_n 2), (20, .ifCond .lt 44), (23, .aload_n 0), (24, .iload_n 2), (25, .iconst 1), (26, .invokevirtual 388), (29, .iconst 3), (30, .if_icmp .ne 28), (33, .aload_n 0), (34, .iload_n 2), (35, .iconst 2), (36, .invokevirtual 388), (39, .iload_n 1), (40, .if_icmp .ne 18), (43, .aload_n 0), (44, .getfield 7), (47, .bipush 6), (49, .iaload), (50, .aload_n 0), (51, .iload_n 2), (52, .iconst 0), (53, .invokevirtual 388), (56, .isub), (57, .ireturn), (58, .iinc 2 (-1)), (61, .goto (-42)), (64, .iconst (-1)), (65, .ireturn)]
theorem k237_0 : dck c237 l237_0 := by unfold dck; decide +kernel
/-! 238: DawnPerquisiteModel.idle()I -/
abbrev c238 : ByteArray := prog_20_method_110_code
def l238_0 : List (Nat × Instr) := [(0, .aload_n 0), (1, .invokevirtual 280), (4, .istore_n 1), (5, .iconst 0), (6, .istore_n 2), (7, .iload_n 2), (8, .aload_n 0), (9, .getfield 7), (12, .iconst 0), (13, .iaload), (14, .if_icmp .ge 34), (17, .aload_n 0), (18, .iload_n 2), (19, .aload_n 0), (20, .getfield 7), (23, .bipush 9), (25, .iaload), (26, .invokevirtual 283), (29, .ifCond .eq 13), (32, .iload_n 1), (33, .aload_n 0), (34, .iload_n 2), (35, .invokevirtual 311), (38, .iconst (-1)), (39, .ixor), (40, .iand), (41, .istore_n 1), (42, .iinc 2 1), (45, .goto (-38)), (48, .iload_n 1), (49, .ireturn)]
theorem k238_0 : dck c238 l238_0 := by unfold dck; decide +kernel
/-! 239: DawnPerquisiteModel.poor()I -/
abbrev c239 : ByteArray := prog_20_method_111_code
def l239_0 : List (Nat × Instr) := [(0, .iconst 0), (1, .istore_n 1), (2, .iconst 0), (3, .istore_n 2), (4, .iload_n 2), (5, .aload_n 0), (6, .getfield 7), (9, .iconst 0), (10, .iaload), (11, .if_icmp .ge 36), (14, .iload_n 1), (15, .aload_n 0), (16, .getfield 7), (19, .bipush 23), (21, .iload_n 2), (22, .iadd), (23, .iaload), (24, .aload_n 0), (25, .iload_n 2), (26, .invokevirtual 314), (29, .if_icmp .ge 9), (32, .iconst 1), (33, .iload_n 2), (34, .ishl), (35, .goto 4), (38, .iconst 0), (39, .ior), (40, .istore_n 1), (41, .iinc 2 1), (44, .goto (-40)), (47, .iload_n 1), (48, .ireturn)]
theorem k239_0 : dck c239 l239_0 := by unfold dck; decide +kernel
/-! 240: DawnPerquisiteModel.room(I)I -/
abbrev c240 : ByteArray := prog_20_method_112_code
def l240_0 : List (Nat × Instr) := [(0, .iload_n 1), (1, .iconst 1), (2, .bipush 12), (4, .invokestatic 63), (7, .ifCond .ne 5), (10, .iconst (-1)), (11, .ireturn), (12, .iconst 0), (13, .istore_n 2), (14, .iload_n 2), (15, .iload_n 1), (16, .iadd), (17, .bipush 12), (19, .if_icmp .gt 28), (22, .iconst 1), (23, .iload_n 1), (24, .ishl), (25, .iconst 1), (26, .isub), (27, .iload_n 2), (28, .ishl), (29, .aload_n 0), (30, .invokevirtual 280), (33, .iconst (-1)), (34, .ixor), (35, .iand), (36, .ifCond .ne 5), (39, .iload_n 2), (40, .ireturn), (41, .iinc 2 1), (44, .goto (-30)), (47, .iconst (-1)), (48, .ireturn)]
theorem k240_0 : dck c240 l240_0 := by unfold dck; decide +kernel
/-! 241: DawnPerquisiteModel.foretold(II)I -/
abbrev c241 : ByteArray := prog_20_method_113_code
def l241_0 : List (Nat × Instr) := [(0, .iload_n 1), (1, .iconst 1), (2, .bipush 60), (4, .invokestatic 63), (7, .ifCond .eq 12), (10, .iload_n 2), (11, .iconst 0), (12, .iconst 1), (13, .invokestatic 63), (16, .ifCond .ne 5), (19, .iconst (-1)), (20, .ireturn), (21, .bipush 6), (23, .istore_n 3), (24, .iload_n 3), (25, .bipush 29), (27, .if_icmp .ge 21), (30, .aload_n 0), (31, .getfield 47), (34, .iload_n 3), (35, .aload_n 0), (36, .getfield 7), (39, .iload_n 3), (40, .iaload), (41, .iastore), (42, .iinc 3 1), (45, .goto (-21)), (48, .aload_n 0), (49, .iconst 0), (50, .putfield 43), (53, .iconst 0), (54, .istore_n 3), (55, .iload_n 3), (56, .iload_n 1), (57, .if_icmp .ge 26), (60, .aload_n 0), (61, .getfield 7), (64, .bipush 6), (66, .iaload), (67, .sipush 9999), (70, .if_icmp .ge 7), (73, .aload_n 0), (74, .invokevirtual 360), (77, .iinc 3 1), (80, .goto (-25)), (83, .aload_n 0), (84, .getfield 7), (87, .bipush 9), (89, .iaload), (90, .istore_n 3), (91, .iload_n 2), (92, .iconst 1), (93, .if_icmp .ne 38), (96, .iconst 0), (97, .istore_n 3), (98, .iconst 0), (99, .istore 4), (101, .iload 4), (103, .aload_n 0), (104, .getfield 7)]
theorem k241_0 : dck c241 l241_0 := by unfold dck; decide +kernel
def l241_1 : List (Nat × Instr) := [(107, .iconst 0), (108, .iaload), (109, .if_icmp .ge 22), (112, .iload_n 3), (113, .aload_n 0), (114, .getfield 7), (117, .bipush 23), (119, .iload 4), (121, .iadd), (122, .iaload), (123, .iadd), (124, .istore_n 3), (125, .iinc 4 1), (128, .goto (-27)), (131, .bipush 6), (133, .istore 4), (135, .iload 4), (137, .bipush 29), (139, .if_icmp .ge 23), (142, .aload_n 0), (143, .getfield 7), (146, .iload 4), (148, .aload_n 0), (149, .getfield 47), (152, .iload 4), (154, .iaload), (155, .iastore), (156, .iinc 4 1), (159, .goto (-24)), (162, .aload_n 0), (163, .iconst 1), (164, .putfield 43), (167, .iload_n 3), (168, .ireturn)]
theorem k241_1 : dck c241 l241_1 := by unfold dck; decide +kernel
/-! 242: DawnPerquisiteModel.pack(IZ)I -/
abbrev c242 : ByteArray := prog_20_method_116_code
def l242_0 : List (Nat × Instr) := [(0, .iload_n 1), (1, .invokestatic 81), (4, .ifCond .ne 7), (7, .iconst (-1)), (8, .goto 27), (11, .iload_n 2), (12, .ifCond .eq 12), (15, .aload_n 0), (16, .iconst 0), (17, .iload_n 1), (18, .invokevirtual 400), (21, .goto 14), (24, .aload_n 0), (25, .aload_n 0), (26, .iconst 0), (27, .iload_n 1), (28, .invokevirtual 400), (31, .iload_n 1), (32, .invokevirtual 397), (35, .ireturn)]
theorem k242_0 : dck c242 l242_0 := by unfold dck; decide +kernel
/-! 243: DawnPerquisiteModel.bestSet(II)I -/
abbrev c243 : ByteArray := prog_20_method_115_code
def l243_0 : List (Nat × Instr) := [(0, .iconst (-1)), (1, .istore_n 3), (2, .iconst 0), (3, .istore 4), (5, .iload 4), (7, .iconst 1), (8, .aload_n 0), (9, .getfield 7), (12, .iconst 0), (13, .iaload), (14, .ishl), (15, .if_icmp .ge 46), (18, .iload_n 1), (19, .iload 4), (21, .iconst (-1)), (22, .ixor), (23, .iand), (24, .ifCond .ne 31), (27, .aload_n 0), (28, .iload 4), (30, .iload_n 2), (31, .invokevirtual 397), (34, .iload_n 3), (35, .iconst (-1)), (36, .if_icmp .ne 7), (39, .iconst (-1)), (40, .goto 9), (43, .aload_n 0), (44, .iload_n 3), (45, .iload_n 2), (46, .invokevirtual 397), (49, .if_icmp .le 6), (52, .iload 4), (54, .istore_n 3), (55, .iinc 4 1), (58, .goto (-53)), (61, .iload_n 3), (62, .ireturn)]
theorem k243_0 : dck c243 l243_0 := by unfold dck; decide +kernel
/-! 244: DawnPerquisiteModel.broughtBy(II)I -/
abbrev c244 : ByteArray := prog_20_method_114_code
def l244_0 : List (Nat × Instr) := [(0, .iconst 0), (1, .istore_n 3), (2, .iconst 0), (3, .istore 4), (5, .iconst 0), (6, .istore 5), (8, .iload 5), (10, .aload_n 0), (11, .getfield 7), (14, .iconst 0), (15, .iaload), (16, .if_icmp .ge 71), (19, .iload_n 1), (20, .iload 5), (22, .invokestatic 67), (25, .ifCond .ne 6), (28, .goto 53), (31, .aload_n 0), (32, .iload 5), (34, .iload_n 2), (35, .invokevirtual 283), (38, .ifCond .eq 14), (41, .iload_n 3), (42, .aload_n 0), (43, .iload 5), (45, .invokevirtual 311), (48, .iand), (49, .ifCond .eq 5), (52, .iconst (-1)), (53, .ireturn), (54, .iload_n 3), (55, .aload_n 0), (56, .iload 5), (58, .invokevirtual 311), (61, .ior), (62, .istore_n 3), (63, .iload 4), (65, .aload_n 0), (66, .aload_n 0), (67, .getfield 7), (70, .iconst 2), (71, .iaload), (72, .iload 5), (74, .iload_n 2), (75, .invokevirtual 296), (78, .iadd), (79, .istore 4), (81, .iinc 5 1), (84, .goto (-76)), (87, .iload 4), (89, .ireturn)]
theorem k244_0 : dck c244 l244_0 := by unfold dck; decide +kernel
/-! 245: DawnPerquisiteModel.see(II)I -/
abbrev c245 : ByteArray := prog_20_method_117_code
def l245_0 : List (Nat × Instr) := [(0, .iload_n 1), (1, .iconst 0), (2, .iconst 1), (3, .aload_n 0), (4, .getfield 7), (7, .iconst 0), (8, .iaload), (9, .ishl), (10, .iconst 1), (11, .isub), (12, .invokestatic 63), (15, .ifCond .eq 10), (18, .iload_n 2), (19, .invokestatic 81), (22, .ifCond .ne 5), (25, .iconst (-1)), (26, .ireturn), (27, .aload_n 0), (28, .iload_n 1), (29, .iload_n 2), (30, .invokevirtual 400), (33, .istore_n 3), (34, .iload_n 3), (35, .iconst (-1)), (36, .if_icmp .ne 7), (39, .iconst (-1)), (40, .goto 9), (43, .aload_n 0), (44, .iload_n 3), (45, .iload_n 2), (46, .invokevirtual 397), (49, .ireturn)]
theorem k245_0 : dck c245 l245_0 := by unfold dck; decide +kernel
/-! 246: DawnPerquisiteModel.hope(IZ)J -/
abbrev c246 : ByteArray := prog_20_method_125_code
def l246_0 : List (Nat × Instr) := [(0, .iload_n 1), (1, .invokestatic 417), (4, .ifCond .eq 20), (7, .aload_n 0), (8, .iload_n 1), (9, .invokevirtual 420), (12, .aload_n 0), (13, .iload_n 1), (14, .invokevirtual 410), (17, .iload_n 2), (18, .invokestatic 393), (21, .goto 6), (24, .ldc2_w 391), (27, .lreturn)]
theorem k246_0 : dck c246 l246_0 := by unfold dck; decide +kernel
/-! 247: DawnPerquisiteModel.isHope(I)Z -/
abbrev c247 : ByteArray := prog_20_method_124_code
def l247_0 : List (Nat × Instr) := [(0, .iload_n 0), (1, .iconst 0), (2, .bipush 6), (4, .invokestatic 63), (7, .ireturn)]
theorem k247_0 : dck c247 l247_0 := by unfold dck; decide +kernel
/-! 248: DawnPerquisiteModel.hoped(I)J -/
abbrev c248 : ByteArray := prog_20_method_123_code
def l248_0 : List (Nat × Instr) := [(0, .lconst 0), (1, .lstore_n 2), (2, .iconst 1), (3, .istore 4), (5, .iload 4), (7, .iload_n 1), (8, .if_icmp .gt 78), (11, .lconst 0), (12, .lstore 5), (14, .iconst 0), (15, .istore 7), (17, .iload 7), (19, .iconst 5), (20, .if_icmp .ge 57), (23, .aload_n 0), (24, .iload 4), (26, .iconst 1), (27, .isub), (28, .invokevirtual 410), (31, .aload_n 0), (32, .getfield 7), (35, .bipush 34), (37, .iload 7), (39, .iadd), (40, .iaload), (41, .i2l), (42, .lmul), (43, .lstore 8), (45, .lload 5), (47, .aload_n 0), (48, .iload 7), (50, .invokevirtual 414), (53, .i2l), (54, .lload 8), (56, .lload_n 2), (57, .lcmp), (58, .ifCond .le 8), (61, .lload 8), (63, .goto 4), (66, .lload_n 2), (67, .lmul), (68, .ladd), (69, .lstore 5), (71, .iinc 7 1), (74, .goto (-57)), (77, .lload 5), (79, .lstore_n 2), (80, .iinc 4 1), (83, .goto (-78)), (86, .lload_n 2), (87, .lreturn)]
theorem k248_0 : dck c248 l248_0 := by unfold dck; decide +kernel
/-! 249: DawnPerquisiteModel.allRows(I)J -/
abbrev c249 : ByteArray := prog_20_method_122_code
def l249_0 : List (Nat × Instr) := [(0, .lconst 1), (1, .lstore_n 2), (2, .iconst 0), (3, .istore 4), (5, .iload 4), (7, .iload_n 1), (8, .if_icmp .ge 17), (11, .lload_n 2), (12, .aload_n 0), (13, .invokevirtual 407), (16, .i2l), (17, .lmul), (18, .lstore_n 2), (19, .iinc 4 1), (22, .goto (-17)), (25, .lload_n 2), (26, .lreturn)]
theorem k249_0 : dck c249 l249_0 := by unfold dck; decide +kernel
/-! 250: DawnPerquisiteModel.whole()I -/
abbrev c250 : ByteArray := prog_20_method_121_code
def l250_0 : List (Nat × Instr) := [(0, .aload_n 0), (1, .invokevirtual 324), (4, .ifCond .ne 7), (7, .iconst 1), (8, .goto 7), (11, .aload_n 0), (12, .invokevirtual 324), (15, .ireturn)]
theorem k250_0 : dck c250 l250_0 := by unfold dck; decide +kernel
/-! 251: DawnPerquisiteModel.oddsOf(I)I -/
abbrev c251 : ByteArray := prog_20_method_120_code
def l251_0 : List (Nat × Instr) := [(0, .aload_n 0), (1, .invokevirtual 324), (4, .ifCond .ne 15), (7, .iload_n 1), (8, .ifCond .ne 7), (11, .iconst 1), (12, .goto 16), (15, .iconst 0), (16, .goto 12), (19, .aload_n 0), (20, .getfield 7), (23, .bipush 29), (25, .iload_n 1), (26, .iadd), (27, .iaload), (28, .ireturn)]
theorem k251_0 : dck c251 l251_0 := by unfold dck; decide +kernel
/-! 252: DawnPerquisiteModel.keep(I)Z -/
abbrev c252 : ByteArray := prog_20_method_126_code
def l252_0 : List (Nat × Instr) := [(0, .iload_n 1), (1, .invokestatic 417), (4, .ifCond .eq 38), (7, .aload_n 0), (8, .iload_n 1), (9, .invokevirtual 420), (12, .aload_n 0), (13, .iload_n 1), (14, .invokevirtual 410), (17, .aload_n 0), (18, .getfield 7), (21, .bipush 34), (23, .aload_n 0), (24, .getfield 7), (27, .bipush 9), (29, .iaload), (30, .iadd), (31, .iaload), (32, .i2l), (33, .lmul), (34, .lcmp), (35, .ifCond .le 7), (38, .iconst 1), (39, .goto 4), (42, .iconst 0), (43, .ireturn)]
theorem k252_0 : dck c252 l252_0 := by unfold dck; decide +kernel
/-! 253: DawnPerquisiteModel.chance(IZ)J -/
abbrev c253 : ByteArray := prog_20_method_127_code
def l253_0 : List (Nat × Instr) := [(0, .iload_n 1), (1, .invokestatic 81), (4, .ifCond .eq 21), (7, .aload_n 0), (8, .iload_n 1), (9, .invokevirtual 414), (12, .i2l), (13, .aload_n 0), (14, .invokevirtual 407), (17, .i2l), (18, .iload_n 2), (19, .invokestatic 393), (22, .goto 6), (25, .ldc2_w 391), (28, .lreturn)]
theorem k253_0 : dck c253 l253_0 := by unfold dck; decide +kernel
/-! 254: DawnPerquisiteModel.first(I)I -/
abbrev c254 : ByteArray := prog_20_method_128_code
def l254_0 : List (Nat × Instr) := [(0, .iload_n 1), (1, .invokestatic 81), (4, .ifCond .ne 5), (7, .iconst (-1)), (8, .ireturn), (9, .lconst 1), (10, .lstore_n 2), (11, .iconst 1), (12, .istore 4), (14, .iload 4), (16, .bipush 10), (18, .if_icmp .gt 41), (21, .lload_n 2), (22, .aload_n 0), (23, .invokevirtual 407), (26, .aload_n 0), (27, .iload_n 1), (28, .invokevirtual 414), (31, .isub), (32, .i2l), (33, .lmul), (34, .lstore_n 2), (35, .ldc2_w 423), (38, .lload_n 2), (39, .lmul), (40, .aload_n 0), (41, .iload 4), (43, .invokevirtual 410), (46, .lcmp), (47, .ifCond .gt 6), (50, .iload 4), (52, .ireturn), (53, .iinc 4 1), (56, .goto (-42)), (59, .iconst (-1)), (60, .ireturn)]
theorem k254_0 : dck c254 l254_0 := by unfold dck; decide +kernel
/-! 255: DawnPerquisiteModel.paid(IZ)I -/
abbrev c255 : ByteArray := prog_20_method_129_code
def l255_0 : List (Nat × Instr) := [(0, .iload_n 1), (1, .iconst (-1)), (2, .if_icmp .ne 36), (5, .iconst 0), (6, .istore_n 3), (7, .iload_n 3), (8, .bipush 6), (10, .if_icmp .ge 19), (13, .aload_n 0), (14, .getfield 7), (17, .bipush 63), (19, .iload_n 3), (20, .iadd), (21, .iconst 0), (22, .iastore), (23, .iinc 3 1), (26, .goto (-19)), (29, .aload_n 0), (30, .getfield 7), (33, .iconst 4), (34, .iconst 0), (35, .iastore), (36, .iconst 0), (37, .ireturn), (38, .aload_n 0), (39, .iload_n 1), (40, .invokevirtual 308), (43, .ifCond .eq 15), (46, .aload_n 0), (47, .getfield 7), (50, .bipush 63), (52, .iload_n 1), (53, .iadd), (54, .iaload), (55, .ifCond .eq 6), (58, .bipush (-2)), (60, .ireturn), (61, .aload_n 0), (62, .getfield 7), (65, .bipush 63), (67, .iload_n 1), (68, .iadd), (69, .iload_n 2), (70, .ifCond .eq 7), (73, .iconst 1), (74, .goto 4), (77, .iconst 2), (78, .iastore), (79, .aload_n 0), (80, .getfield 7), (83, .iconst 4), (84, .dup2), (85, .iaload), (86, .iconst 1), (87, .iadd), (88, .iastore), (89, .aload_n 0), (90, .getfield 7), (93, .iconst 4), (94, .iaload)]
theorem k255_0 : dck c255 l255_0 := by unfold dck; decide +kernel
def l255_1 : List (Nat × Instr) := [(95, .ireturn)]
theorem k255_1 : dck c255 l255_1 := by unfold dck; decide +kernel
/-! 256: DawnPerquisiteModel.was()I -/
abbrev c256 : ByteArray := prog_20_method_132_code
def l256_0 : List (Nat × Instr) := [(0, .aload_n 0), (1, .invokevirtual 428), (4, .ireturn)]
theorem k256_0 : dck c256 l256_0 := by unfold dck; decide +kernel
/-! 257: DawnPerquisiteModel.fitting()I -/
abbrev c257 : ByteArray := prog_20_method_131_code
def l257_0 : List (Nat × Instr) := [(0, .iconst 0), (1, .istore_n 1), (2, .iconst 0), (3, .istore_n 2), (4, .iload_n 2), (5, .iconst 5), (6, .if_icmp .ge 27), (9, .iload_n 1), (10, .aload_n 0), (11, .iload_n 2), (12, .invokevirtual 425), (15, .ifCond .eq 9), (18, .iconst 1), (19, .iload_n 2), (20, .ishl), (21, .goto 4), (24, .iconst 0), (25, .ior), (26, .istore_n 1), (27, .iinc 2 1), (30, .goto (-26)), (33, .iload_n 1), (34, .ireturn)]
theorem k257_0 : dck c257 l257_0 := by unfold dck; decide +kernel
/-! 258: DawnPerquisiteModel.doesFit(I)Z -/
abbrev c258 : ByteArray := prog_20_method_130_code
def l258_0 : List (Nat × Instr) := [(0, .aload_n 0), (1, .iload_n 1), (2, .invokevirtual 414), (5, .ifCond .ne 5), (8, .iconst 0), (9, .ireturn), (10, .iconst 0), (11, .istore_n 2), (12, .iload_n 2), (13, .aload_n 0), (14, .getfield 7), (17, .iconst 0), (18, .iaload), (19, .if_icmp .ge 50), (22, .aload_n 0), (23, .getfield 7), (26, .bipush 63), (28, .iload_n 2), (29, .iadd), (30, .iaload), (31, .ifCond .eq 32), (34, .aload_n 0), (35, .iload_n 2), (36, .iload_n 1), (37, .invokevirtual 283), (40, .aload_n 0), (41, .getfield 7), (44, .bipush 63), (46, .iload_n 2), (47, .iadd), (48, .iaload), (49, .iconst 1), (50, .if_icmp .ne 7), (53, .iconst 1), (54, .goto 4), (57, .iconst 0), (58, .if_icmp .eq 5), (61, .iconst 0), (62, .ireturn), (63, .iinc 2 1), (66, .goto (-54)), (69, .iconst 1), (70, .ireturn)]
theorem k258_0 : dck c258 l258_0 := by unfold dck; decide +kernel
/-! 259: DawnPerquisiteModel.likeliest()I -/
abbrev c259 : ByteArray := prog_20_method_135_code
def l259_0 : List (Nat × Instr) := [(0, .aload_n 0), (1, .invokevirtual 431), (4, .ireturn)]
theorem k259_0 : dck c259 l259_0 := by unfold dck; decide +kernel
/-! 260: DawnPerquisiteModel.likeliestNow()I -/
abbrev c260 : ByteArray := prog_20_method_134_code
def l260_0 : List (Nat × Instr) := [(0, .iconst (-1)), (1, .istore_n 1), (2, .iconst 0), (3, .istore_n 2), (4, .iload_n 2), (5, .iconst 5), (6, .if_icmp .ge 37), (9, .aload_n 0), (10, .iload_n 2), (11, .invokevirtual 425), (14, .ifCond .eq 23), (17, .iload_n 1), (18, .iconst (-1)), (19, .if_icmp .eq 16), (22, .aload_n 0), (23, .iload_n 2), (24, .invokevirtual 414), (27, .aload_n 0), (28, .iload_n 1), (29, .invokevirtual 414), (32, .if_icmp .le 5), (35, .iload_n 2), (36, .istore_n 1), (37, .iinc 2 1), (40, .goto (-36)), (43, .iload_n 1), (44, .ireturn)]
theorem k260_0 : dck c260 l260_0 := by unfold dck; decide +kernel
/-! 261: DawnPerquisiteModel.surest(Z)J -/
abbrev c261 : ByteArray := prog_20_method_136_code
def l261_0 : List (Nat × Instr) := [(0, .aload_n 0), (1, .invokevirtual 431), (4, .istore_n 2), (5, .iload_n 2), (6, .iconst (-1)), (7, .if_icmp .ne 15), (10, .iload_n 1), (11, .ifCond .eq 7), (14, .lconst 1), (15, .goto 26), (18, .lconst 0), (19, .goto 22), (22, .aload_n 0), (23, .iload_n 2), (24, .invokevirtual 414), (27, .i2l), (28, .aload_n 0), (29, .aload_n 0), (30, .invokevirtual 428), (33, .invokevirtual 434), (36, .i2l), (37, .iload_n 1), (38, .invokestatic 393), (41, .lreturn)]
theorem k261_0 : dck c261 l261_0 := by unfold dck; decide +kernel
/-! 262: DawnPerquisiteModel.oddsOfSet(I)I -/
abbrev c262 : ByteArray := prog_20_method_133_code
def l262_0 : List (Nat × Instr) := [(0, .iconst 0), (1, .istore_n 2), (2, .iconst 0), (3, .istore_n 3), (4, .iload_n 3), (5, .iconst 5), (6, .if_icmp .ge 29), (9, .iload_n 2), (10, .iload_n 1), (11, .iload_n 3), (12, .invokestatic 67), (15, .ifCond .eq 11), (18, .aload_n 0), (19, .iload_n 3), (20, .invokevirtual 414), (23, .goto 4), (26, .iconst 0), (27, .iadd), (28, .istore_n 2), (29, .iinc 3 1), (32, .goto (-28)), (35, .iload_n 2), (36, .ireturn)]
theorem k262_0 : dck c262 l262_0 := by unfold dck; decide +kernel
/-! 263: DawnPerquisiteModel.ask()I -/
abbrev c263 : ByteArray := prog_20_method_138_code
def l263_0 : List (Nat × Instr) := [(0, .aload_n 0), (1, .invokevirtual 428), (4, .invokestatic 78), (7, .iconst 2), (8, .if_icmp .ge 5), (11, .iconst (-1)), (12, .ireturn), (13, .iconst (-1)), (14, .istore_n 1), (15, .iconst 0), (16, .istore_n 2), (17, .iload_n 2), (18, .aload_n 0), (19, .getfield 7), (22, .iconst 0), (23, .iaload), (24, .if_icmp .ge 41), (27, .aload_n 0), (28, .getfield 7), (31, .bipush 63), (33, .iload_n 2), (34, .iadd), (35, .iaload), (36, .ifCond .ne 23), (39, .iload_n 1), (40, .iconst (-1)), (41, .if_icmp .eq 16), (44, .aload_n 0), (45, .iload_n 2), (46, .invokevirtual 437), (49, .aload_n 0), (50, .iload_n 1), (51, .invokevirtual 437), (54, .if_icmp .ge 5), (57, .iload_n 2), (58, .istore_n 1), (59, .iinc 2 1), (62, .goto (-45)), (65, .iload_n 1), (66, .ireturn)]
theorem k263_0 : dck c263 l263_0 := by unfold dck; decide +kernel
/-! 264: DawnPerquisiteModel.greaterPart(I)I -/
abbrev c264 : ByteArray := prog_20_method_137_code
def l264_0 : List (Nat × Instr) := [(0, .aload_n 0), (1, .aload_n 0), (2, .invokevirtual 428), (5, .aload_n 0), (6, .getfield 7), (9, .bipush 39), (11, .iload_n 1), (12, .iadd), (13, .iaload), (14, .iand), (15, .invokevirtual 434), (18, .istore_n 2), (19, .aload_n 0), (20, .aload_n 0), (21, .invokevirtual 428), (24, .aload_n 0), (25, .getfield 7), (28, .bipush 39), (30, .iload_n 1), (31, .iadd), (32, .iaload), (33, .iconst (-1)), (34, .ixor), (35, .iand), (36, .invokevirtual 434), (39, .istore_n 3), (40, .iload_n 2), (41, .iload_n 3), (42, .if_icmp .le 7), (45, .iload_n 2), (46, .goto 4), (49, .iload_n 3), (50, .ireturn)]
theorem k264_0 : dck c264 l264_0 := by unfold dck; decide +kernel
/-! 265: DawnPerquisiteModel.auction(II)I -/
abbrev c265 : ByteArray := prog_20_method_142_code
def l265_0 : List (Nat × Instr) := [(0, .iload_n 1), (1, .invokestatic 321), (4, .ifCond .eq 12), (7, .iload_n 2), (8, .iconst 0), (9, .iconst 2), (10, .invokestatic 63), (13, .ifCond .ne 5), (16, .iconst (-1)), (17, .ireturn), (18, .aload_n 0), (19, .iload_n 1), (20, .iconst (-1)), (21, .invokevirtual 446), (24, .istore_n 3), (25, .iload_n 3), (26, .iconst (-1)), (27, .if_icmp .ne 5), (30, .iconst (-1)), (31, .ireturn), (32, .aload_n 0), (33, .iload_n 1), (34, .iload_n 3), (35, .invokevirtual 446), (38, .istore 4), (40, .iconst 0), (41, .istore 5), (43, .iconst 0), (44, .istore 6), (46, .iload 6), (48, .aload_n 0), (49, .getfield 7), (52, .iconst 0), (53, .iaload), (54, .if_icmp .ge 29), (57, .iload 5), (59, .aload_n 0), (60, .iload 6), (62, .iload_n 1), (63, .invokevirtual 440), (66, .ifCond .eq 7), (69, .iconst 1), (70, .goto 4), (73, .iconst 0), (74, .iadd), (75, .istore 5), (77, .iinc 6 1), (80, .goto (-34)), (83, .iload_n 2), (84, .ifCond .ne 7), (87, .iload_n 3), (88, .goto 29), (91, .iload_n 2), (92, .iconst 2), (93, .if_icmp .ne 8), (96, .iload 5), (98, .goto 19), (101, .iload 4), (103, .iconst (-1)), (104, .if_icmp .ne 7)]
theorem k265_0 : dck c265 l265_0 := by unfold dck; decide +kernel
def l265_1 : List (Nat × Instr) := [(107, .iconst 0), (108, .goto 9), (111, .aload_n 0), (112, .iload 4), (114, .invokevirtual 443), (117, .ireturn)]
theorem k265_1 : dck c265 l265_1 := by unfold dck; decide +kernel
/-! 266: DawnPerquisiteModel.bidderOf(II)I -/
abbrev c266 : ByteArray := prog_20_method_141_code
def l266_0 : List (Nat × Instr) := [(0, .iconst (-1)), (1, .istore_n 3), (2, .iconst 0), (3, .istore 4), (5, .iload 4), (7, .aload_n 0), (8, .getfield 7), (11, .iconst 0), (12, .iaload), (13, .if_icmp .ge 47), (16, .iload 4), (18, .iload_n 2), (19, .if_icmp .eq 35), (22, .aload_n 0), (23, .iload 4), (25, .iload_n 1), (26, .invokevirtual 440), (29, .ifCond .eq 25), (32, .iload_n 3), (33, .iconst (-1)), (34, .if_icmp .eq 17), (37, .aload_n 0), (38, .iload 4), (40, .invokevirtual 443), (43, .aload_n 0), (44, .iload_n 3), (45, .invokevirtual 443), (48, .if_icmp .le 6), (51, .iload 4), (53, .istore_n 3), (54, .iinc 4 1), (57, .goto (-52)), (60, .iload_n 3), (61, .ireturn)]
theorem k266_0 : dck c266 l266_0 := by unfold dck; decide +kernel
/-! 267: DawnPerquisiteModel.doesBid(II)Z -/
abbrev c267 : ByteArray := prog_20_method_139_code
def l267_0 : List (Nat × Instr) := [(0, .aload_n 0), (1, .iload_n 1), (2, .aload_n 0), (3, .getfield 7), (6, .bipush 9), (8, .iaload), (9, .invokevirtual 283), (12, .ifCond .eq 19), (15, .aload_n 0), (16, .iload_n 1), (17, .invokevirtual 311), (20, .iload_n 2), (21, .invokestatic 67), (24, .ifCond .eq 7), (27, .iconst 1), (28, .goto 4), (31, .iconst 0), (32, .ireturn)]
theorem k267_0 : dck c267 l267_0 := by unfold dck; decide +kernel
/-! 268: DawnPerquisiteModel.bidFor(I)I -/
abbrev c268 : ByteArray := prog_20_method_140_code
def l268_0 : List (Nat × Instr) := [(0, .aload_n 0), (1, .iload_n 1), (2, .invokevirtual 314), (5, .aload_n 0), (6, .iload_n 1), (7, .invokevirtual 71), (10, .idiv), (11, .ireturn)]
theorem k268_0 : dck c268 l268_0 := by unfold dck; decide +kernel
/-! 269: DawnPerquisiteModel.stab(Z)I -/
abbrev c269 : ByteArray := prog_20_method_144_code
def l269_0 : List (Nat × Instr) := [(0, .sipush 4095), (3, .istore_n 2), (4, .sipush 4095), (7, .istore_n 3), (8, .iload_n 3), (9, .ifCond .lt 30), (12, .iload_n 3), (13, .invokestatic 78), (16, .iload_n 2), (17, .invokestatic 78), (20, .if_icmp .gt 13), (23, .aload_n 0), (24, .iload_n 3), (25, .invokevirtual 449), (28, .ifCond .eq 5), (31, .iload_n 3), (32, .istore_n 2), (33, .iinc 3 (-1)), (36, .goto (-28)), (39, .iload_n 1), (40, .ifCond .eq 10), (43, .iload_n 2), (44, .invokestatic 78), (47, .goto 4), (50, .iload_n 2), (51, .ireturn)]
theorem k269_0 : dck c269 l269_0 := by unfold dck; decide +kernel
/-! 270: DawnPerquisiteModel.areServed(I)Z -/
abbrev c270 : ByteArray := prog_20_method_143_code
def l270_0 : List (Nat × Instr) := [(0, .iconst 0), (1, .istore_n 2), (2, .iload_n 2), (3, .aload_n 0), (4, .getfield 7), (7, .iconst 0), (8, .iaload), (9, .if_icmp .ge 21), (12, .aload_n 0), (13, .iload_n 2), (14, .invokevirtual 311), (17, .iload_n 1), (18, .iand), (19, .ifCond .ne 5), (22, .iconst 0), (23, .ireturn), (24, .iinc 2 1), (27, .goto (-25)), (30, .iconst 1), (31, .ireturn)]
theorem k270_0 : dck c270 l270_0 := by unfold dck; decide +kernel
/-! 271: DawnPerquisiteModel.crowd(Z)I -/
abbrev c271 : ByteArray := prog_20_method_146_code
def l271_0 : List (Nat × Instr) := [(0, .iconst 0), (1, .istore_n 2), (2, .iconst 1), (3, .istore_n 3), (4, .iload_n 3), (5, .bipush 12), (7, .if_icmp .ge 24), (10, .aload_n 0), (11, .iload_n 3), (12, .invokevirtual 452), (15, .aload_n 0), (16, .iload_n 2), (17, .invokevirtual 452), (20, .if_icmp .le 5), (23, .iload_n 3), (24, .istore_n 2), (25, .iinc 3 1), (28, .goto (-24)), (31, .iload_n 1), (32, .ifCond .eq 7), (35, .iload_n 2), (36, .goto 8), (39, .aload_n 0), (40, .iload_n 2), (41, .invokevirtual 452), (44, .ireturn)]
theorem k271_0 : dck c271 l271_0 := by unfold dck; decide +kernel
/-! 272: DawnPerquisiteModel.crowdAt(I)I -/
abbrev c272 : ByteArray := prog_20_method_145_code
def l272_0 : List (Nat × Instr) := [(0, .iconst 0), (1, .istore_n 2), (2, .iconst 0), (3, .istore_n 3), (4, .iload_n 3), (5, .aload_n 0), (6, .getfield 7), (9, .iconst 0), (10, .iaload), (11, .if_icmp .ge 29), (14, .iload_n 2), (15, .aload_n 0), (16, .iload_n 3), (17, .invokevirtual 311), (20, .iload_n 1), (21, .invokestatic 67), (24, .ifCond .eq 7), (27, .iconst 1), (28, .goto 4), (31, .iconst 0), (32, .iadd), (33, .istore_n 2), (34, .iinc 3 1), (37, .goto (-33)), (40, .iload_n 2), (41, .ireturn)]
theorem k272_0 : dck c272 l272_0 := by unfold dck; decide +kernel
/-! 273: DawnPerquisiteModel.dawns(I)I -/
abbrev c273 : ByteArray := prog_20_method_148_code
def l273_0 : List (Nat × Instr) := [(0, .aload_n 0), (1, .iload_n 1), (2, .invokevirtual 308), (5, .ifCond .ne 5), (8, .iconst (-1)), (9, .ireturn), (10, .aload_n 0), (11, .invokevirtual 455), (14, .aload_n 0), (15, .getfield 53), (18, .iload_n 1), (19, .iaload), (20, .ireturn)]
theorem k273_0 : dck c273 l273_0 := by unfold dck; decide +kernel
/-! 274: DawnPerquisiteModel.layDawns()V -/
abbrev c274 : ByteArray := prog_20_method_147_code
def l274_0 : List (Nat × Instr) := [(0, .iconst 0), (1, .istore_n 1), (2, .iload_n 1), (3, .bipush 6), (5, .if_icmp .ge 16), (8, .aload_n 0), (9, .getfield 50), (12, .iload_n 1), (13, .iconst 0), (14, .iastore), (15, .iinc 1 1), (18, .goto (-16)), (21, .iconst 0), (22, .istore_n 1), (23, .iload_n 1), (24, .bipush 12), (26, .if_icmp .ge 87), (29, .iconst 0), (30, .istore_n 2), (31, .iload_n 2), (32, .aload_n 0), (33, .getfield 7), (36, .iconst 0), (37, .iaload), (38, .if_icmp .ge 69), (41, .aload_n 0), (42, .getfield 7), (45, .bipush 45), (47, .iload_n 2), (48, .iadd), (49, .iaload), (50, .iload_n 1), (51, .if_icmp .eq 6), (54, .goto 47), (57, .iconst 0), (58, .istore_n 3), (59, .aload_n 0), (60, .getfield 50), (63, .iload_n 3), (64, .iaload), (65, .aload_n 0), (66, .iload_n 2), (67, .invokevirtual 311), (70, .iand), (71, .ifCond .eq 9), (74, .iinc 3 1), (77, .goto (-18)), (80, .aload_n 0), (81, .getfield 50), (84, .iload_n 3), (85, .dup2), (86, .iaload), (87, .aload_n 0), (88, .iload_n 2), (89, .invokevirtual 311), (92, .ior), (93, .iastore), (94, .aload_n 0), (95, .getfield 53), (98, .iload_n 2)]
theorem k274_0 : dck c274 l274_0 := by unfold dck; decide +kernel
def l274_1 : List (Nat × Instr) := [(99, .iload_n 3), (100, .iastore), (101, .iinc 2 1), (104, .goto (-73)), (107, .iinc 1 1), (110, .goto (-87)), (113, .return_)]
theorem k274_1 : dck c274 l274_1 := by unfold dck; decide +kernel
/-! 275: DawnPerquisiteModel.month(IZ)J -/
abbrev c275 : ByteArray := prog_20_method_149_code
def l275_0 : List (Nat × Instr) := [(0, .iload_n 1), (1, .iconst 1), (2, .bipush 60), (4, .invokestatic 63), (7, .ifCond .ne 7), (10, .ldc2_w 391), (13, .lreturn), (14, .lconst 0), (15, .lstore_n 3), (16, .iconst 0), (17, .istore 5), (19, .iload 5), (21, .iconst 5), (22, .if_icmp .ge 46), (25, .aload_n 0), (26, .iload 5), (28, .invokevirtual 414), (31, .ifCond .le 31), (34, .lload_n 3), (35, .iload_n 1), (36, .i2l), (37, .aload_n 0), (38, .iload 5), (40, .invokevirtual 414), (43, .i2l), (44, .lmul), (45, .aload_n 0), (46, .aload_n 0), (47, .iconst 0), (48, .iload 5), (50, .invokevirtual 400), (53, .iload 5), (55, .invokevirtual 397), (58, .i2l), (59, .lmul), (60, .ladd), (61, .lstore_n 3), (62, .iinc 5 1), (65, .goto (-46)), (68, .lload_n 3), (69, .aload_n 0), (70, .invokevirtual 407), (73, .i2l), (74, .iload_n 2), (75, .invokestatic 393), (78, .lreturn)]
theorem k275_0 : dck c275 l275_0 := by unfold dck; decide +kernel
/-! 276: DawnPerquisiteModel.value(II)Z -/
abbrev c276 : ByteArray := prog_20_method_150_code
def l276_0 : List (Nat × Instr) := [(0, .iload_n 1), (1, .invokestatic 321), (4, .ifCond .eq 13), (7, .iload_n 2), (8, .iconst 0), (9, .bipush 99), (11, .invokestatic 63), (14, .ifCond .ne 5), (17, .iconst 0), (18, .ireturn), (19, .aload_n 0), (20, .getfield 7), (23, .bipush 69), (25, .iload_n 1), (26, .iadd), (27, .iload_n 2), (28, .iastore), (29, .iconst 1), (30, .ireturn)]
theorem k276_0 : dck c276 l276_0 := by unfold dck; decide +kernel
/-! 277: DawnPerquisiteModel.ends(II)I -/
abbrev c277 : ByteArray := prog_20_method_154_code
def l277_0 : List (Nat × Instr) := [(0, .iload_n 1), (1, .iload_n 2), (2, .invokestatic 85), (5, .ifCond .ne 7), (8, .sipush (-1000)), (11, .ireturn), (12, .aload_n 0), (13, .invokevirtual 464), (16, .aload_n 0), (17, .getfield 56), (20, .bipush 12), (22, .iload_n 1), (23, .imul), (24, .iload_n 2), (25, .iadd), (26, .iaload), (27, .ireturn)]
theorem k277_0 : dck c277 l277_0 := by unfold dck; decide +kernel
/-! 278: DawnPerquisiteModel.layGames()V -/
abbrev c278 : ByteArray := prog_20_method_153_code
def l278_0 : List (Nat × Instr) := [(0, .iconst 0), (1, .istore_n 1), (2, .iload_n 1), (3, .bipush 12), (5, .if_icmp .ge 69), (8, .iconst 0), (9, .istore_n 2), (10, .iload_n 2), (11, .iload_n 1), (12, .iadd), (13, .bipush 12), (15, .if_icmp .ge 53), (18, .aload_n 0), (19, .iload_n 2), (20, .iload_n 2), (21, .iload_n 1), (22, .iadd), (23, .invokevirtual 458), (26, .istore_n 3), (27, .aload_n 0), (28, .iload_n 2), (29, .iload_n 2), (30, .iload_n 1), (31, .iadd), (32, .invokevirtual 461), (35, .istore 4), (37, .aload_n 0), (38, .getfield 56), (41, .bipush 12), (43, .iload_n 2), (44, .imul), (45, .iload_n 2), (46, .iadd), (47, .iload_n 1), (48, .iadd), (49, .iload_n 3), (50, .iload 4), (52, .if_icmp .le 7), (55, .iload_n 3), (56, .goto 5), (59, .iload 4), (61, .iastore), (62, .iinc 2 1), (65, .goto (-55)), (68, .iinc 1 1), (71, .goto (-69)), (74, .return_)]
theorem k278_0 : dck c278 l278_0 := by unfold dck; decide +kernel
/-! 279: DawnPerquisiteModel.byLeft(II)I -/
abbrev c279 : ByteArray := prog_20_method_151_code
def l279_0 : List (Nat × Instr) := [(0, .aload_n 0), (1, .getfield 7), (4, .bipush 69), (6, .iload_n 1), (7, .iadd), (8, .iaload), (9, .iload_n 1), (10, .iload_n 2), (11, .if_icmp .ne 7), (14, .iconst 0), (15, .goto 16), (18, .aload_n 0), (19, .getfield 56), (22, .bipush 12), (24, .iload_n 1), (25, .iconst 1), (26, .iadd), (27, .imul), (28, .iload_n 2), (29, .iadd), (30, .iaload), (31, .isub), (32, .ireturn)]
theorem k279_0 : dck c279 l279_0 := by unfold dck; decide +kernel
/-! 280: DawnPerquisiteModel.byRight(II)I -/
abbrev c280 : ByteArray := prog_20_method_152_code
def l280_0 : List (Nat × Instr) := [(0, .aload_n 0), (1, .getfield 7), (4, .bipush 69), (6, .iload_n 2), (7, .iadd), (8, .iaload), (9, .iload_n 1), (10, .iload_n 2), (11, .if_icmp .ne 7), (14, .iconst 0), (15, .goto 16), (18, .aload_n 0), (19, .getfield 56), (22, .bipush 12), (24, .iload_n 1), (25, .imul), (26, .iload_n 2), (27, .iadd), (28, .iconst 1), (29, .isub), (30, .iaload), (31, .isub), (32, .ireturn)]
theorem k280_0 : dck c280 l280_0 := by unfold dck; decide +kernel
/-! 281: DawnPerquisiteModel.take(II)I -/
abbrev c281 : ByteArray := prog_20_method_155_code
def l281_0 : List (Nat × Instr) := [(0, .iload_n 1), (1, .iload_n 2), (2, .invokestatic 85), (5, .ifCond .ne 5), (8, .iconst (-1)), (9, .ireturn), (10, .aload_n 0), (11, .invokevirtual 464), (14, .aload_n 0), (15, .iload_n 1), (16, .iload_n 2), (17, .invokevirtual 458), (20, .aload_n 0), (21, .iload_n 1), (22, .iload_n 2), (23, .invokevirtual 461), (26, .if_icmp .lt 7), (29, .iconst 0), (30, .goto 4), (33, .iconst 1), (34, .ireturn)]
theorem k281_0 : dck c281 l281_0 := by unfold dck; decide +kernel
/-! 282: DawnPerquisiteModel.best(III)I -/
abbrev c282 : ByteArray := prog_20_method_157_code
def l282_0 : List (Nat × Instr) := [(0, .iload_n 1), (1, .iload_n 2), (2, .invokestatic 85), (5, .ifCond .eq 12), (8, .iload_n 3), (9, .iconst 0), (10, .iconst 2), (11, .invokestatic 63), (14, .ifCond .ne 7), (17, .sipush (-1000)), (20, .ireturn), (21, .iload_n 1), (22, .istore 4), (24, .iload_n 1), (25, .istore 5), (27, .iload_n 1), (28, .istore 6), (30, .iload 6), (32, .iload_n 2), (33, .if_icmp .gt 55), (36, .iload 6), (38, .istore 7), (40, .iload 7), (42, .iload_n 2), (43, .if_icmp .gt 39), (46, .aload_n 0), (47, .iload 6), (49, .iload 7), (51, .invokevirtual 467), (54, .aload_n 0), (55, .iload 4), (57, .iload 5), (59, .invokevirtual 467), (62, .if_icmp .gt 6), (65, .goto 11), (68, .iload 6), (70, .istore 4), (72, .iload 7), (74, .istore 5), (76, .iinc 7 1), (79, .goto (-39)), (82, .iinc 6 1), (85, .goto (-55)), (88, .iload_n 3), (89, .ifCond .ne 14), (92, .aload_n 0), (93, .iload 4), (95, .iload 5), (97, .invokevirtual 467), (100, .goto 15), (103, .iload_n 3), (104, .iconst 1), (105, .if_icmp .ne 8), (108, .iload 4), (110, .goto 5), (113, .iload 5), (115, .ireturn)]
theorem k282_0 : dck c282 l282_0 := by unfold dck; decide +kernel
/-! 283: DawnPerquisiteModel.runOf(II)I -/
abbrev c283 : ByteArray := prog_20_method_156_code
def l283_0 : List (Nat × Instr) := [(0, .iconst 0), (1, .istore_n 3), (2, .iload_n 1), (3, .istore 4), (5, .iload 4), (7, .iload_n 2), (8, .if_icmp .gt 25), (11, .iload_n 3), (12, .aload_n 0), (13, .getfield 7), (16, .bipush 69), (18, .iload 4), (20, .iadd), (21, .iaload), (22, .bipush 50), (24, .isub), (25, .iadd), (26, .istore_n 3), (27, .iinc 4 1), (30, .goto (-25)), (33, .iload_n 3), (34, .ireturn)]
theorem k283_0 : dck c283 l283_0 := by unfold dck; decide +kernel
/-! 284: DawnPerquisiteModel.said(II)I -/
abbrev c284 : ByteArray := prog_20_method_158_code
def l284_0 : List (Nat × Instr) := [(0, .iload_n 1), (1, .iconst (-1)), (2, .if_icmp .ne 12), (5, .aload_n 0), (6, .getfield 7), (9, .iconst 5), (10, .iconst 0), (11, .iastore), (12, .iconst 0), (13, .ireturn), (14, .aload_n 0), (15, .iload_n 1), (16, .invokevirtual 308), (19, .ifCond .eq 24), (22, .iload_n 2), (23, .iconst 0), (24, .bipush 99), (26, .invokestatic 63), (29, .ifCond .eq 14), (32, .aload_n 0), (33, .getfield 7), (36, .iconst 5), (37, .iaload), (38, .bipush 8), (40, .if_icmp .ne 6), (43, .bipush (-2)), (45, .ireturn), (46, .aload_n 0), (47, .getfield 7), (50, .bipush 81), (52, .iconst 2), (53, .aload_n 0), (54, .getfield 7), (57, .iconst 5), (58, .iaload), (59, .imul), (60, .iadd), (61, .iload_n 1), (62, .iastore), (63, .aload_n 0), (64, .getfield 7), (67, .bipush 81), (69, .iconst 2), (70, .aload_n 0), (71, .getfield 7), (74, .iconst 5), (75, .iaload), (76, .imul), (77, .iadd), (78, .iconst 1), (79, .iadd), (80, .iload_n 2), (81, .iastore), (82, .aload_n 0), (83, .getfield 7), (86, .iconst 5), (87, .dup2), (88, .iaload), (89, .iconst 1), (90, .iadd)]
theorem k284_0 : dck c284 l284_0 := by unfold dck; decide +kernel
def l284_1 : List (Nat × Instr) := [(91, .iastore), (92, .aload_n 0), (93, .getfield 7), (96, .iconst 5), (97, .iaload), (98, .ireturn)]
theorem k284_1 : dck c284 l284_1 := by unfold dck; decide +kernel
/-! 285: DawnPerquisiteModel.whose()I -/
abbrev c285 : ByteArray := prog_20_method_159_code
def l285_0 : List (Nat × Instr) := [(0, .iconst 0), (1, .istore_n 1), (2, .iconst 0), (3, .istore_n 2), (4, .iload_n 2), (5, .aload_n 0), (6, .getfield 7), (9, .iconst 1), (10, .iaload), (11, .if_icmp .ge 92), (14, .iconst 1), (15, .istore_n 3), (16, .bipush 81), (18, .istore 4), (20, .iload 4), (22, .bipush 81), (24, .iconst 2), (25, .aload_n 0), (26, .getfield 7), (29, .iconst 5), (30, .iaload), (31, .imul), (32, .iadd), (33, .if_icmp .ge 50), (36, .iload_n 3), (37, .ifCond .eq 38), (40, .aload_n 0), (41, .iload_n 2), (42, .aload_n 0), (43, .getfield 7), (46, .iload 4), (48, .iaload), (49, .aload_n 0), (50, .getfield 7), (53, .bipush 9), (55, .iaload), (56, .invokevirtual 296), (59, .aload_n 0), (60, .getfield 7), (63, .iload 4), (65, .iconst 1), (66, .iadd), (67, .iaload), (68, .if_icmp .ne 7), (71, .iconst 1), (72, .goto 4), (75, .iconst 0), (76, .istore_n 3), (77, .iinc 4 2), (80, .goto (-60)), (83, .iload_n 1), (84, .iload_n 3), (85, .ifCond .eq 9), (88, .iconst 1), (89, .iload_n 2), (90, .ishl), (91, .goto 4), (94, .iconst 0), (95, .ior), (96, .istore_n 1)]
theorem k285_0 : dck c285 l285_0 := by unfold dck; decide +kernel
def l285_1 : List (Nat × Instr) := [(97, .iinc 2 1), (100, .goto (-96)), (103, .iload_n 1), (104, .ireturn)]
theorem k285_1 : dck c285 l285_1 := by unfold dck; decide +kernel
/-! 286: DawnPerquisiteModel.image()I -/
abbrev c286 : ByteArray := prog_20_method_160_code
def l286_0 : List (Nat × Instr) := [(0, .aload_n 0), (1, .getfield 7), (4, .aload_n 0), (5, .getfield 13), (8, .invokestatic 59), (11, .aload_n 0), (12, .getfield 7), (15, .bipush 6), (17, .iaload), (18, .ireturn)]
theorem k286_0 : dck c286 l286_0 := by unfold dck; decide +kernel
/-! 287: DawnPerquisiteModel.back()I -/
abbrev c287 : ByteArray := prog_20_method_161_code
def l287_0 : List (Nat × Instr) := [(0, .aload_n 0), (1, .getfield 13), (4, .aload_n 0), (5, .getfield 7), (8, .invokestatic 59), (11, .aload_n 0), (12, .getfield 7), (15, .bipush 6), (17, .iaload), (18, .ireturn)]
theorem k287_0 : dck c287 l287_0 := by unfold dck; decide +kernel
/-! 288: DawnPerquisiteModel.about(I)I -/
abbrev c288 : ByteArray := prog_20_method_162_code
def l288_0 : List (Nat × Instr) := [(0, .iload_n 1), (1, .iconst 0), (2, .iconst 5), (3, .invokestatic 63), (6, .ifCond .eq 12), (9, .aload_n 0), (10, .getfield 7), (13, .iload_n 1), (14, .iaload), (15, .goto 18), (18, .iload_n 1), (19, .bipush 6), (21, .if_icmp .ne 10), (24, .aload_n 0), (25, .getfield 88), (28, .goto 5), (31, .bipush (-2)), (33, .ireturn)]
theorem k288_0 : dck c288 l288_0 := by unfold dck; decide +kernel
/-! 289: DawnPerquisite$Tokens.<init>([BI)V -/
abbrev c289 : ByteArray := prog_16_method_1_code
def l289_0 : List (Nat × Instr) := [(0, .aload_n 0), (1, .invokespecial 3), (4, .aload_n 0), (5, .aload_n 1), (6, .putfield 9), (9, .aload_n 0), (10, .iload_n 2), (11, .putfield 15), (14, .return_)]
theorem k289_0 : dck c289 l289_0 := by unfold dck; decide +kernel
/-! 290: DawnPerquisite$Tokens.read()LDawnPerquisite$Text; -/
abbrev c290 : ByteArray := prog_16_method_10_code
def l290_0 : List (Nat × Instr) := [(0, .new 80), (3, .dup), (4, .invokespecial 82), (7, .astore_n 1), (8, .aload_n 0), (9, .invokevirtual 74), (12, .aload_n 0), (13, .getfield 25), (16, .sipush 301), (19, .if_icmp .eq 154), (22, .aload_n 0), (23, .getfield 25), (26, .sipush 200), (29, .if_icmp .lt 13), (32, .aload_n 0), (33, .getfield 25), (36, .sipush 207), (39, .if_icmp .le 9), (42, .aload_n 0), (43, .iconst 1), (44, .invokevirtual 70), (47, .athrow), (48, .aload_n 0), (49, .aload_n 0), (50, .getfield 25), (53, .putfield 83), (56, .aload_n 0), (57, .getfield 83), (60, .sipush 201), (63, .if_icmp .gt 25), (66, .aload_n 1), (67, .getfield 86), (70, .aload_n 0), (71, .getfield 83), (74, .sipush 200), (77, .isub), (78, .aaload), (79, .ifnull 9), (82, .aload_n 0), (83, .iconst 4), (84, .invokevirtual 70), (87, .athrow), (88, .aload_n 1), (89, .getfield 90), (92, .bipush 24), (94, .if_icmp .ne 10), (97, .aload_n 0), (98, .bipush 6), (100, .invokevirtual 70), (103, .athrow), (104, .aload_n 0), (105, .invokevirtual 74), (108, .aload_n 0), (109, .getfield 83), (112, .sipush 201), (115, .if_icmp .gt 23), (118, .aload_n 1), (119, .getfield 86), (122, .aload_n 0), (123, .getfield 83)]
theorem k290_0 : dck c290 l290_0 := by unfold dck; decide +kernel
def l290_1 : List (Nat × Instr) := [(126, .sipush 200), (129, .isub), (130, .aload_n 0), (131, .invokevirtual 93), (134, .aastore), (135, .goto 19), (138, .aload_n 1), (139, .getfield 97), (142, .aload_n 0), (143, .aload_n 1), (144, .getfield 90), (147, .invokevirtual 101), (150, .invokevirtual 105), (153, .pop), (154, .aload_n 0), (155, .bipush 59), (157, .invokevirtual 111), (160, .aload_n 1), (161, .dup), (162, .getfield 90), (165, .iconst 1), (166, .iadd), (167, .putfield 90), (170, .goto (-158)), (173, .aload_n 1), (174, .areturn)]
theorem k290_1 : dck c290 l290_1 := by unfold dck; decide +kernel
/-! 291: DawnPerquisite$Tokens.next()V -/
abbrev c291 : ByteArray := prog_16_method_4_code
def l291_0 : List (Nat × Instr) := [(0, .aload_n 0), (1, .getfield 19), (4, .aload_n 0), (5, .getfield 15), (8, .if_icmp .ge 44), (11, .aload_n 0), (12, .getfield 9), (15, .aload_n 0), (16, .getfield 19), (19, .baload), (20, .bipush 32), (22, .if_icmp .eq 17), (25, .aload_n 0), (26, .getfield 9), (29, .aload_n 0), (30, .getfield 19), (33, .baload), (34, .bipush 10), (36, .if_icmp .ne 16), (39, .aload_n 0), (40, .dup), (41, .getfield 19), (44, .iconst 1), (45, .iadd), (46, .putfield 19), (49, .goto (-49)), (52, .aload_n 0), (53, .aload_n 0), (54, .getfield 19), (57, .putfield 22), (60, .aload_n 0), (61, .getfield 19), (64, .aload_n 0), (65, .getfield 15), (68, .if_icmp .ne 13), (71, .aload_n 0), (72, .sipush 301), (75, .putfield 25), (78, .goto 324), (81, .aload_n 0), (82, .getfield 9), (85, .aload_n 0), (86, .getfield 19), (89, .baload), (90, .invokestatic 28), (93, .ifCond .eq 89), (96, .aload_n 0), (97, .getfield 19), (100, .aload_n 0), (101, .getfield 15), (104, .if_icmp .ge 31), (107, .aload_n 0), (108, .getfield 9), (111, .aload_n 0), (112, .getfield 19), (115, .baload), (116, .invokestatic 28), (119, .ifCond .eq 16), (122, .aload_n 0), (123, .dup)]
theorem k291_0 : dck c291 l291_0 := by unfold dck; decide +kernel
def l291_1 : List (Nat × Instr) := [(124, .getfield 19), (127, .iconst 1), (128, .iadd), (129, .putfield 19), (132, .goto (-36)), (135, .aload_n 0), (136, .sipush 302), (139, .putfield 25), (142, .iconst 0), (143, .istore_n 1), (144, .iload_n 1), (145, .getstatic 32), (148, .arraylength), (149, .if_icmp .ge 30), (152, .aload_n 0), (153, .getstatic 32), (156, .iload_n 1), (157, .aaload), (158, .invokevirtual 36), (161, .ifCond .eq 12), (164, .aload_n 0), (165, .sipush 200), (168, .iload_n 1), (169, .iadd), (170, .putfield 25), (173, .iinc 1 1), (176, .goto (-32)), (179, .goto 223), (182, .aload_n 0), (183, .getfield 9), (186, .aload_n 0), (187, .getfield 19), (190, .baload), (191, .invokestatic 40), (194, .ifCond .eq 83), (197, .aload_n 0), (198, .sipush 300), (201, .putfield 25), (204, .aload_n 0), (205, .iconst 0), (206, .putfield 43), (209, .aload_n 0), (210, .getfield 19), (213, .aload_n 0), (214, .getfield 15), (217, .if_icmp .ge 185), (220, .aload_n 0), (221, .getfield 9), (224, .aload_n 0), (225, .getfield 19), (228, .baload), (229, .invokestatic 40), (232, .ifCond .eq 170), (235, .aload_n 0), (236, .ldc 46), (238, .bipush 10), (240, .aload_n 0), (241, .getfield 43), (244, .imul), (245, .aload_n 0)]
theorem k291_1 : dck c291 l291_1 := by unfold dck; decide +kernel
def l291_2 : List (Nat × Instr) := [(246, .getfield 9), (249, .aload_n 0), (250, .getfield 19), (253, .baload), (254, .iadd), (255, .bipush 48), (257, .isub), (258, .invokestatic 47), (261, .putfield 43), (264, .aload_n 0), (265, .dup), (266, .getfield 19), (269, .iconst 1), (270, .iadd), (271, .putfield 19), (274, .goto (-65)), (277, .aload_n 0), (278, .getfield 9), (281, .aload_n 0), (282, .getfield 19), (285, .baload), (286, .istore_n 1), (287, .aload_n 0), (288, .dup), (289, .getfield 19), (292, .iconst 1), (293, .iadd), (294, .putfield 19), (297, .aload_n 0), (298, .sipush 302), (301, .putfield 25), (304, .iconst 0), (305, .istore_n 2), (306, .iload_n 2), (307, .ldc 53), (309, .invokevirtual 55), (312, .if_icmp .ge 24), (315, .ldc 53), (317, .iload_n 2), (318, .invokevirtual 61), (321, .iload_n 1), (322, .if_icmp .ne 8), (325, .aload_n 0), (326, .iload_n 1), (327, .putfield 25), (330, .iinc 2 1), (333, .goto (-27)), (336, .iload_n 1), (337, .bipush 60), (339, .if_icmp .eq 9), (342, .iload_n 1), (343, .bipush 62), (345, .if_icmp .ne 57), (348, .aload_n 0), (349, .getfield 19), (352, .aload_n 0), (353, .getfield 15), (356, .if_icmp .ge 46), (359, .aload_n 0), (360, .getfield 9)]
theorem k291_2 : dck c291 l291_2 := by unfold dck; decide +kernel
def l291_3 : List (Nat × Instr) := [(363, .aload_n 0), (364, .getfield 19), (367, .baload), (368, .bipush 61), (370, .if_icmp .ne 32), (373, .aload_n 0), (374, .iload_n 1), (375, .bipush 60), (377, .if_icmp .ne 9), (380, .sipush 303), (383, .goto 6), (386, .sipush 304), (389, .putfield 25), (392, .aload_n 0), (393, .dup), (394, .getfield 19), (397, .iconst 1), (398, .iadd), (399, .putfield 19), (402, .return_)]
theorem k291_3 : dck c291 l291_3 := by unfold dck; decide +kernel
/-! 292: DawnPerquisite$Tokens.isLetter(I)Z -/
abbrev c292 : ByteArray := prog_16_method_2_code
def l292_0 : List (Nat × Instr) := [(0, .iload_n 0), (1, .bipush 97), (3, .if_icmp .lt 9), (6, .iload_n 0), (7, .bipush 122), (9, .if_icmp .le 15), (12, .iload_n 0), (13, .bipush 65), (15, .if_icmp .lt 13), (18, .iload_n 0), (19, .bipush 90), (21, .if_icmp .gt 7), (24, .iconst 1), (25, .goto 4), (28, .iconst 0), (29, .ireturn)]
theorem k292_0 : dck c292 l292_0 := by unfold dck; decide +kernel
/-! 293: DawnPerquisite$Tokens.isWord(Ljava/lang/String;)Z -/
abbrev c293 : ByteArray := prog_16_method_5_code
def l293_0 : List (Nat × Instr) := [(0, .aload_n 0), (1, .getfield 19), (4, .aload_n 0), (5, .getfield 22), (8, .isub), (9, .aload_n 1), (10, .invokevirtual 55), (13, .if_icmp .eq 5), (16, .iconst 0), (17, .ireturn), (18, .iconst 0), (19, .istore_n 2), (20, .iload_n 2), (21, .aload_n 1), (22, .invokevirtual 55), (25, .if_icmp .ge 30), (28, .aload_n 0), (29, .getfield 9), (32, .aload_n 0), (33, .getfield 22), (36, .iload_n 2), (37, .iadd), (38, .baload), (39, .aload_n 1), (40, .iload_n 2), (41, .invokevirtual 61), (44, .if_icmp .eq 5), (47, .iconst 0), (48, .ireturn), (49, .iinc 2 1), (52, .goto (-32)), (55, .iconst 1), (56, .ireturn)]
theorem k293_0 : dck c293 l293_0 := by unfold dck; decide +kernel
/-! 294: DawnPerquisite$Tokens.isDigit(I)Z -/
abbrev c294 : ByteArray := prog_16_method_3_code
def l294_0 : List (Nat × Instr) := [(0, .iload_n 0), (1, .bipush 48), (3, .if_icmp .lt 13), (6, .iload_n 0), (7, .bipush 57), (9, .if_icmp .gt 7), (12, .iconst 1), (13, .goto 4), (16, .iconst 0), (17, .ireturn)]
theorem k294_0 : dck c294 l294_0 := by unfold dck; decide +kernel
/-! 295: DawnPerquisite$Tokens.wrong(I)LDawnPerquisite$Wrong; -/
abbrev c295 : ByteArray := prog_16_method_6_code
def l295_0 : List (Nat × Instr) := [(0, .new 65), (3, .dup), (4, .iload_n 1), (5, .aload_n 0), (6, .getfield 22), (9, .invokespecial 67), (12, .areturn)]
theorem k295_0 : dck c295 l295_0 := by unfold dck; decide +kernel
/-! 296: DawnPerquisite$Tokens.sum()LDawnPerquisite$Sum; -/
abbrev c296 : ByteArray := prog_16_method_15_code
def l296_0 : List (Nat × Instr) := [(0, .new 156), (3, .dup), (4, .aload_n 0), (5, .invokevirtual 158), (8, .invokespecial 161), (11, .astore_n 1), (12, .aload_n 0), (13, .getfield 25), (16, .bipush 43), (18, .if_icmp .eq 12), (21, .aload_n 0), (22, .getfield 25), (25, .bipush 45), (27, .if_icmp .ne 24), (30, .aload_n 0), (31, .getfield 25), (34, .istore_n 2), (35, .aload_n 0), (36, .invokevirtual 74), (39, .aload_n 1), (40, .iload_n 2), (41, .aload_n 0), (42, .invokevirtual 158), (45, .invokevirtual 164), (48, .goto (-36)), (51, .aload_n 1), (52, .invokevirtual 167), (55, .areturn)]
theorem k296_0 : dck c296 l296_0 := by unfold dck; decide +kernel
/-! 297: DawnPerquisite$Tokens.product()LDawnPerquisite$Sum; -/
abbrev c297 : ByteArray := prog_16_method_16_code
def l297_0 : List (Nat × Instr) := [(0, .new 156), (3, .dup), (4, .aload_n 0), (5, .invokevirtual 170), (8, .invokespecial 161), (11, .astore_n 1), (12, .aload_n 0), (13, .getfield 25), (16, .bipush 42), (18, .if_icmp .eq 12), (21, .aload_n 0), (22, .getfield 25), (25, .bipush 47), (27, .if_icmp .ne 24), (30, .aload_n 0), (31, .getfield 25), (34, .istore_n 2), (35, .aload_n 0), (36, .invokevirtual 74), (39, .aload_n 1), (40, .iload_n 2), (41, .aload_n 0), (42, .invokevirtual 170), (45, .invokevirtual 164), (48, .goto (-36)), (51, .aload_n 1), (52, .invokevirtual 167), (55, .areturn)]
theorem k297_0 : dck c297 l297_0 := by unfold dck; decide +kernel
/-! 298: DawnPerquisite$Tokens.one()LDawnPerquisite$Sum; -/
abbrev c298 : ByteArray := prog_16_method_20_code
def l298_0 : List (Nat × Instr) := [(0, .aload_n 0), (1, .getfield 25), (4, .sipush 300), (7, .if_icmp .ne 19), (10, .new 185), (13, .dup), (14, .aload_n 0), (15, .iconst 0), (16, .sipush 9999), (19, .invokevirtual 115), (22, .invokespecial 187), (25, .areturn), (26, .aload_n 0), (27, .getfield 25), (30, .sipush 212), (33, .if_icmp .ne 8), (36, .aload_n 0), (37, .invokevirtual 189), (40, .areturn), (41, .aload_n 0), (42, .invokevirtual 192), (45, .istore_n 1), (46, .iload_n 1), (47, .iconst (-1)), (48, .if_icmp .eq 30), (51, .aload_n 0), (52, .iload_n 1), (53, .invokevirtual 195), (56, .ifCond .ne 9), (59, .aload_n 0), (60, .iconst 5), (61, .invokevirtual 70), (64, .athrow), (65, .aload_n 0), (66, .invokevirtual 74), (69, .new 198), (72, .dup), (73, .iload_n 1), (74, .invokespecial 200), (77, .areturn), (78, .aload_n 0), (79, .getfield 25), (82, .bipush 40), (84, .if_icmp .ne 21), (87, .aload_n 0), (88, .invokevirtual 143), (91, .aload_n 0), (92, .invokevirtual 93), (95, .astore_n 2), (96, .aload_n 0), (97, .bipush 41), (99, .invokevirtual 111), (102, .goto 104), (105, .aload_n 0), (106, .getfield 25), (109, .bipush 45), (111, .if_icmp .eq 23), (114, .aload_n 0), (115, .getfield 25), (118, .sipush 210)]
theorem k298_0 : dck c298 l298_0 := by unfold dck; decide +kernel
def l298_1 : List (Nat × Instr) := [(121, .if_icmp .eq 13), (124, .aload_n 0), (125, .getfield 25), (128, .sipush 211), (131, .if_icmp .ne 69), (134, .aload_n 0), (135, .getfield 25), (138, .istore_n 3), (139, .aload_n 0), (140, .invokevirtual 143), (143, .aload_n 0), (144, .invokevirtual 170), (147, .astore 4), (149, .iload_n 3), (150, .sipush 210), (153, .if_icmp .ne 15), (156, .new 201), (159, .dup), (160, .aload 4), (162, .invokespecial 203), (165, .goto 31), (168, .iload_n 3), (169, .sipush 211), (172, .if_icmp .ne 15), (175, .new 204), (178, .dup), (179, .aload 4), (181, .invokespecial 206), (184, .goto 12), (187, .new 207), (190, .dup), (191, .aload 4), (193, .invokespecial 209), (196, .astore_n 2), (197, .goto 9), (200, .aload_n 0), (201, .iconst 1), (202, .invokevirtual 70), (205, .athrow), (206, .aload_n 0), (207, .dup), (208, .getfield 77), (211, .iconst 1), (212, .isub), (213, .putfield 77), (216, .aload_n 2), (217, .areturn)]
theorem k298_1 : dck c298 l298_1 := by unfold dck; decide +kernel
/-! 299: DawnPerquisite$Tokens.number(II)I -/
abbrev c299 : ByteArray := prog_16_method_8_code
def l299_0 : List (Nat × Instr) := [(0, .aload_n 0), (1, .getfield 25), (4, .sipush 300), (7, .if_icmp .eq 9), (10, .aload_n 0), (11, .iconst 1), (12, .invokevirtual 70), (15, .athrow), (16, .aload_n 0), (17, .getfield 43), (20, .iload_n 1), (21, .if_icmp .lt 11), (24, .aload_n 0), (25, .getfield 43), (28, .iload_n 2), (29, .if_icmp .le 9), (32, .aload_n 0), (33, .iconst 2), (34, .invokevirtual 70), (37, .athrow), (38, .aload_n 0), (39, .getfield 43), (42, .istore_n 3), (43, .aload_n 0), (44, .invokevirtual 74), (47, .iload_n 3), (48, .ireturn)]
theorem k299_0 : dck c299 l299_0 := by unfold dck; decide +kernel
/-! 300: DawnPerquisite$Tokens.choice()LDawnPerquisite$Sum; -/
abbrev c300 : ByteArray := prog_16_method_19_code
def l300_0 : List (Nat × Instr) := [(0, .aload_n 0), (1, .invokevirtual 143), (4, .aload_n 0), (5, .invokevirtual 177), (8, .astore_n 1), (9, .aload_n 0), (10, .sipush 213), (13, .invokevirtual 111), (16, .aload_n 0), (17, .invokevirtual 93), (20, .astore_n 2), (21, .aload_n 0), (22, .sipush 214), (25, .invokevirtual 111), (28, .aload_n 0), (29, .invokevirtual 93), (32, .astore_n 3), (33, .aload_n 0), (34, .sipush 215), (37, .invokevirtual 111), (40, .aload_n 0), (41, .dup), (42, .getfield 77), (45, .iconst 1), (46, .isub), (47, .putfield 77), (50, .new 180), (53, .dup), (54, .aload_n 1), (55, .aload_n 2), (56, .aload_n 3), (57, .invokespecial 182), (60, .areturn)]
theorem k300_0 : dck c300 l300_0 := by unfold dck; decide +kernel
/-! 301: DawnPerquisite$Tokens.opens()V -/
abbrev c301 : ByteArray := prog_16_method_9_code
def l301_0 : List (Nat × Instr) := [(0, .aload_n 0), (1, .getfield 77), (4, .bipush 8), (6, .if_icmp .ne 9), (9, .aload_n 0), (10, .iconst 3), (11, .invokevirtual 70), (14, .athrow), (15, .aload_n 0), (16, .dup), (17, .getfield 77), (20, .iconst 1), (21, .iadd), (22, .putfield 77), (25, .aload_n 0), (26, .invokevirtual 74), (29, .return_)]
theorem k301_0 : dck c301 l301_0 := by unfold dck; decide +kernel
/-! 302: DawnPerquisite$Tokens.either()LDawnPerquisite$Asked; -/
abbrev c302 : ByteArray := prog_16_method_12_code
def l302_0 : List (Nat × Instr) := [(0, .new 106), (3, .dup), (4, .invokespecial 122), (7, .astore_n 1), (8, .aload_n 1), (9, .aload_n 0), (10, .invokevirtual 123), (13, .invokevirtual 105), (16, .pop), (17, .aload_n 0), (18, .getfield 25), (21, .sipush 216), (24, .if_icmp .ne 19), (27, .aload_n 0), (28, .invokevirtual 74), (31, .aload_n 1), (32, .aload_n 0), (33, .invokevirtual 123), (36, .invokevirtual 105), (39, .pop), (40, .goto (-23)), (43, .aload_n 1), (44, .invokevirtual 127), (47, .iconst 1), (48, .if_icmp .ne 14), (51, .aload_n 1), (52, .iconst 0), (53, .invokevirtual 129), (56, .checkcast 133), (59, .goto 12), (62, .new 135), (65, .dup), (66, .iconst 0), (67, .aload_n 1), (68, .invokespecial 137), (71, .areturn)]
theorem k302_0 : dck c302 l302_0 := by unfold dck; decide +kernel
/-! 303: DawnPerquisite$Tokens.both()LDawnPerquisite$Asked; -/
abbrev c303 : ByteArray := prog_16_method_13_code
def l303_0 : List (Nat × Instr) := [(0, .new 106), (3, .dup), (4, .invokespecial 122), (7, .astore_n 1), (8, .aload_n 1), (9, .aload_n 0), (10, .invokevirtual 140), (13, .invokevirtual 105), (16, .pop), (17, .aload_n 0), (18, .getfield 25), (21, .sipush 217), (24, .if_icmp .ne 19), (27, .aload_n 0), (28, .invokevirtual 74), (31, .aload_n 1), (32, .aload_n 0), (33, .invokevirtual 140), (36, .invokevirtual 105), (39, .pop), (40, .goto (-23)), (43, .aload_n 1), (44, .invokevirtual 127), (47, .iconst 1), (48, .if_icmp .ne 14), (51, .aload_n 1), (52, .iconst 0), (53, .invokevirtual 129), (56, .checkcast 133), (59, .goto 12), (62, .new 135), (65, .dup), (66, .iconst 1), (67, .aload_n 1), (68, .invokespecial 137), (71, .areturn)]
theorem k303_0 : dck c303 l303_0 := by unfold dck; decide +kernel
/-! 304: DawnPerquisite$Tokens.ask()LDawnPerquisite$Asked; -/
abbrev c304 : ByteArray := prog_16_method_14_code
def l304_0 : List (Nat × Instr) := [(0, .aload_n 0), (1, .getfield 25), (4, .sipush 218), (7, .if_icmp .ne 31), (10, .aload_n 0), (11, .invokevirtual 143), (14, .new 146), (17, .dup), (18, .aload_n 0), (19, .invokevirtual 140), (22, .invokespecial 148), (25, .astore_n 1), (26, .aload_n 0), (27, .dup), (28, .getfield 77), (31, .iconst 1), (32, .isub), (33, .putfield 77), (36, .aload_n 1), (37, .areturn), (38, .aload_n 0), (39, .invokevirtual 93), (42, .astore_n 1), (43, .aload_n 0), (44, .getfield 25), (47, .istore_n 2), (48, .iload_n 2), (49, .bipush 60), (51, .if_icmp .eq 41), (54, .iload_n 2), (55, .bipush 62), (57, .if_icmp .eq 35), (60, .iload_n 2), (61, .bipush 61), (63, .if_icmp .eq 29), (66, .iload_n 2), (67, .bipush 35), (69, .if_icmp .eq 23), (72, .iload_n 2), (73, .sipush 303), (76, .if_icmp .eq 16), (79, .iload_n 2), (80, .sipush 304), (83, .if_icmp .eq 9), (86, .aload_n 0), (87, .iconst 1), (88, .invokevirtual 70), (91, .athrow), (92, .aload_n 0), (93, .invokevirtual 74), (96, .new 151), (99, .dup), (100, .iload_n 2), (101, .aload_n 1), (102, .aload_n 0), (103, .invokevirtual 93), (106, .invokespecial 153), (109, .areturn)]
theorem k304_0 : dck c304 l304_0 := by unfold dck; decide +kernel
/-! 305: DawnPerquisite$Tokens.want(I)V -/
abbrev c305 : ByteArray := prog_16_method_7_code
def l305_0 : List (Nat × Instr) := [(0, .aload_n 0), (1, .getfield 25), (4, .iload_n 1), (5, .if_icmp .eq 9), (8, .aload_n 0), (9, .iconst 1), (10, .invokevirtual 70), (13, .athrow), (14, .aload_n 0), (15, .invokevirtual 74), (18, .return_)]
theorem k305_0 : dck c305 l305_0 := by unfold dck; decide +kernel
/-! 306: DawnPerquisite$Tokens.nameNow()I -/
abbrev c306 : ByteArray := prog_16_method_17_code
def l306_0 : List (Nat × Instr) := [(0, .iconst 0), (1, .istore_n 1), (2, .iload_n 1), (3, .getstatic 173), (6, .arraylength), (7, .if_icmp .ge 23), (10, .getstatic 173), (13, .iload_n 1), (14, .iaload), (15, .aload_n 0), (16, .getfield 25), (19, .if_icmp .ne 5), (22, .iload_n 1), (23, .ireturn), (24, .iinc 1 1), (27, .goto (-25)), (30, .iconst (-1)), (31, .ireturn)]
theorem k306_0 : dck c306 l306_0 := by unfold dck; decide +kernel
/-! 307: DawnPerquisite$Tokens.mayName(I)Z -/
abbrev c307 : ByteArray := prog_16_method_18_code
def l307_0 : List (Nat × Instr) := [(0, .iload_n 1), (1, .bipush 6), (3, .if_icmp .lt 32), (6, .iload_n 1), (7, .bipush 6), (9, .if_icmp .ne 7), (12, .iconst 1), (13, .goto 4), (16, .iconst 0), (17, .aload_n 0), (18, .getfield 83), (21, .sipush 200), (24, .if_icmp .ne 7), (27, .iconst 1), (28, .goto 4), (31, .iconst 0), (32, .if_icmp .ne 7), (35, .iconst 1), (36, .goto 4), (39, .iconst 0), (40, .ireturn)]
theorem k307_0 : dck c307 l307_0 := by unfold dck; decide +kernel
/-! 308: DawnPerquisite$Tokens.doing(I)LDawnPerquisite$Doing; -/
abbrev c308 : ByteArray := prog_16_method_11_code
def l308_0 : List (Nat × Instr) := [(0, .aload_n 0), (1, .getfield 83), (44, .aload_n 0), (45, .iconst 0), (46, .bipush 11), (48, .invokevirtual 115), (51, .istore_n 2), (52, .aload_n 0), (53, .sipush 208), (56, .invokevirtual 111), (59, .new 117), (62, .dup), (63, .aload_n 0), (64, .getfield 83), (67, .iload_n 2), (68, .aload_n 0), (69, .iload_n 2), (70, .bipush 11), (72, .invokevirtual 115), (75, .iload_n 1), (76, .invokespecial 119), (79, .areturn), (80, .aload_n 0), (81, .iconst 0), (82, .iconst 4), (83, .invokevirtual 115), (86, .istore_n 2), (87, .aload_n 0), (88, .sipush 209), (91, .invokevirtual 111), (94, .new 117), (97, .dup), (98, .aload_n 0), (99, .getfield 83), (102, .iload_n 2), (103, .aload_n 0), (104, .iconst 0), (105, .bipush 9), (107, .invokevirtual 115), (110, .iload_n 1), (111, .invokespecial 119), (114, .areturn), (115, .new 117), (118, .dup), (119, .aload_n 0), (120, .getfield 83), (123, .aload_n 0), (124, .iconst 0), (125, .bipush 11), (127, .invokevirtual 115), (130, .iconst (-1)), (131, .iload_n 1), (132, .invokespecial 119), (135, .areturn), (136, .new 117), (139, .dup), (140, .aload_n 0), (141, .getfield 83), (144, .aload_n 0), (145, .iconst 1)]
theorem k308_0 : dck c308 l308_0 := by unfold dck; decide +kernel
def l308_1 : List (Nat × Instr) := [(146, .bipush 60), (148, .invokevirtual 115), (151, .iconst (-1)), (152, .iload_n 1), (153, .invokespecial 119), (156, .areturn), (157, .new 117), (160, .dup), (161, .aload_n 0), (162, .getfield 83), (165, .aload_n 0), (166, .iconst 0), (167, .iconst 5), (168, .invokevirtual 115), (171, .iconst (-1)), (172, .iload_n 1), (173, .invokespecial 119), (176, .areturn)]
theorem k308_1 : dck c308 l308_1 := by unfold dck; decide +kernel
theorem w308_4 : decode c308 4 = .ok (.tableswitch 153 202 207 #[40, 76, 153, 111, 153, 132], 40) := by decide +kernel
/-! 309: DawnPerquisite$Text.<init>()V -/
abbrev c309 : ByteArray := prog_15_method_1_code
def l309_0 : List (Nat × Instr) := [(0, .aload_n 0), (1, .invokespecial 1), (4, .aload_n 0), (5, .iconst 2), (6, .anewarray 7), (9, .putfield 9), (12, .aload_n 0), (13, .new 15), (16, .dup), (17, .invokespecial 17), (20, .putfield 18), (23, .return_)]
theorem k309_0 : dck c309 l309_0 := by unfold dck; decide +kernel
/-! 310: java/util/AbstractCollection.<init>()V -/
abbrev c310 : ByteArray := prog_39_method_1_code
def l310_0 : List (Nat × Instr) := [(0, .aload_n 0), (1, .invokespecial 1), (4, .return_)]
theorem k310_0 : dck c310 l310_0 := by unfold dck; decide +kernel
/-! 311: java/util/AbstractList.<init>()V -/
abbrev c311 : ByteArray := prog_40_method_1_code
def l311_0 : List (Nat × Instr) := [(0, .aload_n 0), (1, .invokespecial 1), (4, .aload_n 0), (5, .iconst 0), (6, .putfield 7), (9, .return_)]
theorem k311_0 : dck c311 l311_0 := by unfold dck; decide +kernel
/-! 312: java/util/ArrayList.<init>()V -/
abbrev c312 : ByteArray := prog_41_method_2_code
def l312_0 : List (Nat × Instr) := [(0, .aload_n 0), (1, .invokespecial 1), (4, .aload_n 0), (5, .getstatic 39), (8, .putfield 9), (11, .return_)]
theorem k312_0 : dck c312 l312_0 := by unfold dck; decide +kernel
/-! 313: java/util/ArrayList.add(Ljava/lang/Object;)Z -/
abbrev c313 : ByteArray := prog_41_method_25_code
def l313_0 : List (Nat × Instr) := [(0, .aload_n 0), (1, .dup), (2, .getfield 63), (5, .iconst 1), (6, .iadd), (7, .putfield 63), (10, .aload_n 0), (11, .aload_n 1), (12, .aload_n 0), (13, .getfield 9), (16, .aload_n 0), (17, .getfield 48), (20, .invokevirtual 131), (23, .iconst 1), (24, .ireturn)]
theorem k313_0 : dck c313 l313_0 := by unfold dck; decide +kernel
/-! 314: java/util/ArrayList.add(Ljava/lang/Object;[Ljava/lang/Object;I)V -/
abbrev c314 : ByteArray := prog_41_method_24_code
def l314_0 : List (Nat × Instr) := [(0, .iload_n 3), (1, .aload_n 2), (2, .arraylength), (3, .if_icmp .ne 8), (6, .aload_n 0), (7, .invokevirtual 129), (10, .astore_n 2), (11, .aload_n 2), (12, .iload_n 3), (13, .aload_n 1), (14, .aastore), (15, .aload_n 0), (16, .iload_n 3), (17, .iconst 1), (18, .iadd), (19, .putfield 48), (22, .return_)]
theorem k314_0 : dck c314 l314_0 := by unfold dck; decide +kernel
/-! 315: java/util/ArrayList.grow()[Ljava/lang/Object; -/
abbrev c315 : ByteArray := prog_41_method_7_code
def l315_0 : List (Nat × Instr) := [(0, .aload_n 0), (1, .aload_n 0), (2, .getfield 48), (5, .iconst 1), (6, .iadd), (7, .invokevirtual 69), (10, .areturn)]
theorem k315_0 : dck c315 l315_0 := by unfold dck; decide +kernel
/-! 316: java/util/ArrayList.grow(I)[Ljava/lang/Object; -/
abbrev c316 : ByteArray := prog_41_method_6_code
def l316_0 : List (Nat × Instr) := [(0, .aload_n 0), (1, .getfield 9), (4, .arraylength), (5, .istore_n 2), (6, .iload_n 2), (7, .ifCond .gt 13), (10, .aload_n 0), (11, .getfield 9), (14, .getstatic 39), (17, .if_acmp .eq 28), (20, .iload_n 2), (21, .iload_n 1), (22, .iload_n 2), (23, .isub), (24, .iload_n 2), (25, .iconst 1), (26, .ishr), (27, .invokestatic 73), (30, .istore_n 3), (31, .aload_n 0), (32, .aload_n 0), (33, .getfield 9), (36, .iload_n 3), (37, .invokestatic 66), (40, .dup_x1), (41, .putfield 9), (44, .areturn), (45, .aload_n 0), (46, .bipush 10), (48, .iload_n 1), (49, .invokestatic 79), (52, .anewarray 7), (55, .dup_x1), (56, .putfield 9), (59, .areturn)]
theorem k316_0 : dck c316 l316_0 := by unfold dck; decide +kernel
/-! 317: java/util/ArrayList.size()I -/
abbrev c317 : ByteArray := prog_41_method_8_code
def l317_0 : List (Nat × Instr) := [(0, .aload_n 0), (1, .getfield 48), (4, .ireturn)]
theorem k317_0 : dck c317 l317_0 := by unfold dck; decide +kernel
/-! 318: java/util/ArrayList.get(I)Ljava/lang/Object; -/
abbrev c318 : ByteArray := prog_41_method_20_code
def l318_0 : List (Nat × Instr) := [(0, .iload_n 1), (1, .aload_n 0), (2, .getfield 48), (5, .invokestatic 118), (8, .pop), (9, .aload_n 0), (10, .iload_n 1), (11, .invokevirtual 123), (14, .areturn)]
theorem k318_0 : dck c318 l318_0 := by unfold dck; decide +kernel
/-! 319: java/util/ArrayList.elementData(I)Ljava/lang/Object; -/
abbrev c319 : ByteArray := prog_41_method_18_code
def l319_0 : List (Nat × Instr) := [(0, .aload_n 0), (1, .getfield 9), (4, .iload_n 1), (5, .aaload), (6, .areturn)]
theorem k319_0 : dck c319 l319_0 := by unfold dck; decide +kernel
/-! 320: java/util/ArrayList.isEmpty()Z -/
abbrev c320 : ByteArray := prog_41_method_9_code
def l320_0 : List (Nat × Instr) := [(0, .aload_n 0), (1, .getfield 48), (4, .ifCond .ne 7), (7, .iconst 1), (8, .goto 4), (11, .iconst 0), (12, .ireturn)]
theorem k320_0 : dck c320 l320_0 := by unfold dck; decide +kernel
/-! 321: java/lang/String.length()I -/
abbrev c321 : ByteArray := prog_32_method_54_code
def l321_0 : List (Nat × Instr) := [(0, .aload_n 0), (1, .getfield 9), (4, .arraylength), (5, .aload_n 0), (6, .invokevirtual 335), (9, .ishr), (10, .ireturn)]
theorem k321_0 : dck c321 l321_0 := by unfold dck; decide +kernel
/-! 322: java/lang/String.coder()B -/
abbrev c322 : ByteArray := prog_32_method_152_code
def l322_0 : List (Nat × Instr) := [(0, .getstatic 38), (3, .ifCond .eq 10), (6, .aload_n 0), (7, .getfield 15), (10, .goto 4), (13, .iconst 1), (14, .ireturn)]
theorem k322_0 : dck c322 l322_0 := by unfold dck; decide +kernel
/-! 323: java/lang/String.charAt(I)C -/
abbrev c323 : ByteArray := prog_32_method_56_code
def l323_0 : List (Nat × Instr) := [(0, .aload_n 0), (1, .invokevirtual 492), (4, .ifCond .eq 12), (7, .aload_n 0), (8, .getfield 9), (11, .iload_n 1), (12, .invokestatic 495), (15, .ireturn), (16, .aload_n 0), (17, .getfield 9), (20, .iload_n 1), (21, .invokestatic 498), (24, .ireturn)]
theorem k323_0 : dck c323 l323_0 := by unfold dck; decide +kernel
/-! 324: java/lang/String.isLatin1()Z -/
abbrev c324 : ByteArray := prog_32_method_154_code
def l324_0 : List (Nat × Instr) := [(0, .getstatic 38), (3, .ifCond .eq 14), (6, .aload_n 0), (7, .getfield 15), (10, .ifCond .ne 7), (13, .iconst 1), (14, .goto 4), (17, .iconst 0), (18, .ireturn)]
theorem k324_0 : dck c324 l324_0 := by unfold dck; decide +kernel
/-! 325: java/lang/String.checkIndex(II)V -/
abbrev c325 : ByteArray := prog_32_method_155_code
def l325_0 : List (Nat × Instr) := [(0, .iload_n 0), (1, .iload_n 1), (2, .getstatic 1053), (5, .invokestatic 1059), (8, .pop), (9, .return_)]
theorem k325_0 : dck c325 l325_0 := by unfold dck; decide +kernel
/-! 326: java/lang/StringLatin1.charAt([BI)C -/
abbrev c326 : ByteArray := prog_33_method_2_code
def l326_0 : List (Nat × Instr) := [(0, .iload_n 1), (1, .aload_n 0), (2, .arraylength), (3, .invokestatic 9), (6, .aload_n 0), (7, .iload_n 1), (8, .baload), (9, .sipush 255), (12, .iand), (13, .i2c), (14, .ireturn)]
theorem k326_0 : dck c326 l326_0 := by unfold dck; decide +kernel
/-! 327: jdk/internal/util/Preconditions.checkIndex(IILjava/util/function/BiFunction;)I -/
abbrev c327 : ByteArray := prog_49_method_11_code
def l327_0 : List (Nat × Instr) := [(0, .iload_n 0), (1, .ifCond .lt 8), (4, .iload_n 0), (5, .iload_n 1), (6, .if_icmp .lt 10), (9, .aload_n 2), (10, .iload_n 0), (11, .iload_n 1), (12, .invokestatic 95), (15, .athrow), (16, .iload_n 0), (17, .ireturn)]
theorem k327_0 : dck c327 l327_0 := by unfold dck; decide +kernel
/-! 328: java/lang/StringUTF16.charAt([BI)C -/
abbrev c328 : ByteArray := prog_34_method_83_code
def l328_0 : List (Nat × Instr) := [(0, .iload_n 1), (1, .aload_n 0), (2, .invokestatic 67), (5, .aload_n 0), (6, .iload_n 1), (7, .invokestatic 71), (10, .ireturn)]
theorem k328_0 : dck c328 l328_0 := by unfold dck; decide +kernel
/-! 329: java/lang/StringUTF16.checkIndex(I[B)V -/
abbrev c329 : ByteArray := prog_34_method_91_code
def l329_0 : List (Nat × Instr) := [(0, .iload_n 0), (1, .aload_n 1), (2, .invokestatic 48), (5, .invokestatic 414), (8, .return_)]
theorem k329_0 : dck c329 l329_0 := by unfold dck; decide +kernel
/-! 330: java/lang/StringUTF16.length([B)I -/
abbrev c330 : ByteArray := prog_34_method_6_code
def l330_0 : List (Nat × Instr) := [(0, .aload_n 0), (1, .arraylength), (2, .iconst 1), (3, .ishr), (4, .ireturn)]
theorem k330_0 : dck c330 l330_0 := by unfold dck; decide +kernel
/-! 331: java/lang/StringUTF16.getChar([BI)C -/
abbrev c331 : ByteArray := prog_34_method_5_code
def l331_0 : List (Nat × Instr) := [(0, .getstatic 44), (3, .ifCond .ne 25), (6, .iload_n 1), (7, .ifCond .lt 11), (10, .iload_n 1), (11, .aload_n 0), (12, .invokestatic 48), (15, .if_icmp .lt 13), (18, .new 52), (21, .dup), (22, .ldc 54), (24, .invokespecial 56), (27, .athrow), (28, .iload_n 1), (29, .iconst 1), (30, .ishl), (31, .istore_n 1), (32, .aload_n 0), (33, .iload_n 1), (34, .iinc 1 1), (37, .baload), (38, .sipush 255), (41, .iand), (42, .getstatic 59), (45, .ishl), (46, .aload_n 0), (47, .iload_n 1), (48, .baload), (49, .sipush 255), (52, .iand), (53, .getstatic 63), (56, .ishl), (57, .ior), (58, .i2c), (59, .ireturn)]
theorem k331_0 : dck c331 l331_0 := by unfold dck; decide +kernel
/-! 332: java/lang/Math.min(II)I -/
abbrev c332 : ByteArray := prog_29_method_69_code
def l332_0 : List (Nat × Instr) := [(0, .iload_n 0), (1, .iload_n 1), (2, .if_icmp .gt 7), (5, .iload_n 0), (6, .goto 4), (9, .iload_n 1), (10, .ireturn)]
theorem k332_0 : dck c332 l332_0 := by unfold dck; decide +kernel
/-! 333: java/lang/Math.max(II)I -/
abbrev c333 : ByteArray := prog_29_method_65_code
def l333_0 : List (Nat × Instr) := [(0, .iload_n 0), (1, .iload_n 1), (2, .if_icmp .lt 7), (5, .iload_n 0), (6, .goto 4), (9, .iload_n 1), (10, .ireturn)]
theorem k333_0 : dck c333 l333_0 := by unfold dck; decide +kernel
/-! 334: java/lang/Math.min(JJ)J -/
abbrev c334 : ByteArray := prog_29_method_70_code
def l334_0 : List (Nat × Instr) := [(0, .lload_n 0), (1, .lload_n 2), (2, .lcmp), (3, .ifCond .gt 7), (6, .lload_n 0), (7, .goto 4), (10, .lload_n 2), (11, .lreturn)]
theorem k334_0 : dck c334 l334_0 := by unfold dck; decide +kernel
/-! 335: java/lang/Math.max(JJ)J -/
abbrev c335 : ByteArray := prog_29_method_66_code
def l335_0 : List (Nat × Instr) := [(0, .lload_n 0), (1, .lload_n 2), (2, .lcmp), (3, .ifCond .lt 7), (6, .lload_n 0), (7, .goto 4), (10, .lload_n 2), (11, .lreturn)]
theorem k335_0 : dck c335 l335_0 := by unfold dck; decide +kernel
/-! 336: java/lang/Throwable.<init>()V -/
abbrev c336 : ByteArray := prog_36_method_1_code
def l336_0 : List (Nat × Instr) := [(0, .aload_n 0), (1, .invokespecial 1), (4, .aload_n 0), (5, .aload_n 0), (6, .putfield 7), (9, .aload_n 0), (10, .getstatic 13), (13, .putfield 17), (16, .aload_n 0), (17, .getstatic 20), (20, .putfield 24), (23, .aload_n 0), (24, .invokevirtual 27), (27, .pop), (28, .return_)]
theorem k336_0 : dck c336 l336_0 := by unfold dck; decide +kernel
/-! 337: java/lang/Exception.<init>()V -/
abbrev c337 : ByteArray := prog_25_method_1_code
def l337_0 : List (Nat × Instr) := [(0, .aload_n 0), (1, .invokespecial 1), (4, .return_)]
theorem k337_0 : dck c337 l337_0 := by unfold dck; decide +kernel
/-! 338: DawnPerquisite$Wrong.<init>(II)V -/
abbrev c338 : ByteArray := prog_18_method_1_code
def l338_0 : List (Nat × Instr) := [(0, .aload_n 0), (1, .invokespecial 1), (4, .aload_n 0), (5, .iload_n 1), (6, .putfield 7), (9, .aload_n 0), (10, .iload_n 2), (11, .putfield 13), (14, .return_)]
theorem k338_0 : dck c338 l338_0 := by unfold dck; decide +kernel
/-! 339: DawnPerquisite$Chain.<init>(LDawnPerquisite$Sum;)V -/
abbrev c339 : ByteArray := prog_4_method_1_code
def l339_0 : List (Nat × Instr) := [(0, .aload_n 0), (1, .invokespecial 3), (4, .aload_n 0), (5, .new 9), (8, .dup), (9, .invokespecial 11), (12, .putfield 12), (15, .aload_n 0), (16, .new 9), (19, .dup), (20, .invokespecial 11), (23, .putfield 18), (26, .aload_n 0), (27, .aload_n 1), (28, .putfield 21), (31, .return_)]
theorem k339_0 : dck c339 l339_0 := by unfold dck; decide +kernel
/-! 340: DawnPerquisite$Chain.add(ILDawnPerquisite$Sum;)V -/
abbrev c340 : ByteArray := prog_4_method_2_code
def l340_0 : List (Nat × Instr) := [(0, .aload_n 0), (1, .getfield 18), (4, .iload_n 1), (5, .invokestatic 25), (8, .invokevirtual 31), (11, .pop), (12, .aload_n 0), (13, .getfield 12), (16, .aload_n 2), (17, .invokevirtual 31), (20, .pop), (21, .return_)]
theorem k340_0 : dck c340 l340_0 := by unfold dck; decide +kernel
/-! 341: DawnPerquisite$Chain.itself()LDawnPerquisite$Sum; -/
abbrev c341 : ByteArray := prog_4_method_3_code
def l341_0 : List (Nat × Instr) := [(0, .aload_n 0), (1, .getfield 12), (4, .invokevirtual 35), (7, .ifCond .eq 10), (10, .aload_n 0), (11, .getfield 21), (14, .goto 4), (17, .aload_n 0), (18, .areturn)]
theorem k341_0 : dck c341 l341_0 := by unfold dck; decide +kernel
/-! 342: DawnPerquisite$Chain.of([I)J -/
abbrev c342 : ByteArray := prog_4_method_4_code
def l342_0 : List (Nat × Instr) := [(0, .aload_n 0), (1, .getfield 21), (4, .aload_n 1), (5, .invokeinterface 39 2), (10, .lstore_n 2), (11, .iconst 0), (12, .istore 4), (14, .iload 4), (16, .aload_n 0), (17, .getfield 12), (20, .invokevirtual 45), (23, .if_icmp .ge 120), (26, .aload_n 0), (27, .getfield 12), (30, .iload 4), (32, .invokevirtual 49), (35, .checkcast 40), (38, .aload_n 1), (39, .invokeinterface 39 2), (44, .lstore 5), (46, .aload_n 0), (47, .getfield 18), (50, .iload 4), (52, .invokevirtual 49), (55, .checkcast 26), (58, .invokevirtual 53), (61, .istore 7), (63, .iload 7), (65, .bipush 43), (67, .if_icmp .ne 10), (70, .lload_n 2), (71, .lload 5), (73, .ladd), (74, .goto 46), (77, .iload 7), (79, .bipush 45), (81, .if_icmp .ne 10), (84, .lload_n 2), (85, .lload 5), (87, .lsub), (88, .goto 32), (91, .iload 7), (93, .bipush 42), (95, .if_icmp .ne 10), (98, .lload_n 2), (99, .lload 5), (101, .lmul), (102, .goto 18), (105, .lload 5), (107, .lconst 0), (108, .lcmp), (109, .ifCond .ne 7), (112, .lconst 0), (113, .goto 7), (116, .lload_n 2), (117, .lload 5), (119, .ldiv), (120, .lstore 8), (122, .ldc2_w 56), (125, .ldc2_w 58)]
theorem k342_0 : dck c342 l342_0 := by unfold dck; decide +kernel
def l342_1 : List (Nat × Instr) := [(128, .lload 8), (130, .invokestatic 60), (133, .invokestatic 66), (136, .lstore_n 2), (137, .iinc 4 1), (140, .goto (-126)), (143, .lload_n 2), (144, .lreturn)]
theorem k342_1 : dck c342 l342_1 := by unfold dck; decide +kernel
/-! 343: java/lang/Record.<init>()V -/
abbrev c343 : ByteArray := prog_31_method_1_code
def l343_0 : List (Nat × Instr) := [(0, .aload_n 0), (1, .invokespecial 1), (4, .return_)]
theorem k343_0 : dck c343 l343_0 := by unfold dck; decide +kernel
/-! 344: DawnPerquisite$Plain.<init>(I)V -/
abbrev c344 : ByteArray := prog_11_method_1_code
def l344_0 : List (Nat × Instr) := [(0, .aload_n 0), (1, .invokespecial 1), (4, .aload_n 0), (5, .iload_n 1), (6, .putfield 7), (9, .return_)]
theorem k344_0 : dck c344 l344_0 := by unfold dck; decide +kernel
/-! 345: DawnPerquisite$Plain.of([I)J -/
abbrev c345 : ByteArray := prog_11_method_2_code
def l345_0 : List (Nat × Instr) := [(0, .aload_n 0), (1, .getfield 7), (4, .i2l), (5, .lreturn)]
theorem k345_0 : dck c345 l345_0 := by unfold dck; decide +kernel
/-! 346: DawnPerquisite$Not.<init>(LDawnPerquisite$Asked;)V -/
abbrev c346 : ByteArray := prog_10_method_1_code
def l346_0 : List (Nat × Instr) := [(0, .aload_n 0), (1, .invokespecial 1), (4, .aload_n 0), (5, .aload_n 1), (6, .putfield 7), (9, .return_)]
theorem k346_0 : dck c346 l346_0 := by unfold dck; decide +kernel
/-! 347: DawnPerquisite$Not.is([I)Z -/
abbrev c347 : ByteArray := prog_10_method_2_code
def l347_0 : List (Nat × Instr) := [(0, .aload_n 0), (1, .getfield 7), (4, .aload_n 1), (5, .invokeinterface 13 2), (10, .ifCond .ne 7), (13, .iconst 1), (14, .goto 4), (17, .iconst 0), (18, .ireturn)]
theorem k347_0 : dck c347 l347_0 := by unfold dck; decide +kernel
/-! 348: DawnPerquisite$Compared.<init>(ILDawnPerquisite$Sum;LDawnPerquisite$Sum;)V -/
abbrev c348 : ByteArray := prog_5_method_1_code
def l348_0 : List (Nat × Instr) := [(0, .aload_n 0), (1, .invokespecial 1), (4, .aload_n 0), (5, .iload_n 1), (6, .putfield 7), (9, .aload_n 0), (10, .aload_n 2), (11, .putfield 13), (14, .aload_n 0), (15, .aload_n 3), (16, .putfield 17), (19, .return_)]
theorem k348_0 : dck c348 l348_0 := by unfold dck; decide +kernel
/-! 349: DawnPerquisite$Compared.is([I)Z -/
abbrev c349 : ByteArray := prog_5_method_2_code
def l349_0 : List (Nat × Instr) := [(0, .aload_n 0), (1, .getfield 13), (4, .aload_n 1), (5, .invokeinterface 20 2), (10, .aload_n 0), (11, .getfield 17), (14, .aload_n 1), (15, .invokeinterface 20 2), (20, .lsub), (21, .lstore_n 2), (22, .aload_n 0), (23, .getfield 7), (76, .lload_n 2), (77, .lconst 0), (78, .lcmp), (79, .ifCond .ge 7), (82, .iconst 1), (83, .goto 4), (86, .iconst 0), (87, .ireturn), (88, .lload_n 2), (89, .lconst 0), (90, .lcmp), (91, .ifCond .le 7), (94, .iconst 1), (95, .goto 4), (98, .iconst 0), (99, .ireturn), (100, .lload_n 2), (101, .lconst 0), (102, .lcmp), (103, .ifCond .ne 7), (106, .iconst 1), (107, .goto 4), (110, .iconst 0), (111, .ireturn), (112, .lload_n 2), (113, .lconst 0), (114, .lcmp), (115, .ifCond .eq 7), (118, .iconst 1), (119, .goto 4), (122, .iconst 0), (123, .ireturn), (124, .lload_n 2), (125, .lconst 0), (126, .lcmp), (127, .ifCond .gt 7), (130, .iconst 1), (131, .goto 4), (134, .iconst 0), (135, .ireturn), (136, .lload_n 2), (137, .lconst 0), (138, .lcmp), (139, .ifCond .lt 7), (142, .iconst 1), (143, .goto 4), (146, .iconst 0), (147, .ireturn)]
theorem k349_0 : dck c349 l349_0 := by unfold dck; decide +kernel
theorem w349_26 : decode c349 26 = .ok (.lookupswitch 110 #[(35, 86), (60, 50), (61, 74), (62, 62), (303, 98)], 50) := by decide +kernel
/-! 350: jdk/internal/util/ArraysSupport.newLength(III)I -/
abbrev c350 : ByteArray := prog_48_method_27_code
def l350_0 : List (Nat × Instr) := [(0, .iload_n 0), (1, .iload_n 1), (2, .iload_n 2), (3, .invokestatic 194), (6, .iadd), (7, .istore_n 3), (8, .iconst 0), (9, .iload_n 3), (10, .if_icmp .ge 11), (13, .iload_n 3), (14, .ldc 200), (16, .if_icmp .gt 5), (19, .iload_n 3), (20, .ireturn), (21, .iload_n 0), (22, .iload_n 1), (23, .invokestatic 201), (26, .ireturn)]
theorem k350_0 : dck c350 l350_0 := by unfold dck; decide +kernel
/-! 351: jdk/internal/util/ArraysSupport.hugeLength(II)I -/
abbrev c351 : ByteArray := prog_48_method_28_code
def l351_0 : List (Nat × Instr) := [(0, .iload_n 0), (1, .iload_n 1), (2, .iadd), (3, .istore_n 2), (4, .iload_n 2), (5, .ifCond .ge 44), (8, .new 204), (11, .dup), (12, .new 89), (15, .dup), (16, .invokespecial 91), (19, .ldc 206), (21, .invokevirtual 94), (24, .iload_n 0), (25, .invokevirtual 98), (28, .ldc 208), (30, .invokevirtual 94), (33, .iload_n 1), (34, .invokevirtual 98), (37, .ldc 210), (39, .invokevirtual 94), (42, .invokevirtual 101), (45, .invokespecial 212), (48, .athrow), (49, .iload_n 2), (50, .ldc 200), (52, .if_icmp .gt 6), (55, .ldc 200), (57, .ireturn), (58, .iload_n 2), (59, .ireturn)]
theorem k351_0 : dck c351 l351_0 := by unfold dck; decide +kernel
/-! 352: java/util/Objects.checkIndex(II)I -/
abbrev c352 : ByteArray := prog_45_method_17_code
def l352_0 : List (Nat × Instr) := [(0, .iload_n 0), (1, .iload_n 1), (2, .aconst_null), (3, .invokestatic 105), (6, .ireturn)]
theorem k352_0 : dck c352 l352_0 := by unfold dck; decide +kernel
/-! 353: DawnPerquisite$All.<init>(ZLjava/util/ArrayList;)V -/
abbrev c353 : ByteArray := prog_2_method_1_code
def l353_0 : List (Nat × Instr) := [(0, .aload_n 0), (1, .invokespecial 1), (4, .aload_n 0), (5, .iload_n 1), (6, .putfield 7), (9, .aload_n 0), (10, .aload_n 2), (11, .putfield 13), (14, .return_)]
theorem k353_0 : dck c353 l353_0 := by unfold dck; decide +kernel
/-! 354: DawnPerquisite$All.is([I)Z -/
abbrev c354 : ByteArray := prog_2_method_2_code
def l354_0 : List (Nat × Instr) := [(0, .iconst 0), (1, .istore_n 2), (2, .iconst 0), (3, .istore_n 3), (4, .iload_n 3), (5, .aload_n 0), (6, .getfield 13), (9, .invokevirtual 17), (12, .if_icmp .ge 37), (15, .iload_n 2), (16, .aload_n 0), (17, .getfield 13), (20, .iload_n 3), (21, .invokevirtual 23), (24, .checkcast 27), (27, .aload_n 1), (28, .invokeinterface 29 2), (33, .ifCond .eq 7), (36, .iconst 1), (37, .goto 4), (40, .iconst 0), (41, .iadd), (42, .istore_n 2), (43, .iinc 3 1), (46, .goto (-42)), (49, .aload_n 0), (50, .getfield 7), (53, .ifCond .eq 22), (56, .iload_n 2), (57, .aload_n 0), (58, .getfield 13), (61, .invokevirtual 17), (64, .if_icmp .ne 7), (67, .iconst 1), (68, .goto 16), (71, .iconst 0), (72, .goto 12), (75, .iload_n 2), (76, .ifCond .le 7), (79, .iconst 1), (80, .goto 4), (83, .iconst 0), (84, .ireturn)]
theorem k354_0 : dck c354 l354_0 := by unfold dck; decide +kernel
/-! 355: DawnPerquisite$If.<init>(LDawnPerquisite$Asked;LDawnPerquisite$Sum;LDawnPerquisite$Sum;)V -/
abbrev c355 : ByteArray := prog_7_method_1_code
def l355_0 : List (Nat × Instr) := [(0, .aload_n 0), (1, .invokespecial 1), (4, .aload_n 0), (5, .aload_n 1), (6, .putfield 7), (9, .aload_n 0), (10, .aload_n 2), (11, .putfield 13), (14, .aload_n 0), (15, .aload_n 3), (16, .putfield 17), (19, .return_)]
theorem k355_0 : dck c355 l355_0 := by unfold dck; decide +kernel
/-! 356: DawnPerquisite$If.of([I)J -/
abbrev c356 : ByteArray := prog_7_method_2_code
def l356_0 : List (Nat × Instr) := [(0, .aload_n 0), (1, .getfield 7), (4, .aload_n 1), (5, .invokeinterface 20 2), (10, .ifCond .eq 16), (13, .aload_n 0), (14, .getfield 13), (17, .aload_n 1), (18, .invokeinterface 26 2), (23, .goto 13), (26, .aload_n 0), (27, .getfield 17), (30, .aload_n 1), (31, .invokeinterface 26 2), (36, .lreturn)]
theorem k356_0 : dck c356 l356_0 := by unfold dck; decide +kernel
/-! 357: DawnPerquisite$Name.<init>(I)V -/
abbrev c357 : ByteArray := prog_9_method_1_code
def l357_0 : List (Nat × Instr) := [(0, .aload_n 0), (1, .invokespecial 1), (4, .aload_n 0), (5, .iload_n 1), (6, .putfield 7), (9, .return_)]
theorem k357_0 : dck c357 l357_0 := by unfold dck; decide +kernel
/-! 358: DawnPerquisite$Name.of([I)J -/
abbrev c358 : ByteArray := prog_9_method_2_code
def l358_0 : List (Nat × Instr) := [(0, .aload_n 1), (1, .aload_n 0), (2, .getfield 7), (5, .iaload), (6, .i2l), (7, .lreturn)]
theorem k358_0 : dck c358 l358_0 := by unfold dck; decide +kernel
/-! 359: DawnPerquisite$Worth.<init>(LDawnPerquisite$Sum;)V -/
abbrev c359 : ByteArray := prog_17_method_1_code
def l359_0 : List (Nat × Instr) := [(0, .aload_n 0), (1, .invokespecial 3), (4, .aload_n 0), (5, .aload_n 1), (6, .putfield 9), (9, .return_)]
theorem k359_0 : dck c359 l359_0 := by unfold dck; decide +kernel
/-! 360: DawnPerquisite$Worth.of([I)J -/
abbrev c360 : ByteArray := prog_17_method_2_code
def l360_0 : List (Nat × Instr) := [(0, .aload_n 0), (1, .getfield 9), (4, .aload_n 1), (5, .invokeinterface 15 2), (10, .lstore_n 2), (11, .lload_n 2), (12, .lconst 0), (13, .lcmp), (14, .ifCond .lt 11), (17, .lload_n 2), (18, .ldc2_w 21), (21, .lcmp), (22, .ifCond .lt 7), (25, .lconst 0), (26, .goto 11), (29, .aload_n 1), (30, .bipush 8), (32, .lload_n 2), (33, .l2i), (34, .iadd), (35, .iaload), (36, .i2l), (37, .lreturn)]
theorem k360_0 : dck c360 l360_0 := by unfold dck; decide +kernel
/-! 361: DawnPerquisite$Purse.<init>(LDawnPerquisite$Sum;)V -/
abbrev c361 : ByteArray := prog_12_method_1_code
def l361_0 : List (Nat × Instr) := [(0, .aload_n 0), (1, .invokespecial 3), (4, .aload_n 0), (5, .aload_n 1), (6, .putfield 9), (9, .return_)]
theorem k361_0 : dck c361 l361_0 := by unfold dck; decide +kernel
/-! 362: DawnPerquisite$Purse.of([I)J -/
abbrev c362 : ByteArray := prog_12_method_2_code
def l362_0 : List (Nat × Instr) := [(0, .aload_n 0), (1, .getfield 9), (4, .aload_n 1), (5, .invokeinterface 15 2), (10, .lstore_n 2), (11, .lload_n 2), (12, .lconst 0), (13, .lcmp), (14, .ifCond .lt 11), (17, .lload_n 2), (18, .ldc2_w 21), (21, .lcmp), (22, .ifCond .lt 7), (25, .lconst 0), (26, .goto 11), (29, .aload_n 1), (30, .bipush 13), (32, .lload_n 2), (33, .l2i), (34, .iadd), (35, .iaload), (36, .i2l), (37, .lreturn)]
theorem k362_0 : dck c362 l362_0 := by unfold dck; decide +kernel
/-! 363: DawnPerquisite$Minus.<init>(LDawnPerquisite$Sum;)V -/
abbrev c363 : ByteArray := prog_8_method_1_code
def l363_0 : List (Nat × Instr) := [(0, .aload_n 0), (1, .invokespecial 1), (4, .aload_n 0), (5, .aload_n 1), (6, .putfield 7), (9, .return_)]
theorem k363_0 : dck c363 l363_0 := by unfold dck; decide +kernel
/-! 364: DawnPerquisite$Minus.of([I)J -/
abbrev c364 : ByteArray := prog_8_method_2_code
def l364_0 : List (Nat × Instr) := [(0, .aload_n 0), (1, .getfield 7), (4, .aload_n 1), (5, .invokeinterface 13 2), (10, .lneg), (11, .lreturn)]
theorem k364_0 : dck c364 l364_0 := by unfold dck; decide +kernel
/-! 365: java/lang/Number.<init>()V -/
abbrev c365 : ByteArray := prog_30_method_1_code
def l365_0 : List (Nat × Instr) := [(0, .aload_n 0), (1, .invokespecial 1), (4, .return_)]
theorem k365_0 : dck c365 l365_0 := by unfold dck; decide +kernel
/-! 366: java/lang/Integer.valueOf(I)Ljava/lang/Integer; -/
abbrev c366 : ByteArray := prog_26_method_22_code
def l366_0 : List (Nat × Instr) := [(0, .iload_n 0), (1, .bipush (-128)), (3, .if_icmp .lt 20), (6, .iload_n 0), (7, .getstatic 191), (10, .if_icmp .gt 13), (13, .getstatic 195), (16, .iload_n 0), (17, .sipush 128), (20, .iadd), (21, .aaload), (22, .areturn), (23, .new 1), (26, .dup), (27, .iload_n 0), (28, .invokespecial 199), (31, .areturn)]
theorem k366_0 : dck c366 l366_0 := by unfold dck; decide +kernel
/-! 367: java/lang/Integer.<init>(I)V -/
abbrev c367 : ByteArray := prog_26_method_23_code
def l367_0 : List (Nat × Instr) := [(0, .aload_n 0), (1, .invokespecial 202), (4, .aload_n 0), (5, .iload_n 1), (6, .putfield 205), (9, .return_)]
theorem k367_0 : dck c367 l367_0 := by unfold dck; decide +kernel
/-! 368: java/lang/Integer.bitCount(I)I -/
abbrev c368 : ByteArray := prog_26_method_49_code
def l368_0 : List (Nat × Instr) := [(0, .iload_n 0), (1, .iload_n 0), (2, .iconst 1), (3, .iushr), (4, .ldc_w 265), (7, .iand), (8, .isub), (9, .istore_n 0), (10, .iload_n 0), (11, .ldc_w 266), (14, .iand), (15, .iload_n 0), (16, .iconst 2), (17, .iushr), (18, .ldc_w 266), (21, .iand), (22, .iadd), (23, .istore_n 0), (24, .iload_n 0), (25, .iload_n 0), (26, .iconst 4), (27, .iushr), (28, .iadd), (29, .ldc_w 267), (32, .iand), (33, .istore_n 0), (34, .iload_n 0), (35, .iload_n 0), (36, .bipush 8), (38, .iushr), (39, .iadd), (40, .istore_n 0), (41, .iload_n 0), (42, .iload_n 0), (43, .bipush 16), (45, .iushr), (46, .iadd), (47, .istore_n 0), (48, .iload_n 0), (49, .bipush 63), (51, .iand), (52, .ireturn)]
theorem k368_0 : dck c368 l368_0 := by unfold dck; decide +kernel
/-! 369: java/lang/Integer.intValue()I -/
abbrev c369 : ByteArray := prog_26_method_27_code
def l369_0 : List (Nat × Instr) := [(0, .aload_n 0), (1, .getfield 205), (4, .ireturn)]
theorem k369_0 : dck c369 l369_0 := by unfold dck; decide +kernel
/-! 370: DawnPerquisite$Doing.<init>(IIII)V -/
abbrev c370 : ByteArray := prog_6_method_1_code
def l370_0 : List (Nat × Instr) := [(0, .aload_n 0), (1, .invokespecial 1), (4, .aload_n 0), (5, .iload_n 1), (6, .putfield 7), (9, .aload_n 0), (10, .iload_n 2), (11, .putfield 13), (14, .aload_n 0), (15, .iload_n 3), (16, .putfield 16), (19, .aload_n 0), (20, .iload 4), (22, .putfield 19), (25, .return_)]
theorem k370_0 : dck c370 l370_0 := by unfold dck; decide +kernel
/-! 371: DawnPerquisite$Doing.sort()I -/
abbrev c371 : ByteArray := prog_6_method_5_code
def l371_0 : List (Nat × Instr) := [(0, .aload_n 0), (1, .getfield 7), (4, .ireturn)]
theorem k371_0 : dck c371 l371_0 := by unfold dck; decide +kernel
/-! 372: DawnPerquisite$Doing.a()I -/
abbrev c372 : ByteArray := prog_6_method_6_code
def l372_0 : List (Nat × Instr) := [(0, .aload_n 0), (1, .getfield 13), (4, .ireturn)]
theorem k372_0 : dck c372 l372_0 := by unfold dck; decide +kernel
/-! 373: DawnPerquisite$Doing.b()I -/
abbrev c373 : ByteArray := prog_6_method_7_code
def l373_0 : List (Nat × Instr) := [(0, .aload_n 0), (1, .getfield 16), (4, .ireturn)]
theorem k373_0 : dck c373 l373_0 := by unfold dck; decide +kernel
/-! 374: DawnPerquisite$Doing.number()I -/
abbrev c374 : ByteArray := prog_6_method_8_code
def l374_0 : List (Nat × Instr) := [(0, .aload_n 0), (1, .getfield 19), (4, .ireturn)]
theorem k374_0 : dck c374 l374_0 := by unfold dck; decide +kernel
/-! 375: java/lang/Object.<init>()V -/
abbrev c375 : ByteArray := object_method_1_code
def l375_0 : List (Nat × Instr) := [(0, .return_)]
theorem k375_0 : dck c375 l375_0 := by unfold dck; decide +kernel
/-! 376: DawnPerquisiteLaw.law([I)Z -/
abbrev c376 : ByteArray := code
def l376_0 : List (Nat × Instr) := [(0, .new 7), (3, .dup), (4, .invokespecial 9), (7, .astore_n 1), (8, .new 10), (11, .dup), (12, .invokespecial 12), (15, .astore_n 2), (16, .iconst 0), (17, .istore_n 3), (18, .iload_n 3), (19, .aload_n 0), (20, .arraylength), (21, .bipush 6), (23, .isub), (24, .if_icmp .gt 1898), (27, .aload_n 0), (28, .iload_n 3), (29, .iaload), (30, .bipush 63), (32, .iand), (276, .aload_n 1), (277, .aload_n 0), (278, .iload_n 3), (279, .iconst 1), (280, .iadd), (281, .iaload), (282, .aload_n 0), (283, .iload_n 3), (284, .iconst 2), (285, .iadd), (286, .iaload), (287, .aload_n 0), (288, .iload_n 3), (289, .iconst 3), (290, .iadd), (291, .iaload), (292, .invokevirtual 13), (295, .aload_n 2), (296, .aload_n 0), (297, .iload_n 3), (298, .iconst 1), (299, .iadd), (300, .iaload), (301, .aload_n 0), (302, .iload_n 3), (303, .iconst 2), (304, .iadd), (305, .iaload), (306, .aload_n 0), (307, .iload_n 3), (308, .iconst 3), (309, .iadd), (310, .iaload), (311, .invokevirtual 17), (314, .if_icmp .eq 1602), (317, .iconst 0), (318, .ireturn), (319, .aload_n 1), (320, .aload_n 0)]
theorem k376_0 : dck c376 l376_0 := by unfold dck; decide +kernel
def l376_1 : List (Nat × Instr) := [(321, .iload_n 3), (322, .iconst 1), (323, .iadd), (324, .iaload), (325, .aload_n 0), (326, .iload_n 3), (327, .iconst 2), (328, .iadd), (329, .iaload), (330, .aload_n 0), (331, .iload_n 3), (332, .iconst 3), (333, .iadd), (334, .iaload), (335, .aload_n 0), (336, .iload_n 3), (337, .iconst 4), (338, .iadd), (339, .iaload), (340, .invokevirtual 18), (343, .aload_n 2), (344, .aload_n 0), (345, .iload_n 3), (346, .iconst 1), (347, .iadd), (348, .iaload), (349, .aload_n 0), (350, .iload_n 3), (351, .iconst 2), (352, .iadd), (353, .iaload), (354, .aload_n 0), (355, .iload_n 3), (356, .iconst 3), (357, .iadd), (358, .iaload), (359, .aload_n 0), (360, .iload_n 3), (361, .iconst 4), (362, .iadd), (363, .iaload), (364, .invokevirtual 22), (367, .if_icmp .eq 1549), (370, .iconst 0), (371, .ireturn), (372, .aload_n 1), (373, .aload_n 0), (374, .iload_n 3), (375, .iconst 1), (376, .iadd), (377, .iaload), (378, .aload_n 0), (379, .iload_n 3), (380, .iconst 2), (381, .iadd), (382, .iaload), (383, .aload_n 0), (384, .iload_n 3), (385, .iconst 3), (386, .iadd)]
theorem k376_1 : dck c376 l376_1 := by unfold dck; decide +kernel
def l376_2 : List (Nat × Instr) := [(387, .iaload), (388, .aload_n 0), (389, .iload_n 3), (390, .iconst 4), (391, .iadd), (392, .iaload), (393, .aload_n 0), (394, .iload_n 3), (395, .iconst 5), (396, .iadd), (397, .iaload), (398, .invokevirtual 23), (401, .aload_n 2), (402, .aload_n 0), (403, .iload_n 3), (404, .iconst 1), (405, .iadd), (406, .iaload), (407, .aload_n 0), (408, .iload_n 3), (409, .iconst 2), (410, .iadd), (411, .iaload), (412, .aload_n 0), (413, .iload_n 3), (414, .iconst 3), (415, .iadd), (416, .iaload), (417, .aload_n 0), (418, .iload_n 3), (419, .iconst 4), (420, .iadd), (421, .iaload), (422, .aload_n 0), (423, .iload_n 3), (424, .iconst 5), (425, .iadd), (426, .iaload), (427, .invokevirtual 27), (430, .if_icmp .eq 1486), (433, .iconst 0), (434, .ireturn), (435, .aload_n 1), (436, .aload_n 0), (437, .iload_n 3), (438, .iconst 1), (439, .iadd), (440, .iaload), (441, .invokevirtual 28), (444, .aload_n 2), (445, .aload_n 0), (446, .iload_n 3), (447, .iconst 1), (448, .iadd), (449, .iaload), (450, .invokevirtual 32), (453, .if_icmp .eq 1463), (456, .iconst 0), (457, .ireturn), (458, .aload_n 1)]
theorem k376_2 : dck c376 l376_2 := by unfold dck; decide +kernel
def l376_3 : List (Nat × Instr) := [(459, .invokevirtual 33), (462, .aload_n 2), (463, .invokevirtual 37), (466, .if_icmp .eq 1450), (469, .iconst 0), (470, .ireturn), (471, .aload_n 1), (472, .aload_n 0), (473, .iload_n 3), (474, .iconst 1), (475, .iadd), (476, .iaload), (477, .invokevirtual 38), (480, .aload_n 2), (481, .aload_n 0), (482, .iload_n 3), (483, .iconst 1), (484, .iadd), (485, .iaload), (486, .invokevirtual 41), (489, .if_icmp .eq 1427), (492, .iconst 0), (493, .ireturn), (494, .aload_n 1), (495, .aload_n 0), (496, .iload_n 3), (497, .iconst 1), (498, .iadd), (499, .iaload), (500, .invokevirtual 42), (503, .aload_n 2), (504, .aload_n 0), (505, .iload_n 3), (506, .iconst 1), (507, .iadd), (508, .iaload), (509, .invokevirtual 46), (512, .if_icmp .eq 1404), (515, .iconst 0), (516, .ireturn), (517, .aload_n 1), (518, .aload_n 0), (519, .iload_n 3), (520, .iconst 1), (521, .iadd), (522, .iaload), (523, .invokevirtual 47), (526, .aload_n 2), (527, .aload_n 0), (528, .iload_n 3), (529, .iconst 1), (530, .iadd), (531, .iaload), (532, .invokevirtual 50), (535, .if_icmp .eq 1381), (538, .iconst 0), (539, .ireturn), (540, .aload_n 1), (541, .aload_n 0), (542, .iload_n 3)]
theorem k376_3 : dck c376 l376_3 := by unfold dck; decide +kernel
def l376_4 : List (Nat × Instr) := [(543, .iconst 1), (544, .iadd), (545, .iaload), (546, .invokevirtual 51), (549, .aload_n 2), (550, .aload_n 0), (551, .iload_n 3), (552, .iconst 1), (553, .iadd), (554, .iaload), (555, .invokevirtual 54), (558, .if_icmp .eq 1358), (561, .iconst 0), (562, .ireturn), (563, .aload_n 1), (564, .aload_n 0), (565, .iload_n 3), (566, .iconst 1), (567, .iadd), (568, .iaload), (569, .invokevirtual 55), (572, .aload_n 2), (573, .aload_n 0), (574, .iload_n 3), (575, .iconst 1), (576, .iadd), (577, .iaload), (578, .invokevirtual 58), (581, .if_icmp .eq 1335), (584, .iconst 0), (585, .ireturn), (586, .aload_n 1), (587, .aload_n 0), (588, .iload_n 3), (589, .iconst 1), (590, .iadd), (591, .iaload), (592, .aload_n 0), (593, .iload_n 3), (594, .iconst 2), (595, .iadd), (596, .iaload), (597, .invokevirtual 59), (600, .aload_n 2), (601, .aload_n 0), (602, .iload_n 3), (603, .iconst 1), (604, .iadd), (605, .iaload), (606, .aload_n 0), (607, .iload_n 3), (608, .iconst 2), (609, .iadd), (610, .iaload), (611, .invokevirtual 63), (614, .if_icmp .eq 1302), (617, .iconst 0), (618, .ireturn), (619, .aload_n 1), (620, .aload_n 0)]
theorem k376_4 : dck c376 l376_4 := by unfold dck; decide +kernel
def l376_5 : List (Nat × Instr) := [(621, .iload_n 3), (622, .iconst 1), (623, .iadd), (624, .iaload), (625, .invokevirtual 64), (628, .aload_n 2), (629, .aload_n 0), (630, .iload_n 3), (631, .iconst 1), (632, .iadd), (633, .iaload), (634, .invokevirtual 67), (637, .if_icmp .eq 1279), (640, .iconst 0), (641, .ireturn), (642, .aload_n 1), (643, .aload_n 0), (644, .iload_n 3), (645, .iconst 1), (646, .iadd), (647, .iaload), (648, .invokevirtual 68), (651, .aload_n 2), (652, .aload_n 0), (653, .iload_n 3), (654, .iconst 1), (655, .iadd), (656, .iaload), (657, .invokevirtual 71), (660, .if_icmp .eq 1256), (663, .iconst 0), (664, .ireturn), (665, .aload_n 1), (666, .aload_n 0), (667, .iload_n 3), (668, .iconst 1), (669, .iadd), (670, .iaload), (671, .aload_n 0), (672, .iload_n 3), (673, .iconst 2), (674, .iadd), (675, .iaload), (676, .invokevirtual 72), (679, .aload_n 2), (680, .aload_n 0), (681, .iload_n 3), (682, .iconst 1), (683, .iadd), (684, .iaload), (685, .aload_n 0), (686, .iload_n 3), (687, .iconst 2), (688, .iadd), (689, .iaload), (690, .invokevirtual 75), (693, .if_icmp .eq 1223), (696, .iconst 0), (697, .ireturn), (698, .aload_n 1)]
theorem k376_5 : dck c376 l376_5 := by unfold dck; decide +kernel
def l376_6 : List (Nat × Instr) := [(699, .invokevirtual 76), (702, .aload_n 2), (703, .invokevirtual 79), (706, .if_icmp .eq 1210), (709, .iconst 0), (710, .ireturn), (711, .aload_n 1), (712, .aload_n 0), (713, .iload_n 3), (714, .iconst 1), (715, .iadd), (716, .iaload), (717, .aload_n 0), (718, .iload_n 3), (719, .iconst 2), (720, .iadd), (721, .iaload), (722, .invokevirtual 80), (725, .aload_n 2), (726, .aload_n 0), (727, .iload_n 3), (728, .iconst 1), (729, .iadd), (730, .iaload), (731, .aload_n 0), (732, .iload_n 3), (733, .iconst 2), (734, .iadd), (735, .iaload), (736, .invokevirtual 83), (739, .if_icmp .eq 1177), (742, .iconst 0), (743, .ireturn), (744, .aload_n 1), (745, .aload_n 0), (746, .iload_n 3), (747, .iconst 1), (748, .iadd), (749, .iaload), (750, .aload_n 0), (751, .iload_n 3), (752, .iconst 2), (753, .iadd), (754, .iaload), (755, .invokevirtual 84), (758, .aload_n 2), (759, .aload_n 0), (760, .iload_n 3), (761, .iconst 1), (762, .iadd), (763, .iaload), (764, .aload_n 0), (765, .iload_n 3), (766, .iconst 2), (767, .iadd), (768, .iaload), (769, .invokevirtual 87), (772, .if_icmp .eq 1144), (775, .iconst 0), (776, .ireturn)]
theorem k376_6 : dck c376 l376_6 := by unfold dck; decide +kernel
def l376_7 : List (Nat × Instr) := [(777, .aload_n 1), (778, .aload_n 0), (779, .iload_n 3), (780, .iconst 1), (781, .iadd), (782, .iaload), (783, .invokevirtual 88), (786, .aload_n 2), (787, .aload_n 0), (788, .iload_n 3), (789, .iconst 1), (790, .iadd), (791, .iaload), (792, .invokevirtual 91), (795, .if_icmp .eq 1121), (798, .iconst 0), (799, .ireturn), (800, .aload_n 1), (801, .aload_n 0), (802, .iload_n 3), (803, .iconst 1), (804, .iadd), (805, .iaload), (806, .invokevirtual 92), (809, .aload_n 2), (810, .aload_n 0), (811, .iload_n 3), (812, .iconst 1), (813, .iadd), (814, .iaload), (815, .invokevirtual 95), (818, .if_icmp .eq 1098), (821, .iconst 0), (822, .ireturn), (823, .aload_n 1), (824, .aload_n 0), (825, .iload_n 3), (826, .iconst 1), (827, .iadd), (828, .iaload), (829, .aload_n 0), (830, .iload_n 3), (831, .iconst 2), (832, .iadd), (833, .iaload), (834, .invokevirtual 96), (837, .aload_n 2), (838, .aload_n 0), (839, .iload_n 3), (840, .iconst 1), (841, .iadd), (842, .iaload), (843, .aload_n 0), (844, .iload_n 3), (845, .iconst 2), (846, .iadd), (847, .iaload), (848, .invokevirtual 99), (851, .if_icmp .eq 1065), (854, .iconst 0)]
theorem k376_7 : dck c376 l376_7 := by unfold dck; decide +kernel
def l376_8 : List (Nat × Instr) := [(855, .ireturn), (856, .aload_n 1), (857, .aload_n 0), (858, .iload_n 3), (859, .iconst 1), (860, .iadd), (861, .iaload), (862, .aload_n 0), (863, .iload_n 3), (864, .iconst 2), (865, .iadd), (866, .iaload), (867, .invokevirtual 100), (870, .aload_n 2), (871, .aload_n 0), (872, .iload_n 3), (873, .iconst 1), (874, .iadd), (875, .iaload), (876, .aload_n 0), (877, .iload_n 3), (878, .iconst 2), (879, .iadd), (880, .iaload), (881, .invokevirtual 103), (884, .if_icmp .eq 1032), (887, .iconst 0), (888, .ireturn), (889, .aload_n 1), (890, .aload_n 0), (891, .iload_n 3), (892, .iconst 1), (893, .iadd), (894, .iaload), (895, .aload_n 0), (896, .iload_n 3), (897, .iconst 2), (898, .iadd), (899, .iaload), (900, .ifCond .eq 7), (903, .iconst 1), (904, .goto 4), (907, .iconst 0), (908, .invokevirtual 104), (911, .aload_n 2), (912, .aload_n 0), (913, .iload_n 3), (914, .iconst 1), (915, .iadd), (916, .iaload), (917, .aload_n 0), (918, .iload_n 3), (919, .iconst 2), (920, .iadd), (921, .iaload), (922, .ifCond .eq 7), (925, .iconst 1), (926, .goto 4), (929, .iconst 0), (930, .invokevirtual 108)]
theorem k376_8 : dck c376 l376_8 := by unfold dck; decide +kernel
def l376_9 : List (Nat × Instr) := [(933, .if_icmp .eq 983), (936, .iconst 0), (937, .ireturn), (938, .aload_n 1), (939, .aload_n 0), (940, .iload_n 3), (941, .iconst 1), (942, .iadd), (943, .iaload), (944, .aload_n 0), (945, .iload_n 3), (946, .iconst 2), (947, .iadd), (948, .iaload), (949, .invokevirtual 109), (952, .aload_n 2), (953, .aload_n 0), (954, .iload_n 3), (955, .iconst 1), (956, .iadd), (957, .iaload), (958, .aload_n 0), (959, .iload_n 3), (960, .iconst 2), (961, .iadd), (962, .iaload), (963, .invokevirtual 112), (966, .if_icmp .eq 950), (969, .iconst 0), (970, .ireturn), (971, .aload_n 1), (972, .aload_n 0), (973, .iload_n 3), (974, .iconst 1), (975, .iadd), (976, .iaload), (977, .aload_n 0), (978, .iload_n 3), (979, .iconst 2), (980, .iadd), (981, .iaload), (982, .ifCond .eq 7), (985, .iconst 1), (986, .goto 4), (989, .iconst 0), (990, .invokevirtual 113), (993, .aload_n 2), (994, .aload_n 0), (995, .iload_n 3), (996, .iconst 1), (997, .iadd), (998, .iaload), (999, .aload_n 0), (1000, .iload_n 3), (1001, .iconst 2), (1002, .iadd), (1003, .iaload), (1004, .ifCond .eq 7), (1007, .iconst 1), (1008, .goto 4)]
theorem k376_9 : dck c376 l376_9 := by unfold dck; decide +kernel
def l376_10 : List (Nat × Instr) := [(1011, .iconst 0), (1012, .invokevirtual 117), (1015, .lcmp), (1016, .ifCond .eq 900), (1019, .iconst 0), (1020, .ireturn), (1021, .aload_n 1), (1022, .aload_n 0), (1023, .iload_n 3), (1024, .iconst 1), (1025, .iadd), (1026, .iaload), (1027, .invokevirtual 118), (1030, .aload_n 2), (1031, .aload_n 0), (1032, .iload_n 3), (1033, .iconst 1), (1034, .iadd), (1035, .iaload), (1036, .invokevirtual 121), (1039, .if_icmp .eq 877), (1042, .iconst 0), (1043, .ireturn), (1044, .aload_n 1), (1045, .aload_n 0), (1046, .iload_n 3), (1047, .iconst 1), (1048, .iadd), (1049, .iaload), (1050, .aload_n 0), (1051, .iload_n 3), (1052, .iconst 2), (1053, .iadd), (1054, .iaload), (1055, .ifCond .eq 7), (1058, .iconst 1), (1059, .goto 4), (1062, .iconst 0), (1063, .invokevirtual 122), (1066, .aload_n 2), (1067, .aload_n 0), (1068, .iload_n 3), (1069, .iconst 1), (1070, .iadd), (1071, .iaload), (1072, .aload_n 0), (1073, .iload_n 3), (1074, .iconst 2), (1075, .iadd), (1076, .iaload), (1077, .ifCond .eq 7), (1080, .iconst 1), (1081, .goto 4), (1084, .iconst 0), (1085, .invokevirtual 125), (1088, .lcmp), (1089, .ifCond .eq 827), (1092, .iconst 0), (1093, .ireturn), (1094, .aload_n 1)]
theorem k376_10 : dck c376 l376_10 := by unfold dck; decide +kernel
def l376_11 : List (Nat × Instr) := [(1095, .aload_n 0), (1096, .iload_n 3), (1097, .iconst 1), (1098, .iadd), (1099, .iaload), (1100, .invokevirtual 126), (1103, .aload_n 2), (1104, .aload_n 0), (1105, .iload_n 3), (1106, .iconst 1), (1107, .iadd), (1108, .iaload), (1109, .invokevirtual 129), (1112, .if_icmp .eq 804), (1115, .iconst 0), (1116, .ireturn), (1117, .aload_n 1), (1118, .aload_n 0), (1119, .iload_n 3), (1120, .iconst 1), (1121, .iadd), (1122, .iaload), (1123, .aload_n 0), (1124, .iload_n 3), (1125, .iconst 2), (1126, .iadd), (1127, .iaload), (1128, .ifCond .eq 7), (1131, .iconst 1), (1132, .goto 4), (1135, .iconst 0), (1136, .invokevirtual 130), (1139, .aload_n 2), (1140, .aload_n 0), (1141, .iload_n 3), (1142, .iconst 1), (1143, .iadd), (1144, .iaload), (1145, .aload_n 0), (1146, .iload_n 3), (1147, .iconst 2), (1148, .iadd), (1149, .iaload), (1150, .ifCond .eq 7), (1153, .iconst 1), (1154, .goto 4), (1157, .iconst 0), (1158, .invokevirtual 133), (1161, .if_icmp .eq 755), (1164, .iconst 0), (1165, .ireturn), (1166, .aload_n 1), (1167, .invokevirtual 134), (1170, .aload_n 2), (1171, .invokevirtual 137), (1174, .if_icmp .eq 742), (1177, .iconst 0), (1178, .ireturn), (1179, .aload_n 1), (1180, .aload_n 0)]
theorem k376_11 : dck c376 l376_11 := by unfold dck; decide +kernel
def l376_12 : List (Nat × Instr) := [(1181, .iload_n 3), (1182, .iconst 1), (1183, .iadd), (1184, .iaload), (1185, .ifCond .eq 7), (1188, .iconst 1), (1189, .goto 4), (1192, .iconst 0), (1193, .invokevirtual 138), (1196, .aload_n 2), (1197, .aload_n 0), (1198, .iload_n 3), (1199, .iconst 1), (1200, .iadd), (1201, .iaload), (1202, .ifCond .eq 7), (1205, .iconst 1), (1206, .goto 4), (1209, .iconst 0), (1210, .invokevirtual 142), (1213, .lcmp), (1214, .ifCond .eq 702), (1217, .iconst 0), (1218, .ireturn), (1219, .aload_n 1), (1220, .invokevirtual 143), (1223, .aload_n 2), (1224, .invokevirtual 146), (1227, .if_icmp .eq 689), (1230, .iconst 0), (1231, .ireturn), (1232, .aload_n 1), (1233, .invokevirtual 147), (1236, .aload_n 2), (1237, .invokevirtual 150), (1240, .if_icmp .eq 676), (1243, .iconst 0), (1244, .ireturn), (1245, .aload_n 1), (1246, .aload_n 0), (1247, .iload_n 3), (1248, .iconst 1), (1249, .iadd), (1250, .iaload), (1251, .aload_n 0), (1252, .iload_n 3), (1253, .iconst 2), (1254, .iadd), (1255, .iaload), (1256, .invokevirtual 151), (1259, .aload_n 2), (1260, .aload_n 0), (1261, .iload_n 3), (1262, .iconst 1), (1263, .iadd), (1264, .iaload), (1265, .aload_n 0), (1266, .iload_n 3), (1267, .iconst 2), (1268, .iadd)]
theorem k376_12 : dck c376 l376_12 := by unfold dck; decide +kernel
def l376_13 : List (Nat × Instr) := [(1269, .iaload), (1270, .invokevirtual 154), (1273, .if_icmp .eq 643), (1276, .iconst 0), (1277, .ireturn), (1278, .aload_n 1), (1279, .aload_n 0), (1280, .iload_n 3), (1281, .iconst 1), (1282, .iadd), (1283, .iaload), (1284, .ifCond .eq 7), (1287, .iconst 1), (1288, .goto 4), (1291, .iconst 0), (1292, .invokevirtual 155), (1295, .aload_n 2), (1296, .aload_n 0), (1297, .iload_n 3), (1298, .iconst 1), (1299, .iadd), (1300, .iaload), (1301, .ifCond .eq 7), (1304, .iconst 1), (1305, .goto 4), (1308, .iconst 0), (1309, .invokevirtual 159), (1312, .if_icmp .eq 604), (1315, .iconst 0), (1316, .ireturn), (1317, .aload_n 1), (1318, .aload_n 0), (1319, .iload_n 3), (1320, .iconst 1), (1321, .iadd), (1322, .iaload), (1323, .ifCond .eq 7), (1326, .iconst 1), (1327, .goto 4), (1330, .iconst 0), (1331, .invokevirtual 160), (1334, .aload_n 2), (1335, .aload_n 0), (1336, .iload_n 3), (1337, .iconst 1), (1338, .iadd), (1339, .iaload), (1340, .ifCond .eq 7), (1343, .iconst 1), (1344, .goto 4), (1347, .iconst 0), (1348, .invokevirtual 163), (1351, .if_icmp .eq 565), (1354, .iconst 0), (1355, .ireturn), (1356, .aload_n 1), (1357, .aload_n 0), (1358, .iload_n 3), (1359, .iconst 1), (1360, .iadd)]
theorem k376_13 : dck c376 l376_13 := by unfold dck; decide +kernel
def l376_14 : List (Nat × Instr) := [(1361, .iaload), (1362, .invokevirtual 164), (1365, .aload_n 2), (1366, .aload_n 0), (1367, .iload_n 3), (1368, .iconst 1), (1369, .iadd), (1370, .iaload), (1371, .invokevirtual 167), (1374, .if_icmp .eq 542), (1377, .iconst 0), (1378, .ireturn), (1379, .aload_n 1), (1380, .aload_n 0), (1381, .iload_n 3), (1382, .iconst 1), (1383, .iadd), (1384, .iaload), (1385, .aload_n 0), (1386, .iload_n 3), (1387, .iconst 2), (1388, .iadd), (1389, .iaload), (1390, .ifCond .eq 7), (1393, .iconst 1), (1394, .goto 4), (1397, .iconst 0), (1398, .invokevirtual 168), (1401, .aload_n 2), (1402, .aload_n 0), (1403, .iload_n 3), (1404, .iconst 1), (1405, .iadd), (1406, .iaload), (1407, .aload_n 0), (1408, .iload_n 3), (1409, .iconst 2), (1410, .iadd), (1411, .iaload), (1412, .ifCond .eq 7), (1415, .iconst 1), (1416, .goto 4), (1419, .iconst 0), (1420, .invokevirtual 171), (1423, .lcmp), (1424, .ifCond .eq 492), (1427, .iconst 0), (1428, .ireturn), (1429, .aload_n 1), (1430, .aload_n 0), (1431, .iload_n 3), (1432, .iconst 1), (1433, .iadd), (1434, .iaload), (1435, .aload_n 0), (1436, .iload_n 3), (1437, .iconst 2), (1438, .iadd), (1439, .iaload), (1440, .invokevirtual 172)]
theorem k376_14 : dck c376 l376_14 := by unfold dck; decide +kernel
def l376_15 : List (Nat × Instr) := [(1443, .aload_n 2), (1444, .aload_n 0), (1445, .iload_n 3), (1446, .iconst 1), (1447, .iadd), (1448, .iaload), (1449, .aload_n 0), (1450, .iload_n 3), (1451, .iconst 2), (1452, .iadd), (1453, .iaload), (1454, .invokevirtual 176), (1457, .if_icmp .eq 459), (1460, .iconst 0), (1461, .ireturn), (1462, .aload_n 1), (1463, .aload_n 0), (1464, .iload_n 3), (1465, .iconst 1), (1466, .iadd), (1467, .iaload), (1468, .aload_n 0), (1469, .iload_n 3), (1470, .iconst 2), (1471, .iadd), (1472, .iaload), (1473, .invokevirtual 177), (1476, .aload_n 2), (1477, .aload_n 0), (1478, .iload_n 3), (1479, .iconst 1), (1480, .iadd), (1481, .iaload), (1482, .aload_n 0), (1483, .iload_n 3), (1484, .iconst 2), (1485, .iadd), (1486, .iaload), (1487, .invokevirtual 180), (1490, .if_icmp .eq 426), (1493, .iconst 0), (1494, .ireturn), (1495, .aload_n 1), (1496, .aload_n 0), (1497, .iload_n 3), (1498, .iconst 1), (1499, .iadd), (1500, .iaload), (1501, .aload_n 0), (1502, .iload_n 3), (1503, .iconst 2), (1504, .iadd), (1505, .iaload), (1506, .invokevirtual 181), (1509, .aload_n 2), (1510, .aload_n 0), (1511, .iload_n 3), (1512, .iconst 1), (1513, .iadd), (1514, .iaload)]
theorem k376_15 : dck c376 l376_15 := by unfold dck; decide +kernel
def l376_16 : List (Nat × Instr) := [(1515, .aload_n 0), (1516, .iload_n 3), (1517, .iconst 2), (1518, .iadd), (1519, .iaload), (1520, .invokevirtual 184), (1523, .if_icmp .eq 393), (1526, .iconst 0), (1527, .ireturn), (1528, .aload_n 1), (1529, .aload_n 0), (1530, .iload_n 3), (1531, .iconst 1), (1532, .iadd), (1533, .iaload), (1534, .aload_n 0), (1535, .iload_n 3), (1536, .iconst 2), (1537, .iadd), (1538, .iaload), (1539, .aload_n 0), (1540, .iload_n 3), (1541, .iconst 3), (1542, .iadd), (1543, .iaload), (1544, .invokevirtual 185), (1547, .aload_n 2), (1548, .aload_n 0), (1549, .iload_n 3), (1550, .iconst 1), (1551, .iadd), (1552, .iaload), (1553, .aload_n 0), (1554, .iload_n 3), (1555, .iconst 2), (1556, .iadd), (1557, .iaload), (1558, .aload_n 0), (1559, .iload_n 3), (1560, .iconst 3), (1561, .iadd), (1562, .iaload), (1563, .invokevirtual 189), (1566, .if_icmp .eq 350), (1569, .iconst 0), (1570, .ireturn), (1571, .aload_n 1), (1572, .aload_n 0), (1573, .iload_n 3), (1574, .iconst 1), (1575, .iadd), (1576, .iaload), (1577, .aload_n 0), (1578, .iload_n 3), (1579, .iconst 2), (1580, .iadd), (1581, .iaload), (1582, .invokevirtual 190), (1585, .aload_n 2), (1586, .aload_n 0)]
theorem k376_16 : dck c376 l376_16 := by unfold dck; decide +kernel
def l376_17 : List (Nat × Instr) := [(1587, .iload_n 3), (1588, .iconst 1), (1589, .iadd), (1590, .iaload), (1591, .aload_n 0), (1592, .iload_n 3), (1593, .iconst 2), (1594, .iadd), (1595, .iaload), (1596, .invokevirtual 193), (1599, .if_icmp .eq 317), (1602, .iconst 0), (1603, .ireturn), (1604, .aload_n 1), (1605, .invokevirtual 194), (1608, .aload_n 2), (1609, .invokevirtual 197), (1612, .if_icmp .eq 304), (1615, .iconst 0), (1616, .ireturn), (1617, .aload_n 1), (1618, .invokevirtual 198), (1621, .aload_n 2), (1622, .invokevirtual 201), (1625, .if_icmp .eq 291), (1628, .iconst 0), (1629, .ireturn), (1630, .aload_n 1), (1631, .aload_n 0), (1632, .iload_n 3), (1633, .iconst 1), (1634, .iadd), (1635, .iaload), (1636, .invokevirtual 202), (1639, .aload_n 2), (1640, .aload_n 0), (1641, .iload_n 3), (1642, .iconst 1), (1643, .iadd), (1644, .iaload), (1645, .invokevirtual 205), (1648, .if_icmp .eq 268), (1651, .iconst 0), (1652, .ireturn), (1653, .aload_n 1), (1654, .aload_n 0), (1655, .iload_n 3), (1656, .iconst 1), (1657, .iadd), (1658, .iaload), (1659, .aload_n 0), (1660, .iload_n 3), (1661, .iconst 2), (1662, .iadd), (1663, .iaload), (1664, .ifCond .eq 7), (1667, .iconst 1), (1668, .goto 4), (1671, .iconst 0), (1672, .invokevirtual 206)]
theorem k376_17 : dck c376 l376_17 := by unfold dck; decide +kernel
def l376_18 : List (Nat × Instr) := [(1675, .aload_n 2), (1676, .aload_n 0), (1677, .iload_n 3), (1678, .iconst 1), (1679, .iadd), (1680, .iaload), (1681, .aload_n 0), (1682, .iload_n 3), (1683, .iconst 2), (1684, .iadd), (1685, .iaload), (1686, .ifCond .eq 7), (1689, .iconst 1), (1690, .goto 4), (1693, .iconst 0), (1694, .invokevirtual 209), (1697, .lcmp), (1698, .ifCond .eq 218), (1701, .iconst 0), (1702, .ireturn), (1703, .aload_n 1), (1704, .aload_n 0), (1705, .iload_n 3), (1706, .iconst 1), (1707, .iadd), (1708, .iaload), (1709, .invokevirtual 210), (1712, .aload_n 2), (1713, .aload_n 0), (1714, .iload_n 3), (1715, .iconst 1), (1716, .iadd), (1717, .iaload), (1718, .invokevirtual 213), (1721, .if_icmp .eq 195), (1724, .iconst 0), (1725, .ireturn), (1726, .aload_n 1), (1727, .aload_n 0), (1728, .iload_n 3), (1729, .iconst 1), (1730, .iadd), (1731, .iaload), (1732, .invokevirtual 214), (1735, .aload_n 2), (1736, .aload_n 0), (1737, .iload_n 3), (1738, .iconst 1), (1739, .iadd), (1740, .iaload), (1741, .invokevirtual 217), (1744, .if_icmp .eq 172), (1747, .iconst 0), (1748, .ireturn), (1749, .aload_n 1), (1750, .aload_n 0), (1751, .iload_n 3), (1752, .iconst 1), (1753, .iadd), (1754, .iaload)]
theorem k376_18 : dck c376 l376_18 := by unfold dck; decide +kernel
def l376_19 : List (Nat × Instr) := [(1755, .invokevirtual 218), (1758, .aload_n 2), (1759, .aload_n 0), (1760, .iload_n 3), (1761, .iconst 1), (1762, .iadd), (1763, .iaload), (1764, .invokevirtual 221), (1767, .if_icmp .eq 149), (1770, .iconst 0), (1771, .ireturn), (1772, .aload_n 1), (1773, .invokevirtual 222), (1776, .aload_n 2), (1777, .invokevirtual 225), (1780, .if_icmp .eq 136), (1783, .iconst 0), (1784, .ireturn), (1785, .aload_n 1), (1786, .invokevirtual 226), (1789, .aload_n 2), (1790, .invokevirtual 229), (1793, .if_icmp .eq 123), (1796, .iconst 0), (1797, .ireturn), (1798, .aload_n 1), (1799, .aload_n 0), (1800, .iload_n 3), (1801, .iconst 1), (1802, .iadd), (1803, .iaload), (1804, .invokevirtual 230), (1807, .aload_n 2), (1808, .aload_n 0), (1809, .iload_n 3), (1810, .iconst 1), (1811, .iadd), (1812, .iaload), (1813, .invokevirtual 233), (1816, .if_icmp .eq 100), (1819, .iconst 0), (1820, .ireturn), (1821, .aload_n 1), (1822, .aload_n 0), (1823, .iload_n 3), (1824, .iconst 1), (1825, .iadd), (1826, .iaload), (1827, .invokevirtual 234), (1830, .aload_n 2), (1831, .aload_n 0), (1832, .iload_n 3), (1833, .iconst 1), (1834, .iadd), (1835, .iaload), (1836, .invokevirtual 237), (1839, .if_icmp .eq 77), (1842, .iconst 0), (1843, .ireturn), (1844, .aload_n 1)]
theorem k376_19 : dck c376 l376_19 := by unfold dck; decide +kernel
def l376_20 : List (Nat × Instr) := [(1845, .aload_n 0), (1846, .iload_n 3), (1847, .iconst 1), (1848, .iadd), (1849, .iaload), (1850, .invokevirtual 238), (1853, .aload_n 2), (1854, .aload_n 0), (1855, .iload_n 3), (1856, .iconst 1), (1857, .iadd), (1858, .iaload), (1859, .invokevirtual 241), (1862, .if_icmp .eq 54), (1865, .iconst 0), (1866, .ireturn), (1867, .aload_n 1), (1868, .invokevirtual 242), (1871, .aload_n 2), (1872, .invokevirtual 245), (1875, .if_icmp .eq 41), (1878, .iconst 0), (1879, .ireturn), (1880, .aload_n 1), (1881, .invokevirtual 246), (1884, .aload_n 2), (1885, .invokevirtual 249), (1888, .if_icmp .eq 28), (1891, .iconst 0), (1892, .ireturn), (1893, .aload_n 1), (1894, .aload_n 0), (1895, .iload_n 3), (1896, .iconst 1), (1897, .iadd), (1898, .iaload), (1899, .invokevirtual 250), (1902, .aload_n 2), (1903, .aload_n 0), (1904, .iload_n 3), (1905, .iconst 1), (1906, .iadd), (1907, .iaload), (1908, .invokevirtual 253), (1911, .if_icmp .eq 5), (1914, .iconst 0), (1915, .ireturn), (1916, .iinc 3 6), (1919, .goto (-1901)), (1922, .iconst 1), (1923, .ireturn)]
theorem k376_20 : dck c376 l376_20 := by unfold dck; decide +kernel
theorem w376_33 : decode c376 33 = .ok (.tableswitch 1883 0 56 #[243, 286, 339, 402, 425, 438, 461, 484, 507, 530, 553, 586, 609, 632, 665, 678, 711, 744, 767, 790, 823, 856, 905, 938, 988, 1011, 1061, 1084, 1133, 1146, 1186, 1199, 1212, 1245, 1284, 1323, 1346, 1396, 1429, 1462, 1495, 1538, 1571, 1584, 1597, 1620, 1670, 1693, 1716, 1739, 1752, 1765, 1788, 1811, 1834, 1847, 1860], 243) := by decide +kernel
end
section
/-! PART 01: a small machine with a flat memory, run by a plain function; what it computes is shown of the real machine in a later part -/
set_option maxRecDepth 100000
/-- base, next, slots made; statics; kind and size; ints, longs, references by object and place -/
abbrev Mem : Type := (Nat × Nat × Nat) × (Nat → Value) × (Nat → Nat × Nat) × (Nat → Nat → Int32) × (Nat → Nat → Int64) × (Nat → Nat → Option Nat)
def mB (m : Mem) : Nat := m.1.1
def mN (m : Mem) : Nat := m.1.2.1
def mS (m : Mem) : Nat := m.1.2.2
def mT (m : Mem) : Nat → Value := m.2.1
def mK (m : Mem) : Nat → Nat × Nat := m.2.2.1
def mI (m : Mem) : Nat → Nat → Int32 := m.2.2.2.1
def mL (m : Mem) : Nat → Nat → Int64 := m.2.2.2.2.1
def mP (m : Mem) : Nat → Nat → Option Nat := m.2.2.2.2.2
def wI (m : Mem) (a : Nat) (f : Nat → Int32) : Mem := (m.1, m.2.1, m.2.2.1, (fun b => if b = a then f else mI m b), m.2.2.2.2.1, m.2.2.2.2.2)
def wL (m : Mem) (a : Nat) (f : Nat → Int64) : Mem := (m.1, m.2.1, m.2.2.1, m.2.2.2.1, (fun b => if b = a then f else mL m b), m.2.2.2.2.2)
def wP (m : Mem) (a : Nat) (f : Nat → Option Nat) : Mem := (m.1, m.2.1, m.2.2.1, m.2.2.2.1, m.2.2.2.2.1, (fun b => if b = a then f else mP m b))
/-- a new cell of a kind and a size, all zero -/
def mNew (m : Mem) (κ n : Nat) : Mem := ((mB m, mN m + 1, mS m + n), m.2.1, (fun b => if b = mN m then (κ, n) else mK m b), (fun b => if b = mN m then (fun _ => 0) else mI m b), (fun b => if b = mN m then (fun _ => 0) else mL m b), (fun b => if b = mN m then (fun _ => none) else mP m b))
def up {α : Type} (f : Nat → α) (k : Nat) (v : α) : Nat → α := fun j => if j = k then v else f j
theorem up_s {α : Type} {f : Nat → α} {k : Nat} {v : α} : up f k v k = v := if_pos rfl
theorem up_n {α : Type} {f : Nat → α} {k j : Nat} {v : α} (h : j ≠ k) : up f k v j = f j := if_neg h
theorem mB_wI {m : Mem} {a : Nat} {f : Nat → Int32} : mB (wI m a f) = mB m := rfl
theorem mN_wI {m : Mem} {a : Nat} {f : Nat → Int32} : mN (wI m a f) = mN m := rfl
theorem mS_wI {m : Mem} {a : Nat} {f : Nat → Int32} : mS (wI m a f) = mS m := rfl
theorem mT_wI {m : Mem} {a : Nat} {f : Nat → Int32} : mT (wI m a f) = mT m := rfl
theorem mK_wI {m : Mem} {a : Nat} {f : Nat → Int32} : mK (wI m a f) = mK m := rfl
theorem mL_wI {m : Mem} {a : Nat} {f : Nat → Int32} : mL (wI m a f) = mL m := rfl
theorem mP_wI {m : Mem} {a : Nat} {f : Nat → Int32} : mP (wI m a f) = mP m := rfl
theorem mI_wI {m : Mem} {a b : Nat} {f : Nat → Int32} : mI (wI m a f) b = if b = a then f else mI m b := rfl
theorem mI_wIs {m : Mem} {a : Nat} {f : Nat → Int32} : mI (wI m a f) a = f := if_pos rfl
theorem mB_wL {m : Mem} {a : Nat} {f : Nat → Int64} : mB (wL m a f) = mB m := rfl
theorem mN_wL {m : Mem} {a : Nat} {f : Nat → Int64} : mN (wL m a f) = mN m := rfl
theorem mS_wL {m : Mem} {a : Nat} {f : Nat → Int64} : mS (wL m a f) = mS m := rfl
theorem mT_wL {m : Mem} {a : Nat} {f : Nat → Int64} : mT (wL m a f) = mT m := rfl
theorem mK_wL {m : Mem} {a : Nat} {f : Nat → Int64} : mK (wL m a f) = mK m := rfl
theorem mI_wL {m : Mem} {a : Nat} {f : Nat → Int64} : mI (wL m a f) = mI m := rfl
theorem mP_wL {m : Mem} {a : Nat} {f : Nat → Int64} : mP (wL m a f) = mP m := rfl
theorem mL_wL {m : Mem} {a b : Nat} {f : Nat → Int64} : mL (wL m a f) b = if b = a then f else mL m b := rfl
theorem mL_wLs {m : Mem} {a : Nat} {f : Nat → Int64} : mL (wL m a f) a = f := if_pos rfl
theorem mB_wP {m : Mem} {a : Nat} {f : Nat → Option Nat} : mB (wP m a f) = mB m := rfl
theorem mN_wP {m : Mem} {a : Nat} {f : Nat → Option Nat} : mN (wP m a f) = mN m := rfl
theorem mS_wP {m : Mem} {a : Nat} {f : Nat → Option Nat} : mS (wP m a f) = mS m := rfl
theorem mT_wP {m : Mem} {a : Nat} {f : Nat → Option Nat} : mT (wP m a f) = mT m := rfl
theorem mK_wP {m : Mem} {a : Nat} {f : Nat → Option Nat} : mK (wP m a f) = mK m := rfl
theorem mI_wP {m : Mem} {a : Nat} {f : Nat → Option Nat} : mI (wP m a f) = mI m := rfl
theorem mL_wP {m : Mem} {a : Nat} {f : Nat → Option Nat} : mL (wP m a f) = mL m := rfl
theorem mP_wP {m : Mem} {a b : Nat} {f : Nat → Option Nat} : mP (wP m a f) b = if b = a then f else mP m b := rfl
theorem mP_wPs {m : Mem} {a : Nat} {f : Nat → Option Nat} : mP (wP m a f) a = f := if_pos rfl
theorem mB_new {m : Mem} {κ n : Nat} : mB (mNew m κ n) = mB m := rfl
theorem mN_new {m : Mem} {κ n : Nat} : mN (mNew m κ n) = mN m + 1 := rfl
theorem mS_new {m : Mem} {κ n : Nat} : mS (mNew m κ n) = mS m + n := rfl
theorem mT_new {m : Mem} {κ n : Nat} : mT (mNew m κ n) = mT m := rfl
theorem mK_new {m : Mem} {κ n b : Nat} : mK (mNew m κ n) b = if b = mN m then (κ, n) else mK m b := rfl
theorem mI_new {m : Mem} {κ n b : Nat} : mI (mNew m κ n) b = if b = mN m then (fun _ => 0) else mI m b := rfl
theorem mL_new {m : Mem} {κ n b : Nat} : mL (mNew m κ n) b = if b = mN m then (fun _ => 0) else mL m b := rfl
theorem mP_new {m : Mem} {κ n b : Nat} : mP (mNew m κ n) b = if b = mN m then (fun _ => none) else mP m b := rfl
theorem wI_wI {m : Mem} {a : Nat} {f g : Nat → Int32} : wI (wI m a f) a g = wI m a g := by
  have h : (fun b => if b = a then g else mI (wI m a f) b) = fun b => if b = a then g else mI m b := by
    funext b
    by_cases h : b = a
    · rw [if_pos h, if_pos h]
    · rw [if_neg h, if_neg h, mI_wI, if_neg h]
  show (m.1, m.2.1, m.2.2.1, (fun b => if b = a then g else mI (wI m a f) b), m.2.2.2.2.1, m.2.2.2.2.2) = _
  rw [h]
  rfl
theorem wL_wL {m : Mem} {a : Nat} {f g : Nat → Int64} : wL (wL m a f) a g = wL m a g := by
  have h : (fun b => if b = a then g else mL (wL m a f) b) = fun b => if b = a then g else mL m b := by
    funext b
    by_cases h : b = a
    · rw [if_pos h, if_pos h]
    · rw [if_neg h, if_neg h, mL_wL, if_neg h]
  show (m.1, m.2.1, m.2.2.1, m.2.2.2.1, (fun b => if b = a then g else mL (wL m a f) b), m.2.2.2.2.2) = _
  rw [h]
  rfl
theorem wP_wP {m : Mem} {a : Nat} {f g : Nat → Option Nat} : wP (wP m a f) a g = wP m a g := by
  have h : (fun b => if b = a then g else mP (wP m a f) b) = fun b => if b = a then g else mP m b := by
    funext b
    by_cases h : b = a
    · rw [if_pos h, if_pos h]
    · rw [if_neg h, if_neg h, mP_wP, if_neg h]
  show (m.1, m.2.1, m.2.2.1, m.2.2.2.1, m.2.2.2.2.1, (fun b => if b = a then g else mP (wP m a f) b)) = _
  rw [h]
  rfl
theorem wI_self {m : Mem} {a : Nat} : wI m a (mI m a) = m := by
  have h : (fun b => if b = a then mI m a else mI m b) = mI m := by
    funext b
    by_cases h : b = a
    · rw [if_pos h, h]
    · rw [if_neg h]
  show (m.1, m.2.1, m.2.2.1, (fun b => if b = a then mI m a else mI m b), m.2.2.2.2.1, m.2.2.2.2.2) = m
  rw [h]
  rfl
theorem wI_comm {m : Mem} {a b : Nat} {f g : Nat → Int32} (h : a ≠ b) : wI (wI m a f) b g = wI (wI m b g) a f := by
  have e : (fun c => if c = b then g else mI (wI m a f) c) = fun c => if c = a then f else mI (wI m b g) c := by
    funext c
    by_cases h1 : c = b
    · subst h1
      rw [if_pos rfl, if_neg (Ne.symm h), mI_wIs]
    · rw [if_neg h1, mI_wI, mI_wI, if_neg h1]
  show (m.1, m.2.1, m.2.2.1, (fun c => if c = b then g else mI (wI m a f) c), m.2.2.2.2.1, m.2.2.2.2.2) = _
  rw [e]
  rfl
/-! locals -/
def isL : Value → Bool
  | .long _ => true
  | .double _ => true
  | _ => false
abbrev unset : Value := .retAddr 0
def stl1 : List Value → Nat → Value → List Value
  | [], _, _ => []
  | _ :: t, 0, v => v :: t
  | w :: t, i + 1, v => (bif isL w && i == 0 then unset else w) :: stl1 t i v
def clr1 : List Value → List Value
  | [] => []
  | _ :: t => unset :: t
def stl2 : List Value → Nat → Value → List Value
  | [], _, _ => []
  | _ :: t, 0, v => v :: clr1 t
  | w :: t, i + 1, v => (bif isL w && i == 0 then unset else w) :: stl2 t i v
def slA : List Value → List Value
  | [] => []
  | v :: vs => bif isL v then v :: unset :: slA vs else v :: slA vs
/-- the locals with which a method begins -/
def ent (n : Nat) (as : List Value) : List Value := slA as ++ List.replicate (n - (slA as).length) unset
def popA : Nat → List Value → List Value → Option (List Value × List Value)
  | 0, acc, st => some (acc, st)
  | n + 1, acc, v :: st => popA n (v :: acc) st
  | _ + 1, _, [] => none
/-! one step that goes on in the same method: pc, locals, stack, memory -/
abbrev Nx : Type := Nat × List Value × List Value × Mem
def oN (pc : Nat) (ls st : List Value) (m : Mem) : Option Nx := some (pc, ls, st, m)
def gt0 (pc : Nat) (off : Int) (k : Nat → Option Nx) : Option Nx := if 0 ≤ (pc : Int) + off then k ((pc : Int) + off).toNat else none
/-! what a place of the locals or the stack must be -/
def lI (v : Option Value) (k : Int32 → Option Nx) : Option Nx := match v with
  | some (.int x) => k x
  | _ => none
def lL (v : Option Value) (k : Int64 → Option Nx) : Option Nx := match v with
  | some (.long x) => k x
  | _ => none
def lR (v : Option Value) (k : Option Nat → Option Nx) : Option Nx := match v with
  | some (.ref x) => k (some x)
  | some .null => k none
  | _ => none
def pI (st : List Value) (k : Int32 → List Value → Option Nx) : Option Nx := match st with
  | .int x :: r => k x r
  | _ => none
def pL (st : List Value) (k : Int64 → List Value → Option Nx) : Option Nx := match st with
  | .long x :: r => k x r
  | _ => none
def pR (st : List Value) (k : Option Nat → List Value → Option Nx) : Option Nx := match st with
  | .ref x :: r => k (some x) r
  | .null :: r => k none r
  | _ => none
def pA (st : List Value) (k : Nat → List Value → Option Nx) : Option Nx := match st with
  | .ref x :: r => k x r
  | _ => none
def p1 (st : List Value) (k : Value → List Value → Option Nx) : Option Nx := match st with
  | v :: r => bif isL v then none else k v r
  | _ => none
def p2 (st : List Value) (k : Value → List Value → Option Nx) : Option Nx := match st with
  | v :: r => bif isL v then k v r else none
  | _ => none
/-- constants, locals, stack -/
def gA (i : Instr) (pc : Nat) (ls st : List Value) (m : Mem) : Option Nx := match i with
  | .iconst n => oN (pc + 1) ls (.int (Int32.ofInt n) :: st) m
  | .bipush n => oN (pc + 2) ls (.int (Int8.ofInt n).toInt32 :: st) m
  | .sipush n => oN (pc + 3) ls (.int (Int16.ofInt n).toInt32 :: st) m
  | .lconst n => oN (pc + 1) ls (.long (Int64.ofNat (n : Nat)) :: st) m
  | .aconst_null => oN (pc + 1) ls (.null :: st) m
  | .iload_n k => lI ls[(k : Nat)]? fun x => oN (pc + 1) ls (.int x :: st) m
  | .iload k => lI ls[k]? fun x => oN (pc + 2) ls (.int x :: st) m
  | .lload_n k => lL ls[(k : Nat)]? fun x => oN (pc + 1) ls (.long x :: st) m
  | .lload k => lL ls[k]? fun x => oN (pc + 2) ls (.long x :: st) m
  | .aload_n k => lR ls[(k : Nat)]? fun x => oN (pc + 1) ls (va_rf x :: st) m
  | .aload k => lR ls[k]? fun x => oN (pc + 2) ls (va_rf x :: st) m
  | _ => none
/-- stores, stack words -/
def gB (i : Instr) (pc : Nat) (ls st : List Value) (m : Mem) : Option Nx := match i with
  | .istore_n k => pI st fun x r => if (k : Nat) < ls.length then oN (pc + 1) (stl1 ls k (.int x)) r m else none
  | .istore k => pI st fun x r => if k < ls.length then oN (pc + 2) (stl1 ls k (.int x)) r m else none
  | .lstore_n k => pL st fun x r => if (k : Nat) + 1 < ls.length then oN (pc + 1) (stl2 ls k (.long x)) r m else none
  | .lstore k => pL st fun x r => if k + 1 < ls.length then oN (pc + 2) (stl2 ls k (.long x)) r m else none
  | .astore_n k => pR st fun x r => if (k : Nat) < ls.length then oN (pc + 1) (stl1 ls k (va_rf x)) r m else none
  | .astore k => pR st fun x r => if k < ls.length then oN (pc + 2) (stl1 ls k (va_rf x)) r m else none
  | .iinc k n => lI ls[k]? fun x => oN (pc + 3) (stl1 ls k (.int (x + Int32.ofInt n))) st m
  | .dup => p1 st fun v r => oN (pc + 1) ls (v :: v :: r) m
  | .pop => p1 st fun _ r => oN (pc + 1) ls r m
  | .dup_x1 => p1 st fun v r => p1 r fun w r => oN (pc + 1) ls (v :: w :: v :: r) m
  | .dup2 => match st with
    | v :: w :: r => bif isL v then oN (pc + 1) ls (v :: v :: w :: r) m else bif isL w then none else oN (pc + 1) ls (v :: w :: v :: w :: r) m
    | [v] => bif isL v then oN (pc + 1) ls [v, v] m else none
    | _ => none
  | _ => none
/-- ints -/
def gC (i : Instr) (pc : Nat) (ls st : List Value) (m : Mem) : Option Nx := match i with
  | .iadd => pI st fun y r => pI r fun x r => oN (pc + 1) ls (.int (x + y) :: r) m
  | .isub => pI st fun y r => pI r fun x r => oN (pc + 1) ls (.int (x - y) :: r) m
  | .imul => pI st fun y r => pI r fun x r => oN (pc + 1) ls (.int (x * y) :: r) m
  | .iand => pI st fun y r => pI r fun x r => oN (pc + 1) ls (.int (x &&& y) :: r) m
  | .ior => pI st fun y r => pI r fun x r => oN (pc + 1) ls (.int (x ||| y) :: r) m
  | .ixor => pI st fun y r => pI r fun x r => oN (pc + 1) ls (.int (x ^^^ y) :: r) m
  | .idiv => pI st fun y r => pI r fun x r => if y = 0 then none else oN (pc + 1) ls (.int (x / y) :: r) m
  | .irem => pI st fun y r => pI r fun x r => if y = 0 then none else oN (pc + 1) ls (.int (x - x / y * y) :: r) m
  | .ishl => pI st fun y r => pI r fun x r => oN (pc + 1) ls (.int (x <<< (y &&& 31)) :: r) m
  | .ishr => pI st fun y r => pI r fun x r => oN (pc + 1) ls (.int (x >>> (y &&& 31)) :: r) m
  | .iushr => pI st fun y r => pI r fun x r => oN (pc + 1) ls (.int (x.toUInt32 >>> (y.toUInt32 &&& Int32.toUInt32 31)).toInt32 :: r) m
  | .ineg => pI st fun x r => oN (pc + 1) ls (.int (-x) :: r) m
  | .i2l => pI st fun x r => oN (pc + 1) ls (.long x.toInt64 :: r) m
  | .i2b => pI st fun x r => oN (pc + 1) ls (.int x.toInt8.toInt32 :: r) m
  | .i2c => pI st fun x r => oN (pc + 1) ls (.int (x.toUInt32 % 65536).toInt32 :: r) m
  | _ => none
/-- longs -/
def gD (i : Instr) (pc : Nat) (ls st : List Value) (m : Mem) : Option Nx := match i with
  | .ladd => pL st fun y r => pL r fun x r => oN (pc + 1) ls (.long (x + y) :: r) m
  | .lsub => pL st fun y r => pL r fun x r => oN (pc + 1) ls (.long (x - y) :: r) m
  | .lmul => pL st fun y r => pL r fun x r => oN (pc + 1) ls (.long (x * y) :: r) m
  | .lor => pL st fun y r => pL r fun x r => oN (pc + 1) ls (.long (x ||| y) :: r) m
  | .ldiv => pL st fun y r => pL r fun x r => if y = 0 then none else oN (pc + 1) ls (.long (x / y) :: r) m
  | .lrem => pL st fun y r => pL r fun x r => if y = 0 then none else oN (pc + 1) ls (.long (x - x / y * y) :: r) m
  | .lneg => pL st fun x r => oN (pc + 1) ls (.long (-x) :: r) m
  | .lshl => pI st fun y r => pL r fun x r => oN (pc + 1) ls (.long (x <<< (y.toInt64 &&& 63)) :: r) m
  | .lshr => pI st fun y r => pL r fun x r => oN (pc + 1) ls (.long (x >>> (y.toInt64 &&& 63)) :: r) m
  | .l2i => pL st fun x r => oN (pc + 1) ls (.int x.toInt32 :: r) m
  | .lcmp => pL st fun y r => pL r fun x r => oN (pc + 1) ls (.int (lg_cmp x y) :: r) m
  | _ => none
/-- branches: of two ways one, by a proposition that can be decided -/
def br (c : Prop) [Decidable c] (pc : Nat) (off : Int) (ls st : List Value) (m : Mem) : Option Nx := gt0 pc off fun t => if c then oN t ls st m else oN (pc + 3) ls st m
def gE (i : Instr) (pc : Nat) (ls st : List Value) (m : Mem) : Option Nx := match i with
  | .ifCond .eq off => pI st fun x r => br (x = 0) pc off ls r m
  | .ifCond .ne off => pI st fun x r => br (¬ x = 0) pc off ls r m
  | .ifCond .lt off => pI st fun x r => br (x < 0) pc off ls r m
  | .ifCond .ge off => pI st fun x r => br (0 ≤ x) pc off ls r m
  | .ifCond .gt off => pI st fun x r => br (0 < x) pc off ls r m
  | .ifCond .le off => pI st fun x r => br (x ≤ 0) pc off ls r m
  | .if_icmp .eq off => pI st fun y r => pI r fun x r => br (x = y) pc off ls r m
  | .if_icmp .ne off => pI st fun y r => pI r fun x r => br (¬ x = y) pc off ls r m
  | .if_icmp .lt off => pI st fun y r => pI r fun x r => br (x < y) pc off ls r m
  | .if_icmp .ge off => pI st fun y r => pI r fun x r => br (y ≤ x) pc off ls r m
  | .if_icmp .gt off => pI st fun y r => pI r fun x r => br (y < x) pc off ls r m
  | .if_icmp .le off => pI st fun y r => pI r fun x r => br (x ≤ y) pc off ls r m
  | .if_acmp .eq off => pR st fun y r => pR r fun x r => br (x = y) pc off ls r m
  | .if_acmp .ne off => pR st fun y r => pR r fun x r => br (¬ x = y) pc off ls r m
  | .ifnull off => pR st fun x r => br (x = none) pc off ls r m
  | .ifnonnull off => pR st fun x r => br (¬ x = none) pc off ls r m
  | .goto off => gt0 pc off fun t => oN t ls st m
  | _ => none
end
section
/-! PART 02: the small machine's steps hold of the real one -/
set_option maxRecDepth 100000
def isRt : Value → Bool
  | .retAddr _ => true
  | _ => false
/-- the real locals bear the list's -/
def lvs (la : Array Slot) (nL : Nat) (ls : List Value) : Prop := la.size = nL ∧ lv_wf la ∧ ls.length = nL ∧ ∀ (i : Nat) (v : Value), ls[i]? = some v → isRt v = false → la[i]? = some (.val v)
theorem lvs_at {la : Array Slot} {nL : Nat} {ls : List Value} (h : lvs la nL ls) {i : Nat} {v : Value} (hv : ls[i]? = some v) (hr : isRt v = false) : la[i]? = some (.val v) := h.2.2.2 i v hv hr
/-- the list as pairs -/
def lpr (ls : List Value) : List (Nat × Value) := (ls.zipIdx.filter fun q => !isRt q.1).map fun q => (q.2, q.1)
theorem lpr_mem {ls : List Value} {i : Nat} {v : Value} : (i, v) ∈ lpr ls ↔ ls[i]? = some v ∧ isRt v = false := by
  unfold lpr
  rw [List.mem_map]
  constructor
  · rintro ⟨⟨w, j⟩, h, e⟩
    simp only [Prod.mk.injEq] at e
    obtain ⟨rfl, rfl⟩ := e
    obtain ⟨h1, h2⟩ := List.mem_filter.mp h
    exact ⟨List.mem_zipIdx_iff_getElem?.mp h1, by simpa using h2⟩
  · rintro ⟨h1, h2⟩
    exact ⟨(v, i), List.mem_filter.mpr ⟨List.mem_zipIdx_iff_getElem?.mpr h1, by simpa using h2⟩, rfl⟩
theorem lvs_has {la : Array Slot} {nL : Nat} {ls : List Value} (h : lvs la nL ls) : lv_has la nL (lpr ls) := ⟨h.1, h.2.1, fun q hq => h.2.2.2 q.1 q.2 (lpr_mem.mp hq).1 (lpr_mem.mp hq).2⟩
theorem isL_cat {v : Value} : (v.category == 2) = isL v := by cases v <;> rfl
theorem stl1_len : ∀ (ls : List Value) (i : Nat) (v : Value), (stl1 ls i v).length = ls.length
  | [], _, _ => rfl
  | _ :: _, 0, _ => rfl
  | _ :: t, i + 1, v => by simp [stl1, stl1_len t i v]
theorem clr1_len (ls : List Value) : (clr1 ls).length = ls.length := by cases ls <;> rfl
theorem stl2_len : ∀ (ls : List Value) (i : Nat) (v : Value), (stl2 ls i v).length = ls.length
  | [], _, _ => rfl
  | _ :: t, 0, _ => by simp [stl2, clr1_len]
  | _ :: t, i + 1, v => by simp [stl2, stl2_len t i v]
theorem stl1_get : ∀ (ls : List Value) (i j : Nat) (v w : Value), (stl1 ls i v)[j]? = some w → isRt w = false → (j = i ∧ w = v) ∨ (j ≠ i ∧ ls[j]? = some w ∧ ¬ (j + 1 = i ∧ isL w = true))
  | [], i, j, v, w, h, _ => by simp [stl1] at h
  | x :: t, 0, 0, v, w, h, _ => by simp [stl1] at h; exact Or.inl ⟨rfl, h.symm⟩
  | x :: t, 0, j + 1, v, w, h, _ => by simp [stl1] at h; exact Or.inr ⟨by omega, by simpa using h, by omega⟩
  | x :: t, i + 1, 0, v, w, h, hr => by
    simp only [stl1, List.getElem?_cons_zero, Option.some.injEq] at h
    refine Or.inr ⟨by omega, ?_, ?_⟩
    · cases hc : (isL x && i == 0) with
      | true => rw [hc] at h; subst h; cases hr
      | false => rw [hc] at h; subst h; rfl
    · rintro ⟨h1, h2⟩
      have hi : i = 0 := by omega
      subst hi
      cases hx : isL x with
      | true => rw [hx] at h; subst h; cases hr
      | false => rw [hx] at h; simp at h; subst h; rw [hx] at h2; cases h2
  | x :: t, i + 1, j + 1, v, w, h, hr => by
    simp only [stl1, List.getElem?_cons_succ] at h
    rcases stl1_get t i j v w h hr with ⟨h1, h2⟩ | ⟨h1, h2, h3⟩
    · exact Or.inl ⟨by omega, h2⟩
    · exact Or.inr ⟨by omega, by simpa using h2, by rintro ⟨a, b⟩; exact h3 ⟨by omega, b⟩⟩
theorem stl2_get : ∀ (ls : List Value) (i j : Nat) (v w : Value), (stl2 ls i v)[j]? = some w → isRt w = false → (j = i ∧ w = v) ∨ (j ≠ i ∧ j ≠ i + 1 ∧ ls[j]? = some w ∧ ¬ (j + 1 = i ∧ isL w = true))
  | [], i, j, v, w, h, _ => by simp [stl2] at h
  | x :: t, 0, 0, v, w, h, _ => by simp [stl2] at h; exact Or.inl ⟨rfl, h.symm⟩
  | x :: [], 0, j + 1, v, w, h, hr => by simp [stl2, clr1] at h
  | x :: y :: t, 0, 1, v, w, h, hr => by simp [stl2, clr1] at h; subst h; cases hr
  | x :: y :: t, 0, j + 2, v, w, h, hr => by simp [stl2, clr1] at h; exact Or.inr ⟨by omega, by omega, by simpa using h, by omega⟩
  | x :: t, i + 1, 0, v, w, h, hr => by
    simp only [stl2, List.getElem?_cons_zero, Option.some.injEq] at h
    refine Or.inr ⟨by omega, by omega, ?_, ?_⟩
    · cases hc : (isL x && i == 0) with
      | true => rw [hc] at h; subst h; cases hr
      | false => rw [hc] at h; subst h; rfl
    · rintro ⟨h1, h2⟩
      have hi : i = 0 := by omega
      subst hi
      cases hx : isL x with
      | true => rw [hx] at h; subst h; cases hr
      | false => rw [hx] at h; simp at h; subst h; rw [hx] at h2; cases h2
  | x :: t, i + 1, j + 1, v, w, h, hr => by
    simp only [stl2, List.getElem?_cons_succ] at h
    rcases stl2_get t i j v w h hr with ⟨h1, h2⟩ | ⟨h1, h2, h3, h4⟩
    · exact Or.inl ⟨by omega, h2⟩
    · exact Or.inr ⟨by omega, by omega, by simpa using h3, by rintro ⟨a, b⟩; exact h4 ⟨by omega, b⟩⟩
theorem lvs_st1 {la la' : Array Slot} {nL i : Nat} {ls : List Value} {v : Value} (h : lvs la nL ls) (h' : lv_has la' nL ((i, v) :: (lpr ls).filter (fun q => !(q.1 == i) && !(q.1 + 1 == i && q.2.category == 2)))) : lvs la' nL (stl1 ls i v) := by
  refine ⟨h'.1, h'.2.1, (stl1_len _ _ _).trans h.2.2.1, fun j w hw hr => ?_⟩
  refine h'.2.2 (j, w) ?_
  rcases stl1_get ls i j v w hw hr with ⟨rfl, rfl⟩ | ⟨h1, h2, h3⟩
  · exact List.mem_cons_self
  · refine List.mem_cons_of_mem _ (List.mem_filter.mpr ⟨lpr_mem.mpr ⟨h2, hr⟩, ?_⟩)
    show (!(j == i) && !(j + 1 == i && w.category == 2)) = true
    rw [isL_cat]
    cases hL : isL w with
    | false => simp [h1]
    | true =>
      have h4 : ¬ j + 1 = i := fun e => h3 ⟨e, hL⟩
      simp [h1, h4]
theorem lvs_st2 {la la' : Array Slot} {nL i : Nat} {ls : List Value} {v : Value} (h : lvs la nL ls) (h' : lv_has la' nL ((i, v) :: (lpr ls).filter (fun q => !(q.1 == i) && (!(q.1 == i + 1) && !(q.1 + 1 == i && q.2.category == 2))))) : lvs la' nL (stl2 ls i v) := by
  refine ⟨h'.1, h'.2.1, (stl2_len _ _ _).trans h.2.2.1, fun j w hw hr => ?_⟩
  refine h'.2.2 (j, w) ?_
  rcases stl2_get ls i j v w hw hr with ⟨rfl, rfl⟩ | ⟨h1, h2, h3, h5⟩
  · exact List.mem_cons_self
  · refine List.mem_cons_of_mem _ (List.mem_filter.mpr ⟨lpr_mem.mpr ⟨h3, hr⟩, ?_⟩)
    show (!(j == i) && (!(j == i + 1) && !(j + 1 == i && w.category == 2))) = true
    rw [isL_cat]
    cases hL : isL w with
    | false => simp [h1, h2]
    | true =>
      have h4 : ¬ j + 1 = i := fun e => h5 ⟨e, hL⟩
      simp [h1, h2, h4]
theorem p1_cat {v : Value} (h : isL v = false) : v.category = 1 := by cases v <;> first | rfl | cases h
theorem p2_cat {v : Value} (h : isL v = true) : v.category = 2 := by cases v <;> first | rfl | cases h
/-- at a place of the method's code, with the memory m in the real heap (E says how), the machine comes to Q -/
def WP (p : Program) (l : Launch) (e : Env) (R : Room) (s : State) (mt : MethodId) (args : Array Value) (below : List Frame) (meth : Method) (c : Code) (Q : State → Prop) (E : Mem → Heap → Prop) (n0 s0 nL pc : Nat) (ls st : List Value) (m : Mem) : Prop :=
  ∀ (H : Heap) (locs : List Loc) (la : Array Slot), E m H → va_S (fun q => mB m ≤ q) s.heap H locs → lvs la nL ls → W p l e R s mt args below meth c H locs (mN m - n0) (mS m - s0) Q (F0 mt pc la st)
section SndA
variable {p : Program} {l : Launch} {e : Env} {R : Room} {s : State} {mt : MethodId} {args : Array Value} {below : List Frame} {meth : Method} {c : Code} {Q : State → Prop} {cc : ByteArray} {E : Mem → Heap → Prop} {n0 s0 nL pc pc' : Nat} {ls st ls' st' : List Value} {m m' : Mem} {i : Instr}
set_option maxHeartbeats 2000000 in
theorem gA_ok (hx : p.tables.exec = Jvm.exec) (hb : c.code = cc) (hd : decode cc pc = .ok (i, iln i)) (h : gA i pc ls st m = some (pc', ls', st', m')) (k : WP p l e R s mt args below meth c Q E n0 s0 nL pc' ls' st' m') : WP p l e R s mt args below meth c Q E n0 s0 nL pc ls st m := by
  unfold gA at h
  (try dsimp only at h); split at h
  · cases h; exact fun H locs la hE hS hl => lv_iconst hx hb hd rfl (k H locs la hE hS hl)
  · cases h; exact fun H locs la hE hS hl => lv_bipush hx hb hd rfl (k H locs la hE hS hl)
  · cases h; exact fun H locs la hE hS hl => lv_sipush hx hb hd rfl (k H locs la hE hS hl)
  · cases h; exact fun H locs la hE hS hl => lv_lconst hx hb hd rfl (k H locs la hE hS hl)
  · cases h; exact fun H locs la hE hS hl => lv_null hx hb hd (k H locs la hE hS hl)
  · unfold lI at h; split at h
    next hv => cases h; exact fun H locs la hE hS hl => lv_iload_n hx hb hd rfl (lvs_at hl hv rfl) (k H locs la hE hS hl)
    next => cases h
  · unfold lI at h; split at h
    next hv => cases h; exact fun H locs la hE hS hl => lv_iload hx hb hd (lvs_at hl hv rfl) (k H locs la hE hS hl)
    next => cases h
  · unfold lL at h; split at h
    next hv => cases h; exact fun H locs la hE hS hl => lv_lload_n hx hb hd rfl (lvs_at hl hv rfl) (k H locs la hE hS hl)
    next => cases h
  · unfold lL at h; split at h
    next hv => cases h; exact fun H locs la hE hS hl => lv_lload hx hb hd (lvs_at hl hv rfl) (k H locs la hE hS hl)
    next => cases h
  · unfold lR at h; split at h
    next hv => cases h; exact fun H locs la hE hS hl => lv_aload_n hx hb hd rfl (lvs_at hl hv rfl) (k H locs la hE hS hl)
    next hv => cases h; exact fun H locs la hE hS hl => lv_aload_nN hx hb hd rfl (lvs_at hl hv rfl) (k H locs la hE hS hl)
    next => cases h
  · unfold lR at h; split at h
    next hv => cases h; exact fun H locs la hE hS hl => lv_aload hx hb hd (lvs_at hl hv rfl) (k H locs la hE hS hl)
    next hv => cases h; exact fun H locs la hE hS hl => lv_aloadN hx hb hd (lvs_at hl hv rfl) (k H locs la hE hS hl)
    next => cases h
  · cases h
set_option maxHeartbeats 2000000 in
theorem gB_ok (hx : p.tables.exec = Jvm.exec) (hb : c.code = cc) (hd : decode cc pc = .ok (i, iln i)) (h : gB i pc ls st m = some (pc', ls', st', m')) (k : WP p l e R s mt args below meth c Q E n0 s0 nL pc' ls' st' m') : WP p l e R s mt args below meth c Q E n0 s0 nL pc ls st m := by
  unfold gB at h
  (try dsimp only at h); split at h
  · (try unfold pI at h); (try dsimp only at h); split at h
    next =>
      (try dsimp only at h); split at h
      next hi => cases h; exact fun H locs la hE hS hl => lv_istore_n hx hb hd rfl (lvs_has hl) (by rw [← hl.2.2.1]; exact hi) rfl (fun la' h' => k H locs la' hE hS (lvs_st1 hl h'))
      next => cases h
    next => cases h
  · (try unfold pI at h); (try dsimp only at h); split at h
    next =>
      (try dsimp only at h); split at h
      next hi => cases h; exact fun H locs la hE hS hl => lv_istore hx hb hd (lvs_has hl) (by rw [← hl.2.2.1]; exact hi) rfl (fun la' h' => k H locs la' hE hS (lvs_st1 hl h'))
      next => cases h
    next => cases h
  · (try unfold pL at h); (try dsimp only at h); split at h
    next =>
      (try dsimp only at h); split at h
      next hi => cases h; exact fun H locs la hE hS hl => lv_lstore_n hx hb hd rfl (lvs_has hl) (by rw [← hl.2.2.1]; exact hi) rfl (fun la' h' => k H locs la' hE hS (lvs_st2 hl h'))
      next => cases h
    next => cases h
  · (try unfold pL at h); (try dsimp only at h); split at h
    next =>
      (try dsimp only at h); split at h
      next hi => cases h; exact fun H locs la hE hS hl => lv_lstore hx hb hd (lvs_has hl) (by rw [← hl.2.2.1]; exact hi) rfl (fun la' h' => k H locs la' hE hS (lvs_st2 hl h'))
      next => cases h
    next => cases h
  · unfold pR at h; split at h
    next =>
      (try dsimp only at h); split at h
      next hi => cases h; exact fun H locs la hE hS hl => lv_astore_n hx hb hd rfl (lvs_has hl) (by rw [← hl.2.2.1]; exact hi) rfl (fun la' h' => k H locs la' hE hS (lvs_st1 hl h'))
      next => cases h
    next =>
      (try dsimp only at h); split at h
      next hi => cases h; exact fun H locs la hE hS hl => lv_astore_nN hx hb hd rfl (lvs_has hl) (by rw [← hl.2.2.1]; exact hi) rfl (fun la' h' => k H locs la' hE hS (lvs_st1 hl h'))
      next => cases h
    next => cases h
  · unfold pR at h; split at h
    next =>
      (try dsimp only at h); split at h
      next hi => cases h; exact fun H locs la hE hS hl => lv_astore hx hb hd (lvs_has hl) (by rw [← hl.2.2.1]; exact hi) rfl (fun la' h' => k H locs la' hE hS (lvs_st1 hl h'))
      next => cases h
    next =>
      (try dsimp only at h); split at h
      next hi => cases h; exact fun H locs la hE hS hl => lv_astoreN hx hb hd (lvs_has hl) (by rw [← hl.2.2.1]; exact hi) rfl (fun la' h' => k H locs la' hE hS (lvs_st1 hl h'))
      next => cases h
    next => cases h
  · unfold lI at h; split at h
    next hv =>
      cases h
      intro H locs la hE hS hl
      have hi := (List.getElem?_eq_some_iff.mp hv).1
      obtain ⟨q, hq⟩ := List.getElem?_of_mem (lpr_mem.mpr ⟨hv, rfl⟩)
      exact lv_iinc hx hb hd (lvs_has hl) hq rfl (by rw [← hl.2.2.1]; exact hi) rfl (fun la' h' => k H locs la' hE hS (lvs_st1 hl h'))
    next => cases h
  · unfold p1 at h; split at h
    next v r =>
      cases hv : isL v with
      | true => rw [hv] at h; cases h
      | false => rw [hv] at h; cases h; exact fun H locs la hE hS hl => lv_dup hx hb hd (p1_cat hv) (k H locs la hE hS hl)
    next => cases h
  · unfold p1 at h; split at h
    next v r =>
      cases hv : isL v with
      | true => rw [hv] at h; cases h
      | false => rw [hv] at h; cases h; exact fun H locs la hE hS hl => lv_pop hx hb hd (p1_cat hv) (k H locs la hE hS hl)
    next => cases h
  · unfold p1 at h; split at h
    next v r =>
      cases hv : isL v with
      | true => rw [hv] at h; cases h
      | false =>
        rw [hv] at h
        simp only [cond_false] at h
        (try dsimp only at h); split at h
        next w r2 =>
          cases hw : isL w with
          | true => rw [hw] at h; cases h
          | false => rw [hw] at h; cases h; exact fun H locs la hE hS hl => lv_dup_x1 hx hb hd (p1_cat hv) (p1_cat hw) (k H locs la hE hS hl)
        next => cases h
    next => cases h
  · split at h
    next v w r =>
      cases hv : isL v with
      | true => rw [hv] at h; cases h; exact fun H locs la hE hS hl => lv_dup2_2 hx hb hd (p2_cat hv) (k H locs la hE hS hl)
      | false =>
        rw [hv] at h
        simp only [cond_false] at h
        cases hw : isL w with
        | true => rw [hw] at h; cases h
        | false => rw [hw] at h; cases h; exact fun H locs la hE hS hl => lv_dup2_11 hx hb hd (p1_cat hv) (p1_cat hw) (k H locs la hE hS hl)
    next v =>
      cases hv : isL v with
      | true => rw [hv] at h; cases h; exact fun H locs la hE hS hl => lv_dup2_2 hx hb hd (p2_cat hv) (k H locs la hE hS hl)
      | false => rw [hv] at h; cases h
    next => cases h
  · cases h
set_option maxHeartbeats 2000000 in
theorem gC_ok (hx : p.tables.exec = Jvm.exec) (hb : c.code = cc) (hd : decode cc pc = .ok (i, iln i)) (h : gC i pc ls st m = some (pc', ls', st', m')) (k : WP p l e R s mt args below meth c Q E n0 s0 nL pc' ls' st' m') : WP p l e R s mt args below meth c Q E n0 s0 nL pc ls st m := by
  unfold gC at h
  (try dsimp only at h); split at h
  · (try unfold pI at h); (try dsimp only at h); split at h
    next =>
      (try unfold pI at h); (try dsimp only at h); split at h
      next =>
        cases h; exact fun H locs la hE hS hl => lv_iadd hx hb hd (k H locs la hE hS hl)
      next => cases h

    next => cases h
  · (try unfold pI at h); (try dsimp only at h); split at h
    next =>
      (try unfold pI at h); (try dsimp only at h); split at h
      next =>
        cases h; exact fun H locs la hE hS hl => lv_isub hx hb hd (k H locs la hE hS hl)
      next => cases h

    next => cases h
  · (try unfold pI at h); (try dsimp only at h); split at h
    next =>
      (try unfold pI at h); (try dsimp only at h); split at h
      next =>
        cases h; exact fun H locs la hE hS hl => lv_imul hx hb hd (k H locs la hE hS hl)
      next => cases h

    next => cases h
  · (try unfold pI at h); (try dsimp only at h); split at h
    next =>
      (try unfold pI at h); (try dsimp only at h); split at h
      next =>
        cases h; exact fun H locs la hE hS hl => lv_iand hx hb hd (k H locs la hE hS hl)
      next => cases h

    next => cases h
  · (try unfold pI at h); (try dsimp only at h); split at h
    next =>
      (try unfold pI at h); (try dsimp only at h); split at h
      next =>
        cases h; exact fun H locs la hE hS hl => lv_ior hx hb hd (k H locs la hE hS hl)
      next => cases h

    next => cases h
  · (try unfold pI at h); (try dsimp only at h); split at h
    next =>
      (try unfold pI at h); (try dsimp only at h); split at h
      next =>
        cases h; exact fun H locs la hE hS hl => lv_ixor hx hb hd (k H locs la hE hS hl)
      next => cases h

    next => cases h
  · (try unfold pI at h); (try dsimp only at h); split at h
    next =>
      (try unfold pI at h); (try dsimp only at h); split at h
      next =>
        (try dsimp only at h); split at h
        next => cases h
        next hne => cases h; exact fun H locs la hE hS hl => lv_idiv hx hb hd hne (k H locs la hE hS hl)
      next => cases h

    next => cases h
  · (try unfold pI at h); (try dsimp only at h); split at h
    next =>
      (try unfold pI at h); (try dsimp only at h); split at h
      next =>
        (try dsimp only at h); split at h
        next => cases h
        next hne => cases h; exact fun H locs la hE hS hl => lv_irem hx hb hd hne (k H locs la hE hS hl)
      next => cases h

    next => cases h
  · (try unfold pI at h); (try dsimp only at h); split at h
    next =>
      (try unfold pI at h); (try dsimp only at h); split at h
      next =>
        cases h; exact fun H locs la hE hS hl => lv_ishl hx hb hd (k H locs la hE hS hl)
      next => cases h

    next => cases h
  · (try unfold pI at h); (try dsimp only at h); split at h
    next =>
      (try unfold pI at h); (try dsimp only at h); split at h
      next =>
        cases h; exact fun H locs la hE hS hl => lv_ishr hx hb hd (k H locs la hE hS hl)
      next => cases h

    next => cases h
  · (try unfold pI at h); (try dsimp only at h); split at h
    next =>
      (try unfold pI at h); (try dsimp only at h); split at h
      next =>
        cases h; exact fun H locs la hE hS hl => lv_iushr hx hb hd rfl (k H locs la hE hS hl)
      next => cases h

    next => cases h
  · (try unfold pI at h); (try dsimp only at h); split at h
    next =>
      cases h; exact fun H locs la hE hS hl => lv_ineg hx hb hd (k H locs la hE hS hl)
    next => cases h
  · (try unfold pI at h); (try dsimp only at h); split at h
    next =>
      cases h; exact fun H locs la hE hS hl => lv_i2l hx hb hd rfl (k H locs la hE hS hl)
    next => cases h
  · (try unfold pI at h); (try dsimp only at h); split at h
    next =>
      cases h; exact fun H locs la hE hS hl => lv_i2b hx hb hd rfl (k H locs la hE hS hl)
    next => cases h
  · (try unfold pI at h); (try dsimp only at h); split at h
    next =>
      cases h; exact fun H locs la hE hS hl => lv_i2c hx hb hd rfl (k H locs la hE hS hl)
    next => cases h
  · cases h
set_option maxHeartbeats 2000000 in
theorem gD_ok (hx : p.tables.exec = Jvm.exec) (hb : c.code = cc) (hd : decode cc pc = .ok (i, iln i)) (h : gD i pc ls st m = some (pc', ls', st', m')) (k : WP p l e R s mt args below meth c Q E n0 s0 nL pc' ls' st' m') : WP p l e R s mt args below meth c Q E n0 s0 nL pc ls st m := by
  unfold gD at h
  (try dsimp only at h); split at h
  · (try unfold pL at h); (try dsimp only at h); split at h
    next =>
      (try unfold pL at h); (try dsimp only at h); split at h
      next =>
        cases h; exact fun H locs la hE hS hl => lv_ladd hx hb hd (k H locs la hE hS hl)
      next => cases h

    next => cases h
  · (try unfold pL at h); (try dsimp only at h); split at h
    next =>
      (try unfold pL at h); (try dsimp only at h); split at h
      next =>
        cases h; exact fun H locs la hE hS hl => lv_lsub hx hb hd (k H locs la hE hS hl)
      next => cases h

    next => cases h
  · (try unfold pL at h); (try dsimp only at h); split at h
    next =>
      (try unfold pL at h); (try dsimp only at h); split at h
      next =>
        cases h; exact fun H locs la hE hS hl => lv_lmul hx hb hd (k H locs la hE hS hl)
      next => cases h

    next => cases h
  · (try unfold pL at h); (try dsimp only at h); split at h
    next =>
      (try unfold pL at h); (try dsimp only at h); split at h
      next =>
        cases h; exact fun H locs la hE hS hl => lv_lor hx hb hd (k H locs la hE hS hl)
      next => cases h

    next => cases h
  · (try unfold pL at h); (try dsimp only at h); split at h
    next =>
      (try unfold pL at h); (try dsimp only at h); split at h
      next =>
        (try dsimp only at h); split at h
        next => cases h
        next hne => cases h; exact fun H locs la hE hS hl => lv_ldiv hx hb hd hne (k H locs la hE hS hl)
      next => cases h

    next => cases h
  · (try unfold pL at h); (try dsimp only at h); split at h
    next =>
      (try unfold pL at h); (try dsimp only at h); split at h
      next =>
        (try dsimp only at h); split at h
        next => cases h
        next hne => cases h; exact fun H locs la hE hS hl => lv_lrem hx hb hd hne (k H locs la hE hS hl)
      next => cases h

    next => cases h
  · (try unfold pL at h); (try dsimp only at h); split at h
    next =>
      cases h; exact fun H locs la hE hS hl => lv_lneg hx hb hd (k H locs la hE hS hl)
    next => cases h
  · (try unfold pI at h); (try dsimp only at h); split at h
    next =>
      (try unfold pL at h); (try dsimp only at h); split at h
      next =>
        cases h; exact fun H locs la hE hS hl => lv_lshl hx hb hd rfl (k H locs la hE hS hl)
      next => cases h

    next => cases h
  · (try unfold pI at h); (try dsimp only at h); split at h
    next =>
      (try unfold pL at h); (try dsimp only at h); split at h
      next =>
        cases h; exact fun H locs la hE hS hl => lv_lshr hx hb hd rfl (k H locs la hE hS hl)
      next => cases h

    next => cases h
  · (try unfold pL at h); (try dsimp only at h); split at h
    next =>
      cases h; exact fun H locs la hE hS hl => lv_l2i hx hb hd rfl (k H locs la hE hS hl)
    next => cases h
  · (try unfold pL at h); (try dsimp only at h); split at h
    next =>
      (try unfold pL at h); (try dsimp only at h); split at h
      next =>
        cases h; exact fun H locs la hE hS hl => W.lcmp hx hb hd (k H locs la hE hS hl)
      next => cases h

    next => cases h
  · cases h
theorem br_ok {cnd : Prop} [Decidable cnd] {off : Int} {r : List Value} (h : br cnd pc off ls r m = some (pc', ls', st', m')) (k : WP p l e R s mt args below meth c Q E n0 s0 nL pc' ls' st' m')
    (row : ∀ (H : Heap) (locs : List Loc) (la : Array Slot) (t : Nat), (pc : Int) + off = (t : Int) → (cnd → W p l e R s mt args below meth c H locs (mN m - n0) (mS m - s0) Q (F0 mt t la r)) → (¬ cnd → W p l e R s mt args below meth c H locs (mN m - n0) (mS m - s0) Q (F0 mt (pc + 3) la r)) → W p l e R s mt args below meth c H locs (mN m - n0) (mS m - s0) Q (F0 mt pc la st)) : WP p l e R s mt args below meth c Q E n0 s0 nL pc ls st m := by
  unfold br gt0 at h
  (try dsimp only at h); split at h
  next h0 =>
    have ht : (pc : Int) + off = (((pc : Int) + off).toNat : Int) := by omega
    (try dsimp only at h); split at h
    next hc => cases h; exact fun H locs la hE hS hl => row H locs la _ ht (fun _ => k H locs la hE hS hl) (fun n => absurd hc n)
    next hc => cases h; exact fun H locs la hE hS hl => row H locs la _ ht (fun y => absurd y hc) (fun _ => k H locs la hE hS hl)
  next => cases h
set_option maxHeartbeats 2000000 in
theorem gE_ok (hx : p.tables.exec = Jvm.exec) (hb : c.code = cc) (hd : decode cc pc = .ok (i, iln i)) (h : gE i pc ls st m = some (pc', ls', st', m')) (k : WP p l e R s mt args below meth c Q E n0 s0 nL pc' ls' st' m') : WP p l e R s mt args below meth c Q E n0 s0 nL pc ls st m := by
  unfold gE at h
  (try dsimp only at h); split at h
  · (try unfold pI at h); (try dsimp only at h); split at h
    next =>
      exact br_ok h k (fun H locs la t ht kt kf => lv_if_eq hx hb hd ht kt kf)
    next => cases h
  · (try unfold pI at h); (try dsimp only at h); split at h
    next =>
      exact br_ok h k (fun H locs la t ht kt kf => lv_if_ne hx hb hd ht kt (fun q => kf (fun n => n q)))
    next => cases h
  · (try unfold pI at h); (try dsimp only at h); split at h
    next =>
      exact br_ok h k (fun H locs la t ht kt kf => lv_if_lt hx hb hd ht kt kf)
    next => cases h
  · (try unfold pI at h); (try dsimp only at h); split at h
    next =>
      exact br_ok h k (fun H locs la t ht kt kf => lv_if_ge hx hb hd ht kt kf)
    next => cases h
  · (try unfold pI at h); (try dsimp only at h); split at h
    next =>
      exact br_ok h k (fun H locs la t ht kt kf => lv_if_gt hx hb hd ht kt kf)
    next => cases h
  · (try unfold pI at h); (try dsimp only at h); split at h
    next =>
      exact br_ok h k (fun H locs la t ht kt kf => lv_if_le hx hb hd ht kt kf)
    next => cases h
  · (try unfold pI at h); (try dsimp only at h); split at h
    next =>
      (try unfold pI at h); (try dsimp only at h); split at h
      next =>
        exact br_ok h k (fun H locs la t ht kt kf => lv_icmp_eq hx hb hd ht kt kf)
      next => cases h

    next => cases h
  · (try unfold pI at h); (try dsimp only at h); split at h
    next =>
      (try unfold pI at h); (try dsimp only at h); split at h
      next =>
        exact br_ok h k (fun H locs la t ht kt kf => lv_icmp_ne hx hb hd ht kt (fun q => kf (fun n => n q)))
      next => cases h

    next => cases h
  · (try unfold pI at h); (try dsimp only at h); split at h
    next =>
      (try unfold pI at h); (try dsimp only at h); split at h
      next =>
        exact br_ok h k (fun H locs la t ht kt kf => lv_icmp_lt hx hb hd ht kt kf)
      next => cases h

    next => cases h
  · (try unfold pI at h); (try dsimp only at h); split at h
    next =>
      (try unfold pI at h); (try dsimp only at h); split at h
      next =>
        exact br_ok h k (fun H locs la t ht kt kf => lv_icmp_ge hx hb hd ht kt kf)
      next => cases h

    next => cases h
  · (try unfold pI at h); (try dsimp only at h); split at h
    next =>
      (try unfold pI at h); (try dsimp only at h); split at h
      next =>
        exact br_ok h k (fun H locs la t ht kt kf => lv_icmp_gt hx hb hd ht kt kf)
      next => cases h

    next => cases h
  · (try unfold pI at h); (try dsimp only at h); split at h
    next =>
      (try unfold pI at h); (try dsimp only at h); split at h
      next =>
        exact br_ok h k (fun H locs la t ht kt kf => lv_icmp_le hx hb hd ht kt kf)
      next => cases h

    next => cases h
  · unfold pR at h; split at h
    next =>
      (try dsimp only at h); split at h
      next => exact br_ok h k (fun H locs la t ht kt kf => lv_acmp_eq (rx := some _) (ry := some _) hx hb hd ht kt kf)
      next => exact br_ok h k (fun H locs la t ht kt kf => lv_acmp_eq (rx := none) (ry := some _) hx hb hd ht kt kf)
      next => cases h
    next =>
      (try dsimp only at h); split at h
      next => exact br_ok h k (fun H locs la t ht kt kf => lv_acmp_eq (rx := some _) (ry := none) hx hb hd ht kt kf)
      next => exact br_ok h k (fun H locs la t ht kt kf => lv_acmp_eq (rx := none) (ry := none) hx hb hd ht kt kf)
      next => cases h
    next => cases h
  · unfold pR at h; split at h
    next =>
      (try dsimp only at h); split at h
      next => exact br_ok h k (fun H locs la t ht kt kf => lv_acmp_ne (rx := some _) (ry := some _) hx hb hd ht kt (fun q => kf (fun n => n q)))
      next => exact br_ok h k (fun H locs la t ht kt kf => lv_acmp_ne (rx := none) (ry := some _) hx hb hd ht kt (fun q => kf (fun n => n q)))
      next => cases h
    next =>
      (try dsimp only at h); split at h
      next => exact br_ok h k (fun H locs la t ht kt kf => lv_acmp_ne (rx := some _) (ry := none) hx hb hd ht kt (fun q => kf (fun n => n q)))
      next => exact br_ok h k (fun H locs la t ht kt kf => lv_acmp_ne (rx := none) (ry := none) hx hb hd ht kt (fun q => kf (fun n => n q)))
      next => cases h
    next => cases h
  · unfold pR at h; split at h
    next => exact br_ok h k (fun H locs la t ht kt kf => lv_ifnull hx hb hd (kf (fun q => nomatch q)))
    next => exact br_ok h k (fun H locs la t ht kt kf => lv_ifnullN hx hb hd ht (kt rfl))
    next => cases h
  · unfold pR at h; split at h
    next => exact br_ok h k (fun H locs la t ht kt kf => lv_ifnonnull hx hb hd ht (kt (fun q => nomatch q)))
    next => exact br_ok h k (fun H locs la t ht kt kf => lv_ifnonnullN hx hb hd (kf (fun q => q rfl)))
    next => cases h
  · unfold gt0 at h; split at h
    next h0 => cases h; exact fun H locs la hE hS hl => lv_goto hx hb hd (by omega) (k H locs la hE hS hl)
    next => cases h
  · cases h
end SndA
end
section
/-! PART 05: how the flat memory lies in the real heap -/
set_option maxRecDepth 100000
def cR : Nat → String := fun c => match c with
  | 0 => RX0
  | 1 => RX1
  | 2 => RX2
  | 3 => RX3
  | 4 => RX4
  | 5 => RX5
  | 6 => RX6
  | 7 => RX7
  | 8 => RX8
  | 9 => RX9
  | 10 => RX10
  | 11 => RX11
  | 12 => RX12
  | 13 => RX13
  | 14 => RX14
  | 15 => RX15
  | 16 => RX16
  | 17 => RJ3
  | _ => RJ15
def cT : Nat → u_T := fun c => match c with
  | 0 => TX0
  | 1 => TX1
  | 2 => TX2
  | 3 => TX3
  | 4 => TX4
  | 5 => TX5
  | 6 => TX6
  | 7 => TX7
  | 8 => TX8
  | 9 => TX9
  | 10 => TX10
  | 11 => TX11
  | 12 => TX12
  | 13 => TX13
  | 14 => TX14
  | 15 => TX15
  | 16 => TX16
  | 17 => TJ3
  | _ => TJ15
def cTy : Nat → Nat → FieldType := fun c => match c with
  | 0 => tyX0
  | 1 => tyX1
  | 2 => tyX2
  | 3 => tyX3
  | 4 => tyX4
  | 5 => tyX5
  | 6 => tyX6
  | 7 => tyX7
  | 8 => tyX8
  | 9 => tyX9
  | 10 => tyX10
  | 11 => tyX11
  | 12 => tyX12
  | 13 => tyX13
  | 14 => tyX14
  | 15 => tyX15
  | 16 => tyX16
  | 17 => tyJ3
  | _ => tyJ15
def cN : Nat → Nat := fun c => match c with
  | 0 => 11
  | 1 => 11
  | 2 => 28
  | 3 => 8
  | 4 => 3
  | 5 => 2
  | 6 => 3
  | 7 => 1
  | 8 => 1
  | 9 => 3
  | 10 => 2
  | 11 => 3
  | 12 => 1
  | 13 => 1
  | 14 => 1
  | 15 => 1
  | 16 => 4
  | 17 => 3
  | _ => 1
theorem cls_in : ∀ c, c < 18 → ∀ w ∈ u_ws (cR c) (cT c) (cN c), w ∈ lw_all
  | 0, _ => in_X0
  | 1, _ => in_X1
  | 2, _ => in_X2
  | 3, _ => in_X3
  | 4, _ => in_X4
  | 5, _ => in_X5
  | 6, _ => in_X6
  | 7, _ => in_X7
  | 8, _ => in_X8
  | 9, _ => in_X9
  | 10, _ => in_X10
  | 11, _ => in_X11
  | 12, _ => in_X12
  | 13, _ => in_X13
  | 14, _ => in_X14
  | 15, _ => in_X15
  | 16, _ => in_X16
  | 17, _ => in_J3
  | _ + 18, h => absurd h (by omega)
theorem cls_ty : ∀ c, c < 18 → ∀ k, k < cN c → parseFieldDescriptor (cT c k).2.2.1 = some (cTy c k)
  | 0, _ => tyX0_ok
  | 1, _ => tyX1_ok
  | 2, _ => tyX2_ok
  | 3, _ => tyX3_ok
  | 4, _ => tyX4_ok
  | 5, _ => tyX5_ok
  | 6, _ => tyX6_ok
  | 7, _ => tyX7_ok
  | 8, _ => tyX8_ok
  | 9, _ => tyX9_ok
  | 10, _ => tyX10_ok
  | 11, _ => tyX11_ok
  | 12, _ => tyX12_ok
  | 13, _ => tyX13_ok
  | 14, _ => tyX14_ok
  | 15, _ => tyX15_ok
  | 16, _ => tyX16_ok
  | 17, _ => tyJ3_ok
  | _ + 18, h => absurd h (by omega)
theorem cls_nm : ∀ c, c < 18 → ∀ a, a < cN c → ∀ b, b < cN c → a ≠ b → (cT c a).2.1 ≠ (cT c b).2.1
  | 0, _ => nmX0
  | 1, _ => nmX1
  | 2, _ => nmX2
  | 3, _ => nmX3
  | 4, _ => nmX4
  | 5, _ => nmX5
  | 6, _ => nmX6
  | 7, _ => nmX7
  | 8, _ => nmX8
  | 9, _ => nmX9
  | 10, _ => nmX10
  | 11, _ => nmX11
  | 12, _ => nmX12
  | 13, _ => nmX13
  | 14, _ => nmX14
  | 15, _ => nmX15
  | 16, _ => nmX16
  | 17, _ => nmJ3
  | _ + 18, h => absurd h (by omega)
/-- 0: a whole number, 1: a long, 2: a reference -/
def tc (t : FieldType) : Nat := match t with
  | .long => 1
  | .object _ => 2
  | .array _ => 2
  | _ => 0
def ft (c k : Nat) : Nat := tc (cTy c k)
def fv (t : Nat) (m : Mem) (a k : Nat) : Value := match t with
  | 0 => .int (mI m a k)
  | 1 => .long (mL m a k)
  | _ => va_rf (mP m a k)
/-- kinds of arrays: 1 ints, 2 bytes, 3 booleans, 4 longs, 5 int arrays, 6 Texts, 7 Sums, 8 Objects, 9 Strings; objects of class c: 10 + c -/
def aty (κ : Nat) : FieldType := match κ with
  | 1 => .int
  | 2 => .byte
  | 3 => .boolean
  | 4 => .long
  | 5 => .array .int
  | 6 => .object "DawnPerquisite$Text"
  | 7 => .object "DawnPerquisite$Sum"
  | 8 => .object "java/lang/Object"
  | _ => .object "java/lang/String"
def aq (κ : Nat) : Nat := tc (aty κ)
def av (m : Mem) (a : Nat) : Nat → Value := fun j => fv (aq (mK m a).1) m a j
def ov (m : Mem) (a : Nat) : Nat → Value := fun k => fv (ft ((mK m a).1 - 10) k) m a k
def Cel (D : va_G) (dA : Nat → ClassId) (m : Mem) (a : Nat) (H : Heap) : Prop :=
  ((mK m a).1 < 10 → H[a]? = some (arrV (dA (mK m a).1) (mK m a).2 (av m a))) ∧
  (10 ≤ (mK m a).1 → t_OB a (D.1 ((mK m a).1 - 10)) (cN ((mK m a).1 - 10)) (D.2 ((mK m a).1 - 10)) H (ov m a))
def Rw (D : va_G) (dA : Nat → ClassId) (m : Mem) (H : Heap) : Prop :=
  H.size = mN m ∧ mB m ≤ mN m ∧ (∀ a, mN m ≤ a → (mK m a).1 = 0) ∧ ∀ a, mB m ≤ a → a < mN m → 1 ≤ (mK m a).1 ∧ (mK m a).1 < 28 ∧ Cel D dA m a H
abbrev hi (m : Mem) : Nat → Prop := fun q => mB m ≤ q
def Ro (m : Mem) (U : State) (H : Heap) : Prop := ∀ a, a < mB m → 1 ≤ (mK m a).1 →
  ((mK m a).1 < 10 → va_T (aty (mK m a).1) a (mK m a).2 (av m a) (hi m) U H) ∧
  (10 ≤ (mK m a).1 → (mK m a).1 < 29 → va_O (cR ((mK m a).1 - 10)) a (hi m) U H ∧ ∀ k, k < cN ((mK m a).1 - 10) → va_OF (cT ((mK m a).1 - 10) k).1 (cT ((mK m a).1 - 10) k).2.1 (cT ((mK m a).1 - 10) k).2.2.1 (ov m a k) a (hi m) U H)
/-- what is known of the classes -/
def KN (D : va_G) (dA : Nat → ClassId) (s : State) : Prop :=
  (∀ c, c < 18 → u_Kn s (cR c) (cT c) (cN c) (D.1 c) (D.2 c)) ∧ ∀ κ, 1 ≤ κ → κ < 10 → ArrOfT s (dA κ) (aty κ) ∧ va_RA s (dA κ) (aty κ)
theorem KN.moved {D : va_G} {dA : Nat → ClassId} {u U : State} (hvm : u.vm.Alike U.vm) (h : KN D dA u) : KN D dA U :=
  ⟨fun c hc => u_Kn_moved hvm (h.1 c hc), fun κ h1 h2 => ⟨arrOfT_moved hvm (h.2 κ h1 h2).1, (h.2 κ h1 h2).2.moved hvm⟩⟩
/-- the statics, by number -/
def stc (j : Nat) : String × String × String := match j with
  | 0 => ("DawnPerquisite", "NOTHING", "LDawnPerquisite$Text;")
  | 1 => ("DawnPerquisite$Tokens", "WORDS", "[Ljava/lang/String;")
  | 2 => ("DawnPerquisite$Tokens", "NAMED", "[I")
  | _ => ("java/util/ArrayList", "DEFAULTCAPACITY_EMPTY_ELEMENTDATA", "[Ljava/lang/Object;")
def Sta (m : Mem) (U : State) (H : Heap) : Prop := ∀ j, j < 4 → va_Z (stc j).1 (stc j).2.1 (stc j).2.2 (mT m j) (hi m) U H
def Rep (D : va_G) (dA : Nat → ClassId) (m : Mem) (U : State) (H : Heap) : Prop := Rw D dA m H ∧ Ro m U H ∧ Sta m U H
theorem Ro.kept {m : Mem} {U : State} {H H1 : Heap} (h : Ro m U H) (hq : ∀ a : Nat, a < H.size → ¬ hi m a → H1[a]? = H[a]?) : Ro m U H1 := fun a ha hk =>
  ⟨fun h1 => ((h a ha hk).1 h1).kept hq, fun h1 h2 => ⟨((h a ha hk).2 h1 h2).1.kept hq, fun k hk2 => (((h a ha hk).2 h1 h2).2 k hk2).kept hq⟩⟩
theorem Ro.moved {m : Mem} {u U : State} {H : Heap} (hvm : u.vm.Alike U.vm) (h : Ro m u H) : Ro m U H := fun a ha hk =>
  ⟨fun h1 => ((h a ha hk).1 h1).moved hvm, fun h1 h2 => ⟨((h a ha hk).2 h1 h2).1.moved hvm, fun k hk2 => (((h a ha hk).2 h1 h2).2 k hk2).moved hvm⟩⟩
theorem Sta.kept {m : Mem} {U : State} {H H1 : Heap} (h : Sta m U H) (hq : ∀ a : Nat, a < H.size → ¬ hi m a → H1[a]? = H[a]?) : Sta m U H1 := fun j hj => (h j hj).kept hq
theorem Sta.moved {m : Mem} {u U : State} {H : Heap} (hvm : u.vm.Alike U.vm) (h : Sta m u H) : Sta m U H := fun j hj => (h j hj).moved hvm
theorem Rep.moved {D : va_G} {dA : Nat → ClassId} {m : Mem} {u U : State} {H : Heap} (hvm : u.vm.Alike U.vm) (h : Rep D dA m u H) : Rep D dA m U H := ⟨h.1, h.2.1.moved hvm, h.2.2.moved hvm⟩
/-- the old part of the memory is the same -/
def olds (m m' : Mem) : Prop := mB m' = mB m ∧ mT m' = mT m ∧ ∀ a, a < mB m → mK m' a = mK m a ∧ mI m' a = mI m a ∧ mL m' a = mL m a ∧ mP m' a = mP m a
theorem fv_eq {m m' : Mem} {a : Nat} (hI : mI m' a = mI m a) (hL : mL m' a = mL m a) (hP : mP m' a = mP m a) (t k : Nat) : fv t m' a k = fv t m a k := by
  unfold fv; rw [hI, hL, hP]
theorem Ro.old {m m' : Mem} {U : State} {H : Heap} (h : Ro m U H) (ho : olds m m') : Ro m' U H := by
  obtain ⟨h1, h2, h3⟩ := ho
  intro a ha hk
  rw [h1] at ha
  obtain ⟨e1, e2, e3, e4⟩ := h3 a ha
  have ea : av m' a = av m a := by unfold av; rw [e1]; funext j; exact fv_eq e2 e3 e4 _ _
  have eo : ov m' a = ov m a := by unfold ov; rw [e1]; funext j; exact fv_eq e2 e3 e4 _ _
  have eh : hi m' = hi m := by unfold hi; rw [h1]
  rw [ea, eo, eh, e1]
  rw [e1] at hk
  exact h a ha hk
theorem Sta.old {m m' : Mem} {U : State} {H : Heap} (h : Sta m U H) (ho : olds m m') : Sta m' U H := by
  intro j hj
  rw [ho.2.1, show hi m' = hi m from by unfold hi; rw [ho.1]]
  exact h j hj
/-- one cell is written -/
theorem Rep.put {D : va_G} {dA : Nat → ClassId} {m m' : Mem} {U : State} {H H1 : Heap} {a : Nat} (h : Rep D dA m U H) (ha : mB m ≤ a) (hsz : H1.size = H.size) (hq : ∀ q : Nat, q ≠ a → H1[q]? = H[q]?)
    (h1 : m'.1 = m.1) (h2 : mT m' = mT m) (h3 : mK m' = mK m) (h4 : ∀ b, b ≠ a → mI m' b = mI m b ∧ mL m' b = mL m b ∧ mP m' b = mP m b) (hc : a < mN m → Cel D dA m' a H1) : Rep D dA m' U H1 := by
  obtain ⟨⟨w1, w2, w3, w4⟩, hr, hs⟩ := h
  have eB : mB m' = mB m := by unfold mB; rw [h1]
  have eN : mN m' = mN m := by unfold mN; rw [h1]
  have ho : olds m m' := ⟨eB, h2, fun b hb => ⟨by rw [h3], h4 b (by omega)⟩⟩
  have hkeep : ∀ q : Nat, q < H.size → ¬ hi m q → H1[q]? = H[q]? := fun q _ hn => hq q (fun e => hn (by rw [e]; exact ha))
  refine ⟨⟨by rw [hsz, w1, eN], by rw [eB, eN]; exact w2, by rw [eN, h3]; exact w3, fun b hb hbn => ?_⟩, (hr.kept hkeep).old ho, (hs.kept hkeep).old ho⟩
  rw [eB] at hb
  rw [eN] at hbn
  obtain ⟨k1, k2, k3⟩ := w4 b hb hbn
  rw [h3]
  refine ⟨k1, k2, ?_⟩
  by_cases e : b = a
  · subst e
    exact hc hbn
  · obtain ⟨e2, e3, e4⟩ := h4 b e
    have ea : av m' b = av m b := by unfold av; rw [h3]; funext j; exact fv_eq e2 e3 e4 _ _
    have eo : ov m' b = ov m b := by unfold ov; rw [h3]; funext j; exact fv_eq e2 e3 e4 _ _
    unfold Cel
    rw [h3, ea, eo]
    exact ⟨fun z => by rw [hq b e]; exact k3.1 z, fun z => (k3.2 z).kept (hq b e)⟩
/-- a cell is made -/
theorem Rep.new {D : va_G} {dA : Nat → ClassId} {m : Mem} {U : State} {H H1 : Heap} {κ n : Nat} (h : Rep D dA m U H) (hsz : H1.size = H.size + 1) (hq : ∀ q : Nat, q < H.size → H1[q]? = H[q]?) (hk : 1 ≤ κ) (hk2 : κ < 28) (hc : Cel D dA (mNew m κ n) (mN m) H1) : Rep D dA (mNew m κ n) U H1 := by
  obtain ⟨⟨w1, w2, w3, w4⟩, hr, hs⟩ := h
  have ho : olds m (mNew m κ n) := ⟨rfl, rfl, fun b hb => by
    have hne : b ≠ mN m := by omega
    rw [mK_new, mI_new, mL_new, mP_new, if_neg hne, if_neg hne, if_neg hne, if_neg hne]
    exact ⟨rfl, rfl, rfl, rfl⟩⟩
  refine ⟨⟨by rw [hsz, w1, mN_new], by rw [mB_new, mN_new]; omega, fun b hb => ?_, fun b hb hbn => ?_⟩, (hr.kept (fun q h1 _ => hq q h1)).old ho, (hs.kept (fun q h1 _ => hq q h1)).old ho⟩
  · rw [mN_new] at hb
    rw [mK_new, if_neg (by omega)]
    exact w3 b (by omega)
  · rw [mN_new] at hbn
    by_cases e : b = mN m
    · subst e
      refine ⟨?_, ?_, hc⟩
      · rw [mK_new, if_pos rfl]; exact hk
      · rw [mK_new, if_pos rfl]; exact hk2
    · obtain ⟨k1, k2, k3⟩ := w4 b hb (by omega)
      have eK : mK (mNew m κ n) b = mK m b := by rw [mK_new, if_neg e]
      have e2 : mI (mNew m κ n) b = mI m b := by rw [mI_new, if_neg e]
      have e3 : mL (mNew m κ n) b = mL m b := by rw [mL_new, if_neg e]
      have e4 : mP (mNew m κ n) b = mP m b := by rw [mP_new, if_neg e]
      have ea : av (mNew m κ n) b = av m b := by unfold av; rw [eK]; funext j; exact fv_eq e2 e3 e4 _ _
      have eo : ov (mNew m κ n) b = ov m b := by unfold ov; rw [eK]; funext j; exact fv_eq e2 e3 e4 _ _
      unfold Cel
      rw [eK, ea, eo]
      have hqb := hq b (by rw [w1]; omega)
      exact ⟨k1, k2, fun z => by rw [hqb]; exact k3.1 z, fun z => (k3.2 z).kept hqb⟩
theorem Rw.lt {D : va_G} {dA : Nat → ClassId} {m : Mem} {H : Heap} (h : Rw D dA m H) {a : Nat} (hk : 1 ≤ (mK m a).1) : a < mN m := by
  rcases Nat.lt_or_ge a (mN m) with q | q
  · exact q
  · have := h.2.2.1 a q; omega
/-- an array, wherever it lies -/
theorem Rep.arr {D : va_G} {dA : Nat → ClassId} {m : Mem} {s : State} {H : Heap} (hK : KN D dA s) (h : Rep D dA m s H) {a : Nat} (hk : 1 ≤ (mK m a).1) (hk2 : (mK m a).1 < 10) :
    ∃ cell : Cell, H[a]? = some cell ∧ s.isArrayOf cell (aty (mK m a).1) ∧ cell.vm ≠ .unknown ∧ (mK m a).2 ≤ cell.slots.size ∧ cell.slots.size.toInt32 = Int32.ofNat (mK m a).2 ∧ ∀ j : Nat, j < (mK m a).2 → cell.slots[j]? = some (av m a j) := by
  have hlt := h.1.lt hk
  rcases Nat.lt_or_ge a (mB m) with hb | hb
  · obtain ⟨cell, g1, g2, g3, g4, g5, g6, -⟩ := (h.2.1 a hb hk).1 hk2
    exact ⟨cell, g1, g2, g3, g4, g5, g6⟩
  · have hc := (h.1.2.2.2 a hb hlt).2.2.1 hk2
    refine ⟨_, hc, (hK.2 _ hk hk2).1 _ _, (fun q => by cases q), by rw [arrV_size]; exact Nat.le_refl _, by rw [arrV_size]; rfl, fun j hj => arrV_read _ _ hj⟩
/-- an object's field, wherever it lies -/
theorem Rep.obj {D : va_G} {dA : Nat → ClassId} {m : Mem} {s : State} {H : Heap} {args : Array Value} (hts : ∀ w ∈ lw_all, w.before args s = true) (hK : KN D dA s) (h : Rep D dA m s H) {a c k : Nat} (hc : c < 18) (hk : (mK m a).1 = 10 + c) (hkc : k < cN c) :
    ∃ (cell : Cell) (cf : ClassId) (kf : Class) (fi : Nat) (f : Field), H[a]? = some cell ∧ cell.vm ≠ .unknown ∧ s.fieldFound? (cT c k).1 (cT c k).2.1 (cT c k).2.2.1 = some (cf, kf, fi, f) ∧ f.isStatic = false ∧ cell.slots[f.slot]? = some (fv (ft c k) m a k) := by
  have hlt := h.1.lt (a := a) (by omega)
  have eo : ov m a k = fv (ft c k) m a k := by unfold ov; rw [hk, Nat.add_sub_cancel_left]
  rcases Nat.lt_or_ge a (mB m) with hb | hb
  · have h2 := ((h.2.1 a hb (by omega)).2 (by omega) (by omega)).2 k
    rw [hk, Nat.add_sub_cancel_left] at h2
    obtain ⟨cf, kf, fi, f, cell, g1, g2, g3, g4, g5, -⟩ := h2 hkc
    rw [eo] at g5
    exact ⟨cell, cf, kf, fi, f, g3, g4, g1, g2, g5⟩
  · have h2 := (h.1.2.2.2 a hb hlt).2.2.2 (by omega)
    rw [hk, Nat.add_sub_cancel_left] at h2
    obtain ⟨cell, q1, q2, q3, q4⟩ := h2
    obtain ⟨hS, hfc, kC, hkC, hkind⟩ := hK.1 c hc
    obtain ⟨cf, kf, fi, f, hi, hsl⟩ := hS k hkc
    refine ⟨cell, cf, kf, fi, f, q1, by rw [q3]; exact fun z => by cases z, hi, (u_facts hfc hkC (u_lays hts (cls_in c hc) hkc) hi).1, ?_⟩
    rw [hsl, q4 k hkc, eo]
/-- an object, as a receiver -/
theorem Rep.recv {D : va_G} {dA : Nat → ClassId} {m : Mem} {s : State} {H : Heap} (hK : KN D dA s) (h : Rep D dA m s H) {a c : Nat} (hc : c < 18) (hk : (mK m a).1 = 10 + c) : ∃ cell : Cell, H[a]? = some cell ∧ cell.vm.isStatics = false ∧ s.vm.findClass (cR c) = some cell.cls := by
  have hlt := h.1.lt (a := a) (by omega)
  rcases Nat.lt_or_ge a (mB m) with hb | hb
  · have h2 := ((h.2.1 a hb (by omega)).2 (by omega) (by omega)).1
    rw [hk, Nat.add_sub_cancel_left] at h2
    obtain ⟨cell, g1, g2, g3, -⟩ := h2
    exact ⟨cell, g1, g2, g3⟩
  · have h2 := (h.1.2.2.2 a hb hlt).2.2.2 (by omega)
    rw [hk, Nat.add_sub_cancel_left] at h2
    obtain ⟨cell, q1, q2, q3, q4⟩ := h2
    exact ⟨cell, q1, by rw [q3]; rfl, by rw [q2]; exact (hK.1 c hc).2.1⟩
end
section
/-! PART 06: what the pool's places mean -/
set_option maxRecDepth 100000
def cnm : Nat → String := fun c => match c with
  | 0 => "DawnPerquisite"
  | 1 => "DawnPerquisite$State"
  | 2 => "DawnPerquisiteModel"
  | 3 => "DawnPerquisite$Tokens"
  | 4 => "DawnPerquisite$Text"
  | 5 => "DawnPerquisite$Wrong"
  | 6 => "DawnPerquisite$Chain"
  | 7 => "DawnPerquisite$Plain"
  | 8 => "DawnPerquisite$Not"
  | 9 => "DawnPerquisite$Compared"
  | 10 => "DawnPerquisite$All"
  | 11 => "DawnPerquisite$If"
  | 12 => "DawnPerquisite$Name"
  | 13 => "DawnPerquisite$Worth"
  | 14 => "DawnPerquisite$Purse"
  | 15 => "DawnPerquisite$Minus"
  | 16 => "DawnPerquisite$Doing"
  | 17 => "java/util/ArrayList"
  | 18 => "java/util/Arrays"
  | 19 => "java/util/AbstractCollection"
  | 20 => "java/util/AbstractList"
  | 21 => "java/lang/String"
  | 22 => "java/lang/StringLatin1"
  | 23 => "jdk/internal/util/Preconditions"
  | 24 => "java/lang/StringUTF16"
  | 25 => "java/lang/Math"
  | 26 => "java/lang/Throwable"
  | 27 => "java/lang/Exception"
  | 28 => "java/lang/Record"
  | 29 => "jdk/internal/util/ArraysSupport"
  | 30 => "java/util/Objects"
  | 31 => "java/lang/Number"
  | 32 => "java/lang/Integer"
  | 33 => "java/lang/Object"
  | _ => "DawnPerquisiteLaw"
/-- a field by the class of the method and the place in its pool: object's class, number -/
def frl (c : Nat) : List (Nat × Nat × Nat) := match c with
  | 0 => [(21, 0, 0), (25, 0, 1), (28, 0, 2), (32, 0, 4), (36, 0, 5), (39, 0, 6), (43, 0, 7), (46, 0, 8), (49, 0, 9), (54, 0, 10), (61, 1, 0), (76, 1, 2), (79, 1, 3), (85, 1, 4), (88, 1, 5), (91, 1, 6), (98, 0, 3), (105, 1, 10), (120, 5, 0), (121, 5, 1), (154, 4, 0), (173, 1, 1), (289, 4, 2), (312, 1, 9), (393, 1, 7), (411, 1, 8)]
  | 1 => [(9, 1, 0), (15, 1, 1), (18, 1, 2), (21, 1, 3), (24, 1, 4), (27, 1, 5), (30, 1, 6), (33, 1, 7), (38, 1, 8), (41, 1, 9), (46, 1, 10)]
  | 2 => [(7, 2, 0), (13, 2, 1), (16, 2, 2), (19, 2, 3), (22, 2, 5), (26, 2, 6), (29, 2, 15), (32, 2, 20), (35, 2, 21), (39, 2, 22), (43, 2, 23), (47, 2, 24), (50, 2, 25), (53, 2, 26), (56, 2, 27), (88, 2, 4), (95, 2, 7), (101, 2, 8), (104, 2, 9), (110, 2, 10), (117, 2, 11), (142, 2, 12), (145, 2, 13), (148, 2, 14), (151, 2, 16), (161, 2, 17), (180, 2, 18), (234, 2, 19)]
  | 3 => [(9, 3, 0), (15, 3, 1), (19, 3, 2), (22, 3, 3), (25, 3, 4), (43, 3, 5), (77, 3, 6), (83, 3, 7), (86, 4, 0), (90, 4, 1), (97, 4, 2)]
  | 4 => [(9, 4, 0), (18, 4, 2)]
  | 5 => [(7, 5, 0), (13, 5, 1)]
  | 6 => [(12, 6, 1), (18, 6, 2), (21, 6, 0)]
  | 7 => [(7, 7, 0)]
  | 8 => [(7, 8, 0)]
  | 9 => [(7, 9, 0), (13, 9, 1), (17, 9, 2)]
  | 10 => [(7, 10, 0), (13, 10, 1)]
  | 11 => [(7, 11, 0), (13, 11, 1), (17, 11, 2)]
  | 12 => [(7, 12, 0)]
  | 13 => [(9, 13, 0)]
  | 14 => [(9, 14, 0)]
  | 15 => [(7, 15, 0)]
  | 16 => [(7, 16, 0), (13, 16, 1), (16, 16, 2), (19, 16, 3)]
  | 17 => [(9, 17, 1), (48, 17, 2), (63, 17, 0)]
  | 20 => [(7, 17, 0)]
  | _ => []
def fr (c ix : Nat) : Option (Nat × Nat) := ((frl c).find? fun e => e.1 == ix).map fun e => e.2
def nfl : List (String × Nat × String × String × String × String) := [("DawnPerquisite", 61, "DawnPerquisite$State", "n", "[I", "DawnPerquisite"), ("DawnPerquisite", 76, "DawnPerquisite$State", "odds", "[I", "DawnPerquisite"), ("DawnPerquisite", 79, "DawnPerquisite$State", "worth", "[I", "DawnPerquisite"), ("DawnPerquisite", 85, "DawnPerquisite$State", "wants", "[I", "DawnPerquisite"), ("DawnPerquisite", 88, "DawnPerquisite$State", "from", "[I", "DawnPerquisite"), ("DawnPerquisite", 91, "DawnPerquisite$State", "to", "[I", "DawnPerquisite"), ("DawnPerquisite", 105, "DawnPerquisite$State", "text", "[LDawnPerquisite$Text;", "DawnPerquisite"), ("DawnPerquisite", 120, "DawnPerquisite$Wrong", "fault", "I", "DawnPerquisite"), ("DawnPerquisite", 121, "DawnPerquisite$Wrong", "place", "I", "DawnPerquisite"), ("DawnPerquisite", 154, "DawnPerquisite$Text", "law", "[LDawnPerquisite$Sum;", "DawnPerquisite"), ("DawnPerquisite", 173, "DawnPerquisite$State", "row", "[I", "DawnPerquisite"), ("DawnPerquisite", 289, "DawnPerquisite$Text", "doings", "Ljava/util/ArrayList;", "DawnPerquisite"), ("DawnPerquisite", 312, "DawnPerquisite$State", "step", "[[I", "DawnPerquisite"), ("DawnPerquisite", 393, "DawnPerquisite$State", "value", "[I", "DawnPerquisite"), ("DawnPerquisite", 411, "DawnPerquisite$State", "said", "[[I", "DawnPerquisite"), ("DawnPerquisite$Tokens", 86, "DawnPerquisite$Text", "law", "[LDawnPerquisite$Sum;", "DawnPerquisite"), ("DawnPerquisite$Tokens", 90, "DawnPerquisite$Text", "clauses", "I", "DawnPerquisite"), ("DawnPerquisite$Tokens", 97, "DawnPerquisite$Text", "doings", "Ljava/util/ArrayList;", "DawnPerquisite")]
/-- the nest mates' fields that are linked -/
def NF (s : State) : Prop := ∀ e ∈ nfl, va_Nw (.fieldLinkNest e.1 e.2.1 e.2.2.1 e.2.2.2.1 e.2.2.2.2.1 e.2.2.2.2.2) s
theorem NF.warm {s U : State} (hW : s.WarmedH U.vm) (h : NF s) : NF U := fun e he => va_Nw.warmF hW (h e he)
/-- what a field's place in a pool is worth -/
def FOK (cm ix c k : Nat) : Prop := c < 18 ∧ k < cN c ∧ ∃ ref : String,
  ((Cond.fieldLink (cnm cm) ix ref (cT c k).2.1 (cT c k).2.2.1 ∈ lw_all) ∨ ∃ host : String, (cnm cm, ix, ref, (cT c k).2.1, (cT c k).2.2.1, host) ∈ nfl) ∧
  (ref = (cT c k).1 ∨ Cond.sameField ref (cT c k).1 (cT c k).2.1 (cT c k).2.2.1 ∈ lw_all)
theorem fok_0_21 : FOK 0 21 0 0 := ⟨by decide, by decide, "DawnPerquisite", Or.inl q269, Or.inl rfl⟩
theorem fr_0_21 : fr 0 21 = some (0, 0) := by decide +kernel
theorem fok_0_25 : FOK 0 25 0 1 := ⟨by decide, by decide, "DawnPerquisite", Or.inl q270, Or.inl rfl⟩
theorem fr_0_25 : fr 0 25 = some (0, 1) := by decide +kernel
theorem fok_0_28 : FOK 0 28 0 2 := ⟨by decide, by decide, "DawnPerquisite", Or.inl q271, Or.inl rfl⟩
theorem fr_0_28 : fr 0 28 = some (0, 2) := by decide +kernel
theorem fok_0_32 : FOK 0 32 0 4 := ⟨by decide, by decide, "DawnPerquisite", Or.inl q273, Or.inl rfl⟩
theorem fr_0_32 : fr 0 32 = some (0, 4) := by decide +kernel
theorem fok_0_36 : FOK 0 36 0 5 := ⟨by decide, by decide, "DawnPerquisite", Or.inl q274, Or.inl rfl⟩
theorem fr_0_36 : fr 0 36 = some (0, 5) := by decide +kernel
theorem fok_0_39 : FOK 0 39 0 6 := ⟨by decide, by decide, "DawnPerquisite", Or.inl q275, Or.inl rfl⟩
theorem fr_0_39 : fr 0 39 = some (0, 6) := by decide +kernel
theorem fok_0_43 : FOK 0 43 0 7 := ⟨by decide, by decide, "DawnPerquisite", Or.inl q276, Or.inl rfl⟩
theorem fr_0_43 : fr 0 43 = some (0, 7) := by decide +kernel
theorem fok_0_46 : FOK 0 46 0 8 := ⟨by decide, by decide, "DawnPerquisite", Or.inl q277, Or.inl rfl⟩
theorem fr_0_46 : fr 0 46 = some (0, 8) := by decide +kernel
theorem fok_0_49 : FOK 0 49 0 9 := ⟨by decide, by decide, "DawnPerquisite", Or.inl q278, Or.inl rfl⟩
theorem fr_0_49 : fr 0 49 = some (0, 9) := by decide +kernel
theorem fok_0_54 : FOK 0 54 0 10 := ⟨by decide, by decide, "DawnPerquisite", Or.inl q279, Or.inl rfl⟩
theorem fr_0_54 : fr 0 54 = some (0, 10) := by decide +kernel
theorem fok_0_61 : FOK 0 61 1 0 := ⟨by decide, by decide, "DawnPerquisite$State", Or.inr ⟨"DawnPerquisite", List.mem_of_getElem? (i := 0) rfl⟩, Or.inl rfl⟩
theorem fr_0_61 : fr 0 61 = some (1, 0) := by decide +kernel
theorem fok_0_76 : FOK 0 76 1 2 := ⟨by decide, by decide, "DawnPerquisite$State", Or.inr ⟨"DawnPerquisite", List.mem_of_getElem? (i := 1) rfl⟩, Or.inl rfl⟩
theorem fr_0_76 : fr 0 76 = some (1, 2) := by decide +kernel
theorem fok_0_79 : FOK 0 79 1 3 := ⟨by decide, by decide, "DawnPerquisite$State", Or.inr ⟨"DawnPerquisite", List.mem_of_getElem? (i := 2) rfl⟩, Or.inl rfl⟩
theorem fr_0_79 : fr 0 79 = some (1, 3) := by decide +kernel
theorem fok_0_85 : FOK 0 85 1 4 := ⟨by decide, by decide, "DawnPerquisite$State", Or.inr ⟨"DawnPerquisite", List.mem_of_getElem? (i := 3) rfl⟩, Or.inl rfl⟩
theorem fr_0_85 : fr 0 85 = some (1, 4) := by decide +kernel
theorem fok_0_88 : FOK 0 88 1 5 := ⟨by decide, by decide, "DawnPerquisite$State", Or.inr ⟨"DawnPerquisite", List.mem_of_getElem? (i := 4) rfl⟩, Or.inl rfl⟩
theorem fr_0_88 : fr 0 88 = some (1, 5) := by decide +kernel
theorem fok_0_91 : FOK 0 91 1 6 := ⟨by decide, by decide, "DawnPerquisite$State", Or.inr ⟨"DawnPerquisite", List.mem_of_getElem? (i := 5) rfl⟩, Or.inl rfl⟩
theorem fr_0_91 : fr 0 91 = some (1, 6) := by decide +kernel
theorem fok_0_98 : FOK 0 98 0 3 := ⟨by decide, by decide, "DawnPerquisite", Or.inl q272, Or.inl rfl⟩
theorem fr_0_98 : fr 0 98 = some (0, 3) := by decide +kernel
theorem fok_0_105 : FOK 0 105 1 10 := ⟨by decide, by decide, "DawnPerquisite$State", Or.inr ⟨"DawnPerquisite", List.mem_of_getElem? (i := 6) rfl⟩, Or.inl rfl⟩
theorem fr_0_105 : fr 0 105 = some (1, 10) := by decide +kernel
theorem fok_0_120 : FOK 0 120 5 0 := ⟨by decide, by decide, "DawnPerquisite$Wrong", Or.inr ⟨"DawnPerquisite", List.mem_of_getElem? (i := 7) rfl⟩, Or.inl rfl⟩
theorem fr_0_120 : fr 0 120 = some (5, 0) := by decide +kernel
theorem fok_0_121 : FOK 0 121 5 1 := ⟨by decide, by decide, "DawnPerquisite$Wrong", Or.inr ⟨"DawnPerquisite", List.mem_of_getElem? (i := 8) rfl⟩, Or.inl rfl⟩
theorem fr_0_121 : fr 0 121 = some (5, 1) := by decide +kernel
theorem fok_0_154 : FOK 0 154 4 0 := ⟨by decide, by decide, "DawnPerquisite$Text", Or.inr ⟨"DawnPerquisite", List.mem_of_getElem? (i := 9) rfl⟩, Or.inl rfl⟩
theorem fr_0_154 : fr 0 154 = some (4, 0) := by decide +kernel
theorem fok_0_173 : FOK 0 173 1 1 := ⟨by decide, by decide, "DawnPerquisite$State", Or.inr ⟨"DawnPerquisite", List.mem_of_getElem? (i := 10) rfl⟩, Or.inl rfl⟩
theorem fr_0_173 : fr 0 173 = some (1, 1) := by decide +kernel
theorem fok_0_289 : FOK 0 289 4 2 := ⟨by decide, by decide, "DawnPerquisite$Text", Or.inr ⟨"DawnPerquisite", List.mem_of_getElem? (i := 11) rfl⟩, Or.inl rfl⟩
theorem fr_0_289 : fr 0 289 = some (4, 2) := by decide +kernel
theorem fok_0_312 : FOK 0 312 1 9 := ⟨by decide, by decide, "DawnPerquisite$State", Or.inr ⟨"DawnPerquisite", List.mem_of_getElem? (i := 12) rfl⟩, Or.inl rfl⟩
theorem fr_0_312 : fr 0 312 = some (1, 9) := by decide +kernel
theorem fok_0_393 : FOK 0 393 1 7 := ⟨by decide, by decide, "DawnPerquisite$State", Or.inr ⟨"DawnPerquisite", List.mem_of_getElem? (i := 13) rfl⟩, Or.inl rfl⟩
theorem fr_0_393 : fr 0 393 = some (1, 7) := by decide +kernel
theorem fok_0_411 : FOK 0 411 1 8 := ⟨by decide, by decide, "DawnPerquisite$State", Or.inr ⟨"DawnPerquisite", List.mem_of_getElem? (i := 14) rfl⟩, Or.inl rfl⟩
theorem fr_0_411 : fr 0 411 = some (1, 8) := by decide +kernel
theorem fok_1_9 : FOK 1 9 1 0 := ⟨by decide, by decide, "DawnPerquisite$State", Or.inl q209, Or.inl rfl⟩
theorem fr_1_9 : fr 1 9 = some (1, 0) := by decide +kernel
theorem fok_1_15 : FOK 1 15 1 1 := ⟨by decide, by decide, "DawnPerquisite$State", Or.inl q211, Or.inl rfl⟩
theorem fr_1_15 : fr 1 15 = some (1, 1) := by decide +kernel
theorem fok_1_18 : FOK 1 18 1 2 := ⟨by decide, by decide, "DawnPerquisite$State", Or.inl q213, Or.inl rfl⟩
theorem fr_1_18 : fr 1 18 = some (1, 2) := by decide +kernel
theorem fok_1_21 : FOK 1 21 1 3 := ⟨by decide, by decide, "DawnPerquisite$State", Or.inl q215, Or.inl rfl⟩
theorem fr_1_21 : fr 1 21 = some (1, 3) := by decide +kernel
theorem fok_1_24 : FOK 1 24 1 4 := ⟨by decide, by decide, "DawnPerquisite$State", Or.inl q217, Or.inl rfl⟩
theorem fr_1_24 : fr 1 24 = some (1, 4) := by decide +kernel
theorem fok_1_27 : FOK 1 27 1 5 := ⟨by decide, by decide, "DawnPerquisite$State", Or.inl q219, Or.inl rfl⟩
theorem fr_1_27 : fr 1 27 = some (1, 5) := by decide +kernel
theorem fok_1_30 : FOK 1 30 1 6 := ⟨by decide, by decide, "DawnPerquisite$State", Or.inl q221, Or.inl rfl⟩
theorem fr_1_30 : fr 1 30 = some (1, 6) := by decide +kernel
theorem fok_1_33 : FOK 1 33 1 7 := ⟨by decide, by decide, "DawnPerquisite$State", Or.inl q223, Or.inl rfl⟩
theorem fr_1_33 : fr 1 33 = some (1, 7) := by decide +kernel
theorem fok_1_38 : FOK 1 38 1 8 := ⟨by decide, by decide, "DawnPerquisite$State", Or.inl q225, Or.inl rfl⟩
theorem fr_1_38 : fr 1 38 = some (1, 8) := by decide +kernel
theorem fok_1_41 : FOK 1 41 1 9 := ⟨by decide, by decide, "DawnPerquisite$State", Or.inl q227, Or.inl rfl⟩
theorem fr_1_41 : fr 1 41 = some (1, 9) := by decide +kernel
theorem fok_1_46 : FOK 1 46 1 10 := ⟨by decide, by decide, "DawnPerquisite$State", Or.inl q229, Or.inl rfl⟩
theorem fr_1_46 : fr 1 46 = some (1, 10) := by decide +kernel
theorem fok_2_7 : FOK 2 7 2 0 := ⟨by decide, by decide, "DawnPerquisiteModel", Or.inl q1460, Or.inl rfl⟩
theorem fr_2_7 : fr 2 7 = some (2, 0) := by decide +kernel
theorem fok_2_13 : FOK 2 13 2 1 := ⟨by decide, by decide, "DawnPerquisiteModel", Or.inl q1461, Or.inl rfl⟩
theorem fr_2_13 : fr 2 13 = some (2, 1) := by decide +kernel
theorem fok_2_16 : FOK 2 16 2 2 := ⟨by decide, by decide, "DawnPerquisiteModel", Or.inl q1462, Or.inl rfl⟩
theorem fr_2_16 : fr 2 16 = some (2, 2) := by decide +kernel
theorem fok_2_19 : FOK 2 19 2 3 := ⟨by decide, by decide, "DawnPerquisiteModel", Or.inl q1463, Or.inl rfl⟩
theorem fr_2_19 : fr 2 19 = some (2, 3) := by decide +kernel
theorem fok_2_22 : FOK 2 22 2 5 := ⟨by decide, by decide, "DawnPerquisiteModel", Or.inl q1465, Or.inl rfl⟩
theorem fr_2_22 : fr 2 22 = some (2, 5) := by decide +kernel
theorem fok_2_26 : FOK 2 26 2 6 := ⟨by decide, by decide, "DawnPerquisiteModel", Or.inl q1466, Or.inl rfl⟩
theorem fr_2_26 : fr 2 26 = some (2, 6) := by decide +kernel
theorem fok_2_29 : FOK 2 29 2 15 := ⟨by decide, by decide, "DawnPerquisiteModel", Or.inl q1475, Or.inl rfl⟩
theorem fr_2_29 : fr 2 29 = some (2, 15) := by decide +kernel
theorem fok_2_32 : FOK 2 32 2 20 := ⟨by decide, by decide, "DawnPerquisiteModel", Or.inl q1480, Or.inl rfl⟩
theorem fr_2_32 : fr 2 32 = some (2, 20) := by decide +kernel
theorem fok_2_35 : FOK 2 35 2 21 := ⟨by decide, by decide, "DawnPerquisiteModel", Or.inl q1481, Or.inl rfl⟩
theorem fr_2_35 : fr 2 35 = some (2, 21) := by decide +kernel
theorem fok_2_39 : FOK 2 39 2 22 := ⟨by decide, by decide, "DawnPerquisiteModel", Or.inl q1482, Or.inl rfl⟩
theorem fr_2_39 : fr 2 39 = some (2, 22) := by decide +kernel
theorem fok_2_43 : FOK 2 43 2 23 := ⟨by decide, by decide, "DawnPerquisiteModel", Or.inl q1483, Or.inl rfl⟩
theorem fr_2_43 : fr 2 43 = some (2, 23) := by decide +kernel
theorem fok_2_47 : FOK 2 47 2 24 := ⟨by decide, by decide, "DawnPerquisiteModel", Or.inl q1484, Or.inl rfl⟩
theorem fr_2_47 : fr 2 47 = some (2, 24) := by decide +kernel
theorem fok_2_50 : FOK 2 50 2 25 := ⟨by decide, by decide, "DawnPerquisiteModel", Or.inl q1485, Or.inl rfl⟩
theorem fr_2_50 : fr 2 50 = some (2, 25) := by decide +kernel
theorem fok_2_53 : FOK 2 53 2 26 := ⟨by decide, by decide, "DawnPerquisiteModel", Or.inl q1486, Or.inl rfl⟩
theorem fr_2_53 : fr 2 53 = some (2, 26) := by decide +kernel
theorem fok_2_56 : FOK 2 56 2 27 := ⟨by decide, by decide, "DawnPerquisiteModel", Or.inl q1487, Or.inl rfl⟩
theorem fr_2_56 : fr 2 56 = some (2, 27) := by decide +kernel
theorem fok_2_88 : FOK 2 88 2 4 := ⟨by decide, by decide, "DawnPerquisiteModel", Or.inl q1464, Or.inl rfl⟩
theorem fr_2_88 : fr 2 88 = some (2, 4) := by decide +kernel
theorem fok_2_95 : FOK 2 95 2 7 := ⟨by decide, by decide, "DawnPerquisiteModel", Or.inl q1467, Or.inl rfl⟩
theorem fr_2_95 : fr 2 95 = some (2, 7) := by decide +kernel
theorem fok_2_101 : FOK 2 101 2 8 := ⟨by decide, by decide, "DawnPerquisiteModel", Or.inl q1468, Or.inl rfl⟩
theorem fr_2_101 : fr 2 101 = some (2, 8) := by decide +kernel
theorem fok_2_104 : FOK 2 104 2 9 := ⟨by decide, by decide, "DawnPerquisiteModel", Or.inl q1469, Or.inl rfl⟩
theorem fr_2_104 : fr 2 104 = some (2, 9) := by decide +kernel
theorem fok_2_110 : FOK 2 110 2 10 := ⟨by decide, by decide, "DawnPerquisiteModel", Or.inl q1470, Or.inl rfl⟩
theorem fr_2_110 : fr 2 110 = some (2, 10) := by decide +kernel
theorem fok_2_117 : FOK 2 117 2 11 := ⟨by decide, by decide, "DawnPerquisiteModel", Or.inl q1471, Or.inl rfl⟩
theorem fr_2_117 : fr 2 117 = some (2, 11) := by decide +kernel
theorem fok_2_142 : FOK 2 142 2 12 := ⟨by decide, by decide, "DawnPerquisiteModel", Or.inl q1472, Or.inl rfl⟩
theorem fr_2_142 : fr 2 142 = some (2, 12) := by decide +kernel
theorem fok_2_145 : FOK 2 145 2 13 := ⟨by decide, by decide, "DawnPerquisiteModel", Or.inl q1473, Or.inl rfl⟩
theorem fr_2_145 : fr 2 145 = some (2, 13) := by decide +kernel
theorem fok_2_148 : FOK 2 148 2 14 := ⟨by decide, by decide, "DawnPerquisiteModel", Or.inl q1474, Or.inl rfl⟩
theorem fr_2_148 : fr 2 148 = some (2, 14) := by decide +kernel
theorem fok_2_151 : FOK 2 151 2 16 := ⟨by decide, by decide, "DawnPerquisiteModel", Or.inl q1476, Or.inl rfl⟩
theorem fr_2_151 : fr 2 151 = some (2, 16) := by decide +kernel
theorem fok_2_161 : FOK 2 161 2 17 := ⟨by decide, by decide, "DawnPerquisiteModel", Or.inl q1477, Or.inl rfl⟩
theorem fr_2_161 : fr 2 161 = some (2, 17) := by decide +kernel
theorem fok_2_180 : FOK 2 180 2 18 := ⟨by decide, by decide, "DawnPerquisiteModel", Or.inl q1478, Or.inl rfl⟩
theorem fr_2_180 : fr 2 180 = some (2, 18) := by decide +kernel
theorem fok_2_234 : FOK 2 234 2 19 := ⟨by decide, by decide, "DawnPerquisiteModel", Or.inl q1479, Or.inl rfl⟩
theorem fr_2_234 : fr 2 234 = some (2, 19) := by decide +kernel
theorem fok_3_9 : FOK 3 9 3 0 := ⟨by decide, by decide, "DawnPerquisite$Tokens", Or.inl q352, Or.inl rfl⟩
theorem fr_3_9 : fr 3 9 = some (3, 0) := by decide +kernel
theorem fok_3_15 : FOK 3 15 3 1 := ⟨by decide, by decide, "DawnPerquisite$Tokens", Or.inl q353, Or.inl rfl⟩
theorem fr_3_15 : fr 3 15 = some (3, 1) := by decide +kernel
theorem fok_3_19 : FOK 3 19 3 2 := ⟨by decide, by decide, "DawnPerquisite$Tokens", Or.inl q354, Or.inl rfl⟩
theorem fr_3_19 : fr 3 19 = some (3, 2) := by decide +kernel
theorem fok_3_22 : FOK 3 22 3 3 := ⟨by decide, by decide, "DawnPerquisite$Tokens", Or.inl q355, Or.inl rfl⟩
theorem fr_3_22 : fr 3 22 = some (3, 3) := by decide +kernel
theorem fok_3_25 : FOK 3 25 3 4 := ⟨by decide, by decide, "DawnPerquisite$Tokens", Or.inl q356, Or.inl rfl⟩
theorem fr_3_25 : fr 3 25 = some (3, 4) := by decide +kernel
theorem fok_3_43 : FOK 3 43 3 5 := ⟨by decide, by decide, "DawnPerquisite$Tokens", Or.inl q357, Or.inl rfl⟩
theorem fr_3_43 : fr 3 43 = some (3, 5) := by decide +kernel
theorem fok_3_77 : FOK 3 77 3 6 := ⟨by decide, by decide, "DawnPerquisite$Tokens", Or.inl q358, Or.inl rfl⟩
theorem fr_3_77 : fr 3 77 = some (3, 6) := by decide +kernel
theorem fok_3_83 : FOK 3 83 3 7 := ⟨by decide, by decide, "DawnPerquisite$Tokens", Or.inl q359, Or.inl rfl⟩
theorem fr_3_83 : fr 3 83 = some (3, 7) := by decide +kernel
theorem fok_3_86 : FOK 3 86 4 0 := ⟨by decide, by decide, "DawnPerquisite$Text", Or.inr ⟨"DawnPerquisite", List.mem_of_getElem? (i := 15) rfl⟩, Or.inl rfl⟩
theorem fr_3_86 : fr 3 86 = some (4, 0) := by decide +kernel
theorem fok_3_90 : FOK 3 90 4 1 := ⟨by decide, by decide, "DawnPerquisite$Text", Or.inr ⟨"DawnPerquisite", List.mem_of_getElem? (i := 16) rfl⟩, Or.inl rfl⟩
theorem fr_3_90 : fr 3 90 = some (4, 1) := by decide +kernel
theorem fok_3_97 : FOK 3 97 4 2 := ⟨by decide, by decide, "DawnPerquisite$Text", Or.inr ⟨"DawnPerquisite", List.mem_of_getElem? (i := 17) rfl⟩, Or.inl rfl⟩
theorem fr_3_97 : fr 3 97 = some (4, 2) := by decide +kernel
theorem fok_4_9 : FOK 4 9 4 0 := ⟨by decide, by decide, "DawnPerquisite$Text", Or.inl q415, Or.inl rfl⟩
theorem fr_4_9 : fr 4 9 = some (4, 0) := by decide +kernel
theorem fok_4_18 : FOK 4 18 4 2 := ⟨by decide, by decide, "DawnPerquisite$Text", Or.inl q419, Or.inl rfl⟩
theorem fr_4_18 : fr 4 18 = some (4, 2) := by decide +kernel
theorem fok_5_7 : FOK 5 7 5 0 := ⟨by decide, by decide, "DawnPerquisite$Wrong", Or.inl q546, Or.inl rfl⟩
theorem fr_5_7 : fr 5 7 = some (5, 0) := by decide +kernel
theorem fok_5_13 : FOK 5 13 5 1 := ⟨by decide, by decide, "DawnPerquisite$Wrong", Or.inl q548, Or.inl rfl⟩
theorem fr_5_13 : fr 5 13 = some (5, 1) := by decide +kernel
theorem fok_6_12 : FOK 6 12 6 1 := ⟨by decide, by decide, "DawnPerquisite$Chain", Or.inl q814, Or.inl rfl⟩
theorem fr_6_12 : fr 6 12 = some (6, 1) := by decide +kernel
theorem fok_6_18 : FOK 6 18 6 2 := ⟨by decide, by decide, "DawnPerquisite$Chain", Or.inl q815, Or.inl rfl⟩
theorem fr_6_18 : fr 6 18 = some (6, 2) := by decide +kernel
theorem fok_6_21 : FOK 6 21 6 0 := ⟨by decide, by decide, "DawnPerquisite$Chain", Or.inl q813, Or.inl rfl⟩
theorem fr_6_21 : fr 6 21 = some (6, 0) := by decide +kernel
theorem fok_7_7 : FOK 7 7 7 0 := ⟨by decide, by decide, "DawnPerquisite$Plain", Or.inl q593, Or.inl rfl⟩
theorem fr_7_7 : fr 7 7 = some (7, 0) := by decide +kernel
theorem fok_8_7 : FOK 8 7 8 0 := ⟨by decide, by decide, "DawnPerquisite$Not", Or.inl q625, Or.inl rfl⟩
theorem fr_8_7 : fr 8 7 = some (8, 0) := by decide +kernel
theorem fok_9_7 : FOK 9 7 9 0 := ⟨by decide, by decide, "DawnPerquisite$Compared", Or.inl q635, Or.inl rfl⟩
theorem fr_9_7 : fr 9 7 = some (9, 0) := by decide +kernel
theorem fok_9_13 : FOK 9 13 9 1 := ⟨by decide, by decide, "DawnPerquisite$Compared", Or.inl q636, Or.inl rfl⟩
theorem fr_9_13 : fr 9 13 = some (9, 1) := by decide +kernel
theorem fok_9_17 : FOK 9 17 9 2 := ⟨by decide, by decide, "DawnPerquisite$Compared", Or.inl q637, Or.inl rfl⟩
theorem fr_9_17 : fr 9 17 = some (9, 2) := by decide +kernel
theorem fok_10_7 : FOK 10 7 10 0 := ⟨by decide, by decide, "DawnPerquisite$All", Or.inl q730, Or.inl rfl⟩
theorem fr_10_7 : fr 10 7 = some (10, 0) := by decide +kernel
theorem fok_10_13 : FOK 10 13 10 1 := ⟨by decide, by decide, "DawnPerquisite$All", Or.inl q731, Or.inl rfl⟩
theorem fr_10_13 : fr 10 13 = some (10, 1) := by decide +kernel
theorem fok_11_7 : FOK 11 7 11 0 := ⟨by decide, by decide, "DawnPerquisite$If", Or.inl q747, Or.inl rfl⟩
theorem fr_11_7 : fr 11 7 = some (11, 0) := by decide +kernel
theorem fok_11_13 : FOK 11 13 11 1 := ⟨by decide, by decide, "DawnPerquisite$If", Or.inl q748, Or.inl rfl⟩
theorem fr_11_13 : fr 11 13 = some (11, 1) := by decide +kernel
theorem fok_11_17 : FOK 11 17 11 2 := ⟨by decide, by decide, "DawnPerquisite$If", Or.inl q749, Or.inl rfl⟩
theorem fr_11_17 : fr 11 17 = some (11, 2) := by decide +kernel
theorem fok_12_7 : FOK 12 7 12 0 := ⟨by decide, by decide, "DawnPerquisite$Name", Or.inl q773, Or.inl rfl⟩
theorem fr_12_7 : fr 12 7 = some (12, 0) := by decide +kernel
theorem fok_13_9 : FOK 13 9 13 0 := ⟨by decide, by decide, "DawnPerquisite$Worth", Or.inl q783, Or.inl rfl⟩
theorem fr_13_9 : fr 13 9 = some (13, 0) := by decide +kernel
theorem fok_14_9 : FOK 14 9 14 0 := ⟨by decide, by decide, "DawnPerquisite$Purse", Or.inl q793, Or.inl rfl⟩
theorem fr_14_9 : fr 14 9 = some (14, 0) := by decide +kernel
theorem fok_15_7 : FOK 15 7 15 0 := ⟨by decide, by decide, "DawnPerquisite$Minus", Or.inl q803, Or.inl rfl⟩
theorem fr_15_7 : fr 15 7 = some (15, 0) := by decide +kernel
theorem fok_16_7 : FOK 16 7 16 0 := ⟨by decide, by decide, "DawnPerquisite$Doing", Or.inl q866, Or.inl rfl⟩
theorem fr_16_7 : fr 16 7 = some (16, 0) := by decide +kernel
theorem fok_16_13 : FOK 16 13 16 1 := ⟨by decide, by decide, "DawnPerquisite$Doing", Or.inl q867, Or.inl rfl⟩
theorem fr_16_13 : fr 16 13 = some (16, 1) := by decide +kernel
theorem fok_16_16 : FOK 16 16 16 2 := ⟨by decide, by decide, "DawnPerquisite$Doing", Or.inl q868, Or.inl rfl⟩
theorem fr_16_16 : fr 16 16 = some (16, 2) := by decide +kernel
theorem fok_16_19 : FOK 16 19 16 3 := ⟨by decide, by decide, "DawnPerquisite$Doing", Or.inl q869, Or.inl rfl⟩
theorem fr_16_19 : fr 16 19 = some (16, 3) := by decide +kernel
theorem fok_17_9 : FOK 17 9 17 1 := ⟨by decide, by decide, "java/util/ArrayList", Or.inl q403, Or.inl rfl⟩
theorem fr_17_9 : fr 17 9 = some (17, 1) := by decide +kernel
theorem fok_17_48 : FOK 17 48 17 2 := ⟨by decide, by decide, "java/util/ArrayList", Or.inl q404, Or.inl rfl⟩
theorem fr_17_48 : fr 17 48 = some (17, 2) := by decide +kernel
theorem fok_17_63 : FOK 17 63 17 0 := ⟨by decide, by decide, "java/util/ArrayList", Or.inl q406, Or.inr q407⟩
theorem fr_17_63 : fr 17 63 = some (17, 0) := by decide +kernel
theorem fok_20_7 : FOK 20 7 17 0 := ⟨by decide, by decide, "java/util/AbstractList", Or.inl q405, Or.inl rfl⟩
theorem fr_20_7 : fr 20 7 = some (17, 0) := by decide +kernel
theorem frl_0 : ∀ e ∈ frl 0, FOK 0 e.1 e.2.1 e.2.2 := List.forall_mem_cons.mpr ⟨fok_0_21, List.forall_mem_cons.mpr ⟨fok_0_25, List.forall_mem_cons.mpr ⟨fok_0_28, List.forall_mem_cons.mpr ⟨fok_0_32, List.forall_mem_cons.mpr ⟨fok_0_36, List.forall_mem_cons.mpr ⟨fok_0_39, List.forall_mem_cons.mpr ⟨fok_0_43, List.forall_mem_cons.mpr ⟨fok_0_46, List.forall_mem_cons.mpr ⟨fok_0_49, List.forall_mem_cons.mpr ⟨fok_0_54, List.forall_mem_cons.mpr ⟨fok_0_61, List.forall_mem_cons.mpr ⟨fok_0_76, List.forall_mem_cons.mpr ⟨fok_0_79, List.forall_mem_cons.mpr ⟨fok_0_85, List.forall_mem_cons.mpr ⟨fok_0_88, List.forall_mem_cons.mpr ⟨fok_0_91, List.forall_mem_cons.mpr ⟨fok_0_98, List.forall_mem_cons.mpr ⟨fok_0_105, List.forall_mem_cons.mpr ⟨fok_0_120, List.forall_mem_cons.mpr ⟨fok_0_121, List.forall_mem_cons.mpr ⟨fok_0_154, List.forall_mem_cons.mpr ⟨fok_0_173, List.forall_mem_cons.mpr ⟨fok_0_289, List.forall_mem_cons.mpr ⟨fok_0_312, List.forall_mem_cons.mpr ⟨fok_0_393, List.forall_mem_cons.mpr ⟨fok_0_411, fun _ h => absurd h List.not_mem_nil⟩⟩⟩⟩⟩⟩⟩⟩⟩⟩⟩⟩⟩⟩⟩⟩⟩⟩⟩⟩⟩⟩⟩⟩⟩⟩
theorem frl_1 : ∀ e ∈ frl 1, FOK 1 e.1 e.2.1 e.2.2 := List.forall_mem_cons.mpr ⟨fok_1_9, List.forall_mem_cons.mpr ⟨fok_1_15, List.forall_mem_cons.mpr ⟨fok_1_18, List.forall_mem_cons.mpr ⟨fok_1_21, List.forall_mem_cons.mpr ⟨fok_1_24, List.forall_mem_cons.mpr ⟨fok_1_27, List.forall_mem_cons.mpr ⟨fok_1_30, List.forall_mem_cons.mpr ⟨fok_1_33, List.forall_mem_cons.mpr ⟨fok_1_38, List.forall_mem_cons.mpr ⟨fok_1_41, List.forall_mem_cons.mpr ⟨fok_1_46, fun _ h => absurd h List.not_mem_nil⟩⟩⟩⟩⟩⟩⟩⟩⟩⟩⟩
theorem frl_2 : ∀ e ∈ frl 2, FOK 2 e.1 e.2.1 e.2.2 := List.forall_mem_cons.mpr ⟨fok_2_7, List.forall_mem_cons.mpr ⟨fok_2_13, List.forall_mem_cons.mpr ⟨fok_2_16, List.forall_mem_cons.mpr ⟨fok_2_19, List.forall_mem_cons.mpr ⟨fok_2_22, List.forall_mem_cons.mpr ⟨fok_2_26, List.forall_mem_cons.mpr ⟨fok_2_29, List.forall_mem_cons.mpr ⟨fok_2_32, List.forall_mem_cons.mpr ⟨fok_2_35, List.forall_mem_cons.mpr ⟨fok_2_39, List.forall_mem_cons.mpr ⟨fok_2_43, List.forall_mem_cons.mpr ⟨fok_2_47, List.forall_mem_cons.mpr ⟨fok_2_50, List.forall_mem_cons.mpr ⟨fok_2_53, List.forall_mem_cons.mpr ⟨fok_2_56, List.forall_mem_cons.mpr ⟨fok_2_88, List.forall_mem_cons.mpr ⟨fok_2_95, List.forall_mem_cons.mpr ⟨fok_2_101, List.forall_mem_cons.mpr ⟨fok_2_104, List.forall_mem_cons.mpr ⟨fok_2_110, List.forall_mem_cons.mpr ⟨fok_2_117, List.forall_mem_cons.mpr ⟨fok_2_142, List.forall_mem_cons.mpr ⟨fok_2_145, List.forall_mem_cons.mpr ⟨fok_2_148, List.forall_mem_cons.mpr ⟨fok_2_151, List.forall_mem_cons.mpr ⟨fok_2_161, List.forall_mem_cons.mpr ⟨fok_2_180, List.forall_mem_cons.mpr ⟨fok_2_234, fun _ h => absurd h List.not_mem_nil⟩⟩⟩⟩⟩⟩⟩⟩⟩⟩⟩⟩⟩⟩⟩⟩⟩⟩⟩⟩⟩⟩⟩⟩⟩⟩⟩⟩
theorem frl_3 : ∀ e ∈ frl 3, FOK 3 e.1 e.2.1 e.2.2 := List.forall_mem_cons.mpr ⟨fok_3_9, List.forall_mem_cons.mpr ⟨fok_3_15, List.forall_mem_cons.mpr ⟨fok_3_19, List.forall_mem_cons.mpr ⟨fok_3_22, List.forall_mem_cons.mpr ⟨fok_3_25, List.forall_mem_cons.mpr ⟨fok_3_43, List.forall_mem_cons.mpr ⟨fok_3_77, List.forall_mem_cons.mpr ⟨fok_3_83, List.forall_mem_cons.mpr ⟨fok_3_86, List.forall_mem_cons.mpr ⟨fok_3_90, List.forall_mem_cons.mpr ⟨fok_3_97, fun _ h => absurd h List.not_mem_nil⟩⟩⟩⟩⟩⟩⟩⟩⟩⟩⟩
theorem frl_4 : ∀ e ∈ frl 4, FOK 4 e.1 e.2.1 e.2.2 := List.forall_mem_cons.mpr ⟨fok_4_9, List.forall_mem_cons.mpr ⟨fok_4_18, fun _ h => absurd h List.not_mem_nil⟩⟩
theorem frl_5 : ∀ e ∈ frl 5, FOK 5 e.1 e.2.1 e.2.2 := List.forall_mem_cons.mpr ⟨fok_5_7, List.forall_mem_cons.mpr ⟨fok_5_13, fun _ h => absurd h List.not_mem_nil⟩⟩
theorem frl_6 : ∀ e ∈ frl 6, FOK 6 e.1 e.2.1 e.2.2 := List.forall_mem_cons.mpr ⟨fok_6_12, List.forall_mem_cons.mpr ⟨fok_6_18, List.forall_mem_cons.mpr ⟨fok_6_21, fun _ h => absurd h List.not_mem_nil⟩⟩⟩
theorem frl_7 : ∀ e ∈ frl 7, FOK 7 e.1 e.2.1 e.2.2 := List.forall_mem_cons.mpr ⟨fok_7_7, fun _ h => absurd h List.not_mem_nil⟩
theorem frl_8 : ∀ e ∈ frl 8, FOK 8 e.1 e.2.1 e.2.2 := List.forall_mem_cons.mpr ⟨fok_8_7, fun _ h => absurd h List.not_mem_nil⟩
theorem frl_9 : ∀ e ∈ frl 9, FOK 9 e.1 e.2.1 e.2.2 := List.forall_mem_cons.mpr ⟨fok_9_7, List.forall_mem_cons.mpr ⟨fok_9_13, List.forall_mem_cons.mpr ⟨fok_9_17, fun _ h => absurd h List.not_mem_nil⟩⟩⟩
theorem frl_10 : ∀ e ∈ frl 10, FOK 10 e.1 e.2.1 e.2.2 := List.forall_mem_cons.mpr ⟨fok_10_7, List.forall_mem_cons.mpr ⟨fok_10_13, fun _ h => absurd h List.not_mem_nil⟩⟩
theorem frl_11 : ∀ e ∈ frl 11, FOK 11 e.1 e.2.1 e.2.2 := List.forall_mem_cons.mpr ⟨fok_11_7, List.forall_mem_cons.mpr ⟨fok_11_13, List.forall_mem_cons.mpr ⟨fok_11_17, fun _ h => absurd h List.not_mem_nil⟩⟩⟩
theorem frl_12 : ∀ e ∈ frl 12, FOK 12 e.1 e.2.1 e.2.2 := List.forall_mem_cons.mpr ⟨fok_12_7, fun _ h => absurd h List.not_mem_nil⟩
theorem frl_13 : ∀ e ∈ frl 13, FOK 13 e.1 e.2.1 e.2.2 := List.forall_mem_cons.mpr ⟨fok_13_9, fun _ h => absurd h List.not_mem_nil⟩
theorem frl_14 : ∀ e ∈ frl 14, FOK 14 e.1 e.2.1 e.2.2 := List.forall_mem_cons.mpr ⟨fok_14_9, fun _ h => absurd h List.not_mem_nil⟩
theorem frl_15 : ∀ e ∈ frl 15, FOK 15 e.1 e.2.1 e.2.2 := List.forall_mem_cons.mpr ⟨fok_15_7, fun _ h => absurd h List.not_mem_nil⟩
theorem frl_16 : ∀ e ∈ frl 16, FOK 16 e.1 e.2.1 e.2.2 := List.forall_mem_cons.mpr ⟨fok_16_7, List.forall_mem_cons.mpr ⟨fok_16_13, List.forall_mem_cons.mpr ⟨fok_16_16, List.forall_mem_cons.mpr ⟨fok_16_19, fun _ h => absurd h List.not_mem_nil⟩⟩⟩⟩
theorem frl_17 : ∀ e ∈ frl 17, FOK 17 e.1 e.2.1 e.2.2 := List.forall_mem_cons.mpr ⟨fok_17_9, List.forall_mem_cons.mpr ⟨fok_17_48, List.forall_mem_cons.mpr ⟨fok_17_63, fun _ h => absurd h List.not_mem_nil⟩⟩⟩
theorem frl_20 : ∀ e ∈ frl 20, FOK 20 e.1 e.2.1 e.2.2 := List.forall_mem_cons.mpr ⟨fok_20_7, fun _ h => absurd h List.not_mem_nil⟩
theorem fr_ok {cm ix c k : Nat} (h : fr cm ix = some (c, k)) : FOK cm ix c k := by
  unfold fr at h
  obtain ⟨e, h1, h2⟩ := Option.map_eq_some_iff.mp h
  have h3 := List.mem_of_find?_eq_some h1
  have h4 : e.1 = ix := by simpa using List.find?_some h1
  obtain ⟨a, b, d⟩ := e
  cases h2; cases h4
  match cm, h3 with
  | 0, h3 => exact frl_0 _ h3
  | 1, h3 => exact frl_1 _ h3
  | 2, h3 => exact frl_2 _ h3
  | 3, h3 => exact frl_3 _ h3
  | 4, h3 => exact frl_4 _ h3
  | 5, h3 => exact frl_5 _ h3
  | 6, h3 => exact frl_6 _ h3
  | 7, h3 => exact frl_7 _ h3
  | 8, h3 => exact frl_8 _ h3
  | 9, h3 => exact frl_9 _ h3
  | 10, h3 => exact frl_10 _ h3
  | 11, h3 => exact frl_11 _ h3
  | 12, h3 => exact frl_12 _ h3
  | 13, h3 => exact frl_13 _ h3
  | 14, h3 => exact frl_14 _ h3
  | 15, h3 => exact frl_15 _ h3
  | 16, h3 => exact frl_16 _ h3
  | 17, h3 => exact frl_17 _ h3
  | 20, h3 => exact frl_20 _ h3
  | 18, h3 => cases h3
  | 19, h3 => cases h3
  | _ + 21, h3 => cases h3
/-- whole numbers -/
def kcl (c : Nat) : List (Nat × Int32) := match c with
  | 0 => [(203, 99999)]
  | 2 => [(113, 99999)]
  | 3 => [(46, 99999)]
  | 29 => [(200, 2147483639)]
  | 32 => [(265, 1431655765), (266, 858993459), (267, 252645135)]
  | _ => []
def kc (c ix : Nat) : Option (Int32) := ((kcl c).find? fun e => e.1 == ix).map fun e => e.2
theorem kc_0_203 : kc 0 203 = some (99999) := by decide +kernel
theorem kc_2_113 : kc 2 113 = some (99999) := by decide +kernel
theorem kc_3_46 : kc 3 46 = some (99999) := by decide +kernel
theorem kc_29_200 : kc 29 200 = some (2147483639) := by decide +kernel
theorem kc_32_265 : kc 32 265 = some (1431655765) := by decide +kernel
theorem kc_32_266 : kc 32 266 = some (858993459) := by decide +kernel
theorem kc_32_267 : kc 32 267 = some (252645135) := by decide +kernel
def kcOK (cm ix : Nat) (v : Int32) : Prop := Jvm.Cond.constant (cnm cm) ix v ∈ lw_all
theorem kcl_0 : ∀ e ∈ kcl 0, kcOK 0 e.1 e.2 := List.forall_mem_cons.mpr ⟨q1065, fun _ h => absurd h List.not_mem_nil⟩
theorem kcl_2 : ∀ e ∈ kcl 2, kcOK 2 e.1 e.2 := List.forall_mem_cons.mpr ⟨q1595, fun _ h => absurd h List.not_mem_nil⟩
theorem kcl_3 : ∀ e ∈ kcl 3, kcOK 3 e.1 e.2 := List.forall_mem_cons.mpr ⟨q493, fun _ h => absurd h List.not_mem_nil⟩
theorem kcl_29 : ∀ e ∈ kcl 29, kcOK 29 e.1 e.2 := List.forall_mem_cons.mpr ⟨q667, fun _ h => absurd h List.not_mem_nil⟩
theorem kcl_32 : ∀ e ∈ kcl 32, kcOK 32 e.1 e.2 := List.forall_mem_cons.mpr ⟨q942, List.forall_mem_cons.mpr ⟨q943, List.forall_mem_cons.mpr ⟨q944, fun _ h => absurd h List.not_mem_nil⟩⟩⟩
theorem kc_ok {cm ix : Nat} {v : Int32} (h : kc cm ix = some v) : kcOK cm ix v := by
  unfold kc at h
  obtain ⟨e, h1, h2⟩ := Option.map_eq_some_iff.mp h
  have h3 := List.mem_of_find?_eq_some h1
  have h4 : e.1 = ix := by simpa using List.find?_some h1
  obtain ⟨a, b⟩ := e
  cases h2; cases h4
  match cm, h3 with
  | 0, h3 => exact kcl_0 _ h3
  | 2, h3 => exact kcl_2 _ h3
  | 3, h3 => exact kcl_3 _ h3
  | 29, h3 => exact kcl_29 _ h3
  | 32, h3 => exact kcl_32 _ h3
  | 1, h3 => cases h3
  | 4, h3 => cases h3
  | 5, h3 => cases h3
  | 6, h3 => cases h3
  | 7, h3 => cases h3
  | 8, h3 => cases h3
  | 9, h3 => cases h3
  | 10, h3 => cases h3
  | 11, h3 => cases h3
  | 12, h3 => cases h3
  | 13, h3 => cases h3
  | 14, h3 => cases h3
  | 15, h3 => cases h3
  | 16, h3 => cases h3
  | 17, h3 => cases h3
  | 18, h3 => cases h3
  | 19, h3 => cases h3
  | 20, h3 => cases h3
  | 21, h3 => cases h3
  | 22, h3 => cases h3
  | 23, h3 => cases h3
  | 24, h3 => cases h3
  | 25, h3 => cases h3
  | 26, h3 => cases h3
  | 27, h3 => cases h3
  | 28, h3 => cases h3
  | 30, h3 => cases h3
  | 31, h3 => cases h3
  | _ + 33, h3 => cases h3
/-- longs -/
def kll (c : Nat) : List (Nat × Int64) := match c with
  | 0 => [(349, -1), (351, 2), (418, 5)]
  | 2 => [(121, 1152921504606846976), (247, 1000000), (249, -1000000), (255, 5), (302, 719), (304, 587), (306, 31039), (391, -1), (423, 2)]
  | 6 => [(56, -1000000), (58, 1000000)]
  | 13 => [(21, 5)]
  | 14 => [(21, 6)]
  | _ => []
def kl (c ix : Nat) : Option (Int64) := ((kll c).find? fun e => e.1 == ix).map fun e => e.2
theorem kl_0_349 : kl 0 349 = some (-1) := by decide +kernel
theorem kl_0_351 : kl 0 351 = some (2) := by decide +kernel
theorem kl_0_418 : kl 0 418 = some (5) := by decide +kernel
theorem kl_2_121 : kl 2 121 = some (1152921504606846976) := by decide +kernel
theorem kl_2_247 : kl 2 247 = some (1000000) := by decide +kernel
theorem kl_2_249 : kl 2 249 = some (-1000000) := by decide +kernel
theorem kl_2_255 : kl 2 255 = some (5) := by decide +kernel
theorem kl_2_302 : kl 2 302 = some (719) := by decide +kernel
theorem kl_2_304 : kl 2 304 = some (587) := by decide +kernel
theorem kl_2_306 : kl 2 306 = some (31039) := by decide +kernel
theorem kl_2_391 : kl 2 391 = some (-1) := by decide +kernel
theorem kl_2_423 : kl 2 423 = some (2) := by decide +kernel
theorem kl_6_56 : kl 6 56 = some (-1000000) := by decide +kernel
theorem kl_6_58 : kl 6 58 = some (1000000) := by decide +kernel
theorem kl_13_21 : kl 13 21 = some (5) := by decide +kernel
theorem kl_14_21 : kl 14 21 = some (6) := by decide +kernel
def klOK (cm ix : Nat) (v : Int64) : Prop := Jvm.Cond.constantLong (cnm cm) ix v ∈ lw_all
theorem kll_0 : ∀ e ∈ kll 0, klOK 0 e.1 e.2 := List.forall_mem_cons.mpr ⟨q1253, List.forall_mem_cons.mpr ⟨q1266, List.forall_mem_cons.mpr ⟨q1406, fun _ h => absurd h List.not_mem_nil⟩⟩⟩
theorem kll_2 : ∀ e ∈ kll 2, klOK 2 e.1 e.2 := List.forall_mem_cons.mpr ⟨q1599, List.forall_mem_cons.mpr ⟨q1795, List.forall_mem_cons.mpr ⟨q1796, List.forall_mem_cons.mpr ⟨q1788, List.forall_mem_cons.mpr ⟨q1885, List.forall_mem_cons.mpr ⟨q1886, List.forall_mem_cons.mpr ⟨q1887, List.forall_mem_cons.mpr ⟨q1953, List.forall_mem_cons.mpr ⟨q2039, fun _ h => absurd h List.not_mem_nil⟩⟩⟩⟩⟩⟩⟩⟩⟩
theorem kll_6 : ∀ e ∈ kll 6, klOK 6 e.1 e.2 := List.forall_mem_cons.mpr ⟨q1043, List.forall_mem_cons.mpr ⟨q1044, fun _ h => absurd h List.not_mem_nil⟩⟩
theorem kll_13 : ∀ e ∈ kll 13, klOK 13 e.1 e.2 := List.forall_mem_cons.mpr ⟨q1023, fun _ h => absurd h List.not_mem_nil⟩
theorem kll_14 : ∀ e ∈ kll 14, klOK 14 e.1 e.2 := List.forall_mem_cons.mpr ⟨q1024, fun _ h => absurd h List.not_mem_nil⟩
theorem kl_ok {cm ix : Nat} {v : Int64} (h : kl cm ix = some v) : klOK cm ix v := by
  unfold kl at h
  obtain ⟨e, h1, h2⟩ := Option.map_eq_some_iff.mp h
  have h3 := List.mem_of_find?_eq_some h1
  have h4 : e.1 = ix := by simpa using List.find?_some h1
  obtain ⟨a, b⟩ := e
  cases h2; cases h4
  match cm, h3 with
  | 0, h3 => exact kll_0 _ h3
  | 2, h3 => exact kll_2 _ h3
  | 6, h3 => exact kll_6 _ h3
  | 13, h3 => exact kll_13 _ h3
  | 14, h3 => exact kll_14 _ h3
  | 1, h3 => cases h3
  | 3, h3 => cases h3
  | 4, h3 => cases h3
  | 5, h3 => cases h3
  | 7, h3 => cases h3
  | 8, h3 => cases h3
  | 9, h3 => cases h3
  | 10, h3 => cases h3
  | 11, h3 => cases h3
  | 12, h3 => cases h3
  | _ + 15, h3 => cases h3
/-- new: class, slots -/
def knl (c : Nat) : List (Nat × Nat × Nat) := match c with
  | 0 => [(18, 1, 11), (109, 3, 8)]
  | 3 => [(65, 5, 8), (80, 4, 3), (106, 17, 3), (117, 16, 4), (135, 10, 2), (146, 8, 1), (151, 9, 3), (156, 6, 3), (180, 11, 3), (185, 7, 1), (198, 12, 1), (201, 13, 1), (204, 14, 1), (207, 15, 1)]
  | 4 => [(15, 17, 3)]
  | 6 => [(9, 17, 3)]
  | 34 => [(7, 0, 11), (10, 2, 28)]
  | _ => []
def kn (c ix : Nat) : Option (Nat × Nat) := ((knl c).find? fun e => e.1 == ix).map fun e => e.2
theorem kn_0_18 : kn 0 18 = some (1, 11) := by decide +kernel
theorem kn_0_109 : kn 0 109 = some (3, 8) := by decide +kernel
theorem kn_3_65 : kn 3 65 = some (5, 8) := by decide +kernel
theorem kn_3_80 : kn 3 80 = some (4, 3) := by decide +kernel
theorem kn_3_106 : kn 3 106 = some (17, 3) := by decide +kernel
theorem kn_3_117 : kn 3 117 = some (16, 4) := by decide +kernel
theorem kn_3_135 : kn 3 135 = some (10, 2) := by decide +kernel
theorem kn_3_146 : kn 3 146 = some (8, 1) := by decide +kernel
theorem kn_3_151 : kn 3 151 = some (9, 3) := by decide +kernel
theorem kn_3_156 : kn 3 156 = some (6, 3) := by decide +kernel
theorem kn_3_180 : kn 3 180 = some (11, 3) := by decide +kernel
theorem kn_3_185 : kn 3 185 = some (7, 1) := by decide +kernel
theorem kn_3_198 : kn 3 198 = some (12, 1) := by decide +kernel
theorem kn_3_201 : kn 3 201 = some (13, 1) := by decide +kernel
theorem kn_3_204 : kn 3 204 = some (14, 1) := by decide +kernel
theorem kn_3_207 : kn 3 207 = some (15, 1) := by decide +kernel
theorem kn_4_15 : kn 4 15 = some (17, 3) := by decide +kernel
theorem kn_6_9 : kn 6 9 = some (17, 3) := by decide +kernel
theorem kn_34_7 : kn 34 7 = some (0, 11) := by decide +kernel
theorem kn_34_10 : kn 34 10 = some (2, 28) := by decide +kernel
def knOK (cm ix : Nat) (v : Nat × Nat) : Prop := v.1 < 18 ∧ Jvm.Cond.classLink (cnm cm) ix (cR v.1) ∈ lw_all ∧ Jvm.Cond.instantiable (cR v.1) v.2 ∈ lw_all ∧ Jvm.Cond.initialized (cR v.1) ∈ lw_all
theorem knl_0 : ∀ e ∈ knl 0, knOK 0 e.1 e.2 := List.forall_mem_cons.mpr ⟨⟨by decide, q190, q191, q148⟩, List.forall_mem_cons.mpr ⟨⟨by decide, q346, q347, q152⟩, fun _ h => absurd h List.not_mem_nil⟩⟩
theorem knl_3 : ∀ e ∈ knl 3, knOK 3 e.1 e.2 := List.forall_mem_cons.mpr ⟨⟨by decide, q502, q503, q164⟩, List.forall_mem_cons.mpr ⟨⟨by decide, q381, q382, q153⟩, List.forall_mem_cons.mpr ⟨⟨by decide, q609, q390, q156⟩, List.forall_mem_cons.mpr ⟨⟨by decide, q860, q861, q181⟩, List.forall_mem_cons.mpr ⟨⟨by decide, q724, q725, q172⟩, List.forall_mem_cons.mpr ⟨⟨by decide, q619, q620, q168⟩, List.forall_mem_cons.mpr ⟨⟨by decide, q629, q630, q169⟩, List.forall_mem_cons.mpr ⟨⟨by decide, q570, q571, q165⟩, List.forall_mem_cons.mpr ⟨⟨by decide, q741, q742, q173⟩, List.forall_mem_cons.mpr ⟨⟨by decide, q580, q581, q167⟩, List.forall_mem_cons.mpr ⟨⟨by decide, q767, q768, q174⟩, List.forall_mem_cons.mpr ⟨⟨by decide, q777, q778, q175⟩, List.forall_mem_cons.mpr ⟨⟨by decide, q787, q788, q176⟩, List.forall_mem_cons.mpr ⟨⟨by decide, q797, q798, q177⟩, fun _ h => absurd h List.not_mem_nil⟩⟩⟩⟩⟩⟩⟩⟩⟩⟩⟩⟩⟩⟩
theorem knl_4 : ∀ e ∈ knl 4, knOK 4 e.1 e.2 := List.forall_mem_cons.mpr ⟨⟨by decide, q389, q390, q156⟩, fun _ h => absurd h List.not_mem_nil⟩
theorem knl_6 : ∀ e ∈ knl 6, knOK 6 e.1 e.2 := List.forall_mem_cons.mpr ⟨⟨by decide, q811, q390, q156⟩, fun _ h => absurd h List.not_mem_nil⟩
theorem knl_34 : ∀ e ∈ knl 34, knOK 34 e.1 e.2 := List.forall_mem_cons.mpr ⟨⟨by decide, q182, q183, q147⟩, List.forall_mem_cons.mpr ⟨⟨by decide, q1451, q1452, q151⟩, fun _ h => absurd h List.not_mem_nil⟩⟩
theorem kn_ok {cm ix : Nat} {v : Nat × Nat} (h : kn cm ix = some v) : knOK cm ix v := by
  unfold kn at h
  obtain ⟨e, h1, h2⟩ := Option.map_eq_some_iff.mp h
  have h3 := List.mem_of_find?_eq_some h1
  have h4 : e.1 = ix := by simpa using List.find?_some h1
  obtain ⟨a, b⟩ := e
  cases h2; cases h4
  match cm, h3 with
  | 0, h3 => exact knl_0 _ h3
  | 3, h3 => exact knl_3 _ h3
  | 4, h3 => exact knl_4 _ h3
  | 6, h3 => exact knl_6 _ h3
  | 34, h3 => exact knl_34 _ h3
  | 1, h3 => cases h3
  | 2, h3 => cases h3
  | 5, h3 => cases h3
  | 7, h3 => cases h3
  | 8, h3 => cases h3
  | 9, h3 => cases h3
  | 10, h3 => cases h3
  | 11, h3 => cases h3
  | 12, h3 => cases h3
  | 13, h3 => cases h3
  | 14, h3 => cases h3
  | 15, h3 => cases h3
  | 16, h3 => cases h3
  | 17, h3 => cases h3
  | 18, h3 => cases h3
  | 19, h3 => cases h3
  | 20, h3 => cases h3
  | 21, h3 => cases h3
  | 22, h3 => cases h3
  | 23, h3 => cases h3
  | 24, h3 => cases h3
  | 25, h3 => cases h3
  | 26, h3 => cases h3
  | 27, h3 => cases h3
  | 28, h3 => cases h3
  | 29, h3 => cases h3
  | 30, h3 => cases h3
  | 31, h3 => cases h3
  | 32, h3 => cases h3
  | 33, h3 => cases h3
  | _ + 35, h3 => cases h3
/-- arrays of references: their kind -/
def kal (c : Nat) : List (Nat × Nat) := match c with
  | 1 => [(44, 6)]
  | 4 => [(7, 7)]
  | 17 => [(7, 8)]
  | 18 => [(2, 8)]
  | _ => []
def ka (c ix : Nat) : Option (Nat) := ((kal c).find? fun e => e.1 == ix).map fun e => e.2
theorem ka_1_44 : ka 1 44 = some (6) := by decide +kernel
theorem ka_4_7 : ka 4 7 = some (7) := by decide +kernel
theorem ka_17_7 : ka 17 7 = some (8) := by decide +kernel
theorem ka_18_2 : ka 18 2 = some (8) := by decide +kernel
def kaOK (cm ix : Nat) (v : Nat) : Prop := 6 ≤ v ∧ v < 9 ∧ ∃ C : String, aty v = .object C ∧ Jvm.Cond.classLink (cnm cm) ix C ∈ lw_all
theorem kal_1 : ∀ e ∈ kal 1, kaOK 1 e.1 e.2 := List.forall_mem_cons.mpr ⟨⟨by decide, by decide, _, rfl, q198⟩, fun _ h => absurd h List.not_mem_nil⟩
theorem kal_4 : ∀ e ∈ kal 4, kaOK 4 e.1 e.2 := List.forall_mem_cons.mpr ⟨⟨by decide, by decide, _, rfl, q387⟩, fun _ h => absurd h List.not_mem_nil⟩
theorem kal_17 : ∀ e ∈ kal 17, kaOK 17 e.1 e.2 := List.forall_mem_cons.mpr ⟨⟨by decide, by decide, _, rfl, q706⟩, fun _ h => absurd h List.not_mem_nil⟩
theorem kal_18 : ∀ e ∈ kal 18, kaOK 18 e.1 e.2 := List.forall_mem_cons.mpr ⟨⟨by decide, by decide, _, rfl, q702⟩, fun _ h => absurd h List.not_mem_nil⟩
theorem ka_ok {cm ix : Nat} {v : Nat} (h : ka cm ix = some v) : kaOK cm ix v := by
  unfold ka at h
  obtain ⟨e, h1, h2⟩ := Option.map_eq_some_iff.mp h
  have h3 := List.mem_of_find?_eq_some h1
  have h4 : e.1 = ix := by simpa using List.find?_some h1
  obtain ⟨a, b⟩ := e
  cases h2; cases h4
  match cm, h3 with
  | 1, h3 => exact kal_1 _ h3
  | 4, h3 => exact kal_4 _ h3
  | 17, h3 => exact kal_17 _ h3
  | 18, h3 => exact kal_18 _ h3
  | 0, h3 => cases h3
  | 2, h3 => cases h3
  | 3, h3 => cases h3
  | 5, h3 => cases h3
  | 6, h3 => cases h3
  | 7, h3 => cases h3
  | 8, h3 => cases h3
  | 9, h3 => cases h3
  | 10, h3 => cases h3
  | 11, h3 => cases h3
  | 12, h3 => cases h3
  | 13, h3 => cases h3
  | 14, h3 => cases h3
  | 15, h3 => cases h3
  | 16, h3 => cases h3
  | _ + 19, h3 => cases h3
/-- arrays of arrays -/
def kml (c : Nat) : List (Nat × Nat) := match c with
  | 0 => [(52, 5)]
  | 1 => [(36, 5)]
  | _ => []
def km (c ix : Nat) : Option (Nat) := ((kml c).find? fun e => e.1 == ix).map fun e => e.2
theorem km_0_52 : km 0 52 = some (5) := by decide +kernel
theorem km_1_36 : km 1 36 = some (5) := by decide +kernel
def kmOK (cm ix : Nat) (v : Nat) : Prop := v = 5 ∧ Jvm.Cond.classLink (cnm cm) ix "[[I" ∈ lw_all
theorem kml_0 : ∀ e ∈ kml 0, kmOK 0 e.1 e.2 := List.forall_mem_cons.mpr ⟨⟨rfl, q255⟩, fun _ h => absurd h List.not_mem_nil⟩
theorem kml_1 : ∀ e ∈ kml 1, kmOK 1 e.1 e.2 := List.forall_mem_cons.mpr ⟨⟨rfl, q196⟩, fun _ h => absurd h List.not_mem_nil⟩
theorem km_ok {cm ix : Nat} {v : Nat} (h : km cm ix = some v) : kmOK cm ix v := by
  unfold km at h
  obtain ⟨e, h1, h2⟩ := Option.map_eq_some_iff.mp h
  have h3 := List.mem_of_find?_eq_some h1
  have h4 : e.1 = ix := by simpa using List.find?_some h1
  obtain ⟨a, b⟩ := e
  cases h2; cases h4
  match cm, h3 with
  | 0, h3 => exact kml_0 _ h3
  | 1, h3 => exact kml_1 _ h3
  | _ + 2, h3 => cases h3
/-- statics: their number -/
def ksl (c : Nat) : List (Nat × Nat) := match c with
  | 0 => [(127, 0)]
  | 3 => [(32, 1), (173, 2)]
  | 17 => [(39, 3)]
  | _ => []
def ks (c ix : Nat) : Option (Nat) := ((ksl c).find? fun e => e.1 == ix).map fun e => e.2
theorem ks_0_127 : ks 0 127 = some (0) := by decide +kernel
theorem ks_3_32 : ks 3 32 = some (1) := by decide +kernel
theorem ks_3_173 : ks 3 173 = some (2) := by decide +kernel
theorem ks_17_39 : ks 17 39 = some (3) := by decide +kernel
def ksOK (cm ix : Nat) (v : Nat) : Prop := v < 4 ∧ Jvm.Cond.fieldLink (cnm cm) ix (stc v).1 (stc v).2.1 (stc v).2.2 ∈ lw_all
theorem ksl_0 : ∀ e ∈ ksl 0, ksOK 0 e.1 e.2 := List.forall_mem_cons.mpr ⟨⟨by decide, q925⟩, fun _ h => absurd h List.not_mem_nil⟩
theorem ksl_3 : ∀ e ∈ ksl 3, ksOK 3 e.1 e.2 := List.forall_mem_cons.mpr ⟨⟨by decide, q436⟩, List.forall_mem_cons.mpr ⟨⟨by decide, q761⟩, fun _ h => absurd h List.not_mem_nil⟩⟩
theorem ksl_17 : ∀ e ∈ ksl 17, ksOK 17 e.1 e.2 := List.forall_mem_cons.mpr ⟨⟨by decide, q401⟩, fun _ h => absurd h List.not_mem_nil⟩
theorem ks_ok {cm ix : Nat} {v : Nat} (h : ks cm ix = some v) : ksOK cm ix v := by
  unfold ks at h
  obtain ⟨e, h1, h2⟩ := Option.map_eq_some_iff.mp h
  have h3 := List.mem_of_find?_eq_some h1
  have h4 : e.1 = ix := by simpa using List.find?_some h1
  obtain ⟨a, b⟩ := e
  cases h2; cases h4
  match cm, h3 with
  | 0, h3 => exact ksl_0 _ h3
  | 3, h3 => exact ksl_3 _ h3
  | 17, h3 => exact ksl_17 _ h3
  | 1, h3 => cases h3
  | 2, h3 => cases h3
  | 4, h3 => cases h3
  | 5, h3 => cases h3
  | 6, h3 => cases h3
  | 7, h3 => cases h3
  | 8, h3 => cases h3
  | 9, h3 => cases h3
  | 10, h3 => cases h3
  | 11, h3 => cases h3
  | 12, h3 => cases h3
  | 13, h3 => cases h3
  | 14, h3 => cases h3
  | 15, h3 => cases h3
  | 16, h3 => cases h3
  | _ + 18, h3 => cases h3
/-- texts: the static number -/
def kxl (c : Nat) : List (Nat × Nat) := match c with
  | 3 => [(53, 5)]
  | _ => []
def kx (c ix : Nat) : Option (Nat) := ((kxl c).find? fun e => e.1 == ix).map fun e => e.2
theorem kx_3_53 : kx 3 53 = some (5) := by decide +kernel
/-- casts: 0 Sum, 1 Asked, 2 Doing, 3 Integer -/
def ktl (c : Nat) : List (Nat × Nat) := match c with
  | 0 => [(261, 2)]
  | 3 => [(133, 1)]
  | 6 => [(26, 3), (40, 0)]
  | 10 => [(27, 1)]
  | _ => []
def kt (c ix : Nat) : Option (Nat) := ((ktl c).find? fun e => e.1 == ix).map fun e => e.2
theorem kt_0_261 : kt 0 261 = some (2) := by decide +kernel
theorem kt_3_133 : kt 3 133 = some (1) := by decide +kernel
theorem kt_6_26 : kt 6 26 = some (3) := by decide +kernel
theorem kt_6_40 : kt 6 40 = some (0) := by decide +kernel
theorem kt_10_27 : kt 10 27 = some (1) := by decide +kernel
def tnm (t : Nat) : String := match t with
  | 0 => "DawnPerquisite$Sum"
  | 1 => "DawnPerquisite$Asked"
  | 2 => "DawnPerquisite$Doing"
  | _ => "java/lang/Integer"
def ktOK (cm ix : Nat) (v : Nat) : Prop := Jvm.Cond.classLink (cnm cm) ix (tnm v) ∈ lw_all
theorem ktl_0 : ∀ e ∈ ktl 0, ktOK 0 e.1 e.2 := List.forall_mem_cons.mpr ⟨q1139, fun _ h => absurd h List.not_mem_nil⟩
theorem ktl_3 : ∀ e ∈ ktl 3, ktOK 3 e.1 e.2 := List.forall_mem_cons.mpr ⟨q723, fun _ h => absurd h List.not_mem_nil⟩
theorem ktl_6 : ∀ e ∈ ktl 6, ktOK 6 e.1 e.2 := List.forall_mem_cons.mpr ⟨q1038, List.forall_mem_cons.mpr ⟨q1037, fun _ h => absurd h List.not_mem_nil⟩⟩
theorem ktl_10 : ∀ e ∈ ktl 10, ktOK 10 e.1 e.2 := List.forall_mem_cons.mpr ⟨q976, fun _ h => absurd h List.not_mem_nil⟩
theorem kt_ok {cm ix : Nat} {v : Nat} (h : kt cm ix = some v) : ktOK cm ix v := by
  unfold kt at h
  obtain ⟨e, h1, h2⟩ := Option.map_eq_some_iff.mp h
  have h3 := List.mem_of_find?_eq_some h1
  have h4 : e.1 = ix := by simpa using List.find?_some h1
  obtain ⟨a, b⟩ := e
  cases h2; cases h4
  match cm, h3 with
  | 0, h3 => exact ktl_0 _ h3
  | 3, h3 => exact ktl_3 _ h3
  | 6, h3 => exact ktl_6 _ h3
  | 10, h3 => exact ktl_10 _ h3
  | 1, h3 => cases h3
  | 2, h3 => cases h3
  | 4, h3 => cases h3
  | 5, h3 => cases h3
  | 7, h3 => cases h3
  | 8, h3 => cases h3
  | 9, h3 => cases h3
  | _ + 11, h3 => cases h3
/-- which kinds pass a cast -/
def isSum (κ : Nat) : Bool := κ == 16 || κ == 17 || κ == 21 || κ == 22 || κ == 23 || κ == 24 || κ == 25
def isAsk (κ : Nat) : Bool := κ == 18 || κ == 19 || κ == 20
def tok (t κ : Nat) : Bool := match t with
  | 0 => isSum κ
  | 1 => isAsk κ
  | 2 => κ == 26
  | _ => κ == 28
/-- which kinds an array of references takes -/
def aok (κ v : Nat) : Bool := match κ with
  | 6 => v == 14
  | 7 => isSum v
  | _ => isSum v || isAsk v || v == 26 || v == 28
end
section
/-! PART 07: fields, arrays, new cells: steps and why they hold -/
set_option maxRecDepth 100000
/-- what may be put into a field: a boolean's is 0 or 1 -/
def pfit (t : FieldType) (v : Value) : Bool := match t, v with
  | .int, .int _ => true
  | .boolean, .int x => x == 0 || x == 1
  | .long, .long _ => true
  | .object _, .ref _ => true
  | .object _, .null => true
  | .array _, .ref _ => true
  | .array _, .null => true
  | _, _ => false
def pw (m : Mem) (a k : Nat) (v : Value) : Mem := match v with
  | .int x => wI m a (up (mI m a) k x)
  | .long x => wL m a (up (mL m a) k x)
  | .ref x => wP m a (up (mP m a) k (some x))
  | _ => wP m a (up (mP m a) k none)
def inb (i : Int32) (n : Nat) : Bool := !(decide (i < 0) || decide (n ≤ i.toNatClampNeg))
theorem inb_ok {i : Int32} {n : Nat} (h : inb i n = true) : vp_in i n := by
  unfold inb at h
  unfold vp_in
  simpa using h
/-- reading fields and arrays -/
def gF (cm : Nat) (i : Instr) (pc : Nat) (ls st : List Value) (m : Mem) : Option Nx := match i with
  | .getfield ix => match fr cm ix with
    | some (c, k) => pA st fun a r => if (mK m a).1 = 10 + c then oN (pc + 3) ls (fv (ft c k) m a k :: r) m else none
    | none => none
  | .arraylength => pA st fun a r => if 1 ≤ (mK m a).1 ∧ (mK m a).1 < 10 then oN (pc + 1) ls (.int (Int32.ofNat (mK m a).2) :: r) m else none
  | .iaload => pI st fun i r => pA r fun a r => if (mK m a).1 = 1 then if inb i (mK m a).2 = true then oN (pc + 1) ls (.int (mI m a i.toNatClampNeg) :: r) m else none else none
  | .baload => pI st fun i r => pA r fun a r => if (mK m a).1 = 2 ∨ (mK m a).1 = 3 then if inb i (mK m a).2 = true then oN (pc + 1) ls (.int (mI m a i.toNatClampNeg) :: r) m else none else none
  | .laload => pI st fun i r => pA r fun a r => if (mK m a).1 = 4 then if inb i (mK m a).2 = true then oN (pc + 1) ls (.long (mL m a i.toNatClampNeg) :: r) m else none else none
  | .aaload => pI st fun i r => pA r fun a r => if 5 ≤ (mK m a).1 ∧ (mK m a).1 < 10 then if inb i (mK m a).2 = true then oN (pc + 1) ls (va_rf (mP m a i.toNatClampNeg) :: r) m else none else none
  | _ => none
/-- writing fields and arrays of this run's own -/
def gG (cm : Nat) (ini : Bool) (i : Instr) (pc : Nat) (ls st : List Value) (m : Mem) : Option Nx := match i with
  | .putfield ix => match fr cm ix with
    | some (c, k) => match st with
      | v :: .ref a :: r => if (mK m a).1 = 10 + c ∧ mB m ≤ a ∧ pfit (cTy c k) v = true ∧ ((cT c k).2.2.2 = true → ini = true ∧ (cT c k).1 = cnm cm ∧ mP m a k = none) then oN (pc + 3) ls r (pw m a k v) else none
      | _ => none
    | none => none
  | .iastore => pI st fun x r => pI r fun i r => pA r fun a r => if (mK m a).1 = 1 ∧ mB m ≤ a then if inb i (mK m a).2 = true then oN (pc + 1) ls r (wI m a (up (mI m a) i.toNatClampNeg x)) else none else none
  | .bastore => pI st fun x r => pI r fun i r => pA r fun a r => if (mK m a).1 = 2 ∧ mB m ≤ a then if inb i (mK m a).2 = true then oN (pc + 1) ls r (wI m a (up (mI m a) i.toNatClampNeg (vp_nar .byte x))) else none else
      if (mK m a).1 = 3 ∧ mB m ≤ a then if inb i (mK m a).2 = true then oN (pc + 1) ls r (wI m a (up (mI m a) i.toNatClampNeg (vp_nar .boolean x))) else none else none
  | .lastore => pL st fun x r => pI r fun i r => pA r fun a r => if (mK m a).1 = 4 ∧ mB m ≤ a then if inb i (mK m a).2 = true then oN (pc + 1) ls r (wL m a (up (mL m a) i.toNatClampNeg x)) else none else none
  | _ => none
theorem fieldType_eq {c k : Nat} (hc : c < 18) (hk : k < cN c) : parseFieldDescriptor (cT c k).2.2.1 = some (cTy c k) := cls_ty c hc k hk
theorem pfit_nar {t : FieldType} {v : Value} (h : pfit t v = true) : narrow t v = v ∧ fits t v = true := by
  unfold pfit at h
  (try dsimp only at h); split at h
  · exact ⟨rfl, rfl⟩
  · next x =>
    simp only [Bool.or_eq_true, beq_iff_eq] at h
    rcases h with rfl | rfl <;> exact ⟨rfl, rfl⟩
  · exact ⟨rfl, rfl⟩
  · exact ⟨rfl, rfl⟩
  · exact ⟨rfl, rfl⟩
  · exact ⟨rfl, rfl⟩
  · exact ⟨rfl, rfl⟩
  · cases h
/-- what a field holds behind a write -/
theorem fv_pw {t : FieldType} {v : Value} (h : pfit t v = true) (m : Mem) (a k : Nat) : fv (tc t) (pw m a k v) a k = v := by
  unfold pfit at h
  (try dsimp only at h); split at h
  · simp [tc, fv, pw, mI_wIs, up_s]
  · simp [tc, fv, pw, mI_wIs, up_s]
  · simp [tc, fv, pw, mL_wLs, up_s]
  · simp [tc, fv, pw, mP_wPs, up_s, va_rf]
  · simp [tc, fv, pw, mP_wPs, up_s, va_rf]
  · simp [tc, fv, pw, mP_wPs, up_s, va_rf]
  · simp [tc, fv, pw, mP_wPs, up_s, va_rf]
  · cases h
theorem fv_pw_ne {v : Value} (m : Mem) (a : Nat) {k j : Nat} (hj : j ≠ k) (t : Nat) : fv t (pw m a k v) a j = fv t m a j := by
  unfold pw
  cases v <;> (unfold fv; split <;> simp [mI_wIs, mL_wLs, mP_wPs, mI_wL, mI_wP, mL_wI, mL_wP, mP_wI, mP_wL, up_n hj])
theorem pw_1 (m : Mem) (a k : Nat) (v : Value) : (pw m a k v).1 = m.1 ∧ mT (pw m a k v) = mT m ∧ mK (pw m a k v) = mK m := by unfold pw; cases v <;> exact ⟨rfl, rfl, rfl⟩
theorem pw_ne (m : Mem) (a k : Nat) (v : Value) (b : Nat) (hb : b ≠ a) : mI (pw m a k v) b = mI m b ∧ mL (pw m a k v) b = mL m b ∧ mP (pw m a k v) b = mP m b := by
  unfold pw
  cases v <;> simp [mI_wI, mL_wL, mP_wP, mI_wL, mI_wP, mL_wI, mL_wP, mP_wI, mP_wL, hb]
section SndF
variable {p : Program} {l : Launch} {e : Env} {R : Room} {s : State} {mt : MethodId} {args : Array Value} {below : List Frame} {meth : Method} {c : Code} {Q : State → Prop} {cc : ByteArray} {D : va_G} {dA : Nat → ClassId} {n0 s0 nL pc pc' cm : Nat} {ls st ls' st' : List Value} {m m' : Mem} {i : Instr} {ini : Bool}
abbrev EE (D : va_G) (dA : Nat → ClassId) (s : State) : Mem → Heap → Prop := fun m H => Rep D dA m s H
theorem FOK.same {cm ix c k : Nat} {ref : String} (hts : ∀ w ∈ lw_all, w.before args s = true) (h : ref = (cT c k).1 ∨ Cond.sameField ref (cT c k).1 (cT c k).2.1 (cT c k).2.2.1 ∈ lw_all) : ∀ x, s.fieldFound? (cT c k).1 (cT c k).2.1 (cT c k).2.2.1 = some x → s.fieldFound? ref (cT c k).2.1 (cT c k).2.2.1 = some x := by
  intro x hx
  rcases h with rfl | h
  · exact hx
  · exact u_same (hts _ h) x hx
set_option maxHeartbeats 2000000 in
theorem gF_ok (hx : p.tables.exec = Jvm.exec) (hb : c.code = cc) (hts : ∀ w ∈ lw_all, w.before args s = true) (hK : KN D dA s) (hNF : NF s) (hown : s.vm.findClass (cnm cm) = some mt.cls) (hd : decode cc pc = .ok (i, iln i)) (h : gF cm i pc ls st m = some (pc', ls', st', m'))
    (k : WP p l e R s mt args below meth c Q (EE D dA s) n0 s0 nL pc' ls' st' m') : WP p l e R s mt args below meth c Q (EE D dA s) n0 s0 nL pc ls st m := by
  unfold gF at h
  (try dsimp only at h); split at h
  · split at h
    next ix c0 k0 hfr =>
      (try unfold pA at h); (try dsimp only at h); split at h
      next a r =>
        (try dsimp only at h); split at h
        next hk =>
          cases h
          obtain ⟨hc, hk0, ref, hlink, hsame⟩ := fr_ok hfr
          intro H locs la hE hS hl
          obtain ⟨cell, cf, kf, fi, f, q1, q2, q3, q4, q5⟩ := Rep.obj hts hK hE hc hk hk0
          rcases hlink with hl1 | ⟨host, hl1⟩
          · exact W.getf hx hb hown (hts _ hl1) (FOK.same hts hsame _ q3) q4 q1 q2 q5 rfl rfl hd (k H locs la hE hS hl)
          · exact va_Wgetf hx hb hown (va_Nw.use rfl (hNF _ hl1)) (FOK.same hts hsame _ q3) q4 q1 q2 q5 rfl rfl hd (k H locs la hE hS hl)
        next => cases h
      next => cases h
    next => cases h
  · (try unfold pA at h); (try dsimp only at h); split at h
    next a r =>
      (try dsimp only at h); split at h
      next hk =>
        cases h
        intro H locs la hE hS hl
        obtain ⟨cell, q1, q2, q3, q4, q5, q6⟩ := Rep.arr hK hE hk.1 hk.2
        exact W.alen hx hb q1 q2 q5 rfl rfl hd (k H locs la hE hS hl)
      next => cases h
    next => cases h
  · unfold pI at h; split at h
    next ii r =>
      (try unfold pA at h); (try dsimp only at h); split at h
      next a r =>
        (try dsimp only at h); split at h
        next hk =>
          (try dsimp only at h); split at h
          next hin =>
            cases h
            intro H locs la hE hS hl
            obtain ⟨cell, q1, q2, q3, q4, q5, q6⟩ := Rep.arr hK hE (a := a) (by omega) (by omega)
            rw [hk] at q2
            have hi := inb_ok hin
            have hlt := Nat.not_le.mp fun q => hi (Or.inr q)
            exact W.iald hx hb q1 q2 q3 (fun q => hi (q.imp id (fun z => Nat.le_trans q4 z))) (q6 _ hlt) rfl rfl hd (by
              have e : av m a ii.toNatClampNeg = .int (mI m a ii.toNatClampNeg) := by unfold av; rw [hk]; rfl
              rw [e]; exact k H locs la hE hS hl)
          next => cases h
        next => cases h
      next => cases h
    next => cases h
  · unfold pI at h; split at h
    next ii r =>
      (try unfold pA at h); (try dsimp only at h); split at h
      next a r =>
        (try dsimp only at h); split at h
        next hk =>
          (try dsimp only at h); split at h
          next hin =>
            cases h
            intro H locs la hE hS hl
            obtain ⟨cell, q1, q2, q3, q4, q5, q6⟩ := Rep.arr hK hE (a := a) (by omega) (by omega)
            have hi := inb_ok hin
            have hlt := Nat.not_le.mp fun q => hi (Or.inr q)
            have e : av m a ii.toNatClampNeg = .int (mI m a ii.toNatClampNeg) := by unfold av; rcases hk with hk | hk <;> (rw [hk]; rfl)
            have q7 := q6 _ hlt
            rw [e] at q7
            rcases hk with hk | hk
            · rw [hk] at q2
              exact W.bald hx hb q1 q2 q3 (fun q => hi (q.imp id (fun z => Nat.le_trans q4 z))) q7 rfl rfl hd (k H locs la hE hS hl)
            · rw [hk] at q2
              exact W.zald hx hb q1 q2 q3 (fun q => hi (q.imp id (fun z => Nat.le_trans q4 z))) q7 rfl rfl hd (k H locs la hE hS hl)
          next => cases h
        next => cases h
      next => cases h
    next => cases h
  · unfold pI at h; split at h
    next ii r =>
      (try unfold pA at h); (try dsimp only at h); split at h
      next a r =>
        (try dsimp only at h); split at h
        next hk =>
          (try dsimp only at h); split at h
          next hin =>
            cases h
            intro H locs la hE hS hl
            obtain ⟨cell, q1, q2, q3, q4, q5, q6⟩ := Rep.arr hK hE (a := a) (by omega) (by omega)
            rw [hk] at q2
            have hi := inb_ok hin
            have hlt := Nat.not_le.mp fun q => hi (Or.inr q)
            have e : av m a ii.toNatClampNeg = .long (mL m a ii.toNatClampNeg) := by unfold av; rw [hk]; rfl
            have q7 := q6 _ hlt
            rw [e] at q7
            exact W.lald hx hb q1 q2 q3 (fun q => hi (q.imp id (fun z => Nat.le_trans q4 z))) q7 rfl rfl hd (k H locs la hE hS hl)
          next => cases h
        next => cases h
      next => cases h
    next => cases h
  · unfold pI at h; split at h
    next ii r =>
      (try unfold pA at h); (try dsimp only at h); split at h
      next a r =>
        (try dsimp only at h); split at h
        next hk =>
          (try dsimp only at h); split at h
          next hin =>
            cases h
            intro H locs la hE hS hl
            obtain ⟨cell, q1, q2, q3, q4, q5, q6⟩ := Rep.arr hK hE (a := a) (by omega) (by omega)
            have hi := inb_ok hin
            have hlt := Nat.not_le.mp fun q => hi (Or.inr q)
            have hr : (aty (mK m a).1).isReference = true ∧ av m a ii.toNatClampNeg = va_rf (mP m a ii.toNatClampNeg) := by
              unfold av
              obtain ⟨h5, h10⟩ := hk
              rcases (by omega : (mK m a).1 = 5 ∨ (mK m a).1 = 6 ∨ (mK m a).1 = 7 ∨ (mK m a).1 = 8 ∨ (mK m a).1 = 9) with z | z | z | z | z <;> (rw [z]; exact ⟨rfl, rfl⟩)
            have q7 := q6 _ hlt
            rw [hr.2] at q7
            exact W.aald hx hb q1 q2 hr.1 q3 (fun q => hi (q.imp id (fun z => Nat.le_trans q4 z))) q7 rfl rfl hd (k H locs la hE hS hl)
          next => cases h
        next => cases h
      next => cases h
    next => cases h
  · cases h
/-- an own array's cell -/
theorem Rep.own {H : Heap} (hK : KN D dA s) (h : Rep D dA m s H) {a : Nat} (hk : 1 ≤ (mK m a).1) (hk2 : (mK m a).1 < 10) (ha : mB m ≤ a) : H[a]? = some (arrV (dA (mK m a).1) (mK m a).2 (av m a)) ∧ s.isArrayOf (arrV (dA (mK m a).1) (mK m a).2 (av m a)) (aty (mK m a).1) :=
  ⟨(h.1.2.2.2 a ha (h.1.lt hk)).2.2.1 hk2, (hK.2 _ hk hk2).1 _ _⟩
/-- one place of an own array is written -/
theorem Rep.putA {H H1 : Heap} {a k : Nat} {v : Value} (h : Rep D dA m s H) (ha : mB m ≤ a) (hk2 : (mK m a).1 < 10) (e1 : H1[a]? = some ((arrV (dA (mK m a).1) (mK m a).2 (av m a)).setSlot k v)) (e2 : H1.size = H.size) (e3 : ∀ q : Nat, q ≠ a → H1[q]? = H[q]?)
    (hv : fv (aq (mK m a).1) (pw m a k v) a k = v) : Rep D dA (pw m a k v) s H1 := by
  obtain ⟨p1, p2, p3⟩ := pw_1 m a k v
  refine h.put ha e2 e3 p1 p2 p3 (pw_ne m a k v) fun _ => ⟨fun _ => ?_, fun z => absurd z (by rw [p3]; omega)⟩
  rw [e1, arrV_store, p3]
  congr 2
  funext j
  unfold updV
  by_cases hj : j = k
  · subst hj
    rw [if_pos rfl]
    show v = fv (aq (mK (pw m a j v) a).1) (pw m a j v) a j
    rw [p3]
    exact hv.symm
  · rw [if_neg hj]
    show fv (aq (mK m a).1) m a j = fv (aq (mK (pw m a k v) a).1) (pw m a k v) a j
    rw [p3, fv_pw_ne m a hj]
/-- a field of an own object is written -/
theorem Rep.putO {H H1 : Heap} {a k c0 : Nat} {v : Value} {cell : Cell} (hts : ∀ w ∈ lw_all, w.before args s = true) (hK : KN D dA s) (h : Rep D dA m s H) (ha : mB m ≤ a) (hk : (mK m a).1 = 10 + c0) (hc : c0 < 18) (hkc : k < cN c0) (hpf : pfit (cTy c0 k) v = true)
    (q0 : H[a]? = some cell) (q2 : cell.cls = D.1 c0) (q3 : cell.vm = .none) (q4 : ∀ j, j < cN c0 → cell.slots[D.2 c0 j]? = some (ov m a j)) (e1 : H1[a]? = some (cell.setSlot (D.2 c0 k) v)) (e2 : H1.size = H.size) (e3 : ∀ q : Nat, q ≠ a → H1[q]? = H[q]?) : Rep D dA (pw m a k v) s H1 := by
  obtain ⟨p1, p2, p3⟩ := pw_1 m a k v
  have hap : ∀ x y, x < cN c0 → y < cN c0 → x ≠ y → D.2 c0 x ≠ D.2 c0 y := by
    intro x y hx hy hne
    obtain ⟨hS, -⟩ := hK.1 c0 hc
    obtain ⟨_, _, _, fa, hia, ea⟩ := hS x hx
    obtain ⟨_, _, _, fb, hib, eb⟩ := hS y hy
    rw [← ea, ← eb]
    refine u_apart (u_lays hts (cls_in c0 hc) hx) (u_lays hts (cls_in c0 hc) hy) hia hib ?_
    rw [(State.fieldFound?_type hia (cls_ty c0 hc x hx)).1, (State.fieldFound?_type hib (cls_ty c0 hc y hy)).1]
    exact cls_nm c0 hc x hx y hy hne
  refine h.put ha e2 e3 p1 p2 p3 (pw_ne m a k v) fun _ => ⟨fun z => absurd z (by rw [p3]; omega), fun _ => ?_⟩
  rw [p3, hk, Nat.add_sub_cancel_left]
  refine t_OB.to (V := updV (ov m a) k v) ⟨_, e1, q2, q3, t_set q4 hap hkc v⟩ (fun j hj => ?_)
  unfold updV
  by_cases hjk : j = k
  · subst hjk
    rw [if_pos rfl]
    show v = fv (ft ((mK (pw m a j v) a).1 - 10) j) (pw m a j v) a j
    rw [p3, hk, Nat.add_sub_cancel_left]
    exact (fv_pw hpf m a j).symm
  · rw [if_neg hjk]
    show fv (ft ((mK m a).1 - 10) j) m a j = fv (ft ((mK (pw m a k v) a).1 - 10) j) (pw m a k v) a j
    rw [p3, fv_pw_ne m a hjk]
theorem mN_pw {a k : Nat} {v : Value} : mN (pw m a k v) = mN m := by unfold mN; rw [(pw_1 m a k v).1]
theorem mS_pw {a k : Nat} {v : Value} : mS (pw m a k v) = mS m := by unfold mS; rw [(pw_1 m a k v).1]
theorem mB_pw {a k : Nat} {v : Value} : mB (pw m a k v) = mB m := by unfold mB; rw [(pw_1 m a k v).1]
theorem vp_nar_b (x : Int32) : narrow .byte (.int x) = .int (vp_nar .byte x) := rfl
theorem vp_nar_z (x : Int32) : narrow .boolean (.int x) = .int (vp_nar .boolean x) := by
  unfold vp_nar
  cases h : narrow .boolean (.int x) with
  | int y => rfl
  | _ => simp [narrow] at h
set_option maxHeartbeats 4000000 in
theorem gG_ok (hx : p.tables.exec = Jvm.exec) (hb : c.code = cc) (hts : ∀ w ∈ lw_all, w.before args s = true) (hK : KN D dA s) (hNF : NF s) (hown : s.vm.findClass (cnm cm) = some mt.cls) (hini : ini = true → meth.name = "<init>") (hd : decode cc pc = .ok (i, iln i)) (h : gG cm ini i pc ls st m = some (pc', ls', st', m'))
    (k : WP p l e R s mt args below meth c Q (EE D dA s) n0 s0 nL pc' ls' st' m') : WP p l e R s mt args below meth c Q (EE D dA s) n0 s0 nL pc ls st m := by
  unfold gG at h
  (try dsimp only at h); split at h
  · split at h
    next ix c0 k0 hfr =>
      (try dsimp only at h); split at h
      next v a r =>
        (try dsimp only at h); split at h
        next hcond =>
          obtain ⟨hk, ha, hpf, hfin⟩ := hcond
          cases h
          obtain ⟨hc, hk0, ref, hlink, hsame⟩ := fr_ok hfr
          intro H locs la hE hS hl
          have hcel := (hE.1.2.2.2 a ha (hE.1.lt (a := a) (by omega))).2.2.2 (by omega)
          rw [hk, Nat.add_sub_cancel_left] at hcel
          obtain ⟨cell, q1, q2, q3, q4⟩ := hcel
          obtain ⟨hSl, hfc, kC, hkC, hkind⟩ := hK.1 c0 hc
          obtain ⟨cf, kf, fi, f, hi, hsl⟩ := hSl k0 hk0
          have hlay := hts _ (cls_in c0 hc _ (u_in_lay hk0))
          have hst := (u_facts hfc hkC (u_lays hts (cls_in c0 hc) hk0) hi).1
          obtain ⟨hn, hf⟩ := pfit_nar hpf
          have go : ∀ H1 : Heap, H1[a]? = some (cell.setSlot f.slot v) → H1.size = H.size → (∀ q, q ≠ a → H1[q]? = H[q]?) → W p l e R s mt args below meth c H1 (locs ++ [⟨a, f.slot⟩]) (mN m - n0) (mS m - s0) Q (F0 mt (pc + 3) la r) := by
            intro H1 e1 e2 e3
            rw [hsl] at e1 ⊢
            have hE1 : Rep D dA (pw m a k0 v) s H1 := Rep.putO hts hK hE ha hk hc hk0 hpf q1 q2 q3 q4 e1 e2 e3
            have h9 := k H1 (locs ++ [⟨a, D.2 c0 k0⟩]) la hE1 (by
              show va_S (fun q => mB (pw m a k0 v) ≤ q) _ _ _
              rw [mB_pw]
              exact hS.put e2 e3 ha) hl
            rw [mN_pw, mS_pw] at h9
            exact h9
          have hslot : f.slot < cell.slots.size := by rw [hsl]; exact k2_hasslot (q4 k0 hk0)
          unfold u_lay at hlay
          cases hff : (cT c0 k0).2.2.2 with
          | false =>
            rw [if_neg (by rw [hff]; decide)] at hlay
            have h6 := u_store hfc hkC hkind hlay hi (cls_ty c0 hc k0 hk0) hn hf
            rcases hlink with hl1 | ⟨host, hl1⟩
            · exact W.putK hx hb (f := f) ⟨hown, hts _ hl1, ⟨_, _, _, FOK.same hts hsame _ hi⟩, hst⟩ (by rw [q2]; exact h6) q1 q3 hslot rfl rfl hd go
            · exact va_WputK hx hb (f := f) hown (va_Nw.use rfl (hNF _ hl1)) (FOK.same hts hsame _ hi) hst (by rw [q2]; exact h6) q1 q3 hslot rfl rfl hd go
          | true =>
            rw [if_pos hff] at hlay
            obtain ⟨hi1, hdecl, -⟩ := hfin hff
            have hcf : mt.cls = cf := by
              obtain ⟨_, _, c', _, _, _, -, -, hf', -, -, -, hown2, -⟩ := Cond.laysFinal_spec hlay
              have e1 : c' = cf := by have := hi.symm.trans hf'; simp at this; exact this.1.symm
              rw [hdecl] at hown2
              rw [← e1]; exact Option.some.inj (hown.symm.trans hown2)
            have h6 := u_fits hfc hkC hkind (Or.inr hlay) hi (cls_ty c0 hc k0 hk0) hn hf
            rcases hlink with hl1 | ⟨host, hl1⟩
            · exact W.putFinK hx hb hown (hts _ hl1) (FOK.same hts hsame _ hi) hst hcf (hini hi1) (by rw [q2]; exact h6) q1 q3 hslot rfl rfl hd go
            · refine va_Wputf hx hb hown (va_Nw.use rfl (hNF _ hl1)) (FOK.same hts hsame _ hi) hst (Or.inr ⟨hcf, hini hi1⟩) q1 (by rw [q3]; exact fun z => by cases z) hslot h6.1 (by rw [q3, q2]; exact h6.2) rfl rfl hd ?_
              have hal : a < H.size := (Array.getElem?_eq_some_iff.mp q1).1
              exact go _ (by simp [Array.getElem?_setIfInBounds, hal]) (by simp) (fun q hq => by simp [Array.getElem?_setIfInBounds, Ne.symm hq])
        next => cases h
      next => cases h
    next => cases h
  · unfold pI at h; split at h
    next x r =>
      (try unfold pI at h); (try dsimp only at h); split at h
      next ii r =>
        (try unfold pA at h); (try dsimp only at h); split at h
        next a r =>
          (try dsimp only at h); split at h
          next hk =>
            (try dsimp only at h); split at h
            next hin =>
              cases h
              intro H locs la hE hS hl
              obtain ⟨q1, q2⟩ := Rep.own hK hE (a := a) (by omega) (by omega) hk.2
              have hi := inb_ok hin
              rw [show aty (mK m a).1 = .int by rw [hk.1]; rfl] at q2
              refine W.iast hx hb q1 q2 (fun q => by cases q) (by show ¬ (ii < 0 ∨ (arrV _ _ _).slots.size ≤ _); rw [arrV_size]; exact hi) rfl rfl hd fun H1 e1 e2 e3 => ?_
              exact k H1 _ la (Rep.putA hE hk.2 (by omega) e1 e2 e3 (by rw [hk.1]; simp [aq, aty, tc, fv, pw, mI_wIs, up_s])) (hS.put e2 e3 hk.2) hl
            next => cases h
          next => cases h
        next => cases h
      next => cases h
    next => cases h
  · unfold pI at h; split at h
    next x r =>
      (try unfold pI at h); (try dsimp only at h); split at h
      next ii r =>
        (try unfold pA at h); (try dsimp only at h); split at h
        next a r =>
          (try dsimp only at h); split at h
          next hk =>
            (try dsimp only at h); split at h
            next hin =>
              cases h
              intro H locs la hE hS hl
              obtain ⟨q1, q2⟩ := Rep.own hK hE (a := a) (by omega) (by omega) hk.2
              have hi := inb_ok hin
              rw [show aty (mK m a).1 = .byte by rw [hk.1]; rfl] at q2
              refine W.bast hx hb q1 q2 (fun q => by cases q) (by show ¬ (ii < 0 ∨ (arrV _ _ _).slots.size ≤ _); rw [arrV_size]; exact hi) rfl rfl hd fun H1 e1 e2 e3 => ?_
              rw [vp_nar_b] at e1
              exact k H1 _ la (Rep.putA hE hk.2 (by omega) e1 e2 e3 (by rw [hk.1]; simp [aq, aty, tc, fv, pw, mI_wIs, up_s])) (hS.put e2 e3 hk.2) hl
            next => cases h
          next =>
            (try dsimp only at h); split at h
            next hk =>
              (try dsimp only at h); split at h
              next hin =>
                cases h
                intro H locs la hE hS hl
                obtain ⟨q1, q2⟩ := Rep.own hK hE (a := a) (by omega) (by omega) hk.2
                have hi := inb_ok hin
                rw [show aty (mK m a).1 = .boolean by rw [hk.1]; rfl] at q2
                refine W.zast hx hb q1 q2 (fun q => by cases q) (by show ¬ (ii < 0 ∨ (arrV _ _ _).slots.size ≤ _); rw [arrV_size]; exact hi) rfl rfl hd fun H1 e1 e2 e3 => ?_
                rw [vp_nar_z] at e1
                exact k H1 _ la (Rep.putA hE hk.2 (by omega) e1 e2 e3 (by rw [hk.1]; simp [aq, aty, tc, fv, pw, mI_wIs, up_s])) (hS.put e2 e3 hk.2) hl
              next => cases h
            next => cases h
        next => cases h
      next => cases h
    next => cases h
  · unfold pL at h; split at h
    next x r =>
      unfold pI at h; split at h
      next ii r =>
        (try unfold pA at h); (try dsimp only at h); split at h
        next a r =>
          (try dsimp only at h); split at h
          next hk =>
            (try dsimp only at h); split at h
            next hin =>
              cases h
              intro H locs la hE hS hl
              obtain ⟨q1, q2⟩ := Rep.own hK hE (a := a) (by omega) (by omega) hk.2
              have hi := inb_ok hin
              rw [show aty (mK m a).1 = .long by rw [hk.1]; rfl] at q2
              refine W.last hx hb q1 q2 (fun q => by cases q) (by show ¬ (ii < 0 ∨ (arrV _ _ _).slots.size ≤ _); rw [arrV_size]; exact hi) rfl rfl hd fun H1 e1 e2 e3 => ?_
              exact k H1 _ la (Rep.putA hE hk.2 (by omega) e1 e2 e3 (by rw [hk.1]; simp [aq, aty, tc, fv, pw, mL_wLs, up_s])) (hS.put e2 e3 hk.2) hl
            next => cases h
          next => cases h
        next => cases h
      next => cases h
    next => cases h
  · cases h
end SndF
end
