/-! PART 01: the tables' words, the classes (names by the kit's own lists) -/
set_option maxRecDepth 100000
/-- a private method of a class that the tables say can be made, by its rows of tables_1 -/
def lw_okq (q : MethodName × Nat) : Prop := (q.1.cls ≠ "java/lang/invoke/MethodHandle" ∧ q.1.cls ≠ "java/lang/invoke/VarHandle") ∧ Cond.instantiable q.1.cls q.2 ∈ tables_1 ∧ Cond.privateMethod q.1 ∈ tables_1 ∧ Cond.instanceMethod q.1 ∈ tables_1
set_option maxRecDepth 100000
theorem lw_t1 {w : Cond} (h : w ∈ tables_1_1) : w ∈ tables_1 := List.mem_append_left _ h
theorem lw_t2 {w : Cond} (h : w ∈ tables_1_2) : w ∈ tables_1 := List.mem_append_right _ (List.mem_append_left _ h)
theorem lw_t3 {w : Cond} (h : w ∈ tables_1_3) : w ∈ tables_1 := List.mem_append_right _ (List.mem_append_right _ (List.mem_append_left _ h))
theorem lw_t4 {w : Cond} (h : w ∈ tables_1_4) : w ∈ tables_1 := List.mem_append_right _ (List.mem_append_right _ (List.mem_append_right _ (List.mem_append_left _ h)))
theorem lw_t5 {w : Cond} (h : w ∈ tables_1_5) : w ∈ tables_1 := List.mem_append_right _ (List.mem_append_right _ (List.mem_append_right _ (List.mem_append_right _ (List.mem_append_left _ h))))
theorem lw_t6 {w : Cond} (h : w ∈ tables_1_6) : w ∈ tables_1 := List.mem_append_right _ (List.mem_append_right _ (List.mem_append_right _ (List.mem_append_right _ (List.mem_append_right _ (List.mem_append_left _ h)))))
theorem lw_t7 {w : Cond} (h : w ∈ tables_1_7) : w ∈ tables_1 := List.mem_append_right _ (List.mem_append_right _ (List.mem_append_right _ (List.mem_append_right _ (List.mem_append_right _ (List.mem_append_right _ (List.mem_append_left _ h))))))
theorem lw_t8 {w : Cond} (h : w ∈ tables_1_8) : w ∈ tables_1 := List.mem_append_right _ (List.mem_append_right _ (List.mem_append_right _ (List.mem_append_right _ (List.mem_append_right _ (List.mem_append_right _ (List.mem_append_right _ (List.mem_append_left _ h)))))))
theorem lw_t9 {w : Cond} (h : w ∈ tables_1_9) : w ∈ tables_1 := List.mem_append_right _ (List.mem_append_right _ (List.mem_append_right _ (List.mem_append_right _ (List.mem_append_right _ (List.mem_append_right _ (List.mem_append_right _ (List.mem_append_right _ h)))))))
theorem lw_p0 : lw_okq (⟨"DawnPerquisite", "buyers", "()I"⟩, 11) := ⟨⟨by decide +kernel, by decide +kernel⟩, lw_t1 (List.mem_of_getElem? (i := 37) rfl), lw_t1 (List.mem_of_getElem? (i := 173) rfl), lw_t1 (List.mem_of_getElem? (i := 174) rfl)⟩
theorem lw_p1 : lw_okq (⟨"DawnPerquisite", "put", "(I)V"⟩, 11) := ⟨⟨by decide +kernel, by decide +kernel⟩, lw_t1 (List.mem_of_getElem? (i := 37) rfl), lw_t1 (List.mem_of_getElem? (i := 188) rfl), lw_t1 (List.mem_of_getElem? (i := 189) rfl)⟩
theorem lw_p2 : lw_okq (⟨"DawnPerquisite$Tokens", "next", "()V"⟩, 8) := ⟨⟨by decide +kernel, by decide +kernel⟩, lw_t1 (List.mem_of_getElem? (i := 201) rfl), lw_t2 (List.mem_of_getElem? (i := 44) rfl), lw_t2 (List.mem_of_getElem? (i := 45) rfl)⟩
theorem lw_p3 : lw_okq (⟨"DawnPerquisite$Tokens", "isWord", "(Ljava/lang/String;)Z"⟩, 8) := ⟨⟨by decide +kernel, by decide +kernel⟩, lw_t1 (List.mem_of_getElem? (i := 201) rfl), lw_t2 (List.mem_of_getElem? (i := 53) rfl), lw_t2 (List.mem_of_getElem? (i := 54) rfl)⟩
theorem lw_p4 : lw_okq (⟨"DawnPerquisite$Tokens", "wrong", "(I)LDawnPerquisite$Wrong;"⟩, 8) := ⟨⟨by decide +kernel, by decide +kernel⟩, lw_t1 (List.mem_of_getElem? (i := 201) rfl), lw_t2 (List.mem_of_getElem? (i := 113) rfl), lw_t2 (List.mem_of_getElem? (i := 114) rfl)⟩
theorem lw_p5 : lw_okq (⟨"java/lang/Throwable", "fillInStackTrace", "(I)Ljava/lang/Throwable;"⟩, 6) := ⟨⟨by decide +kernel, by decide +kernel⟩, lw_t2 (List.mem_of_getElem? (i := 151) rfl), lw_t2 (List.mem_of_getElem? (i := 149) rfl), lw_t2 (List.mem_of_getElem? (i := 150) rfl)⟩
theorem lw_p6 : lw_okq (⟨"DawnPerquisite$Tokens", "sum", "()LDawnPerquisite$Sum;"⟩, 8) := ⟨⟨by decide +kernel, by decide +kernel⟩, lw_t1 (List.mem_of_getElem? (i := 201) rfl), lw_t2 (List.mem_of_getElem? (i := 181) rfl), lw_t2 (List.mem_of_getElem? (i := 182) rfl)⟩
theorem lw_p7 : lw_okq (⟨"DawnPerquisite$Tokens", "product", "()LDawnPerquisite$Sum;"⟩, 8) := ⟨⟨by decide +kernel, by decide +kernel⟩, lw_t1 (List.mem_of_getElem? (i := 201) rfl), lw_t2 (List.mem_of_getElem? (i := 187) rfl), lw_t2 (List.mem_of_getElem? (i := 188) rfl)⟩
theorem lw_p8 : lw_okq (⟨"DawnPerquisite$Tokens", "one", "()LDawnPerquisite$Sum;"⟩, 8) := ⟨⟨by decide +kernel, by decide +kernel⟩, lw_t1 (List.mem_of_getElem? (i := 201) rfl), lw_t2 (List.mem_of_getElem? (i := 191) rfl), lw_t2 (List.mem_of_getElem? (i := 192) rfl)⟩
theorem lw_p9 : lw_okq (⟨"DawnPerquisite$Tokens", "number", "(II)I"⟩, 8) := ⟨⟨by decide +kernel, by decide +kernel⟩, lw_t1 (List.mem_of_getElem? (i := 201) rfl), lw_t2 (List.mem_of_getElem? (i := 197) rfl), lw_t2 (List.mem_of_getElem? (i := 198) rfl)⟩
theorem lw_p10 : lw_okq (⟨"DawnPerquisite$Tokens", "choice", "()LDawnPerquisite$Sum;"⟩, 8) := ⟨⟨by decide +kernel, by decide +kernel⟩, lw_t1 (List.mem_of_getElem? (i := 201) rfl), lw_t2 (List.mem_of_getElem? (i := 212) rfl), lw_t2 (List.mem_of_getElem? (i := 213) rfl)⟩
theorem lw_p11 : lw_okq (⟨"DawnPerquisite$Tokens", "opens", "()V"⟩, 8) := ⟨⟨by decide +kernel, by decide +kernel⟩, lw_t1 (List.mem_of_getElem? (i := 201) rfl), lw_t2 (List.mem_of_getElem? (i := 216) rfl), lw_t2 (List.mem_of_getElem? (i := 217) rfl)⟩
theorem lw_p12 : lw_okq (⟨"DawnPerquisite$Tokens", "either", "()LDawnPerquisite$Asked;"⟩, 8) := ⟨⟨by decide +kernel, by decide +kernel⟩, lw_t1 (List.mem_of_getElem? (i := 201) rfl), lw_t2 (List.mem_of_getElem? (i := 220) rfl), lw_t2 (List.mem_of_getElem? (i := 221) rfl)⟩
theorem lw_p13 : lw_okq (⟨"DawnPerquisite$Tokens", "both", "()LDawnPerquisite$Asked;"⟩, 8) := ⟨⟨by decide +kernel, by decide +kernel⟩, lw_t1 (List.mem_of_getElem? (i := 201) rfl), lw_t2 (List.mem_of_getElem? (i := 226) rfl), lw_t2 (List.mem_of_getElem? (i := 227) rfl)⟩
theorem lw_p14 : lw_okq (⟨"DawnPerquisite$Tokens", "ask", "()LDawnPerquisite$Asked;"⟩, 8) := ⟨⟨by decide +kernel, by decide +kernel⟩, lw_t1 (List.mem_of_getElem? (i := 201) rfl), lw_t2 (List.mem_of_getElem? (i := 230) rfl), lw_t2 (List.mem_of_getElem? (i := 231) rfl)⟩
theorem lw_p15 : lw_okq (⟨"java/util/ArrayList", "add", "(Ljava/lang/Object;[Ljava/lang/Object;I)V"⟩, 3) := ⟨⟨by decide +kernel, by decide +kernel⟩, lw_t2 (List.mem_of_getElem? (i := 4) rfl), lw_t3 (List.mem_of_getElem? (i := 24) rfl), lw_t3 (List.mem_of_getElem? (i := 25) rfl)⟩
def lw_privs_1 : List (MethodName × Nat) := [(⟨"DawnPerquisite", "buyers", "()I"⟩, 11), (⟨"DawnPerquisite", "put", "(I)V"⟩, 11), (⟨"DawnPerquisite$Tokens", "next", "()V"⟩, 8), (⟨"DawnPerquisite$Tokens", "isWord", "(Ljava/lang/String;)Z"⟩, 8), (⟨"DawnPerquisite$Tokens", "wrong", "(I)LDawnPerquisite$Wrong;"⟩, 8), (⟨"java/lang/Throwable", "fillInStackTrace", "(I)Ljava/lang/Throwable;"⟩, 6), (⟨"DawnPerquisite$Tokens", "sum", "()LDawnPerquisite$Sum;"⟩, 8), (⟨"DawnPerquisite$Tokens", "product", "()LDawnPerquisite$Sum;"⟩, 8), (⟨"DawnPerquisite$Tokens", "one", "()LDawnPerquisite$Sum;"⟩, 8), (⟨"DawnPerquisite$Tokens", "number", "(II)I"⟩, 8), (⟨"DawnPerquisite$Tokens", "choice", "()LDawnPerquisite$Sum;"⟩, 8), (⟨"DawnPerquisite$Tokens", "opens", "()V"⟩, 8), (⟨"DawnPerquisite$Tokens", "either", "()LDawnPerquisite$Asked;"⟩, 8), (⟨"DawnPerquisite$Tokens", "both", "()LDawnPerquisite$Asked;"⟩, 8), (⟨"DawnPerquisite$Tokens", "ask", "()LDawnPerquisite$Asked;"⟩, 8), (⟨"java/util/ArrayList", "add", "(Ljava/lang/Object;[Ljava/lang/Object;I)V"⟩, 3)]
theorem lw_r1 : ∀ q ∈ lw_privs_1, lw_okq q := List.forall_mem_cons.mpr ⟨lw_p0, List.forall_mem_cons.mpr ⟨lw_p1, List.forall_mem_cons.mpr ⟨lw_p2, List.forall_mem_cons.mpr ⟨lw_p3, List.forall_mem_cons.mpr ⟨lw_p4, List.forall_mem_cons.mpr ⟨lw_p5, List.forall_mem_cons.mpr ⟨lw_p6, List.forall_mem_cons.mpr ⟨lw_p7, List.forall_mem_cons.mpr ⟨lw_p8, List.forall_mem_cons.mpr ⟨lw_p9, List.forall_mem_cons.mpr ⟨lw_p10, List.forall_mem_cons.mpr ⟨lw_p11, List.forall_mem_cons.mpr ⟨lw_p12, List.forall_mem_cons.mpr ⟨lw_p13, List.forall_mem_cons.mpr ⟨lw_p14, List.forall_mem_cons.mpr ⟨lw_p15, fun _ h => absurd h List.not_mem_nil⟩⟩⟩⟩⟩⟩⟩⟩⟩⟩⟩⟩⟩⟩⟩⟩
theorem lw_p16 : lw_okq (⟨"java/util/ArrayList", "grow", "()[Ljava/lang/Object;"⟩, 3) := ⟨⟨by decide +kernel, by decide +kernel⟩, lw_t2 (List.mem_of_getElem? (i := 4) rfl), lw_t3 (List.mem_of_getElem? (i := 28) rfl), lw_t3 (List.mem_of_getElem? (i := 29) rfl)⟩
theorem lw_p17 : lw_okq (⟨"java/util/ArrayList", "grow", "(I)[Ljava/lang/Object;"⟩, 3) := ⟨⟨by decide +kernel, by decide +kernel⟩, lw_t2 (List.mem_of_getElem? (i := 4) rfl), lw_t3 (List.mem_of_getElem? (i := 32) rfl), lw_t3 (List.mem_of_getElem? (i := 33) rfl)⟩
theorem lw_p18 : lw_okq (⟨"DawnPerquisite$Tokens", "want", "(I)V"⟩, 8) := ⟨⟨by decide +kernel, by decide +kernel⟩, lw_t1 (List.mem_of_getElem? (i := 201) rfl), lw_t3 (List.mem_of_getElem? (i := 112) rfl), lw_t3 (List.mem_of_getElem? (i := 113) rfl)⟩
theorem lw_p19 : lw_okq (⟨"DawnPerquisite$Tokens", "nameNow", "()I"⟩, 8) := ⟨⟨by decide +kernel, by decide +kernel⟩, lw_t1 (List.mem_of_getElem? (i := 201) rfl), lw_t3 (List.mem_of_getElem? (i := 132) rfl), lw_t3 (List.mem_of_getElem? (i := 133) rfl)⟩
theorem lw_p20 : lw_okq (⟨"DawnPerquisite$Tokens", "mayName", "(I)Z"⟩, 8) := ⟨⟨by decide +kernel, by decide +kernel⟩, lw_t1 (List.mem_of_getElem? (i := 201) rfl), lw_t3 (List.mem_of_getElem? (i := 138) rfl), lw_t3 (List.mem_of_getElem? (i := 139) rfl)⟩
theorem lw_p21 : lw_okq (⟨"DawnPerquisite$Tokens", "doing", "(I)LDawnPerquisite$Doing;"⟩, 8) := ⟨⟨by decide +kernel, by decide +kernel⟩, lw_t1 (List.mem_of_getElem? (i := 201) rfl), lw_t3 (List.mem_of_getElem? (i := 231) rfl), lw_t3 (List.mem_of_getElem? (i := 232) rfl)⟩
theorem lw_p22 : lw_okq (⟨"DawnPerquisite", "isText", "(I)Z"⟩, 11) := ⟨⟨by decide +kernel, by decide +kernel⟩, lw_t1 (List.mem_of_getElem? (i := 37) rfl), lw_t4 (List.mem_of_getElem? (i := 22) rfl), lw_t4 (List.mem_of_getElem? (i := 23) rfl)⟩
theorem lw_p23 : lw_okq (⟨"DawnPerquisite", "canSell", "(I)Z"⟩, 11) := ⟨⟨by decide +kernel, by decide +kernel⟩, lw_t1 (List.mem_of_getElem? (i := 37) rfl), lw_t4 (List.mem_of_getElem? (i := 30) rfl), lw_t4 (List.mem_of_getElem? (i := 31) rfl)⟩
theorem lw_p24 : lw_okq (⟨"DawnPerquisite", "isBuyer", "(I)Z"⟩, 11) := ⟨⟨by decide +kernel, by decide +kernel⟩, lw_t1 (List.mem_of_getElem? (i := 37) rfl), lw_t4 (List.mem_of_getElem? (i := 34) rfl), lw_t4 (List.mem_of_getElem? (i := 35) rfl)⟩
theorem lw_p25 : lw_okq (⟨"DawnPerquisite", "doesWant", "(II)Z"⟩, 11) := ⟨⟨by decide +kernel, by decide +kernel⟩, lw_t1 (List.mem_of_getElem? (i := 37) rfl), lw_t4 (List.mem_of_getElem? (i := 38) rfl), lw_t4 (List.mem_of_getElem? (i := 39) rfl)⟩
theorem lw_p26 : lw_okq (⟨"DawnPerquisite", "slicesOf", "(I)I"⟩, 11) := ⟨⟨by decide +kernel, by decide +kernel⟩, lw_t1 (List.mem_of_getElem? (i := 37) rfl), lw_t4 (List.mem_of_getElem? (i := 45) rfl), lw_t4 (List.mem_of_getElem? (i := 46) rfl)⟩
theorem lw_p27 : lw_okq (⟨"DawnPerquisite", "bidsNow", "(II)I"⟩, 11) := ⟨⟨by decide +kernel, by decide +kernel⟩, lw_t1 (List.mem_of_getElem? (i := 37) rfl), lw_t4 (List.mem_of_getElem? (i := 52) rfl), lw_t4 (List.mem_of_getElem? (i := 53) rfl)⟩
theorem lw_p28 : lw_okq (⟨"DawnPerquisite", "rules", "()LDawnPerquisite$Text;"⟩, 11) := ⟨⟨by decide +kernel, by decide +kernel⟩, lw_t1 (List.mem_of_getElem? (i := 37) rfl), lw_t4 (List.mem_of_getElem? (i := 56) rfl), lw_t4 (List.mem_of_getElem? (i := 57) rfl)⟩
theorem lw_p29 : lw_okq (⟨"DawnPerquisite", "bidsBy", "(LDawnPerquisite$Text;[III)I"⟩, 11) := ⟨⟨by decide +kernel, by decide +kernel⟩, lw_t1 (List.mem_of_getElem? (i := 37) rfl), lw_t4 (List.mem_of_getElem? (i := 62) rfl), lw_t4 (List.mem_of_getElem? (i := 63) rfl)⟩
theorem lw_p30 : lw_okq (⟨"DawnPerquisite", "namesOf", "([III)V"⟩, 11) := ⟨⟨by decide +kernel, by decide +kernel⟩, lw_t1 (List.mem_of_getElem? (i := 37) rfl), lw_t4 (List.mem_of_getElem? (i := 66) rfl), lw_t4 (List.mem_of_getElem? (i := 67) rfl)⟩
theorem lw_p31 : lw_okq (⟨"DawnPerquisite", "longOf", "(I)I"⟩, 11) := ⟨⟨by decide +kernel, by decide +kernel⟩, lw_t1 (List.mem_of_getElem? (i := 37) rfl), lw_t4 (List.mem_of_getElem? (i := 70) rfl), lw_t4 (List.mem_of_getElem? (i := 71) rfl)⟩
def lw_privs_2 : List (MethodName × Nat) := [(⟨"java/util/ArrayList", "grow", "()[Ljava/lang/Object;"⟩, 3), (⟨"java/util/ArrayList", "grow", "(I)[Ljava/lang/Object;"⟩, 3), (⟨"DawnPerquisite$Tokens", "want", "(I)V"⟩, 8), (⟨"DawnPerquisite$Tokens", "nameNow", "()I"⟩, 8), (⟨"DawnPerquisite$Tokens", "mayName", "(I)Z"⟩, 8), (⟨"DawnPerquisite$Tokens", "doing", "(I)LDawnPerquisite$Doing;"⟩, 8), (⟨"DawnPerquisite", "isText", "(I)Z"⟩, 11), (⟨"DawnPerquisite", "canSell", "(I)Z"⟩, 11), (⟨"DawnPerquisite", "isBuyer", "(I)Z"⟩, 11), (⟨"DawnPerquisite", "doesWant", "(II)Z"⟩, 11), (⟨"DawnPerquisite", "slicesOf", "(I)I"⟩, 11), (⟨"DawnPerquisite", "bidsNow", "(II)I"⟩, 11), (⟨"DawnPerquisite", "rules", "()LDawnPerquisite$Text;"⟩, 11), (⟨"DawnPerquisite", "bidsBy", "(LDawnPerquisite$Text;[III)I"⟩, 11), (⟨"DawnPerquisite", "namesOf", "([III)V"⟩, 11), (⟨"DawnPerquisite", "longOf", "(I)I"⟩, 11)]
theorem lw_r2 : ∀ q ∈ lw_privs_2, lw_okq q := List.forall_mem_cons.mpr ⟨lw_p16, List.forall_mem_cons.mpr ⟨lw_p17, List.forall_mem_cons.mpr ⟨lw_p18, List.forall_mem_cons.mpr ⟨lw_p19, List.forall_mem_cons.mpr ⟨lw_p20, List.forall_mem_cons.mpr ⟨lw_p21, List.forall_mem_cons.mpr ⟨lw_p22, List.forall_mem_cons.mpr ⟨lw_p23, List.forall_mem_cons.mpr ⟨lw_p24, List.forall_mem_cons.mpr ⟨lw_p25, List.forall_mem_cons.mpr ⟨lw_p26, List.forall_mem_cons.mpr ⟨lw_p27, List.forall_mem_cons.mpr ⟨lw_p28, List.forall_mem_cons.mpr ⟨lw_p29, List.forall_mem_cons.mpr ⟨lw_p30, List.forall_mem_cons.mpr ⟨lw_p31, fun _ h => absurd h List.not_mem_nil⟩⟩⟩⟩⟩⟩⟩⟩⟩⟩⟩⟩⟩⟩⟩⟩
theorem lw_p32 : lw_okq (⟨"DawnPerquisite", "sells", "(I)I"⟩, 11) := ⟨⟨by decide +kernel, by decide +kernel⟩, lw_t1 (List.mem_of_getElem? (i := 37) rfl), lw_t4 (List.mem_of_getElem? (i := 195) rfl), lw_t4 (List.mem_of_getElem? (i := 196) rfl)⟩
theorem lw_p33 : lw_okq (⟨"DawnPerquisite", "canGive", "(I)Z"⟩, 11) := ⟨⟨by decide +kernel, by decide +kernel⟩, lw_t1 (List.mem_of_getElem? (i := 37) rfl), lw_t4 (List.mem_of_getElem? (i := 209) rfl), lw_t4 (List.mem_of_getElem? (i := 210) rfl)⟩
theorem lw_p34 : lw_okq (⟨"DawnPerquisite", "gives", "(I)V"⟩, 11) := ⟨⟨by decide +kernel, by decide +kernel⟩, lw_t1 (List.mem_of_getElem? (i := 37) rfl), lw_t4 (List.mem_of_getElem? (i := 213) rfl), lw_t4 (List.mem_of_getElem? (i := 214) rfl)⟩
theorem lw_p35 : lw_okq (⟨"DawnPerquisite", "canTurn", "(I)Z"⟩, 11) := ⟨⟨by decide +kernel, by decide +kernel⟩, lw_t1 (List.mem_of_getElem? (i := 37) rfl), lw_t4 (List.mem_of_getElem? (i := 221) rfl), lw_t4 (List.mem_of_getElem? (i := 222) rfl)⟩
theorem lw_p36 : lw_okq (⟨"DawnPerquisite", "turns", "(I)V"⟩, 11) := ⟨⟨by decide +kernel, by decide +kernel⟩, lw_t1 (List.mem_of_getElem? (i := 37) rfl), lw_t4 (List.mem_of_getElem? (i := 225) rfl), lw_t4 (List.mem_of_getElem? (i := 226) rfl)⟩
theorem lw_p37 : lw_okq (⟨"DawnPerquisite", "canPass", "(II)Z"⟩, 11) := ⟨⟨by decide +kernel, by decide +kernel⟩, lw_t1 (List.mem_of_getElem? (i := 37) rfl), lw_t4 (List.mem_of_getElem? (i := 233) rfl), lw_t4 (List.mem_of_getElem? (i := 234) rfl)⟩
theorem lw_p38 : lw_okq (⟨"DawnPerquisite", "priceOf", "(II)I"⟩, 11) := ⟨⟨by decide +kernel, by decide +kernel⟩, lw_t1 (List.mem_of_getElem? (i := 37) rfl), lw_t4 (List.mem_of_getElem? (i := 237) rfl), lw_t4 (List.mem_of_getElem? (i := 238) rfl)⟩
theorem lw_p39 : lw_okq (⟨"DawnPerquisite", "passes", "([I)I"⟩, 11) := ⟨⟨by decide +kernel, by decide +kernel⟩, lw_t1 (List.mem_of_getElem? (i := 37) rfl), lw_t5 (List.mem_of_getElem? (i := 5) rfl), lw_t5 (List.mem_of_getElem? (i := 6) rfl)⟩
theorem lw_p40 : lw_okq (⟨"DawnPerquisite", "earnsOf", "([II)I"⟩, 11) := ⟨⟨by decide +kernel, by decide +kernel⟩, lw_t1 (List.mem_of_getElem? (i := 37) rfl), lw_t5 (List.mem_of_getElem? (i := 9) rfl), lw_t5 (List.mem_of_getElem? (i := 10) rfl)⟩
theorem lw_p41 : lw_okq (⟨"DawnPerquisite", "toldOdds", "()I"⟩, 11) := ⟨⟨by decide +kernel, by decide +kernel⟩, lw_t1 (List.mem_of_getElem? (i := 37) rfl), lw_t5 (List.mem_of_getElem? (i := 13) rfl), lw_t5 (List.mem_of_getElem? (i := 14) rfl)⟩
theorem lw_p42 : lw_okq (⟨"DawnPerquisite", "sortBy", "(I)I"⟩, 11) := ⟨⟨by decide +kernel, by decide +kernel⟩, lw_t1 (List.mem_of_getElem? (i := 37) rfl), lw_t5 (List.mem_of_getElem? (i := 20) rfl), lw_t5 (List.mem_of_getElem? (i := 21) rfl)⟩
theorem lw_p43 : lw_okq (⟨"DawnPerquisite", "oddsOf", "(I)I"⟩, 11) := ⟨⟨by decide +kernel, by decide +kernel⟩, lw_t1 (List.mem_of_getElem? (i := 37) rfl), lw_t5 (List.mem_of_getElem? (i := 24) rfl), lw_t5 (List.mem_of_getElem? (i := 25) rfl)⟩
theorem lw_p44 : lw_okq (⟨"DawnPerquisite", "does", "(LDawnPerquisite$Doing;)Z"⟩, 11) := ⟨⟨by decide +kernel, by decide +kernel⟩, lw_t1 (List.mem_of_getElem? (i := 37) rfl), lw_t5 (List.mem_of_getElem? (i := 35) rfl), lw_t5 (List.mem_of_getElem? (i := 36) rfl)⟩
theorem lw_p45 : lw_okq (⟨"DawnPerquisite", "passesAll", "(I)Z"⟩, 11) := ⟨⟨by decide +kernel, by decide +kernel⟩, lw_t1 (List.mem_of_getElem? (i := 37) rfl), lw_t5 (List.mem_of_getElem? (i := 56) rfl), lw_t5 (List.mem_of_getElem? (i := 57) rfl)⟩
theorem lw_p46 : lw_okq (⟨"DawnPerquisite", "befalls", "(I)V"⟩, 11) := ⟨⟨by decide +kernel, by decide +kernel⟩, lw_t1 (List.mem_of_getElem? (i := 37) rfl), lw_t5 (List.mem_of_getElem? (i := 69) rfl), lw_t5 (List.mem_of_getElem? (i := 70) rfl)⟩
theorem lw_p47 : lw_okq (⟨"DawnPerquisite", "pursesOf", "([I)I"⟩, 11) := ⟨⟨by decide +kernel, by decide +kernel⟩, lw_t1 (List.mem_of_getElem? (i := 37) rfl), lw_t5 (List.mem_of_getElem? (i := 102) rfl), lw_t5 (List.mem_of_getElem? (i := 103) rfl)⟩
def lw_privs_3 : List (MethodName × Nat) := [(⟨"DawnPerquisite", "sells", "(I)I"⟩, 11), (⟨"DawnPerquisite", "canGive", "(I)Z"⟩, 11), (⟨"DawnPerquisite", "gives", "(I)V"⟩, 11), (⟨"DawnPerquisite", "canTurn", "(I)Z"⟩, 11), (⟨"DawnPerquisite", "turns", "(I)V"⟩, 11), (⟨"DawnPerquisite", "canPass", "(II)Z"⟩, 11), (⟨"DawnPerquisite", "priceOf", "(II)I"⟩, 11), (⟨"DawnPerquisite", "passes", "([I)I"⟩, 11), (⟨"DawnPerquisite", "earnsOf", "([II)I"⟩, 11), (⟨"DawnPerquisite", "toldOdds", "()I"⟩, 11), (⟨"DawnPerquisite", "sortBy", "(I)I"⟩, 11), (⟨"DawnPerquisite", "oddsOf", "(I)I"⟩, 11), (⟨"DawnPerquisite", "does", "(LDawnPerquisite$Doing;)Z"⟩, 11), (⟨"DawnPerquisite", "passesAll", "(I)Z"⟩, 11), (⟨"DawnPerquisite", "befalls", "(I)V"⟩, 11), (⟨"DawnPerquisite", "pursesOf", "([I)I"⟩, 11)]
theorem lw_r3 : ∀ q ∈ lw_privs_3, lw_okq q := List.forall_mem_cons.mpr ⟨lw_p32, List.forall_mem_cons.mpr ⟨lw_p33, List.forall_mem_cons.mpr ⟨lw_p34, List.forall_mem_cons.mpr ⟨lw_p35, List.forall_mem_cons.mpr ⟨lw_p36, List.forall_mem_cons.mpr ⟨lw_p37, List.forall_mem_cons.mpr ⟨lw_p38, List.forall_mem_cons.mpr ⟨lw_p39, List.forall_mem_cons.mpr ⟨lw_p40, List.forall_mem_cons.mpr ⟨lw_p41, List.forall_mem_cons.mpr ⟨lw_p42, List.forall_mem_cons.mpr ⟨lw_p43, List.forall_mem_cons.mpr ⟨lw_p44, List.forall_mem_cons.mpr ⟨lw_p45, List.forall_mem_cons.mpr ⟨lw_p46, List.forall_mem_cons.mpr ⟨lw_p47, fun _ h => absurd h List.not_mem_nil⟩⟩⟩⟩⟩⟩⟩⟩⟩⟩⟩⟩⟩⟩⟩⟩
theorem lw_p48 : lw_okq (⟨"DawnPerquisite", "packOf", "(II)I"⟩, 11) := ⟨⟨by decide +kernel, by decide +kernel⟩, lw_t1 (List.mem_of_getElem? (i := 37) rfl), lw_t5 (List.mem_of_getElem? (i := 110) rfl), lw_t5 (List.mem_of_getElem? (i := 111) rfl)⟩
theorem lw_p49 : lw_okq (⟨"DawnPerquisite", "everybody", "()I"⟩, 11) := ⟨⟨by decide +kernel, by decide +kernel⟩, lw_t1 (List.mem_of_getElem? (i := 37) rfl), lw_t5 (List.mem_of_getElem? (i := 114) rfl), lw_t5 (List.mem_of_getElem? (i := 115) rfl)⟩
theorem lw_p50 : lw_okq (⟨"DawnPerquisite", "bringsOf", "(II)I"⟩, 11) := ⟨⟨by decide +kernel, by decide +kernel⟩, lw_t1 (List.mem_of_getElem? (i := 37) rfl), lw_t5 (List.mem_of_getElem? (i := 118) rfl), lw_t5 (List.mem_of_getElem? (i := 119) rfl)⟩
theorem lw_p51 : lw_okq (⟨"DawnPerquisite", "hopeOf", "(I)J"⟩, 11) := ⟨⟨by decide +kernel, by decide +kernel⟩, lw_t1 (List.mem_of_getElem? (i := 37) rfl), lw_t5 (List.mem_of_getElem? (i := 131) rfl), lw_t5 (List.mem_of_getElem? (i := 132) rfl)⟩
theorem lw_p52 : lw_okq (⟨"DawnPerquisite", "allOdds", "()I"⟩, 11) := ⟨⟨by decide +kernel, by decide +kernel⟩, lw_t1 (List.mem_of_getElem? (i := 37) rfl), lw_t5 (List.mem_of_getElem? (i := 135) rfl), lw_t5 (List.mem_of_getElem? (i := 136) rfl)⟩
theorem lw_p53 : lw_okq (⟨"DawnPerquisite", "told", "()I"⟩, 11) := ⟨⟨by decide +kernel, by decide +kernel⟩, lw_t1 (List.mem_of_getElem? (i := 37) rfl), lw_t5 (List.mem_of_getElem? (i := 170) rfl), lw_t5 (List.mem_of_getElem? (i := 171) rfl)⟩
theorem lw_p54 : lw_okq (⟨"DawnPerquisite", "couldBe", "(I)Z"⟩, 11) := ⟨⟨by decide +kernel, by decide +kernel⟩, lw_t1 (List.mem_of_getElem? (i := 37) rfl), lw_t5 (List.mem_of_getElem? (i := 178) rfl), lw_t5 (List.mem_of_getElem? (i := 179) rfl)⟩
theorem lw_p55 : lw_okq (⟨"DawnPerquisite", "oddsThatFit", "()I"⟩, 11) := ⟨⟨by decide +kernel, by decide +kernel⟩, lw_t1 (List.mem_of_getElem? (i := 37) rfl), lw_t5 (List.mem_of_getElem? (i := 191) rfl), lw_t5 (List.mem_of_getElem? (i := 192) rfl)⟩
theorem lw_p56 : lw_okq (⟨"DawnPerquisite", "greaterPart", "(I)I"⟩, 11) := ⟨⟨by decide +kernel, by decide +kernel⟩, lw_t1 (List.mem_of_getElem? (i := 37) rfl), lw_t5 (List.mem_of_getElem? (i := 200) rfl), lw_t5 (List.mem_of_getElem? (i := 201) rfl)⟩
theorem lw_p57 : lw_okq (⟨"DawnPerquisite", "bidsFor", "(II)I"⟩, 11) := ⟨⟨by decide +kernel, by decide +kernel⟩, lw_t1 (List.mem_of_getElem? (i := 37) rfl), lw_t5 (List.mem_of_getElem? (i := 208) rfl), lw_t5 (List.mem_of_getElem? (i := 209) rfl)⟩
theorem lw_p58 : lw_okq (⟨"DawnPerquisite", "servesAll", "(I)Z"⟩, 11) := ⟨⟨by decide +kernel, by decide +kernel⟩, lw_t1 (List.mem_of_getElem? (i := 37) rfl), lw_t5 (List.mem_of_getElem? (i := 216) rfl), lw_t5 (List.mem_of_getElem? (i := 217) rfl)⟩
theorem lw_p59 : lw_okq (⟨"DawnPerquisite", "wantedBy", "(I)I"⟩, 11) := ⟨⟨by decide +kernel, by decide +kernel⟩, lw_t1 (List.mem_of_getElem? (i := 37) rfl), lw_t5 (List.mem_of_getElem? (i := 224) rfl), lw_t5 (List.mem_of_getElem? (i := 225) rfl)⟩
theorem lw_p60 : lw_okq (⟨"DawnPerquisite", "nextBuyer", "()I"⟩, 11) := ⟨⟨by decide +kernel, by decide +kernel⟩, lw_t1 (List.mem_of_getElem? (i := 37) rfl), lw_t5 (List.mem_of_getElem? (i := 233) rfl), lw_t5 (List.mem_of_getElem? (i := 234) rfl)⟩
theorem lw_p61 : lw_okq (⟨"DawnPerquisite", "laysMore", "()V"⟩, 11) := ⟨⟨by decide +kernel, by decide +kernel⟩, lw_t1 (List.mem_of_getElem? (i := 37) rfl), lw_t6 (List.mem_of_getElem? (i := 13) rfl), lw_t6 (List.mem_of_getElem? (i := 14) rfl)⟩
theorem lw_p62 : lw_okq (⟨"DawnPerquisite", "leftFirst", "(II)I"⟩, 11) := ⟨⟨by decide +kernel, by decide +kernel⟩, lw_t1 (List.mem_of_getElem? (i := 37) rfl), lw_t6 (List.mem_of_getElem? (i := 17) rfl), lw_t6 (List.mem_of_getElem? (i := 18) rfl)⟩
theorem lw_p63 : lw_okq (⟨"DawnPerquisite", "rightFirst", "(II)I"⟩, 11) := ⟨⟨by decide +kernel, by decide +kernel⟩, lw_t1 (List.mem_of_getElem? (i := 37) rfl), lw_t6 (List.mem_of_getElem? (i := 21) rfl), lw_t6 (List.mem_of_getElem? (i := 22) rfl)⟩
def lw_privs_4 : List (MethodName × Nat) := [(⟨"DawnPerquisite", "packOf", "(II)I"⟩, 11), (⟨"DawnPerquisite", "everybody", "()I"⟩, 11), (⟨"DawnPerquisite", "bringsOf", "(II)I"⟩, 11), (⟨"DawnPerquisite", "hopeOf", "(I)J"⟩, 11), (⟨"DawnPerquisite", "allOdds", "()I"⟩, 11), (⟨"DawnPerquisite", "told", "()I"⟩, 11), (⟨"DawnPerquisite", "couldBe", "(I)Z"⟩, 11), (⟨"DawnPerquisite", "oddsThatFit", "()I"⟩, 11), (⟨"DawnPerquisite", "greaterPart", "(I)I"⟩, 11), (⟨"DawnPerquisite", "bidsFor", "(II)I"⟩, 11), (⟨"DawnPerquisite", "servesAll", "(I)Z"⟩, 11), (⟨"DawnPerquisite", "wantedBy", "(I)I"⟩, 11), (⟨"DawnPerquisite", "nextBuyer", "()I"⟩, 11), (⟨"DawnPerquisite", "laysMore", "()V"⟩, 11), (⟨"DawnPerquisite", "leftFirst", "(II)I"⟩, 11), (⟨"DawnPerquisite", "rightFirst", "(II)I"⟩, 11)]
theorem lw_r4 : ∀ q ∈ lw_privs_4, lw_okq q := List.forall_mem_cons.mpr ⟨lw_p48, List.forall_mem_cons.mpr ⟨lw_p49, List.forall_mem_cons.mpr ⟨lw_p50, List.forall_mem_cons.mpr ⟨lw_p51, List.forall_mem_cons.mpr ⟨lw_p52, List.forall_mem_cons.mpr ⟨lw_p53, List.forall_mem_cons.mpr ⟨lw_p54, List.forall_mem_cons.mpr ⟨lw_p55, List.forall_mem_cons.mpr ⟨lw_p56, List.forall_mem_cons.mpr ⟨lw_p57, List.forall_mem_cons.mpr ⟨lw_p58, List.forall_mem_cons.mpr ⟨lw_p59, List.forall_mem_cons.mpr ⟨lw_p60, List.forall_mem_cons.mpr ⟨lw_p61, List.forall_mem_cons.mpr ⟨lw_p62, List.forall_mem_cons.mpr ⟨lw_p63, fun _ h => absurd h List.not_mem_nil⟩⟩⟩⟩⟩⟩⟩⟩⟩⟩⟩⟩⟩⟩⟩⟩
theorem lw_p64 : lw_okq (⟨"DawnPerquisite", "runOf", "(II)I"⟩, 11) := ⟨⟨by decide +kernel, by decide +kernel⟩, lw_t1 (List.mem_of_getElem? (i := 37) rfl), lw_t6 (List.mem_of_getElem? (i := 33) rfl), lw_t6 (List.mem_of_getElem? (i := 34) rfl)⟩
theorem lw_p65 : lw_okq (⟨"DawnPerquisite", "isLaw", "(LDawnPerquisite$Text;)Z"⟩, 11) := ⟨⟨by decide +kernel, by decide +kernel⟩, lw_t1 (List.mem_of_getElem? (i := 37) rfl), lw_t6 (List.mem_of_getElem? (i := 45) rfl), lw_t6 (List.mem_of_getElem? (i := 46) rfl)⟩
theorem lw_p66 : lw_okq (⟨"DawnPerquisiteModel", "four", "(I)V"⟩, 28) := ⟨⟨by decide +kernel, by decide +kernel⟩, lw_t6 (List.mem_of_getElem? (i := 106) rfl), lw_t6 (List.mem_of_getElem? (i := 223) rfl), lw_t6 (List.mem_of_getElem? (i := 224) rfl)⟩
theorem lw_p67 : lw_okq (⟨"DawnPerquisiteModel", "readText", "()I"⟩, 28) := ⟨⟨by decide +kernel, by decide +kernel⟩, lw_t6 (List.mem_of_getElem? (i := 106) rfl), lw_t6 (List.mem_of_getElem? (i := 235) rfl), lw_t6 (List.mem_of_getElem? (i := 236) rfl)⟩
theorem lw_p68 : lw_okq (⟨"DawnPerquisiteModel", "nextToken", "()V"⟩, 28) := ⟨⟨by decide +kernel, by decide +kernel⟩, lw_t6 (List.mem_of_getElem? (i := 106) rfl), lw_t6 (List.mem_of_getElem? (i := 239) rfl), lw_t7 (List.mem_of_getElem? (i := 0) rfl)⟩
theorem lw_p69 : lw_okq (⟨"DawnPerquisiteModel", "byteAt", "(I)I"⟩, 28) := ⟨⟨by decide +kernel, by decide +kernel⟩, lw_t6 (List.mem_of_getElem? (i := 106) rfl), lw_t7 (List.mem_of_getElem? (i := 3) rfl), lw_t7 (List.mem_of_getElem? (i := 4) rfl)⟩
theorem lw_p70 : lw_okq (⟨"DawnPerquisiteModel", "clause", "()I"⟩, 28) := ⟨⟨by decide +kernel, by decide +kernel⟩, lw_t6 (List.mem_of_getElem? (i := 106) rfl), lw_t7 (List.mem_of_getElem? (i := 18) rfl), lw_t7 (List.mem_of_getElem? (i := 19) rfl)⟩
theorem lw_p71 : lw_okq (⟨"DawnPerquisiteModel", "sortOf", "()I"⟩, 28) := ⟨⟨by decide +kernel, by decide +kernel⟩, lw_t6 (List.mem_of_getElem? (i := 106) rfl), lw_t7 (List.mem_of_getElem? (i := 22) rfl), lw_t7 (List.mem_of_getElem? (i := 23) rfl)⟩
theorem lw_p72 : lw_okq (⟨"DawnPerquisiteModel", "isWord", "(J)Z"⟩, 28) := ⟨⟨by decide +kernel, by decide +kernel⟩, lw_t6 (List.mem_of_getElem? (i := 106) rfl), lw_t7 (List.mem_of_getElem? (i := 35) rfl), lw_t7 (List.mem_of_getElem? (i := 36) rfl)⟩
theorem lw_p73 : lw_okq (⟨"DawnPerquisiteModel", "body", "(II)I"⟩, 28) := ⟨⟨by decide +kernel, by decide +kernel⟩, lw_t6 (List.mem_of_getElem? (i := 106) rfl), lw_t7 (List.mem_of_getElem? (i := 45) rfl), lw_t7 (List.mem_of_getElem? (i := 46) rfl)⟩
theorem lw_p74 : lw_okq (⟨"DawnPerquisiteModel", "buyerClause", "(I)I"⟩, 28) := ⟨⟨by decide +kernel, by decide +kernel⟩, lw_t6 (List.mem_of_getElem? (i := 106) rfl), lw_t7 (List.mem_of_getElem? (i := 49) rfl), lw_t7 (List.mem_of_getElem? (i := 50) rfl)⟩
theorem lw_p75 : lw_okq (⟨"DawnPerquisiteModel", "figure", "(III)I"⟩, 28) := ⟨⟨by decide +kernel, by decide +kernel⟩, lw_t6 (List.mem_of_getElem? (i := 106) rfl), lw_t7 (List.mem_of_getElem? (i := 53) rfl), lw_t7 (List.mem_of_getElem? (i := 54) rfl)⟩
theorem lw_p76 : lw_okq (⟨"DawnPerquisiteModel", "sortClause", "(I)I"⟩, 28) := ⟨⟨by decide +kernel, by decide +kernel⟩, lw_t6 (List.mem_of_getElem? (i := 106) rfl), lw_t7 (List.mem_of_getElem? (i := 57) rfl), lw_t7 (List.mem_of_getElem? (i := 58) rfl)⟩
theorem lw_p77 : lw_okq (⟨"DawnPerquisiteModel", "lawClause", "(I)I"⟩, 28) := ⟨⟨by decide +kernel, by decide +kernel⟩, lw_t6 (List.mem_of_getElem? (i := 106) rfl), lw_t7 (List.mem_of_getElem? (i := 61) rfl), lw_t7 (List.mem_of_getElem? (i := 62) rfl)⟩
theorem lw_p78 : lw_okq (⟨"DawnPerquisiteModel", "summed", "()I"⟩, 28) := ⟨⟨by decide +kernel, by decide +kernel⟩, lw_t6 (List.mem_of_getElem? (i := 106) rfl), lw_t7 (List.mem_of_getElem? (i := 65) rfl), lw_t7 (List.mem_of_getElem? (i := 66) rfl)⟩
theorem lw_p79 : lw_okq (⟨"DawnPerquisiteModel", "behindOne", "()Z"⟩, 28) := ⟨⟨by decide +kernel, by decide +kernel⟩, lw_t6 (List.mem_of_getElem? (i := 106) rfl), lw_t7 (List.mem_of_getElem? (i := 69) rfl), lw_t7 (List.mem_of_getElem? (i := 70) rfl)⟩
def lw_privs_5 : List (MethodName × Nat) := [(⟨"DawnPerquisite", "runOf", "(II)I"⟩, 11), (⟨"DawnPerquisite", "isLaw", "(LDawnPerquisite$Text;)Z"⟩, 11), (⟨"DawnPerquisiteModel", "four", "(I)V"⟩, 28), (⟨"DawnPerquisiteModel", "readText", "()I"⟩, 28), (⟨"DawnPerquisiteModel", "nextToken", "()V"⟩, 28), (⟨"DawnPerquisiteModel", "byteAt", "(I)I"⟩, 28), (⟨"DawnPerquisiteModel", "clause", "()I"⟩, 28), (⟨"DawnPerquisiteModel", "sortOf", "()I"⟩, 28), (⟨"DawnPerquisiteModel", "isWord", "(J)Z"⟩, 28), (⟨"DawnPerquisiteModel", "body", "(II)I"⟩, 28), (⟨"DawnPerquisiteModel", "buyerClause", "(I)I"⟩, 28), (⟨"DawnPerquisiteModel", "figure", "(III)I"⟩, 28), (⟨"DawnPerquisiteModel", "sortClause", "(I)I"⟩, 28), (⟨"DawnPerquisiteModel", "lawClause", "(I)I"⟩, 28), (⟨"DawnPerquisiteModel", "summed", "()I"⟩, 28), (⟨"DawnPerquisiteModel", "behindOne", "()Z"⟩, 28)]
theorem lw_r5 : ∀ q ∈ lw_privs_5, lw_okq q := List.forall_mem_cons.mpr ⟨lw_p64, List.forall_mem_cons.mpr ⟨lw_p65, List.forall_mem_cons.mpr ⟨lw_p66, List.forall_mem_cons.mpr ⟨lw_p67, List.forall_mem_cons.mpr ⟨lw_p68, List.forall_mem_cons.mpr ⟨lw_p69, List.forall_mem_cons.mpr ⟨lw_p70, List.forall_mem_cons.mpr ⟨lw_p71, List.forall_mem_cons.mpr ⟨lw_p72, List.forall_mem_cons.mpr ⟨lw_p73, List.forall_mem_cons.mpr ⟨lw_p74, List.forall_mem_cons.mpr ⟨lw_p75, List.forall_mem_cons.mpr ⟨lw_p76, List.forall_mem_cons.mpr ⟨lw_p77, List.forall_mem_cons.mpr ⟨lw_p78, List.forall_mem_cons.mpr ⟨lw_p79, fun _ h => absurd h List.not_mem_nil⟩⟩⟩⟩⟩⟩⟩⟩⟩⟩⟩⟩⟩⟩⟩⟩
theorem lw_p80 : lw_okq (⟨"DawnPerquisiteModel", "betweenOf", "()I"⟩, 28) := ⟨⟨by decide +kernel, by decide +kernel⟩, lw_t6 (List.mem_of_getElem? (i := 106) rfl), lw_t7 (List.mem_of_getElem? (i := 73) rfl), lw_t7 (List.mem_of_getElem? (i := 74) rfl)⟩
theorem lw_p81 : lw_okq (⟨"DawnPerquisiteModel", "openNow", "()I"⟩, 28) := ⟨⟨by decide +kernel, by decide +kernel⟩, lw_t6 (List.mem_of_getElem? (i := 106) rfl), lw_t7 (List.mem_of_getElem? (i := 77) rfl), lw_t7 (List.mem_of_getElem? (i := 78) rfl)⟩
theorem lw_p82 : lw_okq (⟨"DawnPerquisiteModel", "openAt", "()I"⟩, 28) := ⟨⟨by decide +kernel, by decide +kernel⟩, lw_t6 (List.mem_of_getElem? (i := 106) rfl), lw_t7 (List.mem_of_getElem? (i := 81) rfl), lw_t7 (List.mem_of_getElem? (i := 82) rfl)⟩
theorem lw_p83 : lw_okq (⟨"DawnPerquisiteModel", "isCompared", "()Z"⟩, 28) := ⟨⟨by decide +kernel, by decide +kernel⟩, lw_t6 (List.mem_of_getElem? (i := 106) rfl), lw_t7 (List.mem_of_getElem? (i := 85) rfl), lw_t7 (List.mem_of_getElem? (i := 86) rfl)⟩
theorem lw_p84 : lw_okq (⟨"DawnPerquisiteModel", "compareOf", "()I"⟩, 28) := ⟨⟨by decide +kernel, by decide +kernel⟩, lw_t6 (List.mem_of_getElem? (i := 106) rfl), lw_t7 (List.mem_of_getElem? (i := 92) rfl), lw_t7 (List.mem_of_getElem? (i := 93) rfl)⟩
theorem lw_p85 : lw_okq (⟨"DawnPerquisiteModel", "settle", "(I)V"⟩, 28) := ⟨⟨by decide +kernel, by decide +kernel⟩, lw_t6 (List.mem_of_getElem? (i := 106) rfl), lw_t7 (List.mem_of_getElem? (i := 96) rfl), lw_t7 (List.mem_of_getElem? (i := 97) rfl)⟩
theorem lw_p86 : lw_okq (⟨"DawnPerquisiteModel", "emit", "(II)V"⟩, 28) := ⟨⟨by decide +kernel, by decide +kernel⟩, lw_t6 (List.mem_of_getElem? (i := 106) rfl), lw_t7 (List.mem_of_getElem? (i := 100) rfl), lw_t7 (List.mem_of_getElem? (i := 101) rfl)⟩
theorem lw_p87 : lw_okq (⟨"DawnPerquisiteModel", "partOf", "(I)I"⟩, 28) := ⟨⟨by decide +kernel, by decide +kernel⟩, lw_t6 (List.mem_of_getElem? (i := 106) rfl), lw_t7 (List.mem_of_getElem? (i := 104) rfl), lw_t7 (List.mem_of_getElem? (i := 105) rfl)⟩
theorem lw_p88 : lw_okq (⟨"DawnPerquisiteModel", "beginOne", "()I"⟩, 28) := ⟨⟨by decide +kernel, by decide +kernel⟩, lw_t6 (List.mem_of_getElem? (i := 106) rfl), lw_t7 (List.mem_of_getElem? (i := 108) rfl), lw_t7 (List.mem_of_getElem? (i := 109) rfl)⟩
theorem lw_p89 : lw_okq (⟨"DawnPerquisiteModel", "nameOf", "()I"⟩, 28) := ⟨⟨by decide +kernel, by decide +kernel⟩, lw_t6 (List.mem_of_getElem? (i := 106) rfl), lw_t7 (List.mem_of_getElem? (i := 112) rfl), lw_t7 (List.mem_of_getElem? (i := 113) rfl)⟩
theorem lw_p90 : lw_okq (⟨"DawnPerquisiteModel", "isOf", "(I)Z"⟩, 28) := ⟨⟨by decide +kernel, by decide +kernel⟩, lw_t6 (List.mem_of_getElem? (i := 106) rfl), lw_t7 (List.mem_of_getElem? (i := 116) rfl), lw_t7 (List.mem_of_getElem? (i := 117) rfl)⟩
theorem lw_p91 : lw_okq (⟨"DawnPerquisiteModel", "opened", "(I)I"⟩, 28) := ⟨⟨by decide +kernel, by decide +kernel⟩, lw_t6 (List.mem_of_getElem? (i := 106) rfl), lw_t7 (List.mem_of_getElem? (i := 120) rfl), lw_t7 (List.mem_of_getElem? (i := 121) rfl)⟩
theorem lw_p92 : lw_okq (⟨"DawnPerquisiteModel", "isAskAhead", "()Z"⟩, 28) := ⟨⟨by decide +kernel, by decide +kernel⟩, lw_t6 (List.mem_of_getElem? (i := 106) rfl), lw_t7 (List.mem_of_getElem? (i := 124) rfl), lw_t7 (List.mem_of_getElem? (i := 125) rfl)⟩
theorem lw_p93 : lw_okq (⟨"DawnPerquisiteModel", "canSell", "(I)Z"⟩, 28) := ⟨⟨by decide +kernel, by decide +kernel⟩, lw_t6 (List.mem_of_getElem? (i := 106) rfl), lw_t7 (List.mem_of_getElem? (i := 144) rfl), lw_t7 (List.mem_of_getElem? (i := 145) rfl)⟩
theorem lw_p94 : lw_okq (⟨"DawnPerquisiteModel", "isBuyer", "(I)Z"⟩, 28) := ⟨⟨by decide +kernel, by decide +kernel⟩, lw_t6 (List.mem_of_getElem? (i := 106) rfl), lw_t7 (List.mem_of_getElem? (i := 148) rfl), lw_t7 (List.mem_of_getElem? (i := 149) rfl)⟩
theorem lw_p95 : lw_okq (⟨"DawnPerquisiteModel", "doesWant", "(II)Z"⟩, 28) := ⟨⟨by decide +kernel, by decide +kernel⟩, lw_t6 (List.mem_of_getElem? (i := 106) rfl), lw_t7 (List.mem_of_getElem? (i := 152) rfl), lw_t7 (List.mem_of_getElem? (i := 153) rfl)⟩
def lw_privs_6 : List (MethodName × Nat) := [(⟨"DawnPerquisiteModel", "betweenOf", "()I"⟩, 28), (⟨"DawnPerquisiteModel", "openNow", "()I"⟩, 28), (⟨"DawnPerquisiteModel", "openAt", "()I"⟩, 28), (⟨"DawnPerquisiteModel", "isCompared", "()Z"⟩, 28), (⟨"DawnPerquisiteModel", "compareOf", "()I"⟩, 28), (⟨"DawnPerquisiteModel", "settle", "(I)V"⟩, 28), (⟨"DawnPerquisiteModel", "emit", "(II)V"⟩, 28), (⟨"DawnPerquisiteModel", "partOf", "(I)I"⟩, 28), (⟨"DawnPerquisiteModel", "beginOne", "()I"⟩, 28), (⟨"DawnPerquisiteModel", "nameOf", "()I"⟩, 28), (⟨"DawnPerquisiteModel", "isOf", "(I)Z"⟩, 28), (⟨"DawnPerquisiteModel", "opened", "(I)I"⟩, 28), (⟨"DawnPerquisiteModel", "isAskAhead", "()Z"⟩, 28), (⟨"DawnPerquisiteModel", "canSell", "(I)Z"⟩, 28), (⟨"DawnPerquisiteModel", "isBuyer", "(I)Z"⟩, 28), (⟨"DawnPerquisiteModel", "doesWant", "(II)Z"⟩, 28)]
theorem lw_r6 : ∀ q ∈ lw_privs_6, lw_okq q := List.forall_mem_cons.mpr ⟨lw_p80, List.forall_mem_cons.mpr ⟨lw_p81, List.forall_mem_cons.mpr ⟨lw_p82, List.forall_mem_cons.mpr ⟨lw_p83, List.forall_mem_cons.mpr ⟨lw_p84, List.forall_mem_cons.mpr ⟨lw_p85, List.forall_mem_cons.mpr ⟨lw_p86, List.forall_mem_cons.mpr ⟨lw_p87, List.forall_mem_cons.mpr ⟨lw_p88, List.forall_mem_cons.mpr ⟨lw_p89, List.forall_mem_cons.mpr ⟨lw_p90, List.forall_mem_cons.mpr ⟨lw_p91, List.forall_mem_cons.mpr ⟨lw_p92, List.forall_mem_cons.mpr ⟨lw_p93, List.forall_mem_cons.mpr ⟨lw_p94, List.forall_mem_cons.mpr ⟨lw_p95, fun _ h => absurd h List.not_mem_nil⟩⟩⟩⟩⟩⟩⟩⟩⟩⟩⟩⟩⟩⟩⟩⟩
theorem lw_p96 : lw_okq (⟨"DawnPerquisiteModel", "slicesOf", "(I)I"⟩, 28) := ⟨⟨by decide +kernel, by decide +kernel⟩, lw_t6 (List.mem_of_getElem? (i := 106) rfl), lw_t7 (List.mem_of_getElem? (i := 156) rfl), lw_t7 (List.mem_of_getElem? (i := 157) rfl)⟩
theorem lw_p97 : lw_okq (⟨"DawnPerquisiteModel", "longOf", "(I)I"⟩, 28) := ⟨⟨by decide +kernel, by decide +kernel⟩, lw_t6 (List.mem_of_getElem? (i := 106) rfl), lw_t7 (List.mem_of_getElem? (i := 160) rfl), lw_t7 (List.mem_of_getElem? (i := 161) rfl)⟩
theorem lw_p98 : lw_okq (⟨"DawnPerquisiteModel", "freeNow", "()I"⟩, 28) := ⟨⟨by decide +kernel, by decide +kernel⟩, lw_t6 (List.mem_of_getElem? (i := 106) rfl), lw_t7 (List.mem_of_getElem? (i := 164) rfl), lw_t7 (List.mem_of_getElem? (i := 165) rfl)⟩
theorem lw_p99 : lw_okq (⟨"DawnPerquisiteModel", "bidsNow", "(I)I"⟩, 28) := ⟨⟨by decide +kernel, by decide +kernel⟩, lw_t6 (List.mem_of_getElem? (i := 106) rfl), lw_t7 (List.mem_of_getElem? (i := 168) rfl), lw_t7 (List.mem_of_getElem? (i := 169) rfl)⟩
theorem lw_p100 : lw_okq (⟨"DawnPerquisiteModel", "bidsOf", "(III)I"⟩, 28) := ⟨⟨by decide +kernel, by decide +kernel⟩, lw_t6 (List.mem_of_getElem? (i := 106) rfl), lw_t7 (List.mem_of_getElem? (i := 172) rfl), lw_t7 (List.mem_of_getElem? (i := 173) rfl)⟩
theorem lw_p101 : lw_okq (⟨"DawnPerquisiteModel", "name", "(II)V"⟩, 28) := ⟨⟨by decide +kernel, by decide +kernel⟩, lw_t6 (List.mem_of_getElem? (i := 106) rfl), lw_t7 (List.mem_of_getElem? (i := 176) rfl), lw_t7 (List.mem_of_getElem? (i := 177) rfl)⟩
theorem lw_p102 : lw_okq (⟨"DawnPerquisiteModel", "hasNow", "(I)I"⟩, 28) := ⟨⟨by decide +kernel, by decide +kernel⟩, lw_t6 (List.mem_of_getElem? (i := 106) rfl), lw_t7 (List.mem_of_getElem? (i := 183) rfl), lw_t7 (List.mem_of_getElem? (i := 184) rfl)⟩
theorem lw_p103 : lw_okq (⟨"DawnPerquisiteModel", "ownNow", "(I)I"⟩, 28) := ⟨⟨by decide +kernel, by decide +kernel⟩, lw_t6 (List.mem_of_getElem? (i := 106) rfl), lw_t7 (List.mem_of_getElem? (i := 187) rfl), lw_t7 (List.mem_of_getElem? (i := 188) rfl)⟩
theorem lw_p104 : lw_okq (⟨"DawnPerquisiteModel", "says", "(IIIII)I"⟩, 28) := ⟨⟨by decide +kernel, by decide +kernel⟩, lw_t6 (List.mem_of_getElem? (i := 106) rfl), lw_t7 (List.mem_of_getElem? (i := 191) rfl), lw_t7 (List.mem_of_getElem? (i := 192) rfl)⟩
theorem lw_p105 : lw_okq (⟨"DawnPerquisiteModel", "summedUp", "(II)J"⟩, 28) := ⟨⟨by decide +kernel, by decide +kernel⟩, lw_t6 (List.mem_of_getElem? (i := 106) rfl), lw_t7 (List.mem_of_getElem? (i := 195) rfl), lw_t7 (List.mem_of_getElem? (i := 196) rfl)⟩
theorem lw_p106 : lw_okq (⟨"DawnPerquisiteModel", "ofOne", "(IJ)J"⟩, 28) := ⟨⟨by decide +kernel, by decide +kernel⟩, lw_t6 (List.mem_of_getElem? (i := 106) rfl), lw_t7 (List.mem_of_getElem? (i := 199) rfl), lw_t7 (List.mem_of_getElem? (i := 200) rfl)⟩
theorem lw_p107 : lw_okq (⟨"DawnPerquisiteModel", "keepStep", "()V"⟩, 28) := ⟨⟨by decide +kernel, by decide +kernel⟩, lw_t6 (List.mem_of_getElem? (i := 106) rfl), lw_t7 (List.mem_of_getElem? (i := 221) rfl), lw_t7 (List.mem_of_getElem? (i := 222) rfl)⟩
theorem lw_p108 : lw_okq (⟨"DawnPerquisiteModel", "sellNow", "(I)I"⟩, 28) := ⟨⟨by decide +kernel, by decide +kernel⟩, lw_t6 (List.mem_of_getElem? (i := 106) rfl), lw_t7 (List.mem_of_getElem? (i := 225) rfl), lw_t7 (List.mem_of_getElem? (i := 226) rfl)⟩
theorem lw_p109 : lw_okq (⟨"DawnPerquisiteModel", "write", "(III)V"⟩, 28) := ⟨⟨by decide +kernel, by decide +kernel⟩, lw_t6 (List.mem_of_getElem? (i := 106) rfl), lw_t7 (List.mem_of_getElem? (i := 229) rfl), lw_t7 (List.mem_of_getElem? (i := 230) rfl)⟩
theorem lw_p110 : lw_okq (⟨"DawnPerquisiteModel", "canGive", "(I)Z"⟩, 28) := ⟨⟨by decide +kernel, by decide +kernel⟩, lw_t6 (List.mem_of_getElem? (i := 106) rfl), lw_t7 (List.mem_of_getElem? (i := 237) rfl), lw_t7 (List.mem_of_getElem? (i := 238) rfl)⟩
theorem lw_p111 : lw_okq (⟨"DawnPerquisiteModel", "giveNow", "(I)V"⟩, 28) := ⟨⟨by decide +kernel, by decide +kernel⟩, lw_t6 (List.mem_of_getElem? (i := 106) rfl), lw_t8 (List.mem_of_getElem? (i := 4) rfl), lw_t8 (List.mem_of_getElem? (i := 5) rfl)⟩
def lw_privs_7 : List (MethodName × Nat) := [(⟨"DawnPerquisiteModel", "slicesOf", "(I)I"⟩, 28), (⟨"DawnPerquisiteModel", "longOf", "(I)I"⟩, 28), (⟨"DawnPerquisiteModel", "freeNow", "()I"⟩, 28), (⟨"DawnPerquisiteModel", "bidsNow", "(I)I"⟩, 28), (⟨"DawnPerquisiteModel", "bidsOf", "(III)I"⟩, 28), (⟨"DawnPerquisiteModel", "name", "(II)V"⟩, 28), (⟨"DawnPerquisiteModel", "hasNow", "(I)I"⟩, 28), (⟨"DawnPerquisiteModel", "ownNow", "(I)I"⟩, 28), (⟨"DawnPerquisiteModel", "says", "(IIIII)I"⟩, 28), (⟨"DawnPerquisiteModel", "summedUp", "(II)J"⟩, 28), (⟨"DawnPerquisiteModel", "ofOne", "(IJ)J"⟩, 28), (⟨"DawnPerquisiteModel", "keepStep", "()V"⟩, 28), (⟨"DawnPerquisiteModel", "sellNow", "(I)I"⟩, 28), (⟨"DawnPerquisiteModel", "write", "(III)V"⟩, 28), (⟨"DawnPerquisiteModel", "canGive", "(I)Z"⟩, 28), (⟨"DawnPerquisiteModel", "giveNow", "(I)V"⟩, 28)]
theorem lw_r7 : ∀ q ∈ lw_privs_7, lw_okq q := List.forall_mem_cons.mpr ⟨lw_p96, List.forall_mem_cons.mpr ⟨lw_p97, List.forall_mem_cons.mpr ⟨lw_p98, List.forall_mem_cons.mpr ⟨lw_p99, List.forall_mem_cons.mpr ⟨lw_p100, List.forall_mem_cons.mpr ⟨lw_p101, List.forall_mem_cons.mpr ⟨lw_p102, List.forall_mem_cons.mpr ⟨lw_p103, List.forall_mem_cons.mpr ⟨lw_p104, List.forall_mem_cons.mpr ⟨lw_p105, List.forall_mem_cons.mpr ⟨lw_p106, List.forall_mem_cons.mpr ⟨lw_p107, List.forall_mem_cons.mpr ⟨lw_p108, List.forall_mem_cons.mpr ⟨lw_p109, List.forall_mem_cons.mpr ⟨lw_p110, List.forall_mem_cons.mpr ⟨lw_p111, fun _ h => absurd h List.not_mem_nil⟩⟩⟩⟩⟩⟩⟩⟩⟩⟩⟩⟩⟩⟩⟩⟩
theorem lw_p112 : lw_okq (⟨"DawnPerquisiteModel", "canTurn", "(I)Z"⟩, 28) := ⟨⟨by decide +kernel, by decide +kernel⟩, lw_t6 (List.mem_of_getElem? (i := 106) rfl), lw_t8 (List.mem_of_getElem? (i := 12) rfl), lw_t8 (List.mem_of_getElem? (i := 13) rfl)⟩
theorem lw_p113 : lw_okq (⟨"DawnPerquisiteModel", "turnNow", "(I)V"⟩, 28) := ⟨⟨by decide +kernel, by decide +kernel⟩, lw_t6 (List.mem_of_getElem? (i := 106) rfl), lw_t8 (List.mem_of_getElem? (i := 16) rfl), lw_t8 (List.mem_of_getElem? (i := 17) rfl)⟩
theorem lw_p114 : lw_okq (⟨"DawnPerquisiteModel", "canPass", "(II)Z"⟩, 28) := ⟨⟨by decide +kernel, by decide +kernel⟩, lw_t6 (List.mem_of_getElem? (i := 106) rfl), lw_t8 (List.mem_of_getElem? (i := 24) rfl), lw_t8 (List.mem_of_getElem? (i := 25) rfl)⟩
theorem lw_p115 : lw_okq (⟨"DawnPerquisiteModel", "arePassed", "(I)Z"⟩, 28) := ⟨⟨by decide +kernel, by decide +kernel⟩, lw_t6 (List.mem_of_getElem? (i := 106) rfl), lw_t8 (List.mem_of_getElem? (i := 32) rfl), lw_t8 (List.mem_of_getElem? (i := 33) rfl)⟩
theorem lw_p116 : lw_okq (⟨"DawnPerquisiteModel", "passDay", "()V"⟩, 28) := ⟨⟨by decide +kernel, by decide +kernel⟩, lw_t6 (List.mem_of_getElem? (i := 106) rfl), lw_t8 (List.mem_of_getElem? (i := 36) rfl), lw_t8 (List.mem_of_getElem? (i := 37) rfl)⟩
theorem lw_p117 : lw_okq (⟨"DawnPerquisiteModel", "earnsOf", "(I)I"⟩, 28) := ⟨⟨by decide +kernel, by decide +kernel⟩, lw_t6 (List.mem_of_getElem? (i := 106) rfl), lw_t8 (List.mem_of_getElem? (i := 40) rfl), lw_t8 (List.mem_of_getElem? (i := 41) rfl)⟩
theorem lw_p118 : lw_okq (⟨"DawnPerquisiteModel", "nextSort", "()I"⟩, 28) := ⟨⟨by decide +kernel, by decide +kernel⟩, lw_t6 (List.mem_of_getElem? (i := 106) rfl), lw_t8 (List.mem_of_getElem? (i := 44) rfl), lw_t8 (List.mem_of_getElem? (i := 45) rfl)⟩
theorem lw_p119 : lw_okq (⟨"DawnPerquisiteModel", "allOdds", "()I"⟩, 28) := ⟨⟨by decide +kernel, by decide +kernel⟩, lw_t6 (List.mem_of_getElem? (i := 106) rfl), lw_t8 (List.mem_of_getElem? (i := 48) rfl), lw_t8 (List.mem_of_getElem? (i := 49) rfl)⟩
theorem lw_p120 : lw_okq (⟨"DawnPerquisiteModel", "drawnBy", "(I)I"⟩, 28) := ⟨⟨by decide +kernel, by decide +kernel⟩, lw_t6 (List.mem_of_getElem? (i := 106) rfl), lw_t8 (List.mem_of_getElem? (i := 52) rfl), lw_t8 (List.mem_of_getElem? (i := 53) rfl)⟩
theorem lw_p121 : lw_okq (⟨"DawnPerquisiteModel", "anew", "()V"⟩, 28) := ⟨⟨by decide +kernel, by decide +kernel⟩, lw_t6 (List.mem_of_getElem? (i := 106) rfl), lw_t8 (List.mem_of_getElem? (i := 56) rfl), lw_t8 (List.mem_of_getElem? (i := 57) rfl)⟩
theorem lw_p122 : lw_okq (⟨"DawnPerquisiteModel", "isPlayed", "(I)Z"⟩, 28) := ⟨⟨by decide +kernel, by decide +kernel⟩, lw_t6 (List.mem_of_getElem? (i := 106) rfl), lw_t8 (List.mem_of_getElem? (i := 67) rfl), lw_t8 (List.mem_of_getElem? (i := 68) rfl)⟩
theorem lw_p123 : lw_okq (⟨"DawnPerquisiteModel", "happens", "(I)V"⟩, 28) := ⟨⟨by decide +kernel, by decide +kernel⟩, lw_t6 (List.mem_of_getElem? (i := 106) rfl), lw_t8 (List.mem_of_getElem? (i := 80) rfl), lw_t8 (List.mem_of_getElem? (i := 81) rfl)⟩
theorem lw_p124 : lw_okq (⟨"DawnPerquisiteModel", "lineOf", "(II)I"⟩, 28) := ⟨⟨by decide +kernel, by decide +kernel⟩, lw_t6 (List.mem_of_getElem? (i := 106) rfl), lw_t8 (List.mem_of_getElem? (i := 104) rfl), lw_t8 (List.mem_of_getElem? (i := 105) rfl)⟩
theorem lw_p125 : lw_okq (⟨"DawnPerquisiteModel", "bestSet", "(II)I"⟩, 28) := ⟨⟨by decide +kernel, by decide +kernel⟩, lw_t6 (List.mem_of_getElem? (i := 106) rfl), lw_t8 (List.mem_of_getElem? (i := 167) rfl), lw_t8 (List.mem_of_getElem? (i := 168) rfl)⟩
theorem lw_p126 : lw_okq (⟨"DawnPerquisiteModel", "broughtBy", "(II)I"⟩, 28) := ⟨⟨by decide +kernel, by decide +kernel⟩, lw_t6 (List.mem_of_getElem? (i := 106) rfl), lw_t8 (List.mem_of_getElem? (i := 171) rfl), lw_t8 (List.mem_of_getElem? (i := 172) rfl)⟩
theorem lw_p127 : lw_okq (⟨"DawnPerquisiteModel", "hoped", "(I)J"⟩, 28) := ⟨⟨by decide +kernel, by decide +kernel⟩, lw_t6 (List.mem_of_getElem? (i := 106) rfl), lw_t8 (List.mem_of_getElem? (i := 186) rfl), lw_t8 (List.mem_of_getElem? (i := 187) rfl)⟩
def lw_privs_8 : List (MethodName × Nat) := [(⟨"DawnPerquisiteModel", "canTurn", "(I)Z"⟩, 28), (⟨"DawnPerquisiteModel", "turnNow", "(I)V"⟩, 28), (⟨"DawnPerquisiteModel", "canPass", "(II)Z"⟩, 28), (⟨"DawnPerquisiteModel", "arePassed", "(I)Z"⟩, 28), (⟨"DawnPerquisiteModel", "passDay", "()V"⟩, 28), (⟨"DawnPerquisiteModel", "earnsOf", "(I)I"⟩, 28), (⟨"DawnPerquisiteModel", "nextSort", "()I"⟩, 28), (⟨"DawnPerquisiteModel", "allOdds", "()I"⟩, 28), (⟨"DawnPerquisiteModel", "drawnBy", "(I)I"⟩, 28), (⟨"DawnPerquisiteModel", "anew", "()V"⟩, 28), (⟨"DawnPerquisiteModel", "isPlayed", "(I)Z"⟩, 28), (⟨"DawnPerquisiteModel", "happens", "(I)V"⟩, 28), (⟨"DawnPerquisiteModel", "lineOf", "(II)I"⟩, 28), (⟨"DawnPerquisiteModel", "bestSet", "(II)I"⟩, 28), (⟨"DawnPerquisiteModel", "broughtBy", "(II)I"⟩, 28), (⟨"DawnPerquisiteModel", "hoped", "(I)J"⟩, 28)]
theorem lw_r8 : ∀ q ∈ lw_privs_8, lw_okq q := List.forall_mem_cons.mpr ⟨lw_p112, List.forall_mem_cons.mpr ⟨lw_p113, List.forall_mem_cons.mpr ⟨lw_p114, List.forall_mem_cons.mpr ⟨lw_p115, List.forall_mem_cons.mpr ⟨lw_p116, List.forall_mem_cons.mpr ⟨lw_p117, List.forall_mem_cons.mpr ⟨lw_p118, List.forall_mem_cons.mpr ⟨lw_p119, List.forall_mem_cons.mpr ⟨lw_p120, List.forall_mem_cons.mpr ⟨lw_p121, List.forall_mem_cons.mpr ⟨lw_p122, List.forall_mem_cons.mpr ⟨lw_p123, List.forall_mem_cons.mpr ⟨lw_p124, List.forall_mem_cons.mpr ⟨lw_p125, List.forall_mem_cons.mpr ⟨lw_p126, List.forall_mem_cons.mpr ⟨lw_p127, fun _ h => absurd h List.not_mem_nil⟩⟩⟩⟩⟩⟩⟩⟩⟩⟩⟩⟩⟩⟩⟩⟩
theorem lw_p128 : lw_okq (⟨"DawnPerquisiteModel", "allRows", "(I)J"⟩, 28) := ⟨⟨by decide +kernel, by decide +kernel⟩, lw_t6 (List.mem_of_getElem? (i := 106) rfl), lw_t8 (List.mem_of_getElem? (i := 190) rfl), lw_t8 (List.mem_of_getElem? (i := 191) rfl)⟩
theorem lw_p129 : lw_okq (⟨"DawnPerquisiteModel", "whole", "()I"⟩, 28) := ⟨⟨by decide +kernel, by decide +kernel⟩, lw_t6 (List.mem_of_getElem? (i := 106) rfl), lw_t8 (List.mem_of_getElem? (i := 194) rfl), lw_t8 (List.mem_of_getElem? (i := 195) rfl)⟩
theorem lw_p130 : lw_okq (⟨"DawnPerquisiteModel", "oddsOf", "(I)I"⟩, 28) := ⟨⟨by decide +kernel, by decide +kernel⟩, lw_t6 (List.mem_of_getElem? (i := 106) rfl), lw_t8 (List.mem_of_getElem? (i := 198) rfl), lw_t8 (List.mem_of_getElem? (i := 199) rfl)⟩
theorem lw_p131 : lw_okq (⟨"DawnPerquisiteModel", "fitting", "()I"⟩, 28) := ⟨⟨by decide +kernel, by decide +kernel⟩, lw_t6 (List.mem_of_getElem? (i := 106) rfl), lw_t8 (List.mem_of_getElem? (i := 223) rfl), lw_t8 (List.mem_of_getElem? (i := 224) rfl)⟩
theorem lw_p132 : lw_okq (⟨"DawnPerquisiteModel", "doesFit", "(I)Z"⟩, 28) := ⟨⟨by decide +kernel, by decide +kernel⟩, lw_t6 (List.mem_of_getElem? (i := 106) rfl), lw_t8 (List.mem_of_getElem? (i := 227) rfl), lw_t8 (List.mem_of_getElem? (i := 228) rfl)⟩
theorem lw_p133 : lw_okq (⟨"DawnPerquisiteModel", "likeliestNow", "()I"⟩, 28) := ⟨⟨by decide +kernel, by decide +kernel⟩, lw_t6 (List.mem_of_getElem? (i := 106) rfl), lw_t8 (List.mem_of_getElem? (i := 235) rfl), lw_t8 (List.mem_of_getElem? (i := 236) rfl)⟩
theorem lw_p134 : lw_okq (⟨"DawnPerquisiteModel", "oddsOfSet", "(I)I"⟩, 28) := ⟨⟨by decide +kernel, by decide +kernel⟩, lw_t6 (List.mem_of_getElem? (i := 106) rfl), lw_t9 (List.mem_of_getElem? (i := 3) rfl), lw_t9 (List.mem_of_getElem? (i := 4) rfl)⟩
theorem lw_p135 : lw_okq (⟨"DawnPerquisiteModel", "greaterPart", "(I)I"⟩, 28) := ⟨⟨by decide +kernel, by decide +kernel⟩, lw_t6 (List.mem_of_getElem? (i := 106) rfl), lw_t9 (List.mem_of_getElem? (i := 11) rfl), lw_t9 (List.mem_of_getElem? (i := 12) rfl)⟩
theorem lw_p136 : lw_okq (⟨"DawnPerquisiteModel", "bidderOf", "(II)I"⟩, 28) := ⟨⟨by decide +kernel, by decide +kernel⟩, lw_t6 (List.mem_of_getElem? (i := 106) rfl), lw_t9 (List.mem_of_getElem? (i := 19) rfl), lw_t9 (List.mem_of_getElem? (i := 20) rfl)⟩
theorem lw_p137 : lw_okq (⟨"DawnPerquisiteModel", "doesBid", "(II)Z"⟩, 28) := ⟨⟨by decide +kernel, by decide +kernel⟩, lw_t6 (List.mem_of_getElem? (i := 106) rfl), lw_t9 (List.mem_of_getElem? (i := 23) rfl), lw_t9 (List.mem_of_getElem? (i := 24) rfl)⟩
theorem lw_p138 : lw_okq (⟨"DawnPerquisiteModel", "bidFor", "(I)I"⟩, 28) := ⟨⟨by decide +kernel, by decide +kernel⟩, lw_t6 (List.mem_of_getElem? (i := 106) rfl), lw_t9 (List.mem_of_getElem? (i := 27) rfl), lw_t9 (List.mem_of_getElem? (i := 28) rfl)⟩
theorem lw_p139 : lw_okq (⟨"DawnPerquisiteModel", "areServed", "(I)Z"⟩, 28) := ⟨⟨by decide +kernel, by decide +kernel⟩, lw_t6 (List.mem_of_getElem? (i := 106) rfl), lw_t9 (List.mem_of_getElem? (i := 35) rfl), lw_t9 (List.mem_of_getElem? (i := 36) rfl)⟩
theorem lw_p140 : lw_okq (⟨"DawnPerquisiteModel", "crowdAt", "(I)I"⟩, 28) := ⟨⟨by decide +kernel, by decide +kernel⟩, lw_t6 (List.mem_of_getElem? (i := 106) rfl), lw_t9 (List.mem_of_getElem? (i := 43) rfl), lw_t9 (List.mem_of_getElem? (i := 44) rfl)⟩
theorem lw_p141 : lw_okq (⟨"DawnPerquisiteModel", "layDawns", "()V"⟩, 28) := ⟨⟨by decide +kernel, by decide +kernel⟩, lw_t6 (List.mem_of_getElem? (i := 106) rfl), lw_t9 (List.mem_of_getElem? (i := 51) rfl), lw_t9 (List.mem_of_getElem? (i := 52) rfl)⟩
theorem lw_p142 : lw_okq (⟨"DawnPerquisiteModel", "layGames", "()V"⟩, 28) := ⟨⟨by decide +kernel, by decide +kernel⟩, lw_t6 (List.mem_of_getElem? (i := 106) rfl), lw_t9 (List.mem_of_getElem? (i := 67) rfl), lw_t9 (List.mem_of_getElem? (i := 68) rfl)⟩
theorem lw_p143 : lw_okq (⟨"DawnPerquisiteModel", "byLeft", "(II)I"⟩, 28) := ⟨⟨by decide +kernel, by decide +kernel⟩, lw_t6 (List.mem_of_getElem? (i := 106) rfl), lw_t9 (List.mem_of_getElem? (i := 71) rfl), lw_t9 (List.mem_of_getElem? (i := 72) rfl)⟩
def lw_privs_9 : List (MethodName × Nat) := [(⟨"DawnPerquisiteModel", "allRows", "(I)J"⟩, 28), (⟨"DawnPerquisiteModel", "whole", "()I"⟩, 28), (⟨"DawnPerquisiteModel", "oddsOf", "(I)I"⟩, 28), (⟨"DawnPerquisiteModel", "fitting", "()I"⟩, 28), (⟨"DawnPerquisiteModel", "doesFit", "(I)Z"⟩, 28), (⟨"DawnPerquisiteModel", "likeliestNow", "()I"⟩, 28), (⟨"DawnPerquisiteModel", "oddsOfSet", "(I)I"⟩, 28), (⟨"DawnPerquisiteModel", "greaterPart", "(I)I"⟩, 28), (⟨"DawnPerquisiteModel", "bidderOf", "(II)I"⟩, 28), (⟨"DawnPerquisiteModel", "doesBid", "(II)Z"⟩, 28), (⟨"DawnPerquisiteModel", "bidFor", "(I)I"⟩, 28), (⟨"DawnPerquisiteModel", "areServed", "(I)Z"⟩, 28), (⟨"DawnPerquisiteModel", "crowdAt", "(I)I"⟩, 28), (⟨"DawnPerquisiteModel", "layDawns", "()V"⟩, 28), (⟨"DawnPerquisiteModel", "layGames", "()V"⟩, 28), (⟨"DawnPerquisiteModel", "byLeft", "(II)I"⟩, 28)]
theorem lw_r9 : ∀ q ∈ lw_privs_9, lw_okq q := List.forall_mem_cons.mpr ⟨lw_p128, List.forall_mem_cons.mpr ⟨lw_p129, List.forall_mem_cons.mpr ⟨lw_p130, List.forall_mem_cons.mpr ⟨lw_p131, List.forall_mem_cons.mpr ⟨lw_p132, List.forall_mem_cons.mpr ⟨lw_p133, List.forall_mem_cons.mpr ⟨lw_p134, List.forall_mem_cons.mpr ⟨lw_p135, List.forall_mem_cons.mpr ⟨lw_p136, List.forall_mem_cons.mpr ⟨lw_p137, List.forall_mem_cons.mpr ⟨lw_p138, List.forall_mem_cons.mpr ⟨lw_p139, List.forall_mem_cons.mpr ⟨lw_p140, List.forall_mem_cons.mpr ⟨lw_p141, List.forall_mem_cons.mpr ⟨lw_p142, List.forall_mem_cons.mpr ⟨lw_p143, fun _ h => absurd h List.not_mem_nil⟩⟩⟩⟩⟩⟩⟩⟩⟩⟩⟩⟩⟩⟩⟩⟩
theorem lw_p144 : lw_okq (⟨"DawnPerquisiteModel", "byRight", "(II)I"⟩, 28) := ⟨⟨by decide +kernel, by decide +kernel⟩, lw_t6 (List.mem_of_getElem? (i := 106) rfl), lw_t9 (List.mem_of_getElem? (i := 75) rfl), lw_t9 (List.mem_of_getElem? (i := 76) rfl)⟩
theorem lw_p145 : lw_okq (⟨"DawnPerquisiteModel", "runOf", "(II)I"⟩, 28) := ⟨⟨by decide +kernel, by decide +kernel⟩, lw_t6 (List.mem_of_getElem? (i := 106) rfl), lw_t9 (List.mem_of_getElem? (i := 87) rfl), lw_t9 (List.mem_of_getElem? (i := 88) rfl)⟩
def lw_privs_10 : List (MethodName × Nat) := [(⟨"DawnPerquisiteModel", "byRight", "(II)I"⟩, 28), (⟨"DawnPerquisiteModel", "runOf", "(II)I"⟩, 28)]
theorem lw_r10 : ∀ q ∈ lw_privs_10, lw_okq q := List.forall_mem_cons.mpr ⟨lw_p144, List.forall_mem_cons.mpr ⟨lw_p145, fun _ h => absurd h List.not_mem_nil⟩⟩
def lw_privs : List (MethodName × Nat) := lw_privs_1 ++ (lw_privs_2 ++ (lw_privs_3 ++ (lw_privs_4 ++ (lw_privs_5 ++ (lw_privs_6 ++ (lw_privs_7 ++ (lw_privs_8 ++ (lw_privs_9 ++ (lw_privs_10)))))))))
def lw_tbl : List Cond := k2_sels lw_privs ++ tables_1
theorem lw_privs_ok : ∀ q ∈ lw_privs, lw_okq q := by
  show ∀ q ∈ lw_privs_1 ++ (lw_privs_2 ++ (lw_privs_3 ++ (lw_privs_4 ++ (lw_privs_5 ++ (lw_privs_6 ++ (lw_privs_7 ++ (lw_privs_8 ++ (lw_privs_9 ++ (lw_privs_10))))))))), lw_okq q
  exact List.forall_mem_append.mpr ⟨lw_r1, List.forall_mem_append.mpr ⟨lw_r2, List.forall_mem_append.mpr ⟨lw_r3, List.forall_mem_append.mpr ⟨lw_r4, List.forall_mem_append.mpr ⟨lw_r5, List.forall_mem_append.mpr ⟨lw_r6, List.forall_mem_append.mpr ⟨lw_r7, List.forall_mem_append.mpr ⟨lw_r8, List.forall_mem_append.mpr ⟨lw_r9, lw_r10⟩⟩⟩⟩⟩⟩⟩⟩⟩
-- ===== ONE list of words for every method: the tables' words that hold all through a run =====
def lw_all : List Cond := lw_tbl.filter goodWord
/-- a word of the tables by its place: claim/WORDS.tsv -/
theorem lw_w {w : Cond} (i : Nat) (h : lw_tbl[i]? = some w) (g : goodWord w = true) : w ∈ lw_all := List.mem_filter.mpr ⟨List.mem_of_getElem? h, g⟩
theorem lw_all_tbl {w : Cond} (h : w ∈ lw_all) : w ∈ lw_tbl := (List.mem_filter.mp h).1
theorem lw_self : GoodIn lw_all lw_all := fun w h => ⟨h, good_of_word (List.mem_filter.mp h).2⟩
/-- a class's field words, by their places -/
theorem lw_in (ws : List Cond) (ps : List Nat) (hp : ws = ps.filterMap (fun i => lw_tbl[i]?)) (hg : ws.all goodWord = true) : ∀ w ∈ ws, w ∈ lw_all := by
  intro w h
  have h1 := List.all_eq_true.mp hg w h
  rw [hp] at h
  obtain ⟨i, -, hi⟩ := List.mem_filterMap.mp h
  exact lw_w i hi h1
/-- the words of a contract for the method y with code b, L locals, answer r -/
abbrev ws_ (y : MethodName) (b : ByteArray) (L : Nat) (r : Option FieldType) : List Cond := Cond.code y b L r :: lw_all
theorem lw_meth {y : MethodName} {b : ByteArray} {L : Nat} {r : Option FieldType} (h : Cond.code y b L r ∈ lw_all) : GoodIn lw_all (ws_ y b L r) := by
  intro w hw
  rcases List.mem_cons.mp hw with e | e
  · rw [e]
    exact lw_self _ h
  · exact lw_self _ e
theorem lw_app {a c : List Cond} (ha : ∀ w ∈ a, w ∈ lw_all) (hc : GoodIn lw_all c) : GoodIn lw_all (a ++ c) := by
  intro w hw
  rcases List.mem_append.mp hw with e | e
  · exact lw_self w (ha w e)
  · exact hc w e
/-- what a call through an object asks: cwV n hts (lw_V ..) -/
theorem lw_V {own : String} {idx : Nat} {C : String} {y : MethodName} {b : ByteArray} {L : Nat} {r : Option FieldType} (h1 : Cond.methodLink own idx y ∈ lw_all) (h2 : Cond.instanceMethod y ∈ lw_all) (h3 : Cond.selects C y y ∈ lw_all) (h4 : Cond.initialized C ∈ lw_all) (h5 : Cond.code y b L r ∈ lw_all) : GoodIn lw_all (wsV own idx C y (ws_ y b L r)) := by
  refine lw_app ?_ (lw_meth h5)
  intro w hw
  simp only [List.mem_cons, List.not_mem_nil, or_false] at hw
  rcases hw with e | e | e | e
  · rw [e]; exact h1
  · rw [e]; exact h2
  · rw [e]; exact h3
  · rw [e]; exact h4
/-- what a static call asks: va_cwS n hts (lw_S ..) -/
theorem lw_S {own : String} {idx : Nat} {y : MethodName} {b : ByteArray} {L : Nat} {r : Option FieldType} (h1 : Cond.methodLink own idx y ∈ lw_all) (h2 : Cond.static y ∈ lw_all) (h3 : Cond.initialized y.cls ∈ lw_all) (h4 : Cond.code y b L r ∈ lw_all) : GoodIn lw_all (va_wsS own idx y (ws_ y b L r)) := by
  refine lw_app ?_ (lw_meth h4)
  intro w hw
  simp only [List.mem_cons, List.not_mem_nil, or_false] at hw
  rcases hw with e | e | e
  · rw [e]; exact h1
  · rw [e]; exact h2
  · rw [e]; exact h3
/-- the words of a contract for a method WITH HANDLERS (hh: its table) -/
abbrev wsW_ (y : MethodName) (b : ByteArray) (L : Nat) (r : Option FieldType) (hh : List (Nat × Nat × Nat × Nat)) : List Cond := Cond.codeWith y b L r hh :: lw_all
theorem lw_methW {y : MethodName} {b : ByteArray} {L : Nat} {r : Option FieldType} {hh : List (Nat × Nat × Nat × Nat)} (h : Cond.codeWith y b L r hh ∈ lw_all) : GoodIn lw_all (wsW_ y b L r hh) := by
  intro w hw
  rcases List.mem_cons.mp hw with e | e
  · rw [e]
    exact lw_self _ h
  · exact lw_self _ e
/-- any list of words by their places (lw_in), good -/
theorem lw_good {ws : List Cond} (h : ∀ w ∈ ws, w ∈ lw_all) : GoodIn lw_all ws := fun w hw => lw_self w (h w hw)
/-- what a call of a method with handlers asks: vx_cwVW n hts (lw_VW ..), vx_cwSW n hts (lw_SW ..) -/
theorem lw_VW {own : String} {idx : Nat} {C : String} {y : MethodName} {b : ByteArray} {L : Nat} {r : Option FieldType} {hh : List (Nat × Nat × Nat × Nat)} (h1 : Cond.methodLink own idx y ∈ lw_all) (h2 : Cond.instanceMethod y ∈ lw_all) (h3 : Cond.selects C y y ∈ lw_all) (h4 : Cond.initialized C ∈ lw_all) (h5 : Cond.codeWith y b L r hh ∈ lw_all) : GoodIn lw_all (wsV own idx C y (wsW_ y b L r hh)) := by
  refine lw_app ?_ (lw_methW h5)
  intro w hw
  simp only [List.mem_cons, List.not_mem_nil, or_false] at hw
  rcases hw with e | e | e | e
  · rw [e]; exact h1
  · rw [e]; exact h2
  · rw [e]; exact h3
  · rw [e]; exact h4
theorem lw_SW {own : String} {idx : Nat} {y : MethodName} {b : ByteArray} {L : Nat} {r : Option FieldType} {hh : List (Nat × Nat × Nat × Nat)} (h1 : Cond.methodLink own idx y ∈ lw_all) (h2 : Cond.static y ∈ lw_all) (h3 : Cond.initialized y.cls ∈ lw_all) (h4 : Cond.codeWith y b L r hh ∈ lw_all) : GoodIn lw_all (va_wsS own idx y (wsW_ y b L r hh)) := by
  refine lw_app ?_ (lw_methW h4)
  intro w hw
  simp only [List.mem_cons, List.not_mem_nil, or_false] at hw
  rcases hw with e | e | e
  · rw [e]; exact h1
  · rw [e]; exact h2
  · rw [e]; exact h3
/-- a word by its place in its run of the tables -/
theorem lw_at {r : List Cond} (hr : ∀ w ∈ r, w ∈ lw_tbl) {w : Cond} (i : Nat) (h : r[i]? = some w) : w ∈ lw_tbl := hr w (List.mem_of_getElem? h)
theorem lw_g {w : Cond} (h : w ∈ lw_tbl) (g : goodWord w = true) : w ∈ lw_all := List.mem_filter.mpr ⟨h, g⟩
theorem lw_ms : ∀ w ∈ k2_sels lw_privs, w ∈ lw_tbl := fun w h => show w ∈ k2_sels lw_privs ++ tables_1 from List.mem_append_left _ h
theorem lw_m1 : ∀ w ∈ tables_1_1, w ∈ lw_tbl := fun w h => show w ∈ k2_sels lw_privs ++ tables_1 from List.mem_append_right (k2_sels lw_privs) (show w ∈ tables_1 from List.mem_append_left _ h)
theorem lw_m2 : ∀ w ∈ tables_1_2, w ∈ lw_tbl := fun w h => show w ∈ k2_sels lw_privs ++ tables_1 from List.mem_append_right (k2_sels lw_privs) (show w ∈ tables_1 from List.mem_append_right _ (List.mem_append_left _ h))
theorem lw_m3 : ∀ w ∈ tables_1_3, w ∈ lw_tbl := fun w h => show w ∈ k2_sels lw_privs ++ tables_1 from List.mem_append_right (k2_sels lw_privs) (show w ∈ tables_1 from List.mem_append_right _ (List.mem_append_right _ (List.mem_append_left _ h)))
theorem lw_m4 : ∀ w ∈ tables_1_4, w ∈ lw_tbl := fun w h => show w ∈ k2_sels lw_privs ++ tables_1 from List.mem_append_right (k2_sels lw_privs) (show w ∈ tables_1 from List.mem_append_right _ (List.mem_append_right _ (List.mem_append_right _ (List.mem_append_left _ h))))
theorem lw_m5 : ∀ w ∈ tables_1_5, w ∈ lw_tbl := fun w h => show w ∈ k2_sels lw_privs ++ tables_1 from List.mem_append_right (k2_sels lw_privs) (show w ∈ tables_1 from List.mem_append_right _ (List.mem_append_right _ (List.mem_append_right _ (List.mem_append_right _ (List.mem_append_left _ h)))))
theorem lw_m6 : ∀ w ∈ tables_1_6, w ∈ lw_tbl := fun w h => show w ∈ k2_sels lw_privs ++ tables_1 from List.mem_append_right (k2_sels lw_privs) (show w ∈ tables_1 from List.mem_append_right _ (List.mem_append_right _ (List.mem_append_right _ (List.mem_append_right _ (List.mem_append_right _ (List.mem_append_left _ h))))))
theorem lw_m7 : ∀ w ∈ tables_1_7, w ∈ lw_tbl := fun w h => show w ∈ k2_sels lw_privs ++ tables_1 from List.mem_append_right (k2_sels lw_privs) (show w ∈ tables_1 from List.mem_append_right _ (List.mem_append_right _ (List.mem_append_right _ (List.mem_append_right _ (List.mem_append_right _ (List.mem_append_right _ (List.mem_append_left _ h)))))))
theorem lw_m8 : ∀ w ∈ tables_1_8, w ∈ lw_tbl := fun w h => show w ∈ k2_sels lw_privs ++ tables_1 from List.mem_append_right (k2_sels lw_privs) (show w ∈ tables_1 from List.mem_append_right _ (List.mem_append_right _ (List.mem_append_right _ (List.mem_append_right _ (List.mem_append_right _ (List.mem_append_right _ (List.mem_append_right _ (List.mem_append_left _ h))))))))
theorem lw_m9 : ∀ w ∈ tables_1_9, w ∈ lw_tbl := fun w h => show w ∈ k2_sels lw_privs ++ tables_1 from List.mem_append_right (k2_sels lw_privs) (show w ∈ tables_1 from List.mem_append_right _ (List.mem_append_right _ (List.mem_append_right _ (List.mem_append_right _ (List.mem_append_right _ (List.mem_append_right _ (List.mem_append_right _ (List.mem_append_right _ h))))))))
theorem qs0 : (Cond.selects "DawnPerquisite" ⟨"DawnPerquisite", "buyers", "()I"⟩ ⟨"DawnPerquisite", "buyers", "()I"⟩) ∈ lw_all := lw_g (lw_at lw_ms 0 rfl) rfl
theorem qs1 : (Cond.selects "DawnPerquisite" ⟨"DawnPerquisite", "put", "(I)V"⟩ ⟨"DawnPerquisite", "put", "(I)V"⟩) ∈ lw_all := lw_g (lw_at lw_ms 1 rfl) rfl
theorem qs2 : (Cond.selects "DawnPerquisite$Tokens" ⟨"DawnPerquisite$Tokens", "next", "()V"⟩ ⟨"DawnPerquisite$Tokens", "next", "()V"⟩) ∈ lw_all := lw_g (lw_at lw_ms 2 rfl) rfl
theorem qs3 : (Cond.selects "DawnPerquisite$Tokens" ⟨"DawnPerquisite$Tokens", "isWord", "(Ljava/lang/String;)Z"⟩ ⟨"DawnPerquisite$Tokens", "isWord", "(Ljava/lang/String;)Z"⟩) ∈ lw_all := lw_g (lw_at lw_ms 3 rfl) rfl
theorem qs4 : (Cond.selects "DawnPerquisite$Tokens" ⟨"DawnPerquisite$Tokens", "wrong", "(I)LDawnPerquisite$Wrong;"⟩ ⟨"DawnPerquisite$Tokens", "wrong", "(I)LDawnPerquisite$Wrong;"⟩) ∈ lw_all := lw_g (lw_at lw_ms 4 rfl) rfl
theorem qs5 : (Cond.selects "java/lang/Throwable" ⟨"java/lang/Throwable", "fillInStackTrace", "(I)Ljava/lang/Throwable;"⟩ ⟨"java/lang/Throwable", "fillInStackTrace", "(I)Ljava/lang/Throwable;"⟩) ∈ lw_all := lw_g (lw_at lw_ms 5 rfl) rfl
theorem qs6 : (Cond.selects "DawnPerquisite$Tokens" ⟨"DawnPerquisite$Tokens", "sum", "()LDawnPerquisite$Sum;"⟩ ⟨"DawnPerquisite$Tokens", "sum", "()LDawnPerquisite$Sum;"⟩) ∈ lw_all := lw_g (lw_at lw_ms 6 rfl) rfl
theorem qs7 : (Cond.selects "DawnPerquisite$Tokens" ⟨"DawnPerquisite$Tokens", "product", "()LDawnPerquisite$Sum;"⟩ ⟨"DawnPerquisite$Tokens", "product", "()LDawnPerquisite$Sum;"⟩) ∈ lw_all := lw_g (lw_at lw_ms 7 rfl) rfl
theorem qs8 : (Cond.selects "DawnPerquisite$Tokens" ⟨"DawnPerquisite$Tokens", "one", "()LDawnPerquisite$Sum;"⟩ ⟨"DawnPerquisite$Tokens", "one", "()LDawnPerquisite$Sum;"⟩) ∈ lw_all := lw_g (lw_at lw_ms 8 rfl) rfl
theorem qs9 : (Cond.selects "DawnPerquisite$Tokens" ⟨"DawnPerquisite$Tokens", "number", "(II)I"⟩ ⟨"DawnPerquisite$Tokens", "number", "(II)I"⟩) ∈ lw_all := lw_g (lw_at lw_ms 9 rfl) rfl
theorem qs10 : (Cond.selects "DawnPerquisite$Tokens" ⟨"DawnPerquisite$Tokens", "choice", "()LDawnPerquisite$Sum;"⟩ ⟨"DawnPerquisite$Tokens", "choice", "()LDawnPerquisite$Sum;"⟩) ∈ lw_all := lw_g (lw_at lw_ms 10 rfl) rfl
theorem qs11 : (Cond.selects "DawnPerquisite$Tokens" ⟨"DawnPerquisite$Tokens", "opens", "()V"⟩ ⟨"DawnPerquisite$Tokens", "opens", "()V"⟩) ∈ lw_all := lw_g (lw_at lw_ms 11 rfl) rfl
theorem qs12 : (Cond.selects "DawnPerquisite$Tokens" ⟨"DawnPerquisite$Tokens", "either", "()LDawnPerquisite$Asked;"⟩ ⟨"DawnPerquisite$Tokens", "either", "()LDawnPerquisite$Asked;"⟩) ∈ lw_all := lw_g (lw_at lw_ms 12 rfl) rfl
theorem qs13 : (Cond.selects "DawnPerquisite$Tokens" ⟨"DawnPerquisite$Tokens", "both", "()LDawnPerquisite$Asked;"⟩ ⟨"DawnPerquisite$Tokens", "both", "()LDawnPerquisite$Asked;"⟩) ∈ lw_all := lw_g (lw_at lw_ms 13 rfl) rfl
theorem qs14 : (Cond.selects "DawnPerquisite$Tokens" ⟨"DawnPerquisite$Tokens", "ask", "()LDawnPerquisite$Asked;"⟩ ⟨"DawnPerquisite$Tokens", "ask", "()LDawnPerquisite$Asked;"⟩) ∈ lw_all := lw_g (lw_at lw_ms 14 rfl) rfl
theorem qs15 : (Cond.selects "java/util/ArrayList" ⟨"java/util/ArrayList", "add", "(Ljava/lang/Object;[Ljava/lang/Object;I)V"⟩ ⟨"java/util/ArrayList", "add", "(Ljava/lang/Object;[Ljava/lang/Object;I)V"⟩) ∈ lw_all := lw_g (lw_at lw_ms 15 rfl) rfl
theorem qs16 : (Cond.selects "java/util/ArrayList" ⟨"java/util/ArrayList", "grow", "()[Ljava/lang/Object;"⟩ ⟨"java/util/ArrayList", "grow", "()[Ljava/lang/Object;"⟩) ∈ lw_all := lw_g (lw_at lw_ms 16 rfl) rfl
theorem qs17 : (Cond.selects "java/util/ArrayList" ⟨"java/util/ArrayList", "grow", "(I)[Ljava/lang/Object;"⟩ ⟨"java/util/ArrayList", "grow", "(I)[Ljava/lang/Object;"⟩) ∈ lw_all := lw_g (lw_at lw_ms 17 rfl) rfl
theorem qs18 : (Cond.selects "DawnPerquisite$Tokens" ⟨"DawnPerquisite$Tokens", "want", "(I)V"⟩ ⟨"DawnPerquisite$Tokens", "want", "(I)V"⟩) ∈ lw_all := lw_g (lw_at lw_ms 18 rfl) rfl
theorem qs19 : (Cond.selects "DawnPerquisite$Tokens" ⟨"DawnPerquisite$Tokens", "nameNow", "()I"⟩ ⟨"DawnPerquisite$Tokens", "nameNow", "()I"⟩) ∈ lw_all := lw_g (lw_at lw_ms 19 rfl) rfl
theorem qs20 : (Cond.selects "DawnPerquisite$Tokens" ⟨"DawnPerquisite$Tokens", "mayName", "(I)Z"⟩ ⟨"DawnPerquisite$Tokens", "mayName", "(I)Z"⟩) ∈ lw_all := lw_g (lw_at lw_ms 20 rfl) rfl
theorem qs21 : (Cond.selects "DawnPerquisite$Tokens" ⟨"DawnPerquisite$Tokens", "doing", "(I)LDawnPerquisite$Doing;"⟩ ⟨"DawnPerquisite$Tokens", "doing", "(I)LDawnPerquisite$Doing;"⟩) ∈ lw_all := lw_g (lw_at lw_ms 21 rfl) rfl
theorem qs22 : (Cond.selects "DawnPerquisite" ⟨"DawnPerquisite", "isText", "(I)Z"⟩ ⟨"DawnPerquisite", "isText", "(I)Z"⟩) ∈ lw_all := lw_g (lw_at lw_ms 22 rfl) rfl
theorem qs23 : (Cond.selects "DawnPerquisite" ⟨"DawnPerquisite", "canSell", "(I)Z"⟩ ⟨"DawnPerquisite", "canSell", "(I)Z"⟩) ∈ lw_all := lw_g (lw_at lw_ms 23 rfl) rfl
theorem qs24 : (Cond.selects "DawnPerquisite" ⟨"DawnPerquisite", "isBuyer", "(I)Z"⟩ ⟨"DawnPerquisite", "isBuyer", "(I)Z"⟩) ∈ lw_all := lw_g (lw_at lw_ms 24 rfl) rfl
theorem qs25 : (Cond.selects "DawnPerquisite" ⟨"DawnPerquisite", "doesWant", "(II)Z"⟩ ⟨"DawnPerquisite", "doesWant", "(II)Z"⟩) ∈ lw_all := lw_g (lw_at lw_ms 25 rfl) rfl
theorem qs26 : (Cond.selects "DawnPerquisite" ⟨"DawnPerquisite", "slicesOf", "(I)I"⟩ ⟨"DawnPerquisite", "slicesOf", "(I)I"⟩) ∈ lw_all := lw_g (lw_at lw_ms 26 rfl) rfl
theorem qs27 : (Cond.selects "DawnPerquisite" ⟨"DawnPerquisite", "bidsNow", "(II)I"⟩ ⟨"DawnPerquisite", "bidsNow", "(II)I"⟩) ∈ lw_all := lw_g (lw_at lw_ms 27 rfl) rfl
theorem qs28 : (Cond.selects "DawnPerquisite" ⟨"DawnPerquisite", "rules", "()LDawnPerquisite$Text;"⟩ ⟨"DawnPerquisite", "rules", "()LDawnPerquisite$Text;"⟩) ∈ lw_all := lw_g (lw_at lw_ms 28 rfl) rfl
theorem qs29 : (Cond.selects "DawnPerquisite" ⟨"DawnPerquisite", "bidsBy", "(LDawnPerquisite$Text;[III)I"⟩ ⟨"DawnPerquisite", "bidsBy", "(LDawnPerquisite$Text;[III)I"⟩) ∈ lw_all := lw_g (lw_at lw_ms 29 rfl) rfl
theorem qs30 : (Cond.selects "DawnPerquisite" ⟨"DawnPerquisite", "namesOf", "([III)V"⟩ ⟨"DawnPerquisite", "namesOf", "([III)V"⟩) ∈ lw_all := lw_g (lw_at lw_ms 30 rfl) rfl
theorem qs31 : (Cond.selects "DawnPerquisite" ⟨"DawnPerquisite", "longOf", "(I)I"⟩ ⟨"DawnPerquisite", "longOf", "(I)I"⟩) ∈ lw_all := lw_g (lw_at lw_ms 31 rfl) rfl
theorem qs32 : (Cond.selects "DawnPerquisite" ⟨"DawnPerquisite", "sells", "(I)I"⟩ ⟨"DawnPerquisite", "sells", "(I)I"⟩) ∈ lw_all := lw_g (lw_at lw_ms 32 rfl) rfl
theorem qs33 : (Cond.selects "DawnPerquisite" ⟨"DawnPerquisite", "canGive", "(I)Z"⟩ ⟨"DawnPerquisite", "canGive", "(I)Z"⟩) ∈ lw_all := lw_g (lw_at lw_ms 33 rfl) rfl
theorem qs34 : (Cond.selects "DawnPerquisite" ⟨"DawnPerquisite", "gives", "(I)V"⟩ ⟨"DawnPerquisite", "gives", "(I)V"⟩) ∈ lw_all := lw_g (lw_at lw_ms 34 rfl) rfl
theorem qs35 : (Cond.selects "DawnPerquisite" ⟨"DawnPerquisite", "canTurn", "(I)Z"⟩ ⟨"DawnPerquisite", "canTurn", "(I)Z"⟩) ∈ lw_all := lw_g (lw_at lw_ms 35 rfl) rfl
theorem qs36 : (Cond.selects "DawnPerquisite" ⟨"DawnPerquisite", "turns", "(I)V"⟩ ⟨"DawnPerquisite", "turns", "(I)V"⟩) ∈ lw_all := lw_g (lw_at lw_ms 36 rfl) rfl
theorem qs37 : (Cond.selects "DawnPerquisite" ⟨"DawnPerquisite", "canPass", "(II)Z"⟩ ⟨"DawnPerquisite", "canPass", "(II)Z"⟩) ∈ lw_all := lw_g (lw_at lw_ms 37 rfl) rfl
theorem qs38 : (Cond.selects "DawnPerquisite" ⟨"DawnPerquisite", "priceOf", "(II)I"⟩ ⟨"DawnPerquisite", "priceOf", "(II)I"⟩) ∈ lw_all := lw_g (lw_at lw_ms 38 rfl) rfl
theorem qs39 : (Cond.selects "DawnPerquisite" ⟨"DawnPerquisite", "passes", "([I)I"⟩ ⟨"DawnPerquisite", "passes", "([I)I"⟩) ∈ lw_all := lw_g (lw_at lw_ms 39 rfl) rfl
theorem qs40 : (Cond.selects "DawnPerquisite" ⟨"DawnPerquisite", "earnsOf", "([II)I"⟩ ⟨"DawnPerquisite", "earnsOf", "([II)I"⟩) ∈ lw_all := lw_g (lw_at lw_ms 40 rfl) rfl
theorem qs41 : (Cond.selects "DawnPerquisite" ⟨"DawnPerquisite", "toldOdds", "()I"⟩ ⟨"DawnPerquisite", "toldOdds", "()I"⟩) ∈ lw_all := lw_g (lw_at lw_ms 41 rfl) rfl
theorem qs42 : (Cond.selects "DawnPerquisite" ⟨"DawnPerquisite", "sortBy", "(I)I"⟩ ⟨"DawnPerquisite", "sortBy", "(I)I"⟩) ∈ lw_all := lw_g (lw_at lw_ms 42 rfl) rfl
theorem qs43 : (Cond.selects "DawnPerquisite" ⟨"DawnPerquisite", "oddsOf", "(I)I"⟩ ⟨"DawnPerquisite", "oddsOf", "(I)I"⟩) ∈ lw_all := lw_g (lw_at lw_ms 43 rfl) rfl
theorem qs44 : (Cond.selects "DawnPerquisite" ⟨"DawnPerquisite", "does", "(LDawnPerquisite$Doing;)Z"⟩ ⟨"DawnPerquisite", "does", "(LDawnPerquisite$Doing;)Z"⟩) ∈ lw_all := lw_g (lw_at lw_ms 44 rfl) rfl
theorem qs45 : (Cond.selects "DawnPerquisite" ⟨"DawnPerquisite", "passesAll", "(I)Z"⟩ ⟨"DawnPerquisite", "passesAll", "(I)Z"⟩) ∈ lw_all := lw_g (lw_at lw_ms 45 rfl) rfl
theorem qs46 : (Cond.selects "DawnPerquisite" ⟨"DawnPerquisite", "befalls", "(I)V"⟩ ⟨"DawnPerquisite", "befalls", "(I)V"⟩) ∈ lw_all := lw_g (lw_at lw_ms 46 rfl) rfl
theorem qs47 : (Cond.selects "DawnPerquisite" ⟨"DawnPerquisite", "pursesOf", "([I)I"⟩ ⟨"DawnPerquisite", "pursesOf", "([I)I"⟩) ∈ lw_all := lw_g (lw_at lw_ms 47 rfl) rfl
theorem qs48 : (Cond.selects "DawnPerquisite" ⟨"DawnPerquisite", "packOf", "(II)I"⟩ ⟨"DawnPerquisite", "packOf", "(II)I"⟩) ∈ lw_all := lw_g (lw_at lw_ms 48 rfl) rfl
theorem qs49 : (Cond.selects "DawnPerquisite" ⟨"DawnPerquisite", "everybody", "()I"⟩ ⟨"DawnPerquisite", "everybody", "()I"⟩) ∈ lw_all := lw_g (lw_at lw_ms 49 rfl) rfl
theorem qs50 : (Cond.selects "DawnPerquisite" ⟨"DawnPerquisite", "bringsOf", "(II)I"⟩ ⟨"DawnPerquisite", "bringsOf", "(II)I"⟩) ∈ lw_all := lw_g (lw_at lw_ms 50 rfl) rfl
theorem qs51 : (Cond.selects "DawnPerquisite" ⟨"DawnPerquisite", "hopeOf", "(I)J"⟩ ⟨"DawnPerquisite", "hopeOf", "(I)J"⟩) ∈ lw_all := lw_g (lw_at lw_ms 51 rfl) rfl
theorem qs52 : (Cond.selects "DawnPerquisite" ⟨"DawnPerquisite", "allOdds", "()I"⟩ ⟨"DawnPerquisite", "allOdds", "()I"⟩) ∈ lw_all := lw_g (lw_at lw_ms 52 rfl) rfl
theorem qs53 : (Cond.selects "DawnPerquisite" ⟨"DawnPerquisite", "told", "()I"⟩ ⟨"DawnPerquisite", "told", "()I"⟩) ∈ lw_all := lw_g (lw_at lw_ms 53 rfl) rfl
theorem qs54 : (Cond.selects "DawnPerquisite" ⟨"DawnPerquisite", "couldBe", "(I)Z"⟩ ⟨"DawnPerquisite", "couldBe", "(I)Z"⟩) ∈ lw_all := lw_g (lw_at lw_ms 54 rfl) rfl
theorem qs55 : (Cond.selects "DawnPerquisite" ⟨"DawnPerquisite", "oddsThatFit", "()I"⟩ ⟨"DawnPerquisite", "oddsThatFit", "()I"⟩) ∈ lw_all := lw_g (lw_at lw_ms 55 rfl) rfl
theorem qs56 : (Cond.selects "DawnPerquisite" ⟨"DawnPerquisite", "greaterPart", "(I)I"⟩ ⟨"DawnPerquisite", "greaterPart", "(I)I"⟩) ∈ lw_all := lw_g (lw_at lw_ms 56 rfl) rfl
theorem qs57 : (Cond.selects "DawnPerquisite" ⟨"DawnPerquisite", "bidsFor", "(II)I"⟩ ⟨"DawnPerquisite", "bidsFor", "(II)I"⟩) ∈ lw_all := lw_g (lw_at lw_ms 57 rfl) rfl
theorem qs58 : (Cond.selects "DawnPerquisite" ⟨"DawnPerquisite", "servesAll", "(I)Z"⟩ ⟨"DawnPerquisite", "servesAll", "(I)Z"⟩) ∈ lw_all := lw_g (lw_at lw_ms 58 rfl) rfl
theorem qs59 : (Cond.selects "DawnPerquisite" ⟨"DawnPerquisite", "wantedBy", "(I)I"⟩ ⟨"DawnPerquisite", "wantedBy", "(I)I"⟩) ∈ lw_all := lw_g (lw_at lw_ms 59 rfl) rfl
theorem qs60 : (Cond.selects "DawnPerquisite" ⟨"DawnPerquisite", "nextBuyer", "()I"⟩ ⟨"DawnPerquisite", "nextBuyer", "()I"⟩) ∈ lw_all := lw_g (lw_at lw_ms 60 rfl) rfl
theorem qs61 : (Cond.selects "DawnPerquisite" ⟨"DawnPerquisite", "laysMore", "()V"⟩ ⟨"DawnPerquisite", "laysMore", "()V"⟩) ∈ lw_all := lw_g (lw_at lw_ms 61 rfl) rfl
theorem qs62 : (Cond.selects "DawnPerquisite" ⟨"DawnPerquisite", "leftFirst", "(II)I"⟩ ⟨"DawnPerquisite", "leftFirst", "(II)I"⟩) ∈ lw_all := lw_g (lw_at lw_ms 62 rfl) rfl
theorem qs63 : (Cond.selects "DawnPerquisite" ⟨"DawnPerquisite", "rightFirst", "(II)I"⟩ ⟨"DawnPerquisite", "rightFirst", "(II)I"⟩) ∈ lw_all := lw_g (lw_at lw_ms 63 rfl) rfl
theorem qs64 : (Cond.selects "DawnPerquisite" ⟨"DawnPerquisite", "runOf", "(II)I"⟩ ⟨"DawnPerquisite", "runOf", "(II)I"⟩) ∈ lw_all := lw_g (lw_at lw_ms 64 rfl) rfl
theorem qs65 : (Cond.selects "DawnPerquisite" ⟨"DawnPerquisite", "isLaw", "(LDawnPerquisite$Text;)Z"⟩ ⟨"DawnPerquisite", "isLaw", "(LDawnPerquisite$Text;)Z"⟩) ∈ lw_all := lw_g (lw_at lw_ms 65 rfl) rfl
theorem qs66 : (Cond.selects "DawnPerquisiteModel" ⟨"DawnPerquisiteModel", "four", "(I)V"⟩ ⟨"DawnPerquisiteModel", "four", "(I)V"⟩) ∈ lw_all := lw_g (lw_at lw_ms 66 rfl) rfl
theorem qs67 : (Cond.selects "DawnPerquisiteModel" ⟨"DawnPerquisiteModel", "readText", "()I"⟩ ⟨"DawnPerquisiteModel", "readText", "()I"⟩) ∈ lw_all := lw_g (lw_at lw_ms 67 rfl) rfl
theorem qs68 : (Cond.selects "DawnPerquisiteModel" ⟨"DawnPerquisiteModel", "nextToken", "()V"⟩ ⟨"DawnPerquisiteModel", "nextToken", "()V"⟩) ∈ lw_all := lw_g (lw_at lw_ms 68 rfl) rfl
theorem qs69 : (Cond.selects "DawnPerquisiteModel" ⟨"DawnPerquisiteModel", "byteAt", "(I)I"⟩ ⟨"DawnPerquisiteModel", "byteAt", "(I)I"⟩) ∈ lw_all := lw_g (lw_at lw_ms 69 rfl) rfl
theorem qs70 : (Cond.selects "DawnPerquisiteModel" ⟨"DawnPerquisiteModel", "clause", "()I"⟩ ⟨"DawnPerquisiteModel", "clause", "()I"⟩) ∈ lw_all := lw_g (lw_at lw_ms 70 rfl) rfl
theorem qs71 : (Cond.selects "DawnPerquisiteModel" ⟨"DawnPerquisiteModel", "sortOf", "()I"⟩ ⟨"DawnPerquisiteModel", "sortOf", "()I"⟩) ∈ lw_all := lw_g (lw_at lw_ms 71 rfl) rfl
theorem qs72 : (Cond.selects "DawnPerquisiteModel" ⟨"DawnPerquisiteModel", "isWord", "(J)Z"⟩ ⟨"DawnPerquisiteModel", "isWord", "(J)Z"⟩) ∈ lw_all := lw_g (lw_at lw_ms 72 rfl) rfl
theorem qs73 : (Cond.selects "DawnPerquisiteModel" ⟨"DawnPerquisiteModel", "body", "(II)I"⟩ ⟨"DawnPerquisiteModel", "body", "(II)I"⟩) ∈ lw_all := lw_g (lw_at lw_ms 73 rfl) rfl
theorem qs74 : (Cond.selects "DawnPerquisiteModel" ⟨"DawnPerquisiteModel", "buyerClause", "(I)I"⟩ ⟨"DawnPerquisiteModel", "buyerClause", "(I)I"⟩) ∈ lw_all := lw_g (lw_at lw_ms 74 rfl) rfl
theorem qs75 : (Cond.selects "DawnPerquisiteModel" ⟨"DawnPerquisiteModel", "figure", "(III)I"⟩ ⟨"DawnPerquisiteModel", "figure", "(III)I"⟩) ∈ lw_all := lw_g (lw_at lw_ms 75 rfl) rfl
theorem qs76 : (Cond.selects "DawnPerquisiteModel" ⟨"DawnPerquisiteModel", "sortClause", "(I)I"⟩ ⟨"DawnPerquisiteModel", "sortClause", "(I)I"⟩) ∈ lw_all := lw_g (lw_at lw_ms 76 rfl) rfl
theorem qs77 : (Cond.selects "DawnPerquisiteModel" ⟨"DawnPerquisiteModel", "lawClause", "(I)I"⟩ ⟨"DawnPerquisiteModel", "lawClause", "(I)I"⟩) ∈ lw_all := lw_g (lw_at lw_ms 77 rfl) rfl
theorem qs78 : (Cond.selects "DawnPerquisiteModel" ⟨"DawnPerquisiteModel", "summed", "()I"⟩ ⟨"DawnPerquisiteModel", "summed", "()I"⟩) ∈ lw_all := lw_g (lw_at lw_ms 78 rfl) rfl
theorem qs79 : (Cond.selects "DawnPerquisiteModel" ⟨"DawnPerquisiteModel", "behindOne", "()Z"⟩ ⟨"DawnPerquisiteModel", "behindOne", "()Z"⟩) ∈ lw_all := lw_g (lw_at lw_ms 79 rfl) rfl
theorem qs80 : (Cond.selects "DawnPerquisiteModel" ⟨"DawnPerquisiteModel", "betweenOf", "()I"⟩ ⟨"DawnPerquisiteModel", "betweenOf", "()I"⟩) ∈ lw_all := lw_g (lw_at lw_ms 80 rfl) rfl
theorem qs81 : (Cond.selects "DawnPerquisiteModel" ⟨"DawnPerquisiteModel", "openNow", "()I"⟩ ⟨"DawnPerquisiteModel", "openNow", "()I"⟩) ∈ lw_all := lw_g (lw_at lw_ms 81 rfl) rfl
theorem qs82 : (Cond.selects "DawnPerquisiteModel" ⟨"DawnPerquisiteModel", "openAt", "()I"⟩ ⟨"DawnPerquisiteModel", "openAt", "()I"⟩) ∈ lw_all := lw_g (lw_at lw_ms 82 rfl) rfl
theorem qs83 : (Cond.selects "DawnPerquisiteModel" ⟨"DawnPerquisiteModel", "isCompared", "()Z"⟩ ⟨"DawnPerquisiteModel", "isCompared", "()Z"⟩) ∈ lw_all := lw_g (lw_at lw_ms 83 rfl) rfl
theorem qs84 : (Cond.selects "DawnPerquisiteModel" ⟨"DawnPerquisiteModel", "compareOf", "()I"⟩ ⟨"DawnPerquisiteModel", "compareOf", "()I"⟩) ∈ lw_all := lw_g (lw_at lw_ms 84 rfl) rfl
theorem qs85 : (Cond.selects "DawnPerquisiteModel" ⟨"DawnPerquisiteModel", "settle", "(I)V"⟩ ⟨"DawnPerquisiteModel", "settle", "(I)V"⟩) ∈ lw_all := lw_g (lw_at lw_ms 85 rfl) rfl
theorem qs86 : (Cond.selects "DawnPerquisiteModel" ⟨"DawnPerquisiteModel", "emit", "(II)V"⟩ ⟨"DawnPerquisiteModel", "emit", "(II)V"⟩) ∈ lw_all := lw_g (lw_at lw_ms 86 rfl) rfl
theorem qs87 : (Cond.selects "DawnPerquisiteModel" ⟨"DawnPerquisiteModel", "partOf", "(I)I"⟩ ⟨"DawnPerquisiteModel", "partOf", "(I)I"⟩) ∈ lw_all := lw_g (lw_at lw_ms 87 rfl) rfl
theorem qs88 : (Cond.selects "DawnPerquisiteModel" ⟨"DawnPerquisiteModel", "beginOne", "()I"⟩ ⟨"DawnPerquisiteModel", "beginOne", "()I"⟩) ∈ lw_all := lw_g (lw_at lw_ms 88 rfl) rfl
theorem qs89 : (Cond.selects "DawnPerquisiteModel" ⟨"DawnPerquisiteModel", "nameOf", "()I"⟩ ⟨"DawnPerquisiteModel", "nameOf", "()I"⟩) ∈ lw_all := lw_g (lw_at lw_ms 89 rfl) rfl
theorem qs90 : (Cond.selects "DawnPerquisiteModel" ⟨"DawnPerquisiteModel", "isOf", "(I)Z"⟩ ⟨"DawnPerquisiteModel", "isOf", "(I)Z"⟩) ∈ lw_all := lw_g (lw_at lw_ms 90 rfl) rfl
theorem qs91 : (Cond.selects "DawnPerquisiteModel" ⟨"DawnPerquisiteModel", "opened", "(I)I"⟩ ⟨"DawnPerquisiteModel", "opened", "(I)I"⟩) ∈ lw_all := lw_g (lw_at lw_ms 91 rfl) rfl
theorem qs92 : (Cond.selects "DawnPerquisiteModel" ⟨"DawnPerquisiteModel", "isAskAhead", "()Z"⟩ ⟨"DawnPerquisiteModel", "isAskAhead", "()Z"⟩) ∈ lw_all := lw_g (lw_at lw_ms 92 rfl) rfl
theorem qs93 : (Cond.selects "DawnPerquisiteModel" ⟨"DawnPerquisiteModel", "canSell", "(I)Z"⟩ ⟨"DawnPerquisiteModel", "canSell", "(I)Z"⟩) ∈ lw_all := lw_g (lw_at lw_ms 93 rfl) rfl
theorem qs94 : (Cond.selects "DawnPerquisiteModel" ⟨"DawnPerquisiteModel", "isBuyer", "(I)Z"⟩ ⟨"DawnPerquisiteModel", "isBuyer", "(I)Z"⟩) ∈ lw_all := lw_g (lw_at lw_ms 94 rfl) rfl
theorem qs95 : (Cond.selects "DawnPerquisiteModel" ⟨"DawnPerquisiteModel", "doesWant", "(II)Z"⟩ ⟨"DawnPerquisiteModel", "doesWant", "(II)Z"⟩) ∈ lw_all := lw_g (lw_at lw_ms 95 rfl) rfl
theorem qs96 : (Cond.selects "DawnPerquisiteModel" ⟨"DawnPerquisiteModel", "slicesOf", "(I)I"⟩ ⟨"DawnPerquisiteModel", "slicesOf", "(I)I"⟩) ∈ lw_all := lw_g (lw_at lw_ms 96 rfl) rfl
theorem qs97 : (Cond.selects "DawnPerquisiteModel" ⟨"DawnPerquisiteModel", "longOf", "(I)I"⟩ ⟨"DawnPerquisiteModel", "longOf", "(I)I"⟩) ∈ lw_all := lw_g (lw_at lw_ms 97 rfl) rfl
theorem qs98 : (Cond.selects "DawnPerquisiteModel" ⟨"DawnPerquisiteModel", "freeNow", "()I"⟩ ⟨"DawnPerquisiteModel", "freeNow", "()I"⟩) ∈ lw_all := lw_g (lw_at lw_ms 98 rfl) rfl
theorem qs99 : (Cond.selects "DawnPerquisiteModel" ⟨"DawnPerquisiteModel", "bidsNow", "(I)I"⟩ ⟨"DawnPerquisiteModel", "bidsNow", "(I)I"⟩) ∈ lw_all := lw_g (lw_at lw_ms 99 rfl) rfl
theorem qs100 : (Cond.selects "DawnPerquisiteModel" ⟨"DawnPerquisiteModel", "bidsOf", "(III)I"⟩ ⟨"DawnPerquisiteModel", "bidsOf", "(III)I"⟩) ∈ lw_all := lw_g (lw_at lw_ms 100 rfl) rfl
theorem qs101 : (Cond.selects "DawnPerquisiteModel" ⟨"DawnPerquisiteModel", "name", "(II)V"⟩ ⟨"DawnPerquisiteModel", "name", "(II)V"⟩) ∈ lw_all := lw_g (lw_at lw_ms 101 rfl) rfl
theorem qs102 : (Cond.selects "DawnPerquisiteModel" ⟨"DawnPerquisiteModel", "hasNow", "(I)I"⟩ ⟨"DawnPerquisiteModel", "hasNow", "(I)I"⟩) ∈ lw_all := lw_g (lw_at lw_ms 102 rfl) rfl
theorem qs103 : (Cond.selects "DawnPerquisiteModel" ⟨"DawnPerquisiteModel", "ownNow", "(I)I"⟩ ⟨"DawnPerquisiteModel", "ownNow", "(I)I"⟩) ∈ lw_all := lw_g (lw_at lw_ms 103 rfl) rfl
theorem qs104 : (Cond.selects "DawnPerquisiteModel" ⟨"DawnPerquisiteModel", "says", "(IIIII)I"⟩ ⟨"DawnPerquisiteModel", "says", "(IIIII)I"⟩) ∈ lw_all := lw_g (lw_at lw_ms 104 rfl) rfl
theorem qs105 : (Cond.selects "DawnPerquisiteModel" ⟨"DawnPerquisiteModel", "summedUp", "(II)J"⟩ ⟨"DawnPerquisiteModel", "summedUp", "(II)J"⟩) ∈ lw_all := lw_g (lw_at lw_ms 105 rfl) rfl
theorem qs106 : (Cond.selects "DawnPerquisiteModel" ⟨"DawnPerquisiteModel", "ofOne", "(IJ)J"⟩ ⟨"DawnPerquisiteModel", "ofOne", "(IJ)J"⟩) ∈ lw_all := lw_g (lw_at lw_ms 106 rfl) rfl
theorem qs107 : (Cond.selects "DawnPerquisiteModel" ⟨"DawnPerquisiteModel", "keepStep", "()V"⟩ ⟨"DawnPerquisiteModel", "keepStep", "()V"⟩) ∈ lw_all := lw_g (lw_at lw_ms 107 rfl) rfl
theorem qs108 : (Cond.selects "DawnPerquisiteModel" ⟨"DawnPerquisiteModel", "sellNow", "(I)I"⟩ ⟨"DawnPerquisiteModel", "sellNow", "(I)I"⟩) ∈ lw_all := lw_g (lw_at lw_ms 108 rfl) rfl
theorem qs109 : (Cond.selects "DawnPerquisiteModel" ⟨"DawnPerquisiteModel", "write", "(III)V"⟩ ⟨"DawnPerquisiteModel", "write", "(III)V"⟩) ∈ lw_all := lw_g (lw_at lw_ms 109 rfl) rfl
theorem qs110 : (Cond.selects "DawnPerquisiteModel" ⟨"DawnPerquisiteModel", "canGive", "(I)Z"⟩ ⟨"DawnPerquisiteModel", "canGive", "(I)Z"⟩) ∈ lw_all := lw_g (lw_at lw_ms 110 rfl) rfl
theorem qs111 : (Cond.selects "DawnPerquisiteModel" ⟨"DawnPerquisiteModel", "giveNow", "(I)V"⟩ ⟨"DawnPerquisiteModel", "giveNow", "(I)V"⟩) ∈ lw_all := lw_g (lw_at lw_ms 111 rfl) rfl
theorem qs112 : (Cond.selects "DawnPerquisiteModel" ⟨"DawnPerquisiteModel", "canTurn", "(I)Z"⟩ ⟨"DawnPerquisiteModel", "canTurn", "(I)Z"⟩) ∈ lw_all := lw_g (lw_at lw_ms 112 rfl) rfl
theorem qs113 : (Cond.selects "DawnPerquisiteModel" ⟨"DawnPerquisiteModel", "turnNow", "(I)V"⟩ ⟨"DawnPerquisiteModel", "turnNow", "(I)V"⟩) ∈ lw_all := lw_g (lw_at lw_ms 113 rfl) rfl
theorem qs114 : (Cond.selects "DawnPerquisiteModel" ⟨"DawnPerquisiteModel", "canPass", "(II)Z"⟩ ⟨"DawnPerquisiteModel", "canPass", "(II)Z"⟩) ∈ lw_all := lw_g (lw_at lw_ms 114 rfl) rfl
theorem qs115 : (Cond.selects "DawnPerquisiteModel" ⟨"DawnPerquisiteModel", "arePassed", "(I)Z"⟩ ⟨"DawnPerquisiteModel", "arePassed", "(I)Z"⟩) ∈ lw_all := lw_g (lw_at lw_ms 115 rfl) rfl
theorem qs116 : (Cond.selects "DawnPerquisiteModel" ⟨"DawnPerquisiteModel", "passDay", "()V"⟩ ⟨"DawnPerquisiteModel", "passDay", "()V"⟩) ∈ lw_all := lw_g (lw_at lw_ms 116 rfl) rfl
theorem qs117 : (Cond.selects "DawnPerquisiteModel" ⟨"DawnPerquisiteModel", "earnsOf", "(I)I"⟩ ⟨"DawnPerquisiteModel", "earnsOf", "(I)I"⟩) ∈ lw_all := lw_g (lw_at lw_ms 117 rfl) rfl
theorem qs118 : (Cond.selects "DawnPerquisiteModel" ⟨"DawnPerquisiteModel", "nextSort", "()I"⟩ ⟨"DawnPerquisiteModel", "nextSort", "()I"⟩) ∈ lw_all := lw_g (lw_at lw_ms 118 rfl) rfl
theorem qs119 : (Cond.selects "DawnPerquisiteModel" ⟨"DawnPerquisiteModel", "allOdds", "()I"⟩ ⟨"DawnPerquisiteModel", "allOdds", "()I"⟩) ∈ lw_all := lw_g (lw_at lw_ms 119 rfl) rfl
theorem qs120 : (Cond.selects "DawnPerquisiteModel" ⟨"DawnPerquisiteModel", "drawnBy", "(I)I"⟩ ⟨"DawnPerquisiteModel", "drawnBy", "(I)I"⟩) ∈ lw_all := lw_g (lw_at lw_ms 120 rfl) rfl
theorem qs121 : (Cond.selects "DawnPerquisiteModel" ⟨"DawnPerquisiteModel", "anew", "()V"⟩ ⟨"DawnPerquisiteModel", "anew", "()V"⟩) ∈ lw_all := lw_g (lw_at lw_ms 121 rfl) rfl
theorem qs122 : (Cond.selects "DawnPerquisiteModel" ⟨"DawnPerquisiteModel", "isPlayed", "(I)Z"⟩ ⟨"DawnPerquisiteModel", "isPlayed", "(I)Z"⟩) ∈ lw_all := lw_g (lw_at lw_ms 122 rfl) rfl
theorem qs123 : (Cond.selects "DawnPerquisiteModel" ⟨"DawnPerquisiteModel", "happens", "(I)V"⟩ ⟨"DawnPerquisiteModel", "happens", "(I)V"⟩) ∈ lw_all := lw_g (lw_at lw_ms 123 rfl) rfl
theorem qs124 : (Cond.selects "DawnPerquisiteModel" ⟨"DawnPerquisiteModel", "lineOf", "(II)I"⟩ ⟨"DawnPerquisiteModel", "lineOf", "(II)I"⟩) ∈ lw_all := lw_g (lw_at lw_ms 124 rfl) rfl
theorem qs125 : (Cond.selects "DawnPerquisiteModel" ⟨"DawnPerquisiteModel", "bestSet", "(II)I"⟩ ⟨"DawnPerquisiteModel", "bestSet", "(II)I"⟩) ∈ lw_all := lw_g (lw_at lw_ms 125 rfl) rfl
theorem qs126 : (Cond.selects "DawnPerquisiteModel" ⟨"DawnPerquisiteModel", "broughtBy", "(II)I"⟩ ⟨"DawnPerquisiteModel", "broughtBy", "(II)I"⟩) ∈ lw_all := lw_g (lw_at lw_ms 126 rfl) rfl
theorem qs127 : (Cond.selects "DawnPerquisiteModel" ⟨"DawnPerquisiteModel", "hoped", "(I)J"⟩ ⟨"DawnPerquisiteModel", "hoped", "(I)J"⟩) ∈ lw_all := lw_g (lw_at lw_ms 127 rfl) rfl
theorem qs128 : (Cond.selects "DawnPerquisiteModel" ⟨"DawnPerquisiteModel", "allRows", "(I)J"⟩ ⟨"DawnPerquisiteModel", "allRows", "(I)J"⟩) ∈ lw_all := lw_g (lw_at lw_ms 128 rfl) rfl
theorem qs129 : (Cond.selects "DawnPerquisiteModel" ⟨"DawnPerquisiteModel", "whole", "()I"⟩ ⟨"DawnPerquisiteModel", "whole", "()I"⟩) ∈ lw_all := lw_g (lw_at lw_ms 129 rfl) rfl
theorem qs130 : (Cond.selects "DawnPerquisiteModel" ⟨"DawnPerquisiteModel", "oddsOf", "(I)I"⟩ ⟨"DawnPerquisiteModel", "oddsOf", "(I)I"⟩) ∈ lw_all := lw_g (lw_at lw_ms 130 rfl) rfl
theorem qs131 : (Cond.selects "DawnPerquisiteModel" ⟨"DawnPerquisiteModel", "fitting", "()I"⟩ ⟨"DawnPerquisiteModel", "fitting", "()I"⟩) ∈ lw_all := lw_g (lw_at lw_ms 131 rfl) rfl
theorem qs132 : (Cond.selects "DawnPerquisiteModel" ⟨"DawnPerquisiteModel", "doesFit", "(I)Z"⟩ ⟨"DawnPerquisiteModel", "doesFit", "(I)Z"⟩) ∈ lw_all := lw_g (lw_at lw_ms 132 rfl) rfl
theorem qs133 : (Cond.selects "DawnPerquisiteModel" ⟨"DawnPerquisiteModel", "likeliestNow", "()I"⟩ ⟨"DawnPerquisiteModel", "likeliestNow", "()I"⟩) ∈ lw_all := lw_g (lw_at lw_ms 133 rfl) rfl
theorem qs134 : (Cond.selects "DawnPerquisiteModel" ⟨"DawnPerquisiteModel", "oddsOfSet", "(I)I"⟩ ⟨"DawnPerquisiteModel", "oddsOfSet", "(I)I"⟩) ∈ lw_all := lw_g (lw_at lw_ms 134 rfl) rfl
theorem qs135 : (Cond.selects "DawnPerquisiteModel" ⟨"DawnPerquisiteModel", "greaterPart", "(I)I"⟩ ⟨"DawnPerquisiteModel", "greaterPart", "(I)I"⟩) ∈ lw_all := lw_g (lw_at lw_ms 135 rfl) rfl
theorem qs136 : (Cond.selects "DawnPerquisiteModel" ⟨"DawnPerquisiteModel", "bidderOf", "(II)I"⟩ ⟨"DawnPerquisiteModel", "bidderOf", "(II)I"⟩) ∈ lw_all := lw_g (lw_at lw_ms 136 rfl) rfl
theorem qs137 : (Cond.selects "DawnPerquisiteModel" ⟨"DawnPerquisiteModel", "doesBid", "(II)Z"⟩ ⟨"DawnPerquisiteModel", "doesBid", "(II)Z"⟩) ∈ lw_all := lw_g (lw_at lw_ms 137 rfl) rfl
theorem qs138 : (Cond.selects "DawnPerquisiteModel" ⟨"DawnPerquisiteModel", "bidFor", "(I)I"⟩ ⟨"DawnPerquisiteModel", "bidFor", "(I)I"⟩) ∈ lw_all := lw_g (lw_at lw_ms 138 rfl) rfl
theorem qs139 : (Cond.selects "DawnPerquisiteModel" ⟨"DawnPerquisiteModel", "areServed", "(I)Z"⟩ ⟨"DawnPerquisiteModel", "areServed", "(I)Z"⟩) ∈ lw_all := lw_g (lw_at lw_ms 139 rfl) rfl
theorem qs140 : (Cond.selects "DawnPerquisiteModel" ⟨"DawnPerquisiteModel", "crowdAt", "(I)I"⟩ ⟨"DawnPerquisiteModel", "crowdAt", "(I)I"⟩) ∈ lw_all := lw_g (lw_at lw_ms 140 rfl) rfl
theorem qs141 : (Cond.selects "DawnPerquisiteModel" ⟨"DawnPerquisiteModel", "layDawns", "()V"⟩ ⟨"DawnPerquisiteModel", "layDawns", "()V"⟩) ∈ lw_all := lw_g (lw_at lw_ms 141 rfl) rfl
theorem qs142 : (Cond.selects "DawnPerquisiteModel" ⟨"DawnPerquisiteModel", "layGames", "()V"⟩ ⟨"DawnPerquisiteModel", "layGames", "()V"⟩) ∈ lw_all := lw_g (lw_at lw_ms 142 rfl) rfl
theorem qs143 : (Cond.selects "DawnPerquisiteModel" ⟨"DawnPerquisiteModel", "byLeft", "(II)I"⟩ ⟨"DawnPerquisiteModel", "byLeft", "(II)I"⟩) ∈ lw_all := lw_g (lw_at lw_ms 143 rfl) rfl
theorem qs144 : (Cond.selects "DawnPerquisiteModel" ⟨"DawnPerquisiteModel", "byRight", "(II)I"⟩ ⟨"DawnPerquisiteModel", "byRight", "(II)I"⟩) ∈ lw_all := lw_g (lw_at lw_ms 144 rfl) rfl
theorem qs145 : (Cond.selects "DawnPerquisiteModel" ⟨"DawnPerquisiteModel", "runOf", "(II)I"⟩ ⟨"DawnPerquisiteModel", "runOf", "(II)I"⟩) ∈ lw_all := lw_g (lw_at lw_ms 145 rfl) rfl
/-! DawnPerquisite -/
def RX0 : String := "DawnPerquisite"
def TX0 : u_T := fun k => match k with
  | 0 => ("DawnPerquisite", "now", "LDawnPerquisite$State;", true)
  | 1 => ("DawnPerquisite", "image", "LDawnPerquisite$State;", true)
  | 2 => ("DawnPerquisite", "tape", "[B", true)
  | 3 => ("DawnPerquisite", "taped", "I", false)
  | 4 => ("DawnPerquisite", "fault", "I", false)
  | 5 => ("DawnPerquisite", "faultAt", "I", false)
  | 6 => ("DawnPerquisite", "names", "[I", true)
  | 7 => ("DawnPerquisite", "tried", "[I", true)
  | 8 => ("DawnPerquisite", "takenOn", "[I", true)
  | 9 => ("DawnPerquisite", "dawnOf", "[I", true)
  | _ => ("DawnPerquisite", "more", "[[I", true)
def tyX0 : Nat → FieldType := fun k => match k with
  | 0 => .object "DawnPerquisite$State"
  | 1 => .object "DawnPerquisite$State"
  | 2 => .array .byte
  | 3 => .int
  | 4 => .int
  | 5 => .int
  | 6 => .array .int
  | 7 => .array .int
  | 8 => .array .int
  | 9 => .array .int
  | _ => .array (.array .int)
abbrev wsX00 : List Cond := u_ws RX0 TX0 11
set_option maxRecDepth 100000 in
theorem nmX0 : ∀ a, a < 11 → ∀ b, b < 11 → a ≠ b → (TX0 a).2.1 ≠ (TX0 b).2.1 := by decide +kernel
set_option maxRecDepth 100000 in
theorem tyX0_ok : ∀ k, k < 11 → parseFieldDescriptor (TX0 k).2.2.1 = some (tyX0 k) := by decide +kernel
/-! DawnPerquisite$State -/
def RX1 : String := "DawnPerquisite$State"
def TX1 : u_T := fun k => match k with
  | 0 => ("DawnPerquisite$State", "n", "[I", true)
  | 1 => ("DawnPerquisite$State", "row", "[I", true)
  | 2 => ("DawnPerquisite$State", "odds", "[I", true)
  | 3 => ("DawnPerquisite$State", "worth", "[I", true)
  | 4 => ("DawnPerquisite$State", "wants", "[I", true)
  | 5 => ("DawnPerquisite$State", "from", "[I", true)
  | 6 => ("DawnPerquisite$State", "to", "[I", true)
  | 7 => ("DawnPerquisite$State", "value", "[I", true)
  | 8 => ("DawnPerquisite$State", "said", "[[I", true)
  | 9 => ("DawnPerquisite$State", "step", "[[I", true)
  | _ => ("DawnPerquisite$State", "text", "[LDawnPerquisite$Text;", true)
def tyX1 : Nat → FieldType := fun k => match k with
  | 0 => .array .int
  | 1 => .array .int
  | 2 => .array .int
  | 3 => .array .int
  | 4 => .array .int
  | 5 => .array .int
  | 6 => .array .int
  | 7 => .array .int
  | 8 => .array (.array .int)
  | 9 => .array (.array .int)
  | _ => .array (.object "DawnPerquisite$Text")
abbrev wsX10 : List Cond := u_ws RX1 TX1 11
set_option maxRecDepth 100000 in
theorem nmX1 : ∀ a, a < 11 → ∀ b, b < 11 → a ≠ b → (TX1 a).2.1 ≠ (TX1 b).2.1 := by decide +kernel
set_option maxRecDepth 100000 in
theorem tyX1_ok : ∀ k, k < 11 → parseFieldDescriptor (TX1 k).2.2.1 = some (tyX1 k) := by decide +kernel
/-! DawnPerquisiteModel -/
def RX2 : String := "DawnPerquisiteModel"
def TX2 : u_T := fun k => match k with
  | 0 => ("DawnPerquisiteModel", "a", "[I", true)
  | 1 => ("DawnPerquisiteModel", "image", "[I", true)
  | 2 => ("DawnPerquisiteModel", "texts", "[I", true)
  | 3 => ("DawnPerquisiteModel", "tape", "[I", true)
  | 4 => ("DawnPerquisiteModel", "taped", "I", false)
  | 5 => ("DawnPerquisiteModel", "fault", "I", false)
  | 6 => ("DawnPerquisiteModel", "faultPlace", "I", false)
  | 7 => ("DawnPerquisiteModel", "cursor", "I", false)
  | 8 => ("DawnPerquisiteModel", "place", "I", false)
  | 9 => ("DawnPerquisiteModel", "token", "I", false)
  | 10 => ("DawnPerquisiteModel", "number", "I", false)
  | 11 => ("DawnPerquisiteModel", "word", "J", false)
  | 12 => ("DawnPerquisiteModel", "text0", "I", false)
  | 13 => ("DawnPerquisiteModel", "written", "I", false)
  | 14 => ("DawnPerquisiteModel", "sort0", "I", false)
  | 15 => ("DawnPerquisiteModel", "pile", "[I", true)
  | 16 => ("DawnPerquisiteModel", "piled", "I", false)
  | 17 => ("DawnPerquisiteModel", "opens", "I", false)
  | 18 => ("DawnPerquisiteModel", "isWhole", "Z", false)
  | 19 => ("DawnPerquisiteModel", "once", "I", false)
  | 20 => ("DawnPerquisiteModel", "named", "[I", true)
  | 21 => ("DawnPerquisiteModel", "values", "[J", true)
  | 22 => ("DawnPerquisiteModel", "truth", "[Z", true)
  | 23 => ("DawnPerquisiteModel", "isWritten", "Z", false)
  | 24 => ("DawnPerquisiteModel", "aside", "[I", true)
  | 25 => ("DawnPerquisiteModel", "dawnFull", "[I", true)
  | 26 => ("DawnPerquisiteModel", "dawnOf", "[I", true)
  | _ => ("DawnPerquisiteModel", "games", "[I", true)
def tyX2 : Nat → FieldType := fun k => match k with
  | 0 => .array .int
  | 1 => .array .int
  | 2 => .array .int
  | 3 => .array .int
  | 4 => .int
  | 5 => .int
  | 6 => .int
  | 7 => .int
  | 8 => .int
  | 9 => .int
  | 10 => .int
  | 11 => .long
  | 12 => .int
  | 13 => .int
  | 14 => .int
  | 15 => .array .int
  | 16 => .int
  | 17 => .int
  | 18 => .boolean
  | 19 => .int
  | 20 => .array .int
  | 21 => .array .long
  | 22 => .array .boolean
  | 23 => .boolean
  | 24 => .array .int
  | 25 => .array .int
  | 26 => .array .int
  | _ => .array .int
abbrev wsX20 : List Cond := u_ws RX2 TX2 28
set_option maxRecDepth 100000 in
theorem nmX2 : ∀ a, a < 28 → ∀ b, b < 28 → a ≠ b → (TX2 a).2.1 ≠ (TX2 b).2.1 := by decide +kernel
set_option maxRecDepth 100000 in
theorem tyX2_ok : ∀ k, k < 28 → parseFieldDescriptor (TX2 k).2.2.1 = some (tyX2 k) := by decide +kernel
/-! DawnPerquisite$Tokens -/
def RX3 : String := "DawnPerquisite$Tokens"
def TX3 : u_T := fun k => match k with
  | 0 => ("DawnPerquisite$Tokens", "text", "[B", true)
  | 1 => ("DawnPerquisite$Tokens", "size", "I", true)
  | 2 => ("DawnPerquisite$Tokens", "at", "I", false)
  | 3 => ("DawnPerquisite$Tokens", "token", "I", false)
  | 4 => ("DawnPerquisite$Tokens", "sort", "I", false)
  | 5 => ("DawnPerquisite$Tokens", "number", "I", false)
  | 6 => ("DawnPerquisite$Tokens", "open", "I", false)
  | _ => ("DawnPerquisite$Tokens", "kind", "I", false)
def tyX3 : Nat → FieldType := fun k => match k with
  | 0 => .array .byte
  | 1 => .int
  | 2 => .int
  | 3 => .int
  | 4 => .int
  | 5 => .int
  | 6 => .int
  | _ => .int
abbrev wsX30 : List Cond := u_ws RX3 TX3 8
set_option maxRecDepth 100000 in
theorem nmX3 : ∀ a, a < 8 → ∀ b, b < 8 → a ≠ b → (TX3 a).2.1 ≠ (TX3 b).2.1 := by decide +kernel
set_option maxRecDepth 100000 in
theorem tyX3_ok : ∀ k, k < 8 → parseFieldDescriptor (TX3 k).2.2.1 = some (tyX3 k) := by decide +kernel
/-! DawnPerquisite$Text -/
def RX4 : String := "DawnPerquisite$Text"
def TX4 : u_T := fun k => match k with
  | 0 => ("DawnPerquisite$Text", "law", "[LDawnPerquisite$Sum;", true)
  | 1 => ("DawnPerquisite$Text", "clauses", "I", false)
  | _ => ("DawnPerquisite$Text", "doings", "Ljava/util/ArrayList;", true)
def tyX4 : Nat → FieldType := fun k => match k with
  | 0 => .array (.object "DawnPerquisite$Sum")
  | 1 => .int
  | _ => .object "java/util/ArrayList"
abbrev wsX40 : List Cond := u_ws RX4 TX4 3
set_option maxRecDepth 100000 in
theorem nmX4 : ∀ a, a < 3 → ∀ b, b < 3 → a ≠ b → (TX4 a).2.1 ≠ (TX4 b).2.1 := by decide +kernel
set_option maxRecDepth 100000 in
theorem tyX4_ok : ∀ k, k < 3 → parseFieldDescriptor (TX4 k).2.2.1 = some (tyX4 k) := by decide +kernel
/-! DawnPerquisite$Wrong -/
def RX5 : String := "DawnPerquisite$Wrong"
def TX5 : u_T := fun k => match k with
  | 0 => ("DawnPerquisite$Wrong", "fault", "I", true)
  | _ => ("DawnPerquisite$Wrong", "place", "I", true)
def tyX5 : Nat → FieldType := fun k => match k with
  | _ => .int
abbrev wsX50 : List Cond := u_ws RX5 TX5 2
theorem nmX5 : ∀ a, a < 2 → ∀ b, b < 2 → a ≠ b → (TX5 a).2.1 ≠ (TX5 b).2.1 := by decide +kernel
theorem tyX5_ok : ∀ k, k < 2 → parseFieldDescriptor (TX5 k).2.2.1 = some (tyX5 k) := by decide +kernel
/-! DawnPerquisite$Chain -/
def RX6 : String := "DawnPerquisite$Chain"
def TX6 : u_T := fun k => match k with
  | 0 => ("DawnPerquisite$Chain", "first", "LDawnPerquisite$Sum;", true)
  | 1 => ("DawnPerquisite$Chain", "more", "Ljava/util/ArrayList;", true)
  | _ => ("DawnPerquisite$Chain", "signs", "Ljava/util/ArrayList;", true)
def tyX6 : Nat → FieldType := fun k => match k with
  | 0 => .object "DawnPerquisite$Sum"
  | 1 => .object "java/util/ArrayList"
  | _ => .object "java/util/ArrayList"
abbrev wsX60 : List Cond := u_ws RX6 TX6 3
set_option maxRecDepth 100000 in
theorem nmX6 : ∀ a, a < 3 → ∀ b, b < 3 → a ≠ b → (TX6 a).2.1 ≠ (TX6 b).2.1 := by decide +kernel
set_option maxRecDepth 100000 in
theorem tyX6_ok : ∀ k, k < 3 → parseFieldDescriptor (TX6 k).2.2.1 = some (tyX6 k) := by decide +kernel
/-! DawnPerquisite$Plain -/
def RX7 : String := "DawnPerquisite$Plain"
def TX7 : u_T := fun k => match k with
  | _ => ("DawnPerquisite$Plain", "n", "I", true)
def tyX7 : Nat → FieldType := fun k => match k with
  | _ => .int
abbrev wsX70 : List Cond := u_ws RX7 TX7 1
set_option maxRecDepth 100000 in
theorem nmX7 : ∀ a, a < 1 → ∀ b, b < 1 → a ≠ b → (TX7 a).2.1 ≠ (TX7 b).2.1 := by decide +kernel
set_option maxRecDepth 100000 in
theorem tyX7_ok : ∀ k, k < 1 → parseFieldDescriptor (TX7 k).2.2.1 = some (tyX7 k) := by decide +kernel
/-! DawnPerquisite$Not -/
def RX8 : String := "DawnPerquisite$Not"
def TX8 : u_T := fun k => match k with
  | _ => ("DawnPerquisite$Not", "x", "LDawnPerquisite$Asked;", true)
def tyX8 : Nat → FieldType := fun k => match k with
  | _ => .object "DawnPerquisite$Asked"
abbrev wsX80 : List Cond := u_ws RX8 TX8 1
set_option maxRecDepth 100000 in
theorem nmX8 : ∀ a, a < 1 → ∀ b, b < 1 → a ≠ b → (TX8 a).2.1 ≠ (TX8 b).2.1 := by decide +kernel
set_option maxRecDepth 100000 in
theorem tyX8_ok : ∀ k, k < 1 → parseFieldDescriptor (TX8 k).2.2.1 = some (tyX8 k) := by decide +kernel
/-! DawnPerquisite$Compared -/
def RX9 : String := "DawnPerquisite$Compared"
def TX9 : u_T := fun k => match k with
  | 0 => ("DawnPerquisite$Compared", "sign", "I", true)
  | 1 => ("DawnPerquisite$Compared", "a", "LDawnPerquisite$Sum;", true)
  | _ => ("DawnPerquisite$Compared", "b", "LDawnPerquisite$Sum;", true)
def tyX9 : Nat → FieldType := fun k => match k with
  | 0 => .int
  | 1 => .object "DawnPerquisite$Sum"
  | _ => .object "DawnPerquisite$Sum"
abbrev wsX90 : List Cond := u_ws RX9 TX9 3
set_option maxRecDepth 100000 in
theorem nmX9 : ∀ a, a < 3 → ∀ b, b < 3 → a ≠ b → (TX9 a).2.1 ≠ (TX9 b).2.1 := by decide +kernel
set_option maxRecDepth 100000 in
theorem tyX9_ok : ∀ k, k < 3 → parseFieldDescriptor (TX9 k).2.2.1 = some (tyX9 k) := by decide +kernel
/-! DawnPerquisite$All -/
def RX10 : String := "DawnPerquisite$All"
def TX10 : u_T := fun k => match k with
  | 0 => ("DawnPerquisite$All", "and", "Z", true)
  | _ => ("DawnPerquisite$All", "of", "Ljava/util/ArrayList;", true)
def tyX10 : Nat → FieldType := fun k => match k with
  | 0 => .boolean
  | _ => .object "java/util/ArrayList"
abbrev wsX100 : List Cond := u_ws RX10 TX10 2
set_option maxRecDepth 100000 in
theorem nmX10 : ∀ a, a < 2 → ∀ b, b < 2 → a ≠ b → (TX10 a).2.1 ≠ (TX10 b).2.1 := by decide +kernel
set_option maxRecDepth 100000 in
theorem tyX10_ok : ∀ k, k < 2 → parseFieldDescriptor (TX10 k).2.2.1 = some (tyX10 k) := by decide +kernel
/-! DawnPerquisite$If -/
def RX11 : String := "DawnPerquisite$If"
def TX11 : u_T := fun k => match k with
  | 0 => ("DawnPerquisite$If", "asked", "LDawnPerquisite$Asked;", true)
  | 1 => ("DawnPerquisite$If", "yes", "LDawnPerquisite$Sum;", true)
  | _ => ("DawnPerquisite$If", "no", "LDawnPerquisite$Sum;", true)
def tyX11 : Nat → FieldType := fun k => match k with
  | 0 => .object "DawnPerquisite$Asked"
  | 1 => .object "DawnPerquisite$Sum"
  | _ => .object "DawnPerquisite$Sum"
abbrev wsX110 : List Cond := u_ws RX11 TX11 3
set_option maxRecDepth 100000 in
theorem nmX11 : ∀ a, a < 3 → ∀ b, b < 3 → a ≠ b → (TX11 a).2.1 ≠ (TX11 b).2.1 := by decide +kernel
set_option maxRecDepth 100000 in
theorem tyX11_ok : ∀ k, k < 3 → parseFieldDescriptor (TX11 k).2.2.1 = some (tyX11 k) := by decide +kernel
/-! DawnPerquisite$Name -/
def RX12 : String := "DawnPerquisite$Name"
def TX12 : u_T := fun k => match k with
  | _ => ("DawnPerquisite$Name", "which", "I", true)
def tyX12 : Nat → FieldType := fun k => match k with
  | _ => .int
abbrev wsX120 : List Cond := u_ws RX12 TX12 1
set_option maxRecDepth 100000 in
theorem nmX12 : ∀ a, a < 1 → ∀ b, b < 1 → a ≠ b → (TX12 a).2.1 ≠ (TX12 b).2.1 := by decide +kernel
set_option maxRecDepth 100000 in
theorem tyX12_ok : ∀ k, k < 1 → parseFieldDescriptor (TX12 k).2.2.1 = some (tyX12 k) := by decide +kernel
/-! DawnPerquisite$Worth -/
def RX13 : String := "DawnPerquisite$Worth"
def TX13 : u_T := fun k => match k with
  | _ => ("DawnPerquisite$Worth", "sort", "LDawnPerquisite$Sum;", true)
def tyX13 : Nat → FieldType := fun k => match k with
  | _ => .object "DawnPerquisite$Sum"
abbrev wsX130 : List Cond := u_ws RX13 TX13 1
set_option maxRecDepth 100000 in
theorem nmX13 : ∀ a, a < 1 → ∀ b, b < 1 → a ≠ b → (TX13 a).2.1 ≠ (TX13 b).2.1 := by decide +kernel
set_option maxRecDepth 100000 in
theorem tyX13_ok : ∀ k, k < 1 → parseFieldDescriptor (TX13 k).2.2.1 = some (tyX13 k) := by decide +kernel
/-! DawnPerquisite$Purse -/
def RX14 : String := "DawnPerquisite$Purse"
def TX14 : u_T := fun k => match k with
  | _ => ("DawnPerquisite$Purse", "buyer", "LDawnPerquisite$Sum;", true)
def tyX14 : Nat → FieldType := fun k => match k with
  | _ => .object "DawnPerquisite$Sum"
abbrev wsX140 : List Cond := u_ws RX14 TX14 1
set_option maxRecDepth 100000 in
theorem nmX14 : ∀ a, a < 1 → ∀ b, b < 1 → a ≠ b → (TX14 a).2.1 ≠ (TX14 b).2.1 := by decide +kernel
set_option maxRecDepth 100000 in
theorem tyX14_ok : ∀ k, k < 1 → parseFieldDescriptor (TX14 k).2.2.1 = some (tyX14 k) := by decide +kernel
/-! DawnPerquisite$Minus -/
def RX15 : String := "DawnPerquisite$Minus"
def TX15 : u_T := fun k => match k with
  | _ => ("DawnPerquisite$Minus", "x", "LDawnPerquisite$Sum;", true)
def tyX15 : Nat → FieldType := fun k => match k with
  | _ => .object "DawnPerquisite$Sum"
abbrev wsX150 : List Cond := u_ws RX15 TX15 1
set_option maxRecDepth 100000 in
theorem nmX15 : ∀ a, a < 1 → ∀ b, b < 1 → a ≠ b → (TX15 a).2.1 ≠ (TX15 b).2.1 := by decide +kernel
set_option maxRecDepth 100000 in
theorem tyX15_ok : ∀ k, k < 1 → parseFieldDescriptor (TX15 k).2.2.1 = some (tyX15 k) := by decide +kernel
/-! DawnPerquisite$Doing -/
def RX16 : String := "DawnPerquisite$Doing"
def TX16 : u_T := fun k => match k with
  | 0 => ("DawnPerquisite$Doing", "sort", "I", true)
  | 1 => ("DawnPerquisite$Doing", "a", "I", true)
  | 2 => ("DawnPerquisite$Doing", "b", "I", true)
  | _ => ("DawnPerquisite$Doing", "number", "I", true)
def tyX16 : Nat → FieldType := fun k => match k with
  | 0 => .int
  | 1 => .int
  | 2 => .int
  | _ => .int
abbrev wsX160 : List Cond := u_ws RX16 TX16 4
set_option maxRecDepth 100000 in
theorem nmX16 : ∀ a, a < 4 → ∀ b, b < 4 → a ≠ b → (TX16 a).2.1 ≠ (TX16 b).2.1 := by decide +kernel
set_option maxRecDepth 100000 in
theorem tyX16_ok : ∀ k, k < 4 → parseFieldDescriptor (TX16 k).2.2.1 = some (tyX16 k) := by decide +kernel
/-! java/util/ArrayList -/
def RJ3 : String := "java/util/ArrayList"
def TJ3 : u_T := fun k => match k with
  | 0 => ("java/util/AbstractList", "modCount", "I", false)
  | 1 => ("java/util/ArrayList", "elementData", "[Ljava/lang/Object;", false)
  | _ => ("java/util/ArrayList", "size", "I", false)
def tyJ3 : Nat → FieldType := fun k => match k with
  | 0 => .int
  | 1 => .array (.object "java/lang/Object")
  | _ => .int
abbrev wsJ30 : List Cond := u_ws RJ3 TJ3 3
set_option maxRecDepth 100000 in
theorem nmJ3 : ∀ a, a < 3 → ∀ b, b < 3 → a ≠ b → (TJ3 a).2.1 ≠ (TJ3 b).2.1 := by decide +kernel
set_option maxRecDepth 100000 in
theorem tyJ3_ok : ∀ k, k < 3 → parseFieldDescriptor (TJ3 k).2.2.1 = some (tyJ3 k) := by decide +kernel
/-! java/util/Arrays -/
def RJ0 : String := "java/util/Arrays"
/-! java/util/AbstractCollection -/
def RJ1 : String := "java/util/AbstractCollection"
/-! java/util/AbstractList -/
def RJ2 : String := "java/util/AbstractList"
/-! java/lang/String -/
def RJ4 : String := "java/lang/String"
/-! java/lang/StringLatin1 -/
def RJ5 : String := "java/lang/StringLatin1"
/-! jdk/internal/util/Preconditions -/
def RJ6 : String := "jdk/internal/util/Preconditions"
/-! java/lang/StringUTF16 -/
def RJ7 : String := "java/lang/StringUTF16"
/-! java/lang/Math -/
def RJ8 : String := "java/lang/Math"
/-! java/lang/Throwable -/
def RJ9 : String := "java/lang/Throwable"
def TJ9 : u_T := fun k => match k with
  | 0 => ("java/lang/Throwable", "cause", "Ljava/lang/Throwable;", false)
  | 1 => ("java/lang/Throwable", "stackTrace", "[Ljava/lang/StackTraceElement;", false)
  | 2 => ("java/lang/Throwable", "suppressedExceptions", "Ljava/util/List;", false)
  | 3 => ("java/lang/Throwable", "detailMessage", "Ljava/lang/String;", false)
  | _ => ("java/lang/Throwable", "backtrace", "Ljava/lang/Object;", false)
def tyJ9 : Nat → FieldType := fun k => match k with
  | 0 => .object "java/lang/Throwable"
  | 1 => .array (.object "java/lang/StackTraceElement")
  | 2 => .object "java/util/List"
  | 3 => .object "java/lang/String"
  | _ => .object "java/lang/Object"
abbrev wsJ90 : List Cond := u_ws RJ9 TJ9 5
set_option maxRecDepth 100000 in
theorem nmJ9 : ∀ a, a < 5 → ∀ b, b < 5 → a ≠ b → (TJ9 a).2.1 ≠ (TJ9 b).2.1 := by decide +kernel
set_option maxRecDepth 100000 in
theorem tyJ9_ok : ∀ k, k < 5 → parseFieldDescriptor (TJ9 k).2.2.1 = some (tyJ9 k) := by decide +kernel
/-! java/lang/Exception -/
def RJ10 : String := "java/lang/Exception"
/-! java/lang/Record -/
def RJ11 : String := "java/lang/Record"
/-! jdk/internal/util/ArraysSupport -/
def RJ12 : String := "jdk/internal/util/ArraysSupport"
/-! java/util/Objects -/
def RJ13 : String := "java/util/Objects"
/-! java/lang/Number -/
def RJ14 : String := "java/lang/Number"
/-! java/lang/Integer -/
def RJ15 : String := "java/lang/Integer"
def TJ15 : u_T := fun k => match k with
  | _ => ("java/lang/Integer", "value", "I", true)
def tyJ15 : Nat → FieldType := fun k => match k with
  | _ => .int
abbrev wsJ150 : List Cond := u_ws RJ15 TJ15 1
set_option maxRecDepth 100000 in
theorem nmJ15 : ∀ a, a < 1 → ∀ b, b < 1 → a ≠ b → (TJ15 a).2.1 ≠ (TJ15 b).2.1 := by decide +kernel
set_option maxRecDepth 100000 in
theorem tyJ15_ok : ∀ k, k < 1 → parseFieldDescriptor (TJ15 k).2.2.1 = some (tyJ15 k) := by decide +kernel
/-! java/lang/Object -/
def RJ16 : String := "java/lang/Object"
theorem q146 : (Jvm.Cond.initialized "DawnPerquisiteLaw") ∈ lw_all := lw_g (lw_at lw_m1 0 rfl) rfl
theorem q147 : (Jvm.Cond.initialized "DawnPerquisite") ∈ lw_all := lw_g (lw_at lw_m1 1 rfl) rfl
theorem q148 : (Jvm.Cond.initialized "DawnPerquisite$State") ∈ lw_all := lw_g (lw_at lw_m1 2 rfl) rfl
theorem q149 : (Jvm.Cond.initialized "java/util/Arrays") ∈ lw_all := lw_g (lw_at lw_m1 3 rfl) rfl
theorem q150 : (Jvm.Cond.initialized "java/lang/System") ∈ lw_all := lw_g (lw_at lw_m1 4 rfl) rfl
theorem q151 : (Jvm.Cond.initialized "DawnPerquisiteModel") ∈ lw_all := lw_g (lw_at lw_m1 5 rfl) rfl
theorem q152 : (Jvm.Cond.initialized "DawnPerquisite$Tokens") ∈ lw_all := lw_g (lw_at lw_m1 6 rfl) rfl
theorem q153 : (Jvm.Cond.initialized "DawnPerquisite$Text") ∈ lw_all := lw_g (lw_at lw_m1 7 rfl) rfl
theorem q154 : (Jvm.Cond.initialized "java/util/AbstractCollection") ∈ lw_all := lw_g (lw_at lw_m1 8 rfl) rfl
theorem q155 : (Jvm.Cond.initialized "java/util/AbstractList") ∈ lw_all := lw_g (lw_at lw_m1 9 rfl) rfl
theorem q156 : (Jvm.Cond.initialized "java/util/ArrayList") ∈ lw_all := lw_g (lw_at lw_m1 10 rfl) rfl
theorem q157 : (Jvm.Cond.initialized "java/lang/String") ∈ lw_all := lw_g (lw_at lw_m1 11 rfl) rfl
theorem q158 : (Jvm.Cond.initialized "java/lang/StringLatin1") ∈ lw_all := lw_g (lw_at lw_m1 12 rfl) rfl
theorem q159 : (Jvm.Cond.initialized "jdk/internal/util/Preconditions") ∈ lw_all := lw_g (lw_at lw_m1 13 rfl) rfl
theorem q160 : (Jvm.Cond.initialized "java/lang/StringUTF16") ∈ lw_all := lw_g (lw_at lw_m1 14 rfl) rfl
theorem q161 : (Jvm.Cond.initialized "java/lang/Math") ∈ lw_all := lw_g (lw_at lw_m1 15 rfl) rfl
theorem q162 : (Jvm.Cond.initialized "java/lang/Throwable") ∈ lw_all := lw_g (lw_at lw_m1 16 rfl) rfl
theorem q163 : (Jvm.Cond.initialized "java/lang/Exception") ∈ lw_all := lw_g (lw_at lw_m1 17 rfl) rfl
theorem q164 : (Jvm.Cond.initialized "DawnPerquisite$Wrong") ∈ lw_all := lw_g (lw_at lw_m1 18 rfl) rfl
theorem q165 : (Jvm.Cond.initialized "DawnPerquisite$Chain") ∈ lw_all := lw_g (lw_at lw_m1 19 rfl) rfl
theorem q166 : (Jvm.Cond.initialized "java/lang/Record") ∈ lw_all := lw_g (lw_at lw_m1 20 rfl) rfl
theorem q167 : (Jvm.Cond.initialized "DawnPerquisite$Plain") ∈ lw_all := lw_g (lw_at lw_m1 21 rfl) rfl
theorem q168 : (Jvm.Cond.initialized "DawnPerquisite$Not") ∈ lw_all := lw_g (lw_at lw_m1 22 rfl) rfl
theorem q169 : (Jvm.Cond.initialized "DawnPerquisite$Compared") ∈ lw_all := lw_g (lw_at lw_m1 23 rfl) rfl
theorem q170 : (Jvm.Cond.initialized "jdk/internal/util/ArraysSupport") ∈ lw_all := lw_g (lw_at lw_m1 24 rfl) rfl
theorem q171 : (Jvm.Cond.initialized "java/util/Objects") ∈ lw_all := lw_g (lw_at lw_m1 25 rfl) rfl
theorem q172 : (Jvm.Cond.initialized "DawnPerquisite$All") ∈ lw_all := lw_g (lw_at lw_m1 26 rfl) rfl
theorem q173 : (Jvm.Cond.initialized "DawnPerquisite$If") ∈ lw_all := lw_g (lw_at lw_m1 27 rfl) rfl
theorem q174 : (Jvm.Cond.initialized "DawnPerquisite$Name") ∈ lw_all := lw_g (lw_at lw_m1 28 rfl) rfl
theorem q175 : (Jvm.Cond.initialized "DawnPerquisite$Worth") ∈ lw_all := lw_g (lw_at lw_m1 29 rfl) rfl
theorem q176 : (Jvm.Cond.initialized "DawnPerquisite$Purse") ∈ lw_all := lw_g (lw_at lw_m1 30 rfl) rfl
theorem q177 : (Jvm.Cond.initialized "DawnPerquisite$Minus") ∈ lw_all := lw_g (lw_at lw_m1 31 rfl) rfl
theorem q178 : (Jvm.Cond.initialized "java/lang/Number") ∈ lw_all := lw_g (lw_at lw_m1 32 rfl) rfl
theorem q179 : (Jvm.Cond.initialized "java/lang/Integer") ∈ lw_all := lw_g (lw_at lw_m1 33 rfl) rfl
theorem q180 : (Jvm.Cond.initialized "java/lang/Integer$IntegerCache") ∈ lw_all := lw_g (lw_at lw_m1 34 rfl) rfl
theorem q181 : (Jvm.Cond.initialized "DawnPerquisite$Doing") ∈ lw_all := lw_g (lw_at lw_m1 35 rfl) rfl
theorem q182 : (Jvm.Cond.classLink "DawnPerquisiteLaw" (7 : Nat) "DawnPerquisite") ∈ lw_all := lw_g (lw_at lw_m1 36 rfl) rfl
theorem q183 : (Jvm.Cond.instantiable "DawnPerquisite" (11 : Nat)) ∈ lw_all := lw_g (lw_at lw_m1 37 rfl) rfl
theorem q184 : (Jvm.Cond.methodLink "DawnPerquisiteLaw" (9 : Nat) ({ cls := "DawnPerquisite", name := "<init>", desc := "()V" } : Jvm.MethodName)) ∈ lw_all := lw_g (lw_at lw_m1 38 rfl) rfl
theorem q185 : (Jvm.Cond.instanceMethod ({ cls := "DawnPerquisite", name := "<init>", desc := "()V" } : Jvm.MethodName)) ∈ lw_all := lw_g (lw_at lw_m1 39 rfl) rfl
theorem q186 : (Jvm.Cond.code ({ cls := "DawnPerquisite", name := "<init>", desc := "()V" } : Jvm.MethodName) prog_1_method_4_code (1 : Nat) (Option.none : Option Jvm.ClassFile.FieldType)) ∈ lw_all := lw_g (lw_at lw_m1 40 rfl) rfl
theorem q187 : (Jvm.Cond.methodLink "DawnPerquisite" (12 : Nat) ({ cls := "java/lang/Object", name := "<init>", desc := "()V" } : Jvm.MethodName)) ∈ lw_all := lw_g (lw_at lw_m1 41 rfl) rfl
theorem q188 : (Jvm.Cond.instanceMethod ({ cls := "java/lang/Object", name := "<init>", desc := "()V" } : Jvm.MethodName)) ∈ lw_all := lw_g (lw_at lw_m1 42 rfl) rfl
theorem q189 : (Jvm.Cond.code ({ cls := "java/lang/Object", name := "<init>", desc := "()V" } : Jvm.MethodName) object_method_1_code (1 : Nat) (Option.none : Option Jvm.ClassFile.FieldType)) ∈ lw_all := lw_g (lw_at lw_m1 43 rfl) rfl
theorem q190 : (Jvm.Cond.classLink "DawnPerquisite" (18 : Nat) "DawnPerquisite$State") ∈ lw_all := lw_g (lw_at lw_m1 44 rfl) rfl
theorem q191 : (Jvm.Cond.instantiable "DawnPerquisite$State" (11 : Nat)) ∈ lw_all := lw_g (lw_at lw_m1 45 rfl) rfl
theorem q192 : (Jvm.Cond.methodLink "DawnPerquisite" (20 : Nat) ({ cls := "DawnPerquisite$State", name := "<init>", desc := "()V" } : Jvm.MethodName)) ∈ lw_all := lw_g (lw_at lw_m1 46 rfl) rfl
theorem q193 : (Jvm.Cond.instanceMethod ({ cls := "DawnPerquisite$State", name := "<init>", desc := "()V" } : Jvm.MethodName)) ∈ lw_all := lw_g (lw_at lw_m1 47 rfl) rfl
theorem q194 : (Jvm.Cond.code ({ cls := "DawnPerquisite$State", name := "<init>", desc := "()V" } : Jvm.MethodName) prog_13_method_1_code (2 : Nat) (Option.none : Option Jvm.ClassFile.FieldType)) ∈ lw_all := lw_g (lw_at lw_m1 48 rfl) rfl
theorem q195 : (Jvm.Cond.methodLink "DawnPerquisite$State" (3 : Nat) ({ cls := "java/lang/Object", name := "<init>", desc := "()V" } : Jvm.MethodName)) ∈ lw_all := lw_g (lw_at lw_m1 49 rfl) rfl
theorem q196 : (Jvm.Cond.classLink "DawnPerquisite$State" (36 : Nat) "[[I") ∈ lw_all := lw_g (lw_at lw_m1 50 rfl) rfl
theorem q197 : (Jvm.Cond.arrayOver (Jvm.ClassFile.FieldType.array Jvm.ClassFile.FieldType.int)) ∈ lw_tbl := lw_at lw_m1 51 rfl
theorem q198 : (Jvm.Cond.classLink "DawnPerquisite$State" (44 : Nat) "DawnPerquisite$Text") ∈ lw_all := lw_g (lw_at lw_m1 52 rfl) rfl
theorem q199 : (Jvm.Cond.arrayOver (Jvm.ClassFile.FieldType.object "DawnPerquisite$Text")) ∈ lw_tbl := lw_at lw_m1 53 rfl
theorem q200 : (Jvm.Cond.methodLink "DawnPerquisite$State" (50 : Nat) ({ cls := "java/util/Arrays", name := "fill", desc := "([IIII)V" } : Jvm.MethodName)) ∈ lw_all := lw_g (lw_at lw_m1 54 rfl) rfl
theorem q201 : (Jvm.Cond.static ({ cls := "java/util/Arrays", name := "fill", desc := "([IIII)V" } : Jvm.MethodName)) ∈ lw_all := lw_g (lw_at lw_m1 55 rfl) rfl
theorem q202 : (Jvm.Cond.code ({ cls := "java/util/Arrays", name := "fill", desc := "([IIII)V" } : Jvm.MethodName) prog_42_method_104_code (5 : Nat) (Option.none : Option Jvm.ClassFile.FieldType)) ∈ lw_all := lw_g (lw_at lw_m1 56 rfl) rfl
theorem q203 : (Jvm.Cond.methodLink "java/util/Arrays" (13 : Nat) ({ cls := "java/util/Arrays", name := "rangeCheck", desc := "(III)V" } : Jvm.MethodName)) ∈ lw_all := lw_g (lw_at lw_m1 57 rfl) rfl
theorem q204 : (Jvm.Cond.static ({ cls := "java/util/Arrays", name := "rangeCheck", desc := "(III)V" } : Jvm.MethodName)) ∈ lw_all := lw_g (lw_at lw_m1 58 rfl) rfl
theorem q205 : (Jvm.Cond.code ({ cls := "java/util/Arrays", name := "rangeCheck", desc := "(III)V" } : Jvm.MethodName) prog_42_method_30_code (3 : Nat) (Option.none : Option Jvm.ClassFile.FieldType)) ∈ lw_all := lw_g (lw_at lw_m1 59 rfl) rfl
theorem q206 : (Jvm.Cond.methodLink "DawnPerquisite$State" (56 : Nat) ({ cls := "java/util/Arrays", name := "fill", desc := "([II)V" } : Jvm.MethodName)) ∈ lw_all := lw_g (lw_at lw_m1 60 rfl) rfl
theorem q207 : (Jvm.Cond.static ({ cls := "java/util/Arrays", name := "fill", desc := "([II)V" } : Jvm.MethodName)) ∈ lw_all := lw_g (lw_at lw_m1 61 rfl) rfl
theorem q208 : (Jvm.Cond.code ({ cls := "java/util/Arrays", name := "fill", desc := "([II)V" } : Jvm.MethodName) prog_42_method_103_code (4 : Nat) (Option.none : Option Jvm.ClassFile.FieldType)) ∈ lw_all := lw_g (lw_at lw_m1 62 rfl) rfl
theorem q209 : (Jvm.Cond.fieldLink "DawnPerquisite$State" (9 : Nat) "DawnPerquisite$State" "n" "[I") ∈ lw_all := lw_g (lw_at lw_m1 63 rfl) rfl
theorem q210 : (Jvm.Cond.fieldLinkNest "DawnPerquisite" (61 : Nat) "DawnPerquisite$State" "n" "[I" "DawnPerquisite") ∈ lw_tbl := lw_at lw_m1 64 rfl
theorem q211 : (Jvm.Cond.fieldLink "DawnPerquisite$State" (15 : Nat) "DawnPerquisite$State" "row" "[I") ∈ lw_all := lw_g (lw_at lw_m1 65 rfl) rfl
theorem q212 : (Jvm.Cond.fieldLinkNest "DawnPerquisite" (173 : Nat) "DawnPerquisite$State" "row" "[I" "DawnPerquisite") ∈ lw_tbl := lw_at lw_m1 66 rfl
theorem q213 : (Jvm.Cond.fieldLink "DawnPerquisite$State" (18 : Nat) "DawnPerquisite$State" "odds" "[I") ∈ lw_all := lw_g (lw_at lw_m1 67 rfl) rfl
theorem q214 : (Jvm.Cond.fieldLinkNest "DawnPerquisite" (76 : Nat) "DawnPerquisite$State" "odds" "[I" "DawnPerquisite") ∈ lw_tbl := lw_at lw_m1 68 rfl
theorem q215 : (Jvm.Cond.fieldLink "DawnPerquisite$State" (21 : Nat) "DawnPerquisite$State" "worth" "[I") ∈ lw_all := lw_g (lw_at lw_m1 69 rfl) rfl
theorem q216 : (Jvm.Cond.fieldLinkNest "DawnPerquisite" (79 : Nat) "DawnPerquisite$State" "worth" "[I" "DawnPerquisite") ∈ lw_tbl := lw_at lw_m1 70 rfl
theorem q217 : (Jvm.Cond.fieldLink "DawnPerquisite$State" (24 : Nat) "DawnPerquisite$State" "wants" "[I") ∈ lw_all := lw_g (lw_at lw_m1 71 rfl) rfl
theorem q218 : (Jvm.Cond.fieldLinkNest "DawnPerquisite" (85 : Nat) "DawnPerquisite$State" "wants" "[I" "DawnPerquisite") ∈ lw_tbl := lw_at lw_m1 72 rfl
theorem q219 : (Jvm.Cond.fieldLink "DawnPerquisite$State" (27 : Nat) "DawnPerquisite$State" "from" "[I") ∈ lw_all := lw_g (lw_at lw_m1 73 rfl) rfl
theorem q220 : (Jvm.Cond.fieldLinkNest "DawnPerquisite" (88 : Nat) "DawnPerquisite$State" "from" "[I" "DawnPerquisite") ∈ lw_tbl := lw_at lw_m1 74 rfl
theorem q221 : (Jvm.Cond.fieldLink "DawnPerquisite$State" (30 : Nat) "DawnPerquisite$State" "to" "[I") ∈ lw_all := lw_g (lw_at lw_m1 75 rfl) rfl
theorem q222 : (Jvm.Cond.fieldLinkNest "DawnPerquisite" (91 : Nat) "DawnPerquisite$State" "to" "[I" "DawnPerquisite") ∈ lw_tbl := lw_at lw_m1 76 rfl
theorem q223 : (Jvm.Cond.fieldLink "DawnPerquisite$State" (33 : Nat) "DawnPerquisite$State" "value" "[I") ∈ lw_all := lw_g (lw_at lw_m1 77 rfl) rfl
theorem q224 : (Jvm.Cond.fieldLinkNest "DawnPerquisite" (393 : Nat) "DawnPerquisite$State" "value" "[I" "DawnPerquisite") ∈ lw_tbl := lw_at lw_m1 78 rfl
theorem q225 : (Jvm.Cond.fieldLink "DawnPerquisite$State" (38 : Nat) "DawnPerquisite$State" "said" "[[I") ∈ lw_all := lw_g (lw_at lw_m1 79 rfl) rfl
theorem q226 : (Jvm.Cond.fieldLinkNest "DawnPerquisite" (411 : Nat) "DawnPerquisite$State" "said" "[[I" "DawnPerquisite") ∈ lw_tbl := lw_at lw_m1 80 rfl
theorem q227 : (Jvm.Cond.fieldLink "DawnPerquisite$State" (41 : Nat) "DawnPerquisite$State" "step" "[[I") ∈ lw_all := lw_g (lw_at lw_m1 81 rfl) rfl
theorem q228 : (Jvm.Cond.fieldLinkNest "DawnPerquisite" (312 : Nat) "DawnPerquisite$State" "step" "[[I" "DawnPerquisite") ∈ lw_tbl := lw_at lw_m1 82 rfl
theorem q229 : (Jvm.Cond.fieldLink "DawnPerquisite$State" (46 : Nat) "DawnPerquisite$State" "text" "[LDawnPerquisite$Text;") ∈ lw_all := lw_g (lw_at lw_m1 83 rfl) rfl
theorem q230 : (Jvm.Cond.fieldLinkNest "DawnPerquisite" (105 : Nat) "DawnPerquisite$State" "text" "[LDawnPerquisite$Text;" "DawnPerquisite") ∈ lw_tbl := lw_at lw_m1 84 rfl
theorem q231 : (Jvm.Cond.laysFinal "DawnPerquisite$State" "DawnPerquisite$State" "n" "[I") ∈ lw_all := lw_g (lw_at lw_m1 85 rfl) rfl
theorem q232 : (Jvm.Cond.soleField "DawnPerquisite$State" "n") ∈ lw_all := lw_g (lw_at lw_m1 86 rfl) rfl
theorem q233 : (Jvm.Cond.laysFinal "DawnPerquisite$State" "DawnPerquisite$State" "row" "[I") ∈ lw_all := lw_g (lw_at lw_m1 87 rfl) rfl
theorem q234 : (Jvm.Cond.soleField "DawnPerquisite$State" "row") ∈ lw_all := lw_g (lw_at lw_m1 88 rfl) rfl
theorem q235 : (Jvm.Cond.laysFinal "DawnPerquisite$State" "DawnPerquisite$State" "odds" "[I") ∈ lw_all := lw_g (lw_at lw_m1 89 rfl) rfl
theorem q236 : (Jvm.Cond.soleField "DawnPerquisite$State" "odds") ∈ lw_all := lw_g (lw_at lw_m1 90 rfl) rfl
theorem q237 : (Jvm.Cond.laysFinal "DawnPerquisite$State" "DawnPerquisite$State" "worth" "[I") ∈ lw_all := lw_g (lw_at lw_m1 91 rfl) rfl
theorem q238 : (Jvm.Cond.soleField "DawnPerquisite$State" "worth") ∈ lw_all := lw_g (lw_at lw_m1 92 rfl) rfl
theorem q239 : (Jvm.Cond.laysFinal "DawnPerquisite$State" "DawnPerquisite$State" "wants" "[I") ∈ lw_all := lw_g (lw_at lw_m1 93 rfl) rfl
theorem q240 : (Jvm.Cond.soleField "DawnPerquisite$State" "wants") ∈ lw_all := lw_g (lw_at lw_m1 94 rfl) rfl
theorem q241 : (Jvm.Cond.laysFinal "DawnPerquisite$State" "DawnPerquisite$State" "from" "[I") ∈ lw_all := lw_g (lw_at lw_m1 95 rfl) rfl
theorem q242 : (Jvm.Cond.soleField "DawnPerquisite$State" "from") ∈ lw_all := lw_g (lw_at lw_m1 96 rfl) rfl
theorem q243 : (Jvm.Cond.laysFinal "DawnPerquisite$State" "DawnPerquisite$State" "to" "[I") ∈ lw_all := lw_g (lw_at lw_m1 97 rfl) rfl
theorem q244 : (Jvm.Cond.soleField "DawnPerquisite$State" "to") ∈ lw_all := lw_g (lw_at lw_m1 98 rfl) rfl
theorem q245 : (Jvm.Cond.laysFinal "DawnPerquisite$State" "DawnPerquisite$State" "value" "[I") ∈ lw_all := lw_g (lw_at lw_m1 99 rfl) rfl
theorem q246 : (Jvm.Cond.soleField "DawnPerquisite$State" "value") ∈ lw_all := lw_g (lw_at lw_m1 100 rfl) rfl
theorem q247 : (Jvm.Cond.laysFinal "DawnPerquisite$State" "DawnPerquisite$State" "said" "[[I") ∈ lw_all := lw_g (lw_at lw_m1 101 rfl) rfl
theorem q248 : (Jvm.Cond.soleField "DawnPerquisite$State" "said") ∈ lw_all := lw_g (lw_at lw_m1 102 rfl) rfl
theorem q249 : (Jvm.Cond.laysFinal "DawnPerquisite$State" "DawnPerquisite$State" "step" "[[I") ∈ lw_all := lw_g (lw_at lw_m1 103 rfl) rfl
theorem q250 : (Jvm.Cond.soleField "DawnPerquisite$State" "step") ∈ lw_all := lw_g (lw_at lw_m1 104 rfl) rfl
theorem q251 : (Jvm.Cond.laysFinal "DawnPerquisite$State" "DawnPerquisite$State" "text" "[LDawnPerquisite$Text;") ∈ lw_all := lw_g (lw_at lw_m1 105 rfl) rfl
theorem q252 : (Jvm.Cond.soleField "DawnPerquisite$State" "text") ∈ lw_all := lw_g (lw_at lw_m1 106 rfl) rfl
theorem q253 : (Jvm.Cond.superclass "DawnPerquisite$State" "java/lang/Object") ∈ lw_all := lw_g (lw_at lw_m1 107 rfl) rfl
theorem q254 : (Jvm.Cond.arrayClass Jvm.ClassFile.FieldType.int) ∈ lw_all := lw_g (lw_at lw_m1 108 rfl) rfl
theorem q255 : (Jvm.Cond.classLink "DawnPerquisite" (52 : Nat) "[[I") ∈ lw_all := lw_g (lw_at lw_m1 109 rfl) rfl
theorem q256 : (Jvm.Cond.methodLink "DawnPerquisite" (57 : Nat) ({ cls := "DawnPerquisite$State", name := "be", desc := "(LDawnPerquisite$State;)V" } : Jvm.MethodName)) ∈ lw_all := lw_g (lw_at lw_m1 110 rfl) rfl
theorem q257 : (Jvm.Cond.instanceMethod ({ cls := "DawnPerquisite$State", name := "be", desc := "(LDawnPerquisite$State;)V" } : Jvm.MethodName)) ∈ lw_all := lw_g (lw_at lw_m1 111 rfl) rfl
theorem q258 : (Jvm.Cond.selects "DawnPerquisite$State" ({ cls := "DawnPerquisite$State", name := "be", desc := "(LDawnPerquisite$State;)V" } : Jvm.MethodName) ({ cls := "DawnPerquisite$State", name := "be", desc := "(LDawnPerquisite$State;)V" } : Jvm.MethodName)) ∈ lw_all := lw_g (lw_at lw_m1 112 rfl) rfl
theorem q259 : (Jvm.Cond.code ({ cls := "DawnPerquisite$State", name := "be", desc := "(LDawnPerquisite$State;)V" } : Jvm.MethodName) prog_13_method_4_code (2 : Nat) (Option.none : Option Jvm.ClassFile.FieldType)) ∈ lw_all := lw_g (lw_at lw_m1 113 rfl) rfl
theorem q260 : (Jvm.Cond.methodLink "DawnPerquisite$State" (65 : Nat) ({ cls := "DawnPerquisite$State", name := "copy", desc := "([I[I)V" } : Jvm.MethodName)) ∈ lw_all := lw_g (lw_at lw_m1 114 rfl) rfl
theorem q261 : (Jvm.Cond.static ({ cls := "DawnPerquisite$State", name := "copy", desc := "([I[I)V" } : Jvm.MethodName)) ∈ lw_all := lw_g (lw_at lw_m1 115 rfl) rfl
theorem q262 : (Jvm.Cond.code ({ cls := "DawnPerquisite$State", name := "copy", desc := "([I[I)V" } : Jvm.MethodName) prog_13_method_2_code (2 : Nat) (Option.none : Option Jvm.ClassFile.FieldType)) ∈ lw_all := lw_g (lw_at lw_m1 116 rfl) rfl
theorem q263 : (Jvm.Cond.methodLink "DawnPerquisite$State" (59 : Nat) ({ cls := "java/lang/System", name := "arraycopy", desc := "(Ljava/lang/Object;ILjava/lang/Object;II)V" } : Jvm.MethodName)) ∈ lw_all := lw_g (lw_at lw_m1 117 rfl) rfl
theorem q264 : (Jvm.Cond.static ({ cls := "java/lang/System", name := "arraycopy", desc := "(Ljava/lang/Object;ILjava/lang/Object;II)V" } : Jvm.MethodName)) ∈ lw_all := lw_g (lw_at lw_m1 118 rfl) rfl
theorem q265 : (Jvm.Cond.native ({ cls := "java/lang/System", name := "arraycopy", desc := "(Ljava/lang/Object;ILjava/lang/Object;II)V" } : Jvm.MethodName)) ∈ lw_all := lw_g (lw_at lw_m1 119 rfl) rfl
theorem q266 : (Jvm.Cond.methodLink "DawnPerquisite$State" (69 : Nat) ({ cls := "DawnPerquisite$State", name := "copy", desc := "([[I[[I)V" } : Jvm.MethodName)) ∈ lw_all := lw_g (lw_at lw_m1 120 rfl) rfl
theorem q267 : (Jvm.Cond.static ({ cls := "DawnPerquisite$State", name := "copy", desc := "([[I[[I)V" } : Jvm.MethodName)) ∈ lw_all := lw_g (lw_at lw_m1 121 rfl) rfl
theorem q268 : (Jvm.Cond.code ({ cls := "DawnPerquisite$State", name := "copy", desc := "([[I[[I)V" } : Jvm.MethodName) prog_13_method_3_code (3 : Nat) (Option.none : Option Jvm.ClassFile.FieldType)) ∈ lw_all := lw_g (lw_at lw_m1 122 rfl) rfl
theorem q269 : (Jvm.Cond.fieldLink "DawnPerquisite" (21 : Nat) "DawnPerquisite" "now" "LDawnPerquisite$State;") ∈ lw_all := lw_g (lw_at lw_m1 123 rfl) rfl
theorem q270 : (Jvm.Cond.fieldLink "DawnPerquisite" (25 : Nat) "DawnPerquisite" "image" "LDawnPerquisite$State;") ∈ lw_all := lw_g (lw_at lw_m1 124 rfl) rfl
theorem q271 : (Jvm.Cond.fieldLink "DawnPerquisite" (28 : Nat) "DawnPerquisite" "tape" "[B") ∈ lw_all := lw_g (lw_at lw_m1 125 rfl) rfl
theorem q272 : (Jvm.Cond.fieldLink "DawnPerquisite" (98 : Nat) "DawnPerquisite" "taped" "I") ∈ lw_all := lw_g (lw_at lw_m1 126 rfl) rfl
theorem q273 : (Jvm.Cond.fieldLink "DawnPerquisite" (32 : Nat) "DawnPerquisite" "fault" "I") ∈ lw_all := lw_g (lw_at lw_m1 127 rfl) rfl
theorem q274 : (Jvm.Cond.fieldLink "DawnPerquisite" (36 : Nat) "DawnPerquisite" "faultAt" "I") ∈ lw_all := lw_g (lw_at lw_m1 128 rfl) rfl
theorem q275 : (Jvm.Cond.fieldLink "DawnPerquisite" (39 : Nat) "DawnPerquisite" "names" "[I") ∈ lw_all := lw_g (lw_at lw_m1 129 rfl) rfl
theorem q276 : (Jvm.Cond.fieldLink "DawnPerquisite" (43 : Nat) "DawnPerquisite" "tried" "[I") ∈ lw_all := lw_g (lw_at lw_m1 130 rfl) rfl
theorem q277 : (Jvm.Cond.fieldLink "DawnPerquisite" (46 : Nat) "DawnPerquisite" "takenOn" "[I") ∈ lw_all := lw_g (lw_at lw_m1 131 rfl) rfl
theorem q278 : (Jvm.Cond.fieldLink "DawnPerquisite" (49 : Nat) "DawnPerquisite" "dawnOf" "[I") ∈ lw_all := lw_g (lw_at lw_m1 132 rfl) rfl
theorem q279 : (Jvm.Cond.fieldLink "DawnPerquisite" (54 : Nat) "DawnPerquisite" "more" "[[I") ∈ lw_all := lw_g (lw_at lw_m1 133 rfl) rfl
theorem q280 : (Jvm.Cond.laysFinal "DawnPerquisite" "DawnPerquisite" "now" "LDawnPerquisite$State;") ∈ lw_all := lw_g (lw_at lw_m1 134 rfl) rfl
theorem q281 : (Jvm.Cond.soleField "DawnPerquisite" "now") ∈ lw_all := lw_g (lw_at lw_m1 135 rfl) rfl
theorem q282 : (Jvm.Cond.laysFinal "DawnPerquisite" "DawnPerquisite" "image" "LDawnPerquisite$State;") ∈ lw_all := lw_g (lw_at lw_m1 136 rfl) rfl
theorem q283 : (Jvm.Cond.soleField "DawnPerquisite" "image") ∈ lw_all := lw_g (lw_at lw_m1 137 rfl) rfl
theorem q284 : (Jvm.Cond.laysFinal "DawnPerquisite" "DawnPerquisite" "tape" "[B") ∈ lw_all := lw_g (lw_at lw_m1 138 rfl) rfl
theorem q285 : (Jvm.Cond.soleField "DawnPerquisite" "tape") ∈ lw_all := lw_g (lw_at lw_m1 139 rfl) rfl
theorem q286 : (Jvm.Cond.lays "DawnPerquisite" "DawnPerquisite" "taped" "I") ∈ lw_all := lw_g (lw_at lw_m1 140 rfl) rfl
theorem q287 : (Jvm.Cond.soleField "DawnPerquisite" "taped") ∈ lw_all := lw_g (lw_at lw_m1 141 rfl) rfl
theorem q288 : (Jvm.Cond.lays "DawnPerquisite" "DawnPerquisite" "fault" "I") ∈ lw_all := lw_g (lw_at lw_m1 142 rfl) rfl
theorem q289 : (Jvm.Cond.soleField "DawnPerquisite" "fault") ∈ lw_all := lw_g (lw_at lw_m1 143 rfl) rfl
theorem q290 : (Jvm.Cond.lays "DawnPerquisite" "DawnPerquisite" "faultAt" "I") ∈ lw_all := lw_g (lw_at lw_m1 144 rfl) rfl
theorem q291 : (Jvm.Cond.soleField "DawnPerquisite" "faultAt") ∈ lw_all := lw_g (lw_at lw_m1 145 rfl) rfl
theorem q292 : (Jvm.Cond.laysFinal "DawnPerquisite" "DawnPerquisite" "names" "[I") ∈ lw_all := lw_g (lw_at lw_m1 146 rfl) rfl
theorem q293 : (Jvm.Cond.soleField "DawnPerquisite" "names") ∈ lw_all := lw_g (lw_at lw_m1 147 rfl) rfl
theorem q294 : (Jvm.Cond.laysFinal "DawnPerquisite" "DawnPerquisite" "tried" "[I") ∈ lw_all := lw_g (lw_at lw_m1 148 rfl) rfl
theorem q295 : (Jvm.Cond.soleField "DawnPerquisite" "tried") ∈ lw_all := lw_g (lw_at lw_m1 149 rfl) rfl
theorem q296 : (Jvm.Cond.laysFinal "DawnPerquisite" "DawnPerquisite" "takenOn" "[I") ∈ lw_all := lw_g (lw_at lw_m1 150 rfl) rfl
theorem q297 : (Jvm.Cond.soleField "DawnPerquisite" "takenOn") ∈ lw_all := lw_g (lw_at lw_m1 151 rfl) rfl
theorem q298 : (Jvm.Cond.laysFinal "DawnPerquisite" "DawnPerquisite" "dawnOf" "[I") ∈ lw_all := lw_g (lw_at lw_m1 152 rfl) rfl
theorem q299 : (Jvm.Cond.soleField "DawnPerquisite" "dawnOf") ∈ lw_all := lw_g (lw_at lw_m1 153 rfl) rfl
theorem q300 : (Jvm.Cond.laysFinal "DawnPerquisite" "DawnPerquisite" "more" "[[I") ∈ lw_all := lw_g (lw_at lw_m1 154 rfl) rfl
theorem q301 : (Jvm.Cond.soleField "DawnPerquisite" "more") ∈ lw_all := lw_g (lw_at lw_m1 155 rfl) rfl
theorem q302 : (Jvm.Cond.superclass "DawnPerquisite" "java/lang/Object") ∈ lw_all := lw_g (lw_at lw_m1 156 rfl) rfl
theorem q303 : (Jvm.Cond.arrayClass Jvm.ClassFile.FieldType.byte) ∈ lw_all := lw_g (lw_at lw_m1 157 rfl) rfl
theorem q304 : (Jvm.Cond.methodLink "DawnPerquisiteLaw" (13 : Nat) ({ cls := "DawnPerquisite", name := "sort", desc := "(III)Z" } : Jvm.MethodName)) ∈ lw_all := lw_g (lw_at lw_m1 158 rfl) rfl
theorem q305 : (Jvm.Cond.instanceMethod ({ cls := "DawnPerquisite", name := "sort", desc := "(III)Z" } : Jvm.MethodName)) ∈ lw_all := lw_g (lw_at lw_m1 159 rfl) rfl
theorem q306 : (Jvm.Cond.selects "DawnPerquisite" ({ cls := "DawnPerquisite", name := "sort", desc := "(III)Z" } : Jvm.MethodName) ({ cls := "DawnPerquisite", name := "sort", desc := "(III)Z" } : Jvm.MethodName)) ∈ lw_all := lw_g (lw_at lw_m1 160 rfl) rfl
theorem q307 : (Jvm.Cond.code ({ cls := "DawnPerquisite", name := "sort", desc := "(III)Z" } : Jvm.MethodName) prog_1_method_9_code (4 : Nat) (Option.some Jvm.ClassFile.FieldType.boolean)) ∈ lw_all := lw_g (lw_at lw_m1 161 rfl) rfl
theorem q308 : (Jvm.Cond.methodLink "DawnPerquisite" (72 : Nat) ({ cls := "DawnPerquisite", name := "isSort", desc := "(I)Z" } : Jvm.MethodName)) ∈ lw_all := lw_g (lw_at lw_m1 162 rfl) rfl
theorem q309 : (Jvm.Cond.static ({ cls := "DawnPerquisite", name := "isSort", desc := "(I)Z" } : Jvm.MethodName)) ∈ lw_all := lw_g (lw_at lw_m1 163 rfl) rfl
theorem q310 : (Jvm.Cond.code ({ cls := "DawnPerquisite", name := "isSort", desc := "(I)Z" } : Jvm.MethodName) prog_1_method_7_code (1 : Nat) (Option.some Jvm.ClassFile.FieldType.boolean)) ∈ lw_all := lw_g (lw_at lw_m1 164 rfl) rfl
theorem q311 : (Jvm.Cond.methodLink "DawnPerquisite" (68 : Nat) ({ cls := "DawnPerquisite", name := "in", desc := "(III)Z" } : Jvm.MethodName)) ∈ lw_all := lw_g (lw_at lw_m1 165 rfl) rfl
theorem q312 : (Jvm.Cond.static ({ cls := "DawnPerquisite", name := "in", desc := "(III)Z" } : Jvm.MethodName)) ∈ lw_all := lw_g (lw_at lw_m1 166 rfl) rfl
theorem q313 : (Jvm.Cond.code ({ cls := "DawnPerquisite", name := "in", desc := "(III)Z" } : Jvm.MethodName) prog_1_method_1_code (3 : Nat) (Option.some Jvm.ClassFile.FieldType.boolean)) ∈ lw_all := lw_g (lw_at lw_m1 167 rfl) rfl
theorem q314 : (Jvm.Cond.methodLink "DawnPerquisiteLaw" (18 : Nat) ({ cls := "DawnPerquisite", name := "buyer", desc := "(IIII)I" } : Jvm.MethodName)) ∈ lw_all := lw_g (lw_at lw_m1 168 rfl) rfl
theorem q315 : (Jvm.Cond.instanceMethod ({ cls := "DawnPerquisite", name := "buyer", desc := "(IIII)I" } : Jvm.MethodName)) ∈ lw_all := lw_g (lw_at lw_m1 169 rfl) rfl
theorem q316 : (Jvm.Cond.selects "DawnPerquisite" ({ cls := "DawnPerquisite", name := "buyer", desc := "(IIII)I" } : Jvm.MethodName) ({ cls := "DawnPerquisite", name := "buyer", desc := "(IIII)I" } : Jvm.MethodName)) ∈ lw_all := lw_g (lw_at lw_m1 170 rfl) rfl
theorem q317 : (Jvm.Cond.code ({ cls := "DawnPerquisite", name := "buyer", desc := "(IIII)I" } : Jvm.MethodName) prog_1_method_10_code (6 : Nat) (Option.some Jvm.ClassFile.FieldType.int)) ∈ lw_all := lw_g (lw_at lw_m1 171 rfl) rfl
theorem q318 : (Jvm.Cond.methodLink "DawnPerquisite" (64 : Nat) ({ cls := "DawnPerquisite", name := "buyers", desc := "()I" } : Jvm.MethodName)) ∈ lw_all := lw_g (lw_at lw_m1 172 rfl) rfl
theorem q319 : (Jvm.Cond.privateMethod ({ cls := "DawnPerquisite", name := "buyers", desc := "()I" } : Jvm.MethodName)) ∈ lw_tbl := lw_at lw_m1 173 rfl
theorem q320 : (Jvm.Cond.instanceMethod ({ cls := "DawnPerquisite", name := "buyers", desc := "()I" } : Jvm.MethodName)) ∈ lw_all := lw_g (lw_at lw_m1 174 rfl) rfl
theorem q321 : (Jvm.Cond.code ({ cls := "DawnPerquisite", name := "buyers", desc := "()I" } : Jvm.MethodName) prog_1_method_5_code (1 : Nat) (Option.some Jvm.ClassFile.FieldType.int)) ∈ lw_all := lw_g (lw_at lw_m1 175 rfl) rfl
theorem q322 : (Jvm.Cond.methodLink "DawnPerquisite" (82 : Nat) ({ cls := "DawnPerquisite", name := "isSlice", desc := "(I)Z" } : Jvm.MethodName)) ∈ lw_all := lw_g (lw_at lw_m1 176 rfl) rfl
theorem q323 : (Jvm.Cond.static ({ cls := "DawnPerquisite", name := "isSlice", desc := "(I)Z" } : Jvm.MethodName)) ∈ lw_all := lw_g (lw_at lw_m1 177 rfl) rfl
theorem q324 : (Jvm.Cond.code ({ cls := "DawnPerquisite", name := "isSlice", desc := "(I)Z" } : Jvm.MethodName) prog_1_method_8_code (1 : Nat) (Option.some Jvm.ClassFile.FieldType.boolean)) ∈ lw_all := lw_g (lw_at lw_m1 178 rfl) rfl
theorem q325 : (Jvm.Cond.methodLink "DawnPerquisite" (94 : Nat) ({ cls := "DawnPerquisite$State", name := "tells", desc := "(II)V" } : Jvm.MethodName)) ∈ lw_all := lw_g (lw_at lw_m1 179 rfl) rfl
theorem q326 : (Jvm.Cond.instanceMethod ({ cls := "DawnPerquisite$State", name := "tells", desc := "(II)V" } : Jvm.MethodName)) ∈ lw_all := lw_g (lw_at lw_m1 180 rfl) rfl
theorem q327 : (Jvm.Cond.selects "DawnPerquisite$State" ({ cls := "DawnPerquisite$State", name := "tells", desc := "(II)V" } : Jvm.MethodName) ({ cls := "DawnPerquisite$State", name := "tells", desc := "(II)V" } : Jvm.MethodName)) ∈ lw_all := lw_g (lw_at lw_m1 181 rfl) rfl
theorem q328 : (Jvm.Cond.code ({ cls := "DawnPerquisite$State", name := "tells", desc := "(II)V" } : Jvm.MethodName) prog_13_method_6_code (4 : Nat) (Option.none : Option Jvm.ClassFile.FieldType)) ∈ lw_all := lw_g (lw_at lw_m1 182 rfl) rfl
theorem q329 : (Jvm.Cond.methodLink "DawnPerquisiteLaw" (23 : Nat) ({ cls := "DawnPerquisite", name := "feed", desc := "(IIIII)I" } : Jvm.MethodName)) ∈ lw_all := lw_g (lw_at lw_m1 183 rfl) rfl
theorem q330 : (Jvm.Cond.instanceMethod ({ cls := "DawnPerquisite", name := "feed", desc := "(IIIII)I" } : Jvm.MethodName)) ∈ lw_all := lw_g (lw_at lw_m1 184 rfl) rfl
theorem q331 : (Jvm.Cond.selects "DawnPerquisite" ({ cls := "DawnPerquisite", name := "feed", desc := "(IIIII)I" } : Jvm.MethodName) ({ cls := "DawnPerquisite", name := "feed", desc := "(IIIII)I" } : Jvm.MethodName)) ∈ lw_all := lw_g (lw_at lw_m1 185 rfl) rfl
theorem q332 : (Jvm.Cond.code ({ cls := "DawnPerquisite", name := "feed", desc := "(IIIII)I" } : Jvm.MethodName) prog_1_method_12_code (6 : Nat) (Option.some Jvm.ClassFile.FieldType.int)) ∈ lw_all := lw_g (lw_at lw_m1 186 rfl) rfl
theorem q333 : (Jvm.Cond.methodLink "DawnPerquisite" (101 : Nat) ({ cls := "DawnPerquisite", name := "put", desc := "(I)V" } : Jvm.MethodName)) ∈ lw_all := lw_g (lw_at lw_m1 187 rfl) rfl
theorem q334 : (Jvm.Cond.privateMethod ({ cls := "DawnPerquisite", name := "put", desc := "(I)V" } : Jvm.MethodName)) ∈ lw_tbl := lw_at lw_m1 188 rfl
theorem q335 : (Jvm.Cond.instanceMethod ({ cls := "DawnPerquisite", name := "put", desc := "(I)V" } : Jvm.MethodName)) ∈ lw_all := lw_g (lw_at lw_m1 189 rfl) rfl
theorem q336 : (Jvm.Cond.code ({ cls := "DawnPerquisite", name := "put", desc := "(I)V" } : Jvm.MethodName) prog_1_method_11_code (3 : Nat) (Option.none : Option Jvm.ClassFile.FieldType)) ∈ lw_all := lw_g (lw_at lw_m1 190 rfl) rfl
theorem q337 : (Jvm.Cond.methodLink "DawnPerquisiteLaw" (28 : Nat) ({ cls := "DawnPerquisite", name := "end", desc := "(I)I" } : Jvm.MethodName)) ∈ lw_all := lw_g (lw_at lw_m1 191 rfl) rfl
theorem q338 : (Jvm.Cond.instanceMethod ({ cls := "DawnPerquisite", name := "end", desc := "(I)I" } : Jvm.MethodName)) ∈ lw_all := lw_g (lw_at lw_m1 192 rfl) rfl
theorem q339 : (Jvm.Cond.selects "DawnPerquisite" ({ cls := "DawnPerquisite", name := "end", desc := "(I)I" } : Jvm.MethodName) ({ cls := "DawnPerquisite", name := "end", desc := "(I)I" } : Jvm.MethodName)) ∈ lw_all := lw_g (lw_at lw_m1 193 rfl) rfl
theorem q340 : (Jvm.Cond.code ({ cls := "DawnPerquisite", name := "end", desc := "(I)I" } : Jvm.MethodName) prog_1_method_13_code (2 : Nat) (Option.some Jvm.ClassFile.FieldType.int)) ∈ lw_all := lw_g (lw_at lw_m1 194 rfl) rfl
theorem q341 : (Jvm.Cond.methodLink "DawnPerquisiteLaw" (33 : Nat) ({ cls := "DawnPerquisite", name := "text", desc := "()I" } : Jvm.MethodName)) ∈ lw_all := lw_g (lw_at lw_m1 195 rfl) rfl
theorem q342 : (Jvm.Cond.instanceMethod ({ cls := "DawnPerquisite", name := "text", desc := "()I" } : Jvm.MethodName)) ∈ lw_all := lw_g (lw_at lw_m1 196 rfl) rfl
theorem q343 : (Jvm.Cond.selects "DawnPerquisite" ({ cls := "DawnPerquisite", name := "text", desc := "()I" } : Jvm.MethodName) ({ cls := "DawnPerquisite", name := "text", desc := "()I" } : Jvm.MethodName)) ∈ lw_all := lw_g (lw_at lw_m1 197 rfl) rfl
theorem q344 : (Jvm.Cond.codeWith ({ cls := "DawnPerquisite", name := "text", desc := "()I" } : Jvm.MethodName) prog_1_method_14_code (5 : Nat) (Option.some Jvm.ClassFile.FieldType.int) [((30 : Nat), (62 : Nat), (70 : Nat), (118 : Nat)), ((30 : Nat), (62 : Nat), (96 : Nat), (0 : Nat)), ((70 : Nat), (89 : Nat), (96 : Nat), (0 : Nat)), ((96 : Nat), (98 : Nat), (96 : Nat), (0 : Nat))]) ∈ lw_all := lw_g (lw_at lw_m1 198 rfl) rfl
theorem q345 : (Jvm.Cond.classLink "DawnPerquisite" (118 : Nat) "DawnPerquisite$Wrong") ∈ lw_all := lw_g (lw_at lw_m1 199 rfl) rfl
theorem q346 : (Jvm.Cond.classLink "DawnPerquisite" (109 : Nat) "DawnPerquisite$Tokens") ∈ lw_all := lw_g (lw_at lw_m1 200 rfl) rfl
theorem q347 : (Jvm.Cond.instantiable "DawnPerquisite$Tokens" (8 : Nat)) ∈ lw_all := lw_g (lw_at lw_m1 201 rfl) rfl
theorem q348 : (Jvm.Cond.methodLink "DawnPerquisite" (111 : Nat) ({ cls := "DawnPerquisite$Tokens", name := "<init>", desc := "([BI)V" } : Jvm.MethodName)) ∈ lw_all := lw_g (lw_at lw_m1 202 rfl) rfl
theorem q349 : (Jvm.Cond.instanceMethod ({ cls := "DawnPerquisite$Tokens", name := "<init>", desc := "([BI)V" } : Jvm.MethodName)) ∈ lw_all := lw_g (lw_at lw_m1 203 rfl) rfl
theorem q350 : (Jvm.Cond.code ({ cls := "DawnPerquisite$Tokens", name := "<init>", desc := "([BI)V" } : Jvm.MethodName) prog_16_method_1_code (3 : Nat) (Option.none : Option Jvm.ClassFile.FieldType)) ∈ lw_all := lw_g (lw_at lw_m1 204 rfl) rfl
theorem q351 : (Jvm.Cond.methodLink "DawnPerquisite$Tokens" (3 : Nat) ({ cls := "java/lang/Object", name := "<init>", desc := "()V" } : Jvm.MethodName)) ∈ lw_all := lw_g (lw_at lw_m1 205 rfl) rfl
theorem q352 : (Jvm.Cond.fieldLink "DawnPerquisite$Tokens" (9 : Nat) "DawnPerquisite$Tokens" "text" "[B") ∈ lw_all := lw_g (lw_at lw_m1 206 rfl) rfl
theorem q353 : (Jvm.Cond.fieldLink "DawnPerquisite$Tokens" (15 : Nat) "DawnPerquisite$Tokens" "size" "I") ∈ lw_all := lw_g (lw_at lw_m1 207 rfl) rfl
theorem q354 : (Jvm.Cond.fieldLink "DawnPerquisite$Tokens" (19 : Nat) "DawnPerquisite$Tokens" "at" "I") ∈ lw_all := lw_g (lw_at lw_m1 208 rfl) rfl
theorem q355 : (Jvm.Cond.fieldLink "DawnPerquisite$Tokens" (22 : Nat) "DawnPerquisite$Tokens" "token" "I") ∈ lw_all := lw_g (lw_at lw_m1 209 rfl) rfl
theorem q356 : (Jvm.Cond.fieldLink "DawnPerquisite$Tokens" (25 : Nat) "DawnPerquisite$Tokens" "sort" "I") ∈ lw_all := lw_g (lw_at lw_m1 210 rfl) rfl
theorem q357 : (Jvm.Cond.fieldLink "DawnPerquisite$Tokens" (43 : Nat) "DawnPerquisite$Tokens" "number" "I") ∈ lw_all := lw_g (lw_at lw_m1 211 rfl) rfl
theorem q358 : (Jvm.Cond.fieldLink "DawnPerquisite$Tokens" (77 : Nat) "DawnPerquisite$Tokens" "open" "I") ∈ lw_all := lw_g (lw_at lw_m1 212 rfl) rfl
theorem q359 : (Jvm.Cond.fieldLink "DawnPerquisite$Tokens" (83 : Nat) "DawnPerquisite$Tokens" "kind" "I") ∈ lw_all := lw_g (lw_at lw_m1 213 rfl) rfl
theorem q360 : (Jvm.Cond.laysFinal "DawnPerquisite$Tokens" "DawnPerquisite$Tokens" "text" "[B") ∈ lw_all := lw_g (lw_at lw_m1 214 rfl) rfl
theorem q361 : (Jvm.Cond.soleField "DawnPerquisite$Tokens" "text") ∈ lw_all := lw_g (lw_at lw_m1 215 rfl) rfl
theorem q362 : (Jvm.Cond.laysFinal "DawnPerquisite$Tokens" "DawnPerquisite$Tokens" "size" "I") ∈ lw_all := lw_g (lw_at lw_m1 216 rfl) rfl
theorem q363 : (Jvm.Cond.soleField "DawnPerquisite$Tokens" "size") ∈ lw_all := lw_g (lw_at lw_m1 217 rfl) rfl
theorem q364 : (Jvm.Cond.lays "DawnPerquisite$Tokens" "DawnPerquisite$Tokens" "at" "I") ∈ lw_all := lw_g (lw_at lw_m1 218 rfl) rfl
theorem q365 : (Jvm.Cond.soleField "DawnPerquisite$Tokens" "at") ∈ lw_all := lw_g (lw_at lw_m1 219 rfl) rfl
theorem q366 : (Jvm.Cond.lays "DawnPerquisite$Tokens" "DawnPerquisite$Tokens" "token" "I") ∈ lw_all := lw_g (lw_at lw_m1 220 rfl) rfl
theorem q367 : (Jvm.Cond.soleField "DawnPerquisite$Tokens" "token") ∈ lw_all := lw_g (lw_at lw_m1 221 rfl) rfl
theorem q368 : (Jvm.Cond.lays "DawnPerquisite$Tokens" "DawnPerquisite$Tokens" "sort" "I") ∈ lw_all := lw_g (lw_at lw_m1 222 rfl) rfl
theorem q369 : (Jvm.Cond.soleField "DawnPerquisite$Tokens" "sort") ∈ lw_all := lw_g (lw_at lw_m1 223 rfl) rfl
theorem q370 : (Jvm.Cond.lays "DawnPerquisite$Tokens" "DawnPerquisite$Tokens" "number" "I") ∈ lw_all := lw_g (lw_at lw_m1 224 rfl) rfl
theorem q371 : (Jvm.Cond.soleField "DawnPerquisite$Tokens" "number") ∈ lw_all := lw_g (lw_at lw_m1 225 rfl) rfl
theorem q372 : (Jvm.Cond.lays "DawnPerquisite$Tokens" "DawnPerquisite$Tokens" "open" "I") ∈ lw_all := lw_g (lw_at lw_m1 226 rfl) rfl
theorem q373 : (Jvm.Cond.soleField "DawnPerquisite$Tokens" "open") ∈ lw_all := lw_g (lw_at lw_m1 227 rfl) rfl
theorem q374 : (Jvm.Cond.lays "DawnPerquisite$Tokens" "DawnPerquisite$Tokens" "kind" "I") ∈ lw_all := lw_g (lw_at lw_m1 228 rfl) rfl
theorem q375 : (Jvm.Cond.soleField "DawnPerquisite$Tokens" "kind") ∈ lw_all := lw_g (lw_at lw_m1 229 rfl) rfl
theorem q376 : (Jvm.Cond.superclass "DawnPerquisite$Tokens" "java/lang/Object") ∈ lw_all := lw_g (lw_at lw_m1 230 rfl) rfl
theorem q377 : (Jvm.Cond.methodLink "DawnPerquisite" (114 : Nat) ({ cls := "DawnPerquisite$Tokens", name := "read", desc := "()LDawnPerquisite$Text;" } : Jvm.MethodName)) ∈ lw_all := lw_g (lw_at lw_m1 231 rfl) rfl
theorem q378 : (Jvm.Cond.instanceMethod ({ cls := "DawnPerquisite$Tokens", name := "read", desc := "()LDawnPerquisite$Text;" } : Jvm.MethodName)) ∈ lw_all := lw_g (lw_at lw_m1 232 rfl) rfl
theorem q379 : (Jvm.Cond.selects "DawnPerquisite$Tokens" ({ cls := "DawnPerquisite$Tokens", name := "read", desc := "()LDawnPerquisite$Text;" } : Jvm.MethodName) ({ cls := "DawnPerquisite$Tokens", name := "read", desc := "()LDawnPerquisite$Text;" } : Jvm.MethodName)) ∈ lw_all := lw_g (lw_at lw_m1 233 rfl) rfl
theorem q380 : (Jvm.Cond.code ({ cls := "DawnPerquisite$Tokens", name := "read", desc := "()LDawnPerquisite$Text;" } : Jvm.MethodName) prog_16_method_10_code (2 : Nat) (Option.some (Jvm.ClassFile.FieldType.object "DawnPerquisite$Text"))) ∈ lw_all := lw_g (lw_at lw_m1 234 rfl) rfl
theorem q381 : (Jvm.Cond.classLink "DawnPerquisite$Tokens" (80 : Nat) "DawnPerquisite$Text") ∈ lw_all := lw_g (lw_at lw_m1 235 rfl) rfl
theorem q382 : (Jvm.Cond.instantiable "DawnPerquisite$Text" (3 : Nat)) ∈ lw_all := lw_g (lw_at lw_m1 236 rfl) rfl
theorem q383 : (Jvm.Cond.methodLinkNest "DawnPerquisite$Tokens" (82 : Nat) ({ cls := "DawnPerquisite$Text", name := "<init>", desc := "()V" } : Jvm.MethodName) "DawnPerquisite") ∈ lw_tbl := lw_at lw_m1 237 rfl
theorem q384 : (Jvm.Cond.instanceMethod ({ cls := "DawnPerquisite$Text", name := "<init>", desc := "()V" } : Jvm.MethodName)) ∈ lw_all := lw_g (lw_at lw_m1 238 rfl) rfl
theorem q385 : (Jvm.Cond.code ({ cls := "DawnPerquisite$Text", name := "<init>", desc := "()V" } : Jvm.MethodName) prog_15_method_1_code (1 : Nat) (Option.none : Option Jvm.ClassFile.FieldType)) ∈ lw_all := lw_g (lw_at lw_m1 239 rfl) rfl
theorem q386 : (Jvm.Cond.methodLink "DawnPerquisite$Text" (1 : Nat) ({ cls := "java/lang/Object", name := "<init>", desc := "()V" } : Jvm.MethodName)) ∈ lw_all := lw_g (lw_at lw_m2 0 rfl) rfl
theorem q387 : (Jvm.Cond.classLink "DawnPerquisite$Text" (7 : Nat) "DawnPerquisite$Sum") ∈ lw_all := lw_g (lw_at lw_m2 1 rfl) rfl
theorem q388 : (Jvm.Cond.arrayOver (Jvm.ClassFile.FieldType.object "DawnPerquisite$Sum")) ∈ lw_tbl := lw_at lw_m2 2 rfl
theorem q389 : (Jvm.Cond.classLink "DawnPerquisite$Text" (15 : Nat) "java/util/ArrayList") ∈ lw_all := lw_g (lw_at lw_m2 3 rfl) rfl
theorem q390 : (Jvm.Cond.instantiable "java/util/ArrayList" (3 : Nat)) ∈ lw_all := lw_g (lw_at lw_m2 4 rfl) rfl
theorem q391 : (Jvm.Cond.methodLink "DawnPerquisite$Text" (17 : Nat) ({ cls := "java/util/ArrayList", name := "<init>", desc := "()V" } : Jvm.MethodName)) ∈ lw_all := lw_g (lw_at lw_m2 5 rfl) rfl
theorem q392 : (Jvm.Cond.instanceMethod ({ cls := "java/util/ArrayList", name := "<init>", desc := "()V" } : Jvm.MethodName)) ∈ lw_all := lw_g (lw_at lw_m2 6 rfl) rfl
theorem q393 : (Jvm.Cond.code ({ cls := "java/util/ArrayList", name := "<init>", desc := "()V" } : Jvm.MethodName) prog_41_method_2_code (1 : Nat) (Option.none : Option Jvm.ClassFile.FieldType)) ∈ lw_all := lw_g (lw_at lw_m2 7 rfl) rfl
theorem q394 : (Jvm.Cond.methodLink "java/util/ArrayList" (1 : Nat) ({ cls := "java/util/AbstractList", name := "<init>", desc := "()V" } : Jvm.MethodName)) ∈ lw_all := lw_g (lw_at lw_m2 8 rfl) rfl
theorem q395 : (Jvm.Cond.instanceMethod ({ cls := "java/util/AbstractList", name := "<init>", desc := "()V" } : Jvm.MethodName)) ∈ lw_all := lw_g (lw_at lw_m2 9 rfl) rfl
theorem q396 : (Jvm.Cond.code ({ cls := "java/util/AbstractList", name := "<init>", desc := "()V" } : Jvm.MethodName) prog_40_method_1_code (1 : Nat) (Option.none : Option Jvm.ClassFile.FieldType)) ∈ lw_all := lw_g (lw_at lw_m2 10 rfl) rfl
theorem q397 : (Jvm.Cond.methodLink "java/util/AbstractList" (1 : Nat) ({ cls := "java/util/AbstractCollection", name := "<init>", desc := "()V" } : Jvm.MethodName)) ∈ lw_all := lw_g (lw_at lw_m2 11 rfl) rfl
theorem q398 : (Jvm.Cond.instanceMethod ({ cls := "java/util/AbstractCollection", name := "<init>", desc := "()V" } : Jvm.MethodName)) ∈ lw_all := lw_g (lw_at lw_m2 12 rfl) rfl
theorem q399 : (Jvm.Cond.code ({ cls := "java/util/AbstractCollection", name := "<init>", desc := "()V" } : Jvm.MethodName) prog_39_method_1_code (1 : Nat) (Option.none : Option Jvm.ClassFile.FieldType)) ∈ lw_all := lw_g (lw_at lw_m2 13 rfl) rfl
theorem q400 : (Jvm.Cond.methodLink "java/util/AbstractCollection" (1 : Nat) ({ cls := "java/lang/Object", name := "<init>", desc := "()V" } : Jvm.MethodName)) ∈ lw_all := lw_g (lw_at lw_m2 14 rfl) rfl
theorem q401 : (Jvm.Cond.fieldLink "java/util/ArrayList" (39 : Nat) "java/util/ArrayList" "DEFAULTCAPACITY_EMPTY_ELEMENTDATA" "[Ljava/lang/Object;") ∈ lw_all := lw_g (lw_at lw_m2 15 rfl) rfl
theorem q402 : (Jvm.Cond.laysStatic "java/util/ArrayList" "DEFAULTCAPACITY_EMPTY_ELEMENTDATA" "[Ljava/lang/Object;") ∈ lw_tbl := lw_at lw_m2 16 rfl
theorem q403 : (Jvm.Cond.fieldLink "java/util/ArrayList" (9 : Nat) "java/util/ArrayList" "elementData" "[Ljava/lang/Object;") ∈ lw_all := lw_g (lw_at lw_m2 17 rfl) rfl
theorem q404 : (Jvm.Cond.fieldLink "java/util/ArrayList" (48 : Nat) "java/util/ArrayList" "size" "I") ∈ lw_all := lw_g (lw_at lw_m2 18 rfl) rfl
theorem q405 : (Jvm.Cond.fieldLink "java/util/AbstractList" (7 : Nat) "java/util/AbstractList" "modCount" "I") ∈ lw_all := lw_g (lw_at lw_m2 19 rfl) rfl
theorem q406 : (Jvm.Cond.fieldLink "java/util/ArrayList" (63 : Nat) "java/util/ArrayList" "modCount" "I") ∈ lw_all := lw_g (lw_at lw_m2 20 rfl) rfl
theorem q407 : (Jvm.Cond.sameField "java/util/ArrayList" "java/util/AbstractList" "modCount" "I") ∈ lw_all := lw_g (lw_at lw_m2 21 rfl) rfl
theorem q408 : (Jvm.Cond.lays "java/util/ArrayList" "java/util/ArrayList" "elementData" "[Ljava/lang/Object;") ∈ lw_all := lw_g (lw_at lw_m2 22 rfl) rfl
theorem q409 : (Jvm.Cond.soleField "java/util/ArrayList" "elementData") ∈ lw_all := lw_g (lw_at lw_m2 23 rfl) rfl
theorem q410 : (Jvm.Cond.lays "java/util/ArrayList" "java/util/ArrayList" "size" "I") ∈ lw_all := lw_g (lw_at lw_m2 24 rfl) rfl
theorem q411 : (Jvm.Cond.soleField "java/util/ArrayList" "size") ∈ lw_all := lw_g (lw_at lw_m2 25 rfl) rfl
theorem q412 : (Jvm.Cond.lays "java/util/ArrayList" "java/util/AbstractList" "modCount" "I") ∈ lw_all := lw_g (lw_at lw_m2 26 rfl) rfl
theorem q413 : (Jvm.Cond.soleField "java/util/AbstractList" "modCount") ∈ lw_all := lw_g (lw_at lw_m2 27 rfl) rfl
theorem q414 : (Jvm.Cond.superclass "java/util/ArrayList" "java/util/AbstractList") ∈ lw_all := lw_g (lw_at lw_m2 28 rfl) rfl
theorem q415 : (Jvm.Cond.fieldLink "DawnPerquisite$Text" (9 : Nat) "DawnPerquisite$Text" "law" "[LDawnPerquisite$Sum;") ∈ lw_all := lw_g (lw_at lw_m2 29 rfl) rfl
theorem q416 : (Jvm.Cond.fieldLinkNest "DawnPerquisite$Tokens" (86 : Nat) "DawnPerquisite$Text" "law" "[LDawnPerquisite$Sum;" "DawnPerquisite") ∈ lw_tbl := lw_at lw_m2 30 rfl
theorem q417 : (Jvm.Cond.fieldLinkNest "DawnPerquisite" (154 : Nat) "DawnPerquisite$Text" "law" "[LDawnPerquisite$Sum;" "DawnPerquisite") ∈ lw_tbl := lw_at lw_m2 31 rfl
theorem q418 : (Jvm.Cond.fieldLinkNest "DawnPerquisite$Tokens" (90 : Nat) "DawnPerquisite$Text" "clauses" "I" "DawnPerquisite") ∈ lw_tbl := lw_at lw_m2 32 rfl
theorem q419 : (Jvm.Cond.fieldLink "DawnPerquisite$Text" (18 : Nat) "DawnPerquisite$Text" "doings" "Ljava/util/ArrayList;") ∈ lw_all := lw_g (lw_at lw_m2 33 rfl) rfl
theorem q420 : (Jvm.Cond.fieldLinkNest "DawnPerquisite$Tokens" (97 : Nat) "DawnPerquisite$Text" "doings" "Ljava/util/ArrayList;" "DawnPerquisite") ∈ lw_tbl := lw_at lw_m2 34 rfl
theorem q421 : (Jvm.Cond.fieldLinkNest "DawnPerquisite" (289 : Nat) "DawnPerquisite$Text" "doings" "Ljava/util/ArrayList;" "DawnPerquisite") ∈ lw_tbl := lw_at lw_m2 35 rfl
theorem q422 : (Jvm.Cond.laysFinal "DawnPerquisite$Text" "DawnPerquisite$Text" "law" "[LDawnPerquisite$Sum;") ∈ lw_all := lw_g (lw_at lw_m2 36 rfl) rfl
theorem q423 : (Jvm.Cond.soleField "DawnPerquisite$Text" "law") ∈ lw_all := lw_g (lw_at lw_m2 37 rfl) rfl
theorem q424 : (Jvm.Cond.lays "DawnPerquisite$Text" "DawnPerquisite$Text" "clauses" "I") ∈ lw_all := lw_g (lw_at lw_m2 38 rfl) rfl
theorem q425 : (Jvm.Cond.soleField "DawnPerquisite$Text" "clauses") ∈ lw_all := lw_g (lw_at lw_m2 39 rfl) rfl
theorem q426 : (Jvm.Cond.laysFinal "DawnPerquisite$Text" "DawnPerquisite$Text" "doings" "Ljava/util/ArrayList;") ∈ lw_all := lw_g (lw_at lw_m2 40 rfl) rfl
theorem q427 : (Jvm.Cond.soleField "DawnPerquisite$Text" "doings") ∈ lw_all := lw_g (lw_at lw_m2 41 rfl) rfl
theorem q428 : (Jvm.Cond.superclass "DawnPerquisite$Text" "java/lang/Object") ∈ lw_all := lw_g (lw_at lw_m2 42 rfl) rfl
theorem q429 : (Jvm.Cond.methodLink "DawnPerquisite$Tokens" (74 : Nat) ({ cls := "DawnPerquisite$Tokens", name := "next", desc := "()V" } : Jvm.MethodName)) ∈ lw_all := lw_g (lw_at lw_m2 43 rfl) rfl
theorem q430 : (Jvm.Cond.privateMethod ({ cls := "DawnPerquisite$Tokens", name := "next", desc := "()V" } : Jvm.MethodName)) ∈ lw_tbl := lw_at lw_m2 44 rfl
theorem q431 : (Jvm.Cond.instanceMethod ({ cls := "DawnPerquisite$Tokens", name := "next", desc := "()V" } : Jvm.MethodName)) ∈ lw_all := lw_g (lw_at lw_m2 45 rfl) rfl
theorem q432 : (Jvm.Cond.code ({ cls := "DawnPerquisite$Tokens", name := "next", desc := "()V" } : Jvm.MethodName) prog_16_method_4_code (3 : Nat) (Option.none : Option Jvm.ClassFile.FieldType)) ∈ lw_all := lw_g (lw_at lw_m2 46 rfl) rfl
theorem q433 : (Jvm.Cond.methodLink "DawnPerquisite$Tokens" (28 : Nat) ({ cls := "DawnPerquisite$Tokens", name := "isLetter", desc := "(I)Z" } : Jvm.MethodName)) ∈ lw_all := lw_g (lw_at lw_m2 47 rfl) rfl
theorem q434 : (Jvm.Cond.static ({ cls := "DawnPerquisite$Tokens", name := "isLetter", desc := "(I)Z" } : Jvm.MethodName)) ∈ lw_all := lw_g (lw_at lw_m2 48 rfl) rfl
theorem q435 : (Jvm.Cond.code ({ cls := "DawnPerquisite$Tokens", name := "isLetter", desc := "(I)Z" } : Jvm.MethodName) prog_16_method_2_code (1 : Nat) (Option.some Jvm.ClassFile.FieldType.boolean)) ∈ lw_all := lw_g (lw_at lw_m2 49 rfl) rfl
theorem q436 : (Jvm.Cond.fieldLink "DawnPerquisite$Tokens" (32 : Nat) "DawnPerquisite$Tokens" "WORDS" "[Ljava/lang/String;") ∈ lw_all := lw_g (lw_at lw_m2 50 rfl) rfl
theorem q437 : (Jvm.Cond.laysStatic "DawnPerquisite$Tokens" "WORDS" "[Ljava/lang/String;") ∈ lw_tbl := lw_at lw_m2 51 rfl
theorem q438 : (Jvm.Cond.methodLink "DawnPerquisite$Tokens" (36 : Nat) ({ cls := "DawnPerquisite$Tokens", name := "isWord", desc := "(Ljava/lang/String;)Z" } : Jvm.MethodName)) ∈ lw_all := lw_g (lw_at lw_m2 52 rfl) rfl
theorem q439 : (Jvm.Cond.privateMethod ({ cls := "DawnPerquisite$Tokens", name := "isWord", desc := "(Ljava/lang/String;)Z" } : Jvm.MethodName)) ∈ lw_tbl := lw_at lw_m2 53 rfl
theorem q440 : (Jvm.Cond.instanceMethod ({ cls := "DawnPerquisite$Tokens", name := "isWord", desc := "(Ljava/lang/String;)Z" } : Jvm.MethodName)) ∈ lw_all := lw_g (lw_at lw_m2 54 rfl) rfl
theorem q441 : (Jvm.Cond.code ({ cls := "DawnPerquisite$Tokens", name := "isWord", desc := "(Ljava/lang/String;)Z" } : Jvm.MethodName) prog_16_method_5_code (3 : Nat) (Option.some Jvm.ClassFile.FieldType.boolean)) ∈ lw_all := lw_g (lw_at lw_m2 55 rfl) rfl
theorem q442 : (Jvm.Cond.methodLink "DawnPerquisite$Tokens" (55 : Nat) ({ cls := "java/lang/String", name := "length", desc := "()I" } : Jvm.MethodName)) ∈ lw_all := lw_g (lw_at lw_m2 56 rfl) rfl
theorem q443 : (Jvm.Cond.instanceMethod ({ cls := "java/lang/String", name := "length", desc := "()I" } : Jvm.MethodName)) ∈ lw_all := lw_g (lw_at lw_m2 57 rfl) rfl
theorem q444 : (Jvm.Cond.selects "java/lang/String" ({ cls := "java/lang/String", name := "length", desc := "()I" } : Jvm.MethodName) ({ cls := "java/lang/String", name := "length", desc := "()I" } : Jvm.MethodName)) ∈ lw_all := lw_g (lw_at lw_m2 58 rfl) rfl
theorem q445 : (Jvm.Cond.code ({ cls := "java/lang/String", name := "length", desc := "()I" } : Jvm.MethodName) prog_32_method_54_code (1 : Nat) (Option.some Jvm.ClassFile.FieldType.int)) ∈ lw_all := lw_g (lw_at lw_m2 59 rfl) rfl
theorem q446 : (Jvm.Cond.methodLink "java/lang/String" (335 : Nat) ({ cls := "java/lang/String", name := "coder", desc := "()B" } : Jvm.MethodName)) ∈ lw_all := lw_g (lw_at lw_m2 60 rfl) rfl
theorem q447 : (Jvm.Cond.instanceMethod ({ cls := "java/lang/String", name := "coder", desc := "()B" } : Jvm.MethodName)) ∈ lw_all := lw_g (lw_at lw_m2 61 rfl) rfl
theorem q448 : (Jvm.Cond.selects "java/lang/String" ({ cls := "java/lang/String", name := "coder", desc := "()B" } : Jvm.MethodName) ({ cls := "java/lang/String", name := "coder", desc := "()B" } : Jvm.MethodName)) ∈ lw_all := lw_g (lw_at lw_m2 62 rfl) rfl
theorem q449 : (Jvm.Cond.code ({ cls := "java/lang/String", name := "coder", desc := "()B" } : Jvm.MethodName) prog_32_method_152_code (1 : Nat) (Option.some Jvm.ClassFile.FieldType.byte)) ∈ lw_all := lw_g (lw_at lw_m2 63 rfl) rfl
theorem q450 : (Jvm.Cond.fieldLink "java/lang/String" (38 : Nat) "java/lang/String" "COMPACT_STRINGS" "Z") ∈ lw_all := lw_g (lw_at lw_m2 64 rfl) rfl
theorem q451 : (Jvm.Cond.laysStatic "java/lang/String" "COMPACT_STRINGS" "Z") ∈ lw_tbl := lw_at lw_m2 65 rfl
theorem q452 : (Jvm.Cond.methodLink "DawnPerquisite$Tokens" (61 : Nat) ({ cls := "java/lang/String", name := "charAt", desc := "(I)C" } : Jvm.MethodName)) ∈ lw_all := lw_g (lw_at lw_m2 66 rfl) rfl
theorem q453 : (Jvm.Cond.instanceMethod ({ cls := "java/lang/String", name := "charAt", desc := "(I)C" } : Jvm.MethodName)) ∈ lw_all := lw_g (lw_at lw_m2 67 rfl) rfl
theorem q454 : (Jvm.Cond.selects "java/lang/String" ({ cls := "java/lang/String", name := "charAt", desc := "(I)C" } : Jvm.MethodName) ({ cls := "java/lang/String", name := "charAt", desc := "(I)C" } : Jvm.MethodName)) ∈ lw_all := lw_g (lw_at lw_m2 68 rfl) rfl
theorem q455 : (Jvm.Cond.code ({ cls := "java/lang/String", name := "charAt", desc := "(I)C" } : Jvm.MethodName) prog_32_method_56_code (2 : Nat) (Option.some Jvm.ClassFile.FieldType.char)) ∈ lw_all := lw_g (lw_at lw_m2 69 rfl) rfl
theorem q456 : (Jvm.Cond.methodLink "java/lang/String" (492 : Nat) ({ cls := "java/lang/String", name := "isLatin1", desc := "()Z" } : Jvm.MethodName)) ∈ lw_all := lw_g (lw_at lw_m2 70 rfl) rfl
theorem q457 : (Jvm.Cond.instanceMethod ({ cls := "java/lang/String", name := "isLatin1", desc := "()Z" } : Jvm.MethodName)) ∈ lw_all := lw_g (lw_at lw_m2 71 rfl) rfl
theorem q458 : (Jvm.Cond.selects "java/lang/String" ({ cls := "java/lang/String", name := "isLatin1", desc := "()Z" } : Jvm.MethodName) ({ cls := "java/lang/String", name := "isLatin1", desc := "()Z" } : Jvm.MethodName)) ∈ lw_all := lw_g (lw_at lw_m2 72 rfl) rfl
theorem q459 : (Jvm.Cond.code ({ cls := "java/lang/String", name := "isLatin1", desc := "()Z" } : Jvm.MethodName) prog_32_method_154_code (1 : Nat) (Option.some Jvm.ClassFile.FieldType.boolean)) ∈ lw_all := lw_g (lw_at lw_m2 73 rfl) rfl
theorem q460 : (Jvm.Cond.methodLink "java/lang/String" (495 : Nat) ({ cls := "java/lang/StringLatin1", name := "charAt", desc := "([BI)C" } : Jvm.MethodName)) ∈ lw_all := lw_g (lw_at lw_m2 74 rfl) rfl
theorem q461 : (Jvm.Cond.static ({ cls := "java/lang/StringLatin1", name := "charAt", desc := "([BI)C" } : Jvm.MethodName)) ∈ lw_all := lw_g (lw_at lw_m2 75 rfl) rfl
theorem q462 : (Jvm.Cond.code ({ cls := "java/lang/StringLatin1", name := "charAt", desc := "([BI)C" } : Jvm.MethodName) prog_33_method_2_code (2 : Nat) (Option.some Jvm.ClassFile.FieldType.char)) ∈ lw_all := lw_g (lw_at lw_m2 76 rfl) rfl
theorem q463 : (Jvm.Cond.methodLink "java/lang/StringLatin1" (9 : Nat) ({ cls := "java/lang/String", name := "checkIndex", desc := "(II)V" } : Jvm.MethodName)) ∈ lw_all := lw_g (lw_at lw_m2 77 rfl) rfl
theorem q464 : (Jvm.Cond.static ({ cls := "java/lang/String", name := "checkIndex", desc := "(II)V" } : Jvm.MethodName)) ∈ lw_all := lw_g (lw_at lw_m2 78 rfl) rfl
theorem q465 : (Jvm.Cond.code ({ cls := "java/lang/String", name := "checkIndex", desc := "(II)V" } : Jvm.MethodName) prog_32_method_155_code (2 : Nat) (Option.none : Option Jvm.ClassFile.FieldType)) ∈ lw_all := lw_g (lw_at lw_m2 79 rfl) rfl
theorem q466 : (Jvm.Cond.fieldLink "java/lang/String" (1053 : Nat) "jdk/internal/util/Preconditions" "SIOOBE_FORMATTER" "Ljava/util/function/BiFunction;") ∈ lw_all := lw_g (lw_at lw_m2 80 rfl) rfl
theorem q467 : (Jvm.Cond.laysStatic "jdk/internal/util/Preconditions" "SIOOBE_FORMATTER" "Ljava/util/function/BiFunction;") ∈ lw_tbl := lw_at lw_m2 81 rfl
theorem q468 : (Jvm.Cond.methodLink "java/lang/String" (1059 : Nat) ({ cls := "jdk/internal/util/Preconditions", name := "checkIndex", desc := "(IILjava/util/function/BiFunction;)I" } : Jvm.MethodName)) ∈ lw_all := lw_g (lw_at lw_m2 82 rfl) rfl
theorem q469 : (Jvm.Cond.static ({ cls := "jdk/internal/util/Preconditions", name := "checkIndex", desc := "(IILjava/util/function/BiFunction;)I" } : Jvm.MethodName)) ∈ lw_all := lw_g (lw_at lw_m2 83 rfl) rfl
theorem q470 : (Jvm.Cond.code ({ cls := "jdk/internal/util/Preconditions", name := "checkIndex", desc := "(IILjava/util/function/BiFunction;)I" } : Jvm.MethodName) prog_49_method_11_code (3 : Nat) (Option.some Jvm.ClassFile.FieldType.int)) ∈ lw_all := lw_g (lw_at lw_m2 84 rfl) rfl
theorem q471 : (Jvm.Cond.methodLink "java/lang/String" (498 : Nat) ({ cls := "java/lang/StringUTF16", name := "charAt", desc := "([BI)C" } : Jvm.MethodName)) ∈ lw_all := lw_g (lw_at lw_m2 85 rfl) rfl
theorem q472 : (Jvm.Cond.static ({ cls := "java/lang/StringUTF16", name := "charAt", desc := "([BI)C" } : Jvm.MethodName)) ∈ lw_all := lw_g (lw_at lw_m2 86 rfl) rfl
theorem q473 : (Jvm.Cond.code ({ cls := "java/lang/StringUTF16", name := "charAt", desc := "([BI)C" } : Jvm.MethodName) prog_34_method_83_code (2 : Nat) (Option.some Jvm.ClassFile.FieldType.char)) ∈ lw_all := lw_g (lw_at lw_m2 87 rfl) rfl
theorem q474 : (Jvm.Cond.methodLink "java/lang/StringUTF16" (67 : Nat) ({ cls := "java/lang/StringUTF16", name := "checkIndex", desc := "(I[B)V" } : Jvm.MethodName)) ∈ lw_all := lw_g (lw_at lw_m2 88 rfl) rfl
theorem q475 : (Jvm.Cond.static ({ cls := "java/lang/StringUTF16", name := "checkIndex", desc := "(I[B)V" } : Jvm.MethodName)) ∈ lw_all := lw_g (lw_at lw_m2 89 rfl) rfl
theorem q476 : (Jvm.Cond.code ({ cls := "java/lang/StringUTF16", name := "checkIndex", desc := "(I[B)V" } : Jvm.MethodName) prog_34_method_91_code (2 : Nat) (Option.none : Option Jvm.ClassFile.FieldType)) ∈ lw_all := lw_g (lw_at lw_m2 90 rfl) rfl
theorem q477 : (Jvm.Cond.methodLink "java/lang/StringUTF16" (48 : Nat) ({ cls := "java/lang/StringUTF16", name := "length", desc := "([B)I" } : Jvm.MethodName)) ∈ lw_all := lw_g (lw_at lw_m2 91 rfl) rfl
theorem q478 : (Jvm.Cond.static ({ cls := "java/lang/StringUTF16", name := "length", desc := "([B)I" } : Jvm.MethodName)) ∈ lw_all := lw_g (lw_at lw_m2 92 rfl) rfl
theorem q479 : (Jvm.Cond.code ({ cls := "java/lang/StringUTF16", name := "length", desc := "([B)I" } : Jvm.MethodName) prog_34_method_6_code (1 : Nat) (Option.some Jvm.ClassFile.FieldType.int)) ∈ lw_all := lw_g (lw_at lw_m2 93 rfl) rfl
theorem q480 : (Jvm.Cond.methodLink "java/lang/StringUTF16" (414 : Nat) ({ cls := "java/lang/String", name := "checkIndex", desc := "(II)V" } : Jvm.MethodName)) ∈ lw_all := lw_g (lw_at lw_m2 94 rfl) rfl
theorem q481 : (Jvm.Cond.methodLink "java/lang/StringUTF16" (71 : Nat) ({ cls := "java/lang/StringUTF16", name := "getChar", desc := "([BI)C" } : Jvm.MethodName)) ∈ lw_all := lw_g (lw_at lw_m2 95 rfl) rfl
theorem q482 : (Jvm.Cond.static ({ cls := "java/lang/StringUTF16", name := "getChar", desc := "([BI)C" } : Jvm.MethodName)) ∈ lw_all := lw_g (lw_at lw_m2 96 rfl) rfl
theorem q483 : (Jvm.Cond.code ({ cls := "java/lang/StringUTF16", name := "getChar", desc := "([BI)C" } : Jvm.MethodName) prog_34_method_5_code (2 : Nat) (Option.some Jvm.ClassFile.FieldType.char)) ∈ lw_all := lw_g (lw_at lw_m2 97 rfl) rfl
theorem q484 : (Jvm.Cond.fieldLink "java/lang/StringUTF16" (44 : Nat) "java/lang/StringUTF16" "$assertionsDisabled" "Z") ∈ lw_all := lw_g (lw_at lw_m2 98 rfl) rfl
theorem q485 : (Jvm.Cond.laysStatic "java/lang/StringUTF16" "$assertionsDisabled" "Z") ∈ lw_tbl := lw_at lw_m2 99 rfl
theorem q486 : (Jvm.Cond.fieldLink "java/lang/StringUTF16" (59 : Nat) "java/lang/StringUTF16" "HI_BYTE_SHIFT" "I") ∈ lw_all := lw_g (lw_at lw_m2 100 rfl) rfl
theorem q487 : (Jvm.Cond.laysStatic "java/lang/StringUTF16" "HI_BYTE_SHIFT" "I") ∈ lw_tbl := lw_at lw_m2 101 rfl
theorem q488 : (Jvm.Cond.fieldLink "java/lang/StringUTF16" (63 : Nat) "java/lang/StringUTF16" "LO_BYTE_SHIFT" "I") ∈ lw_all := lw_g (lw_at lw_m2 102 rfl) rfl
theorem q489 : (Jvm.Cond.laysStatic "java/lang/StringUTF16" "LO_BYTE_SHIFT" "I") ∈ lw_tbl := lw_at lw_m2 103 rfl
theorem q490 : (Jvm.Cond.methodLink "DawnPerquisite$Tokens" (40 : Nat) ({ cls := "DawnPerquisite$Tokens", name := "isDigit", desc := "(I)Z" } : Jvm.MethodName)) ∈ lw_all := lw_g (lw_at lw_m2 104 rfl) rfl
theorem q491 : (Jvm.Cond.static ({ cls := "DawnPerquisite$Tokens", name := "isDigit", desc := "(I)Z" } : Jvm.MethodName)) ∈ lw_all := lw_g (lw_at lw_m2 105 rfl) rfl
theorem q492 : (Jvm.Cond.code ({ cls := "DawnPerquisite$Tokens", name := "isDigit", desc := "(I)Z" } : Jvm.MethodName) prog_16_method_3_code (1 : Nat) (Option.some Jvm.ClassFile.FieldType.boolean)) ∈ lw_all := lw_g (lw_at lw_m2 106 rfl) rfl
theorem q493 : (Jvm.Cond.constant "DawnPerquisite$Tokens" (46 : Nat) (99999 : Int32)) ∈ lw_all := lw_g (lw_at lw_m2 107 rfl) rfl
theorem q494 : (Jvm.Cond.methodLink "DawnPerquisite$Tokens" (47 : Nat) ({ cls := "java/lang/Math", name := "min", desc := "(II)I" } : Jvm.MethodName)) ∈ lw_all := lw_g (lw_at lw_m2 108 rfl) rfl
theorem q495 : (Jvm.Cond.static ({ cls := "java/lang/Math", name := "min", desc := "(II)I" } : Jvm.MethodName)) ∈ lw_all := lw_g (lw_at lw_m2 109 rfl) rfl
theorem q496 : (Jvm.Cond.code ({ cls := "java/lang/Math", name := "min", desc := "(II)I" } : Jvm.MethodName) prog_29_method_69_code (2 : Nat) (Option.some Jvm.ClassFile.FieldType.int)) ∈ lw_all := lw_g (lw_at lw_m2 110 rfl) rfl
theorem q497 : (Jvm.Cond.stringRef "DawnPerquisite$Tokens" (53 : Nat) "<>=#+-*/();") ∈ lw_tbl := lw_at lw_m2 111 rfl
theorem q498 : (Jvm.Cond.methodLink "DawnPerquisite$Tokens" (70 : Nat) ({ cls := "DawnPerquisite$Tokens", name := "wrong", desc := "(I)LDawnPerquisite$Wrong;" } : Jvm.MethodName)) ∈ lw_all := lw_g (lw_at lw_m2 112 rfl) rfl
theorem q499 : (Jvm.Cond.privateMethod ({ cls := "DawnPerquisite$Tokens", name := "wrong", desc := "(I)LDawnPerquisite$Wrong;" } : Jvm.MethodName)) ∈ lw_tbl := lw_at lw_m2 113 rfl
theorem q500 : (Jvm.Cond.instanceMethod ({ cls := "DawnPerquisite$Tokens", name := "wrong", desc := "(I)LDawnPerquisite$Wrong;" } : Jvm.MethodName)) ∈ lw_all := lw_g (lw_at lw_m2 114 rfl) rfl
theorem q501 : (Jvm.Cond.code ({ cls := "DawnPerquisite$Tokens", name := "wrong", desc := "(I)LDawnPerquisite$Wrong;" } : Jvm.MethodName) prog_16_method_6_code (2 : Nat) (Option.some (Jvm.ClassFile.FieldType.object "DawnPerquisite$Wrong"))) ∈ lw_all := lw_g (lw_at lw_m2 115 rfl) rfl
theorem q502 : (Jvm.Cond.classLink "DawnPerquisite$Tokens" (65 : Nat) "DawnPerquisite$Wrong") ∈ lw_all := lw_g (lw_at lw_m2 116 rfl) rfl
theorem q503 : (Jvm.Cond.instantiable "DawnPerquisite$Wrong" (8 : Nat)) ∈ lw_all := lw_g (lw_at lw_m2 117 rfl) rfl
theorem q504 : (Jvm.Cond.castable "DawnPerquisite$Wrong" "DawnPerquisite$Wrong") ∈ lw_tbl := lw_at lw_m2 118 rfl
theorem q505 : (Jvm.Cond.declares ({ cls := "java/lang/Exception", name := "<init>", desc := "()V" } : Jvm.MethodName)) ∈ lw_tbl := lw_at lw_m2 119 rfl
theorem q506 : (Jvm.Cond.declares ({ cls := "java/lang/Exception", name := "<init>", desc := "(Ljava/lang/String;)V" } : Jvm.MethodName)) ∈ lw_tbl := lw_at lw_m2 120 rfl
theorem q507 : (Jvm.Cond.declares ({ cls := "java/lang/Throwable", name := "<init>", desc := "()V" } : Jvm.MethodName)) ∈ lw_tbl := lw_at lw_m2 121 rfl
theorem q508 : (Jvm.Cond.declares ({ cls := "java/lang/Throwable", name := "<init>", desc := "(Ljava/lang/String;)V" } : Jvm.MethodName)) ∈ lw_tbl := lw_at lw_m2 122 rfl
theorem q509 : (Jvm.Cond.selects "DawnPerquisite$Wrong" ({ cls := "java/lang/Throwable", name := "fillInStackTrace", desc := "(I)Ljava/lang/Throwable;" } : Jvm.MethodName) ({ cls := "java/lang/Throwable", name := "fillInStackTrace", desc := "(I)Ljava/lang/Throwable;" } : Jvm.MethodName)) ∈ lw_all := lw_g (lw_at lw_m2 123 rfl) rfl
theorem q510 : (Jvm.Cond.selects "DawnPerquisite$Wrong" ({ cls := "java/lang/Throwable", name := "fillInStackTrace", desc := "()Ljava/lang/Throwable;" } : Jvm.MethodName) ({ cls := "java/lang/Throwable", name := "fillInStackTrace", desc := "()Ljava/lang/Throwable;" } : Jvm.MethodName)) ∈ lw_all := lw_g (lw_at lw_m2 124 rfl) rfl
theorem q511 : (Jvm.Cond.lays "DawnPerquisite$Wrong" "java/lang/Throwable" "cause" "Ljava/lang/Throwable;") ∈ lw_all := lw_g (lw_at lw_m2 125 rfl) rfl
theorem q512 : (Jvm.Cond.lays "java/lang/Throwable" "java/lang/Throwable" "cause" "Ljava/lang/Throwable;") ∈ lw_all := lw_g (lw_at lw_m2 126 rfl) rfl
theorem q513 : (Jvm.Cond.lays "DawnPerquisite$Wrong" "java/lang/Throwable" "stackTrace" "[Ljava/lang/StackTraceElement;") ∈ lw_all := lw_g (lw_at lw_m2 127 rfl) rfl
theorem q514 : (Jvm.Cond.lays "java/lang/Throwable" "java/lang/Throwable" "stackTrace" "[Ljava/lang/StackTraceElement;") ∈ lw_all := lw_g (lw_at lw_m2 128 rfl) rfl
theorem q515 : (Jvm.Cond.lays "DawnPerquisite$Wrong" "java/lang/Throwable" "suppressedExceptions" "Ljava/util/List;") ∈ lw_all := lw_g (lw_at lw_m2 129 rfl) rfl
theorem q516 : (Jvm.Cond.lays "java/lang/Throwable" "java/lang/Throwable" "suppressedExceptions" "Ljava/util/List;") ∈ lw_all := lw_g (lw_at lw_m2 130 rfl) rfl
theorem q517 : (Jvm.Cond.lays "DawnPerquisite$Wrong" "java/lang/Throwable" "detailMessage" "Ljava/lang/String;") ∈ lw_all := lw_g (lw_at lw_m2 131 rfl) rfl
theorem q518 : (Jvm.Cond.lays "java/lang/Throwable" "java/lang/Throwable" "detailMessage" "Ljava/lang/String;") ∈ lw_all := lw_g (lw_at lw_m2 132 rfl) rfl
theorem q519 : (Jvm.Cond.lays "DawnPerquisite$Wrong" "java/lang/Throwable" "backtrace" "Ljava/lang/Object;") ∈ lw_all := lw_g (lw_at lw_m2 133 rfl) rfl
theorem q520 : (Jvm.Cond.lays "java/lang/Throwable" "java/lang/Throwable" "backtrace" "Ljava/lang/Object;") ∈ lw_all := lw_g (lw_at lw_m2 134 rfl) rfl
theorem q521 : (Jvm.Cond.fieldLink "java/lang/Throwable" (198 : Nat) "java/lang/Throwable" "backtrace" "Ljava/lang/Object;") ∈ lw_all := lw_g (lw_at lw_m2 135 rfl) rfl
theorem q522 : (Jvm.Cond.superclass "java/lang/Throwable" "java/lang/Object") ∈ lw_all := lw_g (lw_at lw_m2 136 rfl) rfl
theorem q523 : (Jvm.Cond.instanceMethod ({ cls := "java/lang/Throwable", name := "<init>", desc := "()V" } : Jvm.MethodName)) ∈ lw_all := lw_g (lw_at lw_m2 137 rfl) rfl
theorem q524 : (Jvm.Cond.code ({ cls := "java/lang/Throwable", name := "<init>", desc := "()V" } : Jvm.MethodName) prog_36_method_1_code (1 : Nat) (Option.none : Option Jvm.ClassFile.FieldType)) ∈ lw_all := lw_g (lw_at lw_m2 138 rfl) rfl
theorem q525 : (Jvm.Cond.methodLink "java/lang/Throwable" (1 : Nat) ({ cls := "java/lang/Object", name := "<init>", desc := "()V" } : Jvm.MethodName)) ∈ lw_all := lw_g (lw_at lw_m2 139 rfl) rfl
theorem q526 : (Jvm.Cond.fieldLink "java/lang/Throwable" (13 : Nat) "java/lang/Throwable" "UNASSIGNED_STACK" "[Ljava/lang/StackTraceElement;") ∈ lw_all := lw_g (lw_at lw_m2 140 rfl) rfl
theorem q527 : (Jvm.Cond.laysStatic "java/lang/Throwable" "UNASSIGNED_STACK" "[Ljava/lang/StackTraceElement;") ∈ lw_tbl := lw_at lw_m2 141 rfl
theorem q528 : (Jvm.Cond.fieldLink "java/lang/Throwable" (20 : Nat) "java/lang/Throwable" "SUPPRESSED_SENTINEL" "Ljava/util/List;") ∈ lw_all := lw_g (lw_at lw_m2 142 rfl) rfl
theorem q529 : (Jvm.Cond.laysStatic "java/lang/Throwable" "SUPPRESSED_SENTINEL" "Ljava/util/List;") ∈ lw_tbl := lw_at lw_m2 143 rfl
theorem q530 : (Jvm.Cond.methodLink "java/lang/Throwable" (27 : Nat) ({ cls := "java/lang/Throwable", name := "fillInStackTrace", desc := "()Ljava/lang/Throwable;" } : Jvm.MethodName)) ∈ lw_all := lw_g (lw_at lw_m2 144 rfl) rfl
theorem q531 : (Jvm.Cond.instanceMethod ({ cls := "java/lang/Throwable", name := "fillInStackTrace", desc := "()Ljava/lang/Throwable;" } : Jvm.MethodName)) ∈ lw_all := lw_g (lw_at lw_m2 145 rfl) rfl
theorem q532 : (Jvm.Cond.sameMethod "java/lang/Throwable" "java/lang/Throwable" "fillInStackTrace" "()Ljava/lang/Throwable;") ∈ lw_all := lw_g (lw_at lw_m2 146 rfl) rfl
theorem q533 : (Jvm.Cond.codeSync ({ cls := "java/lang/Throwable", name := "fillInStackTrace", desc := "()Ljava/lang/Throwable;" } : Jvm.MethodName) prog_36_method_18_code (1 : Nat) (Option.some (Jvm.ClassFile.FieldType.object "java/lang/Throwable"))) ∈ lw_all := lw_g (lw_at lw_m2 147 rfl) rfl
theorem q534 : (Jvm.Cond.methodLink "java/lang/Throwable" (202 : Nat) ({ cls := "java/lang/Throwable", name := "fillInStackTrace", desc := "(I)Ljava/lang/Throwable;" } : Jvm.MethodName)) ∈ lw_all := lw_g (lw_at lw_m2 148 rfl) rfl
theorem q535 : (Jvm.Cond.privateMethod ({ cls := "java/lang/Throwable", name := "fillInStackTrace", desc := "(I)Ljava/lang/Throwable;" } : Jvm.MethodName)) ∈ lw_tbl := lw_at lw_m2 149 rfl
theorem q536 : (Jvm.Cond.instanceMethod ({ cls := "java/lang/Throwable", name := "fillInStackTrace", desc := "(I)Ljava/lang/Throwable;" } : Jvm.MethodName)) ∈ lw_all := lw_g (lw_at lw_m2 150 rfl) rfl
theorem q537 : (Jvm.Cond.instantiable "java/lang/Throwable" (6 : Nat)) ∈ lw_all := lw_g (lw_at lw_m2 151 rfl) rfl
theorem q538 : (Jvm.Cond.native ({ cls := "java/lang/Throwable", name := "fillInStackTrace", desc := "(I)Ljava/lang/Throwable;" } : Jvm.MethodName)) ∈ lw_all := lw_g (lw_at lw_m2 152 rfl) rfl
theorem q539 : (Jvm.Cond.methodLink "DawnPerquisite$Tokens" (67 : Nat) ({ cls := "DawnPerquisite$Wrong", name := "<init>", desc := "(II)V" } : Jvm.MethodName)) ∈ lw_all := lw_g (lw_at lw_m2 153 rfl) rfl
theorem q540 : (Jvm.Cond.instanceMethod ({ cls := "DawnPerquisite$Wrong", name := "<init>", desc := "(II)V" } : Jvm.MethodName)) ∈ lw_all := lw_g (lw_at lw_m2 154 rfl) rfl
theorem q541 : (Jvm.Cond.code ({ cls := "DawnPerquisite$Wrong", name := "<init>", desc := "(II)V" } : Jvm.MethodName) prog_18_method_1_code (3 : Nat) (Option.none : Option Jvm.ClassFile.FieldType)) ∈ lw_all := lw_g (lw_at lw_m2 155 rfl) rfl
theorem q542 : (Jvm.Cond.methodLink "DawnPerquisite$Wrong" (1 : Nat) ({ cls := "java/lang/Exception", name := "<init>", desc := "()V" } : Jvm.MethodName)) ∈ lw_all := lw_g (lw_at lw_m2 156 rfl) rfl
theorem q543 : (Jvm.Cond.instanceMethod ({ cls := "java/lang/Exception", name := "<init>", desc := "()V" } : Jvm.MethodName)) ∈ lw_all := lw_g (lw_at lw_m2 157 rfl) rfl
theorem q544 : (Jvm.Cond.code ({ cls := "java/lang/Exception", name := "<init>", desc := "()V" } : Jvm.MethodName) prog_25_method_1_code (1 : Nat) (Option.none : Option Jvm.ClassFile.FieldType)) ∈ lw_all := lw_g (lw_at lw_m2 158 rfl) rfl
theorem q545 : (Jvm.Cond.methodLink "java/lang/Exception" (1 : Nat) ({ cls := "java/lang/Throwable", name := "<init>", desc := "()V" } : Jvm.MethodName)) ∈ lw_all := lw_g (lw_at lw_m2 159 rfl) rfl
theorem q546 : (Jvm.Cond.fieldLink "DawnPerquisite$Wrong" (7 : Nat) "DawnPerquisite$Wrong" "fault" "I") ∈ lw_all := lw_g (lw_at lw_m2 160 rfl) rfl
theorem q547 : (Jvm.Cond.fieldLinkNest "DawnPerquisite" (120 : Nat) "DawnPerquisite$Wrong" "fault" "I" "DawnPerquisite") ∈ lw_tbl := lw_at lw_m2 161 rfl
theorem q548 : (Jvm.Cond.fieldLink "DawnPerquisite$Wrong" (13 : Nat) "DawnPerquisite$Wrong" "place" "I") ∈ lw_all := lw_g (lw_at lw_m2 162 rfl) rfl
theorem q549 : (Jvm.Cond.fieldLinkNest "DawnPerquisite" (121 : Nat) "DawnPerquisite$Wrong" "place" "I" "DawnPerquisite") ∈ lw_tbl := lw_at lw_m2 163 rfl
theorem q550 : (Jvm.Cond.fieldLink "java/lang/Throwable" (198 : Nat) "java/lang/Throwable" "backtrace" "Ljava/lang/Object;") ∈ lw_all := lw_g (lw_at lw_m2 164 rfl) rfl
theorem q551 : (Jvm.Cond.fieldLink "java/lang/Throwable" (7 : Nat) "java/lang/Throwable" "cause" "Ljava/lang/Throwable;") ∈ lw_all := lw_g (lw_at lw_m2 165 rfl) rfl
theorem q552 : (Jvm.Cond.fieldLink "java/lang/Throwable" (17 : Nat) "java/lang/Throwable" "stackTrace" "[Ljava/lang/StackTraceElement;") ∈ lw_all := lw_g (lw_at lw_m2 166 rfl) rfl
theorem q553 : (Jvm.Cond.fieldLink "java/lang/Throwable" (24 : Nat) "java/lang/Throwable" "suppressedExceptions" "Ljava/util/List;") ∈ lw_all := lw_g (lw_at lw_m2 167 rfl) rfl
theorem q554 : (Jvm.Cond.laysFinal "DawnPerquisite$Wrong" "DawnPerquisite$Wrong" "fault" "I") ∈ lw_all := lw_g (lw_at lw_m2 168 rfl) rfl
theorem q555 : (Jvm.Cond.soleField "DawnPerquisite$Wrong" "fault") ∈ lw_all := lw_g (lw_at lw_m2 169 rfl) rfl
theorem q556 : (Jvm.Cond.laysFinal "DawnPerquisite$Wrong" "DawnPerquisite$Wrong" "place" "I") ∈ lw_all := lw_g (lw_at lw_m2 170 rfl) rfl
theorem q557 : (Jvm.Cond.soleField "DawnPerquisite$Wrong" "place") ∈ lw_all := lw_g (lw_at lw_m2 171 rfl) rfl
theorem q558 : (Jvm.Cond.soleField "java/lang/Throwable" "backtrace") ∈ lw_all := lw_g (lw_at lw_m2 172 rfl) rfl
theorem q559 : (Jvm.Cond.soleField "java/lang/Throwable" "detailMessage") ∈ lw_all := lw_g (lw_at lw_m2 173 rfl) rfl
theorem q560 : (Jvm.Cond.soleField "java/lang/Throwable" "cause") ∈ lw_all := lw_g (lw_at lw_m2 174 rfl) rfl
theorem q561 : (Jvm.Cond.soleField "java/lang/Throwable" "stackTrace") ∈ lw_all := lw_g (lw_at lw_m2 175 rfl) rfl
theorem q562 : (Jvm.Cond.lays "DawnPerquisite$Wrong" "java/lang/Throwable" "depth" "I") ∈ lw_all := lw_g (lw_at lw_m2 176 rfl) rfl
theorem q563 : (Jvm.Cond.soleField "java/lang/Throwable" "depth") ∈ lw_all := lw_g (lw_at lw_m2 177 rfl) rfl
theorem q564 : (Jvm.Cond.soleField "java/lang/Throwable" "suppressedExceptions") ∈ lw_all := lw_g (lw_at lw_m2 178 rfl) rfl
theorem q565 : (Jvm.Cond.superclass "DawnPerquisite$Wrong" "java/lang/Exception") ∈ lw_all := lw_g (lw_at lw_m2 179 rfl) rfl
theorem q566 : (Jvm.Cond.methodLink "DawnPerquisite$Tokens" (93 : Nat) ({ cls := "DawnPerquisite$Tokens", name := "sum", desc := "()LDawnPerquisite$Sum;" } : Jvm.MethodName)) ∈ lw_all := lw_g (lw_at lw_m2 180 rfl) rfl
theorem q567 : (Jvm.Cond.privateMethod ({ cls := "DawnPerquisite$Tokens", name := "sum", desc := "()LDawnPerquisite$Sum;" } : Jvm.MethodName)) ∈ lw_tbl := lw_at lw_m2 181 rfl
theorem q568 : (Jvm.Cond.instanceMethod ({ cls := "DawnPerquisite$Tokens", name := "sum", desc := "()LDawnPerquisite$Sum;" } : Jvm.MethodName)) ∈ lw_all := lw_g (lw_at lw_m2 182 rfl) rfl
theorem q569 : (Jvm.Cond.code ({ cls := "DawnPerquisite$Tokens", name := "sum", desc := "()LDawnPerquisite$Sum;" } : Jvm.MethodName) prog_16_method_15_code (3 : Nat) (Option.some (Jvm.ClassFile.FieldType.object "DawnPerquisite$Sum"))) ∈ lw_all := lw_g (lw_at lw_m2 183 rfl) rfl
theorem q570 : (Jvm.Cond.classLink "DawnPerquisite$Tokens" (156 : Nat) "DawnPerquisite$Chain") ∈ lw_all := lw_g (lw_at lw_m2 184 rfl) rfl
theorem q571 : (Jvm.Cond.instantiable "DawnPerquisite$Chain" (3 : Nat)) ∈ lw_all := lw_g (lw_at lw_m2 185 rfl) rfl
theorem q572 : (Jvm.Cond.methodLink "DawnPerquisite$Tokens" (158 : Nat) ({ cls := "DawnPerquisite$Tokens", name := "product", desc := "()LDawnPerquisite$Sum;" } : Jvm.MethodName)) ∈ lw_all := lw_g (lw_at lw_m2 186 rfl) rfl
theorem q573 : (Jvm.Cond.privateMethod ({ cls := "DawnPerquisite$Tokens", name := "product", desc := "()LDawnPerquisite$Sum;" } : Jvm.MethodName)) ∈ lw_tbl := lw_at lw_m2 187 rfl
theorem q574 : (Jvm.Cond.instanceMethod ({ cls := "DawnPerquisite$Tokens", name := "product", desc := "()LDawnPerquisite$Sum;" } : Jvm.MethodName)) ∈ lw_all := lw_g (lw_at lw_m2 188 rfl) rfl
theorem q575 : (Jvm.Cond.code ({ cls := "DawnPerquisite$Tokens", name := "product", desc := "()LDawnPerquisite$Sum;" } : Jvm.MethodName) prog_16_method_16_code (3 : Nat) (Option.some (Jvm.ClassFile.FieldType.object "DawnPerquisite$Sum"))) ∈ lw_all := lw_g (lw_at lw_m2 189 rfl) rfl
theorem q576 : (Jvm.Cond.methodLink "DawnPerquisite$Tokens" (170 : Nat) ({ cls := "DawnPerquisite$Tokens", name := "one", desc := "()LDawnPerquisite$Sum;" } : Jvm.MethodName)) ∈ lw_all := lw_g (lw_at lw_m2 190 rfl) rfl
theorem q577 : (Jvm.Cond.privateMethod ({ cls := "DawnPerquisite$Tokens", name := "one", desc := "()LDawnPerquisite$Sum;" } : Jvm.MethodName)) ∈ lw_tbl := lw_at lw_m2 191 rfl
theorem q578 : (Jvm.Cond.instanceMethod ({ cls := "DawnPerquisite$Tokens", name := "one", desc := "()LDawnPerquisite$Sum;" } : Jvm.MethodName)) ∈ lw_all := lw_g (lw_at lw_m2 192 rfl) rfl
theorem q579 : (Jvm.Cond.code ({ cls := "DawnPerquisite$Tokens", name := "one", desc := "()LDawnPerquisite$Sum;" } : Jvm.MethodName) prog_16_method_20_code (5 : Nat) (Option.some (Jvm.ClassFile.FieldType.object "DawnPerquisite$Sum"))) ∈ lw_all := lw_g (lw_at lw_m2 193 rfl) rfl
theorem q580 : (Jvm.Cond.classLink "DawnPerquisite$Tokens" (185 : Nat) "DawnPerquisite$Plain") ∈ lw_all := lw_g (lw_at lw_m2 194 rfl) rfl
theorem q581 : (Jvm.Cond.instantiable "DawnPerquisite$Plain" (1 : Nat)) ∈ lw_all := lw_g (lw_at lw_m2 195 rfl) rfl
theorem q582 : (Jvm.Cond.methodLink "DawnPerquisite$Tokens" (115 : Nat) ({ cls := "DawnPerquisite$Tokens", name := "number", desc := "(II)I" } : Jvm.MethodName)) ∈ lw_all := lw_g (lw_at lw_m2 196 rfl) rfl
theorem q583 : (Jvm.Cond.privateMethod ({ cls := "DawnPerquisite$Tokens", name := "number", desc := "(II)I" } : Jvm.MethodName)) ∈ lw_tbl := lw_at lw_m2 197 rfl
theorem q584 : (Jvm.Cond.instanceMethod ({ cls := "DawnPerquisite$Tokens", name := "number", desc := "(II)I" } : Jvm.MethodName)) ∈ lw_all := lw_g (lw_at lw_m2 198 rfl) rfl
theorem q585 : (Jvm.Cond.code ({ cls := "DawnPerquisite$Tokens", name := "number", desc := "(II)I" } : Jvm.MethodName) prog_16_method_8_code (4 : Nat) (Option.some Jvm.ClassFile.FieldType.int)) ∈ lw_all := lw_g (lw_at lw_m2 199 rfl) rfl
theorem q586 : (Jvm.Cond.methodLinkNest "DawnPerquisite$Tokens" (187 : Nat) ({ cls := "DawnPerquisite$Plain", name := "<init>", desc := "(I)V" } : Jvm.MethodName) "DawnPerquisite") ∈ lw_tbl := lw_at lw_m2 200 rfl
theorem q587 : (Jvm.Cond.instanceMethod ({ cls := "DawnPerquisite$Plain", name := "<init>", desc := "(I)V" } : Jvm.MethodName)) ∈ lw_all := lw_g (lw_at lw_m2 201 rfl) rfl
theorem q588 : (Jvm.Cond.code ({ cls := "DawnPerquisite$Plain", name := "<init>", desc := "(I)V" } : Jvm.MethodName) prog_11_method_1_code (2 : Nat) (Option.none : Option Jvm.ClassFile.FieldType)) ∈ lw_all := lw_g (lw_at lw_m2 202 rfl) rfl
theorem q589 : (Jvm.Cond.methodLink "DawnPerquisite$Plain" (1 : Nat) ({ cls := "java/lang/Record", name := "<init>", desc := "()V" } : Jvm.MethodName)) ∈ lw_all := lw_g (lw_at lw_m2 203 rfl) rfl
theorem q590 : (Jvm.Cond.instanceMethod ({ cls := "java/lang/Record", name := "<init>", desc := "()V" } : Jvm.MethodName)) ∈ lw_all := lw_g (lw_at lw_m2 204 rfl) rfl
theorem q591 : (Jvm.Cond.code ({ cls := "java/lang/Record", name := "<init>", desc := "()V" } : Jvm.MethodName) prog_31_method_1_code (1 : Nat) (Option.none : Option Jvm.ClassFile.FieldType)) ∈ lw_all := lw_g (lw_at lw_m2 205 rfl) rfl
theorem q592 : (Jvm.Cond.methodLink "java/lang/Record" (1 : Nat) ({ cls := "java/lang/Object", name := "<init>", desc := "()V" } : Jvm.MethodName)) ∈ lw_all := lw_g (lw_at lw_m2 206 rfl) rfl
theorem q593 : (Jvm.Cond.fieldLink "DawnPerquisite$Plain" (7 : Nat) "DawnPerquisite$Plain" "n" "I") ∈ lw_all := lw_g (lw_at lw_m2 207 rfl) rfl
theorem q594 : (Jvm.Cond.laysFinal "DawnPerquisite$Plain" "DawnPerquisite$Plain" "n" "I") ∈ lw_all := lw_g (lw_at lw_m2 208 rfl) rfl
theorem q595 : (Jvm.Cond.soleField "DawnPerquisite$Plain" "n") ∈ lw_all := lw_g (lw_at lw_m2 209 rfl) rfl
theorem q596 : (Jvm.Cond.superclass "DawnPerquisite$Plain" "java/lang/Record") ∈ lw_all := lw_g (lw_at lw_m2 210 rfl) rfl
theorem q597 : (Jvm.Cond.methodLink "DawnPerquisite$Tokens" (189 : Nat) ({ cls := "DawnPerquisite$Tokens", name := "choice", desc := "()LDawnPerquisite$Sum;" } : Jvm.MethodName)) ∈ lw_all := lw_g (lw_at lw_m2 211 rfl) rfl
theorem q598 : (Jvm.Cond.privateMethod ({ cls := "DawnPerquisite$Tokens", name := "choice", desc := "()LDawnPerquisite$Sum;" } : Jvm.MethodName)) ∈ lw_tbl := lw_at lw_m2 212 rfl
theorem q599 : (Jvm.Cond.instanceMethod ({ cls := "DawnPerquisite$Tokens", name := "choice", desc := "()LDawnPerquisite$Sum;" } : Jvm.MethodName)) ∈ lw_all := lw_g (lw_at lw_m2 213 rfl) rfl
theorem q600 : (Jvm.Cond.code ({ cls := "DawnPerquisite$Tokens", name := "choice", desc := "()LDawnPerquisite$Sum;" } : Jvm.MethodName) prog_16_method_19_code (4 : Nat) (Option.some (Jvm.ClassFile.FieldType.object "DawnPerquisite$Sum"))) ∈ lw_all := lw_g (lw_at lw_m2 214 rfl) rfl
theorem q601 : (Jvm.Cond.methodLink "DawnPerquisite$Tokens" (143 : Nat) ({ cls := "DawnPerquisite$Tokens", name := "opens", desc := "()V" } : Jvm.MethodName)) ∈ lw_all := lw_g (lw_at lw_m2 215 rfl) rfl
theorem q602 : (Jvm.Cond.privateMethod ({ cls := "DawnPerquisite$Tokens", name := "opens", desc := "()V" } : Jvm.MethodName)) ∈ lw_tbl := lw_at lw_m2 216 rfl
theorem q603 : (Jvm.Cond.instanceMethod ({ cls := "DawnPerquisite$Tokens", name := "opens", desc := "()V" } : Jvm.MethodName)) ∈ lw_all := lw_g (lw_at lw_m2 217 rfl) rfl
theorem q604 : (Jvm.Cond.code ({ cls := "DawnPerquisite$Tokens", name := "opens", desc := "()V" } : Jvm.MethodName) prog_16_method_9_code (1 : Nat) (Option.none : Option Jvm.ClassFile.FieldType)) ∈ lw_all := lw_g (lw_at lw_m2 218 rfl) rfl
theorem q605 : (Jvm.Cond.methodLink "DawnPerquisite$Tokens" (177 : Nat) ({ cls := "DawnPerquisite$Tokens", name := "either", desc := "()LDawnPerquisite$Asked;" } : Jvm.MethodName)) ∈ lw_all := lw_g (lw_at lw_m2 219 rfl) rfl
theorem q606 : (Jvm.Cond.privateMethod ({ cls := "DawnPerquisite$Tokens", name := "either", desc := "()LDawnPerquisite$Asked;" } : Jvm.MethodName)) ∈ lw_tbl := lw_at lw_m2 220 rfl
theorem q607 : (Jvm.Cond.instanceMethod ({ cls := "DawnPerquisite$Tokens", name := "either", desc := "()LDawnPerquisite$Asked;" } : Jvm.MethodName)) ∈ lw_all := lw_g (lw_at lw_m2 221 rfl) rfl
theorem q608 : (Jvm.Cond.code ({ cls := "DawnPerquisite$Tokens", name := "either", desc := "()LDawnPerquisite$Asked;" } : Jvm.MethodName) prog_16_method_12_code (2 : Nat) (Option.some (Jvm.ClassFile.FieldType.object "DawnPerquisite$Asked"))) ∈ lw_all := lw_g (lw_at lw_m2 222 rfl) rfl
theorem q609 : (Jvm.Cond.classLink "DawnPerquisite$Tokens" (106 : Nat) "java/util/ArrayList") ∈ lw_all := lw_g (lw_at lw_m2 223 rfl) rfl
theorem q610 : (Jvm.Cond.methodLink "DawnPerquisite$Tokens" (122 : Nat) ({ cls := "java/util/ArrayList", name := "<init>", desc := "()V" } : Jvm.MethodName)) ∈ lw_all := lw_g (lw_at lw_m2 224 rfl) rfl
theorem q611 : (Jvm.Cond.methodLink "DawnPerquisite$Tokens" (123 : Nat) ({ cls := "DawnPerquisite$Tokens", name := "both", desc := "()LDawnPerquisite$Asked;" } : Jvm.MethodName)) ∈ lw_all := lw_g (lw_at lw_m2 225 rfl) rfl
theorem q612 : (Jvm.Cond.privateMethod ({ cls := "DawnPerquisite$Tokens", name := "both", desc := "()LDawnPerquisite$Asked;" } : Jvm.MethodName)) ∈ lw_tbl := lw_at lw_m2 226 rfl
theorem q613 : (Jvm.Cond.instanceMethod ({ cls := "DawnPerquisite$Tokens", name := "both", desc := "()LDawnPerquisite$Asked;" } : Jvm.MethodName)) ∈ lw_all := lw_g (lw_at lw_m2 227 rfl) rfl
theorem q614 : (Jvm.Cond.code ({ cls := "DawnPerquisite$Tokens", name := "both", desc := "()LDawnPerquisite$Asked;" } : Jvm.MethodName) prog_16_method_13_code (2 : Nat) (Option.some (Jvm.ClassFile.FieldType.object "DawnPerquisite$Asked"))) ∈ lw_all := lw_g (lw_at lw_m2 228 rfl) rfl
theorem q615 : (Jvm.Cond.methodLink "DawnPerquisite$Tokens" (140 : Nat) ({ cls := "DawnPerquisite$Tokens", name := "ask", desc := "()LDawnPerquisite$Asked;" } : Jvm.MethodName)) ∈ lw_all := lw_g (lw_at lw_m2 229 rfl) rfl
theorem q616 : (Jvm.Cond.privateMethod ({ cls := "DawnPerquisite$Tokens", name := "ask", desc := "()LDawnPerquisite$Asked;" } : Jvm.MethodName)) ∈ lw_tbl := lw_at lw_m2 230 rfl
theorem q617 : (Jvm.Cond.instanceMethod ({ cls := "DawnPerquisite$Tokens", name := "ask", desc := "()LDawnPerquisite$Asked;" } : Jvm.MethodName)) ∈ lw_all := lw_g (lw_at lw_m2 231 rfl) rfl
theorem q618 : (Jvm.Cond.code ({ cls := "DawnPerquisite$Tokens", name := "ask", desc := "()LDawnPerquisite$Asked;" } : Jvm.MethodName) prog_16_method_14_code (3 : Nat) (Option.some (Jvm.ClassFile.FieldType.object "DawnPerquisite$Asked"))) ∈ lw_all := lw_g (lw_at lw_m2 232 rfl) rfl
theorem q619 : (Jvm.Cond.classLink "DawnPerquisite$Tokens" (146 : Nat) "DawnPerquisite$Not") ∈ lw_all := lw_g (lw_at lw_m2 233 rfl) rfl
theorem q620 : (Jvm.Cond.instantiable "DawnPerquisite$Not" (1 : Nat)) ∈ lw_all := lw_g (lw_at lw_m2 234 rfl) rfl
theorem q621 : (Jvm.Cond.methodLinkNest "DawnPerquisite$Tokens" (148 : Nat) ({ cls := "DawnPerquisite$Not", name := "<init>", desc := "(LDawnPerquisite$Asked;)V" } : Jvm.MethodName) "DawnPerquisite") ∈ lw_tbl := lw_at lw_m2 235 rfl
theorem q622 : (Jvm.Cond.instanceMethod ({ cls := "DawnPerquisite$Not", name := "<init>", desc := "(LDawnPerquisite$Asked;)V" } : Jvm.MethodName)) ∈ lw_all := lw_g (lw_at lw_m2 236 rfl) rfl
theorem q623 : (Jvm.Cond.code ({ cls := "DawnPerquisite$Not", name := "<init>", desc := "(LDawnPerquisite$Asked;)V" } : Jvm.MethodName) prog_10_method_1_code (2 : Nat) (Option.none : Option Jvm.ClassFile.FieldType)) ∈ lw_all := lw_g (lw_at lw_m2 237 rfl) rfl
theorem q624 : (Jvm.Cond.methodLink "DawnPerquisite$Not" (1 : Nat) ({ cls := "java/lang/Record", name := "<init>", desc := "()V" } : Jvm.MethodName)) ∈ lw_all := lw_g (lw_at lw_m2 238 rfl) rfl
theorem q625 : (Jvm.Cond.fieldLink "DawnPerquisite$Not" (7 : Nat) "DawnPerquisite$Not" "x" "LDawnPerquisite$Asked;") ∈ lw_all := lw_g (lw_at lw_m2 239 rfl) rfl
theorem q626 : (Jvm.Cond.laysFinal "DawnPerquisite$Not" "DawnPerquisite$Not" "x" "LDawnPerquisite$Asked;") ∈ lw_all := lw_g (lw_at lw_m3 0 rfl) rfl
theorem q627 : (Jvm.Cond.soleField "DawnPerquisite$Not" "x") ∈ lw_all := lw_g (lw_at lw_m3 1 rfl) rfl
theorem q628 : (Jvm.Cond.superclass "DawnPerquisite$Not" "java/lang/Record") ∈ lw_all := lw_g (lw_at lw_m3 2 rfl) rfl
theorem q629 : (Jvm.Cond.classLink "DawnPerquisite$Tokens" (151 : Nat) "DawnPerquisite$Compared") ∈ lw_all := lw_g (lw_at lw_m3 3 rfl) rfl
theorem q630 : (Jvm.Cond.instantiable "DawnPerquisite$Compared" (3 : Nat)) ∈ lw_all := lw_g (lw_at lw_m3 4 rfl) rfl
theorem q631 : (Jvm.Cond.methodLinkNest "DawnPerquisite$Tokens" (153 : Nat) ({ cls := "DawnPerquisite$Compared", name := "<init>", desc := "(ILDawnPerquisite$Sum;LDawnPerquisite$Sum;)V" } : Jvm.MethodName) "DawnPerquisite") ∈ lw_tbl := lw_at lw_m3 5 rfl
theorem q632 : (Jvm.Cond.instanceMethod ({ cls := "DawnPerquisite$Compared", name := "<init>", desc := "(ILDawnPerquisite$Sum;LDawnPerquisite$Sum;)V" } : Jvm.MethodName)) ∈ lw_all := lw_g (lw_at lw_m3 6 rfl) rfl
theorem q633 : (Jvm.Cond.code ({ cls := "DawnPerquisite$Compared", name := "<init>", desc := "(ILDawnPerquisite$Sum;LDawnPerquisite$Sum;)V" } : Jvm.MethodName) prog_5_method_1_code (4 : Nat) (Option.none : Option Jvm.ClassFile.FieldType)) ∈ lw_all := lw_g (lw_at lw_m3 7 rfl) rfl
theorem q634 : (Jvm.Cond.methodLink "DawnPerquisite$Compared" (1 : Nat) ({ cls := "java/lang/Record", name := "<init>", desc := "()V" } : Jvm.MethodName)) ∈ lw_all := lw_g (lw_at lw_m3 8 rfl) rfl
theorem q635 : (Jvm.Cond.fieldLink "DawnPerquisite$Compared" (7 : Nat) "DawnPerquisite$Compared" "sign" "I") ∈ lw_all := lw_g (lw_at lw_m3 9 rfl) rfl
theorem q636 : (Jvm.Cond.fieldLink "DawnPerquisite$Compared" (13 : Nat) "DawnPerquisite$Compared" "a" "LDawnPerquisite$Sum;") ∈ lw_all := lw_g (lw_at lw_m3 10 rfl) rfl
theorem q637 : (Jvm.Cond.fieldLink "DawnPerquisite$Compared" (17 : Nat) "DawnPerquisite$Compared" "b" "LDawnPerquisite$Sum;") ∈ lw_all := lw_g (lw_at lw_m3 11 rfl) rfl
theorem q638 : (Jvm.Cond.laysFinal "DawnPerquisite$Compared" "DawnPerquisite$Compared" "sign" "I") ∈ lw_all := lw_g (lw_at lw_m3 12 rfl) rfl
theorem q639 : (Jvm.Cond.soleField "DawnPerquisite$Compared" "sign") ∈ lw_all := lw_g (lw_at lw_m3 13 rfl) rfl
theorem q640 : (Jvm.Cond.laysFinal "DawnPerquisite$Compared" "DawnPerquisite$Compared" "a" "LDawnPerquisite$Sum;") ∈ lw_all := lw_g (lw_at lw_m3 14 rfl) rfl
theorem q641 : (Jvm.Cond.soleField "DawnPerquisite$Compared" "a") ∈ lw_all := lw_g (lw_at lw_m3 15 rfl) rfl
theorem q642 : (Jvm.Cond.laysFinal "DawnPerquisite$Compared" "DawnPerquisite$Compared" "b" "LDawnPerquisite$Sum;") ∈ lw_all := lw_g (lw_at lw_m3 16 rfl) rfl
theorem q643 : (Jvm.Cond.soleField "DawnPerquisite$Compared" "b") ∈ lw_all := lw_g (lw_at lw_m3 17 rfl) rfl
theorem q644 : (Jvm.Cond.superclass "DawnPerquisite$Compared" "java/lang/Record") ∈ lw_all := lw_g (lw_at lw_m3 18 rfl) rfl
theorem q645 : (Jvm.Cond.methodLink "DawnPerquisite$Tokens" (105 : Nat) ({ cls := "java/util/ArrayList", name := "add", desc := "(Ljava/lang/Object;)Z" } : Jvm.MethodName)) ∈ lw_all := lw_g (lw_at lw_m3 19 rfl) rfl
theorem q646 : (Jvm.Cond.instanceMethod ({ cls := "java/util/ArrayList", name := "add", desc := "(Ljava/lang/Object;)Z" } : Jvm.MethodName)) ∈ lw_all := lw_g (lw_at lw_m3 20 rfl) rfl
theorem q647 : (Jvm.Cond.selects "java/util/ArrayList" ({ cls := "java/util/ArrayList", name := "add", desc := "(Ljava/lang/Object;)Z" } : Jvm.MethodName) ({ cls := "java/util/ArrayList", name := "add", desc := "(Ljava/lang/Object;)Z" } : Jvm.MethodName)) ∈ lw_all := lw_g (lw_at lw_m3 21 rfl) rfl
theorem q648 : (Jvm.Cond.code ({ cls := "java/util/ArrayList", name := "add", desc := "(Ljava/lang/Object;)Z" } : Jvm.MethodName) prog_41_method_25_code (2 : Nat) (Option.some Jvm.ClassFile.FieldType.boolean)) ∈ lw_all := lw_g (lw_at lw_m3 22 rfl) rfl
theorem q649 : (Jvm.Cond.methodLink "java/util/ArrayList" (131 : Nat) ({ cls := "java/util/ArrayList", name := "add", desc := "(Ljava/lang/Object;[Ljava/lang/Object;I)V" } : Jvm.MethodName)) ∈ lw_all := lw_g (lw_at lw_m3 23 rfl) rfl
theorem q650 : (Jvm.Cond.privateMethod ({ cls := "java/util/ArrayList", name := "add", desc := "(Ljava/lang/Object;[Ljava/lang/Object;I)V" } : Jvm.MethodName)) ∈ lw_tbl := lw_at lw_m3 24 rfl
theorem q651 : (Jvm.Cond.instanceMethod ({ cls := "java/util/ArrayList", name := "add", desc := "(Ljava/lang/Object;[Ljava/lang/Object;I)V" } : Jvm.MethodName)) ∈ lw_all := lw_g (lw_at lw_m3 25 rfl) rfl
theorem q652 : (Jvm.Cond.code ({ cls := "java/util/ArrayList", name := "add", desc := "(Ljava/lang/Object;[Ljava/lang/Object;I)V" } : Jvm.MethodName) prog_41_method_24_code (4 : Nat) (Option.none : Option Jvm.ClassFile.FieldType)) ∈ lw_all := lw_g (lw_at lw_m3 26 rfl) rfl
theorem q653 : (Jvm.Cond.methodLink "java/util/ArrayList" (129 : Nat) ({ cls := "java/util/ArrayList", name := "grow", desc := "()[Ljava/lang/Object;" } : Jvm.MethodName)) ∈ lw_all := lw_g (lw_at lw_m3 27 rfl) rfl
theorem q654 : (Jvm.Cond.privateMethod ({ cls := "java/util/ArrayList", name := "grow", desc := "()[Ljava/lang/Object;" } : Jvm.MethodName)) ∈ lw_tbl := lw_at lw_m3 28 rfl
theorem q655 : (Jvm.Cond.instanceMethod ({ cls := "java/util/ArrayList", name := "grow", desc := "()[Ljava/lang/Object;" } : Jvm.MethodName)) ∈ lw_all := lw_g (lw_at lw_m3 29 rfl) rfl
theorem q656 : (Jvm.Cond.code ({ cls := "java/util/ArrayList", name := "grow", desc := "()[Ljava/lang/Object;" } : Jvm.MethodName) prog_41_method_7_code (1 : Nat) (Option.some (Jvm.ClassFile.FieldType.array (Jvm.ClassFile.FieldType.object "java/lang/Object")))) ∈ lw_all := lw_g (lw_at lw_m3 30 rfl) rfl
theorem q657 : (Jvm.Cond.methodLink "java/util/ArrayList" (69 : Nat) ({ cls := "java/util/ArrayList", name := "grow", desc := "(I)[Ljava/lang/Object;" } : Jvm.MethodName)) ∈ lw_all := lw_g (lw_at lw_m3 31 rfl) rfl
theorem q658 : (Jvm.Cond.privateMethod ({ cls := "java/util/ArrayList", name := "grow", desc := "(I)[Ljava/lang/Object;" } : Jvm.MethodName)) ∈ lw_tbl := lw_at lw_m3 32 rfl
theorem q659 : (Jvm.Cond.instanceMethod ({ cls := "java/util/ArrayList", name := "grow", desc := "(I)[Ljava/lang/Object;" } : Jvm.MethodName)) ∈ lw_all := lw_g (lw_at lw_m3 33 rfl) rfl
theorem q660 : (Jvm.Cond.code ({ cls := "java/util/ArrayList", name := "grow", desc := "(I)[Ljava/lang/Object;" } : Jvm.MethodName) prog_41_method_6_code (4 : Nat) (Option.some (Jvm.ClassFile.FieldType.array (Jvm.ClassFile.FieldType.object "java/lang/Object")))) ∈ lw_all := lw_g (lw_at lw_m3 34 rfl) rfl
theorem q661 : (Jvm.Cond.methodLink "java/util/ArrayList" (73 : Nat) ({ cls := "jdk/internal/util/ArraysSupport", name := "newLength", desc := "(III)I" } : Jvm.MethodName)) ∈ lw_all := lw_g (lw_at lw_m3 35 rfl) rfl
theorem q662 : (Jvm.Cond.static ({ cls := "jdk/internal/util/ArraysSupport", name := "newLength", desc := "(III)I" } : Jvm.MethodName)) ∈ lw_all := lw_g (lw_at lw_m3 36 rfl) rfl
theorem q663 : (Jvm.Cond.code ({ cls := "jdk/internal/util/ArraysSupport", name := "newLength", desc := "(III)I" } : Jvm.MethodName) prog_48_method_27_code (4 : Nat) (Option.some Jvm.ClassFile.FieldType.int)) ∈ lw_all := lw_g (lw_at lw_m3 37 rfl) rfl
theorem q664 : (Jvm.Cond.methodLink "jdk/internal/util/ArraysSupport" (194 : Nat) ({ cls := "java/lang/Math", name := "max", desc := "(II)I" } : Jvm.MethodName)) ∈ lw_all := lw_g (lw_at lw_m3 38 rfl) rfl
theorem q665 : (Jvm.Cond.static ({ cls := "java/lang/Math", name := "max", desc := "(II)I" } : Jvm.MethodName)) ∈ lw_all := lw_g (lw_at lw_m3 39 rfl) rfl
theorem q666 : (Jvm.Cond.code ({ cls := "java/lang/Math", name := "max", desc := "(II)I" } : Jvm.MethodName) prog_29_method_65_code (2 : Nat) (Option.some Jvm.ClassFile.FieldType.int)) ∈ lw_all := lw_g (lw_at lw_m3 40 rfl) rfl
theorem q667 : (Jvm.Cond.constant "jdk/internal/util/ArraysSupport" (200 : Nat) (2147483639 : Int32)) ∈ lw_all := lw_g (lw_at lw_m3 41 rfl) rfl
theorem q668 : (Jvm.Cond.methodLink "jdk/internal/util/ArraysSupport" (201 : Nat) ({ cls := "jdk/internal/util/ArraysSupport", name := "hugeLength", desc := "(II)I" } : Jvm.MethodName)) ∈ lw_all := lw_g (lw_at lw_m3 42 rfl) rfl
theorem q669 : (Jvm.Cond.static ({ cls := "jdk/internal/util/ArraysSupport", name := "hugeLength", desc := "(II)I" } : Jvm.MethodName)) ∈ lw_all := lw_g (lw_at lw_m3 43 rfl) rfl
theorem q670 : (Jvm.Cond.code ({ cls := "jdk/internal/util/ArraysSupport", name := "hugeLength", desc := "(II)I" } : Jvm.MethodName) prog_48_method_28_code (3 : Nat) (Option.some Jvm.ClassFile.FieldType.int)) ∈ lw_all := lw_g (lw_at lw_m3 44 rfl) rfl
theorem q671 : (Jvm.Cond.methodLink "java/util/ArrayList" (66 : Nat) ({ cls := "java/util/Arrays", name := "copyOf", desc := "([Ljava/lang/Object;I)[Ljava/lang/Object;" } : Jvm.MethodName)) ∈ lw_all := lw_g (lw_at lw_m3 45 rfl) rfl
theorem q672 : (Jvm.Cond.static ({ cls := "java/util/Arrays", name := "copyOf", desc := "([Ljava/lang/Object;I)[Ljava/lang/Object;" } : Jvm.MethodName)) ∈ lw_all := lw_g (lw_at lw_m3 46 rfl) rfl
theorem q673 : (Jvm.Cond.code ({ cls := "java/util/Arrays", name := "copyOf", desc := "([Ljava/lang/Object;I)[Ljava/lang/Object;" } : Jvm.MethodName) prog_42_method_119_code (2 : Nat) (Option.some (Jvm.ClassFile.FieldType.array (Jvm.ClassFile.FieldType.object "java/lang/Object")))) ∈ lw_all := lw_g (lw_at lw_m3 47 rfl) rfl
theorem q674 : (Jvm.Cond.methodLink "java/util/Arrays" (86 : Nat) ({ cls := "java/lang/Object", name := "getClass", desc := "()Ljava/lang/Class;" } : Jvm.MethodName)) ∈ lw_all := lw_g (lw_at lw_m3 48 rfl) rfl
theorem q675 : (Jvm.Cond.instanceMethod ({ cls := "java/lang/Object", name := "getClass", desc := "()Ljava/lang/Class;" } : Jvm.MethodName)) ∈ lw_all := lw_g (lw_at lw_m3 49 rfl) rfl
theorem q676 : (Jvm.Cond.sameMethod "java/lang/Object" "java/lang/Object" "getClass" "()Ljava/lang/Class;") ∈ lw_all := lw_g (lw_at lw_m3 50 rfl) rfl
theorem q677 : (Jvm.Cond.selects "DawnPerquisite" ({ cls := "java/lang/Object", name := "getClass", desc := "()Ljava/lang/Class;" } : Jvm.MethodName) ({ cls := "java/lang/Object", name := "getClass", desc := "()Ljava/lang/Class;" } : Jvm.MethodName)) ∈ lw_all := lw_g (lw_at lw_m3 51 rfl) rfl
theorem q678 : (Jvm.Cond.selects "DawnPerquisite$All" ({ cls := "java/lang/Object", name := "getClass", desc := "()Ljava/lang/Class;" } : Jvm.MethodName) ({ cls := "java/lang/Object", name := "getClass", desc := "()Ljava/lang/Class;" } : Jvm.MethodName)) ∈ lw_all := lw_g (lw_at lw_m3 52 rfl) rfl
theorem q679 : (Jvm.Cond.selects "DawnPerquisite$Chain" ({ cls := "java/lang/Object", name := "getClass", desc := "()Ljava/lang/Class;" } : Jvm.MethodName) ({ cls := "java/lang/Object", name := "getClass", desc := "()Ljava/lang/Class;" } : Jvm.MethodName)) ∈ lw_all := lw_g (lw_at lw_m3 53 rfl) rfl
theorem q680 : (Jvm.Cond.selects "DawnPerquisite$Compared" ({ cls := "java/lang/Object", name := "getClass", desc := "()Ljava/lang/Class;" } : Jvm.MethodName) ({ cls := "java/lang/Object", name := "getClass", desc := "()Ljava/lang/Class;" } : Jvm.MethodName)) ∈ lw_all := lw_g (lw_at lw_m3 54 rfl) rfl
theorem q681 : (Jvm.Cond.selects "DawnPerquisite$Doing" ({ cls := "java/lang/Object", name := "getClass", desc := "()Ljava/lang/Class;" } : Jvm.MethodName) ({ cls := "java/lang/Object", name := "getClass", desc := "()Ljava/lang/Class;" } : Jvm.MethodName)) ∈ lw_all := lw_g (lw_at lw_m3 55 rfl) rfl
theorem q682 : (Jvm.Cond.selects "DawnPerquisite$If" ({ cls := "java/lang/Object", name := "getClass", desc := "()Ljava/lang/Class;" } : Jvm.MethodName) ({ cls := "java/lang/Object", name := "getClass", desc := "()Ljava/lang/Class;" } : Jvm.MethodName)) ∈ lw_all := lw_g (lw_at lw_m3 56 rfl) rfl
theorem q683 : (Jvm.Cond.selects "DawnPerquisite$Minus" ({ cls := "java/lang/Object", name := "getClass", desc := "()Ljava/lang/Class;" } : Jvm.MethodName) ({ cls := "java/lang/Object", name := "getClass", desc := "()Ljava/lang/Class;" } : Jvm.MethodName)) ∈ lw_all := lw_g (lw_at lw_m3 57 rfl) rfl
theorem q684 : (Jvm.Cond.selects "DawnPerquisite$Name" ({ cls := "java/lang/Object", name := "getClass", desc := "()Ljava/lang/Class;" } : Jvm.MethodName) ({ cls := "java/lang/Object", name := "getClass", desc := "()Ljava/lang/Class;" } : Jvm.MethodName)) ∈ lw_all := lw_g (lw_at lw_m3 58 rfl) rfl
theorem q685 : (Jvm.Cond.selects "DawnPerquisite$Not" ({ cls := "java/lang/Object", name := "getClass", desc := "()Ljava/lang/Class;" } : Jvm.MethodName) ({ cls := "java/lang/Object", name := "getClass", desc := "()Ljava/lang/Class;" } : Jvm.MethodName)) ∈ lw_all := lw_g (lw_at lw_m3 59 rfl) rfl
theorem q686 : (Jvm.Cond.selects "DawnPerquisite$Plain" ({ cls := "java/lang/Object", name := "getClass", desc := "()Ljava/lang/Class;" } : Jvm.MethodName) ({ cls := "java/lang/Object", name := "getClass", desc := "()Ljava/lang/Class;" } : Jvm.MethodName)) ∈ lw_all := lw_g (lw_at lw_m3 60 rfl) rfl
theorem q687 : (Jvm.Cond.selects "DawnPerquisite$Purse" ({ cls := "java/lang/Object", name := "getClass", desc := "()Ljava/lang/Class;" } : Jvm.MethodName) ({ cls := "java/lang/Object", name := "getClass", desc := "()Ljava/lang/Class;" } : Jvm.MethodName)) ∈ lw_all := lw_g (lw_at lw_m3 61 rfl) rfl
theorem q688 : (Jvm.Cond.selects "DawnPerquisite$State" ({ cls := "java/lang/Object", name := "getClass", desc := "()Ljava/lang/Class;" } : Jvm.MethodName) ({ cls := "java/lang/Object", name := "getClass", desc := "()Ljava/lang/Class;" } : Jvm.MethodName)) ∈ lw_all := lw_g (lw_at lw_m3 62 rfl) rfl
theorem q689 : (Jvm.Cond.selects "DawnPerquisite$Text" ({ cls := "java/lang/Object", name := "getClass", desc := "()Ljava/lang/Class;" } : Jvm.MethodName) ({ cls := "java/lang/Object", name := "getClass", desc := "()Ljava/lang/Class;" } : Jvm.MethodName)) ∈ lw_all := lw_g (lw_at lw_m3 63 rfl) rfl
theorem q690 : (Jvm.Cond.selects "DawnPerquisite$Tokens" ({ cls := "java/lang/Object", name := "getClass", desc := "()Ljava/lang/Class;" } : Jvm.MethodName) ({ cls := "java/lang/Object", name := "getClass", desc := "()Ljava/lang/Class;" } : Jvm.MethodName)) ∈ lw_all := lw_g (lw_at lw_m3 64 rfl) rfl
theorem q691 : (Jvm.Cond.selects "DawnPerquisite$Worth" ({ cls := "java/lang/Object", name := "getClass", desc := "()Ljava/lang/Class;" } : Jvm.MethodName) ({ cls := "java/lang/Object", name := "getClass", desc := "()Ljava/lang/Class;" } : Jvm.MethodName)) ∈ lw_all := lw_g (lw_at lw_m3 65 rfl) rfl
theorem q692 : (Jvm.Cond.selects "DawnPerquisite$Wrong" ({ cls := "java/lang/Object", name := "getClass", desc := "()Ljava/lang/Class;" } : Jvm.MethodName) ({ cls := "java/lang/Object", name := "getClass", desc := "()Ljava/lang/Class;" } : Jvm.MethodName)) ∈ lw_all := lw_g (lw_at lw_m3 66 rfl) rfl
theorem q693 : (Jvm.Cond.selects "DawnPerquisiteModel" ({ cls := "java/lang/Object", name := "getClass", desc := "()Ljava/lang/Class;" } : Jvm.MethodName) ({ cls := "java/lang/Object", name := "getClass", desc := "()Ljava/lang/Class;" } : Jvm.MethodName)) ∈ lw_all := lw_g (lw_at lw_m3 67 rfl) rfl
theorem q694 : (Jvm.Cond.selects "java/lang/Integer" ({ cls := "java/lang/Object", name := "getClass", desc := "()Ljava/lang/Class;" } : Jvm.MethodName) ({ cls := "java/lang/Object", name := "getClass", desc := "()Ljava/lang/Class;" } : Jvm.MethodName)) ∈ lw_all := lw_g (lw_at lw_m3 68 rfl) rfl
theorem q695 : (Jvm.Cond.selects "java/util/ArrayList" ({ cls := "java/lang/Object", name := "getClass", desc := "()Ljava/lang/Class;" } : Jvm.MethodName) ({ cls := "java/lang/Object", name := "getClass", desc := "()Ljava/lang/Class;" } : Jvm.MethodName)) ∈ lw_all := lw_g (lw_at lw_m3 69 rfl) rfl
theorem q696 : (Jvm.Cond.native ({ cls := "java/lang/Object", name := "getClass", desc := "()Ljava/lang/Class;" } : Jvm.MethodName)) ∈ lw_all := lw_g (lw_at lw_m3 70 rfl) rfl
theorem q697 : (Jvm.Cond.methodLink "java/util/Arrays" (300 : Nat) ({ cls := "java/util/Arrays", name := "copyOf", desc := "([Ljava/lang/Object;ILjava/lang/Class;)[Ljava/lang/Object;" } : Jvm.MethodName)) ∈ lw_all := lw_g (lw_at lw_m3 71 rfl) rfl
theorem q698 : (Jvm.Cond.static ({ cls := "java/util/Arrays", name := "copyOf", desc := "([Ljava/lang/Object;ILjava/lang/Class;)[Ljava/lang/Object;" } : Jvm.MethodName)) ∈ lw_all := lw_g (lw_at lw_m3 72 rfl) rfl
theorem q699 : (Jvm.Cond.code ({ cls := "java/util/Arrays", name := "copyOf", desc := "([Ljava/lang/Object;ILjava/lang/Class;)[Ljava/lang/Object;" } : Jvm.MethodName) prog_42_method_120_code (4 : Nat) (Option.some (Jvm.ClassFile.FieldType.array (Jvm.ClassFile.FieldType.object "java/lang/Object")))) ∈ lw_all := lw_g (lw_at lw_m3 73 rfl) rfl
theorem q700 : (Jvm.Cond.classLink "java/util/Arrays" (110 : Nat) "[Ljava/lang/Object;") ∈ lw_all := lw_g (lw_at lw_m3 74 rfl) rfl
theorem q701 : (Jvm.Cond.arrayOver (Jvm.ClassFile.FieldType.object "java/lang/Object")) ∈ lw_tbl := lw_at lw_m3 75 rfl
theorem q702 : (Jvm.Cond.classLink "java/util/Arrays" (2 : Nat) "java/lang/Object") ∈ lw_all := lw_g (lw_at lw_m3 76 rfl) rfl
theorem q703 : (Jvm.Cond.methodLink "java/util/Arrays" (304 : Nat) ({ cls := "java/lang/Math", name := "min", desc := "(II)I" } : Jvm.MethodName)) ∈ lw_all := lw_g (lw_at lw_m3 77 rfl) rfl
theorem q704 : (Jvm.Cond.methodLink "java/util/Arrays" (150 : Nat) ({ cls := "java/lang/System", name := "arraycopy", desc := "(Ljava/lang/Object;ILjava/lang/Object;II)V" } : Jvm.MethodName)) ∈ lw_all := lw_g (lw_at lw_m3 78 rfl) rfl
theorem q705 : (Jvm.Cond.methodLink "java/util/ArrayList" (79 : Nat) ({ cls := "java/lang/Math", name := "max", desc := "(II)I" } : Jvm.MethodName)) ∈ lw_all := lw_g (lw_at lw_m3 79 rfl) rfl
theorem q706 : (Jvm.Cond.classLink "java/util/ArrayList" (7 : Nat) "java/lang/Object") ∈ lw_all := lw_g (lw_at lw_m3 80 rfl) rfl
theorem q707 : (Jvm.Cond.methodLink "DawnPerquisite$Tokens" (127 : Nat) ({ cls := "java/util/ArrayList", name := "size", desc := "()I" } : Jvm.MethodName)) ∈ lw_all := lw_g (lw_at lw_m3 81 rfl) rfl
theorem q708 : (Jvm.Cond.instanceMethod ({ cls := "java/util/ArrayList", name := "size", desc := "()I" } : Jvm.MethodName)) ∈ lw_all := lw_g (lw_at lw_m3 82 rfl) rfl
theorem q709 : (Jvm.Cond.selects "java/util/ArrayList" ({ cls := "java/util/ArrayList", name := "size", desc := "()I" } : Jvm.MethodName) ({ cls := "java/util/ArrayList", name := "size", desc := "()I" } : Jvm.MethodName)) ∈ lw_all := lw_g (lw_at lw_m3 83 rfl) rfl
theorem q710 : (Jvm.Cond.code ({ cls := "java/util/ArrayList", name := "size", desc := "()I" } : Jvm.MethodName) prog_41_method_8_code (1 : Nat) (Option.some Jvm.ClassFile.FieldType.int)) ∈ lw_all := lw_g (lw_at lw_m3 84 rfl) rfl
theorem q711 : (Jvm.Cond.methodLink "DawnPerquisite$Tokens" (129 : Nat) ({ cls := "java/util/ArrayList", name := "get", desc := "(I)Ljava/lang/Object;" } : Jvm.MethodName)) ∈ lw_all := lw_g (lw_at lw_m3 85 rfl) rfl
theorem q712 : (Jvm.Cond.instanceMethod ({ cls := "java/util/ArrayList", name := "get", desc := "(I)Ljava/lang/Object;" } : Jvm.MethodName)) ∈ lw_all := lw_g (lw_at lw_m3 86 rfl) rfl
theorem q713 : (Jvm.Cond.selects "java/util/ArrayList" ({ cls := "java/util/ArrayList", name := "get", desc := "(I)Ljava/lang/Object;" } : Jvm.MethodName) ({ cls := "java/util/ArrayList", name := "get", desc := "(I)Ljava/lang/Object;" } : Jvm.MethodName)) ∈ lw_all := lw_g (lw_at lw_m3 87 rfl) rfl
theorem q714 : (Jvm.Cond.code ({ cls := "java/util/ArrayList", name := "get", desc := "(I)Ljava/lang/Object;" } : Jvm.MethodName) prog_41_method_20_code (2 : Nat) (Option.some (Jvm.ClassFile.FieldType.object "java/lang/Object"))) ∈ lw_all := lw_g (lw_at lw_m3 88 rfl) rfl
theorem q715 : (Jvm.Cond.methodLink "java/util/ArrayList" (118 : Nat) ({ cls := "java/util/Objects", name := "checkIndex", desc := "(II)I" } : Jvm.MethodName)) ∈ lw_all := lw_g (lw_at lw_m3 89 rfl) rfl
theorem q716 : (Jvm.Cond.static ({ cls := "java/util/Objects", name := "checkIndex", desc := "(II)I" } : Jvm.MethodName)) ∈ lw_all := lw_g (lw_at lw_m3 90 rfl) rfl
theorem q717 : (Jvm.Cond.code ({ cls := "java/util/Objects", name := "checkIndex", desc := "(II)I" } : Jvm.MethodName) prog_45_method_17_code (2 : Nat) (Option.some Jvm.ClassFile.FieldType.int)) ∈ lw_all := lw_g (lw_at lw_m3 91 rfl) rfl
theorem q718 : (Jvm.Cond.methodLink "java/util/Objects" (105 : Nat) ({ cls := "jdk/internal/util/Preconditions", name := "checkIndex", desc := "(IILjava/util/function/BiFunction;)I" } : Jvm.MethodName)) ∈ lw_all := lw_g (lw_at lw_m3 92 rfl) rfl
theorem q719 : (Jvm.Cond.methodLink "java/util/ArrayList" (123 : Nat) ({ cls := "java/util/ArrayList", name := "elementData", desc := "(I)Ljava/lang/Object;" } : Jvm.MethodName)) ∈ lw_all := lw_g (lw_at lw_m3 93 rfl) rfl
theorem q720 : (Jvm.Cond.instanceMethod ({ cls := "java/util/ArrayList", name := "elementData", desc := "(I)Ljava/lang/Object;" } : Jvm.MethodName)) ∈ lw_all := lw_g (lw_at lw_m3 94 rfl) rfl
theorem q721 : (Jvm.Cond.selects "java/util/ArrayList" ({ cls := "java/util/ArrayList", name := "elementData", desc := "(I)Ljava/lang/Object;" } : Jvm.MethodName) ({ cls := "java/util/ArrayList", name := "elementData", desc := "(I)Ljava/lang/Object;" } : Jvm.MethodName)) ∈ lw_all := lw_g (lw_at lw_m3 95 rfl) rfl
theorem q722 : (Jvm.Cond.code ({ cls := "java/util/ArrayList", name := "elementData", desc := "(I)Ljava/lang/Object;" } : Jvm.MethodName) prog_41_method_18_code (2 : Nat) (Option.some (Jvm.ClassFile.FieldType.object "java/lang/Object"))) ∈ lw_all := lw_g (lw_at lw_m3 96 rfl) rfl
theorem q723 : (Jvm.Cond.classLink "DawnPerquisite$Tokens" (133 : Nat) "DawnPerquisite$Asked") ∈ lw_all := lw_g (lw_at lw_m3 97 rfl) rfl
theorem q724 : (Jvm.Cond.classLink "DawnPerquisite$Tokens" (135 : Nat) "DawnPerquisite$All") ∈ lw_all := lw_g (lw_at lw_m3 98 rfl) rfl
theorem q725 : (Jvm.Cond.instantiable "DawnPerquisite$All" (2 : Nat)) ∈ lw_all := lw_g (lw_at lw_m3 99 rfl) rfl
theorem q726 : (Jvm.Cond.methodLinkNest "DawnPerquisite$Tokens" (137 : Nat) ({ cls := "DawnPerquisite$All", name := "<init>", desc := "(ZLjava/util/ArrayList;)V" } : Jvm.MethodName) "DawnPerquisite") ∈ lw_tbl := lw_at lw_m3 100 rfl
theorem q727 : (Jvm.Cond.instanceMethod ({ cls := "DawnPerquisite$All", name := "<init>", desc := "(ZLjava/util/ArrayList;)V" } : Jvm.MethodName)) ∈ lw_all := lw_g (lw_at lw_m3 101 rfl) rfl
theorem q728 : (Jvm.Cond.code ({ cls := "DawnPerquisite$All", name := "<init>", desc := "(ZLjava/util/ArrayList;)V" } : Jvm.MethodName) prog_2_method_1_code (3 : Nat) (Option.none : Option Jvm.ClassFile.FieldType)) ∈ lw_all := lw_g (lw_at lw_m3 102 rfl) rfl
theorem q729 : (Jvm.Cond.methodLink "DawnPerquisite$All" (1 : Nat) ({ cls := "java/lang/Record", name := "<init>", desc := "()V" } : Jvm.MethodName)) ∈ lw_all := lw_g (lw_at lw_m3 103 rfl) rfl
theorem q730 : (Jvm.Cond.fieldLink "DawnPerquisite$All" (7 : Nat) "DawnPerquisite$All" "and" "Z") ∈ lw_all := lw_g (lw_at lw_m3 104 rfl) rfl
theorem q731 : (Jvm.Cond.fieldLink "DawnPerquisite$All" (13 : Nat) "DawnPerquisite$All" "of" "Ljava/util/ArrayList;") ∈ lw_all := lw_g (lw_at lw_m3 105 rfl) rfl
theorem q732 : (Jvm.Cond.laysFinal "DawnPerquisite$All" "DawnPerquisite$All" "and" "Z") ∈ lw_all := lw_g (lw_at lw_m3 106 rfl) rfl
theorem q733 : (Jvm.Cond.soleField "DawnPerquisite$All" "and") ∈ lw_all := lw_g (lw_at lw_m3 107 rfl) rfl
theorem q734 : (Jvm.Cond.laysFinal "DawnPerquisite$All" "DawnPerquisite$All" "of" "Ljava/util/ArrayList;") ∈ lw_all := lw_g (lw_at lw_m3 108 rfl) rfl
theorem q735 : (Jvm.Cond.soleField "DawnPerquisite$All" "of") ∈ lw_all := lw_g (lw_at lw_m3 109 rfl) rfl
theorem q736 : (Jvm.Cond.superclass "DawnPerquisite$All" "java/lang/Record") ∈ lw_all := lw_g (lw_at lw_m3 110 rfl) rfl
theorem q737 : (Jvm.Cond.methodLink "DawnPerquisite$Tokens" (111 : Nat) ({ cls := "DawnPerquisite$Tokens", name := "want", desc := "(I)V" } : Jvm.MethodName)) ∈ lw_all := lw_g (lw_at lw_m3 111 rfl) rfl
theorem q738 : (Jvm.Cond.privateMethod ({ cls := "DawnPerquisite$Tokens", name := "want", desc := "(I)V" } : Jvm.MethodName)) ∈ lw_tbl := lw_at lw_m3 112 rfl
theorem q739 : (Jvm.Cond.instanceMethod ({ cls := "DawnPerquisite$Tokens", name := "want", desc := "(I)V" } : Jvm.MethodName)) ∈ lw_all := lw_g (lw_at lw_m3 113 rfl) rfl
theorem q740 : (Jvm.Cond.code ({ cls := "DawnPerquisite$Tokens", name := "want", desc := "(I)V" } : Jvm.MethodName) prog_16_method_7_code (2 : Nat) (Option.none : Option Jvm.ClassFile.FieldType)) ∈ lw_all := lw_g (lw_at lw_m3 114 rfl) rfl
theorem q741 : (Jvm.Cond.classLink "DawnPerquisite$Tokens" (180 : Nat) "DawnPerquisite$If") ∈ lw_all := lw_g (lw_at lw_m3 115 rfl) rfl
theorem q742 : (Jvm.Cond.instantiable "DawnPerquisite$If" (3 : Nat)) ∈ lw_all := lw_g (lw_at lw_m3 116 rfl) rfl
theorem q743 : (Jvm.Cond.methodLinkNest "DawnPerquisite$Tokens" (182 : Nat) ({ cls := "DawnPerquisite$If", name := "<init>", desc := "(LDawnPerquisite$Asked;LDawnPerquisite$Sum;LDawnPerquisite$Sum;)V" } : Jvm.MethodName) "DawnPerquisite") ∈ lw_tbl := lw_at lw_m3 117 rfl
theorem q744 : (Jvm.Cond.instanceMethod ({ cls := "DawnPerquisite$If", name := "<init>", desc := "(LDawnPerquisite$Asked;LDawnPerquisite$Sum;LDawnPerquisite$Sum;)V" } : Jvm.MethodName)) ∈ lw_all := lw_g (lw_at lw_m3 118 rfl) rfl
theorem q745 : (Jvm.Cond.code ({ cls := "DawnPerquisite$If", name := "<init>", desc := "(LDawnPerquisite$Asked;LDawnPerquisite$Sum;LDawnPerquisite$Sum;)V" } : Jvm.MethodName) prog_7_method_1_code (4 : Nat) (Option.none : Option Jvm.ClassFile.FieldType)) ∈ lw_all := lw_g (lw_at lw_m3 119 rfl) rfl
theorem q746 : (Jvm.Cond.methodLink "DawnPerquisite$If" (1 : Nat) ({ cls := "java/lang/Record", name := "<init>", desc := "()V" } : Jvm.MethodName)) ∈ lw_all := lw_g (lw_at lw_m3 120 rfl) rfl
theorem q747 : (Jvm.Cond.fieldLink "DawnPerquisite$If" (7 : Nat) "DawnPerquisite$If" "asked" "LDawnPerquisite$Asked;") ∈ lw_all := lw_g (lw_at lw_m3 121 rfl) rfl
theorem q748 : (Jvm.Cond.fieldLink "DawnPerquisite$If" (13 : Nat) "DawnPerquisite$If" "yes" "LDawnPerquisite$Sum;") ∈ lw_all := lw_g (lw_at lw_m3 122 rfl) rfl
theorem q749 : (Jvm.Cond.fieldLink "DawnPerquisite$If" (17 : Nat) "DawnPerquisite$If" "no" "LDawnPerquisite$Sum;") ∈ lw_all := lw_g (lw_at lw_m3 123 rfl) rfl
theorem q750 : (Jvm.Cond.laysFinal "DawnPerquisite$If" "DawnPerquisite$If" "asked" "LDawnPerquisite$Asked;") ∈ lw_all := lw_g (lw_at lw_m3 124 rfl) rfl
theorem q751 : (Jvm.Cond.soleField "DawnPerquisite$If" "asked") ∈ lw_all := lw_g (lw_at lw_m3 125 rfl) rfl
theorem q752 : (Jvm.Cond.laysFinal "DawnPerquisite$If" "DawnPerquisite$If" "yes" "LDawnPerquisite$Sum;") ∈ lw_all := lw_g (lw_at lw_m3 126 rfl) rfl
theorem q753 : (Jvm.Cond.soleField "DawnPerquisite$If" "yes") ∈ lw_all := lw_g (lw_at lw_m3 127 rfl) rfl
theorem q754 : (Jvm.Cond.laysFinal "DawnPerquisite$If" "DawnPerquisite$If" "no" "LDawnPerquisite$Sum;") ∈ lw_all := lw_g (lw_at lw_m3 128 rfl) rfl
theorem q755 : (Jvm.Cond.soleField "DawnPerquisite$If" "no") ∈ lw_all := lw_g (lw_at lw_m3 129 rfl) rfl
theorem q756 : (Jvm.Cond.superclass "DawnPerquisite$If" "java/lang/Record") ∈ lw_all := lw_g (lw_at lw_m3 130 rfl) rfl
theorem q757 : (Jvm.Cond.methodLink "DawnPerquisite$Tokens" (192 : Nat) ({ cls := "DawnPerquisite$Tokens", name := "nameNow", desc := "()I" } : Jvm.MethodName)) ∈ lw_all := lw_g (lw_at lw_m3 131 rfl) rfl
theorem q758 : (Jvm.Cond.privateMethod ({ cls := "DawnPerquisite$Tokens", name := "nameNow", desc := "()I" } : Jvm.MethodName)) ∈ lw_tbl := lw_at lw_m3 132 rfl
theorem q759 : (Jvm.Cond.instanceMethod ({ cls := "DawnPerquisite$Tokens", name := "nameNow", desc := "()I" } : Jvm.MethodName)) ∈ lw_all := lw_g (lw_at lw_m3 133 rfl) rfl
theorem q760 : (Jvm.Cond.code ({ cls := "DawnPerquisite$Tokens", name := "nameNow", desc := "()I" } : Jvm.MethodName) prog_16_method_17_code (2 : Nat) (Option.some Jvm.ClassFile.FieldType.int)) ∈ lw_all := lw_g (lw_at lw_m3 134 rfl) rfl
theorem q761 : (Jvm.Cond.fieldLink "DawnPerquisite$Tokens" (173 : Nat) "DawnPerquisite$Tokens" "NAMED" "[I") ∈ lw_all := lw_g (lw_at lw_m3 135 rfl) rfl
theorem q762 : (Jvm.Cond.laysStatic "DawnPerquisite$Tokens" "NAMED" "[I") ∈ lw_tbl := lw_at lw_m3 136 rfl
theorem q763 : (Jvm.Cond.methodLink "DawnPerquisite$Tokens" (195 : Nat) ({ cls := "DawnPerquisite$Tokens", name := "mayName", desc := "(I)Z" } : Jvm.MethodName)) ∈ lw_all := lw_g (lw_at lw_m3 137 rfl) rfl
theorem q764 : (Jvm.Cond.privateMethod ({ cls := "DawnPerquisite$Tokens", name := "mayName", desc := "(I)Z" } : Jvm.MethodName)) ∈ lw_tbl := lw_at lw_m3 138 rfl
theorem q765 : (Jvm.Cond.instanceMethod ({ cls := "DawnPerquisite$Tokens", name := "mayName", desc := "(I)Z" } : Jvm.MethodName)) ∈ lw_all := lw_g (lw_at lw_m3 139 rfl) rfl
theorem q766 : (Jvm.Cond.code ({ cls := "DawnPerquisite$Tokens", name := "mayName", desc := "(I)Z" } : Jvm.MethodName) prog_16_method_18_code (2 : Nat) (Option.some Jvm.ClassFile.FieldType.boolean)) ∈ lw_all := lw_g (lw_at lw_m3 140 rfl) rfl
theorem q767 : (Jvm.Cond.classLink "DawnPerquisite$Tokens" (198 : Nat) "DawnPerquisite$Name") ∈ lw_all := lw_g (lw_at lw_m3 141 rfl) rfl
theorem q768 : (Jvm.Cond.instantiable "DawnPerquisite$Name" (1 : Nat)) ∈ lw_all := lw_g (lw_at lw_m3 142 rfl) rfl
theorem q769 : (Jvm.Cond.methodLinkNest "DawnPerquisite$Tokens" (200 : Nat) ({ cls := "DawnPerquisite$Name", name := "<init>", desc := "(I)V" } : Jvm.MethodName) "DawnPerquisite") ∈ lw_tbl := lw_at lw_m3 143 rfl
theorem q770 : (Jvm.Cond.instanceMethod ({ cls := "DawnPerquisite$Name", name := "<init>", desc := "(I)V" } : Jvm.MethodName)) ∈ lw_all := lw_g (lw_at lw_m3 144 rfl) rfl
theorem q771 : (Jvm.Cond.code ({ cls := "DawnPerquisite$Name", name := "<init>", desc := "(I)V" } : Jvm.MethodName) prog_9_method_1_code (2 : Nat) (Option.none : Option Jvm.ClassFile.FieldType)) ∈ lw_all := lw_g (lw_at lw_m3 145 rfl) rfl
theorem q772 : (Jvm.Cond.methodLink "DawnPerquisite$Name" (1 : Nat) ({ cls := "java/lang/Record", name := "<init>", desc := "()V" } : Jvm.MethodName)) ∈ lw_all := lw_g (lw_at lw_m3 146 rfl) rfl
theorem q773 : (Jvm.Cond.fieldLink "DawnPerquisite$Name" (7 : Nat) "DawnPerquisite$Name" "which" "I") ∈ lw_all := lw_g (lw_at lw_m3 147 rfl) rfl
theorem q774 : (Jvm.Cond.laysFinal "DawnPerquisite$Name" "DawnPerquisite$Name" "which" "I") ∈ lw_all := lw_g (lw_at lw_m3 148 rfl) rfl
theorem q775 : (Jvm.Cond.soleField "DawnPerquisite$Name" "which") ∈ lw_all := lw_g (lw_at lw_m3 149 rfl) rfl
theorem q776 : (Jvm.Cond.superclass "DawnPerquisite$Name" "java/lang/Record") ∈ lw_all := lw_g (lw_at lw_m3 150 rfl) rfl
theorem q777 : (Jvm.Cond.classLink "DawnPerquisite$Tokens" (201 : Nat) "DawnPerquisite$Worth") ∈ lw_all := lw_g (lw_at lw_m3 151 rfl) rfl
theorem q778 : (Jvm.Cond.instantiable "DawnPerquisite$Worth" (1 : Nat)) ∈ lw_all := lw_g (lw_at lw_m3 152 rfl) rfl
theorem q779 : (Jvm.Cond.methodLinkNest "DawnPerquisite$Tokens" (203 : Nat) ({ cls := "DawnPerquisite$Worth", name := "<init>", desc := "(LDawnPerquisite$Sum;)V" } : Jvm.MethodName) "DawnPerquisite") ∈ lw_tbl := lw_at lw_m3 153 rfl
theorem q780 : (Jvm.Cond.instanceMethod ({ cls := "DawnPerquisite$Worth", name := "<init>", desc := "(LDawnPerquisite$Sum;)V" } : Jvm.MethodName)) ∈ lw_all := lw_g (lw_at lw_m3 154 rfl) rfl
theorem q781 : (Jvm.Cond.code ({ cls := "DawnPerquisite$Worth", name := "<init>", desc := "(LDawnPerquisite$Sum;)V" } : Jvm.MethodName) prog_17_method_1_code (2 : Nat) (Option.none : Option Jvm.ClassFile.FieldType)) ∈ lw_all := lw_g (lw_at lw_m3 155 rfl) rfl
theorem q782 : (Jvm.Cond.methodLink "DawnPerquisite$Worth" (3 : Nat) ({ cls := "java/lang/Record", name := "<init>", desc := "()V" } : Jvm.MethodName)) ∈ lw_all := lw_g (lw_at lw_m3 156 rfl) rfl
theorem q783 : (Jvm.Cond.fieldLink "DawnPerquisite$Worth" (9 : Nat) "DawnPerquisite$Worth" "sort" "LDawnPerquisite$Sum;") ∈ lw_all := lw_g (lw_at lw_m3 157 rfl) rfl
theorem q784 : (Jvm.Cond.laysFinal "DawnPerquisite$Worth" "DawnPerquisite$Worth" "sort" "LDawnPerquisite$Sum;") ∈ lw_all := lw_g (lw_at lw_m3 158 rfl) rfl
theorem q785 : (Jvm.Cond.soleField "DawnPerquisite$Worth" "sort") ∈ lw_all := lw_g (lw_at lw_m3 159 rfl) rfl
theorem q786 : (Jvm.Cond.superclass "DawnPerquisite$Worth" "java/lang/Record") ∈ lw_all := lw_g (lw_at lw_m3 160 rfl) rfl
theorem q787 : (Jvm.Cond.classLink "DawnPerquisite$Tokens" (204 : Nat) "DawnPerquisite$Purse") ∈ lw_all := lw_g (lw_at lw_m3 161 rfl) rfl
theorem q788 : (Jvm.Cond.instantiable "DawnPerquisite$Purse" (1 : Nat)) ∈ lw_all := lw_g (lw_at lw_m3 162 rfl) rfl
theorem q789 : (Jvm.Cond.methodLinkNest "DawnPerquisite$Tokens" (206 : Nat) ({ cls := "DawnPerquisite$Purse", name := "<init>", desc := "(LDawnPerquisite$Sum;)V" } : Jvm.MethodName) "DawnPerquisite") ∈ lw_tbl := lw_at lw_m3 163 rfl
theorem q790 : (Jvm.Cond.instanceMethod ({ cls := "DawnPerquisite$Purse", name := "<init>", desc := "(LDawnPerquisite$Sum;)V" } : Jvm.MethodName)) ∈ lw_all := lw_g (lw_at lw_m3 164 rfl) rfl
theorem q791 : (Jvm.Cond.code ({ cls := "DawnPerquisite$Purse", name := "<init>", desc := "(LDawnPerquisite$Sum;)V" } : Jvm.MethodName) prog_12_method_1_code (2 : Nat) (Option.none : Option Jvm.ClassFile.FieldType)) ∈ lw_all := lw_g (lw_at lw_m3 165 rfl) rfl
theorem q792 : (Jvm.Cond.methodLink "DawnPerquisite$Purse" (3 : Nat) ({ cls := "java/lang/Record", name := "<init>", desc := "()V" } : Jvm.MethodName)) ∈ lw_all := lw_g (lw_at lw_m3 166 rfl) rfl
theorem q793 : (Jvm.Cond.fieldLink "DawnPerquisite$Purse" (9 : Nat) "DawnPerquisite$Purse" "buyer" "LDawnPerquisite$Sum;") ∈ lw_all := lw_g (lw_at lw_m3 167 rfl) rfl
theorem q794 : (Jvm.Cond.laysFinal "DawnPerquisite$Purse" "DawnPerquisite$Purse" "buyer" "LDawnPerquisite$Sum;") ∈ lw_all := lw_g (lw_at lw_m3 168 rfl) rfl
theorem q795 : (Jvm.Cond.soleField "DawnPerquisite$Purse" "buyer") ∈ lw_all := lw_g (lw_at lw_m3 169 rfl) rfl
theorem q796 : (Jvm.Cond.superclass "DawnPerquisite$Purse" "java/lang/Record") ∈ lw_all := lw_g (lw_at lw_m3 170 rfl) rfl
theorem q797 : (Jvm.Cond.classLink "DawnPerquisite$Tokens" (207 : Nat) "DawnPerquisite$Minus") ∈ lw_all := lw_g (lw_at lw_m3 171 rfl) rfl
theorem q798 : (Jvm.Cond.instantiable "DawnPerquisite$Minus" (1 : Nat)) ∈ lw_all := lw_g (lw_at lw_m3 172 rfl) rfl
theorem q799 : (Jvm.Cond.methodLinkNest "DawnPerquisite$Tokens" (209 : Nat) ({ cls := "DawnPerquisite$Minus", name := "<init>", desc := "(LDawnPerquisite$Sum;)V" } : Jvm.MethodName) "DawnPerquisite") ∈ lw_tbl := lw_at lw_m3 173 rfl
theorem q800 : (Jvm.Cond.instanceMethod ({ cls := "DawnPerquisite$Minus", name := "<init>", desc := "(LDawnPerquisite$Sum;)V" } : Jvm.MethodName)) ∈ lw_all := lw_g (lw_at lw_m3 174 rfl) rfl
theorem q801 : (Jvm.Cond.code ({ cls := "DawnPerquisite$Minus", name := "<init>", desc := "(LDawnPerquisite$Sum;)V" } : Jvm.MethodName) prog_8_method_1_code (2 : Nat) (Option.none : Option Jvm.ClassFile.FieldType)) ∈ lw_all := lw_g (lw_at lw_m3 175 rfl) rfl
theorem q802 : (Jvm.Cond.methodLink "DawnPerquisite$Minus" (1 : Nat) ({ cls := "java/lang/Record", name := "<init>", desc := "()V" } : Jvm.MethodName)) ∈ lw_all := lw_g (lw_at lw_m3 176 rfl) rfl
theorem q803 : (Jvm.Cond.fieldLink "DawnPerquisite$Minus" (7 : Nat) "DawnPerquisite$Minus" "x" "LDawnPerquisite$Sum;") ∈ lw_all := lw_g (lw_at lw_m3 177 rfl) rfl
theorem q804 : (Jvm.Cond.laysFinal "DawnPerquisite$Minus" "DawnPerquisite$Minus" "x" "LDawnPerquisite$Sum;") ∈ lw_all := lw_g (lw_at lw_m3 178 rfl) rfl
theorem q805 : (Jvm.Cond.soleField "DawnPerquisite$Minus" "x") ∈ lw_all := lw_g (lw_at lw_m3 179 rfl) rfl
theorem q806 : (Jvm.Cond.superclass "DawnPerquisite$Minus" "java/lang/Record") ∈ lw_all := lw_g (lw_at lw_m3 180 rfl) rfl
theorem q807 : (Jvm.Cond.methodLink "DawnPerquisite$Tokens" (161 : Nat) ({ cls := "DawnPerquisite$Chain", name := "<init>", desc := "(LDawnPerquisite$Sum;)V" } : Jvm.MethodName)) ∈ lw_all := lw_g (lw_at lw_m3 181 rfl) rfl
theorem q808 : (Jvm.Cond.instanceMethod ({ cls := "DawnPerquisite$Chain", name := "<init>", desc := "(LDawnPerquisite$Sum;)V" } : Jvm.MethodName)) ∈ lw_all := lw_g (lw_at lw_m3 182 rfl) rfl
theorem q809 : (Jvm.Cond.code ({ cls := "DawnPerquisite$Chain", name := "<init>", desc := "(LDawnPerquisite$Sum;)V" } : Jvm.MethodName) prog_4_method_1_code (2 : Nat) (Option.none : Option Jvm.ClassFile.FieldType)) ∈ lw_all := lw_g (lw_at lw_m3 183 rfl) rfl
theorem q810 : (Jvm.Cond.methodLink "DawnPerquisite$Chain" (3 : Nat) ({ cls := "java/lang/Object", name := "<init>", desc := "()V" } : Jvm.MethodName)) ∈ lw_all := lw_g (lw_at lw_m3 184 rfl) rfl
theorem q811 : (Jvm.Cond.classLink "DawnPerquisite$Chain" (9 : Nat) "java/util/ArrayList") ∈ lw_all := lw_g (lw_at lw_m3 185 rfl) rfl
theorem q812 : (Jvm.Cond.methodLink "DawnPerquisite$Chain" (11 : Nat) ({ cls := "java/util/ArrayList", name := "<init>", desc := "()V" } : Jvm.MethodName)) ∈ lw_all := lw_g (lw_at lw_m3 186 rfl) rfl
theorem q813 : (Jvm.Cond.fieldLink "DawnPerquisite$Chain" (21 : Nat) "DawnPerquisite$Chain" "first" "LDawnPerquisite$Sum;") ∈ lw_all := lw_g (lw_at lw_m3 187 rfl) rfl
theorem q814 : (Jvm.Cond.fieldLink "DawnPerquisite$Chain" (12 : Nat) "DawnPerquisite$Chain" "more" "Ljava/util/ArrayList;") ∈ lw_all := lw_g (lw_at lw_m3 188 rfl) rfl
theorem q815 : (Jvm.Cond.fieldLink "DawnPerquisite$Chain" (18 : Nat) "DawnPerquisite$Chain" "signs" "Ljava/util/ArrayList;") ∈ lw_all := lw_g (lw_at lw_m3 189 rfl) rfl
theorem q816 : (Jvm.Cond.laysFinal "DawnPerquisite$Chain" "DawnPerquisite$Chain" "first" "LDawnPerquisite$Sum;") ∈ lw_all := lw_g (lw_at lw_m3 190 rfl) rfl
theorem q817 : (Jvm.Cond.soleField "DawnPerquisite$Chain" "first") ∈ lw_all := lw_g (lw_at lw_m3 191 rfl) rfl
theorem q818 : (Jvm.Cond.laysFinal "DawnPerquisite$Chain" "DawnPerquisite$Chain" "more" "Ljava/util/ArrayList;") ∈ lw_all := lw_g (lw_at lw_m3 192 rfl) rfl
theorem q819 : (Jvm.Cond.soleField "DawnPerquisite$Chain" "more") ∈ lw_all := lw_g (lw_at lw_m3 193 rfl) rfl
theorem q820 : (Jvm.Cond.laysFinal "DawnPerquisite$Chain" "DawnPerquisite$Chain" "signs" "Ljava/util/ArrayList;") ∈ lw_all := lw_g (lw_at lw_m3 194 rfl) rfl
theorem q821 : (Jvm.Cond.soleField "DawnPerquisite$Chain" "signs") ∈ lw_all := lw_g (lw_at lw_m3 195 rfl) rfl
theorem q822 : (Jvm.Cond.superclass "DawnPerquisite$Chain" "java/lang/Object") ∈ lw_all := lw_g (lw_at lw_m3 196 rfl) rfl
theorem q823 : (Jvm.Cond.methodLink "DawnPerquisite$Tokens" (164 : Nat) ({ cls := "DawnPerquisite$Chain", name := "add", desc := "(ILDawnPerquisite$Sum;)V" } : Jvm.MethodName)) ∈ lw_all := lw_g (lw_at lw_m3 197 rfl) rfl
theorem q824 : (Jvm.Cond.instanceMethod ({ cls := "DawnPerquisite$Chain", name := "add", desc := "(ILDawnPerquisite$Sum;)V" } : Jvm.MethodName)) ∈ lw_all := lw_g (lw_at lw_m3 198 rfl) rfl
theorem q825 : (Jvm.Cond.selects "DawnPerquisite$Chain" ({ cls := "DawnPerquisite$Chain", name := "add", desc := "(ILDawnPerquisite$Sum;)V" } : Jvm.MethodName) ({ cls := "DawnPerquisite$Chain", name := "add", desc := "(ILDawnPerquisite$Sum;)V" } : Jvm.MethodName)) ∈ lw_all := lw_g (lw_at lw_m3 199 rfl) rfl
theorem q826 : (Jvm.Cond.code ({ cls := "DawnPerquisite$Chain", name := "add", desc := "(ILDawnPerquisite$Sum;)V" } : Jvm.MethodName) prog_4_method_2_code (3 : Nat) (Option.none : Option Jvm.ClassFile.FieldType)) ∈ lw_all := lw_g (lw_at lw_m3 200 rfl) rfl
theorem q827 : (Jvm.Cond.methodLink "DawnPerquisite$Chain" (25 : Nat) ({ cls := "java/lang/Integer", name := "valueOf", desc := "(I)Ljava/lang/Integer;" } : Jvm.MethodName)) ∈ lw_all := lw_g (lw_at lw_m3 201 rfl) rfl
theorem q828 : (Jvm.Cond.static ({ cls := "java/lang/Integer", name := "valueOf", desc := "(I)Ljava/lang/Integer;" } : Jvm.MethodName)) ∈ lw_all := lw_g (lw_at lw_m3 202 rfl) rfl
theorem q829 : (Jvm.Cond.code ({ cls := "java/lang/Integer", name := "valueOf", desc := "(I)Ljava/lang/Integer;" } : Jvm.MethodName) prog_26_method_22_code (1 : Nat) (Option.some (Jvm.ClassFile.FieldType.object "java/lang/Integer"))) ∈ lw_all := lw_g (lw_at lw_m3 203 rfl) rfl
theorem q830 : (Jvm.Cond.fieldLink "java/lang/Integer" (191 : Nat) "java/lang/Integer$IntegerCache" "high" "I") ∈ lw_all := lw_g (lw_at lw_m3 204 rfl) rfl
theorem q831 : (Jvm.Cond.laysStatic "java/lang/Integer$IntegerCache" "high" "I") ∈ lw_tbl := lw_at lw_m3 205 rfl
theorem q832 : (Jvm.Cond.fieldLink "java/lang/Integer" (195 : Nat) "java/lang/Integer$IntegerCache" "cache" "[Ljava/lang/Integer;") ∈ lw_all := lw_g (lw_at lw_m3 206 rfl) rfl
theorem q833 : (Jvm.Cond.laysStatic "java/lang/Integer$IntegerCache" "cache" "[Ljava/lang/Integer;") ∈ lw_tbl := lw_at lw_m3 207 rfl
theorem q834 : (Jvm.Cond.classLink "java/lang/Integer" (1 : Nat) "java/lang/Integer") ∈ lw_all := lw_g (lw_at lw_m3 208 rfl) rfl
theorem q835 : (Jvm.Cond.instantiable "java/lang/Integer" (1 : Nat)) ∈ lw_all := lw_g (lw_at lw_m3 209 rfl) rfl
theorem q836 : (Jvm.Cond.methodLink "java/lang/Integer" (199 : Nat) ({ cls := "java/lang/Integer", name := "<init>", desc := "(I)V" } : Jvm.MethodName)) ∈ lw_all := lw_g (lw_at lw_m3 210 rfl) rfl
theorem q837 : (Jvm.Cond.instanceMethod ({ cls := "java/lang/Integer", name := "<init>", desc := "(I)V" } : Jvm.MethodName)) ∈ lw_all := lw_g (lw_at lw_m3 211 rfl) rfl
theorem q838 : (Jvm.Cond.code ({ cls := "java/lang/Integer", name := "<init>", desc := "(I)V" } : Jvm.MethodName) prog_26_method_23_code (2 : Nat) (Option.none : Option Jvm.ClassFile.FieldType)) ∈ lw_all := lw_g (lw_at lw_m3 212 rfl) rfl
theorem q839 : (Jvm.Cond.methodLink "java/lang/Integer" (202 : Nat) ({ cls := "java/lang/Number", name := "<init>", desc := "()V" } : Jvm.MethodName)) ∈ lw_all := lw_g (lw_at lw_m3 213 rfl) rfl
theorem q840 : (Jvm.Cond.instanceMethod ({ cls := "java/lang/Number", name := "<init>", desc := "()V" } : Jvm.MethodName)) ∈ lw_all := lw_g (lw_at lw_m3 214 rfl) rfl
theorem q841 : (Jvm.Cond.code ({ cls := "java/lang/Number", name := "<init>", desc := "()V" } : Jvm.MethodName) prog_30_method_1_code (1 : Nat) (Option.none : Option Jvm.ClassFile.FieldType)) ∈ lw_all := lw_g (lw_at lw_m3 215 rfl) rfl
theorem q842 : (Jvm.Cond.methodLink "java/lang/Number" (1 : Nat) ({ cls := "java/lang/Object", name := "<init>", desc := "()V" } : Jvm.MethodName)) ∈ lw_all := lw_g (lw_at lw_m3 216 rfl) rfl
theorem q843 : (Jvm.Cond.fieldLink "java/lang/Integer" (205 : Nat) "java/lang/Integer" "value" "I") ∈ lw_all := lw_g (lw_at lw_m3 217 rfl) rfl
theorem q844 : (Jvm.Cond.laysFinal "java/lang/Integer" "java/lang/Integer" "value" "I") ∈ lw_all := lw_g (lw_at lw_m3 218 rfl) rfl
theorem q845 : (Jvm.Cond.soleField "java/lang/Integer" "value") ∈ lw_all := lw_g (lw_at lw_m3 219 rfl) rfl
theorem q846 : (Jvm.Cond.superclass "java/lang/Integer" "java/lang/Number") ∈ lw_all := lw_g (lw_at lw_m3 220 rfl) rfl
theorem q847 : (Jvm.Cond.methodLink "DawnPerquisite$Chain" (31 : Nat) ({ cls := "java/util/ArrayList", name := "add", desc := "(Ljava/lang/Object;)Z" } : Jvm.MethodName)) ∈ lw_all := lw_g (lw_at lw_m3 221 rfl) rfl
theorem q848 : (Jvm.Cond.methodLink "DawnPerquisite$Tokens" (167 : Nat) ({ cls := "DawnPerquisite$Chain", name := "itself", desc := "()LDawnPerquisite$Sum;" } : Jvm.MethodName)) ∈ lw_all := lw_g (lw_at lw_m3 222 rfl) rfl
theorem q849 : (Jvm.Cond.instanceMethod ({ cls := "DawnPerquisite$Chain", name := "itself", desc := "()LDawnPerquisite$Sum;" } : Jvm.MethodName)) ∈ lw_all := lw_g (lw_at lw_m3 223 rfl) rfl
theorem q850 : (Jvm.Cond.selects "DawnPerquisite$Chain" ({ cls := "DawnPerquisite$Chain", name := "itself", desc := "()LDawnPerquisite$Sum;" } : Jvm.MethodName) ({ cls := "DawnPerquisite$Chain", name := "itself", desc := "()LDawnPerquisite$Sum;" } : Jvm.MethodName)) ∈ lw_all := lw_g (lw_at lw_m3 224 rfl) rfl
theorem q851 : (Jvm.Cond.code ({ cls := "DawnPerquisite$Chain", name := "itself", desc := "()LDawnPerquisite$Sum;" } : Jvm.MethodName) prog_4_method_3_code (1 : Nat) (Option.some (Jvm.ClassFile.FieldType.object "DawnPerquisite$Sum"))) ∈ lw_all := lw_g (lw_at lw_m3 225 rfl) rfl
theorem q852 : (Jvm.Cond.methodLink "DawnPerquisite$Chain" (35 : Nat) ({ cls := "java/util/ArrayList", name := "isEmpty", desc := "()Z" } : Jvm.MethodName)) ∈ lw_all := lw_g (lw_at lw_m3 226 rfl) rfl
theorem q853 : (Jvm.Cond.instanceMethod ({ cls := "java/util/ArrayList", name := "isEmpty", desc := "()Z" } : Jvm.MethodName)) ∈ lw_all := lw_g (lw_at lw_m3 227 rfl) rfl
theorem q854 : (Jvm.Cond.selects "java/util/ArrayList" ({ cls := "java/util/ArrayList", name := "isEmpty", desc := "()Z" } : Jvm.MethodName) ({ cls := "java/util/ArrayList", name := "isEmpty", desc := "()Z" } : Jvm.MethodName)) ∈ lw_all := lw_g (lw_at lw_m3 228 rfl) rfl
theorem q855 : (Jvm.Cond.code ({ cls := "java/util/ArrayList", name := "isEmpty", desc := "()Z" } : Jvm.MethodName) prog_41_method_9_code (1 : Nat) (Option.some Jvm.ClassFile.FieldType.boolean)) ∈ lw_all := lw_g (lw_at lw_m3 229 rfl) rfl
theorem q856 : (Jvm.Cond.methodLink "DawnPerquisite$Tokens" (101 : Nat) ({ cls := "DawnPerquisite$Tokens", name := "doing", desc := "(I)LDawnPerquisite$Doing;" } : Jvm.MethodName)) ∈ lw_all := lw_g (lw_at lw_m3 230 rfl) rfl
theorem q857 : (Jvm.Cond.privateMethod ({ cls := "DawnPerquisite$Tokens", name := "doing", desc := "(I)LDawnPerquisite$Doing;" } : Jvm.MethodName)) ∈ lw_tbl := lw_at lw_m3 231 rfl
theorem q858 : (Jvm.Cond.instanceMethod ({ cls := "DawnPerquisite$Tokens", name := "doing", desc := "(I)LDawnPerquisite$Doing;" } : Jvm.MethodName)) ∈ lw_all := lw_g (lw_at lw_m3 232 rfl) rfl
theorem q859 : (Jvm.Cond.code ({ cls := "DawnPerquisite$Tokens", name := "doing", desc := "(I)LDawnPerquisite$Doing;" } : Jvm.MethodName) prog_16_method_11_code (3 : Nat) (Option.some (Jvm.ClassFile.FieldType.object "DawnPerquisite$Doing"))) ∈ lw_all := lw_g (lw_at lw_m3 233 rfl) rfl
theorem q860 : (Jvm.Cond.classLink "DawnPerquisite$Tokens" (117 : Nat) "DawnPerquisite$Doing") ∈ lw_all := lw_g (lw_at lw_m3 234 rfl) rfl
theorem q861 : (Jvm.Cond.instantiable "DawnPerquisite$Doing" (4 : Nat)) ∈ lw_all := lw_g (lw_at lw_m3 235 rfl) rfl
theorem q862 : (Jvm.Cond.methodLinkNest "DawnPerquisite$Tokens" (119 : Nat) ({ cls := "DawnPerquisite$Doing", name := "<init>", desc := "(IIII)V" } : Jvm.MethodName) "DawnPerquisite") ∈ lw_tbl := lw_at lw_m3 236 rfl
theorem q863 : (Jvm.Cond.instanceMethod ({ cls := "DawnPerquisite$Doing", name := "<init>", desc := "(IIII)V" } : Jvm.MethodName)) ∈ lw_all := lw_g (lw_at lw_m3 237 rfl) rfl
theorem q864 : (Jvm.Cond.code ({ cls := "DawnPerquisite$Doing", name := "<init>", desc := "(IIII)V" } : Jvm.MethodName) prog_6_method_1_code (5 : Nat) (Option.none : Option Jvm.ClassFile.FieldType)) ∈ lw_all := lw_g (lw_at lw_m3 238 rfl) rfl
theorem q865 : (Jvm.Cond.methodLink "DawnPerquisite$Doing" (1 : Nat) ({ cls := "java/lang/Record", name := "<init>", desc := "()V" } : Jvm.MethodName)) ∈ lw_all := lw_g (lw_at lw_m3 239 rfl) rfl
theorem q866 : (Jvm.Cond.fieldLink "DawnPerquisite$Doing" (7 : Nat) "DawnPerquisite$Doing" "sort" "I") ∈ lw_all := lw_g (lw_at lw_m4 0 rfl) rfl
theorem q867 : (Jvm.Cond.fieldLink "DawnPerquisite$Doing" (13 : Nat) "DawnPerquisite$Doing" "a" "I") ∈ lw_all := lw_g (lw_at lw_m4 1 rfl) rfl
theorem q868 : (Jvm.Cond.fieldLink "DawnPerquisite$Doing" (16 : Nat) "DawnPerquisite$Doing" "b" "I") ∈ lw_all := lw_g (lw_at lw_m4 2 rfl) rfl
theorem q869 : (Jvm.Cond.fieldLink "DawnPerquisite$Doing" (19 : Nat) "DawnPerquisite$Doing" "number" "I") ∈ lw_all := lw_g (lw_at lw_m4 3 rfl) rfl
theorem q870 : (Jvm.Cond.laysFinal "DawnPerquisite$Doing" "DawnPerquisite$Doing" "sort" "I") ∈ lw_all := lw_g (lw_at lw_m4 4 rfl) rfl
theorem q871 : (Jvm.Cond.soleField "DawnPerquisite$Doing" "sort") ∈ lw_all := lw_g (lw_at lw_m4 5 rfl) rfl
theorem q872 : (Jvm.Cond.laysFinal "DawnPerquisite$Doing" "DawnPerquisite$Doing" "a" "I") ∈ lw_all := lw_g (lw_at lw_m4 6 rfl) rfl
theorem q873 : (Jvm.Cond.soleField "DawnPerquisite$Doing" "a") ∈ lw_all := lw_g (lw_at lw_m4 7 rfl) rfl
theorem q874 : (Jvm.Cond.laysFinal "DawnPerquisite$Doing" "DawnPerquisite$Doing" "b" "I") ∈ lw_all := lw_g (lw_at lw_m4 8 rfl) rfl
theorem q875 : (Jvm.Cond.soleField "DawnPerquisite$Doing" "b") ∈ lw_all := lw_g (lw_at lw_m4 9 rfl) rfl
theorem q876 : (Jvm.Cond.laysFinal "DawnPerquisite$Doing" "DawnPerquisite$Doing" "number" "I") ∈ lw_all := lw_g (lw_at lw_m4 10 rfl) rfl
theorem q877 : (Jvm.Cond.soleField "DawnPerquisite$Doing" "number") ∈ lw_all := lw_g (lw_at lw_m4 11 rfl) rfl
theorem q878 : (Jvm.Cond.superclass "DawnPerquisite$Doing" "java/lang/Record") ∈ lw_all := lw_g (lw_at lw_m4 12 rfl) rfl
theorem q879 : (Jvm.Cond.methodLink "DawnPerquisiteLaw" (38 : Nat) ({ cls := "DawnPerquisite", name := "fault", desc := "(I)I" } : Jvm.MethodName)) ∈ lw_all := lw_g (lw_at lw_m4 13 rfl) rfl
theorem q880 : (Jvm.Cond.instanceMethod ({ cls := "DawnPerquisite", name := "fault", desc := "(I)I" } : Jvm.MethodName)) ∈ lw_all := lw_g (lw_at lw_m4 14 rfl) rfl
theorem q881 : (Jvm.Cond.selects "DawnPerquisite" ({ cls := "DawnPerquisite", name := "fault", desc := "(I)I" } : Jvm.MethodName) ({ cls := "DawnPerquisite", name := "fault", desc := "(I)I" } : Jvm.MethodName)) ∈ lw_all := lw_g (lw_at lw_m4 15 rfl) rfl
theorem q882 : (Jvm.Cond.code ({ cls := "DawnPerquisite", name := "fault", desc := "(I)I" } : Jvm.MethodName) prog_1_method_15_code (2 : Nat) (Option.some Jvm.ClassFile.FieldType.int)) ∈ lw_all := lw_g (lw_at lw_m4 16 rfl) rfl
theorem q883 : (Jvm.Cond.methodLink "DawnPerquisiteLaw" (42 : Nat) ({ cls := "DawnPerquisite", name := "by", desc := "(I)Z" } : Jvm.MethodName)) ∈ lw_all := lw_g (lw_at lw_m4 17 rfl) rfl
theorem q884 : (Jvm.Cond.instanceMethod ({ cls := "DawnPerquisite", name := "by", desc := "(I)Z" } : Jvm.MethodName)) ∈ lw_all := lw_g (lw_at lw_m4 18 rfl) rfl
theorem q885 : (Jvm.Cond.selects "DawnPerquisite" ({ cls := "DawnPerquisite", name := "by", desc := "(I)Z" } : Jvm.MethodName) ({ cls := "DawnPerquisite", name := "by", desc := "(I)Z" } : Jvm.MethodName)) ∈ lw_all := lw_g (lw_at lw_m4 19 rfl) rfl
theorem q886 : (Jvm.Cond.code ({ cls := "DawnPerquisite", name := "by", desc := "(I)Z" } : Jvm.MethodName) prog_1_method_17_code (2 : Nat) (Option.some Jvm.ClassFile.FieldType.boolean)) ∈ lw_all := lw_g (lw_at lw_m4 20 rfl) rfl
theorem q887 : (Jvm.Cond.methodLink "DawnPerquisite" (124 : Nat) ({ cls := "DawnPerquisite", name := "isText", desc := "(I)Z" } : Jvm.MethodName)) ∈ lw_all := lw_g (lw_at lw_m4 21 rfl) rfl
theorem q888 : (Jvm.Cond.privateMethod ({ cls := "DawnPerquisite", name := "isText", desc := "(I)Z" } : Jvm.MethodName)) ∈ lw_tbl := lw_at lw_m4 22 rfl
theorem q889 : (Jvm.Cond.instanceMethod ({ cls := "DawnPerquisite", name := "isText", desc := "(I)Z" } : Jvm.MethodName)) ∈ lw_all := lw_g (lw_at lw_m4 23 rfl) rfl
theorem q890 : (Jvm.Cond.code ({ cls := "DawnPerquisite", name := "isText", desc := "(I)Z" } : Jvm.MethodName) prog_1_method_16_code (2 : Nat) (Option.some Jvm.ClassFile.FieldType.boolean)) ∈ lw_all := lw_g (lw_at lw_m4 24 rfl) rfl
theorem q891 : (Jvm.Cond.methodLink "DawnPerquisiteLaw" (47 : Nat) ({ cls := "DawnPerquisite", name := "sell", desc := "(I)I" } : Jvm.MethodName)) ∈ lw_all := lw_g (lw_at lw_m4 25 rfl) rfl
theorem q892 : (Jvm.Cond.instanceMethod ({ cls := "DawnPerquisite", name := "sell", desc := "(I)I" } : Jvm.MethodName)) ∈ lw_all := lw_g (lw_at lw_m4 26 rfl) rfl
theorem q893 : (Jvm.Cond.selects "DawnPerquisite" ({ cls := "DawnPerquisite", name := "sell", desc := "(I)I" } : Jvm.MethodName) ({ cls := "DawnPerquisite", name := "sell", desc := "(I)I" } : Jvm.MethodName)) ∈ lw_all := lw_g (lw_at lw_m4 27 rfl) rfl
theorem q894 : (Jvm.Cond.code ({ cls := "DawnPerquisite", name := "sell", desc := "(I)I" } : Jvm.MethodName) prog_1_method_34_code (2 : Nat) (Option.some Jvm.ClassFile.FieldType.int)) ∈ lw_all := lw_g (lw_at lw_m4 28 rfl) rfl
theorem q895 : (Jvm.Cond.methodLink "DawnPerquisite" (209 : Nat) ({ cls := "DawnPerquisite", name := "canSell", desc := "(I)Z" } : Jvm.MethodName)) ∈ lw_all := lw_g (lw_at lw_m4 29 rfl) rfl
theorem q896 : (Jvm.Cond.privateMethod ({ cls := "DawnPerquisite", name := "canSell", desc := "(I)Z" } : Jvm.MethodName)) ∈ lw_tbl := lw_at lw_m4 30 rfl
theorem q897 : (Jvm.Cond.instanceMethod ({ cls := "DawnPerquisite", name := "canSell", desc := "(I)Z" } : Jvm.MethodName)) ∈ lw_all := lw_g (lw_at lw_m4 31 rfl) rfl
theorem q898 : (Jvm.Cond.code ({ cls := "DawnPerquisite", name := "canSell", desc := "(I)Z" } : Jvm.MethodName) prog_1_method_28_code (2 : Nat) (Option.some Jvm.ClassFile.FieldType.boolean)) ∈ lw_all := lw_g (lw_at lw_m4 32 rfl) rfl
theorem q899 : (Jvm.Cond.methodLink "DawnPerquisite" (184 : Nat) ({ cls := "DawnPerquisite", name := "isBuyer", desc := "(I)Z" } : Jvm.MethodName)) ∈ lw_all := lw_g (lw_at lw_m4 33 rfl) rfl
theorem q900 : (Jvm.Cond.privateMethod ({ cls := "DawnPerquisite", name := "isBuyer", desc := "(I)Z" } : Jvm.MethodName)) ∈ lw_tbl := lw_at lw_m4 34 rfl
theorem q901 : (Jvm.Cond.instanceMethod ({ cls := "DawnPerquisite", name := "isBuyer", desc := "(I)Z" } : Jvm.MethodName)) ∈ lw_all := lw_g (lw_at lw_m4 35 rfl) rfl
theorem q902 : (Jvm.Cond.code ({ cls := "DawnPerquisite", name := "isBuyer", desc := "(I)Z" } : Jvm.MethodName) prog_1_method_6_code (2 : Nat) (Option.some Jvm.ClassFile.FieldType.boolean)) ∈ lw_all := lw_g (lw_at lw_m4 36 rfl) rfl
theorem q903 : (Jvm.Cond.methodLink "DawnPerquisite" (187 : Nat) ({ cls := "DawnPerquisite", name := "doesWant", desc := "(II)Z" } : Jvm.MethodName)) ∈ lw_all := lw_g (lw_at lw_m4 37 rfl) rfl
theorem q904 : (Jvm.Cond.privateMethod ({ cls := "DawnPerquisite", name := "doesWant", desc := "(II)Z" } : Jvm.MethodName)) ∈ lw_tbl := lw_at lw_m4 38 rfl
theorem q905 : (Jvm.Cond.instanceMethod ({ cls := "DawnPerquisite", name := "doesWant", desc := "(II)Z" } : Jvm.MethodName)) ∈ lw_all := lw_g (lw_at lw_m4 39 rfl) rfl
theorem q906 : (Jvm.Cond.code ({ cls := "DawnPerquisite", name := "doesWant", desc := "(II)Z" } : Jvm.MethodName) prog_1_method_27_code (3 : Nat) (Option.some Jvm.ClassFile.FieldType.boolean)) ∈ lw_all := lw_g (lw_at lw_m4 40 rfl) rfl
theorem q907 : (Jvm.Cond.methodLink "DawnPerquisite" (180 : Nat) ({ cls := "DawnPerquisite", name := "has", desc := "(II)Z" } : Jvm.MethodName)) ∈ lw_all := lw_g (lw_at lw_m4 41 rfl) rfl
theorem q908 : (Jvm.Cond.static ({ cls := "DawnPerquisite", name := "has", desc := "(II)Z" } : Jvm.MethodName)) ∈ lw_all := lw_g (lw_at lw_m4 42 rfl) rfl
theorem q909 : (Jvm.Cond.code ({ cls := "DawnPerquisite", name := "has", desc := "(II)Z" } : Jvm.MethodName) prog_1_method_2_code (2 : Nat) (Option.some Jvm.ClassFile.FieldType.boolean)) ∈ lw_all := lw_g (lw_at lw_m4 43 rfl) rfl
theorem q910 : (Jvm.Cond.methodLink "DawnPerquisite" (190 : Nat) ({ cls := "DawnPerquisite", name := "slicesOf", desc := "(I)I" } : Jvm.MethodName)) ∈ lw_all := lw_g (lw_at lw_m4 44 rfl) rfl
theorem q911 : (Jvm.Cond.privateMethod ({ cls := "DawnPerquisite", name := "slicesOf", desc := "(I)I" } : Jvm.MethodName)) ∈ lw_tbl := lw_at lw_m4 45 rfl
theorem q912 : (Jvm.Cond.instanceMethod ({ cls := "DawnPerquisite", name := "slicesOf", desc := "(I)I" } : Jvm.MethodName)) ∈ lw_all := lw_g (lw_at lw_m4 46 rfl) rfl
theorem q913 : (Jvm.Cond.code ({ cls := "DawnPerquisite", name := "slicesOf", desc := "(I)I" } : Jvm.MethodName) prog_1_method_21_code (2 : Nat) (Option.some Jvm.ClassFile.FieldType.int)) ∈ lw_all := lw_g (lw_at lw_m4 47 rfl) rfl
theorem q914 : (Jvm.Cond.methodLink "DawnPerquisite" (135 : Nat) ({ cls := "DawnPerquisite", name := "slicesBy", desc := "([II)I" } : Jvm.MethodName)) ∈ lw_all := lw_g (lw_at lw_m4 48 rfl) rfl
theorem q915 : (Jvm.Cond.static ({ cls := "DawnPerquisite", name := "slicesBy", desc := "([II)I" } : Jvm.MethodName)) ∈ lw_all := lw_g (lw_at lw_m4 49 rfl) rfl
theorem q916 : (Jvm.Cond.code ({ cls := "DawnPerquisite", name := "slicesBy", desc := "([II)I" } : Jvm.MethodName) prog_1_method_19_code (4 : Nat) (Option.some Jvm.ClassFile.FieldType.int)) ∈ lw_all := lw_g (lw_at lw_m4 50 rfl) rfl
theorem q917 : (Jvm.Cond.methodLink "DawnPerquisite" (193 : Nat) ({ cls := "DawnPerquisite", name := "bidsNow", desc := "(II)I" } : Jvm.MethodName)) ∈ lw_all := lw_g (lw_at lw_m4 51 rfl) rfl
theorem q918 : (Jvm.Cond.privateMethod ({ cls := "DawnPerquisite", name := "bidsNow", desc := "(II)I" } : Jvm.MethodName)) ∈ lw_tbl := lw_at lw_m4 52 rfl
theorem q919 : (Jvm.Cond.instanceMethod ({ cls := "DawnPerquisite", name := "bidsNow", desc := "(II)I" } : Jvm.MethodName)) ∈ lw_all := lw_g (lw_at lw_m4 53 rfl) rfl
theorem q920 : (Jvm.Cond.code ({ cls := "DawnPerquisite", name := "bidsNow", desc := "(II)I" } : Jvm.MethodName) prog_1_method_24_code (3 : Nat) (Option.some Jvm.ClassFile.FieldType.int)) ∈ lw_all := lw_g (lw_at lw_m4 54 rfl) rfl
theorem q921 : (Jvm.Cond.methodLink "DawnPerquisite" (170 : Nat) ({ cls := "DawnPerquisite", name := "rules", desc := "()LDawnPerquisite$Text;" } : Jvm.MethodName)) ∈ lw_all := lw_g (lw_at lw_m4 55 rfl) rfl
theorem q922 : (Jvm.Cond.privateMethod ({ cls := "DawnPerquisite", name := "rules", desc := "()LDawnPerquisite$Text;" } : Jvm.MethodName)) ∈ lw_tbl := lw_at lw_m4 56 rfl
theorem q923 : (Jvm.Cond.instanceMethod ({ cls := "DawnPerquisite", name := "rules", desc := "()LDawnPerquisite$Text;" } : Jvm.MethodName)) ∈ lw_all := lw_g (lw_at lw_m4 57 rfl) rfl
theorem q924 : (Jvm.Cond.code ({ cls := "DawnPerquisite", name := "rules", desc := "()LDawnPerquisite$Text;" } : Jvm.MethodName) prog_1_method_18_code (1 : Nat) (Option.some (Jvm.ClassFile.FieldType.object "DawnPerquisite$Text"))) ∈ lw_all := lw_g (lw_at lw_m4 58 rfl) rfl
theorem q925 : (Jvm.Cond.fieldLink "DawnPerquisite" (127 : Nat) "DawnPerquisite" "NOTHING" "LDawnPerquisite$Text;") ∈ lw_all := lw_g (lw_at lw_m4 59 rfl) rfl
theorem q926 : (Jvm.Cond.laysStatic "DawnPerquisite" "NOTHING" "LDawnPerquisite$Text;") ∈ lw_tbl := lw_at lw_m4 60 rfl
theorem q927 : (Jvm.Cond.methodLink "DawnPerquisite" (176 : Nat) ({ cls := "DawnPerquisite", name := "bidsBy", desc := "(LDawnPerquisite$Text;[III)I" } : Jvm.MethodName)) ∈ lw_all := lw_g (lw_at lw_m4 61 rfl) rfl
theorem q928 : (Jvm.Cond.privateMethod ({ cls := "DawnPerquisite", name := "bidsBy", desc := "(LDawnPerquisite$Text;[III)I" } : Jvm.MethodName)) ∈ lw_tbl := lw_at lw_m4 62 rfl
theorem q929 : (Jvm.Cond.instanceMethod ({ cls := "DawnPerquisite", name := "bidsBy", desc := "(LDawnPerquisite$Text;[III)I" } : Jvm.MethodName)) ∈ lw_all := lw_g (lw_at lw_m4 63 rfl) rfl
theorem q930 : (Jvm.Cond.code ({ cls := "DawnPerquisite", name := "bidsBy", desc := "(LDawnPerquisite$Text;[III)I" } : Jvm.MethodName) prog_1_method_23_code (5 : Nat) (Option.some Jvm.ClassFile.FieldType.int)) ∈ lw_all := lw_g (lw_at lw_m4 64 rfl) rfl
theorem q931 : (Jvm.Cond.methodLink "DawnPerquisite" (150 : Nat) ({ cls := "DawnPerquisite", name := "namesOf", desc := "([III)V" } : Jvm.MethodName)) ∈ lw_all := lw_g (lw_at lw_m4 65 rfl) rfl
theorem q932 : (Jvm.Cond.privateMethod ({ cls := "DawnPerquisite", name := "namesOf", desc := "([III)V" } : Jvm.MethodName)) ∈ lw_tbl := lw_at lw_m4 66 rfl
theorem q933 : (Jvm.Cond.instanceMethod ({ cls := "DawnPerquisite", name := "namesOf", desc := "([III)V" } : Jvm.MethodName)) ∈ lw_all := lw_g (lw_at lw_m4 67 rfl) rfl
theorem q934 : (Jvm.Cond.code ({ cls := "DawnPerquisite", name := "namesOf", desc := "([III)V" } : Jvm.MethodName) prog_1_method_22_code (5 : Nat) (Option.none : Option Jvm.ClassFile.FieldType)) ∈ lw_all := lw_g (lw_at lw_m4 68 rfl) rfl
theorem q935 : (Jvm.Cond.methodLink "DawnPerquisite" (131 : Nat) ({ cls := "DawnPerquisite", name := "longOf", desc := "(I)I" } : Jvm.MethodName)) ∈ lw_all := lw_g (lw_at lw_m4 69 rfl) rfl
theorem q936 : (Jvm.Cond.privateMethod ({ cls := "DawnPerquisite", name := "longOf", desc := "(I)I" } : Jvm.MethodName)) ∈ lw_tbl := lw_at lw_m4 70 rfl
theorem q937 : (Jvm.Cond.instanceMethod ({ cls := "DawnPerquisite", name := "longOf", desc := "(I)I" } : Jvm.MethodName)) ∈ lw_all := lw_g (lw_at lw_m4 71 rfl) rfl
theorem q938 : (Jvm.Cond.code ({ cls := "DawnPerquisite", name := "longOf", desc := "(I)I" } : Jvm.MethodName) prog_1_method_20_code (2 : Nat) (Option.some Jvm.ClassFile.FieldType.int)) ∈ lw_all := lw_g (lw_at lw_m4 72 rfl) rfl
theorem q939 : (Jvm.Cond.methodLink "DawnPerquisite" (139 : Nat) ({ cls := "java/lang/Integer", name := "bitCount", desc := "(I)I" } : Jvm.MethodName)) ∈ lw_all := lw_g (lw_at lw_m4 73 rfl) rfl
theorem q940 : (Jvm.Cond.static ({ cls := "java/lang/Integer", name := "bitCount", desc := "(I)I" } : Jvm.MethodName)) ∈ lw_all := lw_g (lw_at lw_m4 74 rfl) rfl
theorem q941 : (Jvm.Cond.code ({ cls := "java/lang/Integer", name := "bitCount", desc := "(I)I" } : Jvm.MethodName) prog_26_method_49_code (1 : Nat) (Option.some Jvm.ClassFile.FieldType.int)) ∈ lw_all := lw_g (lw_at lw_m4 75 rfl) rfl
theorem q942 : (Jvm.Cond.constant "java/lang/Integer" (265 : Nat) (1431655765 : Int32)) ∈ lw_all := lw_g (lw_at lw_m4 76 rfl) rfl
theorem q943 : (Jvm.Cond.constant "java/lang/Integer" (266 : Nat) (858993459 : Int32)) ∈ lw_all := lw_g (lw_at lw_m4 77 rfl) rfl
theorem q944 : (Jvm.Cond.constant "java/lang/Integer" (267 : Nat) (252645135 : Int32)) ∈ lw_all := lw_g (lw_at lw_m4 78 rfl) rfl
theorem q945 : (Jvm.Cond.methodLink "DawnPerquisite" (144 : Nat) ({ cls := "java/lang/System", name := "arraycopy", desc := "(Ljava/lang/Object;ILjava/lang/Object;II)V" } : Jvm.MethodName)) ∈ lw_all := lw_g (lw_at lw_m4 79 rfl) rfl
theorem q946 : (Jvm.Cond.interfaceEntry "DawnPerquisite" (160 : Nat)) ∈ lw_tbl := lw_at lw_m4 80 rfl
theorem q947 : (Jvm.Cond.methodLink "DawnPerquisite" (160 : Nat) ({ cls := "DawnPerquisite$Sum", name := "of", desc := "([I)J" } : Jvm.MethodName)) ∈ lw_all := lw_g (lw_at lw_m4 81 rfl) rfl
theorem q948 : (Jvm.Cond.interfaceMethod "DawnPerquisite$Sum" "DawnPerquisite$Sum" "of" "([I)J") ∈ lw_tbl := lw_at lw_m4 82 rfl
theorem q949 : (Jvm.Cond.declares ({ cls := "DawnPerquisite$Sum", name := "of", desc := "([I)J" } : Jvm.MethodName)) ∈ lw_tbl := lw_at lw_m4 83 rfl
theorem q950 : (Jvm.Cond.castable "DawnPerquisite$Chain" "DawnPerquisite$Sum") ∈ lw_tbl := lw_at lw_m4 84 rfl
theorem q951 : (Jvm.Cond.selects "DawnPerquisite$Chain" ({ cls := "DawnPerquisite$Sum", name := "of", desc := "([I)J" } : Jvm.MethodName) ({ cls := "DawnPerquisite$Chain", name := "of", desc := "([I)J" } : Jvm.MethodName)) ∈ lw_all := lw_g (lw_at lw_m4 85 rfl) rfl
theorem q952 : (Jvm.Cond.unhidden "DawnPerquisite$Chain" "of" "([I)J") ∈ lw_tbl := lw_at lw_m4 86 rfl
theorem q953 : (Jvm.Cond.instanceMethod ({ cls := "DawnPerquisite$Chain", name := "of", desc := "([I)J" } : Jvm.MethodName)) ∈ lw_all := lw_g (lw_at lw_m4 87 rfl) rfl
theorem q954 : (Jvm.Cond.publicMethod ({ cls := "DawnPerquisite$Chain", name := "of", desc := "([I)J" } : Jvm.MethodName)) ∈ lw_tbl := lw_at lw_m4 88 rfl
theorem q955 : (Jvm.Cond.code ({ cls := "DawnPerquisite$Chain", name := "of", desc := "([I)J" } : Jvm.MethodName) prog_4_method_4_code (10 : Nat) (Option.some Jvm.ClassFile.FieldType.long)) ∈ lw_all := lw_g (lw_at lw_m4 89 rfl) rfl
theorem q956 : (Jvm.Cond.interfaceEntry "DawnPerquisite$Chain" (39 : Nat)) ∈ lw_tbl := lw_at lw_m4 90 rfl
theorem q957 : (Jvm.Cond.methodLink "DawnPerquisite$Chain" (39 : Nat) ({ cls := "DawnPerquisite$Sum", name := "of", desc := "([I)J" } : Jvm.MethodName)) ∈ lw_all := lw_g (lw_at lw_m4 91 rfl) rfl
theorem q958 : (Jvm.Cond.castable "DawnPerquisite$If" "DawnPerquisite$Sum") ∈ lw_tbl := lw_at lw_m4 92 rfl
theorem q959 : (Jvm.Cond.selects "DawnPerquisite$If" ({ cls := "DawnPerquisite$Sum", name := "of", desc := "([I)J" } : Jvm.MethodName) ({ cls := "DawnPerquisite$If", name := "of", desc := "([I)J" } : Jvm.MethodName)) ∈ lw_all := lw_g (lw_at lw_m4 93 rfl) rfl
theorem q960 : (Jvm.Cond.unhidden "DawnPerquisite$If" "of" "([I)J") ∈ lw_tbl := lw_at lw_m4 94 rfl
theorem q961 : (Jvm.Cond.instanceMethod ({ cls := "DawnPerquisite$If", name := "of", desc := "([I)J" } : Jvm.MethodName)) ∈ lw_all := lw_g (lw_at lw_m4 95 rfl) rfl
theorem q962 : (Jvm.Cond.publicMethod ({ cls := "DawnPerquisite$If", name := "of", desc := "([I)J" } : Jvm.MethodName)) ∈ lw_tbl := lw_at lw_m4 96 rfl
theorem q963 : (Jvm.Cond.code ({ cls := "DawnPerquisite$If", name := "of", desc := "([I)J" } : Jvm.MethodName) prog_7_method_2_code (2 : Nat) (Option.some Jvm.ClassFile.FieldType.long)) ∈ lw_all := lw_g (lw_at lw_m4 97 rfl) rfl
theorem q964 : (Jvm.Cond.interfaceEntry "DawnPerquisite$If" (20 : Nat)) ∈ lw_tbl := lw_at lw_m4 98 rfl
theorem q965 : (Jvm.Cond.methodLink "DawnPerquisite$If" (20 : Nat) ({ cls := "DawnPerquisite$Asked", name := "is", desc := "([I)Z" } : Jvm.MethodName)) ∈ lw_all := lw_g (lw_at lw_m4 99 rfl) rfl
theorem q966 : (Jvm.Cond.interfaceMethod "DawnPerquisite$Asked" "DawnPerquisite$Asked" "is" "([I)Z") ∈ lw_tbl := lw_at lw_m4 100 rfl
theorem q967 : (Jvm.Cond.declares ({ cls := "DawnPerquisite$Asked", name := "is", desc := "([I)Z" } : Jvm.MethodName)) ∈ lw_tbl := lw_at lw_m4 101 rfl
theorem q968 : (Jvm.Cond.castable "DawnPerquisite$All" "DawnPerquisite$Asked") ∈ lw_tbl := lw_at lw_m4 102 rfl
theorem q969 : (Jvm.Cond.selects "DawnPerquisite$All" ({ cls := "DawnPerquisite$Asked", name := "is", desc := "([I)Z" } : Jvm.MethodName) ({ cls := "DawnPerquisite$All", name := "is", desc := "([I)Z" } : Jvm.MethodName)) ∈ lw_all := lw_g (lw_at lw_m4 103 rfl) rfl
theorem q970 : (Jvm.Cond.unhidden "DawnPerquisite$All" "is" "([I)Z") ∈ lw_tbl := lw_at lw_m4 104 rfl
theorem q971 : (Jvm.Cond.instanceMethod ({ cls := "DawnPerquisite$All", name := "is", desc := "([I)Z" } : Jvm.MethodName)) ∈ lw_all := lw_g (lw_at lw_m4 105 rfl) rfl
theorem q972 : (Jvm.Cond.publicMethod ({ cls := "DawnPerquisite$All", name := "is", desc := "([I)Z" } : Jvm.MethodName)) ∈ lw_tbl := lw_at lw_m4 106 rfl
theorem q973 : (Jvm.Cond.code ({ cls := "DawnPerquisite$All", name := "is", desc := "([I)Z" } : Jvm.MethodName) prog_2_method_2_code (4 : Nat) (Option.some Jvm.ClassFile.FieldType.boolean)) ∈ lw_all := lw_g (lw_at lw_m4 107 rfl) rfl
theorem q974 : (Jvm.Cond.methodLink "DawnPerquisite$All" (17 : Nat) ({ cls := "java/util/ArrayList", name := "size", desc := "()I" } : Jvm.MethodName)) ∈ lw_all := lw_g (lw_at lw_m4 108 rfl) rfl
theorem q975 : (Jvm.Cond.methodLink "DawnPerquisite$All" (23 : Nat) ({ cls := "java/util/ArrayList", name := "get", desc := "(I)Ljava/lang/Object;" } : Jvm.MethodName)) ∈ lw_all := lw_g (lw_at lw_m4 109 rfl) rfl
theorem q976 : (Jvm.Cond.classLink "DawnPerquisite$All" (27 : Nat) "DawnPerquisite$Asked") ∈ lw_all := lw_g (lw_at lw_m4 110 rfl) rfl
theorem q977 : (Jvm.Cond.interfaceEntry "DawnPerquisite$All" (29 : Nat)) ∈ lw_tbl := lw_at lw_m4 111 rfl
theorem q978 : (Jvm.Cond.methodLink "DawnPerquisite$All" (29 : Nat) ({ cls := "DawnPerquisite$Asked", name := "is", desc := "([I)Z" } : Jvm.MethodName)) ∈ lw_all := lw_g (lw_at lw_m4 112 rfl) rfl
theorem q979 : (Jvm.Cond.castable "DawnPerquisite$Compared" "DawnPerquisite$Asked") ∈ lw_tbl := lw_at lw_m4 113 rfl
theorem q980 : (Jvm.Cond.selects "DawnPerquisite$Compared" ({ cls := "DawnPerquisite$Asked", name := "is", desc := "([I)Z" } : Jvm.MethodName) ({ cls := "DawnPerquisite$Compared", name := "is", desc := "([I)Z" } : Jvm.MethodName)) ∈ lw_all := lw_g (lw_at lw_m4 114 rfl) rfl
theorem q981 : (Jvm.Cond.unhidden "DawnPerquisite$Compared" "is" "([I)Z") ∈ lw_tbl := lw_at lw_m4 115 rfl
theorem q982 : (Jvm.Cond.instanceMethod ({ cls := "DawnPerquisite$Compared", name := "is", desc := "([I)Z" } : Jvm.MethodName)) ∈ lw_all := lw_g (lw_at lw_m4 116 rfl) rfl
theorem q983 : (Jvm.Cond.publicMethod ({ cls := "DawnPerquisite$Compared", name := "is", desc := "([I)Z" } : Jvm.MethodName)) ∈ lw_tbl := lw_at lw_m4 117 rfl
theorem q984 : (Jvm.Cond.code ({ cls := "DawnPerquisite$Compared", name := "is", desc := "([I)Z" } : Jvm.MethodName) prog_5_method_2_code (4 : Nat) (Option.some Jvm.ClassFile.FieldType.boolean)) ∈ lw_all := lw_g (lw_at lw_m4 118 rfl) rfl
theorem q985 : (Jvm.Cond.interfaceEntry "DawnPerquisite$Compared" (20 : Nat)) ∈ lw_tbl := lw_at lw_m4 119 rfl
theorem q986 : (Jvm.Cond.methodLink "DawnPerquisite$Compared" (20 : Nat) ({ cls := "DawnPerquisite$Sum", name := "of", desc := "([I)J" } : Jvm.MethodName)) ∈ lw_all := lw_g (lw_at lw_m4 120 rfl) rfl
theorem q987 : (Jvm.Cond.castable "DawnPerquisite$Minus" "DawnPerquisite$Sum") ∈ lw_tbl := lw_at lw_m4 121 rfl
theorem q988 : (Jvm.Cond.selects "DawnPerquisite$Minus" ({ cls := "DawnPerquisite$Sum", name := "of", desc := "([I)J" } : Jvm.MethodName) ({ cls := "DawnPerquisite$Minus", name := "of", desc := "([I)J" } : Jvm.MethodName)) ∈ lw_all := lw_g (lw_at lw_m4 122 rfl) rfl
theorem q989 : (Jvm.Cond.unhidden "DawnPerquisite$Minus" "of" "([I)J") ∈ lw_tbl := lw_at lw_m4 123 rfl
theorem q990 : (Jvm.Cond.instanceMethod ({ cls := "DawnPerquisite$Minus", name := "of", desc := "([I)J" } : Jvm.MethodName)) ∈ lw_all := lw_g (lw_at lw_m4 124 rfl) rfl
theorem q991 : (Jvm.Cond.publicMethod ({ cls := "DawnPerquisite$Minus", name := "of", desc := "([I)J" } : Jvm.MethodName)) ∈ lw_tbl := lw_at lw_m4 125 rfl
theorem q992 : (Jvm.Cond.code ({ cls := "DawnPerquisite$Minus", name := "of", desc := "([I)J" } : Jvm.MethodName) prog_8_method_2_code (2 : Nat) (Option.some Jvm.ClassFile.FieldType.long)) ∈ lw_all := lw_g (lw_at lw_m4 126 rfl) rfl
theorem q993 : (Jvm.Cond.interfaceEntry "DawnPerquisite$Minus" (13 : Nat)) ∈ lw_tbl := lw_at lw_m4 127 rfl
theorem q994 : (Jvm.Cond.methodLink "DawnPerquisite$Minus" (13 : Nat) ({ cls := "DawnPerquisite$Sum", name := "of", desc := "([I)J" } : Jvm.MethodName)) ∈ lw_all := lw_g (lw_at lw_m4 128 rfl) rfl
theorem q995 : (Jvm.Cond.castable "DawnPerquisite$Name" "DawnPerquisite$Sum") ∈ lw_tbl := lw_at lw_m4 129 rfl
theorem q996 : (Jvm.Cond.selects "DawnPerquisite$Name" ({ cls := "DawnPerquisite$Sum", name := "of", desc := "([I)J" } : Jvm.MethodName) ({ cls := "DawnPerquisite$Name", name := "of", desc := "([I)J" } : Jvm.MethodName)) ∈ lw_all := lw_g (lw_at lw_m4 130 rfl) rfl
theorem q997 : (Jvm.Cond.unhidden "DawnPerquisite$Name" "of" "([I)J") ∈ lw_tbl := lw_at lw_m4 131 rfl
theorem q998 : (Jvm.Cond.instanceMethod ({ cls := "DawnPerquisite$Name", name := "of", desc := "([I)J" } : Jvm.MethodName)) ∈ lw_all := lw_g (lw_at lw_m4 132 rfl) rfl
theorem q999 : (Jvm.Cond.publicMethod ({ cls := "DawnPerquisite$Name", name := "of", desc := "([I)J" } : Jvm.MethodName)) ∈ lw_tbl := lw_at lw_m4 133 rfl
theorem q1000 : (Jvm.Cond.code ({ cls := "DawnPerquisite$Name", name := "of", desc := "([I)J" } : Jvm.MethodName) prog_9_method_2_code (2 : Nat) (Option.some Jvm.ClassFile.FieldType.long)) ∈ lw_all := lw_g (lw_at lw_m4 134 rfl) rfl
theorem q1001 : (Jvm.Cond.castable "DawnPerquisite$Plain" "DawnPerquisite$Sum") ∈ lw_tbl := lw_at lw_m4 135 rfl
theorem q1002 : (Jvm.Cond.selects "DawnPerquisite$Plain" ({ cls := "DawnPerquisite$Sum", name := "of", desc := "([I)J" } : Jvm.MethodName) ({ cls := "DawnPerquisite$Plain", name := "of", desc := "([I)J" } : Jvm.MethodName)) ∈ lw_all := lw_g (lw_at lw_m4 136 rfl) rfl
theorem q1003 : (Jvm.Cond.unhidden "DawnPerquisite$Plain" "of" "([I)J") ∈ lw_tbl := lw_at lw_m4 137 rfl
theorem q1004 : (Jvm.Cond.instanceMethod ({ cls := "DawnPerquisite$Plain", name := "of", desc := "([I)J" } : Jvm.MethodName)) ∈ lw_all := lw_g (lw_at lw_m4 138 rfl) rfl
theorem q1005 : (Jvm.Cond.publicMethod ({ cls := "DawnPerquisite$Plain", name := "of", desc := "([I)J" } : Jvm.MethodName)) ∈ lw_tbl := lw_at lw_m4 139 rfl
theorem q1006 : (Jvm.Cond.code ({ cls := "DawnPerquisite$Plain", name := "of", desc := "([I)J" } : Jvm.MethodName) prog_11_method_2_code (2 : Nat) (Option.some Jvm.ClassFile.FieldType.long)) ∈ lw_all := lw_g (lw_at lw_m4 140 rfl) rfl
theorem q1007 : (Jvm.Cond.castable "DawnPerquisite$Purse" "DawnPerquisite$Sum") ∈ lw_tbl := lw_at lw_m4 141 rfl
theorem q1008 : (Jvm.Cond.selects "DawnPerquisite$Purse" ({ cls := "DawnPerquisite$Sum", name := "of", desc := "([I)J" } : Jvm.MethodName) ({ cls := "DawnPerquisite$Purse", name := "of", desc := "([I)J" } : Jvm.MethodName)) ∈ lw_all := lw_g (lw_at lw_m4 142 rfl) rfl
theorem q1009 : (Jvm.Cond.unhidden "DawnPerquisite$Purse" "of" "([I)J") ∈ lw_tbl := lw_at lw_m4 143 rfl
theorem q1010 : (Jvm.Cond.instanceMethod ({ cls := "DawnPerquisite$Purse", name := "of", desc := "([I)J" } : Jvm.MethodName)) ∈ lw_all := lw_g (lw_at lw_m4 144 rfl) rfl
theorem q1011 : (Jvm.Cond.publicMethod ({ cls := "DawnPerquisite$Purse", name := "of", desc := "([I)J" } : Jvm.MethodName)) ∈ lw_tbl := lw_at lw_m4 145 rfl
theorem q1012 : (Jvm.Cond.code ({ cls := "DawnPerquisite$Purse", name := "of", desc := "([I)J" } : Jvm.MethodName) prog_12_method_2_code (4 : Nat) (Option.some Jvm.ClassFile.FieldType.long)) ∈ lw_all := lw_g (lw_at lw_m4 146 rfl) rfl
theorem q1013 : (Jvm.Cond.interfaceEntry "DawnPerquisite$Purse" (15 : Nat)) ∈ lw_tbl := lw_at lw_m4 147 rfl
theorem q1014 : (Jvm.Cond.methodLink "DawnPerquisite$Purse" (15 : Nat) ({ cls := "DawnPerquisite$Sum", name := "of", desc := "([I)J" } : Jvm.MethodName)) ∈ lw_all := lw_g (lw_at lw_m4 148 rfl) rfl
theorem q1015 : (Jvm.Cond.castable "DawnPerquisite$Worth" "DawnPerquisite$Sum") ∈ lw_tbl := lw_at lw_m4 149 rfl
theorem q1016 : (Jvm.Cond.selects "DawnPerquisite$Worth" ({ cls := "DawnPerquisite$Sum", name := "of", desc := "([I)J" } : Jvm.MethodName) ({ cls := "DawnPerquisite$Worth", name := "of", desc := "([I)J" } : Jvm.MethodName)) ∈ lw_all := lw_g (lw_at lw_m4 150 rfl) rfl
theorem q1017 : (Jvm.Cond.unhidden "DawnPerquisite$Worth" "of" "([I)J") ∈ lw_tbl := lw_at lw_m4 151 rfl
theorem q1018 : (Jvm.Cond.instanceMethod ({ cls := "DawnPerquisite$Worth", name := "of", desc := "([I)J" } : Jvm.MethodName)) ∈ lw_all := lw_g (lw_at lw_m4 152 rfl) rfl
theorem q1019 : (Jvm.Cond.publicMethod ({ cls := "DawnPerquisite$Worth", name := "of", desc := "([I)J" } : Jvm.MethodName)) ∈ lw_tbl := lw_at lw_m4 153 rfl
theorem q1020 : (Jvm.Cond.code ({ cls := "DawnPerquisite$Worth", name := "of", desc := "([I)J" } : Jvm.MethodName) prog_17_method_2_code (4 : Nat) (Option.some Jvm.ClassFile.FieldType.long)) ∈ lw_all := lw_g (lw_at lw_m4 154 rfl) rfl
theorem q1021 : (Jvm.Cond.interfaceEntry "DawnPerquisite$Worth" (15 : Nat)) ∈ lw_tbl := lw_at lw_m4 155 rfl
theorem q1022 : (Jvm.Cond.methodLink "DawnPerquisite$Worth" (15 : Nat) ({ cls := "DawnPerquisite$Sum", name := "of", desc := "([I)J" } : Jvm.MethodName)) ∈ lw_all := lw_g (lw_at lw_m4 156 rfl) rfl
theorem q1023 : (Jvm.Cond.constantLong "DawnPerquisite$Worth" (21 : Nat) (5 : Int64)) ∈ lw_all := lw_g (lw_at lw_m4 157 rfl) rfl
theorem q1024 : (Jvm.Cond.constantLong "DawnPerquisite$Purse" (21 : Nat) (6 : Int64)) ∈ lw_all := lw_g (lw_at lw_m4 158 rfl) rfl
theorem q1025 : (Jvm.Cond.castable "DawnPerquisite$Not" "DawnPerquisite$Asked") ∈ lw_tbl := lw_at lw_m4 159 rfl
theorem q1026 : (Jvm.Cond.selects "DawnPerquisite$Not" ({ cls := "DawnPerquisite$Asked", name := "is", desc := "([I)Z" } : Jvm.MethodName) ({ cls := "DawnPerquisite$Not", name := "is", desc := "([I)Z" } : Jvm.MethodName)) ∈ lw_all := lw_g (lw_at lw_m4 160 rfl) rfl
theorem q1027 : (Jvm.Cond.unhidden "DawnPerquisite$Not" "is" "([I)Z") ∈ lw_tbl := lw_at lw_m4 161 rfl
theorem q1028 : (Jvm.Cond.instanceMethod ({ cls := "DawnPerquisite$Not", name := "is", desc := "([I)Z" } : Jvm.MethodName)) ∈ lw_all := lw_g (lw_at lw_m4 162 rfl) rfl
theorem q1029 : (Jvm.Cond.publicMethod ({ cls := "DawnPerquisite$Not", name := "is", desc := "([I)Z" } : Jvm.MethodName)) ∈ lw_tbl := lw_at lw_m4 163 rfl
theorem q1030 : (Jvm.Cond.code ({ cls := "DawnPerquisite$Not", name := "is", desc := "([I)Z" } : Jvm.MethodName) prog_10_method_2_code (2 : Nat) (Option.some Jvm.ClassFile.FieldType.boolean)) ∈ lw_all := lw_g (lw_at lw_m4 164 rfl) rfl
theorem q1031 : (Jvm.Cond.interfaceEntry "DawnPerquisite$Not" (13 : Nat)) ∈ lw_tbl := lw_at lw_m4 165 rfl
theorem q1032 : (Jvm.Cond.methodLink "DawnPerquisite$Not" (13 : Nat) ({ cls := "DawnPerquisite$Asked", name := "is", desc := "([I)Z" } : Jvm.MethodName)) ∈ lw_all := lw_g (lw_at lw_m4 166 rfl) rfl
theorem q1033 : (Jvm.Cond.interfaceEntry "DawnPerquisite$If" (26 : Nat)) ∈ lw_tbl := lw_at lw_m4 167 rfl
theorem q1034 : (Jvm.Cond.methodLink "DawnPerquisite$If" (26 : Nat) ({ cls := "DawnPerquisite$Sum", name := "of", desc := "([I)J" } : Jvm.MethodName)) ∈ lw_all := lw_g (lw_at lw_m4 168 rfl) rfl
theorem q1035 : (Jvm.Cond.methodLink "DawnPerquisite$Chain" (45 : Nat) ({ cls := "java/util/ArrayList", name := "size", desc := "()I" } : Jvm.MethodName)) ∈ lw_all := lw_g (lw_at lw_m4 169 rfl) rfl
theorem q1036 : (Jvm.Cond.methodLink "DawnPerquisite$Chain" (49 : Nat) ({ cls := "java/util/ArrayList", name := "get", desc := "(I)Ljava/lang/Object;" } : Jvm.MethodName)) ∈ lw_all := lw_g (lw_at lw_m4 170 rfl) rfl
theorem q1037 : (Jvm.Cond.classLink "DawnPerquisite$Chain" (40 : Nat) "DawnPerquisite$Sum") ∈ lw_all := lw_g (lw_at lw_m4 171 rfl) rfl
theorem q1038 : (Jvm.Cond.classLink "DawnPerquisite$Chain" (26 : Nat) "java/lang/Integer") ∈ lw_all := lw_g (lw_at lw_m4 172 rfl) rfl
theorem q1039 : (Jvm.Cond.methodLink "DawnPerquisite$Chain" (53 : Nat) ({ cls := "java/lang/Integer", name := "intValue", desc := "()I" } : Jvm.MethodName)) ∈ lw_all := lw_g (lw_at lw_m4 173 rfl) rfl
theorem q1040 : (Jvm.Cond.instanceMethod ({ cls := "java/lang/Integer", name := "intValue", desc := "()I" } : Jvm.MethodName)) ∈ lw_all := lw_g (lw_at lw_m4 174 rfl) rfl
theorem q1041 : (Jvm.Cond.selects "java/lang/Integer" ({ cls := "java/lang/Integer", name := "intValue", desc := "()I" } : Jvm.MethodName) ({ cls := "java/lang/Integer", name := "intValue", desc := "()I" } : Jvm.MethodName)) ∈ lw_all := lw_g (lw_at lw_m4 175 rfl) rfl
theorem q1042 : (Jvm.Cond.code ({ cls := "java/lang/Integer", name := "intValue", desc := "()I" } : Jvm.MethodName) prog_26_method_27_code (1 : Nat) (Option.some Jvm.ClassFile.FieldType.int)) ∈ lw_all := lw_g (lw_at lw_m4 176 rfl) rfl
theorem q1043 : (Jvm.Cond.constantLong "DawnPerquisite$Chain" (56 : Nat) (-1000000 : Int64)) ∈ lw_all := lw_g (lw_at lw_m4 177 rfl) rfl
theorem q1044 : (Jvm.Cond.constantLong "DawnPerquisite$Chain" (58 : Nat) (1000000 : Int64)) ∈ lw_all := lw_g (lw_at lw_m4 178 rfl) rfl
theorem q1045 : (Jvm.Cond.methodLink "DawnPerquisite$Chain" (60 : Nat) ({ cls := "java/lang/Math", name := "min", desc := "(JJ)J" } : Jvm.MethodName)) ∈ lw_all := lw_g (lw_at lw_m4 179 rfl) rfl
theorem q1046 : (Jvm.Cond.static ({ cls := "java/lang/Math", name := "min", desc := "(JJ)J" } : Jvm.MethodName)) ∈ lw_all := lw_g (lw_at lw_m4 180 rfl) rfl
theorem q1047 : (Jvm.Cond.code ({ cls := "java/lang/Math", name := "min", desc := "(JJ)J" } : Jvm.MethodName) prog_29_method_70_code (4 : Nat) (Option.some Jvm.ClassFile.FieldType.long)) ∈ lw_all := lw_g (lw_at lw_m4 181 rfl) rfl
theorem q1048 : (Jvm.Cond.methodLink "DawnPerquisite$Chain" (66 : Nat) ({ cls := "java/lang/Math", name := "max", desc := "(JJ)J" } : Jvm.MethodName)) ∈ lw_all := lw_g (lw_at lw_m4 182 rfl) rfl
theorem q1049 : (Jvm.Cond.static ({ cls := "java/lang/Math", name := "max", desc := "(JJ)J" } : Jvm.MethodName)) ∈ lw_all := lw_g (lw_at lw_m4 183 rfl) rfl
theorem q1050 : (Jvm.Cond.code ({ cls := "java/lang/Math", name := "max", desc := "(JJ)J" } : Jvm.MethodName) prog_29_method_66_code (4 : Nat) (Option.some Jvm.ClassFile.FieldType.long)) ∈ lw_all := lw_g (lw_at lw_m4 184 rfl) rfl
theorem q1051 : (Jvm.Cond.methodLink "DawnPerquisite" (166 : Nat) ({ cls := "DawnPerquisite", name := "held", desc := "(JII)I" } : Jvm.MethodName)) ∈ lw_all := lw_g (lw_at lw_m4 185 rfl) rfl
theorem q1052 : (Jvm.Cond.static ({ cls := "DawnPerquisite", name := "held", desc := "(JII)I" } : Jvm.MethodName)) ∈ lw_all := lw_g (lw_at lw_m4 186 rfl) rfl
theorem q1053 : (Jvm.Cond.code ({ cls := "DawnPerquisite", name := "held", desc := "(JII)I" } : Jvm.MethodName) prog_1_method_3_code (4 : Nat) (Option.some Jvm.ClassFile.FieldType.int)) ∈ lw_all := lw_g (lw_at lw_m4 187 rfl) rfl
theorem q1054 : (Jvm.Cond.methodLink "DawnPerquisite" (3 : Nat) ({ cls := "java/lang/Math", name := "min", desc := "(JJ)J" } : Jvm.MethodName)) ∈ lw_all := lw_g (lw_at lw_m4 188 rfl) rfl
theorem q1055 : (Jvm.Cond.methodLink "DawnPerquisite" (9 : Nat) ({ cls := "java/lang/Math", name := "max", desc := "(JJ)J" } : Jvm.MethodName)) ∈ lw_all := lw_g (lw_at lw_m4 189 rfl) rfl
theorem q1056 : (Jvm.Cond.methodLink "DawnPerquisite" (212 : Nat) ({ cls := "DawnPerquisite$State", name := "keeps", desc := "()V" } : Jvm.MethodName)) ∈ lw_all := lw_g (lw_at lw_m4 190 rfl) rfl
theorem q1057 : (Jvm.Cond.instanceMethod ({ cls := "DawnPerquisite$State", name := "keeps", desc := "()V" } : Jvm.MethodName)) ∈ lw_all := lw_g (lw_at lw_m4 191 rfl) rfl
theorem q1058 : (Jvm.Cond.selects "DawnPerquisite$State" ({ cls := "DawnPerquisite$State", name := "keeps", desc := "()V" } : Jvm.MethodName) ({ cls := "DawnPerquisite$State", name := "keeps", desc := "()V" } : Jvm.MethodName)) ∈ lw_all := lw_g (lw_at lw_m4 192 rfl) rfl
theorem q1059 : (Jvm.Cond.code ({ cls := "DawnPerquisite$State", name := "keeps", desc := "()V" } : Jvm.MethodName) prog_13_method_5_code (2 : Nat) (Option.none : Option Jvm.ClassFile.FieldType)) ∈ lw_all := lw_g (lw_at lw_m4 193 rfl) rfl
theorem q1060 : (Jvm.Cond.methodLink "DawnPerquisite" (215 : Nat) ({ cls := "DawnPerquisite", name := "sells", desc := "(I)I" } : Jvm.MethodName)) ∈ lw_all := lw_g (lw_at lw_m4 194 rfl) rfl
theorem q1061 : (Jvm.Cond.privateMethod ({ cls := "DawnPerquisite", name := "sells", desc := "(I)I" } : Jvm.MethodName)) ∈ lw_tbl := lw_at lw_m4 195 rfl
theorem q1062 : (Jvm.Cond.instanceMethod ({ cls := "DawnPerquisite", name := "sells", desc := "(I)I" } : Jvm.MethodName)) ∈ lw_all := lw_g (lw_at lw_m4 196 rfl) rfl
theorem q1063 : (Jvm.Cond.code ({ cls := "DawnPerquisite", name := "sells", desc := "(I)I" } : Jvm.MethodName) prog_1_method_29_code (3 : Nat) (Option.some Jvm.ClassFile.FieldType.int)) ∈ lw_all := lw_g (lw_at lw_m4 197 rfl) rfl
theorem q1064 : (Jvm.Cond.methodLink "DawnPerquisite" (197 : Nat) ({ cls := "java/util/Arrays", name := "fill", desc := "([IIII)V" } : Jvm.MethodName)) ∈ lw_all := lw_g (lw_at lw_m4 198 rfl) rfl
theorem q1065 : (Jvm.Cond.constant "DawnPerquisite" (203 : Nat) (99999 : Int32)) ∈ lw_all := lw_g (lw_at lw_m4 199 rfl) rfl
theorem q1066 : (Jvm.Cond.methodLink "DawnPerquisite" (204 : Nat) ({ cls := "java/lang/Math", name := "min", desc := "(II)I" } : Jvm.MethodName)) ∈ lw_all := lw_g (lw_at lw_m4 200 rfl) rfl
theorem q1067 : (Jvm.Cond.methodLink "DawnPerquisite" (206 : Nat) ({ cls := "DawnPerquisite", name := "writes", desc := "([IIII)V" } : Jvm.MethodName)) ∈ lw_all := lw_g (lw_at lw_m4 201 rfl) rfl
theorem q1068 : (Jvm.Cond.static ({ cls := "DawnPerquisite", name := "writes", desc := "([IIII)V" } : Jvm.MethodName)) ∈ lw_all := lw_g (lw_at lw_m4 202 rfl) rfl
theorem q1069 : (Jvm.Cond.code ({ cls := "DawnPerquisite", name := "writes", desc := "([IIII)V" } : Jvm.MethodName) prog_1_method_26_code (5 : Nat) (Option.none : Option Jvm.ClassFile.FieldType)) ∈ lw_all := lw_g (lw_at lw_m4 203 rfl) rfl
theorem q1070 : (Jvm.Cond.methodLink "DawnPerquisiteLaw" (51 : Nat) ({ cls := "DawnPerquisite", name := "give", desc := "(I)Z" } : Jvm.MethodName)) ∈ lw_all := lw_g (lw_at lw_m4 204 rfl) rfl
theorem q1071 : (Jvm.Cond.instanceMethod ({ cls := "DawnPerquisite", name := "give", desc := "(I)Z" } : Jvm.MethodName)) ∈ lw_all := lw_g (lw_at lw_m4 205 rfl) rfl
theorem q1072 : (Jvm.Cond.selects "DawnPerquisite" ({ cls := "DawnPerquisite", name := "give", desc := "(I)Z" } : Jvm.MethodName) ({ cls := "DawnPerquisite", name := "give", desc := "(I)Z" } : Jvm.MethodName)) ∈ lw_all := lw_g (lw_at lw_m4 206 rfl) rfl
theorem q1073 : (Jvm.Cond.code ({ cls := "DawnPerquisite", name := "give", desc := "(I)Z" } : Jvm.MethodName) prog_1_method_35_code (2 : Nat) (Option.some Jvm.ClassFile.FieldType.boolean)) ∈ lw_all := lw_g (lw_at lw_m4 207 rfl) rfl
theorem q1074 : (Jvm.Cond.methodLink "DawnPerquisite" (218 : Nat) ({ cls := "DawnPerquisite", name := "canGive", desc := "(I)Z" } : Jvm.MethodName)) ∈ lw_all := lw_g (lw_at lw_m4 208 rfl) rfl
theorem q1075 : (Jvm.Cond.privateMethod ({ cls := "DawnPerquisite", name := "canGive", desc := "(I)Z" } : Jvm.MethodName)) ∈ lw_tbl := lw_at lw_m4 209 rfl
theorem q1076 : (Jvm.Cond.instanceMethod ({ cls := "DawnPerquisite", name := "canGive", desc := "(I)Z" } : Jvm.MethodName)) ∈ lw_all := lw_g (lw_at lw_m4 210 rfl) rfl
theorem q1077 : (Jvm.Cond.code ({ cls := "DawnPerquisite", name := "canGive", desc := "(I)Z" } : Jvm.MethodName) prog_1_method_30_code (2 : Nat) (Option.some Jvm.ClassFile.FieldType.boolean)) ∈ lw_all := lw_g (lw_at lw_m4 211 rfl) rfl
theorem q1078 : (Jvm.Cond.methodLink "DawnPerquisite" (221 : Nat) ({ cls := "DawnPerquisite", name := "gives", desc := "(I)V" } : Jvm.MethodName)) ∈ lw_all := lw_g (lw_at lw_m4 212 rfl) rfl
theorem q1079 : (Jvm.Cond.privateMethod ({ cls := "DawnPerquisite", name := "gives", desc := "(I)V" } : Jvm.MethodName)) ∈ lw_tbl := lw_at lw_m4 213 rfl
theorem q1080 : (Jvm.Cond.instanceMethod ({ cls := "DawnPerquisite", name := "gives", desc := "(I)V" } : Jvm.MethodName)) ∈ lw_all := lw_g (lw_at lw_m4 214 rfl) rfl
theorem q1081 : (Jvm.Cond.code ({ cls := "DawnPerquisite", name := "gives", desc := "(I)V" } : Jvm.MethodName) prog_1_method_31_code (2 : Nat) (Option.none : Option Jvm.ClassFile.FieldType)) ∈ lw_all := lw_g (lw_at lw_m4 215 rfl) rfl
theorem q1082 : (Jvm.Cond.methodLink "DawnPerquisiteLaw" (55 : Nat) ({ cls := "DawnPerquisite", name := "turn", desc := "(I)Z" } : Jvm.MethodName)) ∈ lw_all := lw_g (lw_at lw_m4 216 rfl) rfl
theorem q1083 : (Jvm.Cond.instanceMethod ({ cls := "DawnPerquisite", name := "turn", desc := "(I)Z" } : Jvm.MethodName)) ∈ lw_all := lw_g (lw_at lw_m4 217 rfl) rfl
theorem q1084 : (Jvm.Cond.selects "DawnPerquisite" ({ cls := "DawnPerquisite", name := "turn", desc := "(I)Z" } : Jvm.MethodName) ({ cls := "DawnPerquisite", name := "turn", desc := "(I)Z" } : Jvm.MethodName)) ∈ lw_all := lw_g (lw_at lw_m4 218 rfl) rfl
theorem q1085 : (Jvm.Cond.code ({ cls := "DawnPerquisite", name := "turn", desc := "(I)Z" } : Jvm.MethodName) prog_1_method_36_code (2 : Nat) (Option.some Jvm.ClassFile.FieldType.boolean)) ∈ lw_all := lw_g (lw_at lw_m4 219 rfl) rfl
theorem q1086 : (Jvm.Cond.methodLink "DawnPerquisite" (224 : Nat) ({ cls := "DawnPerquisite", name := "canTurn", desc := "(I)Z" } : Jvm.MethodName)) ∈ lw_all := lw_g (lw_at lw_m4 220 rfl) rfl
theorem q1087 : (Jvm.Cond.privateMethod ({ cls := "DawnPerquisite", name := "canTurn", desc := "(I)Z" } : Jvm.MethodName)) ∈ lw_tbl := lw_at lw_m4 221 rfl
theorem q1088 : (Jvm.Cond.instanceMethod ({ cls := "DawnPerquisite", name := "canTurn", desc := "(I)Z" } : Jvm.MethodName)) ∈ lw_all := lw_g (lw_at lw_m4 222 rfl) rfl
theorem q1089 : (Jvm.Cond.code ({ cls := "DawnPerquisite", name := "canTurn", desc := "(I)Z" } : Jvm.MethodName) prog_1_method_32_code (2 : Nat) (Option.some Jvm.ClassFile.FieldType.boolean)) ∈ lw_all := lw_g (lw_at lw_m4 223 rfl) rfl
theorem q1090 : (Jvm.Cond.methodLink "DawnPerquisite" (227 : Nat) ({ cls := "DawnPerquisite", name := "turns", desc := "(I)V" } : Jvm.MethodName)) ∈ lw_all := lw_g (lw_at lw_m4 224 rfl) rfl
theorem q1091 : (Jvm.Cond.privateMethod ({ cls := "DawnPerquisite", name := "turns", desc := "(I)V" } : Jvm.MethodName)) ∈ lw_tbl := lw_at lw_m4 225 rfl
theorem q1092 : (Jvm.Cond.instanceMethod ({ cls := "DawnPerquisite", name := "turns", desc := "(I)V" } : Jvm.MethodName)) ∈ lw_all := lw_g (lw_at lw_m4 226 rfl) rfl
theorem q1093 : (Jvm.Cond.code ({ cls := "DawnPerquisite", name := "turns", desc := "(I)V" } : Jvm.MethodName) prog_1_method_33_code (3 : Nat) (Option.none : Option Jvm.ClassFile.FieldType)) ∈ lw_all := lw_g (lw_at lw_m4 227 rfl) rfl
theorem q1094 : (Jvm.Cond.methodLink "DawnPerquisiteLaw" (59 : Nat) ({ cls := "DawnPerquisite", name := "pass", desc := "(II)I" } : Jvm.MethodName)) ∈ lw_all := lw_g (lw_at lw_m4 228 rfl) rfl
theorem q1095 : (Jvm.Cond.instanceMethod ({ cls := "DawnPerquisite", name := "pass", desc := "(II)I" } : Jvm.MethodName)) ∈ lw_all := lw_g (lw_at lw_m4 229 rfl) rfl
theorem q1096 : (Jvm.Cond.selects "DawnPerquisite" ({ cls := "DawnPerquisite", name := "pass", desc := "(II)I" } : Jvm.MethodName) ({ cls := "DawnPerquisite", name := "pass", desc := "(II)I" } : Jvm.MethodName)) ∈ lw_all := lw_g (lw_at lw_m4 230 rfl) rfl
theorem q1097 : (Jvm.Cond.code ({ cls := "DawnPerquisite", name := "pass", desc := "(II)I" } : Jvm.MethodName) prog_1_method_39_code (5 : Nat) (Option.some Jvm.ClassFile.FieldType.int)) ∈ lw_all := lw_g (lw_at lw_m4 231 rfl) rfl
theorem q1098 : (Jvm.Cond.methodLink "DawnPerquisite" (233 : Nat) ({ cls := "DawnPerquisite", name := "canPass", desc := "(II)Z" } : Jvm.MethodName)) ∈ lw_all := lw_g (lw_at lw_m4 232 rfl) rfl
theorem q1099 : (Jvm.Cond.privateMethod ({ cls := "DawnPerquisite", name := "canPass", desc := "(II)Z" } : Jvm.MethodName)) ∈ lw_tbl := lw_at lw_m4 233 rfl
theorem q1100 : (Jvm.Cond.instanceMethod ({ cls := "DawnPerquisite", name := "canPass", desc := "(II)Z" } : Jvm.MethodName)) ∈ lw_all := lw_g (lw_at lw_m4 234 rfl) rfl
theorem q1101 : (Jvm.Cond.code ({ cls := "DawnPerquisite", name := "canPass", desc := "(II)Z" } : Jvm.MethodName) prog_1_method_38_code (4 : Nat) (Option.some Jvm.ClassFile.FieldType.boolean)) ∈ lw_all := lw_g (lw_at lw_m4 235 rfl) rfl
theorem q1102 : (Jvm.Cond.methodLink "DawnPerquisite" (230 : Nat) ({ cls := "DawnPerquisite", name := "priceOf", desc := "(II)I" } : Jvm.MethodName)) ∈ lw_all := lw_g (lw_at lw_m4 236 rfl) rfl
theorem q1103 : (Jvm.Cond.privateMethod ({ cls := "DawnPerquisite", name := "priceOf", desc := "(II)I" } : Jvm.MethodName)) ∈ lw_tbl := lw_at lw_m4 237 rfl
theorem q1104 : (Jvm.Cond.instanceMethod ({ cls := "DawnPerquisite", name := "priceOf", desc := "(II)I" } : Jvm.MethodName)) ∈ lw_all := lw_g (lw_at lw_m4 238 rfl) rfl
theorem q1105 : (Jvm.Cond.code ({ cls := "DawnPerquisite", name := "priceOf", desc := "(II)I" } : Jvm.MethodName) prog_1_method_37_code (3 : Nat) (Option.some Jvm.ClassFile.FieldType.int)) ∈ lw_all := lw_g (lw_at lw_m4 239 rfl) rfl
theorem q1106 : (Jvm.Cond.methodLink "DawnPerquisiteLaw" (64 : Nat) ({ cls := "DawnPerquisite", name := "day", desc := "(I)I" } : Jvm.MethodName)) ∈ lw_all := lw_g (lw_at lw_m5 0 rfl) rfl
theorem q1107 : (Jvm.Cond.instanceMethod ({ cls := "DawnPerquisite", name := "day", desc := "(I)I" } : Jvm.MethodName)) ∈ lw_all := lw_g (lw_at lw_m5 1 rfl) rfl
theorem q1108 : (Jvm.Cond.selects "DawnPerquisite" ({ cls := "DawnPerquisite", name := "day", desc := "(I)I" } : Jvm.MethodName) ({ cls := "DawnPerquisite", name := "day", desc := "(I)I" } : Jvm.MethodName)) ∈ lw_all := lw_g (lw_at lw_m5 2 rfl) rfl
theorem q1109 : (Jvm.Cond.code ({ cls := "DawnPerquisite", name := "day", desc := "(I)I" } : Jvm.MethodName) prog_1_method_46_code (4 : Nat) (Option.some Jvm.ClassFile.FieldType.int)) ∈ lw_all := lw_g (lw_at lw_m5 3 rfl) rfl
theorem q1110 : (Jvm.Cond.methodLink "DawnPerquisite" (253 : Nat) ({ cls := "DawnPerquisite", name := "passes", desc := "([I)I" } : Jvm.MethodName)) ∈ lw_all := lw_g (lw_at lw_m5 4 rfl) rfl
theorem q1111 : (Jvm.Cond.privateMethod ({ cls := "DawnPerquisite", name := "passes", desc := "([I)I" } : Jvm.MethodName)) ∈ lw_tbl := lw_at lw_m5 5 rfl
theorem q1112 : (Jvm.Cond.instanceMethod ({ cls := "DawnPerquisite", name := "passes", desc := "([I)I" } : Jvm.MethodName)) ∈ lw_all := lw_g (lw_at lw_m5 6 rfl) rfl
theorem q1113 : (Jvm.Cond.code ({ cls := "DawnPerquisite", name := "passes", desc := "([I)I" } : Jvm.MethodName) prog_1_method_45_code (3 : Nat) (Option.some Jvm.ClassFile.FieldType.int)) ∈ lw_all := lw_g (lw_at lw_m5 7 rfl) rfl
theorem q1114 : (Jvm.Cond.methodLink "DawnPerquisite" (244 : Nat) ({ cls := "DawnPerquisite", name := "earnsOf", desc := "([II)I" } : Jvm.MethodName)) ∈ lw_all := lw_g (lw_at lw_m5 8 rfl) rfl
theorem q1115 : (Jvm.Cond.privateMethod ({ cls := "DawnPerquisite", name := "earnsOf", desc := "([II)I" } : Jvm.MethodName)) ∈ lw_tbl := lw_at lw_m5 9 rfl
theorem q1116 : (Jvm.Cond.instanceMethod ({ cls := "DawnPerquisite", name := "earnsOf", desc := "([II)I" } : Jvm.MethodName)) ∈ lw_all := lw_g (lw_at lw_m5 10 rfl) rfl
theorem q1117 : (Jvm.Cond.code ({ cls := "DawnPerquisite", name := "earnsOf", desc := "([II)I" } : Jvm.MethodName) prog_1_method_25_code (3 : Nat) (Option.some Jvm.ClassFile.FieldType.int)) ∈ lw_all := lw_g (lw_at lw_m5 11 rfl) rfl
theorem q1118 : (Jvm.Cond.methodLink "DawnPerquisite" (236 : Nat) ({ cls := "DawnPerquisite", name := "toldOdds", desc := "()I" } : Jvm.MethodName)) ∈ lw_all := lw_g (lw_at lw_m5 12 rfl) rfl
theorem q1119 : (Jvm.Cond.privateMethod ({ cls := "DawnPerquisite", name := "toldOdds", desc := "()I" } : Jvm.MethodName)) ∈ lw_tbl := lw_at lw_m5 13 rfl
theorem q1120 : (Jvm.Cond.instanceMethod ({ cls := "DawnPerquisite", name := "toldOdds", desc := "()I" } : Jvm.MethodName)) ∈ lw_all := lw_g (lw_at lw_m5 14 rfl) rfl
theorem q1121 : (Jvm.Cond.code ({ cls := "DawnPerquisite", name := "toldOdds", desc := "()I" } : Jvm.MethodName) prog_1_method_41_code (3 : Nat) (Option.some Jvm.ClassFile.FieldType.int)) ∈ lw_all := lw_g (lw_at lw_m5 15 rfl) rfl
theorem q1122 : (Jvm.Cond.methodLink "DawnPerquisite" (247 : Nat) ({ cls := "DawnPerquisite", name := "drawn", desc := "([II)I" } : Jvm.MethodName)) ∈ lw_all := lw_g (lw_at lw_m5 16 rfl) rfl
theorem q1123 : (Jvm.Cond.static ({ cls := "DawnPerquisite", name := "drawn", desc := "([II)I" } : Jvm.MethodName)) ∈ lw_all := lw_g (lw_at lw_m5 17 rfl) rfl
theorem q1124 : (Jvm.Cond.code ({ cls := "DawnPerquisite", name := "drawn", desc := "([II)I" } : Jvm.MethodName) prog_1_method_40_code (3 : Nat) (Option.some Jvm.ClassFile.FieldType.int)) ∈ lw_all := lw_g (lw_at lw_m5 18 rfl) rfl
theorem q1125 : (Jvm.Cond.methodLink "DawnPerquisite" (250 : Nat) ({ cls := "DawnPerquisite", name := "sortBy", desc := "(I)I" } : Jvm.MethodName)) ∈ lw_all := lw_g (lw_at lw_m5 19 rfl) rfl
theorem q1126 : (Jvm.Cond.privateMethod ({ cls := "DawnPerquisite", name := "sortBy", desc := "(I)I" } : Jvm.MethodName)) ∈ lw_tbl := lw_at lw_m5 20 rfl
theorem q1127 : (Jvm.Cond.instanceMethod ({ cls := "DawnPerquisite", name := "sortBy", desc := "(I)I" } : Jvm.MethodName)) ∈ lw_all := lw_g (lw_at lw_m5 21 rfl) rfl
theorem q1128 : (Jvm.Cond.code ({ cls := "DawnPerquisite", name := "sortBy", desc := "(I)I" } : Jvm.MethodName) prog_1_method_44_code (4 : Nat) (Option.some Jvm.ClassFile.FieldType.int)) ∈ lw_all := lw_g (lw_at lw_m5 22 rfl) rfl
theorem q1129 : (Jvm.Cond.methodLink "DawnPerquisite" (241 : Nat) ({ cls := "DawnPerquisite", name := "oddsOf", desc := "(I)I" } : Jvm.MethodName)) ∈ lw_all := lw_g (lw_at lw_m5 23 rfl) rfl
theorem q1130 : (Jvm.Cond.privateMethod ({ cls := "DawnPerquisite", name := "oddsOf", desc := "(I)I" } : Jvm.MethodName)) ∈ lw_tbl := lw_at lw_m5 24 rfl
theorem q1131 : (Jvm.Cond.instanceMethod ({ cls := "DawnPerquisite", name := "oddsOf", desc := "(I)I" } : Jvm.MethodName)) ∈ lw_all := lw_g (lw_at lw_m5 25 rfl) rfl
theorem q1132 : (Jvm.Cond.code ({ cls := "DawnPerquisite", name := "oddsOf", desc := "(I)I" } : Jvm.MethodName) prog_1_method_42_code (2 : Nat) (Option.some Jvm.ClassFile.FieldType.int)) ∈ lw_all := lw_g (lw_at lw_m5 26 rfl) rfl
theorem q1133 : (Jvm.Cond.methodLink "DawnPerquisiteLaw" (68 : Nat) ({ cls := "DawnPerquisite", name := "played", desc := "(I)I" } : Jvm.MethodName)) ∈ lw_all := lw_g (lw_at lw_m5 27 rfl) rfl
theorem q1134 : (Jvm.Cond.instanceMethod ({ cls := "DawnPerquisite", name := "played", desc := "(I)I" } : Jvm.MethodName)) ∈ lw_all := lw_g (lw_at lw_m5 28 rfl) rfl
theorem q1135 : (Jvm.Cond.selects "DawnPerquisite" ({ cls := "DawnPerquisite", name := "played", desc := "(I)I" } : Jvm.MethodName) ({ cls := "DawnPerquisite", name := "played", desc := "(I)I" } : Jvm.MethodName)) ∈ lw_all := lw_g (lw_at lw_m5 29 rfl) rfl
theorem q1136 : (Jvm.Cond.code ({ cls := "DawnPerquisite", name := "played", desc := "(I)I" } : Jvm.MethodName) prog_1_method_49_code (4 : Nat) (Option.some Jvm.ClassFile.FieldType.int)) ∈ lw_all := lw_g (lw_at lw_m5 30 rfl) rfl
theorem q1137 : (Jvm.Cond.methodLink "DawnPerquisite" (293 : Nat) ({ cls := "java/util/ArrayList", name := "size", desc := "()I" } : Jvm.MethodName)) ∈ lw_all := lw_g (lw_at lw_m5 31 rfl) rfl
theorem q1138 : (Jvm.Cond.methodLink "DawnPerquisite" (298 : Nat) ({ cls := "java/util/ArrayList", name := "get", desc := "(I)Ljava/lang/Object;" } : Jvm.MethodName)) ∈ lw_all := lw_g (lw_at lw_m5 32 rfl) rfl
theorem q1139 : (Jvm.Cond.classLink "DawnPerquisite" (261 : Nat) "DawnPerquisite$Doing") ∈ lw_all := lw_g (lw_at lw_m5 33 rfl) rfl
theorem q1140 : (Jvm.Cond.methodLink "DawnPerquisite" (302 : Nat) ({ cls := "DawnPerquisite", name := "does", desc := "(LDawnPerquisite$Doing;)Z" } : Jvm.MethodName)) ∈ lw_all := lw_g (lw_at lw_m5 34 rfl) rfl
theorem q1141 : (Jvm.Cond.privateMethod ({ cls := "DawnPerquisite", name := "does", desc := "(LDawnPerquisite$Doing;)Z" } : Jvm.MethodName)) ∈ lw_tbl := lw_at lw_m5 35 rfl
theorem q1142 : (Jvm.Cond.instanceMethod ({ cls := "DawnPerquisite", name := "does", desc := "(LDawnPerquisite$Doing;)Z" } : Jvm.MethodName)) ∈ lw_all := lw_g (lw_at lw_m5 36 rfl) rfl
theorem q1143 : (Jvm.Cond.code ({ cls := "DawnPerquisite", name := "does", desc := "(LDawnPerquisite$Doing;)Z" } : Jvm.MethodName) prog_1_method_48_code (2 : Nat) (Option.some Jvm.ClassFile.FieldType.boolean)) ∈ lw_all := lw_g (lw_at lw_m5 37 rfl) rfl
theorem q1144 : (Jvm.Cond.methodLink "DawnPerquisite" (260 : Nat) ({ cls := "DawnPerquisite$Doing", name := "sort", desc := "()I" } : Jvm.MethodName)) ∈ lw_all := lw_g (lw_at lw_m5 38 rfl) rfl
theorem q1145 : (Jvm.Cond.instanceMethod ({ cls := "DawnPerquisite$Doing", name := "sort", desc := "()I" } : Jvm.MethodName)) ∈ lw_all := lw_g (lw_at lw_m5 39 rfl) rfl
theorem q1146 : (Jvm.Cond.selects "DawnPerquisite$Doing" ({ cls := "DawnPerquisite$Doing", name := "sort", desc := "()I" } : Jvm.MethodName) ({ cls := "DawnPerquisite$Doing", name := "sort", desc := "()I" } : Jvm.MethodName)) ∈ lw_all := lw_g (lw_at lw_m5 40 rfl) rfl
theorem q1147 : (Jvm.Cond.code ({ cls := "DawnPerquisite$Doing", name := "sort", desc := "()I" } : Jvm.MethodName) prog_6_method_5_code (1 : Nat) (Option.some Jvm.ClassFile.FieldType.int)) ∈ lw_all := lw_g (lw_at lw_m5 41 rfl) rfl
theorem q1148 : (Jvm.Cond.methodLink "DawnPerquisite" (265 : Nat) ({ cls := "DawnPerquisite$Doing", name := "a", desc := "()I" } : Jvm.MethodName)) ∈ lw_all := lw_g (lw_at lw_m5 42 rfl) rfl
theorem q1149 : (Jvm.Cond.instanceMethod ({ cls := "DawnPerquisite$Doing", name := "a", desc := "()I" } : Jvm.MethodName)) ∈ lw_all := lw_g (lw_at lw_m5 43 rfl) rfl
theorem q1150 : (Jvm.Cond.selects "DawnPerquisite$Doing" ({ cls := "DawnPerquisite$Doing", name := "a", desc := "()I" } : Jvm.MethodName) ({ cls := "DawnPerquisite$Doing", name := "a", desc := "()I" } : Jvm.MethodName)) ∈ lw_all := lw_g (lw_at lw_m5 44 rfl) rfl
theorem q1151 : (Jvm.Cond.code ({ cls := "DawnPerquisite$Doing", name := "a", desc := "()I" } : Jvm.MethodName) prog_6_method_6_code (1 : Nat) (Option.some Jvm.ClassFile.FieldType.int)) ∈ lw_all := lw_g (lw_at lw_m5 45 rfl) rfl
theorem q1152 : (Jvm.Cond.methodLink "DawnPerquisite" (268 : Nat) ({ cls := "DawnPerquisite$Doing", name := "b", desc := "()I" } : Jvm.MethodName)) ∈ lw_all := lw_g (lw_at lw_m5 46 rfl) rfl
theorem q1153 : (Jvm.Cond.instanceMethod ({ cls := "DawnPerquisite$Doing", name := "b", desc := "()I" } : Jvm.MethodName)) ∈ lw_all := lw_g (lw_at lw_m5 47 rfl) rfl
theorem q1154 : (Jvm.Cond.selects "DawnPerquisite$Doing" ({ cls := "DawnPerquisite$Doing", name := "b", desc := "()I" } : Jvm.MethodName) ({ cls := "DawnPerquisite$Doing", name := "b", desc := "()I" } : Jvm.MethodName)) ∈ lw_all := lw_g (lw_at lw_m5 48 rfl) rfl
theorem q1155 : (Jvm.Cond.code ({ cls := "DawnPerquisite$Doing", name := "b", desc := "()I" } : Jvm.MethodName) prog_6_method_7_code (1 : Nat) (Option.some Jvm.ClassFile.FieldType.int)) ∈ lw_all := lw_g (lw_at lw_m5 49 rfl) rfl
theorem q1156 : (Jvm.Cond.methodLink "DawnPerquisite" (271 : Nat) ({ cls := "DawnPerquisite", name := "buyer", desc := "(IIII)I" } : Jvm.MethodName)) ∈ lw_all := lw_g (lw_at lw_m5 50 rfl) rfl
theorem q1157 : (Jvm.Cond.methodLink "DawnPerquisite" (275 : Nat) ({ cls := "DawnPerquisite", name := "sort", desc := "(III)Z" } : Jvm.MethodName)) ∈ lw_all := lw_g (lw_at lw_m5 51 rfl) rfl
theorem q1158 : (Jvm.Cond.methodLink "DawnPerquisite" (277 : Nat) ({ cls := "DawnPerquisite", name := "sell", desc := "(I)I" } : Jvm.MethodName)) ∈ lw_all := lw_g (lw_at lw_m5 52 rfl) rfl
theorem q1159 : (Jvm.Cond.methodLink "DawnPerquisite" (280 : Nat) ({ cls := "DawnPerquisite", name := "give", desc := "(I)Z" } : Jvm.MethodName)) ∈ lw_all := lw_g (lw_at lw_m5 53 rfl) rfl
theorem q1160 : (Jvm.Cond.methodLink "DawnPerquisite" (283 : Nat) ({ cls := "DawnPerquisite", name := "turn", desc := "(I)Z" } : Jvm.MethodName)) ∈ lw_all := lw_g (lw_at lw_m5 54 rfl) rfl
theorem q1161 : (Jvm.Cond.methodLink "DawnPerquisite" (286 : Nat) ({ cls := "DawnPerquisite", name := "passesAll", desc := "(I)Z" } : Jvm.MethodName)) ∈ lw_all := lw_g (lw_at lw_m5 55 rfl) rfl
theorem q1162 : (Jvm.Cond.privateMethod ({ cls := "DawnPerquisite", name := "passesAll", desc := "(I)Z" } : Jvm.MethodName)) ∈ lw_tbl := lw_at lw_m5 56 rfl
theorem q1163 : (Jvm.Cond.instanceMethod ({ cls := "DawnPerquisite", name := "passesAll", desc := "(I)Z" } : Jvm.MethodName)) ∈ lw_all := lw_g (lw_at lw_m5 57 rfl) rfl
theorem q1164 : (Jvm.Cond.code ({ cls := "DawnPerquisite", name := "passesAll", desc := "(I)Z" } : Jvm.MethodName) prog_1_method_47_code (3 : Nat) (Option.some Jvm.ClassFile.FieldType.boolean)) ∈ lw_all := lw_g (lw_at lw_m5 58 rfl) rfl
theorem q1165 : (Jvm.Cond.methodLink "DawnPerquisite" (257 : Nat) ({ cls := "DawnPerquisite", name := "day", desc := "(I)I" } : Jvm.MethodName)) ∈ lw_all := lw_g (lw_at lw_m5 59 rfl) rfl
theorem q1166 : (Jvm.Cond.methodLink "DawnPerquisite" (306 : Nat) ({ cls := "DawnPerquisite$Doing", name := "number", desc := "()I" } : Jvm.MethodName)) ∈ lw_all := lw_g (lw_at lw_m5 60 rfl) rfl
theorem q1167 : (Jvm.Cond.instanceMethod ({ cls := "DawnPerquisite$Doing", name := "number", desc := "()I" } : Jvm.MethodName)) ∈ lw_all := lw_g (lw_at lw_m5 61 rfl) rfl
theorem q1168 : (Jvm.Cond.selects "DawnPerquisite$Doing" ({ cls := "DawnPerquisite$Doing", name := "number", desc := "()I" } : Jvm.MethodName) ({ cls := "DawnPerquisite$Doing", name := "number", desc := "()I" } : Jvm.MethodName)) ∈ lw_all := lw_g (lw_at lw_m5 62 rfl) rfl
theorem q1169 : (Jvm.Cond.code ({ cls := "DawnPerquisite$Doing", name := "number", desc := "()I" } : Jvm.MethodName) prog_6_method_8_code (1 : Nat) (Option.some Jvm.ClassFile.FieldType.int)) ∈ lw_all := lw_g (lw_at lw_m5 63 rfl) rfl
theorem q1170 : (Jvm.Cond.methodLink "DawnPerquisiteLaw" (72 : Nat) ({ cls := "DawnPerquisite", name := "years", desc := "(II)I" } : Jvm.MethodName)) ∈ lw_all := lw_g (lw_at lw_m5 64 rfl) rfl
theorem q1171 : (Jvm.Cond.instanceMethod ({ cls := "DawnPerquisite", name := "years", desc := "(II)I" } : Jvm.MethodName)) ∈ lw_all := lw_g (lw_at lw_m5 65 rfl) rfl
theorem q1172 : (Jvm.Cond.selects "DawnPerquisite" ({ cls := "DawnPerquisite", name := "years", desc := "(II)I" } : Jvm.MethodName) ({ cls := "DawnPerquisite", name := "years", desc := "(II)I" } : Jvm.MethodName)) ∈ lw_all := lw_g (lw_at lw_m5 66 rfl) rfl
theorem q1173 : (Jvm.Cond.code ({ cls := "DawnPerquisite", name := "years", desc := "(II)I" } : Jvm.MethodName) prog_1_method_51_code (7 : Nat) (Option.some Jvm.ClassFile.FieldType.int)) ∈ lw_all := lw_g (lw_at lw_m5 67 rfl) rfl
theorem q1174 : (Jvm.Cond.methodLink "DawnPerquisite" (309 : Nat) ({ cls := "DawnPerquisite", name := "befalls", desc := "(I)V" } : Jvm.MethodName)) ∈ lw_all := lw_g (lw_at lw_m5 68 rfl) rfl
theorem q1175 : (Jvm.Cond.privateMethod ({ cls := "DawnPerquisite", name := "befalls", desc := "(I)V" } : Jvm.MethodName)) ∈ lw_tbl := lw_at lw_m5 69 rfl
theorem q1176 : (Jvm.Cond.instanceMethod ({ cls := "DawnPerquisite", name := "befalls", desc := "(I)V" } : Jvm.MethodName)) ∈ lw_all := lw_g (lw_at lw_m5 70 rfl) rfl
theorem q1177 : (Jvm.Cond.code ({ cls := "DawnPerquisite", name := "befalls", desc := "(I)V" } : Jvm.MethodName) prog_1_method_50_code (4 : Nat) (Option.none : Option Jvm.ClassFile.FieldType)) ∈ lw_all := lw_g (lw_at lw_m5 71 rfl) rfl
theorem q1178 : (Jvm.Cond.methodLink "DawnPerquisiteLaw" (76 : Nat) ({ cls := "DawnPerquisite", name := "undo", desc := "()I" } : Jvm.MethodName)) ∈ lw_all := lw_g (lw_at lw_m5 72 rfl) rfl
theorem q1179 : (Jvm.Cond.instanceMethod ({ cls := "DawnPerquisite", name := "undo", desc := "()I" } : Jvm.MethodName)) ∈ lw_all := lw_g (lw_at lw_m5 73 rfl) rfl
theorem q1180 : (Jvm.Cond.selects "DawnPerquisite" ({ cls := "DawnPerquisite", name := "undo", desc := "()I" } : Jvm.MethodName) ({ cls := "DawnPerquisite", name := "undo", desc := "()I" } : Jvm.MethodName)) ∈ lw_all := lw_g (lw_at lw_m5 74 rfl) rfl
theorem q1181 : (Jvm.Cond.code ({ cls := "DawnPerquisite", name := "undo", desc := "()I" } : Jvm.MethodName) prog_1_method_52_code (1 : Nat) (Option.some Jvm.ClassFile.FieldType.int)) ∈ lw_all := lw_g (lw_at lw_m5 75 rfl) rfl
theorem q1182 : (Jvm.Cond.methodLinkNest "DawnPerquisite" (315 : Nat) ({ cls := "DawnPerquisite$State", name := "copy", desc := "([I[I)V" } : Jvm.MethodName) "DawnPerquisite") ∈ lw_tbl := lw_at lw_m5 76 rfl
theorem q1183 : (Jvm.Cond.methodLink "DawnPerquisiteLaw" (80 : Nat) ({ cls := "DawnPerquisite", name := "of", desc := "(II)I" } : Jvm.MethodName)) ∈ lw_all := lw_g (lw_at lw_m5 77 rfl) rfl
theorem q1184 : (Jvm.Cond.instanceMethod ({ cls := "DawnPerquisite", name := "of", desc := "(II)I" } : Jvm.MethodName)) ∈ lw_all := lw_g (lw_at lw_m5 78 rfl) rfl
theorem q1185 : (Jvm.Cond.selects "DawnPerquisite" ({ cls := "DawnPerquisite", name := "of", desc := "(II)I" } : Jvm.MethodName) ({ cls := "DawnPerquisite", name := "of", desc := "(II)I" } : Jvm.MethodName)) ∈ lw_all := lw_g (lw_at lw_m5 79 rfl) rfl
theorem q1186 : (Jvm.Cond.code ({ cls := "DawnPerquisite", name := "of", desc := "(II)I" } : Jvm.MethodName) prog_1_method_53_code (3 : Nat) (Option.some Jvm.ClassFile.FieldType.int)) ∈ lw_all := lw_g (lw_at lw_m5 80 rfl) rfl
theorem q1187 : (Jvm.Cond.methodLink "DawnPerquisiteLaw" (84 : Nat) ({ cls := "DawnPerquisite", name := "ofSort", desc := "(II)I" } : Jvm.MethodName)) ∈ lw_all := lw_g (lw_at lw_m5 81 rfl) rfl
theorem q1188 : (Jvm.Cond.instanceMethod ({ cls := "DawnPerquisite", name := "ofSort", desc := "(II)I" } : Jvm.MethodName)) ∈ lw_all := lw_g (lw_at lw_m5 82 rfl) rfl
theorem q1189 : (Jvm.Cond.selects "DawnPerquisite" ({ cls := "DawnPerquisite", name := "ofSort", desc := "(II)I" } : Jvm.MethodName) ({ cls := "DawnPerquisite", name := "ofSort", desc := "(II)I" } : Jvm.MethodName)) ∈ lw_all := lw_g (lw_at lw_m5 83 rfl) rfl
theorem q1190 : (Jvm.Cond.code ({ cls := "DawnPerquisite", name := "ofSort", desc := "(II)I" } : Jvm.MethodName) prog_1_method_54_code (3 : Nat) (Option.some Jvm.ClassFile.FieldType.int)) ∈ lw_all := lw_g (lw_at lw_m5 84 rfl) rfl
theorem q1191 : (Jvm.Cond.methodLink "DawnPerquisiteLaw" (88 : Nat) ({ cls := "DawnPerquisite", name := "at", desc := "(I)I" } : Jvm.MethodName)) ∈ lw_all := lw_g (lw_at lw_m5 85 rfl) rfl
theorem q1192 : (Jvm.Cond.instanceMethod ({ cls := "DawnPerquisite", name := "at", desc := "(I)I" } : Jvm.MethodName)) ∈ lw_all := lw_g (lw_at lw_m5 86 rfl) rfl
theorem q1193 : (Jvm.Cond.selects "DawnPerquisite" ({ cls := "DawnPerquisite", name := "at", desc := "(I)I" } : Jvm.MethodName) ({ cls := "DawnPerquisite", name := "at", desc := "(I)I" } : Jvm.MethodName)) ∈ lw_all := lw_g (lw_at lw_m5 87 rfl) rfl
theorem q1194 : (Jvm.Cond.code ({ cls := "DawnPerquisite", name := "at", desc := "(I)I" } : Jvm.MethodName) prog_1_method_55_code (2 : Nat) (Option.some Jvm.ClassFile.FieldType.int)) ∈ lw_all := lw_g (lw_at lw_m5 88 rfl) rfl
theorem q1195 : (Jvm.Cond.methodLink "DawnPerquisiteLaw" (92 : Nat) ({ cls := "DawnPerquisite", name := "is", desc := "(I)I" } : Jvm.MethodName)) ∈ lw_all := lw_g (lw_at lw_m5 89 rfl) rfl
theorem q1196 : (Jvm.Cond.instanceMethod ({ cls := "DawnPerquisite", name := "is", desc := "(I)I" } : Jvm.MethodName)) ∈ lw_all := lw_g (lw_at lw_m5 90 rfl) rfl
theorem q1197 : (Jvm.Cond.selects "DawnPerquisite" ({ cls := "DawnPerquisite", name := "is", desc := "(I)I" } : Jvm.MethodName) ({ cls := "DawnPerquisite", name := "is", desc := "(I)I" } : Jvm.MethodName)) ∈ lw_all := lw_g (lw_at lw_m5 91 rfl) rfl
theorem q1198 : (Jvm.Cond.code ({ cls := "DawnPerquisite", name := "is", desc := "(I)I" } : Jvm.MethodName) prog_1_method_56_code (2 : Nat) (Option.some Jvm.ClassFile.FieldType.int)) ∈ lw_all := lw_g (lw_at lw_m5 92 rfl) rfl
theorem q1199 : (Jvm.Cond.methodLink "DawnPerquisiteLaw" (96 : Nat) ({ cls := "DawnPerquisite", name := "book", desc := "(II)I" } : Jvm.MethodName)) ∈ lw_all := lw_g (lw_at lw_m5 93 rfl) rfl
theorem q1200 : (Jvm.Cond.instanceMethod ({ cls := "DawnPerquisite", name := "book", desc := "(II)I" } : Jvm.MethodName)) ∈ lw_all := lw_g (lw_at lw_m5 94 rfl) rfl
theorem q1201 : (Jvm.Cond.selects "DawnPerquisite" ({ cls := "DawnPerquisite", name := "book", desc := "(II)I" } : Jvm.MethodName) ({ cls := "DawnPerquisite", name := "book", desc := "(II)I" } : Jvm.MethodName)) ∈ lw_all := lw_g (lw_at lw_m5 95 rfl) rfl
theorem q1202 : (Jvm.Cond.code ({ cls := "DawnPerquisite", name := "book", desc := "(II)I" } : Jvm.MethodName) prog_1_method_57_code (3 : Nat) (Option.some Jvm.ClassFile.FieldType.int)) ∈ lw_all := lw_g (lw_at lw_m5 96 rfl) rfl
theorem q1203 : (Jvm.Cond.methodLink "DawnPerquisiteLaw" (100 : Nat) ({ cls := "DawnPerquisite", name := "foretold", desc := "(II)I" } : Jvm.MethodName)) ∈ lw_all := lw_g (lw_at lw_m5 97 rfl) rfl
theorem q1204 : (Jvm.Cond.instanceMethod ({ cls := "DawnPerquisite", name := "foretold", desc := "(II)I" } : Jvm.MethodName)) ∈ lw_all := lw_g (lw_at lw_m5 98 rfl) rfl
theorem q1205 : (Jvm.Cond.selects "DawnPerquisite" ({ cls := "DawnPerquisite", name := "foretold", desc := "(II)I" } : Jvm.MethodName) ({ cls := "DawnPerquisite", name := "foretold", desc := "(II)I" } : Jvm.MethodName)) ∈ lw_all := lw_g (lw_at lw_m5 99 rfl) rfl
theorem q1206 : (Jvm.Cond.code ({ cls := "DawnPerquisite", name := "foretold", desc := "(II)I" } : Jvm.MethodName) prog_1_method_59_code (5 : Nat) (Option.some Jvm.ClassFile.FieldType.int)) ∈ lw_all := lw_g (lw_at lw_m5 100 rfl) rfl
theorem q1207 : (Jvm.Cond.methodLink "DawnPerquisite" (319 : Nat) ({ cls := "DawnPerquisite", name := "pursesOf", desc := "([I)I" } : Jvm.MethodName)) ∈ lw_all := lw_g (lw_at lw_m5 101 rfl) rfl
theorem q1208 : (Jvm.Cond.privateMethod ({ cls := "DawnPerquisite", name := "pursesOf", desc := "([I)I" } : Jvm.MethodName)) ∈ lw_tbl := lw_at lw_m5 102 rfl
theorem q1209 : (Jvm.Cond.instanceMethod ({ cls := "DawnPerquisite", name := "pursesOf", desc := "([I)I" } : Jvm.MethodName)) ∈ lw_all := lw_g (lw_at lw_m5 103 rfl) rfl
theorem q1210 : (Jvm.Cond.code ({ cls := "DawnPerquisite", name := "pursesOf", desc := "([I)I" } : Jvm.MethodName) prog_1_method_58_code (4 : Nat) (Option.some Jvm.ClassFile.FieldType.int)) ∈ lw_all := lw_g (lw_at lw_m5 104 rfl) rfl
theorem q1211 : (Jvm.Cond.methodLink "DawnPerquisiteLaw" (104 : Nat) ({ cls := "DawnPerquisite", name := "pack", desc := "(IZ)I" } : Jvm.MethodName)) ∈ lw_all := lw_g (lw_at lw_m5 105 rfl) rfl
theorem q1212 : (Jvm.Cond.instanceMethod ({ cls := "DawnPerquisite", name := "pack", desc := "(IZ)I" } : Jvm.MethodName)) ∈ lw_all := lw_g (lw_at lw_m5 106 rfl) rfl
theorem q1213 : (Jvm.Cond.selects "DawnPerquisite" ({ cls := "DawnPerquisite", name := "pack", desc := "(IZ)I" } : Jvm.MethodName) ({ cls := "DawnPerquisite", name := "pack", desc := "(IZ)I" } : Jvm.MethodName)) ∈ lw_all := lw_g (lw_at lw_m5 107 rfl) rfl
theorem q1214 : (Jvm.Cond.code ({ cls := "DawnPerquisite", name := "pack", desc := "(IZ)I" } : Jvm.MethodName) prog_1_method_63_code (3 : Nat) (Option.some Jvm.ClassFile.FieldType.int)) ∈ lw_all := lw_g (lw_at lw_m5 108 rfl) rfl
theorem q1215 : (Jvm.Cond.methodLink "DawnPerquisite" (328 : Nat) ({ cls := "DawnPerquisite", name := "packOf", desc := "(II)I" } : Jvm.MethodName)) ∈ lw_all := lw_g (lw_at lw_m5 109 rfl) rfl
theorem q1216 : (Jvm.Cond.privateMethod ({ cls := "DawnPerquisite", name := "packOf", desc := "(II)I" } : Jvm.MethodName)) ∈ lw_tbl := lw_at lw_m5 110 rfl
theorem q1217 : (Jvm.Cond.instanceMethod ({ cls := "DawnPerquisite", name := "packOf", desc := "(II)I" } : Jvm.MethodName)) ∈ lw_all := lw_g (lw_at lw_m5 111 rfl) rfl
theorem q1218 : (Jvm.Cond.code ({ cls := "DawnPerquisite", name := "packOf", desc := "(II)I" } : Jvm.MethodName) prog_1_method_62_code (7 : Nat) (Option.some Jvm.ClassFile.FieldType.int)) ∈ lw_all := lw_g (lw_at lw_m5 112 rfl) rfl
theorem q1219 : (Jvm.Cond.methodLink "DawnPerquisite" (322 : Nat) ({ cls := "DawnPerquisite", name := "everybody", desc := "()I" } : Jvm.MethodName)) ∈ lw_all := lw_g (lw_at lw_m5 113 rfl) rfl
theorem q1220 : (Jvm.Cond.privateMethod ({ cls := "DawnPerquisite", name := "everybody", desc := "()I" } : Jvm.MethodName)) ∈ lw_tbl := lw_at lw_m5 114 rfl
theorem q1221 : (Jvm.Cond.instanceMethod ({ cls := "DawnPerquisite", name := "everybody", desc := "()I" } : Jvm.MethodName)) ∈ lw_all := lw_g (lw_at lw_m5 115 rfl) rfl
theorem q1222 : (Jvm.Cond.code ({ cls := "DawnPerquisite", name := "everybody", desc := "()I" } : Jvm.MethodName) prog_1_method_61_code (1 : Nat) (Option.some Jvm.ClassFile.FieldType.int)) ∈ lw_all := lw_g (lw_at lw_m5 116 rfl) rfl
theorem q1223 : (Jvm.Cond.methodLink "DawnPerquisite" (325 : Nat) ({ cls := "DawnPerquisite", name := "bringsOf", desc := "(II)I" } : Jvm.MethodName)) ∈ lw_all := lw_g (lw_at lw_m5 117 rfl) rfl
theorem q1224 : (Jvm.Cond.privateMethod ({ cls := "DawnPerquisite", name := "bringsOf", desc := "(II)I" } : Jvm.MethodName)) ∈ lw_tbl := lw_at lw_m5 118 rfl
theorem q1225 : (Jvm.Cond.instanceMethod ({ cls := "DawnPerquisite", name := "bringsOf", desc := "(II)I" } : Jvm.MethodName)) ∈ lw_all := lw_g (lw_at lw_m5 119 rfl) rfl
theorem q1226 : (Jvm.Cond.code ({ cls := "DawnPerquisite", name := "bringsOf", desc := "(II)I" } : Jvm.MethodName) prog_1_method_60_code (6 : Nat) (Option.some Jvm.ClassFile.FieldType.int)) ∈ lw_all := lw_g (lw_at lw_m5 120 rfl) rfl
theorem q1227 : (Jvm.Cond.methodLink "DawnPerquisite" (239 : Nat) ({ cls := "java/lang/Math", name := "max", desc := "(II)I" } : Jvm.MethodName)) ∈ lw_all := lw_g (lw_at lw_m5 121 rfl) rfl
theorem q1228 : (Jvm.Cond.methodLink "DawnPerquisiteLaw" (109 : Nat) ({ cls := "DawnPerquisite", name := "see", desc := "(II)I" } : Jvm.MethodName)) ∈ lw_all := lw_g (lw_at lw_m5 122 rfl) rfl
theorem q1229 : (Jvm.Cond.instanceMethod ({ cls := "DawnPerquisite", name := "see", desc := "(II)I" } : Jvm.MethodName)) ∈ lw_all := lw_g (lw_at lw_m5 123 rfl) rfl
theorem q1230 : (Jvm.Cond.selects "DawnPerquisite" ({ cls := "DawnPerquisite", name := "see", desc := "(II)I" } : Jvm.MethodName) ({ cls := "DawnPerquisite", name := "see", desc := "(II)I" } : Jvm.MethodName)) ∈ lw_all := lw_g (lw_at lw_m5 124 rfl) rfl
theorem q1231 : (Jvm.Cond.code ({ cls := "DawnPerquisite", name := "see", desc := "(II)I" } : Jvm.MethodName) prog_1_method_64_code (3 : Nat) (Option.some Jvm.ClassFile.FieldType.int)) ∈ lw_all := lw_g (lw_at lw_m5 125 rfl) rfl
theorem q1232 : (Jvm.Cond.methodLink "DawnPerquisiteLaw" (113 : Nat) ({ cls := "DawnPerquisite", name := "hope", desc := "(IZ)J" } : Jvm.MethodName)) ∈ lw_all := lw_g (lw_at lw_m5 126 rfl) rfl
theorem q1233 : (Jvm.Cond.instanceMethod ({ cls := "DawnPerquisite", name := "hope", desc := "(IZ)J" } : Jvm.MethodName)) ∈ lw_all := lw_g (lw_at lw_m5 127 rfl) rfl
theorem q1234 : (Jvm.Cond.selects "DawnPerquisite" ({ cls := "DawnPerquisite", name := "hope", desc := "(IZ)J" } : Jvm.MethodName) ({ cls := "DawnPerquisite", name := "hope", desc := "(IZ)J" } : Jvm.MethodName)) ∈ lw_all := lw_g (lw_at lw_m5 128 rfl) rfl
theorem q1235 : (Jvm.Cond.code ({ cls := "DawnPerquisite", name := "hope", desc := "(IZ)J" } : Jvm.MethodName) prog_1_method_69_code (3 : Nat) (Option.some Jvm.ClassFile.FieldType.long)) ∈ lw_all := lw_g (lw_at lw_m5 129 rfl) rfl
theorem q1236 : (Jvm.Cond.methodLink "DawnPerquisite" (338 : Nat) ({ cls := "DawnPerquisite", name := "hopeOf", desc := "(I)J" } : Jvm.MethodName)) ∈ lw_all := lw_g (lw_at lw_m5 130 rfl) rfl
theorem q1237 : (Jvm.Cond.privateMethod ({ cls := "DawnPerquisite", name := "hopeOf", desc := "(I)J" } : Jvm.MethodName)) ∈ lw_tbl := lw_at lw_m5 131 rfl
theorem q1238 : (Jvm.Cond.instanceMethod ({ cls := "DawnPerquisite", name := "hopeOf", desc := "(I)J" } : Jvm.MethodName)) ∈ lw_all := lw_g (lw_at lw_m5 132 rfl) rfl
theorem q1239 : (Jvm.Cond.code ({ cls := "DawnPerquisite", name := "hopeOf", desc := "(I)J" } : Jvm.MethodName) prog_1_method_68_code (9 : Nat) (Option.some Jvm.ClassFile.FieldType.long)) ∈ lw_all := lw_g (lw_at lw_m5 133 rfl) rfl
theorem q1240 : (Jvm.Cond.methodLink "DawnPerquisite" (342 : Nat) ({ cls := "DawnPerquisite", name := "allOdds", desc := "()I" } : Jvm.MethodName)) ∈ lw_all := lw_g (lw_at lw_m5 134 rfl) rfl
theorem q1241 : (Jvm.Cond.privateMethod ({ cls := "DawnPerquisite", name := "allOdds", desc := "()I" } : Jvm.MethodName)) ∈ lw_tbl := lw_at lw_m5 135 rfl
theorem q1242 : (Jvm.Cond.instanceMethod ({ cls := "DawnPerquisite", name := "allOdds", desc := "()I" } : Jvm.MethodName)) ∈ lw_all := lw_g (lw_at lw_m5 136 rfl) rfl
theorem q1243 : (Jvm.Cond.code ({ cls := "DawnPerquisite", name := "allOdds", desc := "()I" } : Jvm.MethodName) prog_1_method_43_code (1 : Nat) (Option.some Jvm.ClassFile.FieldType.int)) ∈ lw_all := lw_g (lw_at lw_m5 137 rfl) rfl
theorem q1244 : (Jvm.Cond.methodLink "DawnPerquisite" (334 : Nat) ({ cls := "DawnPerquisite", name := "power", desc := "(JI)J" } : Jvm.MethodName)) ∈ lw_all := lw_g (lw_at lw_m5 138 rfl) rfl
theorem q1245 : (Jvm.Cond.static ({ cls := "DawnPerquisite", name := "power", desc := "(JI)J" } : Jvm.MethodName)) ∈ lw_all := lw_g (lw_at lw_m5 139 rfl) rfl
theorem q1246 : (Jvm.Cond.code ({ cls := "DawnPerquisite", name := "power", desc := "(JI)J" } : Jvm.MethodName) prog_1_method_67_code (3 : Nat) (Option.some Jvm.ClassFile.FieldType.long)) ∈ lw_all := lw_g (lw_at lw_m5 140 rfl) rfl
theorem q1247 : (Jvm.Cond.methodLink "DawnPerquisite" (345 : Nat) ({ cls := "DawnPerquisite", name := "part", desc := "(JJZ)J" } : Jvm.MethodName)) ∈ lw_all := lw_g (lw_at lw_m5 141 rfl) rfl
theorem q1248 : (Jvm.Cond.static ({ cls := "DawnPerquisite", name := "part", desc := "(JJZ)J" } : Jvm.MethodName)) ∈ lw_all := lw_g (lw_at lw_m5 142 rfl) rfl
theorem q1249 : (Jvm.Cond.code ({ cls := "DawnPerquisite", name := "part", desc := "(JJZ)J" } : Jvm.MethodName) prog_1_method_66_code (5 : Nat) (Option.some Jvm.ClassFile.FieldType.long)) ∈ lw_all := lw_g (lw_at lw_m5 143 rfl) rfl
theorem q1250 : (Jvm.Cond.methodLink "DawnPerquisite" (331 : Nat) ({ cls := "DawnPerquisite", name := "common", desc := "(JJ)J" } : Jvm.MethodName)) ∈ lw_all := lw_g (lw_at lw_m5 144 rfl) rfl
theorem q1251 : (Jvm.Cond.static ({ cls := "DawnPerquisite", name := "common", desc := "(JJ)J" } : Jvm.MethodName)) ∈ lw_all := lw_g (lw_at lw_m5 145 rfl) rfl
theorem q1252 : (Jvm.Cond.code ({ cls := "DawnPerquisite", name := "common", desc := "(JJ)J" } : Jvm.MethodName) prog_1_method_65_code (4 : Nat) (Option.some Jvm.ClassFile.FieldType.long)) ∈ lw_all := lw_g (lw_at lw_m5 146 rfl) rfl
theorem q1253 : (Jvm.Cond.constantLong "DawnPerquisite" (349 : Nat) (-1 : Int64)) ∈ lw_all := lw_g (lw_at lw_m5 147 rfl) rfl
theorem q1254 : (Jvm.Cond.methodLink "DawnPerquisiteLaw" (118 : Nat) ({ cls := "DawnPerquisite", name := "keep", desc := "(I)Z" } : Jvm.MethodName)) ∈ lw_all := lw_g (lw_at lw_m5 148 rfl) rfl
theorem q1255 : (Jvm.Cond.instanceMethod ({ cls := "DawnPerquisite", name := "keep", desc := "(I)Z" } : Jvm.MethodName)) ∈ lw_all := lw_g (lw_at lw_m5 149 rfl) rfl
theorem q1256 : (Jvm.Cond.selects "DawnPerquisite" ({ cls := "DawnPerquisite", name := "keep", desc := "(I)Z" } : Jvm.MethodName) ({ cls := "DawnPerquisite", name := "keep", desc := "(I)Z" } : Jvm.MethodName)) ∈ lw_all := lw_g (lw_at lw_m5 150 rfl) rfl
theorem q1257 : (Jvm.Cond.code ({ cls := "DawnPerquisite", name := "keep", desc := "(I)Z" } : Jvm.MethodName) prog_1_method_70_code (2 : Nat) (Option.some Jvm.ClassFile.FieldType.boolean)) ∈ lw_all := lw_g (lw_at lw_m5 151 rfl) rfl
theorem q1258 : (Jvm.Cond.methodLink "DawnPerquisiteLaw" (122 : Nat) ({ cls := "DawnPerquisite", name := "chance", desc := "(IZ)J" } : Jvm.MethodName)) ∈ lw_all := lw_g (lw_at lw_m5 152 rfl) rfl
theorem q1259 : (Jvm.Cond.instanceMethod ({ cls := "DawnPerquisite", name := "chance", desc := "(IZ)J" } : Jvm.MethodName)) ∈ lw_all := lw_g (lw_at lw_m5 153 rfl) rfl
theorem q1260 : (Jvm.Cond.selects "DawnPerquisite" ({ cls := "DawnPerquisite", name := "chance", desc := "(IZ)J" } : Jvm.MethodName) ({ cls := "DawnPerquisite", name := "chance", desc := "(IZ)J" } : Jvm.MethodName)) ∈ lw_all := lw_g (lw_at lw_m5 154 rfl) rfl
theorem q1261 : (Jvm.Cond.code ({ cls := "DawnPerquisite", name := "chance", desc := "(IZ)J" } : Jvm.MethodName) prog_1_method_71_code (3 : Nat) (Option.some Jvm.ClassFile.FieldType.long)) ∈ lw_all := lw_g (lw_at lw_m5 155 rfl) rfl
theorem q1262 : (Jvm.Cond.methodLink "DawnPerquisiteLaw" (126 : Nat) ({ cls := "DawnPerquisite", name := "first", desc := "(I)I" } : Jvm.MethodName)) ∈ lw_all := lw_g (lw_at lw_m5 156 rfl) rfl
theorem q1263 : (Jvm.Cond.instanceMethod ({ cls := "DawnPerquisite", name := "first", desc := "(I)I" } : Jvm.MethodName)) ∈ lw_all := lw_g (lw_at lw_m5 157 rfl) rfl
theorem q1264 : (Jvm.Cond.selects "DawnPerquisite" ({ cls := "DawnPerquisite", name := "first", desc := "(I)I" } : Jvm.MethodName) ({ cls := "DawnPerquisite", name := "first", desc := "(I)I" } : Jvm.MethodName)) ∈ lw_all := lw_g (lw_at lw_m5 158 rfl) rfl
theorem q1265 : (Jvm.Cond.code ({ cls := "DawnPerquisite", name := "first", desc := "(I)I" } : Jvm.MethodName) prog_1_method_72_code (3 : Nat) (Option.some Jvm.ClassFile.FieldType.int)) ∈ lw_all := lw_g (lw_at lw_m5 159 rfl) rfl
theorem q1266 : (Jvm.Cond.constantLong "DawnPerquisite" (351 : Nat) (2 : Int64)) ∈ lw_all := lw_g (lw_at lw_m5 160 rfl) rfl
theorem q1267 : (Jvm.Cond.methodLink "DawnPerquisiteLaw" (130 : Nat) ({ cls := "DawnPerquisite", name := "paid", desc := "(IZ)I" } : Jvm.MethodName)) ∈ lw_all := lw_g (lw_at lw_m5 161 rfl) rfl
theorem q1268 : (Jvm.Cond.instanceMethod ({ cls := "DawnPerquisite", name := "paid", desc := "(IZ)I" } : Jvm.MethodName)) ∈ lw_all := lw_g (lw_at lw_m5 162 rfl) rfl
theorem q1269 : (Jvm.Cond.selects "DawnPerquisite" ({ cls := "DawnPerquisite", name := "paid", desc := "(IZ)I" } : Jvm.MethodName) ({ cls := "DawnPerquisite", name := "paid", desc := "(IZ)I" } : Jvm.MethodName)) ∈ lw_all := lw_g (lw_at lw_m5 163 rfl) rfl
theorem q1270 : (Jvm.Cond.code ({ cls := "DawnPerquisite", name := "paid", desc := "(IZ)I" } : Jvm.MethodName) prog_1_method_73_code (3 : Nat) (Option.some Jvm.ClassFile.FieldType.int)) ∈ lw_all := lw_g (lw_at lw_m5 164 rfl) rfl
theorem q1271 : (Jvm.Cond.methodLink "DawnPerquisite" (353 : Nat) ({ cls := "DawnPerquisite$State", name := "clears", desc := "(I)I" } : Jvm.MethodName)) ∈ lw_all := lw_g (lw_at lw_m5 165 rfl) rfl
theorem q1272 : (Jvm.Cond.instanceMethod ({ cls := "DawnPerquisite$State", name := "clears", desc := "(I)I" } : Jvm.MethodName)) ∈ lw_all := lw_g (lw_at lw_m5 166 rfl) rfl
theorem q1273 : (Jvm.Cond.selects "DawnPerquisite$State" ({ cls := "DawnPerquisite$State", name := "clears", desc := "(I)I" } : Jvm.MethodName) ({ cls := "DawnPerquisite$State", name := "clears", desc := "(I)I" } : Jvm.MethodName)) ∈ lw_all := lw_g (lw_at lw_m5 167 rfl) rfl
theorem q1274 : (Jvm.Cond.code ({ cls := "DawnPerquisite$State", name := "clears", desc := "(I)I" } : Jvm.MethodName) prog_13_method_7_code (2 : Nat) (Option.some Jvm.ClassFile.FieldType.int)) ∈ lw_all := lw_g (lw_at lw_m5 168 rfl) rfl
theorem q1275 : (Jvm.Cond.methodLink "DawnPerquisite" (356 : Nat) ({ cls := "DawnPerquisite", name := "told", desc := "()I" } : Jvm.MethodName)) ∈ lw_all := lw_g (lw_at lw_m5 169 rfl) rfl
theorem q1276 : (Jvm.Cond.privateMethod ({ cls := "DawnPerquisite", name := "told", desc := "()I" } : Jvm.MethodName)) ∈ lw_tbl := lw_at lw_m5 170 rfl
theorem q1277 : (Jvm.Cond.instanceMethod ({ cls := "DawnPerquisite", name := "told", desc := "()I" } : Jvm.MethodName)) ∈ lw_all := lw_g (lw_at lw_m5 171 rfl) rfl
theorem q1278 : (Jvm.Cond.code ({ cls := "DawnPerquisite", name := "told", desc := "()I" } : Jvm.MethodName) prog_1_method_74_code (1 : Nat) (Option.some Jvm.ClassFile.FieldType.int)) ∈ lw_all := lw_g (lw_at lw_m5 172 rfl) rfl
theorem q1279 : (Jvm.Cond.methodLink "DawnPerquisiteLaw" (134 : Nat) ({ cls := "DawnPerquisite", name := "was", desc := "()I" } : Jvm.MethodName)) ∈ lw_all := lw_g (lw_at lw_m5 173 rfl) rfl
theorem q1280 : (Jvm.Cond.instanceMethod ({ cls := "DawnPerquisite", name := "was", desc := "()I" } : Jvm.MethodName)) ∈ lw_all := lw_g (lw_at lw_m5 174 rfl) rfl
theorem q1281 : (Jvm.Cond.selects "DawnPerquisite" ({ cls := "DawnPerquisite", name := "was", desc := "()I" } : Jvm.MethodName) ({ cls := "DawnPerquisite", name := "was", desc := "()I" } : Jvm.MethodName)) ∈ lw_all := lw_g (lw_at lw_m5 175 rfl) rfl
theorem q1282 : (Jvm.Cond.code ({ cls := "DawnPerquisite", name := "was", desc := "()I" } : Jvm.MethodName) prog_1_method_76_code (3 : Nat) (Option.some Jvm.ClassFile.FieldType.int)) ∈ lw_all := lw_g (lw_at lw_m5 176 rfl) rfl
theorem q1283 : (Jvm.Cond.methodLink "DawnPerquisite" (359 : Nat) ({ cls := "DawnPerquisite", name := "couldBe", desc := "(I)Z" } : Jvm.MethodName)) ∈ lw_all := lw_g (lw_at lw_m5 177 rfl) rfl
theorem q1284 : (Jvm.Cond.privateMethod ({ cls := "DawnPerquisite", name := "couldBe", desc := "(I)Z" } : Jvm.MethodName)) ∈ lw_tbl := lw_at lw_m5 178 rfl
theorem q1285 : (Jvm.Cond.instanceMethod ({ cls := "DawnPerquisite", name := "couldBe", desc := "(I)Z" } : Jvm.MethodName)) ∈ lw_all := lw_g (lw_at lw_m5 179 rfl) rfl
theorem q1286 : (Jvm.Cond.code ({ cls := "DawnPerquisite", name := "couldBe", desc := "(I)Z" } : Jvm.MethodName) prog_1_method_75_code (4 : Nat) (Option.some Jvm.ClassFile.FieldType.boolean)) ∈ lw_all := lw_g (lw_at lw_m5 180 rfl) rfl
theorem q1287 : (Jvm.Cond.methodLink "DawnPerquisiteLaw" (143 : Nat) ({ cls := "DawnPerquisite", name := "likeliest", desc := "()I" } : Jvm.MethodName)) ∈ lw_all := lw_g (lw_at lw_m5 181 rfl) rfl
theorem q1288 : (Jvm.Cond.instanceMethod ({ cls := "DawnPerquisite", name := "likeliest", desc := "()I" } : Jvm.MethodName)) ∈ lw_all := lw_g (lw_at lw_m5 182 rfl) rfl
theorem q1289 : (Jvm.Cond.selects "DawnPerquisite" ({ cls := "DawnPerquisite", name := "likeliest", desc := "()I" } : Jvm.MethodName) ({ cls := "DawnPerquisite", name := "likeliest", desc := "()I" } : Jvm.MethodName)) ∈ lw_all := lw_g (lw_at lw_m5 183 rfl) rfl
theorem q1290 : (Jvm.Cond.code ({ cls := "DawnPerquisite", name := "likeliest", desc := "()I" } : Jvm.MethodName) prog_1_method_77_code (3 : Nat) (Option.some Jvm.ClassFile.FieldType.int)) ∈ lw_all := lw_g (lw_at lw_m5 184 rfl) rfl
theorem q1291 : (Jvm.Cond.methodLink "DawnPerquisiteLaw" (138 : Nat) ({ cls := "DawnPerquisite", name := "surest", desc := "(Z)J" } : Jvm.MethodName)) ∈ lw_all := lw_g (lw_at lw_m5 185 rfl) rfl
theorem q1292 : (Jvm.Cond.instanceMethod ({ cls := "DawnPerquisite", name := "surest", desc := "(Z)J" } : Jvm.MethodName)) ∈ lw_all := lw_g (lw_at lw_m5 186 rfl) rfl
theorem q1293 : (Jvm.Cond.selects "DawnPerquisite" ({ cls := "DawnPerquisite", name := "surest", desc := "(Z)J" } : Jvm.MethodName) ({ cls := "DawnPerquisite", name := "surest", desc := "(Z)J" } : Jvm.MethodName)) ∈ lw_all := lw_g (lw_at lw_m5 187 rfl) rfl
theorem q1294 : (Jvm.Cond.code ({ cls := "DawnPerquisite", name := "surest", desc := "(Z)J" } : Jvm.MethodName) prog_1_method_79_code (2 : Nat) (Option.some Jvm.ClassFile.FieldType.long)) ∈ lw_all := lw_g (lw_at lw_m5 188 rfl) rfl
theorem q1295 : (Jvm.Cond.methodLink "DawnPerquisite" (362 : Nat) ({ cls := "DawnPerquisite", name := "likeliest", desc := "()I" } : Jvm.MethodName)) ∈ lw_all := lw_g (lw_at lw_m5 189 rfl) rfl
theorem q1296 : (Jvm.Cond.methodLink "DawnPerquisite" (365 : Nat) ({ cls := "DawnPerquisite", name := "oddsThatFit", desc := "()I" } : Jvm.MethodName)) ∈ lw_all := lw_g (lw_at lw_m5 190 rfl) rfl
theorem q1297 : (Jvm.Cond.privateMethod ({ cls := "DawnPerquisite", name := "oddsThatFit", desc := "()I" } : Jvm.MethodName)) ∈ lw_tbl := lw_at lw_m5 191 rfl
theorem q1298 : (Jvm.Cond.instanceMethod ({ cls := "DawnPerquisite", name := "oddsThatFit", desc := "()I" } : Jvm.MethodName)) ∈ lw_all := lw_g (lw_at lw_m5 192 rfl) rfl
theorem q1299 : (Jvm.Cond.code ({ cls := "DawnPerquisite", name := "oddsThatFit", desc := "()I" } : Jvm.MethodName) prog_1_method_78_code (3 : Nat) (Option.some Jvm.ClassFile.FieldType.int)) ∈ lw_all := lw_g (lw_at lw_m5 193 rfl) rfl
theorem q1300 : (Jvm.Cond.methodLink "DawnPerquisiteLaw" (147 : Nat) ({ cls := "DawnPerquisite", name := "ask", desc := "()I" } : Jvm.MethodName)) ∈ lw_all := lw_g (lw_at lw_m5 194 rfl) rfl
theorem q1301 : (Jvm.Cond.instanceMethod ({ cls := "DawnPerquisite", name := "ask", desc := "()I" } : Jvm.MethodName)) ∈ lw_all := lw_g (lw_at lw_m5 195 rfl) rfl
theorem q1302 : (Jvm.Cond.selects "DawnPerquisite" ({ cls := "DawnPerquisite", name := "ask", desc := "()I" } : Jvm.MethodName) ({ cls := "DawnPerquisite", name := "ask", desc := "()I" } : Jvm.MethodName)) ∈ lw_all := lw_g (lw_at lw_m5 196 rfl) rfl
theorem q1303 : (Jvm.Cond.code ({ cls := "DawnPerquisite", name := "ask", desc := "()I" } : Jvm.MethodName) prog_1_method_81_code (3 : Nat) (Option.some Jvm.ClassFile.FieldType.int)) ∈ lw_all := lw_g (lw_at lw_m5 197 rfl) rfl
theorem q1304 : (Jvm.Cond.methodLink "DawnPerquisite" (368 : Nat) ({ cls := "DawnPerquisite", name := "was", desc := "()I" } : Jvm.MethodName)) ∈ lw_all := lw_g (lw_at lw_m5 198 rfl) rfl
theorem q1305 : (Jvm.Cond.methodLink "DawnPerquisite" (371 : Nat) ({ cls := "DawnPerquisite", name := "greaterPart", desc := "(I)I" } : Jvm.MethodName)) ∈ lw_all := lw_g (lw_at lw_m5 199 rfl) rfl
theorem q1306 : (Jvm.Cond.privateMethod ({ cls := "DawnPerquisite", name := "greaterPart", desc := "(I)I" } : Jvm.MethodName)) ∈ lw_tbl := lw_at lw_m5 200 rfl
theorem q1307 : (Jvm.Cond.instanceMethod ({ cls := "DawnPerquisite", name := "greaterPart", desc := "(I)I" } : Jvm.MethodName)) ∈ lw_all := lw_g (lw_at lw_m5 201 rfl) rfl
theorem q1308 : (Jvm.Cond.code ({ cls := "DawnPerquisite", name := "greaterPart", desc := "(I)I" } : Jvm.MethodName) prog_1_method_80_code (4 : Nat) (Option.some Jvm.ClassFile.FieldType.int)) ∈ lw_all := lw_g (lw_at lw_m5 202 rfl) rfl
theorem q1309 : (Jvm.Cond.methodLink "DawnPerquisiteLaw" (151 : Nat) ({ cls := "DawnPerquisite", name := "auction", desc := "(II)I" } : Jvm.MethodName)) ∈ lw_all := lw_g (lw_at lw_m5 203 rfl) rfl
theorem q1310 : (Jvm.Cond.instanceMethod ({ cls := "DawnPerquisite", name := "auction", desc := "(II)I" } : Jvm.MethodName)) ∈ lw_all := lw_g (lw_at lw_m5 204 rfl) rfl
theorem q1311 : (Jvm.Cond.selects "DawnPerquisite" ({ cls := "DawnPerquisite", name := "auction", desc := "(II)I" } : Jvm.MethodName) ({ cls := "DawnPerquisite", name := "auction", desc := "(II)I" } : Jvm.MethodName)) ∈ lw_all := lw_g (lw_at lw_m5 205 rfl) rfl
theorem q1312 : (Jvm.Cond.code ({ cls := "DawnPerquisite", name := "auction", desc := "(II)I" } : Jvm.MethodName) prog_1_method_83_code (9 : Nat) (Option.some Jvm.ClassFile.FieldType.int)) ∈ lw_all := lw_g (lw_at lw_m5 206 rfl) rfl
theorem q1313 : (Jvm.Cond.methodLink "DawnPerquisite" (374 : Nat) ({ cls := "DawnPerquisite", name := "bidsFor", desc := "(II)I" } : Jvm.MethodName)) ∈ lw_all := lw_g (lw_at lw_m5 207 rfl) rfl
theorem q1314 : (Jvm.Cond.privateMethod ({ cls := "DawnPerquisite", name := "bidsFor", desc := "(II)I" } : Jvm.MethodName)) ∈ lw_tbl := lw_at lw_m5 208 rfl
theorem q1315 : (Jvm.Cond.instanceMethod ({ cls := "DawnPerquisite", name := "bidsFor", desc := "(II)I" } : Jvm.MethodName)) ∈ lw_all := lw_g (lw_at lw_m5 209 rfl) rfl
theorem q1316 : (Jvm.Cond.code ({ cls := "DawnPerquisite", name := "bidsFor", desc := "(II)I" } : Jvm.MethodName) prog_1_method_82_code (3 : Nat) (Option.some Jvm.ClassFile.FieldType.int)) ∈ lw_all := lw_g (lw_at lw_m5 210 rfl) rfl
theorem q1317 : (Jvm.Cond.methodLink "DawnPerquisiteLaw" (155 : Nat) ({ cls := "DawnPerquisite", name := "stab", desc := "(Z)I" } : Jvm.MethodName)) ∈ lw_all := lw_g (lw_at lw_m5 211 rfl) rfl
theorem q1318 : (Jvm.Cond.instanceMethod ({ cls := "DawnPerquisite", name := "stab", desc := "(Z)I" } : Jvm.MethodName)) ∈ lw_all := lw_g (lw_at lw_m5 212 rfl) rfl
theorem q1319 : (Jvm.Cond.selects "DawnPerquisite" ({ cls := "DawnPerquisite", name := "stab", desc := "(Z)I" } : Jvm.MethodName) ({ cls := "DawnPerquisite", name := "stab", desc := "(Z)I" } : Jvm.MethodName)) ∈ lw_all := lw_g (lw_at lw_m5 213 rfl) rfl
theorem q1320 : (Jvm.Cond.code ({ cls := "DawnPerquisite", name := "stab", desc := "(Z)I" } : Jvm.MethodName) prog_1_method_85_code (4 : Nat) (Option.some Jvm.ClassFile.FieldType.int)) ∈ lw_all := lw_g (lw_at lw_m5 214 rfl) rfl
theorem q1321 : (Jvm.Cond.methodLink "DawnPerquisite" (377 : Nat) ({ cls := "DawnPerquisite", name := "servesAll", desc := "(I)Z" } : Jvm.MethodName)) ∈ lw_all := lw_g (lw_at lw_m5 215 rfl) rfl
theorem q1322 : (Jvm.Cond.privateMethod ({ cls := "DawnPerquisite", name := "servesAll", desc := "(I)Z" } : Jvm.MethodName)) ∈ lw_tbl := lw_at lw_m5 216 rfl
theorem q1323 : (Jvm.Cond.instanceMethod ({ cls := "DawnPerquisite", name := "servesAll", desc := "(I)Z" } : Jvm.MethodName)) ∈ lw_all := lw_g (lw_at lw_m5 217 rfl) rfl
theorem q1324 : (Jvm.Cond.code ({ cls := "DawnPerquisite", name := "servesAll", desc := "(I)Z" } : Jvm.MethodName) prog_1_method_84_code (3 : Nat) (Option.some Jvm.ClassFile.FieldType.boolean)) ∈ lw_all := lw_g (lw_at lw_m5 218 rfl) rfl
theorem q1325 : (Jvm.Cond.methodLink "DawnPerquisiteLaw" (160 : Nat) ({ cls := "DawnPerquisite", name := "crowd", desc := "(Z)I" } : Jvm.MethodName)) ∈ lw_all := lw_g (lw_at lw_m5 219 rfl) rfl
theorem q1326 : (Jvm.Cond.instanceMethod ({ cls := "DawnPerquisite", name := "crowd", desc := "(Z)I" } : Jvm.MethodName)) ∈ lw_all := lw_g (lw_at lw_m5 220 rfl) rfl
theorem q1327 : (Jvm.Cond.selects "DawnPerquisite" ({ cls := "DawnPerquisite", name := "crowd", desc := "(Z)I" } : Jvm.MethodName) ({ cls := "DawnPerquisite", name := "crowd", desc := "(Z)I" } : Jvm.MethodName)) ∈ lw_all := lw_g (lw_at lw_m5 221 rfl) rfl
theorem q1328 : (Jvm.Cond.code ({ cls := "DawnPerquisite", name := "crowd", desc := "(Z)I" } : Jvm.MethodName) prog_1_method_87_code (4 : Nat) (Option.some Jvm.ClassFile.FieldType.int)) ∈ lw_all := lw_g (lw_at lw_m5 222 rfl) rfl
theorem q1329 : (Jvm.Cond.methodLink "DawnPerquisite" (380 : Nat) ({ cls := "DawnPerquisite", name := "wantedBy", desc := "(I)I" } : Jvm.MethodName)) ∈ lw_all := lw_g (lw_at lw_m5 223 rfl) rfl
theorem q1330 : (Jvm.Cond.privateMethod ({ cls := "DawnPerquisite", name := "wantedBy", desc := "(I)I" } : Jvm.MethodName)) ∈ lw_tbl := lw_at lw_m5 224 rfl
theorem q1331 : (Jvm.Cond.instanceMethod ({ cls := "DawnPerquisite", name := "wantedBy", desc := "(I)I" } : Jvm.MethodName)) ∈ lw_all := lw_g (lw_at lw_m5 225 rfl) rfl
theorem q1332 : (Jvm.Cond.code ({ cls := "DawnPerquisite", name := "wantedBy", desc := "(I)I" } : Jvm.MethodName) prog_1_method_86_code (4 : Nat) (Option.some Jvm.ClassFile.FieldType.int)) ∈ lw_all := lw_g (lw_at lw_m5 226 rfl) rfl
theorem q1333 : (Jvm.Cond.methodLink "DawnPerquisiteLaw" (164 : Nat) ({ cls := "DawnPerquisite", name := "dawns", desc := "(I)I" } : Jvm.MethodName)) ∈ lw_all := lw_g (lw_at lw_m5 227 rfl) rfl
theorem q1334 : (Jvm.Cond.instanceMethod ({ cls := "DawnPerquisite", name := "dawns", desc := "(I)I" } : Jvm.MethodName)) ∈ lw_all := lw_g (lw_at lw_m5 228 rfl) rfl
theorem q1335 : (Jvm.Cond.selects "DawnPerquisite" ({ cls := "DawnPerquisite", name := "dawns", desc := "(I)I" } : Jvm.MethodName) ({ cls := "DawnPerquisite", name := "dawns", desc := "(I)I" } : Jvm.MethodName)) ∈ lw_all := lw_g (lw_at lw_m5 229 rfl) rfl
theorem q1336 : (Jvm.Cond.code ({ cls := "DawnPerquisite", name := "dawns", desc := "(I)I" } : Jvm.MethodName) prog_1_method_89_code (4 : Nat) (Option.some Jvm.ClassFile.FieldType.int)) ∈ lw_all := lw_g (lw_at lw_m5 230 rfl) rfl
theorem q1337 : (Jvm.Cond.methodLink "DawnPerquisite" (383 : Nat) ({ cls := "java/util/Arrays", name := "fill", desc := "([II)V" } : Jvm.MethodName)) ∈ lw_all := lw_g (lw_at lw_m5 231 rfl) rfl
theorem q1338 : (Jvm.Cond.methodLink "DawnPerquisite" (386 : Nat) ({ cls := "DawnPerquisite", name := "nextBuyer", desc := "()I" } : Jvm.MethodName)) ∈ lw_all := lw_g (lw_at lw_m5 232 rfl) rfl
theorem q1339 : (Jvm.Cond.privateMethod ({ cls := "DawnPerquisite", name := "nextBuyer", desc := "()I" } : Jvm.MethodName)) ∈ lw_tbl := lw_at lw_m5 233 rfl
theorem q1340 : (Jvm.Cond.instanceMethod ({ cls := "DawnPerquisite", name := "nextBuyer", desc := "()I" } : Jvm.MethodName)) ∈ lw_all := lw_g (lw_at lw_m5 234 rfl) rfl
theorem q1341 : (Jvm.Cond.code ({ cls := "DawnPerquisite", name := "nextBuyer", desc := "()I" } : Jvm.MethodName) prog_1_method_88_code (3 : Nat) (Option.some Jvm.ClassFile.FieldType.int)) ∈ lw_all := lw_g (lw_at lw_m5 235 rfl) rfl
theorem q1342 : (Jvm.Cond.methodLink "DawnPerquisiteLaw" (168 : Nat) ({ cls := "DawnPerquisite", name := "month", desc := "(IZ)J" } : Jvm.MethodName)) ∈ lw_all := lw_g (lw_at lw_m5 236 rfl) rfl
theorem q1343 : (Jvm.Cond.instanceMethod ({ cls := "DawnPerquisite", name := "month", desc := "(IZ)J" } : Jvm.MethodName)) ∈ lw_all := lw_g (lw_at lw_m5 237 rfl) rfl
theorem q1344 : (Jvm.Cond.selects "DawnPerquisite" ({ cls := "DawnPerquisite", name := "month", desc := "(IZ)J" } : Jvm.MethodName) ({ cls := "DawnPerquisite", name := "month", desc := "(IZ)J" } : Jvm.MethodName)) ∈ lw_all := lw_g (lw_at lw_m5 238 rfl) rfl
theorem q1345 : (Jvm.Cond.code ({ cls := "DawnPerquisite", name := "month", desc := "(IZ)J" } : Jvm.MethodName) prog_1_method_90_code (6 : Nat) (Option.some Jvm.ClassFile.FieldType.long)) ∈ lw_all := lw_g (lw_at lw_m5 239 rfl) rfl
theorem q1346 : (Jvm.Cond.methodLink "DawnPerquisite" (389 : Nat) ({ cls := "DawnPerquisite", name := "pack", desc := "(IZ)I" } : Jvm.MethodName)) ∈ lw_all := lw_g (lw_at lw_m6 0 rfl) rfl
theorem q1347 : (Jvm.Cond.methodLink "DawnPerquisiteLaw" (172 : Nat) ({ cls := "DawnPerquisite", name := "value", desc := "(II)Z" } : Jvm.MethodName)) ∈ lw_all := lw_g (lw_at lw_m6 1 rfl) rfl
theorem q1348 : (Jvm.Cond.instanceMethod ({ cls := "DawnPerquisite", name := "value", desc := "(II)Z" } : Jvm.MethodName)) ∈ lw_all := lw_g (lw_at lw_m6 2 rfl) rfl
theorem q1349 : (Jvm.Cond.selects "DawnPerquisite" ({ cls := "DawnPerquisite", name := "value", desc := "(II)Z" } : Jvm.MethodName) ({ cls := "DawnPerquisite", name := "value", desc := "(II)Z" } : Jvm.MethodName)) ∈ lw_all := lw_g (lw_at lw_m6 3 rfl) rfl
theorem q1350 : (Jvm.Cond.code ({ cls := "DawnPerquisite", name := "value", desc := "(II)Z" } : Jvm.MethodName) prog_1_method_91_code (3 : Nat) (Option.some Jvm.ClassFile.FieldType.boolean)) ∈ lw_all := lw_g (lw_at lw_m6 4 rfl) rfl
theorem q1351 : (Jvm.Cond.methodLink "DawnPerquisiteLaw" (177 : Nat) ({ cls := "DawnPerquisite", name := "ends", desc := "(II)I" } : Jvm.MethodName)) ∈ lw_all := lw_g (lw_at lw_m6 5 rfl) rfl
theorem q1352 : (Jvm.Cond.instanceMethod ({ cls := "DawnPerquisite", name := "ends", desc := "(II)I" } : Jvm.MethodName)) ∈ lw_all := lw_g (lw_at lw_m6 6 rfl) rfl
theorem q1353 : (Jvm.Cond.selects "DawnPerquisite" ({ cls := "DawnPerquisite", name := "ends", desc := "(II)I" } : Jvm.MethodName) ({ cls := "DawnPerquisite", name := "ends", desc := "(II)I" } : Jvm.MethodName)) ∈ lw_all := lw_g (lw_at lw_m6 7 rfl) rfl
theorem q1354 : (Jvm.Cond.code ({ cls := "DawnPerquisite", name := "ends", desc := "(II)I" } : Jvm.MethodName) prog_1_method_96_code (3 : Nat) (Option.some Jvm.ClassFile.FieldType.int)) ∈ lw_all := lw_g (lw_at lw_m6 8 rfl) rfl
theorem q1355 : (Jvm.Cond.methodLink "DawnPerquisite" (402 : Nat) ({ cls := "DawnPerquisite", name := "areSlices", desc := "(II)Z" } : Jvm.MethodName)) ∈ lw_all := lw_g (lw_at lw_m6 9 rfl) rfl
theorem q1356 : (Jvm.Cond.static ({ cls := "DawnPerquisite", name := "areSlices", desc := "(II)Z" } : Jvm.MethodName)) ∈ lw_all := lw_g (lw_at lw_m6 10 rfl) rfl
theorem q1357 : (Jvm.Cond.code ({ cls := "DawnPerquisite", name := "areSlices", desc := "(II)Z" } : Jvm.MethodName) prog_1_method_92_code (2 : Nat) (Option.some Jvm.ClassFile.FieldType.boolean)) ∈ lw_all := lw_g (lw_at lw_m6 11 rfl) rfl
theorem q1358 : (Jvm.Cond.methodLink "DawnPerquisite" (405 : Nat) ({ cls := "DawnPerquisite", name := "laysMore", desc := "()V" } : Jvm.MethodName)) ∈ lw_all := lw_g (lw_at lw_m6 12 rfl) rfl
theorem q1359 : (Jvm.Cond.privateMethod ({ cls := "DawnPerquisite", name := "laysMore", desc := "()V" } : Jvm.MethodName)) ∈ lw_tbl := lw_at lw_m6 13 rfl
theorem q1360 : (Jvm.Cond.instanceMethod ({ cls := "DawnPerquisite", name := "laysMore", desc := "()V" } : Jvm.MethodName)) ∈ lw_all := lw_g (lw_at lw_m6 14 rfl) rfl
theorem q1361 : (Jvm.Cond.code ({ cls := "DawnPerquisite", name := "laysMore", desc := "()V" } : Jvm.MethodName) prog_1_method_95_code (3 : Nat) (Option.none : Option Jvm.ClassFile.FieldType)) ∈ lw_all := lw_g (lw_at lw_m6 15 rfl) rfl
theorem q1362 : (Jvm.Cond.methodLink "DawnPerquisite" (396 : Nat) ({ cls := "DawnPerquisite", name := "leftFirst", desc := "(II)I" } : Jvm.MethodName)) ∈ lw_all := lw_g (lw_at lw_m6 16 rfl) rfl
theorem q1363 : (Jvm.Cond.privateMethod ({ cls := "DawnPerquisite", name := "leftFirst", desc := "(II)I" } : Jvm.MethodName)) ∈ lw_tbl := lw_at lw_m6 17 rfl
theorem q1364 : (Jvm.Cond.instanceMethod ({ cls := "DawnPerquisite", name := "leftFirst", desc := "(II)I" } : Jvm.MethodName)) ∈ lw_all := lw_g (lw_at lw_m6 18 rfl) rfl
theorem q1365 : (Jvm.Cond.code ({ cls := "DawnPerquisite", name := "leftFirst", desc := "(II)I" } : Jvm.MethodName) prog_1_method_93_code (3 : Nat) (Option.some Jvm.ClassFile.FieldType.int)) ∈ lw_all := lw_g (lw_at lw_m6 19 rfl) rfl
theorem q1366 : (Jvm.Cond.methodLink "DawnPerquisite" (399 : Nat) ({ cls := "DawnPerquisite", name := "rightFirst", desc := "(II)I" } : Jvm.MethodName)) ∈ lw_all := lw_g (lw_at lw_m6 20 rfl) rfl
theorem q1367 : (Jvm.Cond.privateMethod ({ cls := "DawnPerquisite", name := "rightFirst", desc := "(II)I" } : Jvm.MethodName)) ∈ lw_tbl := lw_at lw_m6 21 rfl
theorem q1368 : (Jvm.Cond.instanceMethod ({ cls := "DawnPerquisite", name := "rightFirst", desc := "(II)I" } : Jvm.MethodName)) ∈ lw_all := lw_g (lw_at lw_m6 22 rfl) rfl
theorem q1369 : (Jvm.Cond.code ({ cls := "DawnPerquisite", name := "rightFirst", desc := "(II)I" } : Jvm.MethodName) prog_1_method_94_code (3 : Nat) (Option.some Jvm.ClassFile.FieldType.int)) ∈ lw_all := lw_g (lw_at lw_m6 23 rfl) rfl
theorem q1370 : (Jvm.Cond.methodLink "DawnPerquisiteLaw" (181 : Nat) ({ cls := "DawnPerquisite", name := "take", desc := "(II)I" } : Jvm.MethodName)) ∈ lw_all := lw_g (lw_at lw_m6 24 rfl) rfl
theorem q1371 : (Jvm.Cond.instanceMethod ({ cls := "DawnPerquisite", name := "take", desc := "(II)I" } : Jvm.MethodName)) ∈ lw_all := lw_g (lw_at lw_m6 25 rfl) rfl
theorem q1372 : (Jvm.Cond.selects "DawnPerquisite" ({ cls := "DawnPerquisite", name := "take", desc := "(II)I" } : Jvm.MethodName) ({ cls := "DawnPerquisite", name := "take", desc := "(II)I" } : Jvm.MethodName)) ∈ lw_all := lw_g (lw_at lw_m6 26 rfl) rfl
theorem q1373 : (Jvm.Cond.code ({ cls := "DawnPerquisite", name := "take", desc := "(II)I" } : Jvm.MethodName) prog_1_method_97_code (3 : Nat) (Option.some Jvm.ClassFile.FieldType.int)) ∈ lw_all := lw_g (lw_at lw_m6 27 rfl) rfl
theorem q1374 : (Jvm.Cond.methodLink "DawnPerquisiteLaw" (185 : Nat) ({ cls := "DawnPerquisite", name := "best", desc := "(III)I" } : Jvm.MethodName)) ∈ lw_all := lw_g (lw_at lw_m6 28 rfl) rfl
theorem q1375 : (Jvm.Cond.instanceMethod ({ cls := "DawnPerquisite", name := "best", desc := "(III)I" } : Jvm.MethodName)) ∈ lw_all := lw_g (lw_at lw_m6 29 rfl) rfl
theorem q1376 : (Jvm.Cond.selects "DawnPerquisite" ({ cls := "DawnPerquisite", name := "best", desc := "(III)I" } : Jvm.MethodName) ({ cls := "DawnPerquisite", name := "best", desc := "(III)I" } : Jvm.MethodName)) ∈ lw_all := lw_g (lw_at lw_m6 30 rfl) rfl
theorem q1377 : (Jvm.Cond.code ({ cls := "DawnPerquisite", name := "best", desc := "(III)I" } : Jvm.MethodName) prog_1_method_99_code (8 : Nat) (Option.some Jvm.ClassFile.FieldType.int)) ∈ lw_all := lw_g (lw_at lw_m6 31 rfl) rfl
theorem q1378 : (Jvm.Cond.methodLink "DawnPerquisite" (408 : Nat) ({ cls := "DawnPerquisite", name := "runOf", desc := "(II)I" } : Jvm.MethodName)) ∈ lw_all := lw_g (lw_at lw_m6 32 rfl) rfl
theorem q1379 : (Jvm.Cond.privateMethod ({ cls := "DawnPerquisite", name := "runOf", desc := "(II)I" } : Jvm.MethodName)) ∈ lw_tbl := lw_at lw_m6 33 rfl
theorem q1380 : (Jvm.Cond.instanceMethod ({ cls := "DawnPerquisite", name := "runOf", desc := "(II)I" } : Jvm.MethodName)) ∈ lw_all := lw_g (lw_at lw_m6 34 rfl) rfl
theorem q1381 : (Jvm.Cond.code ({ cls := "DawnPerquisite", name := "runOf", desc := "(II)I" } : Jvm.MethodName) prog_1_method_98_code (5 : Nat) (Option.some Jvm.ClassFile.FieldType.int)) ∈ lw_all := lw_g (lw_at lw_m6 35 rfl) rfl
theorem q1382 : (Jvm.Cond.methodLink "DawnPerquisiteLaw" (190 : Nat) ({ cls := "DawnPerquisite", name := "said", desc := "(II)I" } : Jvm.MethodName)) ∈ lw_all := lw_g (lw_at lw_m6 36 rfl) rfl
theorem q1383 : (Jvm.Cond.instanceMethod ({ cls := "DawnPerquisite", name := "said", desc := "(II)I" } : Jvm.MethodName)) ∈ lw_all := lw_g (lw_at lw_m6 37 rfl) rfl
theorem q1384 : (Jvm.Cond.selects "DawnPerquisite" ({ cls := "DawnPerquisite", name := "said", desc := "(II)I" } : Jvm.MethodName) ({ cls := "DawnPerquisite", name := "said", desc := "(II)I" } : Jvm.MethodName)) ∈ lw_all := lw_g (lw_at lw_m6 38 rfl) rfl
theorem q1385 : (Jvm.Cond.code ({ cls := "DawnPerquisite", name := "said", desc := "(II)I" } : Jvm.MethodName) prog_1_method_100_code (3 : Nat) (Option.some Jvm.ClassFile.FieldType.int)) ∈ lw_all := lw_g (lw_at lw_m6 39 rfl) rfl
theorem q1386 : (Jvm.Cond.methodLink "DawnPerquisiteLaw" (194 : Nat) ({ cls := "DawnPerquisite", name := "whose", desc := "()I" } : Jvm.MethodName)) ∈ lw_all := lw_g (lw_at lw_m6 40 rfl) rfl
theorem q1387 : (Jvm.Cond.instanceMethod ({ cls := "DawnPerquisite", name := "whose", desc := "()I" } : Jvm.MethodName)) ∈ lw_all := lw_g (lw_at lw_m6 41 rfl) rfl
theorem q1388 : (Jvm.Cond.selects "DawnPerquisite" ({ cls := "DawnPerquisite", name := "whose", desc := "()I" } : Jvm.MethodName) ({ cls := "DawnPerquisite", name := "whose", desc := "()I" } : Jvm.MethodName)) ∈ lw_all := lw_g (lw_at lw_m6 42 rfl) rfl
theorem q1389 : (Jvm.Cond.code ({ cls := "DawnPerquisite", name := "whose", desc := "()I" } : Jvm.MethodName) prog_1_method_102_code (3 : Nat) (Option.some Jvm.ClassFile.FieldType.int)) ∈ lw_all := lw_g (lw_at lw_m6 43 rfl) rfl
theorem q1390 : (Jvm.Cond.methodLink "DawnPerquisite" (414 : Nat) ({ cls := "DawnPerquisite", name := "isLaw", desc := "(LDawnPerquisite$Text;)Z" } : Jvm.MethodName)) ∈ lw_all := lw_g (lw_at lw_m6 44 rfl) rfl
theorem q1391 : (Jvm.Cond.privateMethod ({ cls := "DawnPerquisite", name := "isLaw", desc := "(LDawnPerquisite$Text;)Z" } : Jvm.MethodName)) ∈ lw_tbl := lw_at lw_m6 45 rfl
theorem q1392 : (Jvm.Cond.instanceMethod ({ cls := "DawnPerquisite", name := "isLaw", desc := "(LDawnPerquisite$Text;)Z" } : Jvm.MethodName)) ∈ lw_all := lw_g (lw_at lw_m6 46 rfl) rfl
theorem q1393 : (Jvm.Cond.code ({ cls := "DawnPerquisite", name := "isLaw", desc := "(LDawnPerquisite$Text;)Z" } : Jvm.MethodName) prog_1_method_101_code (3 : Nat) (Option.some Jvm.ClassFile.FieldType.boolean)) ∈ lw_all := lw_g (lw_at lw_m6 47 rfl) rfl
theorem q1394 : (Jvm.Cond.methodLink "DawnPerquisiteLaw" (198 : Nat) ({ cls := "DawnPerquisite", name := "richest", desc := "()I" } : Jvm.MethodName)) ∈ lw_all := lw_g (lw_at lw_m6 48 rfl) rfl
theorem q1395 : (Jvm.Cond.instanceMethod ({ cls := "DawnPerquisite", name := "richest", desc := "()I" } : Jvm.MethodName)) ∈ lw_all := lw_g (lw_at lw_m6 49 rfl) rfl
theorem q1396 : (Jvm.Cond.selects "DawnPerquisite" ({ cls := "DawnPerquisite", name := "richest", desc := "()I" } : Jvm.MethodName) ({ cls := "DawnPerquisite", name := "richest", desc := "()I" } : Jvm.MethodName)) ∈ lw_all := lw_g (lw_at lw_m6 50 rfl) rfl
theorem q1397 : (Jvm.Cond.code ({ cls := "DawnPerquisite", name := "richest", desc := "()I" } : Jvm.MethodName) prog_1_method_103_code (3 : Nat) (Option.some Jvm.ClassFile.FieldType.int)) ∈ lw_all := lw_g (lw_at lw_m6 51 rfl) rfl
theorem q1398 : (Jvm.Cond.methodLink "DawnPerquisiteLaw" (202 : Nat) ({ cls := "DawnPerquisite", name := "rival", desc := "(I)I" } : Jvm.MethodName)) ∈ lw_all := lw_g (lw_at lw_m6 52 rfl) rfl
theorem q1399 : (Jvm.Cond.instanceMethod ({ cls := "DawnPerquisite", name := "rival", desc := "(I)I" } : Jvm.MethodName)) ∈ lw_all := lw_g (lw_at lw_m6 53 rfl) rfl
theorem q1400 : (Jvm.Cond.selects "DawnPerquisite" ({ cls := "DawnPerquisite", name := "rival", desc := "(I)I" } : Jvm.MethodName) ({ cls := "DawnPerquisite", name := "rival", desc := "(I)I" } : Jvm.MethodName)) ∈ lw_all := lw_g (lw_at lw_m6 54 rfl) rfl
theorem q1401 : (Jvm.Cond.code ({ cls := "DawnPerquisite", name := "rival", desc := "(I)I" } : Jvm.MethodName) prog_1_method_104_code (4 : Nat) (Option.some Jvm.ClassFile.FieldType.int)) ∈ lw_all := lw_g (lw_at lw_m6 55 rfl) rfl
theorem q1402 : (Jvm.Cond.methodLink "DawnPerquisiteLaw" (206 : Nat) ({ cls := "DawnPerquisite", name := "learnt", desc := "(IZ)J" } : Jvm.MethodName)) ∈ lw_all := lw_g (lw_at lw_m6 56 rfl) rfl
theorem q1403 : (Jvm.Cond.instanceMethod ({ cls := "DawnPerquisite", name := "learnt", desc := "(IZ)J" } : Jvm.MethodName)) ∈ lw_all := lw_g (lw_at lw_m6 57 rfl) rfl
theorem q1404 : (Jvm.Cond.selects "DawnPerquisite" ({ cls := "DawnPerquisite", name := "learnt", desc := "(IZ)J" } : Jvm.MethodName) ({ cls := "DawnPerquisite", name := "learnt", desc := "(IZ)J" } : Jvm.MethodName)) ∈ lw_all := lw_g (lw_at lw_m6 58 rfl) rfl
theorem q1405 : (Jvm.Cond.code ({ cls := "DawnPerquisite", name := "learnt", desc := "(IZ)J" } : Jvm.MethodName) prog_1_method_105_code (8 : Nat) (Option.some Jvm.ClassFile.FieldType.long)) ∈ lw_all := lw_g (lw_at lw_m6 59 rfl) rfl
theorem q1406 : (Jvm.Cond.constantLong "DawnPerquisite" (418 : Nat) (5 : Int64)) ∈ lw_all := lw_g (lw_at lw_m6 60 rfl) rfl
theorem q1407 : (Jvm.Cond.methodLink "DawnPerquisiteLaw" (210 : Nat) ({ cls := "DawnPerquisite", name := "wanted", desc := "(I)I" } : Jvm.MethodName)) ∈ lw_all := lw_g (lw_at lw_m6 61 rfl) rfl
theorem q1408 : (Jvm.Cond.instanceMethod ({ cls := "DawnPerquisite", name := "wanted", desc := "(I)I" } : Jvm.MethodName)) ∈ lw_all := lw_g (lw_at lw_m6 62 rfl) rfl
theorem q1409 : (Jvm.Cond.selects "DawnPerquisite" ({ cls := "DawnPerquisite", name := "wanted", desc := "(I)I" } : Jvm.MethodName) ({ cls := "DawnPerquisite", name := "wanted", desc := "(I)I" } : Jvm.MethodName)) ∈ lw_all := lw_g (lw_at lw_m6 63 rfl) rfl
theorem q1410 : (Jvm.Cond.code ({ cls := "DawnPerquisite", name := "wanted", desc := "(I)I" } : Jvm.MethodName) prog_1_method_106_code (4 : Nat) (Option.some Jvm.ClassFile.FieldType.int)) ∈ lw_all := lw_g (lw_at lw_m6 64 rfl) rfl
theorem q1411 : (Jvm.Cond.methodLink "DawnPerquisiteLaw" (214 : Nat) ({ cls := "DawnPerquisite", name := "alone", desc := "(I)I" } : Jvm.MethodName)) ∈ lw_all := lw_g (lw_at lw_m6 65 rfl) rfl
theorem q1412 : (Jvm.Cond.instanceMethod ({ cls := "DawnPerquisite", name := "alone", desc := "(I)I" } : Jvm.MethodName)) ∈ lw_all := lw_g (lw_at lw_m6 66 rfl) rfl
theorem q1413 : (Jvm.Cond.selects "DawnPerquisite" ({ cls := "DawnPerquisite", name := "alone", desc := "(I)I" } : Jvm.MethodName) ({ cls := "DawnPerquisite", name := "alone", desc := "(I)I" } : Jvm.MethodName)) ∈ lw_all := lw_g (lw_at lw_m6 67 rfl) rfl
theorem q1414 : (Jvm.Cond.code ({ cls := "DawnPerquisite", name := "alone", desc := "(I)I" } : Jvm.MethodName) prog_1_method_107_code (4 : Nat) (Option.some Jvm.ClassFile.FieldType.int)) ∈ lw_all := lw_g (lw_at lw_m6 68 rfl) rfl
theorem q1415 : (Jvm.Cond.methodLink "DawnPerquisiteLaw" (218 : Nat) ({ cls := "DawnPerquisite", name := "since", desc := "(I)I" } : Jvm.MethodName)) ∈ lw_all := lw_g (lw_at lw_m6 69 rfl) rfl
theorem q1416 : (Jvm.Cond.instanceMethod ({ cls := "DawnPerquisite", name := "since", desc := "(I)I" } : Jvm.MethodName)) ∈ lw_all := lw_g (lw_at lw_m6 70 rfl) rfl
theorem q1417 : (Jvm.Cond.selects "DawnPerquisite" ({ cls := "DawnPerquisite", name := "since", desc := "(I)I" } : Jvm.MethodName) ({ cls := "DawnPerquisite", name := "since", desc := "(I)I" } : Jvm.MethodName)) ∈ lw_all := lw_g (lw_at lw_m6 71 rfl) rfl
theorem q1418 : (Jvm.Cond.code ({ cls := "DawnPerquisite", name := "since", desc := "(I)I" } : Jvm.MethodName) prog_1_method_108_code (4 : Nat) (Option.some Jvm.ClassFile.FieldType.int)) ∈ lw_all := lw_g (lw_at lw_m6 72 rfl) rfl
theorem q1419 : (Jvm.Cond.methodLink "DawnPerquisiteLaw" (222 : Nat) ({ cls := "DawnPerquisite", name := "idle", desc := "()I" } : Jvm.MethodName)) ∈ lw_all := lw_g (lw_at lw_m6 73 rfl) rfl
theorem q1420 : (Jvm.Cond.instanceMethod ({ cls := "DawnPerquisite", name := "idle", desc := "()I" } : Jvm.MethodName)) ∈ lw_all := lw_g (lw_at lw_m6 74 rfl) rfl
theorem q1421 : (Jvm.Cond.selects "DawnPerquisite" ({ cls := "DawnPerquisite", name := "idle", desc := "()I" } : Jvm.MethodName) ({ cls := "DawnPerquisite", name := "idle", desc := "()I" } : Jvm.MethodName)) ∈ lw_all := lw_g (lw_at lw_m6 75 rfl) rfl
theorem q1422 : (Jvm.Cond.code ({ cls := "DawnPerquisite", name := "idle", desc := "()I" } : Jvm.MethodName) prog_1_method_109_code (3 : Nat) (Option.some Jvm.ClassFile.FieldType.int)) ∈ lw_all := lw_g (lw_at lw_m6 76 rfl) rfl
theorem q1423 : (Jvm.Cond.methodLink "DawnPerquisiteLaw" (226 : Nat) ({ cls := "DawnPerquisite", name := "poor", desc := "()I" } : Jvm.MethodName)) ∈ lw_all := lw_g (lw_at lw_m6 77 rfl) rfl
theorem q1424 : (Jvm.Cond.instanceMethod ({ cls := "DawnPerquisite", name := "poor", desc := "()I" } : Jvm.MethodName)) ∈ lw_all := lw_g (lw_at lw_m6 78 rfl) rfl
theorem q1425 : (Jvm.Cond.selects "DawnPerquisite" ({ cls := "DawnPerquisite", name := "poor", desc := "()I" } : Jvm.MethodName) ({ cls := "DawnPerquisite", name := "poor", desc := "()I" } : Jvm.MethodName)) ∈ lw_all := lw_g (lw_at lw_m6 79 rfl) rfl
theorem q1426 : (Jvm.Cond.code ({ cls := "DawnPerquisite", name := "poor", desc := "()I" } : Jvm.MethodName) prog_1_method_110_code (3 : Nat) (Option.some Jvm.ClassFile.FieldType.int)) ∈ lw_all := lw_g (lw_at lw_m6 80 rfl) rfl
theorem q1427 : (Jvm.Cond.methodLink "DawnPerquisiteLaw" (230 : Nat) ({ cls := "DawnPerquisite", name := "room", desc := "(I)I" } : Jvm.MethodName)) ∈ lw_all := lw_g (lw_at lw_m6 81 rfl) rfl
theorem q1428 : (Jvm.Cond.instanceMethod ({ cls := "DawnPerquisite", name := "room", desc := "(I)I" } : Jvm.MethodName)) ∈ lw_all := lw_g (lw_at lw_m6 82 rfl) rfl
theorem q1429 : (Jvm.Cond.selects "DawnPerquisite" ({ cls := "DawnPerquisite", name := "room", desc := "(I)I" } : Jvm.MethodName) ({ cls := "DawnPerquisite", name := "room", desc := "(I)I" } : Jvm.MethodName)) ∈ lw_all := lw_g (lw_at lw_m6 83 rfl) rfl
theorem q1430 : (Jvm.Cond.code ({ cls := "DawnPerquisite", name := "room", desc := "(I)I" } : Jvm.MethodName) prog_1_method_111_code (4 : Nat) (Option.some Jvm.ClassFile.FieldType.int)) ∈ lw_all := lw_g (lw_at lw_m6 84 rfl) rfl
theorem q1431 : (Jvm.Cond.methodLink "DawnPerquisiteLaw" (234 : Nat) ({ cls := "DawnPerquisite", name := "can", desc := "(I)Z" } : Jvm.MethodName)) ∈ lw_all := lw_g (lw_at lw_m6 85 rfl) rfl
theorem q1432 : (Jvm.Cond.instanceMethod ({ cls := "DawnPerquisite", name := "can", desc := "(I)Z" } : Jvm.MethodName)) ∈ lw_all := lw_g (lw_at lw_m6 86 rfl) rfl
theorem q1433 : (Jvm.Cond.selects "DawnPerquisite" ({ cls := "DawnPerquisite", name := "can", desc := "(I)Z" } : Jvm.MethodName) ({ cls := "DawnPerquisite", name := "can", desc := "(I)Z" } : Jvm.MethodName)) ∈ lw_all := lw_g (lw_at lw_m6 87 rfl) rfl
theorem q1434 : (Jvm.Cond.code ({ cls := "DawnPerquisite", name := "can", desc := "(I)Z" } : Jvm.MethodName) prog_1_method_112_code (2 : Nat) (Option.some Jvm.ClassFile.FieldType.boolean)) ∈ lw_all := lw_g (lw_at lw_m6 88 rfl) rfl
theorem q1435 : (Jvm.Cond.methodLink "DawnPerquisiteLaw" (238 : Nat) ({ cls := "DawnPerquisite", name := "ledger", desc := "(I)I" } : Jvm.MethodName)) ∈ lw_all := lw_g (lw_at lw_m6 89 rfl) rfl
theorem q1436 : (Jvm.Cond.instanceMethod ({ cls := "DawnPerquisite", name := "ledger", desc := "(I)I" } : Jvm.MethodName)) ∈ lw_all := lw_g (lw_at lw_m6 90 rfl) rfl
theorem q1437 : (Jvm.Cond.selects "DawnPerquisite" ({ cls := "DawnPerquisite", name := "ledger", desc := "(I)I" } : Jvm.MethodName) ({ cls := "DawnPerquisite", name := "ledger", desc := "(I)I" } : Jvm.MethodName)) ∈ lw_all := lw_g (lw_at lw_m6 91 rfl) rfl
theorem q1438 : (Jvm.Cond.code ({ cls := "DawnPerquisite", name := "ledger", desc := "(I)I" } : Jvm.MethodName) prog_1_method_113_code (4 : Nat) (Option.some Jvm.ClassFile.FieldType.int)) ∈ lw_all := lw_g (lw_at lw_m6 92 rfl) rfl
theorem q1439 : (Jvm.Cond.methodLink "DawnPerquisiteLaw" (242 : Nat) ({ cls := "DawnPerquisite", name := "image", desc := "()I" } : Jvm.MethodName)) ∈ lw_all := lw_g (lw_at lw_m6 93 rfl) rfl
theorem q1440 : (Jvm.Cond.instanceMethod ({ cls := "DawnPerquisite", name := "image", desc := "()I" } : Jvm.MethodName)) ∈ lw_all := lw_g (lw_at lw_m6 94 rfl) rfl
theorem q1441 : (Jvm.Cond.selects "DawnPerquisite" ({ cls := "DawnPerquisite", name := "image", desc := "()I" } : Jvm.MethodName) ({ cls := "DawnPerquisite", name := "image", desc := "()I" } : Jvm.MethodName)) ∈ lw_all := lw_g (lw_at lw_m6 95 rfl) rfl
theorem q1442 : (Jvm.Cond.code ({ cls := "DawnPerquisite", name := "image", desc := "()I" } : Jvm.MethodName) prog_1_method_114_code (1 : Nat) (Option.some Jvm.ClassFile.FieldType.int)) ∈ lw_all := lw_g (lw_at lw_m6 96 rfl) rfl
theorem q1443 : (Jvm.Cond.methodLink "DawnPerquisiteLaw" (246 : Nat) ({ cls := "DawnPerquisite", name := "back", desc := "()I" } : Jvm.MethodName)) ∈ lw_all := lw_g (lw_at lw_m6 97 rfl) rfl
theorem q1444 : (Jvm.Cond.instanceMethod ({ cls := "DawnPerquisite", name := "back", desc := "()I" } : Jvm.MethodName)) ∈ lw_all := lw_g (lw_at lw_m6 98 rfl) rfl
theorem q1445 : (Jvm.Cond.selects "DawnPerquisite" ({ cls := "DawnPerquisite", name := "back", desc := "()I" } : Jvm.MethodName) ({ cls := "DawnPerquisite", name := "back", desc := "()I" } : Jvm.MethodName)) ∈ lw_all := lw_g (lw_at lw_m6 99 rfl) rfl
theorem q1446 : (Jvm.Cond.code ({ cls := "DawnPerquisite", name := "back", desc := "()I" } : Jvm.MethodName) prog_1_method_115_code (1 : Nat) (Option.some Jvm.ClassFile.FieldType.int)) ∈ lw_all := lw_g (lw_at lw_m6 100 rfl) rfl
theorem q1447 : (Jvm.Cond.methodLink "DawnPerquisiteLaw" (250 : Nat) ({ cls := "DawnPerquisite", name := "about", desc := "(I)I" } : Jvm.MethodName)) ∈ lw_all := lw_g (lw_at lw_m6 101 rfl) rfl
theorem q1448 : (Jvm.Cond.instanceMethod ({ cls := "DawnPerquisite", name := "about", desc := "(I)I" } : Jvm.MethodName)) ∈ lw_all := lw_g (lw_at lw_m6 102 rfl) rfl
theorem q1449 : (Jvm.Cond.selects "DawnPerquisite" ({ cls := "DawnPerquisite", name := "about", desc := "(I)I" } : Jvm.MethodName) ({ cls := "DawnPerquisite", name := "about", desc := "(I)I" } : Jvm.MethodName)) ∈ lw_all := lw_g (lw_at lw_m6 103 rfl) rfl
theorem q1450 : (Jvm.Cond.code ({ cls := "DawnPerquisite", name := "about", desc := "(I)I" } : Jvm.MethodName) prog_1_method_116_code (2 : Nat) (Option.some Jvm.ClassFile.FieldType.int)) ∈ lw_all := lw_g (lw_at lw_m6 104 rfl) rfl
theorem q1451 : (Jvm.Cond.classLink "DawnPerquisiteLaw" (10 : Nat) "DawnPerquisiteModel") ∈ lw_all := lw_g (lw_at lw_m6 105 rfl) rfl
theorem q1452 : (Jvm.Cond.instantiable "DawnPerquisiteModel" (28 : Nat)) ∈ lw_all := lw_g (lw_at lw_m6 106 rfl) rfl
theorem q1453 : (Jvm.Cond.methodLink "DawnPerquisiteLaw" (12 : Nat) ({ cls := "DawnPerquisiteModel", name := "<init>", desc := "()V" } : Jvm.MethodName)) ∈ lw_all := lw_g (lw_at lw_m6 107 rfl) rfl
theorem q1454 : (Jvm.Cond.instanceMethod ({ cls := "DawnPerquisiteModel", name := "<init>", desc := "()V" } : Jvm.MethodName)) ∈ lw_all := lw_g (lw_at lw_m6 108 rfl) rfl
theorem q1455 : (Jvm.Cond.code ({ cls := "DawnPerquisiteModel", name := "<init>", desc := "()V" } : Jvm.MethodName) prog_20_method_1_code (2 : Nat) (Option.none : Option Jvm.ClassFile.FieldType)) ∈ lw_all := lw_g (lw_at lw_m6 109 rfl) rfl
theorem q1456 : (Jvm.Cond.methodLink "DawnPerquisiteModel" (1 : Nat) ({ cls := "java/lang/Object", name := "<init>", desc := "()V" } : Jvm.MethodName)) ∈ lw_all := lw_g (lw_at lw_m6 110 rfl) rfl
theorem q1457 : (Jvm.Cond.methodLink "DawnPerquisiteModel" (59 : Nat) ({ cls := "DawnPerquisiteModel", name := "copy", desc := "([I[I)V" } : Jvm.MethodName)) ∈ lw_all := lw_g (lw_at lw_m6 111 rfl) rfl
theorem q1458 : (Jvm.Cond.static ({ cls := "DawnPerquisiteModel", name := "copy", desc := "([I[I)V" } : Jvm.MethodName)) ∈ lw_all := lw_g (lw_at lw_m6 112 rfl) rfl
theorem q1459 : (Jvm.Cond.code ({ cls := "DawnPerquisiteModel", name := "copy", desc := "([I[I)V" } : Jvm.MethodName) prog_20_method_2_code (3 : Nat) (Option.none : Option Jvm.ClassFile.FieldType)) ∈ lw_all := lw_g (lw_at lw_m6 113 rfl) rfl
theorem q1460 : (Jvm.Cond.fieldLink "DawnPerquisiteModel" (7 : Nat) "DawnPerquisiteModel" "a" "[I") ∈ lw_all := lw_g (lw_at lw_m6 114 rfl) rfl
theorem q1461 : (Jvm.Cond.fieldLink "DawnPerquisiteModel" (13 : Nat) "DawnPerquisiteModel" "image" "[I") ∈ lw_all := lw_g (lw_at lw_m6 115 rfl) rfl
theorem q1462 : (Jvm.Cond.fieldLink "DawnPerquisiteModel" (16 : Nat) "DawnPerquisiteModel" "texts" "[I") ∈ lw_all := lw_g (lw_at lw_m6 116 rfl) rfl
theorem q1463 : (Jvm.Cond.fieldLink "DawnPerquisiteModel" (19 : Nat) "DawnPerquisiteModel" "tape" "[I") ∈ lw_all := lw_g (lw_at lw_m6 117 rfl) rfl
theorem q1464 : (Jvm.Cond.fieldLink "DawnPerquisiteModel" (88 : Nat) "DawnPerquisiteModel" "taped" "I") ∈ lw_all := lw_g (lw_at lw_m6 118 rfl) rfl
theorem q1465 : (Jvm.Cond.fieldLink "DawnPerquisiteModel" (22 : Nat) "DawnPerquisiteModel" "fault" "I") ∈ lw_all := lw_g (lw_at lw_m6 119 rfl) rfl
theorem q1466 : (Jvm.Cond.fieldLink "DawnPerquisiteModel" (26 : Nat) "DawnPerquisiteModel" "faultPlace" "I") ∈ lw_all := lw_g (lw_at lw_m6 120 rfl) rfl
theorem q1467 : (Jvm.Cond.fieldLink "DawnPerquisiteModel" (95 : Nat) "DawnPerquisiteModel" "cursor" "I") ∈ lw_all := lw_g (lw_at lw_m6 121 rfl) rfl
theorem q1468 : (Jvm.Cond.fieldLink "DawnPerquisiteModel" (101 : Nat) "DawnPerquisiteModel" "place" "I") ∈ lw_all := lw_g (lw_at lw_m6 122 rfl) rfl
theorem q1469 : (Jvm.Cond.fieldLink "DawnPerquisiteModel" (104 : Nat) "DawnPerquisiteModel" "token" "I") ∈ lw_all := lw_g (lw_at lw_m6 123 rfl) rfl
theorem q1470 : (Jvm.Cond.fieldLink "DawnPerquisiteModel" (110 : Nat) "DawnPerquisiteModel" "number" "I") ∈ lw_all := lw_g (lw_at lw_m6 124 rfl) rfl
theorem q1471 : (Jvm.Cond.fieldLink "DawnPerquisiteModel" (117 : Nat) "DawnPerquisiteModel" "word" "J") ∈ lw_all := lw_g (lw_at lw_m6 125 rfl) rfl
theorem q1472 : (Jvm.Cond.fieldLink "DawnPerquisiteModel" (142 : Nat) "DawnPerquisiteModel" "text0" "I") ∈ lw_all := lw_g (lw_at lw_m6 126 rfl) rfl
theorem q1473 : (Jvm.Cond.fieldLink "DawnPerquisiteModel" (145 : Nat) "DawnPerquisiteModel" "written" "I") ∈ lw_all := lw_g (lw_at lw_m6 127 rfl) rfl
theorem q1474 : (Jvm.Cond.fieldLink "DawnPerquisiteModel" (148 : Nat) "DawnPerquisiteModel" "sort0" "I") ∈ lw_all := lw_g (lw_at lw_m6 128 rfl) rfl
theorem q1475 : (Jvm.Cond.fieldLink "DawnPerquisiteModel" (29 : Nat) "DawnPerquisiteModel" "pile" "[I") ∈ lw_all := lw_g (lw_at lw_m6 129 rfl) rfl
theorem q1476 : (Jvm.Cond.fieldLink "DawnPerquisiteModel" (151 : Nat) "DawnPerquisiteModel" "piled" "I") ∈ lw_all := lw_g (lw_at lw_m6 130 rfl) rfl
theorem q1477 : (Jvm.Cond.fieldLink "DawnPerquisiteModel" (161 : Nat) "DawnPerquisiteModel" "opens" "I") ∈ lw_all := lw_g (lw_at lw_m6 131 rfl) rfl
theorem q1478 : (Jvm.Cond.fieldLink "DawnPerquisiteModel" (180 : Nat) "DawnPerquisiteModel" "isWhole" "Z") ∈ lw_all := lw_g (lw_at lw_m6 132 rfl) rfl
theorem q1479 : (Jvm.Cond.fieldLink "DawnPerquisiteModel" (234 : Nat) "DawnPerquisiteModel" "once" "I") ∈ lw_all := lw_g (lw_at lw_m6 133 rfl) rfl
theorem q1480 : (Jvm.Cond.fieldLink "DawnPerquisiteModel" (32 : Nat) "DawnPerquisiteModel" "named" "[I") ∈ lw_all := lw_g (lw_at lw_m6 134 rfl) rfl
theorem q1481 : (Jvm.Cond.fieldLink "DawnPerquisiteModel" (35 : Nat) "DawnPerquisiteModel" "values" "[J") ∈ lw_all := lw_g (lw_at lw_m6 135 rfl) rfl
theorem q1482 : (Jvm.Cond.fieldLink "DawnPerquisiteModel" (39 : Nat) "DawnPerquisiteModel" "truth" "[Z") ∈ lw_all := lw_g (lw_at lw_m6 136 rfl) rfl
theorem q1483 : (Jvm.Cond.fieldLink "DawnPerquisiteModel" (43 : Nat) "DawnPerquisiteModel" "isWritten" "Z") ∈ lw_all := lw_g (lw_at lw_m6 137 rfl) rfl
theorem q1484 : (Jvm.Cond.fieldLink "DawnPerquisiteModel" (47 : Nat) "DawnPerquisiteModel" "aside" "[I") ∈ lw_all := lw_g (lw_at lw_m6 138 rfl) rfl
theorem q1485 : (Jvm.Cond.fieldLink "DawnPerquisiteModel" (50 : Nat) "DawnPerquisiteModel" "dawnFull" "[I") ∈ lw_all := lw_g (lw_at lw_m6 139 rfl) rfl
theorem q1486 : (Jvm.Cond.fieldLink "DawnPerquisiteModel" (53 : Nat) "DawnPerquisiteModel" "dawnOf" "[I") ∈ lw_all := lw_g (lw_at lw_m6 140 rfl) rfl
theorem q1487 : (Jvm.Cond.fieldLink "DawnPerquisiteModel" (56 : Nat) "DawnPerquisiteModel" "games" "[I") ∈ lw_all := lw_g (lw_at lw_m6 141 rfl) rfl
theorem q1488 : (Jvm.Cond.laysFinal "DawnPerquisiteModel" "DawnPerquisiteModel" "a" "[I") ∈ lw_all := lw_g (lw_at lw_m6 142 rfl) rfl
theorem q1489 : (Jvm.Cond.soleField "DawnPerquisiteModel" "a") ∈ lw_all := lw_g (lw_at lw_m6 143 rfl) rfl
theorem q1490 : (Jvm.Cond.laysFinal "DawnPerquisiteModel" "DawnPerquisiteModel" "image" "[I") ∈ lw_all := lw_g (lw_at lw_m6 144 rfl) rfl
theorem q1491 : (Jvm.Cond.soleField "DawnPerquisiteModel" "image") ∈ lw_all := lw_g (lw_at lw_m6 145 rfl) rfl
theorem q1492 : (Jvm.Cond.laysFinal "DawnPerquisiteModel" "DawnPerquisiteModel" "texts" "[I") ∈ lw_all := lw_g (lw_at lw_m6 146 rfl) rfl
theorem q1493 : (Jvm.Cond.soleField "DawnPerquisiteModel" "texts") ∈ lw_all := lw_g (lw_at lw_m6 147 rfl) rfl
theorem q1494 : (Jvm.Cond.laysFinal "DawnPerquisiteModel" "DawnPerquisiteModel" "tape" "[I") ∈ lw_all := lw_g (lw_at lw_m6 148 rfl) rfl
theorem q1495 : (Jvm.Cond.soleField "DawnPerquisiteModel" "tape") ∈ lw_all := lw_g (lw_at lw_m6 149 rfl) rfl
theorem q1496 : (Jvm.Cond.lays "DawnPerquisiteModel" "DawnPerquisiteModel" "taped" "I") ∈ lw_all := lw_g (lw_at lw_m6 150 rfl) rfl
theorem q1497 : (Jvm.Cond.soleField "DawnPerquisiteModel" "taped") ∈ lw_all := lw_g (lw_at lw_m6 151 rfl) rfl
theorem q1498 : (Jvm.Cond.lays "DawnPerquisiteModel" "DawnPerquisiteModel" "fault" "I") ∈ lw_all := lw_g (lw_at lw_m6 152 rfl) rfl
theorem q1499 : (Jvm.Cond.soleField "DawnPerquisiteModel" "fault") ∈ lw_all := lw_g (lw_at lw_m6 153 rfl) rfl
theorem q1500 : (Jvm.Cond.lays "DawnPerquisiteModel" "DawnPerquisiteModel" "faultPlace" "I") ∈ lw_all := lw_g (lw_at lw_m6 154 rfl) rfl
theorem q1501 : (Jvm.Cond.soleField "DawnPerquisiteModel" "faultPlace") ∈ lw_all := lw_g (lw_at lw_m6 155 rfl) rfl
theorem q1502 : (Jvm.Cond.lays "DawnPerquisiteModel" "DawnPerquisiteModel" "cursor" "I") ∈ lw_all := lw_g (lw_at lw_m6 156 rfl) rfl
theorem q1503 : (Jvm.Cond.soleField "DawnPerquisiteModel" "cursor") ∈ lw_all := lw_g (lw_at lw_m6 157 rfl) rfl
theorem q1504 : (Jvm.Cond.lays "DawnPerquisiteModel" "DawnPerquisiteModel" "place" "I") ∈ lw_all := lw_g (lw_at lw_m6 158 rfl) rfl
theorem q1505 : (Jvm.Cond.soleField "DawnPerquisiteModel" "place") ∈ lw_all := lw_g (lw_at lw_m6 159 rfl) rfl
theorem q1506 : (Jvm.Cond.lays "DawnPerquisiteModel" "DawnPerquisiteModel" "token" "I") ∈ lw_all := lw_g (lw_at lw_m6 160 rfl) rfl
theorem q1507 : (Jvm.Cond.soleField "DawnPerquisiteModel" "token") ∈ lw_all := lw_g (lw_at lw_m6 161 rfl) rfl
theorem q1508 : (Jvm.Cond.lays "DawnPerquisiteModel" "DawnPerquisiteModel" "number" "I") ∈ lw_all := lw_g (lw_at lw_m6 162 rfl) rfl
theorem q1509 : (Jvm.Cond.soleField "DawnPerquisiteModel" "number") ∈ lw_all := lw_g (lw_at lw_m6 163 rfl) rfl
theorem q1510 : (Jvm.Cond.lays "DawnPerquisiteModel" "DawnPerquisiteModel" "word" "J") ∈ lw_all := lw_g (lw_at lw_m6 164 rfl) rfl
theorem q1511 : (Jvm.Cond.soleField "DawnPerquisiteModel" "word") ∈ lw_all := lw_g (lw_at lw_m6 165 rfl) rfl
theorem q1512 : (Jvm.Cond.lays "DawnPerquisiteModel" "DawnPerquisiteModel" "text0" "I") ∈ lw_all := lw_g (lw_at lw_m6 166 rfl) rfl
theorem q1513 : (Jvm.Cond.soleField "DawnPerquisiteModel" "text0") ∈ lw_all := lw_g (lw_at lw_m6 167 rfl) rfl
theorem q1514 : (Jvm.Cond.lays "DawnPerquisiteModel" "DawnPerquisiteModel" "written" "I") ∈ lw_all := lw_g (lw_at lw_m6 168 rfl) rfl
theorem q1515 : (Jvm.Cond.soleField "DawnPerquisiteModel" "written") ∈ lw_all := lw_g (lw_at lw_m6 169 rfl) rfl
theorem q1516 : (Jvm.Cond.lays "DawnPerquisiteModel" "DawnPerquisiteModel" "sort0" "I") ∈ lw_all := lw_g (lw_at lw_m6 170 rfl) rfl
theorem q1517 : (Jvm.Cond.soleField "DawnPerquisiteModel" "sort0") ∈ lw_all := lw_g (lw_at lw_m6 171 rfl) rfl
theorem q1518 : (Jvm.Cond.laysFinal "DawnPerquisiteModel" "DawnPerquisiteModel" "pile" "[I") ∈ lw_all := lw_g (lw_at lw_m6 172 rfl) rfl
theorem q1519 : (Jvm.Cond.soleField "DawnPerquisiteModel" "pile") ∈ lw_all := lw_g (lw_at lw_m6 173 rfl) rfl
theorem q1520 : (Jvm.Cond.lays "DawnPerquisiteModel" "DawnPerquisiteModel" "piled" "I") ∈ lw_all := lw_g (lw_at lw_m6 174 rfl) rfl
theorem q1521 : (Jvm.Cond.soleField "DawnPerquisiteModel" "piled") ∈ lw_all := lw_g (lw_at lw_m6 175 rfl) rfl
theorem q1522 : (Jvm.Cond.lays "DawnPerquisiteModel" "DawnPerquisiteModel" "opens" "I") ∈ lw_all := lw_g (lw_at lw_m6 176 rfl) rfl
theorem q1523 : (Jvm.Cond.soleField "DawnPerquisiteModel" "opens") ∈ lw_all := lw_g (lw_at lw_m6 177 rfl) rfl
theorem q1524 : (Jvm.Cond.lays "DawnPerquisiteModel" "DawnPerquisiteModel" "isWhole" "Z") ∈ lw_all := lw_g (lw_at lw_m6 178 rfl) rfl
theorem q1525 : (Jvm.Cond.soleField "DawnPerquisiteModel" "isWhole") ∈ lw_all := lw_g (lw_at lw_m6 179 rfl) rfl
theorem q1526 : (Jvm.Cond.lays "DawnPerquisiteModel" "DawnPerquisiteModel" "once" "I") ∈ lw_all := lw_g (lw_at lw_m6 180 rfl) rfl
theorem q1527 : (Jvm.Cond.soleField "DawnPerquisiteModel" "once") ∈ lw_all := lw_g (lw_at lw_m6 181 rfl) rfl
theorem q1528 : (Jvm.Cond.laysFinal "DawnPerquisiteModel" "DawnPerquisiteModel" "named" "[I") ∈ lw_all := lw_g (lw_at lw_m6 182 rfl) rfl
theorem q1529 : (Jvm.Cond.soleField "DawnPerquisiteModel" "named") ∈ lw_all := lw_g (lw_at lw_m6 183 rfl) rfl
theorem q1530 : (Jvm.Cond.laysFinal "DawnPerquisiteModel" "DawnPerquisiteModel" "values" "[J") ∈ lw_all := lw_g (lw_at lw_m6 184 rfl) rfl
theorem q1531 : (Jvm.Cond.soleField "DawnPerquisiteModel" "values") ∈ lw_all := lw_g (lw_at lw_m6 185 rfl) rfl
theorem q1532 : (Jvm.Cond.laysFinal "DawnPerquisiteModel" "DawnPerquisiteModel" "truth" "[Z") ∈ lw_all := lw_g (lw_at lw_m6 186 rfl) rfl
theorem q1533 : (Jvm.Cond.soleField "DawnPerquisiteModel" "truth") ∈ lw_all := lw_g (lw_at lw_m6 187 rfl) rfl
theorem q1534 : (Jvm.Cond.lays "DawnPerquisiteModel" "DawnPerquisiteModel" "isWritten" "Z") ∈ lw_all := lw_g (lw_at lw_m6 188 rfl) rfl
theorem q1535 : (Jvm.Cond.soleField "DawnPerquisiteModel" "isWritten") ∈ lw_all := lw_g (lw_at lw_m6 189 rfl) rfl
theorem q1536 : (Jvm.Cond.laysFinal "DawnPerquisiteModel" "DawnPerquisiteModel" "aside" "[I") ∈ lw_all := lw_g (lw_at lw_m6 190 rfl) rfl
theorem q1537 : (Jvm.Cond.soleField "DawnPerquisiteModel" "aside") ∈ lw_all := lw_g (lw_at lw_m6 191 rfl) rfl
theorem q1538 : (Jvm.Cond.laysFinal "DawnPerquisiteModel" "DawnPerquisiteModel" "dawnFull" "[I") ∈ lw_all := lw_g (lw_at lw_m6 192 rfl) rfl
theorem q1539 : (Jvm.Cond.soleField "DawnPerquisiteModel" "dawnFull") ∈ lw_all := lw_g (lw_at lw_m6 193 rfl) rfl
theorem q1540 : (Jvm.Cond.laysFinal "DawnPerquisiteModel" "DawnPerquisiteModel" "dawnOf" "[I") ∈ lw_all := lw_g (lw_at lw_m6 194 rfl) rfl
theorem q1541 : (Jvm.Cond.soleField "DawnPerquisiteModel" "dawnOf") ∈ lw_all := lw_g (lw_at lw_m6 195 rfl) rfl
theorem q1542 : (Jvm.Cond.laysFinal "DawnPerquisiteModel" "DawnPerquisiteModel" "games" "[I") ∈ lw_all := lw_g (lw_at lw_m6 196 rfl) rfl
theorem q1543 : (Jvm.Cond.soleField "DawnPerquisiteModel" "games") ∈ lw_all := lw_g (lw_at lw_m6 197 rfl) rfl
theorem q1544 : (Jvm.Cond.superclass "DawnPerquisiteModel" "java/lang/Object") ∈ lw_all := lw_g (lw_at lw_m6 198 rfl) rfl
theorem q1545 : (Jvm.Cond.arrayClass Jvm.ClassFile.FieldType.long) ∈ lw_all := lw_g (lw_at lw_m6 199 rfl) rfl
theorem q1546 : (Jvm.Cond.arrayClass Jvm.ClassFile.FieldType.boolean) ∈ lw_all := lw_g (lw_at lw_m6 200 rfl) rfl
theorem q1547 : (Jvm.Cond.methodLink "DawnPerquisiteLaw" (17 : Nat) ({ cls := "DawnPerquisiteModel", name := "sort", desc := "(III)Z" } : Jvm.MethodName)) ∈ lw_all := lw_g (lw_at lw_m6 201 rfl) rfl
theorem q1548 : (Jvm.Cond.instanceMethod ({ cls := "DawnPerquisiteModel", name := "sort", desc := "(III)Z" } : Jvm.MethodName)) ∈ lw_all := lw_g (lw_at lw_m6 202 rfl) rfl
theorem q1549 : (Jvm.Cond.selects "DawnPerquisiteModel" ({ cls := "DawnPerquisiteModel", name := "sort", desc := "(III)Z" } : Jvm.MethodName) ({ cls := "DawnPerquisiteModel", name := "sort", desc := "(III)Z" } : Jvm.MethodName)) ∈ lw_all := lw_g (lw_at lw_m6 203 rfl) rfl
theorem q1550 : (Jvm.Cond.code ({ cls := "DawnPerquisiteModel", name := "sort", desc := "(III)Z" } : Jvm.MethodName) prog_20_method_18_code (4 : Nat) (Option.some Jvm.ClassFile.FieldType.boolean)) ∈ lw_all := lw_g (lw_at lw_m6 204 rfl) rfl
theorem q1551 : (Jvm.Cond.methodLink "DawnPerquisiteModel" (81 : Nat) ({ cls := "DawnPerquisiteModel", name := "isSort", desc := "(I)Z" } : Jvm.MethodName)) ∈ lw_all := lw_g (lw_at lw_m6 205 rfl) rfl
theorem q1552 : (Jvm.Cond.static ({ cls := "DawnPerquisiteModel", name := "isSort", desc := "(I)Z" } : Jvm.MethodName)) ∈ lw_all := lw_g (lw_at lw_m6 206 rfl) rfl
theorem q1553 : (Jvm.Cond.code ({ cls := "DawnPerquisiteModel", name := "isSort", desc := "(I)Z" } : Jvm.MethodName) prog_20_method_8_code (1 : Nat) (Option.some Jvm.ClassFile.FieldType.boolean)) ∈ lw_all := lw_g (lw_at lw_m6 207 rfl) rfl
theorem q1554 : (Jvm.Cond.methodLink "DawnPerquisiteModel" (63 : Nat) ({ cls := "DawnPerquisiteModel", name := "isIn", desc := "(III)Z" } : Jvm.MethodName)) ∈ lw_all := lw_g (lw_at lw_m6 208 rfl) rfl
theorem q1555 : (Jvm.Cond.static ({ cls := "DawnPerquisiteModel", name := "isIn", desc := "(III)Z" } : Jvm.MethodName)) ∈ lw_all := lw_g (lw_at lw_m6 209 rfl) rfl
theorem q1556 : (Jvm.Cond.code ({ cls := "DawnPerquisiteModel", name := "isIn", desc := "(III)Z" } : Jvm.MethodName) prog_20_method_3_code (3 : Nat) (Option.some Jvm.ClassFile.FieldType.boolean)) ∈ lw_all := lw_g (lw_at lw_m6 210 rfl) rfl
theorem q1557 : (Jvm.Cond.methodLink "DawnPerquisiteLaw" (22 : Nat) ({ cls := "DawnPerquisiteModel", name := "buyer", desc := "(IIII)I" } : Jvm.MethodName)) ∈ lw_all := lw_g (lw_at lw_m6 211 rfl) rfl
theorem q1558 : (Jvm.Cond.instanceMethod ({ cls := "DawnPerquisiteModel", name := "buyer", desc := "(IIII)I" } : Jvm.MethodName)) ∈ lw_all := lw_g (lw_at lw_m6 212 rfl) rfl
theorem q1559 : (Jvm.Cond.selects "DawnPerquisiteModel" ({ cls := "DawnPerquisiteModel", name := "buyer", desc := "(IIII)I" } : Jvm.MethodName) ({ cls := "DawnPerquisiteModel", name := "buyer", desc := "(IIII)I" } : Jvm.MethodName)) ∈ lw_all := lw_g (lw_at lw_m6 213 rfl) rfl
theorem q1560 : (Jvm.Cond.code ({ cls := "DawnPerquisiteModel", name := "buyer", desc := "(IIII)I" } : Jvm.MethodName) prog_20_method_19_code (6 : Nat) (Option.some Jvm.ClassFile.FieldType.int)) ∈ lw_all := lw_g (lw_at lw_m6 214 rfl) rfl
theorem q1561 : (Jvm.Cond.methodLink "DawnPerquisiteModel" (85 : Nat) ({ cls := "DawnPerquisiteModel", name := "areSlices", desc := "(II)Z" } : Jvm.MethodName)) ∈ lw_all := lw_g (lw_at lw_m6 215 rfl) rfl
theorem q1562 : (Jvm.Cond.static ({ cls := "DawnPerquisiteModel", name := "areSlices", desc := "(II)Z" } : Jvm.MethodName)) ∈ lw_all := lw_g (lw_at lw_m6 216 rfl) rfl
theorem q1563 : (Jvm.Cond.code ({ cls := "DawnPerquisiteModel", name := "areSlices", desc := "(II)Z" } : Jvm.MethodName) prog_20_method_10_code (2 : Nat) (Option.some Jvm.ClassFile.FieldType.boolean)) ∈ lw_all := lw_g (lw_at lw_m6 217 rfl) rfl
theorem q1564 : (Jvm.Cond.methodLink "DawnPerquisiteLaw" (27 : Nat) ({ cls := "DawnPerquisiteModel", name := "feed", desc := "(IIIII)I" } : Jvm.MethodName)) ∈ lw_all := lw_g (lw_at lw_m6 218 rfl) rfl
theorem q1565 : (Jvm.Cond.instanceMethod ({ cls := "DawnPerquisiteModel", name := "feed", desc := "(IIIII)I" } : Jvm.MethodName)) ∈ lw_all := lw_g (lw_at lw_m6 219 rfl) rfl
theorem q1566 : (Jvm.Cond.selects "DawnPerquisiteModel" ({ cls := "DawnPerquisiteModel", name := "feed", desc := "(IIIII)I" } : Jvm.MethodName) ({ cls := "DawnPerquisiteModel", name := "feed", desc := "(IIIII)I" } : Jvm.MethodName)) ∈ lw_all := lw_g (lw_at lw_m6 220 rfl) rfl
theorem q1567 : (Jvm.Cond.code ({ cls := "DawnPerquisiteModel", name := "feed", desc := "(IIIII)I" } : Jvm.MethodName) prog_20_method_21_code (6 : Nat) (Option.some Jvm.ClassFile.FieldType.int)) ∈ lw_all := lw_g (lw_at lw_m6 221 rfl) rfl
theorem q1568 : (Jvm.Cond.methodLink "DawnPerquisiteModel" (91 : Nat) ({ cls := "DawnPerquisiteModel", name := "four", desc := "(I)V" } : Jvm.MethodName)) ∈ lw_all := lw_g (lw_at lw_m6 222 rfl) rfl
theorem q1569 : (Jvm.Cond.privateMethod ({ cls := "DawnPerquisiteModel", name := "four", desc := "(I)V" } : Jvm.MethodName)) ∈ lw_tbl := lw_at lw_m6 223 rfl
theorem q1570 : (Jvm.Cond.instanceMethod ({ cls := "DawnPerquisiteModel", name := "four", desc := "(I)V" } : Jvm.MethodName)) ∈ lw_all := lw_g (lw_at lw_m6 224 rfl) rfl
theorem q1571 : (Jvm.Cond.code ({ cls := "DawnPerquisiteModel", name := "four", desc := "(I)V" } : Jvm.MethodName) prog_20_method_20_code (3 : Nat) (Option.none : Option Jvm.ClassFile.FieldType)) ∈ lw_all := lw_g (lw_at lw_m6 225 rfl) rfl
theorem q1572 : (Jvm.Cond.methodLink "DawnPerquisiteLaw" (32 : Nat) ({ cls := "DawnPerquisiteModel", name := "end", desc := "(I)I" } : Jvm.MethodName)) ∈ lw_all := lw_g (lw_at lw_m6 226 rfl) rfl
theorem q1573 : (Jvm.Cond.instanceMethod ({ cls := "DawnPerquisiteModel", name := "end", desc := "(I)I" } : Jvm.MethodName)) ∈ lw_all := lw_g (lw_at lw_m6 227 rfl) rfl
theorem q1574 : (Jvm.Cond.selects "DawnPerquisiteModel" ({ cls := "DawnPerquisiteModel", name := "end", desc := "(I)I" } : Jvm.MethodName) ({ cls := "DawnPerquisiteModel", name := "end", desc := "(I)I" } : Jvm.MethodName)) ∈ lw_all := lw_g (lw_at lw_m6 228 rfl) rfl
theorem q1575 : (Jvm.Cond.code ({ cls := "DawnPerquisiteModel", name := "end", desc := "(I)I" } : Jvm.MethodName) prog_20_method_22_code (2 : Nat) (Option.some Jvm.ClassFile.FieldType.int)) ∈ lw_all := lw_g (lw_at lw_m6 229 rfl) rfl
theorem q1576 : (Jvm.Cond.methodLink "DawnPerquisiteLaw" (37 : Nat) ({ cls := "DawnPerquisiteModel", name := "text", desc := "()I" } : Jvm.MethodName)) ∈ lw_all := lw_g (lw_at lw_m6 230 rfl) rfl
theorem q1577 : (Jvm.Cond.instanceMethod ({ cls := "DawnPerquisiteModel", name := "text", desc := "()I" } : Jvm.MethodName)) ∈ lw_all := lw_g (lw_at lw_m6 231 rfl) rfl
theorem q1578 : (Jvm.Cond.selects "DawnPerquisiteModel" ({ cls := "DawnPerquisiteModel", name := "text", desc := "()I" } : Jvm.MethodName) ({ cls := "DawnPerquisiteModel", name := "text", desc := "()I" } : Jvm.MethodName)) ∈ lw_all := lw_g (lw_at lw_m6 232 rfl) rfl
theorem q1579 : (Jvm.Cond.code ({ cls := "DawnPerquisiteModel", name := "text", desc := "()I" } : Jvm.MethodName) prog_20_method_58_code (1 : Nat) (Option.some Jvm.ClassFile.FieldType.int)) ∈ lw_all := lw_g (lw_at lw_m6 233 rfl) rfl
theorem q1580 : (Jvm.Cond.methodLink "DawnPerquisiteModel" (244 : Nat) ({ cls := "DawnPerquisiteModel", name := "readText", desc := "()I" } : Jvm.MethodName)) ∈ lw_all := lw_g (lw_at lw_m6 234 rfl) rfl
theorem q1581 : (Jvm.Cond.privateMethod ({ cls := "DawnPerquisiteModel", name := "readText", desc := "()I" } : Jvm.MethodName)) ∈ lw_tbl := lw_at lw_m6 235 rfl
theorem q1582 : (Jvm.Cond.instanceMethod ({ cls := "DawnPerquisiteModel", name := "readText", desc := "()I" } : Jvm.MethodName)) ∈ lw_all := lw_g (lw_at lw_m6 236 rfl) rfl
theorem q1583 : (Jvm.Cond.code ({ cls := "DawnPerquisiteModel", name := "readText", desc := "()I" } : Jvm.MethodName) prog_20_method_57_code (2 : Nat) (Option.some Jvm.ClassFile.FieldType.int)) ∈ lw_all := lw_g (lw_at lw_m6 237 rfl) rfl
theorem q1584 : (Jvm.Cond.methodLink "DawnPerquisiteModel" (171 : Nat) ({ cls := "DawnPerquisiteModel", name := "nextToken", desc := "()V" } : Jvm.MethodName)) ∈ lw_all := lw_g (lw_at lw_m6 238 rfl) rfl
theorem q1585 : (Jvm.Cond.privateMethod ({ cls := "DawnPerquisiteModel", name := "nextToken", desc := "()V" } : Jvm.MethodName)) ∈ lw_tbl := lw_at lw_m6 239 rfl
theorem q1586 : (Jvm.Cond.instanceMethod ({ cls := "DawnPerquisiteModel", name := "nextToken", desc := "()V" } : Jvm.MethodName)) ∈ lw_all := lw_g (lw_at lw_m7 0 rfl) rfl
theorem q1587 : (Jvm.Cond.code ({ cls := "DawnPerquisiteModel", name := "nextToken", desc := "()V" } : Jvm.MethodName) prog_20_method_27_code (2 : Nat) (Option.none : Option Jvm.ClassFile.FieldType)) ∈ lw_all := lw_g (lw_at lw_m7 1 rfl) rfl
theorem q1588 : (Jvm.Cond.methodLink "DawnPerquisiteModel" (98 : Nat) ({ cls := "DawnPerquisiteModel", name := "byteAt", desc := "(I)I" } : Jvm.MethodName)) ∈ lw_all := lw_g (lw_at lw_m7 2 rfl) rfl
theorem q1589 : (Jvm.Cond.privateMethod ({ cls := "DawnPerquisiteModel", name := "byteAt", desc := "(I)I" } : Jvm.MethodName)) ∈ lw_tbl := lw_at lw_m7 3 rfl
theorem q1590 : (Jvm.Cond.instanceMethod ({ cls := "DawnPerquisiteModel", name := "byteAt", desc := "(I)I" } : Jvm.MethodName)) ∈ lw_all := lw_g (lw_at lw_m7 4 rfl) rfl
theorem q1591 : (Jvm.Cond.code ({ cls := "DawnPerquisiteModel", name := "byteAt", desc := "(I)I" } : Jvm.MethodName) prog_20_method_23_code (2 : Nat) (Option.some Jvm.ClassFile.FieldType.int)) ∈ lw_all := lw_g (lw_at lw_m7 5 rfl) rfl
theorem q1592 : (Jvm.Cond.methodLink "DawnPerquisiteModel" (107 : Nat) ({ cls := "DawnPerquisiteModel", name := "isFigure", desc := "(I)Z" } : Jvm.MethodName)) ∈ lw_all := lw_g (lw_at lw_m7 6 rfl) rfl
theorem q1593 : (Jvm.Cond.static ({ cls := "DawnPerquisiteModel", name := "isFigure", desc := "(I)Z" } : Jvm.MethodName)) ∈ lw_all := lw_g (lw_at lw_m7 7 rfl) rfl
theorem q1594 : (Jvm.Cond.code ({ cls := "DawnPerquisiteModel", name := "isFigure", desc := "(I)Z" } : Jvm.MethodName) prog_20_method_25_code (1 : Nat) (Option.some Jvm.ClassFile.FieldType.boolean)) ∈ lw_all := lw_g (lw_at lw_m7 8 rfl) rfl
theorem q1595 : (Jvm.Cond.constant "DawnPerquisiteModel" (113 : Nat) (99999 : Int32)) ∈ lw_all := lw_g (lw_at lw_m7 9 rfl) rfl
theorem q1596 : (Jvm.Cond.methodLink "DawnPerquisiteModel" (114 : Nat) ({ cls := "DawnPerquisiteModel", name := "isLetterByte", desc := "(I)Z" } : Jvm.MethodName)) ∈ lw_all := lw_g (lw_at lw_m7 10 rfl) rfl
theorem q1597 : (Jvm.Cond.static ({ cls := "DawnPerquisiteModel", name := "isLetterByte", desc := "(I)Z" } : Jvm.MethodName)) ∈ lw_all := lw_g (lw_at lw_m7 11 rfl) rfl
theorem q1598 : (Jvm.Cond.code ({ cls := "DawnPerquisiteModel", name := "isLetterByte", desc := "(I)Z" } : Jvm.MethodName) prog_20_method_24_code (1 : Nat) (Option.some Jvm.ClassFile.FieldType.boolean)) ∈ lw_all := lw_g (lw_at lw_m7 12 rfl) rfl
theorem q1599 : (Jvm.Cond.constantLong "DawnPerquisiteModel" (121 : Nat) (1152921504606846976 : Int64)) ∈ lw_all := lw_g (lw_at lw_m7 13 rfl) rfl
theorem q1600 : (Jvm.Cond.methodLink "DawnPerquisiteModel" (123 : Nat) ({ cls := "DawnPerquisiteModel", name := "isSign", desc := "(I)Z" } : Jvm.MethodName)) ∈ lw_all := lw_g (lw_at lw_m7 14 rfl) rfl
theorem q1601 : (Jvm.Cond.static ({ cls := "DawnPerquisiteModel", name := "isSign", desc := "(I)Z" } : Jvm.MethodName)) ∈ lw_all := lw_g (lw_at lw_m7 15 rfl) rfl
theorem q1602 : (Jvm.Cond.code ({ cls := "DawnPerquisiteModel", name := "isSign", desc := "(I)Z" } : Jvm.MethodName) prog_20_method_26_code (1 : Nat) (Option.some Jvm.ClassFile.FieldType.boolean)) ∈ lw_all := lw_g (lw_at lw_m7 16 rfl) rfl
theorem q1603 : (Jvm.Cond.methodLink "DawnPerquisiteModel" (241 : Nat) ({ cls := "DawnPerquisiteModel", name := "clause", desc := "()I" } : Jvm.MethodName)) ∈ lw_all := lw_g (lw_at lw_m7 17 rfl) rfl
theorem q1604 : (Jvm.Cond.privateMethod ({ cls := "DawnPerquisiteModel", name := "clause", desc := "()I" } : Jvm.MethodName)) ∈ lw_tbl := lw_at lw_m7 18 rfl
theorem q1605 : (Jvm.Cond.instanceMethod ({ cls := "DawnPerquisiteModel", name := "clause", desc := "()I" } : Jvm.MethodName)) ∈ lw_all := lw_g (lw_at lw_m7 19 rfl) rfl
theorem q1606 : (Jvm.Cond.code ({ cls := "DawnPerquisiteModel", name := "clause", desc := "()I" } : Jvm.MethodName) prog_20_method_56_code (5 : Nat) (Option.some Jvm.ClassFile.FieldType.int)) ∈ lw_all := lw_g (lw_at lw_m7 20 rfl) rfl
theorem q1607 : (Jvm.Cond.methodLink "DawnPerquisiteModel" (231 : Nat) ({ cls := "DawnPerquisiteModel", name := "sortOf", desc := "()I" } : Jvm.MethodName)) ∈ lw_all := lw_g (lw_at lw_m7 21 rfl) rfl
theorem q1608 : (Jvm.Cond.privateMethod ({ cls := "DawnPerquisiteModel", name := "sortOf", desc := "()I" } : Jvm.MethodName)) ∈ lw_tbl := lw_at lw_m7 22 rfl
theorem q1609 : (Jvm.Cond.instanceMethod ({ cls := "DawnPerquisiteModel", name := "sortOf", desc := "()I" } : Jvm.MethodName)) ∈ lw_all := lw_g (lw_at lw_m7 23 rfl) rfl
theorem q1610 : (Jvm.Cond.code ({ cls := "DawnPerquisiteModel", name := "sortOf", desc := "()I" } : Jvm.MethodName) prog_20_method_55_code (1 : Nat) (Option.some Jvm.ClassFile.FieldType.int)) ∈ lw_all := lw_g (lw_at lw_m7 24 rfl) rfl
theorem q1611 : (Jvm.Cond.methodLink "DawnPerquisiteModel" (134 : Nat) ({ cls := "DawnPerquisiteModel", name := "w4", desc := "(IIII)J" } : Jvm.MethodName)) ∈ lw_all := lw_g (lw_at lw_m7 25 rfl) rfl
theorem q1612 : (Jvm.Cond.static ({ cls := "DawnPerquisiteModel", name := "w4", desc := "(IIII)J" } : Jvm.MethodName)) ∈ lw_all := lw_g (lw_at lw_m7 26 rfl) rfl
theorem q1613 : (Jvm.Cond.code ({ cls := "DawnPerquisiteModel", name := "w4", desc := "(IIII)J" } : Jvm.MethodName) prog_20_method_30_code (4 : Nat) (Option.some Jvm.ClassFile.FieldType.long)) ∈ lw_all := lw_g (lw_at lw_m7 27 rfl) rfl
theorem q1614 : (Jvm.Cond.methodLink "DawnPerquisiteModel" (130 : Nat) ({ cls := "DawnPerquisiteModel", name := "w3", desc := "(III)J" } : Jvm.MethodName)) ∈ lw_all := lw_g (lw_at lw_m7 28 rfl) rfl
theorem q1615 : (Jvm.Cond.static ({ cls := "DawnPerquisiteModel", name := "w3", desc := "(III)J" } : Jvm.MethodName)) ∈ lw_all := lw_g (lw_at lw_m7 29 rfl) rfl
theorem q1616 : (Jvm.Cond.code ({ cls := "DawnPerquisiteModel", name := "w3", desc := "(III)J" } : Jvm.MethodName) prog_20_method_29_code (3 : Nat) (Option.some Jvm.ClassFile.FieldType.long)) ∈ lw_all := lw_g (lw_at lw_m7 30 rfl) rfl
theorem q1617 : (Jvm.Cond.methodLink "DawnPerquisiteModel" (126 : Nat) ({ cls := "DawnPerquisiteModel", name := "w2", desc := "(II)J" } : Jvm.MethodName)) ∈ lw_all := lw_g (lw_at lw_m7 31 rfl) rfl
theorem q1618 : (Jvm.Cond.static ({ cls := "DawnPerquisiteModel", name := "w2", desc := "(II)J" } : Jvm.MethodName)) ∈ lw_all := lw_g (lw_at lw_m7 32 rfl) rfl
theorem q1619 : (Jvm.Cond.code ({ cls := "DawnPerquisiteModel", name := "w2", desc := "(II)J" } : Jvm.MethodName) prog_20_method_28_code (2 : Nat) (Option.some Jvm.ClassFile.FieldType.long)) ∈ lw_all := lw_g (lw_at lw_m7 33 rfl) rfl
theorem q1620 : (Jvm.Cond.methodLink "DawnPerquisiteModel" (189 : Nat) ({ cls := "DawnPerquisiteModel", name := "isWord", desc := "(J)Z" } : Jvm.MethodName)) ∈ lw_all := lw_g (lw_at lw_m7 34 rfl) rfl
theorem q1621 : (Jvm.Cond.privateMethod ({ cls := "DawnPerquisiteModel", name := "isWord", desc := "(J)Z" } : Jvm.MethodName)) ∈ lw_tbl := lw_at lw_m7 35 rfl
theorem q1622 : (Jvm.Cond.instanceMethod ({ cls := "DawnPerquisiteModel", name := "isWord", desc := "(J)Z" } : Jvm.MethodName)) ∈ lw_all := lw_g (lw_at lw_m7 36 rfl) rfl
theorem q1623 : (Jvm.Cond.code ({ cls := "DawnPerquisiteModel", name := "isWord", desc := "(J)Z" } : Jvm.MethodName) prog_20_method_33_code (3 : Nat) (Option.some Jvm.ClassFile.FieldType.boolean)) ∈ lw_all := lw_g (lw_at lw_m7 37 rfl) rfl
theorem q1624 : (Jvm.Cond.methodLink "DawnPerquisiteModel" (138 : Nat) ({ cls := "DawnPerquisiteModel", name := "w5", desc := "(IIIII)J" } : Jvm.MethodName)) ∈ lw_all := lw_g (lw_at lw_m7 38 rfl) rfl
theorem q1625 : (Jvm.Cond.static ({ cls := "DawnPerquisiteModel", name := "w5", desc := "(IIIII)J" } : Jvm.MethodName)) ∈ lw_all := lw_g (lw_at lw_m7 39 rfl) rfl
theorem q1626 : (Jvm.Cond.code ({ cls := "DawnPerquisiteModel", name := "w5", desc := "(IIIII)J" } : Jvm.MethodName) prog_20_method_31_code (5 : Nat) (Option.some Jvm.ClassFile.FieldType.long)) ∈ lw_all := lw_g (lw_at lw_m7 40 rfl) rfl
theorem q1627 : (Jvm.Cond.methodLink "DawnPerquisiteModel" (67 : Nat) ({ cls := "DawnPerquisiteModel", name := "has", desc := "(II)Z" } : Jvm.MethodName)) ∈ lw_all := lw_g (lw_at lw_m7 41 rfl) rfl
theorem q1628 : (Jvm.Cond.static ({ cls := "DawnPerquisiteModel", name := "has", desc := "(II)Z" } : Jvm.MethodName)) ∈ lw_all := lw_g (lw_at lw_m7 42 rfl) rfl
theorem q1629 : (Jvm.Cond.code ({ cls := "DawnPerquisiteModel", name := "has", desc := "(II)Z" } : Jvm.MethodName) prog_20_method_5_code (2 : Nat) (Option.some Jvm.ClassFile.FieldType.boolean)) ∈ lw_all := lw_g (lw_at lw_m7 43 rfl) rfl
theorem q1630 : (Jvm.Cond.methodLink "DawnPerquisiteModel" (237 : Nat) ({ cls := "DawnPerquisiteModel", name := "body", desc := "(II)I" } : Jvm.MethodName)) ∈ lw_all := lw_g (lw_at lw_m7 44 rfl) rfl
theorem q1631 : (Jvm.Cond.privateMethod ({ cls := "DawnPerquisiteModel", name := "body", desc := "(II)I" } : Jvm.MethodName)) ∈ lw_tbl := lw_at lw_m7 45 rfl
theorem q1632 : (Jvm.Cond.instanceMethod ({ cls := "DawnPerquisiteModel", name := "body", desc := "(II)I" } : Jvm.MethodName)) ∈ lw_all := lw_g (lw_at lw_m7 46 rfl) rfl
theorem q1633 : (Jvm.Cond.code ({ cls := "DawnPerquisiteModel", name := "body", desc := "(II)I" } : Jvm.MethodName) prog_20_method_54_code (3 : Nat) (Option.some Jvm.ClassFile.FieldType.int)) ∈ lw_all := lw_g (lw_at lw_m7 47 rfl) rfl
theorem q1634 : (Jvm.Cond.methodLink "DawnPerquisiteModel" (222 : Nat) ({ cls := "DawnPerquisiteModel", name := "buyerClause", desc := "(I)I" } : Jvm.MethodName)) ∈ lw_all := lw_g (lw_at lw_m7 48 rfl) rfl
theorem q1635 : (Jvm.Cond.privateMethod ({ cls := "DawnPerquisiteModel", name := "buyerClause", desc := "(I)I" } : Jvm.MethodName)) ∈ lw_tbl := lw_at lw_m7 49 rfl
theorem q1636 : (Jvm.Cond.instanceMethod ({ cls := "DawnPerquisiteModel", name := "buyerClause", desc := "(I)I" } : Jvm.MethodName)) ∈ lw_all := lw_g (lw_at lw_m7 50 rfl) rfl
theorem q1637 : (Jvm.Cond.code ({ cls := "DawnPerquisiteModel", name := "buyerClause", desc := "(I)I" } : Jvm.MethodName) prog_20_method_52_code (3 : Nat) (Option.some Jvm.ClassFile.FieldType.int)) ∈ lw_all := lw_g (lw_at lw_m7 51 rfl) rfl
theorem q1638 : (Jvm.Cond.methodLink "DawnPerquisiteModel" (218 : Nat) ({ cls := "DawnPerquisiteModel", name := "figure", desc := "(III)I" } : Jvm.MethodName)) ∈ lw_all := lw_g (lw_at lw_m7 52 rfl) rfl
theorem q1639 : (Jvm.Cond.privateMethod ({ cls := "DawnPerquisiteModel", name := "figure", desc := "(III)I" } : Jvm.MethodName)) ∈ lw_tbl := lw_at lw_m7 53 rfl
theorem q1640 : (Jvm.Cond.instanceMethod ({ cls := "DawnPerquisiteModel", name := "figure", desc := "(III)I" } : Jvm.MethodName)) ∈ lw_all := lw_g (lw_at lw_m7 54 rfl) rfl
theorem q1641 : (Jvm.Cond.code ({ cls := "DawnPerquisiteModel", name := "figure", desc := "(III)I" } : Jvm.MethodName) prog_20_method_50_code (4 : Nat) (Option.some Jvm.ClassFile.FieldType.int)) ∈ lw_all := lw_g (lw_at lw_m7 55 rfl) rfl
theorem q1642 : (Jvm.Cond.methodLink "DawnPerquisiteModel" (225 : Nat) ({ cls := "DawnPerquisiteModel", name := "sortClause", desc := "(I)I" } : Jvm.MethodName)) ∈ lw_all := lw_g (lw_at lw_m7 56 rfl) rfl
theorem q1643 : (Jvm.Cond.privateMethod ({ cls := "DawnPerquisiteModel", name := "sortClause", desc := "(I)I" } : Jvm.MethodName)) ∈ lw_tbl := lw_at lw_m7 57 rfl
theorem q1644 : (Jvm.Cond.instanceMethod ({ cls := "DawnPerquisiteModel", name := "sortClause", desc := "(I)I" } : Jvm.MethodName)) ∈ lw_all := lw_g (lw_at lw_m7 58 rfl) rfl
theorem q1645 : (Jvm.Cond.code ({ cls := "DawnPerquisiteModel", name := "sortClause", desc := "(I)I" } : Jvm.MethodName) prog_20_method_53_code (3 : Nat) (Option.some Jvm.ClassFile.FieldType.int)) ∈ lw_all := lw_g (lw_at lw_m7 59 rfl) rfl
theorem q1646 : (Jvm.Cond.methodLink "DawnPerquisiteModel" (228 : Nat) ({ cls := "DawnPerquisiteModel", name := "lawClause", desc := "(I)I" } : Jvm.MethodName)) ∈ lw_all := lw_g (lw_at lw_m7 60 rfl) rfl
theorem q1647 : (Jvm.Cond.privateMethod ({ cls := "DawnPerquisiteModel", name := "lawClause", desc := "(I)I" } : Jvm.MethodName)) ∈ lw_tbl := lw_at lw_m7 61 rfl
theorem q1648 : (Jvm.Cond.instanceMethod ({ cls := "DawnPerquisiteModel", name := "lawClause", desc := "(I)I" } : Jvm.MethodName)) ∈ lw_all := lw_g (lw_at lw_m7 62 rfl) rfl
theorem q1649 : (Jvm.Cond.code ({ cls := "DawnPerquisiteModel", name := "lawClause", desc := "(I)I" } : Jvm.MethodName) prog_20_method_51_code (3 : Nat) (Option.some Jvm.ClassFile.FieldType.int)) ∈ lw_all := lw_g (lw_at lw_m7 63 rfl) rfl
theorem q1650 : (Jvm.Cond.methodLink "DawnPerquisiteModel" (215 : Nat) ({ cls := "DawnPerquisiteModel", name := "summed", desc := "()I" } : Jvm.MethodName)) ∈ lw_all := lw_g (lw_at lw_m7 64 rfl) rfl
theorem q1651 : (Jvm.Cond.privateMethod ({ cls := "DawnPerquisiteModel", name := "summed", desc := "()I" } : Jvm.MethodName)) ∈ lw_tbl := lw_at lw_m7 65 rfl
theorem q1652 : (Jvm.Cond.instanceMethod ({ cls := "DawnPerquisiteModel", name := "summed", desc := "()I" } : Jvm.MethodName)) ∈ lw_all := lw_g (lw_at lw_m7 66 rfl) rfl
theorem q1653 : (Jvm.Cond.code ({ cls := "DawnPerquisiteModel", name := "summed", desc := "()I" } : Jvm.MethodName) prog_20_method_49_code (2 : Nat) (Option.some Jvm.ClassFile.FieldType.int)) ∈ lw_all := lw_g (lw_at lw_m7 67 rfl) rfl
theorem q1654 : (Jvm.Cond.methodLink "DawnPerquisiteModel" (209 : Nat) ({ cls := "DawnPerquisiteModel", name := "behindOne", desc := "()Z" } : Jvm.MethodName)) ∈ lw_all := lw_g (lw_at lw_m7 68 rfl) rfl
theorem q1655 : (Jvm.Cond.privateMethod ({ cls := "DawnPerquisiteModel", name := "behindOne", desc := "()Z" } : Jvm.MethodName)) ∈ lw_tbl := lw_at lw_m7 69 rfl
theorem q1656 : (Jvm.Cond.instanceMethod ({ cls := "DawnPerquisiteModel", name := "behindOne", desc := "()Z" } : Jvm.MethodName)) ∈ lw_all := lw_g (lw_at lw_m7 70 rfl) rfl
theorem q1657 : (Jvm.Cond.code ({ cls := "DawnPerquisiteModel", name := "behindOne", desc := "()Z" } : Jvm.MethodName) prog_20_method_48_code (4 : Nat) (Option.some Jvm.ClassFile.FieldType.boolean)) ∈ lw_all := lw_g (lw_at lw_m7 71 rfl) rfl
theorem q1658 : (Jvm.Cond.methodLink "DawnPerquisiteModel" (203 : Nat) ({ cls := "DawnPerquisiteModel", name := "betweenOf", desc := "()I" } : Jvm.MethodName)) ∈ lw_all := lw_g (lw_at lw_m7 72 rfl) rfl
theorem q1659 : (Jvm.Cond.privateMethod ({ cls := "DawnPerquisiteModel", name := "betweenOf", desc := "()I" } : Jvm.MethodName)) ∈ lw_tbl := lw_at lw_m7 73 rfl
theorem q1660 : (Jvm.Cond.instanceMethod ({ cls := "DawnPerquisiteModel", name := "betweenOf", desc := "()I" } : Jvm.MethodName)) ∈ lw_all := lw_g (lw_at lw_m7 74 rfl) rfl
theorem q1661 : (Jvm.Cond.code ({ cls := "DawnPerquisiteModel", name := "betweenOf", desc := "()I" } : Jvm.MethodName) prog_20_method_46_code (1 : Nat) (Option.some Jvm.ClassFile.FieldType.int)) ∈ lw_all := lw_g (lw_at lw_m7 75 rfl) rfl
theorem q1662 : (Jvm.Cond.methodLink "DawnPerquisiteModel" (168 : Nat) ({ cls := "DawnPerquisiteModel", name := "openNow", desc := "()I" } : Jvm.MethodName)) ∈ lw_all := lw_g (lw_at lw_m7 76 rfl) rfl
theorem q1663 : (Jvm.Cond.privateMethod ({ cls := "DawnPerquisiteModel", name := "openNow", desc := "()I" } : Jvm.MethodName)) ∈ lw_tbl := lw_at lw_m7 77 rfl
theorem q1664 : (Jvm.Cond.instanceMethod ({ cls := "DawnPerquisiteModel", name := "openNow", desc := "()I" } : Jvm.MethodName)) ∈ lw_all := lw_g (lw_at lw_m7 78 rfl) rfl
theorem q1665 : (Jvm.Cond.code ({ cls := "DawnPerquisiteModel", name := "openNow", desc := "()I" } : Jvm.MethodName) prog_20_method_40_code (1 : Nat) (Option.some Jvm.ClassFile.FieldType.int)) ∈ lw_all := lw_g (lw_at lw_m7 79 rfl) rfl
theorem q1666 : (Jvm.Cond.methodLink "DawnPerquisiteModel" (164 : Nat) ({ cls := "DawnPerquisiteModel", name := "openAt", desc := "()I" } : Jvm.MethodName)) ∈ lw_all := lw_g (lw_at lw_m7 80 rfl) rfl
theorem q1667 : (Jvm.Cond.privateMethod ({ cls := "DawnPerquisiteModel", name := "openAt", desc := "()I" } : Jvm.MethodName)) ∈ lw_tbl := lw_at lw_m7 81 rfl
theorem q1668 : (Jvm.Cond.instanceMethod ({ cls := "DawnPerquisiteModel", name := "openAt", desc := "()I" } : Jvm.MethodName)) ∈ lw_all := lw_g (lw_at lw_m7 82 rfl) rfl
theorem q1669 : (Jvm.Cond.code ({ cls := "DawnPerquisiteModel", name := "openAt", desc := "()I" } : Jvm.MethodName) prog_20_method_39_code (2 : Nat) (Option.some Jvm.ClassFile.FieldType.int)) ∈ lw_all := lw_g (lw_at lw_m7 83 rfl) rfl
theorem q1670 : (Jvm.Cond.methodLink "DawnPerquisiteModel" (197 : Nat) ({ cls := "DawnPerquisiteModel", name := "isCompared", desc := "()Z" } : Jvm.MethodName)) ∈ lw_all := lw_g (lw_at lw_m7 84 rfl) rfl
theorem q1671 : (Jvm.Cond.privateMethod ({ cls := "DawnPerquisiteModel", name := "isCompared", desc := "()Z" } : Jvm.MethodName)) ∈ lw_tbl := lw_at lw_m7 85 rfl
theorem q1672 : (Jvm.Cond.instanceMethod ({ cls := "DawnPerquisiteModel", name := "isCompared", desc := "()Z" } : Jvm.MethodName)) ∈ lw_all := lw_g (lw_at lw_m7 86 rfl) rfl
theorem q1673 : (Jvm.Cond.code ({ cls := "DawnPerquisiteModel", name := "isCompared", desc := "()Z" } : Jvm.MethodName) prog_20_method_41_code (2 : Nat) (Option.some Jvm.ClassFile.FieldType.boolean)) ∈ lw_all := lw_g (lw_at lw_m7 87 rfl) rfl
theorem q1674 : (Jvm.Cond.methodLink "DawnPerquisiteModel" (154 : Nat) ({ cls := "DawnPerquisiteModel", name := "rank", desc := "(I)I" } : Jvm.MethodName)) ∈ lw_all := lw_g (lw_at lw_m7 88 rfl) rfl
theorem q1675 : (Jvm.Cond.static ({ cls := "DawnPerquisiteModel", name := "rank", desc := "(I)I" } : Jvm.MethodName)) ∈ lw_all := lw_g (lw_at lw_m7 89 rfl) rfl
theorem q1676 : (Jvm.Cond.code ({ cls := "DawnPerquisiteModel", name := "rank", desc := "(I)I" } : Jvm.MethodName) prog_20_method_37_code (1 : Nat) (Option.some Jvm.ClassFile.FieldType.int)) ∈ lw_all := lw_g (lw_at lw_m7 90 rfl) rfl
theorem q1677 : (Jvm.Cond.methodLink "DawnPerquisiteModel" (200 : Nat) ({ cls := "DawnPerquisiteModel", name := "compareOf", desc := "()I" } : Jvm.MethodName)) ∈ lw_all := lw_g (lw_at lw_m7 91 rfl) rfl
theorem q1678 : (Jvm.Cond.privateMethod ({ cls := "DawnPerquisiteModel", name := "compareOf", desc := "()I" } : Jvm.MethodName)) ∈ lw_tbl := lw_at lw_m7 92 rfl
theorem q1679 : (Jvm.Cond.instanceMethod ({ cls := "DawnPerquisiteModel", name := "compareOf", desc := "()I" } : Jvm.MethodName)) ∈ lw_all := lw_g (lw_at lw_m7 93 rfl) rfl
theorem q1680 : (Jvm.Cond.code ({ cls := "DawnPerquisiteModel", name := "compareOf", desc := "()I" } : Jvm.MethodName) prog_20_method_45_code (1 : Nat) (Option.some Jvm.ClassFile.FieldType.int)) ∈ lw_all := lw_g (lw_at lw_m7 94 rfl) rfl
theorem q1681 : (Jvm.Cond.methodLink "DawnPerquisiteModel" (183 : Nat) ({ cls := "DawnPerquisiteModel", name := "settle", desc := "(I)V" } : Jvm.MethodName)) ∈ lw_all := lw_g (lw_at lw_m7 95 rfl) rfl
theorem q1682 : (Jvm.Cond.privateMethod ({ cls := "DawnPerquisiteModel", name := "settle", desc := "(I)V" } : Jvm.MethodName)) ∈ lw_tbl := lw_at lw_m7 96 rfl
theorem q1683 : (Jvm.Cond.instanceMethod ({ cls := "DawnPerquisiteModel", name := "settle", desc := "(I)V" } : Jvm.MethodName)) ∈ lw_all := lw_g (lw_at lw_m7 97 rfl) rfl
theorem q1684 : (Jvm.Cond.code ({ cls := "DawnPerquisiteModel", name := "settle", desc := "(I)V" } : Jvm.MethodName) prog_20_method_38_code (2 : Nat) (Option.none : Option Jvm.ClassFile.FieldType)) ∈ lw_all := lw_g (lw_at lw_m7 98 rfl) rfl
theorem q1685 : (Jvm.Cond.methodLink "DawnPerquisiteModel" (157 : Nat) ({ cls := "DawnPerquisiteModel", name := "emit", desc := "(II)V" } : Jvm.MethodName)) ∈ lw_all := lw_g (lw_at lw_m7 99 rfl) rfl
theorem q1686 : (Jvm.Cond.privateMethod ({ cls := "DawnPerquisiteModel", name := "emit", desc := "(II)V" } : Jvm.MethodName)) ∈ lw_tbl := lw_at lw_m7 100 rfl
theorem q1687 : (Jvm.Cond.instanceMethod ({ cls := "DawnPerquisiteModel", name := "emit", desc := "(II)V" } : Jvm.MethodName)) ∈ lw_all := lw_g (lw_at lw_m7 101 rfl) rfl
theorem q1688 : (Jvm.Cond.code ({ cls := "DawnPerquisiteModel", name := "emit", desc := "(II)V" } : Jvm.MethodName) prog_20_method_34_code (3 : Nat) (Option.none : Option Jvm.ClassFile.FieldType)) ∈ lw_all := lw_g (lw_at lw_m7 102 rfl) rfl
theorem q1689 : (Jvm.Cond.methodLink "DawnPerquisiteModel" (206 : Nat) ({ cls := "DawnPerquisiteModel", name := "partOf", desc := "(I)I" } : Jvm.MethodName)) ∈ lw_all := lw_g (lw_at lw_m7 103 rfl) rfl
theorem q1690 : (Jvm.Cond.privateMethod ({ cls := "DawnPerquisiteModel", name := "partOf", desc := "(I)I" } : Jvm.MethodName)) ∈ lw_tbl := lw_at lw_m7 104 rfl
theorem q1691 : (Jvm.Cond.instanceMethod ({ cls := "DawnPerquisiteModel", name := "partOf", desc := "(I)I" } : Jvm.MethodName)) ∈ lw_all := lw_g (lw_at lw_m7 105 rfl) rfl
theorem q1692 : (Jvm.Cond.code ({ cls := "DawnPerquisiteModel", name := "partOf", desc := "(I)I" } : Jvm.MethodName) prog_20_method_47_code (2 : Nat) (Option.some Jvm.ClassFile.FieldType.int)) ∈ lw_all := lw_g (lw_at lw_m7 106 rfl) rfl
theorem q1693 : (Jvm.Cond.methodLink "DawnPerquisiteModel" (212 : Nat) ({ cls := "DawnPerquisiteModel", name := "beginOne", desc := "()I" } : Jvm.MethodName)) ∈ lw_all := lw_g (lw_at lw_m7 107 rfl) rfl
theorem q1694 : (Jvm.Cond.privateMethod ({ cls := "DawnPerquisiteModel", name := "beginOne", desc := "()I" } : Jvm.MethodName)) ∈ lw_tbl := lw_at lw_m7 108 rfl
theorem q1695 : (Jvm.Cond.instanceMethod ({ cls := "DawnPerquisiteModel", name := "beginOne", desc := "()I" } : Jvm.MethodName)) ∈ lw_all := lw_g (lw_at lw_m7 109 rfl) rfl
theorem q1696 : (Jvm.Cond.code ({ cls := "DawnPerquisiteModel", name := "beginOne", desc := "()I" } : Jvm.MethodName) prog_20_method_44_code (2 : Nat) (Option.some Jvm.ClassFile.FieldType.int)) ∈ lw_all := lw_g (lw_at lw_m7 110 rfl) rfl
theorem q1697 : (Jvm.Cond.methodLink "DawnPerquisiteModel" (174 : Nat) ({ cls := "DawnPerquisiteModel", name := "nameOf", desc := "()I" } : Jvm.MethodName)) ∈ lw_all := lw_g (lw_at lw_m7 111 rfl) rfl
theorem q1698 : (Jvm.Cond.privateMethod ({ cls := "DawnPerquisiteModel", name := "nameOf", desc := "()I" } : Jvm.MethodName)) ∈ lw_tbl := lw_at lw_m7 112 rfl
theorem q1699 : (Jvm.Cond.instanceMethod ({ cls := "DawnPerquisiteModel", name := "nameOf", desc := "()I" } : Jvm.MethodName)) ∈ lw_all := lw_g (lw_at lw_m7 113 rfl) rfl
theorem q1700 : (Jvm.Cond.code ({ cls := "DawnPerquisiteModel", name := "nameOf", desc := "()I" } : Jvm.MethodName) prog_20_method_35_code (1 : Nat) (Option.some Jvm.ClassFile.FieldType.int)) ∈ lw_all := lw_g (lw_at lw_m7 114 rfl) rfl
theorem q1701 : (Jvm.Cond.methodLink "DawnPerquisiteModel" (177 : Nat) ({ cls := "DawnPerquisiteModel", name := "isOf", desc := "(I)Z" } : Jvm.MethodName)) ∈ lw_all := lw_g (lw_at lw_m7 115 rfl) rfl
theorem q1702 : (Jvm.Cond.privateMethod ({ cls := "DawnPerquisiteModel", name := "isOf", desc := "(I)Z" } : Jvm.MethodName)) ∈ lw_tbl := lw_at lw_m7 116 rfl
theorem q1703 : (Jvm.Cond.instanceMethod ({ cls := "DawnPerquisiteModel", name := "isOf", desc := "(I)Z" } : Jvm.MethodName)) ∈ lw_all := lw_g (lw_at lw_m7 117 rfl) rfl
theorem q1704 : (Jvm.Cond.code ({ cls := "DawnPerquisiteModel", name := "isOf", desc := "(I)Z" } : Jvm.MethodName) prog_20_method_36_code (2 : Nat) (Option.some Jvm.ClassFile.FieldType.boolean)) ∈ lw_all := lw_g (lw_at lw_m7 118 rfl) rfl
theorem q1705 : (Jvm.Cond.methodLink "DawnPerquisiteModel" (186 : Nat) ({ cls := "DawnPerquisiteModel", name := "opened", desc := "(I)I" } : Jvm.MethodName)) ∈ lw_all := lw_g (lw_at lw_m7 119 rfl) rfl
theorem q1706 : (Jvm.Cond.privateMethod ({ cls := "DawnPerquisiteModel", name := "opened", desc := "(I)I" } : Jvm.MethodName)) ∈ lw_tbl := lw_at lw_m7 120 rfl
theorem q1707 : (Jvm.Cond.instanceMethod ({ cls := "DawnPerquisiteModel", name := "opened", desc := "(I)I" } : Jvm.MethodName)) ∈ lw_all := lw_g (lw_at lw_m7 121 rfl) rfl
theorem q1708 : (Jvm.Cond.code ({ cls := "DawnPerquisiteModel", name := "opened", desc := "(I)I" } : Jvm.MethodName) prog_20_method_43_code (2 : Nat) (Option.some Jvm.ClassFile.FieldType.int)) ∈ lw_all := lw_g (lw_at lw_m7 122 rfl) rfl
theorem q1709 : (Jvm.Cond.methodLink "DawnPerquisiteModel" (193 : Nat) ({ cls := "DawnPerquisiteModel", name := "isAskAhead", desc := "()Z" } : Jvm.MethodName)) ∈ lw_all := lw_g (lw_at lw_m7 123 rfl) rfl
theorem q1710 : (Jvm.Cond.privateMethod ({ cls := "DawnPerquisiteModel", name := "isAskAhead", desc := "()Z" } : Jvm.MethodName)) ∈ lw_tbl := lw_at lw_m7 124 rfl
theorem q1711 : (Jvm.Cond.instanceMethod ({ cls := "DawnPerquisiteModel", name := "isAskAhead", desc := "()Z" } : Jvm.MethodName)) ∈ lw_all := lw_g (lw_at lw_m7 125 rfl) rfl
theorem q1712 : (Jvm.Cond.code ({ cls := "DawnPerquisiteModel", name := "isAskAhead", desc := "()Z" } : Jvm.MethodName) prog_20_method_42_code (1 : Nat) (Option.some Jvm.ClassFile.FieldType.boolean)) ∈ lw_all := lw_g (lw_at lw_m7 126 rfl) rfl
theorem q1713 : (Jvm.Cond.methodLink "DawnPerquisiteLaw" (41 : Nat) ({ cls := "DawnPerquisiteModel", name := "fault", desc := "(I)I" } : Jvm.MethodName)) ∈ lw_all := lw_g (lw_at lw_m7 127 rfl) rfl
theorem q1714 : (Jvm.Cond.instanceMethod ({ cls := "DawnPerquisiteModel", name := "fault", desc := "(I)I" } : Jvm.MethodName)) ∈ lw_all := lw_g (lw_at lw_m7 128 rfl) rfl
theorem q1715 : (Jvm.Cond.selects "DawnPerquisiteModel" ({ cls := "DawnPerquisiteModel", name := "fault", desc := "(I)I" } : Jvm.MethodName) ({ cls := "DawnPerquisiteModel", name := "fault", desc := "(I)I" } : Jvm.MethodName)) ∈ lw_all := lw_g (lw_at lw_m7 129 rfl) rfl
theorem q1716 : (Jvm.Cond.code ({ cls := "DawnPerquisiteModel", name := "fault", desc := "(I)I" } : Jvm.MethodName) prog_20_method_59_code (2 : Nat) (Option.some Jvm.ClassFile.FieldType.int)) ∈ lw_all := lw_g (lw_at lw_m7 130 rfl) rfl
theorem q1717 : (Jvm.Cond.methodLink "DawnPerquisiteLaw" (46 : Nat) ({ cls := "DawnPerquisiteModel", name := "by", desc := "(I)Z" } : Jvm.MethodName)) ∈ lw_all := lw_g (lw_at lw_m7 131 rfl) rfl
theorem q1718 : (Jvm.Cond.instanceMethod ({ cls := "DawnPerquisiteModel", name := "by", desc := "(I)Z" } : Jvm.MethodName)) ∈ lw_all := lw_g (lw_at lw_m7 132 rfl) rfl
theorem q1719 : (Jvm.Cond.selects "DawnPerquisiteModel" ({ cls := "DawnPerquisiteModel", name := "by", desc := "(I)Z" } : Jvm.MethodName) ({ cls := "DawnPerquisiteModel", name := "by", desc := "(I)Z" } : Jvm.MethodName)) ∈ lw_all := lw_g (lw_at lw_m7 133 rfl) rfl
theorem q1720 : (Jvm.Cond.code ({ cls := "DawnPerquisiteModel", name := "by", desc := "(I)Z" } : Jvm.MethodName) prog_20_method_60_code (2 : Nat) (Option.some Jvm.ClassFile.FieldType.boolean)) ∈ lw_all := lw_g (lw_at lw_m7 134 rfl) rfl
theorem q1721 : (Jvm.Cond.methodLink "DawnPerquisiteLaw" (79 : Nat) ({ cls := "DawnPerquisiteModel", name := "undo", desc := "()I" } : Jvm.MethodName)) ∈ lw_all := lw_g (lw_at lw_m7 135 rfl) rfl
theorem q1722 : (Jvm.Cond.instanceMethod ({ cls := "DawnPerquisiteModel", name := "undo", desc := "()I" } : Jvm.MethodName)) ∈ lw_all := lw_g (lw_at lw_m7 136 rfl) rfl
theorem q1723 : (Jvm.Cond.selects "DawnPerquisiteModel" ({ cls := "DawnPerquisiteModel", name := "undo", desc := "()I" } : Jvm.MethodName) ({ cls := "DawnPerquisiteModel", name := "undo", desc := "()I" } : Jvm.MethodName)) ∈ lw_all := lw_g (lw_at lw_m7 137 rfl) rfl
theorem q1724 : (Jvm.Cond.code ({ cls := "DawnPerquisiteModel", name := "undo", desc := "()I" } : Jvm.MethodName) prog_20_method_84_code (3 : Nat) (Option.some Jvm.ClassFile.FieldType.int)) ∈ lw_all := lw_g (lw_at lw_m7 138 rfl) rfl
theorem q1725 : (Jvm.Cond.methodLink "DawnPerquisiteLaw" (50 : Nat) ({ cls := "DawnPerquisiteModel", name := "sell", desc := "(I)I" } : Jvm.MethodName)) ∈ lw_all := lw_g (lw_at lw_m7 139 rfl) rfl
theorem q1726 : (Jvm.Cond.instanceMethod ({ cls := "DawnPerquisiteModel", name := "sell", desc := "(I)I" } : Jvm.MethodName)) ∈ lw_all := lw_g (lw_at lw_m7 140 rfl) rfl
theorem q1727 : (Jvm.Cond.selects "DawnPerquisiteModel" ({ cls := "DawnPerquisiteModel", name := "sell", desc := "(I)I" } : Jvm.MethodName) ({ cls := "DawnPerquisiteModel", name := "sell", desc := "(I)I" } : Jvm.MethodName)) ∈ lw_all := lw_g (lw_at lw_m7 141 rfl) rfl
theorem q1728 : (Jvm.Cond.code ({ cls := "DawnPerquisiteModel", name := "sell", desc := "(I)I" } : Jvm.MethodName) prog_20_method_85_code (2 : Nat) (Option.some Jvm.ClassFile.FieldType.int)) ∈ lw_all := lw_g (lw_at lw_m7 142 rfl) rfl
theorem q1729 : (Jvm.Cond.methodLink "DawnPerquisiteModel" (336 : Nat) ({ cls := "DawnPerquisiteModel", name := "canSell", desc := "(I)Z" } : Jvm.MethodName)) ∈ lw_all := lw_g (lw_at lw_m7 143 rfl) rfl
theorem q1730 : (Jvm.Cond.privateMethod ({ cls := "DawnPerquisiteModel", name := "canSell", desc := "(I)Z" } : Jvm.MethodName)) ∈ lw_tbl := lw_at lw_m7 144 rfl
theorem q1731 : (Jvm.Cond.instanceMethod ({ cls := "DawnPerquisiteModel", name := "canSell", desc := "(I)Z" } : Jvm.MethodName)) ∈ lw_all := lw_g (lw_at lw_m7 145 rfl) rfl
theorem q1732 : (Jvm.Cond.code ({ cls := "DawnPerquisiteModel", name := "canSell", desc := "(I)Z" } : Jvm.MethodName) prog_20_method_75_code (2 : Nat) (Option.some Jvm.ClassFile.FieldType.boolean)) ∈ lw_all := lw_g (lw_at lw_m7 146 rfl) rfl
theorem q1733 : (Jvm.Cond.methodLink "DawnPerquisiteModel" (308 : Nat) ({ cls := "DawnPerquisiteModel", name := "isBuyer", desc := "(I)Z" } : Jvm.MethodName)) ∈ lw_all := lw_g (lw_at lw_m7 147 rfl) rfl
theorem q1734 : (Jvm.Cond.privateMethod ({ cls := "DawnPerquisiteModel", name := "isBuyer", desc := "(I)Z" } : Jvm.MethodName)) ∈ lw_tbl := lw_at lw_m7 148 rfl
theorem q1735 : (Jvm.Cond.instanceMethod ({ cls := "DawnPerquisiteModel", name := "isBuyer", desc := "(I)Z" } : Jvm.MethodName)) ∈ lw_all := lw_g (lw_at lw_m7 149 rfl) rfl
theorem q1736 : (Jvm.Cond.code ({ cls := "DawnPerquisiteModel", name := "isBuyer", desc := "(I)Z" } : Jvm.MethodName) prog_20_method_7_code (2 : Nat) (Option.some Jvm.ClassFile.FieldType.boolean)) ∈ lw_all := lw_g (lw_at lw_m7 150 rfl) rfl
theorem q1737 : (Jvm.Cond.methodLink "DawnPerquisiteModel" (283 : Nat) ({ cls := "DawnPerquisiteModel", name := "doesWant", desc := "(II)Z" } : Jvm.MethodName)) ∈ lw_all := lw_g (lw_at lw_m7 151 rfl) rfl
theorem q1738 : (Jvm.Cond.privateMethod ({ cls := "DawnPerquisiteModel", name := "doesWant", desc := "(II)Z" } : Jvm.MethodName)) ∈ lw_tbl := lw_at lw_m7 152 rfl
theorem q1739 : (Jvm.Cond.instanceMethod ({ cls := "DawnPerquisiteModel", name := "doesWant", desc := "(II)Z" } : Jvm.MethodName)) ∈ lw_all := lw_g (lw_at lw_m7 153 rfl) rfl
theorem q1740 : (Jvm.Cond.code ({ cls := "DawnPerquisiteModel", name := "doesWant", desc := "(II)Z" } : Jvm.MethodName) prog_20_method_11_code (3 : Nat) (Option.some Jvm.ClassFile.FieldType.boolean)) ∈ lw_all := lw_g (lw_at lw_m7 154 rfl) rfl
theorem q1741 : (Jvm.Cond.methodLink "DawnPerquisiteModel" (311 : Nat) ({ cls := "DawnPerquisiteModel", name := "slicesOf", desc := "(I)I" } : Jvm.MethodName)) ∈ lw_all := lw_g (lw_at lw_m7 155 rfl) rfl
theorem q1742 : (Jvm.Cond.privateMethod ({ cls := "DawnPerquisiteModel", name := "slicesOf", desc := "(I)I" } : Jvm.MethodName)) ∈ lw_tbl := lw_at lw_m7 156 rfl
theorem q1743 : (Jvm.Cond.instanceMethod ({ cls := "DawnPerquisiteModel", name := "slicesOf", desc := "(I)I" } : Jvm.MethodName)) ∈ lw_all := lw_g (lw_at lw_m7 157 rfl) rfl
theorem q1744 : (Jvm.Cond.code ({ cls := "DawnPerquisiteModel", name := "slicesOf", desc := "(I)I" } : Jvm.MethodName) prog_20_method_13_code (2 : Nat) (Option.some Jvm.ClassFile.FieldType.int)) ∈ lw_all := lw_g (lw_at lw_m7 158 rfl) rfl
theorem q1745 : (Jvm.Cond.methodLink "DawnPerquisiteModel" (71 : Nat) ({ cls := "DawnPerquisiteModel", name := "longOf", desc := "(I)I" } : Jvm.MethodName)) ∈ lw_all := lw_g (lw_at lw_m7 159 rfl) rfl
theorem q1746 : (Jvm.Cond.privateMethod ({ cls := "DawnPerquisiteModel", name := "longOf", desc := "(I)I" } : Jvm.MethodName)) ∈ lw_tbl := lw_at lw_m7 160 rfl
theorem q1747 : (Jvm.Cond.instanceMethod ({ cls := "DawnPerquisiteModel", name := "longOf", desc := "(I)I" } : Jvm.MethodName)) ∈ lw_all := lw_g (lw_at lw_m7 161 rfl) rfl
theorem q1748 : (Jvm.Cond.code ({ cls := "DawnPerquisiteModel", name := "longOf", desc := "(I)I" } : Jvm.MethodName) prog_20_method_12_code (2 : Nat) (Option.some Jvm.ClassFile.FieldType.int)) ∈ lw_all := lw_g (lw_at lw_m7 162 rfl) rfl
theorem q1749 : (Jvm.Cond.methodLink "DawnPerquisiteModel" (280 : Nat) ({ cls := "DawnPerquisiteModel", name := "freeNow", desc := "()I" } : Jvm.MethodName)) ∈ lw_all := lw_g (lw_at lw_m7 163 rfl) rfl
theorem q1750 : (Jvm.Cond.privateMethod ({ cls := "DawnPerquisiteModel", name := "freeNow", desc := "()I" } : Jvm.MethodName)) ∈ lw_tbl := lw_at lw_m7 164 rfl
theorem q1751 : (Jvm.Cond.instanceMethod ({ cls := "DawnPerquisiteModel", name := "freeNow", desc := "()I" } : Jvm.MethodName)) ∈ lw_all := lw_g (lw_at lw_m7 165 rfl) rfl
theorem q1752 : (Jvm.Cond.code ({ cls := "DawnPerquisiteModel", name := "freeNow", desc := "()I" } : Jvm.MethodName) prog_20_method_14_code (3 : Nat) (Option.some Jvm.ClassFile.FieldType.int)) ∈ lw_all := lw_g (lw_at lw_m7 166 rfl) rfl
theorem q1753 : (Jvm.Cond.methodLink "DawnPerquisiteModel" (314 : Nat) ({ cls := "DawnPerquisiteModel", name := "bidsNow", desc := "(I)I" } : Jvm.MethodName)) ∈ lw_all := lw_g (lw_at lw_m7 167 rfl) rfl
theorem q1754 : (Jvm.Cond.privateMethod ({ cls := "DawnPerquisiteModel", name := "bidsNow", desc := "(I)I" } : Jvm.MethodName)) ∈ lw_tbl := lw_at lw_m7 168 rfl
theorem q1755 : (Jvm.Cond.instanceMethod ({ cls := "DawnPerquisiteModel", name := "bidsNow", desc := "(I)I" } : Jvm.MethodName)) ∈ lw_all := lw_g (lw_at lw_m7 169 rfl) rfl
theorem q1756 : (Jvm.Cond.code ({ cls := "DawnPerquisiteModel", name := "bidsNow", desc := "(I)I" } : Jvm.MethodName) prog_20_method_70_code (2 : Nat) (Option.some Jvm.ClassFile.FieldType.int)) ∈ lw_all := lw_g (lw_at lw_m7 170 rfl) rfl
theorem q1757 : (Jvm.Cond.methodLink "DawnPerquisiteModel" (296 : Nat) ({ cls := "DawnPerquisiteModel", name := "bidsOf", desc := "(III)I" } : Jvm.MethodName)) ∈ lw_all := lw_g (lw_at lw_m7 171 rfl) rfl
theorem q1758 : (Jvm.Cond.privateMethod ({ cls := "DawnPerquisiteModel", name := "bidsOf", desc := "(III)I" } : Jvm.MethodName)) ∈ lw_tbl := lw_at lw_m7 172 rfl
theorem q1759 : (Jvm.Cond.instanceMethod ({ cls := "DawnPerquisiteModel", name := "bidsOf", desc := "(III)I" } : Jvm.MethodName)) ∈ lw_all := lw_g (lw_at lw_m7 173 rfl) rfl
theorem q1760 : (Jvm.Cond.code ({ cls := "DawnPerquisiteModel", name := "bidsOf", desc := "(III)I" } : Jvm.MethodName) prog_20_method_69_code (4 : Nat) (Option.some Jvm.ClassFile.FieldType.int)) ∈ lw_all := lw_g (lw_at lw_m7 174 rfl) rfl
theorem q1761 : (Jvm.Cond.methodLink "DawnPerquisiteModel" (289 : Nat) ({ cls := "DawnPerquisiteModel", name := "name", desc := "(II)V" } : Jvm.MethodName)) ∈ lw_all := lw_g (lw_at lw_m7 175 rfl) rfl
theorem q1762 : (Jvm.Cond.privateMethod ({ cls := "DawnPerquisiteModel", name := "name", desc := "(II)V" } : Jvm.MethodName)) ∈ lw_tbl := lw_at lw_m7 176 rfl
theorem q1763 : (Jvm.Cond.instanceMethod ({ cls := "DawnPerquisiteModel", name := "name", desc := "(II)V" } : Jvm.MethodName)) ∈ lw_all := lw_g (lw_at lw_m7 177 rfl) rfl
theorem q1764 : (Jvm.Cond.code ({ cls := "DawnPerquisiteModel", name := "name", desc := "(II)V" } : Jvm.MethodName) prog_20_method_68_code (3 : Nat) (Option.none : Option Jvm.ClassFile.FieldType)) ∈ lw_all := lw_g (lw_at lw_m7 178 rfl) rfl
theorem q1765 : (Jvm.Cond.methodLink "DawnPerquisiteModel" (78 : Nat) ({ cls := "DawnPerquisiteModel", name := "bits", desc := "(I)I" } : Jvm.MethodName)) ∈ lw_all := lw_g (lw_at lw_m7 179 rfl) rfl
theorem q1766 : (Jvm.Cond.static ({ cls := "DawnPerquisiteModel", name := "bits", desc := "(I)I" } : Jvm.MethodName)) ∈ lw_all := lw_g (lw_at lw_m7 180 rfl) rfl
theorem q1767 : (Jvm.Cond.code ({ cls := "DawnPerquisiteModel", name := "bits", desc := "(I)I" } : Jvm.MethodName) prog_20_method_6_code (3 : Nat) (Option.some Jvm.ClassFile.FieldType.int)) ∈ lw_all := lw_g (lw_at lw_m7 181 rfl) rfl
theorem q1768 : (Jvm.Cond.methodLink "DawnPerquisiteModel" (286 : Nat) ({ cls := "DawnPerquisiteModel", name := "hasNow", desc := "(I)I" } : Jvm.MethodName)) ∈ lw_all := lw_g (lw_at lw_m7 182 rfl) rfl
theorem q1769 : (Jvm.Cond.privateMethod ({ cls := "DawnPerquisiteModel", name := "hasNow", desc := "(I)I" } : Jvm.MethodName)) ∈ lw_tbl := lw_at lw_m7 183 rfl
theorem q1770 : (Jvm.Cond.instanceMethod ({ cls := "DawnPerquisiteModel", name := "hasNow", desc := "(I)I" } : Jvm.MethodName)) ∈ lw_all := lw_g (lw_at lw_m7 184 rfl) rfl
theorem q1771 : (Jvm.Cond.code ({ cls := "DawnPerquisiteModel", name := "hasNow", desc := "(I)I" } : Jvm.MethodName) prog_20_method_16_code (2 : Nat) (Option.some Jvm.ClassFile.FieldType.int)) ∈ lw_all := lw_g (lw_at lw_m7 185 rfl) rfl
theorem q1772 : (Jvm.Cond.methodLink "DawnPerquisiteModel" (75 : Nat) ({ cls := "DawnPerquisiteModel", name := "ownNow", desc := "(I)I" } : Jvm.MethodName)) ∈ lw_all := lw_g (lw_at lw_m7 186 rfl) rfl
theorem q1773 : (Jvm.Cond.privateMethod ({ cls := "DawnPerquisiteModel", name := "ownNow", desc := "(I)I" } : Jvm.MethodName)) ∈ lw_tbl := lw_at lw_m7 187 rfl
theorem q1774 : (Jvm.Cond.instanceMethod ({ cls := "DawnPerquisiteModel", name := "ownNow", desc := "(I)I" } : Jvm.MethodName)) ∈ lw_all := lw_g (lw_at lw_m7 188 rfl) rfl
theorem q1775 : (Jvm.Cond.code ({ cls := "DawnPerquisiteModel", name := "ownNow", desc := "(I)I" } : Jvm.MethodName) prog_20_method_15_code (4 : Nat) (Option.some Jvm.ClassFile.FieldType.int)) ∈ lw_all := lw_g (lw_at lw_m7 189 rfl) rfl
theorem q1776 : (Jvm.Cond.methodLink "DawnPerquisiteModel" (292 : Nat) ({ cls := "DawnPerquisiteModel", name := "says", desc := "(IIIII)I" } : Jvm.MethodName)) ∈ lw_all := lw_g (lw_at lw_m7 190 rfl) rfl
theorem q1777 : (Jvm.Cond.privateMethod ({ cls := "DawnPerquisiteModel", name := "says", desc := "(IIIII)I" } : Jvm.MethodName)) ∈ lw_tbl := lw_at lw_m7 191 rfl
theorem q1778 : (Jvm.Cond.instanceMethod ({ cls := "DawnPerquisiteModel", name := "says", desc := "(IIIII)I" } : Jvm.MethodName)) ∈ lw_all := lw_g (lw_at lw_m7 192 rfl) rfl
theorem q1779 : (Jvm.Cond.code ({ cls := "DawnPerquisiteModel", name := "says", desc := "(IIIII)I" } : Jvm.MethodName) prog_20_method_67_code (7 : Nat) (Option.some Jvm.ClassFile.FieldType.int)) ∈ lw_all := lw_g (lw_at lw_m7 193 rfl) rfl
theorem q1780 : (Jvm.Cond.methodLink "DawnPerquisiteModel" (273 : Nat) ({ cls := "DawnPerquisiteModel", name := "summedUp", desc := "(II)J" } : Jvm.MethodName)) ∈ lw_all := lw_g (lw_at lw_m7 194 rfl) rfl
theorem q1781 : (Jvm.Cond.privateMethod ({ cls := "DawnPerquisiteModel", name := "summedUp", desc := "(II)J" } : Jvm.MethodName)) ∈ lw_tbl := lw_at lw_m7 195 rfl
theorem q1782 : (Jvm.Cond.instanceMethod ({ cls := "DawnPerquisiteModel", name := "summedUp", desc := "(II)J" } : Jvm.MethodName)) ∈ lw_all := lw_g (lw_at lw_m7 196 rfl) rfl
theorem q1783 : (Jvm.Cond.code ({ cls := "DawnPerquisiteModel", name := "summedUp", desc := "(II)J" } : Jvm.MethodName) prog_20_method_66_code (10 : Nat) (Option.some Jvm.ClassFile.FieldType.long)) ∈ lw_all := lw_g (lw_at lw_m7 197 rfl) rfl
theorem q1784 : (Jvm.Cond.methodLink "DawnPerquisiteModel" (257 : Nat) ({ cls := "DawnPerquisiteModel", name := "ofOne", desc := "(IJ)J" } : Jvm.MethodName)) ∈ lw_all := lw_g (lw_at lw_m7 198 rfl) rfl
theorem q1785 : (Jvm.Cond.privateMethod ({ cls := "DawnPerquisiteModel", name := "ofOne", desc := "(IJ)J" } : Jvm.MethodName)) ∈ lw_tbl := lw_at lw_m7 199 rfl
theorem q1786 : (Jvm.Cond.instanceMethod ({ cls := "DawnPerquisiteModel", name := "ofOne", desc := "(IJ)J" } : Jvm.MethodName)) ∈ lw_all := lw_g (lw_at lw_m7 200 rfl) rfl
theorem q1787 : (Jvm.Cond.code ({ cls := "DawnPerquisiteModel", name := "ofOne", desc := "(IJ)J" } : Jvm.MethodName) prog_20_method_64_code (4 : Nat) (Option.some Jvm.ClassFile.FieldType.long)) ∈ lw_all := lw_g (lw_at lw_m7 201 rfl) rfl
theorem q1788 : (Jvm.Cond.constantLong "DawnPerquisiteModel" (255 : Nat) (5 : Int64)) ∈ lw_all := lw_g (lw_at lw_m7 202 rfl) rfl
theorem q1789 : (Jvm.Cond.methodLink "DawnPerquisiteModel" (261 : Nat) ({ cls := "DawnPerquisiteModel", name := "two", desc := "(IJJ)J" } : Jvm.MethodName)) ∈ lw_all := lw_g (lw_at lw_m7 203 rfl) rfl
theorem q1790 : (Jvm.Cond.static ({ cls := "DawnPerquisiteModel", name := "two", desc := "(IJJ)J" } : Jvm.MethodName)) ∈ lw_all := lw_g (lw_at lw_m7 204 rfl) rfl
theorem q1791 : (Jvm.Cond.code ({ cls := "DawnPerquisiteModel", name := "two", desc := "(IJJ)J" } : Jvm.MethodName) prog_20_method_62_code (5 : Nat) (Option.some Jvm.ClassFile.FieldType.long)) ∈ lw_all := lw_g (lw_at lw_m7 205 rfl) rfl
theorem q1792 : (Jvm.Cond.methodLink "DawnPerquisiteModel" (251 : Nat) ({ cls := "DawnPerquisiteModel", name := "clip", desc := "(J)J" } : Jvm.MethodName)) ∈ lw_all := lw_g (lw_at lw_m7 206 rfl) rfl
theorem q1793 : (Jvm.Cond.static ({ cls := "DawnPerquisiteModel", name := "clip", desc := "(J)J" } : Jvm.MethodName)) ∈ lw_all := lw_g (lw_at lw_m7 207 rfl) rfl
theorem q1794 : (Jvm.Cond.code ({ cls := "DawnPerquisiteModel", name := "clip", desc := "(J)J" } : Jvm.MethodName) prog_20_method_61_code (2 : Nat) (Option.some Jvm.ClassFile.FieldType.long)) ∈ lw_all := lw_g (lw_at lw_m7 208 rfl) rfl
theorem q1795 : (Jvm.Cond.constantLong "DawnPerquisiteModel" (247 : Nat) (1000000 : Int64)) ∈ lw_all := lw_g (lw_at lw_m7 209 rfl) rfl
theorem q1796 : (Jvm.Cond.constantLong "DawnPerquisiteModel" (249 : Nat) (-1000000 : Int64)) ∈ lw_all := lw_g (lw_at lw_m7 210 rfl) rfl
theorem q1797 : (Jvm.Cond.methodLink "DawnPerquisiteModel" (265 : Nat) ({ cls := "DawnPerquisiteModel", name := "isAsked", desc := "(IJJ)Z" } : Jvm.MethodName)) ∈ lw_all := lw_g (lw_at lw_m7 211 rfl) rfl
theorem q1798 : (Jvm.Cond.static ({ cls := "DawnPerquisiteModel", name := "isAsked", desc := "(IJJ)Z" } : Jvm.MethodName)) ∈ lw_all := lw_g (lw_at lw_m7 212 rfl) rfl
theorem q1799 : (Jvm.Cond.code ({ cls := "DawnPerquisiteModel", name := "isAsked", desc := "(IJJ)Z" } : Jvm.MethodName) prog_20_method_63_code (5 : Nat) (Option.some Jvm.ClassFile.FieldType.boolean)) ∈ lw_all := lw_g (lw_at lw_m7 213 rfl) rfl
theorem q1800 : (Jvm.Cond.methodLink "DawnPerquisiteModel" (269 : Nat) ({ cls := "DawnPerquisiteModel", name := "joined", desc := "(IZZ)Z" } : Jvm.MethodName)) ∈ lw_all := lw_g (lw_at lw_m7 214 rfl) rfl
theorem q1801 : (Jvm.Cond.static ({ cls := "DawnPerquisiteModel", name := "joined", desc := "(IZZ)Z" } : Jvm.MethodName)) ∈ lw_all := lw_g (lw_at lw_m7 215 rfl) rfl
theorem q1802 : (Jvm.Cond.code ({ cls := "DawnPerquisiteModel", name := "joined", desc := "(IZZ)Z" } : Jvm.MethodName) prog_20_method_65_code (3 : Nat) (Option.some Jvm.ClassFile.FieldType.boolean)) ∈ lw_all := lw_g (lw_at lw_m7 216 rfl) rfl
theorem q1803 : (Jvm.Cond.methodLink "DawnPerquisiteModel" (276 : Nat) ({ cls := "DawnPerquisiteModel", name := "held", desc := "(JII)I" } : Jvm.MethodName)) ∈ lw_all := lw_g (lw_at lw_m7 217 rfl) rfl
theorem q1804 : (Jvm.Cond.static ({ cls := "DawnPerquisiteModel", name := "held", desc := "(JII)I" } : Jvm.MethodName)) ∈ lw_all := lw_g (lw_at lw_m7 218 rfl) rfl
theorem q1805 : (Jvm.Cond.code ({ cls := "DawnPerquisiteModel", name := "held", desc := "(JII)I" } : Jvm.MethodName) prog_20_method_4_code (4 : Nat) (Option.some Jvm.ClassFile.FieldType.int)) ∈ lw_all := lw_g (lw_at lw_m7 219 rfl) rfl
theorem q1806 : (Jvm.Cond.methodLink "DawnPerquisiteModel" (339 : Nat) ({ cls := "DawnPerquisiteModel", name := "keepStep", desc := "()V" } : Jvm.MethodName)) ∈ lw_all := lw_g (lw_at lw_m7 220 rfl) rfl
theorem q1807 : (Jvm.Cond.privateMethod ({ cls := "DawnPerquisiteModel", name := "keepStep", desc := "()V" } : Jvm.MethodName)) ∈ lw_tbl := lw_at lw_m7 221 rfl
theorem q1808 : (Jvm.Cond.instanceMethod ({ cls := "DawnPerquisiteModel", name := "keepStep", desc := "()V" } : Jvm.MethodName)) ∈ lw_all := lw_g (lw_at lw_m7 222 rfl) rfl
theorem q1809 : (Jvm.Cond.code ({ cls := "DawnPerquisiteModel", name := "keepStep", desc := "()V" } : Jvm.MethodName) prog_20_method_83_code (3 : Nat) (Option.none : Option Jvm.ClassFile.FieldType)) ∈ lw_all := lw_g (lw_at lw_m7 223 rfl) rfl
theorem q1810 : (Jvm.Cond.methodLink "DawnPerquisiteModel" (342 : Nat) ({ cls := "DawnPerquisiteModel", name := "sellNow", desc := "(I)I" } : Jvm.MethodName)) ∈ lw_all := lw_g (lw_at lw_m7 224 rfl) rfl
theorem q1811 : (Jvm.Cond.privateMethod ({ cls := "DawnPerquisiteModel", name := "sellNow", desc := "(I)I" } : Jvm.MethodName)) ∈ lw_tbl := lw_at lw_m7 225 rfl
theorem q1812 : (Jvm.Cond.instanceMethod ({ cls := "DawnPerquisiteModel", name := "sellNow", desc := "(I)I" } : Jvm.MethodName)) ∈ lw_all := lw_g (lw_at lw_m7 226 rfl) rfl
theorem q1813 : (Jvm.Cond.code ({ cls := "DawnPerquisiteModel", name := "sellNow", desc := "(I)I" } : Jvm.MethodName) prog_20_method_76_code (4 : Nat) (Option.some Jvm.ClassFile.FieldType.int)) ∈ lw_all := lw_g (lw_at lw_m7 227 rfl) rfl
theorem q1814 : (Jvm.Cond.methodLink "DawnPerquisiteModel" (317 : Nat) ({ cls := "DawnPerquisiteModel", name := "write", desc := "(III)V" } : Jvm.MethodName)) ∈ lw_all := lw_g (lw_at lw_m7 228 rfl) rfl
theorem q1815 : (Jvm.Cond.privateMethod ({ cls := "DawnPerquisiteModel", name := "write", desc := "(III)V" } : Jvm.MethodName)) ∈ lw_tbl := lw_at lw_m7 229 rfl
theorem q1816 : (Jvm.Cond.instanceMethod ({ cls := "DawnPerquisiteModel", name := "write", desc := "(III)V" } : Jvm.MethodName)) ∈ lw_all := lw_g (lw_at lw_m7 230 rfl) rfl
theorem q1817 : (Jvm.Cond.code ({ cls := "DawnPerquisiteModel", name := "write", desc := "(III)V" } : Jvm.MethodName) prog_20_method_72_code (5 : Nat) (Option.none : Option Jvm.ClassFile.FieldType)) ∈ lw_all := lw_g (lw_at lw_m7 231 rfl) rfl
theorem q1818 : (Jvm.Cond.methodLink "DawnPerquisiteLaw" (54 : Nat) ({ cls := "DawnPerquisiteModel", name := "give", desc := "(I)Z" } : Jvm.MethodName)) ∈ lw_all := lw_g (lw_at lw_m7 232 rfl) rfl
theorem q1819 : (Jvm.Cond.instanceMethod ({ cls := "DawnPerquisiteModel", name := "give", desc := "(I)Z" } : Jvm.MethodName)) ∈ lw_all := lw_g (lw_at lw_m7 233 rfl) rfl
theorem q1820 : (Jvm.Cond.selects "DawnPerquisiteModel" ({ cls := "DawnPerquisiteModel", name := "give", desc := "(I)Z" } : Jvm.MethodName) ({ cls := "DawnPerquisiteModel", name := "give", desc := "(I)Z" } : Jvm.MethodName)) ∈ lw_all := lw_g (lw_at lw_m7 234 rfl) rfl
theorem q1821 : (Jvm.Cond.code ({ cls := "DawnPerquisiteModel", name := "give", desc := "(I)Z" } : Jvm.MethodName) prog_20_method_86_code (2 : Nat) (Option.some Jvm.ClassFile.FieldType.boolean)) ∈ lw_all := lw_g (lw_at lw_m7 235 rfl) rfl
theorem q1822 : (Jvm.Cond.methodLink "DawnPerquisiteModel" (345 : Nat) ({ cls := "DawnPerquisiteModel", name := "canGive", desc := "(I)Z" } : Jvm.MethodName)) ∈ lw_all := lw_g (lw_at lw_m7 236 rfl) rfl
theorem q1823 : (Jvm.Cond.privateMethod ({ cls := "DawnPerquisiteModel", name := "canGive", desc := "(I)Z" } : Jvm.MethodName)) ∈ lw_tbl := lw_at lw_m7 237 rfl
theorem q1824 : (Jvm.Cond.instanceMethod ({ cls := "DawnPerquisiteModel", name := "canGive", desc := "(I)Z" } : Jvm.MethodName)) ∈ lw_all := lw_g (lw_at lw_m7 238 rfl) rfl
theorem q1825 : (Jvm.Cond.code ({ cls := "DawnPerquisiteModel", name := "canGive", desc := "(I)Z" } : Jvm.MethodName) prog_20_method_77_code (2 : Nat) (Option.some Jvm.ClassFile.FieldType.boolean)) ∈ lw_all := lw_g (lw_at lw_m7 239 rfl) rfl
theorem q1826 : (Jvm.Cond.methodLink "DawnPerquisiteModel" (321 : Nat) ({ cls := "DawnPerquisiteModel", name := "isSlice", desc := "(I)Z" } : Jvm.MethodName)) ∈ lw_all := lw_g (lw_at lw_m8 0 rfl) rfl
theorem q1827 : (Jvm.Cond.static ({ cls := "DawnPerquisiteModel", name := "isSlice", desc := "(I)Z" } : Jvm.MethodName)) ∈ lw_all := lw_g (lw_at lw_m8 1 rfl) rfl
theorem q1828 : (Jvm.Cond.code ({ cls := "DawnPerquisiteModel", name := "isSlice", desc := "(I)Z" } : Jvm.MethodName) prog_20_method_9_code (1 : Nat) (Option.some Jvm.ClassFile.FieldType.boolean)) ∈ lw_all := lw_g (lw_at lw_m8 2 rfl) rfl
theorem q1829 : (Jvm.Cond.methodLink "DawnPerquisiteModel" (348 : Nat) ({ cls := "DawnPerquisiteModel", name := "giveNow", desc := "(I)V" } : Jvm.MethodName)) ∈ lw_all := lw_g (lw_at lw_m8 3 rfl) rfl
theorem q1830 : (Jvm.Cond.privateMethod ({ cls := "DawnPerquisiteModel", name := "giveNow", desc := "(I)V" } : Jvm.MethodName)) ∈ lw_tbl := lw_at lw_m8 4 rfl
theorem q1831 : (Jvm.Cond.instanceMethod ({ cls := "DawnPerquisiteModel", name := "giveNow", desc := "(I)V" } : Jvm.MethodName)) ∈ lw_all := lw_g (lw_at lw_m8 5 rfl) rfl
theorem q1832 : (Jvm.Cond.code ({ cls := "DawnPerquisiteModel", name := "giveNow", desc := "(I)V" } : Jvm.MethodName) prog_20_method_78_code (2 : Nat) (Option.none : Option Jvm.ClassFile.FieldType)) ∈ lw_all := lw_g (lw_at lw_m8 6 rfl) rfl
theorem q1833 : (Jvm.Cond.methodLink "DawnPerquisiteLaw" (58 : Nat) ({ cls := "DawnPerquisiteModel", name := "turn", desc := "(I)Z" } : Jvm.MethodName)) ∈ lw_all := lw_g (lw_at lw_m8 7 rfl) rfl
theorem q1834 : (Jvm.Cond.instanceMethod ({ cls := "DawnPerquisiteModel", name := "turn", desc := "(I)Z" } : Jvm.MethodName)) ∈ lw_all := lw_g (lw_at lw_m8 8 rfl) rfl
theorem q1835 : (Jvm.Cond.selects "DawnPerquisiteModel" ({ cls := "DawnPerquisiteModel", name := "turn", desc := "(I)Z" } : Jvm.MethodName) ({ cls := "DawnPerquisiteModel", name := "turn", desc := "(I)Z" } : Jvm.MethodName)) ∈ lw_all := lw_g (lw_at lw_m8 9 rfl) rfl
theorem q1836 : (Jvm.Cond.code ({ cls := "DawnPerquisiteModel", name := "turn", desc := "(I)Z" } : Jvm.MethodName) prog_20_method_87_code (2 : Nat) (Option.some Jvm.ClassFile.FieldType.boolean)) ∈ lw_all := lw_g (lw_at lw_m8 10 rfl) rfl
theorem q1837 : (Jvm.Cond.methodLink "DawnPerquisiteModel" (351 : Nat) ({ cls := "DawnPerquisiteModel", name := "canTurn", desc := "(I)Z" } : Jvm.MethodName)) ∈ lw_all := lw_g (lw_at lw_m8 11 rfl) rfl
theorem q1838 : (Jvm.Cond.privateMethod ({ cls := "DawnPerquisiteModel", name := "canTurn", desc := "(I)Z" } : Jvm.MethodName)) ∈ lw_tbl := lw_at lw_m8 12 rfl
theorem q1839 : (Jvm.Cond.instanceMethod ({ cls := "DawnPerquisiteModel", name := "canTurn", desc := "(I)Z" } : Jvm.MethodName)) ∈ lw_all := lw_g (lw_at lw_m8 13 rfl) rfl
theorem q1840 : (Jvm.Cond.code ({ cls := "DawnPerquisiteModel", name := "canTurn", desc := "(I)Z" } : Jvm.MethodName) prog_20_method_79_code (2 : Nat) (Option.some Jvm.ClassFile.FieldType.boolean)) ∈ lw_all := lw_g (lw_at lw_m8 14 rfl) rfl
theorem q1841 : (Jvm.Cond.methodLink "DawnPerquisiteModel" (354 : Nat) ({ cls := "DawnPerquisiteModel", name := "turnNow", desc := "(I)V" } : Jvm.MethodName)) ∈ lw_all := lw_g (lw_at lw_m8 15 rfl) rfl
theorem q1842 : (Jvm.Cond.privateMethod ({ cls := "DawnPerquisiteModel", name := "turnNow", desc := "(I)V" } : Jvm.MethodName)) ∈ lw_tbl := lw_at lw_m8 16 rfl
theorem q1843 : (Jvm.Cond.instanceMethod ({ cls := "DawnPerquisiteModel", name := "turnNow", desc := "(I)V" } : Jvm.MethodName)) ∈ lw_all := lw_g (lw_at lw_m8 17 rfl) rfl
theorem q1844 : (Jvm.Cond.code ({ cls := "DawnPerquisiteModel", name := "turnNow", desc := "(I)V" } : Jvm.MethodName) prog_20_method_80_code (3 : Nat) (Option.none : Option Jvm.ClassFile.FieldType)) ∈ lw_all := lw_g (lw_at lw_m8 18 rfl) rfl
theorem q1845 : (Jvm.Cond.methodLink "DawnPerquisiteLaw" (63 : Nat) ({ cls := "DawnPerquisiteModel", name := "pass", desc := "(II)I" } : Jvm.MethodName)) ∈ lw_all := lw_g (lw_at lw_m8 19 rfl) rfl
theorem q1846 : (Jvm.Cond.instanceMethod ({ cls := "DawnPerquisiteModel", name := "pass", desc := "(II)I" } : Jvm.MethodName)) ∈ lw_all := lw_g (lw_at lw_m8 20 rfl) rfl
theorem q1847 : (Jvm.Cond.selects "DawnPerquisiteModel" ({ cls := "DawnPerquisiteModel", name := "pass", desc := "(II)I" } : Jvm.MethodName) ({ cls := "DawnPerquisiteModel", name := "pass", desc := "(II)I" } : Jvm.MethodName)) ∈ lw_all := lw_g (lw_at lw_m8 21 rfl) rfl
theorem q1848 : (Jvm.Cond.code ({ cls := "DawnPerquisiteModel", name := "pass", desc := "(II)I" } : Jvm.MethodName) prog_20_method_89_code (5 : Nat) (Option.some Jvm.ClassFile.FieldType.int)) ∈ lw_all := lw_g (lw_at lw_m8 22 rfl) rfl
theorem q1849 : (Jvm.Cond.methodLink "DawnPerquisiteModel" (357 : Nat) ({ cls := "DawnPerquisiteModel", name := "canPass", desc := "(II)Z" } : Jvm.MethodName)) ∈ lw_all := lw_g (lw_at lw_m8 23 rfl) rfl
theorem q1850 : (Jvm.Cond.privateMethod ({ cls := "DawnPerquisiteModel", name := "canPass", desc := "(II)Z" } : Jvm.MethodName)) ∈ lw_tbl := lw_at lw_m8 24 rfl
theorem q1851 : (Jvm.Cond.instanceMethod ({ cls := "DawnPerquisiteModel", name := "canPass", desc := "(II)Z" } : Jvm.MethodName)) ∈ lw_all := lw_g (lw_at lw_m8 25 rfl) rfl
theorem q1852 : (Jvm.Cond.code ({ cls := "DawnPerquisiteModel", name := "canPass", desc := "(II)Z" } : Jvm.MethodName) prog_20_method_88_code (3 : Nat) (Option.some Jvm.ClassFile.FieldType.boolean)) ∈ lw_all := lw_g (lw_at lw_m8 26 rfl) rfl
theorem q1853 : (Jvm.Cond.methodLink "DawnPerquisiteLaw" (67 : Nat) ({ cls := "DawnPerquisiteModel", name := "day", desc := "(I)I" } : Jvm.MethodName)) ∈ lw_all := lw_g (lw_at lw_m8 27 rfl) rfl
theorem q1854 : (Jvm.Cond.instanceMethod ({ cls := "DawnPerquisiteModel", name := "day", desc := "(I)I" } : Jvm.MethodName)) ∈ lw_all := lw_g (lw_at lw_m8 28 rfl) rfl
theorem q1855 : (Jvm.Cond.selects "DawnPerquisiteModel" ({ cls := "DawnPerquisiteModel", name := "day", desc := "(I)I" } : Jvm.MethodName) ({ cls := "DawnPerquisiteModel", name := "day", desc := "(I)I" } : Jvm.MethodName)) ∈ lw_all := lw_g (lw_at lw_m8 29 rfl) rfl
theorem q1856 : (Jvm.Cond.code ({ cls := "DawnPerquisiteModel", name := "day", desc := "(I)I" } : Jvm.MethodName) prog_20_method_91_code (2 : Nat) (Option.some Jvm.ClassFile.FieldType.int)) ∈ lw_all := lw_g (lw_at lw_m8 30 rfl) rfl
theorem q1857 : (Jvm.Cond.methodLink "DawnPerquisiteModel" (363 : Nat) ({ cls := "DawnPerquisiteModel", name := "arePassed", desc := "(I)Z" } : Jvm.MethodName)) ∈ lw_all := lw_g (lw_at lw_m8 31 rfl) rfl
theorem q1858 : (Jvm.Cond.privateMethod ({ cls := "DawnPerquisiteModel", name := "arePassed", desc := "(I)Z" } : Jvm.MethodName)) ∈ lw_tbl := lw_at lw_m8 32 rfl
theorem q1859 : (Jvm.Cond.instanceMethod ({ cls := "DawnPerquisiteModel", name := "arePassed", desc := "(I)Z" } : Jvm.MethodName)) ∈ lw_all := lw_g (lw_at lw_m8 33 rfl) rfl
theorem q1860 : (Jvm.Cond.code ({ cls := "DawnPerquisiteModel", name := "arePassed", desc := "(I)Z" } : Jvm.MethodName) prog_20_method_90_code (3 : Nat) (Option.some Jvm.ClassFile.FieldType.boolean)) ∈ lw_all := lw_g (lw_at lw_m8 34 rfl) rfl
theorem q1861 : (Jvm.Cond.methodLink "DawnPerquisiteModel" (360 : Nat) ({ cls := "DawnPerquisiteModel", name := "passDay", desc := "()V" } : Jvm.MethodName)) ∈ lw_all := lw_g (lw_at lw_m8 35 rfl) rfl
theorem q1862 : (Jvm.Cond.privateMethod ({ cls := "DawnPerquisiteModel", name := "passDay", desc := "()V" } : Jvm.MethodName)) ∈ lw_tbl := lw_at lw_m8 36 rfl
theorem q1863 : (Jvm.Cond.instanceMethod ({ cls := "DawnPerquisiteModel", name := "passDay", desc := "()V" } : Jvm.MethodName)) ∈ lw_all := lw_g (lw_at lw_m8 37 rfl) rfl
theorem q1864 : (Jvm.Cond.code ({ cls := "DawnPerquisiteModel", name := "passDay", desc := "()V" } : Jvm.MethodName) prog_20_method_82_code (2 : Nat) (Option.none : Option Jvm.ClassFile.FieldType)) ∈ lw_all := lw_g (lw_at lw_m8 38 rfl) rfl
theorem q1865 : (Jvm.Cond.methodLink "DawnPerquisiteModel" (330 : Nat) ({ cls := "DawnPerquisiteModel", name := "earnsOf", desc := "(I)I" } : Jvm.MethodName)) ∈ lw_all := lw_g (lw_at lw_m8 39 rfl) rfl
theorem q1866 : (Jvm.Cond.privateMethod ({ cls := "DawnPerquisiteModel", name := "earnsOf", desc := "(I)I" } : Jvm.MethodName)) ∈ lw_tbl := lw_at lw_m8 40 rfl
theorem q1867 : (Jvm.Cond.instanceMethod ({ cls := "DawnPerquisiteModel", name := "earnsOf", desc := "(I)I" } : Jvm.MethodName)) ∈ lw_all := lw_g (lw_at lw_m8 41 rfl) rfl
theorem q1868 : (Jvm.Cond.code ({ cls := "DawnPerquisiteModel", name := "earnsOf", desc := "(I)I" } : Jvm.MethodName) prog_20_method_71_code (2 : Nat) (Option.some Jvm.ClassFile.FieldType.int)) ∈ lw_all := lw_g (lw_at lw_m8 42 rfl) rfl
theorem q1869 : (Jvm.Cond.methodLink "DawnPerquisiteModel" (333 : Nat) ({ cls := "DawnPerquisiteModel", name := "nextSort", desc := "()I" } : Jvm.MethodName)) ∈ lw_all := lw_g (lw_at lw_m8 43 rfl) rfl
theorem q1870 : (Jvm.Cond.privateMethod ({ cls := "DawnPerquisiteModel", name := "nextSort", desc := "()I" } : Jvm.MethodName)) ∈ lw_tbl := lw_at lw_m8 44 rfl
theorem q1871 : (Jvm.Cond.instanceMethod ({ cls := "DawnPerquisiteModel", name := "nextSort", desc := "()I" } : Jvm.MethodName)) ∈ lw_all := lw_g (lw_at lw_m8 45 rfl) rfl
theorem q1872 : (Jvm.Cond.code ({ cls := "DawnPerquisiteModel", name := "nextSort", desc := "()I" } : Jvm.MethodName) prog_20_method_81_code (4 : Nat) (Option.some Jvm.ClassFile.FieldType.int)) ∈ lw_all := lw_g (lw_at lw_m8 46 rfl) rfl
theorem q1873 : (Jvm.Cond.methodLink "DawnPerquisiteModel" (324 : Nat) ({ cls := "DawnPerquisiteModel", name := "allOdds", desc := "()I" } : Jvm.MethodName)) ∈ lw_all := lw_g (lw_at lw_m8 47 rfl) rfl
theorem q1874 : (Jvm.Cond.privateMethod ({ cls := "DawnPerquisiteModel", name := "allOdds", desc := "()I" } : Jvm.MethodName)) ∈ lw_tbl := lw_at lw_m8 48 rfl
theorem q1875 : (Jvm.Cond.instanceMethod ({ cls := "DawnPerquisiteModel", name := "allOdds", desc := "()I" } : Jvm.MethodName)) ∈ lw_all := lw_g (lw_at lw_m8 49 rfl) rfl
theorem q1876 : (Jvm.Cond.code ({ cls := "DawnPerquisiteModel", name := "allOdds", desc := "()I" } : Jvm.MethodName) prog_20_method_17_code (3 : Nat) (Option.some Jvm.ClassFile.FieldType.int)) ∈ lw_all := lw_g (lw_at lw_m8 50 rfl) rfl
theorem q1877 : (Jvm.Cond.methodLink "DawnPerquisiteModel" (327 : Nat) ({ cls := "DawnPerquisiteModel", name := "drawnBy", desc := "(I)I" } : Jvm.MethodName)) ∈ lw_all := lw_g (lw_at lw_m8 51 rfl) rfl
theorem q1878 : (Jvm.Cond.privateMethod ({ cls := "DawnPerquisiteModel", name := "drawnBy", desc := "(I)I" } : Jvm.MethodName)) ∈ lw_tbl := lw_at lw_m8 52 rfl
theorem q1879 : (Jvm.Cond.instanceMethod ({ cls := "DawnPerquisiteModel", name := "drawnBy", desc := "(I)I" } : Jvm.MethodName)) ∈ lw_all := lw_g (lw_at lw_m8 53 rfl) rfl
theorem q1880 : (Jvm.Cond.code ({ cls := "DawnPerquisiteModel", name := "drawnBy", desc := "(I)I" } : Jvm.MethodName) prog_20_method_73_code (3 : Nat) (Option.some Jvm.ClassFile.FieldType.int)) ∈ lw_all := lw_g (lw_at lw_m8 54 rfl) rfl
theorem q1881 : (Jvm.Cond.methodLink "DawnPerquisiteModel" (299 : Nat) ({ cls := "DawnPerquisiteModel", name := "anew", desc := "()V" } : Jvm.MethodName)) ∈ lw_all := lw_g (lw_at lw_m8 55 rfl) rfl
theorem q1882 : (Jvm.Cond.privateMethod ({ cls := "DawnPerquisiteModel", name := "anew", desc := "()V" } : Jvm.MethodName)) ∈ lw_tbl := lw_at lw_m8 56 rfl
theorem q1883 : (Jvm.Cond.instanceMethod ({ cls := "DawnPerquisiteModel", name := "anew", desc := "()V" } : Jvm.MethodName)) ∈ lw_all := lw_g (lw_at lw_m8 57 rfl) rfl
theorem q1884 : (Jvm.Cond.code ({ cls := "DawnPerquisiteModel", name := "anew", desc := "()V" } : Jvm.MethodName) prog_20_method_74_code (1 : Nat) (Option.none : Option Jvm.ClassFile.FieldType)) ∈ lw_all := lw_g (lw_at lw_m8 58 rfl) rfl
theorem q1885 : (Jvm.Cond.constantLong "DawnPerquisiteModel" (302 : Nat) (719 : Int64)) ∈ lw_all := lw_g (lw_at lw_m8 59 rfl) rfl
theorem q1886 : (Jvm.Cond.constantLong "DawnPerquisiteModel" (304 : Nat) (587 : Int64)) ∈ lw_all := lw_g (lw_at lw_m8 60 rfl) rfl
theorem q1887 : (Jvm.Cond.constantLong "DawnPerquisiteModel" (306 : Nat) (31039 : Int64)) ∈ lw_all := lw_g (lw_at lw_m8 61 rfl) rfl
theorem q1888 : (Jvm.Cond.methodLink "DawnPerquisiteLaw" (71 : Nat) ({ cls := "DawnPerquisiteModel", name := "played", desc := "(I)I" } : Jvm.MethodName)) ∈ lw_all := lw_g (lw_at lw_m8 62 rfl) rfl
theorem q1889 : (Jvm.Cond.instanceMethod ({ cls := "DawnPerquisiteModel", name := "played", desc := "(I)I" } : Jvm.MethodName)) ∈ lw_all := lw_g (lw_at lw_m8 63 rfl) rfl
theorem q1890 : (Jvm.Cond.selects "DawnPerquisiteModel" ({ cls := "DawnPerquisiteModel", name := "played", desc := "(I)I" } : Jvm.MethodName) ({ cls := "DawnPerquisiteModel", name := "played", desc := "(I)I" } : Jvm.MethodName)) ∈ lw_all := lw_g (lw_at lw_m8 64 rfl) rfl
theorem q1891 : (Jvm.Cond.code ({ cls := "DawnPerquisiteModel", name := "played", desc := "(I)I" } : Jvm.MethodName) prog_20_method_93_code (3 : Nat) (Option.some Jvm.ClassFile.FieldType.int)) ∈ lw_all := lw_g (lw_at lw_m8 65 rfl) rfl
theorem q1892 : (Jvm.Cond.methodLink "DawnPerquisiteModel" (382 : Nat) ({ cls := "DawnPerquisiteModel", name := "isPlayed", desc := "(I)Z" } : Jvm.MethodName)) ∈ lw_all := lw_g (lw_at lw_m8 66 rfl) rfl
theorem q1893 : (Jvm.Cond.privateMethod ({ cls := "DawnPerquisiteModel", name := "isPlayed", desc := "(I)Z" } : Jvm.MethodName)) ∈ lw_tbl := lw_at lw_m8 67 rfl
theorem q1894 : (Jvm.Cond.instanceMethod ({ cls := "DawnPerquisiteModel", name := "isPlayed", desc := "(I)Z" } : Jvm.MethodName)) ∈ lw_all := lw_g (lw_at lw_m8 68 rfl) rfl
theorem q1895 : (Jvm.Cond.code ({ cls := "DawnPerquisiteModel", name := "isPlayed", desc := "(I)Z" } : Jvm.MethodName) prog_20_method_92_code (4 : Nat) (Option.some Jvm.ClassFile.FieldType.boolean)) ∈ lw_all := lw_g (lw_at lw_m8 69 rfl) rfl
theorem q1896 : (Jvm.Cond.methodLink "DawnPerquisiteModel" (366 : Nat) ({ cls := "DawnPerquisiteModel", name := "buyer", desc := "(IIII)I" } : Jvm.MethodName)) ∈ lw_all := lw_g (lw_at lw_m8 70 rfl) rfl
theorem q1897 : (Jvm.Cond.methodLink "DawnPerquisiteModel" (370 : Nat) ({ cls := "DawnPerquisiteModel", name := "sort", desc := "(III)Z" } : Jvm.MethodName)) ∈ lw_all := lw_g (lw_at lw_m8 71 rfl) rfl
theorem q1898 : (Jvm.Cond.methodLink "DawnPerquisiteModel" (373 : Nat) ({ cls := "DawnPerquisiteModel", name := "sell", desc := "(I)I" } : Jvm.MethodName)) ∈ lw_all := lw_g (lw_at lw_m8 72 rfl) rfl
theorem q1899 : (Jvm.Cond.methodLink "DawnPerquisiteModel" (376 : Nat) ({ cls := "DawnPerquisiteModel", name := "give", desc := "(I)Z" } : Jvm.MethodName)) ∈ lw_all := lw_g (lw_at lw_m8 73 rfl) rfl
theorem q1900 : (Jvm.Cond.methodLink "DawnPerquisiteModel" (379 : Nat) ({ cls := "DawnPerquisiteModel", name := "turn", desc := "(I)Z" } : Jvm.MethodName)) ∈ lw_all := lw_g (lw_at lw_m8 74 rfl) rfl
theorem q1901 : (Jvm.Cond.methodLink "DawnPerquisiteLaw" (75 : Nat) ({ cls := "DawnPerquisiteModel", name := "years", desc := "(II)I" } : Jvm.MethodName)) ∈ lw_all := lw_g (lw_at lw_m8 75 rfl) rfl
theorem q1902 : (Jvm.Cond.instanceMethod ({ cls := "DawnPerquisiteModel", name := "years", desc := "(II)I" } : Jvm.MethodName)) ∈ lw_all := lw_g (lw_at lw_m8 76 rfl) rfl
theorem q1903 : (Jvm.Cond.selects "DawnPerquisiteModel" ({ cls := "DawnPerquisiteModel", name := "years", desc := "(II)I" } : Jvm.MethodName) ({ cls := "DawnPerquisiteModel", name := "years", desc := "(II)I" } : Jvm.MethodName)) ∈ lw_all := lw_g (lw_at lw_m8 77 rfl) rfl
theorem q1904 : (Jvm.Cond.code ({ cls := "DawnPerquisiteModel", name := "years", desc := "(II)I" } : Jvm.MethodName) prog_20_method_95_code (5 : Nat) (Option.some Jvm.ClassFile.FieldType.int)) ∈ lw_all := lw_g (lw_at lw_m8 78 rfl) rfl
theorem q1905 : (Jvm.Cond.methodLink "DawnPerquisiteModel" (385 : Nat) ({ cls := "DawnPerquisiteModel", name := "happens", desc := "(I)V" } : Jvm.MethodName)) ∈ lw_all := lw_g (lw_at lw_m8 79 rfl) rfl
theorem q1906 : (Jvm.Cond.privateMethod ({ cls := "DawnPerquisiteModel", name := "happens", desc := "(I)V" } : Jvm.MethodName)) ∈ lw_tbl := lw_at lw_m8 80 rfl
theorem q1907 : (Jvm.Cond.instanceMethod ({ cls := "DawnPerquisiteModel", name := "happens", desc := "(I)V" } : Jvm.MethodName)) ∈ lw_all := lw_g (lw_at lw_m8 81 rfl) rfl
theorem q1908 : (Jvm.Cond.code ({ cls := "DawnPerquisiteModel", name := "happens", desc := "(I)V" } : Jvm.MethodName) prog_20_method_94_code (3 : Nat) (Option.none : Option Jvm.ClassFile.FieldType)) ∈ lw_all := lw_g (lw_at lw_m8 82 rfl) rfl
theorem q1909 : (Jvm.Cond.methodLink "DawnPerquisiteLaw" (83 : Nat) ({ cls := "DawnPerquisiteModel", name := "of", desc := "(II)I" } : Jvm.MethodName)) ∈ lw_all := lw_g (lw_at lw_m8 83 rfl) rfl
theorem q1910 : (Jvm.Cond.instanceMethod ({ cls := "DawnPerquisiteModel", name := "of", desc := "(II)I" } : Jvm.MethodName)) ∈ lw_all := lw_g (lw_at lw_m8 84 rfl) rfl
theorem q1911 : (Jvm.Cond.selects "DawnPerquisiteModel" ({ cls := "DawnPerquisiteModel", name := "of", desc := "(II)I" } : Jvm.MethodName) ({ cls := "DawnPerquisiteModel", name := "of", desc := "(II)I" } : Jvm.MethodName)) ∈ lw_all := lw_g (lw_at lw_m8 85 rfl) rfl
theorem q1912 : (Jvm.Cond.code ({ cls := "DawnPerquisiteModel", name := "of", desc := "(II)I" } : Jvm.MethodName) prog_20_method_96_code (3 : Nat) (Option.some Jvm.ClassFile.FieldType.int)) ∈ lw_all := lw_g (lw_at lw_m8 86 rfl) rfl
theorem q1913 : (Jvm.Cond.methodLink "DawnPerquisiteLaw" (87 : Nat) ({ cls := "DawnPerquisiteModel", name := "ofSort", desc := "(II)I" } : Jvm.MethodName)) ∈ lw_all := lw_g (lw_at lw_m8 87 rfl) rfl
theorem q1914 : (Jvm.Cond.instanceMethod ({ cls := "DawnPerquisiteModel", name := "ofSort", desc := "(II)I" } : Jvm.MethodName)) ∈ lw_all := lw_g (lw_at lw_m8 88 rfl) rfl
theorem q1915 : (Jvm.Cond.selects "DawnPerquisiteModel" ({ cls := "DawnPerquisiteModel", name := "ofSort", desc := "(II)I" } : Jvm.MethodName) ({ cls := "DawnPerquisiteModel", name := "ofSort", desc := "(II)I" } : Jvm.MethodName)) ∈ lw_all := lw_g (lw_at lw_m8 89 rfl) rfl
theorem q1916 : (Jvm.Cond.code ({ cls := "DawnPerquisiteModel", name := "ofSort", desc := "(II)I" } : Jvm.MethodName) prog_20_method_97_code (3 : Nat) (Option.some Jvm.ClassFile.FieldType.int)) ∈ lw_all := lw_g (lw_at lw_m8 90 rfl) rfl
theorem q1917 : (Jvm.Cond.methodLink "DawnPerquisiteLaw" (91 : Nat) ({ cls := "DawnPerquisiteModel", name := "at", desc := "(I)I" } : Jvm.MethodName)) ∈ lw_all := lw_g (lw_at lw_m8 91 rfl) rfl
theorem q1918 : (Jvm.Cond.instanceMethod ({ cls := "DawnPerquisiteModel", name := "at", desc := "(I)I" } : Jvm.MethodName)) ∈ lw_all := lw_g (lw_at lw_m8 92 rfl) rfl
theorem q1919 : (Jvm.Cond.selects "DawnPerquisiteModel" ({ cls := "DawnPerquisiteModel", name := "at", desc := "(I)I" } : Jvm.MethodName) ({ cls := "DawnPerquisiteModel", name := "at", desc := "(I)I" } : Jvm.MethodName)) ∈ lw_all := lw_g (lw_at lw_m8 93 rfl) rfl
theorem q1920 : (Jvm.Cond.code ({ cls := "DawnPerquisiteModel", name := "at", desc := "(I)I" } : Jvm.MethodName) prog_20_method_98_code (2 : Nat) (Option.some Jvm.ClassFile.FieldType.int)) ∈ lw_all := lw_g (lw_at lw_m8 94 rfl) rfl
theorem q1921 : (Jvm.Cond.methodLink "DawnPerquisiteLaw" (95 : Nat) ({ cls := "DawnPerquisiteModel", name := "is", desc := "(I)I" } : Jvm.MethodName)) ∈ lw_all := lw_g (lw_at lw_m8 95 rfl) rfl
theorem q1922 : (Jvm.Cond.instanceMethod ({ cls := "DawnPerquisiteModel", name := "is", desc := "(I)I" } : Jvm.MethodName)) ∈ lw_all := lw_g (lw_at lw_m8 96 rfl) rfl
theorem q1923 : (Jvm.Cond.selects "DawnPerquisiteModel" ({ cls := "DawnPerquisiteModel", name := "is", desc := "(I)I" } : Jvm.MethodName) ({ cls := "DawnPerquisiteModel", name := "is", desc := "(I)I" } : Jvm.MethodName)) ∈ lw_all := lw_g (lw_at lw_m8 97 rfl) rfl
theorem q1924 : (Jvm.Cond.code ({ cls := "DawnPerquisiteModel", name := "is", desc := "(I)I" } : Jvm.MethodName) prog_20_method_99_code (2 : Nat) (Option.some Jvm.ClassFile.FieldType.int)) ∈ lw_all := lw_g (lw_at lw_m8 98 rfl) rfl
theorem q1925 : (Jvm.Cond.methodLink "DawnPerquisiteLaw" (99 : Nat) ({ cls := "DawnPerquisiteModel", name := "book", desc := "(II)I" } : Jvm.MethodName)) ∈ lw_all := lw_g (lw_at lw_m8 99 rfl) rfl
theorem q1926 : (Jvm.Cond.instanceMethod ({ cls := "DawnPerquisiteModel", name := "book", desc := "(II)I" } : Jvm.MethodName)) ∈ lw_all := lw_g (lw_at lw_m8 100 rfl) rfl
theorem q1927 : (Jvm.Cond.selects "DawnPerquisiteModel" ({ cls := "DawnPerquisiteModel", name := "book", desc := "(II)I" } : Jvm.MethodName) ({ cls := "DawnPerquisiteModel", name := "book", desc := "(II)I" } : Jvm.MethodName)) ∈ lw_all := lw_g (lw_at lw_m8 101 rfl) rfl
theorem q1928 : (Jvm.Cond.code ({ cls := "DawnPerquisiteModel", name := "book", desc := "(II)I" } : Jvm.MethodName) prog_20_method_101_code (3 : Nat) (Option.some Jvm.ClassFile.FieldType.int)) ∈ lw_all := lw_g (lw_at lw_m8 102 rfl) rfl
theorem q1929 : (Jvm.Cond.methodLink "DawnPerquisiteModel" (388 : Nat) ({ cls := "DawnPerquisiteModel", name := "lineOf", desc := "(II)I" } : Jvm.MethodName)) ∈ lw_all := lw_g (lw_at lw_m8 103 rfl) rfl
theorem q1930 : (Jvm.Cond.privateMethod ({ cls := "DawnPerquisiteModel", name := "lineOf", desc := "(II)I" } : Jvm.MethodName)) ∈ lw_tbl := lw_at lw_m8 104 rfl
theorem q1931 : (Jvm.Cond.instanceMethod ({ cls := "DawnPerquisiteModel", name := "lineOf", desc := "(II)I" } : Jvm.MethodName)) ∈ lw_all := lw_g (lw_at lw_m8 105 rfl) rfl
theorem q1932 : (Jvm.Cond.code ({ cls := "DawnPerquisiteModel", name := "lineOf", desc := "(II)I" } : Jvm.MethodName) prog_20_method_100_code (4 : Nat) (Option.some Jvm.ClassFile.FieldType.int)) ∈ lw_all := lw_g (lw_at lw_m8 106 rfl) rfl
theorem q1933 : (Jvm.Cond.methodLink "DawnPerquisiteLaw" (241 : Nat) ({ cls := "DawnPerquisiteModel", name := "ledger", desc := "(I)I" } : Jvm.MethodName)) ∈ lw_all := lw_g (lw_at lw_m8 107 rfl) rfl
theorem q1934 : (Jvm.Cond.instanceMethod ({ cls := "DawnPerquisiteModel", name := "ledger", desc := "(I)I" } : Jvm.MethodName)) ∈ lw_all := lw_g (lw_at lw_m8 108 rfl) rfl
theorem q1935 : (Jvm.Cond.selects "DawnPerquisiteModel" ({ cls := "DawnPerquisiteModel", name := "ledger", desc := "(I)I" } : Jvm.MethodName) ({ cls := "DawnPerquisiteModel", name := "ledger", desc := "(I)I" } : Jvm.MethodName)) ∈ lw_all := lw_g (lw_at lw_m8 109 rfl) rfl
theorem q1936 : (Jvm.Cond.code ({ cls := "DawnPerquisiteModel", name := "ledger", desc := "(I)I" } : Jvm.MethodName) prog_20_method_102_code (4 : Nat) (Option.some Jvm.ClassFile.FieldType.int)) ∈ lw_all := lw_g (lw_at lw_m8 110 rfl) rfl
theorem q1937 : (Jvm.Cond.methodLink "DawnPerquisiteLaw" (201 : Nat) ({ cls := "DawnPerquisiteModel", name := "richest", desc := "()I" } : Jvm.MethodName)) ∈ lw_all := lw_g (lw_at lw_m8 111 rfl) rfl
theorem q1938 : (Jvm.Cond.instanceMethod ({ cls := "DawnPerquisiteModel", name := "richest", desc := "()I" } : Jvm.MethodName)) ∈ lw_all := lw_g (lw_at lw_m8 112 rfl) rfl
theorem q1939 : (Jvm.Cond.selects "DawnPerquisiteModel" ({ cls := "DawnPerquisiteModel", name := "richest", desc := "()I" } : Jvm.MethodName) ({ cls := "DawnPerquisiteModel", name := "richest", desc := "()I" } : Jvm.MethodName)) ∈ lw_all := lw_g (lw_at lw_m8 113 rfl) rfl
theorem q1940 : (Jvm.Cond.code ({ cls := "DawnPerquisiteModel", name := "richest", desc := "()I" } : Jvm.MethodName) prog_20_method_103_code (3 : Nat) (Option.some Jvm.ClassFile.FieldType.int)) ∈ lw_all := lw_g (lw_at lw_m8 114 rfl) rfl
theorem q1941 : (Jvm.Cond.methodLink "DawnPerquisiteLaw" (205 : Nat) ({ cls := "DawnPerquisiteModel", name := "rival", desc := "(I)I" } : Jvm.MethodName)) ∈ lw_all := lw_g (lw_at lw_m8 115 rfl) rfl
theorem q1942 : (Jvm.Cond.instanceMethod ({ cls := "DawnPerquisiteModel", name := "rival", desc := "(I)I" } : Jvm.MethodName)) ∈ lw_all := lw_g (lw_at lw_m8 116 rfl) rfl
theorem q1943 : (Jvm.Cond.selects "DawnPerquisiteModel" ({ cls := "DawnPerquisiteModel", name := "rival", desc := "(I)I" } : Jvm.MethodName) ({ cls := "DawnPerquisiteModel", name := "rival", desc := "(I)I" } : Jvm.MethodName)) ∈ lw_all := lw_g (lw_at lw_m8 117 rfl) rfl
theorem q1944 : (Jvm.Cond.code ({ cls := "DawnPerquisiteModel", name := "rival", desc := "(I)I" } : Jvm.MethodName) prog_20_method_104_code (4 : Nat) (Option.some Jvm.ClassFile.FieldType.int)) ∈ lw_all := lw_g (lw_at lw_m8 118 rfl) rfl
theorem q1945 : (Jvm.Cond.methodLink "DawnPerquisiteLaw" (237 : Nat) ({ cls := "DawnPerquisiteModel", name := "can", desc := "(I)Z" } : Jvm.MethodName)) ∈ lw_all := lw_g (lw_at lw_m8 119 rfl) rfl
theorem q1946 : (Jvm.Cond.instanceMethod ({ cls := "DawnPerquisiteModel", name := "can", desc := "(I)Z" } : Jvm.MethodName)) ∈ lw_all := lw_g (lw_at lw_m8 120 rfl) rfl
theorem q1947 : (Jvm.Cond.selects "DawnPerquisiteModel" ({ cls := "DawnPerquisiteModel", name := "can", desc := "(I)Z" } : Jvm.MethodName) ({ cls := "DawnPerquisiteModel", name := "can", desc := "(I)Z" } : Jvm.MethodName)) ∈ lw_all := lw_g (lw_at lw_m8 121 rfl) rfl
theorem q1948 : (Jvm.Cond.code ({ cls := "DawnPerquisiteModel", name := "can", desc := "(I)Z" } : Jvm.MethodName) prog_20_method_105_code (2 : Nat) (Option.some Jvm.ClassFile.FieldType.boolean)) ∈ lw_all := lw_g (lw_at lw_m8 122 rfl) rfl
theorem q1949 : (Jvm.Cond.methodLink "DawnPerquisiteLaw" (209 : Nat) ({ cls := "DawnPerquisiteModel", name := "learnt", desc := "(IZ)J" } : Jvm.MethodName)) ∈ lw_all := lw_g (lw_at lw_m8 123 rfl) rfl
theorem q1950 : (Jvm.Cond.instanceMethod ({ cls := "DawnPerquisiteModel", name := "learnt", desc := "(IZ)J" } : Jvm.MethodName)) ∈ lw_all := lw_g (lw_at lw_m8 124 rfl) rfl
theorem q1951 : (Jvm.Cond.selects "DawnPerquisiteModel" ({ cls := "DawnPerquisiteModel", name := "learnt", desc := "(IZ)J" } : Jvm.MethodName) ({ cls := "DawnPerquisiteModel", name := "learnt", desc := "(IZ)J" } : Jvm.MethodName)) ∈ lw_all := lw_g (lw_at lw_m8 125 rfl) rfl
theorem q1952 : (Jvm.Cond.code ({ cls := "DawnPerquisiteModel", name := "learnt", desc := "(IZ)J" } : Jvm.MethodName) prog_20_method_106_code (6 : Nat) (Option.some Jvm.ClassFile.FieldType.long)) ∈ lw_all := lw_g (lw_at lw_m8 126 rfl) rfl
theorem q1953 : (Jvm.Cond.constantLong "DawnPerquisiteModel" (391 : Nat) (-1 : Int64)) ∈ lw_all := lw_g (lw_at lw_m8 127 rfl) rfl
theorem q1954 : (Jvm.Cond.methodLink "DawnPerquisiteModel" (393 : Nat) ({ cls := "DawnPerquisiteModel", name := "partOfAll", desc := "(JJZ)J" } : Jvm.MethodName)) ∈ lw_all := lw_g (lw_at lw_m8 128 rfl) rfl
theorem q1955 : (Jvm.Cond.static ({ cls := "DawnPerquisiteModel", name := "partOfAll", desc := "(JJZ)J" } : Jvm.MethodName)) ∈ lw_all := lw_g (lw_at lw_m8 129 rfl) rfl
theorem q1956 : (Jvm.Cond.code ({ cls := "DawnPerquisiteModel", name := "partOfAll", desc := "(JJZ)J" } : Jvm.MethodName) prog_20_method_119_code (5 : Nat) (Option.some Jvm.ClassFile.FieldType.long)) ∈ lw_all := lw_g (lw_at lw_m8 130 rfl) rfl
theorem q1957 : (Jvm.Cond.methodLink "DawnPerquisiteModel" (403 : Nat) ({ cls := "DawnPerquisiteModel", name := "divisor", desc := "(JJ)J" } : Jvm.MethodName)) ∈ lw_all := lw_g (lw_at lw_m8 131 rfl) rfl
theorem q1958 : (Jvm.Cond.static ({ cls := "DawnPerquisiteModel", name := "divisor", desc := "(JJ)J" } : Jvm.MethodName)) ∈ lw_all := lw_g (lw_at lw_m8 132 rfl) rfl
theorem q1959 : (Jvm.Cond.code ({ cls := "DawnPerquisiteModel", name := "divisor", desc := "(JJ)J" } : Jvm.MethodName) prog_20_method_118_code (10 : Nat) (Option.some Jvm.ClassFile.FieldType.long)) ∈ lw_all := lw_g (lw_at lw_m8 133 rfl) rfl
theorem q1960 : (Jvm.Cond.methodLink "DawnPerquisiteLaw" (213 : Nat) ({ cls := "DawnPerquisiteModel", name := "wanted", desc := "(I)I" } : Jvm.MethodName)) ∈ lw_all := lw_g (lw_at lw_m8 134 rfl) rfl
theorem q1961 : (Jvm.Cond.instanceMethod ({ cls := "DawnPerquisiteModel", name := "wanted", desc := "(I)I" } : Jvm.MethodName)) ∈ lw_all := lw_g (lw_at lw_m8 135 rfl) rfl
theorem q1962 : (Jvm.Cond.selects "DawnPerquisiteModel" ({ cls := "DawnPerquisiteModel", name := "wanted", desc := "(I)I" } : Jvm.MethodName) ({ cls := "DawnPerquisiteModel", name := "wanted", desc := "(I)I" } : Jvm.MethodName)) ∈ lw_all := lw_g (lw_at lw_m8 136 rfl) rfl
theorem q1963 : (Jvm.Cond.code ({ cls := "DawnPerquisiteModel", name := "wanted", desc := "(I)I" } : Jvm.MethodName) prog_20_method_107_code (4 : Nat) (Option.some Jvm.ClassFile.FieldType.int)) ∈ lw_all := lw_g (lw_at lw_m8 137 rfl) rfl
theorem q1964 : (Jvm.Cond.methodLink "DawnPerquisiteLaw" (217 : Nat) ({ cls := "DawnPerquisiteModel", name := "alone", desc := "(I)I" } : Jvm.MethodName)) ∈ lw_all := lw_g (lw_at lw_m8 138 rfl) rfl
theorem q1965 : (Jvm.Cond.instanceMethod ({ cls := "DawnPerquisiteModel", name := "alone", desc := "(I)I" } : Jvm.MethodName)) ∈ lw_all := lw_g (lw_at lw_m8 139 rfl) rfl
theorem q1966 : (Jvm.Cond.selects "DawnPerquisiteModel" ({ cls := "DawnPerquisiteModel", name := "alone", desc := "(I)I" } : Jvm.MethodName) ({ cls := "DawnPerquisiteModel", name := "alone", desc := "(I)I" } : Jvm.MethodName)) ∈ lw_all := lw_g (lw_at lw_m8 140 rfl) rfl
theorem q1967 : (Jvm.Cond.code ({ cls := "DawnPerquisiteModel", name := "alone", desc := "(I)I" } : Jvm.MethodName) prog_20_method_108_code (4 : Nat) (Option.some Jvm.ClassFile.FieldType.int)) ∈ lw_all := lw_g (lw_at lw_m8 141 rfl) rfl
theorem q1968 : (Jvm.Cond.methodLink "DawnPerquisiteLaw" (221 : Nat) ({ cls := "DawnPerquisiteModel", name := "since", desc := "(I)I" } : Jvm.MethodName)) ∈ lw_all := lw_g (lw_at lw_m8 142 rfl) rfl
theorem q1969 : (Jvm.Cond.instanceMethod ({ cls := "DawnPerquisiteModel", name := "since", desc := "(I)I" } : Jvm.MethodName)) ∈ lw_all := lw_g (lw_at lw_m8 143 rfl) rfl
theorem q1970 : (Jvm.Cond.selects "DawnPerquisiteModel" ({ cls := "DawnPerquisiteModel", name := "since", desc := "(I)I" } : Jvm.MethodName) ({ cls := "DawnPerquisiteModel", name := "since", desc := "(I)I" } : Jvm.MethodName)) ∈ lw_all := lw_g (lw_at lw_m8 144 rfl) rfl
theorem q1971 : (Jvm.Cond.code ({ cls := "DawnPerquisiteModel", name := "since", desc := "(I)I" } : Jvm.MethodName) prog_20_method_109_code (3 : Nat) (Option.some Jvm.ClassFile.FieldType.int)) ∈ lw_all := lw_g (lw_at lw_m8 145 rfl) rfl
theorem q1972 : (Jvm.Cond.methodLink "DawnPerquisiteLaw" (225 : Nat) ({ cls := "DawnPerquisiteModel", name := "idle", desc := "()I" } : Jvm.MethodName)) ∈ lw_all := lw_g (lw_at lw_m8 146 rfl) rfl
theorem q1973 : (Jvm.Cond.instanceMethod ({ cls := "DawnPerquisiteModel", name := "idle", desc := "()I" } : Jvm.MethodName)) ∈ lw_all := lw_g (lw_at lw_m8 147 rfl) rfl
theorem q1974 : (Jvm.Cond.selects "DawnPerquisiteModel" ({ cls := "DawnPerquisiteModel", name := "idle", desc := "()I" } : Jvm.MethodName) ({ cls := "DawnPerquisiteModel", name := "idle", desc := "()I" } : Jvm.MethodName)) ∈ lw_all := lw_g (lw_at lw_m8 148 rfl) rfl
theorem q1975 : (Jvm.Cond.code ({ cls := "DawnPerquisiteModel", name := "idle", desc := "()I" } : Jvm.MethodName) prog_20_method_110_code (3 : Nat) (Option.some Jvm.ClassFile.FieldType.int)) ∈ lw_all := lw_g (lw_at lw_m8 149 rfl) rfl
theorem q1976 : (Jvm.Cond.methodLink "DawnPerquisiteLaw" (229 : Nat) ({ cls := "DawnPerquisiteModel", name := "poor", desc := "()I" } : Jvm.MethodName)) ∈ lw_all := lw_g (lw_at lw_m8 150 rfl) rfl
theorem q1977 : (Jvm.Cond.instanceMethod ({ cls := "DawnPerquisiteModel", name := "poor", desc := "()I" } : Jvm.MethodName)) ∈ lw_all := lw_g (lw_at lw_m8 151 rfl) rfl
theorem q1978 : (Jvm.Cond.selects "DawnPerquisiteModel" ({ cls := "DawnPerquisiteModel", name := "poor", desc := "()I" } : Jvm.MethodName) ({ cls := "DawnPerquisiteModel", name := "poor", desc := "()I" } : Jvm.MethodName)) ∈ lw_all := lw_g (lw_at lw_m8 152 rfl) rfl
theorem q1979 : (Jvm.Cond.code ({ cls := "DawnPerquisiteModel", name := "poor", desc := "()I" } : Jvm.MethodName) prog_20_method_111_code (3 : Nat) (Option.some Jvm.ClassFile.FieldType.int)) ∈ lw_all := lw_g (lw_at lw_m8 153 rfl) rfl
theorem q1980 : (Jvm.Cond.methodLink "DawnPerquisiteLaw" (233 : Nat) ({ cls := "DawnPerquisiteModel", name := "room", desc := "(I)I" } : Jvm.MethodName)) ∈ lw_all := lw_g (lw_at lw_m8 154 rfl) rfl
theorem q1981 : (Jvm.Cond.instanceMethod ({ cls := "DawnPerquisiteModel", name := "room", desc := "(I)I" } : Jvm.MethodName)) ∈ lw_all := lw_g (lw_at lw_m8 155 rfl) rfl
theorem q1982 : (Jvm.Cond.selects "DawnPerquisiteModel" ({ cls := "DawnPerquisiteModel", name := "room", desc := "(I)I" } : Jvm.MethodName) ({ cls := "DawnPerquisiteModel", name := "room", desc := "(I)I" } : Jvm.MethodName)) ∈ lw_all := lw_g (lw_at lw_m8 156 rfl) rfl
theorem q1983 : (Jvm.Cond.code ({ cls := "DawnPerquisiteModel", name := "room", desc := "(I)I" } : Jvm.MethodName) prog_20_method_112_code (3 : Nat) (Option.some Jvm.ClassFile.FieldType.int)) ∈ lw_all := lw_g (lw_at lw_m8 157 rfl) rfl
theorem q1984 : (Jvm.Cond.methodLink "DawnPerquisiteLaw" (103 : Nat) ({ cls := "DawnPerquisiteModel", name := "foretold", desc := "(II)I" } : Jvm.MethodName)) ∈ lw_all := lw_g (lw_at lw_m8 158 rfl) rfl
theorem q1985 : (Jvm.Cond.instanceMethod ({ cls := "DawnPerquisiteModel", name := "foretold", desc := "(II)I" } : Jvm.MethodName)) ∈ lw_all := lw_g (lw_at lw_m8 159 rfl) rfl
theorem q1986 : (Jvm.Cond.selects "DawnPerquisiteModel" ({ cls := "DawnPerquisiteModel", name := "foretold", desc := "(II)I" } : Jvm.MethodName) ({ cls := "DawnPerquisiteModel", name := "foretold", desc := "(II)I" } : Jvm.MethodName)) ∈ lw_all := lw_g (lw_at lw_m8 160 rfl) rfl
theorem q1987 : (Jvm.Cond.code ({ cls := "DawnPerquisiteModel", name := "foretold", desc := "(II)I" } : Jvm.MethodName) prog_20_method_113_code (5 : Nat) (Option.some Jvm.ClassFile.FieldType.int)) ∈ lw_all := lw_g (lw_at lw_m8 161 rfl) rfl
theorem q1988 : (Jvm.Cond.methodLink "DawnPerquisiteLaw" (108 : Nat) ({ cls := "DawnPerquisiteModel", name := "pack", desc := "(IZ)I" } : Jvm.MethodName)) ∈ lw_all := lw_g (lw_at lw_m8 162 rfl) rfl
theorem q1989 : (Jvm.Cond.instanceMethod ({ cls := "DawnPerquisiteModel", name := "pack", desc := "(IZ)I" } : Jvm.MethodName)) ∈ lw_all := lw_g (lw_at lw_m8 163 rfl) rfl
theorem q1990 : (Jvm.Cond.selects "DawnPerquisiteModel" ({ cls := "DawnPerquisiteModel", name := "pack", desc := "(IZ)I" } : Jvm.MethodName) ({ cls := "DawnPerquisiteModel", name := "pack", desc := "(IZ)I" } : Jvm.MethodName)) ∈ lw_all := lw_g (lw_at lw_m8 164 rfl) rfl
theorem q1991 : (Jvm.Cond.code ({ cls := "DawnPerquisiteModel", name := "pack", desc := "(IZ)I" } : Jvm.MethodName) prog_20_method_116_code (3 : Nat) (Option.some Jvm.ClassFile.FieldType.int)) ∈ lw_all := lw_g (lw_at lw_m8 165 rfl) rfl
theorem q1992 : (Jvm.Cond.methodLink "DawnPerquisiteModel" (400 : Nat) ({ cls := "DawnPerquisiteModel", name := "bestSet", desc := "(II)I" } : Jvm.MethodName)) ∈ lw_all := lw_g (lw_at lw_m8 166 rfl) rfl
theorem q1993 : (Jvm.Cond.privateMethod ({ cls := "DawnPerquisiteModel", name := "bestSet", desc := "(II)I" } : Jvm.MethodName)) ∈ lw_tbl := lw_at lw_m8 167 rfl
theorem q1994 : (Jvm.Cond.instanceMethod ({ cls := "DawnPerquisiteModel", name := "bestSet", desc := "(II)I" } : Jvm.MethodName)) ∈ lw_all := lw_g (lw_at lw_m8 168 rfl) rfl
theorem q1995 : (Jvm.Cond.code ({ cls := "DawnPerquisiteModel", name := "bestSet", desc := "(II)I" } : Jvm.MethodName) prog_20_method_115_code (5 : Nat) (Option.some Jvm.ClassFile.FieldType.int)) ∈ lw_all := lw_g (lw_at lw_m8 169 rfl) rfl
theorem q1996 : (Jvm.Cond.methodLink "DawnPerquisiteModel" (397 : Nat) ({ cls := "DawnPerquisiteModel", name := "broughtBy", desc := "(II)I" } : Jvm.MethodName)) ∈ lw_all := lw_g (lw_at lw_m8 170 rfl) rfl
theorem q1997 : (Jvm.Cond.privateMethod ({ cls := "DawnPerquisiteModel", name := "broughtBy", desc := "(II)I" } : Jvm.MethodName)) ∈ lw_tbl := lw_at lw_m8 171 rfl
theorem q1998 : (Jvm.Cond.instanceMethod ({ cls := "DawnPerquisiteModel", name := "broughtBy", desc := "(II)I" } : Jvm.MethodName)) ∈ lw_all := lw_g (lw_at lw_m8 172 rfl) rfl
theorem q1999 : (Jvm.Cond.code ({ cls := "DawnPerquisiteModel", name := "broughtBy", desc := "(II)I" } : Jvm.MethodName) prog_20_method_114_code (6 : Nat) (Option.some Jvm.ClassFile.FieldType.int)) ∈ lw_all := lw_g (lw_at lw_m8 173 rfl) rfl
theorem q2000 : (Jvm.Cond.methodLink "DawnPerquisiteLaw" (112 : Nat) ({ cls := "DawnPerquisiteModel", name := "see", desc := "(II)I" } : Jvm.MethodName)) ∈ lw_all := lw_g (lw_at lw_m8 174 rfl) rfl
theorem q2001 : (Jvm.Cond.instanceMethod ({ cls := "DawnPerquisiteModel", name := "see", desc := "(II)I" } : Jvm.MethodName)) ∈ lw_all := lw_g (lw_at lw_m8 175 rfl) rfl
theorem q2002 : (Jvm.Cond.selects "DawnPerquisiteModel" ({ cls := "DawnPerquisiteModel", name := "see", desc := "(II)I" } : Jvm.MethodName) ({ cls := "DawnPerquisiteModel", name := "see", desc := "(II)I" } : Jvm.MethodName)) ∈ lw_all := lw_g (lw_at lw_m8 176 rfl) rfl
theorem q2003 : (Jvm.Cond.code ({ cls := "DawnPerquisiteModel", name := "see", desc := "(II)I" } : Jvm.MethodName) prog_20_method_117_code (4 : Nat) (Option.some Jvm.ClassFile.FieldType.int)) ∈ lw_all := lw_g (lw_at lw_m8 177 rfl) rfl
theorem q2004 : (Jvm.Cond.methodLink "DawnPerquisiteLaw" (117 : Nat) ({ cls := "DawnPerquisiteModel", name := "hope", desc := "(IZ)J" } : Jvm.MethodName)) ∈ lw_all := lw_g (lw_at lw_m8 178 rfl) rfl
theorem q2005 : (Jvm.Cond.instanceMethod ({ cls := "DawnPerquisiteModel", name := "hope", desc := "(IZ)J" } : Jvm.MethodName)) ∈ lw_all := lw_g (lw_at lw_m8 179 rfl) rfl
theorem q2006 : (Jvm.Cond.selects "DawnPerquisiteModel" ({ cls := "DawnPerquisiteModel", name := "hope", desc := "(IZ)J" } : Jvm.MethodName) ({ cls := "DawnPerquisiteModel", name := "hope", desc := "(IZ)J" } : Jvm.MethodName)) ∈ lw_all := lw_g (lw_at lw_m8 180 rfl) rfl
theorem q2007 : (Jvm.Cond.code ({ cls := "DawnPerquisiteModel", name := "hope", desc := "(IZ)J" } : Jvm.MethodName) prog_20_method_125_code (3 : Nat) (Option.some Jvm.ClassFile.FieldType.long)) ∈ lw_all := lw_g (lw_at lw_m8 181 rfl) rfl
theorem q2008 : (Jvm.Cond.methodLink "DawnPerquisiteModel" (417 : Nat) ({ cls := "DawnPerquisiteModel", name := "isHope", desc := "(I)Z" } : Jvm.MethodName)) ∈ lw_all := lw_g (lw_at lw_m8 182 rfl) rfl
theorem q2009 : (Jvm.Cond.static ({ cls := "DawnPerquisiteModel", name := "isHope", desc := "(I)Z" } : Jvm.MethodName)) ∈ lw_all := lw_g (lw_at lw_m8 183 rfl) rfl
theorem q2010 : (Jvm.Cond.code ({ cls := "DawnPerquisiteModel", name := "isHope", desc := "(I)Z" } : Jvm.MethodName) prog_20_method_124_code (1 : Nat) (Option.some Jvm.ClassFile.FieldType.boolean)) ∈ lw_all := lw_g (lw_at lw_m8 184 rfl) rfl
theorem q2011 : (Jvm.Cond.methodLink "DawnPerquisiteModel" (420 : Nat) ({ cls := "DawnPerquisiteModel", name := "hoped", desc := "(I)J" } : Jvm.MethodName)) ∈ lw_all := lw_g (lw_at lw_m8 185 rfl) rfl
theorem q2012 : (Jvm.Cond.privateMethod ({ cls := "DawnPerquisiteModel", name := "hoped", desc := "(I)J" } : Jvm.MethodName)) ∈ lw_tbl := lw_at lw_m8 186 rfl
theorem q2013 : (Jvm.Cond.instanceMethod ({ cls := "DawnPerquisiteModel", name := "hoped", desc := "(I)J" } : Jvm.MethodName)) ∈ lw_all := lw_g (lw_at lw_m8 187 rfl) rfl
theorem q2014 : (Jvm.Cond.code ({ cls := "DawnPerquisiteModel", name := "hoped", desc := "(I)J" } : Jvm.MethodName) prog_20_method_123_code (10 : Nat) (Option.some Jvm.ClassFile.FieldType.long)) ∈ lw_all := lw_g (lw_at lw_m8 188 rfl) rfl
theorem q2015 : (Jvm.Cond.methodLink "DawnPerquisiteModel" (410 : Nat) ({ cls := "DawnPerquisiteModel", name := "allRows", desc := "(I)J" } : Jvm.MethodName)) ∈ lw_all := lw_g (lw_at lw_m8 189 rfl) rfl
theorem q2016 : (Jvm.Cond.privateMethod ({ cls := "DawnPerquisiteModel", name := "allRows", desc := "(I)J" } : Jvm.MethodName)) ∈ lw_tbl := lw_at lw_m8 190 rfl
theorem q2017 : (Jvm.Cond.instanceMethod ({ cls := "DawnPerquisiteModel", name := "allRows", desc := "(I)J" } : Jvm.MethodName)) ∈ lw_all := lw_g (lw_at lw_m8 191 rfl) rfl
theorem q2018 : (Jvm.Cond.code ({ cls := "DawnPerquisiteModel", name := "allRows", desc := "(I)J" } : Jvm.MethodName) prog_20_method_122_code (5 : Nat) (Option.some Jvm.ClassFile.FieldType.long)) ∈ lw_all := lw_g (lw_at lw_m8 192 rfl) rfl
theorem q2019 : (Jvm.Cond.methodLink "DawnPerquisiteModel" (407 : Nat) ({ cls := "DawnPerquisiteModel", name := "whole", desc := "()I" } : Jvm.MethodName)) ∈ lw_all := lw_g (lw_at lw_m8 193 rfl) rfl
theorem q2020 : (Jvm.Cond.privateMethod ({ cls := "DawnPerquisiteModel", name := "whole", desc := "()I" } : Jvm.MethodName)) ∈ lw_tbl := lw_at lw_m8 194 rfl
theorem q2021 : (Jvm.Cond.instanceMethod ({ cls := "DawnPerquisiteModel", name := "whole", desc := "()I" } : Jvm.MethodName)) ∈ lw_all := lw_g (lw_at lw_m8 195 rfl) rfl
theorem q2022 : (Jvm.Cond.code ({ cls := "DawnPerquisiteModel", name := "whole", desc := "()I" } : Jvm.MethodName) prog_20_method_121_code (1 : Nat) (Option.some Jvm.ClassFile.FieldType.int)) ∈ lw_all := lw_g (lw_at lw_m8 196 rfl) rfl
theorem q2023 : (Jvm.Cond.methodLink "DawnPerquisiteModel" (414 : Nat) ({ cls := "DawnPerquisiteModel", name := "oddsOf", desc := "(I)I" } : Jvm.MethodName)) ∈ lw_all := lw_g (lw_at lw_m8 197 rfl) rfl
theorem q2024 : (Jvm.Cond.privateMethod ({ cls := "DawnPerquisiteModel", name := "oddsOf", desc := "(I)I" } : Jvm.MethodName)) ∈ lw_tbl := lw_at lw_m8 198 rfl
theorem q2025 : (Jvm.Cond.instanceMethod ({ cls := "DawnPerquisiteModel", name := "oddsOf", desc := "(I)I" } : Jvm.MethodName)) ∈ lw_all := lw_g (lw_at lw_m8 199 rfl) rfl
theorem q2026 : (Jvm.Cond.code ({ cls := "DawnPerquisiteModel", name := "oddsOf", desc := "(I)I" } : Jvm.MethodName) prog_20_method_120_code (2 : Nat) (Option.some Jvm.ClassFile.FieldType.int)) ∈ lw_all := lw_g (lw_at lw_m8 200 rfl) rfl
theorem q2027 : (Jvm.Cond.methodLink "DawnPerquisiteLaw" (121 : Nat) ({ cls := "DawnPerquisiteModel", name := "keep", desc := "(I)Z" } : Jvm.MethodName)) ∈ lw_all := lw_g (lw_at lw_m8 201 rfl) rfl
theorem q2028 : (Jvm.Cond.instanceMethod ({ cls := "DawnPerquisiteModel", name := "keep", desc := "(I)Z" } : Jvm.MethodName)) ∈ lw_all := lw_g (lw_at lw_m8 202 rfl) rfl
theorem q2029 : (Jvm.Cond.selects "DawnPerquisiteModel" ({ cls := "DawnPerquisiteModel", name := "keep", desc := "(I)Z" } : Jvm.MethodName) ({ cls := "DawnPerquisiteModel", name := "keep", desc := "(I)Z" } : Jvm.MethodName)) ∈ lw_all := lw_g (lw_at lw_m8 203 rfl) rfl
theorem q2030 : (Jvm.Cond.code ({ cls := "DawnPerquisiteModel", name := "keep", desc := "(I)Z" } : Jvm.MethodName) prog_20_method_126_code (2 : Nat) (Option.some Jvm.ClassFile.FieldType.boolean)) ∈ lw_all := lw_g (lw_at lw_m8 204 rfl) rfl
theorem q2031 : (Jvm.Cond.methodLink "DawnPerquisiteLaw" (125 : Nat) ({ cls := "DawnPerquisiteModel", name := "chance", desc := "(IZ)J" } : Jvm.MethodName)) ∈ lw_all := lw_g (lw_at lw_m8 205 rfl) rfl
theorem q2032 : (Jvm.Cond.instanceMethod ({ cls := "DawnPerquisiteModel", name := "chance", desc := "(IZ)J" } : Jvm.MethodName)) ∈ lw_all := lw_g (lw_at lw_m8 206 rfl) rfl
theorem q2033 : (Jvm.Cond.selects "DawnPerquisiteModel" ({ cls := "DawnPerquisiteModel", name := "chance", desc := "(IZ)J" } : Jvm.MethodName) ({ cls := "DawnPerquisiteModel", name := "chance", desc := "(IZ)J" } : Jvm.MethodName)) ∈ lw_all := lw_g (lw_at lw_m8 207 rfl) rfl
theorem q2034 : (Jvm.Cond.code ({ cls := "DawnPerquisiteModel", name := "chance", desc := "(IZ)J" } : Jvm.MethodName) prog_20_method_127_code (3 : Nat) (Option.some Jvm.ClassFile.FieldType.long)) ∈ lw_all := lw_g (lw_at lw_m8 208 rfl) rfl
theorem q2035 : (Jvm.Cond.methodLink "DawnPerquisiteLaw" (129 : Nat) ({ cls := "DawnPerquisiteModel", name := "first", desc := "(I)I" } : Jvm.MethodName)) ∈ lw_all := lw_g (lw_at lw_m8 209 rfl) rfl
theorem q2036 : (Jvm.Cond.instanceMethod ({ cls := "DawnPerquisiteModel", name := "first", desc := "(I)I" } : Jvm.MethodName)) ∈ lw_all := lw_g (lw_at lw_m8 210 rfl) rfl
theorem q2037 : (Jvm.Cond.selects "DawnPerquisiteModel" ({ cls := "DawnPerquisiteModel", name := "first", desc := "(I)I" } : Jvm.MethodName) ({ cls := "DawnPerquisiteModel", name := "first", desc := "(I)I" } : Jvm.MethodName)) ∈ lw_all := lw_g (lw_at lw_m8 211 rfl) rfl
theorem q2038 : (Jvm.Cond.code ({ cls := "DawnPerquisiteModel", name := "first", desc := "(I)I" } : Jvm.MethodName) prog_20_method_128_code (5 : Nat) (Option.some Jvm.ClassFile.FieldType.int)) ∈ lw_all := lw_g (lw_at lw_m8 212 rfl) rfl
theorem q2039 : (Jvm.Cond.constantLong "DawnPerquisiteModel" (423 : Nat) (2 : Int64)) ∈ lw_all := lw_g (lw_at lw_m8 213 rfl) rfl
theorem q2040 : (Jvm.Cond.methodLink "DawnPerquisiteLaw" (133 : Nat) ({ cls := "DawnPerquisiteModel", name := "paid", desc := "(IZ)I" } : Jvm.MethodName)) ∈ lw_all := lw_g (lw_at lw_m8 214 rfl) rfl
theorem q2041 : (Jvm.Cond.instanceMethod ({ cls := "DawnPerquisiteModel", name := "paid", desc := "(IZ)I" } : Jvm.MethodName)) ∈ lw_all := lw_g (lw_at lw_m8 215 rfl) rfl
theorem q2042 : (Jvm.Cond.selects "DawnPerquisiteModel" ({ cls := "DawnPerquisiteModel", name := "paid", desc := "(IZ)I" } : Jvm.MethodName) ({ cls := "DawnPerquisiteModel", name := "paid", desc := "(IZ)I" } : Jvm.MethodName)) ∈ lw_all := lw_g (lw_at lw_m8 216 rfl) rfl
theorem q2043 : (Jvm.Cond.code ({ cls := "DawnPerquisiteModel", name := "paid", desc := "(IZ)I" } : Jvm.MethodName) prog_20_method_129_code (4 : Nat) (Option.some Jvm.ClassFile.FieldType.int)) ∈ lw_all := lw_g (lw_at lw_m8 217 rfl) rfl
theorem q2044 : (Jvm.Cond.methodLink "DawnPerquisiteLaw" (137 : Nat) ({ cls := "DawnPerquisiteModel", name := "was", desc := "()I" } : Jvm.MethodName)) ∈ lw_all := lw_g (lw_at lw_m8 218 rfl) rfl
theorem q2045 : (Jvm.Cond.instanceMethod ({ cls := "DawnPerquisiteModel", name := "was", desc := "()I" } : Jvm.MethodName)) ∈ lw_all := lw_g (lw_at lw_m8 219 rfl) rfl
theorem q2046 : (Jvm.Cond.selects "DawnPerquisiteModel" ({ cls := "DawnPerquisiteModel", name := "was", desc := "()I" } : Jvm.MethodName) ({ cls := "DawnPerquisiteModel", name := "was", desc := "()I" } : Jvm.MethodName)) ∈ lw_all := lw_g (lw_at lw_m8 220 rfl) rfl
theorem q2047 : (Jvm.Cond.code ({ cls := "DawnPerquisiteModel", name := "was", desc := "()I" } : Jvm.MethodName) prog_20_method_132_code (1 : Nat) (Option.some Jvm.ClassFile.FieldType.int)) ∈ lw_all := lw_g (lw_at lw_m8 221 rfl) rfl
theorem q2048 : (Jvm.Cond.methodLink "DawnPerquisiteModel" (428 : Nat) ({ cls := "DawnPerquisiteModel", name := "fitting", desc := "()I" } : Jvm.MethodName)) ∈ lw_all := lw_g (lw_at lw_m8 222 rfl) rfl
theorem q2049 : (Jvm.Cond.privateMethod ({ cls := "DawnPerquisiteModel", name := "fitting", desc := "()I" } : Jvm.MethodName)) ∈ lw_tbl := lw_at lw_m8 223 rfl
theorem q2050 : (Jvm.Cond.instanceMethod ({ cls := "DawnPerquisiteModel", name := "fitting", desc := "()I" } : Jvm.MethodName)) ∈ lw_all := lw_g (lw_at lw_m8 224 rfl) rfl
theorem q2051 : (Jvm.Cond.code ({ cls := "DawnPerquisiteModel", name := "fitting", desc := "()I" } : Jvm.MethodName) prog_20_method_131_code (3 : Nat) (Option.some Jvm.ClassFile.FieldType.int)) ∈ lw_all := lw_g (lw_at lw_m8 225 rfl) rfl
theorem q2052 : (Jvm.Cond.methodLink "DawnPerquisiteModel" (425 : Nat) ({ cls := "DawnPerquisiteModel", name := "doesFit", desc := "(I)Z" } : Jvm.MethodName)) ∈ lw_all := lw_g (lw_at lw_m8 226 rfl) rfl
theorem q2053 : (Jvm.Cond.privateMethod ({ cls := "DawnPerquisiteModel", name := "doesFit", desc := "(I)Z" } : Jvm.MethodName)) ∈ lw_tbl := lw_at lw_m8 227 rfl
theorem q2054 : (Jvm.Cond.instanceMethod ({ cls := "DawnPerquisiteModel", name := "doesFit", desc := "(I)Z" } : Jvm.MethodName)) ∈ lw_all := lw_g (lw_at lw_m8 228 rfl) rfl
theorem q2055 : (Jvm.Cond.code ({ cls := "DawnPerquisiteModel", name := "doesFit", desc := "(I)Z" } : Jvm.MethodName) prog_20_method_130_code (3 : Nat) (Option.some Jvm.ClassFile.FieldType.boolean)) ∈ lw_all := lw_g (lw_at lw_m8 229 rfl) rfl
theorem q2056 : (Jvm.Cond.methodLink "DawnPerquisiteLaw" (146 : Nat) ({ cls := "DawnPerquisiteModel", name := "likeliest", desc := "()I" } : Jvm.MethodName)) ∈ lw_all := lw_g (lw_at lw_m8 230 rfl) rfl
theorem q2057 : (Jvm.Cond.instanceMethod ({ cls := "DawnPerquisiteModel", name := "likeliest", desc := "()I" } : Jvm.MethodName)) ∈ lw_all := lw_g (lw_at lw_m8 231 rfl) rfl
theorem q2058 : (Jvm.Cond.selects "DawnPerquisiteModel" ({ cls := "DawnPerquisiteModel", name := "likeliest", desc := "()I" } : Jvm.MethodName) ({ cls := "DawnPerquisiteModel", name := "likeliest", desc := "()I" } : Jvm.MethodName)) ∈ lw_all := lw_g (lw_at lw_m8 232 rfl) rfl
theorem q2059 : (Jvm.Cond.code ({ cls := "DawnPerquisiteModel", name := "likeliest", desc := "()I" } : Jvm.MethodName) prog_20_method_135_code (1 : Nat) (Option.some Jvm.ClassFile.FieldType.int)) ∈ lw_all := lw_g (lw_at lw_m8 233 rfl) rfl
theorem q2060 : (Jvm.Cond.methodLink "DawnPerquisiteModel" (431 : Nat) ({ cls := "DawnPerquisiteModel", name := "likeliestNow", desc := "()I" } : Jvm.MethodName)) ∈ lw_all := lw_g (lw_at lw_m8 234 rfl) rfl
theorem q2061 : (Jvm.Cond.privateMethod ({ cls := "DawnPerquisiteModel", name := "likeliestNow", desc := "()I" } : Jvm.MethodName)) ∈ lw_tbl := lw_at lw_m8 235 rfl
theorem q2062 : (Jvm.Cond.instanceMethod ({ cls := "DawnPerquisiteModel", name := "likeliestNow", desc := "()I" } : Jvm.MethodName)) ∈ lw_all := lw_g (lw_at lw_m8 236 rfl) rfl
theorem q2063 : (Jvm.Cond.code ({ cls := "DawnPerquisiteModel", name := "likeliestNow", desc := "()I" } : Jvm.MethodName) prog_20_method_134_code (3 : Nat) (Option.some Jvm.ClassFile.FieldType.int)) ∈ lw_all := lw_g (lw_at lw_m8 237 rfl) rfl
theorem q2064 : (Jvm.Cond.methodLink "DawnPerquisiteLaw" (142 : Nat) ({ cls := "DawnPerquisiteModel", name := "surest", desc := "(Z)J" } : Jvm.MethodName)) ∈ lw_all := lw_g (lw_at lw_m8 238 rfl) rfl
theorem q2065 : (Jvm.Cond.instanceMethod ({ cls := "DawnPerquisiteModel", name := "surest", desc := "(Z)J" } : Jvm.MethodName)) ∈ lw_all := lw_g (lw_at lw_m8 239 rfl) rfl
theorem q2066 : (Jvm.Cond.selects "DawnPerquisiteModel" ({ cls := "DawnPerquisiteModel", name := "surest", desc := "(Z)J" } : Jvm.MethodName) ({ cls := "DawnPerquisiteModel", name := "surest", desc := "(Z)J" } : Jvm.MethodName)) ∈ lw_all := lw_g (lw_at lw_m9 0 rfl) rfl
theorem q2067 : (Jvm.Cond.code ({ cls := "DawnPerquisiteModel", name := "surest", desc := "(Z)J" } : Jvm.MethodName) prog_20_method_136_code (3 : Nat) (Option.some Jvm.ClassFile.FieldType.long)) ∈ lw_all := lw_g (lw_at lw_m9 1 rfl) rfl
theorem q2068 : (Jvm.Cond.methodLink "DawnPerquisiteModel" (434 : Nat) ({ cls := "DawnPerquisiteModel", name := "oddsOfSet", desc := "(I)I" } : Jvm.MethodName)) ∈ lw_all := lw_g (lw_at lw_m9 2 rfl) rfl
theorem q2069 : (Jvm.Cond.privateMethod ({ cls := "DawnPerquisiteModel", name := "oddsOfSet", desc := "(I)I" } : Jvm.MethodName)) ∈ lw_tbl := lw_at lw_m9 3 rfl
theorem q2070 : (Jvm.Cond.instanceMethod ({ cls := "DawnPerquisiteModel", name := "oddsOfSet", desc := "(I)I" } : Jvm.MethodName)) ∈ lw_all := lw_g (lw_at lw_m9 4 rfl) rfl
theorem q2071 : (Jvm.Cond.code ({ cls := "DawnPerquisiteModel", name := "oddsOfSet", desc := "(I)I" } : Jvm.MethodName) prog_20_method_133_code (4 : Nat) (Option.some Jvm.ClassFile.FieldType.int)) ∈ lw_all := lw_g (lw_at lw_m9 5 rfl) rfl
theorem q2072 : (Jvm.Cond.methodLink "DawnPerquisiteLaw" (150 : Nat) ({ cls := "DawnPerquisiteModel", name := "ask", desc := "()I" } : Jvm.MethodName)) ∈ lw_all := lw_g (lw_at lw_m9 6 rfl) rfl
theorem q2073 : (Jvm.Cond.instanceMethod ({ cls := "DawnPerquisiteModel", name := "ask", desc := "()I" } : Jvm.MethodName)) ∈ lw_all := lw_g (lw_at lw_m9 7 rfl) rfl
theorem q2074 : (Jvm.Cond.selects "DawnPerquisiteModel" ({ cls := "DawnPerquisiteModel", name := "ask", desc := "()I" } : Jvm.MethodName) ({ cls := "DawnPerquisiteModel", name := "ask", desc := "()I" } : Jvm.MethodName)) ∈ lw_all := lw_g (lw_at lw_m9 8 rfl) rfl
theorem q2075 : (Jvm.Cond.code ({ cls := "DawnPerquisiteModel", name := "ask", desc := "()I" } : Jvm.MethodName) prog_20_method_138_code (3 : Nat) (Option.some Jvm.ClassFile.FieldType.int)) ∈ lw_all := lw_g (lw_at lw_m9 9 rfl) rfl
theorem q2076 : (Jvm.Cond.methodLink "DawnPerquisiteModel" (437 : Nat) ({ cls := "DawnPerquisiteModel", name := "greaterPart", desc := "(I)I" } : Jvm.MethodName)) ∈ lw_all := lw_g (lw_at lw_m9 10 rfl) rfl
theorem q2077 : (Jvm.Cond.privateMethod ({ cls := "DawnPerquisiteModel", name := "greaterPart", desc := "(I)I" } : Jvm.MethodName)) ∈ lw_tbl := lw_at lw_m9 11 rfl
theorem q2078 : (Jvm.Cond.instanceMethod ({ cls := "DawnPerquisiteModel", name := "greaterPart", desc := "(I)I" } : Jvm.MethodName)) ∈ lw_all := lw_g (lw_at lw_m9 12 rfl) rfl
theorem q2079 : (Jvm.Cond.code ({ cls := "DawnPerquisiteModel", name := "greaterPart", desc := "(I)I" } : Jvm.MethodName) prog_20_method_137_code (4 : Nat) (Option.some Jvm.ClassFile.FieldType.int)) ∈ lw_all := lw_g (lw_at lw_m9 13 rfl) rfl
theorem q2080 : (Jvm.Cond.methodLink "DawnPerquisiteLaw" (154 : Nat) ({ cls := "DawnPerquisiteModel", name := "auction", desc := "(II)I" } : Jvm.MethodName)) ∈ lw_all := lw_g (lw_at lw_m9 14 rfl) rfl
theorem q2081 : (Jvm.Cond.instanceMethod ({ cls := "DawnPerquisiteModel", name := "auction", desc := "(II)I" } : Jvm.MethodName)) ∈ lw_all := lw_g (lw_at lw_m9 15 rfl) rfl
theorem q2082 : (Jvm.Cond.selects "DawnPerquisiteModel" ({ cls := "DawnPerquisiteModel", name := "auction", desc := "(II)I" } : Jvm.MethodName) ({ cls := "DawnPerquisiteModel", name := "auction", desc := "(II)I" } : Jvm.MethodName)) ∈ lw_all := lw_g (lw_at lw_m9 16 rfl) rfl
theorem q2083 : (Jvm.Cond.code ({ cls := "DawnPerquisiteModel", name := "auction", desc := "(II)I" } : Jvm.MethodName) prog_20_method_142_code (7 : Nat) (Option.some Jvm.ClassFile.FieldType.int)) ∈ lw_all := lw_g (lw_at lw_m9 17 rfl) rfl
theorem q2084 : (Jvm.Cond.methodLink "DawnPerquisiteModel" (446 : Nat) ({ cls := "DawnPerquisiteModel", name := "bidderOf", desc := "(II)I" } : Jvm.MethodName)) ∈ lw_all := lw_g (lw_at lw_m9 18 rfl) rfl
theorem q2085 : (Jvm.Cond.privateMethod ({ cls := "DawnPerquisiteModel", name := "bidderOf", desc := "(II)I" } : Jvm.MethodName)) ∈ lw_tbl := lw_at lw_m9 19 rfl
theorem q2086 : (Jvm.Cond.instanceMethod ({ cls := "DawnPerquisiteModel", name := "bidderOf", desc := "(II)I" } : Jvm.MethodName)) ∈ lw_all := lw_g (lw_at lw_m9 20 rfl) rfl
theorem q2087 : (Jvm.Cond.code ({ cls := "DawnPerquisiteModel", name := "bidderOf", desc := "(II)I" } : Jvm.MethodName) prog_20_method_141_code (5 : Nat) (Option.some Jvm.ClassFile.FieldType.int)) ∈ lw_all := lw_g (lw_at lw_m9 21 rfl) rfl
theorem q2088 : (Jvm.Cond.methodLink "DawnPerquisiteModel" (440 : Nat) ({ cls := "DawnPerquisiteModel", name := "doesBid", desc := "(II)Z" } : Jvm.MethodName)) ∈ lw_all := lw_g (lw_at lw_m9 22 rfl) rfl
theorem q2089 : (Jvm.Cond.privateMethod ({ cls := "DawnPerquisiteModel", name := "doesBid", desc := "(II)Z" } : Jvm.MethodName)) ∈ lw_tbl := lw_at lw_m9 23 rfl
theorem q2090 : (Jvm.Cond.instanceMethod ({ cls := "DawnPerquisiteModel", name := "doesBid", desc := "(II)Z" } : Jvm.MethodName)) ∈ lw_all := lw_g (lw_at lw_m9 24 rfl) rfl
theorem q2091 : (Jvm.Cond.code ({ cls := "DawnPerquisiteModel", name := "doesBid", desc := "(II)Z" } : Jvm.MethodName) prog_20_method_139_code (3 : Nat) (Option.some Jvm.ClassFile.FieldType.boolean)) ∈ lw_all := lw_g (lw_at lw_m9 25 rfl) rfl
theorem q2092 : (Jvm.Cond.methodLink "DawnPerquisiteModel" (443 : Nat) ({ cls := "DawnPerquisiteModel", name := "bidFor", desc := "(I)I" } : Jvm.MethodName)) ∈ lw_all := lw_g (lw_at lw_m9 26 rfl) rfl
theorem q2093 : (Jvm.Cond.privateMethod ({ cls := "DawnPerquisiteModel", name := "bidFor", desc := "(I)I" } : Jvm.MethodName)) ∈ lw_tbl := lw_at lw_m9 27 rfl
theorem q2094 : (Jvm.Cond.instanceMethod ({ cls := "DawnPerquisiteModel", name := "bidFor", desc := "(I)I" } : Jvm.MethodName)) ∈ lw_all := lw_g (lw_at lw_m9 28 rfl) rfl
theorem q2095 : (Jvm.Cond.code ({ cls := "DawnPerquisiteModel", name := "bidFor", desc := "(I)I" } : Jvm.MethodName) prog_20_method_140_code (2 : Nat) (Option.some Jvm.ClassFile.FieldType.int)) ∈ lw_all := lw_g (lw_at lw_m9 29 rfl) rfl
theorem q2096 : (Jvm.Cond.methodLink "DawnPerquisiteLaw" (159 : Nat) ({ cls := "DawnPerquisiteModel", name := "stab", desc := "(Z)I" } : Jvm.MethodName)) ∈ lw_all := lw_g (lw_at lw_m9 30 rfl) rfl
theorem q2097 : (Jvm.Cond.instanceMethod ({ cls := "DawnPerquisiteModel", name := "stab", desc := "(Z)I" } : Jvm.MethodName)) ∈ lw_all := lw_g (lw_at lw_m9 31 rfl) rfl
theorem q2098 : (Jvm.Cond.selects "DawnPerquisiteModel" ({ cls := "DawnPerquisiteModel", name := "stab", desc := "(Z)I" } : Jvm.MethodName) ({ cls := "DawnPerquisiteModel", name := "stab", desc := "(Z)I" } : Jvm.MethodName)) ∈ lw_all := lw_g (lw_at lw_m9 32 rfl) rfl
theorem q2099 : (Jvm.Cond.code ({ cls := "DawnPerquisiteModel", name := "stab", desc := "(Z)I" } : Jvm.MethodName) prog_20_method_144_code (4 : Nat) (Option.some Jvm.ClassFile.FieldType.int)) ∈ lw_all := lw_g (lw_at lw_m9 33 rfl) rfl
theorem q2100 : (Jvm.Cond.methodLink "DawnPerquisiteModel" (449 : Nat) ({ cls := "DawnPerquisiteModel", name := "areServed", desc := "(I)Z" } : Jvm.MethodName)) ∈ lw_all := lw_g (lw_at lw_m9 34 rfl) rfl
theorem q2101 : (Jvm.Cond.privateMethod ({ cls := "DawnPerquisiteModel", name := "areServed", desc := "(I)Z" } : Jvm.MethodName)) ∈ lw_tbl := lw_at lw_m9 35 rfl
theorem q2102 : (Jvm.Cond.instanceMethod ({ cls := "DawnPerquisiteModel", name := "areServed", desc := "(I)Z" } : Jvm.MethodName)) ∈ lw_all := lw_g (lw_at lw_m9 36 rfl) rfl
theorem q2103 : (Jvm.Cond.code ({ cls := "DawnPerquisiteModel", name := "areServed", desc := "(I)Z" } : Jvm.MethodName) prog_20_method_143_code (3 : Nat) (Option.some Jvm.ClassFile.FieldType.boolean)) ∈ lw_all := lw_g (lw_at lw_m9 37 rfl) rfl
theorem q2104 : (Jvm.Cond.methodLink "DawnPerquisiteLaw" (163 : Nat) ({ cls := "DawnPerquisiteModel", name := "crowd", desc := "(Z)I" } : Jvm.MethodName)) ∈ lw_all := lw_g (lw_at lw_m9 38 rfl) rfl
theorem q2105 : (Jvm.Cond.instanceMethod ({ cls := "DawnPerquisiteModel", name := "crowd", desc := "(Z)I" } : Jvm.MethodName)) ∈ lw_all := lw_g (lw_at lw_m9 39 rfl) rfl
theorem q2106 : (Jvm.Cond.selects "DawnPerquisiteModel" ({ cls := "DawnPerquisiteModel", name := "crowd", desc := "(Z)I" } : Jvm.MethodName) ({ cls := "DawnPerquisiteModel", name := "crowd", desc := "(Z)I" } : Jvm.MethodName)) ∈ lw_all := lw_g (lw_at lw_m9 40 rfl) rfl
theorem q2107 : (Jvm.Cond.code ({ cls := "DawnPerquisiteModel", name := "crowd", desc := "(Z)I" } : Jvm.MethodName) prog_20_method_146_code (4 : Nat) (Option.some Jvm.ClassFile.FieldType.int)) ∈ lw_all := lw_g (lw_at lw_m9 41 rfl) rfl
theorem q2108 : (Jvm.Cond.methodLink "DawnPerquisiteModel" (452 : Nat) ({ cls := "DawnPerquisiteModel", name := "crowdAt", desc := "(I)I" } : Jvm.MethodName)) ∈ lw_all := lw_g (lw_at lw_m9 42 rfl) rfl
theorem q2109 : (Jvm.Cond.privateMethod ({ cls := "DawnPerquisiteModel", name := "crowdAt", desc := "(I)I" } : Jvm.MethodName)) ∈ lw_tbl := lw_at lw_m9 43 rfl
theorem q2110 : (Jvm.Cond.instanceMethod ({ cls := "DawnPerquisiteModel", name := "crowdAt", desc := "(I)I" } : Jvm.MethodName)) ∈ lw_all := lw_g (lw_at lw_m9 44 rfl) rfl
theorem q2111 : (Jvm.Cond.code ({ cls := "DawnPerquisiteModel", name := "crowdAt", desc := "(I)I" } : Jvm.MethodName) prog_20_method_145_code (4 : Nat) (Option.some Jvm.ClassFile.FieldType.int)) ∈ lw_all := lw_g (lw_at lw_m9 45 rfl) rfl
theorem q2112 : (Jvm.Cond.methodLink "DawnPerquisiteLaw" (167 : Nat) ({ cls := "DawnPerquisiteModel", name := "dawns", desc := "(I)I" } : Jvm.MethodName)) ∈ lw_all := lw_g (lw_at lw_m9 46 rfl) rfl
theorem q2113 : (Jvm.Cond.instanceMethod ({ cls := "DawnPerquisiteModel", name := "dawns", desc := "(I)I" } : Jvm.MethodName)) ∈ lw_all := lw_g (lw_at lw_m9 47 rfl) rfl
theorem q2114 : (Jvm.Cond.selects "DawnPerquisiteModel" ({ cls := "DawnPerquisiteModel", name := "dawns", desc := "(I)I" } : Jvm.MethodName) ({ cls := "DawnPerquisiteModel", name := "dawns", desc := "(I)I" } : Jvm.MethodName)) ∈ lw_all := lw_g (lw_at lw_m9 48 rfl) rfl
theorem q2115 : (Jvm.Cond.code ({ cls := "DawnPerquisiteModel", name := "dawns", desc := "(I)I" } : Jvm.MethodName) prog_20_method_148_code (2 : Nat) (Option.some Jvm.ClassFile.FieldType.int)) ∈ lw_all := lw_g (lw_at lw_m9 49 rfl) rfl
theorem q2116 : (Jvm.Cond.methodLink "DawnPerquisiteModel" (455 : Nat) ({ cls := "DawnPerquisiteModel", name := "layDawns", desc := "()V" } : Jvm.MethodName)) ∈ lw_all := lw_g (lw_at lw_m9 50 rfl) rfl
theorem q2117 : (Jvm.Cond.privateMethod ({ cls := "DawnPerquisiteModel", name := "layDawns", desc := "()V" } : Jvm.MethodName)) ∈ lw_tbl := lw_at lw_m9 51 rfl
theorem q2118 : (Jvm.Cond.instanceMethod ({ cls := "DawnPerquisiteModel", name := "layDawns", desc := "()V" } : Jvm.MethodName)) ∈ lw_all := lw_g (lw_at lw_m9 52 rfl) rfl
theorem q2119 : (Jvm.Cond.code ({ cls := "DawnPerquisiteModel", name := "layDawns", desc := "()V" } : Jvm.MethodName) prog_20_method_147_code (4 : Nat) (Option.none : Option Jvm.ClassFile.FieldType)) ∈ lw_all := lw_g (lw_at lw_m9 53 rfl) rfl
theorem q2120 : (Jvm.Cond.methodLink "DawnPerquisiteLaw" (171 : Nat) ({ cls := "DawnPerquisiteModel", name := "month", desc := "(IZ)J" } : Jvm.MethodName)) ∈ lw_all := lw_g (lw_at lw_m9 54 rfl) rfl
theorem q2121 : (Jvm.Cond.instanceMethod ({ cls := "DawnPerquisiteModel", name := "month", desc := "(IZ)J" } : Jvm.MethodName)) ∈ lw_all := lw_g (lw_at lw_m9 55 rfl) rfl
theorem q2122 : (Jvm.Cond.selects "DawnPerquisiteModel" ({ cls := "DawnPerquisiteModel", name := "month", desc := "(IZ)J" } : Jvm.MethodName) ({ cls := "DawnPerquisiteModel", name := "month", desc := "(IZ)J" } : Jvm.MethodName)) ∈ lw_all := lw_g (lw_at lw_m9 56 rfl) rfl
theorem q2123 : (Jvm.Cond.code ({ cls := "DawnPerquisiteModel", name := "month", desc := "(IZ)J" } : Jvm.MethodName) prog_20_method_149_code (6 : Nat) (Option.some Jvm.ClassFile.FieldType.long)) ∈ lw_all := lw_g (lw_at lw_m9 57 rfl) rfl
theorem q2124 : (Jvm.Cond.methodLink "DawnPerquisiteLaw" (176 : Nat) ({ cls := "DawnPerquisiteModel", name := "value", desc := "(II)Z" } : Jvm.MethodName)) ∈ lw_all := lw_g (lw_at lw_m9 58 rfl) rfl
theorem q2125 : (Jvm.Cond.instanceMethod ({ cls := "DawnPerquisiteModel", name := "value", desc := "(II)Z" } : Jvm.MethodName)) ∈ lw_all := lw_g (lw_at lw_m9 59 rfl) rfl
theorem q2126 : (Jvm.Cond.selects "DawnPerquisiteModel" ({ cls := "DawnPerquisiteModel", name := "value", desc := "(II)Z" } : Jvm.MethodName) ({ cls := "DawnPerquisiteModel", name := "value", desc := "(II)Z" } : Jvm.MethodName)) ∈ lw_all := lw_g (lw_at lw_m9 60 rfl) rfl
theorem q2127 : (Jvm.Cond.code ({ cls := "DawnPerquisiteModel", name := "value", desc := "(II)Z" } : Jvm.MethodName) prog_20_method_150_code (3 : Nat) (Option.some Jvm.ClassFile.FieldType.boolean)) ∈ lw_all := lw_g (lw_at lw_m9 61 rfl) rfl
theorem q2128 : (Jvm.Cond.methodLink "DawnPerquisiteLaw" (180 : Nat) ({ cls := "DawnPerquisiteModel", name := "ends", desc := "(II)I" } : Jvm.MethodName)) ∈ lw_all := lw_g (lw_at lw_m9 62 rfl) rfl
theorem q2129 : (Jvm.Cond.instanceMethod ({ cls := "DawnPerquisiteModel", name := "ends", desc := "(II)I" } : Jvm.MethodName)) ∈ lw_all := lw_g (lw_at lw_m9 63 rfl) rfl
theorem q2130 : (Jvm.Cond.selects "DawnPerquisiteModel" ({ cls := "DawnPerquisiteModel", name := "ends", desc := "(II)I" } : Jvm.MethodName) ({ cls := "DawnPerquisiteModel", name := "ends", desc := "(II)I" } : Jvm.MethodName)) ∈ lw_all := lw_g (lw_at lw_m9 64 rfl) rfl
theorem q2131 : (Jvm.Cond.code ({ cls := "DawnPerquisiteModel", name := "ends", desc := "(II)I" } : Jvm.MethodName) prog_20_method_154_code (3 : Nat) (Option.some Jvm.ClassFile.FieldType.int)) ∈ lw_all := lw_g (lw_at lw_m9 65 rfl) rfl
theorem q2132 : (Jvm.Cond.methodLink "DawnPerquisiteModel" (464 : Nat) ({ cls := "DawnPerquisiteModel", name := "layGames", desc := "()V" } : Jvm.MethodName)) ∈ lw_all := lw_g (lw_at lw_m9 66 rfl) rfl
theorem q2133 : (Jvm.Cond.privateMethod ({ cls := "DawnPerquisiteModel", name := "layGames", desc := "()V" } : Jvm.MethodName)) ∈ lw_tbl := lw_at lw_m9 67 rfl
theorem q2134 : (Jvm.Cond.instanceMethod ({ cls := "DawnPerquisiteModel", name := "layGames", desc := "()V" } : Jvm.MethodName)) ∈ lw_all := lw_g (lw_at lw_m9 68 rfl) rfl
theorem q2135 : (Jvm.Cond.code ({ cls := "DawnPerquisiteModel", name := "layGames", desc := "()V" } : Jvm.MethodName) prog_20_method_153_code (5 : Nat) (Option.none : Option Jvm.ClassFile.FieldType)) ∈ lw_all := lw_g (lw_at lw_m9 69 rfl) rfl
theorem q2136 : (Jvm.Cond.methodLink "DawnPerquisiteModel" (458 : Nat) ({ cls := "DawnPerquisiteModel", name := "byLeft", desc := "(II)I" } : Jvm.MethodName)) ∈ lw_all := lw_g (lw_at lw_m9 70 rfl) rfl
theorem q2137 : (Jvm.Cond.privateMethod ({ cls := "DawnPerquisiteModel", name := "byLeft", desc := "(II)I" } : Jvm.MethodName)) ∈ lw_tbl := lw_at lw_m9 71 rfl
theorem q2138 : (Jvm.Cond.instanceMethod ({ cls := "DawnPerquisiteModel", name := "byLeft", desc := "(II)I" } : Jvm.MethodName)) ∈ lw_all := lw_g (lw_at lw_m9 72 rfl) rfl
theorem q2139 : (Jvm.Cond.code ({ cls := "DawnPerquisiteModel", name := "byLeft", desc := "(II)I" } : Jvm.MethodName) prog_20_method_151_code (3 : Nat) (Option.some Jvm.ClassFile.FieldType.int)) ∈ lw_all := lw_g (lw_at lw_m9 73 rfl) rfl
theorem q2140 : (Jvm.Cond.methodLink "DawnPerquisiteModel" (461 : Nat) ({ cls := "DawnPerquisiteModel", name := "byRight", desc := "(II)I" } : Jvm.MethodName)) ∈ lw_all := lw_g (lw_at lw_m9 74 rfl) rfl
theorem q2141 : (Jvm.Cond.privateMethod ({ cls := "DawnPerquisiteModel", name := "byRight", desc := "(II)I" } : Jvm.MethodName)) ∈ lw_tbl := lw_at lw_m9 75 rfl
theorem q2142 : (Jvm.Cond.instanceMethod ({ cls := "DawnPerquisiteModel", name := "byRight", desc := "(II)I" } : Jvm.MethodName)) ∈ lw_all := lw_g (lw_at lw_m9 76 rfl) rfl
theorem q2143 : (Jvm.Cond.code ({ cls := "DawnPerquisiteModel", name := "byRight", desc := "(II)I" } : Jvm.MethodName) prog_20_method_152_code (3 : Nat) (Option.some Jvm.ClassFile.FieldType.int)) ∈ lw_all := lw_g (lw_at lw_m9 77 rfl) rfl
theorem q2144 : (Jvm.Cond.methodLink "DawnPerquisiteLaw" (184 : Nat) ({ cls := "DawnPerquisiteModel", name := "take", desc := "(II)I" } : Jvm.MethodName)) ∈ lw_all := lw_g (lw_at lw_m9 78 rfl) rfl
theorem q2145 : (Jvm.Cond.instanceMethod ({ cls := "DawnPerquisiteModel", name := "take", desc := "(II)I" } : Jvm.MethodName)) ∈ lw_all := lw_g (lw_at lw_m9 79 rfl) rfl
theorem q2146 : (Jvm.Cond.selects "DawnPerquisiteModel" ({ cls := "DawnPerquisiteModel", name := "take", desc := "(II)I" } : Jvm.MethodName) ({ cls := "DawnPerquisiteModel", name := "take", desc := "(II)I" } : Jvm.MethodName)) ∈ lw_all := lw_g (lw_at lw_m9 80 rfl) rfl
theorem q2147 : (Jvm.Cond.code ({ cls := "DawnPerquisiteModel", name := "take", desc := "(II)I" } : Jvm.MethodName) prog_20_method_155_code (3 : Nat) (Option.some Jvm.ClassFile.FieldType.int)) ∈ lw_all := lw_g (lw_at lw_m9 81 rfl) rfl
theorem q2148 : (Jvm.Cond.methodLink "DawnPerquisiteLaw" (189 : Nat) ({ cls := "DawnPerquisiteModel", name := "best", desc := "(III)I" } : Jvm.MethodName)) ∈ lw_all := lw_g (lw_at lw_m9 82 rfl) rfl
theorem q2149 : (Jvm.Cond.instanceMethod ({ cls := "DawnPerquisiteModel", name := "best", desc := "(III)I" } : Jvm.MethodName)) ∈ lw_all := lw_g (lw_at lw_m9 83 rfl) rfl
theorem q2150 : (Jvm.Cond.selects "DawnPerquisiteModel" ({ cls := "DawnPerquisiteModel", name := "best", desc := "(III)I" } : Jvm.MethodName) ({ cls := "DawnPerquisiteModel", name := "best", desc := "(III)I" } : Jvm.MethodName)) ∈ lw_all := lw_g (lw_at lw_m9 84 rfl) rfl
theorem q2151 : (Jvm.Cond.code ({ cls := "DawnPerquisiteModel", name := "best", desc := "(III)I" } : Jvm.MethodName) prog_20_method_157_code (8 : Nat) (Option.some Jvm.ClassFile.FieldType.int)) ∈ lw_all := lw_g (lw_at lw_m9 85 rfl) rfl
theorem q2152 : (Jvm.Cond.methodLink "DawnPerquisiteModel" (467 : Nat) ({ cls := "DawnPerquisiteModel", name := "runOf", desc := "(II)I" } : Jvm.MethodName)) ∈ lw_all := lw_g (lw_at lw_m9 86 rfl) rfl
theorem q2153 : (Jvm.Cond.privateMethod ({ cls := "DawnPerquisiteModel", name := "runOf", desc := "(II)I" } : Jvm.MethodName)) ∈ lw_tbl := lw_at lw_m9 87 rfl
theorem q2154 : (Jvm.Cond.instanceMethod ({ cls := "DawnPerquisiteModel", name := "runOf", desc := "(II)I" } : Jvm.MethodName)) ∈ lw_all := lw_g (lw_at lw_m9 88 rfl) rfl
theorem q2155 : (Jvm.Cond.code ({ cls := "DawnPerquisiteModel", name := "runOf", desc := "(II)I" } : Jvm.MethodName) prog_20_method_156_code (5 : Nat) (Option.some Jvm.ClassFile.FieldType.int)) ∈ lw_all := lw_g (lw_at lw_m9 89 rfl) rfl
theorem q2156 : (Jvm.Cond.methodLink "DawnPerquisiteLaw" (193 : Nat) ({ cls := "DawnPerquisiteModel", name := "said", desc := "(II)I" } : Jvm.MethodName)) ∈ lw_all := lw_g (lw_at lw_m9 90 rfl) rfl
theorem q2157 : (Jvm.Cond.instanceMethod ({ cls := "DawnPerquisiteModel", name := "said", desc := "(II)I" } : Jvm.MethodName)) ∈ lw_all := lw_g (lw_at lw_m9 91 rfl) rfl
theorem q2158 : (Jvm.Cond.selects "DawnPerquisiteModel" ({ cls := "DawnPerquisiteModel", name := "said", desc := "(II)I" } : Jvm.MethodName) ({ cls := "DawnPerquisiteModel", name := "said", desc := "(II)I" } : Jvm.MethodName)) ∈ lw_all := lw_g (lw_at lw_m9 92 rfl) rfl
theorem q2159 : (Jvm.Cond.code ({ cls := "DawnPerquisiteModel", name := "said", desc := "(II)I" } : Jvm.MethodName) prog_20_method_158_code (3 : Nat) (Option.some Jvm.ClassFile.FieldType.int)) ∈ lw_all := lw_g (lw_at lw_m9 93 rfl) rfl
theorem q2160 : (Jvm.Cond.methodLink "DawnPerquisiteLaw" (197 : Nat) ({ cls := "DawnPerquisiteModel", name := "whose", desc := "()I" } : Jvm.MethodName)) ∈ lw_all := lw_g (lw_at lw_m9 94 rfl) rfl
theorem q2161 : (Jvm.Cond.instanceMethod ({ cls := "DawnPerquisiteModel", name := "whose", desc := "()I" } : Jvm.MethodName)) ∈ lw_all := lw_g (lw_at lw_m9 95 rfl) rfl
theorem q2162 : (Jvm.Cond.selects "DawnPerquisiteModel" ({ cls := "DawnPerquisiteModel", name := "whose", desc := "()I" } : Jvm.MethodName) ({ cls := "DawnPerquisiteModel", name := "whose", desc := "()I" } : Jvm.MethodName)) ∈ lw_all := lw_g (lw_at lw_m9 96 rfl) rfl
theorem q2163 : (Jvm.Cond.code ({ cls := "DawnPerquisiteModel", name := "whose", desc := "()I" } : Jvm.MethodName) prog_20_method_159_code (5 : Nat) (Option.some Jvm.ClassFile.FieldType.int)) ∈ lw_all := lw_g (lw_at lw_m9 97 rfl) rfl
theorem q2164 : (Jvm.Cond.methodLink "DawnPerquisiteLaw" (245 : Nat) ({ cls := "DawnPerquisiteModel", name := "image", desc := "()I" } : Jvm.MethodName)) ∈ lw_all := lw_g (lw_at lw_m9 98 rfl) rfl
theorem q2165 : (Jvm.Cond.instanceMethod ({ cls := "DawnPerquisiteModel", name := "image", desc := "()I" } : Jvm.MethodName)) ∈ lw_all := lw_g (lw_at lw_m9 99 rfl) rfl
theorem q2166 : (Jvm.Cond.selects "DawnPerquisiteModel" ({ cls := "DawnPerquisiteModel", name := "image", desc := "()I" } : Jvm.MethodName) ({ cls := "DawnPerquisiteModel", name := "image", desc := "()I" } : Jvm.MethodName)) ∈ lw_all := lw_g (lw_at lw_m9 100 rfl) rfl
theorem q2167 : (Jvm.Cond.code ({ cls := "DawnPerquisiteModel", name := "image", desc := "()I" } : Jvm.MethodName) prog_20_method_160_code (1 : Nat) (Option.some Jvm.ClassFile.FieldType.int)) ∈ lw_all := lw_g (lw_at lw_m9 101 rfl) rfl
theorem q2168 : (Jvm.Cond.methodLink "DawnPerquisiteLaw" (249 : Nat) ({ cls := "DawnPerquisiteModel", name := "back", desc := "()I" } : Jvm.MethodName)) ∈ lw_all := lw_g (lw_at lw_m9 102 rfl) rfl
theorem q2169 : (Jvm.Cond.instanceMethod ({ cls := "DawnPerquisiteModel", name := "back", desc := "()I" } : Jvm.MethodName)) ∈ lw_all := lw_g (lw_at lw_m9 103 rfl) rfl
theorem q2170 : (Jvm.Cond.selects "DawnPerquisiteModel" ({ cls := "DawnPerquisiteModel", name := "back", desc := "()I" } : Jvm.MethodName) ({ cls := "DawnPerquisiteModel", name := "back", desc := "()I" } : Jvm.MethodName)) ∈ lw_all := lw_g (lw_at lw_m9 104 rfl) rfl
theorem q2171 : (Jvm.Cond.code ({ cls := "DawnPerquisiteModel", name := "back", desc := "()I" } : Jvm.MethodName) prog_20_method_161_code (1 : Nat) (Option.some Jvm.ClassFile.FieldType.int)) ∈ lw_all := lw_g (lw_at lw_m9 105 rfl) rfl
theorem q2172 : (Jvm.Cond.methodLink "DawnPerquisiteLaw" (253 : Nat) ({ cls := "DawnPerquisiteModel", name := "about", desc := "(I)I" } : Jvm.MethodName)) ∈ lw_all := lw_g (lw_at lw_m9 106 rfl) rfl
theorem q2173 : (Jvm.Cond.instanceMethod ({ cls := "DawnPerquisiteModel", name := "about", desc := "(I)I" } : Jvm.MethodName)) ∈ lw_all := lw_g (lw_at lw_m9 107 rfl) rfl
theorem q2174 : (Jvm.Cond.selects "DawnPerquisiteModel" ({ cls := "DawnPerquisiteModel", name := "about", desc := "(I)I" } : Jvm.MethodName) ({ cls := "DawnPerquisiteModel", name := "about", desc := "(I)I" } : Jvm.MethodName)) ∈ lw_all := lw_g (lw_at lw_m9 108 rfl) rfl
theorem q2175 : (Jvm.Cond.code ({ cls := "DawnPerquisiteModel", name := "about", desc := "(I)I" } : Jvm.MethodName) prog_20_method_162_code (2 : Nat) (Option.some Jvm.ClassFile.FieldType.int)) ∈ lw_all := lw_g (lw_at lw_m9 109 rfl) rfl
theorem q2176 : (Jvm.Cond.sameMethod "java/lang/Throwable" "java/lang/Throwable" "fillInStackTrace" "(I)Ljava/lang/Throwable;") ∈ lw_all := lw_g (lw_at lw_m9 110 rfl) rfl
theorem q2177 : (Jvm.Cond.initialized "java/lang/Object") ∈ lw_all := lw_g (lw_at lw_m9 111 rfl) rfl
theorem q2178 : (Jvm.Cond.castable "DawnPerquisite$Text" "java/lang/Object") ∈ lw_tbl := lw_at lw_m9 112 rfl
theorem q2179 : (Jvm.Cond.castable "DawnPerquisite$Sum" "java/lang/Object") ∈ lw_tbl := lw_at lw_m9 113 rfl
theorem q2180 : (Jvm.Cond.castable "java/lang/String" "java/lang/Object") ∈ lw_tbl := lw_at lw_m9 114 rfl
theorem q2181 : (Jvm.Cond.castable "DawnPerquisite" "java/lang/Object") ∈ lw_tbl := lw_at lw_m9 115 rfl
theorem q2182 : (Jvm.Cond.castable "DawnPerquisite$State" "java/lang/Object") ∈ lw_tbl := lw_at lw_m9 116 rfl
theorem q2183 : (Jvm.Cond.castable "DawnPerquisiteModel" "java/lang/Object") ∈ lw_tbl := lw_at lw_m9 117 rfl
theorem q2184 : (Jvm.Cond.castable "DawnPerquisite$Tokens" "java/lang/Object") ∈ lw_tbl := lw_at lw_m9 118 rfl
theorem q2185 : (Jvm.Cond.castable "java/util/ArrayList" "java/lang/Object") ∈ lw_tbl := lw_at lw_m9 119 rfl
theorem q2186 : (Jvm.Cond.castable "DawnPerquisite$Wrong" "java/lang/Object") ∈ lw_tbl := lw_at lw_m9 120 rfl
theorem q2187 : (Jvm.Cond.castable "DawnPerquisite$Chain" "java/lang/Object") ∈ lw_tbl := lw_at lw_m9 121 rfl
theorem q2188 : (Jvm.Cond.castable "DawnPerquisite$Plain" "java/lang/Object") ∈ lw_tbl := lw_at lw_m9 122 rfl
theorem q2189 : (Jvm.Cond.castable "DawnPerquisite$Not" "java/lang/Object") ∈ lw_tbl := lw_at lw_m9 123 rfl
theorem q2190 : (Jvm.Cond.castable "DawnPerquisite$Compared" "java/lang/Object") ∈ lw_tbl := lw_at lw_m9 124 rfl
theorem q2191 : (Jvm.Cond.castable "DawnPerquisite$All" "java/lang/Object") ∈ lw_tbl := lw_at lw_m9 125 rfl
theorem q2192 : (Jvm.Cond.castable "DawnPerquisite$If" "java/lang/Object") ∈ lw_tbl := lw_at lw_m9 126 rfl
theorem q2193 : (Jvm.Cond.castable "DawnPerquisite$Name" "java/lang/Object") ∈ lw_tbl := lw_at lw_m9 127 rfl
theorem q2194 : (Jvm.Cond.castable "DawnPerquisite$Worth" "java/lang/Object") ∈ lw_tbl := lw_at lw_m9 128 rfl
theorem q2195 : (Jvm.Cond.castable "DawnPerquisite$Purse" "java/lang/Object") ∈ lw_tbl := lw_at lw_m9 129 rfl
theorem q2196 : (Jvm.Cond.castable "DawnPerquisite$Minus" "java/lang/Object") ∈ lw_tbl := lw_at lw_m9 130 rfl
theorem q2197 : (Jvm.Cond.castable "java/lang/Integer" "java/lang/Object") ∈ lw_tbl := lw_at lw_m9 131 rfl
theorem q2198 : (Jvm.Cond.castable "DawnPerquisite$Doing" "java/lang/Object") ∈ lw_tbl := lw_at lw_m9 132 rfl
theorem q2199 : (Jvm.Cond.castable "java/lang/Throwable" "java/lang/Object") ∈ lw_tbl := lw_at lw_m9 133 rfl
theorem q2200 : (Jvm.Cond.sameMethod "[Ljava/lang/Object;" "java/lang/Object" "getClass" "()Ljava/lang/Class;") ∈ lw_all := lw_g (lw_at lw_m9 134 rfl) rfl
theorem q2201 : (Jvm.Cond.selects "[Ljava/lang/Object;" ({ cls := "java/lang/Object", name := "getClass", desc := "()Ljava/lang/Class;" } : Jvm.MethodName) ({ cls := "java/lang/Object", name := "getClass", desc := "()Ljava/lang/Class;" } : Jvm.MethodName)) ∈ lw_all := lw_g (lw_at lw_m9 135 rfl) rfl
theorem q2202 : (Jvm.Cond.declares ({ cls := "java/lang/Object", name := "getClass", desc := "()Ljava/lang/Class;" } : Jvm.MethodName)) ∈ lw_tbl := lw_at lw_m9 136 rfl
theorem q2203 : (Jvm.Cond.castable "[[I" "java/lang/Object") ∈ lw_tbl := lw_at lw_m9 137 rfl
theorem q2204 : (Jvm.Cond.castable "[LDawnPerquisite$Text;" "java/lang/Object") ∈ lw_tbl := lw_at lw_m9 138 rfl
theorem q2205 : (Jvm.Cond.castable "[I" "java/lang/Object") ∈ lw_tbl := lw_at lw_m9 139 rfl
theorem q2206 : (Jvm.Cond.castable "[B" "java/lang/Object") ∈ lw_tbl := lw_at lw_m9 140 rfl
theorem q2207 : (Jvm.Cond.castable "[LDawnPerquisite$Sum;" "java/lang/Object") ∈ lw_tbl := lw_at lw_m9 141 rfl
theorem q2208 : (Jvm.Cond.castable "[Ljava/lang/Object;" "java/lang/Object") ∈ lw_tbl := lw_at lw_m9 142 rfl
theorem q2209 : (Jvm.Cond.castable "[J" "java/lang/Object") ∈ lw_tbl := lw_at lw_m9 143 rfl
theorem q2210 : (Jvm.Cond.castable "[Z" "java/lang/Object") ∈ lw_tbl := lw_at lw_m9 144 rfl
theorem q2211 : (Jvm.Cond.castable "[Ljava/lang/String;" "java/lang/Object") ∈ lw_tbl := lw_at lw_m9 145 rfl
theorem q2212 : (Jvm.Cond.fieldLink "java/lang/String" (9 : Nat) "java/lang/String" "value" "[B") ∈ lw_all := lw_g (lw_at lw_m9 146 rfl) rfl
theorem q2213 : (Jvm.Cond.fieldLink "java/lang/String" (15 : Nat) "java/lang/String" "coder" "B") ∈ lw_all := lw_g (lw_at lw_m9 147 rfl) rfl
theorem q2214 : (Jvm.Cond.stringRef "DawnPerquisite$Tokens" (210 : Nat) "bids") ∈ lw_tbl := lw_at lw_m9 148 rfl
theorem q2215 : (Jvm.Cond.stringRef "DawnPerquisite$Tokens" (212 : Nat) "earns") ∈ lw_tbl := lw_at lw_m9 149 rfl
theorem q2216 : (Jvm.Cond.stringRef "DawnPerquisite$Tokens" (214 : Nat) "buyer") ∈ lw_tbl := lw_at lw_m9 150 rfl
theorem q2217 : (Jvm.Cond.stringRef "DawnPerquisite$Tokens" (216 : Nat) "sort") ∈ lw_tbl := lw_at lw_m9 151 rfl
theorem q2218 : (Jvm.Cond.stringRef "DawnPerquisite$Tokens" (217 : Nat) "sell") ∈ lw_tbl := lw_at lw_m9 152 rfl
theorem q2219 : (Jvm.Cond.stringRef "DawnPerquisite$Tokens" (219 : Nat) "give") ∈ lw_tbl := lw_at lw_m9 153 rfl
theorem q2220 : (Jvm.Cond.stringRef "DawnPerquisite$Tokens" (221 : Nat) "turn") ∈ lw_tbl := lw_at lw_m9 154 rfl
theorem q2221 : (Jvm.Cond.stringRef "DawnPerquisite$Tokens" (223 : Nat) "day") ∈ lw_tbl := lw_at lw_m9 155 rfl
theorem q2222 : (Jvm.Cond.stringRef "DawnPerquisite$Tokens" (225 : Nat) "to") ∈ lw_tbl := lw_at lw_m9 156 rfl
theorem q2223 : (Jvm.Cond.stringRef "DawnPerquisite$Tokens" (227 : Nat) "by") ∈ lw_tbl := lw_at lw_m9 157 rfl
theorem q2224 : (Jvm.Cond.stringRef "DawnPerquisite$Tokens" (229 : Nat) "worth") ∈ lw_tbl := lw_at lw_m9 158 rfl
theorem q2225 : (Jvm.Cond.stringRef "DawnPerquisite$Tokens" (231 : Nat) "purse") ∈ lw_tbl := lw_at lw_m9 159 rfl
theorem q2226 : (Jvm.Cond.stringRef "DawnPerquisite$Tokens" (233 : Nat) "if") ∈ lw_tbl := lw_at lw_m9 160 rfl
theorem q2227 : (Jvm.Cond.stringRef "DawnPerquisite$Tokens" (235 : Nat) "then") ∈ lw_tbl := lw_at lw_m9 161 rfl
theorem q2228 : (Jvm.Cond.stringRef "DawnPerquisite$Tokens" (237 : Nat) "else") ∈ lw_tbl := lw_at lw_m9 162 rfl
theorem q2229 : (Jvm.Cond.stringRef "DawnPerquisite$Tokens" (239 : Nat) "end") ∈ lw_tbl := lw_at lw_m9 163 rfl
theorem q2230 : (Jvm.Cond.stringRef "DawnPerquisite$Tokens" (241 : Nat) "or") ∈ lw_tbl := lw_at lw_m9 164 rfl
theorem q2231 : (Jvm.Cond.stringRef "DawnPerquisite$Tokens" (243 : Nat) "and") ∈ lw_tbl := lw_at lw_m9 165 rfl
theorem q2232 : (Jvm.Cond.stringRef "DawnPerquisite$Tokens" (245 : Nat) "not") ∈ lw_tbl := lw_at lw_m9 166 rfl
theorem q2233 : (Jvm.Cond.stringRef "DawnPerquisite$Tokens" (247 : Nat) "long") ∈ lw_tbl := lw_at lw_m9 167 rfl
theorem q2234 : (Jvm.Cond.stringRef "DawnPerquisite$Tokens" (249 : Nat) "own") ∈ lw_tbl := lw_at lw_m9 168 rfl
theorem q2235 : (Jvm.Cond.stringRef "DawnPerquisite$Tokens" (251 : Nat) "free") ∈ lw_tbl := lw_at lw_m9 169 rfl
theorem q2236 : (Jvm.Cond.stringRef "DawnPerquisite$Tokens" (253 : Nat) "wants") ∈ lw_tbl := lw_at lw_m9 170 rfl
theorem q2237 : (Jvm.Cond.stringRef "DawnPerquisite$Tokens" (255 : Nat) "has") ∈ lw_tbl := lw_at lw_m9 171 rfl
theorem q2238 : (Jvm.Cond.arrayOver (Jvm.ClassFile.FieldType.object "java/lang/String")) ∈ lw_tbl := lw_at lw_m9 172 rfl
theorem in_X0 : ∀ w ∈ wsX00, w ∈ lw_all := lw_in wsX00 [280, 282, 284, 286, 288, 290, 292, 294, 296, 298, 300] (by decide +kernel) (by decide +kernel)
theorem in_X1 : ∀ w ∈ wsX10, w ∈ lw_all := lw_in wsX10 [231, 233, 235, 237, 239, 241, 243, 245, 247, 249, 251] (by decide +kernel) (by decide +kernel)
theorem in_X2 : ∀ w ∈ wsX20, w ∈ lw_all := lw_in wsX20 [1488, 1490, 1492, 1494, 1496, 1498, 1500, 1502, 1504, 1506, 1508, 1510, 1512, 1514, 1516, 1518, 1520, 1522, 1524, 1526, 1528, 1530, 1532, 1534, 1536, 1538, 1540, 1542] (by decide +kernel) (by decide +kernel)
theorem in_X3 : ∀ w ∈ wsX30, w ∈ lw_all := lw_in wsX30 [360, 362, 364, 366, 368, 370, 372, 374] (by decide +kernel) (by decide +kernel)
theorem in_X4 : ∀ w ∈ wsX40, w ∈ lw_all := lw_in wsX40 [422, 424, 426] (by decide +kernel) (by decide +kernel)
theorem in_X5 : ∀ w ∈ wsX50, w ∈ lw_all := lw_in wsX50 [554, 556] (by decide +kernel) (by decide +kernel)
theorem in_X6 : ∀ w ∈ wsX60, w ∈ lw_all := lw_in wsX60 [816, 818, 820] (by decide +kernel) (by decide +kernel)
theorem in_X7 : ∀ w ∈ wsX70, w ∈ lw_all := lw_in wsX70 [594] (by decide +kernel) (by decide +kernel)
theorem in_X8 : ∀ w ∈ wsX80, w ∈ lw_all := lw_in wsX80 [626] (by decide +kernel) (by decide +kernel)
theorem in_X9 : ∀ w ∈ wsX90, w ∈ lw_all := lw_in wsX90 [638, 640, 642] (by decide +kernel) (by decide +kernel)
theorem in_X10 : ∀ w ∈ wsX100, w ∈ lw_all := lw_in wsX100 [732, 734] (by decide +kernel) (by decide +kernel)
theorem in_X11 : ∀ w ∈ wsX110, w ∈ lw_all := lw_in wsX110 [750, 752, 754] (by decide +kernel) (by decide +kernel)
theorem in_X12 : ∀ w ∈ wsX120, w ∈ lw_all := lw_in wsX120 [774] (by decide +kernel) (by decide +kernel)
theorem in_X13 : ∀ w ∈ wsX130, w ∈ lw_all := lw_in wsX130 [784] (by decide +kernel) (by decide +kernel)
theorem in_X14 : ∀ w ∈ wsX140, w ∈ lw_all := lw_in wsX140 [794] (by decide +kernel) (by decide +kernel)
theorem in_X15 : ∀ w ∈ wsX150, w ∈ lw_all := lw_in wsX150 [804] (by decide +kernel) (by decide +kernel)
theorem in_X16 : ∀ w ∈ wsX160, w ∈ lw_all := lw_in wsX160 [870, 872, 874, 876] (by decide +kernel) (by decide +kernel)
theorem in_J3 : ∀ w ∈ wsJ30, w ∈ lw_all := lw_in wsJ30 [412, 408, 410] (by decide +kernel) (by decide +kernel)
theorem in_J9 : ∀ w ∈ wsJ90, w ∈ lw_all := lw_in wsJ90 [512, 514, 516, 518, 520] (by decide +kernel) (by decide +kernel)
theorem in_J15 : ∀ w ∈ wsJ150, w ∈ lw_all := lw_in wsJ150 [844] (by decide +kernel) (by decide +kernel)
