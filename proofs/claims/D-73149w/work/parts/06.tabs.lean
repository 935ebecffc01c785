/-! PART 06: what the pool's places mean -/
set_option maxRecDepth 100000
def cnm : Nat → String := fun c => match c with
  | 0 => "DawnPerquisite"
  | 1 => "DawnPerquisite$State"
  | 2 => "DawnPerquisiteModel"
  | 3 => "DawnPerquisite$Tokens"
  | 4 => "DawnPerquisite$Text"
  | 5 => "DawnPerquisite$Wrong"
  | 6 => "DawnPerquisite$Chain"
  | 7 => "DawnPerquisite$Plain"
  | 8 => "DawnPerquisite$Not"
  | 9 => "DawnPerquisite$Compared"
  | 10 => "DawnPerquisite$All"
  | 11 => "DawnPerquisite$If"
  | 12 => "DawnPerquisite$Name"
  | 13 => "DawnPerquisite$Worth"
  | 14 => "DawnPerquisite$Purse"
  | 15 => "DawnPerquisite$Minus"
  | 16 => "DawnPerquisite$Doing"
  | 17 => "java/util/ArrayList"
  | 18 => "java/util/Arrays"
  | 19 => "java/util/AbstractCollection"
  | 20 => "java/util/AbstractList"
  | 21 => "java/lang/String"
  | 22 => "java/lang/StringLatin1"
  | 23 => "jdk/internal/util/Preconditions"
  | 24 => "java/lang/StringUTF16"
  | 25 => "java/lang/Math"
  | 26 => "java/lang/Throwable"
  | 27 => "java/lang/Exception"
  | 28 => "java/lang/Record"
  | 29 => "jdk/internal/util/ArraysSupport"
  | 30 => "java/util/Objects"
  | 31 => "java/lang/Number"
  | 32 => "java/lang/Integer"
  | 33 => "java/lang/Object"
  | _ => "DawnPerquisiteLaw"
/-- a field by the class of the method and the place in its pool: object's class, number -/
def frl (c : Nat) : List (Nat × Nat × Nat) := match c with
  | 0 => [(21, 0, 0), (25, 0, 1), (28, 0, 2), (32, 0, 4), (36, 0, 5), (39, 0, 6), (43, 0, 7), (46, 0, 8), (49, 0, 9), (54, 0, 10), (61, 1, 0), (76, 1, 2), (79, 1, 3), (85, 1, 4), (88, 1, 5), (91, 1, 6), (98, 0, 3), (105, 1, 10), (120, 5, 0), (121, 5, 1), (154, 4, 0), (173, 1, 1), (289, 4, 2), (312, 1, 9), (393, 1, 7), (411, 1, 8)]
  | 1 => [(9, 1, 0), (15, 1, 1), (18, 1, 2), (21, 1, 3), (24, 1, 4), (27, 1, 5), (30, 1, 6), (33, 1, 7), (38, 1, 8), (41, 1, 9), (46, 1, 10)]
  | 2 => [(7, 2, 0), (13, 2, 1), (16, 2, 2), (19, 2, 3), (22, 2, 5), (26, 2, 6), (29, 2, 15), (32, 2, 20), (35, 2, 21), (39, 2, 22), (43, 2, 23), (47, 2, 24), (50, 2, 25), (53, 2, 26), (56, 2, 27), (88, 2, 4), (95, 2, 7), (101, 2, 8), (104, 2, 9), (110, 2, 10), (117, 2, 11), (142, 2, 12), (145, 2, 13), (148, 2, 14), (151, 2, 16), (161, 2, 17), (180, 2, 18), (234, 2, 19)]
  | 3 => [(9, 3, 0), (15, 3, 1), (19, 3, 2), (22, 3, 3), (25, 3, 4), (43, 3, 5), (77, 3, 6), (83, 3, 7), (86, 4, 0), (90, 4, 1), (97, 4, 2)]
  | 4 => [(9, 4, 0), (18, 4, 2)]
  | 5 => [(7, 5, 0), (13, 5, 1)]
  | 6 => [(12, 6, 1), (18, 6, 2), (21, 6, 0)]
  | 7 => [(7, 7, 0)]
  | 8 => [(7, 8, 0)]
  | 9 => [(7, 9, 0), (13, 9, 1), (17, 9, 2)]
  | 10 => [(7, 10, 0), (13, 10, 1)]
  | 11 => [(7, 11, 0), (13, 11, 1), (17, 11, 2)]
  | 12 => [(7, 12, 0)]
  | 13 => [(9, 13, 0)]
  | 14 => [(9, 14, 0)]
  | 15 => [(7, 15, 0)]
  | 16 => [(7, 16, 0), (13, 16, 1), (16, 16, 2), (19, 16, 3)]
  | 17 => [(9, 17, 1), (48, 17, 2), (63, 17, 0)]
  | 20 => [(7, 17, 0)]
  | _ => []
def fr (c ix : Nat) : Option (Nat × Nat) := ((frl c).find? fun e => e.1 == ix).map fun e => e.2
def nfl : List (String × Nat × String × String × String × String) := [("DawnPerquisite", 61, "DawnPerquisite$State", "n", "[I", "DawnPerquisite"), ("DawnPerquisite", 76, "DawnPerquisite$State", "odds", "[I", "DawnPerquisite"), ("DawnPerquisite", 79, "DawnPerquisite$State", "worth", "[I", "DawnPerquisite"), ("DawnPerquisite", 85, "DawnPerquisite$State", "wants", "[I", "DawnPerquisite"), ("DawnPerquisite", 88, "DawnPerquisite$State", "from", "[I", "DawnPerquisite"), ("DawnPerquisite", 91, "DawnPerquisite$State", "to", "[I", "DawnPerquisite"), ("DawnPerquisite", 105, "DawnPerquisite$State", "text", "[LDawnPerquisite$Text;", "DawnPerquisite"), ("DawnPerquisite", 120, "DawnPerquisite$Wrong", "fault", "I", "DawnPerquisite"), ("DawnPerquisite", 121, "DawnPerquisite$Wrong", "place", "I", "DawnPerquisite"), ("DawnPerquisite", 154, "DawnPerquisite$Text", "law", "[LDawnPerquisite$Sum;", "DawnPerquisite"), ("DawnPerquisite", 173, "DawnPerquisite$State", "row", "[I", "DawnPerquisite"), ("DawnPerquisite", 289, "DawnPerquisite$Text", "doings", "Ljava/util/ArrayList;", "DawnPerquisite"), ("DawnPerquisite", 312, "DawnPerquisite$State", "step", "[[I", "DawnPerquisite"), ("DawnPerquisite", 393, "DawnPerquisite$State", "value", "[I", "DawnPerquisite"), ("DawnPerquisite", 411, "DawnPerquisite$State", "said", "[[I", "DawnPerquisite"), ("DawnPerquisite$Tokens", 86, "DawnPerquisite$Text", "law", "[LDawnPerquisite$Sum;", "DawnPerquisite"), ("DawnPerquisite$Tokens", 90, "DawnPerquisite$Text", "clauses", "I", "DawnPerquisite"), ("DawnPerquisite$Tokens", 97, "DawnPerquisite$Text", "doings", "Ljava/util/ArrayList;", "DawnPerquisite")]
/-- the nest mates' fields that are linked -/
def NF (s : State) : Prop := ∀ e ∈ nfl, va_Nw (.fieldLinkNest e.1 e.2.1 e.2.2.1 e.2.2.2.1 e.2.2.2.2.1 e.2.2.2.2.2) s
theorem NF.warm {s U : State} (hW : s.WarmedH U.vm) (h : NF s) : NF U := fun e he => va_Nw.warmF hW (h e he)
/-- what a field's place in a pool is worth -/
def FOK (cm ix c k : Nat) : Prop := c < 18 ∧ k < cN c ∧ ∃ ref : String,
  ((Cond.fieldLink (cnm cm) ix ref (cT c k).2.1 (cT c k).2.2.1 ∈ lw_all) ∨ ∃ host : String, (cnm cm, ix, ref, (cT c k).2.1, (cT c k).2.2.1, host) ∈ nfl) ∧
  (ref = (cT c k).1 ∨ Cond.sameField ref (cT c k).1 (cT c k).2.1 (cT c k).2.2.1 ∈ lw_all)
theorem fok_0_21 : FOK 0 21 0 0 := ⟨by decide, by decide, "DawnPerquisite", Or.inl q269, Or.inl rfl⟩
theorem fr_0_21 : fr 0 21 = some (0, 0) := by decide +kernel
theorem fok_0_25 : FOK 0 25 0 1 := ⟨by decide, by decide, "DawnPerquisite", Or.inl q270, Or.inl rfl⟩
theorem fr_0_25 : fr 0 25 = some (0, 1) := by decide +kernel
theorem fok_0_28 : FOK 0 28 0 2 := ⟨by decide, by decide, "DawnPerquisite", Or.inl q271, Or.inl rfl⟩
theorem fr_0_28 : fr 0 28 = some (0, 2) := by decide +kernel
theorem fok_0_32 : FOK 0 32 0 4 := ⟨by decide, by decide, "DawnPerquisite", Or.inl q273, Or.inl rfl⟩
theorem fr_0_32 : fr 0 32 = some (0, 4) := by decide +kernel
theorem fok_0_36 : FOK 0 36 0 5 := ⟨by decide, by decide, "DawnPerquisite", Or.inl q274, Or.inl rfl⟩
theorem fr_0_36 : fr 0 36 = some (0, 5) := by decide +kernel
theorem fok_0_39 : FOK 0 39 0 6 := ⟨by decide, by decide, "DawnPerquisite", Or.inl q275, Or.inl rfl⟩
theorem fr_0_39 : fr 0 39 = some (0, 6) := by decide +kernel
theorem fok_0_43 : FOK 0 43 0 7 := ⟨by decide, by decide, "DawnPerquisite", Or.inl q276, Or.inl rfl⟩
theorem fr_0_43 : fr 0 43 = some (0, 7) := by decide +kernel
theorem fok_0_46 : FOK 0 46 0 8 := ⟨by decide, by decide, "DawnPerquisite", Or.inl q277, Or.inl rfl⟩
theorem fr_0_46 : fr 0 46 = some (0, 8) := by decide +kernel
theorem fok_0_49 : FOK 0 49 0 9 := ⟨by decide, by decide, "DawnPerquisite", Or.inl q278, Or.inl rfl⟩
theorem fr_0_49 : fr 0 49 = some (0, 9) := by decide +kernel
theorem fok_0_54 : FOK 0 54 0 10 := ⟨by decide, by decide, "DawnPerquisite", Or.inl q279, Or.inl rfl⟩
theorem fr_0_54 : fr 0 54 = some (0, 10) := by decide +kernel
theorem fok_0_61 : FOK 0 61 1 0 := ⟨by decide, by decide, "DawnPerquisite$State", Or.inr ⟨"DawnPerquisite", List.mem_of_getElem? (i := 0) rfl⟩, Or.inl rfl⟩
theorem fr_0_61 : fr 0 61 = some (1, 0) := by decide +kernel
theorem fok_0_76 : FOK 0 76 1 2 := ⟨by decide, by decide, "DawnPerquisite$State", Or.inr ⟨"DawnPerquisite", List.mem_of_getElem? (i := 1) rfl⟩, Or.inl rfl⟩
theorem fr_0_76 : fr 0 76 = some (1, 2) := by decide +kernel
theorem fok_0_79 : FOK 0 79 1 3 := ⟨by decide, by decide, "DawnPerquisite$State", Or.inr ⟨"DawnPerquisite", List.mem_of_getElem? (i := 2) rfl⟩, Or.inl rfl⟩
theorem fr_0_79 : fr 0 79 = some (1, 3) := by decide +kernel
theorem fok_0_85 : FOK 0 85 1 4 := ⟨by decide, by decide, "DawnPerquisite$State", Or.inr ⟨"DawnPerquisite", List.mem_of_getElem? (i := 3) rfl⟩, Or.inl rfl⟩
theorem fr_0_85 : fr 0 85 = some (1, 4) := by decide +kernel
theorem fok_0_88 : FOK 0 88 1 5 := ⟨by decide, by decide, "DawnPerquisite$State", Or.inr ⟨"DawnPerquisite", List.mem_of_getElem? (i := 4) rfl⟩, Or.inl rfl⟩
theorem fr_0_88 : fr 0 88 = some (1, 5) := by decide +kernel
theorem fok_0_91 : FOK 0 91 1 6 := ⟨by decide, by decide, "DawnPerquisite$State", Or.inr ⟨"DawnPerquisite", List.mem_of_getElem? (i := 5) rfl⟩, Or.inl rfl⟩
theorem fr_0_91 : fr 0 91 = some (1, 6) := by decide +kernel
theorem fok_0_98 : FOK 0 98 0 3 := ⟨by decide, by decide, "DawnPerquisite", Or.inl q272, Or.inl rfl⟩
theorem fr_0_98 : fr 0 98 = some (0, 3) := by decide +kernel
theorem fok_0_105 : FOK 0 105 1 10 := ⟨by decide, by decide, "DawnPerquisite$State", Or.inr ⟨"DawnPerquisite", List.mem_of_getElem? (i := 6) rfl⟩, Or.inl rfl⟩
theorem fr_0_105 : fr 0 105 = some (1, 10) := by decide +kernel
theorem fok_0_120 : FOK 0 120 5 0 := ⟨by decide, by decide, "DawnPerquisite$Wrong", Or.inr ⟨"DawnPerquisite", List.mem_of_getElem? (i := 7) rfl⟩, Or.inl rfl⟩
theorem fr_0_120 : fr 0 120 = some (5, 0) := by decide +kernel
theorem fok_0_121 : FOK 0 121 5 1 := ⟨by decide, by decide, "DawnPerquisite$Wrong", Or.inr ⟨"DawnPerquisite", List.mem_of_getElem? (i := 8) rfl⟩, Or.inl rfl⟩
theorem fr_0_121 : fr 0 121 = some (5, 1) := by decide +kernel
theorem fok_0_154 : FOK 0 154 4 0 := ⟨by decide, by decide, "DawnPerquisite$Text", Or.inr ⟨"DawnPerquisite", List.mem_of_getElem? (i := 9) rfl⟩, Or.inl rfl⟩
theorem fr_0_154 : fr 0 154 = some (4, 0) := by decide +kernel
theorem fok_0_173 : FOK 0 173 1 1 := ⟨by decide, by decide, "DawnPerquisite$State", Or.inr ⟨"DawnPerquisite", List.mem_of_getElem? (i := 10) rfl⟩, Or.inl rfl⟩
theorem fr_0_173 : fr 0 173 = some (1, 1) := by decide +kernel
theorem fok_0_289 : FOK 0 289 4 2 := ⟨by decide, by decide, "DawnPerquisite$Text", Or.inr ⟨"DawnPerquisite", List.mem_of_getElem? (i := 11) rfl⟩, Or.inl rfl⟩
theorem fr_0_289 : fr 0 289 = some (4, 2) := by decide +kernel
theorem fok_0_312 : FOK 0 312 1 9 := ⟨by decide, by decide, "DawnPerquisite$State", Or.inr ⟨"DawnPerquisite", List.mem_of_getElem? (i := 12) rfl⟩, Or.inl rfl⟩
theorem fr_0_312 : fr 0 312 = some (1, 9) := by decide +kernel
theorem fok_0_393 : FOK 0 393 1 7 := ⟨by decide, by decide, "DawnPerquisite$State", Or.inr ⟨"DawnPerquisite", List.mem_of_getElem? (i := 13) rfl⟩, Or.inl rfl⟩
theorem fr_0_393 : fr 0 393 = some (1, 7) := by decide +kernel
theorem fok_0_411 : FOK 0 411 1 8 := ⟨by decide, by decide, "DawnPerquisite$State", Or.inr ⟨"DawnPerquisite", List.mem_of_getElem? (i := 14) rfl⟩, Or.inl rfl⟩
theorem fr_0_411 : fr 0 411 = some (1, 8) := by decide +kernel
theorem fok_1_9 : FOK 1 9 1 0 := ⟨by decide, by decide, "DawnPerquisite$State", Or.inl q209, Or.inl rfl⟩
theorem fr_1_9 : fr 1 9 = some (1, 0) := by decide +kernel
theorem fok_1_15 : FOK 1 15 1 1 := ⟨by decide, by decide, "DawnPerquisite$State", Or.inl q211, Or.inl rfl⟩
theorem fr_1_15 : fr 1 15 = some (1, 1) := by decide +kernel
theorem fok_1_18 : FOK 1 18 1 2 := ⟨by decide, by decide, "DawnPerquisite$State", Or.inl q213, Or.inl rfl⟩
theorem fr_1_18 : fr 1 18 = some (1, 2) := by decide +kernel
theorem fok_1_21 : FOK 1 21 1 3 := ⟨by decide, by decide, "DawnPerquisite$State", Or.inl q215, Or.inl rfl⟩
theorem fr_1_21 : fr 1 21 = some (1, 3) := by decide +kernel
theorem fok_1_24 : FOK 1 24 1 4 := ⟨by decide, by decide, "DawnPerquisite$State", Or.inl q217, Or.inl rfl⟩
theorem fr_1_24 : fr 1 24 = some (1, 4) := by decide +kernel
theorem fok_1_27 : FOK 1 27 1 5 := ⟨by decide, by decide, "DawnPerquisite$State", Or.inl q219, Or.inl rfl⟩
theorem fr_1_27 : fr 1 27 = some (1, 5) := by decide +kernel
theorem fok_1_30 : FOK 1 30 1 6 := ⟨by decide, by decide, "DawnPerquisite$State", Or.inl q221, Or.inl rfl⟩
theorem fr_1_30 : fr 1 30 = some (1, 6) := by decide +kernel
theorem fok_1_33 : FOK 1 33 1 7 := ⟨by decide, by decide, "DawnPerquisite$State", Or.inl q223, Or.inl rfl⟩
theorem fr_1_33 : fr 1 33 = some (1, 7) := by decide +kernel
theorem fok_1_38 : FOK 1 38 1 8 := ⟨by decide, by decide, "DawnPerquisite$State", Or.inl q225, Or.inl rfl⟩
theorem fr_1_38 : fr 1 38 = some (1, 8) := by decide +kernel
theorem fok_1_41 : FOK 1 41 1 9 := ⟨by decide, by decide, "DawnPerquisite$State", Or.inl q227, Or.inl rfl⟩
theorem fr_1_41 : fr 1 41 = some (1, 9) := by decide +kernel
theorem fok_1_46 : FOK 1 46 1 10 := ⟨by decide, by decide, "DawnPerquisite$State", Or.inl q229, Or.inl rfl⟩
theorem fr_1_46 : fr 1 46 = some (1, 10) := by decide +kernel
theorem fok_2_7 : FOK 2 7 2 0 := ⟨by decide, by decide, "DawnPerquisiteModel", Or.inl q1460, Or.inl rfl⟩
theorem fr_2_7 : fr 2 7 = some (2, 0) := by decide +kernel
theorem fok_2_13 : FOK 2 13 2 1 := ⟨by decide, by decide, "DawnPerquisiteModel", Or.inl q1461, Or.inl rfl⟩
theorem fr_2_13 : fr 2 13 = some (2, 1) := by decide +kernel
theorem fok_2_16 : FOK 2 16 2 2 := ⟨by decide, by decide, "DawnPerquisiteModel", Or.inl q1462, Or.inl rfl⟩
theorem fr_2_16 : fr 2 16 = some (2, 2) := by decide +kernel
theorem fok_2_19 : FOK 2 19 2 3 := ⟨by decide, by decide, "DawnPerquisiteModel", Or.inl q1463, Or.inl rfl⟩
theorem fr_2_19 : fr 2 19 = some (2, 3) := by decide +kernel
theorem fok_2_22 : FOK 2 22 2 5 := ⟨by decide, by decide, "DawnPerquisiteModel", Or.inl q1465, Or.inl rfl⟩
theorem fr_2_22 : fr 2 22 = some (2, 5) := by decide +kernel
theorem fok_2_26 : FOK 2 26 2 6 := ⟨by decide, by decide, "DawnPerquisiteModel", Or.inl q1466, Or.inl rfl⟩
theorem fr_2_26 : fr 2 26 = some (2, 6) := by decide +kernel
theorem fok_2_29 : FOK 2 29 2 15 := ⟨by decide, by decide, "DawnPerquisiteModel", Or.inl q1475, Or.inl rfl⟩
theorem fr_2_29 : fr 2 29 = some (2, 15) := by decide +kernel
theorem fok_2_32 : FOK 2 32 2 20 := ⟨by decide, by decide, "DawnPerquisiteModel", Or.inl q1480, Or.inl rfl⟩
theorem fr_2_32 : fr 2 32 = some (2, 20) := by decide +kernel
theorem fok_2_35 : FOK 2 35 2 21 := ⟨by decide, by decide, "DawnPerquisiteModel", Or.inl q1481, Or.inl rfl⟩
theorem fr_2_35 : fr 2 35 = some (2, 21) := by decide +kernel
theorem fok_2_39 : FOK 2 39 2 22 := ⟨by decide, by decide, "DawnPerquisiteModel", Or.inl q1482, Or.inl rfl⟩
theorem fr_2_39 : fr 2 39 = some (2, 22) := by decide +kernel
theorem fok_2_43 : FOK 2 43 2 23 := ⟨by decide, by decide, "DawnPerquisiteModel", Or.inl q1483, Or.inl rfl⟩
theorem fr_2_43 : fr 2 43 = some (2, 23) := by decide +kernel
theorem fok_2_47 : FOK 2 47 2 24 := ⟨by decide, by decide, "DawnPerquisiteModel", Or.inl q1484, Or.inl rfl⟩
theorem fr_2_47 : fr 2 47 = some (2, 24) := by decide +kernel
theorem fok_2_50 : FOK 2 50 2 25 := ⟨by decide, by decide, "DawnPerquisiteModel", Or.inl q1485, Or.inl rfl⟩
theorem fr_2_50 : fr 2 50 = some (2, 25) := by decide +kernel
theorem fok_2_53 : FOK 2 53 2 26 := ⟨by decide, by decide, "DawnPerquisiteModel", Or.inl q1486, Or.inl rfl⟩
theorem fr_2_53 : fr 2 53 = some (2, 26) := by decide +kernel
theorem fok_2_56 : FOK 2 56 2 27 := ⟨by decide, by decide, "DawnPerquisiteModel", Or.inl q1487, Or.inl rfl⟩
theorem fr_2_56 : fr 2 56 = some (2, 27) := by decide +kernel
theorem fok_2_88 : FOK 2 88 2 4 := ⟨by decide, by decide, "DawnPerquisiteModel", Or.inl q1464, Or.inl rfl⟩
theorem fr_2_88 : fr 2 88 = some (2, 4) := by decide +kernel
theorem fok_2_95 : FOK 2 95 2 7 := ⟨by decide, by decide, "DawnPerquisiteModel", Or.inl q1467, Or.inl rfl⟩
theorem fr_2_95 : fr 2 95 = some (2, 7) := by decide +kernel
theorem fok_2_101 : FOK 2 101 2 8 := ⟨by decide, by decide, "DawnPerquisiteModel", Or.inl q1468, Or.inl rfl⟩
theorem fr_2_101 : fr 2 101 = some (2, 8) := by decide +kernel
theorem fok_2_104 : FOK 2 104 2 9 := ⟨by decide, by decide, "DawnPerquisiteModel", Or.inl q1469, Or.inl rfl⟩
theorem fr_2_104 : fr 2 104 = some (2, 9) := by decide +kernel
theorem fok_2_110 : FOK 2 110 2 10 := ⟨by decide, by decide, "DawnPerquisiteModel", Or.inl q1470, Or.inl rfl⟩
theorem fr_2_110 : fr 2 110 = some (2, 10) := by decide +kernel
theorem fok_2_117 : FOK 2 117 2 11 := ⟨by decide, by decide, "DawnPerquisiteModel", Or.inl q1471, Or.inl rfl⟩
theorem fr_2_117 : fr 2 117 = some (2, 11) := by decide +kernel
theorem fok_2_142 : FOK 2 142 2 12 := ⟨by decide, by decide, "DawnPerquisiteModel", Or.inl q1472, Or.inl rfl⟩
theorem fr_2_142 : fr 2 142 = some (2, 12) := by decide +kernel
theorem fok_2_145 : FOK 2 145 2 13 := ⟨by decide, by decide, "DawnPerquisiteModel", Or.inl q1473, Or.inl rfl⟩
theorem fr_2_145 : fr 2 145 = some (2, 13) := by decide +kernel
theorem fok_2_148 : FOK 2 148 2 14 := ⟨by decide, by decide, "DawnPerquisiteModel", Or.inl q1474, Or.inl rfl⟩
theorem fr_2_148 : fr 2 148 = some (2, 14) := by decide +kernel
theorem fok_2_151 : FOK 2 151 2 16 := ⟨by decide, by decide, "DawnPerquisiteModel", Or.inl q1476, Or.inl rfl⟩
theorem fr_2_151 : fr 2 151 = some (2, 16) := by decide +kernel
theorem fok_2_161 : FOK 2 161 2 17 := ⟨by decide, by decide, "DawnPerquisiteModel", Or.inl q1477, Or.inl rfl⟩
theorem fr_2_161 : fr 2 161 = some (2, 17) := by decide +kernel
theorem fok_2_180 : FOK 2 180 2 18 := ⟨by decide, by decide, "DawnPerquisiteModel", Or.inl q1478, Or.inl rfl⟩
theorem fr_2_180 : fr 2 180 = some (2, 18) := by decide +kernel
theorem fok_2_234 : FOK 2 234 2 19 := ⟨by decide, by decide, "DawnPerquisiteModel", Or.inl q1479, Or.inl rfl⟩
theorem fr_2_234 : fr 2 234 = some (2, 19) := by decide +kernel
theorem fok_3_9 : FOK 3 9 3 0 := ⟨by decide, by decide, "DawnPerquisite$Tokens", Or.inl q352, Or.inl rfl⟩
theorem fr_3_9 : fr 3 9 = some (3, 0) := by decide +kernel
theorem fok_3_15 : FOK 3 15 3 1 := ⟨by decide, by decide, "DawnPerquisite$Tokens", Or.inl q353, Or.inl rfl⟩
theorem fr_3_15 : fr 3 15 = some (3, 1) := by decide +kernel
theorem fok_3_19 : FOK 3 19 3 2 := ⟨by decide, by decide, "DawnPerquisite$Tokens", Or.inl q354, Or.inl rfl⟩
theorem fr_3_19 : fr 3 19 = some (3, 2) := by decide +kernel
theorem fok_3_22 : FOK 3 22 3 3 := ⟨by decide, by decide, "DawnPerquisite$Tokens", Or.inl q355, Or.inl rfl⟩
theorem fr_3_22 : fr 3 22 = some (3, 3) := by decide +kernel
theorem fok_3_25 : FOK 3 25 3 4 := ⟨by decide, by decide, "DawnPerquisite$Tokens", Or.inl q356, Or.inl rfl⟩
theorem fr_3_25 : fr 3 25 = some (3, 4) := by decide +kernel
theorem fok_3_43 : FOK 3 43 3 5 := ⟨by decide, by decide, "DawnPerquisite$Tokens", Or.inl q357, Or.inl rfl⟩
theorem fr_3_43 : fr 3 43 = some (3, 5) := by decide +kernel
theorem fok_3_77 : FOK 3 77 3 6 := ⟨by decide, by decide, "DawnPerquisite$Tokens", Or.inl q358, Or.inl rfl⟩
theorem fr_3_77 : fr 3 77 = some (3, 6) := by decide +kernel
theorem fok_3_83 : FOK 3 83 3 7 := ⟨by decide, by decide, "DawnPerquisite$Tokens", Or.inl q359, Or.inl rfl⟩
theorem fr_3_83 : fr 3 83 = some (3, 7) := by decide +kernel
theorem fok_3_86 : FOK 3 86 4 0 := ⟨by decide, by decide, "DawnPerquisite$Text", Or.inr ⟨"DawnPerquisite", List.mem_of_getElem? (i := 15) rfl⟩, Or.inl rfl⟩
theorem fr_3_86 : fr 3 86 = some (4, 0) := by decide +kernel
theorem fok_3_90 : FOK 3 90 4 1 := ⟨by decide, by decide, "DawnPerquisite$Text", Or.inr ⟨"DawnPerquisite", List.mem_of_getElem? (i := 16) rfl⟩, Or.inl rfl⟩
theorem fr_3_90 : fr 3 90 = some (4, 1) := by decide +kernel
theorem fok_3_97 : FOK 3 97 4 2 := ⟨by decide, by decide, "DawnPerquisite$Text", Or.inr ⟨"DawnPerquisite", List.mem_of_getElem? (i := 17) rfl⟩, Or.inl rfl⟩
theorem fr_3_97 : fr 3 97 = some (4, 2) := by decide +kernel
theorem fok_4_9 : FOK 4 9 4 0 := ⟨by decide, by decide, "DawnPerquisite$Text", Or.inl q415, Or.inl rfl⟩
theorem fr_4_9 : fr 4 9 = some (4, 0) := by decide +kernel
theorem fok_4_18 : FOK 4 18 4 2 := ⟨by decide, by decide, "DawnPerquisite$Text", Or.inl q419, Or.inl rfl⟩
theorem fr_4_18 : fr 4 18 = some (4, 2) := by decide +kernel
theorem fok_5_7 : FOK 5 7 5 0 := ⟨by decide, by decide, "DawnPerquisite$Wrong", Or.inl q546, Or.inl rfl⟩
theorem fr_5_7 : fr 5 7 = some (5, 0) := by decide +kernel
theorem fok_5_13 : FOK 5 13 5 1 := ⟨by decide, by decide, "DawnPerquisite$Wrong", Or.inl q548, Or.inl rfl⟩
theorem fr_5_13 : fr 5 13 = some (5, 1) := by decide +kernel
theorem fok_6_12 : FOK 6 12 6 1 := ⟨by decide, by decide, "DawnPerquisite$Chain", Or.inl q814, Or.inl rfl⟩
theorem fr_6_12 : fr 6 12 = some (6, 1) := by decide +kernel
theorem fok_6_18 : FOK 6 18 6 2 := ⟨by decide, by decide, "DawnPerquisite$Chain", Or.inl q815, Or.inl rfl⟩
theorem fr_6_18 : fr 6 18 = some (6, 2) := by decide +kernel
theorem fok_6_21 : FOK 6 21 6 0 := ⟨by decide, by decide, "DawnPerquisite$Chain", Or.inl q813, Or.inl rfl⟩
theorem fr_6_21 : fr 6 21 = some (6, 0) := by decide +kernel
theorem fok_7_7 : FOK 7 7 7 0 := ⟨by decide, by decide, "DawnPerquisite$Plain", Or.inl q593, Or.inl rfl⟩
theorem fr_7_7 : fr 7 7 = some (7, 0) := by decide +kernel
theorem fok_8_7 : FOK 8 7 8 0 := ⟨by decide, by decide, "DawnPerquisite$Not", Or.inl q625, Or.inl rfl⟩
theorem fr_8_7 : fr 8 7 = some (8, 0) := by decide +kernel
theorem fok_9_7 : FOK 9 7 9 0 := ⟨by decide, by decide, "DawnPerquisite$Compared", Or.inl q635, Or.inl rfl⟩
theorem fr_9_7 : fr 9 7 = some (9, 0) := by decide +kernel
theorem fok_9_13 : FOK 9 13 9 1 := ⟨by decide, by decide, "DawnPerquisite$Compared", Or.inl q636, Or.inl rfl⟩
theorem fr_9_13 : fr 9 13 = some (9, 1) := by decide +kernel
theorem fok_9_17 : FOK 9 17 9 2 := ⟨by decide, by decide, "DawnPerquisite$Compared", Or.inl q637, Or.inl rfl⟩
theorem fr_9_17 : fr 9 17 = some (9, 2) := by decide +kernel
theorem fok_10_7 : FOK 10 7 10 0 := ⟨by decide, by decide, "DawnPerquisite$All", Or.inl q730, Or.inl rfl⟩
theorem fr_10_7 : fr 10 7 = some (10, 0) := by decide +kernel
theorem fok_10_13 : FOK 10 13 10 1 := ⟨by decide, by decide, "DawnPerquisite$All", Or.inl q731, Or.inl rfl⟩
theorem fr_10_13 : fr 10 13 = some (10, 1) := by decide +kernel
theorem fok_11_7 : FOK 11 7 11 0 := ⟨by decide, by decide, "DawnPerquisite$If", Or.inl q747, Or.inl rfl⟩
theorem fr_11_7 : fr 11 7 = some (11, 0) := by decide +kernel
theorem fok_11_13 : FOK 11 13 11 1 := ⟨by decide, by decide, "DawnPerquisite$If", Or.inl q748, Or.inl rfl⟩
theorem fr_11_13 : fr 11 13 = some (11, 1) := by decide +kernel
theorem fok_11_17 : FOK 11 17 11 2 := ⟨by decide, by decide, "DawnPerquisite$If", Or.inl q749, Or.inl rfl⟩
theorem fr_11_17 : fr 11 17 = some (11, 2) := by decide +kernel
theorem fok_12_7 : FOK 12 7 12 0 := ⟨by decide, by decide, "DawnPerquisite$Name", Or.inl q773, Or.inl rfl⟩
theorem fr_12_7 : fr 12 7 = some (12, 0) := by decide +kernel
theorem fok_13_9 : FOK 13 9 13 0 := ⟨by decide, by decide, "DawnPerquisite$Worth", Or.inl q783, Or.inl rfl⟩
theorem fr_13_9 : fr 13 9 = some (13, 0) := by decide +kernel
theorem fok_14_9 : FOK 14 9 14 0 := ⟨by decide, by decide, "DawnPerquisite$Purse", Or.inl q793, Or.inl rfl⟩
theorem fr_14_9 : fr 14 9 = some (14, 0) := by decide +kernel
theorem fok_15_7 : FOK 15 7 15 0 := ⟨by decide, by decide, "DawnPerquisite$Minus", Or.inl q803, Or.inl rfl⟩
theorem fr_15_7 : fr 15 7 = some (15, 0) := by decide +kernel
theorem fok_16_7 : FOK 16 7 16 0 := ⟨by decide, by decide, "DawnPerquisite$Doing", Or.inl q866, Or.inl rfl⟩
theorem fr_16_7 : fr 16 7 = some (16, 0) := by decide +kernel
theorem fok_16_13 : FOK 16 13 16 1 := ⟨by decide, by decide, "DawnPerquisite$Doing", Or.inl q867, Or.inl rfl⟩
theorem fr_16_13 : fr 16 13 = some (16, 1) := by decide +kernel
theorem fok_16_16 : FOK 16 16 16 2 := ⟨by decide, by decide, "DawnPerquisite$Doing", Or.inl q868, Or.inl rfl⟩
theorem fr_16_16 : fr 16 16 = some (16, 2) := by decide +kernel
theorem fok_16_19 : FOK 16 19 16 3 := ⟨by decide, by decide, "DawnPerquisite$Doing", Or.inl q869, Or.inl rfl⟩
theorem fr_16_19 : fr 16 19 = some (16, 3) := by decide +kernel
theorem fok_17_9 : FOK 17 9 17 1 := ⟨by decide, by decide, "java/util/ArrayList", Or.inl q403, Or.inl rfl⟩
theorem fr_17_9 : fr 17 9 = some (17, 1) := by decide +kernel
theorem fok_17_48 : FOK 17 48 17 2 := ⟨by decide, by decide, "java/util/ArrayList", Or.inl q404, Or.inl rfl⟩
theorem fr_17_48 : fr 17 48 = some (17, 2) := by decide +kernel
theorem fok_17_63 : FOK 17 63 17 0 := ⟨by decide, by decide, "java/util/ArrayList", Or.inl q406, Or.inr q407⟩
theorem fr_17_63 : fr 17 63 = some (17, 0) := by decide +kernel
theorem fok_20_7 : FOK 20 7 17 0 := ⟨by decide, by decide, "java/util/AbstractList", Or.inl q405, Or.inl rfl⟩
theorem fr_20_7 : fr 20 7 = some (17, 0) := by decide +kernel
theorem frl_0 : ∀ e ∈ frl 0, FOK 0 e.1 e.2.1 e.2.2 := List.forall_mem_cons.mpr ⟨fok_0_21, List.forall_mem_cons.mpr ⟨fok_0_25, List.forall_mem_cons.mpr ⟨fok_0_28, List.forall_mem_cons.mpr ⟨fok_0_32, List.forall_mem_cons.mpr ⟨fok_0_36, List.forall_mem_cons.mpr ⟨fok_0_39, List.forall_mem_cons.mpr ⟨fok_0_43, List.forall_mem_cons.mpr ⟨fok_0_46, List.forall_mem_cons.mpr ⟨fok_0_49, List.forall_mem_cons.mpr ⟨fok_0_54, List.forall_mem_cons.mpr ⟨fok_0_61, List.forall_mem_cons.mpr ⟨fok_0_76, List.forall_mem_cons.mpr ⟨fok_0_79, List.forall_mem_cons.mpr ⟨fok_0_85, List.forall_mem_cons.mpr ⟨fok_0_88, List.forall_mem_cons.mpr ⟨fok_0_91, List.forall_mem_cons.mpr ⟨fok_0_98, List.forall_mem_cons.mpr ⟨fok_0_105, List.forall_mem_cons.mpr ⟨fok_0_120, List.forall_mem_cons.mpr ⟨fok_0_121, List.forall_mem_cons.mpr ⟨fok_0_154, List.forall_mem_cons.mpr ⟨fok_0_173, List.forall_mem_cons.mpr ⟨fok_0_289, List.forall_mem_cons.mpr ⟨fok_0_312, List.forall_mem_cons.mpr ⟨fok_0_393, List.forall_mem_cons.mpr ⟨fok_0_411, fun _ h => absurd h List.not_mem_nil⟩⟩⟩⟩⟩⟩⟩⟩⟩⟩⟩⟩⟩⟩⟩⟩⟩⟩⟩⟩⟩⟩⟩⟩⟩⟩
theorem frl_1 : ∀ e ∈ frl 1, FOK 1 e.1 e.2.1 e.2.2 := List.forall_mem_cons.mpr ⟨fok_1_9, List.forall_mem_cons.mpr ⟨fok_1_15, List.forall_mem_cons.mpr ⟨fok_1_18, List.forall_mem_cons.mpr ⟨fok_1_21, List.forall_mem_cons.mpr ⟨fok_1_24, List.forall_mem_cons.mpr ⟨fok_1_27, List.forall_mem_cons.mpr ⟨fok_1_30, List.forall_mem_cons.mpr ⟨fok_1_33, List.forall_mem_cons.mpr ⟨fok_1_38, List.forall_mem_cons.mpr ⟨fok_1_41, List.forall_mem_cons.mpr ⟨fok_1_46, fun _ h => absurd h List.not_mem_nil⟩⟩⟩⟩⟩⟩⟩⟩⟩⟩⟩
theorem frl_2 : ∀ e ∈ frl 2, FOK 2 e.1 e.2.1 e.2.2 := List.forall_mem_cons.mpr ⟨fok_2_7, List.forall_mem_cons.mpr ⟨fok_2_13, List.forall_mem_cons.mpr ⟨fok_2_16, List.forall_mem_cons.mpr ⟨fok_2_19, List.forall_mem_cons.mpr ⟨fok_2_22, List.forall_mem_cons.mpr ⟨fok_2_26, List.forall_mem_cons.mpr ⟨fok_2_29, List.forall_mem_cons.mpr ⟨fok_2_32, List.forall_mem_cons.mpr ⟨fok_2_35, List.forall_mem_cons.mpr ⟨fok_2_39, List.forall_mem_cons.mpr ⟨fok_2_43, List.forall_mem_cons.mpr ⟨fok_2_47, List.forall_mem_cons.mpr ⟨fok_2_50, List.forall_mem_cons.mpr ⟨fok_2_53, List.forall_mem_cons.mpr ⟨fok_2_56, List.forall_mem_cons.mpr ⟨fok_2_88, List.forall_mem_cons.mpr ⟨fok_2_95, List.forall_mem_cons.mpr ⟨fok_2_101, List.forall_mem_cons.mpr ⟨fok_2_104, List.forall_mem_cons.mpr ⟨fok_2_110, List.forall_mem_cons.mpr ⟨fok_2_117, List.forall_mem_cons.mpr ⟨fok_2_142, List.forall_mem_cons.mpr ⟨fok_2_145, List.forall_mem_cons.mpr ⟨fok_2_148, List.forall_mem_cons.mpr ⟨fok_2_151, List.forall_mem_cons.mpr ⟨fok_2_161, List.forall_mem_cons.mpr ⟨fok_2_180, List.forall_mem_cons.mpr ⟨fok_2_234, fun _ h => absurd h List.not_mem_nil⟩⟩⟩⟩⟩⟩⟩⟩⟩⟩⟩⟩⟩⟩⟩⟩⟩⟩⟩⟩⟩⟩⟩⟩⟩⟩⟩⟩
theorem frl_3 : ∀ e ∈ frl 3, FOK 3 e.1 e.2.1 e.2.2 := List.forall_mem_cons.mpr ⟨fok_3_9, List.forall_mem_cons.mpr ⟨fok_3_15, List.forall_mem_cons.mpr ⟨fok_3_19, List.forall_mem_cons.mpr ⟨fok_3_22, List.forall_mem_cons.mpr ⟨fok_3_25, List.forall_mem_cons.mpr ⟨fok_3_43, List.forall_mem_cons.mpr ⟨fok_3_77, List.forall_mem_cons.mpr ⟨fok_3_83, List.forall_mem_cons.mpr ⟨fok_3_86, List.forall_mem_cons.mpr ⟨fok_3_90, List.forall_mem_cons.mpr ⟨fok_3_97, fun _ h => absurd h List.not_mem_nil⟩⟩⟩⟩⟩⟩⟩⟩⟩⟩⟩
theorem frl_4 : ∀ e ∈ frl 4, FOK 4 e.1 e.2.1 e.2.2 := List.forall_mem_cons.mpr ⟨fok_4_9, List.forall_mem_cons.mpr ⟨fok_4_18, fun _ h => absurd h List.not_mem_nil⟩⟩
theorem frl_5 : ∀ e ∈ frl 5, FOK 5 e.1 e.2.1 e.2.2 := List.forall_mem_cons.mpr ⟨fok_5_7, List.forall_mem_cons.mpr ⟨fok_5_13, fun _ h => absurd h List.not_mem_nil⟩⟩
theorem frl_6 : ∀ e ∈ frl 6, FOK 6 e.1 e.2.1 e.2.2 := List.forall_mem_cons.mpr ⟨fok_6_12, List.forall_mem_cons.mpr ⟨fok_6_18, List.forall_mem_cons.mpr ⟨fok_6_21, fun _ h => absurd h List.not_mem_nil⟩⟩⟩
theorem frl_7 : ∀ e ∈ frl 7, FOK 7 e.1 e.2.1 e.2.2 := List.forall_mem_cons.mpr ⟨fok_7_7, fun _ h => absurd h List.not_mem_nil⟩
theorem frl_8 : ∀ e ∈ frl 8, FOK 8 e.1 e.2.1 e.2.2 := List.forall_mem_cons.mpr ⟨fok_8_7, fun _ h => absurd h List.not_mem_nil⟩
theorem frl_9 : ∀ e ∈ frl 9, FOK 9 e.1 e.2.1 e.2.2 := List.forall_mem_cons.mpr ⟨fok_9_7, List.forall_mem_cons.mpr ⟨fok_9_13, List.forall_mem_cons.mpr ⟨fok_9_17, fun _ h => absurd h List.not_mem_nil⟩⟩⟩
theorem frl_10 : ∀ e ∈ frl 10, FOK 10 e.1 e.2.1 e.2.2 := List.forall_mem_cons.mpr ⟨fok_10_7, List.forall_mem_cons.mpr ⟨fok_10_13, fun _ h => absurd h List.not_mem_nil⟩⟩
theorem frl_11 : ∀ e ∈ frl 11, FOK 11 e.1 e.2.1 e.2.2 := List.forall_mem_cons.mpr ⟨fok_11_7, List.forall_mem_cons.mpr ⟨fok_11_13, List.forall_mem_cons.mpr ⟨fok_11_17, fun _ h => absurd h List.not_mem_nil⟩⟩⟩
theorem frl_12 : ∀ e ∈ frl 12, FOK 12 e.1 e.2.1 e.2.2 := List.forall_mem_cons.mpr ⟨fok_12_7, fun _ h => absurd h List.not_mem_nil⟩
theorem frl_13 : ∀ e ∈ frl 13, FOK 13 e.1 e.2.1 e.2.2 := List.forall_mem_cons.mpr ⟨fok_13_9, fun _ h => absurd h List.not_mem_nil⟩
theorem frl_14 : ∀ e ∈ frl 14, FOK 14 e.1 e.2.1 e.2.2 := List.forall_mem_cons.mpr ⟨fok_14_9, fun _ h => absurd h List.not_mem_nil⟩
theorem frl_15 : ∀ e ∈ frl 15, FOK 15 e.1 e.2.1 e.2.2 := List.forall_mem_cons.mpr ⟨fok_15_7, fun _ h => absurd h List.not_mem_nil⟩
theorem frl_16 : ∀ e ∈ frl 16, FOK 16 e.1 e.2.1 e.2.2 := List.forall_mem_cons.mpr ⟨fok_16_7, List.forall_mem_cons.mpr ⟨fok_16_13, List.forall_mem_cons.mpr ⟨fok_16_16, List.forall_mem_cons.mpr ⟨fok_16_19, fun _ h => absurd h List.not_mem_nil⟩⟩⟩⟩
theorem frl_17 : ∀ e ∈ frl 17, FOK 17 e.1 e.2.1 e.2.2 := List.forall_mem_cons.mpr ⟨fok_17_9, List.forall_mem_cons.mpr ⟨fok_17_48, List.forall_mem_cons.mpr ⟨fok_17_63, fun _ h => absurd h List.not_mem_nil⟩⟩⟩
theorem frl_20 : ∀ e ∈ frl 20, FOK 20 e.1 e.2.1 e.2.2 := List.forall_mem_cons.mpr ⟨fok_20_7, fun _ h => absurd h List.not_mem_nil⟩
theorem fr_ok {cm ix c k : Nat} (h : fr cm ix = some (c, k)) : FOK cm ix c k := by
  unfold fr at h
  obtain ⟨e, h1, h2⟩ := Option.map_eq_some_iff.mp h
  have h3 := List.mem_of_find?_eq_some h1
  have h4 : e.1 = ix := by simpa using List.find?_some h1
  obtain ⟨a, b, d⟩ := e
  cases h2; cases h4
  match cm, h3 with
  | 0, h3 => exact frl_0 _ h3
  | 1, h3 => exact frl_1 _ h3
  | 2, h3 => exact frl_2 _ h3
  | 3, h3 => exact frl_3 _ h3
  | 4, h3 => exact frl_4 _ h3
  | 5, h3 => exact frl_5 _ h3
  | 6, h3 => exact frl_6 _ h3
  | 7, h3 => exact frl_7 _ h3
  | 8, h3 => exact frl_8 _ h3
  | 9, h3 => exact frl_9 _ h3
  | 10, h3 => exact frl_10 _ h3
  | 11, h3 => exact frl_11 _ h3
  | 12, h3 => exact frl_12 _ h3
  | 13, h3 => exact frl_13 _ h3
  | 14, h3 => exact frl_14 _ h3
  | 15, h3 => exact frl_15 _ h3
  | 16, h3 => exact frl_16 _ h3
  | 17, h3 => exact frl_17 _ h3
  | 20, h3 => exact frl_20 _ h3
  | 18, h3 => cases h3
  | 19, h3 => cases h3
  | _ + 21, h3 => cases h3
/-- whole numbers -/
def kcl (c : Nat) : List (Nat × Int32) := match c with
  | 0 => [(203, 99999)]
  | 2 => [(113, 99999)]
  | 3 => [(46, 99999)]
  | 29 => [(200, 2147483639)]
  | 32 => [(265, 1431655765), (266, 858993459), (267, 252645135)]
  | _ => []
def kc (c ix : Nat) : Option (Int32) := ((kcl c).find? fun e => e.1 == ix).map fun e => e.2
theorem kc_0_203 : kc 0 203 = some (99999) := by decide +kernel
theorem kc_2_113 : kc 2 113 = some (99999) := by decide +kernel
theorem kc_3_46 : kc 3 46 = some (99999) := by decide +kernel
theorem kc_29_200 : kc 29 200 = some (2147483639) := by decide +kernel
theorem kc_32_265 : kc 32 265 = some (1431655765) := by decide +kernel
theorem kc_32_266 : kc 32 266 = some (858993459) := by decide +kernel
theorem kc_32_267 : kc 32 267 = some (252645135) := by decide +kernel
def kcOK (cm ix : Nat) (v : Int32) : Prop := Jvm.Cond.constant (cnm cm) ix v ∈ lw_all
theorem kcl_0 : ∀ e ∈ kcl 0, kcOK 0 e.1 e.2 := List.forall_mem_cons.mpr ⟨q1065, fun _ h => absurd h List.not_mem_nil⟩
theorem kcl_2 : ∀ e ∈ kcl 2, kcOK 2 e.1 e.2 := List.forall_mem_cons.mpr ⟨q1595, fun _ h => absurd h List.not_mem_nil⟩
theorem kcl_3 : ∀ e ∈ kcl 3, kcOK 3 e.1 e.2 := List.forall_mem_cons.mpr ⟨q493, fun _ h => absurd h List.not_mem_nil⟩
theorem kcl_29 : ∀ e ∈ kcl 29, kcOK 29 e.1 e.2 := List.forall_mem_cons.mpr ⟨q667, fun _ h => absurd h List.not_mem_nil⟩
theorem kcl_32 : ∀ e ∈ kcl 32, kcOK 32 e.1 e.2 := List.forall_mem_cons.mpr ⟨q942, List.forall_mem_cons.mpr ⟨q943, List.forall_mem_cons.mpr ⟨q944, fun _ h => absurd h List.not_mem_nil⟩⟩⟩
theorem kc_ok {cm ix : Nat} {v : Int32} (h : kc cm ix = some v) : kcOK cm ix v := by
  unfold kc at h
  obtain ⟨e, h1, h2⟩ := Option.map_eq_some_iff.mp h
  have h3 := List.mem_of_find?_eq_some h1
  have h4 : e.1 = ix := by simpa using List.find?_some h1
  obtain ⟨a, b⟩ := e
  cases h2; cases h4
  match cm, h3 with
  | 0, h3 => exact kcl_0 _ h3
  | 2, h3 => exact kcl_2 _ h3
  | 3, h3 => exact kcl_3 _ h3
  | 29, h3 => exact kcl_29 _ h3
  | 32, h3 => exact kcl_32 _ h3
  | 1, h3 => cases h3
  | 4, h3 => cases h3
  | 5, h3 => cases h3
  | 6, h3 => cases h3
  | 7, h3 => cases h3
  | 8, h3 => cases h3
  | 9, h3 => cases h3
  | 10, h3 => cases h3
  | 11, h3 => cases h3
  | 12, h3 => cases h3
  | 13, h3 => cases h3
  | 14, h3 => cases h3
  | 15, h3 => cases h3
  | 16, h3 => cases h3
  | 17, h3 => cases h3
  | 18, h3 => cases h3
  | 19, h3 => cases h3
  | 20, h3 => cases h3
  | 21, h3 => cases h3
  | 22, h3 => cases h3
  | 23, h3 => cases h3
  | 24, h3 => cases h3
  | 25, h3 => cases h3
  | 26, h3 => cases h3
  | 27, h3 => cases h3
  | 28, h3 => cases h3
  | 30, h3 => cases h3
  | 31, h3 => cases h3
  | _ + 33, h3 => cases h3
/-- longs -/
def kll (c : Nat) : List (Nat × Int64) := match c with
  | 0 => [(349, -1), (351, 2), (418, 5)]
  | 2 => [(121, 1152921504606846976), (247, 1000000), (249, -1000000), (255, 5), (302, 719), (304, 587), (306, 31039), (391, -1), (423, 2)]
  | 6 => [(56, -1000000), (58, 1000000)]
  | 13 => [(21, 5)]
  | 14 => [(21, 6)]
  | _ => []
def kl (c ix : Nat) : Option (Int64) := ((kll c).find? fun e => e.1 == ix).map fun e => e.2
theorem kl_0_349 : kl 0 349 = some (-1) := by decide +kernel
theorem kl_0_351 : kl 0 351 = some (2) := by decide +kernel
theorem kl_0_418 : kl 0 418 = some (5) := by decide +kernel
theorem kl_2_121 : kl 2 121 = some (1152921504606846976) := by decide +kernel
theorem kl_2_247 : kl 2 247 = some (1000000) := by decide +kernel
theorem kl_2_249 : kl 2 249 = some (-1000000) := by decide +kernel
theorem kl_2_255 : kl 2 255 = some (5) := by decide +kernel
theorem kl_2_302 : kl 2 302 = some (719) := by decide +kernel
theorem kl_2_304 : kl 2 304 = some (587) := by decide +kernel
theorem kl_2_306 : kl 2 306 = some (31039) := by decide +kernel
theorem kl_2_391 : kl 2 391 = some (-1) := by decide +kernel
theorem kl_2_423 : kl 2 423 = some (2) := by decide +kernel
theorem kl_6_56 : kl 6 56 = some (-1000000) := by decide +kernel
theorem kl_6_58 : kl 6 58 = some (1000000) := by decide +kernel
theorem kl_13_21 : kl 13 21 = some (5) := by decide +kernel
theorem kl_14_21 : kl 14 21 = some (6) := by decide +kernel
def klOK (cm ix : Nat) (v : Int64) : Prop := Jvm.Cond.constantLong (cnm cm) ix v ∈ lw_all
theorem kll_0 : ∀ e ∈ kll 0, klOK 0 e.1 e.2 := List.forall_mem_cons.mpr ⟨q1253, List.forall_mem_cons.mpr ⟨q1266, List.forall_mem_cons.mpr ⟨q1406, fun _ h => absurd h List.not_mem_nil⟩⟩⟩
theorem kll_2 : ∀ e ∈ kll 2, klOK 2 e.1 e.2 := List.forall_mem_cons.mpr ⟨q1599, List.forall_mem_cons.mpr ⟨q1795, List.forall_mem_cons.mpr ⟨q1796, List.forall_mem_cons.mpr ⟨q1788, List.forall_mem_cons.mpr ⟨q1885, List.forall_mem_cons.mpr ⟨q1886, List.forall_mem_cons.mpr ⟨q1887, List.forall_mem_cons.mpr ⟨q1953, List.forall_mem_cons.mpr ⟨q2039, fun _ h => absurd h List.not_mem_nil⟩⟩⟩⟩⟩⟩⟩⟩⟩
theorem kll_6 : ∀ e ∈ kll 6, klOK 6 e.1 e.2 := List.forall_mem_cons.mpr ⟨q1043, List.forall_mem_cons.mpr ⟨q1044, fun _ h => absurd h List.not_mem_nil⟩⟩
theorem kll_13 : ∀ e ∈ kll 13, klOK 13 e.1 e.2 := List.forall_mem_cons.mpr ⟨q1023, fun _ h => absurd h List.not_mem_nil⟩
theorem kll_14 : ∀ e ∈ kll 14, klOK 14 e.1 e.2 := List.forall_mem_cons.mpr ⟨q1024, fun _ h => absurd h List.not_mem_nil⟩
theorem kl_ok {cm ix : Nat} {v : Int64} (h : kl cm ix = some v) : klOK cm ix v := by
  unfold kl at h
  obtain ⟨e, h1, h2⟩ := Option.map_eq_some_iff.mp h
  have h3 := List.mem_of_find?_eq_some h1
  have h4 : e.1 = ix := by simpa using List.find?_some h1
  obtain ⟨a, b⟩ := e
  cases h2; cases h4
  match cm, h3 with
  | 0, h3 => exact kll_0 _ h3
  | 2, h3 => exact kll_2 _ h3
  | 6, h3 => exact kll_6 _ h3
  | 13, h3 => exact kll_13 _ h3
  | 14, h3 => exact kll_14 _ h3
  | 1, h3 => cases h3
  | 3, h3 => cases h3
  | 4, h3 => cases h3
  | 5, h3 => cases h3
  | 7, h3 => cases h3
  | 8, h3 => cases h3
  | 9, h3 => cases h3
  | 10, h3 => cases h3
  | 11, h3 => cases h3
  | 12, h3 => cases h3
  | _ + 15, h3 => cases h3
/-- new: class, slots -/
def knl (c : Nat) : List (Nat × Nat × Nat) := match c with
  | 0 => [(18, 1, 11), (109, 3, 8)]
  | 3 => [(65, 5, 8), (80, 4, 3), (106, 17, 3), (117, 16, 4), (135, 10, 2), (146, 8, 1), (151, 9, 3), (156, 6, 3), (180, 11, 3), (185, 7, 1), (198, 12, 1), (201, 13, 1), (204, 14, 1), (207, 15, 1)]
  | 4 => [(15, 17, 3)]
  | 6 => [(9, 17, 3)]
  | 34 => [(7, 0, 11), (10, 2, 28)]
  | _ => []
def kn (c ix : Nat) : Option (Nat × Nat) := ((knl c).find? fun e => e.1 == ix).map fun e => e.2
theorem kn_0_18 : kn 0 18 = some (1, 11) := by decide +kernel
theorem kn_0_109 : kn 0 109 = some (3, 8) := by decide +kernel
theorem kn_3_65 : kn 3 65 = some (5, 8) := by decide +kernel
theorem kn_3_80 : kn 3 80 = some (4, 3) := by decide +kernel
theorem kn_3_106 : kn 3 106 = some (17, 3) := by decide +kernel
theorem kn_3_117 : kn 3 117 = some (16, 4) := by decide +kernel
theorem kn_3_135 : kn 3 135 = some (10, 2) := by decide +kernel
theorem kn_3_146 : kn 3 146 = some (8, 1) := by decide +kernel
theorem kn_3_151 : kn 3 151 = some (9, 3) := by decide +kernel
theorem kn_3_156 : kn 3 156 = some (6, 3) := by decide +kernel
theorem kn_3_180 : kn 3 180 = some (11, 3) := by decide +kernel
theorem kn_3_185 : kn 3 185 = some (7, 1) := by decide +kernel
theorem kn_3_198 : kn 3 198 = some (12, 1) := by decide +kernel
theorem kn_3_201 : kn 3 201 = some (13, 1) := by decide +kernel
theorem kn_3_204 : kn 3 204 = some (14, 1) := by decide +kernel
theorem kn_3_207 : kn 3 207 = some (15, 1) := by decide +kernel
theorem kn_4_15 : kn 4 15 = some (17, 3) := by decide +kernel
theorem kn_6_9 : kn 6 9 = some (17, 3) := by decide +kernel
theorem kn_34_7 : kn 34 7 = some (0, 11) := by decide +kernel
theorem kn_34_10 : kn 34 10 = some (2, 28) := by decide +kernel
def knOK (cm ix : Nat) (v : Nat × Nat) : Prop := v.1 < 18 ∧ Jvm.Cond.classLink (cnm cm) ix (cR v.1) ∈ lw_all ∧ Jvm.Cond.instantiable (cR v.1) v.2 ∈ lw_all ∧ Jvm.Cond.initialized (cR v.1) ∈ lw_all
theorem knl_0 : ∀ e ∈ knl 0, knOK 0 e.1 e.2 := List.forall_mem_cons.mpr ⟨⟨by decide, q190, q191, q148⟩, List.forall_mem_cons.mpr ⟨⟨by decide, q346, q347, q152⟩, fun _ h => absurd h List.not_mem_nil⟩⟩
theorem knl_3 : ∀ e ∈ knl 3, knOK 3 e.1 e.2 := List.forall_mem_cons.mpr ⟨⟨by decide, q502, q503, q164⟩, List.forall_mem_cons.mpr ⟨⟨by decide, q381, q382, q153⟩, List.forall_mem_cons.mpr ⟨⟨by decide, q609, q390, q156⟩, List.forall_mem_cons.mpr ⟨⟨by decide, q860, q861, q181⟩, List.forall_mem_cons.mpr ⟨⟨by decide, q724, q725, q172⟩, List.forall_mem_cons.mpr ⟨⟨by decide, q619, q620, q168⟩, List.forall_mem_cons.mpr ⟨⟨by decide, q629, q630, q169⟩, List.forall_mem_cons.mpr ⟨⟨by decide, q570, q571, q165⟩, List.forall_mem_cons.mpr ⟨⟨by decide, q741, q742, q173⟩, List.forall_mem_cons.mpr ⟨⟨by decide, q580, q581, q167⟩, List.forall_mem_cons.mpr ⟨⟨by decide, q767, q768, q174⟩, List.forall_mem_cons.mpr ⟨⟨by decide, q777, q778, q175⟩, List.forall_mem_cons.mpr ⟨⟨by decide, q787, q788, q176⟩, List.forall_mem_cons.mpr ⟨⟨by decide, q797, q798, q177⟩, fun _ h => absurd h List.not_mem_nil⟩⟩⟩⟩⟩⟩⟩⟩⟩⟩⟩⟩⟩⟩
theorem knl_4 : ∀ e ∈ knl 4, knOK 4 e.1 e.2 := List.forall_mem_cons.mpr ⟨⟨by decide, q389, q390, q156⟩, fun _ h => absurd h List.not_mem_nil⟩
theorem knl_6 : ∀ e ∈ knl 6, knOK 6 e.1 e.2 := List.forall_mem_cons.mpr ⟨⟨by decide, q811, q390, q156⟩, fun _ h => absurd h List.not_mem_nil⟩
theorem knl_34 : ∀ e ∈ knl 34, knOK 34 e.1 e.2 := List.forall_mem_cons.mpr ⟨⟨by decide, q182, q183, q147⟩, List.forall_mem_cons.mpr ⟨⟨by decide, q1451, q1452, q151⟩, fun _ h => absurd h List.not_mem_nil⟩⟩
theorem kn_ok {cm ix : Nat} {v : Nat × Nat} (h : kn cm ix = some v) : knOK cm ix v := by
  unfold kn at h
  obtain ⟨e, h1, h2⟩ := Option.map_eq_some_iff.mp h
  have h3 := List.mem_of_find?_eq_some h1
  have h4 : e.1 = ix := by simpa using List.find?_some h1
  obtain ⟨a, b⟩ := e
  cases h2; cases h4
  match cm, h3 with
  | 0, h3 => exact knl_0 _ h3
  | 3, h3 => exact knl_3 _ h3
  | 4, h3 => exact knl_4 _ h3
  | 6, h3 => exact knl_6 _ h3
  | 34, h3 => exact knl_34 _ h3
  | 1, h3 => cases h3
  | 2, h3 => cases h3
  | 5, h3 => cases h3
  | 7, h3 => cases h3
  | 8, h3 => cases h3
  | 9, h3 => cases h3
  | 10, h3 => cases h3
  | 11, h3 => cases h3
  | 12, h3 => cases h3
  | 13, h3 => cases h3
  | 14, h3 => cases h3
  | 15, h3 => cases h3
  | 16, h3 => cases h3
  | 17, h3 => cases h3
  | 18, h3 => cases h3
  | 19, h3 => cases h3
  | 20, h3 => cases h3
  | 21, h3 => cases h3
  | 22, h3 => cases h3
  | 23, h3 => cases h3
  | 24, h3 => cases h3
  | 25, h3 => cases h3
  | 26, h3 => cases h3
  | 27, h3 => cases h3
  | 28, h3 => cases h3
  | 29, h3 => cases h3
  | 30, h3 => cases h3
  | 31, h3 => cases h3
  | 32, h3 => cases h3
  | 33, h3 => cases h3
  | _ + 35, h3 => cases h3
/-- arrays of references: their kind -/
def kal (c : Nat) : List (Nat × Nat) := match c with
  | 1 => [(44, 6)]
  | 4 => [(7, 7)]
  | 17 => [(7, 8)]
  | 18 => [(2, 8)]
  | _ => []
def ka (c ix : Nat) : Option (Nat) := ((kal c).find? fun e => e.1 == ix).map fun e => e.2
theorem ka_1_44 : ka 1 44 = some (6) := by decide +kernel
theorem ka_4_7 : ka 4 7 = some (7) := by decide +kernel
theorem ka_17_7 : ka 17 7 = some (8) := by decide +kernel
theorem ka_18_2 : ka 18 2 = some (8) := by decide +kernel
def kaOK (cm ix : Nat) (v : Nat) : Prop := 6 ≤ v ∧ v < 9 ∧ ∃ C : String, aty v = .object C ∧ Jvm.Cond.classLink (cnm cm) ix C ∈ lw_all
theorem kal_1 : ∀ e ∈ kal 1, kaOK 1 e.1 e.2 := List.forall_mem_cons.mpr ⟨⟨by decide, by decide, _, rfl, q198⟩, fun _ h => absurd h List.not_mem_nil⟩
theorem kal_4 : ∀ e ∈ kal 4, kaOK 4 e.1 e.2 := List.forall_mem_cons.mpr ⟨⟨by decide, by decide, _, rfl, q387⟩, fun _ h => absurd h List.not_mem_nil⟩
theorem kal_17 : ∀ e ∈ kal 17, kaOK 17 e.1 e.2 := List.forall_mem_cons.mpr ⟨⟨by decide, by decide, _, rfl, q706⟩, fun _ h => absurd h List.not_mem_nil⟩
theorem kal_18 : ∀ e ∈ kal 18, kaOK 18 e.1 e.2 := List.forall_mem_cons.mpr ⟨⟨by decide, by decide, _, rfl, q702⟩, fun _ h => absurd h List.not_mem_nil⟩
theorem ka_ok {cm ix : Nat} {v : Nat} (h : ka cm ix = some v) : kaOK cm ix v := by
  unfold ka at h
  obtain ⟨e, h1, h2⟩ := Option.map_eq_some_iff.mp h
  have h3 := List.mem_of_find?_eq_some h1
  have h4 : e.1 = ix := by simpa using List.find?_some h1
  obtain ⟨a, b⟩ := e
  cases h2; cases h4
  match cm, h3 with
  | 1, h3 => exact kal_1 _ h3
  | 4, h3 => exact kal_4 _ h3
  | 17, h3 => exact kal_17 _ h3
  | 18, h3 => exact kal_18 _ h3
  | 0, h3 => cases h3
  | 2, h3 => cases h3
  | 3, h3 => cases h3
  | 5, h3 => cases h3
  | 6, h3 => cases h3
  | 7, h3 => cases h3
  | 8, h3 => cases h3
  | 9, h3 => cases h3
  | 10, h3 => cases h3
  | 11, h3 => cases h3
  | 12, h3 => cases h3
  | 13, h3 => cases h3
  | 14, h3 => cases h3
  | 15, h3 => cases h3
  | 16, h3 => cases h3
  | _ + 19, h3 => cases h3
/-- arrays of arrays -/
def kml (c : Nat) : List (Nat × Nat) := match c with
  | 0 => [(52, 5)]
  | 1 => [(36, 5)]
  | _ => []
def km (c ix : Nat) : Option (Nat) := ((kml c).find? fun e => e.1 == ix).map fun e => e.2
theorem km_0_52 : km 0 52 = some (5) := by decide +kernel
theorem km_1_36 : km 1 36 = some (5) := by decide +kernel
def kmOK (cm ix : Nat) (v : Nat) : Prop := v = 5 ∧ Jvm.Cond.classLink (cnm cm) ix "[[I" ∈ lw_all
theorem kml_0 : ∀ e ∈ kml 0, kmOK 0 e.1 e.2 := List.forall_mem_cons.mpr ⟨⟨rfl, q255⟩, fun _ h => absurd h List.not_mem_nil⟩
theorem kml_1 : ∀ e ∈ kml 1, kmOK 1 e.1 e.2 := List.forall_mem_cons.mpr ⟨⟨rfl, q196⟩, fun _ h => absurd h List.not_mem_nil⟩
theorem km_ok {cm ix : Nat} {v : Nat} (h : km cm ix = some v) : kmOK cm ix v := by
  unfold km at h
  obtain ⟨e, h1, h2⟩ := Option.map_eq_some_iff.mp h
  have h3 := List.mem_of_find?_eq_some h1
  have h4 : e.1 = ix := by simpa using List.find?_some h1
  obtain ⟨a, b⟩ := e
  cases h2; cases h4
  match cm, h3 with
  | 0, h3 => exact kml_0 _ h3
  | 1, h3 => exact kml_1 _ h3
  | _ + 2, h3 => cases h3
/-- statics: their number -/
def ksl (c : Nat) : List (Nat × Nat) := match c with
  | 0 => [(127, 0)]
  | 3 => [(32, 1), (173, 2)]
  | 17 => [(39, 3)]
  | _ => []
def ks (c ix : Nat) : Option (Nat) := ((ksl c).find? fun e => e.1 == ix).map fun e => e.2
theorem ks_0_127 : ks 0 127 = some (0) := by decide +kernel
theorem ks_3_32 : ks 3 32 = some (1) := by decide +kernel
theorem ks_3_173 : ks 3 173 = some (2) := by decide +kernel
theorem ks_17_39 : ks 17 39 = some (3) := by decide +kernel
def ksOK (cm ix : Nat) (v : Nat) : Prop := v < 4 ∧ Jvm.Cond.fieldLink (cnm cm) ix (stc v).1 (stc v).2.1 (stc v).2.2 ∈ lw_all
theorem ksl_0 : ∀ e ∈ ksl 0, ksOK 0 e.1 e.2 := List.forall_mem_cons.mpr ⟨⟨by decide, q925⟩, fun _ h => absurd h List.not_mem_nil⟩
theorem ksl_3 : ∀ e ∈ ksl 3, ksOK 3 e.1 e.2 := List.forall_mem_cons.mpr ⟨⟨by decide, q436⟩, List.forall_mem_cons.mpr ⟨⟨by decide, q761⟩, fun _ h => absurd h List.not_mem_nil⟩⟩
theorem ksl_17 : ∀ e ∈ ksl 17, ksOK 17 e.1 e.2 := List.forall_mem_cons.mpr ⟨⟨by decide, q401⟩, fun _ h => absurd h List.not_mem_nil⟩
theorem ks_ok {cm ix : Nat} {v : Nat} (h : ks cm ix = some v) : ksOK cm ix v := by
  unfold ks at h
  obtain ⟨e, h1, h2⟩ := Option.map_eq_some_iff.mp h
  have h3 := List.mem_of_find?_eq_some h1
  have h4 : e.1 = ix := by simpa using List.find?_some h1
  obtain ⟨a, b⟩ := e
  cases h2; cases h4
  match cm, h3 with
  | 0, h3 => exact ksl_0 _ h3
  | 3, h3 => exact ksl_3 _ h3
  | 17, h3 => exact ksl_17 _ h3
  | 1, h3 => cases h3
  | 2, h3 => cases h3
  | 4, h3 => cases h3
  | 5, h3 => cases h3
  | 6, h3 => cases h3
  | 7, h3 => cases h3
  | 8, h3 => cases h3
  | 9, h3 => cases h3
  | 10, h3 => cases h3
  | 11, h3 => cases h3
  | 12, h3 => cases h3
  | 13, h3 => cases h3
  | 14, h3 => cases h3
  | 15, h3 => cases h3
  | 16, h3 => cases h3
  | _ + 18, h3 => cases h3
/-- texts: the static number -/
def kxl (c : Nat) : List (Nat × Nat) := match c with
  | 3 => [(53, 5)]
  | _ => []
def kx (c ix : Nat) : Option (Nat) := ((kxl c).find? fun e => e.1 == ix).map fun e => e.2
theorem kx_3_53 : kx 3 53 = some (5) := by decide +kernel
/-- casts: 0 Sum, 1 Asked, 2 Doing, 3 Integer -/
def ktl (c : Nat) : List (Nat × Nat) := match c with
  | 0 => [(261, 2)]
  | 3 => [(133, 1)]
  | 6 => [(26, 3), (40, 0)]
  | 10 => [(27, 1)]
  | _ => []
def kt (c ix : Nat) : Option (Nat) := ((ktl c).find? fun e => e.1 == ix).map fun e => e.2
theorem kt_0_261 : kt 0 261 = some (2) := by decide +kernel
theorem kt_3_133 : kt 3 133 = some (1) := by decide +kernel
theorem kt_6_26 : kt 6 26 = some (3) := by decide +kernel
theorem kt_6_40 : kt 6 40 = some (0) := by decide +kernel
theorem kt_10_27 : kt 10 27 = some (1) := by decide +kernel
def tnm (t : Nat) : String := match t with
  | 0 => "DawnPerquisite$Sum"
  | 1 => "DawnPerquisite$Asked"
  | 2 => "DawnPerquisite$Doing"
  | _ => "java/lang/Integer"
def ktOK (cm ix : Nat) (v : Nat) : Prop := Jvm.Cond.classLink (cnm cm) ix (tnm v) ∈ lw_all
theorem ktl_0 : ∀ e ∈ ktl 0, ktOK 0 e.1 e.2 := List.forall_mem_cons.mpr ⟨q1139, fun _ h => absurd h List.not_mem_nil⟩
theorem ktl_3 : ∀ e ∈ ktl 3, ktOK 3 e.1 e.2 := List.forall_mem_cons.mpr ⟨q723, fun _ h => absurd h List.not_mem_nil⟩
theorem ktl_6 : ∀ e ∈ ktl 6, ktOK 6 e.1 e.2 := List.forall_mem_cons.mpr ⟨q1038, List.forall_mem_cons.mpr ⟨q1037, fun _ h => absurd h List.not_mem_nil⟩⟩
theorem ktl_10 : ∀ e ∈ ktl 10, ktOK 10 e.1 e.2 := List.forall_mem_cons.mpr ⟨q976, fun _ h => absurd h List.not_mem_nil⟩
theorem kt_ok {cm ix : Nat} {v : Nat} (h : kt cm ix = some v) : ktOK cm ix v := by
  unfold kt at h
  obtain ⟨e, h1, h2⟩ := Option.map_eq_some_iff.mp h
  have h3 := List.mem_of_find?_eq_some h1
  have h4 : e.1 = ix := by simpa using List.find?_some h1
  obtain ⟨a, b⟩ := e
  cases h2; cases h4
  match cm, h3 with
  | 0, h3 => exact ktl_0 _ h3
  | 3, h3 => exact ktl_3 _ h3
  | 6, h3 => exact ktl_6 _ h3
  | 10, h3 => exact ktl_10 _ h3
  | 1, h3 => cases h3
  | 2, h3 => cases h3
  | 4, h3 => cases h3
  | 5, h3 => cases h3
  | 7, h3 => cases h3
  | 8, h3 => cases h3
  | 9, h3 => cases h3
  | _ + 11, h3 => cases h3
/-- which kinds pass a cast -/
def isSum (κ : Nat) : Bool := κ == 16 || κ == 17 || κ == 21 || κ == 22 || κ == 23 || κ == 24 || κ == 25
def isAsk (κ : Nat) : Bool := κ == 18 || κ == 19 || κ == 20
def tok (t κ : Nat) : Bool := match t with
  | 0 => isSum κ
  | 1 => isAsk κ
  | 2 => κ == 26
  | _ => κ == 28
/-- which kinds an array of references takes -/
def aok (κ v : Nat) : Bool := match κ with
  | 6 => v == 14
  | 7 => isSum v
  | _ => isSum v || isAsk v || v == 26 || v == 28
