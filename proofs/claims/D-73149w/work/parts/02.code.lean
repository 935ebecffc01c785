/-! PART 02: every method's code as a list of instructions -/
set_option maxRecDepth 100000
/-- how long an instruction is, of those that are run here -/
def iln (i : Instr) : Nat := match i with
  | .bipush _ => 2
  | .iload _ => 2
  | .lload _ => 2
  | .aload _ => 2
  | .istore _ => 2
  | .lstore _ => 2
  | .astore _ => 2
  | .newarray _ => 2
  | .ldc _ => 2
  | .sipush _ => 3
  | .iinc _ _ => 3
  | .ifCond _ _ => 3
  | .if_icmp _ _ => 3
  | .if_acmp _ _ => 3
  | .ifnull _ => 3
  | .ifnonnull _ => 3
  | .goto _ => 3
  | .getfield _ => 3
  | .putfield _ => 3
  | .getstatic _ => 3
  | .invokevirtual _ => 3
  | .invokespecial _ => 3
  | .invokestatic _ => 3
  | .new _ => 3
  | .anewarray _ => 3
  | .checkcast _ => 3
  | .ldc_w _ => 3
  | .ldc2_w _ => 3
  | .multianewarray _ _ => 4
  | .invokeinterface _ _ => 5
  | _ => 1
/-- the listed places of a code hold the listed instructions, of their usual length -/
def dck (c : ByteArray) (l : List (Nat × Instr)) : Prop := ∀ r ∈ l, decode c r.1 = .ok (r.2, iln r.2)
theorem dck_at {c : ByteArray} {l : List (Nat × Instr)} (h : dck c l) (k : Nat) {pc : Nat} {i : Instr} (e : l[k]? = some (pc, i)) : decode c pc = .ok (i, iln i) := h _ (List.mem_of_getElem? e)
/-! 0: DawnPerquisite.<init>()V -/
abbrev c0 : ByteArray := prog_1_method_4_code
def l0_0 : List (Nat × Instr) := [(0, .aload_n 0), (1, .invokespecial 12), (4, .aload_n 0), (5, .new 18), (8, .dup), (9, .invokespecial 20), (12, .putfield 21), (15, .aload_n 0), (16, .new 18), (19, .dup), (20, .invokespecial 20), (23, .putfield 25), (26, .aload_n 0), (27, .sipush 300), (30, .newarray .byte), (32, .putfield 28), (35, .aload_n 0), (36, .iconst (-1)), (37, .putfield 32), (40, .aload_n 0), (41, .iconst (-1)), (42, .putfield 36), (45, .aload_n 0), (46, .bipush 19), (48, .newarray .int), (50, .putfield 39), (53, .aload_n 0), (54, .bipush 123), (56, .newarray .int), (58, .putfield 43), (61, .aload_n 0), (62, .bipush 6), (64, .newarray .int), (66, .putfield 46), (69, .aload_n 0), (70, .bipush 6), (72, .newarray .int), (74, .putfield 49), (77, .aload_n 0), (78, .bipush 12), (80, .bipush 12), (82, .multianewarray 52 2), (86, .putfield 54), (89, .aload_n 0), (90, .getfield 25), (93, .aload_n 0), (94, .getfield 21), (97, .invokevirtual 57), (100, .return_)]
theorem k0_0 : dck c0 l0_0 := by unfold dck; decide +kernel
/-! 1: DawnPerquisite.sort(III)Z -/
abbrev c1 : ByteArray := prog_1_method_9_code
def l1_0 : List (Nat × Instr) := [(0, .iload_n 1), (1, .invokestatic 72), (4, .ifCond .eq 23), (7, .iload_n 2), (8, .iconst 0), (9, .bipush 9), (11, .invokestatic 68), (14, .ifCond .eq 13), (17, .iload_n 3), (18, .iconst 0), (19, .bipush 99), (21, .invokestatic 68), (24, .ifCond .ne 5), (27, .iconst 0), (28, .ireturn), (29, .aload_n 0), (30, .getfield 21), (33, .getfield 76), (36, .iload_n 1), (37, .iload_n 2), (38, .iastore), (39, .aload_n 0), (40, .getfield 21), (43, .getfield 79), (46, .iload_n 1), (47, .iload_n 3), (48, .iastore), (49, .iconst 1), (50, .ireturn)]
theorem k1_0 : dck c1 l1_0 := by unfold dck; decide +kernel
/-! 2: DawnPerquisite.isSort(I)Z -/
abbrev c2 : ByteArray := prog_1_method_7_code
def l2_0 : List (Nat × Instr) := [(0, .iload_n 0), (1, .iconst 0), (2, .iconst 4), (3, .invokestatic 68), (6, .ireturn)]
theorem k2_0 : dck c2 l2_0 := by unfold dck; decide +kernel
/-! 3: DawnPerquisite.in(III)Z -/
abbrev c3 : ByteArray := prog_1_method_1_code
def l3_0 : List (Nat × Instr) := [(0, .iload_n 0), (1, .iload_n 1), (2, .if_icmp .lt 12), (5, .iload_n 0), (6, .iload_n 2), (7, .if_icmp .gt 7), (10, .iconst 1), (11, .goto 4), (14, .iconst 0), (15, .ireturn)]
theorem k3_0 : dck c3 l3_0 := by unfold dck; decide +kernel
/-! 4: DawnPerquisite.buyer(IIII)I -/
abbrev c4 : ByteArray := prog_1_method_10_code
def l4_0 : List (Nat × Instr) := [(0, .aload_n 0), (1, .invokevirtual 64), (4, .istore 5), (6, .iload_n 1), (7, .iconst 0), (8, .bipush 31), (10, .invokestatic 68), (13, .ifCond .eq 38), (16, .iload_n 3), (17, .invokestatic 82), (20, .ifCond .eq 31), (23, .iload_n 2), (24, .iconst 0), (25, .iload_n 3), (26, .invokestatic 68), (29, .ifCond .eq 22), (32, .iload 4), (34, .iconst 0), (35, .sipush 999), (38, .invokestatic 68), (41, .ifCond .eq 10), (44, .iload 5), (46, .bipush 6), (48, .if_icmp .ne 5), (51, .iconst (-1)), (52, .ireturn), (53, .aload_n 0), (54, .getfield 21), (57, .getfield 85), (60, .iload 5), (62, .iload_n 1), (63, .iastore), (64, .aload_n 0), (65, .getfield 21), (68, .getfield 88), (71, .iload 5), (73, .iload_n 2), (74, .iastore), (75, .aload_n 0), (76, .getfield 21), (79, .getfield 91), (82, .iload 5), (84, .iload_n 3), (85, .iastore), (86, .aload_n 0), (87, .getfield 21), (90, .getfield 61), (93, .iconst 0), (94, .dup2), (95, .iaload), (96, .iconst 1), (97, .iadd), (98, .iastore), (99, .aload_n 0), (100, .getfield 21), (103, .bipush 16), (105, .iload 5), (107, .iadd), (108, .iload 4), (110, .invokevirtual 94)]
theorem k4_0 : dck c4 l4_0 := by unfold dck; decide +kernel
def l4_1 : List (Nat × Instr) := [(113, .iload 5), (115, .ireturn)]
theorem k4_1 : dck c4 l4_1 := by unfold dck; decide +kernel
/-! 5: DawnPerquisite.buyers()I -/
abbrev c5 : ByteArray := prog_1_method_5_code
def l5_0 : List (Nat × Instr) := [(0, .aload_n 0), (1, .getfield 21), (4, .getfield 61), (7, .iconst 0), (8, .iaload), (9, .ireturn)]
theorem k5_0 : dck c5 l5_0 := by unfold dck; decide +kernel
/-! 6: DawnPerquisite.isSlice(I)Z -/
abbrev c6 : ByteArray := prog_1_method_8_code
def l6_0 : List (Nat × Instr) := [(0, .iload_n 0), (1, .iconst 0), (2, .bipush 11), (4, .invokestatic 68), (7, .ireturn)]
theorem k6_0 : dck c6 l6_0 := by unfold dck; decide +kernel
/-! 7: DawnPerquisite.feed(IIIII)I -/
abbrev c7 : ByteArray := prog_1_method_12_code
def l7_0 : List (Nat × Instr) := [(0, .aload_n 0), (1, .getfield 98), (4, .bipush 20), (6, .iadd), (7, .sipush 300), (10, .if_icmp .le 5), (13, .iconst (-1)), (14, .ireturn), (15, .aload_n 0), (16, .iload_n 1), (17, .invokevirtual 101), (20, .aload_n 0), (21, .iload_n 2), (22, .invokevirtual 101), (25, .aload_n 0), (26, .iload_n 3), (27, .invokevirtual 101), (30, .aload_n 0), (31, .iload 4), (33, .invokevirtual 101), (36, .aload_n 0), (37, .iload 5), (39, .invokevirtual 101), (42, .aload_n 0), (43, .getfield 98), (46, .ireturn)]
theorem k7_0 : dck c7 l7_0 := by unfold dck; decide +kernel
/-! 8: DawnPerquisite.put(I)V -/
abbrev c8 : ByteArray := prog_1_method_11_code
def l8_0 : List (Nat × Instr) := [(0, .bipush 24), (2, .istore_n 2), (3, .iload_n 2), (4, .ifCond .lt 32), (7, .aload_n 0), (8, .getfield 28), (11, .aload_n 0), (12, .getfield 98), (15, .iload_n 1), (16, .iload_n 2), (17, .ishr), (18, .i2b), (19, .bastore), (20, .aload_n 0), (21, .dup), (22, .getfield 98), (25, .iconst 1), (26, .iadd), (27, .putfield 98), (30, .iinc 2 (-8)), (33, .goto (-30)), (36, .return_)]
theorem k8_0 : dck c8 l8_0 := by unfold dck; decide +kernel
/-! 9: DawnPerquisite.end(I)I -/
abbrev c9 : ByteArray := prog_1_method_13_code
def l9_0 : List (Nat × Instr) := [(0, .iload_n 1), (1, .iconst 0), (2, .aload_n 0), (3, .getfield 98), (6, .invokestatic 68), (9, .ifCond .ne 5), (12, .iconst (-1)), (13, .ireturn), (14, .aload_n 0), (15, .iload_n 1), (16, .putfield 98), (19, .iload_n 1), (20, .ireturn)]
theorem k9_0 : dck c9 l9_0 := by unfold dck; decide +kernel
/-! 10: DawnPerquisite.text()I -/
abbrev c10 : ByteArray := prog_1_method_14_code
def l10_0 : List (Nat × Instr) := [(0, .aload_n 0), (1, .getfield 21), (4, .getfield 61), (7, .iconst 1), (8, .iaload), (9, .iconst 4), (10, .if_icmp .ne 5), (13, .iconst (-1)), (14, .ireturn), (15, .aload_n 0), (16, .getfield 98), (19, .istore_n 1), (20, .aload_n 0), (21, .iconst 0), (22, .putfield 32), (25, .aload_n 0), (26, .iconst (-1)), (27, .putfield 36), (30, .aload_n 0), (31, .getfield 21), (34, .getfield 105), (37, .aload_n 0), (38, .getfield 21), (41, .getfield 61), (44, .iconst 1), (45, .iaload), (46, .new 109), (49, .dup), (50, .aload_n 0), (51, .getfield 28), (54, .iload_n 1), (55, .invokespecial 111), (58, .invokevirtual 114), (61, .aastore), (62, .aload_n 0), (63, .iconst 0), (64, .putfield 98), (67, .goto 39), (70, .astore_n 2), (71, .aload_n 0), (72, .aload_n 2), (73, .getfield 120), (76, .putfield 32), (79, .aload_n 0), (80, .aload_n 2), (81, .getfield 121), (84, .putfield 36), (87, .iconst (-1)), (88, .istore_n 3), (89, .aload_n 0), (90, .iconst 0), (91, .putfield 98), (94, .iload_n 3), (95, .ireturn), (96, .astore 4), (98, .aload_n 0), (99, .iconst 0), (100, .putfield 98), (103, .aload 4), (105, .athrow)]
theorem k10_0 : dck c10 l10_0 := by unfold dck; decide +kernel
def l10_1 : List (Nat × Instr) := [(106, .aload_n 0), (107, .getfield 21), (110, .getfield 61), (113, .iconst 1), (114, .dup2), (115, .iaload), (116, .iconst 1), (117, .iadd), (118, .iastore), (119, .aload_n 0), (120, .getfield 21), (123, .getfield 61), (126, .iconst 1), (127, .iaload), (128, .iconst 1), (129, .isub), (130, .ireturn)]
theorem k10_1 : dck c10 l10_1 := by unfold dck; decide +kernel
/-! 11: DawnPerquisite.fault(I)I -/
abbrev c11 : ByteArray := prog_1_method_15_code
def l11_0 : List (Nat × Instr) := [(0, .iload_n 1), (1, .ifCond .ne 10), (4, .aload_n 0), (5, .getfield 32), (8, .goto 16), (11, .iload_n 1), (12, .iconst 1), (13, .if_icmp .ne 10), (16, .aload_n 0), (17, .getfield 36), (20, .goto 4), (23, .iconst (-1)), (24, .ireturn)]
theorem k11_0 : dck c11 l11_0 := by unfold dck; decide +kernel
/-! 12: DawnPerquisite.by(I)Z -/
abbrev c12 : ByteArray := prog_1_method_17_code
def l12_0 : List (Nat × Instr) := [(0, .iload_n 1), (1, .iconst (-1)), (2, .if_icmp .eq 13), (5, .aload_n 0), (6, .iload_n 1), (7, .invokevirtual 124), (10, .ifCond .ne 5), (13, .iconst 0), (14, .ireturn), (15, .aload_n 0), (16, .getfield 21), (19, .getfield 61), (22, .iconst 2), (23, .iload_n 1), (24, .iastore), (25, .iconst 1), (26, .ireturn)]
theorem k12_0 : dck c12 l12_0 := by unfold dck; decide +kernel
/-! 13: DawnPerquisite.isText(I)Z -/
abbrev c13 : ByteArray := prog_1_method_16_code
def l13_0 : List (Nat × Instr) := [(0, .iload_n 1), (1, .iconst 0), (2, .aload_n 0), (3, .getfield 21), (6, .getfield 61), (9, .iconst 1), (10, .iaload), (11, .iconst 1), (12, .isub), (13, .invokestatic 68), (16, .ireturn)]
theorem k13_0 : dck c13 l13_0 := by unfold dck; decide +kernel
/-! 14: DawnPerquisite.sell(I)I -/
abbrev c14 : ByteArray := prog_1_method_34_code
def l14_0 : List (Nat × Instr) := [(0, .aload_n 0), (1, .iload_n 1), (2, .invokevirtual 209), (5, .ifCond .ne 5), (8, .iconst (-1)), (9, .ireturn), (10, .aload_n 0), (11, .getfield 21), (14, .invokevirtual 212), (17, .aload_n 0), (18, .iload_n 1), (19, .invokevirtual 215), (22, .ireturn)]
theorem k14_0 : dck c14 l14_0 := by unfold dck; decide +kernel
/-! 15: DawnPerquisite.canSell(I)Z -/
abbrev c15 : ByteArray := prog_1_method_28_code
def l15_0 : List (Nat × Instr) := [(0, .aload_n 0), (1, .iload_n 1), (2, .invokevirtual 184), (5, .ifCond .eq 75), (8, .aload_n 0), (9, .iload_n 1), (10, .aload_n 0), (11, .getfield 21), (14, .getfield 173), (17, .iconst 3), (18, .iaload), (19, .invokevirtual 187), (22, .ifCond .eq 58), (25, .aload_n 0), (26, .iload_n 1), (27, .invokevirtual 190), (30, .aload_n 0), (31, .getfield 21), (34, .getfield 173), (37, .iconst (-1)), (38, .invokestatic 135), (41, .iconst (-1)), (42, .ixor), (43, .iand), (44, .ifCond .ne 36), (47, .aload_n 0), (48, .getfield 21), (51, .getfield 173), (54, .bipush 16), (56, .iload_n 1), (57, .iadd), (58, .iaload), (59, .aload_n 0), (60, .iload_n 1), (61, .aload_n 0), (62, .getfield 21), (65, .getfield 173), (68, .iconst 3), (69, .iaload), (70, .invokevirtual 193), (73, .if_icmp .lt 7), (76, .iconst 1), (77, .goto 4), (80, .iconst 0), (81, .ireturn)]
theorem k15_0 : dck c15 l15_0 := by unfold dck; decide +kernel
/-! 16: DawnPerquisite.isBuyer(I)Z -/
abbrev c16 : ByteArray := prog_1_method_6_code
def l16_0 : List (Nat × Instr) := [(0, .iload_n 1), (1, .iconst 0), (2, .aload_n 0), (3, .invokevirtual 64), (6, .iconst 1), (7, .isub), (8, .invokestatic 68), (11, .ireturn)]
theorem k16_0 : dck c16 l16_0 := by unfold dck; decide +kernel
/-! 17: DawnPerquisite.doesWant(II)Z -/
abbrev c17 : ByteArray := prog_1_method_27_code
def l17_0 : List (Nat × Instr) := [(0, .aload_n 0), (1, .getfield 21), (4, .getfield 85), (7, .iload_n 1), (8, .iaload), (9, .iload_n 2), (10, .invokestatic 180), (13, .ireturn)]
theorem k17_0 : dck c17 l17_0 := by unfold dck; decide +kernel
/-! 18: DawnPerquisite.has(II)Z -/
abbrev c18 : ByteArray := prog_1_method_2_code
def l18_0 : List (Nat × Instr) := [(0, .iload_n 0), (1, .iload_n 1), (2, .ishr), (3, .iconst 1), (4, .iand), (5, .iconst 1), (6, .if_icmp .ne 7), (9, .iconst 1), (10, .goto 4), (13, .iconst 0), (14, .ireturn)]
theorem k18_0 : dck c18 l18_0 := by unfold dck; decide +kernel
/-! 19: DawnPerquisite.slicesOf(I)I -/
abbrev c19 : ByteArray := prog_1_method_21_code
def l19_0 : List (Nat × Instr) := [(0, .iconst 2), (1, .aload_n 0), (2, .getfield 21), (5, .getfield 91), (8, .iload_n 1), (9, .iaload), (10, .ishl), (11, .iconst 1), (12, .aload_n 0), (13, .getfield 21), (16, .getfield 88), (19, .iload_n 1), (20, .iaload), (21, .ishl), (22, .isub), (23, .ireturn)]
theorem k19_0 : dck c19 l19_0 := by unfold dck; decide +kernel
/-! 20: DawnPerquisite.slicesBy([II)I -/
abbrev c20 : ByteArray := prog_1_method_19_code
def l20_0 : List (Nat × Instr) := [(0, .iconst 0), (1, .istore_n 2), (2, .iconst 0), (3, .istore_n 3), (4, .iload_n 3), (5, .bipush 12), (7, .if_icmp .ge 28), (10, .iload_n 2), (11, .aload_n 0), (12, .iconst 4), (13, .iload_n 3), (14, .iadd), (15, .iaload), (16, .iload_n 1), (17, .if_icmp .ne 9), (20, .iconst 1), (21, .iload_n 3), (22, .ishl), (23, .goto 4), (26, .iconst 0), (27, .ior), (28, .istore_n 2), (29, .iinc 3 1), (32, .goto (-28)), (35, .iload_n 2), (36, .ireturn)]
theorem k20_0 : dck c20 l20_0 := by unfold dck; decide +kernel
/-! 21: DawnPerquisite.bidsNow(II)I -/
abbrev c21 : ByteArray := prog_1_method_24_code
def l21_0 : List (Nat × Instr) := [(0, .aload_n 0), (1, .aload_n 0), (2, .invokevirtual 170), (5, .aload_n 0), (6, .getfield 21), (9, .getfield 173), (12, .iload_n 1), (13, .iload_n 2), (14, .invokevirtual 176), (17, .ireturn)]
theorem k21_0 : dck c21 l21_0 := by unfold dck; decide +kernel
/-! 22: DawnPerquisite.rules()LDawnPerquisite$Text; -/
abbrev c22 : ByteArray := prog_1_method_18_code
def l22_0 : List (Nat × Instr) := [(0, .aload_n 0), (1, .getfield 21), (4, .getfield 61), (7, .iconst 2), (8, .iaload), (9, .iconst (-1)), (10, .if_icmp .ne 9), (13, .getstatic 127), (16, .goto 20), (19, .aload_n 0), (20, .getfield 21), (23, .getfield 105), (26, .aload_n 0), (27, .getfield 21), (30, .getfield 61), (33, .iconst 2), (34, .iaload), (35, .aaload), (36, .areturn)]
theorem k22_0 : dck c22 l22_0 := by unfold dck; decide +kernel
/-! 23: DawnPerquisite.bidsBy(LDawnPerquisite$Text;[III)I -/
abbrev c23 : ByteArray := prog_1_method_23_code
def l23_0 : List (Nat × Instr) := [(0, .aload_n 0), (1, .aload_n 2), (2, .iload_n 3), (3, .iload 4), (5, .invokevirtual 150), (8, .aload_n 1), (9, .getfield 154), (12, .iconst 0), (13, .aaload), (14, .ifnonnull 27), (17, .aload_n 0), (18, .getfield 21), (21, .getfield 79), (24, .iload 4), (26, .iaload), (27, .aload_n 0), (28, .getfield 39), (31, .iconst 3), (32, .iaload), (33, .imul), (34, .bipush 12), (36, .idiv), (37, .i2l), (38, .goto 18), (41, .aload_n 1), (42, .getfield 154), (45, .iconst 0), (46, .aaload), (47, .aload_n 0), (48, .getfield 39), (51, .invokeinterface 160 2), (56, .iconst 0), (57, .bipush 99), (59, .invokestatic 166), (62, .ireturn)]
theorem k23_0 : dck c23 l23_0 := by unfold dck; decide +kernel
/-! 24: DawnPerquisite.namesOf([III)V -/
abbrev c24 : ByteArray := prog_1_method_22_code
def l24_0 : List (Nat × Instr) := [(0, .aload_n 0), (1, .getfield 39), (4, .iconst 0), (5, .aload_n 1), (6, .iconst 0), (7, .iaload), (8, .iastore), (9, .aload_n 0), (10, .getfield 39), (13, .iconst 1), (14, .iload_n 2), (15, .iastore), (16, .aload_n 0), (17, .getfield 39), (20, .iconst 2), (21, .iload_n 3), (22, .iastore), (23, .aload_n 0), (24, .getfield 39), (27, .iconst 3), (28, .aload_n 0), (29, .iload_n 2), (30, .invokevirtual 131), (33, .iastore), (34, .aload_n 0), (35, .getfield 39), (38, .iconst 4), (39, .aload_n 1), (40, .bipush 16), (42, .iload_n 2), (43, .iadd), (44, .iaload), (45, .iastore), (46, .aload_n 0), (47, .getfield 39), (50, .iconst 5), (51, .aload_n 1), (52, .iconst (-1)), (53, .invokestatic 135), (56, .invokestatic 139), (59, .iastore), (60, .aload_n 0), (61, .getfield 39), (64, .bipush 6), (66, .aload_n 0), (67, .getfield 21), (70, .getfield 85), (73, .iload_n 2), (74, .iaload), (75, .iload_n 3), (76, .ishr), (77, .iconst 1), (78, .iand), (79, .iastore), (80, .aload_n 0), (81, .getfield 39), (84, .bipush 7), (86, .aload_n 1), (87, .iload_n 2), (88, .invokestatic 135)]
theorem k24_0 : dck c24 l24_0 := by unfold dck; decide +kernel
def l24_1 : List (Nat × Instr) := [(91, .invokestatic 139), (94, .iastore), (95, .aload_n 0), (96, .getfield 21), (99, .getfield 79), (102, .iconst 0), (103, .aload_n 0), (104, .getfield 39), (107, .bipush 8), (109, .iconst 5), (110, .invokestatic 144), (113, .iconst 0), (114, .istore 4), (116, .iload 4), (118, .bipush 6), (120, .if_icmp .ge 39), (123, .aload_n 0), (124, .getfield 39), (127, .bipush 13), (129, .iload 4), (131, .iadd), (132, .iload 4), (134, .aload_n 0), (135, .invokevirtual 64), (138, .if_icmp .ge 13), (141, .aload_n 1), (142, .bipush 16), (144, .iload 4), (146, .iadd), (147, .iaload), (148, .goto 4), (151, .iconst 0), (152, .iastore), (153, .iinc 4 1), (156, .goto (-40)), (159, .return_)]
theorem k24_1 : dck c24 l24_1 := by unfold dck; decide +kernel
/-! 25: DawnPerquisite.longOf(I)I -/
abbrev c25 : ByteArray := prog_1_method_20_code
def l25_0 : List (Nat × Instr) := [(0, .aload_n 0), (1, .getfield 21), (4, .getfield 91), (7, .iload_n 1), (8, .iaload), (9, .aload_n 0), (10, .getfield 21), (13, .getfield 88), (16, .iload_n 1), (17, .iaload), (18, .isub), (19, .iconst 1), (20, .iadd), (21, .ireturn)]
theorem k25_0 : dck c25 l25_0 := by unfold dck; decide +kernel
/-! 26: DawnPerquisite.held(JII)I -/
abbrev c26 : ByteArray := prog_1_method_3_code
def l26_0 : List (Nat × Instr) := [(0, .iload_n 2), (1, .i2l), (2, .iload_n 3), (3, .i2l), (4, .lload_n 0), (5, .invokestatic 3), (8, .invokestatic 9), (11, .l2i), (12, .ireturn)]
theorem k26_0 : dck c26 l26_0 := by unfold dck; decide +kernel
/-! 27: DawnPerquisite.sells(I)I -/
abbrev c27 : ByteArray := prog_1_method_29_code
def l27_0 : List (Nat × Instr) := [(0, .aload_n 0), (1, .iload_n 1), (2, .aload_n 0), (3, .getfield 21), (6, .getfield 173), (9, .iconst 3), (10, .iaload), (11, .invokevirtual 193), (14, .istore_n 2), (15, .aload_n 0), (16, .getfield 21), (19, .getfield 173), (22, .iconst 4), (23, .aload_n 0), (24, .getfield 21), (27, .getfield 88), (30, .iload_n 1), (31, .iaload), (32, .iadd), (33, .iconst 4), (34, .aload_n 0), (35, .getfield 21), (38, .getfield 91), (41, .iload_n 1), (42, .iaload), (43, .iadd), (44, .iconst 1), (45, .iadd), (46, .iload_n 1), (47, .invokestatic 197), (50, .aload_n 0), (51, .getfield 21), (54, .getfield 173), (57, .bipush 16), (59, .iload_n 1), (60, .iadd), (61, .dup2), (62, .iaload), (63, .iload_n 2), (64, .isub), (65, .iastore), (66, .aload_n 0), (67, .getfield 21), (70, .getfield 173), (73, .iconst 2), (74, .ldc 203), (76, .aload_n 0), (77, .getfield 21), (80, .getfield 173), (83, .iconst 2), (84, .iaload), (85, .iload_n 2), (86, .iadd), (87, .invokestatic 204), (90, .iastore), (91, .aload_n 0), (92, .getfield 21), (95, .getfield 173), (98, .iconst 0), (99, .iload_n 1)]
theorem k27_0 : dck c27 l27_0 := by unfold dck; decide +kernel
def l27_1 : List (Nat × Instr) := [(100, .iload_n 2), (101, .invokestatic 206), (104, .iload_n 2), (105, .ireturn)]
theorem k27_1 : dck c27 l27_1 := by unfold dck; decide +kernel
/-! 28: DawnPerquisite.writes([IIII)V -/
abbrev c28 : ByteArray := prog_1_method_26_code
def l28_0 : List (Nat × Instr) := [(0, .aload_n 0), (1, .bipush 22), (3, .iaload), (4, .bipush 25), (6, .if_icmp .ne 22), (9, .aload_n 0), (10, .bipush 27), (12, .aload_n 0), (13, .bipush 23), (15, .bipush 96), (17, .invokestatic 144), (20, .aload_n 0), (21, .bipush 22), (23, .dup2), (24, .iaload), (25, .iconst 1), (26, .isub), (27, .iastore), (28, .bipush 23), (30, .iconst 4), (31, .aload_n 0), (32, .bipush 22), (34, .iaload), (35, .imul), (36, .iadd), (37, .istore 4), (39, .aload_n 0), (40, .iload 4), (42, .aload_n 0), (43, .iconst 0), (44, .iaload), (45, .iastore), (46, .aload_n 0), (47, .iload 4), (49, .iconst 1), (50, .iadd), (51, .iload_n 1), (52, .iastore), (53, .aload_n 0), (54, .iload 4), (56, .iconst 2), (57, .iadd), (58, .iload_n 2), (59, .iastore), (60, .aload_n 0), (61, .iload 4), (63, .iconst 3), (64, .iadd), (65, .iload_n 3), (66, .iastore), (67, .aload_n 0), (68, .bipush 22), (70, .dup2), (71, .iaload), (72, .iconst 1), (73, .iadd), (74, .iastore), (75, .return_)]
theorem k28_0 : dck c28 l28_0 := by unfold dck; decide +kernel
/-! 29: DawnPerquisite.give(I)Z -/
abbrev c29 : ByteArray := prog_1_method_35_code
def l29_0 : List (Nat × Instr) := [(0, .aload_n 0), (1, .iload_n 1), (2, .invokevirtual 218), (5, .ifCond .ne 5), (8, .iconst 0), (9, .ireturn), (10, .aload_n 0), (11, .getfield 21), (14, .invokevirtual 212), (17, .aload_n 0), (18, .iload_n 1), (19, .invokevirtual 221), (22, .iconst 1), (23, .ireturn)]
theorem k29_0 : dck c29 l29_0 := by unfold dck; decide +kernel
/-! 30: DawnPerquisite.canGive(I)Z -/
abbrev c30 : ByteArray := prog_1_method_30_code
def l30_0 : List (Nat × Instr) := [(0, .iload_n 1), (1, .invokestatic 82), (4, .ifCond .eq 22), (7, .aload_n 0), (8, .getfield 21), (11, .getfield 173), (14, .iconst 4), (15, .iload_n 1), (16, .iadd), (17, .iaload), (18, .iconst (-1)), (19, .if_icmp .ne 7), (22, .iconst 1), (23, .goto 4), (26, .iconst 0), (27, .ireturn)]
theorem k30_0 : dck c30 l30_0 := by unfold dck; decide +kernel
/-! 31: DawnPerquisite.gives(I)V -/
abbrev c31 : ByteArray := prog_1_method_31_code
def l31_0 : List (Nat × Instr) := [(0, .aload_n 0), (1, .getfield 21), (4, .getfield 173), (7, .iconst 4), (8, .iload_n 1), (9, .iadd), (10, .bipush 6), (12, .iastore), (13, .aload_n 0), (14, .getfield 21), (17, .getfield 173), (20, .iconst 1), (21, .iload_n 1), (22, .iconst 0), (23, .invokestatic 206), (26, .return_)]
theorem k31_0 : dck c31 l31_0 := by unfold dck; decide +kernel
/-! 32: DawnPerquisite.turn(I)Z -/
abbrev c32 : ByteArray := prog_1_method_36_code
def l32_0 : List (Nat × Instr) := [(0, .aload_n 0), (1, .iload_n 1), (2, .invokevirtual 224), (5, .ifCond .ne 5), (8, .iconst 0), (9, .ireturn), (10, .aload_n 0), (11, .getfield 21), (14, .invokevirtual 212), (17, .aload_n 0), (18, .iload_n 1), (19, .invokevirtual 227), (22, .iconst 1), (23, .ireturn)]
theorem k32_0 : dck c32 l32_0 := by unfold dck; decide +kernel
/-! 33: DawnPerquisite.canTurn(I)Z -/
abbrev c33 : ByteArray := prog_1_method_32_code
def l33_0 : List (Nat × Instr) := [(0, .aload_n 0), (1, .iload_n 1), (2, .invokevirtual 184), (5, .ifCond .eq 21), (8, .aload_n 0), (9, .getfield 21), (12, .getfield 173), (15, .iload_n 1), (16, .invokestatic 135), (19, .ifCond .eq 7), (22, .iconst 1), (23, .goto 4), (26, .iconst 0), (27, .ireturn)]
theorem k33_0 : dck c33 l33_0 := by unfold dck; decide +kernel
/-! 34: DawnPerquisite.turns(I)V -/
abbrev c34 : ByteArray := prog_1_method_33_code
def l34_0 : List (Nat × Instr) := [(0, .iconst 0), (1, .istore_n 2), (2, .iload_n 2), (3, .bipush 12), (5, .if_icmp .ge 36), (8, .aload_n 0), (9, .getfield 21), (12, .getfield 173), (15, .iconst 4), (16, .iload_n 2), (17, .iadd), (18, .iaload), (19, .iload_n 1), (20, .if_icmp .ne 15), (23, .aload_n 0), (24, .getfield 21), (27, .getfield 173), (30, .iconst 4), (31, .iload_n 2), (32, .iadd), (33, .iconst (-1)), (34, .iastore), (35, .iinc 2 1), (38, .goto (-36)), (41, .aload_n 0), (42, .getfield 21), (45, .getfield 173), (48, .iconst 2), (49, .iload_n 1), (50, .iconst 0), (51, .invokestatic 206), (54, .return_)]
theorem k34_0 : dck c34 l34_0 := by unfold dck; decide +kernel
/-! 35: DawnPerquisite.pass(II)I -/
abbrev c35 : ByteArray := prog_1_method_39_code
def l35_0 : List (Nat × Instr) := [(0, .aload_n 0), (1, .iload_n 1), (2, .iload_n 2), (3, .invokevirtual 233), (6, .ifCond .ne 5), (9, .iconst (-1)), (10, .ireturn), (11, .aload_n 0), (12, .iload_n 1), (13, .iload_n 2), (14, .invokevirtual 230), (17, .istore_n 3), (18, .aload_n 0), (19, .getfield 21), (22, .invokevirtual 212), (25, .iconst 0), (26, .istore 4), (28, .iload 4), (30, .bipush 12), (32, .if_icmp .ge 38), (35, .aload_n 0), (36, .getfield 21), (39, .getfield 173), (42, .iconst 4), (43, .iload 4), (45, .iadd), (46, .iaload), (47, .iload_n 1), (48, .if_icmp .ne 16), (51, .aload_n 0), (52, .getfield 21), (55, .getfield 173), (58, .iconst 4), (59, .iload 4), (61, .iadd), (62, .iload_n 2), (63, .iastore), (64, .iinc 4 1), (67, .goto (-39)), (70, .aload_n 0), (71, .getfield 21), (74, .getfield 173), (77, .bipush 16), (79, .iload_n 2), (80, .iadd), (81, .dup2), (82, .iaload), (83, .iload_n 3), (84, .isub), (85, .iastore), (86, .aload_n 0), (87, .getfield 21), (90, .getfield 173), (93, .bipush 16), (95, .iload_n 1), (96, .iadd), (97, .sipush 999), (100, .aload_n 0), (101, .getfield 21), (104, .getfield 173)]
theorem k35_0 : dck c35 l35_0 := by unfold dck; decide +kernel
def l35_1 : List (Nat × Instr) := [(107, .bipush 16), (109, .iload_n 1), (110, .iadd), (111, .iaload), (112, .iload_n 3), (113, .iadd), (114, .invokestatic 204), (117, .iastore), (118, .aload_n 0), (119, .getfield 21), (122, .getfield 173), (125, .iconst 4), (126, .iload_n 2), (127, .iload_n 3), (128, .invokestatic 206), (131, .iload_n 3), (132, .ireturn)]
theorem k35_1 : dck c35 l35_1 := by unfold dck; decide +kernel
/-! 36: DawnPerquisite.canPass(II)Z -/
abbrev c36 : ByteArray := prog_1_method_38_code
def l36_0 : List (Nat × Instr) := [(0, .aload_n 0), (1, .iload_n 1), (2, .invokevirtual 224), (5, .ifCond .eq 42), (8, .aload_n 0), (9, .iload_n 2), (10, .invokevirtual 184), (13, .ifCond .eq 34), (16, .aload_n 0), (17, .getfield 21), (20, .getfield 173), (23, .iload_n 2), (24, .invokestatic 135), (27, .ifCond .ne 20), (30, .aload_n 0), (31, .iload_n 2), (32, .aload_n 0), (33, .getfield 21), (36, .getfield 173), (39, .iconst 3), (40, .iaload), (41, .invokevirtual 187), (44, .ifCond .ne 5), (47, .iconst 0), (48, .ireturn), (49, .aload_n 0), (50, .getfield 21), (53, .getfield 173), (56, .iload_n 1), (57, .invokestatic 135), (60, .aload_n 0), (61, .iload_n 2), (62, .invokevirtual 190), (65, .iconst (-1)), (66, .ixor), (67, .iand), (68, .ifCond .ne 7), (71, .iconst 1), (72, .goto 4), (75, .iconst 0), (76, .istore_n 3), (77, .iload_n 3), (78, .ifCond .eq 59), (81, .aload_n 0), (82, .iload_n 2), (83, .aload_n 0), (84, .getfield 21), (87, .getfield 173), (90, .iconst 3), (91, .iaload), (92, .invokevirtual 193), (95, .aload_n 0), (96, .iload_n 1), (97, .aload_n 0), (98, .getfield 21), (101, .getfield 173), (104, .iconst 3), (105, .iaload), (106, .invokevirtual 193), (109, .if_icmp .le 28)]
theorem k36_0 : dck c36 l36_0 := by unfold dck; decide +kernel
def l36_1 : List (Nat × Instr) := [(112, .aload_n 0), (113, .getfield 21), (116, .getfield 173), (119, .bipush 16), (121, .iload_n 2), (122, .iadd), (123, .iaload), (124, .aload_n 0), (125, .iload_n 1), (126, .iload_n 2), (127, .invokevirtual 230), (130, .if_icmp .lt 7), (133, .iconst 1), (134, .goto 4), (137, .iconst 0), (138, .ireturn)]
theorem k36_1 : dck c36 l36_1 := by unfold dck; decide +kernel
/-! 37: DawnPerquisite.priceOf(II)I -/
abbrev c37 : ByteArray := prog_1_method_37_code
def l37_0 : List (Nat × Instr) := [(0, .aload_n 0), (1, .iload_n 1), (2, .aload_n 0), (3, .getfield 21), (6, .getfield 173), (9, .iconst 3), (10, .iaload), (11, .invokevirtual 193), (14, .aload_n 0), (15, .iload_n 2), (16, .aload_n 0), (17, .getfield 21), (20, .getfield 173), (23, .iconst 3), (24, .iaload), (25, .invokevirtual 193), (28, .iadd), (29, .iconst 2), (30, .idiv), (31, .ireturn)]
theorem k37_0 : dck c37 l37_0 := by unfold dck; decide +kernel
/-! 38: DawnPerquisite.day(I)I -/
abbrev c38 : ByteArray := prog_1_method_46_code
def l38_0 : List (Nat × Instr) := [(0, .iload_n 1), (1, .iconst 1), (2, .bipush 60), (4, .invokestatic 68), (7, .ifCond .eq 20), (10, .aload_n 0), (11, .getfield 21), (14, .getfield 173), (17, .iconst 0), (18, .iaload), (19, .iload_n 1), (20, .iadd), (21, .sipush 9999), (24, .if_icmp .le 5), (27, .iconst (-1)), (28, .ireturn), (29, .iconst 0), (30, .istore_n 2), (31, .iconst 0), (32, .istore_n 3), (33, .iload_n 3), (34, .iload_n 1), (35, .if_icmp .ge 28), (38, .aload_n 0), (39, .getfield 21), (42, .invokevirtual 212), (45, .aload_n 0), (46, .aload_n 0), (47, .getfield 21), (50, .getfield 173), (53, .invokevirtual 253), (56, .istore_n 2), (57, .iinc 3 1), (60, .goto (-27)), (63, .iload_n 2), (64, .ireturn)]
theorem k38_0 : dck c38 l38_0 := by unfold dck; decide +kernel
/-! 39: DawnPerquisite.passes([I)I -/
abbrev c39 : ByteArray := prog_1_method_45_code
def l39_0 : List (Nat × Instr) := [(0, .iconst 0), (1, .istore_n 2), (2, .iload_n 2), (3, .aload_n 0), (4, .invokevirtual 64), (7, .if_icmp .ge 36), (10, .aload_n 1), (11, .bipush 16), (13, .iload_n 2), (14, .iadd), (15, .aload_n 1), (16, .bipush 16), (18, .iload_n 2), (19, .iadd), (20, .iaload), (21, .aload_n 0), (22, .aload_n 1), (23, .iload_n 2), (24, .invokevirtual 244), (27, .iadd), (28, .i2l), (29, .iconst 0), (30, .sipush 999), (33, .invokestatic 166), (36, .iastore), (37, .iinc 2 1), (40, .goto (-38)), (43, .aload_n 1), (44, .iconst 4), (45, .bipush 16), (47, .iconst (-1)), (48, .invokestatic 197), (51, .aload_n 1), (52, .iconst 3), (53, .aload_n 0), (54, .invokevirtual 236), (57, .ifCond .le 18), (60, .aload_n 0), (61, .aload_n 1), (62, .aload_n 0), (63, .invokevirtual 236), (66, .invokestatic 247), (69, .invokevirtual 250), (72, .goto 4), (75, .iconst 0), (76, .iastore), (77, .aload_n 1), (78, .iconst 0), (79, .dup2), (80, .iaload), (81, .iconst 1), (82, .iadd), (83, .iastore), (84, .aload_n 1), (85, .iconst 3), (86, .aload_n 1), (87, .iconst 3), (88, .iaload), (89, .iconst 0), (90, .invokestatic 206)]
theorem k39_0 : dck c39 l39_0 := by unfold dck; decide +kernel
def l39_1 : List (Nat × Instr) := [(93, .aload_n 1), (94, .iconst 3), (95, .iaload), (96, .ireturn)]
theorem k39_1 : dck c39 l39_1 := by unfold dck; decide +kernel
/-! 40: DawnPerquisite.earnsOf([II)I -/
abbrev c40 : ByteArray := prog_1_method_25_code
def l40_0 : List (Nat × Instr) := [(0, .aload_n 0), (1, .aload_n 1), (2, .iload_n 2), (3, .aload_n 1), (4, .iconst 3), (5, .iaload), (6, .invokevirtual 150), (9, .aload_n 0), (10, .invokevirtual 170), (13, .getfield 154), (16, .iconst 1), (17, .aaload), (18, .ifnonnull 7), (21, .lconst 1), (22, .goto 21), (25, .aload_n 0), (26, .invokevirtual 170), (29, .getfield 154), (32, .iconst 1), (33, .aaload), (34, .aload_n 0), (35, .getfield 39), (38, .invokeinterface 160 2), (43, .bipush (-9)), (45, .bipush 9), (47, .invokestatic 166), (50, .ireturn)]
theorem k40_0 : dck c40 l40_0 := by unfold dck; decide +kernel
/-! 41: DawnPerquisite.toldOdds()I -/
abbrev c41 : ByteArray := prog_1_method_41_code
def l41_0 : List (Nat × Instr) := [(0, .iconst 0), (1, .istore_n 1), (2, .iconst 0), (3, .istore_n 2), (4, .iload_n 2), (5, .iconst 5), (6, .if_icmp .ge 21), (9, .iload_n 1), (10, .aload_n 0), (11, .getfield 21), (14, .getfield 76), (17, .iload_n 2), (18, .iaload), (19, .iadd), (20, .istore_n 1), (21, .iinc 2 1), (24, .goto (-20)), (27, .iload_n 1), (28, .ireturn)]
theorem k41_0 : dck c41 l41_0 := by unfold dck; decide +kernel
/-! 42: DawnPerquisite.drawn([II)I -/
abbrev c42 : ByteArray := prog_1_method_40_code
def l42_0 : List (Nat × Instr) := [(0, .aload_n 0), (1, .iconst 1), (2, .iaload), (3, .iload_n 1), (4, .irem), (5, .istore_n 2), (6, .aload_n 0), (7, .iconst 1), (8, .aload_n 0), (9, .iconst 1), (10, .iaload), (11, .sipush 719), (14, .imul), (15, .sipush 587), (18, .iadd), (19, .sipush 31039), (22, .irem), (23, .iastore), (24, .iload_n 2), (25, .ireturn)]
theorem k42_0 : dck c42 l42_0 := by unfold dck; decide +kernel
/-! 43: DawnPerquisite.sortBy(I)I -/
abbrev c43 : ByteArray := prog_1_method_44_code
def l43_0 : List (Nat × Instr) := [(0, .iload_n 1), (1, .istore_n 2), (2, .iconst 0), (3, .istore_n 3), (4, .iload_n 2), (5, .aload_n 0), (6, .iload_n 3), (7, .invokevirtual 241), (10, .if_icmp .lt 17), (13, .iload_n 2), (14, .aload_n 0), (15, .iload_n 3), (16, .invokevirtual 241), (19, .isub), (20, .istore_n 2), (21, .iinc 3 1), (24, .goto (-20)), (27, .iload_n 3), (28, .ireturn)]
theorem k43_0 : dck c43 l43_0 := by unfold dck; decide +kernel
/-! 44: DawnPerquisite.oddsOf(I)I -/
abbrev c44 : ByteArray := prog_1_method_42_code
def l44_0 : List (Nat × Instr) := [(0, .aload_n 0), (1, .invokevirtual 236), (4, .ifCond .le 15), (7, .aload_n 0), (8, .getfield 21), (11, .getfield 76), (14, .iload_n 1), (15, .iaload), (16, .goto 12), (19, .iload_n 1), (20, .ifCond .ne 7), (23, .iconst 1), (24, .goto 4), (27, .iconst 0), (28, .ireturn)]
theorem k44_0 : dck c44 l44_0 := by unfold dck; decide +kernel
/-! 45: DawnPerquisite.played(I)I -/
abbrev c45 : ByteArray := prog_1_method_49_code
def l45_0 : List (Nat × Instr) := [(0, .aload_n 0), (1, .iload_n 1), (2, .invokevirtual 124), (5, .ifCond .ne 6), (8, .bipush (-2)), (10, .ireturn), (11, .aload_n 0), (12, .getfield 21), (15, .getfield 105), (18, .iload_n 1), (19, .aaload), (20, .getfield 289), (23, .astore_n 2), (24, .iconst 0), (25, .istore_n 3), (26, .iload_n 3), (27, .aload_n 2), (28, .invokevirtual 293), (31, .if_icmp .ge 36), (34, .aload_n 0), (35, .aload_n 2), (36, .iload_n 3), (37, .invokevirtual 298), (40, .checkcast 261), (43, .invokevirtual 302), (46, .ifCond .ne 15), (49, .aload_n 2), (50, .iload_n 3), (51, .invokevirtual 298), (54, .checkcast 261), (57, .invokevirtual 306), (60, .ireturn), (61, .iinc 3 1), (64, .goto (-38)), (67, .iconst (-1)), (68, .ireturn)]
theorem k45_0 : dck c45 l45_0 := by unfold dck; decide +kernel
/-! 46: DawnPerquisite.does(LDawnPerquisite$Doing;)Z -/
abbrev c46 : ByteArray := prog_1_method_48_code
def l46_0 : List (Nat × Instr) := [(0, .aload_n 1), (1, .invokevirtual 260), (40, .aload_n 0), (41, .bipush 31), (43, .aload_n 1), (44, .invokevirtual 265), (47, .aload_n 1), (48, .invokevirtual 268), (51, .bipush 50), (53, .invokevirtual 271), (56, .iconst (-1)), (57, .if_icmp .eq 7), (60, .iconst 1), (61, .goto 4), (64, .iconst 0), (65, .ireturn), (66, .aload_n 0), (67, .aload_n 1), (68, .invokevirtual 265), (71, .aload_n 1), (72, .invokevirtual 268), (75, .aload_n 0), (76, .getfield 21), (79, .getfield 79), (82, .aload_n 1), (83, .invokevirtual 265), (86, .iaload), (87, .invokevirtual 275), (90, .ireturn), (91, .aload_n 0), (92, .aload_n 1), (93, .invokevirtual 265), (96, .invokevirtual 277), (99, .iconst (-1)), (100, .if_icmp .eq 7), (103, .iconst 1), (104, .goto 4), (107, .iconst 0), (108, .ireturn), (109, .aload_n 0), (110, .aload_n 1), (111, .invokevirtual 265), (114, .invokevirtual 280), (117, .ireturn), (118, .aload_n 0), (119, .aload_n 1), (120, .invokevirtual 265), (123, .invokevirtual 283), (126, .ireturn), (127, .aload_n 0), (128, .aload_n 1), (129, .invokevirtual 265), (132, .invokevirtual 286), (135, .ireturn)]
theorem k46_0 : dck c46 l46_0 := by unfold dck; decide +kernel
theorem w46_4 : decode c46 4 = .ok (.tableswitch 123 202 206 #[36, 62, 87, 105, 114], 36) := by decide +kernel
/-! 47: DawnPerquisite.passesAll(I)Z -/
abbrev c47 : ByteArray := prog_1_method_47_code
def l47_0 : List (Nat × Instr) := [(0, .iconst 0), (1, .istore_n 2), (2, .iload_n 2), (3, .iload_n 1), (4, .if_icmp .ge 20), (7, .aload_n 0), (8, .iconst 1), (9, .invokevirtual 257), (12, .iconst (-1)), (13, .if_icmp .ne 5), (16, .iconst 0), (17, .ireturn), (18, .iinc 2 1), (21, .goto (-19)), (24, .iconst 1), (25, .ireturn)]
theorem k47_0 : dck c47 l47_0 := by unfold dck; decide +kernel
/-! 48: DawnPerquisite.years(II)I -/
abbrev c48 : ByteArray := prog_1_method_51_code
def l48_0 : List (Nat × Instr) := [(0, .iload_n 1), (1, .iconst 0), (2, .sipush 9999), (5, .invokestatic 68), (8, .ifCond .eq 13), (11, .iload_n 2), (12, .iconst 1), (13, .bipush 40), (15, .invokestatic 68), (18, .ifCond .ne 5), (21, .iconst (-1)), (22, .ireturn), (23, .aload_n 0), (24, .getfield 21), (27, .invokevirtual 212), (30, .aload_n 0), (31, .getfield 21), (34, .getfield 173), (37, .iconst 1), (38, .iload_n 1), (39, .iconst 2), (40, .imul), (41, .sipush 457), (44, .iadd), (45, .iastore), (46, .iconst 0), (47, .istore_n 3), (48, .iconst 0), (49, .istore 4), (51, .iload 4), (53, .iload_n 2), (54, .if_icmp .ge 81), (57, .aload_n 0), (58, .getfield 21), (61, .getfield 173), (64, .iconst 1), (65, .iaload), (66, .istore 5), (68, .aload_n 0), (69, .getfield 21), (72, .getfield 173), (75, .bipush 10), (77, .invokestatic 247), (80, .istore 6), (82, .iload 5), (84, .bipush 6), (86, .irem), (87, .iconst 4), (88, .if_icmp .ge 12), (91, .aload_n 0), (92, .iload 5), (94, .invokevirtual 309), (97, .goto 32), (100, .aload_n 0), (101, .getfield 21), (104, .getfield 173), (107, .iconst 0), (108, .iaload), (109, .sipush 9999), (112, .if_icmp .ge 17)]
theorem k48_0 : dck c48 l48_0 := by unfold dck; decide +kernel
def l48_1 : List (Nat × Instr) := [(115, .iload_n 3), (116, .aload_n 0), (117, .aload_n 0), (118, .getfield 21), (121, .getfield 173), (124, .invokevirtual 253), (127, .iadd), (128, .istore_n 3), (129, .iinc 4 1), (132, .goto (-81)), (135, .aload_n 0), (136, .getfield 21), (139, .getfield 173), (142, .iconst 0), (143, .iaload), (144, .ireturn)]
theorem k48_1 : dck c48 l48_1 := by unfold dck; decide +kernel
/-! 49: DawnPerquisite.befalls(I)V -/
abbrev c49 : ByteArray := prog_1_method_50_code
def l49_0 : List (Nat × Instr) := [(0, .iload_n 1), (1, .bipush 6), (3, .idiv), (4, .bipush 6), (6, .irem), (7, .istore_n 2), (8, .iconst 0), (9, .istore_n 3), (10, .iload_n 1), (11, .bipush 6), (13, .irem), (40, .iload_n 1), (41, .bipush 6), (43, .idiv), (44, .iconst 3), (45, .irem), (46, .iconst 1), (47, .if_icmp .ne 64), (50, .aload_n 0), (51, .iload_n 1), (52, .bipush 12), (54, .irem), (55, .invokevirtual 218), (58, .ifCond .eq 53), (61, .aload_n 0), (62, .iload_n 1), (63, .bipush 12), (65, .irem), (66, .invokevirtual 221), (69, .goto 42), (72, .iload_n 1), (73, .iconst 4), (74, .irem), (75, .iconst 3), (76, .if_icmp .ne 35), (79, .aload_n 0), (80, .iload_n 2), (81, .invokevirtual 224), (84, .ifCond .eq 27), (87, .aload_n 0), (88, .iload_n 2), (89, .invokevirtual 227), (92, .goto 19), (95, .aload_n 0), (96, .iload_n 2), (97, .invokevirtual 209), (100, .ifCond .eq 11), (103, .iload_n 3), (104, .aload_n 0), (105, .iload_n 2), (106, .invokevirtual 215), (109, .iadd), (110, .istore_n 3), (111, .return_)]
theorem k49_0 : dck c49 l49_0 := by unfold dck; decide +kernel
theorem w49_14 : decode c49 14 = .ok (.lookupswitch 81 #[(2, 26), (3, 58)], 26) := by decide +kernel
/-! 50: DawnPerquisite.undo()I -/
abbrev c50 : ByteArray := prog_1_method_52_code
def l50_0 : List (Nat × Instr) := [(0, .aload_n 0), (1, .getfield 21), (4, .getfield 61), (7, .iconst 3), (8, .iaload), (9, .ifCond .ne 5), (12, .iconst (-1)), (13, .ireturn), (14, .aload_n 0), (15, .getfield 21), (18, .getfield 61), (21, .iconst 3), (22, .dup2), (23, .iaload), (24, .iconst 1), (25, .isub), (26, .iastore), (27, .aload_n 0), (28, .getfield 21), (31, .getfield 312), (34, .aload_n 0), (35, .getfield 21), (38, .getfield 61), (41, .iconst 3), (42, .iaload), (43, .aaload), (44, .aload_n 0), (45, .getfield 21), (48, .getfield 173), (51, .invokestatic 315), (54, .aload_n 0), (55, .getfield 21), (58, .getfield 61), (61, .iconst 3), (62, .iaload), (63, .ireturn)]
theorem k50_0 : dck c50 l50_0 := by unfold dck; decide +kernel
/-! 51: DawnPerquisite.of(II)I -/
abbrev c51 : ByteArray := prog_1_method_53_code
def l51_0 : List (Nat × Instr) := [(0, .aload_n 0), (1, .iload_n 1), (2, .invokevirtual 184), (5, .ifCond .ne 6), (8, .bipush (-10)), (10, .ireturn), (11, .iload_n 2), (56, .aload_n 0), (57, .getfield 21), (60, .getfield 85), (63, .iload_n 1), (64, .iaload), (65, .ireturn), (66, .aload_n 0), (67, .getfield 21), (70, .getfield 88), (73, .iload_n 1), (74, .iaload), (75, .ireturn), (76, .aload_n 0), (77, .getfield 21), (80, .getfield 91), (83, .iload_n 1), (84, .iaload), (85, .ireturn), (86, .aload_n 0), (87, .getfield 21), (90, .getfield 173), (93, .bipush 16), (95, .iload_n 1), (96, .iadd), (97, .iaload), (98, .ireturn), (99, .aload_n 0), (100, .iload_n 1), (101, .aload_n 0), (102, .getfield 21), (105, .getfield 173), (108, .iconst 3), (109, .iaload), (110, .invokevirtual 193), (113, .ireturn), (114, .aload_n 0), (115, .aload_n 0), (116, .getfield 21), (119, .getfield 173), (122, .iload_n 1), (123, .invokevirtual 244), (126, .ireturn), (127, .aload_n 0), (128, .getfield 21), (131, .getfield 173), (134, .iload_n 1), (135, .invokestatic 135), (138, .invokestatic 139), (141, .ireturn), (142, .bipush (-10)), (144, .ireturn)]
theorem k51_0 : dck c51 l51_0 := by unfold dck; decide +kernel
theorem w51_12 : decode c51 12 = .ok (.tableswitch 130 0 6 #[44, 54, 64, 74, 87, 102, 115], 44) := by decide +kernel
/-! 52: DawnPerquisite.ofSort(II)I -/
abbrev c52 : ByteArray := prog_1_method_54_code
def l52_0 : List (Nat × Instr) := [(0, .iload_n 1), (1, .invokestatic 72), (4, .ifCond .ne 7), (7, .iconst (-1)), (8, .goto 37), (11, .iload_n 2), (12, .ifCond .ne 15), (15, .aload_n 0), (16, .getfield 21), (19, .getfield 76), (22, .iload_n 1), (23, .iaload), (24, .goto 21), (27, .iload_n 2), (28, .iconst 1), (29, .if_icmp .ne 15), (32, .aload_n 0), (33, .getfield 21), (36, .getfield 79), (39, .iload_n 1), (40, .iaload), (41, .goto 4), (44, .iconst (-1)), (45, .ireturn)]
theorem k52_0 : dck c52 l52_0 := by unfold dck; decide +kernel
/-! 53: DawnPerquisite.at(I)I -/
abbrev c53 : ByteArray := prog_1_method_55_code
def l53_0 : List (Nat × Instr) := [(0, .iload_n 1), (1, .invokestatic 82), (4, .ifCond .eq 17), (7, .aload_n 0), (8, .getfield 21), (11, .getfield 173), (14, .iconst 4), (15, .iload_n 1), (16, .iadd), (17, .iaload), (18, .goto 5), (21, .bipush (-2)), (23, .ireturn)]
theorem k53_0 : dck c53 l53_0 := by unfold dck; decide +kernel
/-! 54: DawnPerquisite.is(I)I -/
abbrev c54 : ByteArray := prog_1_method_56_code
def l54_0 : List (Nat × Instr) := [(0, .iload_n 1), (1, .iconst 0), (2, .iconst 3), (3, .invokestatic 68), (6, .ifCond .eq 15), (9, .aload_n 0), (10, .getfield 21), (13, .getfield 173), (16, .iload_n 1), (17, .iaload), (18, .goto 24), (21, .iload_n 1), (22, .iconst 4), (23, .if_icmp .ne 17), (26, .aload_n 0), (27, .getfield 21), (30, .getfield 173), (33, .iconst (-1)), (34, .invokestatic 135), (37, .goto 5), (40, .bipush (-2)), (42, .ireturn)]
theorem k54_0 : dck c54 l54_0 := by unfold dck; decide +kernel
/-! 55: DawnPerquisite.book(II)I -/
abbrev c55 : ByteArray := prog_1_method_57_code
def l55_0 : List (Nat × Instr) := [(0, .iload_n 1), (1, .iconst (-1)), (2, .if_icmp .ne 14), (5, .aload_n 0), (6, .getfield 21), (9, .getfield 173), (12, .bipush 22), (14, .iaload), (15, .ireturn), (16, .iload_n 1), (17, .iconst 0), (18, .aload_n 0), (19, .getfield 21), (22, .getfield 173), (25, .bipush 22), (27, .iaload), (28, .iconst 1), (29, .isub), (30, .invokestatic 68), (33, .ifCond .eq 31), (36, .iload_n 2), (37, .iconst 0), (38, .iconst 3), (39, .invokestatic 68), (42, .ifCond .eq 22), (45, .aload_n 0), (46, .getfield 21), (49, .getfield 173), (52, .bipush 23), (54, .iconst 4), (55, .iload_n 1), (56, .imul), (57, .iadd), (58, .iload_n 2), (59, .iadd), (60, .iaload), (61, .goto 5), (64, .bipush (-2)), (66, .ireturn)]
theorem k55_0 : dck c55 l55_0 := by unfold dck; decide +kernel
/-! 56: DawnPerquisite.foretold(II)I -/
abbrev c56 : ByteArray := prog_1_method_59_code
def l56_0 : List (Nat × Instr) := [(0, .iload_n 1), (1, .iconst 1), (2, .bipush 60), (4, .invokestatic 68), (7, .ifCond .eq 12), (10, .iload_n 2), (11, .iconst 0), (12, .iconst 1), (13, .invokestatic 68), (16, .ifCond .ne 5), (19, .iconst (-1)), (20, .ireturn), (21, .aload_n 0), (22, .getfield 21), (25, .getfield 173), (28, .aload_n 0), (29, .getfield 43), (32, .invokestatic 315), (35, .iconst 0), (36, .istore_n 3), (37, .iconst 0), (38, .istore 4), (40, .iload 4), (42, .iload_n 1), (43, .if_icmp .ge 32), (46, .aload_n 0), (47, .getfield 43), (50, .iconst 0), (51, .iaload), (52, .sipush 9999), (55, .if_icmp .ge 20), (58, .iload_n 3), (59, .aload_n 0), (60, .aload_n 0), (61, .getfield 43), (64, .invokevirtual 253), (67, .iadd), (68, .istore_n 3), (69, .iinc 4 1), (72, .goto (-32)), (75, .iload_n 2), (76, .ifCond .ne 12), (79, .aload_n 0), (80, .getfield 43), (83, .iconst 3), (84, .iaload), (85, .goto 11), (88, .aload_n 0), (89, .aload_n 0), (90, .getfield 43), (93, .invokevirtual 319), (96, .ireturn)]
theorem k56_0 : dck c56 l56_0 := by unfold dck; decide +kernel
/-! 57: DawnPerquisite.pursesOf([I)I -/
abbrev c57 : ByteArray := prog_1_method_58_code
def l57_0 : List (Nat × Instr) := [(0, .iconst 0), (1, .istore_n 2), (2, .iconst 0), (3, .istore_n 3), (4, .iload_n 3), (5, .aload_n 0), (6, .invokevirtual 64), (9, .if_icmp .ge 18), (12, .iload_n 2), (13, .aload_n 1), (14, .bipush 16), (16, .iload_n 3), (17, .iadd), (18, .iaload), (19, .iadd), (20, .istore_n 2), (21, .iinc 3 1), (24, .goto (-20)), (27, .iload_n 2), (28, .ireturn)]
theorem k57_0 : dck c57 l57_0 := by unfold dck; decide +kernel
/-! 58: DawnPerquisite.pack(IZ)I -/
abbrev c58 : ByteArray := prog_1_method_63_code
def l58_0 : List (Nat × Instr) := [(0, .iload_n 1), (1, .invokestatic 72), (4, .ifCond .ne 7), (7, .iconst (-1)), (8, .goto 27), (11, .iload_n 2), (12, .ifCond .eq 12), (15, .aload_n 0), (16, .iconst 0), (17, .iload_n 1), (18, .invokevirtual 328), (21, .goto 14), (24, .aload_n 0), (25, .aload_n 0), (26, .iconst 0), (27, .iload_n 1), (28, .invokevirtual 328), (31, .iload_n 1), (32, .invokevirtual 325), (35, .ireturn)]
theorem k58_0 : dck c58 l58_0 := by unfold dck; decide +kernel
/-! 59: DawnPerquisite.packOf(II)I -/
abbrev c59 : ByteArray := prog_1_method_62_code
def l59_0 : List (Nat × Instr) := [(0, .iconst (-1)), (1, .istore_n 3), (2, .iconst (-1)), (3, .istore 4), (5, .iconst 0), (6, .istore 5), (8, .iload 5), (10, .aload_n 0), (11, .invokevirtual 322), (14, .if_icmp .gt 53), (17, .iload 5), (19, .iload_n 1), (20, .iand), (21, .iload_n 1), (22, .if_icmp .ne 13), (25, .aload_n 0), (26, .iload 5), (28, .iload_n 2), (29, .invokevirtual 325), (32, .goto 4), (35, .iconst (-1)), (36, .istore 6), (38, .iload 6), (40, .iload 4), (42, .if_icmp .le 8), (45, .iload 5), (47, .goto 4), (50, .iload_n 3), (51, .istore_n 3), (52, .iload 4), (54, .iload 6), (56, .invokestatic 239), (59, .istore 4), (61, .iinc 5 1), (64, .goto (-56)), (67, .iload_n 3), (68, .ireturn)]
theorem k59_0 : dck c59 l59_0 := by unfold dck; decide +kernel
/-! 60: DawnPerquisite.everybody()I -/
abbrev c60 : ByteArray := prog_1_method_61_code
def l60_0 : List (Nat × Instr) := [(0, .iconst 1), (1, .aload_n 0), (2, .invokevirtual 64), (5, .ishl), (6, .iconst 1), (7, .isub), (8, .ireturn)]
theorem k60_0 : dck c60 l60_0 := by unfold dck; decide +kernel
/-! 61: DawnPerquisite.bringsOf(II)I -/
abbrev c61 : ByteArray := prog_1_method_60_code
def l61_0 : List (Nat × Instr) := [(0, .iconst 0), (1, .istore_n 3), (2, .iconst 0), (3, .istore 4), (5, .iconst 0), (6, .istore 5), (8, .iload 5), (10, .aload_n 0), (11, .invokevirtual 64), (14, .if_icmp .ge 65), (17, .iload_n 1), (18, .iload 5), (20, .invokestatic 180), (23, .ifCond .ne 6), (26, .goto 47), (29, .aload_n 0), (30, .iload 5), (32, .iload_n 2), (33, .invokevirtual 187), (36, .ifCond .eq 14), (39, .iload_n 3), (40, .aload_n 0), (41, .iload 5), (43, .invokevirtual 190), (46, .iand), (47, .ifCond .eq 5), (50, .iconst (-1)), (51, .ireturn), (52, .iload_n 3), (53, .aload_n 0), (54, .iload 5), (56, .invokevirtual 190), (59, .ior), (60, .istore_n 3), (61, .iload 4), (63, .aload_n 0), (64, .iload 5), (66, .iload_n 2), (67, .invokevirtual 193), (70, .iadd), (71, .istore 4), (73, .iinc 5 1), (76, .goto (-68)), (79, .iload 4), (81, .ireturn)]
theorem k61_0 : dck c61 l61_0 := by unfold dck; decide +kernel
/-! 62: DawnPerquisite.see(II)I -/
abbrev c62 : ByteArray := prog_1_method_64_code
def l62_0 : List (Nat × Instr) := [(0, .iload_n 1), (1, .iconst 0), (2, .aload_n 0), (3, .invokevirtual 322), (6, .invokestatic 68), (9, .ifCond .eq 20), (12, .iload_n 2), (13, .invokestatic 72), (16, .ifCond .eq 13), (19, .aload_n 0), (20, .iload_n 1), (21, .iload_n 2), (22, .invokevirtual 328), (25, .iconst (-1)), (26, .if_icmp .ne 5), (29, .iconst (-1)), (30, .ireturn), (31, .aload_n 0), (32, .aload_n 0), (33, .iload_n 1), (34, .iload_n 2), (35, .invokevirtual 328), (38, .iload_n 2), (39, .invokevirtual 325), (42, .ireturn)]
theorem k62_0 : dck c62 l62_0 := by unfold dck; decide +kernel
/-! 63: DawnPerquisite.hope(IZ)J -/
abbrev c63 : ByteArray := prog_1_method_69_code
def l63_0 : List (Nat × Instr) := [(0, .iload_n 1), (1, .iconst 0), (2, .bipush 6), (4, .invokestatic 68), (7, .ifCond .eq 24), (10, .aload_n 0), (11, .iload_n 1), (12, .invokevirtual 338), (15, .aload_n 0), (16, .invokevirtual 342), (19, .i2l), (20, .iload_n 1), (21, .invokestatic 334), (24, .iload_n 2), (25, .invokestatic 345), (28, .goto 6), (31, .ldc2_w 349), (34, .lreturn)]
theorem k63_0 : dck c63 l63_0 := by unfold dck; decide +kernel
/-! 64: DawnPerquisite.hopeOf(I)J -/
abbrev c64 : ByteArray := prog_1_method_68_code
def l64_0 : List (Nat × Instr) := [(0, .iload_n 1), (1, .ifCond .ne 5), (4, .lconst 0), (5, .lreturn), (6, .aload_n 0), (7, .iload_n 1), (8, .iconst 1), (9, .isub), (10, .invokevirtual 338), (13, .lstore_n 2), (14, .aload_n 0), (15, .invokevirtual 342), (18, .i2l), (19, .iload_n 1), (20, .iconst 1), (21, .isub), (22, .invokestatic 334), (25, .lstore 4), (27, .lconst 0), (28, .lstore 6), (30, .iconst 0), (31, .istore 8), (33, .iload 8), (35, .iconst 5), (36, .if_icmp .ge 40), (39, .lload 6), (41, .aload_n 0), (42, .iload 8), (44, .invokevirtual 241), (47, .i2l), (48, .aload_n 0), (49, .getfield 21), (52, .getfield 79), (55, .iload 8), (57, .iaload), (58, .i2l), (59, .lload 4), (61, .lmul), (62, .lload_n 2), (63, .invokestatic 9), (66, .lmul), (67, .ladd), (68, .lstore 6), (70, .iinc 8 1), (73, .goto (-40)), (76, .lload 6), (78, .lreturn)]
theorem k64_0 : dck c64 l64_0 := by unfold dck; decide +kernel
/-! 65: DawnPerquisite.allOdds()I -/
abbrev c65 : ByteArray := prog_1_method_43_code
def l65_0 : List (Nat × Instr) := [(0, .iconst 1), (1, .aload_n 0), (2, .invokevirtual 236), (5, .invokestatic 239), (8, .ireturn)]
theorem k65_0 : dck c65 l65_0 := by unfold dck; decide +kernel
/-! 66: DawnPerquisite.power(JI)J -/
abbrev c66 : ByteArray := prog_1_method_67_code
def l66_0 : List (Nat × Instr) := [(0, .iload_n 2), (1, .ifCond .ne 7), (4, .lconst 1), (5, .goto 12), (8, .lload_n 0), (9, .lload_n 0), (10, .iload_n 2), (11, .iconst 1), (12, .isub), (13, .invokestatic 334), (16, .lmul), (17, .lreturn)]
theorem k66_0 : dck c66 l66_0 := by unfold dck; decide +kernel
/-! 67: DawnPerquisite.part(JJZ)J -/
abbrev c67 : ByteArray := prog_1_method_66_code
def l67_0 : List (Nat × Instr) := [(0, .iload 4), (2, .ifCond .eq 7), (5, .lload_n 2), (6, .goto 4), (9, .lload_n 0), (10, .lload_n 2), (11, .lload_n 0), (12, .invokestatic 331), (15, .ldiv), (16, .lreturn)]
theorem k67_0 : dck c67 l67_0 := by unfold dck; decide +kernel
/-! 68: DawnPerquisite.common(JJ)J -/
abbrev c68 : ByteArray := prog_1_method_65_code
def l68_0 : List (Nat × Instr) := [(0, .lload_n 2), (1, .lconst 0), (2, .lcmp), (3, .ifCond .ne 7), (6, .lload_n 0), (7, .goto 10), (10, .lload_n 2), (11, .lload_n 0), (12, .lload_n 2), (13, .lrem), (14, .invokestatic 331), (17, .lreturn)]
theorem k68_0 : dck c68 l68_0 := by unfold dck; decide +kernel
/-! 69: DawnPerquisite.keep(I)Z -/
abbrev c69 : ByteArray := prog_1_method_70_code
def l69_0 : List (Nat × Instr) := [(0, .iload_n 1), (1, .iconst 0), (2, .bipush 6), (4, .invokestatic 68), (7, .ifCond .eq 44), (10, .aload_n 0), (11, .iload_n 1), (12, .invokevirtual 338), (15, .aload_n 0), (16, .getfield 21), (19, .getfield 79), (22, .aload_n 0), (23, .getfield 21), (26, .getfield 173), (29, .iconst 3), (30, .iaload), (31, .iaload), (32, .i2l), (33, .aload_n 0), (34, .invokevirtual 342), (37, .i2l), (38, .iload_n 1), (39, .invokestatic 334), (42, .lmul), (43, .lcmp), (44, .ifCond .le 7), (47, .iconst 1), (48, .goto 4), (51, .iconst 0), (52, .ireturn)]
theorem k69_0 : dck c69 l69_0 := by unfold dck; decide +kernel
/-! 70: DawnPerquisite.chance(IZ)J -/
abbrev c70 : ByteArray := prog_1_method_71_code
def l70_0 : List (Nat × Instr) := [(0, .iload_n 1), (1, .invokestatic 72), (4, .ifCond .eq 21), (7, .aload_n 0), (8, .iload_n 1), (9, .invokevirtual 241), (12, .i2l), (13, .aload_n 0), (14, .invokevirtual 342), (17, .i2l), (18, .iload_n 2), (19, .invokestatic 345), (22, .goto 6), (25, .ldc2_w 349), (28, .lreturn)]
theorem k70_0 : dck c70 l70_0 := by unfold dck; decide +kernel
/-! 71: DawnPerquisite.first(I)I -/
abbrev c71 : ByteArray := prog_1_method_72_code
def l71_0 : List (Nat × Instr) := [(0, .iconst 1), (1, .istore_n 2), (2, .iload_n 1), (3, .invokestatic 72), (6, .ifCond .eq 49), (9, .iload_n 2), (10, .bipush 10), (12, .if_icmp .gt 43), (15, .ldc2_w 351), (18, .aload_n 0), (19, .invokevirtual 342), (22, .aload_n 0), (23, .iload_n 1), (24, .invokevirtual 241), (27, .isub), (28, .i2l), (29, .iload_n 2), (30, .invokestatic 334), (33, .lmul), (34, .aload_n 0), (35, .invokevirtual 342), (38, .i2l), (39, .iload_n 2), (40, .invokestatic 334), (43, .lcmp), (44, .ifCond .gt 5), (47, .iload_n 2), (48, .ireturn), (49, .iinc 2 1), (52, .goto (-50)), (55, .iconst (-1)), (56, .ireturn)]
theorem k71_0 : dck c71 l71_0 := by unfold dck; decide +kernel
/-! 72: DawnPerquisite.paid(IZ)I -/
abbrev c72 : ByteArray := prog_1_method_73_code
def l72_0 : List (Nat × Instr) := [(0, .iload_n 1), (1, .iconst (-1)), (2, .if_icmp .ne 22), (5, .aload_n 0), (6, .getfield 21), (9, .getfield 61), (12, .iconst 5), (13, .iconst 0), (14, .iastore), (15, .aload_n 0), (16, .getfield 21), (19, .iconst 4), (20, .invokevirtual 353), (23, .ireturn), (24, .aload_n 0), (25, .iload_n 1), (26, .invokevirtual 184), (29, .ifCond .eq 29), (32, .aload_n 0), (33, .getfield 21), (36, .getfield 61), (39, .iconst 4), (40, .iaload), (41, .aload_n 0), (42, .getfield 21), (45, .getfield 61), (48, .iconst 5), (49, .iaload), (50, .ior), (51, .iload_n 1), (52, .invokestatic 180), (55, .ifCond .eq 6), (58, .bipush (-2)), (60, .ireturn), (61, .aload_n 0), (62, .getfield 21), (65, .getfield 61), (68, .iload_n 2), (69, .ifCond .eq 7), (72, .iconst 4), (73, .goto 4), (76, .iconst 5), (77, .dup2), (78, .iaload), (79, .iconst 1), (80, .iload_n 1), (81, .ishl), (82, .ior), (83, .iastore), (84, .aload_n 0), (85, .invokevirtual 356), (88, .ireturn)]
theorem k72_0 : dck c72 l72_0 := by unfold dck; decide +kernel
/-! 73: DawnPerquisite.told()I -/
abbrev c73 : ByteArray := prog_1_method_74_code
def l73_0 : List (Nat × Instr) := [(0, .aload_n 0), (1, .getfield 21), (4, .getfield 61), (7, .iconst 4), (8, .iaload), (9, .aload_n 0), (10, .getfield 21), (13, .getfield 61), (16, .iconst 5), (17, .iaload), (18, .ior), (19, .invokestatic 139), (22, .ireturn)]
theorem k73_0 : dck c73 l73_0 := by unfold dck; decide +kernel
/-! 74: DawnPerquisite.was()I -/
abbrev c74 : ByteArray := prog_1_method_76_code
def l74_0 : List (Nat × Instr) := [(0, .iconst 0), (1, .istore_n 1), (2, .iconst 0), (3, .istore_n 2), (4, .iload_n 2), (5, .iconst 5), (6, .if_icmp .ge 27), (9, .iload_n 1), (10, .aload_n 0), (11, .iload_n 2), (12, .invokevirtual 359), (15, .ifCond .eq 9), (18, .iconst 1), (19, .iload_n 2), (20, .ishl), (21, .goto 4), (24, .iconst 0), (25, .ior), (26, .istore_n 1), (27, .iinc 2 1), (30, .goto (-26)), (33, .iload_n 1), (34, .ireturn)]
theorem k74_0 : dck c74 l74_0 := by unfold dck; decide +kernel
/-! 75: DawnPerquisite.couldBe(I)Z -/
abbrev c75 : ByteArray := prog_1_method_75_code
def l75_0 : List (Nat × Instr) := [(0, .aload_n 0), (1, .iload_n 1), (2, .invokevirtual 241), (5, .ifCond .le 7), (8, .iconst 1), (9, .goto 4), (12, .iconst 0), (13, .istore_n 2), (14, .iconst 0), (15, .istore_n 3), (16, .iload_n 3), (17, .aload_n 0), (18, .invokevirtual 64), (21, .if_icmp .ge 66), (24, .iload_n 2), (25, .aload_n 0), (26, .iload_n 3), (27, .iload_n 1), (28, .invokevirtual 187), (31, .ifCond .eq 27), (34, .aload_n 0), (35, .getfield 21), (38, .getfield 61), (41, .iconst 5), (42, .iaload), (43, .iload_n 3), (44, .invokestatic 180), (47, .ifCond .ne 7), (50, .iconst 1), (51, .goto 28), (54, .iconst 0), (55, .goto 24), (58, .aload_n 0), (59, .getfield 21), (62, .getfield 61), (65, .iconst 4), (66, .iaload), (67, .iload_n 3), (68, .invokestatic 180), (71, .ifCond .ne 7), (74, .iconst 1), (75, .goto 4), (78, .iconst 0), (79, .iand), (80, .istore_n 2), (81, .iinc 3 1), (84, .goto (-68)), (87, .iload_n 2), (88, .ireturn)]
theorem k75_0 : dck c75 l75_0 := by unfold dck; decide +kernel
/-! 76: DawnPerquisite.likeliest()I -/
abbrev c76 : ByteArray := prog_1_method_77_code
def l76_0 : List (Nat × Instr) := [(0, .iconst (-1)), (1, .istore_n 1), (2, .iconst 0), (3, .istore_n 2), (4, .iload_n 2), (5, .iconst 5), (6, .if_icmp .ge 37), (9, .aload_n 0), (10, .iload_n 2), (11, .invokevirtual 359), (14, .ifCond .eq 23), (17, .iload_n 1), (18, .iconst (-1)), (19, .if_icmp .eq 16), (22, .aload_n 0), (23, .iload_n 2), (24, .invokevirtual 241), (27, .aload_n 0), (28, .iload_n 1), (29, .invokevirtual 241), (32, .if_icmp .le 5), (35, .iload_n 2), (36, .istore_n 1), (37, .iinc 2 1), (40, .goto (-36)), (43, .iload_n 1), (44, .ireturn)]
theorem k76_0 : dck c76 l76_0 := by unfold dck; decide +kernel
/-! 77: DawnPerquisite.surest(Z)J -/
abbrev c77 : ByteArray := prog_1_method_79_code
def l77_0 : List (Nat × Instr) := [(0, .aload_n 0), (1, .invokevirtual 362), (4, .iconst (-1)), (5, .if_icmp .ne 15), (8, .iload_n 1), (9, .ifCond .eq 7), (12, .lconst 1), (13, .goto 25), (16, .lconst 0), (17, .goto 21), (20, .aload_n 0), (21, .aload_n 0), (22, .invokevirtual 362), (25, .invokevirtual 241), (28, .i2l), (29, .aload_n 0), (30, .invokevirtual 365), (33, .i2l), (34, .iload_n 1), (35, .invokestatic 345), (38, .lreturn)]
theorem k77_0 : dck c77 l77_0 := by unfold dck; decide +kernel
/-! 78: DawnPerquisite.oddsThatFit()I -/
abbrev c78 : ByteArray := prog_1_method_78_code
def l78_0 : List (Nat × Instr) := [(0, .iconst 0), (1, .istore_n 1), (2, .iconst 0), (3, .istore_n 2), (4, .iload_n 2), (5, .iconst 5), (6, .if_icmp .ge 29), (9, .iload_n 1), (10, .aload_n 0), (11, .iload_n 2), (12, .invokevirtual 359), (15, .ifCond .eq 11), (18, .aload_n 0), (19, .iload_n 2), (20, .invokevirtual 241), (23, .goto 4), (26, .iconst 0), (27, .iadd), (28, .istore_n 1), (29, .iinc 2 1), (32, .goto (-28)), (35, .iload_n 1), (36, .ireturn)]
theorem k78_0 : dck c78 l78_0 := by unfold dck; decide +kernel
/-! 79: DawnPerquisite.ask()I -/
abbrev c79 : ByteArray := prog_1_method_81_code
def l79_0 : List (Nat × Instr) := [(0, .aload_n 0), (1, .invokevirtual 368), (4, .invokestatic 139), (7, .iconst 2), (8, .if_icmp .ge 5), (11, .iconst (-1)), (12, .ireturn), (13, .iconst (-1)), (14, .istore_n 1), (15, .iconst 0), (16, .istore_n 2), (17, .iload_n 2), (18, .aload_n 0), (19, .invokevirtual 64), (22, .if_icmp .ge 55), (25, .aload_n 0), (26, .getfield 21), (29, .getfield 61), (32, .iconst 4), (33, .iaload), (34, .aload_n 0), (35, .getfield 21), (38, .getfield 61), (41, .iconst 5), (42, .iaload), (43, .ior), (44, .iload_n 2), (45, .invokestatic 180), (48, .ifCond .ne 23), (51, .iload_n 1), (52, .iconst (-1)), (53, .if_icmp .eq 16), (56, .aload_n 0), (57, .iload_n 2), (58, .invokevirtual 371), (61, .aload_n 0), (62, .iload_n 1), (63, .invokevirtual 371), (66, .if_icmp .ge 5), (69, .iload_n 2), (70, .istore_n 1), (71, .iinc 2 1), (74, .goto (-57)), (77, .iload_n 1), (78, .ireturn)]
theorem k79_0 : dck c79 l79_0 := by unfold dck; decide +kernel
/-! 80: DawnPerquisite.greaterPart(I)I -/
abbrev c80 : ByteArray := prog_1_method_80_code
def l80_0 : List (Nat × Instr) := [(0, .iconst 0), (1, .istore_n 2), (2, .iconst 0), (3, .istore_n 3), (4, .iload_n 3), (5, .iconst 5), (6, .if_icmp .ge 38), (9, .iload_n 2), (10, .aload_n 0), (11, .iload_n 3), (12, .invokevirtual 359), (15, .ifCond .eq 20), (18, .aload_n 0), (19, .iload_n 1), (20, .iload_n 3), (21, .invokevirtual 187), (24, .ifCond .eq 11), (27, .aload_n 0), (28, .iload_n 3), (29, .invokevirtual 241), (32, .goto 4), (35, .iconst 0), (36, .iadd), (37, .istore_n 2), (38, .iinc 3 1), (41, .goto (-37)), (44, .iload_n 2), (45, .aload_n 0), (46, .invokevirtual 365), (49, .iload_n 2), (50, .isub), (51, .invokestatic 239), (54, .ireturn)]
theorem k80_0 : dck c80 l80_0 := by unfold dck; decide +kernel
/-! 81: DawnPerquisite.auction(II)I -/
abbrev c81 : ByteArray := prog_1_method_83_code
def l81_0 : List (Nat × Instr) := [(0, .iload_n 1), (1, .invokestatic 82), (4, .ifCond .ne 5), (7, .iconst (-1)), (8, .ireturn), (9, .iconst (-1)), (10, .istore_n 3), (11, .iconst (-1)), (12, .istore 4), (14, .iconst 0), (15, .istore 5), (17, .iconst 0), (18, .istore 6), (20, .iconst 0), (21, .istore 7), (23, .iload 7), (25, .aload_n 0), (26, .invokevirtual 64), (29, .if_icmp .ge 67), (32, .aload_n 0), (33, .iload 7), (35, .iload_n 1), (36, .invokevirtual 374), (39, .istore 8), (41, .iload 8), (43, .iconst (-1)), (44, .if_icmp .ne 6), (47, .goto 43), (50, .iinc 6 1), (53, .iload 5), (55, .iload 8), (57, .iload 4), (59, .invokestatic 204), (62, .invokestatic 239), (65, .istore 5), (67, .iload 8), (69, .iload 4), (71, .if_icmp .le 8), (74, .iload 7), (76, .goto 4), (79, .iload_n 3), (80, .istore_n 3), (81, .iload 4), (83, .iload 8), (85, .invokestatic 239), (88, .istore 4), (90, .iinc 7 1), (93, .goto (-70)), (96, .iload_n 2), (97, .ifCond .eq 8), (100, .iload 6), (102, .ifCond .ne 7), (105, .iload_n 3), (106, .goto 24), (109, .iload_n 2), (110, .iconst 1), (111, .if_icmp .ne 8), (114, .iload 5), (116, .goto 14), (119, .iload_n 2)]
theorem k81_0 : dck c81 l81_0 := by unfold dck; decide +kernel
def l81_1 : List (Nat × Instr) := [(120, .iconst 2), (121, .if_icmp .ne 8), (124, .iload 6), (126, .goto 4), (129, .iconst (-1)), (130, .ireturn)]
theorem k81_1 : dck c81 l81_1 := by unfold dck; decide +kernel
/-! 82: DawnPerquisite.bidsFor(II)I -/
abbrev c82 : ByteArray := prog_1_method_82_code
def l82_0 : List (Nat × Instr) := [(0, .aload_n 0), (1, .iload_n 1), (2, .aload_n 0), (3, .getfield 21), (6, .getfield 173), (9, .iconst 3), (10, .iaload), (11, .invokevirtual 187), (14, .ifCond .eq 38), (17, .aload_n 0), (18, .iload_n 1), (19, .invokevirtual 190), (22, .iload_n 2), (23, .invokestatic 180), (26, .ifCond .eq 26), (29, .aload_n 0), (30, .iload_n 1), (31, .aload_n 0), (32, .getfield 21), (35, .getfield 173), (38, .iconst 3), (39, .iaload), (40, .invokevirtual 193), (43, .aload_n 0), (44, .iload_n 1), (45, .invokevirtual 131), (48, .idiv), (49, .goto 4), (52, .iconst (-1)), (53, .ireturn)]
theorem k82_0 : dck c82 l82_0 := by unfold dck; decide +kernel
/-! 83: DawnPerquisite.stab(Z)I -/
abbrev c83 : ByteArray := prog_1_method_85_code
def l83_0 : List (Nat × Instr) := [(0, .iconst (-1)), (1, .istore_n 2), (2, .iconst 0), (3, .istore_n 3), (4, .iload_n 3), (5, .sipush 4096), (8, .if_icmp .ge 35), (11, .iload_n 2), (12, .iconst (-1)), (13, .if_icmp .eq 14), (16, .iload_n 3), (17, .invokestatic 139), (20, .iload_n 2), (21, .invokestatic 139), (24, .if_icmp .ge 13), (27, .aload_n 0), (28, .iload_n 3), (29, .invokevirtual 377), (32, .ifCond .eq 5), (35, .iload_n 3), (36, .istore_n 2), (37, .iinc 3 1), (40, .goto (-36)), (43, .iload_n 1), (44, .ifCond .eq 10), (47, .iload_n 2), (48, .invokestatic 139), (51, .goto 4), (54, .iload_n 2), (55, .ireturn)]
theorem k83_0 : dck c83 l83_0 := by unfold dck; decide +kernel
/-! 84: DawnPerquisite.servesAll(I)Z -/
abbrev c84 : ByteArray := prog_1_method_84_code
def l84_0 : List (Nat × Instr) := [(0, .iconst 0), (1, .istore_n 2), (2, .iload_n 2), (3, .aload_n 0), (4, .invokevirtual 64), (7, .if_icmp .ge 21), (10, .iload_n 1), (11, .aload_n 0), (12, .iload_n 2), (13, .invokevirtual 190), (16, .iand), (17, .ifCond .ne 5), (20, .iconst 0), (21, .ireturn), (22, .iinc 2 1), (25, .goto (-23)), (28, .iconst 1), (29, .ireturn)]
theorem k84_0 : dck c84 l84_0 := by unfold dck; decide +kernel
/-! 85: DawnPerquisite.crowd(Z)I -/
abbrev c85 : ByteArray := prog_1_method_87_code
def l85_0 : List (Nat × Instr) := [(0, .iconst 0), (1, .istore_n 2), (2, .iconst 1), (3, .istore_n 3), (4, .iload_n 3), (5, .bipush 12), (7, .if_icmp .ge 24), (10, .aload_n 0), (11, .iload_n 3), (12, .invokevirtual 380), (15, .aload_n 0), (16, .iload_n 2), (17, .invokevirtual 380), (20, .if_icmp .le 5), (23, .iload_n 3), (24, .istore_n 2), (25, .iinc 3 1), (28, .goto (-24)), (31, .iload_n 1), (32, .ifCond .eq 7), (35, .iload_n 2), (36, .goto 8), (39, .aload_n 0), (40, .iload_n 2), (41, .invokevirtual 380), (44, .ireturn)]
theorem k85_0 : dck c85 l85_0 := by unfold dck; decide +kernel
/-! 86: DawnPerquisite.wantedBy(I)I -/
abbrev c86 : ByteArray := prog_1_method_86_code
def l86_0 : List (Nat × Instr) := [(0, .iconst 0), (1, .istore_n 2), (2, .iconst 0), (3, .istore_n 3), (4, .iload_n 3), (5, .aload_n 0), (6, .invokevirtual 64), (9, .if_icmp .ge 29), (12, .iload_n 2), (13, .aload_n 0), (14, .iload_n 3), (15, .invokevirtual 190), (18, .iload_n 1), (19, .invokestatic 180), (22, .ifCond .eq 7), (25, .iconst 1), (26, .goto 4), (29, .iconst 0), (30, .iadd), (31, .istore_n 2), (32, .iinc 3 1), (35, .goto (-31)), (38, .iload_n 2), (39, .ireturn)]
theorem k86_0 : dck c86 l86_0 := by unfold dck; decide +kernel
/-! 87: DawnPerquisite.dawns(I)I -/
abbrev c87 : ByteArray := prog_1_method_89_code
def l87_0 : List (Nat × Instr) := [(0, .aload_n 0), (1, .iload_n 1), (2, .invokevirtual 184), (5, .ifCond .ne 5), (8, .iconst (-1)), (9, .ireturn), (10, .aload_n 0), (11, .getfield 46), (14, .iconst 0), (15, .invokestatic 383), (18, .aload_n 0), (19, .getfield 49), (22, .iconst (-1)), (23, .invokestatic 383), (26, .aload_n 0), (27, .invokevirtual 386), (30, .istore_n 2), (31, .iload_n 2), (32, .iconst (-1)), (33, .if_icmp .eq 55), (36, .iconst 0), (37, .istore_n 3), (38, .aload_n 0), (39, .getfield 46), (42, .iload_n 3), (43, .iaload), (44, .aload_n 0), (45, .iload_n 2), (46, .invokevirtual 190), (49, .iand), (50, .ifCond .eq 9), (53, .iinc 3 1), (56, .goto (-18)), (59, .aload_n 0), (60, .getfield 46), (63, .iload_n 3), (64, .dup2), (65, .iaload), (66, .aload_n 0), (67, .iload_n 2), (68, .invokevirtual 190), (71, .ior), (72, .iastore), (73, .aload_n 0), (74, .getfield 49), (77, .iload_n 2), (78, .iload_n 3), (79, .iastore), (80, .aload_n 0), (81, .invokevirtual 386), (84, .istore_n 2), (85, .goto (-54)), (88, .aload_n 0), (89, .getfield 49), (92, .iload_n 1), (93, .iaload), (94, .ireturn)]
theorem k87_0 : dck c87 l87_0 := by unfold dck; decide +kernel
/-! 88: DawnPerquisite.nextBuyer()I -/
abbrev c88 : ByteArray := prog_1_method_88_code
def l88_0 : List (Nat × Instr) := [(0, .iconst (-1)), (1, .istore_n 1), (2, .iconst 0), (3, .istore_n 2), (4, .iload_n 2), (5, .aload_n 0), (6, .invokevirtual 64), (9, .if_icmp .ge 47), (12, .aload_n 0), (13, .getfield 49), (16, .iload_n 2), (17, .iaload), (18, .iconst (-1)), (19, .if_icmp .ne 31), (22, .iload_n 1), (23, .iconst (-1)), (24, .if_icmp .eq 24), (27, .aload_n 0), (28, .getfield 21), (31, .getfield 88), (34, .iload_n 2), (35, .iaload), (36, .aload_n 0), (37, .getfield 21), (40, .getfield 88), (43, .iload_n 1), (44, .iaload), (45, .if_icmp .ge 5), (48, .iload_n 2), (49, .istore_n 1), (50, .iinc 2 1), (53, .goto (-49)), (56, .iload_n 1), (57, .ireturn)]
theorem k88_0 : dck c88 l88_0 := by unfold dck; decide +kernel
/-! 89: DawnPerquisite.month(IZ)J -/
abbrev c89 : ByteArray := prog_1_method_90_code
def l89_0 : List (Nat × Instr) := [(0, .iload_n 1), (1, .iconst 1), (2, .bipush 60), (4, .invokestatic 68), (7, .ifCond .ne 7), (10, .ldc2_w 349), (13, .lreturn), (14, .lconst 0), (15, .lstore_n 3), (16, .iconst 0), (17, .istore 5), (19, .iload 5), (21, .iconst 5), (22, .if_icmp .ge 27), (25, .lload_n 3), (26, .aload_n 0), (27, .iload 5), (29, .invokevirtual 241), (32, .aload_n 0), (33, .iload 5), (35, .iconst 0), (36, .invokevirtual 389), (39, .imul), (40, .i2l), (41, .ladd), (42, .lstore_n 3), (43, .iinc 5 1), (46, .goto (-27)), (49, .iload_n 1), (50, .i2l), (51, .lload_n 3), (52, .lmul), (53, .aload_n 0), (54, .invokevirtual 342), (57, .i2l), (58, .iload_n 2), (59, .invokestatic 345), (62, .lreturn)]
theorem k89_0 : dck c89 l89_0 := by unfold dck; decide +kernel
/-! 90: DawnPerquisite.value(II)Z -/
abbrev c90 : ByteArray := prog_1_method_91_code
def l90_0 : List (Nat × Instr) := [(0, .iload_n 1), (1, .invokestatic 82), (4, .ifCond .eq 13), (7, .iload_n 2), (8, .iconst 0), (9, .bipush 99), (11, .invokestatic 68), (14, .ifCond .ne 5), (17, .iconst 0), (18, .ireturn), (19, .aload_n 0), (20, .getfield 21), (23, .getfield 393), (26, .iload_n 1), (27, .iload_n 2), (28, .iastore), (29, .iconst 1), (30, .ireturn)]
theorem k90_0 : dck c90 l90_0 := by unfold dck; decide +kernel
/-! 91: DawnPerquisite.ends(II)I -/
abbrev c91 : ByteArray := prog_1_method_96_code
def l91_0 : List (Nat × Instr) := [(0, .iload_n 1), (1, .iload_n 2), (2, .invokestatic 402), (5, .ifCond .ne 7), (8, .sipush (-1000)), (11, .ireturn), (12, .aload_n 0), (13, .invokevirtual 405), (16, .aload_n 0), (17, .getfield 54), (20, .iload_n 1), (21, .aaload), (22, .iload_n 2), (23, .iaload), (24, .ireturn)]
theorem k91_0 : dck c91 l91_0 := by unfold dck; decide +kernel
/-! 92: DawnPerquisite.areSlices(II)Z -/
abbrev c92 : ByteArray := prog_1_method_92_code
def l92_0 : List (Nat × Instr) := [(0, .iload_n 1), (1, .invokestatic 82), (4, .ifCond .eq 16), (7, .iload_n 0), (8, .iconst 0), (9, .iload_n 1), (10, .invokestatic 68), (13, .ifCond .eq 7), (16, .iconst 1), (17, .goto 4), (20, .iconst 0), (21, .ireturn)]
theorem k92_0 : dck c92 l92_0 := by unfold dck; decide +kernel
/-! 93: DawnPerquisite.laysMore()V -/
abbrev c93 : ByteArray := prog_1_method_95_code
def l93_0 : List (Nat × Instr) := [(0, .iconst 0), (1, .istore_n 1), (2, .iload_n 1), (3, .bipush 12), (5, .if_icmp .ge 44), (8, .iload_n 1), (9, .istore_n 2), (10, .iload_n 2), (11, .ifCond .lt 32), (14, .aload_n 0), (15, .getfield 54), (18, .iload_n 2), (19, .aaload), (20, .iload_n 1), (21, .aload_n 0), (22, .iload_n 2), (23, .iload_n 1), (24, .invokevirtual 396), (27, .aload_n 0), (28, .iload_n 2), (29, .iload_n 1), (30, .invokevirtual 399), (33, .invokestatic 239), (36, .iastore), (37, .iinc 2 (-1)), (40, .goto (-30)), (43, .iinc 1 1), (46, .goto (-44)), (49, .return_)]
theorem k93_0 : dck c93 l93_0 := by unfold dck; decide +kernel
/-! 94: DawnPerquisite.leftFirst(II)I -/
abbrev c94 : ByteArray := prog_1_method_93_code
def l94_0 : List (Nat × Instr) := [(0, .aload_n 0), (1, .getfield 21), (4, .getfield 393), (7, .iload_n 1), (8, .iaload), (9, .iload_n 1), (10, .iload_n 2), (11, .if_icmp .ne 7), (14, .iconst 0), (15, .goto 13), (18, .aload_n 0), (19, .getfield 54), (22, .iload_n 1), (23, .iconst 1), (24, .iadd), (25, .aaload), (26, .iload_n 2), (27, .iaload), (28, .isub), (29, .ireturn)]
theorem k94_0 : dck c94 l94_0 := by unfold dck; decide +kernel
/-! 95: DawnPerquisite.rightFirst(II)I -/
abbrev c95 : ByteArray := prog_1_method_94_code
def l95_0 : List (Nat × Instr) := [(0, .aload_n 0), (1, .getfield 21), (4, .getfield 393), (7, .iload_n 2), (8, .iaload), (9, .iload_n 1), (10, .iload_n 2), (11, .if_icmp .ne 7), (14, .iconst 0), (15, .goto 13), (18, .aload_n 0), (19, .getfield 54), (22, .iload_n 1), (23, .aaload), (24, .iload_n 2), (25, .iconst 1), (26, .isub), (27, .iaload), (28, .isub), (29, .ireturn)]
theorem k95_0 : dck c95 l95_0 := by unfold dck; decide +kernel
/-! 96: DawnPerquisite.take(II)I -/
abbrev c96 : ByteArray := prog_1_method_97_code
def l96_0 : List (Nat × Instr) := [(0, .iload_n 1), (1, .iload_n 2), (2, .invokestatic 402), (5, .ifCond .ne 5), (8, .iconst (-1)), (9, .ireturn), (10, .aload_n 0), (11, .invokevirtual 405), (14, .aload_n 0), (15, .iload_n 1), (16, .iload_n 2), (17, .invokevirtual 396), (20, .aload_n 0), (21, .iload_n 1), (22, .iload_n 2), (23, .invokevirtual 399), (26, .if_icmp .lt 7), (29, .iconst 0), (30, .goto 4), (33, .iconst 1), (34, .ireturn)]
theorem k96_0 : dck c96 l96_0 := by unfold dck; decide +kernel
/-! 97: DawnPerquisite.best(III)I -/
abbrev c97 : ByteArray := prog_1_method_99_code
def l97_0 : List (Nat × Instr) := [(0, .iload_n 1), (1, .iload_n 2), (2, .invokestatic 402), (5, .ifCond .eq 12), (8, .iload_n 3), (9, .iconst 0), (10, .iconst 2), (11, .invokestatic 68), (14, .ifCond .ne 7), (17, .sipush (-1000)), (20, .ireturn), (21, .iload_n 1), (22, .istore 4), (24, .iload_n 1), (25, .istore 5), (27, .iload_n 1), (28, .istore 6), (30, .iload 6), (32, .iload_n 2), (33, .if_icmp .gt 55), (36, .iload 6), (38, .istore 7), (40, .iload 7), (42, .iload_n 2), (43, .if_icmp .gt 39), (46, .aload_n 0), (47, .iload 6), (49, .iload 7), (51, .invokevirtual 408), (54, .aload_n 0), (55, .iload 4), (57, .iload 5), (59, .invokevirtual 408), (62, .if_icmp .gt 6), (65, .goto 11), (68, .iload 6), (70, .istore 4), (72, .iload 7), (74, .istore 5), (76, .iinc 7 1), (79, .goto (-39)), (82, .iinc 6 1), (85, .goto (-55)), (88, .iload_n 3), (89, .ifCond .ne 14), (92, .aload_n 0), (93, .iload 4), (95, .iload 5), (97, .invokevirtual 408), (100, .goto 15), (103, .iload_n 3), (104, .iconst 1), (105, .if_icmp .ne 8), (108, .iload 4), (110, .goto 5), (113, .iload 5), (115, .ireturn)]
theorem k97_0 : dck c97 l97_0 := by unfold dck; decide +kernel
/-! 98: DawnPerquisite.runOf(II)I -/
abbrev c98 : ByteArray := prog_1_method_98_code
def l98_0 : List (Nat × Instr) := [(0, .iconst 0), (1, .istore_n 3), (2, .iload_n 1), (3, .istore 4), (5, .iload 4), (7, .iload_n 2), (8, .if_icmp .gt 25), (11, .iload_n 3), (12, .aload_n 0), (13, .getfield 21), (16, .getfield 393), (19, .iload 4), (21, .iaload), (22, .bipush 50), (24, .isub), (25, .iadd), (26, .istore_n 3), (27, .iinc 4 1), (30, .goto (-25)), (33, .iload_n 3), (34, .ireturn)]
theorem k98_0 : dck c98 l98_0 := by unfold dck; decide +kernel
/-! 99: DawnPerquisite.said(II)I -/
abbrev c99 : ByteArray := prog_1_method_100_code
def l99_0 : List (Nat × Instr) := [(0, .iload_n 1), (1, .iconst (-1)), (2, .if_icmp .ne 13), (5, .aload_n 0), (6, .getfield 21), (9, .bipush 6), (11, .invokevirtual 353), (14, .ireturn), (15, .aload_n 0), (16, .iload_n 1), (17, .invokevirtual 184), (20, .ifCond .eq 28), (23, .iload_n 2), (24, .iconst 0), (25, .bipush 99), (27, .invokestatic 68), (30, .ifCond .eq 18), (33, .aload_n 0), (34, .getfield 21), (37, .getfield 61), (40, .bipush 6), (42, .iaload), (43, .bipush 8), (45, .if_icmp .ne 6), (48, .bipush (-2)), (50, .ireturn), (51, .aload_n 0), (52, .getfield 21), (55, .getfield 411), (58, .aload_n 0), (59, .getfield 21), (62, .getfield 61), (65, .bipush 6), (67, .iaload), (68, .aaload), (69, .iconst 0), (70, .iload_n 1), (71, .iastore), (72, .aload_n 0), (73, .getfield 21), (76, .getfield 411), (79, .aload_n 0), (80, .getfield 21), (83, .getfield 61), (86, .bipush 6), (88, .iaload), (89, .aaload), (90, .iconst 1), (91, .iload_n 2), (92, .iastore), (93, .aload_n 0), (94, .getfield 21), (97, .getfield 61), (100, .bipush 6), (102, .dup2), (103, .iaload), (104, .iconst 1), (105, .iadd), (106, .iastore), (107, .aload_n 0)]
theorem k99_0 : dck c99 l99_0 := by unfold dck; decide +kernel
def l99_1 : List (Nat × Instr) := [(108, .getfield 21), (111, .getfield 61), (114, .bipush 6), (116, .iaload), (117, .ireturn)]
theorem k99_1 : dck c99 l99_1 := by unfold dck; decide +kernel
/-! 100: DawnPerquisite.whose()I -/
abbrev c100 : ByteArray := prog_1_method_102_code
def l100_0 : List (Nat × Instr) := [(0, .iconst 0), (1, .istore_n 1), (2, .iconst 0), (3, .istore_n 2), (4, .iload_n 2), (5, .aload_n 0), (6, .getfield 21), (9, .getfield 61), (12, .iconst 1), (13, .iaload), (14, .if_icmp .ge 35), (17, .iload_n 1), (18, .aload_n 0), (19, .aload_n 0), (20, .getfield 21), (23, .getfield 105), (26, .iload_n 2), (27, .aaload), (28, .invokevirtual 414), (31, .ifCond .eq 9), (34, .iconst 1), (35, .iload_n 2), (36, .ishl), (37, .goto 4), (40, .iconst 0), (41, .ior), (42, .istore_n 1), (43, .iinc 2 1), (46, .goto (-42)), (49, .iload_n 1), (50, .ireturn)]
theorem k100_0 : dck c100 l100_0 := by unfold dck; decide +kernel
/-! 101: DawnPerquisite.isLaw(LDawnPerquisite$Text;)Z -/
abbrev c101 : ByteArray := prog_1_method_101_code
def l101_0 : List (Nat × Instr) := [(0, .iconst 0), (1, .istore_n 2), (2, .iload_n 2), (3, .aload_n 0), (4, .getfield 21), (7, .getfield 61), (10, .bipush 6), (12, .iaload), (13, .if_icmp .ge 57), (16, .aload_n 0), (17, .aload_n 1), (18, .aload_n 0), (19, .getfield 21), (22, .getfield 173), (25, .aload_n 0), (26, .getfield 21), (29, .getfield 411), (32, .iload_n 2), (33, .aaload), (34, .iconst 0), (35, .iaload), (36, .aload_n 0), (37, .getfield 21), (40, .getfield 173), (43, .iconst 3), (44, .iaload), (45, .invokevirtual 176), (48, .aload_n 0), (49, .getfield 21), (52, .getfield 411), (55, .iload_n 2), (56, .aaload), (57, .iconst 1), (58, .iaload), (59, .if_icmp .eq 5), (62, .iconst 0), (63, .ireturn), (64, .iinc 2 1), (67, .goto (-65)), (70, .iconst 1), (71, .ireturn)]
theorem k101_0 : dck c101 l101_0 := by unfold dck; decide +kernel
/-! 102: DawnPerquisite.richest()I -/
abbrev c102 : ByteArray := prog_1_method_103_code
def l102_0 : List (Nat × Instr) := [(0, .iconst (-1)), (1, .istore_n 1), (2, .iconst 0), (3, .istore_n 2), (4, .iload_n 2), (5, .aload_n 0), (6, .invokevirtual 64), (9, .if_icmp .ge 47), (12, .aload_n 0), (13, .getfield 21), (16, .getfield 173), (19, .bipush 16), (21, .iload_n 2), (22, .iadd), (23, .iaload), (24, .iload_n 1), (25, .iconst (-1)), (26, .if_icmp .ne 7), (29, .iconst 0), (30, .goto 15), (33, .aload_n 0), (34, .getfield 21), (37, .getfield 173), (40, .bipush 16), (42, .iload_n 1), (43, .iadd), (44, .iaload), (45, .if_icmp .le 5), (48, .iload_n 2), (49, .istore_n 1), (50, .iinc 2 1), (53, .goto (-49)), (56, .iload_n 1), (57, .ireturn)]
theorem k102_0 : dck c102 l102_0 := by unfold dck; decide +kernel
/-! 103: DawnPerquisite.rival(I)I -/
abbrev c103 : ByteArray := prog_1_method_104_code
def l103_0 : List (Nat × Instr) := [(0, .aload_n 0), (1, .iload_n 1), (2, .invokevirtual 184), (5, .ifCond .ne 5), (8, .iconst (-1)), (9, .ireturn), (10, .iconst 0), (11, .istore_n 2), (12, .iconst 0), (13, .istore_n 3), (14, .iload_n 3), (15, .aload_n 0), (16, .invokevirtual 64), (19, .if_icmp .ge 60), (22, .iload_n 2), (23, .iload_n 3), (24, .iload_n 1), (25, .if_icmp .eq 45), (28, .aload_n 0), (29, .getfield 21), (32, .getfield 85), (35, .iload_n 3), (36, .iaload), (37, .aload_n 0), (38, .getfield 21), (41, .getfield 85), (44, .iload_n 1), (45, .iaload), (46, .iand), (47, .ifCond .eq 23), (50, .aload_n 0), (51, .iload_n 3), (52, .invokevirtual 190), (55, .aload_n 0), (56, .iload_n 1), (57, .invokevirtual 190), (60, .iand), (61, .ifCond .eq 9), (64, .iconst 1), (65, .iload_n 3), (66, .ishl), (67, .goto 4), (70, .iconst 0), (71, .ior), (72, .istore_n 2), (73, .iinc 3 1), (76, .goto (-62)), (79, .iload_n 2), (80, .ireturn)]
theorem k103_0 : dck c103 l103_0 := by unfold dck; decide +kernel
/-! 104: DawnPerquisite.learnt(IZ)J -/
abbrev c104 : ByteArray := prog_1_method_105_code
def l104_0 : List (Nat × Instr) := [(0, .iload_n 1), (1, .invokestatic 72), (4, .ifCond .ne 7), (7, .ldc2_w 349), (10, .lreturn), (11, .lconst 1), (12, .lstore_n 3), (13, .ldc2_w 418), (16, .lstore 5), (18, .iconst 0), (19, .istore 7), (21, .iload 7), (23, .aload_n 0), (24, .getfield 21), (27, .getfield 173), (30, .bipush 22), (32, .iaload), (33, .if_icmp .ge 68), (36, .aload_n 0), (37, .getfield 21), (40, .getfield 173), (43, .bipush 23), (45, .iconst 4), (46, .iload 7), (48, .imul), (49, .iadd), (50, .iconst 1), (51, .iadd), (52, .iaload), (53, .iconst 3), (54, .if_icmp .eq 6), (57, .goto 38), (60, .lload 5), (62, .lconst 1), (63, .ladd), (64, .lstore 5), (66, .lload_n 3), (67, .aload_n 0), (68, .getfield 21), (71, .getfield 173), (74, .bipush 23), (76, .iconst 4), (77, .iload 7), (79, .imul), (80, .iadd), (81, .iconst 2), (82, .iadd), (83, .iaload), (84, .iload_n 1), (85, .if_icmp .ne 7), (88, .lconst 1), (89, .goto 4), (92, .lconst 0), (93, .ladd), (94, .lstore_n 3), (95, .iinc 7 1), (98, .goto (-77)), (101, .lload_n 3), (102, .lload 5), (104, .iload_n 2)]
theorem k104_0 : dck c104 l104_0 := by unfold dck; decide +kernel
def l104_1 : List (Nat × Instr) := [(105, .invokestatic 345), (108, .lreturn)]
theorem k104_1 : dck c104 l104_1 := by unfold dck; decide +kernel
/-! 105: DawnPerquisite.wanted(I)I -/
abbrev c105 : ByteArray := prog_1_method_106_code
def l105_0 : List (Nat × Instr) := [(0, .iload_n 1), (1, .invokestatic 72), (4, .ifCond .ne 5), (7, .iconst (-1)), (8, .ireturn), (9, .iconst 0), (10, .istore_n 2), (11, .iconst 0), (12, .istore_n 3), (13, .iload_n 3), (14, .aload_n 0), (15, .invokevirtual 64), (18, .if_icmp .ge 26), (21, .iload_n 2), (22, .aload_n 0), (23, .iload_n 3), (24, .iload_n 1), (25, .invokevirtual 187), (28, .ifCond .eq 7), (31, .iconst 1), (32, .goto 4), (35, .iconst 0), (36, .iadd), (37, .istore_n 2), (38, .iinc 3 1), (41, .goto (-28)), (44, .iload_n 2), (45, .ireturn)]
theorem k105_0 : dck c105 l105_0 := by unfold dck; decide +kernel
/-! 106: DawnPerquisite.alone(I)I -/
abbrev c106 : ByteArray := prog_1_method_107_code
def l106_0 : List (Nat × Instr) := [(0, .aload_n 0), (1, .iload_n 1), (2, .invokevirtual 184), (5, .ifCond .ne 5), (8, .iconst (-1)), (9, .ireturn), (10, .aload_n 0), (11, .iload_n 1), (12, .invokevirtual 190), (15, .istore_n 2), (16, .iconst 0), (17, .istore_n 3), (18, .iload_n 3), (19, .aload_n 0), (20, .invokevirtual 64), (23, .if_icmp .ge 28), (26, .iload_n 2), (27, .iload_n 3), (28, .iload_n 1), (29, .if_icmp .ne 7), (32, .iload_n 2), (33, .goto 10), (36, .aload_n 0), (37, .iload_n 3), (38, .invokevirtual 190), (41, .iconst (-1)), (42, .ixor), (43, .iand), (44, .istore_n 2), (45, .iinc 3 1), (48, .goto (-30)), (51, .iload_n 2), (52, .ireturn)]
theorem k106_0 : dck c106 l106_0 := by unfold dck; decide +kernel
/-! 107: DawnPerquisite.since(I)I -/
abbrev c107 : ByteArray := prog_1_method_108_code
def l107_0 : List (Nat × Instr) := [(0, .aload_n 0), (1, .getfield 21), (4, .getfield 173), (7, .bipush 22), (9, .iaload), (10, .iconst 1), (11, .isub), (12, .istore_n 2), (13, .iload_n 2), (14, .ifCond .lt 73), (17, .iload_n 1), (18, .invokestatic 72), (21, .ifCond .eq 66), (24, .bipush 23), (26, .iconst 4), (27, .iload_n 2), (28, .imul), (29, .iadd), (30, .istore_n 3), (31, .aload_n 0), (32, .getfield 21), (35, .getfield 173), (38, .iload_n 3), (39, .iconst 1), (40, .iadd), (41, .iaload), (42, .iconst 3), (43, .if_icmp .ne 38), (46, .aload_n 0), (47, .getfield 21), (50, .getfield 173), (53, .iload_n 3), (54, .iconst 2), (55, .iadd), (56, .iaload), (57, .iload_n 1), (58, .if_icmp .ne 23), (61, .aload_n 0), (62, .getfield 21), (65, .getfield 173), (68, .iconst 0), (69, .iaload), (70, .aload_n 0), (71, .getfield 21), (74, .getfield 173), (77, .iload_n 3), (78, .iaload), (79, .isub), (80, .ireturn), (81, .iinc 2 (-1)), (84, .goto (-71)), (87, .iconst (-1)), (88, .ireturn)]
theorem k107_0 : dck c107 l107_0 := by unfold dck; decide +kernel
/-! 108: DawnPerquisite.idle()I -/
abbrev c108 : ByteArray := prog_1_method_109_code
def l108_0 : List (Nat × Instr) := [(0, .aload_n 0), (1, .getfield 21), (4, .getfield 173), (7, .iconst (-1)), (8, .invokestatic 135), (11, .istore_n 1), (12, .iconst 0), (13, .istore_n 2), (14, .iload_n 2), (15, .aload_n 0), (16, .invokevirtual 64), (19, .if_icmp .ge 40), (22, .iload_n 1), (23, .aload_n 0), (24, .iload_n 2), (25, .aload_n 0), (26, .getfield 21), (29, .getfield 173), (32, .iconst 3), (33, .iaload), (34, .invokevirtual 187), (37, .ifCond .eq 13), (40, .aload_n 0), (41, .iload_n 2), (42, .invokevirtual 190), (45, .iconst (-1)), (46, .ixor), (47, .goto 4), (50, .iload_n 1), (51, .iand), (52, .istore_n 1), (53, .iinc 2 1), (56, .goto (-42)), (59, .iload_n 1), (60, .ireturn)]
theorem k108_0 : dck c108 l108_0 := by unfold dck; decide +kernel
/-! 109: DawnPerquisite.poor()I -/
abbrev c109 : ByteArray := prog_1_method_110_code
def l109_0 : List (Nat × Instr) := [(0, .iconst 0), (1, .istore_n 1), (2, .iconst 0), (3, .istore_n 2), (4, .iload_n 2), (5, .aload_n 0), (6, .invokevirtual 64), (9, .if_icmp .ge 48), (12, .iload_n 1), (13, .aload_n 0), (14, .getfield 21), (17, .getfield 173), (20, .bipush 16), (22, .iload_n 2), (23, .iadd), (24, .iaload), (25, .aload_n 0), (26, .iload_n 2), (27, .aload_n 0), (28, .getfield 21), (31, .getfield 173), (34, .iconst 3), (35, .iaload), (36, .invokevirtual 193), (39, .if_icmp .ge 9), (42, .iconst 1), (43, .iload_n 2), (44, .ishl), (45, .goto 4), (48, .iconst 0), (49, .ior), (50, .istore_n 1), (51, .iinc 2 1), (54, .goto (-50)), (57, .iload_n 1), (58, .ireturn)]
theorem k109_0 : dck c109 l109_0 := by unfold dck; decide +kernel
/-! 110: DawnPerquisite.room(I)I -/
abbrev c110 : ByteArray := prog_1_method_111_code
def l110_0 : List (Nat × Instr) := [(0, .iload_n 1), (1, .iconst 1), (2, .bipush 12), (4, .invokestatic 68), (7, .ifCond .ne 5), (10, .iconst (-1)), (11, .ireturn), (12, .iconst 1), (13, .iload_n 1), (14, .ishl), (15, .iconst 1), (16, .isub), (17, .istore_n 2), (18, .iconst 0), (19, .istore_n 3), (20, .iload_n 3), (21, .iload_n 1), (22, .iadd), (23, .bipush 12), (25, .if_icmp .gt 30), (28, .aload_n 0), (29, .getfield 21), (32, .getfield 173), (35, .iconst (-1)), (36, .invokestatic 135), (39, .iload_n 3), (40, .ishr), (41, .iload_n 2), (42, .iand), (43, .iload_n 2), (44, .if_icmp .ne 5), (47, .iload_n 3), (48, .ireturn), (49, .iinc 3 1), (52, .goto (-32)), (55, .iconst (-1)), (56, .ireturn)]
theorem k110_0 : dck c110 l110_0 := by unfold dck; decide +kernel
/-! 111: DawnPerquisite.can(I)Z -/
abbrev c111 : ByteArray := prog_1_method_112_code
def l111_0 : List (Nat × Instr) := [(0, .aload_n 0), (1, .iload_n 1), (2, .invokevirtual 209), (5, .ireturn)]
theorem k111_0 : dck c111 l111_0 := by unfold dck; decide +kernel
/-! 112: DawnPerquisite.ledger(I)I -/
abbrev c112 : ByteArray := prog_1_method_113_code
def l112_0 : List (Nat × Instr) := [(0, .iload_n 1), (1, .iconst 0), (2, .iconst 4), (3, .invokestatic 68), (6, .ifCond .ne 6), (9, .bipush (-2)), (11, .ireturn), (12, .iconst 0), (13, .istore_n 2), (14, .iconst 0), (15, .istore_n 3), (16, .iload_n 3), (17, .aload_n 0), (18, .getfield 21), (21, .getfield 173), (24, .bipush 22), (26, .iaload), (27, .if_icmp .ge 37), (30, .iload_n 2), (31, .aload_n 0), (32, .getfield 21), (35, .getfield 173), (38, .bipush 23), (40, .iconst 4), (41, .iload_n 3), (42, .imul), (43, .iadd), (44, .iconst 1), (45, .iadd), (46, .iaload), (47, .iload_n 1), (48, .if_icmp .ne 7), (51, .iconst 1), (52, .goto 4), (55, .iconst 0), (56, .iadd), (57, .istore_n 2), (58, .iinc 3 1), (61, .goto (-45)), (64, .iload_n 2), (65, .ireturn)]
theorem k112_0 : dck c112 l112_0 := by unfold dck; decide +kernel
/-! 113: DawnPerquisite.image()I -/
abbrev c113 : ByteArray := prog_1_method_114_code
def l113_0 : List (Nat × Instr) := [(0, .aload_n 0), (1, .getfield 25), (4, .aload_n 0), (5, .getfield 21), (8, .invokevirtual 57), (11, .aload_n 0), (12, .getfield 21), (15, .getfield 173), (18, .iconst 0), (19, .iaload), (20, .ireturn)]
theorem k113_0 : dck c113 l113_0 := by unfold dck; decide +kernel
/-! 114: DawnPerquisite.back()I -/
abbrev c114 : ByteArray := prog_1_method_115_code
def l114_0 : List (Nat × Instr) := [(0, .aload_n 0), (1, .getfield 21), (4, .aload_n 0), (5, .getfield 25), (8, .invokevirtual 57), (11, .aload_n 0), (12, .getfield 21), (15, .getfield 173), (18, .iconst 0), (19, .iaload), (20, .ireturn)]
theorem k114_0 : dck c114 l114_0 := by unfold dck; decide +kernel
/-! 115: DawnPerquisite.about(I)I -/
abbrev c115 : ByteArray := prog_1_method_116_code
def l115_0 : List (Nat × Instr) := [(0, .iload_n 1), (44, .aload_n 0), (45, .invokevirtual 64), (48, .ireturn), (49, .aload_n 0), (50, .getfield 21), (53, .getfield 61), (56, .iconst 1), (57, .iaload), (58, .ireturn), (59, .aload_n 0), (60, .getfield 21), (63, .getfield 61), (66, .iconst 2), (67, .iaload), (68, .ireturn), (69, .aload_n 0), (70, .getfield 21), (73, .getfield 61), (76, .iconst 3), (77, .iaload), (78, .ireturn), (79, .aload_n 0), (80, .invokevirtual 356), (83, .ireturn), (84, .aload_n 0), (85, .getfield 21), (88, .getfield 61), (91, .bipush 6), (93, .iaload), (94, .ireturn), (95, .aload_n 0), (96, .getfield 98), (99, .ireturn), (100, .bipush (-2)), (102, .ireturn)]
theorem k115_0 : dck c115 l115_0 := by unfold dck; decide +kernel
theorem w115_1 : decode c115 1 = .ok (.tableswitch 99 0 6 #[43, 48, 58, 68, 78, 83, 94], 43) := by decide +kernel
/-! 116: DawnPerquisite$State.<init>()V -/
abbrev c116 : ByteArray := prog_13_method_1_code
def l116_0 : List (Nat × Instr) := [(0, .aload_n 0), (1, .invokespecial 3), (4, .aload_n 0), (5, .bipush 7), (7, .newarray .int), (9, .putfield 9), (12, .aload_n 0), (13, .bipush 123), (15, .newarray .int), (17, .putfield 15), (20, .aload_n 0), (21, .iconst 5), (22, .newarray .int), (24, .putfield 18), (27, .aload_n 0), (28, .iconst 5), (29, .newarray .int), (31, .putfield 21), (34, .aload_n 0), (35, .bipush 6), (37, .newarray .int), (39, .putfield 24), (42, .aload_n 0), (43, .bipush 6), (45, .newarray .int), (47, .putfield 27), (50, .aload_n 0), (51, .bipush 6), (53, .newarray .int), (55, .putfield 30), (58, .aload_n 0), (59, .bipush 12), (61, .newarray .int), (63, .putfield 33), (66, .aload_n 0), (67, .bipush 8), (69, .iconst 2), (70, .multianewarray 36 2), (74, .putfield 38), (77, .aload_n 0), (78, .bipush 30), (80, .bipush 123), (82, .multianewarray 36 2), (86, .putfield 41), (89, .aload_n 0), (90, .iconst 4), (91, .anewarray 44), (94, .putfield 46), (97, .aload_n 0), (98, .getfield 9), (101, .iconst 2), (102, .iconst (-1)), (103, .iastore), (104, .aload_n 0), (105, .getfield 15), (108, .iconst 1), (109, .sipush 457), (112, .iastore), (113, .aload_n 0), (114, .getfield 15)]
theorem k116_0 : dck c116 l116_0 := by unfold dck; decide +kernel
def l116_1 : List (Nat × Instr) := [(117, .iconst 4), (118, .bipush 16), (120, .iconst (-1)), (121, .invokestatic 50), (124, .aload_n 0), (125, .getfield 18), (128, .iconst 1), (129, .invokestatic 56), (132, .iconst 0), (133, .istore_n 1), (134, .iload_n 1), (135, .iconst 5), (136, .if_icmp .ge 19), (139, .aload_n 0), (140, .getfield 21), (143, .iload_n 1), (144, .bipush 10), (146, .iload_n 1), (147, .imul), (148, .iastore), (149, .iinc 1 1), (152, .goto (-18)), (155, .return_)]
theorem k116_1 : dck c116 l116_1 := by unfold dck; decide +kernel
/-! 117: DawnPerquisite$State.be(LDawnPerquisite$State;)V -/
abbrev c117 : ByteArray := prog_13_method_4_code
def l117_0 : List (Nat × Instr) := [(0, .aload_n 1), (1, .getfield 9), (4, .aload_n 0), (5, .getfield 9), (8, .invokestatic 65), (11, .aload_n 1), (12, .getfield 15), (15, .aload_n 0), (16, .getfield 15), (19, .invokestatic 65), (22, .aload_n 1), (23, .getfield 18), (26, .aload_n 0), (27, .getfield 18), (30, .invokestatic 65), (33, .aload_n 1), (34, .getfield 21), (37, .aload_n 0), (38, .getfield 21), (41, .invokestatic 65), (44, .aload_n 1), (45, .getfield 24), (48, .aload_n 0), (49, .getfield 24), (52, .invokestatic 65), (55, .aload_n 1), (56, .getfield 27), (59, .aload_n 0), (60, .getfield 27), (63, .invokestatic 65), (66, .aload_n 1), (67, .getfield 30), (70, .aload_n 0), (71, .getfield 30), (74, .invokestatic 65), (77, .aload_n 1), (78, .getfield 33), (81, .aload_n 0), (82, .getfield 33), (85, .invokestatic 65), (88, .aload_n 1), (89, .getfield 38), (92, .aload_n 0), (93, .getfield 38), (96, .invokestatic 69), (99, .aload_n 1), (100, .getfield 41), (103, .aload_n 0), (104, .getfield 41), (107, .invokestatic 69), (110, .aload_n 1), (111, .getfield 46), (114, .iconst 0), (115, .aload_n 0), (116, .getfield 46), (119, .iconst 0), (120, .iconst 4), (121, .invokestatic 59), (124, .return_)]
theorem k117_0 : dck c117 l117_0 := by unfold dck; decide +kernel
/-! 118: DawnPerquisite$State.copy([I[I)V -/
abbrev c118 : ByteArray := prog_13_method_2_code
def l118_0 : List (Nat × Instr) := [(0, .aload_n 0), (1, .iconst 0), (2, .aload_n 1), (3, .iconst 0), (4, .aload_n 0), (5, .arraylength), (6, .invokestatic 59), (9, .return_)]
theorem k118_0 : dck c118 l118_0 := by unfold dck; decide +kernel
/-! 119: DawnPerquisite$State.copy([[I[[I)V -/
abbrev c119 : ByteArray := prog_13_method_3_code
def l119_0 : List (Nat × Instr) := [(0, .iconst 0), (1, .istore_n 2), (2, .iload_n 2), (3, .aload_n 0), (4, .arraylength), (5, .if_icmp .ge 18), (8, .aload_n 0), (9, .iload_n 2), (10, .aaload), (11, .aload_n 1), (12, .iload_n 2), (13, .aaload), (14, .invokestatic 65), (17, .iinc 2 1), (20, .goto (-18)), (23, .return_)]
theorem k119_0 : dck c119 l119_0 := by unfold dck; decide +kernel
/-! 120: DawnPerquisite$State.tells(II)V -/
abbrev c120 : ByteArray := prog_13_method_6_code
def l120_0 : List (Nat × Instr) := [(0, .aload_n 0), (1, .getfield 15), (4, .iload_n 1), (5, .iload_n 2), (6, .iastore), (7, .iconst 0), (8, .istore_n 3), (9, .iload_n 3), (10, .aload_n 0), (11, .getfield 9), (14, .iconst 3), (15, .iaload), (16, .if_icmp .ge 18), (19, .aload_n 0), (20, .getfield 41), (23, .iload_n 3), (24, .aaload), (25, .iload_n 1), (26, .iload_n 2), (27, .iastore), (28, .iinc 3 1), (31, .goto (-22)), (34, .return_)]
theorem k120_0 : dck c120 l120_0 := by unfold dck; decide +kernel
/-! 121: DawnPerquisite$State.keeps()V -/
abbrev c121 : ByteArray := prog_13_method_5_code
def l121_0 : List (Nat × Instr) := [(0, .aload_n 0), (1, .getfield 9), (4, .iconst 3), (5, .iaload), (6, .bipush 30), (8, .if_icmp .ne 44), (11, .iconst 1), (12, .istore_n 1), (13, .iload_n 1), (14, .bipush 30), (16, .if_icmp .ge 26), (19, .aload_n 0), (20, .getfield 41), (23, .iload_n 1), (24, .aaload), (25, .aload_n 0), (26, .getfield 41), (29, .iload_n 1), (30, .iconst 1), (31, .isub), (32, .aaload), (33, .invokestatic 65), (36, .iinc 1 1), (39, .goto (-26)), (42, .aload_n 0), (43, .getfield 9), (46, .iconst 3), (47, .dup2), (48, .iaload), (49, .iconst 1), (50, .isub), (51, .iastore), (52, .aload_n 0), (53, .getfield 15), (56, .aload_n 0), (57, .getfield 41), (60, .aload_n 0), (61, .getfield 9), (64, .iconst 3), (65, .iaload), (66, .aaload), (67, .invokestatic 65), (70, .aload_n 0), (71, .getfield 9), (74, .iconst 3), (75, .dup2), (76, .iaload), (77, .iconst 1), (78, .iadd), (79, .iastore), (80, .return_)]
theorem k121_0 : dck c121 l121_0 := by unfold dck; decide +kernel
/-! 122: DawnPerquisite$State.clears(I)I -/
abbrev c122 : ByteArray := prog_13_method_7_code
def l122_0 : List (Nat × Instr) := [(0, .aload_n 0), (1, .getfield 9), (4, .iload_n 1), (5, .iconst 0), (6, .iastore), (7, .iconst 0), (8, .ireturn)]
theorem k122_0 : dck c122 l122_0 := by unfold dck; decide +kernel
/-! 123: java/util/Arrays.fill([IIII)V -/
abbrev c123 : ByteArray := prog_42_method_104_code
def l123_0 : List (Nat × Instr) := [(0, .aload_n 0), (1, .arraylength), (2, .iload_n 1), (3, .iload_n 2), (4, .invokestatic 13), (7, .iload_n 1), (8, .istore 4), (10, .iload 4), (12, .iload_n 2), (13, .if_icmp .ge 14), (16, .aload_n 0), (17, .iload 4), (19, .iload_n 3), (20, .iastore), (21, .iinc 4 1), (24, .goto (-14)), (27, .return_)]
theorem k123_0 : dck c123 l123_0 := by unfold dck; decide +kernel
/-! 124: java/util/Arrays.rangeCheck(III)V -/
abbrev c124 : ByteArray := prog_42_method_30_code
def l124_0 : List (Nat × Instr) := [(0, .iload_n 1), (1, .iload_n 2), (2, .if_icmp .le 44), (5, .new 43), (8, .dup), (9, .new 45), (12, .dup), (13, .invokespecial 47), (16, .ldc 48), (18, .invokevirtual 50), (21, .iload_n 1), (22, .invokevirtual 54), (25, .ldc 57), (27, .invokevirtual 50), (30, .iload_n 2), (31, .invokevirtual 54), (34, .ldc 59), (36, .invokevirtual 50), (39, .invokevirtual 61), (42, .invokespecial 65), (45, .athrow), (46, .iload_n 1), (47, .ifCond .ge 12), (50, .new 68), (53, .dup), (54, .iload_n 1), (55, .invokespecial 70), (58, .athrow), (59, .iload_n 2), (60, .iload_n 0), (61, .if_icmp .le 12), (64, .new 68), (67, .dup), (68, .iload_n 2), (69, .invokespecial 70), (72, .athrow), (73, .return_)]
theorem k124_0 : dck c124 l124_0 := by unfold dck; decide +kernel
/-! 125: java/util/Arrays.fill([II)V -/
abbrev c125 : ByteArray := prog_42_method_103_code
def l125_0 : List (Nat × Instr) := [(0, .iconst 0), (1, .istore_n 2), (2, .aload_n 0), (3, .arraylength), (4, .istore_n 3), (5, .iload_n 2), (6, .iload_n 3), (7, .if_icmp .ge 13), (10, .aload_n 0), (11, .iload_n 2), (12, .iload_n 1), (13, .iastore), (14, .iinc 2 1), (17, .goto (-12)), (20, .return_)]
theorem k125_0 : dck c125 l125_0 := by unfold dck; decide +kernel
/-! 126: java/util/Arrays.copyOf([Ljava/lang/Object;I)[Ljava/lang/Object; -/
abbrev c126 : ByteArray := prog_42_method_119_code
def l126_0 : List (Nat × Instr) := [(0, .aload_n 0), (1, .iload_n 1), (2, .aload_n 0), (3, .invokevirtual 86), (6, .invokestatic 300), (9, .areturn)]
theorem k126_0 : dck c126 l126_0 := by unfold dck; decide +kernel
/-! 127: java/util/Arrays.copyOf([Ljava/lang/Object;ILjava/lang/Class;)[Ljava/lang/Object; -/
abbrev c127 : ByteArray := prog_42_method_120_code
def l127_0 : List (Nat × Instr) := [(0, .aload_n 2), (1, .ldc 110), (3, .if_acmp .ne 10), (6, .iload_n 1), (7, .anewarray 2), (10, .goto 14), (13, .aload_n 2), (14, .invokevirtual 90), (17, .iload_n 1), (18, .invokestatic 95), (21, .checkcast 110), (24, .astore_n 3), (25, .aload_n 0), (26, .iconst 0), (27, .aload_n 3), (28, .iconst 0), (29, .aload_n 0), (30, .arraylength), (31, .iload_n 1), (32, .invokestatic 304), (35, .invokestatic 150), (38, .aload_n 3), (39, .areturn)]
theorem k127_0 : dck c127 l127_0 := by unfold dck; decide +kernel
/-! 128: DawnPerquisiteModel.<init>()V -/
abbrev c128 : ByteArray := prog_20_method_1_code
def l128_0 : List (Nat × Instr) := [(0, .aload_n 0), (1, .invokespecial 1), (4, .aload_n 0), (5, .sipush 1592), (8, .newarray .int), (10, .putfield 7), (13, .aload_n 0), (14, .sipush 1592), (17, .newarray .int), (19, .putfield 13), (22, .aload_n 0), (23, .sipush 2724), (26, .newarray .int), (28, .putfield 16), (31, .aload_n 0), (32, .sipush 300), (35, .newarray .int), (37, .putfield 19), (40, .aload_n 0), (41, .iconst (-1)), (42, .putfield 22), (45, .aload_n 0), (46, .iconst (-1)), (47, .putfield 26), (50, .aload_n 0), (51, .sipush 160), (54, .newarray .int), (56, .putfield 29), (59, .aload_n 0), (60, .bipush 8), (62, .newarray .int), (64, .putfield 32), (67, .aload_n 0), (68, .sipush 330), (71, .newarray .long), (73, .putfield 35), (76, .aload_n 0), (77, .sipush 330), (80, .newarray .boolean), (82, .putfield 39), (85, .aload_n 0), (86, .iconst 1), (87, .putfield 43), (90, .aload_n 0), (91, .bipush 29), (93, .newarray .int), (95, .putfield 47), (98, .aload_n 0), (99, .bipush 6), (101, .newarray .int), (103, .putfield 50), (106, .aload_n 0), (107, .bipush 6), (109, .newarray .int), (111, .putfield 53), (114, .aload_n 0), (115, .sipush 144), (118, .newarray .int), (120, .putfield 56), (123, .aload_n 0)]
theorem k128_0 : dck c128 l128_0 := by unfold dck; decide +kernel
def l128_1 : List (Nat × Instr) := [(124, .getfield 7), (127, .bipush 7), (129, .sipush 457), (132, .iastore), (133, .aload_n 0), (134, .getfield 7), (137, .iconst 2), (138, .iconst (-1)), (139, .iastore), (140, .iconst 0), (141, .istore_n 1), (142, .iload_n 1), (143, .iconst 5), (144, .if_icmp .ge 32), (147, .aload_n 0), (148, .getfield 7), (151, .bipush 29), (153, .iload_n 1), (154, .iadd), (155, .iconst 1), (156, .iastore), (157, .aload_n 0), (158, .getfield 7), (161, .bipush 34), (163, .iload_n 1), (164, .iadd), (165, .bipush 10), (167, .iload_n 1), (168, .imul), (169, .iastore), (170, .iinc 1 1), (173, .goto (-31)), (176, .iconst 0), (177, .istore_n 1), (178, .iload_n 1), (179, .bipush 12), (181, .if_icmp .ge 19), (184, .aload_n 0), (185, .getfield 7), (188, .bipush 11), (190, .iload_n 1), (191, .iadd), (192, .iconst (-1)), (193, .iastore), (194, .iinc 1 1), (197, .goto (-19)), (200, .aload_n 0), (201, .getfield 7), (204, .aload_n 0), (205, .getfield 13), (208, .invokestatic 59), (211, .return_)]
theorem k128_1 : dck c128 l128_1 := by unfold dck; decide +kernel
/-! 129: DawnPerquisiteModel.copy([I[I)V -/
abbrev c129 : ByteArray := prog_20_method_2_code
def l129_0 : List (Nat × Instr) := [(0, .iconst 0), (1, .istore_n 2), (2, .iload_n 2), (3, .sipush 1592), (6, .if_icmp .ge 15), (9, .aload_n 1), (10, .iload_n 2), (11, .aload_n 0), (12, .iload_n 2), (13, .iaload), (14, .iastore), (15, .iinc 2 1), (18, .goto (-16)), (21, .return_)]
theorem k129_0 : dck c129 l129_0 := by unfold dck; decide +kernel
/-! 130: DawnPerquisiteModel.sort(III)Z -/
abbrev c130 : ByteArray := prog_20_method_18_code
def l130_0 : List (Nat × Instr) := [(0, .iload_n 1), (1, .invokestatic 81), (4, .ifCond .eq 23), (7, .iload_n 2), (8, .iconst 0), (9, .bipush 9), (11, .invokestatic 63), (14, .ifCond .eq 13), (17, .iload_n 3), (18, .iconst 0), (19, .bipush 99), (21, .invokestatic 63), (24, .ifCond .ne 5), (27, .iconst 0), (28, .ireturn), (29, .aload_n 0), (30, .getfield 7), (33, .bipush 29), (35, .iload_n 1), (36, .iadd), (37, .iload_n 2), (38, .iastore), (39, .aload_n 0), (40, .getfield 7), (43, .bipush 34), (45, .iload_n 1), (46, .iadd), (47, .iload_n 3), (48, .iastore), (49, .iconst 1), (50, .ireturn)]
theorem k130_0 : dck c130 l130_0 := by unfold dck; decide +kernel
/-! 131: DawnPerquisiteModel.isSort(I)Z -/
abbrev c131 : ByteArray := prog_20_method_8_code
def l131_0 : List (Nat × Instr) := [(0, .iload_n 0), (1, .iconst 0), (2, .iconst 4), (3, .invokestatic 63), (6, .ireturn)]
theorem k131_0 : dck c131 l131_0 := by unfold dck; decide +kernel
/-! 132: DawnPerquisiteModel.isIn(III)Z -/
abbrev c132 : ByteArray := prog_20_method_3_code
def l132_0 : List (Nat × Instr) := [(0, .iload_n 0), (1, .iload_n 1), (2, .if_icmp .lt 12), (5, .iload_n 0), (6, .iload_n 2), (7, .if_icmp .gt 7), (10, .iconst 1), (11, .goto 4), (14, .iconst 0), (15, .ireturn)]
theorem k132_0 : dck c132 l132_0 := by unfold dck; decide +kernel
/-! 133: DawnPerquisiteModel.buyer(IIII)I -/
abbrev c133 : ByteArray := prog_20_method_19_code
def l133_0 : List (Nat × Instr) := [(0, .iload_n 1), (1, .iconst 0), (2, .bipush 31), (4, .invokestatic 63), (7, .ifCond .eq 34), (10, .iload_n 2), (11, .iload_n 3), (12, .invokestatic 85), (15, .ifCond .eq 26), (18, .iload 4), (20, .iconst 0), (21, .sipush 999), (24, .invokestatic 63), (27, .ifCond .eq 14), (30, .aload_n 0), (31, .getfield 7), (34, .iconst 0), (35, .iaload), (36, .bipush 6), (38, .if_icmp .ne 5), (41, .iconst (-1)), (42, .ireturn), (43, .aload_n 0), (44, .getfield 7), (47, .iconst 0), (48, .iaload), (49, .istore 5), (51, .aload_n 0), (52, .getfield 7), (55, .bipush 39), (57, .iload 5), (59, .iadd), (60, .iload_n 1), (61, .iastore), (62, .aload_n 0), (63, .getfield 7), (66, .bipush 45), (68, .iload 5), (70, .iadd), (71, .iload_n 2), (72, .iastore), (73, .aload_n 0), (74, .getfield 7), (77, .bipush 51), (79, .iload 5), (81, .iadd), (82, .iload_n 3), (83, .iastore), (84, .aload_n 0), (85, .getfield 7), (88, .bipush 57), (90, .iload 5), (92, .iadd), (93, .iload 4), (95, .iastore), (96, .aload_n 0), (97, .getfield 7), (100, .bipush 23), (102, .iload 5), (104, .iadd)]
theorem k133_0 : dck c133 l133_0 := by unfold dck; decide +kernel
def l133_1 : List (Nat × Instr) := [(105, .iload 4), (107, .iastore), (108, .aload_n 0), (109, .getfield 7), (112, .iconst 0), (113, .dup2), (114, .iaload), (115, .iconst 1), (116, .iadd), (117, .iastore), (118, .iload 5), (120, .ireturn)]
theorem k133_1 : dck c133 l133_1 := by unfold dck; decide +kernel
/-! 134: DawnPerquisiteModel.areSlices(II)Z -/
abbrev c134 : ByteArray := prog_20_method_10_code
def l134_0 : List (Nat × Instr) := [(0, .iload_n 1), (1, .iconst 0), (2, .bipush 11), (4, .invokestatic 63), (7, .ifCond .eq 16), (10, .iload_n 0), (11, .iconst 0), (12, .iload_n 1), (13, .invokestatic 63), (16, .ifCond .eq 7), (19, .iconst 1), (20, .goto 4), (23, .iconst 0), (24, .ireturn)]
theorem k134_0 : dck c134 l134_0 := by unfold dck; decide +kernel
/-! 135: DawnPerquisiteModel.feed(IIIII)I -/
abbrev c135 : ByteArray := prog_20_method_21_code
def l135_0 : List (Nat × Instr) := [(0, .aload_n 0), (1, .getfield 88), (4, .bipush 20), (6, .iadd), (7, .sipush 300), (10, .if_icmp .le 5), (13, .iconst (-1)), (14, .ireturn), (15, .aload_n 0), (16, .iload_n 1), (17, .invokevirtual 91), (20, .aload_n 0), (21, .iload_n 2), (22, .invokevirtual 91), (25, .aload_n 0), (26, .iload_n 3), (27, .invokevirtual 91), (30, .aload_n 0), (31, .iload 4), (33, .invokevirtual 91), (36, .aload_n 0), (37, .iload 5), (39, .invokevirtual 91), (42, .aload_n 0), (43, .getfield 88), (46, .ireturn)]
theorem k135_0 : dck c135 l135_0 := by unfold dck; decide +kernel
/-! 136: DawnPerquisiteModel.four(I)V -/
abbrev c136 : ByteArray := prog_20_method_20_code
def l136_0 : List (Nat × Instr) := [(0, .bipush 24), (2, .istore_n 2), (3, .iload_n 2), (4, .ifCond .lt 35), (7, .aload_n 0), (8, .getfield 19), (11, .aload_n 0), (12, .getfield 88), (15, .iload_n 1), (16, .iload_n 2), (17, .ishr), (18, .sipush 255), (21, .iand), (22, .iastore), (23, .aload_n 0), (24, .dup), (25, .getfield 88), (28, .iconst 1), (29, .iadd), (30, .putfield 88), (33, .iinc 2 (-8)), (36, .goto (-33)), (39, .return_)]
theorem k136_0 : dck c136 l136_0 := by unfold dck; decide +kernel
/-! 137: DawnPerquisiteModel.end(I)I -/
abbrev c137 : ByteArray := prog_20_method_22_code
def l137_0 : List (Nat × Instr) := [(0, .iload_n 1), (1, .iconst 0), (2, .aload_n 0), (3, .getfield 88), (6, .invokestatic 63), (9, .ifCond .ne 5), (12, .iconst (-1)), (13, .ireturn), (14, .aload_n 0), (15, .iload_n 1), (16, .putfield 88), (19, .iload_n 1), (20, .ireturn)]
theorem k137_0 : dck c137 l137_0 := by unfold dck; decide +kernel
/-! 138: DawnPerquisiteModel.text()I -/
abbrev c138 : ByteArray := prog_20_method_58_code
def l138_0 : List (Nat × Instr) := [(0, .aload_n 0), (1, .getfield 7), (4, .iconst 1), (5, .iaload), (6, .iconst 4), (7, .if_icmp .ne 5), (10, .iconst (-1)), (11, .ireturn), (12, .aload_n 0), (13, .aload_n 0), (14, .invokevirtual 244), (17, .putfield 22), (20, .aload_n 0), (21, .aload_n 0), (22, .getfield 22), (25, .ifCond .ne 7), (28, .iconst (-1)), (29, .goto 7), (32, .aload_n 0), (33, .getfield 101), (36, .putfield 26), (39, .aload_n 0), (40, .iconst 0), (41, .putfield 88), (44, .aload_n 0), (45, .getfield 22), (48, .ifCond .eq 5), (51, .iconst (-1)), (52, .ireturn), (53, .aload_n 0), (54, .getfield 7), (57, .iconst 1), (58, .dup2), (59, .iaload), (60, .iconst 1), (61, .iadd), (62, .iastore), (63, .aload_n 0), (64, .getfield 7), (67, .iconst 1), (68, .iaload), (69, .iconst 1), (70, .isub), (71, .ireturn)]
theorem k138_0 : dck c138 l138_0 := by unfold dck; decide +kernel
/-! 139: DawnPerquisiteModel.readText()I -/
abbrev c139 : ByteArray := prog_20_method_57_code
def l139_0 : List (Nat × Instr) := [(0, .aload_n 0), (1, .sipush 681), (4, .aload_n 0), (5, .getfield 7), (8, .iconst 1), (9, .iaload), (10, .imul), (11, .putfield 142), (14, .aload_n 0), (15, .getfield 16), (18, .aload_n 0), (19, .getfield 142), (22, .iconst 0), (23, .iastore), (24, .aload_n 0), (25, .iconst 0), (26, .putfield 145), (29, .aload_n 0), (30, .iconst 0), (31, .putfield 234), (34, .aload_n 0), (35, .iconst 0), (36, .putfield 95), (39, .aload_n 0), (40, .invokevirtual 171), (43, .aload_n 0), (44, .getfield 104), (47, .ifCond .eq 17), (50, .aload_n 0), (51, .invokevirtual 241), (54, .istore_n 1), (55, .iload_n 1), (56, .ifCond .eq 5), (59, .iload_n 1), (60, .ireturn), (61, .goto (-18)), (64, .iconst 0), (65, .ireturn)]
theorem k139_0 : dck c139 l139_0 := by unfold dck; decide +kernel
/-! 140: DawnPerquisiteModel.nextToken()V -/
abbrev c140 : ByteArray := prog_20_method_27_code
def l140_0 : List (Nat × Instr) := [(0, .aload_n 0), (1, .aload_n 0), (2, .getfield 95), (5, .invokevirtual 98), (8, .bipush 32), (10, .if_icmp .eq 16), (13, .aload_n 0), (14, .aload_n 0), (15, .getfield 95), (18, .invokevirtual 98), (21, .bipush 10), (23, .if_icmp .ne 16), (26, .aload_n 0), (27, .dup), (28, .getfield 95), (31, .iconst 1), (32, .iadd), (33, .putfield 95), (36, .goto (-36)), (39, .aload_n 0), (40, .aload_n 0), (41, .getfield 95), (44, .putfield 101), (47, .aload_n 0), (48, .aload_n 0), (49, .getfield 95), (52, .invokevirtual 98), (55, .istore_n 1), (56, .iload_n 1), (57, .ifCond .ge 11), (60, .aload_n 0), (61, .iconst 0), (62, .putfield 104), (65, .goto 245), (68, .iload_n 1), (69, .invokestatic 107), (72, .ifCond .eq 79), (75, .aload_n 0), (76, .iconst 1), (77, .putfield 104), (80, .aload_n 0), (81, .iconst 0), (82, .putfield 110), (85, .aload_n 0), (86, .aload_n 0), (87, .getfield 95), (90, .invokevirtual 98), (93, .invokestatic 107), (96, .ifCond .eq 214), (99, .aload_n 0), (100, .aload_n 0), (101, .getfield 110), (104, .ldc 113), (106, .if_icmp .le 10), (109, .aload_n 0), (110, .getfield 110), (113, .goto 22), (116, .bipush 10), (118, .aload_n 0), (119, .getfield 110)]
theorem k140_0 : dck c140 l140_0 := by unfold dck; decide +kernel
def l140_1 : List (Nat × Instr) := [(122, .imul), (123, .aload_n 0), (124, .aload_n 0), (125, .getfield 95), (128, .invokevirtual 98), (131, .iadd), (132, .bipush 48), (134, .isub), (135, .putfield 110), (138, .aload_n 0), (139, .dup), (140, .getfield 95), (143, .iconst 1), (144, .iadd), (145, .putfield 95), (148, .goto (-63)), (151, .iload_n 1), (152, .invokestatic 114), (155, .ifCond .eq 79), (158, .aload_n 0), (159, .iconst 2), (160, .putfield 104), (163, .aload_n 0), (164, .lconst 0), (165, .putfield 117), (168, .aload_n 0), (169, .aload_n 0), (170, .getfield 95), (173, .invokevirtual 98), (176, .invokestatic 114), (179, .ifCond .eq 131), (182, .aload_n 0), (183, .aload_n 0), (184, .getfield 117), (187, .bipush 48), (189, .lshr), (190, .lconst 0), (191, .lcmp), (192, .ifCond .eq 9), (195, .ldc2_w 121), (198, .goto 20), (201, .aload_n 0), (202, .getfield 117), (205, .bipush 8), (207, .lshl), (208, .aload_n 0), (209, .aload_n 0), (210, .getfield 95), (213, .invokevirtual 98), (216, .i2l), (217, .lor), (218, .putfield 117), (221, .aload_n 0), (222, .dup), (223, .getfield 95), (226, .iconst 1), (227, .iadd), (228, .putfield 95), (231, .goto (-63)), (234, .aload_n 0)]
theorem k140_1 : dck c140 l140_1 := by unfold dck; decide +kernel
def l140_2 : List (Nat × Instr) := [(235, .iload_n 1), (236, .invokestatic 123), (239, .ifCond .eq 7), (242, .iload_n 1), (243, .goto 4), (246, .iconst 3), (247, .putfield 104), (250, .aload_n 0), (251, .dup), (252, .getfield 95), (255, .iconst 1), (256, .iadd), (257, .putfield 95), (260, .iload_n 1), (261, .bipush 60), (263, .if_icmp .eq 9), (266, .iload_n 1), (267, .bipush 62), (269, .if_icmp .ne 41), (272, .aload_n 0), (273, .aload_n 0), (274, .getfield 95), (277, .invokevirtual 98), (280, .bipush 61), (282, .if_icmp .ne 28), (285, .aload_n 0), (286, .iload_n 1), (287, .bipush 60), (289, .if_icmp .ne 7), (292, .iconst 4), (293, .goto 4), (296, .iconst 5), (297, .putfield 104), (300, .aload_n 0), (301, .dup), (302, .getfield 95), (305, .iconst 1), (306, .iadd), (307, .putfield 95), (310, .return_)]
theorem k140_2 : dck c140 l140_2 := by unfold dck; decide +kernel
/-! 141: DawnPerquisiteModel.byteAt(I)I -/
abbrev c141 : ByteArray := prog_20_method_23_code
def l141_0 : List (Nat × Instr) := [(0, .iload_n 1), (1, .aload_n 0), (2, .getfield 88), (5, .if_icmp .ge 12), (8, .aload_n 0), (9, .getfield 19), (12, .iload_n 1), (13, .iaload), (14, .goto 4), (17, .iconst (-1)), (18, .ireturn)]
theorem k141_0 : dck c141 l141_0 := by unfold dck; decide +kernel
/-! 142: DawnPerquisiteModel.isFigure(I)Z -/
abbrev c142 : ByteArray := prog_20_method_25_code
def l142_0 : List (Nat × Instr) := [(0, .iload_n 0), (1, .bipush 48), (3, .if_icmp .lt 13), (6, .iload_n 0), (7, .bipush 57), (9, .if_icmp .gt 7), (12, .iconst 1), (13, .goto 4), (16, .iconst 0), (17, .ireturn)]
theorem k142_0 : dck c142 l142_0 := by unfold dck; decide +kernel
/-! 143: DawnPerquisiteModel.isLetterByte(I)Z -/
abbrev c143 : ByteArray := prog_20_method_24_code
def l143_0 : List (Nat × Instr) := [(0, .iload_n 0), (1, .bipush 97), (3, .if_icmp .lt 9), (6, .iload_n 0), (7, .bipush 122), (9, .if_icmp .le 15), (12, .iload_n 0), (13, .bipush 65), (15, .if_icmp .lt 13), (18, .iload_n 0), (19, .bipush 90), (21, .if_icmp .gt 7), (24, .iconst 1), (25, .goto 4), (28, .iconst 0), (29, .ireturn)]
theorem k143_0 : dck c143 l143_0 := by unfold dck; decide +kernel
/-! 144: DawnPerquisiteModel.isSign(I)Z -/
abbrev c144 : ByteArray := prog_20_method_26_code
def l144_0 : List (Nat × Instr) := [(0, .iload_n 0), (128, .iconst 1), (129, .ireturn), (130, .iconst 0), (131, .ireturn)]
theorem k144_0 : dck c144 l144_0 := by unfold dck; decide +kernel
theorem w144_1 : decode c144 1 = .ok (.tableswitch 129 35 62 #[127, 129, 129, 129, 129, 127, 127, 127, 127, 129, 127, 129, 127, 129, 129, 129, 129, 129, 129, 129, 129, 129, 129, 127, 127, 127, 127, 127], 127) := by decide +kernel
/-! 145: DawnPerquisiteModel.clause()I -/
abbrev c145 : ByteArray := prog_20_method_56_code
def l145_0 : List (Nat × Instr) := [(0, .aload_n 0), (1, .invokevirtual 231), (4, .istore_n 1), (5, .iload_n 1), (6, .ifCond .ge 5), (9, .iconst 1), (10, .ireturn), (11, .iload_n 1), (12, .iconst 1), (13, .if_icmp .gt 16), (16, .aload_n 0), (17, .getfield 234), (20, .iload_n 1), (21, .invokestatic 67), (24, .ifCond .eq 5), (27, .iconst 4), (28, .ireturn), (29, .aload_n 0), (30, .getfield 16), (33, .aload_n 0), (34, .getfield 142), (37, .iaload), (38, .istore_n 2), (39, .iload_n 2), (40, .bipush 24), (42, .if_icmp .ne 6), (45, .bipush 6), (47, .ireturn), (48, .iload_n 1), (49, .iconst 1), (50, .if_icmp .gt 15), (53, .aload_n 0), (54, .dup), (55, .getfield 234), (58, .iconst 1), (59, .iload_n 1), (60, .ishl), (61, .ior), (62, .putfield 234), (65, .aload_n 0), (66, .iload_n 1), (67, .putfield 148), (70, .aload_n 0), (71, .invokevirtual 171), (74, .aload_n 0), (75, .getfield 142), (78, .iconst 1), (79, .iadd), (80, .iconst 3), (81, .iload_n 2), (82, .imul), (83, .iadd), (84, .istore_n 3), (85, .aload_n 0), (86, .getfield 16), (89, .iload_n 3), (90, .iload_n 1), (91, .iastore), (92, .aload_n 0), (93, .iload_n 1)]
theorem k145_0 : dck c145 l145_0 := by unfold dck; decide +kernel
def l145_1 : List (Nat × Instr) := [(94, .iload_n 3), (95, .invokevirtual 237), (98, .istore 4), (100, .iload 4), (102, .ifCond .eq 6), (105, .iload 4), (107, .ireturn), (108, .aload_n 0), (109, .getfield 16), (112, .aload_n 0), (113, .getfield 142), (116, .dup2), (117, .iaload), (118, .iconst 1), (119, .iadd), (120, .iastore), (121, .aload_n 0), (122, .getfield 104), (125, .bipush 59), (127, .if_icmp .eq 5), (130, .iconst 1), (131, .ireturn), (132, .aload_n 0), (133, .invokevirtual 171), (136, .iconst 0), (137, .ireturn)]
theorem k145_1 : dck c145 l145_1 := by unfold dck; decide +kernel
/-! 146: DawnPerquisiteModel.sortOf()I -/
abbrev c146 : ByteArray := prog_20_method_55_code
def l146_0 : List (Nat × Instr) := [(0, .aload_n 0), (1, .bipush 98), (3, .bipush 105), (5, .bipush 100), (7, .bipush 115), (9, .invokestatic 134), (12, .invokevirtual 189), (15, .ifCond .eq 5), (18, .iconst 0), (19, .ireturn), (20, .aload_n 0), (21, .bipush 101), (23, .bipush 97), (25, .bipush 114), (27, .bipush 110), (29, .bipush 115), (31, .invokestatic 138), (34, .invokevirtual 189), (37, .ifCond .eq 5), (40, .iconst 1), (41, .ireturn), (42, .aload_n 0), (43, .bipush 98), (45, .bipush 117), (47, .bipush 121), (49, .bipush 101), (51, .bipush 114), (53, .invokestatic 138), (56, .invokevirtual 189), (59, .ifCond .eq 5), (62, .iconst 2), (63, .ireturn), (64, .aload_n 0), (65, .bipush 115), (67, .bipush 111), (69, .bipush 114), (71, .bipush 116), (73, .invokestatic 134), (76, .invokevirtual 189), (79, .ifCond .eq 5), (82, .iconst 3), (83, .ireturn), (84, .aload_n 0), (85, .bipush 115), (87, .bipush 101), (89, .bipush 108), (91, .bipush 108), (93, .invokestatic 134), (96, .invokevirtual 189), (99, .ifCond .eq 5), (102, .iconst 4), (103, .ireturn), (104, .aload_n 0), (105, .bipush 103), (107, .bipush 105), (109, .bipush 118), (111, .bipush 101), (113, .invokestatic 134), (116, .invokevirtual 189), (119, .ifCond .eq 5)]
theorem k146_0 : dck c146 l146_0 := by unfold dck; decide +kernel
def l146_1 : List (Nat × Instr) := [(122, .iconst 5), (123, .ireturn), (124, .aload_n 0), (125, .bipush 116), (127, .bipush 117), (129, .bipush 114), (131, .bipush 110), (133, .invokestatic 134), (136, .invokevirtual 189), (139, .ifCond .eq 8), (142, .bipush 6), (144, .goto 25), (147, .aload_n 0), (148, .bipush 100), (150, .bipush 97), (152, .bipush 121), (154, .invokestatic 130), (157, .invokevirtual 189), (160, .ifCond .eq 8), (163, .bipush 7), (165, .goto 4), (168, .iconst (-1)), (169, .ireturn)]
theorem k146_1 : dck c146 l146_1 := by unfold dck; decide +kernel
/-! 147: DawnPerquisiteModel.w4(IIII)J -/
abbrev c147 : ByteArray := prog_20_method_30_code
def l147_0 : List (Nat × Instr) := [(0, .iload_n 0), (1, .iload_n 1), (2, .iload_n 2), (3, .invokestatic 130), (6, .bipush 8), (8, .lshl), (9, .iload_n 3), (10, .i2l), (11, .lor), (12, .lreturn)]
theorem k147_0 : dck c147 l147_0 := by unfold dck; decide +kernel
/-! 148: DawnPerquisiteModel.w3(III)J -/
abbrev c148 : ByteArray := prog_20_method_29_code
def l148_0 : List (Nat × Instr) := [(0, .iload_n 0), (1, .iload_n 1), (2, .invokestatic 126), (5, .bipush 8), (7, .lshl), (8, .iload_n 2), (9, .i2l), (10, .lor), (11, .lreturn)]
theorem k148_0 : dck c148 l148_0 := by unfold dck; decide +kernel
/-! 149: DawnPerquisiteModel.w2(II)J -/
abbrev c149 : ByteArray := prog_20_method_28_code
def l149_0 : List (Nat × Instr) := [(0, .iload_n 0), (1, .i2l), (2, .bipush 8), (4, .lshl), (5, .iload_n 1), (6, .i2l), (7, .lor), (8, .lreturn)]
theorem k149_0 : dck c149 l149_0 := by unfold dck; decide +kernel
/-! 150: DawnPerquisiteModel.isWord(J)Z -/
abbrev c150 : ByteArray := prog_20_method_33_code
def l150_0 : List (Nat × Instr) := [(0, .aload_n 0), (1, .getfield 104), (4, .iconst 2), (5, .if_icmp .ne 16), (8, .aload_n 0), (9, .getfield 117), (12, .lload_n 1), (13, .lcmp), (14, .ifCond .ne 7), (17, .iconst 1), (18, .goto 4), (21, .iconst 0), (22, .ireturn)]
theorem k150_0 : dck c150 l150_0 := by unfold dck; decide +kernel
/-! 151: DawnPerquisiteModel.w5(IIIII)J -/
abbrev c151 : ByteArray := prog_20_method_31_code
def l151_0 : List (Nat × Instr) := [(0, .iload_n 0), (1, .iload_n 1), (2, .iload_n 2), (3, .iload_n 3), (4, .invokestatic 134), (7, .bipush 8), (9, .lshl), (10, .iload 4), (12, .i2l), (13, .lor), (14, .lreturn)]
theorem k151_0 : dck c151 l151_0 := by unfold dck; decide +kernel
/-! 152: DawnPerquisiteModel.has(II)Z -/
abbrev c152 : ByteArray := prog_20_method_5_code
def l152_0 : List (Nat × Instr) := [(0, .iload_n 0), (1, .iload_n 1), (2, .ishr), (3, .iconst 1), (4, .iand), (5, .iconst 1), (6, .if_icmp .ne 7), (9, .iconst 1), (10, .goto 4), (13, .iconst 0), (14, .ireturn)]
theorem k152_0 : dck c152 l152_0 := by unfold dck; decide +kernel
/-! 153: DawnPerquisiteModel.body(II)I -/
abbrev c153 : ByteArray := prog_20_method_54_code
def l153_0 : List (Nat × Instr) := [(0, .iload_n 1), (40, .aload_n 0), (41, .iload_n 2), (42, .invokevirtual 222), (45, .ireturn), (46, .aload_n 0), (47, .iload_n 2), (48, .invokevirtual 225), (51, .ireturn), (52, .aload_n 0), (53, .iload_n 2), (54, .iconst 1), (55, .iadd), (56, .iconst 0), (57, .iconst 5), (58, .invokevirtual 218), (61, .ireturn), (62, .aload_n 0), (63, .iload_n 2), (64, .iconst 1), (65, .iadd), (66, .iconst 0), (67, .bipush 11), (69, .invokevirtual 218), (72, .ireturn), (73, .aload_n 0), (74, .iload_n 2), (75, .iconst 1), (76, .iadd), (77, .iconst 0), (78, .iconst 5), (79, .invokevirtual 218), (82, .ireturn), (83, .aload_n 0), (84, .iload_n 2), (85, .iconst 1), (86, .iadd), (87, .iconst 1), (88, .bipush 60), (90, .invokevirtual 218), (93, .ireturn), (94, .aload_n 0), (95, .iload_n 2), (96, .invokevirtual 228), (99, .ireturn)]
theorem k153_0 : dck c153 l153_0 := by unfold dck; decide +kernel
theorem w153_1 : decode c153 1 = .ok (.tableswitch 93 2 7 #[39, 45, 51, 61, 72, 82], 39) := by decide +kernel
/-! 154: DawnPerquisiteModel.buyerClause(I)I -/
abbrev c154 : ByteArray := prog_20_method_52_code
def l154_0 : List (Nat × Instr) := [(0, .aload_n 0), (1, .iload_n 1), (2, .iconst 1), (3, .iadd), (4, .iconst 0), (5, .bipush 11), (7, .invokevirtual 218), (10, .istore_n 2), (11, .iload_n 2), (12, .ifCond .eq 5), (15, .iload_n 2), (16, .ireturn), (17, .aload_n 0), (18, .bipush 116), (20, .bipush 111), (22, .invokestatic 126), (25, .invokevirtual 189), (28, .ifCond .ne 5), (31, .iconst 1), (32, .ireturn), (33, .aload_n 0), (34, .invokevirtual 171), (37, .aload_n 0), (38, .iload_n 1), (39, .iconst 2), (40, .iadd), (41, .aload_n 0), (42, .getfield 16), (45, .iload_n 1), (46, .iconst 1), (47, .iadd), (48, .iaload), (49, .bipush 11), (51, .invokevirtual 218), (54, .ireturn)]
theorem k154_0 : dck c154 l154_0 := by unfold dck; decide +kernel
/-! 155: DawnPerquisiteModel.figure(III)I -/
abbrev c155 : ByteArray := prog_20_method_50_code
def l155_0 : List (Nat × Instr) := [(0, .aload_n 0), (1, .getfield 104), (4, .iconst 1), (5, .if_icmp .eq 5), (8, .iconst 1), (9, .ireturn), (10, .aload_n 0), (11, .getfield 110), (14, .iload_n 2), (15, .iload_n 3), (16, .invokestatic 63), (19, .ifCond .ne 5), (22, .iconst 2), (23, .ireturn), (24, .aload_n 0), (25, .getfield 16), (28, .iload_n 1), (29, .aload_n 0), (30, .getfield 110), (33, .iastore), (34, .aload_n 0), (35, .invokevirtual 171), (38, .iconst 0), (39, .ireturn)]
theorem k155_0 : dck c155 l155_0 := by unfold dck; decide +kernel
/-! 156: DawnPerquisiteModel.sortClause(I)I -/
abbrev c156 : ByteArray := prog_20_method_53_code
def l156_0 : List (Nat × Instr) := [(0, .aload_n 0), (1, .iload_n 1), (2, .iconst 1), (3, .iadd), (4, .iconst 0), (5, .iconst 4), (6, .invokevirtual 218), (9, .istore_n 2), (10, .iload_n 2), (11, .ifCond .eq 5), (14, .iload_n 2), (15, .ireturn), (16, .aload_n 0), (17, .bipush 98), (19, .bipush 121), (21, .invokestatic 126), (24, .invokevirtual 189), (27, .ifCond .ne 5), (30, .iconst 1), (31, .ireturn), (32, .aload_n 0), (33, .invokevirtual 171), (36, .aload_n 0), (37, .iload_n 1), (38, .iconst 2), (39, .iadd), (40, .iconst 0), (41, .bipush 9), (43, .invokevirtual 218), (46, .ireturn)]
theorem k156_0 : dck c156 l156_0 := by unfold dck; decide +kernel
/-! 157: DawnPerquisiteModel.lawClause(I)I -/
abbrev c157 : ByteArray := prog_20_method_51_code
def l157_0 : List (Nat × Instr) := [(0, .aload_n 0), (1, .getfield 16), (4, .iload_n 1), (5, .iconst 1), (6, .iadd), (7, .aload_n 0), (8, .getfield 145), (11, .iastore), (12, .aload_n 0), (13, .invokevirtual 215), (16, .istore_n 2), (17, .aload_n 0), (18, .getfield 16), (21, .iload_n 1), (22, .iconst 2), (23, .iadd), (24, .aload_n 0), (25, .getfield 145), (28, .iastore), (29, .iload_n 2), (30, .ireturn)]
theorem k157_0 : dck c157 l157_0 := by unfold dck; decide +kernel
/-! 158: DawnPerquisiteModel.summed()I -/
abbrev c158 : ByteArray := prog_20_method_49_code
def l158_0 : List (Nat × Instr) := [(0, .aload_n 0), (1, .iconst 0), (2, .putfield 151), (5, .aload_n 0), (6, .iconst 0), (7, .putfield 161), (10, .aload_n 0), (11, .iconst 0), (12, .putfield 180), (15, .aload_n 0), (16, .getfield 180), (19, .ifCond .eq 29), (22, .aload_n 0), (23, .invokevirtual 209), (26, .ifCond .eq 6), (29, .goto (-14)), (32, .aload_n 0), (33, .invokevirtual 168), (36, .ifCond .lt 5), (39, .iconst 1), (40, .ireturn), (41, .aload_n 0), (42, .iconst 1), (43, .invokevirtual 183), (46, .iconst 0), (47, .ireturn), (48, .aload_n 0), (49, .invokevirtual 212), (52, .istore_n 1), (53, .iload_n 1), (54, .ifCond .eq 5), (57, .iload_n 1), (58, .ireturn), (59, .goto (-44))]
theorem k158_0 : dck c158 l158_0 := by unfold dck; decide +kernel
/-! 159: DawnPerquisiteModel.behindOne()Z -/
abbrev c159 : ByteArray := prog_20_method_48_code
def l159_0 : List (Nat × Instr) := [(0, .aload_n 0), (1, .invokevirtual 203), (4, .istore_n 1), (5, .iload_n 1), (6, .ifCond .lt 54), (9, .aload_n 0), (10, .iload_n 1), (11, .invokestatic 154), (14, .iconst 4), (15, .if_icmp .ne 7), (18, .iconst 5), (19, .goto 7), (22, .iload_n 1), (23, .invokestatic 154), (26, .invokevirtual 183), (29, .aload_n 0), (30, .getfield 29), (33, .aload_n 0), (34, .getfield 151), (37, .iload_n 1), (38, .iastore), (39, .aload_n 0), (40, .dup), (41, .getfield 151), (44, .iconst 1), (45, .iadd), (46, .putfield 151), (49, .aload_n 0), (50, .iconst 0), (51, .putfield 180), (54, .aload_n 0), (55, .invokevirtual 171), (58, .iconst 1), (59, .ireturn), (60, .aload_n 0), (61, .invokevirtual 168), (64, .istore_n 2), (65, .aload_n 0), (66, .iload_n 2), (67, .invokevirtual 206), (70, .istore_n 3), (71, .iload_n 3), (72, .ifCond .ge 5), (75, .iconst 0), (76, .ireturn), (77, .aload_n 0), (78, .iconst 1), (79, .invokevirtual 183), (82, .aload_n 0), (83, .invokevirtual 171), (86, .iload_n 3), (87, .ifCond .le 20), (90, .aload_n 0), (91, .getfield 29), (94, .aload_n 0), (95, .invokevirtual 164), (98, .iload_n 3), (99, .iastore), (100, .aload_n 0), (101, .iconst 0)]
theorem k159_0 : dck c159 l159_0 := by unfold dck; decide +kernel
def l159_1 : List (Nat × Instr) := [(102, .putfield 180), (105, .iconst 1), (106, .ireturn), (107, .aload_n 0), (108, .dup), (109, .getfield 161), (112, .iconst 1), (113, .isub), (114, .putfield 161), (117, .aload_n 0), (118, .dup), (119, .getfield 151), (122, .iconst 1), (123, .isub), (124, .putfield 151), (127, .iload_n 2), (128, .bipush 43), (130, .if_icmp .ne 9), (133, .aload_n 0), (134, .iconst 3), (135, .iconst 0), (136, .invokevirtual 157), (139, .aload_n 0), (140, .bipush 7), (142, .invokevirtual 183), (145, .iconst 1), (146, .ireturn)]
theorem k159_1 : dck c159 l159_1 := by unfold dck; decide +kernel
/-! 160: DawnPerquisiteModel.betweenOf()I -/
abbrev c160 : ByteArray := prog_20_method_46_code
def l160_0 : List (Nat × Instr) := [(0, .aload_n 0), (1, .getfield 104), (4, .bipush 43), (6, .if_icmp .ne 6), (9, .bipush 6), (11, .ireturn), (12, .aload_n 0), (13, .getfield 104), (16, .bipush 45), (18, .if_icmp .ne 6), (21, .bipush 7), (23, .ireturn), (24, .aload_n 0), (25, .getfield 104), (28, .bipush 42), (30, .if_icmp .ne 6), (33, .bipush 8), (35, .ireturn), (36, .aload_n 0), (37, .getfield 104), (40, .bipush 47), (42, .if_icmp .ne 6), (45, .bipush 9), (47, .ireturn), (48, .aload_n 0), (49, .invokevirtual 168), (52, .bipush 41), (54, .if_icmp .eq 5), (57, .iconst (-1)), (58, .ireturn), (59, .aload_n 0), (60, .invokevirtual 197), (63, .ifCond .ne 8), (66, .aload_n 0), (67, .invokevirtual 200), (70, .ireturn), (71, .aload_n 0), (72, .bipush 97), (74, .bipush 110), (76, .bipush 100), (78, .invokestatic 130), (81, .invokevirtual 189), (84, .ifCond .eq 8), (87, .bipush 21), (89, .goto 23), (92, .aload_n 0), (93, .bipush 111), (95, .bipush 114), (97, .invokestatic 126), (100, .invokevirtual 189), (103, .ifCond .eq 8), (106, .bipush 22), (108, .goto 4), (111, .iconst (-1)), (112, .ireturn)]
theorem k160_0 : dck c160 l160_0 := by unfold dck; decide +kernel
/-! 161: DawnPerquisiteModel.openNow()I -/
abbrev c161 : ByteArray := prog_20_method_40_code
def l161_0 : List (Nat × Instr) := [(0, .aload_n 0), (1, .invokevirtual 164), (4, .ifCond .ge 7), (7, .iconst (-1)), (8, .goto 12), (11, .aload_n 0), (12, .getfield 29), (15, .aload_n 0), (16, .invokevirtual 164), (19, .iaload), (20, .ireturn)]
theorem k161_0 : dck c161 l161_0 := by unfold dck; decide +kernel
/-! 162: DawnPerquisiteModel.openAt()I -/
abbrev c162 : ByteArray := prog_20_method_39_code
def l162_0 : List (Nat × Instr) := [(0, .aload_n 0), (1, .getfield 151), (4, .iconst 1), (5, .isub), (6, .istore_n 1), (7, .iload_n 1), (8, .ifCond .lt 20), (11, .aload_n 0), (12, .getfield 29), (15, .iload_n 1), (16, .iaload), (17, .bipush 40), (19, .if_icmp .ge 9), (22, .iinc 1 (-1)), (25, .goto (-18)), (28, .iload_n 1), (29, .ireturn)]
theorem k162_0 : dck c162 l162_0 := by unfold dck; decide +kernel
/-! 163: DawnPerquisiteModel.isCompared()Z -/
abbrev c163 : ByteArray := prog_20_method_41_code
def l163_0 : List (Nat × Instr) := [(0, .aload_n 0), (1, .getfield 151), (4, .iconst 1), (5, .isub), (6, .istore_n 1), (7, .iload_n 1), (8, .ifCond .lt 22), (11, .aload_n 0), (12, .getfield 29), (15, .iload_n 1), (16, .iaload), (17, .invokestatic 154), (20, .iconst 4), (21, .if_icmp .le 9), (24, .iinc 1 (-1)), (27, .goto (-20)), (30, .iload_n 1), (31, .ifCond .lt 20), (34, .aload_n 0), (35, .getfield 29), (38, .iload_n 1), (39, .iaload), (40, .invokestatic 154), (43, .iconst 4), (44, .if_icmp .ne 7), (47, .iconst 1), (48, .goto 4), (51, .iconst 0), (52, .ireturn)]
theorem k163_0 : dck c163 l163_0 := by unfold dck; decide +kernel
/-! 164: DawnPerquisiteModel.rank(I)I -/
abbrev c164 : ByteArray := prog_20_method_37_code
def l164_0 : List (Nat × Instr) := [(0, .iload_n 0), (1, .bipush 40), (3, .if_icmp .lt 7), (6, .iconst 0), (7, .goto 66), (10, .iload_n 0), (11, .bipush 22), (13, .if_icmp .ne 7), (16, .iconst 1), (17, .goto 56), (20, .iload_n 0), (21, .bipush 21), (23, .if_icmp .ne 7), (26, .iconst 2), (27, .goto 46), (30, .iload_n 0), (31, .bipush 20), (33, .if_icmp .ne 7), (36, .iconst 3), (37, .goto 36), (40, .iload_n 0), (41, .bipush 10), (43, .if_icmp .lt 7), (46, .iconst 4), (47, .goto 26), (50, .iload_n 0), (51, .bipush 8), (53, .if_icmp .lt 8), (56, .bipush 6), (58, .goto 15), (61, .iload_n 0), (62, .bipush 6), (64, .if_icmp .lt 7), (67, .iconst 5), (68, .goto 5), (71, .bipush 7), (73, .ireturn)]
theorem k164_0 : dck c164 l164_0 := by unfold dck; decide +kernel
/-! 165: DawnPerquisiteModel.compareOf()I -/
abbrev c165 : ByteArray := prog_20_method_45_code
def l165_0 : List (Nat × Instr) := [(0, .aload_n 0), (1, .getfield 104), (4, .bipush 60), (6, .if_icmp .ne 8), (9, .bipush 10), (11, .goto 72), (14, .aload_n 0), (15, .getfield 104), (18, .iconst 4), (19, .if_icmp .ne 8), (22, .bipush 11), (24, .goto 59), (27, .aload_n 0), (28, .getfield 104), (31, .bipush 62), (33, .if_icmp .ne 8), (36, .bipush 12), (38, .goto 45), (41, .aload_n 0), (42, .getfield 104), (45, .iconst 5), (46, .if_icmp .ne 8), (49, .bipush 13), (51, .goto 32), (54, .aload_n 0), (55, .getfield 104), (58, .bipush 61), (60, .if_icmp .ne 8), (63, .bipush 14), (65, .goto 18), (68, .aload_n 0), (69, .getfield 104), (72, .bipush 35), (74, .if_icmp .ne 8), (77, .bipush 15), (79, .goto 4), (82, .iconst (-1)), (83, .ireturn)]
theorem k165_0 : dck c165 l165_0 := by unfold dck; decide +kernel
/-! 166: DawnPerquisiteModel.settle(I)V -/
abbrev c166 : ByteArray := prog_20_method_38_code
def l166_0 : List (Nat × Instr) := [(0, .aload_n 0), (1, .getfield 151), (4, .ifCond .le 89), (7, .aload_n 0), (8, .getfield 29), (11, .aload_n 0), (12, .getfield 151), (15, .iconst 1), (16, .isub), (17, .iaload), (18, .invokestatic 154), (21, .iload_n 1), (22, .if_icmp .lt 71), (25, .aload_n 0), (26, .dup), (27, .getfield 151), (30, .iconst 1), (31, .isub), (32, .putfield 151), (35, .aload_n 0), (36, .aload_n 0), (37, .getfield 29), (40, .aload_n 0), (41, .getfield 151), (44, .iaload), (45, .iconst 0), (46, .invokevirtual 157), (49, .aload_n 0), (50, .getfield 29), (53, .aload_n 0), (54, .getfield 151), (57, .iaload), (58, .invokestatic 154), (61, .bipush 7), (63, .if_icmp .eq 17), (66, .aload_n 0), (67, .getfield 29), (70, .aload_n 0), (71, .getfield 151), (74, .iaload), (75, .bipush 20), (77, .if_icmp .ne (-77)), (80, .aload_n 0), (81, .dup), (82, .getfield 161), (85, .iconst 1), (86, .isub), (87, .putfield 161), (90, .goto (-90)), (93, .return_)]
theorem k166_0 : dck c166 l166_0 := by unfold dck; decide +kernel
/-! 167: DawnPerquisiteModel.emit(II)V -/
abbrev c167 : ByteArray := prog_20_method_34_code
def l167_0 : List (Nat × Instr) := [(0, .aload_n 0), (1, .getfield 16), (4, .aload_n 0), (5, .getfield 142), (8, .bipush 73), (10, .iadd), (11, .iconst 2), (12, .aload_n 0), (13, .getfield 145), (16, .imul), (17, .iadd), (18, .iload_n 1), (19, .iastore), (20, .aload_n 0), (21, .getfield 16), (24, .aload_n 0), (25, .getfield 142), (28, .bipush 73), (30, .iadd), (31, .iconst 2), (32, .aload_n 0), (33, .getfield 145), (36, .imul), (37, .iadd), (38, .iconst 1), (39, .iadd), (40, .iload_n 2), (41, .iastore), (42, .aload_n 0), (43, .dup), (44, .getfield 145), (47, .iconst 1), (48, .iadd), (49, .putfield 145), (52, .return_)]
theorem k167_0 : dck c167 l167_0 := by unfold dck; decide +kernel
/-! 168: DawnPerquisiteModel.partOf(I)I -/
abbrev c168 : ByteArray := prog_20_method_47_code
def l168_0 : List (Nat × Instr) := [(0, .iload_n 1), (32, .aload_n 0), (33, .getfield 104), (36, .bipush 41), (38, .if_icmp .ne 7), (41, .iconst 0), (42, .goto 4), (45, .iconst (-1)), (46, .ireturn), (47, .aload_n 0), (48, .bipush 116), (50, .bipush 104), (52, .bipush 101), (54, .bipush 110), (56, .invokestatic 134), (59, .invokevirtual 189), (62, .ifCond .eq 15), (65, .aload_n 0), (66, .invokevirtual 197), (69, .ifCond .eq 8), (72, .bipush 42), (74, .goto 4), (77, .iconst (-1)), (78, .ireturn), (79, .aload_n 0), (80, .bipush 101), (82, .bipush 108), (84, .bipush 115), (86, .bipush 101), (88, .invokestatic 134), (91, .invokevirtual 189), (94, .ifCond .eq 8), (97, .bipush 43), (99, .goto 4), (102, .iconst (-1)), (103, .ireturn), (104, .aload_n 0), (105, .bipush 101), (107, .bipush 110), (109, .bipush 100), (111, .invokestatic 130), (114, .invokevirtual 189), (117, .ifCond .eq 7), (120, .iconst 0), (121, .goto 4), (124, .iconst (-1)), (125, .ireturn), (126, .iconst (-1)), (127, .ireturn)]
theorem k168_0 : dck c168 l168_0 := by unfold dck; decide +kernel
theorem w168_1 : decode c168 1 = .ok (.tableswitch 125 40 43 #[31, 46, 78, 103], 31) := by decide +kernel
/-! 169: DawnPerquisiteModel.beginOne()I -/
abbrev c169 : ByteArray := prog_20_method_44_code
def l169_0 : List (Nat × Instr) := [(0, .aload_n 0), (1, .getfield 104), (4, .iconst 1), (5, .if_icmp .ne 15), (8, .aload_n 0), (9, .getfield 110), (12, .sipush 9999), (15, .if_icmp .le 5), (18, .iconst 2), (19, .ireturn), (20, .aload_n 0), (21, .invokevirtual 174), (24, .istore_n 1), (25, .iload_n 1), (26, .ifCond .lt 13), (29, .aload_n 0), (30, .iload_n 1), (31, .invokevirtual 177), (34, .ifCond .ne 5), (37, .iconst 5), (38, .ireturn), (39, .aload_n 0), (40, .getfield 104), (43, .iconst 1), (44, .if_icmp .eq 7), (47, .iload_n 1), (48, .ifCond .lt 53), (51, .aload_n 0), (52, .aload_n 0), (53, .getfield 104), (56, .iconst 1), (57, .if_icmp .ne 7), (60, .iconst 0), (61, .goto 4), (64, .iconst 1), (65, .aload_n 0), (66, .getfield 104), (69, .iconst 1), (70, .if_icmp .ne 10), (73, .aload_n 0), (74, .getfield 110), (77, .goto 4), (80, .iload_n 1), (81, .invokevirtual 157), (84, .aload_n 0), (85, .invokevirtual 171), (88, .aload_n 0), (89, .iconst 1), (90, .putfield 180), (93, .aload_n 0), (94, .bipush 7), (96, .invokevirtual 183), (99, .iconst 0), (100, .ireturn), (101, .aload_n 0), (102, .getfield 104), (105, .bipush 40), (107, .if_icmp .ne 10), (110, .aload_n 0), (111, .bipush 40)]
theorem k169_0 : dck c169 l169_0 := by unfold dck; decide +kernel
def l169_1 : List (Nat × Instr) := [(113, .invokevirtual 186), (116, .ireturn), (117, .aload_n 0), (118, .getfield 104), (121, .bipush 45), (123, .if_icmp .ne 9), (126, .aload_n 0), (127, .iconst 5), (128, .invokevirtual 186), (131, .ireturn), (132, .aload_n 0), (133, .bipush 119), (135, .bipush 111), (137, .bipush 114), (139, .bipush 116), (141, .bipush 104), (143, .invokestatic 138), (146, .invokevirtual 189), (149, .ifCond .eq 9), (152, .aload_n 0), (153, .iconst 2), (154, .invokevirtual 186), (157, .ireturn), (158, .aload_n 0), (159, .bipush 112), (161, .bipush 117), (163, .bipush 114), (165, .bipush 115), (167, .bipush 101), (169, .invokestatic 138), (172, .invokevirtual 189), (175, .ifCond .eq 9), (178, .aload_n 0), (179, .iconst 4), (180, .invokevirtual 186), (183, .ireturn), (184, .aload_n 0), (185, .bipush 105), (187, .bipush 102), (189, .invokestatic 126), (192, .invokevirtual 189), (195, .ifCond .eq 10), (198, .aload_n 0), (199, .bipush 41), (201, .invokevirtual 186), (204, .ireturn), (205, .aload_n 0), (206, .bipush 110), (208, .bipush 111), (210, .bipush 116), (212, .invokestatic 130), (215, .invokevirtual 189), (218, .ifCond .eq 19), (221, .aload_n 0), (222, .invokevirtual 193), (225, .ifCond .eq 12), (228, .aload_n 0), (229, .bipush 20), (231, .invokevirtual 186), (234, .goto 4)]
theorem k169_1 : dck c169 l169_1 := by unfold dck; decide +kernel
def l169_2 : List (Nat × Instr) := [(237, .iconst 1), (238, .ireturn)]
theorem k169_2 : dck c169 l169_2 := by unfold dck; decide +kernel
/-! 170: DawnPerquisiteModel.nameOf()I -/
abbrev c170 : ByteArray := prog_20_method_35_code
def l170_0 : List (Nat × Instr) := [(0, .aload_n 0), (1, .getfield 104), (4, .iconst 2), (5, .if_icmp .eq 5), (8, .iconst (-1)), (9, .ireturn), (10, .aload_n 0), (11, .getfield 117), (14, .bipush 100), (16, .bipush 97), (18, .bipush 121), (20, .invokestatic 130), (23, .lcmp), (24, .ifCond .ne 5), (27, .iconst 0), (28, .ireturn), (29, .aload_n 0), (30, .getfield 117), (33, .bipush 98), (35, .bipush 117), (37, .bipush 121), (39, .bipush 101), (41, .bipush 114), (43, .invokestatic 138), (46, .lcmp), (47, .ifCond .ne 5), (50, .iconst 1), (51, .ireturn), (52, .aload_n 0), (53, .getfield 117), (56, .bipush 115), (58, .bipush 111), (60, .bipush 114), (62, .bipush 116), (64, .invokestatic 134), (67, .lcmp), (68, .ifCond .ne 5), (71, .iconst 2), (72, .ireturn), (73, .aload_n 0), (74, .getfield 117), (77, .bipush 108), (79, .bipush 111), (81, .bipush 110), (83, .bipush 103), (85, .invokestatic 134), (88, .lcmp), (89, .ifCond .ne 5), (92, .iconst 3), (93, .ireturn), (94, .aload_n 0), (95, .getfield 117), (98, .bipush 111), (100, .bipush 119), (102, .bipush 110), (104, .invokestatic 130), (107, .lcmp), (108, .ifCond .ne 5), (111, .iconst 4), (112, .ireturn)]
theorem k170_0 : dck c170 l170_0 := by unfold dck; decide +kernel
def l170_1 : List (Nat × Instr) := [(113, .aload_n 0), (114, .getfield 117), (117, .bipush 102), (119, .bipush 114), (121, .bipush 101), (123, .bipush 101), (125, .invokestatic 134), (128, .lcmp), (129, .ifCond .ne 5), (132, .iconst 5), (133, .ireturn), (134, .aload_n 0), (135, .getfield 117), (138, .bipush 119), (140, .bipush 97), (142, .bipush 110), (144, .bipush 116), (146, .bipush 115), (148, .invokestatic 138), (151, .lcmp), (152, .ifCond .ne 8), (155, .bipush 6), (157, .goto 26), (160, .aload_n 0), (161, .getfield 117), (164, .bipush 104), (166, .bipush 97), (168, .bipush 115), (170, .invokestatic 130), (173, .lcmp), (174, .ifCond .ne 8), (177, .bipush 7), (179, .goto 4), (182, .iconst (-1)), (183, .ireturn)]
theorem k170_1 : dck c170 l170_1 := by unfold dck; decide +kernel
/-! 171: DawnPerquisiteModel.isOf(I)Z -/
abbrev c171 : ByteArray := prog_20_method_36_code
def l171_0 : List (Nat × Instr) := [(0, .iload_n 1), (1, .bipush 6), (3, .if_icmp .lt 27), (6, .iload_n 1), (7, .bipush 6), (9, .if_icmp .ne 13), (12, .aload_n 0), (13, .getfield 148), (16, .ifCond .ne 18), (19, .goto 11), (22, .aload_n 0), (23, .getfield 148), (26, .iconst 1), (27, .if_icmp .ne 7), (30, .iconst 1), (31, .goto 4), (34, .iconst 0), (35, .ireturn)]
theorem k171_0 : dck c171 l171_0 := by unfold dck; decide +kernel
/-! 172: DawnPerquisiteModel.opened(I)I -/
abbrev c172 : ByteArray := prog_20_method_43_code
def l172_0 : List (Nat × Instr) := [(0, .aload_n 0), (1, .getfield 161), (4, .bipush 8), (6, .if_icmp .ne 5), (9, .iconst 3), (10, .ireturn), (11, .aload_n 0), (12, .dup), (13, .getfield 161), (16, .iconst 1), (17, .iadd), (18, .putfield 161), (21, .aload_n 0), (22, .getfield 29), (25, .aload_n 0), (26, .getfield 151), (29, .iload_n 1), (30, .iastore), (31, .aload_n 0), (32, .dup), (33, .getfield 151), (36, .iconst 1), (37, .iadd), (38, .putfield 151), (41, .aload_n 0), (42, .invokevirtual 171), (45, .iconst 0), (46, .ireturn)]
theorem k172_0 : dck c172 l172_0 := by unfold dck; decide +kernel
/-! 173: DawnPerquisiteModel.isAskAhead()Z -/
abbrev c173 : ByteArray := prog_20_method_42_code
def l173_0 : List (Nat × Instr) := [(0, .aload_n 0), (1, .invokevirtual 168), (4, .bipush 41), (6, .if_icmp .ne 45), (9, .aload_n 0), (10, .getfield 29), (13, .aload_n 0), (14, .getfield 151), (17, .iconst 1), (18, .isub), (19, .iaload), (20, .bipush 40), (22, .if_icmp .ge 25), (25, .aload_n 0), (26, .getfield 29), (29, .aload_n 0), (30, .getfield 151), (33, .iconst 1), (34, .isub), (35, .iaload), (36, .invokestatic 154), (39, .iconst 1), (40, .iconst 3), (41, .invokestatic 63), (44, .ifCond .eq 7), (47, .iconst 1), (48, .goto 4), (51, .iconst 0), (52, .ireturn)]
theorem k173_0 : dck c173 l173_0 := by unfold dck; decide +kernel
/-! 174: DawnPerquisiteModel.fault(I)I -/
abbrev c174 : ByteArray := prog_20_method_59_code
def l174_0 : List (Nat × Instr) := [(0, .iload_n 1), (1, .ifCond .ne 10), (4, .aload_n 0), (5, .getfield 22), (8, .goto 16), (11, .iload_n 1), (12, .iconst 1), (13, .if_icmp .ne 10), (16, .aload_n 0), (17, .getfield 26), (20, .goto 4), (23, .iconst (-1)), (24, .ireturn)]
theorem k174_0 : dck c174 l174_0 := by unfold dck; decide +kernel
/-! 175: DawnPerquisiteModel.by(I)Z -/
abbrev c175 : ByteArray := prog_20_method_60_code
def l175_0 : List (Nat × Instr) := [(0, .iload_n 1), (1, .iconst (-1)), (2, .aload_n 0), (3, .getfield 7), (6, .iconst 1), (7, .iaload), (8, .iconst 1), (9, .isub), (10, .invokestatic 63), (13, .ifCond .ne 5), (16, .iconst 0), (17, .ireturn), (18, .aload_n 0), (19, .getfield 7), (22, .iconst 2), (23, .iload_n 1), (24, .iastore), (25, .iconst 1), (26, .ireturn)]
theorem k175_0 : dck c175 l175_0 := by unfold dck; decide +kernel
/-! 176: DawnPerquisiteModel.undo()I -/
abbrev c176 : ByteArray := prog_20_method_84_code
def l176_0 : List (Nat × Instr) := [(0, .aload_n 0), (1, .getfield 7), (4, .iconst 3), (5, .iaload), (6, .ifCond .ne 5), (9, .iconst (-1)), (10, .ireturn), (11, .aload_n 0), (12, .getfield 7), (15, .iconst 3), (16, .dup2), (17, .iaload), (18, .iconst 1), (19, .isub), (20, .iastore), (21, .bipush 97), (23, .bipush 49), (25, .aload_n 0), (26, .getfield 7), (29, .iconst 3), (30, .iaload), (31, .imul), (32, .iadd), (33, .istore_n 1), (34, .iconst 0), (35, .istore_n 2), (36, .iload_n 2), (37, .bipush 23), (39, .if_icmp .ge 28), (42, .aload_n 0), (43, .getfield 7), (46, .bipush 6), (48, .iload_n 2), (49, .iadd), (50, .aload_n 0), (51, .getfield 7), (54, .iload_n 1), (55, .iconst 1), (56, .iadd), (57, .iload_n 2), (58, .iadd), (59, .iaload), (60, .iastore), (61, .iinc 2 1), (64, .goto (-28)), (67, .aload_n 0), (68, .getfield 7), (71, .iload_n 1), (72, .iaload), (73, .istore_n 2), (74, .iload_n 2), (75, .aload_n 0), (76, .getfield 7), (79, .iconst 0), (80, .iaload), (81, .if_icmp .ge 27), (84, .aload_n 0), (85, .getfield 7), (88, .bipush 23), (90, .iload_n 2)]
theorem k176_0 : dck c176 l176_0 := by unfold dck; decide +kernel
def l176_1 : List (Nat × Instr) := [(91, .iadd), (92, .aload_n 0), (93, .getfield 7), (96, .bipush 57), (98, .iload_n 2), (99, .iadd), (100, .iaload), (101, .iastore), (102, .iinc 2 1), (105, .goto (-31)), (108, .iconst 0), (109, .istore_n 2), (110, .iload_n 2), (111, .bipush 25), (113, .if_icmp .ge 32), (116, .aload_n 0), (117, .getfield 7), (120, .sipush 1567), (123, .iload_n 2), (124, .iadd), (125, .aload_n 0), (126, .getfield 7), (129, .iload_n 1), (130, .iconst 1), (131, .iadd), (132, .bipush 23), (134, .iadd), (135, .iload_n 2), (136, .iadd), (137, .iaload), (138, .iastore), (139, .iinc 2 1), (142, .goto (-32)), (145, .aload_n 0), (146, .getfield 7), (149, .iconst 3), (150, .iaload), (151, .ireturn)]
theorem k176_1 : dck c176 l176_1 := by unfold dck; decide +kernel
/-! 177: DawnPerquisiteModel.sell(I)I -/
abbrev c177 : ByteArray := prog_20_method_85_code
def l177_0 : List (Nat × Instr) := [(0, .aload_n 0), (1, .iload_n 1), (2, .invokevirtual 336), (5, .ifCond .ne 5), (8, .iconst (-1)), (9, .ireturn), (10, .aload_n 0), (11, .invokevirtual 339), (14, .aload_n 0), (15, .iload_n 1), (16, .invokevirtual 342), (19, .ireturn)]
theorem k177_0 : dck c177 l177_0 := by unfold dck; decide +kernel
/-! 178: DawnPerquisiteModel.canSell(I)Z -/
abbrev c178 : ByteArray := prog_20_method_75_code
def l178_0 : List (Nat × Instr) := [(0, .aload_n 0), (1, .iload_n 1), (2, .invokevirtual 308), (5, .ifCond .eq 54), (8, .aload_n 0), (9, .iload_n 1), (10, .aload_n 0), (11, .getfield 7), (14, .bipush 9), (16, .iaload), (17, .invokevirtual 283), (20, .ifCond .eq 39), (23, .aload_n 0), (24, .iload_n 1), (25, .invokevirtual 311), (28, .aload_n 0), (29, .invokevirtual 280), (32, .iconst (-1)), (33, .ixor), (34, .iand), (35, .ifCond .ne 24), (38, .aload_n 0), (39, .getfield 7), (42, .bipush 23), (44, .iload_n 1), (45, .iadd), (46, .iaload), (47, .aload_n 0), (48, .iload_n 1), (49, .invokevirtual 314), (52, .if_icmp .lt 7), (55, .iconst 1), (56, .goto 4), (59, .iconst 0), (60, .ireturn)]
theorem k178_0 : dck c178 l178_0 := by unfold dck; decide +kernel
/-! 179: DawnPerquisiteModel.isBuyer(I)Z -/
abbrev c179 : ByteArray := prog_20_method_7_code
def l179_0 : List (Nat × Instr) := [(0, .iload_n 1), (1, .iconst 0), (2, .aload_n 0), (3, .getfield 7), (6, .iconst 0), (7, .iaload), (8, .iconst 1), (9, .isub), (10, .invokestatic 63), (13, .ireturn)]
theorem k179_0 : dck c179 l179_0 := by unfold dck; decide +kernel
/-! 180: DawnPerquisiteModel.doesWant(II)Z -/
abbrev c180 : ByteArray := prog_20_method_11_code
def l180_0 : List (Nat × Instr) := [(0, .aload_n 0), (1, .getfield 7), (4, .bipush 39), (6, .iload_n 1), (7, .iadd), (8, .iaload), (9, .iload_n 2), (10, .invokestatic 67), (13, .ireturn)]
theorem k180_0 : dck c180 l180_0 := by unfold dck; decide +kernel
/-! 181: DawnPerquisiteModel.slicesOf(I)I -/
abbrev c181 : ByteArray := prog_20_method_13_code
def l181_0 : List (Nat × Instr) := [(0, .iconst 1), (1, .aload_n 0), (2, .iload_n 1), (3, .invokevirtual 71), (6, .ishl), (7, .iconst 1), (8, .isub), (9, .aload_n 0), (10, .getfield 7), (13, .bipush 45), (15, .iload_n 1), (16, .iadd), (17, .iaload), (18, .ishl), (19, .ireturn)]
theorem k181_0 : dck c181 l181_0 := by unfold dck; decide +kernel
/-! 182: DawnPerquisiteModel.longOf(I)I -/
abbrev c182 : ByteArray := prog_20_method_12_code
def l182_0 : List (Nat × Instr) := [(0, .aload_n 0), (1, .getfield 7), (4, .bipush 51), (6, .iload_n 1), (7, .iadd), (8, .iaload), (9, .aload_n 0), (10, .getfield 7), (13, .bipush 45), (15, .iload_n 1), (16, .iadd), (17, .iaload), (18, .isub), (19, .iconst 1), (20, .iadd), (21, .ireturn)]
theorem k182_0 : dck c182 l182_0 := by unfold dck; decide +kernel
/-! 183: DawnPerquisiteModel.freeNow()I -/
abbrev c183 : ByteArray := prog_20_method_14_code
def l183_0 : List (Nat × Instr) := [(0, .iconst 0), (1, .istore_n 1), (2, .iconst 0), (3, .istore_n 2), (4, .iload_n 2), (5, .bipush 12), (7, .if_icmp .ge 32), (10, .iload_n 1), (11, .aload_n 0), (12, .getfield 7), (15, .bipush 11), (17, .iload_n 2), (18, .iadd), (19, .iaload), (20, .iconst (-1)), (21, .if_icmp .ne 9), (24, .iconst 1), (25, .iload_n 2), (26, .ishl), (27, .goto 4), (30, .iconst 0), (31, .ior), (32, .istore_n 1), (33, .iinc 2 1), (36, .goto (-32)), (39, .iload_n 1), (40, .ireturn)]
theorem k183_0 : dck c183 l183_0 := by unfold dck; decide +kernel
/-! 184: DawnPerquisiteModel.bidsNow(I)I -/
abbrev c184 : ByteArray := prog_20_method_70_code
def l184_0 : List (Nat × Instr) := [(0, .aload_n 0), (1, .aload_n 0), (2, .getfield 7), (5, .iconst 2), (6, .iaload), (7, .iload_n 1), (8, .aload_n 0), (9, .getfield 7), (12, .bipush 9), (14, .iaload), (15, .invokevirtual 296), (18, .ireturn)]
theorem k184_0 : dck c184 l184_0 := by unfold dck; decide +kernel
/-! 185: DawnPerquisiteModel.bidsOf(III)I -/
abbrev c185 : ByteArray := prog_20_method_69_code
def l185_0 : List (Nat × Instr) := [(0, .aload_n 0), (1, .iload_n 2), (2, .iload_n 3), (3, .invokevirtual 289), (6, .aload_n 0), (7, .iload_n 1), (8, .iconst 0), (9, .aload_n 0), (10, .getfield 7), (13, .bipush 34), (15, .iload_n 3), (16, .iadd), (17, .iaload), (18, .aload_n 0), (19, .iload_n 2), (20, .invokevirtual 71), (23, .imul), (24, .bipush 12), (26, .idiv), (27, .iconst 0), (28, .bipush 99), (30, .invokevirtual 292), (33, .ireturn)]
theorem k185_0 : dck c185 l185_0 := by unfold dck; decide +kernel
/-! 186: DawnPerquisiteModel.name(II)V -/
abbrev c186 : ByteArray := prog_20_method_68_code
def l186_0 : List (Nat × Instr) := [(0, .aload_n 0), (1, .getfield 32), (4, .iconst 0), (5, .aload_n 0), (6, .getfield 7), (9, .bipush 6), (11, .iaload), (12, .iastore), (13, .aload_n 0), (14, .getfield 32), (17, .iconst 1), (18, .iload_n 1), (19, .iastore), (20, .aload_n 0), (21, .getfield 32), (24, .iconst 2), (25, .iload_n 2), (26, .iastore), (27, .aload_n 0), (28, .getfield 32), (31, .iconst 3), (32, .aload_n 0), (33, .iload_n 1), (34, .invokevirtual 71), (37, .iastore), (38, .aload_n 0), (39, .getfield 32), (42, .iconst 4), (43, .aload_n 0), (44, .getfield 7), (47, .bipush 23), (49, .iload_n 1), (50, .iadd), (51, .iaload), (52, .iastore), (53, .aload_n 0), (54, .getfield 32), (57, .iconst 5), (58, .aload_n 0), (59, .invokevirtual 280), (62, .invokestatic 78), (65, .iastore), (66, .aload_n 0), (67, .getfield 32), (70, .bipush 6), (72, .aload_n 0), (73, .iload_n 1), (74, .iload_n 2), (75, .invokevirtual 283), (78, .ifCond .eq 7), (81, .iconst 1), (82, .goto 4), (85, .iconst 0), (86, .iastore), (87, .aload_n 0), (88, .getfield 32), (91, .bipush 7), (93, .aload_n 0), (94, .iload_n 1), (95, .invokevirtual 286)]
theorem k186_0 : dck c186 l186_0 := by unfold dck; decide +kernel
def l186_1 : List (Nat × Instr) := [(98, .iastore), (99, .return_)]
theorem k186_1 : dck c186 l186_1 := by unfold dck; decide +kernel
/-! 187: DawnPerquisiteModel.bits(I)I -/
abbrev c187 : ByteArray := prog_20_method_6_code
def l187_0 : List (Nat × Instr) := [(0, .iconst 0), (1, .istore_n 1), (2, .iload_n 0), (3, .istore_n 2), (4, .iload_n 2), (5, .ifCond .eq 15), (8, .iinc 1 1), (11, .iload_n 2), (12, .iload_n 2), (13, .iconst 1), (14, .isub), (15, .iand), (16, .istore_n 2), (17, .goto (-13)), (20, .iload_n 1), (21, .ireturn)]
theorem k187_0 : dck c187 l187_0 := by unfold dck; decide +kernel
/-! 188: DawnPerquisiteModel.hasNow(I)I -/
abbrev c188 : ByteArray := prog_20_method_16_code
def l188_0 : List (Nat × Instr) := [(0, .aload_n 0), (1, .iload_n 1), (2, .invokevirtual 75), (5, .invokestatic 78), (8, .ireturn)]
theorem k188_0 : dck c188 l188_0 := by unfold dck; decide +kernel
/-! 189: DawnPerquisiteModel.ownNow(I)I -/
abbrev c189 : ByteArray := prog_20_method_15_code
def l189_0 : List (Nat × Instr) := [(0, .iconst 0), (1, .istore_n 2), (2, .iconst 0), (3, .istore_n 3), (4, .iload_n 3), (5, .bipush 12), (7, .if_icmp .ge 32), (10, .iload_n 2), (11, .aload_n 0), (12, .getfield 7), (15, .bipush 11), (17, .iload_n 3), (18, .iadd), (19, .iaload), (20, .iload_n 1), (21, .if_icmp .ne 9), (24, .iconst 1), (25, .iload_n 3), (26, .ishl), (27, .goto 4), (30, .iconst 0), (31, .ior), (32, .istore_n 2), (33, .iinc 3 1), (36, .goto (-32)), (39, .iload_n 2), (40, .ireturn)]
theorem k189_0 : dck c189 l189_0 := by unfold dck; decide +kernel
/-! 190: DawnPerquisiteModel.says(IIIII)I -/
abbrev c190 : ByteArray := prog_20_method_67_code
def l190_0 : List (Nat × Instr) := [(0, .iconst 0), (1, .istore 6), (3, .iload_n 1), (4, .ifCond .lt 60), (7, .iload 6), (9, .aload_n 0), (10, .getfield 16), (13, .sipush 681), (16, .iload_n 1), (17, .imul), (18, .iaload), (19, .if_icmp .ge 45), (22, .aload_n 0), (23, .getfield 16), (26, .sipush 681), (29, .iload_n 1), (30, .imul), (31, .iconst 1), (32, .iadd), (33, .iconst 3), (34, .iload 6), (36, .imul), (37, .iadd), (38, .iaload), (39, .iload_n 2), (40, .if_icmp .ne 18), (43, .aload_n 0), (44, .iload_n 1), (45, .iload 6), (47, .invokevirtual 273), (50, .iload 4), (52, .iload 5), (54, .invokestatic 276), (57, .ireturn), (58, .iinc 6 1), (61, .goto (-58)), (64, .iload_n 3), (65, .ireturn)]
theorem k190_0 : dck c190 l190_0 := by unfold dck; decide +kernel
/-! 191: DawnPerquisiteModel.summedUp(II)J -/
abbrev c191 : ByteArray := prog_20_method_66_code
def l191_0 : List (Nat × Instr) := [(0, .sipush 681), (3, .iload_n 1), (4, .imul), (5, .iconst 1), (6, .iadd), (7, .iconst 3), (8, .iload_n 2), (9, .imul), (10, .iadd), (11, .istore_n 3), (12, .sipush 681), (15, .iload_n 1), (16, .imul), (17, .bipush 73), (19, .iadd), (20, .istore 4), (22, .iconst 0), (23, .istore 5), (25, .iconst 0), (26, .istore 6), (28, .aload_n 0), (29, .getfield 16), (32, .iload_n 3), (33, .iconst 1), (34, .iadd), (35, .iaload), (36, .istore 7), (38, .iload 7), (40, .aload_n 0), (41, .getfield 16), (44, .iload_n 3), (45, .iconst 2), (46, .iadd), (47, .iaload), (48, .if_icmp .ge 307), (51, .aload_n 0), (52, .getfield 16), (55, .iload 4), (57, .iconst 2), (58, .iload 7), (60, .imul), (61, .iadd), (62, .iaload), (63, .istore 8), (65, .aload_n 0), (66, .getfield 16), (69, .iload 4), (71, .iconst 2), (72, .iload 7), (74, .imul), (75, .iadd), (76, .iconst 1), (77, .iadd), (78, .iaload), (79, .istore 9), (81, .iload 8), (83, .iconst 1), (84, .if_icmp .gt 35), (87, .aload_n 0), (88, .getfield 35)]
theorem k191_0 : dck c191 l191_0 := by unfold dck; decide +kernel
def l191_1 : List (Nat × Instr) := [(91, .iload 5), (93, .iload 8), (95, .ifCond .ne 9), (98, .iload 9), (100, .i2l), (101, .goto 11), (104, .aload_n 0), (105, .getfield 32), (108, .iload 9), (110, .iaload), (111, .i2l), (112, .lastore), (113, .iinc 5 1), (116, .goto 233), (119, .iload 8), (121, .iconst 3), (122, .if_icmp .ne 38), (125, .iinc 5 (-1)), (128, .iinc 6 (-1)), (131, .aload_n 0), (132, .getfield 39), (135, .iload 6), (137, .baload), (138, .ifCond .ne 211), (141, .aload_n 0), (142, .getfield 35), (145, .iload 5), (147, .iconst 1), (148, .isub), (149, .aload_n 0), (150, .getfield 35), (153, .iload 5), (155, .laload), (156, .lastore), (157, .goto 192), (160, .iload 8), (162, .iconst 5), (163, .if_icmp .gt 30), (166, .aload_n 0), (167, .getfield 35), (170, .iload 5), (172, .iconst 1), (173, .isub), (174, .aload_n 0), (175, .iload 8), (177, .aload_n 0), (178, .getfield 35), (181, .iload 5), (183, .iconst 1), (184, .isub), (185, .laload), (186, .invokevirtual 257), (189, .lastore), (190, .goto 159), (193, .iload 8), (195, .bipush 10), (197, .if_icmp .ge 39), (200, .iinc 5 (-1)), (203, .aload_n 0), (204, .getfield 35)]
theorem k191_1 : dck c191 l191_1 := by unfold dck; decide +kernel
def l191_2 : List (Nat × Instr) := [(207, .iload 5), (209, .iconst 1), (210, .isub), (211, .iload 8), (213, .aload_n 0), (214, .getfield 35), (217, .iload 5), (219, .iconst 1), (220, .isub), (221, .laload), (222, .aload_n 0), (223, .getfield 35), (226, .iload 5), (228, .laload), (229, .invokestatic 261), (232, .lastore), (233, .goto 116), (236, .iload 8), (238, .bipush 20), (240, .if_icmp .ge 40), (243, .iinc 5 (-2)), (246, .aload_n 0), (247, .getfield 39), (250, .iload 6), (252, .iload 8), (254, .aload_n 0), (255, .getfield 35), (258, .iload 5), (260, .laload), (261, .aload_n 0), (262, .getfield 35), (265, .iload 5), (267, .iconst 1), (268, .iadd), (269, .laload), (270, .invokestatic 265), (273, .bastore), (274, .iinc 6 1), (277, .goto 72), (280, .iload 8), (282, .bipush 20), (284, .if_icmp .ne 32), (287, .aload_n 0), (288, .getfield 39), (291, .iload 6), (293, .iconst 1), (294, .isub), (295, .aload_n 0), (296, .getfield 39), (299, .iload 6), (301, .iconst 1), (302, .isub), (303, .baload), (304, .ifCond .ne 7), (307, .iconst 1), (308, .goto 4), (311, .iconst 0), (312, .bastore), (313, .goto 36), (316, .iinc 6 (-1))]
theorem k191_2 : dck c191 l191_2 := by unfold dck; decide +kernel
def l191_3 : List (Nat × Instr) := [(319, .aload_n 0), (320, .getfield 39), (323, .iload 6), (325, .iconst 1), (326, .isub), (327, .iload 8), (329, .aload_n 0), (330, .getfield 39), (333, .iload 6), (335, .iconst 1), (336, .isub), (337, .baload), (338, .aload_n 0), (339, .getfield 39), (342, .iload 6), (344, .baload), (345, .invokestatic 269), (348, .bastore), (349, .iinc 7 1), (352, .goto (-314)), (355, .aload_n 0), (356, .getfield 35), (359, .iconst 0), (360, .laload), (361, .lreturn)]
theorem k191_3 : dck c191 l191_3 := by unfold dck; decide +kernel
/-! 192: DawnPerquisiteModel.ofOne(IJ)J -/
abbrev c192 : ByteArray := prog_20_method_64_code
def l192_0 : List (Nat × Instr) := [(0, .iload_n 1), (1, .iconst 5), (2, .if_icmp .ne 6), (5, .lload_n 2), (6, .lneg), (7, .lreturn), (8, .iload_n 1), (9, .iconst 2), (10, .if_icmp .ne 33), (13, .lload_n 2), (14, .lconst 0), (15, .lcmp), (16, .ifCond .lt 25), (19, .lload_n 2), (20, .ldc2_w 255), (23, .lcmp), (24, .ifCond .ge 17), (27, .aload_n 0), (28, .getfield 7), (31, .bipush 34), (33, .lload_n 2), (34, .l2i), (35, .iadd), (36, .iaload), (37, .i2l), (38, .goto 4), (41, .lconst 0), (42, .lreturn), (43, .lload_n 2), (44, .lconst 0), (45, .lcmp), (46, .ifCond .lt 29), (49, .lload_n 2), (50, .aload_n 0), (51, .getfield 7), (54, .iconst 0), (55, .iaload), (56, .i2l), (57, .lcmp), (58, .ifCond .ge 17), (61, .aload_n 0), (62, .getfield 7), (65, .bipush 23), (67, .lload_n 2), (68, .l2i), (69, .iadd), (70, .iaload), (71, .i2l), (72, .goto 4), (75, .lconst 0), (76, .lreturn)]
theorem k192_0 : dck c192 l192_0 := by unfold dck; decide +kernel
/-! 193: DawnPerquisiteModel.two(IJJ)J -/
abbrev c193 : ByteArray := prog_20_method_62_code
def l193_0 : List (Nat × Instr) := [(0, .iload_n 0), (28, .lload_n 1), (29, .lload_n 3), (30, .ladd), (31, .invokestatic 251), (34, .lreturn), (35, .lload_n 1), (36, .lload_n 3), (37, .lsub), (38, .invokestatic 251), (41, .lreturn), (42, .lload_n 1), (43, .lload_n 3), (44, .lmul), (45, .invokestatic 251), (48, .lreturn), (49, .lload_n 3), (50, .lconst 0), (51, .lcmp), (52, .ifCond .ne 7), (55, .lconst 0), (56, .goto 9), (59, .lload_n 1), (60, .lload_n 3), (61, .ldiv), (62, .invokestatic 251), (65, .lreturn)]
theorem k193_0 : dck c193 l193_0 := by unfold dck; decide +kernel
theorem w193_1 : decode c193 1 = .ok (.tableswitch 48 6 8 #[27, 34, 41], 27) := by decide +kernel
/-! 194: DawnPerquisiteModel.clip(J)J -/
abbrev c194 : ByteArray := prog_20_method_61_code
def l194_0 : List (Nat × Instr) := [(0, .lload_n 0), (1, .ldc2_w 247), (4, .lcmp), (5, .ifCond .le 9), (8, .ldc2_w 247), (11, .goto 18), (14, .lload_n 0), (15, .ldc2_w 249), (18, .lcmp), (19, .ifCond .ge 9), (22, .ldc2_w 249), (25, .goto 4), (28, .lload_n 0), (29, .lreturn)]
theorem k194_0 : dck c194 l194_0 := by unfold dck; decide +kernel
/-! 195: DawnPerquisiteModel.isAsked(IJJ)Z -/
abbrev c195 : ByteArray := prog_20_method_63_code
def l195_0 : List (Nat × Instr) := [(0, .iload_n 0), (1, .bipush 10), (3, .if_icmp .ne 17), (6, .lload_n 1), (7, .lload_n 3), (8, .lcmp), (9, .ifCond .ge 7), (12, .iconst 1), (13, .goto 98), (16, .iconst 0), (17, .goto 94), (20, .iload_n 0), (21, .bipush 11), (23, .if_icmp .ne 17), (26, .lload_n 1), (27, .lload_n 3), (28, .lcmp), (29, .ifCond .gt 7), (32, .iconst 1), (33, .goto 78), (36, .iconst 0), (37, .goto 74), (40, .iload_n 0), (41, .bipush 12), (43, .if_icmp .ne 17), (46, .lload_n 1), (47, .lload_n 3), (48, .lcmp), (49, .ifCond .le 7), (52, .iconst 1), (53, .goto 58), (56, .iconst 0), (57, .goto 54), (60, .iload_n 0), (61, .bipush 13), (63, .if_icmp .ne 17), (66, .lload_n 1), (67, .lload_n 3), (68, .lcmp), (69, .ifCond .lt 7), (72, .iconst 1), (73, .goto 38), (76, .iconst 0), (77, .goto 34), (80, .iload_n 0), (81, .bipush 14), (83, .if_icmp .ne 17), (86, .lload_n 1), (87, .lload_n 3), (88, .lcmp), (89, .ifCond .ne 7), (92, .iconst 1), (93, .goto 18), (96, .iconst 0), (97, .goto 14), (100, .lload_n 1), (101, .lload_n 3), (102, .lcmp), (103, .ifCond .eq 7), (106, .iconst 1)]
theorem k195_0 : dck c195 l195_0 := by unfold dck; decide +kernel
def l195_1 : List (Nat × Instr) := [(107, .goto 4), (110, .iconst 0), (111, .ireturn)]
theorem k195_1 : dck c195 l195_1 := by unfold dck; decide +kernel
/-! 196: DawnPerquisiteModel.joined(IZZ)Z -/
abbrev c196 : ByteArray := prog_20_method_65_code
def l196_0 : List (Nat × Instr) := [(0, .iload_n 0), (1, .bipush 21), (3, .if_icmp .ne 19), (6, .iload_n 1), (7, .ifCond .eq 11), (10, .iload_n 2), (11, .ifCond .eq 7), (14, .iconst 1), (15, .goto 20), (18, .iconst 0), (19, .goto 16), (22, .iload_n 1), (23, .ifCond .ne 7), (26, .iload_n 2), (27, .ifCond .eq 7), (30, .iconst 1), (31, .goto 4), (34, .iconst 0), (35, .ireturn)]
theorem k196_0 : dck c196 l196_0 := by unfold dck; decide +kernel
/-! 197: DawnPerquisiteModel.held(JII)I -/
abbrev c197 : ByteArray := prog_20_method_4_code
def l197_0 : List (Nat × Instr) := [(0, .lload_n 0), (1, .iload_n 2), (2, .i2l), (3, .lcmp), (4, .ifCond .ge 7), (7, .iload_n 2), (8, .goto 16), (11, .lload_n 0), (12, .iload_n 3), (13, .i2l), (14, .lcmp), (15, .ifCond .le 7), (18, .iload_n 3), (19, .goto 5), (22, .lload_n 0), (23, .l2i), (24, .ireturn)]
theorem k197_0 : dck c197 l197_0 := by unfold dck; decide +kernel
/-! 198: DawnPerquisiteModel.keepStep()V -/
abbrev c198 : ByteArray := prog_20_method_83_code
def l198_0 : List (Nat × Instr) := [(0, .aload_n 0), (1, .getfield 7), (4, .iconst 3), (5, .iaload), (6, .bipush 30), (8, .if_icmp .ne 47), (11, .iconst 0), (12, .istore_n 1), (13, .iload_n 1), (14, .sipush 1421), (17, .if_icmp .ge 28), (20, .aload_n 0), (21, .getfield 7), (24, .bipush 97), (26, .iload_n 1), (27, .iadd), (28, .aload_n 0), (29, .getfield 7), (32, .sipush 146), (35, .iload_n 1), (36, .iadd), (37, .iaload), (38, .iastore), (39, .iinc 1 1), (42, .goto (-29)), (45, .aload_n 0), (46, .getfield 7), (49, .iconst 3), (50, .dup2), (51, .iaload), (52, .iconst 1), (53, .isub), (54, .iastore), (55, .bipush 97), (57, .bipush 49), (59, .aload_n 0), (60, .getfield 7), (63, .iconst 3), (64, .iaload), (65, .imul), (66, .iadd), (67, .istore_n 1), (68, .aload_n 0), (69, .getfield 7), (72, .iload_n 1), (73, .aload_n 0), (74, .getfield 7), (77, .iconst 0), (78, .iaload), (79, .iastore), (80, .iconst 0), (81, .istore_n 2), (82, .iload_n 2), (83, .bipush 23), (85, .if_icmp .ge 28), (88, .aload_n 0), (89, .getfield 7), (92, .iload_n 1), (93, .iconst 1), (94, .iadd)]
theorem k198_0 : dck c198 l198_0 := by unfold dck; decide +kernel
def l198_1 : List (Nat × Instr) := [(95, .iload_n 2), (96, .iadd), (97, .aload_n 0), (98, .getfield 7), (101, .bipush 6), (103, .iload_n 2), (104, .iadd), (105, .iaload), (106, .iastore), (107, .iinc 2 1), (110, .goto (-28)), (113, .iconst 0), (114, .istore_n 2), (115, .iload_n 2), (116, .bipush 25), (118, .if_icmp .ge 32), (121, .aload_n 0), (122, .getfield 7), (125, .iload_n 1), (126, .iconst 1), (127, .iadd), (128, .bipush 23), (130, .iadd), (131, .iload_n 2), (132, .iadd), (133, .aload_n 0), (134, .getfield 7), (137, .sipush 1567), (140, .iload_n 2), (141, .iadd), (142, .iaload), (143, .iastore), (144, .iinc 2 1), (147, .goto (-32)), (150, .aload_n 0), (151, .getfield 7), (154, .iconst 3), (155, .dup2), (156, .iaload), (157, .iconst 1), (158, .iadd), (159, .iastore), (160, .return_)]
theorem k198_1 : dck c198 l198_1 := by unfold dck; decide +kernel
/-! 199: DawnPerquisiteModel.sellNow(I)I -/
abbrev c199 : ByteArray := prog_20_method_76_code
def l199_0 : List (Nat × Instr) := [(0, .aload_n 0), (1, .iload_n 1), (2, .invokevirtual 314), (5, .istore_n 2), (6, .aload_n 0), (7, .getfield 7), (10, .bipush 23), (12, .iload_n 1), (13, .iadd), (14, .dup2), (15, .iaload), (16, .iload_n 2), (17, .isub), (18, .iastore), (19, .aload_n 0), (20, .getfield 7), (23, .bipush 8), (25, .aload_n 0), (26, .getfield 7), (29, .bipush 8), (31, .iaload), (32, .iload_n 2), (33, .iadd), (34, .i2l), (35, .iconst 0), (36, .ldc 113), (38, .invokestatic 276), (41, .iastore), (42, .aload_n 0), (43, .getfield 7), (46, .bipush 45), (48, .iload_n 1), (49, .iadd), (50, .iaload), (51, .istore_n 3), (52, .iload_n 3), (53, .aload_n 0), (54, .getfield 7), (57, .bipush 51), (59, .iload_n 1), (60, .iadd), (61, .iaload), (62, .if_icmp .gt 19), (65, .aload_n 0), (66, .getfield 7), (69, .bipush 11), (71, .iload_n 3), (72, .iadd), (73, .iload_n 1), (74, .iastore), (75, .iinc 3 1), (78, .goto (-26)), (81, .aload_n 0), (82, .iconst 0), (83, .iload_n 1), (84, .iload_n 2), (85, .invokevirtual 317), (88, .iload_n 2), (89, .ireturn)]
theorem k199_0 : dck c199 l199_0 := by unfold dck; decide +kernel
/-! 200: DawnPerquisiteModel.write(III)V -/
abbrev c200 : ByteArray := prog_20_method_72_code
def l200_0 : List (Nat × Instr) := [(0, .aload_n 0), (1, .getfield 43), (4, .ifCond .ne 4), (7, .return_), (8, .aload_n 0), (9, .getfield 7), (12, .bipush 10), (14, .iaload), (15, .bipush 25), (17, .if_icmp .ne 54), (20, .iconst 1), (21, .istore 4), (23, .iload 4), (25, .bipush 25), (27, .if_icmp .ge 33), (30, .aload_n 0), (31, .getfield 7), (34, .sipush 1567), (37, .iload 4), (39, .iadd), (40, .iconst 1), (41, .isub), (42, .aload_n 0), (43, .getfield 7), (46, .sipush 1567), (49, .iload 4), (51, .iadd), (52, .iaload), (53, .iastore), (54, .iinc 4 1), (57, .goto (-34)), (60, .aload_n 0), (61, .getfield 7), (64, .bipush 10), (66, .dup2), (67, .iaload), (68, .iconst 1), (69, .isub), (70, .iastore), (71, .aload_n 0), (72, .getfield 7), (75, .sipush 1567), (78, .aload_n 0), (79, .getfield 7), (82, .bipush 10), (84, .iaload), (85, .iadd), (86, .aload_n 0), (87, .getfield 7), (90, .bipush 6), (92, .iaload), (93, .iconst 5), (94, .imul), (95, .iload_n 1), (96, .iadd), (97, .bipush 12), (99, .imul), (100, .iload_n 2), (101, .iadd), (102, .bipush 100)]
theorem k200_0 : dck c200 l200_0 := by unfold dck; decide +kernel
def l200_1 : List (Nat × Instr) := [(104, .imul), (105, .iload_n 3), (106, .iadd), (107, .iastore), (108, .aload_n 0), (109, .getfield 7), (112, .bipush 10), (114, .dup2), (115, .iaload), (116, .iconst 1), (117, .iadd), (118, .iastore), (119, .return_)]
theorem k200_1 : dck c200 l200_1 := by unfold dck; decide +kernel
/-! 201: DawnPerquisiteModel.give(I)Z -/
abbrev c201 : ByteArray := prog_20_method_86_code
def l201_0 : List (Nat × Instr) := [(0, .aload_n 0), (1, .iload_n 1), (2, .invokevirtual 345), (5, .ifCond .ne 5), (8, .iconst 0), (9, .ireturn), (10, .aload_n 0), (11, .invokevirtual 339), (14, .aload_n 0), (15, .iload_n 1), (16, .invokevirtual 348), (19, .iconst 1), (20, .ireturn)]
theorem k201_0 : dck c201 l201_0 := by unfold dck; decide +kernel
/-! 202: DawnPerquisiteModel.canGive(I)Z -/
abbrev c202 : ByteArray := prog_20_method_77_code
def l202_0 : List (Nat × Instr) := [(0, .iload_n 1), (1, .invokestatic 321), (4, .ifCond .eq 20), (7, .aload_n 0), (8, .getfield 7), (11, .bipush 11), (13, .iload_n 1), (14, .iadd), (15, .iaload), (16, .iconst (-1)), (17, .if_icmp .ne 7), (20, .iconst 1), (21, .goto 4), (24, .iconst 0), (25, .ireturn)]
theorem k202_0 : dck c202 l202_0 := by unfold dck; decide +kernel
/-! 203: DawnPerquisiteModel.isSlice(I)Z -/
abbrev c203 : ByteArray := prog_20_method_9_code
def l203_0 : List (Nat × Instr) := [(0, .iload_n 0), (1, .iconst 0), (2, .bipush 11), (4, .invokestatic 63), (7, .ireturn)]
theorem k203_0 : dck c203 l203_0 := by unfold dck; decide +kernel
/-! 204: DawnPerquisiteModel.giveNow(I)V -/
abbrev c204 : ByteArray := prog_20_method_78_code
def l204_0 : List (Nat × Instr) := [(0, .aload_n 0), (1, .getfield 7), (4, .bipush 11), (6, .iload_n 1), (7, .iadd), (8, .bipush 6), (10, .iastore), (11, .aload_n 0), (12, .iconst 1), (13, .iload_n 1), (14, .iconst 0), (15, .invokevirtual 317), (18, .return_)]
theorem k204_0 : dck c204 l204_0 := by unfold dck; decide +kernel
/-! 205: DawnPerquisiteModel.turn(I)Z -/
abbrev c205 : ByteArray := prog_20_method_87_code
def l205_0 : List (Nat × Instr) := [(0, .aload_n 0), (1, .iload_n 1), (2, .invokevirtual 351), (5, .ifCond .ne 5), (8, .iconst 0), (9, .ireturn), (10, .aload_n 0), (11, .invokevirtual 339), (14, .aload_n 0), (15, .iload_n 1), (16, .invokevirtual 354), (19, .iconst 1), (20, .ireturn)]
theorem k205_0 : dck c205 l205_0 := by unfold dck; decide +kernel
/-! 206: DawnPerquisiteModel.canTurn(I)Z -/
abbrev c206 : ByteArray := prog_20_method_79_code
def l206_0 : List (Nat × Instr) := [(0, .aload_n 0), (1, .iload_n 1), (2, .invokevirtual 308), (5, .ifCond .eq 15), (8, .aload_n 0), (9, .iload_n 1), (10, .invokevirtual 286), (13, .ifCond .le 7), (16, .iconst 1), (17, .goto 4), (20, .iconst 0), (21, .ireturn)]
theorem k206_0 : dck c206 l206_0 := by unfold dck; decide +kernel
/-! 207: DawnPerquisiteModel.turnNow(I)V -/
abbrev c207 : ByteArray := prog_20_method_80_code
def l207_0 : List (Nat × Instr) := [(0, .iconst 0), (1, .istore_n 2), (2, .iload_n 2), (3, .bipush 12), (5, .if_icmp .ge 32), (8, .aload_n 0), (9, .getfield 7), (12, .bipush 11), (14, .iload_n 2), (15, .iadd), (16, .iaload), (17, .iload_n 1), (18, .if_icmp .ne 13), (21, .aload_n 0), (22, .getfield 7), (25, .bipush 11), (27, .iload_n 2), (28, .iadd), (29, .iconst (-1)), (30, .iastore), (31, .iinc 2 1), (34, .goto (-32)), (37, .aload_n 0), (38, .iconst 2), (39, .iload_n 1), (40, .iconst 0), (41, .invokevirtual 317), (44, .return_)]
theorem k207_0 : dck c207 l207_0 := by unfold dck; decide +kernel
/-! 208: DawnPerquisiteModel.pass(II)I -/
abbrev c208 : ByteArray := prog_20_method_89_code
def l208_0 : List (Nat × Instr) := [(0, .aload_n 0), (1, .iload_n 1), (2, .iload_n 2), (3, .invokevirtual 357), (6, .ifCond .ne 5), (9, .iconst (-1)), (10, .ireturn), (11, .aload_n 0), (12, .invokevirtual 339), (15, .aload_n 0), (16, .iload_n 1), (17, .invokevirtual 314), (20, .aload_n 0), (21, .iload_n 2), (22, .invokevirtual 314), (25, .iadd), (26, .iconst 2), (27, .idiv), (28, .istore_n 3), (29, .aload_n 0), (30, .getfield 7), (33, .bipush 23), (35, .iload_n 2), (36, .iadd), (37, .dup2), (38, .iaload), (39, .iload_n 3), (40, .isub), (41, .iastore), (42, .aload_n 0), (43, .getfield 7), (46, .bipush 23), (48, .iload_n 1), (49, .iadd), (50, .aload_n 0), (51, .getfield 7), (54, .bipush 23), (56, .iload_n 1), (57, .iadd), (58, .iaload), (59, .iload_n 3), (60, .iadd), (61, .i2l), (62, .iconst 0), (63, .sipush 999), (66, .invokestatic 276), (69, .iastore), (70, .iconst 0), (71, .istore 4), (73, .iload 4), (75, .bipush 12), (77, .if_icmp .ge 34), (80, .aload_n 0), (81, .getfield 7), (84, .bipush 11), (86, .iload 4), (88, .iadd), (89, .iaload), (90, .iload_n 1), (91, .if_icmp .ne 14)]
theorem k208_0 : dck c208 l208_0 := by unfold dck; decide +kernel
def l208_1 : List (Nat × Instr) := [(94, .aload_n 0), (95, .getfield 7), (98, .bipush 11), (100, .iload 4), (102, .iadd), (103, .iload_n 2), (104, .iastore), (105, .iinc 4 1), (108, .goto (-35)), (111, .aload_n 0), (112, .iconst 4), (113, .iload_n 2), (114, .iload_n 3), (115, .invokevirtual 317), (118, .iload_n 3), (119, .ireturn)]
theorem k208_1 : dck c208 l208_1 := by unfold dck; decide +kernel
/-! 209: DawnPerquisiteModel.canPass(II)Z -/
abbrev c209 : ByteArray := prog_20_method_88_code
def l209_0 : List (Nat × Instr) := [(0, .aload_n 0), (1, .iload_n 1), (2, .invokevirtual 308), (5, .ifCond .eq 27), (8, .aload_n 0), (9, .iload_n 2), (10, .invokevirtual 308), (13, .ifCond .eq 19), (16, .aload_n 0), (17, .iload_n 1), (18, .invokevirtual 75), (21, .ifCond .eq 11), (24, .aload_n 0), (25, .iload_n 2), (26, .invokevirtual 75), (29, .ifCond .eq 5), (32, .iconst 0), (33, .ireturn), (34, .aload_n 0), (35, .iload_n 2), (36, .aload_n 0), (37, .getfield 7), (40, .bipush 9), (42, .iaload), (43, .invokevirtual 283), (46, .ifCond .eq 32), (49, .aload_n 0), (50, .iload_n 1), (51, .invokevirtual 75), (54, .aload_n 0), (55, .iload_n 2), (56, .invokevirtual 311), (59, .iconst (-1)), (60, .ixor), (61, .iand), (62, .ifCond .ne 16), (65, .aload_n 0), (66, .iload_n 2), (67, .invokevirtual 314), (70, .aload_n 0), (71, .iload_n 1), (72, .invokevirtual 314), (75, .if_icmp .gt 5), (78, .iconst 0), (79, .ireturn), (80, .aload_n 0), (81, .getfield 7), (84, .bipush 23), (86, .iload_n 2), (87, .iadd), (88, .iaload), (89, .aload_n 0), (90, .iload_n 1), (91, .invokevirtual 314), (94, .aload_n 0), (95, .iload_n 2), (96, .invokevirtual 314), (99, .iadd), (100, .iconst 2), (101, .idiv)]
theorem k209_0 : dck c209 l209_0 := by unfold dck; decide +kernel
def l209_1 : List (Nat × Instr) := [(102, .if_icmp .lt 7), (105, .iconst 1), (106, .goto 4), (109, .iconst 0), (110, .ireturn)]
theorem k209_1 : dck c209 l209_1 := by unfold dck; decide +kernel
/-! 210: DawnPerquisiteModel.day(I)I -/
abbrev c210 : ByteArray := prog_20_method_91_code
def l210_0 : List (Nat × Instr) := [(0, .iload_n 1), (1, .iconst 1), (2, .bipush 60), (4, .invokestatic 63), (7, .ifCond .eq 36), (10, .aload_n 0), (11, .getfield 7), (14, .bipush 6), (16, .iaload), (17, .iload_n 1), (18, .iadd), (19, .sipush 9999), (22, .if_icmp .gt 21), (25, .aload_n 0), (26, .iload_n 1), (27, .invokevirtual 363), (30, .ifCond .eq 13), (33, .aload_n 0), (34, .getfield 7), (37, .bipush 9), (39, .iaload), (40, .goto 4), (43, .iconst (-1)), (44, .ireturn)]
theorem k210_0 : dck c210 l210_0 := by unfold dck; decide +kernel
/-! 211: DawnPerquisiteModel.arePassed(I)Z -/
abbrev c211 : ByteArray := prog_20_method_90_code
def l211_0 : List (Nat × Instr) := [(0, .iconst 0), (1, .istore_n 2), (2, .iload_n 2), (3, .iload_n 1), (4, .if_icmp .ge 32), (7, .aload_n 0), (8, .getfield 7), (11, .bipush 6), (13, .iaload), (14, .sipush 9999), (17, .if_icmp .ne 5), (20, .iconst 0), (21, .ireturn), (22, .aload_n 0), (23, .invokevirtual 339), (26, .aload_n 0), (27, .invokevirtual 360), (30, .iinc 2 1), (33, .goto (-31)), (36, .iconst 1), (37, .ireturn)]
theorem k211_0 : dck c211 l211_0 := by unfold dck; decide +kernel
/-! 212: DawnPerquisiteModel.passDay()V -/
abbrev c212 : ByteArray := prog_20_method_82_code
def l212_0 : List (Nat × Instr) := [(0, .iconst 0), (1, .istore_n 1), (2, .iload_n 1), (3, .aload_n 0), (4, .getfield 7), (7, .iconst 0), (8, .iaload), (9, .if_icmp .ge 41), (12, .aload_n 0), (13, .getfield 7), (16, .bipush 23), (18, .iload_n 1), (19, .iadd), (20, .aload_n 0), (21, .getfield 7), (24, .bipush 23), (26, .iload_n 1), (27, .iadd), (28, .iaload), (29, .aload_n 0), (30, .iload_n 1), (31, .invokevirtual 330), (34, .iadd), (35, .i2l), (36, .iconst 0), (37, .sipush 999), (40, .invokestatic 276), (43, .iastore), (44, .iinc 1 1), (47, .goto (-45)), (50, .iconst 0), (51, .istore_n 1), (52, .iload_n 1), (53, .bipush 12), (55, .if_icmp .ge 19), (58, .aload_n 0), (59, .getfield 7), (62, .bipush 11), (64, .iload_n 1), (65, .iadd), (66, .iconst (-1)), (67, .iastore), (68, .iinc 1 1), (71, .goto (-19)), (74, .aload_n 0), (75, .getfield 7), (78, .bipush 9), (80, .aload_n 0), (81, .invokevirtual 333), (84, .iastore), (85, .aload_n 0), (86, .getfield 7), (89, .bipush 6), (91, .dup2), (92, .iaload), (93, .iconst 1), (94, .iadd), (95, .iastore), (96, .aload_n 0), (97, .iconst 3)]
theorem k212_0 : dck c212 l212_0 := by unfold dck; decide +kernel
def l212_1 : List (Nat × Instr) := [(98, .aload_n 0), (99, .getfield 7), (102, .bipush 9), (104, .iaload), (105, .iconst 0), (106, .invokevirtual 317), (109, .return_)]
theorem k212_1 : dck c212 l212_1 := by unfold dck; decide +kernel
/-! 213: DawnPerquisiteModel.earnsOf(I)I -/
abbrev c213 : ByteArray := prog_20_method_71_code
def l213_0 : List (Nat × Instr) := [(0, .aload_n 0), (1, .iload_n 1), (2, .aload_n 0), (3, .getfield 7), (6, .bipush 9), (8, .iaload), (9, .invokevirtual 289), (12, .aload_n 0), (13, .aload_n 0), (14, .getfield 7), (17, .iconst 2), (18, .iaload), (19, .iconst 1), (20, .iconst 1), (21, .bipush (-9)), (23, .bipush 9), (25, .invokevirtual 292), (28, .ireturn)]
theorem k213_0 : dck c213 l213_0 := by unfold dck; decide +kernel
/-! 214: DawnPerquisiteModel.nextSort()I -/
abbrev c214 : ByteArray := prog_20_method_81_code
def l214_0 : List (Nat × Instr) := [(0, .aload_n 0), (1, .invokevirtual 324), (4, .ifCond .ne 5), (7, .iconst 0), (8, .ireturn), (9, .aload_n 0), (10, .aload_n 0), (11, .invokevirtual 324), (14, .invokevirtual 327), (17, .istore_n 1), (18, .iconst 0), (19, .istore_n 2), (20, .aload_n 0), (21, .getfield 7), (24, .bipush 29), (26, .iaload), (27, .istore_n 3), (28, .iload_n 3), (29, .iload_n 1), (30, .if_icmp .gt 21), (33, .iinc 2 1), (36, .iload_n 3), (37, .aload_n 0), (38, .getfield 7), (41, .bipush 29), (43, .iload_n 2), (44, .iadd), (45, .iaload), (46, .iadd), (47, .istore_n 3), (48, .goto (-20)), (51, .iload_n 2), (52, .ireturn)]
theorem k214_0 : dck c214 l214_0 := by unfold dck; decide +kernel
/-! 215: DawnPerquisiteModel.allOdds()I -/
abbrev c215 : ByteArray := prog_20_method_17_code
def l215_0 : List (Nat × Instr) := [(0, .iconst 0), (1, .istore_n 1), (2, .iconst 0), (3, .istore_n 2), (4, .iload_n 2), (5, .iconst 5), (6, .if_icmp .ge 21), (9, .iload_n 1), (10, .aload_n 0), (11, .getfield 7), (14, .bipush 29), (16, .iload_n 2), (17, .iadd), (18, .iaload), (19, .iadd), (20, .istore_n 1), (21, .iinc 2 1), (24, .goto (-20)), (27, .iload_n 1), (28, .ireturn)]
theorem k215_0 : dck c215 l215_0 := by unfold dck; decide +kernel
/-! 216: DawnPerquisiteModel.drawnBy(I)I -/
abbrev c216 : ByteArray := prog_20_method_73_code
def l216_0 : List (Nat × Instr) := [(0, .aload_n 0), (1, .getfield 7), (4, .bipush 7), (6, .iaload), (7, .iload_n 1), (8, .irem), (9, .istore_n 2), (10, .aload_n 0), (11, .invokevirtual 299), (14, .iload_n 2), (15, .ireturn)]
theorem k216_0 : dck c216 l216_0 := by unfold dck; decide +kernel
/-! 217: DawnPerquisiteModel.anew()V -/
abbrev c217 : ByteArray := prog_20_method_74_code
def l217_0 : List (Nat × Instr) := [(0, .aload_n 0), (1, .getfield 7), (4, .bipush 7), (6, .aload_n 0), (7, .getfield 7), (10, .bipush 7), (12, .iaload), (13, .i2l), (14, .ldc2_w 302), (17, .lmul), (18, .ldc2_w 304), (21, .ladd), (22, .ldc2_w 306), (25, .lrem), (26, .l2i), (27, .iastore), (28, .return_)]
theorem k217_0 : dck c217 l217_0 := by unfold dck; decide +kernel
/-! 218: DawnPerquisiteModel.played(I)I -/
abbrev c218 : ByteArray := prog_20_method_93_code
def l218_0 : List (Nat × Instr) := [(0, .iload_n 1), (1, .iconst 0), (2, .aload_n 0), (3, .getfield 7), (6, .iconst 1), (7, .iaload), (8, .iconst 1), (9, .isub), (10, .invokestatic 63), (13, .ifCond .ne 6), (16, .bipush (-2)), (18, .ireturn), (19, .iconst 0), (20, .istore_n 2), (21, .iload_n 2), (22, .aload_n 0), (23, .getfield 16), (26, .sipush 681), (29, .iload_n 1), (30, .imul), (31, .iaload), (32, .if_icmp .ge 29), (35, .aload_n 0), (36, .sipush 681), (39, .iload_n 1), (40, .imul), (41, .iconst 1), (42, .iadd), (43, .iconst 3), (44, .iload_n 2), (45, .imul), (46, .iadd), (47, .invokevirtual 382), (50, .ifCond .ne 5), (53, .iload_n 2), (54, .ireturn), (55, .iinc 2 1), (58, .goto (-37)), (61, .iconst (-1)), (62, .ireturn)]
theorem k218_0 : dck c218 l218_0 := by unfold dck; decide +kernel
/-! 219: DawnPerquisiteModel.isPlayed(I)Z -/
abbrev c219 : ByteArray := prog_20_method_92_code
def l219_0 : List (Nat × Instr) := [(0, .aload_n 0), (1, .getfield 16), (4, .iload_n 1), (5, .iconst 1), (6, .iadd), (7, .iaload), (8, .istore_n 2), (9, .aload_n 0), (10, .getfield 16), (13, .iload_n 1), (14, .iconst 2), (15, .iadd), (16, .iaload), (17, .istore_n 3), (18, .aload_n 0), (19, .getfield 16), (22, .iload_n 1), (23, .iaload), (64, .aload_n 0), (65, .bipush 31), (67, .iload_n 2), (68, .iload_n 3), (69, .bipush 50), (71, .invokevirtual 366), (74, .ifCond .lt 7), (77, .iconst 1), (78, .goto 4), (81, .iconst 0), (82, .ireturn), (83, .aload_n 0), (84, .iload_n 2), (85, .iload_n 3), (86, .aload_n 0), (87, .getfield 7), (90, .bipush 34), (92, .iload_n 2), (93, .iadd), (94, .iaload), (95, .invokevirtual 370), (98, .ireturn), (99, .aload_n 0), (100, .iload_n 2), (101, .invokevirtual 373), (104, .ifCond .lt 7), (107, .iconst 1), (108, .goto 4), (111, .iconst 0), (112, .ireturn), (113, .aload_n 0), (114, .iload_n 2), (115, .invokevirtual 376), (118, .ireturn), (119, .aload_n 0), (120, .iload_n 2), (121, .invokevirtual 379), (124, .ireturn), (125, .aload_n 0), (126, .iload_n 2), (127, .invokevirtual 363), (130, .ireturn)]
theorem k219_0 : dck c219 l219_0 := by unfold dck; decide +kernel
def l219_1 : List (Nat × Instr) := [(131, .iconst 1), (132, .ireturn)]
theorem k219_1 : dck c219 l219_1 := by unfold dck; decide +kernel
theorem w219_24 : decode c219 24 = .ok (.tableswitch 107 2 7 #[40, 59, 75, 89, 95, 101], 40) := by decide +kernel
/-! 220: DawnPerquisiteModel.years(II)I -/
abbrev c220 : ByteArray := prog_20_method_95_code
def l220_0 : List (Nat × Instr) := [(0, .iload_n 1), (1, .iconst 0), (2, .sipush 9999), (5, .invokestatic 63), (8, .ifCond .eq 13), (11, .iload_n 2), (12, .iconst 1), (13, .bipush 40), (15, .invokestatic 63), (18, .ifCond .ne 5), (21, .iconst (-1)), (22, .ireturn), (23, .aload_n 0), (24, .invokevirtual 339), (27, .aload_n 0), (28, .getfield 7), (31, .bipush 7), (33, .iload_n 1), (34, .iconst 2), (35, .imul), (36, .sipush 457), (39, .iadd), (40, .iastore), (41, .iconst 0), (42, .istore_n 3), (43, .iload_n 3), (44, .iload_n 2), (45, .if_icmp .ge 28), (48, .aload_n 0), (49, .getfield 7), (52, .bipush 7), (54, .iaload), (55, .istore 4), (57, .aload_n 0), (58, .invokevirtual 299), (61, .aload_n 0), (62, .iload 4), (64, .invokevirtual 385), (67, .iinc 3 1), (70, .goto (-27)), (73, .aload_n 0), (74, .getfield 7), (77, .bipush 6), (79, .iaload), (80, .ireturn)]
theorem k220_0 : dck c220 l220_0 := by unfold dck; decide +kernel
/-! 221: DawnPerquisiteModel.happens(I)V -/
abbrev c221 : ByteArray := prog_20_method_94_code
def l221_0 : List (Nat × Instr) := [(0, .iload_n 1), (1, .bipush 6), (3, .idiv), (4, .bipush 6), (6, .irem), (7, .istore_n 2), (8, .iload_n 1), (9, .bipush 6), (11, .irem), (44, .aload_n 0), (45, .iload_n 2), (46, .invokevirtual 336), (49, .ifCond .eq 84), (52, .aload_n 0), (53, .iload_n 2), (54, .invokevirtual 342), (57, .pop), (58, .goto 75), (61, .iload_n 1), (62, .bipush 6), (64, .idiv), (65, .iconst 3), (66, .irem), (67, .iconst 1), (68, .if_icmp .ne 65), (71, .aload_n 0), (72, .iload_n 1), (73, .bipush 12), (75, .irem), (76, .invokevirtual 345), (79, .ifCond .eq 54), (82, .aload_n 0), (83, .iload_n 1), (84, .bipush 12), (86, .irem), (87, .invokevirtual 348), (90, .goto 43), (93, .iload_n 1), (94, .iconst 4), (95, .irem), (96, .iconst 3), (97, .if_icmp .ne 36), (100, .aload_n 0), (101, .iload_n 2), (102, .invokevirtual 351), (105, .ifCond .eq 28), (108, .aload_n 0), (109, .iload_n 2), (110, .invokevirtual 354), (113, .goto 20), (116, .aload_n 0), (117, .getfield 7), (120, .bipush 6), (122, .iaload), (123, .sipush 9999), (126, .if_icmp .ge 7), (129, .aload_n 0), (130, .invokevirtual 360), (133, .return_)]
theorem k221_0 : dck c221 l221_0 := by unfold dck; decide +kernel
theorem w221_12 : decode c221 12 = .ok (.tableswitch 104 0 3 #[32, 32, 49, 81], 32) := by decide +kernel
/-! 222: DawnPerquisiteModel.of(II)I -/
abbrev c222 : ByteArray := prog_20_method_96_code
def l222_0 : List (Nat × Instr) := [(0, .aload_n 0), (1, .iload_n 1), (2, .invokevirtual 308), (5, .ifCond .ne 6), (8, .bipush (-10)), (10, .ireturn), (11, .iload_n 2), (56, .aload_n 0), (57, .getfield 7), (60, .bipush 39), (62, .iload_n 1), (63, .iadd), (64, .iaload), (65, .ireturn), (66, .aload_n 0), (67, .getfield 7), (70, .bipush 45), (72, .iload_n 1), (73, .iadd), (74, .iaload), (75, .ireturn), (76, .aload_n 0), (77, .getfield 7), (80, .bipush 51), (82, .iload_n 1), (83, .iadd), (84, .iaload), (85, .ireturn), (86, .aload_n 0), (87, .getfield 7), (90, .bipush 23), (92, .iload_n 1), (93, .iadd), (94, .iaload), (95, .ireturn), (96, .aload_n 0), (97, .iload_n 1), (98, .invokevirtual 314), (101, .ireturn), (102, .aload_n 0), (103, .iload_n 1), (104, .invokevirtual 330), (107, .ireturn), (108, .aload_n 0), (109, .iload_n 1), (110, .invokevirtual 286), (113, .ireturn), (114, .bipush (-10)), (116, .ireturn)]
theorem k222_0 : dck c222 l222_0 := by unfold dck; decide +kernel
theorem w222_12 : decode c222 12 = .ok (.tableswitch 102 0 6 #[44, 54, 64, 74, 84, 90, 96], 44) := by decide +kernel
/-! 223: DawnPerquisiteModel.ofSort(II)I -/
abbrev c223 : ByteArray := prog_20_method_97_code
def l223_0 : List (Nat × Instr) := [(0, .iload_n 1), (1, .invokestatic 81), (4, .ifCond .ne 7), (7, .iconst (-1)), (8, .goto 37), (11, .iload_n 2), (12, .ifCond .ne 15), (15, .aload_n 0), (16, .getfield 7), (19, .bipush 29), (21, .iload_n 1), (22, .iadd), (23, .iaload), (24, .goto 21), (27, .iload_n 2), (28, .iconst 1), (29, .if_icmp .ne 15), (32, .aload_n 0), (33, .getfield 7), (36, .bipush 34), (38, .iload_n 1), (39, .iadd), (40, .iaload), (41, .goto 4), (44, .iconst (-1)), (45, .ireturn)]
theorem k223_0 : dck c223 l223_0 := by unfold dck; decide +kernel
/-! 224: DawnPerquisiteModel.at(I)I -/
abbrev c224 : ByteArray := prog_20_method_98_code
def l224_0 : List (Nat × Instr) := [(0, .iload_n 1), (1, .invokestatic 321), (4, .ifCond .eq 15), (7, .aload_n 0), (8, .getfield 7), (11, .bipush 11), (13, .iload_n 1), (14, .iadd), (15, .iaload), (16, .goto 5), (19, .bipush (-2)), (21, .ireturn)]
theorem k224_0 : dck c224 l224_0 := by unfold dck; decide +kernel
/-! 225: DawnPerquisiteModel.is(I)I -/
abbrev c225 : ByteArray := prog_20_method_99_code
def l225_0 : List (Nat × Instr) := [(0, .iload_n 1), (1, .iconst 0), (2, .iconst 3), (3, .invokestatic 63), (6, .ifCond .eq 15), (9, .aload_n 0), (10, .getfield 7), (13, .bipush 6), (15, .iload_n 1), (16, .iadd), (17, .iaload), (18, .goto 17), (21, .iload_n 1), (22, .iconst 4), (23, .if_icmp .ne 10), (26, .aload_n 0), (27, .invokevirtual 280), (30, .goto 5), (33, .bipush (-2)), (35, .ireturn)]
theorem k225_0 : dck c225 l225_0 := by unfold dck; decide +kernel
/-! 226: DawnPerquisiteModel.book(II)I -/
abbrev c226 : ByteArray := prog_20_method_101_code
def l226_0 : List (Nat × Instr) := [(0, .iload_n 1), (1, .iconst (-1)), (2, .if_icmp .ne 11), (5, .aload_n 0), (6, .getfield 7), (9, .bipush 10), (11, .iaload), (12, .ireturn), (13, .iload_n 1), (14, .iconst 0), (15, .aload_n 0), (16, .getfield 7), (19, .bipush 10), (21, .iaload), (22, .iconst 1), (23, .isub), (24, .invokestatic 63), (27, .ifCond .eq 21), (30, .iload_n 2), (31, .iconst 0), (32, .iconst 3), (33, .invokestatic 63), (36, .ifCond .eq 12), (39, .aload_n 0), (40, .iload_n 1), (41, .iload_n 2), (42, .invokevirtual 388), (45, .goto 5), (48, .bipush (-2)), (50, .ireturn)]
theorem k226_0 : dck c226 l226_0 := by unfold dck; decide +kernel
/-! 227: DawnPerquisiteModel.lineOf(II)I -/
abbrev c227 : ByteArray := prog_20_method_100_code
def l227_0 : List (Nat × Instr) := [(0, .aload_n 0), (1, .getfield 7), (4, .sipush 1567), (7, .iload_n 1), (8, .iadd), (9, .iaload), (10, .istore_n 3), (11, .iload_n 2), (12, .ifCond .ne 11), (15, .iload_n 3), (16, .sipush 6000), (19, .idiv), (20, .goto 37), (23, .iload_n 2), (24, .iconst 1), (25, .if_icmp .ne 13), (28, .iload_n 3), (29, .sipush 1200), (32, .idiv), (33, .iconst 5), (34, .irem), (35, .goto 22), (38, .iload_n 2), (39, .iconst 2), (40, .if_icmp .ne 13), (43, .iload_n 3), (44, .bipush 100), (46, .idiv), (47, .bipush 12), (49, .irem), (50, .goto 7), (53, .iload_n 3), (54, .bipush 100), (56, .irem), (57, .ireturn)]
theorem k227_0 : dck c227 l227_0 := by unfold dck; decide +kernel
/-! 228: DawnPerquisiteModel.ledger(I)I -/
abbrev c228 : ByteArray := prog_20_method_102_code
def l228_0 : List (Nat × Instr) := [(0, .iload_n 1), (1, .iconst 0), (2, .iconst 4), (3, .invokestatic 63), (6, .ifCond .ne 6), (9, .bipush (-2)), (11, .ireturn), (12, .iconst 0), (13, .istore_n 2), (14, .iconst 0), (15, .istore_n 3), (16, .iload_n 3), (17, .aload_n 0), (18, .getfield 7), (21, .bipush 10), (23, .iaload), (24, .if_icmp .ge 27), (27, .iload_n 2), (28, .aload_n 0), (29, .iload_n 3), (30, .iconst 1), (31, .invokevirtual 388), (34, .iload_n 1), (35, .if_icmp .ne 7), (38, .iconst 1), (39, .goto 4), (42, .iconst 0), (43, .iadd), (44, .istore_n 2), (45, .iinc 3 1), (48, .goto (-32)), (51, .iload_n 2), (52, .ireturn)]
theorem k228_0 : dck c228 l228_0 := by unfold dck; decide +kernel
/-! 229: DawnPerquisiteModel.richest()I -/
abbrev c229 : ByteArray := prog_20_method_103_code
def l229_0 : List (Nat × Instr) := [(0, .iconst (-1)), (1, .istore_n 1), (2, .iconst 0), (3, .istore_n 2), (4, .iload_n 2), (5, .aload_n 0), (6, .getfield 7), (9, .iconst 0), (10, .iaload), (11, .if_icmp .ge 41), (14, .aload_n 0), (15, .getfield 7), (18, .bipush 23), (20, .iload_n 2), (21, .iadd), (22, .iaload), (23, .iload_n 1), (24, .iconst (-1)), (25, .if_icmp .ne 7), (28, .iconst 0), (29, .goto 12), (32, .aload_n 0), (33, .getfield 7), (36, .bipush 23), (38, .iload_n 1), (39, .iadd), (40, .iaload), (41, .if_icmp .le 5), (44, .iload_n 2), (45, .istore_n 1), (46, .iinc 2 1), (49, .goto (-45)), (52, .iload_n 1), (53, .ireturn)]
theorem k229_0 : dck c229 l229_0 := by unfold dck; decide +kernel
/-! 230: DawnPerquisiteModel.rival(I)I -/
abbrev c230 : ByteArray := prog_20_method_104_code
def l230_0 : List (Nat × Instr) := [(0, .aload_n 0), (1, .iload_n 1), (2, .invokevirtual 308), (5, .ifCond .ne 5), (8, .iconst (-1)), (9, .ireturn), (10, .iconst 0), (11, .istore_n 2), (12, .iconst 0), (13, .istore_n 3), (14, .iload_n 3), (15, .aload_n 0), (16, .getfield 7), (19, .iconst 0), (20, .iaload), (21, .if_icmp .ge 56), (24, .iload_n 3), (25, .iload_n 1), (26, .if_icmp .eq 45), (29, .aload_n 0), (30, .getfield 7), (33, .bipush 39), (35, .iload_n 3), (36, .iadd), (37, .iaload), (38, .aload_n 0), (39, .getfield 7), (42, .bipush 39), (44, .iload_n 1), (45, .iadd), (46, .iaload), (47, .iand), (48, .ifCond .eq 23), (51, .aload_n 0), (52, .iload_n 3), (53, .invokevirtual 311), (56, .aload_n 0), (57, .iload_n 1), (58, .invokevirtual 311), (61, .iand), (62, .ifCond .eq 9), (65, .iload_n 2), (66, .iconst 1), (67, .iload_n 3), (68, .ishl), (69, .ior), (70, .istore_n 2), (71, .iinc 3 1), (74, .goto (-60)), (77, .iload_n 2), (78, .ireturn)]
theorem k230_0 : dck c230 l230_0 := by unfold dck; decide +kernel
/-! 231: DawnPerquisiteModel.can(I)Z -/
abbrev c231 : ByteArray := prog_20_method_105_code
def l231_0 : List (Nat × Instr) := [(0, .aload_n 0), (1, .iload_n 1), (2, .invokevirtual 336), (5, .ireturn)]
theorem k231_0 : dck c231 l231_0 := by unfold dck; decide +kernel
/-! 232: DawnPerquisiteModel.learnt(IZ)J -/
abbrev c232 : ByteArray := prog_20_method_106_code
def l232_0 : List (Nat × Instr) := [(0, .iload_n 1), (1, .invokestatic 81), (4, .ifCond .ne 7), (7, .ldc2_w 391), (10, .lreturn), (11, .iconst 1), (12, .istore_n 3), (13, .iconst 5), (14, .istore 4), (16, .iconst 0), (17, .istore 5), (19, .iload 5), (21, .aload_n 0), (22, .getfield 7), (25, .bipush 10), (27, .iaload), (28, .if_icmp .ge 45), (31, .aload_n 0), (32, .iload 5), (34, .iconst 1), (35, .invokevirtual 388), (38, .iconst 3), (39, .if_icmp .eq 6), (42, .goto 25), (45, .iinc 4 1), (48, .iload_n 3), (49, .aload_n 0), (50, .iload 5), (52, .iconst 2), (53, .invokevirtual 388), (56, .iload_n 1), (57, .if_icmp .ne 7), (60, .iconst 1), (61, .goto 4), (64, .iconst 0), (65, .iadd), (66, .istore_n 3), (67, .iinc 5 1), (70, .goto (-51)), (73, .iload_n 3), (74, .i2l), (75, .iload 4), (77, .i2l), (78, .iload_n 2), (79, .invokestatic 393), (82, .lreturn)]
theorem k232_0 : dck c232 l232_0 := by unfold dck; decide +kernel
/-! 233: DawnPerquisiteModel.partOfAll(JJZ)J -/
abbrev c233 : ByteArray := prog_20_method_119_code
def l233_0 : List (Nat × Instr) := [(0, .iload 4), (2, .ifCond .eq 7), (5, .lload_n 2), (6, .goto 4), (9, .lload_n 0), (10, .lload_n 0), (11, .lload_n 2), (12, .invokestatic 403), (15, .ldiv), (16, .lreturn)]
theorem k233_0 : dck c233 l233_0 := by unfold dck; decide +kernel
/-! 234: DawnPerquisiteModel.divisor(JJ)J -/
abbrev c234 : ByteArray := prog_20_method_118_code
def l234_0 : List (Nat × Instr) := [(0, .lload_n 0), (1, .lstore 4), (3, .lload_n 2), (4, .lstore 6), (6, .lload 6), (8, .lconst 0), (9, .lcmp), (10, .ifCond .eq 21), (13, .lload 4), (15, .lload 6), (17, .lrem), (18, .lstore 8), (20, .lload 6), (22, .lstore 4), (24, .lload 8), (26, .lstore 6), (28, .goto (-22)), (31, .lload 4), (33, .lreturn)]
theorem k234_0 : dck c234 l234_0 := by unfold dck; decide +kernel
/-! 235: DawnPerquisiteModel.wanted(I)I -/
abbrev c235 : ByteArray := prog_20_method_107_code
def l235_0 : List (Nat × Instr) := [(0, .iload_n 1), (1, .invokestatic 81), (4, .ifCond .ne 5), (7, .iconst (-1)), (8, .ireturn), (9, .iconst 0), (10, .istore_n 2), (11, .iconst 0), (12, .istore_n 3), (13, .iload_n 3), (14, .aload_n 0), (15, .getfield 7), (18, .iconst 0), (19, .iaload), (20, .if_icmp .ge 26), (23, .iload_n 2), (24, .aload_n 0), (25, .iload_n 3), (26, .iload_n 1), (27, .invokevirtual 283), (30, .ifCond .eq 7), (33, .iconst 1), (34, .goto 4), (37, .iconst 0), (38, .iadd), (39, .istore_n 2), (40, .iinc 3 1), (43, .goto (-30)), (46, .iload_n 2), (47, .ireturn)]
theorem k235_0 : dck c235 l235_0 := by unfold dck; decide +kernel
/-! 236: DawnPerquisiteModel.alone(I)I -/
abbrev c236 : ByteArray := prog_20_method_108_code
def l236_0 : List (Nat × Instr) := [(0, .aload_n 0), (1, .iload_n 1), (2, .invokevirtual 308), (5, .ifCond .ne 5), (8, .iconst (-1)), (9, .ireturn), (10, .aload_n 0), (11, .iload_n 1), (12, .invokevirtual 311), (15, .istore_n 2), (16, .iconst 0), (17, .istore_n 3), (18, .iload_n 3), (19, .aload_n 0), (20, .getfield 7), (23, .iconst 0), (24, .iaload), (25, .if_icmp .ge 24), (28, .iload_n 3), (29, .iload_n 1), (30, .if_icmp .eq 13), (33, .iload_n 2), (34, .aload_n 0), (35, .iload_n 3), (36, .invokevirtual 311), (39, .iconst (-1)), (40, .ixor), (41, .iand), (42, .istore_n 2), (43, .iinc 3 1), (46, .goto (-28)), (49, .iload_n 2), (50, .ireturn)]
theorem k236_0 : dck c236 l236_0 := by unfold dck; decide +kernel
/-! 237: DawnPerquisiteModel.since(I)I -/
abbrev c237 : ByteArray := prog_20_method_109_code
def l237_0 : List (Nat × Instr) := [(0, .iload_n 1), (1, .invokestatic 81), (4, .ifCond .ne 5), (7, .iconst (-1)), (8, .ireturn), (9, .aload_n 0), (10, .getfield 7), (13, .bipush 10), (15, .iaload), (16, .iconst 1), (17, .isub), (18, .istore_n 2), (19, .iload_n 2), (20, .ifCond .lt 44), (23, .aload_n 0), (24, .iload_n 2), (25, .iconst 1), (26, .invokevirtual 388), (29, .iconst 3), (30, .if_icmp .ne 28), (33, .aload_n 0), (34, .iload_n 2), (35, .iconst 2), (36, .invokevirtual 388), (39, .iload_n 1), (40, .if_icmp .ne 18), (43, .aload_n 0), (44, .getfield 7), (47, .bipush 6), (49, .iaload), (50, .aload_n 0), (51, .iload_n 2), (52, .iconst 0), (53, .invokevirtual 388), (56, .isub), (57, .ireturn), (58, .iinc 2 (-1)), (61, .goto (-42)), (64, .iconst (-1)), (65, .ireturn)]
theorem k237_0 : dck c237 l237_0 := by unfold dck; decide +kernel
/-! 238: DawnPerquisiteModel.idle()I -/
abbrev c238 : ByteArray := prog_20_method_110_code
def l238_0 : List (Nat × Instr) := [(0, .aload_n 0), (1, .invokevirtual 280), (4, .istore_n 1), (5, .iconst 0), (6, .istore_n 2), (7, .iload_n 2), (8, .aload_n 0), (9, .getfield 7), (12, .iconst 0), (13, .iaload), (14, .if_icmp .ge 34), (17, .aload_n 0), (18, .iload_n 2), (19, .aload_n 0), (20, .getfield 7), (23, .bipush 9), (25, .iaload), (26, .invokevirtual 283), (29, .ifCond .eq 13), (32, .iload_n 1), (33, .aload_n 0), (34, .iload_n 2), (35, .invokevirtual 311), (38, .iconst (-1)), (39, .ixor), (40, .iand), (41, .istore_n 1), (42, .iinc 2 1), (45, .goto (-38)), (48, .iload_n 1), (49, .ireturn)]
theorem k238_0 : dck c238 l238_0 := by unfold dck; decide +kernel
/-! 239: DawnPerquisiteModel.poor()I -/
abbrev c239 : ByteArray := prog_20_method_111_code
def l239_0 : List (Nat × Instr) := [(0, .iconst 0), (1, .istore_n 1), (2, .iconst 0), (3, .istore_n 2), (4, .iload_n 2), (5, .aload_n 0), (6, .getfield 7), (9, .iconst 0), (10, .iaload), (11, .if_icmp .ge 36), (14, .iload_n 1), (15, .aload_n 0), (16, .getfield 7), (19, .bipush 23), (21, .iload_n 2), (22, .iadd), (23, .iaload), (24, .aload_n 0), (25, .iload_n 2), (26, .invokevirtual 314), (29, .if_icmp .ge 9), (32, .iconst 1), (33, .iload_n 2), (34, .ishl), (35, .goto 4), (38, .iconst 0), (39, .ior), (40, .istore_n 1), (41, .iinc 2 1), (44, .goto (-40)), (47, .iload_n 1), (48, .ireturn)]
theorem k239_0 : dck c239 l239_0 := by unfold dck; decide +kernel
/-! 240: DawnPerquisiteModel.room(I)I -/
abbrev c240 : ByteArray := prog_20_method_112_code
def l240_0 : List (Nat × Instr) := [(0, .iload_n 1), (1, .iconst 1), (2, .bipush 12), (4, .invokestatic 63), (7, .ifCond .ne 5), (10, .iconst (-1)), (11, .ireturn), (12, .iconst 0), (13, .istore_n 2), (14, .iload_n 2), (15, .iload_n 1), (16, .iadd), (17, .bipush 12), (19, .if_icmp .gt 28), (22, .iconst 1), (23, .iload_n 1), (24, .ishl), (25, .iconst 1), (26, .isub), (27, .iload_n 2), (28, .ishl), (29, .aload_n 0), (30, .invokevirtual 280), (33, .iconst (-1)), (34, .ixor), (35, .iand), (36, .ifCond .ne 5), (39, .iload_n 2), (40, .ireturn), (41, .iinc 2 1), (44, .goto (-30)), (47, .iconst (-1)), (48, .ireturn)]
theorem k240_0 : dck c240 l240_0 := by unfold dck; decide +kernel
/-! 241: DawnPerquisiteModel.foretold(II)I -/
abbrev c241 : ByteArray := prog_20_method_113_code
def l241_0 : List (Nat × Instr) := [(0, .iload_n 1), (1, .iconst 1), (2, .bipush 60), (4, .invokestatic 63), (7, .ifCond .eq 12), (10, .iload_n 2), (11, .iconst 0), (12, .iconst 1), (13, .invokestatic 63), (16, .ifCond .ne 5), (19, .iconst (-1)), (20, .ireturn), (21, .bipush 6), (23, .istore_n 3), (24, .iload_n 3), (25, .bipush 29), (27, .if_icmp .ge 21), (30, .aload_n 0), (31, .getfield 47), (34, .iload_n 3), (35, .aload_n 0), (36, .getfield 7), (39, .iload_n 3), (40, .iaload), (41, .iastore), (42, .iinc 3 1), (45, .goto (-21)), (48, .aload_n 0), (49, .iconst 0), (50, .putfield 43), (53, .iconst 0), (54, .istore_n 3), (55, .iload_n 3), (56, .iload_n 1), (57, .if_icmp .ge 26), (60, .aload_n 0), (61, .getfield 7), (64, .bipush 6), (66, .iaload), (67, .sipush 9999), (70, .if_icmp .ge 7), (73, .aload_n 0), (74, .invokevirtual 360), (77, .iinc 3 1), (80, .goto (-25)), (83, .aload_n 0), (84, .getfield 7), (87, .bipush 9), (89, .iaload), (90, .istore_n 3), (91, .iload_n 2), (92, .iconst 1), (93, .if_icmp .ne 38), (96, .iconst 0), (97, .istore_n 3), (98, .iconst 0), (99, .istore 4), (101, .iload 4), (103, .aload_n 0), (104, .getfield 7)]
theorem k241_0 : dck c241 l241_0 := by unfold dck; decide +kernel
def l241_1 : List (Nat × Instr) := [(107, .iconst 0), (108, .iaload), (109, .if_icmp .ge 22), (112, .iload_n 3), (113, .aload_n 0), (114, .getfield 7), (117, .bipush 23), (119, .iload 4), (121, .iadd), (122, .iaload), (123, .iadd), (124, .istore_n 3), (125, .iinc 4 1), (128, .goto (-27)), (131, .bipush 6), (133, .istore 4), (135, .iload 4), (137, .bipush 29), (139, .if_icmp .ge 23), (142, .aload_n 0), (143, .getfield 7), (146, .iload 4), (148, .aload_n 0), (149, .getfield 47), (152, .iload 4), (154, .iaload), (155, .iastore), (156, .iinc 4 1), (159, .goto (-24)), (162, .aload_n 0), (163, .iconst 1), (164, .putfield 43), (167, .iload_n 3), (168, .ireturn)]
theorem k241_1 : dck c241 l241_1 := by unfold dck; decide +kernel
/-! 242: DawnPerquisiteModel.pack(IZ)I -/
abbrev c242 : ByteArray := prog_20_method_116_code
def l242_0 : List (Nat × Instr) := [(0, .iload_n 1), (1, .invokestatic 81), (4, .ifCond .ne 7), (7, .iconst (-1)), (8, .goto 27), (11, .iload_n 2), (12, .ifCond .eq 12), (15, .aload_n 0), (16, .iconst 0), (17, .iload_n 1), (18, .invokevirtual 400), (21, .goto 14), (24, .aload_n 0), (25, .aload_n 0), (26, .iconst 0), (27, .iload_n 1), (28, .invokevirtual 400), (31, .iload_n 1), (32, .invokevirtual 397), (35, .ireturn)]
theorem k242_0 : dck c242 l242_0 := by unfold dck; decide +kernel
/-! 243: DawnPerquisiteModel.bestSet(II)I -/
abbrev c243 : ByteArray := prog_20_method_115_code
def l243_0 : List (Nat × Instr) := [(0, .iconst (-1)), (1, .istore_n 3), (2, .iconst 0), (3, .istore 4), (5, .iload 4), (7, .iconst 1), (8, .aload_n 0), (9, .getfield 7), (12, .iconst 0), (13, .iaload), (14, .ishl), (15, .if_icmp .ge 46), (18, .iload_n 1), (19, .iload 4), (21, .iconst (-1)), (22, .ixor), (23, .iand), (24, .ifCond .ne 31), (27, .aload_n 0), (28, .iload 4), (30, .iload_n 2), (31, .invokevirtual 397), (34, .iload_n 3), (35, .iconst (-1)), (36, .if_icmp .ne 7), (39, .iconst (-1)), (40, .goto 9), (43, .aload_n 0), (44, .iload_n 3), (45, .iload_n 2), (46, .invokevirtual 397), (49, .if_icmp .le 6), (52, .iload 4), (54, .istore_n 3), (55, .iinc 4 1), (58, .goto (-53)), (61, .iload_n 3), (62, .ireturn)]
theorem k243_0 : dck c243 l243_0 := by unfold dck; decide +kernel
/-! 244: DawnPerquisiteModel.broughtBy(II)I -/
abbrev c244 : ByteArray := prog_20_method_114_code
def l244_0 : List (Nat × Instr) := [(0, .iconst 0), (1, .istore_n 3), (2, .iconst 0), (3, .istore 4), (5, .iconst 0), (6, .istore 5), (8, .iload 5), (10, .aload_n 0), (11, .getfield 7), (14, .iconst 0), (15, .iaload), (16, .if_icmp .ge 71), (19, .iload_n 1), (20, .iload 5), (22, .invokestatic 67), (25, .ifCond .ne 6), (28, .goto 53), (31, .aload_n 0), (32, .iload 5), (34, .iload_n 2), (35, .invokevirtual 283), (38, .ifCond .eq 14), (41, .iload_n 3), (42, .aload_n 0), (43, .iload 5), (45, .invokevirtual 311), (48, .iand), (49, .ifCond .eq 5), (52, .iconst (-1)), (53, .ireturn), (54, .iload_n 3), (55, .aload_n 0), (56, .iload 5), (58, .invokevirtual 311), (61, .ior), (62, .istore_n 3), (63, .iload 4), (65, .aload_n 0), (66, .aload_n 0), (67, .getfield 7), (70, .iconst 2), (71, .iaload), (72, .iload 5), (74, .iload_n 2), (75, .invokevirtual 296), (78, .iadd), (79, .istore 4), (81, .iinc 5 1), (84, .goto (-76)), (87, .iload 4), (89, .ireturn)]
theorem k244_0 : dck c244 l244_0 := by unfold dck; decide +kernel
/-! 245: DawnPerquisiteModel.see(II)I -/
abbrev c245 : ByteArray := prog_20_method_117_code
def l245_0 : List (Nat × Instr) := [(0, .iload_n 1), (1, .iconst 0), (2, .iconst 1), (3, .aload_n 0), (4, .getfield 7), (7, .iconst 0), (8, .iaload), (9, .ishl), (10, .iconst 1), (11, .isub), (12, .invokestatic 63), (15, .ifCond .eq 10), (18, .iload_n 2), (19, .invokestatic 81), (22, .ifCond .ne 5), (25, .iconst (-1)), (26, .ireturn), (27, .aload_n 0), (28, .iload_n 1), (29, .iload_n 2), (30, .invokevirtual 400), (33, .istore_n 3), (34, .iload_n 3), (35, .iconst (-1)), (36, .if_icmp .ne 7), (39, .iconst (-1)), (40, .goto 9), (43, .aload_n 0), (44, .iload_n 3), (45, .iload_n 2), (46, .invokevirtual 397), (49, .ireturn)]
theorem k245_0 : dck c245 l245_0 := by unfold dck; decide +kernel
/-! 246: DawnPerquisiteModel.hope(IZ)J -/
abbrev c246 : ByteArray := prog_20_method_125_code
def l246_0 : List (Nat × Instr) := [(0, .iload_n 1), (1, .invokestatic 417), (4, .ifCond .eq 20), (7, .aload_n 0), (8, .iload_n 1), (9, .invokevirtual 420), (12, .aload_n 0), (13, .iload_n 1), (14, .invokevirtual 410), (17, .iload_n 2), (18, .invokestatic 393), (21, .goto 6), (24, .ldc2_w 391), (27, .lreturn)]
theorem k246_0 : dck c246 l246_0 := by unfold dck; decide +kernel
/-! 247: DawnPerquisiteModel.isHope(I)Z -/
abbrev c247 : ByteArray := prog_20_method_124_code
def l247_0 : List (Nat × Instr) := [(0, .iload_n 0), (1, .iconst 0), (2, .bipush 6), (4, .invokestatic 63), (7, .ireturn)]
theorem k247_0 : dck c247 l247_0 := by unfold dck; decide +kernel
/-! 248: DawnPerquisiteModel.hoped(I)J -/
abbrev c248 : ByteArray := prog_20_method_123_code
def l248_0 : List (Nat × Instr) := [(0, .lconst 0), (1, .lstore_n 2), (2, .iconst 1), (3, .istore 4), (5, .iload 4), (7, .iload_n 1), (8, .if_icmp .gt 78), (11, .lconst 0), (12, .lstore 5), (14, .iconst 0), (15, .istore 7), (17, .iload 7), (19, .iconst 5), (20, .if_icmp .ge 57), (23, .aload_n 0), (24, .iload 4), (26, .iconst 1), (27, .isub), (28, .invokevirtual 410), (31, .aload_n 0), (32, .getfield 7), (35, .bipush 34), (37, .iload 7), (39, .iadd), (40, .iaload), (41, .i2l), (42, .lmul), (43, .lstore 8), (45, .lload 5), (47, .aload_n 0), (48, .iload 7), (50, .invokevirtual 414), (53, .i2l), (54, .lload 8), (56, .lload_n 2), (57, .lcmp), (58, .ifCond .le 8), (61, .lload 8), (63, .goto 4), (66, .lload_n 2), (67, .lmul), (68, .ladd), (69, .lstore 5), (71, .iinc 7 1), (74, .goto (-57)), (77, .lload 5), (79, .lstore_n 2), (80, .iinc 4 1), (83, .goto (-78)), (86, .lload_n 2), (87, .lreturn)]
theorem k248_0 : dck c248 l248_0 := by unfold dck; decide +kernel
/-! 249: DawnPerquisiteModel.allRows(I)J -/
abbrev c249 : ByteArray := prog_20_method_122_code
def l249_0 : List (Nat × Instr) := [(0, .lconst 1), (1, .lstore_n 2), (2, .iconst 0), (3, .istore 4), (5, .iload 4), (7, .iload_n 1), (8, .if_icmp .ge 17), (11, .lload_n 2), (12, .aload_n 0), (13, .invokevirtual 407), (16, .i2l), (17, .lmul), (18, .lstore_n 2), (19, .iinc 4 1), (22, .goto (-17)), (25, .lload_n 2), (26, .lreturn)]
theorem k249_0 : dck c249 l249_0 := by unfold dck; decide +kernel
/-! 250: DawnPerquisiteModel.whole()I -/
abbrev c250 : ByteArray := prog_20_method_121_code
def l250_0 : List (Nat × Instr) := [(0, .aload_n 0), (1, .invokevirtual 324), (4, .ifCond .ne 7), (7, .iconst 1), (8, .goto 7), (11, .aload_n 0), (12, .invokevirtual 324), (15, .ireturn)]
theorem k250_0 : dck c250 l250_0 := by unfold dck; decide +kernel
/-! 251: DawnPerquisiteModel.oddsOf(I)I -/
abbrev c251 : ByteArray := prog_20_method_120_code
def l251_0 : List (Nat × Instr) := [(0, .aload_n 0), (1, .invokevirtual 324), (4, .ifCond .ne 15), (7, .iload_n 1), (8, .ifCond .ne 7), (11, .iconst 1), (12, .goto 16), (15, .iconst 0), (16, .goto 12), (19, .aload_n 0), (20, .getfield 7), (23, .bipush 29), (25, .iload_n 1), (26, .iadd), (27, .iaload), (28, .ireturn)]
theorem k251_0 : dck c251 l251_0 := by unfold dck; decide +kernel
/-! 252: DawnPerquisiteModel.keep(I)Z -/
abbrev c252 : ByteArray := prog_20_method_126_code
def l252_0 : List (Nat × Instr) := [(0, .iload_n 1), (1, .invokestatic 417), (4, .ifCond .eq 38), (7, .aload_n 0), (8, .iload_n 1), (9, .invokevirtual 420), (12, .aload_n 0), (13, .iload_n 1), (14, .invokevirtual 410), (17, .aload_n 0), (18, .getfield 7), (21, .bipush 34), (23, .aload_n 0), (24, .getfield 7), (27, .bipush 9), (29, .iaload), (30, .iadd), (31, .iaload), (32, .i2l), (33, .lmul), (34, .lcmp), (35, .ifCond .le 7), (38, .iconst 1), (39, .goto 4), (42, .iconst 0), (43, .ireturn)]
theorem k252_0 : dck c252 l252_0 := by unfold dck; decide +kernel
/-! 253: DawnPerquisiteModel.chance(IZ)J -/
abbrev c253 : ByteArray := prog_20_method_127_code
def l253_0 : List (Nat × Instr) := [(0, .iload_n 1), (1, .invokestatic 81), (4, .ifCond .eq 21), (7, .aload_n 0), (8, .iload_n 1), (9, .invokevirtual 414), (12, .i2l), (13, .aload_n 0), (14, .invokevirtual 407), (17, .i2l), (18, .iload_n 2), (19, .invokestatic 393), (22, .goto 6), (25, .ldc2_w 391), (28, .lreturn)]
theorem k253_0 : dck c253 l253_0 := by unfold dck; decide +kernel
/-! 254: DawnPerquisiteModel.first(I)I -/
abbrev c254 : ByteArray := prog_20_method_128_code
def l254_0 : List (Nat × Instr) := [(0, .iload_n 1), (1, .invokestatic 81), (4, .ifCond .ne 5), (7, .iconst (-1)), (8, .ireturn), (9, .lconst 1), (10, .lstore_n 2), (11, .iconst 1), (12, .istore 4), (14, .iload 4), (16, .bipush 10), (18, .if_icmp .gt 41), (21, .lload_n 2), (22, .aload_n 0), (23, .invokevirtual 407), (26, .aload_n 0), (27, .iload_n 1), (28, .invokevirtual 414), (31, .isub), (32, .i2l), (33, .lmul), (34, .lstore_n 2), (35, .ldc2_w 423), (38, .lload_n 2), (39, .lmul), (40, .aload_n 0), (41, .iload 4), (43, .invokevirtual 410), (46, .lcmp), (47, .ifCond .gt 6), (50, .iload 4), (52, .ireturn), (53, .iinc 4 1), (56, .goto (-42)), (59, .iconst (-1)), (60, .ireturn)]
theorem k254_0 : dck c254 l254_0 := by unfold dck; decide +kernel
/-! 255: DawnPerquisiteModel.paid(IZ)I -/
abbrev c255 : ByteArray := prog_20_method_129_code
def l255_0 : List (Nat × Instr) := [(0, .iload_n 1), (1, .iconst (-1)), (2, .if_icmp .ne 36), (5, .iconst 0), (6, .istore_n 3), (7, .iload_n 3), (8, .bipush 6), (10, .if_icmp .ge 19), (13, .aload_n 0), (14, .getfield 7), (17, .bipush 63), (19, .iload_n 3), (20, .iadd), (21, .iconst 0), (22, .iastore), (23, .iinc 3 1), (26, .goto (-19)), (29, .aload_n 0), (30, .getfield 7), (33, .iconst 4), (34, .iconst 0), (35, .iastore), (36, .iconst 0), (37, .ireturn), (38, .aload_n 0), (39, .iload_n 1), (40, .invokevirtual 308), (43, .ifCond .eq 15), (46, .aload_n 0), (47, .getfield 7), (50, .bipush 63), (52, .iload_n 1), (53, .iadd), (54, .iaload), (55, .ifCond .eq 6), (58, .bipush (-2)), (60, .ireturn), (61, .aload_n 0), (62, .getfield 7), (65, .bipush 63), (67, .iload_n 1), (68, .iadd), (69, .iload_n 2), (70, .ifCond .eq 7), (73, .iconst 1), (74, .goto 4), (77, .iconst 2), (78, .iastore), (79, .aload_n 0), (80, .getfield 7), (83, .iconst 4), (84, .dup2), (85, .iaload), (86, .iconst 1), (87, .iadd), (88, .iastore), (89, .aload_n 0), (90, .getfield 7), (93, .iconst 4), (94, .iaload)]
theorem k255_0 : dck c255 l255_0 := by unfold dck; decide +kernel
def l255_1 : List (Nat × Instr) := [(95, .ireturn)]
theorem k255_1 : dck c255 l255_1 := by unfold dck; decide +kernel
/-! 256: DawnPerquisiteModel.was()I -/
abbrev c256 : ByteArray := prog_20_method_132_code
def l256_0 : List (Nat × Instr) := [(0, .aload_n 0), (1, .invokevirtual 428), (4, .ireturn)]
theorem k256_0 : dck c256 l256_0 := by unfold dck; decide +kernel
/-! 257: DawnPerquisiteModel.fitting()I -/
abbrev c257 : ByteArray := prog_20_method_131_code
def l257_0 : List (Nat × Instr) := [(0, .iconst 0), (1, .istore_n 1), (2, .iconst 0), (3, .istore_n 2), (4, .iload_n 2), (5, .iconst 5), (6, .if_icmp .ge 27), (9, .iload_n 1), (10, .aload_n 0), (11, .iload_n 2), (12, .invokevirtual 425), (15, .ifCond .eq 9), (18, .iconst 1), (19, .iload_n 2), (20, .ishl), (21, .goto 4), (24, .iconst 0), (25, .ior), (26, .istore_n 1), (27, .iinc 2 1), (30, .goto (-26)), (33, .iload_n 1), (34, .ireturn)]
theorem k257_0 : dck c257 l257_0 := by unfold dck; decide +kernel
/-! 258: DawnPerquisiteModel.doesFit(I)Z -/
abbrev c258 : ByteArray := prog_20_method_130_code
def l258_0 : List (Nat × Instr) := [(0, .aload_n 0), (1, .iload_n 1), (2, .invokevirtual 414), (5, .ifCond .ne 5), (8, .iconst 0), (9, .ireturn), (10, .iconst 0), (11, .istore_n 2), (12, .iload_n 2), (13, .aload_n 0), (14, .getfield 7), (17, .iconst 0), (18, .iaload), (19, .if_icmp .ge 50), (22, .aload_n 0), (23, .getfield 7), (26, .bipush 63), (28, .iload_n 2), (29, .iadd), (30, .iaload), (31, .ifCond .eq 32), (34, .aload_n 0), (35, .iload_n 2), (36, .iload_n 1), (37, .invokevirtual 283), (40, .aload_n 0), (41, .getfield 7), (44, .bipush 63), (46, .iload_n 2), (47, .iadd), (48, .iaload), (49, .iconst 1), (50, .if_icmp .ne 7), (53, .iconst 1), (54, .goto 4), (57, .iconst 0), (58, .if_icmp .eq 5), (61, .iconst 0), (62, .ireturn), (63, .iinc 2 1), (66, .goto (-54)), (69, .iconst 1), (70, .ireturn)]
theorem k258_0 : dck c258 l258_0 := by unfold dck; decide +kernel
/-! 259: DawnPerquisiteModel.likeliest()I -/
abbrev c259 : ByteArray := prog_20_method_135_code
def l259_0 : List (Nat × Instr) := [(0, .aload_n 0), (1, .invokevirtual 431), (4, .ireturn)]
theorem k259_0 : dck c259 l259_0 := by unfold dck; decide +kernel
/-! 260: DawnPerquisiteModel.likeliestNow()I -/
abbrev c260 : ByteArray := prog_20_method_134_code
def l260_0 : List (Nat × Instr) := [(0, .iconst (-1)), (1, .istore_n 1), (2, .iconst 0), (3, .istore_n 2), (4, .iload_n 2), (5, .iconst 5), (6, .if_icmp .ge 37), (9, .aload_n 0), (10, .iload_n 2), (11, .invokevirtual 425), (14, .ifCond .eq 23), (17, .iload_n 1), (18, .iconst (-1)), (19, .if_icmp .eq 16), (22, .aload_n 0), (23, .iload_n 2), (24, .invokevirtual 414), (27, .aload_n 0), (28, .iload_n 1), (29, .invokevirtual 414), (32, .if_icmp .le 5), (35, .iload_n 2), (36, .istore_n 1), (37, .iinc 2 1), (40, .goto (-36)), (43, .iload_n 1), (44, .ireturn)]
theorem k260_0 : dck c260 l260_0 := by unfold dck; decide +kernel
/-! 261: DawnPerquisiteModel.surest(Z)J -/
abbrev c261 : ByteArray := prog_20_method_136_code
def l261_0 : List (Nat × Instr) := [(0, .aload_n 0), (1, .invokevirtual 431), (4, .istore_n 2), (5, .iload_n 2), (6, .iconst (-1)), (7, .if_icmp .ne 15), (10, .iload_n 1), (11, .ifCond .eq 7), (14, .lconst 1), (15, .goto 26), (18, .lconst 0), (19, .goto 22), (22, .aload_n 0), (23, .iload_n 2), (24, .invokevirtual 414), (27, .i2l), (28, .aload_n 0), (29, .aload_n 0), (30, .invokevirtual 428), (33, .invokevirtual 434), (36, .i2l), (37, .iload_n 1), (38, .invokestatic 393), (41, .lreturn)]
theorem k261_0 : dck c261 l261_0 := by unfold dck; decide +kernel
/-! 262: DawnPerquisiteModel.oddsOfSet(I)I -/
abbrev c262 : ByteArray := prog_20_method_133_code
def l262_0 : List (Nat × Instr) := [(0, .iconst 0), (1, .istore_n 2), (2, .iconst 0), (3, .istore_n 3), (4, .iload_n 3), (5, .iconst 5), (6, .if_icmp .ge 29), (9, .iload_n 2), (10, .iload_n 1), (11, .iload_n 3), (12, .invokestatic 67), (15, .ifCond .eq 11), (18, .aload_n 0), (19, .iload_n 3), (20, .invokevirtual 414), (23, .goto 4), (26, .iconst 0), (27, .iadd), (28, .istore_n 2), (29, .iinc 3 1), (32, .goto (-28)), (35, .iload_n 2), (36, .ireturn)]
theorem k262_0 : dck c262 l262_0 := by unfold dck; decide +kernel
/-! 263: DawnPerquisiteModel.ask()I -/
abbrev c263 : ByteArray := prog_20_method_138_code
def l263_0 : List (Nat × Instr) := [(0, .aload_n 0), (1, .invokevirtual 428), (4, .invokestatic 78), (7, .iconst 2), (8, .if_icmp .ge 5), (11, .iconst (-1)), (12, .ireturn), (13, .iconst (-1)), (14, .istore_n 1), (15, .iconst 0), (16, .istore_n 2), (17, .iload_n 2), (18, .aload_n 0), (19, .getfield 7), (22, .iconst 0), (23, .iaload), (24, .if_icmp .ge 41), (27, .aload_n 0), (28, .getfield 7), (31, .bipush 63), (33, .iload_n 2), (34, .iadd), (35, .iaload), (36, .ifCond .ne 23), (39, .iload_n 1), (40, .iconst (-1)), (41, .if_icmp .eq 16), (44, .aload_n 0), (45, .iload_n 2), (46, .invokevirtual 437), (49, .aload_n 0), (50, .iload_n 1), (51, .invokevirtual 437), (54, .if_icmp .ge 5), (57, .iload_n 2), (58, .istore_n 1), (59, .iinc 2 1), (62, .goto (-45)), (65, .iload_n 1), (66, .ireturn)]
theorem k263_0 : dck c263 l263_0 := by unfold dck; decide +kernel
/-! 264: DawnPerquisiteModel.greaterPart(I)I -/
abbrev c264 : ByteArray := prog_20_method_137_code
def l264_0 : List (Nat × Instr) := [(0, .aload_n 0), (1, .aload_n 0), (2, .invokevirtual 428), (5, .aload_n 0), (6, .getfield 7), (9, .bipush 39), (11, .iload_n 1), (12, .iadd), (13, .iaload), (14, .iand), (15, .invokevirtual 434), (18, .istore_n 2), (19, .aload_n 0), (20, .aload_n 0), (21, .invokevirtual 428), (24, .aload_n 0), (25, .getfield 7), (28, .bipush 39), (30, .iload_n 1), (31, .iadd), (32, .iaload), (33, .iconst (-1)), (34, .ixor), (35, .iand), (36, .invokevirtual 434), (39, .istore_n 3), (40, .iload_n 2), (41, .iload_n 3), (42, .if_icmp .le 7), (45, .iload_n 2), (46, .goto 4), (49, .iload_n 3), (50, .ireturn)]
theorem k264_0 : dck c264 l264_0 := by unfold dck; decide +kernel
/-! 265: DawnPerquisiteModel.auction(II)I -/
abbrev c265 : ByteArray := prog_20_method_142_code
def l265_0 : List (Nat × Instr) := [(0, .iload_n 1), (1, .invokestatic 321), (4, .ifCond .eq 12), (7, .iload_n 2), (8, .iconst 0), (9, .iconst 2), (10, .invokestatic 63), (13, .ifCond .ne 5), (16, .iconst (-1)), (17, .ireturn), (18, .aload_n 0), (19, .iload_n 1), (20, .iconst (-1)), (21, .invokevirtual 446), (24, .istore_n 3), (25, .iload_n 3), (26, .iconst (-1)), (27, .if_icmp .ne 5), (30, .iconst (-1)), (31, .ireturn), (32, .aload_n 0), (33, .iload_n 1), (34, .iload_n 3), (35, .invokevirtual 446), (38, .istore 4), (40, .iconst 0), (41, .istore 5), (43, .iconst 0), (44, .istore 6), (46, .iload 6), (48, .aload_n 0), (49, .getfield 7), (52, .iconst 0), (53, .iaload), (54, .if_icmp .ge 29), (57, .iload 5), (59, .aload_n 0), (60, .iload 6), (62, .iload_n 1), (63, .invokevirtual 440), (66, .ifCond .eq 7), (69, .iconst 1), (70, .goto 4), (73, .iconst 0), (74, .iadd), (75, .istore 5), (77, .iinc 6 1), (80, .goto (-34)), (83, .iload_n 2), (84, .ifCond .ne 7), (87, .iload_n 3), (88, .goto 29), (91, .iload_n 2), (92, .iconst 2), (93, .if_icmp .ne 8), (96, .iload 5), (98, .goto 19), (101, .iload 4), (103, .iconst (-1)), (104, .if_icmp .ne 7)]
theorem k265_0 : dck c265 l265_0 := by unfold dck; decide +kernel
def l265_1 : List (Nat × Instr) := [(107, .iconst 0), (108, .goto 9), (111, .aload_n 0), (112, .iload 4), (114, .invokevirtual 443), (117, .ireturn)]
theorem k265_1 : dck c265 l265_1 := by unfold dck; decide +kernel
/-! 266: DawnPerquisiteModel.bidderOf(II)I -/
abbrev c266 : ByteArray := prog_20_method_141_code
def l266_0 : List (Nat × Instr) := [(0, .iconst (-1)), (1, .istore_n 3), (2, .iconst 0), (3, .istore 4), (5, .iload 4), (7, .aload_n 0), (8, .getfield 7), (11, .iconst 0), (12, .iaload), (13, .if_icmp .ge 47), (16, .iload 4), (18, .iload_n 2), (19, .if_icmp .eq 35), (22, .aload_n 0), (23, .iload 4), (25, .iload_n 1), (26, .invokevirtual 440), (29, .ifCond .eq 25), (32, .iload_n 3), (33, .iconst (-1)), (34, .if_icmp .eq 17), (37, .aload_n 0), (38, .iload 4), (40, .invokevirtual 443), (43, .aload_n 0), (44, .iload_n 3), (45, .invokevirtual 443), (48, .if_icmp .le 6), (51, .iload 4), (53, .istore_n 3), (54, .iinc 4 1), (57, .goto (-52)), (60, .iload_n 3), (61, .ireturn)]
theorem k266_0 : dck c266 l266_0 := by unfold dck; decide +kernel
/-! 267: DawnPerquisiteModel.doesBid(II)Z -/
abbrev c267 : ByteArray := prog_20_method_139_code
def l267_0 : List (Nat × Instr) := [(0, .aload_n 0), (1, .iload_n 1), (2, .aload_n 0), (3, .getfield 7), (6, .bipush 9), (8, .iaload), (9, .invokevirtual 283), (12, .ifCond .eq 19), (15, .aload_n 0), (16, .iload_n 1), (17, .invokevirtual 311), (20, .iload_n 2), (21, .invokestatic 67), (24, .ifCond .eq 7), (27, .iconst 1), (28, .goto 4), (31, .iconst 0), (32, .ireturn)]
theorem k267_0 : dck c267 l267_0 := by unfold dck; decide +kernel
/-! 268: DawnPerquisiteModel.bidFor(I)I -/
abbrev c268 : ByteArray := prog_20_method_140_code
def l268_0 : List (Nat × Instr) := [(0, .aload_n 0), (1, .iload_n 1), (2, .invokevirtual 314), (5, .aload_n 0), (6, .iload_n 1), (7, .invokevirtual 71), (10, .idiv), (11, .ireturn)]
theorem k268_0 : dck c268 l268_0 := by unfold dck; decide +kernel
/-! 269: DawnPerquisiteModel.stab(Z)I -/
abbrev c269 : ByteArray := prog_20_method_144_code
def l269_0 : List (Nat × Instr) := [(0, .sipush 4095), (3, .istore_n 2), (4, .sipush 4095), (7, .istore_n 3), (8, .iload_n 3), (9, .ifCond .lt 30), (12, .iload_n 3), (13, .invokestatic 78), (16, .iload_n 2), (17, .invokestatic 78), (20, .if_icmp .gt 13), (23, .aload_n 0), (24, .iload_n 3), (25, .invokevirtual 449), (28, .ifCond .eq 5), (31, .iload_n 3), (32, .istore_n 2), (33, .iinc 3 (-1)), (36, .goto (-28)), (39, .iload_n 1), (40, .ifCond .eq 10), (43, .iload_n 2), (44, .invokestatic 78), (47, .goto 4), (50, .iload_n 2), (51, .ireturn)]
theorem k269_0 : dck c269 l269_0 := by unfold dck; decide +kernel
/-! 270: DawnPerquisiteModel.areServed(I)Z -/
abbrev c270 : ByteArray := prog_20_method_143_code
def l270_0 : List (Nat × Instr) := [(0, .iconst 0), (1, .istore_n 2), (2, .iload_n 2), (3, .aload_n 0), (4, .getfield 7), (7, .iconst 0), (8, .iaload), (9, .if_icmp .ge 21), (12, .aload_n 0), (13, .iload_n 2), (14, .invokevirtual 311), (17, .iload_n 1), (18, .iand), (19, .ifCond .ne 5), (22, .iconst 0), (23, .ireturn), (24, .iinc 2 1), (27, .goto (-25)), (30, .iconst 1), (31, .ireturn)]
theorem k270_0 : dck c270 l270_0 := by unfold dck; decide +kernel
/-! 271: DawnPerquisiteModel.crowd(Z)I -/
abbrev c271 : ByteArray := prog_20_method_146_code
def l271_0 : List (Nat × Instr) := [(0, .iconst 0), (1, .istore_n 2), (2, .iconst 1), (3, .istore_n 3), (4, .iload_n 3), (5, .bipush 12), (7, .if_icmp .ge 24), (10, .aload_n 0), (11, .iload_n 3), (12, .invokevirtual 452), (15, .aload_n 0), (16, .iload_n 2), (17, .invokevirtual 452), (20, .if_icmp .le 5), (23, .iload_n 3), (24, .istore_n 2), (25, .iinc 3 1), (28, .goto (-24)), (31, .iload_n 1), (32, .ifCond .eq 7), (35, .iload_n 2), (36, .goto 8), (39, .aload_n 0), (40, .iload_n 2), (41, .invokevirtual 452), (44, .ireturn)]
theorem k271_0 : dck c271 l271_0 := by unfold dck; decide +kernel
/-! 272: DawnPerquisiteModel.crowdAt(I)I -/
abbrev c272 : ByteArray := prog_20_method_145_code
def l272_0 : List (Nat × Instr) := [(0, .iconst 0), (1, .istore_n 2), (2, .iconst 0), (3, .istore_n 3), (4, .iload_n 3), (5, .aload_n 0), (6, .getfield 7), (9, .iconst 0), (10, .iaload), (11, .if_icmp .ge 29), (14, .iload_n 2), (15, .aload_n 0), (16, .iload_n 3), (17, .invokevirtual 311), (20, .iload_n 1), (21, .invokestatic 67), (24, .ifCond .eq 7), (27, .iconst 1), (28, .goto 4), (31, .iconst 0), (32, .iadd), (33, .istore_n 2), (34, .iinc 3 1), (37, .goto (-33)), (40, .iload_n 2), (41, .ireturn)]
theorem k272_0 : dck c272 l272_0 := by unfold dck; decide +kernel
/-! 273: DawnPerquisiteModel.dawns(I)I -/
abbrev c273 : ByteArray := prog_20_method_148_code
def l273_0 : List (Nat × Instr) := [(0, .aload_n 0), (1, .iload_n 1), (2, .invokevirtual 308), (5, .ifCond .ne 5), (8, .iconst (-1)), (9, .ireturn), (10, .aload_n 0), (11, .invokevirtual 455), (14, .aload_n 0), (15, .getfield 53), (18, .iload_n 1), (19, .iaload), (20, .ireturn)]
theorem k273_0 : dck c273 l273_0 := by unfold dck; decide +kernel
/-! 274: DawnPerquisiteModel.layDawns()V -/
abbrev c274 : ByteArray := prog_20_method_147_code
def l274_0 : List (Nat × Instr) := [(0, .iconst 0), (1, .istore_n 1), (2, .iload_n 1), (3, .bipush 6), (5, .if_icmp .ge 16), (8, .aload_n 0), (9, .getfield 50), (12, .iload_n 1), (13, .iconst 0), (14, .iastore), (15, .iinc 1 1), (18, .goto (-16)), (21, .iconst 0), (22, .istore_n 1), (23, .iload_n 1), (24, .bipush 12), (26, .if_icmp .ge 87), (29, .iconst 0), (30, .istore_n 2), (31, .iload_n 2), (32, .aload_n 0), (33, .getfield 7), (36, .iconst 0), (37, .iaload), (38, .if_icmp .ge 69), (41, .aload_n 0), (42, .getfield 7), (45, .bipush 45), (47, .iload_n 2), (48, .iadd), (49, .iaload), (50, .iload_n 1), (51, .if_icmp .eq 6), (54, .goto 47), (57, .iconst 0), (58, .istore_n 3), (59, .aload_n 0), (60, .getfield 50), (63, .iload_n 3), (64, .iaload), (65, .aload_n 0), (66, .iload_n 2), (67, .invokevirtual 311), (70, .iand), (71, .ifCond .eq 9), (74, .iinc 3 1), (77, .goto (-18)), (80, .aload_n 0), (81, .getfield 50), (84, .iload_n 3), (85, .dup2), (86, .iaload), (87, .aload_n 0), (88, .iload_n 2), (89, .invokevirtual 311), (92, .ior), (93, .iastore), (94, .aload_n 0), (95, .getfield 53), (98, .iload_n 2)]
theorem k274_0 : dck c274 l274_0 := by unfold dck; decide +kernel
def l274_1 : List (Nat × Instr) := [(99, .iload_n 3), (100, .iastore), (101, .iinc 2 1), (104, .goto (-73)), (107, .iinc 1 1), (110, .goto (-87)), (113, .return_)]
theorem k274_1 : dck c274 l274_1 := by unfold dck; decide +kernel
/-! 275: DawnPerquisiteModel.month(IZ)J -/
abbrev c275 : ByteArray := prog_20_method_149_code
def l275_0 : List (Nat × Instr) := [(0, .iload_n 1), (1, .iconst 1), (2, .bipush 60), (4, .invokestatic 63), (7, .ifCond .ne 7), (10, .ldc2_w 391), (13, .lreturn), (14, .lconst 0), (15, .lstore_n 3), (16, .iconst 0), (17, .istore 5), (19, .iload 5), (21, .iconst 5), (22, .if_icmp .ge 46), (25, .aload_n 0), (26, .iload 5), (28, .invokevirtual 414), (31, .ifCond .le 31), (34, .lload_n 3), (35, .iload_n 1), (36, .i2l), (37, .aload_n 0), (38, .iload 5), (40, .invokevirtual 414), (43, .i2l), (44, .lmul), (45, .aload_n 0), (46, .aload_n 0), (47, .iconst 0), (48, .iload 5), (50, .invokevirtual 400), (53, .iload 5), (55, .invokevirtual 397), (58, .i2l), (59, .lmul), (60, .ladd), (61, .lstore_n 3), (62, .iinc 5 1), (65, .goto (-46)), (68, .lload_n 3), (69, .aload_n 0), (70, .invokevirtual 407), (73, .i2l), (74, .iload_n 2), (75, .invokestatic 393), (78, .lreturn)]
theorem k275_0 : dck c275 l275_0 := by unfold dck; decide +kernel
/-! 276: DawnPerquisiteModel.value(II)Z -/
abbrev c276 : ByteArray := prog_20_method_150_code
def l276_0 : List (Nat × Instr) := [(0, .iload_n 1), (1, .invokestatic 321), (4, .ifCond .eq 13), (7, .iload_n 2), (8, .iconst 0), (9, .bipush 99), (11, .invokestatic 63), (14, .ifCond .ne 5), (17, .iconst 0), (18, .ireturn), (19, .aload_n 0), (20, .getfield 7), (23, .bipush 69), (25, .iload_n 1), (26, .iadd), (27, .iload_n 2), (28, .iastore), (29, .iconst 1), (30, .ireturn)]
theorem k276_0 : dck c276 l276_0 := by unfold dck; decide +kernel
/-! 277: DawnPerquisiteModel.ends(II)I -/
abbrev c277 : ByteArray := prog_20_method_154_code
def l277_0 : List (Nat × Instr) := [(0, .iload_n 1), (1, .iload_n 2), (2, .invokestatic 85), (5, .ifCond .ne 7), (8, .sipush (-1000)), (11, .ireturn), (12, .aload_n 0), (13, .invokevirtual 464), (16, .aload_n 0), (17, .getfield 56), (20, .bipush 12), (22, .iload_n 1), (23, .imul), (24, .iload_n 2), (25, .iadd), (26, .iaload), (27, .ireturn)]
theorem k277_0 : dck c277 l277_0 := by unfold dck; decide +kernel
/-! 278: DawnPerquisiteModel.layGames()V -/
abbrev c278 : ByteArray := prog_20_method_153_code
def l278_0 : List (Nat × Instr) := [(0, .iconst 0), (1, .istore_n 1), (2, .iload_n 1), (3, .bipush 12), (5, .if_icmp .ge 69), (8, .iconst 0), (9, .istore_n 2), (10, .iload_n 2), (11, .iload_n 1), (12, .iadd), (13, .bipush 12), (15, .if_icmp .ge 53), (18, .aload_n 0), (19, .iload_n 2), (20, .iload_n 2), (21, .iload_n 1), (22, .iadd), (23, .invokevirtual 458), (26, .istore_n 3), (27, .aload_n 0), (28, .iload_n 2), (29, .iload_n 2), (30, .iload_n 1), (31, .iadd), (32, .invokevirtual 461), (35, .istore 4), (37, .aload_n 0), (38, .getfield 56), (41, .bipush 12), (43, .iload_n 2), (44, .imul), (45, .iload_n 2), (46, .iadd), (47, .iload_n 1), (48, .iadd), (49, .iload_n 3), (50, .iload 4), (52, .if_icmp .le 7), (55, .iload_n 3), (56, .goto 5), (59, .iload 4), (61, .iastore), (62, .iinc 2 1), (65, .goto (-55)), (68, .iinc 1 1), (71, .goto (-69)), (74, .return_)]
theorem k278_0 : dck c278 l278_0 := by unfold dck; decide +kernel
/-! 279: DawnPerquisiteModel.byLeft(II)I -/
abbrev c279 : ByteArray := prog_20_method_151_code
def l279_0 : List (Nat × Instr) := [(0, .aload_n 0), (1, .getfield 7), (4, .bipush 69), (6, .iload_n 1), (7, .iadd), (8, .iaload), (9, .iload_n 1), (10, .iload_n 2), (11, .if_icmp .ne 7), (14, .iconst 0), (15, .goto 16), (18, .aload_n 0), (19, .getfield 56), (22, .bipush 12), (24, .iload_n 1), (25, .iconst 1), (26, .iadd), (27, .imul), (28, .iload_n 2), (29, .iadd), (30, .iaload), (31, .isub), (32, .ireturn)]
theorem k279_0 : dck c279 l279_0 := by unfold dck; decide +kernel
/-! 280: DawnPerquisiteModel.byRight(II)I -/
abbrev c280 : ByteArray := prog_20_method_152_code
def l280_0 : List (Nat × Instr) := [(0, .aload_n 0), (1, .getfield 7), (4, .bipush 69), (6, .iload_n 2), (7, .iadd), (8, .iaload), (9, .iload_n 1), (10, .iload_n 2), (11, .if_icmp .ne 7), (14, .iconst 0), (15, .goto 16), (18, .aload_n 0), (19, .getfield 56), (22, .bipush 12), (24, .iload_n 1), (25, .imul), (26, .iload_n 2), (27, .iadd), (28, .iconst 1), (29, .isub), (30, .iaload), (31, .isub), (32, .ireturn)]
theorem k280_0 : dck c280 l280_0 := by unfold dck; decide +kernel
/-! 281: DawnPerquisiteModel.take(II)I -/
abbrev c281 : ByteArray := prog_20_method_155_code
def l281_0 : List (Nat × Instr) := [(0, .iload_n 1), (1, .iload_n 2), (2, .invokestatic 85), (5, .ifCond .ne 5), (8, .iconst (-1)), (9, .ireturn), (10, .aload_n 0), (11, .invokevirtual 464), (14, .aload_n 0), (15, .iload_n 1), (16, .iload_n 2), (17, .invokevirtual 458), (20, .aload_n 0), (21, .iload_n 1), (22, .iload_n 2), (23, .invokevirtual 461), (26, .if_icmp .lt 7), (29, .iconst 0), (30, .goto 4), (33, .iconst 1), (34, .ireturn)]
theorem k281_0 : dck c281 l281_0 := by unfold dck; decide +kernel
/-! 282: DawnPerquisiteModel.best(III)I -/
abbrev c282 : ByteArray := prog_20_method_157_code
def l282_0 : List (Nat × Instr) := [(0, .iload_n 1), (1, .iload_n 2), (2, .invokestatic 85), (5, .ifCond .eq 12), (8, .iload_n 3), (9, .iconst 0), (10, .iconst 2), (11, .invokestatic 63), (14, .ifCond .ne 7), (17, .sipush (-1000)), (20, .ireturn), (21, .iload_n 1), (22, .istore 4), (24, .iload_n 1), (25, .istore 5), (27, .iload_n 1), (28, .istore 6), (30, .iload 6), (32, .iload_n 2), (33, .if_icmp .gt 55), (36, .iload 6), (38, .istore 7), (40, .iload 7), (42, .iload_n 2), (43, .if_icmp .gt 39), (46, .aload_n 0), (47, .iload 6), (49, .iload 7), (51, .invokevirtual 467), (54, .aload_n 0), (55, .iload 4), (57, .iload 5), (59, .invokevirtual 467), (62, .if_icmp .gt 6), (65, .goto 11), (68, .iload 6), (70, .istore 4), (72, .iload 7), (74, .istore 5), (76, .iinc 7 1), (79, .goto (-39)), (82, .iinc 6 1), (85, .goto (-55)), (88, .iload_n 3), (89, .ifCond .ne 14), (92, .aload_n 0), (93, .iload 4), (95, .iload 5), (97, .invokevirtual 467), (100, .goto 15), (103, .iload_n 3), (104, .iconst 1), (105, .if_icmp .ne 8), (108, .iload 4), (110, .goto 5), (113, .iload 5), (115, .ireturn)]
theorem k282_0 : dck c282 l282_0 := by unfold dck; decide +kernel
/-! 283: DawnPerquisiteModel.runOf(II)I -/
abbrev c283 : ByteArray := prog_20_method_156_code
def l283_0 : List (Nat × Instr) := [(0, .iconst 0), (1, .istore_n 3), (2, .iload_n 1), (3, .istore 4), (5, .iload 4), (7, .iload_n 2), (8, .if_icmp .gt 25), (11, .iload_n 3), (12, .aload_n 0), (13, .getfield 7), (16, .bipush 69), (18, .iload 4), (20, .iadd), (21, .iaload), (22, .bipush 50), (24, .isub), (25, .iadd), (26, .istore_n 3), (27, .iinc 4 1), (30, .goto (-25)), (33, .iload_n 3), (34, .ireturn)]
theorem k283_0 : dck c283 l283_0 := by unfold dck; decide +kernel
/-! 284: DawnPerquisiteModel.said(II)I -/
abbrev c284 : ByteArray := prog_20_method_158_code
def l284_0 : List (Nat × Instr) := [(0, .iload_n 1), (1, .iconst (-1)), (2, .if_icmp .ne 12), (5, .aload_n 0), (6, .getfield 7), (9, .iconst 5), (10, .iconst 0), (11, .iastore), (12, .iconst 0), (13, .ireturn), (14, .aload_n 0), (15, .iload_n 1), (16, .invokevirtual 308), (19, .ifCond .eq 24), (22, .iload_n 2), (23, .iconst 0), (24, .bipush 99), (26, .invokestatic 63), (29, .ifCond .eq 14), (32, .aload_n 0), (33, .getfield 7), (36, .iconst 5), (37, .iaload), (38, .bipush 8), (40, .if_icmp .ne 6), (43, .bipush (-2)), (45, .ireturn), (46, .aload_n 0), (47, .getfield 7), (50, .bipush 81), (52, .iconst 2), (53, .aload_n 0), (54, .getfield 7), (57, .iconst 5), (58, .iaload), (59, .imul), (60, .iadd), (61, .iload_n 1), (62, .iastore), (63, .aload_n 0), (64, .getfield 7), (67, .bipush 81), (69, .iconst 2), (70, .aload_n 0), (71, .getfield 7), (74, .iconst 5), (75, .iaload), (76, .imul), (77, .iadd), (78, .iconst 1), (79, .iadd), (80, .iload_n 2), (81, .iastore), (82, .aload_n 0), (83, .getfield 7), (86, .iconst 5), (87, .dup2), (88, .iaload), (89, .iconst 1), (90, .iadd)]
theorem k284_0 : dck c284 l284_0 := by unfold dck; decide +kernel
def l284_1 : List (Nat × Instr) := [(91, .iastore), (92, .aload_n 0), (93, .getfield 7), (96, .iconst 5), (97, .iaload), (98, .ireturn)]
theorem k284_1 : dck c284 l284_1 := by unfold dck; decide +kernel
/-! 285: DawnPerquisiteModel.whose()I -/
abbrev c285 : ByteArray := prog_20_method_159_code
def l285_0 : List (Nat × Instr) := [(0, .iconst 0), (1, .istore_n 1), (2, .iconst 0), (3, .istore_n 2), (4, .iload_n 2), (5, .aload_n 0), (6, .getfield 7), (9, .iconst 1), (10, .iaload), (11, .if_icmp .ge 92), (14, .iconst 1), (15, .istore_n 3), (16, .bipush 81), (18, .istore 4), (20, .iload 4), (22, .bipush 81), (24, .iconst 2), (25, .aload_n 0), (26, .getfield 7), (29, .iconst 5), (30, .iaload), (31, .imul), (32, .iadd), (33, .if_icmp .ge 50), (36, .iload_n 3), (37, .ifCond .eq 38), (40, .aload_n 0), (41, .iload_n 2), (42, .aload_n 0), (43, .getfield 7), (46, .iload 4), (48, .iaload), (49, .aload_n 0), (50, .getfield 7), (53, .bipush 9), (55, .iaload), (56, .invokevirtual 296), (59, .aload_n 0), (60, .getfield 7), (63, .iload 4), (65, .iconst 1), (66, .iadd), (67, .iaload), (68, .if_icmp .ne 7), (71, .iconst 1), (72, .goto 4), (75, .iconst 0), (76, .istore_n 3), (77, .iinc 4 2), (80, .goto (-60)), (83, .iload_n 1), (84, .iload_n 3), (85, .ifCond .eq 9), (88, .iconst 1), (89, .iload_n 2), (90, .ishl), (91, .goto 4), (94, .iconst 0), (95, .ior), (96, .istore_n 1)]
theorem k285_0 : dck c285 l285_0 := by unfold dck; decide +kernel
def l285_1 : List (Nat × Instr) := [(97, .iinc 2 1), (100, .goto (-96)), (103, .iload_n 1), (104, .ireturn)]
theorem k285_1 : dck c285 l285_1 := by unfold dck; decide +kernel
/-! 286: DawnPerquisiteModel.image()I -/
abbrev c286 : ByteArray := prog_20_method_160_code
def l286_0 : List (Nat × Instr) := [(0, .aload_n 0), (1, .getfield 7), (4, .aload_n 0), (5, .getfield 13), (8, .invokestatic 59), (11, .aload_n 0), (12, .getfield 7), (15, .bipush 6), (17, .iaload), (18, .ireturn)]
theorem k286_0 : dck c286 l286_0 := by unfold dck; decide +kernel
/-! 287: DawnPerquisiteModel.back()I -/
abbrev c287 : ByteArray := prog_20_method_161_code
def l287_0 : List (Nat × Instr) := [(0, .aload_n 0), (1, .getfield 13), (4, .aload_n 0), (5, .getfield 7), (8, .invokestatic 59), (11, .aload_n 0), (12, .getfield 7), (15, .bipush 6), (17, .iaload), (18, .ireturn)]
theorem k287_0 : dck c287 l287_0 := by unfold dck; decide +kernel
/-! 288: DawnPerquisiteModel.about(I)I -/
abbrev c288 : ByteArray := prog_20_method_162_code
def l288_0 : List (Nat × Instr) := [(0, .iload_n 1), (1, .iconst 0), (2, .iconst 5), (3, .invokestatic 63), (6, .ifCond .eq 12), (9, .aload_n 0), (10, .getfield 7), (13, .iload_n 1), (14, .iaload), (15, .goto 18), (18, .iload_n 1), (19, .bipush 6), (21, .if_icmp .ne 10), (24, .aload_n 0), (25, .getfield 88), (28, .goto 5), (31, .bipush (-2)), (33, .ireturn)]
theorem k288_0 : dck c288 l288_0 := by unfold dck; decide +kernel
/-! 289: DawnPerquisite$Tokens.<init>([BI)V -/
abbrev c289 : ByteArray := prog_16_method_1_code
def l289_0 : List (Nat × Instr) := [(0, .aload_n 0), (1, .invokespecial 3), (4, .aload_n 0), (5, .aload_n 1), (6, .putfield 9), (9, .aload_n 0), (10, .iload_n 2), (11, .putfield 15), (14, .return_)]
theorem k289_0 : dck c289 l289_0 := by unfold dck; decide +kernel
/-! 290: DawnPerquisite$Tokens.read()LDawnPerquisite$Text; -/
abbrev c290 : ByteArray := prog_16_method_10_code
def l290_0 : List (Nat × Instr) := [(0, .new 80), (3, .dup), (4, .invokespecial 82), (7, .astore_n 1), (8, .aload_n 0), (9, .invokevirtual 74), (12, .aload_n 0), (13, .getfield 25), (16, .sipush 301), (19, .if_icmp .eq 154), (22, .aload_n 0), (23, .getfield 25), (26, .sipush 200), (29, .if_icmp .lt 13), (32, .aload_n 0), (33, .getfield 25), (36, .sipush 207), (39, .if_icmp .le 9), (42, .aload_n 0), (43, .iconst 1), (44, .invokevirtual 70), (47, .athrow), (48, .aload_n 0), (49, .aload_n 0), (50, .getfield 25), (53, .putfield 83), (56, .aload_n 0), (57, .getfield 83), (60, .sipush 201), (63, .if_icmp .gt 25), (66, .aload_n 1), (67, .getfield 86), (70, .aload_n 0), (71, .getfield 83), (74, .sipush 200), (77, .isub), (78, .aaload), (79, .ifnull 9), (82, .aload_n 0), (83, .iconst 4), (84, .invokevirtual 70), (87, .athrow), (88, .aload_n 1), (89, .getfield 90), (92, .bipush 24), (94, .if_icmp .ne 10), (97, .aload_n 0), (98, .bipush 6), (100, .invokevirtual 70), (103, .athrow), (104, .aload_n 0), (105, .invokevirtual 74), (108, .aload_n 0), (109, .getfield 83), (112, .sipush 201), (115, .if_icmp .gt 23), (118, .aload_n 1), (119, .getfield 86), (122, .aload_n 0), (123, .getfield 83)]
theorem k290_0 : dck c290 l290_0 := by unfold dck; decide +kernel
def l290_1 : List (Nat × Instr) := [(126, .sipush 200), (129, .isub), (130, .aload_n 0), (131, .invokevirtual 93), (134, .aastore), (135, .goto 19), (138, .aload_n 1), (139, .getfield 97), (142, .aload_n 0), (143, .aload_n 1), (144, .getfield 90), (147, .invokevirtual 101), (150, .invokevirtual 105), (153, .pop), (154, .aload_n 0), (155, .bipush 59), (157, .invokevirtual 111), (160, .aload_n 1), (161, .dup), (162, .getfield 90), (165, .iconst 1), (166, .iadd), (167, .putfield 90), (170, .goto (-158)), (173, .aload_n 1), (174, .areturn)]
theorem k290_1 : dck c290 l290_1 := by unfold dck; decide +kernel
/-! 291: DawnPerquisite$Tokens.next()V -/
abbrev c291 : ByteArray := prog_16_method_4_code
def l291_0 : List (Nat × Instr) := [(0, .aload_n 0), (1, .getfield 19), (4, .aload_n 0), (5, .getfield 15), (8, .if_icmp .ge 44), (11, .aload_n 0), (12, .getfield 9), (15, .aload_n 0), (16, .getfield 19), (19, .baload), (20, .bipush 32), (22, .if_icmp .eq 17), (25, .aload_n 0), (26, .getfield 9), (29, .aload_n 0), (30, .getfield 19), (33, .baload), (34, .bipush 10), (36, .if_icmp .ne 16), (39, .aload_n 0), (40, .dup), (41, .getfield 19), (44, .iconst 1), (45, .iadd), (46, .putfield 19), (49, .goto (-49)), (52, .aload_n 0), (53, .aload_n 0), (54, .getfield 19), (57, .putfield 22), (60, .aload_n 0), (61, .getfield 19), (64, .aload_n 0), (65, .getfield 15), (68, .if_icmp .ne 13), (71, .aload_n 0), (72, .sipush 301), (75, .putfield 25), (78, .goto 324), (81, .aload_n 0), (82, .getfield 9), (85, .aload_n 0), (86, .getfield 19), (89, .baload), (90, .invokestatic 28), (93, .ifCond .eq 89), (96, .aload_n 0), (97, .getfield 19), (100, .aload_n 0), (101, .getfield 15), (104, .if_icmp .ge 31), (107, .aload_n 0), (108, .getfield 9), (111, .aload_n 0), (112, .getfield 19), (115, .baload), (116, .invokestatic 28), (119, .ifCond .eq 16), (122, .aload_n 0), (123, .dup)]
theorem k291_0 : dck c291 l291_0 := by unfold dck; decide +kernel
def l291_1 : List (Nat × Instr) := [(124, .getfield 19), (127, .iconst 1), (128, .iadd), (129, .putfield 19), (132, .goto (-36)), (135, .aload_n 0), (136, .sipush 302), (139, .putfield 25), (142, .iconst 0), (143, .istore_n 1), (144, .iload_n 1), (145, .getstatic 32), (148, .arraylength), (149, .if_icmp .ge 30), (152, .aload_n 0), (153, .getstatic 32), (156, .iload_n 1), (157, .aaload), (158, .invokevirtual 36), (161, .ifCond .eq 12), (164, .aload_n 0), (165, .sipush 200), (168, .iload_n 1), (169, .iadd), (170, .putfield 25), (173, .iinc 1 1), (176, .goto (-32)), (179, .goto 223), (182, .aload_n 0), (183, .getfield 9), (186, .aload_n 0), (187, .getfield 19), (190, .baload), (191, .invokestatic 40), (194, .ifCond .eq 83), (197, .aload_n 0), (198, .sipush 300), (201, .putfield 25), (204, .aload_n 0), (205, .iconst 0), (206, .putfield 43), (209, .aload_n 0), (210, .getfield 19), (213, .aload_n 0), (214, .getfield 15), (217, .if_icmp .ge 185), (220, .aload_n 0), (221, .getfield 9), (224, .aload_n 0), (225, .getfield 19), (228, .baload), (229, .invokestatic 40), (232, .ifCond .eq 170), (235, .aload_n 0), (236, .ldc 46), (238, .bipush 10), (240, .aload_n 0), (241, .getfield 43), (244, .imul), (245, .aload_n 0)]
theorem k291_1 : dck c291 l291_1 := by unfold dck; decide +kernel
def l291_2 : List (Nat × Instr) := [(246, .getfield 9), (249, .aload_n 0), (250, .getfield 19), (253, .baload), (254, .iadd), (255, .bipush 48), (257, .isub), (258, .invokestatic 47), (261, .putfield 43), (264, .aload_n 0), (265, .dup), (266, .getfield 19), (269, .iconst 1), (270, .iadd), (271, .putfield 19), (274, .goto (-65)), (277, .aload_n 0), (278, .getfield 9), (281, .aload_n 0), (282, .getfield 19), (285, .baload), (286, .istore_n 1), (287, .aload_n 0), (288, .dup), (289, .getfield 19), (292, .iconst 1), (293, .iadd), (294, .putfield 19), (297, .aload_n 0), (298, .sipush 302), (301, .putfield 25), (304, .iconst 0), (305, .istore_n 2), (306, .iload_n 2), (307, .ldc 53), (309, .invokevirtual 55), (312, .if_icmp .ge 24), (315, .ldc 53), (317, .iload_n 2), (318, .invokevirtual 61), (321, .iload_n 1), (322, .if_icmp .ne 8), (325, .aload_n 0), (326, .iload_n 1), (327, .putfield 25), (330, .iinc 2 1), (333, .goto (-27)), (336, .iload_n 1), (337, .bipush 60), (339, .if_icmp .eq 9), (342, .iload_n 1), (343, .bipush 62), (345, .if_icmp .ne 57), (348, .aload_n 0), (349, .getfield 19), (352, .aload_n 0), (353, .getfield 15), (356, .if_icmp .ge 46), (359, .aload_n 0), (360, .getfield 9)]
theorem k291_2 : dck c291 l291_2 := by unfold dck; decide +kernel
def l291_3 : List (Nat × Instr) := [(363, .aload_n 0), (364, .getfield 19), (367, .baload), (368, .bipush 61), (370, .if_icmp .ne 32), (373, .aload_n 0), (374, .iload_n 1), (375, .bipush 60), (377, .if_icmp .ne 9), (380, .sipush 303), (383, .goto 6), (386, .sipush 304), (389, .putfield 25), (392, .aload_n 0), (393, .dup), (394, .getfield 19), (397, .iconst 1), (398, .iadd), (399, .putfield 19), (402, .return_)]
theorem k291_3 : dck c291 l291_3 := by unfold dck; decide +kernel
/-! 292: DawnPerquisite$Tokens.isLetter(I)Z -/
abbrev c292 : ByteArray := prog_16_method_2_code
def l292_0 : List (Nat × Instr) := [(0, .iload_n 0), (1, .bipush 97), (3, .if_icmp .lt 9), (6, .iload_n 0), (7, .bipush 122), (9, .if_icmp .le 15), (12, .iload_n 0), (13, .bipush 65), (15, .if_icmp .lt 13), (18, .iload_n 0), (19, .bipush 90), (21, .if_icmp .gt 7), (24, .iconst 1), (25, .goto 4), (28, .iconst 0), (29, .ireturn)]
theorem k292_0 : dck c292 l292_0 := by unfold dck; decide +kernel
/-! 293: DawnPerquisite$Tokens.isWord(Ljava/lang/String;)Z -/
abbrev c293 : ByteArray := prog_16_method_5_code
def l293_0 : List (Nat × Instr) := [(0, .aload_n 0), (1, .getfield 19), (4, .aload_n 0), (5, .getfield 22), (8, .isub), (9, .aload_n 1), (10, .invokevirtual 55), (13, .if_icmp .eq 5), (16, .iconst 0), (17, .ireturn), (18, .iconst 0), (19, .istore_n 2), (20, .iload_n 2), (21, .aload_n 1), (22, .invokevirtual 55), (25, .if_icmp .ge 30), (28, .aload_n 0), (29, .getfield 9), (32, .aload_n 0), (33, .getfield 22), (36, .iload_n 2), (37, .iadd), (38, .baload), (39, .aload_n 1), (40, .iload_n 2), (41, .invokevirtual 61), (44, .if_icmp .eq 5), (47, .iconst 0), (48, .ireturn), (49, .iinc 2 1), (52, .goto (-32)), (55, .iconst 1), (56, .ireturn)]
theorem k293_0 : dck c293 l293_0 := by unfold dck; decide +kernel
/-! 294: DawnPerquisite$Tokens.isDigit(I)Z -/
abbrev c294 : ByteArray := prog_16_method_3_code
def l294_0 : List (Nat × Instr) := [(0, .iload_n 0), (1, .bipush 48), (3, .if_icmp .lt 13), (6, .iload_n 0), (7, .bipush 57), (9, .if_icmp .gt 7), (12, .iconst 1), (13, .goto 4), (16, .iconst 0), (17, .ireturn)]
theorem k294_0 : dck c294 l294_0 := by unfold dck; decide +kernel
/-! 295: DawnPerquisite$Tokens.wrong(I)LDawnPerquisite$Wrong; -/
abbrev c295 : ByteArray := prog_16_method_6_code
def l295_0 : List (Nat × Instr) := [(0, .new 65), (3, .dup), (4, .iload_n 1), (5, .aload_n 0), (6, .getfield 22), (9, .invokespecial 67), (12, .areturn)]
theorem k295_0 : dck c295 l295_0 := by unfold dck; decide +kernel
/-! 296: DawnPerquisite$Tokens.sum()LDawnPerquisite$Sum; -/
abbrev c296 : ByteArray := prog_16_method_15_code
def l296_0 : List (Nat × Instr) := [(0, .new 156), (3, .dup), (4, .aload_n 0), (5, .invokevirtual 158), (8, .invokespecial 161), (11, .astore_n 1), (12, .aload_n 0), (13, .getfield 25), (16, .bipush 43), (18, .if_icmp .eq 12), (21, .aload_n 0), (22, .getfield 25), (25, .bipush 45), (27, .if_icmp .ne 24), (30, .aload_n 0), (31, .getfield 25), (34, .istore_n 2), (35, .aload_n 0), (36, .invokevirtual 74), (39, .aload_n 1), (40, .iload_n 2), (41, .aload_n 0), (42, .invokevirtual 158), (45, .invokevirtual 164), (48, .goto (-36)), (51, .aload_n 1), (52, .invokevirtual 167), (55, .areturn)]
theorem k296_0 : dck c296 l296_0 := by unfold dck; decide +kernel
/-! 297: DawnPerquisite$Tokens.product()LDawnPerquisite$Sum; -/
abbrev c297 : ByteArray := prog_16_method_16_code
def l297_0 : List (Nat × Instr) := [(0, .new 156), (3, .dup), (4, .aload_n 0), (5, .invokevirtual 170), (8, .invokespecial 161), (11, .astore_n 1), (12, .aload_n 0), (13, .getfield 25), (16, .bipush 42), (18, .if_icmp .eq 12), (21, .aload_n 0), (22, .getfield 25), (25, .bipush 47), (27, .if_icmp .ne 24), (30, .aload_n 0), (31, .getfield 25), (34, .istore_n 2), (35, .aload_n 0), (36, .invokevirtual 74), (39, .aload_n 1), (40, .iload_n 2), (41, .aload_n 0), (42, .invokevirtual 170), (45, .invokevirtual 164), (48, .goto (-36)), (51, .aload_n 1), (52, .invokevirtual 167), (55, .areturn)]
theorem k297_0 : dck c297 l297_0 := by unfold dck; decide +kernel
/-! 298: DawnPerquisite$Tokens.one()LDawnPerquisite$Sum; -/
abbrev c298 : ByteArray := prog_16_method_20_code
def l298_0 : List (Nat × Instr) := [(0, .aload_n 0), (1, .getfield 25), (4, .sipush 300), (7, .if_icmp .ne 19), (10, .new 185), (13, .dup), (14, .aload_n 0), (15, .iconst 0), (16, .sipush 9999), (19, .invokevirtual 115), (22, .invokespecial 187), (25, .areturn), (26, .aload_n 0), (27, .getfield 25), (30, .sipush 212), (33, .if_icmp .ne 8), (36, .aload_n 0), (37, .invokevirtual 189), (40, .areturn), (41, .aload_n 0), (42, .invokevirtual 192), (45, .istore_n 1), (46, .iload_n 1), (47, .iconst (-1)), (48, .if_icmp .eq 30), (51, .aload_n 0), (52, .iload_n 1), (53, .invokevirtual 195), (56, .ifCond .ne 9), (59, .aload_n 0), (60, .iconst 5), (61, .invokevirtual 70), (64, .athrow), (65, .aload_n 0), (66, .invokevirtual 74), (69, .new 198), (72, .dup), (73, .iload_n 1), (74, .invokespecial 200), (77, .areturn), (78, .aload_n 0), (79, .getfield 25), (82, .bipush 40), (84, .if_icmp .ne 21), (87, .aload_n 0), (88, .invokevirtual 143), (91, .aload_n 0), (92, .invokevirtual 93), (95, .astore_n 2), (96, .aload_n 0), (97, .bipush 41), (99, .invokevirtual 111), (102, .goto 104), (105, .aload_n 0), (106, .getfield 25), (109, .bipush 45), (111, .if_icmp .eq 23), (114, .aload_n 0), (115, .getfield 25), (118, .sipush 210)]
theorem k298_0 : dck c298 l298_0 := by unfold dck; decide +kernel
def l298_1 : List (Nat × Instr) := [(121, .if_icmp .eq 13), (124, .aload_n 0), (125, .getfield 25), (128, .sipush 211), (131, .if_icmp .ne 69), (134, .aload_n 0), (135, .getfield 25), (138, .istore_n 3), (139, .aload_n 0), (140, .invokevirtual 143), (143, .aload_n 0), (144, .invokevirtual 170), (147, .astore 4), (149, .iload_n 3), (150, .sipush 210), (153, .if_icmp .ne 15), (156, .new 201), (159, .dup), (160, .aload 4), (162, .invokespecial 203), (165, .goto 31), (168, .iload_n 3), (169, .sipush 211), (172, .if_icmp .ne 15), (175, .new 204), (178, .dup), (179, .aload 4), (181, .invokespecial 206), (184, .goto 12), (187, .new 207), (190, .dup), (191, .aload 4), (193, .invokespecial 209), (196, .astore_n 2), (197, .goto 9), (200, .aload_n 0), (201, .iconst 1), (202, .invokevirtual 70), (205, .athrow), (206, .aload_n 0), (207, .dup), (208, .getfield 77), (211, .iconst 1), (212, .isub), (213, .putfield 77), (216, .aload_n 2), (217, .areturn)]
theorem k298_1 : dck c298 l298_1 := by unfold dck; decide +kernel
/-! 299: DawnPerquisite$Tokens.number(II)I -/
abbrev c299 : ByteArray := prog_16_method_8_code
def l299_0 : List (Nat × Instr) := [(0, .aload_n 0), (1, .getfield 25), (4, .sipush 300), (7, .if_icmp .eq 9), (10, .aload_n 0), (11, .iconst 1), (12, .invokevirtual 70), (15, .athrow), (16, .aload_n 0), (17, .getfield 43), (20, .iload_n 1), (21, .if_icmp .lt 11), (24, .aload_n 0), (25, .getfield 43), (28, .iload_n 2), (29, .if_icmp .le 9), (32, .aload_n 0), (33, .iconst 2), (34, .invokevirtual 70), (37, .athrow), (38, .aload_n 0), (39, .getfield 43), (42, .istore_n 3), (43, .aload_n 0), (44, .invokevirtual 74), (47, .iload_n 3), (48, .ireturn)]
theorem k299_0 : dck c299 l299_0 := by unfold dck; decide +kernel
/-! 300: DawnPerquisite$Tokens.choice()LDawnPerquisite$Sum; -/
abbrev c300 : ByteArray := prog_16_method_19_code
def l300_0 : List (Nat × Instr) := [(0, .aload_n 0), (1, .invokevirtual 143), (4, .aload_n 0), (5, .invokevirtual 177), (8, .astore_n 1), (9, .aload_n 0), (10, .sipush 213), (13, .invokevirtual 111), (16, .aload_n 0), (17, .invokevirtual 93), (20, .astore_n 2), (21, .aload_n 0), (22, .sipush 214), (25, .invokevirtual 111), (28, .aload_n 0), (29, .invokevirtual 93), (32, .astore_n 3), (33, .aload_n 0), (34, .sipush 215), (37, .invokevirtual 111), (40, .aload_n 0), (41, .dup), (42, .getfield 77), (45, .iconst 1), (46, .isub), (47, .putfield 77), (50, .new 180), (53, .dup), (54, .aload_n 1), (55, .aload_n 2), (56, .aload_n 3), (57, .invokespecial 182), (60, .areturn)]
theorem k300_0 : dck c300 l300_0 := by unfold dck; decide +kernel
/-! 301: DawnPerquisite$Tokens.opens()V -/
abbrev c301 : ByteArray := prog_16_method_9_code
def l301_0 : List (Nat × Instr) := [(0, .aload_n 0), (1, .getfield 77), (4, .bipush 8), (6, .if_icmp .ne 9), (9, .aload_n 0), (10, .iconst 3), (11, .invokevirtual 70), (14, .athrow), (15, .aload_n 0), (16, .dup), (17, .getfield 77), (20, .iconst 1), (21, .iadd), (22, .putfield 77), (25, .aload_n 0), (26, .invokevirtual 74), (29, .return_)]
theorem k301_0 : dck c301 l301_0 := by unfold dck; decide +kernel
/-! 302: DawnPerquisite$Tokens.either()LDawnPerquisite$Asked; -/
abbrev c302 : ByteArray := prog_16_method_12_code
def l302_0 : List (Nat × Instr) := [(0, .new 106), (3, .dup), (4, .invokespecial 122), (7, .astore_n 1), (8, .aload_n 1), (9, .aload_n 0), (10, .invokevirtual 123), (13, .invokevirtual 105), (16, .pop), (17, .aload_n 0), (18, .getfield 25), (21, .sipush 216), (24, .if_icmp .ne 19), (27, .aload_n 0), (28, .invokevirtual 74), (31, .aload_n 1), (32, .aload_n 0), (33, .invokevirtual 123), (36, .invokevirtual 105), (39, .pop), (40, .goto (-23)), (43, .aload_n 1), (44, .invokevirtual 127), (47, .iconst 1), (48, .if_icmp .ne 14), (51, .aload_n 1), (52, .iconst 0), (53, .invokevirtual 129), (56, .checkcast 133), (59, .goto 12), (62, .new 135), (65, .dup), (66, .iconst 0), (67, .aload_n 1), (68, .invokespecial 137), (71, .areturn)]
theorem k302_0 : dck c302 l302_0 := by unfold dck; decide +kernel
/-! 303: DawnPerquisite$Tokens.both()LDawnPerquisite$Asked; -/
abbrev c303 : ByteArray := prog_16_method_13_code
def l303_0 : List (Nat × Instr) := [(0, .new 106), (3, .dup), (4, .invokespecial 122), (7, .astore_n 1), (8, .aload_n 1), (9, .aload_n 0), (10, .invokevirtual 140), (13, .invokevirtual 105), (16, .pop), (17, .aload_n 0), (18, .getfield 25), (21, .sipush 217), (24, .if_icmp .ne 19), (27, .aload_n 0), (28, .invokevirtual 74), (31, .aload_n 1), (32, .aload_n 0), (33, .invokevirtual 140), (36, .invokevirtual 105), (39, .pop), (40, .goto (-23)), (43, .aload_n 1), (44, .invokevirtual 127), (47, .iconst 1), (48, .if_icmp .ne 14), (51, .aload_n 1), (52, .iconst 0), (53, .invokevirtual 129), (56, .checkcast 133), (59, .goto 12), (62, .new 135), (65, .dup), (66, .iconst 1), (67, .aload_n 1), (68, .invokespecial 137), (71, .areturn)]
theorem k303_0 : dck c303 l303_0 := by unfold dck; decide +kernel
/-! 304: DawnPerquisite$Tokens.ask()LDawnPerquisite$Asked; -/
abbrev c304 : ByteArray := prog_16_method_14_code
def l304_0 : List (Nat × Instr) := [(0, .aload_n 0), (1, .getfield 25), (4, .sipush 218), (7, .if_icmp .ne 31), (10, .aload_n 0), (11, .invokevirtual 143), (14, .new 146), (17, .dup), (18, .aload_n 0), (19, .invokevirtual 140), (22, .invokespecial 148), (25, .astore_n 1), (26, .aload_n 0), (27, .dup), (28, .getfield 77), (31, .iconst 1), (32, .isub), (33, .putfield 77), (36, .aload_n 1), (37, .areturn), (38, .aload_n 0), (39, .invokevirtual 93), (42, .astore_n 1), (43, .aload_n 0), (44, .getfield 25), (47, .istore_n 2), (48, .iload_n 2), (49, .bipush 60), (51, .if_icmp .eq 41), (54, .iload_n 2), (55, .bipush 62), (57, .if_icmp .eq 35), (60, .iload_n 2), (61, .bipush 61), (63, .if_icmp .eq 29), (66, .iload_n 2), (67, .bipush 35), (69, .if_icmp .eq 23), (72, .iload_n 2), (73, .sipush 303), (76, .if_icmp .eq 16), (79, .iload_n 2), (80, .sipush 304), (83, .if_icmp .eq 9), (86, .aload_n 0), (87, .iconst 1), (88, .invokevirtual 70), (91, .athrow), (92, .aload_n 0), (93, .invokevirtual 74), (96, .new 151), (99, .dup), (100, .iload_n 2), (101, .aload_n 1), (102, .aload_n 0), (103, .invokevirtual 93), (106, .invokespecial 153), (109, .areturn)]
theorem k304_0 : dck c304 l304_0 := by unfold dck; decide +kernel
/-! 305: DawnPerquisite$Tokens.want(I)V -/
abbrev c305 : ByteArray := prog_16_method_7_code
def l305_0 : List (Nat × Instr) := [(0, .aload_n 0), (1, .getfield 25), (4, .iload_n 1), (5, .if_icmp .eq 9), (8, .aload_n 0), (9, .iconst 1), (10, .invokevirtual 70), (13, .athrow), (14, .aload_n 0), (15, .invokevirtual 74), (18, .return_)]
theorem k305_0 : dck c305 l305_0 := by unfold dck; decide +kernel
/-! 306: DawnPerquisite$Tokens.nameNow()I -/
abbrev c306 : ByteArray := prog_16_method_17_code
def l306_0 : List (Nat × Instr) := [(0, .iconst 0), (1, .istore_n 1), (2, .iload_n 1), (3, .getstatic 173), (6, .arraylength), (7, .if_icmp .ge 23), (10, .getstatic 173), (13, .iload_n 1), (14, .iaload), (15, .aload_n 0), (16, .getfield 25), (19, .if_icmp .ne 5), (22, .iload_n 1), (23, .ireturn), (24, .iinc 1 1), (27, .goto (-25)), (30, .iconst (-1)), (31, .ireturn)]
theorem k306_0 : dck c306 l306_0 := by unfold dck; decide +kernel
/-! 307: DawnPerquisite$Tokens.mayName(I)Z -/
abbrev c307 : ByteArray := prog_16_method_18_code
def l307_0 : List (Nat × Instr) := [(0, .iload_n 1), (1, .bipush 6), (3, .if_icmp .lt 32), (6, .iload_n 1), (7, .bipush 6), (9, .if_icmp .ne 7), (12, .iconst 1), (13, .goto 4), (16, .iconst 0), (17, .aload_n 0), (18, .getfield 83), (21, .sipush 200), (24, .if_icmp .ne 7), (27, .iconst 1), (28, .goto 4), (31, .iconst 0), (32, .if_icmp .ne 7), (35, .iconst 1), (36, .goto 4), (39, .iconst 0), (40, .ireturn)]
theorem k307_0 : dck c307 l307_0 := by unfold dck; decide +kernel
/-! 308: DawnPerquisite$Tokens.doing(I)LDawnPerquisite$Doing; -/
abbrev c308 : ByteArray := prog_16_method_11_code
def l308_0 : List (Nat × Instr) := [(0, .aload_n 0), (1, .getfield 83), (44, .aload_n 0), (45, .iconst 0), (46, .bipush 11), (48, .invokevirtual 115), (51, .istore_n 2), (52, .aload_n 0), (53, .sipush 208), (56, .invokevirtual 111), (59, .new 117), (62, .dup), (63, .aload_n 0), (64, .getfield 83), (67, .iload_n 2), (68, .aload_n 0), (69, .iload_n 2), (70, .bipush 11), (72, .invokevirtual 115), (75, .iload_n 1), (76, .invokespecial 119), (79, .areturn), (80, .aload_n 0), (81, .iconst 0), (82, .iconst 4), (83, .invokevirtual 115), (86, .istore_n 2), (87, .aload_n 0), (88, .sipush 209), (91, .invokevirtual 111), (94, .new 117), (97, .dup), (98, .aload_n 0), (99, .getfield 83), (102, .iload_n 2), (103, .aload_n 0), (104, .iconst 0), (105, .bipush 9), (107, .invokevirtual 115), (110, .iload_n 1), (111, .invokespecial 119), (114, .areturn), (115, .new 117), (118, .dup), (119, .aload_n 0), (120, .getfield 83), (123, .aload_n 0), (124, .iconst 0), (125, .bipush 11), (127, .invokevirtual 115), (130, .iconst (-1)), (131, .iload_n 1), (132, .invokespecial 119), (135, .areturn), (136, .new 117), (139, .dup), (140, .aload_n 0), (141, .getfield 83), (144, .aload_n 0), (145, .iconst 1)]
theorem k308_0 : dck c308 l308_0 := by unfold dck; decide +kernel
def l308_1 : List (Nat × Instr) := [(146, .bipush 60), (148, .invokevirtual 115), (151, .iconst (-1)), (152, .iload_n 1), (153, .invokespecial 119), (156, .areturn), (157, .new 117), (160, .dup), (161, .aload_n 0), (162, .getfield 83), (165, .aload_n 0), (166, .iconst 0), (167, .iconst 5), (168, .invokevirtual 115), (171, .iconst (-1)), (172, .iload_n 1), (173, .invokespecial 119), (176, .areturn)]
theorem k308_1 : dck c308 l308_1 := by unfold dck; decide +kernel
theorem w308_4 : decode c308 4 = .ok (.tableswitch 153 202 207 #[40, 76, 153, 111, 153, 132], 40) := by decide +kernel
/-! 309: DawnPerquisite$Text.<init>()V -/
abbrev c309 : ByteArray := prog_15_method_1_code
def l309_0 : List (Nat × Instr) := [(0, .aload_n 0), (1, .invokespecial 1), (4, .aload_n 0), (5, .iconst 2), (6, .anewarray 7), (9, .putfield 9), (12, .aload_n 0), (13, .new 15), (16, .dup), (17, .invokespecial 17), (20, .putfield 18), (23, .return_)]
theorem k309_0 : dck c309 l309_0 := by unfold dck; decide +kernel
/-! 310: java/util/AbstractCollection.<init>()V -/
abbrev c310 : ByteArray := prog_39_method_1_code
def l310_0 : List (Nat × Instr) := [(0, .aload_n 0), (1, .invokespecial 1), (4, .return_)]
theorem k310_0 : dck c310 l310_0 := by unfold dck; decide +kernel
/-! 311: java/util/AbstractList.<init>()V -/
abbrev c311 : ByteArray := prog_40_method_1_code
def l311_0 : List (Nat × Instr) := [(0, .aload_n 0), (1, .invokespecial 1), (4, .aload_n 0), (5, .iconst 0), (6, .putfield 7), (9, .return_)]
theorem k311_0 : dck c311 l311_0 := by unfold dck; decide +kernel
/-! 312: java/util/ArrayList.<init>()V -/
abbrev c312 : ByteArray := prog_41_method_2_code
def l312_0 : List (Nat × Instr) := [(0, .aload_n 0), (1, .invokespecial 1), (4, .aload_n 0), (5, .getstatic 39), (8, .putfield 9), (11, .return_)]
theorem k312_0 : dck c312 l312_0 := by unfold dck; decide +kernel
/-! 313: java/util/ArrayList.add(Ljava/lang/Object;)Z -/
abbrev c313 : ByteArray := prog_41_method_25_code
def l313_0 : List (Nat × Instr) := [(0, .aload_n 0), (1, .dup), (2, .getfield 63), (5, .iconst 1), (6, .iadd), (7, .putfield 63), (10, .aload_n 0), (11, .aload_n 1), (12, .aload_n 0), (13, .getfield 9), (16, .aload_n 0), (17, .getfield 48), (20, .invokevirtual 131), (23, .iconst 1), (24, .ireturn)]
theorem k313_0 : dck c313 l313_0 := by unfold dck; decide +kernel
/-! 314: java/util/ArrayList.add(Ljava/lang/Object;[Ljava/lang/Object;I)V -/
abbrev c314 : ByteArray := prog_41_method_24_code
def l314_0 : List (Nat × Instr) := [(0, .iload_n 3), (1, .aload_n 2), (2, .arraylength), (3, .if_icmp .ne 8), (6, .aload_n 0), (7, .invokevirtual 129), (10, .astore_n 2), (11, .aload_n 2), (12, .iload_n 3), (13, .aload_n 1), (14, .aastore), (15, .aload_n 0), (16, .iload_n 3), (17, .iconst 1), (18, .iadd), (19, .putfield 48), (22, .return_)]
theorem k314_0 : dck c314 l314_0 := by unfold dck; decide +kernel
/-! 315: java/util/ArrayList.grow()[Ljava/lang/Object; -/
abbrev c315 : ByteArray := prog_41_method_7_code
def l315_0 : List (Nat × Instr) := [(0, .aload_n 0), (1, .aload_n 0), (2, .getfield 48), (5, .iconst 1), (6, .iadd), (7, .invokevirtual 69), (10, .areturn)]
theorem k315_0 : dck c315 l315_0 := by unfold dck; decide +kernel
/-! 316: java/util/ArrayList.grow(I)[Ljava/lang/Object; -/
abbrev c316 : ByteArray := prog_41_method_6_code
def l316_0 : List (Nat × Instr) := [(0, .aload_n 0), (1, .getfield 9), (4, .arraylength), (5, .istore_n 2), (6, .iload_n 2), (7, .ifCond .gt 13), (10, .aload_n 0), (11, .getfield 9), (14, .getstatic 39), (17, .if_acmp .eq 28), (20, .iload_n 2), (21, .iload_n 1), (22, .iload_n 2), (23, .isub), (24, .iload_n 2), (25, .iconst 1), (26, .ishr), (27, .invokestatic 73), (30, .istore_n 3), (31, .aload_n 0), (32, .aload_n 0), (33, .getfield 9), (36, .iload_n 3), (37, .invokestatic 66), (40, .dup_x1), (41, .putfield 9), (44, .areturn), (45, .aload_n 0), (46, .bipush 10), (48, .iload_n 1), (49, .invokestatic 79), (52, .anewarray 7), (55, .dup_x1), (56, .putfield 9), (59, .areturn)]
theorem k316_0 : dck c316 l316_0 := by unfold dck; decide +kernel
/-! 317: java/util/ArrayList.size()I -/
abbrev c317 : ByteArray := prog_41_method_8_code
def l317_0 : List (Nat × Instr) := [(0, .aload_n 0), (1, .getfield 48), (4, .ireturn)]
theorem k317_0 : dck c317 l317_0 := by unfold dck; decide +kernel
/-! 318: java/util/ArrayList.get(I)Ljava/lang/Object; -/
abbrev c318 : ByteArray := prog_41_method_20_code
def l318_0 : List (Nat × Instr) := [(0, .iload_n 1), (1, .aload_n 0), (2, .getfield 48), (5, .invokestatic 118), (8, .pop), (9, .aload_n 0), (10, .iload_n 1), (11, .invokevirtual 123), (14, .areturn)]
theorem k318_0 : dck c318 l318_0 := by unfold dck; decide +kernel
/-! 319: java/util/ArrayList.elementData(I)Ljava/lang/Object; -/
abbrev c319 : ByteArray := prog_41_method_18_code
def l319_0 : List (Nat × Instr) := [(0, .aload_n 0), (1, .getfield 9), (4, .iload_n 1), (5, .aaload), (6, .areturn)]
theorem k319_0 : dck c319 l319_0 := by unfold dck; decide +kernel
/-! 320: java/util/ArrayList.isEmpty()Z -/
abbrev c320 : ByteArray := prog_41_method_9_code
def l320_0 : List (Nat × Instr) := [(0, .aload_n 0), (1, .getfield 48), (4, .ifCond .ne 7), (7, .iconst 1), (8, .goto 4), (11, .iconst 0), (12, .ireturn)]
theorem k320_0 : dck c320 l320_0 := by unfold dck; decide +kernel
/-! 321: java/lang/String.length()I -/
abbrev c321 : ByteArray := prog_32_method_54_code
def l321_0 : List (Nat × Instr) := [(0, .aload_n 0), (1, .getfield 9), (4, .arraylength), (5, .aload_n 0), (6, .invokevirtual 335), (9, .ishr), (10, .ireturn)]
theorem k321_0 : dck c321 l321_0 := by unfold dck; decide +kernel
/-! 322: java/lang/String.coder()B -/
abbrev c322 : ByteArray := prog_32_method_152_code
def l322_0 : List (Nat × Instr) := [(0, .getstatic 38), (3, .ifCond .eq 10), (6, .aload_n 0), (7, .getfield 15), (10, .goto 4), (13, .iconst 1), (14, .ireturn)]
theorem k322_0 : dck c322 l322_0 := by unfold dck; decide +kernel
/-! 323: java/lang/String.charAt(I)C -/
abbrev c323 : ByteArray := prog_32_method_56_code
def l323_0 : List (Nat × Instr) := [(0, .aload_n 0), (1, .invokevirtual 492), (4, .ifCond .eq 12), (7, .aload_n 0), (8, .getfield 9), (11, .iload_n 1), (12, .invokestatic 495), (15, .ireturn), (16, .aload_n 0), (17, .getfield 9), (20, .iload_n 1), (21, .invokestatic 498), (24, .ireturn)]
theorem k323_0 : dck c323 l323_0 := by unfold dck; decide +kernel
/-! 324: java/lang/String.isLatin1()Z -/
abbrev c324 : ByteArray := prog_32_method_154_code
def l324_0 : List (Nat × Instr) := [(0, .getstatic 38), (3, .ifCond .eq 14), (6, .aload_n 0), (7, .getfield 15), (10, .ifCond .ne 7), (13, .iconst 1), (14, .goto 4), (17, .iconst 0), (18, .ireturn)]
theorem k324_0 : dck c324 l324_0 := by unfold dck; decide +kernel
/-! 325: java/lang/String.checkIndex(II)V -/
abbrev c325 : ByteArray := prog_32_method_155_code
def l325_0 : List (Nat × Instr) := [(0, .iload_n 0), (1, .iload_n 1), (2, .getstatic 1053), (5, .invokestatic 1059), (8, .pop), (9, .return_)]
theorem k325_0 : dck c325 l325_0 := by unfold dck; decide +kernel
/-! 326: java/lang/StringLatin1.charAt([BI)C -/
abbrev c326 : ByteArray := prog_33_method_2_code
def l326_0 : List (Nat × Instr) := [(0, .iload_n 1), (1, .aload_n 0), (2, .arraylength), (3, .invokestatic 9), (6, .aload_n 0), (7, .iload_n 1), (8, .baload), (9, .sipush 255), (12, .iand), (13, .i2c), (14, .ireturn)]
theorem k326_0 : dck c326 l326_0 := by unfold dck; decide +kernel
/-! 327: jdk/internal/util/Preconditions.checkIndex(IILjava/util/function/BiFunction;)I -/
abbrev c327 : ByteArray := prog_49_method_11_code
def l327_0 : List (Nat × Instr) := [(0, .iload_n 0), (1, .ifCond .lt 8), (4, .iload_n 0), (5, .iload_n 1), (6, .if_icmp .lt 10), (9, .aload_n 2), (10, .iload_n 0), (11, .iload_n 1), (12, .invokestatic 95), (15, .athrow), (16, .iload_n 0), (17, .ireturn)]
theorem k327_0 : dck c327 l327_0 := by unfold dck; decide +kernel
/-! 328: java/lang/StringUTF16.charAt([BI)C -/
abbrev c328 : ByteArray := prog_34_method_83_code
def l328_0 : List (Nat × Instr) := [(0, .iload_n 1), (1, .aload_n 0), (2, .invokestatic 67), (5, .aload_n 0), (6, .iload_n 1), (7, .invokestatic 71), (10, .ireturn)]
theorem k328_0 : dck c328 l328_0 := by unfold dck; decide +kernel
/-! 329: java/lang/StringUTF16.checkIndex(I[B)V -/
abbrev c329 : ByteArray := prog_34_method_91_code
def l329_0 : List (Nat × Instr) := [(0, .iload_n 0), (1, .aload_n 1), (2, .invokestatic 48), (5, .invokestatic 414), (8, .return_)]
theorem k329_0 : dck c329 l329_0 := by unfold dck; decide +kernel
/-! 330: java/lang/StringUTF16.length([B)I -/
abbrev c330 : ByteArray := prog_34_method_6_code
def l330_0 : List (Nat × Instr) := [(0, .aload_n 0), (1, .arraylength), (2, .iconst 1), (3, .ishr), (4, .ireturn)]
theorem k330_0 : dck c330 l330_0 := by unfold dck; decide +kernel
/-! 331: java/lang/StringUTF16.getChar([BI)C -/
abbrev c331 : ByteArray := prog_34_method_5_code
def l331_0 : List (Nat × Instr) := [(0, .getstatic 44), (3, .ifCond .ne 25), (6, .iload_n 1), (7, .ifCond .lt 11), (10, .iload_n 1), (11, .aload_n 0), (12, .invokestatic 48), (15, .if_icmp .lt 13), (18, .new 52), (21, .dup), (22, .ldc 54), (24, .invokespecial 56), (27, .athrow), (28, .iload_n 1), (29, .iconst 1), (30, .ishl), (31, .istore_n 1), (32, .aload_n 0), (33, .iload_n 1), (34, .iinc 1 1), (37, .baload), (38, .sipush 255), (41, .iand), (42, .getstatic 59), (45, .ishl), (46, .aload_n 0), (47, .iload_n 1), (48, .baload), (49, .sipush 255), (52, .iand), (53, .getstatic 63), (56, .ishl), (57, .ior), (58, .i2c), (59, .ireturn)]
theorem k331_0 : dck c331 l331_0 := by unfold dck; decide +kernel
/-! 332: java/lang/Math.min(II)I -/
abbrev c332 : ByteArray := prog_29_method_69_code
def l332_0 : List (Nat × Instr) := [(0, .iload_n 0), (1, .iload_n 1), (2, .if_icmp .gt 7), (5, .iload_n 0), (6, .goto 4), (9, .iload_n 1), (10, .ireturn)]
theorem k332_0 : dck c332 l332_0 := by unfold dck; decide +kernel
/-! 333: java/lang/Math.max(II)I -/
abbrev c333 : ByteArray := prog_29_method_65_code
def l333_0 : List (Nat × Instr) := [(0, .iload_n 0), (1, .iload_n 1), (2, .if_icmp .lt 7), (5, .iload_n 0), (6, .goto 4), (9, .iload_n 1), (10, .ireturn)]
theorem k333_0 : dck c333 l333_0 := by unfold dck; decide +kernel
/-! 334: java/lang/Math.min(JJ)J -/
abbrev c334 : ByteArray := prog_29_method_70_code
def l334_0 : List (Nat × Instr) := [(0, .lload_n 0), (1, .lload_n 2), (2, .lcmp), (3, .ifCond .gt 7), (6, .lload_n 0), (7, .goto 4), (10, .lload_n 2), (11, .lreturn)]
theorem k334_0 : dck c334 l334_0 := by unfold dck; decide +kernel
/-! 335: java/lang/Math.max(JJ)J -/
abbrev c335 : ByteArray := prog_29_method_66_code
def l335_0 : List (Nat × Instr) := [(0, .lload_n 0), (1, .lload_n 2), (2, .lcmp), (3, .ifCond .lt 7), (6, .lload_n 0), (7, .goto 4), (10, .lload_n 2), (11, .lreturn)]
theorem k335_0 : dck c335 l335_0 := by unfold dck; decide +kernel
/-! 336: java/lang/Throwable.<init>()V -/
abbrev c336 : ByteArray := prog_36_method_1_code
def l336_0 : List (Nat × Instr) := [(0, .aload_n 0), (1, .invokespecial 1), (4, .aload_n 0), (5, .aload_n 0), (6, .putfield 7), (9, .aload_n 0), (10, .getstatic 13), (13, .putfield 17), (16, .aload_n 0), (17, .getstatic 20), (20, .putfield 24), (23, .aload_n 0), (24, .invokevirtual 27), (27, .pop), (28, .return_)]
theorem k336_0 : dck c336 l336_0 := by unfold dck; decide +kernel
/-! 337: java/lang/Exception.<init>()V -/
abbrev c337 : ByteArray := prog_25_method_1_code
def l337_0 : List (Nat × Instr) := [(0, .aload_n 0), (1, .invokespecial 1), (4, .return_)]
theorem k337_0 : dck c337 l337_0 := by unfold dck; decide +kernel
/-! 338: DawnPerquisite$Wrong.<init>(II)V -/
abbrev c338 : ByteArray := prog_18_method_1_code
def l338_0 : List (Nat × Instr) := [(0, .aload_n 0), (1, .invokespecial 1), (4, .aload_n 0), (5, .iload_n 1), (6, .putfield 7), (9, .aload_n 0), (10, .iload_n 2), (11, .putfield 13), (14, .return_)]
theorem k338_0 : dck c338 l338_0 := by unfold dck; decide +kernel
/-! 339: DawnPerquisite$Chain.<init>(LDawnPerquisite$Sum;)V -/
abbrev c339 : ByteArray := prog_4_method_1_code
def l339_0 : List (Nat × Instr) := [(0, .aload_n 0), (1, .invokespecial 3), (4, .aload_n 0), (5, .new 9), (8, .dup), (9, .invokespecial 11), (12, .putfield 12), (15, .aload_n 0), (16, .new 9), (19, .dup), (20, .invokespecial 11), (23, .putfield 18), (26, .aload_n 0), (27, .aload_n 1), (28, .putfield 21), (31, .return_)]
theorem k339_0 : dck c339 l339_0 := by unfold dck; decide +kernel
/-! 340: DawnPerquisite$Chain.add(ILDawnPerquisite$Sum;)V -/
abbrev c340 : ByteArray := prog_4_method_2_code
def l340_0 : List (Nat × Instr) := [(0, .aload_n 0), (1, .getfield 18), (4, .iload_n 1), (5, .invokestatic 25), (8, .invokevirtual 31), (11, .pop), (12, .aload_n 0), (13, .getfield 12), (16, .aload_n 2), (17, .invokevirtual 31), (20, .pop), (21, .return_)]
theorem k340_0 : dck c340 l340_0 := by unfold dck; decide +kernel
/-! 341: DawnPerquisite$Chain.itself()LDawnPerquisite$Sum; -/
abbrev c341 : ByteArray := prog_4_method_3_code
def l341_0 : List (Nat × Instr) := [(0, .aload_n 0), (1, .getfield 12), (4, .invokevirtual 35), (7, .ifCond .eq 10), (10, .aload_n 0), (11, .getfield 21), (14, .goto 4), (17, .aload_n 0), (18, .areturn)]
theorem k341_0 : dck c341 l341_0 := by unfold dck; decide +kernel
/-! 342: DawnPerquisite$Chain.of([I)J -/
abbrev c342 : ByteArray := prog_4_method_4_code
def l342_0 : List (Nat × Instr) := [(0, .aload_n 0), (1, .getfield 21), (4, .aload_n 1), (5, .invokeinterface 39 2), (10, .lstore_n 2), (11, .iconst 0), (12, .istore 4), (14, .iload 4), (16, .aload_n 0), (17, .getfield 12), (20, .invokevirtual 45), (23, .if_icmp .ge 120), (26, .aload_n 0), (27, .getfield 12), (30, .iload 4), (32, .invokevirtual 49), (35, .checkcast 40), (38, .aload_n 1), (39, .invokeinterface 39 2), (44, .lstore 5), (46, .aload_n 0), (47, .getfield 18), (50, .iload 4), (52, .invokevirtual 49), (55, .checkcast 26), (58, .invokevirtual 53), (61, .istore 7), (63, .iload 7), (65, .bipush 43), (67, .if_icmp .ne 10), (70, .lload_n 2), (71, .lload 5), (73, .ladd), (74, .goto 46), (77, .iload 7), (79, .bipush 45), (81, .if_icmp .ne 10), (84, .lload_n 2), (85, .lload 5), (87, .lsub), (88, .goto 32), (91, .iload 7), (93, .bipush 42), (95, .if_icmp .ne 10), (98, .lload_n 2), (99, .lload 5), (101, .lmul), (102, .goto 18), (105, .lload 5), (107, .lconst 0), (108, .lcmp), (109, .ifCond .ne 7), (112, .lconst 0), (113, .goto 7), (116, .lload_n 2), (117, .lload 5), (119, .ldiv), (120, .lstore 8), (122, .ldc2_w 56), (125, .ldc2_w 58)]
theorem k342_0 : dck c342 l342_0 := by unfold dck; decide +kernel
def l342_1 : List (Nat × Instr) := [(128, .lload 8), (130, .invokestatic 60), (133, .invokestatic 66), (136, .lstore_n 2), (137, .iinc 4 1), (140, .goto (-126)), (143, .lload_n 2), (144, .lreturn)]
theorem k342_1 : dck c342 l342_1 := by unfold dck; decide +kernel
/-! 343: java/lang/Record.<init>()V -/
abbrev c343 : ByteArray := prog_31_method_1_code
def l343_0 : List (Nat × Instr) := [(0, .aload_n 0), (1, .invokespecial 1), (4, .return_)]
theorem k343_0 : dck c343 l343_0 := by unfold dck; decide +kernel
/-! 344: DawnPerquisite$Plain.<init>(I)V -/
abbrev c344 : ByteArray := prog_11_method_1_code
def l344_0 : List (Nat × Instr) := [(0, .aload_n 0), (1, .invokespecial 1), (4, .aload_n 0), (5, .iload_n 1), (6, .putfield 7), (9, .return_)]
theorem k344_0 : dck c344 l344_0 := by unfold dck; decide +kernel
/-! 345: DawnPerquisite$Plain.of([I)J -/
abbrev c345 : ByteArray := prog_11_method_2_code
def l345_0 : List (Nat × Instr) := [(0, .aload_n 0), (1, .getfield 7), (4, .i2l), (5, .lreturn)]
theorem k345_0 : dck c345 l345_0 := by unfold dck; decide +kernel
/-! 346: DawnPerquisite$Not.<init>(LDawnPerquisite$Asked;)V -/
abbrev c346 : ByteArray := prog_10_method_1_code
def l346_0 : List (Nat × Instr) := [(0, .aload_n 0), (1, .invokespecial 1), (4, .aload_n 0), (5, .aload_n 1), (6, .putfield 7), (9, .return_)]
theorem k346_0 : dck c346 l346_0 := by unfold dck; decide +kernel
/-! 347: DawnPerquisite$Not.is([I)Z -/
abbrev c347 : ByteArray := prog_10_method_2_code
def l347_0 : List (Nat × Instr) := [(0, .aload_n 0), (1, .getfield 7), (4, .aload_n 1), (5, .invokeinterface 13 2), (10, .ifCond .ne 7), (13, .iconst 1), (14, .goto 4), (17, .iconst 0), (18, .ireturn)]
theorem k347_0 : dck c347 l347_0 := by unfold dck; decide +kernel
/-! 348: DawnPerquisite$Compared.<init>(ILDawnPerquisite$Sum;LDawnPerquisite$Sum;)V -/
abbrev c348 : ByteArray := prog_5_method_1_code
def l348_0 : List (Nat × Instr) := [(0, .aload_n 0), (1, .invokespecial 1), (4, .aload_n 0), (5, .iload_n 1), (6, .putfield 7), (9, .aload_n 0), (10, .aload_n 2), (11, .putfield 13), (14, .aload_n 0), (15, .aload_n 3), (16, .putfield 17), (19, .return_)]
theorem k348_0 : dck c348 l348_0 := by unfold dck; decide +kernel
/-! 349: DawnPerquisite$Compared.is([I)Z -/
abbrev c349 : ByteArray := prog_5_method_2_code
def l349_0 : List (Nat × Instr) := [(0, .aload_n 0), (1, .getfield 13), (4, .aload_n 1), (5, .invokeinterface 20 2), (10, .aload_n 0), (11, .getfield 17), (14, .aload_n 1), (15, .invokeinterface 20 2), (20, .lsub), (21, .lstore_n 2), (22, .aload_n 0), (23, .getfield 7), (76, .lload_n 2), (77, .lconst 0), (78, .lcmp), (79, .ifCond .ge 7), (82, .iconst 1), (83, .goto 4), (86, .iconst 0), (87, .ireturn), (88, .lload_n 2), (89, .lconst 0), (90, .lcmp), (91, .ifCond .le 7), (94, .iconst 1), (95, .goto 4), (98, .iconst 0), (99, .ireturn), (100, .lload_n 2), (101, .lconst 0), (102, .lcmp), (103, .ifCond .ne 7), (106, .iconst 1), (107, .goto 4), (110, .iconst 0), (111, .ireturn), (112, .lload_n 2), (113, .lconst 0), (114, .lcmp), (115, .ifCond .eq 7), (118, .iconst 1), (119, .goto 4), (122, .iconst 0), (123, .ireturn), (124, .lload_n 2), (125, .lconst 0), (126, .lcmp), (127, .ifCond .gt 7), (130, .iconst 1), (131, .goto 4), (134, .iconst 0), (135, .ireturn), (136, .lload_n 2), (137, .lconst 0), (138, .lcmp), (139, .ifCond .lt 7), (142, .iconst 1), (143, .goto 4), (146, .iconst 0), (147, .ireturn)]
theorem k349_0 : dck c349 l349_0 := by unfold dck; decide +kernel
theorem w349_26 : decode c349 26 = .ok (.lookupswitch 110 #[(35, 86), (60, 50), (61, 74), (62, 62), (303, 98)], 50) := by decide +kernel
/-! 350: jdk/internal/util/ArraysSupport.newLength(III)I -/
abbrev c350 : ByteArray := prog_48_method_27_code
def l350_0 : List (Nat × Instr) := [(0, .iload_n 0), (1, .iload_n 1), (2, .iload_n 2), (3, .invokestatic 194), (6, .iadd), (7, .istore_n 3), (8, .iconst 0), (9, .iload_n 3), (10, .if_icmp .ge 11), (13, .iload_n 3), (14, .ldc 200), (16, .if_icmp .gt 5), (19, .iload_n 3), (20, .ireturn), (21, .iload_n 0), (22, .iload_n 1), (23, .invokestatic 201), (26, .ireturn)]
theorem k350_0 : dck c350 l350_0 := by unfold dck; decide +kernel
/-! 351: jdk/internal/util/ArraysSupport.hugeLength(II)I -/
abbrev c351 : ByteArray := prog_48_method_28_code
def l351_0 : List (Nat × Instr) := [(0, .iload_n 0), (1, .iload_n 1), (2, .iadd), (3, .istore_n 2), (4, .iload_n 2), (5, .ifCond .ge 44), (8, .new 204), (11, .dup), (12, .new 89), (15, .dup), (16, .invokespecial 91), (19, .ldc 206), (21, .invokevirtual 94), (24, .iload_n 0), (25, .invokevirtual 98), (28, .ldc 208), (30, .invokevirtual 94), (33, .iload_n 1), (34, .invokevirtual 98), (37, .ldc 210), (39, .invokevirtual 94), (42, .invokevirtual 101), (45, .invokespecial 212), (48, .athrow), (49, .iload_n 2), (50, .ldc 200), (52, .if_icmp .gt 6), (55, .ldc 200), (57, .ireturn), (58, .iload_n 2), (59, .ireturn)]
theorem k351_0 : dck c351 l351_0 := by unfold dck; decide +kernel
/-! 352: java/util/Objects.checkIndex(II)I -/
abbrev c352 : ByteArray := prog_45_method_17_code
def l352_0 : List (Nat × Instr) := [(0, .iload_n 0), (1, .iload_n 1), (2, .aconst_null), (3, .invokestatic 105), (6, .ireturn)]
theorem k352_0 : dck c352 l352_0 := by unfold dck; decide +kernel
/-! 353: DawnPerquisite$All.<init>(ZLjava/util/ArrayList;)V -/
abbrev c353 : ByteArray := prog_2_method_1_code
def l353_0 : List (Nat × Instr) := [(0, .aload_n 0), (1, .invokespecial 1), (4, .aload_n 0), (5, .iload_n 1), (6, .putfield 7), (9, .aload_n 0), (10, .aload_n 2), (11, .putfield 13), (14, .return_)]
theorem k353_0 : dck c353 l353_0 := by unfold dck; decide +kernel
/-! 354: DawnPerquisite$All.is([I)Z -/
abbrev c354 : ByteArray := prog_2_method_2_code
def l354_0 : List (Nat × Instr) := [(0, .iconst 0), (1, .istore_n 2), (2, .iconst 0), (3, .istore_n 3), (4, .iload_n 3), (5, .aload_n 0), (6, .getfield 13), (9, .invokevirtual 17), (12, .if_icmp .ge 37), (15, .iload_n 2), (16, .aload_n 0), (17, .getfield 13), (20, .iload_n 3), (21, .invokevirtual 23), (24, .checkcast 27), (27, .aload_n 1), (28, .invokeinterface 29 2), (33, .ifCond .eq 7), (36, .iconst 1), (37, .goto 4), (40, .iconst 0), (41, .iadd), (42, .istore_n 2), (43, .iinc 3 1), (46, .goto (-42)), (49, .aload_n 0), (50, .getfield 7), (53, .ifCond .eq 22), (56, .iload_n 2), (57, .aload_n 0), (58, .getfield 13), (61, .invokevirtual 17), (64, .if_icmp .ne 7), (67, .iconst 1), (68, .goto 16), (71, .iconst 0), (72, .goto 12), (75, .iload_n 2), (76, .ifCond .le 7), (79, .iconst 1), (80, .goto 4), (83, .iconst 0), (84, .ireturn)]
theorem k354_0 : dck c354 l354_0 := by unfold dck; decide +kernel
/-! 355: DawnPerquisite$If.<init>(LDawnPerquisite$Asked;LDawnPerquisite$Sum;LDawnPerquisite$Sum;)V -/
abbrev c355 : ByteArray := prog_7_method_1_code
def l355_0 : List (Nat × Instr) := [(0, .aload_n 0), (1, .invokespecial 1), (4, .aload_n 0), (5, .aload_n 1), (6, .putfield 7), (9, .aload_n 0), (10, .aload_n 2), (11, .putfield 13), (14, .aload_n 0), (15, .aload_n 3), (16, .putfield 17), (19, .return_)]
theorem k355_0 : dck c355 l355_0 := by unfold dck; decide +kernel
/-! 356: DawnPerquisite$If.of([I)J -/
abbrev c356 : ByteArray := prog_7_method_2_code
def l356_0 : List (Nat × Instr) := [(0, .aload_n 0), (1, .getfield 7), (4, .aload_n 1), (5, .invokeinterface 20 2), (10, .ifCond .eq 16), (13, .aload_n 0), (14, .getfield 13), (17, .aload_n 1), (18, .invokeinterface 26 2), (23, .goto 13), (26, .aload_n 0), (27, .getfield 17), (30, .aload_n 1), (31, .invokeinterface 26 2), (36, .lreturn)]
theorem k356_0 : dck c356 l356_0 := by unfold dck; decide +kernel
/-! 357: DawnPerquisite$Name.<init>(I)V -/
abbrev c357 : ByteArray := prog_9_method_1_code
def l357_0 : List (Nat × Instr) := [(0, .aload_n 0), (1, .invokespecial 1), (4, .aload_n 0), (5, .iload_n 1), (6, .putfield 7), (9, .return_)]
theorem k357_0 : dck c357 l357_0 := by unfold dck; decide +kernel
/-! 358: DawnPerquisite$Name.of([I)J -/
abbrev c358 : ByteArray := prog_9_method_2_code
def l358_0 : List (Nat × Instr) := [(0, .aload_n 1), (1, .aload_n 0), (2, .getfield 7), (5, .iaload), (6, .i2l), (7, .lreturn)]
theorem k358_0 : dck c358 l358_0 := by unfold dck; decide +kernel
/-! 359: DawnPerquisite$Worth.<init>(LDawnPerquisite$Sum;)V -/
abbrev c359 : ByteArray := prog_17_method_1_code
def l359_0 : List (Nat × Instr) := [(0, .aload_n 0), (1, .invokespecial 3), (4, .aload_n 0), (5, .aload_n 1), (6, .putfield 9), (9, .return_)]
theorem k359_0 : dck c359 l359_0 := by unfold dck; decide +kernel
/-! 360: DawnPerquisite$Worth.of([I)J -/
abbrev c360 : ByteArray := prog_17_method_2_code
def l360_0 : List (Nat × Instr) := [(0, .aload_n 0), (1, .getfield 9), (4, .aload_n 1), (5, .invokeinterface 15 2), (10, .lstore_n 2), (11, .lload_n 2), (12, .lconst 0), (13, .lcmp), (14, .ifCond .lt 11), (17, .lload_n 2), (18, .ldc2_w 21), (21, .lcmp), (22, .ifCond .lt 7), (25, .lconst 0), (26, .goto 11), (29, .aload_n 1), (30, .bipush 8), (32, .lload_n 2), (33, .l2i), (34, .iadd), (35, .iaload), (36, .i2l), (37, .lreturn)]
theorem k360_0 : dck c360 l360_0 := by unfold dck; decide +kernel
/-! 361: DawnPerquisite$Purse.<init>(LDawnPerquisite$Sum;)V -/
abbrev c361 : ByteArray := prog_12_method_1_code
def l361_0 : List (Nat × Instr) := [(0, .aload_n 0), (1, .invokespecial 3), (4, .aload_n 0), (5, .aload_n 1), (6, .putfield 9), (9, .return_)]
theorem k361_0 : dck c361 l361_0 := by unfold dck; decide +kernel
/-! 362: DawnPerquisite$Purse.of([I)J -/
abbrev c362 : ByteArray := prog_12_method_2_code
def l362_0 : List (Nat × Instr) := [(0, .aload_n 0), (1, .getfield 9), (4, .aload_n 1), (5, .invokeinterface 15 2), (10, .lstore_n 2), (11, .lload_n 2), (12, .lconst 0), (13, .lcmp), (14, .ifCond .lt 11), (17, .lload_n 2), (18, .ldc2_w 21), (21, .lcmp), (22, .ifCond .lt 7), (25, .lconst 0), (26, .goto 11), (29, .aload_n 1), (30, .bipush 13), (32, .lload_n 2), (33, .l2i), (34, .iadd), (35, .iaload), (36, .i2l), (37, .lreturn)]
theorem k362_0 : dck c362 l362_0 := by unfold dck; decide +kernel
/-! 363: DawnPerquisite$Minus.<init>(LDawnPerquisite$Sum;)V -/
abbrev c363 : ByteArray := prog_8_method_1_code
def l363_0 : List (Nat × Instr) := [(0, .aload_n 0), (1, .invokespecial 1), (4, .aload_n 0), (5, .aload_n 1), (6, .putfield 7), (9, .return_)]
theorem k363_0 : dck c363 l363_0 := by unfold dck; decide +kernel
/-! 364: DawnPerquisite$Minus.of([I)J -/
abbrev c364 : ByteArray := prog_8_method_2_code
def l364_0 : List (Nat × Instr) := [(0, .aload_n 0), (1, .getfield 7), (4, .aload_n 1), (5, .invokeinterface 13 2), (10, .lneg), (11, .lreturn)]
theorem k364_0 : dck c364 l364_0 := by unfold dck; decide +kernel
/-! 365: java/lang/Number.<init>()V -/
abbrev c365 : ByteArray := prog_30_method_1_code
def l365_0 : List (Nat × Instr) := [(0, .aload_n 0), (1, .invokespecial 1), (4, .return_)]
theorem k365_0 : dck c365 l365_0 := by unfold dck; decide +kernel
/-! 366: java/lang/Integer.valueOf(I)Ljava/lang/Integer; -/
abbrev c366 : ByteArray := prog_26_method_22_code
def l366_0 : List (Nat × Instr) := [(0, .iload_n 0), (1, .bipush (-128)), (3, .if_icmp .lt 20), (6, .iload_n 0), (7, .getstatic 191), (10, .if_icmp .gt 13), (13, .getstatic 195), (16, .iload_n 0), (17, .sipush 128), (20, .iadd), (21, .aaload), (22, .areturn), (23, .new 1), (26, .dup), (27, .iload_n 0), (28, .invokespecial 199), (31, .areturn)]
theorem k366_0 : dck c366 l366_0 := by unfold dck; decide +kernel
/-! 367: java/lang/Integer.<init>(I)V -/
abbrev c367 : ByteArray := prog_26_method_23_code
def l367_0 : List (Nat × Instr) := [(0, .aload_n 0), (1, .invokespecial 202), (4, .aload_n 0), (5, .iload_n 1), (6, .putfield 205), (9, .return_)]
theorem k367_0 : dck c367 l367_0 := by unfold dck; decide +kernel
/-! 368: java/lang/Integer.bitCount(I)I -/
abbrev c368 : ByteArray := prog_26_method_49_code
def l368_0 : List (Nat × Instr) := [(0, .iload_n 0), (1, .iload_n 0), (2, .iconst 1), (3, .iushr), (4, .ldc_w 265), (7, .iand), (8, .isub), (9, .istore_n 0), (10, .iload_n 0), (11, .ldc_w 266), (14, .iand), (15, .iload_n 0), (16, .iconst 2), (17, .iushr), (18, .ldc_w 266), (21, .iand), (22, .iadd), (23, .istore_n 0), (24, .iload_n 0), (25, .iload_n 0), (26, .iconst 4), (27, .iushr), (28, .iadd), (29, .ldc_w 267), (32, .iand), (33, .istore_n 0), (34, .iload_n 0), (35, .iload_n 0), (36, .bipush 8), (38, .iushr), (39, .iadd), (40, .istore_n 0), (41, .iload_n 0), (42, .iload_n 0), (43, .bipush 16), (45, .iushr), (46, .iadd), (47, .istore_n 0), (48, .iload_n 0), (49, .bipush 63), (51, .iand), (52, .ireturn)]
theorem k368_0 : dck c368 l368_0 := by unfold dck; decide +kernel
/-! 369: java/lang/Integer.intValue()I -/
abbrev c369 : ByteArray := prog_26_method_27_code
def l369_0 : List (Nat × Instr) := [(0, .aload_n 0), (1, .getfield 205), (4, .ireturn)]
theorem k369_0 : dck c369 l369_0 := by unfold dck; decide +kernel
/-! 370: DawnPerquisite$Doing.<init>(IIII)V -/
abbrev c370 : ByteArray := prog_6_method_1_code
def l370_0 : List (Nat × Instr) := [(0, .aload_n 0), (1, .invokespecial 1), (4, .aload_n 0), (5, .iload_n 1), (6, .putfield 7), (9, .aload_n 0), (10, .iload_n 2), (11, .putfield 13), (14, .aload_n 0), (15, .iload_n 3), (16, .putfield 16), (19, .aload_n 0), (20, .iload 4), (22, .putfield 19), (25, .return_)]
theorem k370_0 : dck c370 l370_0 := by unfold dck; decide +kernel
/-! 371: DawnPerquisite$Doing.sort()I -/
abbrev c371 : ByteArray := prog_6_method_5_code
def l371_0 : List (Nat × Instr) := [(0, .aload_n 0), (1, .getfield 7), (4, .ireturn)]
theorem k371_0 : dck c371 l371_0 := by unfold dck; decide +kernel
/-! 372: DawnPerquisite$Doing.a()I -/
abbrev c372 : ByteArray := prog_6_method_6_code
def l372_0 : List (Nat × Instr) := [(0, .aload_n 0), (1, .getfield 13), (4, .ireturn)]
theorem k372_0 : dck c372 l372_0 := by unfold dck; decide +kernel
/-! 373: DawnPerquisite$Doing.b()I -/
abbrev c373 : ByteArray := prog_6_method_7_code
def l373_0 : List (Nat × Instr) := [(0, .aload_n 0), (1, .getfield 16), (4, .ireturn)]
theorem k373_0 : dck c373 l373_0 := by unfold dck; decide +kernel
/-! 374: DawnPerquisite$Doing.number()I -/
abbrev c374 : ByteArray := prog_6_method_8_code
def l374_0 : List (Nat × Instr) := [(0, .aload_n 0), (1, .getfield 19), (4, .ireturn)]
theorem k374_0 : dck c374 l374_0 := by unfold dck; decide +kernel
/-! 375: java/lang/Object.<init>()V -/
abbrev c375 : ByteArray := object_method_1_code
def l375_0 : List (Nat × Instr) := [(0, .return_)]
theorem k375_0 : dck c375 l375_0 := by unfold dck; decide +kernel
/-! 376: DawnPerquisiteLaw.law([I)Z -/
abbrev c376 : ByteArray := code
def l376_0 : List (Nat × Instr) := [(0, .new 7), (3, .dup), (4, .invokespecial 9), (7, .astore_n 1), (8, .new 10), (11, .dup), (12, .invokespecial 12), (15, .astore_n 2), (16, .iconst 0), (17, .istore_n 3), (18, .iload_n 3), (19, .aload_n 0), (20, .arraylength), (21, .bipush 6), (23, .isub), (24, .if_icmp .gt 1898), (27, .aload_n 0), (28, .iload_n 3), (29, .iaload), (30, .bipush 63), (32, .iand), (276, .aload_n 1), (277, .aload_n 0), (278, .iload_n 3), (279, .iconst 1), (280, .iadd), (281, .iaload), (282, .aload_n 0), (283, .iload_n 3), (284, .iconst 2), (285, .iadd), (286, .iaload), (287, .aload_n 0), (288, .iload_n 3), (289, .iconst 3), (290, .iadd), (291, .iaload), (292, .invokevirtual 13), (295, .aload_n 2), (296, .aload_n 0), (297, .iload_n 3), (298, .iconst 1), (299, .iadd), (300, .iaload), (301, .aload_n 0), (302, .iload_n 3), (303, .iconst 2), (304, .iadd), (305, .iaload), (306, .aload_n 0), (307, .iload_n 3), (308, .iconst 3), (309, .iadd), (310, .iaload), (311, .invokevirtual 17), (314, .if_icmp .eq 1602), (317, .iconst 0), (318, .ireturn), (319, .aload_n 1), (320, .aload_n 0)]
theorem k376_0 : dck c376 l376_0 := by unfold dck; decide +kernel
def l376_1 : List (Nat × Instr) := [(321, .iload_n 3), (322, .iconst 1), (323, .iadd), (324, .iaload), (325, .aload_n 0), (326, .iload_n 3), (327, .iconst 2), (328, .iadd), (329, .iaload), (330, .aload_n 0), (331, .iload_n 3), (332, .iconst 3), (333, .iadd), (334, .iaload), (335, .aload_n 0), (336, .iload_n 3), (337, .iconst 4), (338, .iadd), (339, .iaload), (340, .invokevirtual 18), (343, .aload_n 2), (344, .aload_n 0), (345, .iload_n 3), (346, .iconst 1), (347, .iadd), (348, .iaload), (349, .aload_n 0), (350, .iload_n 3), (351, .iconst 2), (352, .iadd), (353, .iaload), (354, .aload_n 0), (355, .iload_n 3), (356, .iconst 3), (357, .iadd), (358, .iaload), (359, .aload_n 0), (360, .iload_n 3), (361, .iconst 4), (362, .iadd), (363, .iaload), (364, .invokevirtual 22), (367, .if_icmp .eq 1549), (370, .iconst 0), (371, .ireturn), (372, .aload_n 1), (373, .aload_n 0), (374, .iload_n 3), (375, .iconst 1), (376, .iadd), (377, .iaload), (378, .aload_n 0), (379, .iload_n 3), (380, .iconst 2), (381, .iadd), (382, .iaload), (383, .aload_n 0), (384, .iload_n 3), (385, .iconst 3), (386, .iadd)]
theorem k376_1 : dck c376 l376_1 := by unfold dck; decide +kernel
def l376_2 : List (Nat × Instr) := [(387, .iaload), (388, .aload_n 0), (389, .iload_n 3), (390, .iconst 4), (391, .iadd), (392, .iaload), (393, .aload_n 0), (394, .iload_n 3), (395, .iconst 5), (396, .iadd), (397, .iaload), (398, .invokevirtual 23), (401, .aload_n 2), (402, .aload_n 0), (403, .iload_n 3), (404, .iconst 1), (405, .iadd), (406, .iaload), (407, .aload_n 0), (408, .iload_n 3), (409, .iconst 2), (410, .iadd), (411, .iaload), (412, .aload_n 0), (413, .iload_n 3), (414, .iconst 3), (415, .iadd), (416, .iaload), (417, .aload_n 0), (418, .iload_n 3), (419, .iconst 4), (420, .iadd), (421, .iaload), (422, .aload_n 0), (423, .iload_n 3), (424, .iconst 5), (425, .iadd), (426, .iaload), (427, .invokevirtual 27), (430, .if_icmp .eq 1486), (433, .iconst 0), (434, .ireturn), (435, .aload_n 1), (436, .aload_n 0), (437, .iload_n 3), (438, .iconst 1), (439, .iadd), (440, .iaload), (441, .invokevirtual 28), (444, .aload_n 2), (445, .aload_n 0), (446, .iload_n 3), (447, .iconst 1), (448, .iadd), (449, .iaload), (450, .invokevirtual 32), (453, .if_icmp .eq 1463), (456, .iconst 0), (457, .ireturn), (458, .aload_n 1)]
theorem k376_2 : dck c376 l376_2 := by unfold dck; decide +kernel
def l376_3 : List (Nat × Instr) := [(459, .invokevirtual 33), (462, .aload_n 2), (463, .invokevirtual 37), (466, .if_icmp .eq 1450), (469, .iconst 0), (470, .ireturn), (471, .aload_n 1), (472, .aload_n 0), (473, .iload_n 3), (474, .iconst 1), (475, .iadd), (476, .iaload), (477, .invokevirtual 38), (480, .aload_n 2), (481, .aload_n 0), (482, .iload_n 3), (483, .iconst 1), (484, .iadd), (485, .iaload), (486, .invokevirtual 41), (489, .if_icmp .eq 1427), (492, .iconst 0), (493, .ireturn), (494, .aload_n 1), (495, .aload_n 0), (496, .iload_n 3), (497, .iconst 1), (498, .iadd), (499, .iaload), (500, .invokevirtual 42), (503, .aload_n 2), (504, .aload_n 0), (505, .iload_n 3), (506, .iconst 1), (507, .iadd), (508, .iaload), (509, .invokevirtual 46), (512, .if_icmp .eq 1404), (515, .iconst 0), (516, .ireturn), (517, .aload_n 1), (518, .aload_n 0), (519, .iload_n 3), (520, .iconst 1), (521, .iadd), (522, .iaload), (523, .invokevirtual 47), (526, .aload_n 2), (527, .aload_n 0), (528, .iload_n 3), (529, .iconst 1), (530, .iadd), (531, .iaload), (532, .invokevirtual 50), (535, .if_icmp .eq 1381), (538, .iconst 0), (539, .ireturn), (540, .aload_n 1), (541, .aload_n 0), (542, .iload_n 3)]
theorem k376_3 : dck c376 l376_3 := by unfold dck; decide +kernel
def l376_4 : List (Nat × Instr) := [(543, .iconst 1), (544, .iadd), (545, .iaload), (546, .invokevirtual 51), (549, .aload_n 2), (550, .aload_n 0), (551, .iload_n 3), (552, .iconst 1), (553, .iadd), (554, .iaload), (555, .invokevirtual 54), (558, .if_icmp .eq 1358), (561, .iconst 0), (562, .ireturn), (563, .aload_n 1), (564, .aload_n 0), (565, .iload_n 3), (566, .iconst 1), (567, .iadd), (568, .iaload), (569, .invokevirtual 55), (572, .aload_n 2), (573, .aload_n 0), (574, .iload_n 3), (575, .iconst 1), (576, .iadd), (577, .iaload), (578, .invokevirtual 58), (581, .if_icmp .eq 1335), (584, .iconst 0), (585, .ireturn), (586, .aload_n 1), (587, .aload_n 0), (588, .iload_n 3), (589, .iconst 1), (590, .iadd), (591, .iaload), (592, .aload_n 0), (593, .iload_n 3), (594, .iconst 2), (595, .iadd), (596, .iaload), (597, .invokevirtual 59), (600, .aload_n 2), (601, .aload_n 0), (602, .iload_n 3), (603, .iconst 1), (604, .iadd), (605, .iaload), (606, .aload_n 0), (607, .iload_n 3), (608, .iconst 2), (609, .iadd), (610, .iaload), (611, .invokevirtual 63), (614, .if_icmp .eq 1302), (617, .iconst 0), (618, .ireturn), (619, .aload_n 1), (620, .aload_n 0)]
theorem k376_4 : dck c376 l376_4 := by unfold dck; decide +kernel
def l376_5 : List (Nat × Instr) := [(621, .iload_n 3), (622, .iconst 1), (623, .iadd), (624, .iaload), (625, .invokevirtual 64), (628, .aload_n 2), (629, .aload_n 0), (630, .iload_n 3), (631, .iconst 1), (632, .iadd), (633, .iaload), (634, .invokevirtual 67), (637, .if_icmp .eq 1279), (640, .iconst 0), (641, .ireturn), (642, .aload_n 1), (643, .aload_n 0), (644, .iload_n 3), (645, .iconst 1), (646, .iadd), (647, .iaload), (648, .invokevirtual 68), (651, .aload_n 2), (652, .aload_n 0), (653, .iload_n 3), (654, .iconst 1), (655, .iadd), (656, .iaload), (657, .invokevirtual 71), (660, .if_icmp .eq 1256), (663, .iconst 0), (664, .ireturn), (665, .aload_n 1), (666, .aload_n 0), (667, .iload_n 3), (668, .iconst 1), (669, .iadd), (670, .iaload), (671, .aload_n 0), (672, .iload_n 3), (673, .iconst 2), (674, .iadd), (675, .iaload), (676, .invokevirtual 72), (679, .aload_n 2), (680, .aload_n 0), (681, .iload_n 3), (682, .iconst 1), (683, .iadd), (684, .iaload), (685, .aload_n 0), (686, .iload_n 3), (687, .iconst 2), (688, .iadd), (689, .iaload), (690, .invokevirtual 75), (693, .if_icmp .eq 1223), (696, .iconst 0), (697, .ireturn), (698, .aload_n 1)]
theorem k376_5 : dck c376 l376_5 := by unfold dck; decide +kernel
def l376_6 : List (Nat × Instr) := [(699, .invokevirtual 76), (702, .aload_n 2), (703, .invokevirtual 79), (706, .if_icmp .eq 1210), (709, .iconst 0), (710, .ireturn), (711, .aload_n 1), (712, .aload_n 0), (713, .iload_n 3), (714, .iconst 1), (715, .iadd), (716, .iaload), (717, .aload_n 0), (718, .iload_n 3), (719, .iconst 2), (720, .iadd), (721, .iaload), (722, .invokevirtual 80), (725, .aload_n 2), (726, .aload_n 0), (727, .iload_n 3), (728, .iconst 1), (729, .iadd), (730, .iaload), (731, .aload_n 0), (732, .iload_n 3), (733, .iconst 2), (734, .iadd), (735, .iaload), (736, .invokevirtual 83), (739, .if_icmp .eq 1177), (742, .iconst 0), (743, .ireturn), (744, .aload_n 1), (745, .aload_n 0), (746, .iload_n 3), (747, .iconst 1), (748, .iadd), (749, .iaload), (750, .aload_n 0), (751, .iload_n 3), (752, .iconst 2), (753, .iadd), (754, .iaload), (755, .invokevirtual 84), (758, .aload_n 2), (759, .aload_n 0), (760, .iload_n 3), (761, .iconst 1), (762, .iadd), (763, .iaload), (764, .aload_n 0), (765, .iload_n 3), (766, .iconst 2), (767, .iadd), (768, .iaload), (769, .invokevirtual 87), (772, .if_icmp .eq 1144), (775, .iconst 0), (776, .ireturn)]
theorem k376_6 : dck c376 l376_6 := by unfold dck; decide +kernel
def l376_7 : List (Nat × Instr) := [(777, .aload_n 1), (778, .aload_n 0), (779, .iload_n 3), (780, .iconst 1), (781, .iadd), (782, .iaload), (783, .invokevirtual 88), (786, .aload_n 2), (787, .aload_n 0), (788, .iload_n 3), (789, .iconst 1), (790, .iadd), (791, .iaload), (792, .invokevirtual 91), (795, .if_icmp .eq 1121), (798, .iconst 0), (799, .ireturn), (800, .aload_n 1), (801, .aload_n 0), (802, .iload_n 3), (803, .iconst 1), (804, .iadd), (805, .iaload), (806, .invokevirtual 92), (809, .aload_n 2), (810, .aload_n 0), (811, .iload_n 3), (812, .iconst 1), (813, .iadd), (814, .iaload), (815, .invokevirtual 95), (818, .if_icmp .eq 1098), (821, .iconst 0), (822, .ireturn), (823, .aload_n 1), (824, .aload_n 0), (825, .iload_n 3), (826, .iconst 1), (827, .iadd), (828, .iaload), (829, .aload_n 0), (830, .iload_n 3), (831, .iconst 2), (832, .iadd), (833, .iaload), (834, .invokevirtual 96), (837, .aload_n 2), (838, .aload_n 0), (839, .iload_n 3), (840, .iconst 1), (841, .iadd), (842, .iaload), (843, .aload_n 0), (844, .iload_n 3), (845, .iconst 2), (846, .iadd), (847, .iaload), (848, .invokevirtual 99), (851, .if_icmp .eq 1065), (854, .iconst 0)]
theorem k376_7 : dck c376 l376_7 := by unfold dck; decide +kernel
def l376_8 : List (Nat × Instr) := [(855, .ireturn), (856, .aload_n 1), (857, .aload_n 0), (858, .iload_n 3), (859, .iconst 1), (860, .iadd), (861, .iaload), (862, .aload_n 0), (863, .iload_n 3), (864, .iconst 2), (865, .iadd), (866, .iaload), (867, .invokevirtual 100), (870, .aload_n 2), (871, .aload_n 0), (872, .iload_n 3), (873, .iconst 1), (874, .iadd), (875, .iaload), (876, .aload_n 0), (877, .iload_n 3), (878, .iconst 2), (879, .iadd), (880, .iaload), (881, .invokevirtual 103), (884, .if_icmp .eq 1032), (887, .iconst 0), (888, .ireturn), (889, .aload_n 1), (890, .aload_n 0), (891, .iload_n 3), (892, .iconst 1), (893, .iadd), (894, .iaload), (895, .aload_n 0), (896, .iload_n 3), (897, .iconst 2), (898, .iadd), (899, .iaload), (900, .ifCond .eq 7), (903, .iconst 1), (904, .goto 4), (907, .iconst 0), (908, .invokevirtual 104), (911, .aload_n 2), (912, .aload_n 0), (913, .iload_n 3), (914, .iconst 1), (915, .iadd), (916, .iaload), (917, .aload_n 0), (918, .iload_n 3), (919, .iconst 2), (920, .iadd), (921, .iaload), (922, .ifCond .eq 7), (925, .iconst 1), (926, .goto 4), (929, .iconst 0), (930, .invokevirtual 108)]
theorem k376_8 : dck c376 l376_8 := by unfold dck; decide +kernel
def l376_9 : List (Nat × Instr) := [(933, .if_icmp .eq 983), (936, .iconst 0), (937, .ireturn), (938, .aload_n 1), (939, .aload_n 0), (940, .iload_n 3), (941, .iconst 1), (942, .iadd), (943, .iaload), (944, .aload_n 0), (945, .iload_n 3), (946, .iconst 2), (947, .iadd), (948, .iaload), (949, .invokevirtual 109), (952, .aload_n 2), (953, .aload_n 0), (954, .iload_n 3), (955, .iconst 1), (956, .iadd), (957, .iaload), (958, .aload_n 0), (959, .iload_n 3), (960, .iconst 2), (961, .iadd), (962, .iaload), (963, .invokevirtual 112), (966, .if_icmp .eq 950), (969, .iconst 0), (970, .ireturn), (971, .aload_n 1), (972, .aload_n 0), (973, .iload_n 3), (974, .iconst 1), (975, .iadd), (976, .iaload), (977, .aload_n 0), (978, .iload_n 3), (979, .iconst 2), (980, .iadd), (981, .iaload), (982, .ifCond .eq 7), (985, .iconst 1), (986, .goto 4), (989, .iconst 0), (990, .invokevirtual 113), (993, .aload_n 2), (994, .aload_n 0), (995, .iload_n 3), (996, .iconst 1), (997, .iadd), (998, .iaload), (999, .aload_n 0), (1000, .iload_n 3), (1001, .iconst 2), (1002, .iadd), (1003, .iaload), (1004, .ifCond .eq 7), (1007, .iconst 1), (1008, .goto 4)]
theorem k376_9 : dck c376 l376_9 := by unfold dck; decide +kernel
def l376_10 : List (Nat × Instr) := [(1011, .iconst 0), (1012, .invokevirtual 117), (1015, .lcmp), (1016, .ifCond .eq 900), (1019, .iconst 0), (1020, .ireturn), (1021, .aload_n 1), (1022, .aload_n 0), (1023, .iload_n 3), (1024, .iconst 1), (1025, .iadd), (1026, .iaload), (1027, .invokevirtual 118), (1030, .aload_n 2), (1031, .aload_n 0), (1032, .iload_n 3), (1033, .iconst 1), (1034, .iadd), (1035, .iaload), (1036, .invokevirtual 121), (1039, .if_icmp .eq 877), (1042, .iconst 0), (1043, .ireturn), (1044, .aload_n 1), (1045, .aload_n 0), (1046, .iload_n 3), (1047, .iconst 1), (1048, .iadd), (1049, .iaload), (1050, .aload_n 0), (1051, .iload_n 3), (1052, .iconst 2), (1053, .iadd), (1054, .iaload), (1055, .ifCond .eq 7), (1058, .iconst 1), (1059, .goto 4), (1062, .iconst 0), (1063, .invokevirtual 122), (1066, .aload_n 2), (1067, .aload_n 0), (1068, .iload_n 3), (1069, .iconst 1), (1070, .iadd), (1071, .iaload), (1072, .aload_n 0), (1073, .iload_n 3), (1074, .iconst 2), (1075, .iadd), (1076, .iaload), (1077, .ifCond .eq 7), (1080, .iconst 1), (1081, .goto 4), (1084, .iconst 0), (1085, .invokevirtual 125), (1088, .lcmp), (1089, .ifCond .eq 827), (1092, .iconst 0), (1093, .ireturn), (1094, .aload_n 1)]
theorem k376_10 : dck c376 l376_10 := by unfold dck; decide +kernel
def l376_11 : List (Nat × Instr) := [(1095, .aload_n 0), (1096, .iload_n 3), (1097, .iconst 1), (1098, .iadd), (1099, .iaload), (1100, .invokevirtual 126), (1103, .aload_n 2), (1104, .aload_n 0), (1105, .iload_n 3), (1106, .iconst 1), (1107, .iadd), (1108, .iaload), (1109, .invokevirtual 129), (1112, .if_icmp .eq 804), (1115, .iconst 0), (1116, .ireturn), (1117, .aload_n 1), (1118, .aload_n 0), (1119, .iload_n 3), (1120, .iconst 1), (1121, .iadd), (1122, .iaload), (1123, .aload_n 0), (1124, .iload_n 3), (1125, .iconst 2), (1126, .iadd), (1127, .iaload), (1128, .ifCond .eq 7), (1131, .iconst 1), (1132, .goto 4), (1135, .iconst 0), (1136, .invokevirtual 130), (1139, .aload_n 2), (1140, .aload_n 0), (1141, .iload_n 3), (1142, .iconst 1), (1143, .iadd), (1144, .iaload), (1145, .aload_n 0), (1146, .iload_n 3), (1147, .iconst 2), (1148, .iadd), (1149, .iaload), (1150, .ifCond .eq 7), (1153, .iconst 1), (1154, .goto 4), (1157, .iconst 0), (1158, .invokevirtual 133), (1161, .if_icmp .eq 755), (1164, .iconst 0), (1165, .ireturn), (1166, .aload_n 1), (1167, .invokevirtual 134), (1170, .aload_n 2), (1171, .invokevirtual 137), (1174, .if_icmp .eq 742), (1177, .iconst 0), (1178, .ireturn), (1179, .aload_n 1), (1180, .aload_n 0)]
theorem k376_11 : dck c376 l376_11 := by unfold dck; decide +kernel
def l376_12 : List (Nat × Instr) := [(1181, .iload_n 3), (1182, .iconst 1), (1183, .iadd), (1184, .iaload), (1185, .ifCond .eq 7), (1188, .iconst 1), (1189, .goto 4), (1192, .iconst 0), (1193, .invokevirtual 138), (1196, .aload_n 2), (1197, .aload_n 0), (1198, .iload_n 3), (1199, .iconst 1), (1200, .iadd), (1201, .iaload), (1202, .ifCond .eq 7), (1205, .iconst 1), (1206, .goto 4), (1209, .iconst 0), (1210, .invokevirtual 142), (1213, .lcmp), (1214, .ifCond .eq 702), (1217, .iconst 0), (1218, .ireturn), (1219, .aload_n 1), (1220, .invokevirtual 143), (1223, .aload_n 2), (1224, .invokevirtual 146), (1227, .if_icmp .eq 689), (1230, .iconst 0), (1231, .ireturn), (1232, .aload_n 1), (1233, .invokevirtual 147), (1236, .aload_n 2), (1237, .invokevirtual 150), (1240, .if_icmp .eq 676), (1243, .iconst 0), (1244, .ireturn), (1245, .aload_n 1), (1246, .aload_n 0), (1247, .iload_n 3), (1248, .iconst 1), (1249, .iadd), (1250, .iaload), (1251, .aload_n 0), (1252, .iload_n 3), (1253, .iconst 2), (1254, .iadd), (1255, .iaload), (1256, .invokevirtual 151), (1259, .aload_n 2), (1260, .aload_n 0), (1261, .iload_n 3), (1262, .iconst 1), (1263, .iadd), (1264, .iaload), (1265, .aload_n 0), (1266, .iload_n 3), (1267, .iconst 2), (1268, .iadd)]
theorem k376_12 : dck c376 l376_12 := by unfold dck; decide +kernel
def l376_13 : List (Nat × Instr) := [(1269, .iaload), (1270, .invokevirtual 154), (1273, .if_icmp .eq 643), (1276, .iconst 0), (1277, .ireturn), (1278, .aload_n 1), (1279, .aload_n 0), (1280, .iload_n 3), (1281, .iconst 1), (1282, .iadd), (1283, .iaload), (1284, .ifCond .eq 7), (1287, .iconst 1), (1288, .goto 4), (1291, .iconst 0), (1292, .invokevirtual 155), (1295, .aload_n 2), (1296, .aload_n 0), (1297, .iload_n 3), (1298, .iconst 1), (1299, .iadd), (1300, .iaload), (1301, .ifCond .eq 7), (1304, .iconst 1), (1305, .goto 4), (1308, .iconst 0), (1309, .invokevirtual 159), (1312, .if_icmp .eq 604), (1315, .iconst 0), (1316, .ireturn), (1317, .aload_n 1), (1318, .aload_n 0), (1319, .iload_n 3), (1320, .iconst 1), (1321, .iadd), (1322, .iaload), (1323, .ifCond .eq 7), (1326, .iconst 1), (1327, .goto 4), (1330, .iconst 0), (1331, .invokevirtual 160), (1334, .aload_n 2), (1335, .aload_n 0), (1336, .iload_n 3), (1337, .iconst 1), (1338, .iadd), (1339, .iaload), (1340, .ifCond .eq 7), (1343, .iconst 1), (1344, .goto 4), (1347, .iconst 0), (1348, .invokevirtual 163), (1351, .if_icmp .eq 565), (1354, .iconst 0), (1355, .ireturn), (1356, .aload_n 1), (1357, .aload_n 0), (1358, .iload_n 3), (1359, .iconst 1), (1360, .iadd)]
theorem k376_13 : dck c376 l376_13 := by unfold dck; decide +kernel
def l376_14 : List (Nat × Instr) := [(1361, .iaload), (1362, .invokevirtual 164), (1365, .aload_n 2), (1366, .aload_n 0), (1367, .iload_n 3), (1368, .iconst 1), (1369, .iadd), (1370, .iaload), (1371, .invokevirtual 167), (1374, .if_icmp .eq 542), (1377, .iconst 0), (1378, .ireturn), (1379, .aload_n 1), (1380, .aload_n 0), (1381, .iload_n 3), (1382, .iconst 1), (1383, .iadd), (1384, .iaload), (1385, .aload_n 0), (1386, .iload_n 3), (1387, .iconst 2), (1388, .iadd), (1389, .iaload), (1390, .ifCond .eq 7), (1393, .iconst 1), (1394, .goto 4), (1397, .iconst 0), (1398, .invokevirtual 168), (1401, .aload_n 2), (1402, .aload_n 0), (1403, .iload_n 3), (1404, .iconst 1), (1405, .iadd), (1406, .iaload), (1407, .aload_n 0), (1408, .iload_n 3), (1409, .iconst 2), (1410, .iadd), (1411, .iaload), (1412, .ifCond .eq 7), (1415, .iconst 1), (1416, .goto 4), (1419, .iconst 0), (1420, .invokevirtual 171), (1423, .lcmp), (1424, .ifCond .eq 492), (1427, .iconst 0), (1428, .ireturn), (1429, .aload_n 1), (1430, .aload_n 0), (1431, .iload_n 3), (1432, .iconst 1), (1433, .iadd), (1434, .iaload), (1435, .aload_n 0), (1436, .iload_n 3), (1437, .iconst 2), (1438, .iadd), (1439, .iaload), (1440, .invokevirtual 172)]
theorem k376_14 : dck c376 l376_14 := by unfold dck; decide +kernel
def l376_15 : List (Nat × Instr) := [(1443, .aload_n 2), (1444, .aload_n 0), (1445, .iload_n 3), (1446, .iconst 1), (1447, .iadd), (1448, .iaload), (1449, .aload_n 0), (1450, .iload_n 3), (1451, .iconst 2), (1452, .iadd), (1453, .iaload), (1454, .invokevirtual 176), (1457, .if_icmp .eq 459), (1460, .iconst 0), (1461, .ireturn), (1462, .aload_n 1), (1463, .aload_n 0), (1464, .iload_n 3), (1465, .iconst 1), (1466, .iadd), (1467, .iaload), (1468, .aload_n 0), (1469, .iload_n 3), (1470, .iconst 2), (1471, .iadd), (1472, .iaload), (1473, .invokevirtual 177), (1476, .aload_n 2), (1477, .aload_n 0), (1478, .iload_n 3), (1479, .iconst 1), (1480, .iadd), (1481, .iaload), (1482, .aload_n 0), (1483, .iload_n 3), (1484, .iconst 2), (1485, .iadd), (1486, .iaload), (1487, .invokevirtual 180), (1490, .if_icmp .eq 426), (1493, .iconst 0), (1494, .ireturn), (1495, .aload_n 1), (1496, .aload_n 0), (1497, .iload_n 3), (1498, .iconst 1), (1499, .iadd), (1500, .iaload), (1501, .aload_n 0), (1502, .iload_n 3), (1503, .iconst 2), (1504, .iadd), (1505, .iaload), (1506, .invokevirtual 181), (1509, .aload_n 2), (1510, .aload_n 0), (1511, .iload_n 3), (1512, .iconst 1), (1513, .iadd), (1514, .iaload)]
theorem k376_15 : dck c376 l376_15 := by unfold dck; decide +kernel
def l376_16 : List (Nat × Instr) := [(1515, .aload_n 0), (1516, .iload_n 3), (1517, .iconst 2), (1518, .iadd), (1519, .iaload), (1520, .invokevirtual 184), (1523, .if_icmp .eq 393), (1526, .iconst 0), (1527, .ireturn), (1528, .aload_n 1), (1529, .aload_n 0), (1530, .iload_n 3), (1531, .iconst 1), (1532, .iadd), (1533, .iaload), (1534, .aload_n 0), (1535, .iload_n 3), (1536, .iconst 2), (1537, .iadd), (1538, .iaload), (1539, .aload_n 0), (1540, .iload_n 3), (1541, .iconst 3), (1542, .iadd), (1543, .iaload), (1544, .invokevirtual 185), (1547, .aload_n 2), (1548, .aload_n 0), (1549, .iload_n 3), (1550, .iconst 1), (1551, .iadd), (1552, .iaload), (1553, .aload_n 0), (1554, .iload_n 3), (1555, .iconst 2), (1556, .iadd), (1557, .iaload), (1558, .aload_n 0), (1559, .iload_n 3), (1560, .iconst 3), (1561, .iadd), (1562, .iaload), (1563, .invokevirtual 189), (1566, .if_icmp .eq 350), (1569, .iconst 0), (1570, .ireturn), (1571, .aload_n 1), (1572, .aload_n 0), (1573, .iload_n 3), (1574, .iconst 1), (1575, .iadd), (1576, .iaload), (1577, .aload_n 0), (1578, .iload_n 3), (1579, .iconst 2), (1580, .iadd), (1581, .iaload), (1582, .invokevirtual 190), (1585, .aload_n 2), (1586, .aload_n 0)]
theorem k376_16 : dck c376 l376_16 := by unfold dck; decide +kernel
def l376_17 : List (Nat × Instr) := [(1587, .iload_n 3), (1588, .iconst 1), (1589, .iadd), (1590, .iaload), (1591, .aload_n 0), (1592, .iload_n 3), (1593, .iconst 2), (1594, .iadd), (1595, .iaload), (1596, .invokevirtual 193), (1599, .if_icmp .eq 317), (1602, .iconst 0), (1603, .ireturn), (1604, .aload_n 1), (1605, .invokevirtual 194), (1608, .aload_n 2), (1609, .invokevirtual 197), (1612, .if_icmp .eq 304), (1615, .iconst 0), (1616, .ireturn), (1617, .aload_n 1), (1618, .invokevirtual 198), (1621, .aload_n 2), (1622, .invokevirtual 201), (1625, .if_icmp .eq 291), (1628, .iconst 0), (1629, .ireturn), (1630, .aload_n 1), (1631, .aload_n 0), (1632, .iload_n 3), (1633, .iconst 1), (1634, .iadd), (1635, .iaload), (1636, .invokevirtual 202), (1639, .aload_n 2), (1640, .aload_n 0), (1641, .iload_n 3), (1642, .iconst 1), (1643, .iadd), (1644, .iaload), (1645, .invokevirtual 205), (1648, .if_icmp .eq 268), (1651, .iconst 0), (1652, .ireturn), (1653, .aload_n 1), (1654, .aload_n 0), (1655, .iload_n 3), (1656, .iconst 1), (1657, .iadd), (1658, .iaload), (1659, .aload_n 0), (1660, .iload_n 3), (1661, .iconst 2), (1662, .iadd), (1663, .iaload), (1664, .ifCond .eq 7), (1667, .iconst 1), (1668, .goto 4), (1671, .iconst 0), (1672, .invokevirtual 206)]
theorem k376_17 : dck c376 l376_17 := by unfold dck; decide +kernel
def l376_18 : List (Nat × Instr) := [(1675, .aload_n 2), (1676, .aload_n 0), (1677, .iload_n 3), (1678, .iconst 1), (1679, .iadd), (1680, .iaload), (1681, .aload_n 0), (1682, .iload_n 3), (1683, .iconst 2), (1684, .iadd), (1685, .iaload), (1686, .ifCond .eq 7), (1689, .iconst 1), (1690, .goto 4), (1693, .iconst 0), (1694, .invokevirtual 209), (1697, .lcmp), (1698, .ifCond .eq 218), (1701, .iconst 0), (1702, .ireturn), (1703, .aload_n 1), (1704, .aload_n 0), (1705, .iload_n 3), (1706, .iconst 1), (1707, .iadd), (1708, .iaload), (1709, .invokevirtual 210), (1712, .aload_n 2), (1713, .aload_n 0), (1714, .iload_n 3), (1715, .iconst 1), (1716, .iadd), (1717, .iaload), (1718, .invokevirtual 213), (1721, .if_icmp .eq 195), (1724, .iconst 0), (1725, .ireturn), (1726, .aload_n 1), (1727, .aload_n 0), (1728, .iload_n 3), (1729, .iconst 1), (1730, .iadd), (1731, .iaload), (1732, .invokevirtual 214), (1735, .aload_n 2), (1736, .aload_n 0), (1737, .iload_n 3), (1738, .iconst 1), (1739, .iadd), (1740, .iaload), (1741, .invokevirtual 217), (1744, .if_icmp .eq 172), (1747, .iconst 0), (1748, .ireturn), (1749, .aload_n 1), (1750, .aload_n 0), (1751, .iload_n 3), (1752, .iconst 1), (1753, .iadd), (1754, .iaload)]
theorem k376_18 : dck c376 l376_18 := by unfold dck; decide +kernel
def l376_19 : List (Nat × Instr) := [(1755, .invokevirtual 218), (1758, .aload_n 2), (1759, .aload_n 0), (1760, .iload_n 3), (1761, .iconst 1), (1762, .iadd), (1763, .iaload), (1764, .invokevirtual 221), (1767, .if_icmp .eq 149), (1770, .iconst 0), (1771, .ireturn), (1772, .aload_n 1), (1773, .invokevirtual 222), (1776, .aload_n 2), (1777, .invokevirtual 225), (1780, .if_icmp .eq 136), (1783, .iconst 0), (1784, .ireturn), (1785, .aload_n 1), (1786, .invokevirtual 226), (1789, .aload_n 2), (1790, .invokevirtual 229), (1793, .if_icmp .eq 123), (1796, .iconst 0), (1797, .ireturn), (1798, .aload_n 1), (1799, .aload_n 0), (1800, .iload_n 3), (1801, .iconst 1), (1802, .iadd), (1803, .iaload), (1804, .invokevirtual 230), (1807, .aload_n 2), (1808, .aload_n 0), (1809, .iload_n 3), (1810, .iconst 1), (1811, .iadd), (1812, .iaload), (1813, .invokevirtual 233), (1816, .if_icmp .eq 100), (1819, .iconst 0), (1820, .ireturn), (1821, .aload_n 1), (1822, .aload_n 0), (1823, .iload_n 3), (1824, .iconst 1), (1825, .iadd), (1826, .iaload), (1827, .invokevirtual 234), (1830, .aload_n 2), (1831, .aload_n 0), (1832, .iload_n 3), (1833, .iconst 1), (1834, .iadd), (1835, .iaload), (1836, .invokevirtual 237), (1839, .if_icmp .eq 77), (1842, .iconst 0), (1843, .ireturn), (1844, .aload_n 1)]
theorem k376_19 : dck c376 l376_19 := by unfold dck; decide +kernel
def l376_20 : List (Nat × Instr) := [(1845, .aload_n 0), (1846, .iload_n 3), (1847, .iconst 1), (1848, .iadd), (1849, .iaload), (1850, .invokevirtual 238), (1853, .aload_n 2), (1854, .aload_n 0), (1855, .iload_n 3), (1856, .iconst 1), (1857, .iadd), (1858, .iaload), (1859, .invokevirtual 241), (1862, .if_icmp .eq 54), (1865, .iconst 0), (1866, .ireturn), (1867, .aload_n 1), (1868, .invokevirtual 242), (1871, .aload_n 2), (1872, .invokevirtual 245), (1875, .if_icmp .eq 41), (1878, .iconst 0), (1879, .ireturn), (1880, .aload_n 1), (1881, .invokevirtual 246), (1884, .aload_n 2), (1885, .invokevirtual 249), (1888, .if_icmp .eq 28), (1891, .iconst 0), (1892, .ireturn), (1893, .aload_n 1), (1894, .aload_n 0), (1895, .iload_n 3), (1896, .iconst 1), (1897, .iadd), (1898, .iaload), (1899, .invokevirtual 250), (1902, .aload_n 2), (1903, .aload_n 0), (1904, .iload_n 3), (1905, .iconst 1), (1906, .iadd), (1907, .iaload), (1908, .invokevirtual 253), (1911, .if_icmp .eq 5), (1914, .iconst 0), (1915, .ireturn), (1916, .iinc 3 6), (1919, .goto (-1901)), (1922, .iconst 1), (1923, .ireturn)]
theorem k376_20 : dck c376 l376_20 := by unfold dck; decide +kernel
theorem w376_33 : decode c376 33 = .ok (.tableswitch 1883 0 56 #[243, 286, 339, 402, 425, 438, 461, 484, 507, 530, 553, 586, 609, 632, 665, 678, 711, 744, 767, 790, 823, 856, 905, 938, 988, 1011, 1061, 1084, 1133, 1146, 1186, 1199, 1212, 1245, 1284, 1323, 1346, 1396, 1429, 1462, 1495, 1538, 1571, 1584, 1597, 1620, 1670, 1693, 1716, 1739, 1752, 1765, 1788, 1811, 1834, 1847, 1860], 243) := by decide +kernel
