set_option maxRecDepth 100000
def tJ0_init : List (List (Nat × Instr × Nat)) := [
  [(0, .aload_n 0, 1), (1, .invokespecial 1, 3), (4, .return_, 1)]]
def iJ0_init : Mi := (tJ0_init, 0, 1, 0, true, [], [])
theorem kJ0_init : (tJ0_init.all fun l => l.all fun q => am_chk prog_52_method_1_code q) = true := by decide +kernel
def tJ1_init : List (List (Nat × Instr × Nat)) := [
  [(0, .aload_n 0, 1), (1, .invokespecial 1, 3), (4, .aload_n 0, 1), (5, .iconst 0, 1), (6, .putfield 7, 3), (9, .return_, 1)]]
def iJ1_init : Mi := (tJ1_init, 1, 1, 0, true, [], [])
theorem kJ1_init : (tJ1_init.all fun l => l.all fun q => am_chk prog_53_method_1_code q) = true := by decide +kernel
def tJ10_init : List (List (Nat × Instr × Nat)) := [
  [(0, .aload_n 0, 1), (1, .aload_n 1, 1), (2, .invokespecial 7, 3), (5, .return_, 1)]]
def iJ10_init : Mi := (tJ10_init, 2, 2, 0, true, [], [])
theorem kJ10_init : (tJ10_init.all fun l => l.all fun q => am_chk prog_33_method_2_code q) = true := by decide +kernel
def tJ11_length : List (List (Nat × Instr × Nat)) := [
  [(0, .aload_n 0, 1), (1, .getfield 9, 3), (4, .arraylength, 1), (5, .aload_n 0, 1), (6, .invokevirtual 335, 3), (9, .ishr, 1), (10, .ireturn, 1)]]
def iJ11_length : Mi := (tJ11_length, 3, 1, 1, false, [], [])
theorem kJ11_length : (tJ11_length.all fun l => l.all fun q => am_chk prog_45_method_54_code q) = true := by decide +kernel
def tJ11_coder : List (List (Nat × Instr × Nat)) := [
  [(0, .getstatic 38, 3), (3, .ifCond .eq 10, 3), (6, .aload_n 0, 1), (7, .getfield 15, 3), (10, .goto 4, 3), (13, .iconst 1, 1), (14, .ireturn, 1)]]
def iJ11_coder : Mi := (tJ11_coder, 3, 1, 7, false, [], [(14, [true])])
theorem kJ11_coder : (tJ11_coder.all fun l => l.all fun q => am_chk prog_45_method_152_code q) = true := by decide +kernel
def tJ11_charAt : List (List (Nat × Instr × Nat)) := [
  [(0, .aload_n 0, 1), (1, .invokevirtual 492, 3), (4, .ifCond .eq 12, 3), (7, .aload_n 0, 1), (8, .getfield 9, 3), (11, .iload_n 1, 1), (12, .invokestatic 495, 3), (15, .ireturn, 1), (16, .aload_n 0, 1), (17, .getfield 9, 3), (20, .iload_n 1, 1), (21, .invokestatic 498, 3), (24, .ireturn, 1)]]
def iJ11_charAt : Mi := (tJ11_charAt, 3, 2, 6, false, [], [])
theorem kJ11_charAt : (tJ11_charAt.all fun l => l.all fun q => am_chk prog_45_method_56_code q) = true := by decide +kernel
def tJ11_isLatin1 : List (List (Nat × Instr × Nat)) := [
  [(0, .getstatic 38, 3), (3, .ifCond .eq 14, 3), (6, .aload_n 0, 1), (7, .getfield 15, 3), (10, .ifCond .ne 7, 3), (13, .iconst 1, 1), (14, .goto 4, 3), (17, .iconst 0, 1), (18, .ireturn, 1)]]
def iJ11_isLatin1 : Mi := (tJ11_isLatin1, 3, 1, 2, false, [], [(17, [true]), (18, [true])])
theorem kJ11_isLatin1 : (tJ11_isLatin1.all fun l => l.all fun q => am_chk prog_45_method_154_code q) = true := by decide +kernel
def tJ11_checkIndex : List (List (Nat × Instr × Nat)) := [
  [(0, .iload_n 0, 1), (1, .iload_n 1, 1), (2, .getstatic 1053, 3), (5, .invokestatic 1059, 3), (8, .pop, 1), (9, .return_, 1)]]
def iJ11_checkIndex : Mi := (tJ11_checkIndex, 3, 2, 0, false, [], [])
theorem kJ11_checkIndex : (tJ11_checkIndex.all fun l => l.all fun q => am_chk prog_45_method_155_code q) = true := by decide +kernel
def tJ12_checkIndex : List (List (Nat × Instr × Nat)) := [
  [(0, .iload_n 0, 1), (1, .iload_n 1, 1), (2, .aconst_null, 1), (3, .invokestatic 105, 3), (6, .ireturn, 1)]]
def iJ12_checkIndex : Mi := (tJ12_checkIndex, 4, 2, 1, false, [], [])
theorem kJ12_checkIndex : (tJ12_checkIndex.all fun l => l.all fun q => am_chk prog_58_method_17_code q) = true := by decide +kernel
def tJ13_checkIndex : List (List (Nat × Instr × Nat)) := [
  [(0, .iload_n 0, 1), (1, .ifCond .lt 8, 3), (4, .iload_n 0, 1), (5, .iload_n 1, 1), (6, .if_icmp .lt 10, 3), (9, .aload_n 2, 1), (10, .iload_n 0, 1), (11, .iload_n 1, 1), (12, .invokestatic 95, 3), (15, .athrow, 1), (16, .iload_n 0, 1), (17, .ireturn, 1)]]
def iJ13_checkIndex : Mi := (tJ13_checkIndex, 5, 3, 1, false, [], [])
theorem kJ13_checkIndex : (tJ13_checkIndex.all fun l => l.all fun q => am_chk prog_62_method_11_code q) = true := by decide +kernel
def tJ14_init : List (List (Nat × Instr × Nat)) := [
  [(0, .aload_n 0, 1), (1, .aload_n 1, 1), (2, .invokespecial 7, 3), (5, .return_, 1)]]
def iJ14_init : Mi := (tJ14_init, 6, 2, 0, true, [], [])
theorem kJ14_init : (tJ14_init.all fun l => l.all fun q => am_chk prog_35_method_2_code q) = true := by decide +kernel
def tJ15_charAt : List (List (Nat × Instr × Nat)) := [
  [(0, .iload_n 1, 1), (1, .aload_n 0, 1), (2, .arraylength, 1), (3, .invokestatic 9, 3), (6, .aload_n 0, 1), (7, .iload_n 1, 1), (8, .baload, 1), (9, .sipush 255, 3), (12, .iand, 1), (13, .i2c, 1), (14, .ireturn, 1)]]
def iJ15_charAt : Mi := (tJ15_charAt, 7, 2, 6, false, [], [])
theorem kJ15_charAt : (tJ15_charAt.all fun l => l.all fun q => am_chk prog_46_method_2_code q) = true := by decide +kernel
def tJ16_charAt : List (List (Nat × Instr × Nat)) := [
  [(0, .iload_n 1, 1), (1, .aload_n 0, 1), (2, .invokestatic 67, 3), (5, .aload_n 0, 1), (6, .iload_n 1, 1), (7, .invokestatic 71, 3), (10, .ireturn, 1)]]
def iJ16_charAt : Mi := (tJ16_charAt, 8, 2, 6, false, [], [])
theorem kJ16_charAt : (tJ16_charAt.all fun l => l.all fun q => am_chk prog_47_method_83_code q) = true := by decide +kernel
def tJ16_checkIndex : List (List (Nat × Instr × Nat)) := [
  [(0, .iload_n 0, 1), (1, .aload_n 1, 1), (2, .invokestatic 48, 3), (5, .invokestatic 414, 3), (8, .return_, 1)]]
def iJ16_checkIndex : Mi := (tJ16_checkIndex, 8, 2, 0, false, [], [])
theorem kJ16_checkIndex : (tJ16_checkIndex.all fun l => l.all fun q => am_chk prog_47_method_91_code q) = true := by decide +kernel
def tJ16_length : List (List (Nat × Instr × Nat)) := [
  [(0, .aload_n 0, 1), (1, .arraylength, 1), (2, .iconst 1, 1), (3, .ishr, 1), (4, .ireturn, 1)]]
def iJ16_length : Mi := (tJ16_length, 8, 1, 1, false, [], [])
theorem kJ16_length : (tJ16_length.all fun l => l.all fun q => am_chk prog_47_method_6_code q) = true := by decide +kernel
def tJ16_getChar : List (List (Nat × Instr × Nat)) := [
  [(0, .getstatic 44, 3), (3, .ifCond .ne 25, 3), (6, .iload_n 1, 1), (7, .ifCond .lt 11, 3), (10, .iload_n 1, 1), (11, .aload_n 0, 1), (12, .invokestatic 48, 3), (15, .if_icmp .lt 13, 3), (18, .new 52, 3), (21, .dup, 1), (22, .ldc 54, 2), (24, .invokespecial 56, 3), (27, .athrow, 1), (28, .iload_n 1, 1), (29, .iconst 1, 1), (30, .ishl, 1), (31, .istore_n 1, 1)],
  [(32, .aload_n 0, 1), (33, .iload_n 1, 1), (34, .iinc 1 1, 3), (37, .baload, 1), (38, .sipush 255, 3), (41, .iand, 1), (42, .getstatic 59, 3), (45, .ishl, 1), (46, .aload_n 0, 1), (47, .iload_n 1, 1), (48, .baload, 1), (49, .sipush 255, 3), (52, .iand, 1), (53, .getstatic 63, 3), (56, .ishl, 1), (57, .ior, 1), (58, .i2c, 1), (59, .ireturn, 1)]]
def iJ16_getChar : Mi := (tJ16_getChar, 8, 2, 6, false, [], [(18, [true, true])])
theorem kJ16_getChar : (tJ16_getChar.all fun l => l.all fun q => am_chk prog_47_method_5_code q) = true := by decide +kernel
def tJ17_bitCount : List (List (Nat × Instr × Nat)) := [
  [(0, .iload_n 0, 1), (1, .iload_n 0, 1), (2, .iconst 1, 1), (3, .iushr, 1), (4, .ldc_w 265, 3), (7, .iand, 1), (8, .isub, 1), (9, .istore_n 0, 1), (10, .iload_n 0, 1), (11, .ldc_w 266, 3), (14, .iand, 1), (15, .iload_n 0, 1), (16, .iconst 2, 1), (17, .iushr, 1), (18, .ldc_w 266, 3), (21, .iand, 1), (22, .iadd, 1), (23, .istore_n 0, 1), (24, .iload_n 0, 1), (25, .iload_n 0, 1), (26, .iconst 4, 1), (27, .iushr, 1), (28, .iadd, 1), (29, .ldc_w 267, 3)],
  [(32, .iand, 1), (33, .istore_n 0, 1), (34, .iload_n 0, 1), (35, .iload_n 0, 1), (36, .bipush 8, 2), (38, .iushr, 1), (39, .iadd, 1), (40, .istore_n 0, 1), (41, .iload_n 0, 1), (42, .iload_n 0, 1), (43, .bipush 16, 2), (45, .iushr, 1), (46, .iadd, 1), (47, .istore_n 0, 1), (48, .iload_n 0, 1), (49, .bipush 63, 2), (51, .iand, 1), (52, .ireturn, 1)]]
def iJ17_bitCount : Mi := (tJ17_bitCount, 9, 1, 1, false, [], [])
theorem kJ17_bitCount : (tJ17_bitCount.all fun l => l.all fun q => am_chk prog_41_method_49_code q) = true := by decide +kernel
def tJ18_init : List (List (Nat × Instr × Nat)) := [
  [(0, .return_, 1)]]
def iJ18_init : Mi := (tJ18_init, 10, 1, 0, true, [], [])
theorem kJ18_init : (tJ18_init.all fun l => l.all fun q => am_chk object_method_1_code q) = true := by decide +kernel
def tJ2_init : List (List (Nat × Instr × Nat)) := [
  [(0, .aload_n 0, 1), (1, .invokespecial 1, 3), (4, .iload_n 1, 1), (5, .ifCond .le 14, 3), (8, .aload_n 0, 1), (9, .iload_n 1, 1), (10, .anewarray 7, 3), (13, .putfield 9, 3), (16, .goto 44, 3), (19, .iload_n 1, 1), (20, .ifCond .ne 13, 3), (23, .aload_n 0, 1), (24, .getstatic 15, 3), (27, .putfield 9, 3), (30, .goto 30, 3)],
  [(33, .new 18, 3), (36, .dup, 1), (37, .new 20, 3), (40, .dup, 1), (41, .invokespecial 22, 3), (44, .ldc 23, 2), (46, .invokevirtual 25, 3), (49, .iload_n 1, 1), (50, .invokevirtual 29, 3), (53, .invokevirtual 32, 3), (56, .invokespecial 36, 3), (59, .athrow, 1), (60, .return_, 1)]]
def iJ2_init : Mi := (tJ2_init, 11, 2, 0, true, [], [(60, [true, true])])
theorem kJ2_init : (tJ2_init.all fun l => l.all fun q => am_chk prog_54_method_1_code q) = true := by decide +kernel
def tJ2_clear : List (List (Nat × Instr × Nat)) := [
  [(0, .aload_n 0, 1), (1, .dup, 1), (2, .getfield 63, 3), (5, .iconst 1, 1), (6, .iadd, 1), (7, .putfield 63, 3), (10, .aload_n 0, 1), (11, .getfield 9, 3), (14, .astore_n 1, 1), (15, .aload_n 0, 1), (16, .getfield 48, 3), (19, .istore_n 2, 1), (20, .aload_n 0, 1), (21, .iconst 0, 1), (22, .dup_x1, 1), (23, .putfield 48, 3), (26, .istore_n 3, 1), (27, .iload_n 3, 1), (28, .iload_n 2, 1), (29, .if_icmp .ge 13, 3)],
  [(32, .aload_n 1, 1), (33, .iload_n 3, 1), (34, .aconst_null, 1), (35, .aastore, 1), (36, .iinc 3 1, 3), (39, .goto (-12), 3), (42, .return_, 1)]]
def iJ2_clear : Mi := (tJ2_clear, 11, 4, 0, false, [], [(27, [true])])
theorem kJ2_clear : (tJ2_clear.all fun l => l.all fun q => am_chk prog_54_method_40_code q) = true := by decide +kernel
def tJ2_addAll : List (List (Nat × Instr × Nat)) := [
  [(0, .aload_n 1, 1), (1, .invokeinterface 42 1, 5), (6, .astore_n 2, 1), (7, .aload_n 0, 1), (8, .dup, 1), (9, .getfield 63, 3), (12, .iconst 1, 1), (13, .iadd, 1), (14, .putfield 63, 3), (17, .aload_n 2, 1), (18, .arraylength, 1), (19, .istore_n 3, 1), (20, .iload_n 3, 1), (21, .ifCond .ne 5, 3), (24, .iconst 0, 1), (25, .ireturn, 1), (26, .iload_n 3, 1), (27, .aload_n 0, 1), (28, .getfield 9, 3), (31, .dup, 1)],
  [(32, .astore 4, 2), (34, .arraylength, 1), (35, .aload_n 0, 1), (36, .getfield 48, 3), (39, .dup, 1), (40, .istore 5, 2), (42, .isub, 1), (43, .if_icmp .le 13, 3), (46, .aload_n 0, 1), (47, .iload 5, 2), (49, .iload_n 3, 1), (50, .iadd, 1), (51, .invokevirtual 69, 3), (54, .astore 4, 2), (56, .aload_n 2, 1), (57, .iconst 0, 1), (58, .aload 4, 2), (60, .iload 5, 2), (62, .iload_n 3, 1), (63, .invokestatic 112, 3)],
  [(66, .aload_n 0, 1), (67, .iload 5, 2), (69, .iload_n 3, 1), (70, .iadd, 1), (71, .putfield 48, 3), (74, .iconst 1, 1), (75, .ireturn, 1)]]
def iJ2_addAll : Mi := (tJ2_addAll, 11, 6, 2, false, [], [(56, [false, true])])
theorem kJ2_addAll : (tJ2_addAll.all fun l => l.all fun q => am_chk prog_54_method_41_code q) = true := by decide +kernel
def tJ2_toArray : List (List (Nat × Instr × Nat)) := [
  [(0, .aload_n 0, 1), (1, .getfield 9, 3), (4, .aload_n 0, 1), (5, .getfield 48, 3), (8, .invokestatic 66, 3), (11, .areturn, 1)]]
def iJ2_toArray : Mi := (tJ2_toArray, 11, 1, 5, false, [], [])
theorem kJ2_toArray : (tJ2_toArray.all fun l => l.all fun q => am_chk prog_54_method_16_code q) = true := by decide +kernel
def tJ2_grow : List (List (Nat × Instr × Nat)) := [
  [(0, .aload_n 0, 1), (1, .getfield 9, 3), (4, .arraylength, 1), (5, .istore_n 2, 1), (6, .iload_n 2, 1), (7, .ifCond .gt 13, 3), (10, .aload_n 0, 1), (11, .getfield 9, 3), (14, .getstatic 39, 3), (17, .if_acmp .eq 28, 3), (20, .iload_n 2, 1), (21, .iload_n 1, 1), (22, .iload_n 2, 1), (23, .isub, 1), (24, .iload_n 2, 1), (25, .iconst 1, 1), (26, .ishr, 1), (27, .invokestatic 73, 3), (30, .istore_n 3, 1), (31, .aload_n 0, 1)],
  [(32, .aload_n 0, 1), (33, .getfield 9, 3), (36, .iload_n 3, 1), (37, .invokestatic 66, 3), (40, .dup_x1, 1), (41, .putfield 9, 3), (44, .areturn, 1), (45, .aload_n 0, 1), (46, .bipush 10, 2), (48, .iload_n 1, 1), (49, .invokestatic 79, 3), (52, .anewarray 7, 3), (55, .dup_x1, 1), (56, .putfield 9, 3), (59, .areturn, 1)]]
def iJ2_grow : Mi := (tJ2_grow, 11, 4, 5, false, [], [(20, [false, false, false, true])])
theorem kJ2_grow : (tJ2_grow.all fun l => l.all fun q => am_chk prog_54_method_6_code q) = true := by decide +kernel
def tJ2_size : List (List (Nat × Instr × Nat)) := [
  [(0, .aload_n 0, 1), (1, .getfield 48, 3), (4, .ireturn, 1)]]
def iJ2_size : Mi := (tJ2_size, 11, 1, 1, false, [], [])
theorem kJ2_size : (tJ2_size.all fun l => l.all fun q => am_chk prog_54_method_8_code q) = true := by decide +kernel
def tJ2_add : List (List (Nat × Instr × Nat)) := [
  [(0, .aload_n 0, 1), (1, .dup, 1), (2, .getfield 63, 3), (5, .iconst 1, 1), (6, .iadd, 1), (7, .putfield 63, 3), (10, .aload_n 0, 1), (11, .aload_n 1, 1), (12, .aload_n 0, 1), (13, .getfield 9, 3), (16, .aload_n 0, 1), (17, .getfield 48, 3), (20, .invokevirtual 131, 3), (23, .iconst 1, 1), (24, .ireturn, 1)]]
def iJ2_add : Mi := (tJ2_add, 11, 2, 2, false, [], [])
theorem kJ2_add : (tJ2_add.all fun l => l.all fun q => am_chk prog_54_method_25_code q) = true := by decide +kernel
def tJ2_add_2 : List (List (Nat × Instr × Nat)) := [
  [(0, .iload_n 3, 1), (1, .aload_n 2, 1), (2, .arraylength, 1), (3, .if_icmp .ne 8, 3), (6, .aload_n 0, 1), (7, .invokevirtual 129, 3), (10, .astore_n 2, 1), (11, .aload_n 2, 1), (12, .iload_n 3, 1), (13, .aload_n 1, 1), (14, .aastore, 1), (15, .aload_n 0, 1), (16, .iload_n 3, 1), (17, .iconst 1, 1), (18, .iadd, 1), (19, .putfield 48, 3), (22, .return_, 1)]]
def iJ2_add_2 : Mi := (tJ2_add_2, 11, 4, 0, false, [], [])
theorem kJ2_add_2 : (tJ2_add_2.all fun l => l.all fun q => am_chk prog_54_method_24_code q) = true := by decide +kernel
def tJ2_grow_2 : List (List (Nat × Instr × Nat)) := [
  [(0, .aload_n 0, 1), (1, .aload_n 0, 1), (2, .getfield 48, 3), (5, .iconst 1, 1), (6, .iadd, 1), (7, .invokevirtual 69, 3), (10, .areturn, 1)]]
def iJ2_grow_2 : Mi := (tJ2_grow_2, 11, 1, 5, false, [], [])
theorem kJ2_grow_2 : (tJ2_grow_2.all fun l => l.all fun q => am_chk prog_54_method_7_code q) = true := by decide +kernel
def tJ2_get : List (List (Nat × Instr × Nat)) := [
  [(0, .iload_n 1, 1), (1, .aload_n 0, 1), (2, .getfield 48, 3), (5, .invokestatic 118, 3), (8, .pop, 1), (9, .aload_n 0, 1), (10, .iload_n 1, 1), (11, .invokevirtual 123, 3), (14, .areturn, 1)]]
def iJ2_get : Mi := (tJ2_get, 11, 2, 5, false, [], [])
theorem kJ2_get : (tJ2_get.all fun l => l.all fun q => am_chk prog_54_method_20_code q) = true := by decide +kernel
def tJ2_elementData : List (List (Nat × Instr × Nat)) := [
  [(0, .aload_n 0, 1), (1, .getfield 9, 3), (4, .iload_n 1, 1), (5, .aaload, 1), (6, .areturn, 1)]]
def iJ2_elementData : Mi := (tJ2_elementData, 11, 2, 5, false, [], [])
theorem kJ2_elementData : (tJ2_elementData.all fun l => l.all fun q => am_chk prog_54_method_18_code q) = true := by decide +kernel
def tJ3_init : List (List (Nat × Instr × Nat)) := [
  [(0, .aload_n 0, 1), (1, .invokespecial 1, 3), (4, .aload_n 0, 1), (5, .aload_n 0, 1), (6, .putfield 7, 3), (9, .aload_n 0, 1), (10, .getstatic 13, 3), (13, .putfield 17, 3), (16, .aload_n 0, 1), (17, .getstatic 20, 3), (20, .putfield 24, 3), (23, .aload_n 0, 1), (24, .invokevirtual 27, 3), (27, .pop, 1), (28, .return_, 1)]]
def iJ3_init : Mi := (tJ3_init, 12, 1, 0, true, [], [])
theorem kJ3_init : (tJ3_init.all fun l => l.all fun q => am_chk prog_49_method_1_code q) = true := by decide +kernel
def tJ3_init_2 : List (List (Nat × Instr × Nat)) := [
  [(0, .aload_n 0, 1), (1, .invokespecial 1, 3), (4, .aload_n 0, 1), (5, .aload_n 0, 1), (6, .putfield 7, 3), (9, .aload_n 0, 1), (10, .getstatic 13, 3), (13, .putfield 17, 3), (16, .aload_n 0, 1), (17, .getstatic 20, 3), (20, .putfield 24, 3), (23, .iload 4, 2), (25, .ifCond .eq 11, 3), (28, .aload_n 0, 1), (29, .invokevirtual 27, 3)],
  [(32, .pop, 1), (33, .goto 8, 3), (36, .aload_n 0, 1), (37, .aconst_null, 1), (38, .putfield 17, 3), (41, .aload_n 0, 1), (42, .aload_n 1, 1), (43, .putfield 31, 3), (46, .aload_n 0, 1), (47, .aload_n 2, 1), (48, .putfield 7, 3), (51, .iload_n 3, 1), (52, .ifCond .ne 8, 3), (55, .aload_n 0, 1), (56, .aconst_null, 1), (57, .putfield 24, 3), (60, .return_, 1)]]
def iJ3_init_2 : Mi := (tJ3_init_2, 12, 5, 0, true, [], [(41, [false, false, false, false, true]), (60, [true, true, true, true, true])])
theorem kJ3_init_2 : (tJ3_init_2.all fun l => l.all fun q => am_chk prog_49_method_5_code q) = true := by decide +kernel
def tJ3_init_3 : List (List (Nat × Instr × Nat)) := [
  [(0, .aload_n 0, 1), (1, .invokespecial 1, 3), (4, .aload_n 0, 1), (5, .aload_n 0, 1), (6, .putfield 7, 3), (9, .aload_n 0, 1), (10, .getstatic 13, 3), (13, .putfield 17, 3), (16, .aload_n 0, 1), (17, .getstatic 20, 3), (20, .putfield 24, 3), (23, .aload_n 0, 1), (24, .invokevirtual 27, 3), (27, .pop, 1), (28, .aload_n 0, 1), (29, .aload_n 1, 1), (30, .putfield 31, 3)],
  [(33, .return_, 1)]]
def iJ3_init_3 : Mi := (tJ3_init_3, 12, 2, 0, true, [], [])
theorem kJ3_init_3 : (tJ3_init_3.all fun l => l.all fun q => am_chk prog_49_method_2_code q) = true := by decide +kernel
def tJ4_init : List (List (Nat × Instr × Nat)) := [
  [(0, .aload_n 0, 1), (1, .aload_n 1, 1), (2, .aload_n 2, 1), (3, .iload_n 3, 1), (4, .iload 4, 2), (6, .invokespecial 16, 3), (9, .return_, 1)]]
def iJ4_init : Mi := (tJ4_init, 13, 5, 0, true, [], [])
theorem kJ4_init : (tJ4_init.all fun l => l.all fun q => am_chk prog_38_method_5_code q) = true := by decide +kernel
def tJ4_init_2 : List (List (Nat × Instr × Nat)) := [
  [(0, .aload_n 0, 1), (1, .aload_n 1, 1), (2, .invokespecial 7, 3), (5, .return_, 1)]]
def iJ4_init_2 : Mi := (tJ4_init_2, 13, 2, 0, true, [], [])
theorem kJ4_init_2 : (tJ4_init_2.all fun l => l.all fun q => am_chk prog_38_method_2_code q) = true := by decide +kernel
def tJ5_max : List (List (Nat × Instr × Nat)) := [
  [(0, .iload_n 0, 1), (1, .iload_n 1, 1), (2, .if_icmp .lt 7, 3), (5, .iload_n 0, 1), (6, .goto 4, 3), (9, .iload_n 1, 1), (10, .ireturn, 1)]]
def iJ5_max : Mi := (tJ5_max, 14, 2, 1, false, [], [(10, [true, true])])
theorem kJ5_max : (tJ5_max.all fun l => l.all fun q => am_chk prog_43_method_65_code q) = true := by decide +kernel
def tJ5_min : List (List (Nat × Instr × Nat)) := [
  [(0, .iload_n 0, 1), (1, .iload_n 1, 1), (2, .if_icmp .gt 7, 3), (5, .iload_n 0, 1), (6, .goto 4, 3), (9, .iload_n 1, 1), (10, .ireturn, 1)]]
def iJ5_min : Mi := (tJ5_min, 14, 2, 1, false, [], [(10, [true, true])])
theorem kJ5_min : (tJ5_min.all fun l => l.all fun q => am_chk prog_43_method_69_code q) = true := by decide +kernel
def tJ5_abs : List (List (Nat × Instr × Nat)) := [
  [(0, .lload_n 0, 1), (1, .lconst 0, 1), (2, .lcmp, 1), (3, .ifCond .ge 8, 3), (6, .lload_n 0, 1), (7, .lneg, 1), (8, .goto 4, 3), (11, .lload_n 0, 1), (12, .lreturn, 1)]]
def iJ5_abs : Mi := (tJ5_abs, 14, 2, 3, false, [], [(12, [true, true])])
theorem kJ5_abs : (tJ5_abs.all fun l => l.all fun q => am_chk prog_43_method_61_code q) = true := by decide +kernel
def tJ5_min_2 : List (List (Nat × Instr × Nat)) := [
  [(0, .lload_n 0, 1), (1, .lload_n 2, 1), (2, .lcmp, 1), (3, .ifCond .gt 7, 3), (6, .lload_n 0, 1), (7, .goto 4, 3), (10, .lload_n 2, 1), (11, .lreturn, 1)]]
def iJ5_min_2 : Mi := (tJ5_min_2, 14, 4, 3, false, [], [(11, [true, true, true, true])])
theorem kJ5_min_2 : (tJ5_min_2.all fun l => l.all fun q => am_chk prog_43_method_70_code q) = true := by decide +kernel
def tJ5_max_2 : List (List (Nat × Instr × Nat)) := [
  [(0, .lload_n 0, 1), (1, .lload_n 2, 1), (2, .lcmp, 1), (3, .ifCond .lt 7, 3), (6, .lload_n 0, 1), (7, .goto 4, 3), (10, .lload_n 2, 1), (11, .lreturn, 1)]]
def iJ5_max_2 : Mi := (tJ5_max_2, 14, 4, 3, false, [], [(11, [true, true, true, true])])
theorem kJ5_max_2 : (tJ5_max_2.all fun l => l.all fun q => am_chk prog_43_method_66_code q) = true := by decide +kernel
def tJ5_floorDiv : List (List (Nat × Instr × Nat)) := [
  [(0, .lload_n 0, 1), (1, .lload_n 2, 1), (2, .ldiv, 1), (3, .lstore 4, 2), (5, .lload_n 0, 1), (6, .lload_n 2, 1), (7, .lxor, 1), (8, .lconst 0, 1), (9, .lcmp, 1), (10, .ifCond .ge 17, 3), (13, .lload 4, 2), (15, .lload_n 2, 1), (16, .lmul, 1), (17, .lload_n 0, 1), (18, .lcmp, 1), (19, .ifCond .eq 8, 3), (22, .lload 4, 2), (24, .lconst 1, 1), (25, .lsub, 1), (26, .lreturn, 1), (27, .lload 4, 2), (29, .lreturn, 1)]]
def iJ5_floorDiv : Mi := (tJ5_floorDiv, 14, 6, 3, false, [], [(27, [true, true, true, true])])
theorem kJ5_floorDiv : (tJ5_floorDiv.all fun l => l.all fun q => am_chk prog_43_method_49_code q) = true := by decide +kernel
def tJ5_floorDiv_2 : List (List (Nat × Instr × Nat)) := [
  [(0, .iload_n 0, 1), (1, .iload_n 1, 1), (2, .idiv, 1), (3, .istore_n 2, 1), (4, .iload_n 0, 1), (5, .iload_n 1, 1), (6, .ixor, 1), (7, .ifCond .ge 14, 3), (10, .iload_n 2, 1), (11, .iload_n 1, 1), (12, .imul, 1), (13, .iload_n 0, 1), (14, .if_icmp .eq 7, 3), (17, .iload_n 2, 1), (18, .iconst 1, 1), (19, .isub, 1), (20, .ireturn, 1), (21, .iload_n 2, 1), (22, .ireturn, 1)]]
def iJ5_floorDiv_2 : Mi := (tJ5_floorDiv_2, 14, 3, 1, false, [], [(21, [true, true])])
theorem kJ5_floorDiv_2 : (tJ5_floorDiv_2.all fun l => l.all fun q => am_chk prog_43_method_47_code q) = true := by decide +kernel
def tJ6_newLength : List (List (Nat × Instr × Nat)) := [
  [(0, .iload_n 0, 1), (1, .iload_n 1, 1), (2, .iload_n 2, 1), (3, .invokestatic 194, 3), (6, .iadd, 1), (7, .istore_n 3, 1), (8, .iconst 0, 1), (9, .iload_n 3, 1), (10, .if_icmp .ge 11, 3), (13, .iload_n 3, 1), (14, .ldc 200, 2), (16, .if_icmp .gt 5, 3), (19, .iload_n 3, 1), (20, .ireturn, 1), (21, .iload_n 0, 1), (22, .iload_n 1, 1), (23, .invokestatic 201, 3), (26, .ireturn, 1)]]
def iJ6_newLength : Mi := (tJ6_newLength, 15, 4, 1, false, [], [(21, [false, false, true, true])])
theorem kJ6_newLength : (tJ6_newLength.all fun l => l.all fun q => am_chk prog_61_method_27_code q) = true := by decide +kernel
def tJ6_hugeLength : List (List (Nat × Instr × Nat)) := [
  [(0, .iload_n 0, 1), (1, .iload_n 1, 1), (2, .iadd, 1), (3, .istore_n 2, 1), (4, .iload_n 2, 1), (5, .ifCond .ge 44, 3), (8, .new 204, 3), (11, .dup, 1), (12, .new 89, 3), (15, .dup, 1), (16, .invokespecial 91, 3), (19, .ldc 206, 2), (21, .invokevirtual 94, 3), (24, .iload_n 0, 1), (25, .invokevirtual 98, 3), (28, .ldc 208, 2), (30, .invokevirtual 94, 3)],
  [(33, .iload_n 1, 1), (34, .invokevirtual 98, 3), (37, .ldc 210, 2), (39, .invokevirtual 94, 3), (42, .invokevirtual 101, 3), (45, .invokespecial 212, 3), (48, .athrow, 1), (49, .iload_n 2, 1), (50, .ldc 200, 2), (52, .if_icmp .gt 6, 3), (55, .ldc 200, 2), (57, .ireturn, 1), (58, .iload_n 2, 1), (59, .ireturn, 1)]]
def iJ6_hugeLength : Mi := (tJ6_hugeLength, 15, 3, 1, false, [], [])
theorem kJ6_hugeLength : (tJ6_hugeLength.all fun l => l.all fun q => am_chk prog_61_method_28_code q) = true := by decide +kernel
def tJ7_copyOf : List (List (Nat × Instr × Nat)) := [
  [(0, .aload_n 0, 1), (1, .iload_n 1, 1), (2, .aload_n 0, 1), (3, .invokevirtual 86, 3), (6, .invokestatic 300, 3), (9, .areturn, 1)]]
def iJ7_copyOf : Mi := (tJ7_copyOf, 16, 2, 5, false, [], [])
theorem kJ7_copyOf : (tJ7_copyOf.all fun l => l.all fun q => am_chk prog_55_method_119_code q) = true := by decide +kernel
def tJ7_copyOf_2 : List (List (Nat × Instr × Nat)) := [
  [(0, .aload_n 2, 1), (1, .ldc 110, 2), (3, .if_acmp .ne 10, 3), (6, .iload_n 1, 1), (7, .anewarray 2, 3), (10, .goto 14, 3), (13, .aload_n 2, 1), (14, .invokevirtual 90, 3), (17, .iload_n 1, 1), (18, .invokestatic 95, 3), (21, .checkcast 110, 3), (24, .astore_n 3, 1), (25, .aload_n 0, 1), (26, .iconst 0, 1), (27, .aload_n 3, 1), (28, .iconst 0, 1), (29, .aload_n 0, 1), (30, .arraylength, 1), (31, .iload_n 1, 1)],
  [(32, .invokestatic 304, 3), (35, .invokestatic 150, 3), (38, .aload_n 3, 1), (39, .areturn, 1)]]
def iJ7_copyOf_2 : Mi := (tJ7_copyOf_2, 16, 4, 5, false, [], [(24, [false, false, true, true])])
theorem kJ7_copyOf_2 : (tJ7_copyOf_2.all fun l => l.all fun q => am_chk prog_55_method_120_code q) = true := by decide +kernel
def tJ8_init : List (List (Nat × Instr × Nat)) := [
  [(0, .aload_n 0, 1), (1, .aload_n 1, 1), (2, .invokespecial 7, 3), (5, .return_, 1)]]
def iJ8_init : Mi := (tJ8_init, 17, 2, 0, true, [], [])
theorem kJ8_init : (tJ8_init.all fun l => l.all fun q => am_chk prog_44_method_2_code q) = true := by decide +kernel
def tJ9_init : List (List (Nat × Instr × Nat)) := [
  [(0, .aload_n 0, 1), (1, .aload_n 1, 1), (2, .invokespecial 7, 3), (5, .return_, 1)]]
def iJ9_init : Mi := (tJ9_init, 18, 2, 0, true, [], [])
theorem kJ9_init : (tJ9_init.all fun l => l.all fun q => am_chk prog_40_method_2_code q) = true := by decide +kernel
def tX1_init : List (List (Nat × Instr × Nat)) := [
  [(0, .aload_n 0, 1), (1, .invokespecial 3, 3), (4, .aload_n 0, 1), (5, .new 9, 3), (8, .dup, 1), (9, .bipush 8, 2), (11, .invokespecial 11, 3), (14, .putfield 14, 3), (17, .aload_n 0, 1), (18, .new 9, 3), (21, .dup, 1), (22, .iconst 4, 1), (23, .invokespecial 11, 3), (26, .putfield 20, 3), (29, .aload_n 0, 1), (30, .new 9, 3)],
  [(33, .dup, 1), (34, .iconst 4, 1), (35, .invokespecial 11, 3), (38, .putfield 23, 3), (41, .aload_n 0, 1), (42, .new 9, 3), (45, .dup, 1), (46, .iconst 4, 1), (47, .invokespecial 11, 3), (50, .putfield 26, 3), (53, .aload_n 0, 1), (54, .bipush 12, 2), (56, .newarray .int, 2), (58, .putfield 29, 3), (61, .aload_n 0, 1), (62, .sipush 144, 3)],
  [(65, .newarray .int, 2), (67, .putfield 33, 3), (70, .aload_n 0, 1), (71, .sipush 144, 3), (74, .newarray .int, 2), (76, .putfield 36, 3), (79, .aload_n 0, 1), (80, .sipush 144, 3), (83, .newarray .int, 2), (85, .putfield 39, 3), (88, .aload_n 0, 1), (89, .bipush 16, 2), (91, .newarray .int, 2), (93, .putfield 42, 3)],
  [(96, .aload_n 0, 1), (97, .bipush 16, 2), (99, .newarray .int, 2), (101, .putfield 45, 3), (104, .aload_n 0, 1), (105, .bipush 16, 2), (107, .newarray .int, 2), (109, .putfield 48, 3), (112, .aload_n 0, 1), (113, .bipush 16, 2), (115, .newarray .int, 2), (117, .putfield 51, 3), (120, .aload_n 0, 1), (121, .sipush 200, 3), (124, .newarray .int, 2), (126, .putfield 54, 3)],
  [(129, .aload_n 0, 1), (130, .sipush 200, 3), (133, .newarray .int, 2), (135, .putfield 57, 3), (138, .aload_n 0, 1), (139, .sipush 160, 3), (142, .newarray .int, 2), (144, .putfield 60, 3), (147, .aload_n 0, 1), (148, .sipush 3624, 3), (151, .newarray .int, 2), (153, .putfield 63, 3), (156, .aload_n 0, 1), (157, .sipush 3624, 3)],
  [(160, .newarray .long, 2), (162, .putfield 66, 3), (165, .aload_n 0, 1), (166, .sipush 3624, 3), (169, .newarray .long, 2), (171, .putfield 70, 3), (174, .iconst 0, 1), (175, .istore_n 1, 1), (176, .iload_n 1, 1), (177, .sipush 144, 3), (180, .if_icmp .ge 17, 3), (183, .aload_n 0, 1), (184, .getfield 36, 3), (187, .iload_n 1, 1), (188, .bipush 100, 2), (190, .iastore, 1), (191, .iinc 1 1, 3)],
  [(194, .goto (-18), 3), (197, .iconst 0, 1), (198, .istore_n 1, 1), (199, .iload_n 1, 1), (200, .bipush 12, 2), (202, .if_icmp .ge 22, 3), (205, .aload_n 0, 1), (206, .getfield 39, 3), (209, .bipush 12, 2), (211, .iload_n 1, 1), (212, .imul, 1), (213, .iload_n 1, 1), (214, .iadd, 1), (215, .bipush 100, 2), (217, .iastore, 1), (218, .iinc 1 1, 3), (221, .goto (-22), 3)],
  [(224, .iconst 0, 1), (225, .istore_n 1, 1), (226, .iload_n 1, 1), (227, .sipush 160, 3), (230, .if_icmp .ge 16, 3), (233, .aload_n 0, 1), (234, .getfield 60, 3), (237, .iload_n 1, 1), (238, .iconst (-1), 1), (239, .iastore, 1), (240, .iinc 1 1, 3), (243, .goto (-17), 3), (246, .iconst 0, 1), (247, .istore_n 1, 1), (248, .iload_n 1, 1), (249, .sipush 3624, 3), (252, .if_icmp .ge 16, 3), (255, .aload_n 0, 1)],
  [(256, .getfield 63, 3), (259, .iload_n 1, 1), (260, .iconst (-1), 1), (261, .iastore, 1), (262, .iinc 1 1, 3), (265, .goto (-17), 3), (268, .return_, 1)]]
def iX1_init : Mi := (tX1_init, 21, 2, 0, true, [], [])
theorem kX1_init : (tX1_init.all fun l => l.all fun q => am_chk prog_26_method_1_code q) = true := by decide +kernel
def tX1_takes : List (List (Nat × Instr × Nat)) := [
  [(0, .aload_n 0, 1), (1, .getfield 14, 3), (4, .aload_n 1, 1), (5, .getfield 14, 3), (8, .invokestatic 86, 3), (11, .aload_n 0, 1), (12, .getfield 20, 3), (15, .aload_n 1, 1), (16, .getfield 20, 3), (19, .invokestatic 86, 3), (22, .aload_n 0, 1), (23, .getfield 23, 3), (26, .aload_n 1, 1), (27, .getfield 23, 3), (30, .invokestatic 86, 3)],
  [(33, .aload_n 0, 1), (34, .getfield 26, 3), (37, .aload_n 1, 1), (38, .getfield 26, 3), (41, .invokestatic 86, 3), (44, .aload_n 0, 1), (45, .getfield 29, 3), (48, .aload_n 1, 1), (49, .getfield 29, 3), (52, .invokestatic 90, 3), (55, .aload_n 0, 1), (56, .getfield 33, 3), (59, .aload_n 1, 1), (60, .getfield 33, 3), (63, .invokestatic 90, 3)],
  [(66, .aload_n 0, 1), (67, .getfield 36, 3), (70, .aload_n 1, 1), (71, .getfield 36, 3), (74, .invokestatic 90, 3), (77, .aload_n 0, 1), (78, .getfield 39, 3), (81, .aload_n 1, 1), (82, .getfield 39, 3), (85, .invokestatic 90, 3), (88, .aload_n 0, 1), (89, .getfield 42, 3), (92, .aload_n 1, 1), (93, .getfield 42, 3)],
  [(96, .invokestatic 90, 3), (99, .aload_n 0, 1), (100, .getfield 45, 3), (103, .aload_n 1, 1), (104, .getfield 45, 3), (107, .invokestatic 90, 3), (110, .aload_n 0, 1), (111, .getfield 48, 3), (114, .aload_n 1, 1), (115, .getfield 48, 3), (118, .invokestatic 90, 3), (121, .aload_n 0, 1), (122, .getfield 51, 3), (125, .aload_n 1, 1), (126, .getfield 51, 3)],
  [(129, .invokestatic 90, 3), (132, .aload_n 0, 1), (133, .getfield 54, 3), (136, .aload_n 1, 1), (137, .getfield 54, 3), (140, .invokestatic 90, 3), (143, .aload_n 0, 1), (144, .getfield 57, 3), (147, .aload_n 1, 1), (148, .getfield 57, 3), (151, .invokestatic 90, 3), (154, .aload_n 0, 1), (155, .getfield 60, 3), (158, .aload_n 1, 1), (159, .getfield 60, 3)],
  [(162, .invokestatic 90, 3), (165, .aload_n 0, 1), (166, .getfield 63, 3), (169, .aload_n 1, 1), (170, .getfield 63, 3), (173, .invokestatic 90, 3), (176, .aload_n 1, 1), (177, .getfield 66, 3), (180, .iconst 0, 1), (181, .aload_n 0, 1), (182, .getfield 66, 3), (185, .iconst 0, 1), (186, .sipush 3624, 3), (189, .invokestatic 80, 3)],
  [(192, .aload_n 1, 1), (193, .getfield 70, 3), (196, .iconst 0, 1), (197, .aload_n 0, 1), (198, .getfield 70, 3), (201, .iconst 0, 1), (202, .sipush 3624, 3), (205, .invokestatic 80, 3), (208, .aload_n 0, 1), (209, .aload_n 1, 1), (210, .getfield 94, 3), (213, .putfield 94, 3), (216, .aload_n 0, 1), (217, .aload_n 1, 1), (218, .getfield 98, 3), (221, .putfield 98, 3)],
  [(224, .return_, 1)]]
def iX1_takes : Mi := (tX1_takes, 21, 2, 0, false, [], [])
theorem kX1_takes : (tX1_takes.all fun l => l.all fun q => am_chk prog_26_method_4_code q) = true := by decide +kernel
def tX1_over : List (List (Nat × Instr × Nat)) := [
  [(0, .aload_n 0, 1), (1, .invokevirtual 73, 3), (4, .aload_n 0, 1), (5, .aload_n 1, 1), (6, .invokevirtual 76, 3), (9, .pop, 1), (10, .return_, 1)]]
def iX1_over : Mi := (tX1_over, 21, 2, 0, false, [], [])
theorem kX1_over : (tX1_over.all fun l => l.all fun q => am_chk prog_26_method_2_code q) = true := by decide +kernel
def tX1_rows : List (List (Nat × Instr × Nat)) := [
  [(0, .aload_n 1, 1), (1, .iconst 0, 1), (2, .aload_n 0, 1), (3, .iconst 0, 1), (4, .aload_n 0, 1), (5, .arraylength, 1), (6, .invokestatic 80, 3), (9, .return_, 1)]]
def iX1_rows : Mi := (tX1_rows, 21, 2, 0, false, [], [])
theorem kX1_rows : (tX1_rows.all fun l => l.all fun q => am_chk prog_26_method_3_code q) = true := by decide +kernel
def tX10_init : List (List (Nat × Instr × Nat)) := [
  [(0, .aload_n 0, 1), (1, .iload_n 1, 1), (2, .iload_n 2, 1), (3, .iload_n 3, 1), (4, .iload 4, 2), (6, .iload 5, 2), (8, .iload 6, 2), (10, .invokespecial 3, 3), (13, .return_, 1)]]
def iX10_init : Mi := (tX10_init, 22, 7, 0, true, [], [])
theorem kX10_init : (tX10_init.all fun l => l.all fun q => am_chk prog_12_method_1_code q) = true := by decide +kernel
def tX10_kind : List (List (Nat × Instr × Nat)) := [
  [(0, .iconst 1, 1), (1, .ireturn, 1)]]
def iX10_kind : Mi := (tX10_kind, 22, 1, 1, false, [], [])
theorem kX10_kind : (tX10_kind.all fun l => l.all fun q => am_chk prog_12_method_2_code q) = true := by decide +kernel
def tX11_init : List (List (Nat × Instr × Nat)) := [
  [(0, .aload_n 0, 1), (1, .iload_n 1, 1), (2, .iload_n 2, 1), (3, .iload_n 3, 1), (4, .iload 4, 2), (6, .iload 5, 2), (8, .iload 6, 2), (10, .invokespecial 1, 3), (13, .return_, 1)]]
def iX11_init : Mi := (tX11_init, 23, 7, 0, true, [], [])
theorem kX11_init : (tX11_init.all fun l => l.all fun q => am_chk prog_13_method_1_code q) = true := by decide +kernel
def tX11_hasDegrees : List (List (Nat × Instr × Nat)) := [
  [(0, .aload_n 0, 1), (1, .invokespecial 7, 3), (4, .ifCond .ne 7, 3), (7, .iconst 1, 1), (8, .goto 4, 3), (11, .iconst 0, 1), (12, .ireturn, 1)]]
def iX11_hasDegrees : Mi := (tX11_hasDegrees, 23, 1, 2, false, [], [(12, [true])])
theorem kX11_hasDegrees : (tX11_hasDegrees.all fun l => l.all fun q => am_chk prog_13_method_2_code q) = true := by decide +kernel
def tX12_init : List (List (Nat × Instr × Nat)) := [
  [(0, .aload_n 0, 1), (1, .iload_n 1, 1), (2, .iload_n 2, 1), (3, .iload_n 3, 1), (4, .iload 4, 2), (6, .iload 5, 2), (8, .iload 6, 2), (10, .invokespecial 3, 3), (13, .aload_n 0, 1), (14, .iload 7, 2), (16, .putfield 9, 3), (19, .return_, 1)]]
def iX12_init : Mi := (tX12_init, 24, 8, 0, true, [], [])
theorem kX12_init : (tX12_init.all fun l => l.all fun q => am_chk prog_18_method_1_code q) = true := by decide +kernel
def tX12_kind : List (List (Nat × Instr × Nat)) := [
  [(0, .iconst 3, 1), (1, .ireturn, 1)]]
def iX12_kind : Mi := (tX12_kind, 24, 1, 1, false, [], [])
theorem kX12_kind : (tX12_kind.all fun l => l.all fun q => am_chk prog_18_method_2_code q) = true := by decide +kernel
def tX13_init : List (List (Nat × Instr × Nat)) := [
  [(0, .aload_n 0, 1), (1, .iload_n 1, 1), (2, .iload_n 2, 1), (3, .iload_n 3, 1), (4, .iload 4, 2), (6, .iload 5, 2), (8, .iload 6, 2), (10, .invokespecial 3, 3), (13, .aload_n 0, 1), (14, .iload 7, 2), (16, .putfield 9, 3), (19, .return_, 1)]]
def iX13_init : Mi := (tX13_init, 25, 8, 0, true, [], [])
theorem kX13_init : (tX13_init.all fun l => l.all fun q => am_chk prog_6_method_1_code q) = true := by decide +kernel
def tX13_kind : List (List (Nat × Instr × Nat)) := [
  [(0, .iconst 4, 1), (1, .ireturn, 1)]]
def iX13_kind : Mi := (tX13_kind, 25, 1, 1, false, [], [])
theorem kX13_kind : (tX13_kind.all fun l => l.all fun q => am_chk prog_6_method_2_code q) = true := by decide +kernel
def tX14_init : List (List (Nat × Instr × Nat)) := [
  [(0, .aload_n 0, 1), (1, .invokespecial 1, 3), (4, .aload_n 0, 1), (5, .iload_n 2, 1), (6, .newarray .byte, 2), (8, .putfield 7, 3), (11, .aload_n 1, 1), (12, .iconst 0, 1), (13, .aload_n 0, 1), (14, .getfield 7, 3), (17, .iconst 0, 1), (18, .iload_n 2, 1), (19, .invokestatic 13, 3), (22, .return_, 1)]]
def iX14_init : Mi := (tX14_init, 26, 3, 0, true, [], [])
theorem kX14_init : (tX14_init.all fun l => l.all fun q => am_chk prog_10_method_1_code q) = true := by decide +kernel
def tX14_isEnd : List (List (Nat × Instr × Nat)) := [
  [(0, .aload_n 0, 1), (1, .getfield 19, 3), (4, .aload_n 0, 1), (5, .getfield 7, 3), (8, .arraylength, 1), (9, .if_icmp .ne 7, 3), (12, .iconst 1, 1), (13, .goto 4, 3), (16, .iconst 0, 1), (17, .ireturn, 1)]]
def iX14_isEnd : Mi := (tX14_isEnd, 26, 1, 2, false, [], [(17, [true])])
theorem kX14_isEnd : (tX14_isEnd.all fun l => l.all fun q => am_chk prog_10_method_2_code q) = true := by decide +kernel
def tX14_next : List (List (Nat × Instr × Nat)) := [
  [(0, .iconst 0, 1), (1, .istore_n 1, 1), (2, .iconst 0, 1), (3, .istore_n 2, 1), (4, .iload_n 2, 1), (5, .iconst 4, 1), (6, .if_icmp .ge 30, 3), (9, .iload_n 1, 1), (10, .bipush 8, 2), (12, .ishl, 1), (13, .aload_n 0, 1), (14, .getfield 7, 3), (17, .aload_n 0, 1), (18, .getfield 19, 3), (21, .iload_n 2, 1), (22, .iadd, 1), (23, .baload, 1), (24, .sipush 255, 3), (27, .iand, 1), (28, .ior, 1), (29, .istore_n 1, 1), (30, .iinc 2 1, 3)],
  [(33, .goto (-29), 3), (36, .aload_n 0, 1), (37, .dup, 1), (38, .getfield 19, 3), (41, .iconst 4, 1), (42, .iadd, 1), (43, .putfield 19, 3), (46, .iload_n 1, 1), (47, .ldc 23, 2), (49, .iand, 1), (50, .ldc 24, 2), (52, .if_icmp .le 8, 3), (55, .ldc 27, 2), (57, .goto 7, 3), (60, .iload_n 1, 1), (61, .invokestatic 28, 3)],
  [(64, .freturn, 1)]]
def iX14_next : Mi := (tX14_next, 26, 3, 4, false, [], [(64, [true, true, true])])
theorem kX14_next : (tX14_next.all fun l => l.all fun q => am_chk prog_10_method_3_code q) = true := by decide +kernel
def tX15_init : List (List (Nat × Instr × Nat)) := [
  [(0, .aload_n 0, 1), (1, .invokespecial 3, 3), (4, .aload_n 0, 1), (5, .new 9, 3), (8, .dup, 1), (9, .iconst 2, 1), (10, .invokespecial 11, 3), (13, .putfield 14, 3), (16, .aload_n 0, 1), (17, .aload_n 1, 1), (18, .putfield 20, 3), (21, .aload_n 0, 1), (22, .iload_n 2, 1), (23, .putfield 24, 3), (26, .return_, 1)]]
def iX15_init : Mi := (tX15_init, 27, 3, 0, true, [], [])
theorem kX15_init : (tX15_init.all fun l => l.all fun q => am_chk prog_19_method_1_code q) = true := by decide +kernel
def tX15_read : List (List (Nat × Instr × Nat)) := [
  [(0, .aload_n 0, 1), (1, .invokevirtual 52, 3), (4, .aload_n 0, 1), (5, .invokevirtual 61, 3), (8, .aload_n 0, 1), (9, .ldc 64, 2), (11, .invokevirtual 55, 3), (14, .ifCond .eq 10, 3), (17, .aload_n 0, 1), (18, .invokevirtual 61, 3), (21, .goto (-13), 3), (24, .aload_n 0, 1), (25, .getfield 31, 3), (28, .aload_n 0, 1), (29, .getfield 24, 3)],
  [(32, .if_icmp .ge 15, 3), (35, .new 58, 3), (38, .dup, 1), (39, .aload_n 0, 1), (40, .getfield 31, 3), (43, .invokespecial 60, 3), (46, .athrow, 1), (47, .return_, 1)]]
def iX15_read : Mi := (tX15_read, 27, 1, 0, false, [], [])
theorem kX15_read : (tX15_read.all fun l => l.all fun q => am_chk prog_19_method_8_code q) = true := by decide +kernel
def tX15_next : List (List (Nat × Instr × Nat)) := [
  [(0, .aload_n 0, 1), (1, .aload_n 0, 1), (2, .getfield 28, 3), (5, .putfield 31, 3), (8, .aload_n 0, 1), (9, .aload_n 0, 1), (10, .getfield 31, 3), (13, .bipush 32, 2), (15, .bipush 32, 2), (17, .invokevirtual 34, 3), (20, .ifCond .eq 16, 3), (23, .aload_n 0, 1), (24, .dup, 1), (25, .getfield 31, 3), (28, .iconst 1, 1), (29, .iadd, 1), (30, .putfield 31, 3)],
  [(33, .goto (-25), 3), (36, .aload_n 0, 1), (37, .aload_n 0, 1), (38, .getfield 31, 3), (41, .putfield 28, 3), (44, .aload_n 0, 1), (45, .aload_n 0, 1), (46, .getfield 31, 3), (49, .bipush 97, 2), (51, .bipush 122, 2), (53, .invokevirtual 34, 3), (56, .ifCond .eq 31, 3), (59, .aload_n 0, 1), (60, .aload_n 0, 1), (61, .getfield 28, 3)],
  [(64, .bipush 97, 2), (66, .bipush 122, 2), (68, .invokevirtual 34, 3), (71, .ifCond .eq 80, 3), (74, .aload_n 0, 1), (75, .dup, 1), (76, .getfield 28, 3), (79, .iconst 1, 1), (80, .iadd, 1), (81, .putfield 28, 3), (84, .goto (-25), 3), (87, .aload_n 0, 1), (88, .aload_n 0, 1), (89, .getfield 31, 3), (92, .bipush 48, 2), (94, .bipush 57, 2)],
  [(96, .invokevirtual 34, 3), (99, .ifCond .eq 31, 3), (102, .aload_n 0, 1), (103, .aload_n 0, 1), (104, .getfield 28, 3), (107, .bipush 48, 2), (109, .bipush 57, 2), (111, .invokevirtual 34, 3), (114, .ifCond .eq 37, 3), (117, .aload_n 0, 1), (118, .dup, 1), (119, .getfield 28, 3), (122, .iconst 1, 1), (123, .iadd, 1), (124, .putfield 28, 3), (127, .goto (-25), 3)],
  [(130, .aload_n 0, 1), (131, .getfield 31, 3), (134, .aload_n 0, 1), (135, .getfield 24, 3), (138, .if_icmp .ge 13, 3), (141, .aload_n 0, 1), (142, .dup, 1), (143, .getfield 28, 3), (146, .iconst 1, 1), (147, .iadd, 1), (148, .putfield 28, 3), (151, .return_, 1)]]
def iX15_next : Mi := (tX15_next, 27, 1, 0, false, [], [(151, [true])])
theorem kX15_next : (tX15_next.all fun l => l.all fun q => am_chk prog_19_method_3_code q) = true := by decide +kernel
def tX15_isIn : List (List (Nat × Instr × Nat)) := [
  [(0, .iload_n 1, 1), (1, .aload_n 0, 1), (2, .getfield 24, 3), (5, .if_icmp .ge 27, 3), (8, .aload_n 0, 1), (9, .getfield 20, 3), (12, .iload_n 1, 1), (13, .baload, 1), (14, .iload_n 2, 1), (15, .if_icmp .lt 17, 3), (18, .aload_n 0, 1), (19, .getfield 20, 3), (22, .iload_n 1, 1), (23, .baload, 1), (24, .iload_n 3, 1), (25, .if_icmp .gt 7, 3), (28, .iconst 1, 1), (29, .goto 4, 3)],
  [(32, .iconst 0, 1), (33, .ireturn, 1)]]
def iX15_isIn : Mi := (tX15_isIn, 27, 4, 2, false, [], [(32, [true, true, true, true]), (33, [true, true, true, true])])
theorem kX15_isIn : (tX15_isIn.all fun l => l.all fun q => am_chk prog_19_method_2_code q) = true := by decide +kernel
def tX15_clause : List (List (Nat × Instr × Nat)) := [
  [(0, .aload_n 0, 1), (1, .getfield 14, 3), (4, .invokevirtual 66, 3), (7, .bipush 12, 2), (9, .if_icmp .ne 15, 3), (12, .new 58, 3), (15, .dup, 1), (16, .aload_n 0, 1), (17, .getfield 31, 3), (20, .invokespecial 60, 3), (23, .athrow, 1), (24, .aload_n 0, 1), (25, .ldc 68, 2), (27, .invokevirtual 55, 3), (30, .ifCond .eq 44, 3)],
  [(33, .aload_n 0, 1), (34, .iconst 0, 1), (35, .bipush 19, 2), (37, .invokevirtual 70, 3), (40, .istore_n 1, 1), (41, .aload_n 0, 1), (42, .ldc 74, 2), (44, .invokevirtual 75, 3), (47, .aload_n 0, 1), (48, .getfield 14, 3), (51, .new 79, 3), (54, .dup, 1), (55, .iconst 0, 1), (56, .iload_n 1, 1), (57, .aload_n 0, 1), (58, .iconst 0, 1), (59, .bipush 11, 2), (61, .invokevirtual 70, 3)],
  [(64, .invokespecial 81, 3), (67, .invokevirtual 84, 3), (70, .pop, 1), (71, .goto 108, 3), (74, .aload_n 0, 1), (75, .ldc 88, 2), (77, .invokevirtual 55, 3), (80, .ifCond .eq 31, 3), (83, .aload_n 0, 1), (84, .getfield 14, 3), (87, .new 79, 3), (90, .dup, 1), (91, .bipush 7, 2), (93, .iconst 0, 1), (94, .aload_n 0, 1), (95, .iconst 1, 1)],
  [(96, .bipush 20, 2), (98, .invokevirtual 70, 3), (101, .invokespecial 81, 3), (104, .invokevirtual 84, 3), (107, .pop, 1), (108, .goto 71, 3), (111, .aload_n 0, 1), (112, .ldc 90, 2), (114, .invokevirtual 55, 3), (117, .ifCond .eq 31, 3), (120, .aload_n 0, 1), (121, .getfield 14, 3), (124, .new 79, 3), (127, .dup, 1)],
  [(128, .bipush 8, 2), (130, .iconst 0, 1), (131, .aload_n 0, 1), (132, .iconst 1, 1), (133, .bipush 12, 2), (135, .invokevirtual 70, 3), (138, .invokespecial 81, 3), (141, .invokevirtual 84, 3), (144, .pop, 1), (145, .goto 34, 3), (148, .aload_n 0, 1), (149, .invokevirtual 92, 3), (152, .astore_n 1, 1), (153, .aload_n 0, 1), (154, .ldc 96, 2), (156, .invokevirtual 55, 3), (159, .ifCond .eq 11, 3)],
  [(162, .aload_n 1, 1), (163, .aload_n 0, 1), (164, .invokevirtual 98, 3), (167, .putfield 102, 3), (170, .aload_n 0, 1), (171, .getfield 14, 3), (174, .aload_n 1, 1), (175, .invokevirtual 84, 3), (178, .pop, 1), (179, .return_, 1)]]
def iX15_clause : Mi := (tX15_clause, 27, 2, 0, false, [], [(179, [true, true])])
theorem kX15_clause : (tX15_clause.all fun l => l.all fun q => am_chk prog_19_method_9_code q) = true := by decide +kernel
def tX15_takes : List (List (Nat × Instr × Nat)) := [
  [(0, .aload_n 0, 1), (1, .aload_n 1, 1), (2, .invokevirtual 48, 3), (5, .istore_n 2, 1), (6, .iload_n 2, 1), (7, .ifCond .eq 7, 3), (10, .aload_n 0, 1), (11, .invokevirtual 52, 3), (14, .iload_n 2, 1), (15, .ireturn, 1)]]
def iX15_takes : Mi := (tX15_takes, 27, 3, 2, false, [], [(14, [true, true])])
theorem kX15_takes : (tX15_takes.all fun l => l.all fun q => am_chk prog_19_method_5_code q) = true := by decide +kernel
def tX15_is : List (List (Nat × Instr × Nat)) := [
  [(0, .aload_n 0, 1), (1, .getfield 28, 3), (4, .aload_n 0, 1), (5, .getfield 31, 3), (8, .isub, 1), (9, .aload_n 1, 1), (10, .invokevirtual 38, 3), (13, .if_icmp .eq 5, 3), (16, .iconst 0, 1), (17, .ireturn, 1), (18, .iconst 0, 1), (19, .istore_n 2, 1), (20, .iload_n 2, 1), (21, .aload_n 1, 1), (22, .invokevirtual 38, 3), (25, .if_icmp .ge 30, 3), (28, .aload_n 0, 1), (29, .getfield 20, 3)],
  [(32, .aload_n 0, 1), (33, .getfield 31, 3), (36, .iload_n 2, 1), (37, .iadd, 1), (38, .baload, 1), (39, .aload_n 1, 1), (40, .iload_n 2, 1), (41, .invokevirtual 44, 3), (44, .if_icmp .eq 5, 3), (47, .iconst 0, 1), (48, .ireturn, 1), (49, .iinc 2 1, 3), (52, .goto (-32), 3), (55, .iconst 1, 1), (56, .ireturn, 1)]]
def iX15_is : Mi := (tX15_is, 27, 3, 2, false, [], [])
theorem kX15_is : (tX15_is.all fun l => l.all fun q => am_chk prog_19_method_4_code q) = true := by decide +kernel
def tX15_number : List (List (Nat × Instr × Nat)) := [
  [(0, .aload_n 0, 1), (1, .aload_n 0, 1), (2, .getfield 31, 3), (5, .bipush 48, 2), (7, .bipush 57, 2), (9, .invokevirtual 34, 3), (12, .ifCond .ne 15, 3), (15, .new 58, 3), (18, .dup, 1), (19, .aload_n 0, 1), (20, .getfield 31, 3), (23, .invokespecial 60, 3), (26, .athrow, 1), (27, .iconst 0, 1), (28, .istore_n 3, 1), (29, .aload_n 0, 1), (30, .getfield 31, 3)],
  [(33, .istore 4, 2), (35, .iload 4, 2), (37, .aload_n 0, 1), (38, .getfield 28, 3), (41, .if_icmp .ge 30, 3), (44, .iload_n 3, 1), (45, .iload_n 2, 1), (46, .if_icmp .gt 25, 3), (49, .bipush 10, 2), (51, .iload_n 3, 1), (52, .imul, 1), (53, .aload_n 0, 1), (54, .getfield 20, 3), (57, .iload 4, 2), (59, .baload, 1), (60, .iadd, 1), (61, .bipush 48, 2), (63, .isub, 1)],
  [(64, .istore_n 3, 1), (65, .iinc 4 1, 3), (68, .goto (-33), 3), (71, .iload_n 3, 1), (72, .iload_n 1, 1), (73, .if_icmp .lt 8, 3), (76, .iload_n 3, 1), (77, .iload_n 2, 1), (78, .if_icmp .le 15, 3), (81, .new 58, 3), (84, .dup, 1), (85, .aload_n 0, 1), (86, .getfield 31, 3), (89, .invokespecial 60, 3), (92, .athrow, 1), (93, .aload_n 0, 1), (94, .invokevirtual 52, 3)],
  [(97, .iload_n 3, 1), (98, .ireturn, 1)]]
def iX15_number : Mi := (tX15_number, 27, 5, 1, false, [], [(71, [false, false, false, false, true]), (81, [false, true, true, true, true])])
theorem kX15_number : (tX15_number.all fun l => l.all fun q => am_chk prog_19_method_7_code q) = true := by decide +kernel
def tX15_need : List (List (Nat × Instr × Nat)) := [
  [(0, .aload_n 0, 1), (1, .aload_n 1, 1), (2, .invokevirtual 55, 3), (5, .ifCond .ne 15, 3), (8, .new 58, 3), (11, .dup, 1), (12, .aload_n 0, 1), (13, .getfield 31, 3), (16, .invokespecial 60, 3), (19, .athrow, 1), (20, .return_, 1)]]
def iX15_need : Mi := (tX15_need, 27, 2, 0, false, [], [])
theorem kX15_need : (tX15_need.all fun l => l.all fun q => am_chk prog_19_method_6_code q) = true := by decide +kernel
def tX15_head : List (List (Nat × Instr × Nat)) := [
  [(0, .aload_n 0, 1), (1, .ldc 106, 2), (3, .invokevirtual 55, 3), (6, .ifCond .eq 57, 3), (9, .aload_n 0, 1), (10, .iconst 0, 1), (11, .bipush 7, 2), (13, .invokevirtual 70, 3), (16, .istore_n 2, 1), (17, .new 79, 3), (20, .dup, 1), (21, .iconst 1, 1), (22, .bipush 20, 2), (24, .iload_n 2, 1), (25, .imul, 1), (26, .aload_n 0, 1), (27, .iconst 0, 1), (28, .bipush 19, 2), (30, .invokevirtual 70, 3)],
  [(33, .iadd, 1), (34, .iconst 0, 1), (35, .invokespecial 81, 3), (38, .astore_n 1, 1), (39, .aload_n 1, 1), (40, .aload_n 0, 1), (41, .invokevirtual 108, 3), (44, .putfield 112, 3), (47, .aload_n 0, 1), (48, .ldc 116, 2), (50, .invokevirtual 75, 3), (53, .aload_n 1, 1), (54, .aload_n 0, 1), (55, .invokevirtual 108, 3), (58, .putfield 117, 3), (61, .aload_n 1, 1), (62, .areturn, 1), (63, .aload_n 0, 1)],
  [(64, .ldc 120, 2), (66, .invokevirtual 55, 3), (69, .ifCond .eq 43, 3), (72, .new 79, 3), (75, .dup, 1), (76, .iconst 5, 1), (77, .aload_n 0, 1), (78, .iconst 0, 1), (79, .iconst 3, 1), (80, .invokevirtual 70, 3), (83, .iconst 0, 1), (84, .invokespecial 81, 3), (87, .astore_n 1, 1), (88, .aload_n 1, 1), (89, .aload_n 0, 1), (90, .invokevirtual 108, 3), (93, .putfield 112, 3)],
  [(96, .aload_n 0, 1), (97, .ldc 122, 2), (99, .invokevirtual 75, 3), (102, .aload_n 1, 1), (103, .aload_n 0, 1), (104, .invokevirtual 108, 3), (107, .putfield 117, 3), (110, .aload_n 1, 1), (111, .areturn, 1), (112, .aload_n 0, 1), (113, .ldc 124, 2), (115, .invokevirtual 55, 3), (118, .ifCond .eq 21, 3), (121, .new 79, 3), (124, .dup, 1), (125, .bipush 6, 2), (127, .aload_n 0, 1)],
  [(128, .invokevirtual 126, 3), (131, .iconst 0, 1), (132, .invokespecial 81, 3), (135, .astore_n 1, 1), (136, .goto 66, 3), (139, .aload_n 0, 1), (140, .ldc 129, 2), (142, .invokevirtual 55, 3), (145, .ifCond .eq 17, 3), (148, .new 79, 3), (151, .dup, 1), (152, .iconst 2, 1), (153, .iconst 0, 1), (154, .iconst 0, 1), (155, .invokespecial 81, 3), (158, .astore_n 1, 1), (159, .goto 43, 3)],
  [(162, .aload_n 0, 1), (163, .ldc 131, 2), (165, .invokevirtual 55, 3), (168, .ifCond .eq 17, 3), (171, .new 79, 3), (174, .dup, 1), (175, .iconst 3, 1), (176, .iconst 0, 1), (177, .iconst 0, 1), (178, .invokespecial 81, 3), (181, .astore_n 1, 1), (182, .goto 20, 3), (185, .aload_n 0, 1), (186, .ldc 133, 2), (188, .invokevirtual 75, 3), (191, .new 79, 3)],
  [(194, .dup, 1), (195, .iconst 4, 1), (196, .iconst 0, 1), (197, .iconst 0, 1), (198, .invokespecial 81, 3), (201, .astore_n 1, 1), (202, .aload_n 1, 1), (203, .aload_n 0, 1), (204, .invokevirtual 108, 3), (207, .putfield 112, 3), (210, .aload_n 1, 1), (211, .areturn, 1)]]
def iX15_head : Mi := (tX15_head, 27, 3, 5, false, [], [(202, [false, false, true])])
theorem kX15_head : (tX15_head.all fun l => l.all fun q => am_chk prog_19_method_10_code q) = true := by decide +kernel
def tX15_sum : List (List (Nat × Instr × Nat)) := [
  [(0, .aload_n 0, 1), (1, .invokevirtual 188, 3), (4, .astore_n 1, 1), (5, .aload_n 0, 1), (6, .ldc 191, 2), (8, .invokevirtual 48, 3), (11, .ifCond .ne 12, 3), (14, .aload_n 0, 1), (15, .ldc 193, 2), (17, .invokevirtual 48, 3), (20, .ifCond .eq 35, 3), (23, .aload_n 0, 1), (24, .getfield 20, 3), (27, .aload_n 0, 1), (28, .getfield 31, 3), (31, .baload, 1)],
  [(32, .i2c, 1), (33, .istore_n 2, 1), (34, .aload_n 0, 1), (35, .invokevirtual 52, 3), (38, .new 195, 3), (41, .dup, 1), (42, .iload_n 2, 1), (43, .aload_n 1, 1), (44, .aload_n 0, 1), (45, .invokevirtual 188, 3), (48, .invokespecial 197, 3), (51, .astore_n 1, 1), (52, .goto (-47), 3), (55, .aload_n 1, 1), (56, .areturn, 1)]]
def iX15_sum : Mi := (tX15_sum, 27, 3, 5, false, [], [(5, [false, false, true]), (23, [false, false, true])])
theorem kX15_sum : (tX15_sum.all fun l => l.all fun q => am_chk prog_19_method_17_code q) = true := by decide +kernel
def tX15_term : List (List (Nat × Instr × Nat)) := [
  [(0, .aload_n 0, 1), (1, .invokevirtual 198, 3), (4, .astore_n 1, 1), (5, .aload_n 0, 1), (6, .ldc 201, 2), (8, .invokevirtual 48, 3), (11, .ifCond .ne 12, 3), (14, .aload_n 0, 1), (15, .ldc 203, 2), (17, .invokevirtual 48, 3), (20, .ifCond .eq 35, 3), (23, .aload_n 0, 1), (24, .getfield 20, 3), (27, .aload_n 0, 1), (28, .getfield 31, 3), (31, .baload, 1)],
  [(32, .i2c, 1), (33, .istore_n 2, 1), (34, .aload_n 0, 1), (35, .invokevirtual 52, 3), (38, .new 195, 3), (41, .dup, 1), (42, .iload_n 2, 1), (43, .aload_n 1, 1), (44, .aload_n 0, 1), (45, .invokevirtual 198, 3), (48, .invokespecial 197, 3), (51, .astore_n 1, 1), (52, .goto (-47), 3), (55, .aload_n 1, 1), (56, .areturn, 1)]]
def iX15_term : Mi := (tX15_term, 27, 3, 5, false, [], [(5, [false, false, true]), (23, [false, false, true])])
theorem kX15_term : (tX15_term.all fun l => l.all fun q => am_chk prog_19_method_18_code q) = true := by decide +kernel
def tX15_part : List (List (Nat × Instr × Nat)) := [
  [(0, .aload_n 0, 1), (1, .ldc 193, 2), (3, .invokevirtual 48, 3), (6, .ifCond .eq 31, 3), (9, .aload_n 0, 1), (10, .invokevirtual 172, 3), (13, .new 222, 3), (16, .dup, 1), (17, .aload_n 0, 1), (18, .invokevirtual 198, 3), (21, .invokespecial 224, 3), (24, .astore_n 1, 1), (25, .aload_n 0, 1), (26, .dup, 1), (27, .getfield 157, 3), (30, .iconst 1, 1), (31, .isub, 1)],
  [(32, .putfield 157, 3), (35, .aload_n 1, 1), (36, .areturn, 1), (37, .aload_n 0, 1), (38, .ldc 227, 2), (40, .invokevirtual 48, 3), (43, .ifCond .eq 30, 3), (46, .aload_n 0, 1), (47, .invokevirtual 172, 3), (50, .aload_n 0, 1), (51, .invokevirtual 108, 3), (54, .astore_n 1, 1), (55, .aload_n 0, 1), (56, .ldc 229, 2), (58, .invokevirtual 75, 3), (61, .aload_n 0, 1), (62, .dup, 1), (63, .getfield 157, 3)],
  [(66, .iconst 1, 1), (67, .isub, 1), (68, .putfield 157, 3), (71, .aload_n 1, 1), (72, .areturn, 1), (73, .aload_n 0, 1), (74, .aload_n 0, 1), (75, .getfield 31, 3), (78, .bipush 48, 2), (80, .bipush 57, 2), (82, .invokevirtual 34, 3), (85, .ifCond .eq 23, 3), (88, .aload_n 0, 1), (89, .invokevirtual 231, 3), (92, .new 234, 3), (95, .dup, 1)],
  [(96, .aload_n 0, 1), (97, .iconst 0, 1), (98, .sipush 10000, 3), (101, .invokevirtual 70, 3), (104, .invokespecial 236, 3), (107, .areturn, 1), (108, .aload_n 0, 1), (109, .invokevirtual 237, 3), (112, .istore_n 2, 1), (113, .iload_n 2, 1), (114, .iconst (-1), 1), (115, .if_icmp .ne 15, 3), (118, .new 58, 3), (121, .dup, 1), (122, .aload_n 0, 1), (123, .getfield 31, 3), (126, .invokespecial 60, 3)],
  [(129, .athrow, 1), (130, .aload_n 0, 1), (131, .invokevirtual 231, 3), (134, .aload_n 0, 1), (135, .invokevirtual 52, 3), (138, .new 240, 3), (141, .dup, 1), (142, .iload_n 2, 1), (143, .invokespecial 242, 3), (146, .areturn, 1)]]
def iX15_part : Mi := (tX15_part, 27, 3, 5, false, [], [])
theorem kX15_part : (tX15_part.all fun l => l.all fun q => am_chk prog_19_method_21_code q) = true := by decide +kernel
def tX15_opens : List (List (Nat × Instr × Nat)) := [
  [(0, .aload_n 0, 1), (1, .getfield 157, 3), (4, .bipush 8, 2), (6, .if_icmp .ne 15, 3), (9, .new 58, 3), (12, .dup, 1), (13, .aload_n 0, 1), (14, .getfield 31, 3), (17, .invokespecial 60, 3), (20, .athrow, 1), (21, .aload_n 0, 1), (22, .dup, 1), (23, .getfield 157, 3), (26, .iconst 1, 1), (27, .iadd, 1), (28, .putfield 157, 3), (31, .aload_n 0, 1)],
  [(32, .invokevirtual 52, 3), (35, .return_, 1)]]
def iX15_opens : Mi := (tX15_opens, 27, 1, 0, false, [], [])
theorem kX15_opens : (tX15_opens.all fun l => l.all fun q => am_chk prog_19_method_14_code q) = true := by decide +kernel
def tX15_leaf : List (List (Nat × Instr × Nat)) := [
  [(0, .aload_n 0, 1), (1, .getfield 205, 3), (4, .bipush 60, 2), (6, .if_icmp .ne 15, 3), (9, .new 58, 3), (12, .dup, 1), (13, .aload_n 0, 1), (14, .getfield 31, 3), (17, .invokespecial 60, 3), (20, .athrow, 1), (21, .aload_n 0, 1), (22, .dup, 1), (23, .getfield 205, 3), (26, .iconst 1, 1), (27, .iadd, 1), (28, .putfield 205, 3), (31, .return_, 1)]]
def iX15_leaf : Mi := (tX15_leaf, 27, 1, 0, false, [], [])
theorem kX15_leaf : (tX15_leaf.all fun l => l.all fun q => am_chk prog_19_method_19_code q) = true := by decide +kernel
def tX15_field : List (List (Nat × Instr × Nat)) := [
  [(0, .aload_n 0, 1), (1, .ldc 208, 2), (3, .invokevirtual 48, 3), (6, .ifCond .eq 5, 3), (9, .iconst 0, 1), (10, .ireturn, 1), (11, .aload_n 0, 1), (12, .ldc 210, 2), (14, .invokevirtual 48, 3), (17, .ifCond .eq 5, 3), (20, .iconst 1, 1), (21, .ireturn, 1), (22, .aload_n 0, 1), (23, .ldc 212, 2), (25, .invokevirtual 48, 3), (28, .ifCond .eq 5, 3), (31, .iconst 2, 1)],
  [(32, .ireturn, 1), (33, .aload_n 0, 1), (34, .ldc 214, 2), (36, .invokevirtual 48, 3), (39, .ifCond .eq 5, 3), (42, .iconst 3, 1), (43, .ireturn, 1), (44, .aload_n 0, 1), (45, .ldc 216, 2), (47, .invokevirtual 48, 3), (50, .ifCond .eq 5, 3), (53, .iconst 4, 1), (54, .ireturn, 1), (55, .aload_n 0, 1), (56, .ldc 218, 2), (58, .invokevirtual 48, 3), (61, .ifCond .eq 5, 3)],
  [(64, .iconst 5, 1), (65, .ireturn, 1), (66, .aload_n 0, 1), (67, .ldc 220, 2), (69, .invokevirtual 48, 3), (72, .ifCond .eq 8, 3), (75, .bipush 6, 2), (77, .goto 4, 3), (80, .iconst (-1), 1), (81, .ireturn, 1)]]
def iX15_field : Mi := (tX15_field, 27, 1, 1, false, [], [(81, [true])])
theorem kX15_field : (tX15_field.all fun l => l.all fun q => am_chk prog_19_method_20_code q) = true := by decide +kernel
def tX15_kind : List (List (Nat × Instr × Nat)) := [
  [(0, .aload_n 0, 1), (1, .ldc 135, 2), (3, .invokevirtual 55, 3), (6, .ifCond .eq 5, 3), (9, .iconst 0, 1), (10, .ireturn, 1), (11, .aload_n 0, 1), (12, .ldc 129, 2), (14, .invokevirtual 55, 3), (17, .ifCond .eq 5, 3), (20, .iconst 1, 1), (21, .ireturn, 1), (22, .aload_n 0, 1), (23, .ldc 120, 2), (25, .invokevirtual 55, 3), (28, .ifCond .eq 5, 3), (31, .iconst 3, 1)],
  [(32, .ireturn, 1), (33, .aload_n 0, 1), (34, .ldc 137, 2), (36, .invokevirtual 75, 3), (39, .iconst 4, 1), (40, .ireturn, 1)]]
def iX15_kind : Mi := (tX15_kind, 27, 1, 1, false, [], [])
theorem kX15_kind : (tX15_kind.all fun l => l.all fun q => am_chk prog_19_method_11_code q) = true := by decide +kernel
def tX15_test : List (List (Nat × Instr × Nat)) := [
  [(0, .aload_n 0, 1), (1, .invokevirtual 139, 3), (4, .astore_n 1, 1), (5, .aload_n 0, 1), (6, .ldc 142, 2), (8, .invokevirtual 48, 3), (11, .ifCond .ne 5, 3), (14, .aload_n 1, 1), (15, .areturn, 1), (16, .new 144, 3), (19, .dup, 1), (20, .iconst 0, 1), (21, .invokespecial 146, 3), (24, .astore_n 2, 1), (25, .aload_n 2, 1), (26, .getfield 149, 3), (29, .aload_n 1, 1), (30, .invokevirtual 84, 3)],
  [(33, .pop, 1), (34, .aload_n 0, 1), (35, .ldc 142, 2), (37, .invokevirtual 55, 3), (40, .ifCond .eq 18, 3), (43, .aload_n 2, 1), (44, .getfield 149, 3), (47, .aload_n 0, 1), (48, .invokevirtual 139, 3), (51, .invokevirtual 84, 3), (54, .pop, 1), (55, .goto (-21), 3), (58, .aload_n 2, 1), (59, .areturn, 1)]]
def iX15_test : Mi := (tX15_test, 27, 3, 5, false, [], [(34, [false, true])])
theorem kX15_test : (tX15_test.all fun l => l.all fun q => am_chk prog_19_method_12_code q) = true := by decide +kernel
def tX15_both : List (List (Nat × Instr × Nat)) := [
  [(0, .aload_n 0, 1), (1, .invokevirtual 152, 3), (4, .astore_n 1, 1), (5, .aload_n 0, 1), (6, .ldc 155, 2), (8, .invokevirtual 48, 3), (11, .ifCond .ne 5, 3), (14, .aload_n 1, 1), (15, .areturn, 1), (16, .new 144, 3), (19, .dup, 1), (20, .iconst 1, 1), (21, .invokespecial 146, 3), (24, .astore_n 2, 1), (25, .aload_n 2, 1), (26, .getfield 149, 3), (29, .aload_n 1, 1), (30, .invokevirtual 84, 3)],
  [(33, .pop, 1), (34, .aload_n 0, 1), (35, .ldc 155, 2), (37, .invokevirtual 55, 3), (40, .ifCond .eq 18, 3), (43, .aload_n 2, 1), (44, .getfield 149, 3), (47, .aload_n 0, 1), (48, .invokevirtual 152, 3), (51, .invokevirtual 84, 3), (54, .pop, 1), (55, .goto (-21), 3), (58, .aload_n 2, 1), (59, .areturn, 1)]]
def iX15_both : Mi := (tX15_both, 27, 3, 5, false, [], [(34, [false, true])])
theorem kX15_both : (tX15_both.all fun l => l.all fun q => am_chk prog_19_method_13_code q) = true := by decide +kernel
def tX15_plain : List (List (Nat × Instr × Nat)) := [
  [(0, .iconst 0, 1), (1, .istore_n 1, 1), (2, .aload_n 0, 1), (3, .ldc 160, 2), (5, .invokevirtual 55, 3), (8, .ifCond .eq 16, 3), (11, .iload_n 1, 1), (12, .ifCond .ne 7, 3), (15, .iconst 1, 1), (16, .goto 4, 3), (19, .iconst 0, 1), (20, .istore_n 1, 1), (21, .goto (-19), 3), (24, .aload_n 0, 1), (25, .invokevirtual 162, 3), (28, .astore_n 2, 1), (29, .iload_n 1, 1), (30, .ifCond .eq 14, 3)],
  [(33, .new 165, 3), (36, .dup, 1), (37, .aload_n 2, 1), (38, .invokespecial 167, 3), (41, .goto 4, 3), (44, .aload_n 2, 1), (45, .areturn, 1)]]
def iX15_plain : Mi := (tX15_plain, 27, 3, 5, false, [], [(2, [false, false, true]), (20, [false, true, true]), (45, [true, true, true])])
theorem kX15_plain : (tX15_plain.all fun l => l.all fun q => am_chk prog_19_method_15_code q) = true := by decide +kernel
def tX15_positive : List (List (Nat × Instr × Nat)) := [
  [(0, .aload_n 0, 1), (1, .ldc 170, 2), (3, .invokevirtual 48, 3), (6, .ifCond .eq 30, 3), (9, .aload_n 0, 1), (10, .invokevirtual 172, 3), (13, .aload_n 0, 1), (14, .invokevirtual 98, 3), (17, .astore_n 1, 1), (18, .aload_n 0, 1), (19, .ldc 175, 2), (21, .invokevirtual 75, 3), (24, .aload_n 0, 1), (25, .dup, 1), (26, .getfield 157, 3), (29, .iconst 1, 1), (30, .isub, 1), (31, .putfield 157, 3)],
  [(34, .aload_n 1, 1), (35, .areturn, 1), (36, .aload_n 0, 1), (37, .invokevirtual 108, 3), (40, .astore_n 1, 1), (41, .aload_n 0, 1), (42, .ldc 177, 2), (44, .invokevirtual 48, 3), (47, .ifCond .ne 33, 3), (50, .aload_n 0, 1), (51, .ldc 179, 2), (53, .invokevirtual 48, 3), (56, .ifCond .ne 24, 3), (59, .aload_n 0, 1), (60, .ldc 181, 2), (62, .invokevirtual 48, 3)],
  [(65, .ifCond .ne 15, 3), (68, .new 58, 3), (71, .dup, 1), (72, .aload_n 0, 1), (73, .getfield 31, 3), (76, .invokespecial 60, 3), (79, .athrow, 1), (80, .aload_n 0, 1), (81, .getfield 20, 3), (84, .aload_n 0, 1), (85, .getfield 31, 3), (88, .baload, 1), (89, .i2c, 1), (90, .istore_n 2, 1), (91, .aload_n 0, 1), (92, .invokevirtual 52, 3), (95, .new 183, 3)],
  [(98, .dup, 1), (99, .iload_n 2, 1), (100, .aload_n 1, 1), (101, .aload_n 0, 1), (102, .invokevirtual 108, 3), (105, .invokespecial 185, 3), (108, .areturn, 1)]]
def iX15_positive : Mi := (tX15_positive, 27, 3, 5, false, [], [(80, [false, false, true])])
theorem kX15_positive : (tX15_positive.all fun l => l.all fun q => am_chk prog_19_method_16_code q) = true := by decide +kernel
def tX16_init : List (List (Nat × Instr × Nat)) := [
  [(0, .aload_n 0, 1), (1, .aconst_null, 1), (2, .aconst_null, 1), (3, .iconst 0, 1), (4, .iconst 0, 1), (5, .invokespecial 1, 3), (8, .aload_n 0, 1), (9, .iload_n 1, 1), (10, .putfield 7, 3), (13, .return_, 1)]]
def iX16_init : Mi := (tX16_init, 28, 2, 0, true, [], [])
theorem kX16_init : (tX16_init.all fun l => l.all fun q => am_chk prog_8_method_1_code q) = true := by decide +kernel
def tX17_init : List (List (Nat × Instr × Nat)) := [
  [(0, .aload_n 0, 1), (1, .invokespecial 1, 3), (4, .aload_n 0, 1), (5, .iload_n 1, 1), (6, .putfield 7, 3), (9, .aload_n 0, 1), (10, .iload_n 2, 1), (11, .putfield 13, 3), (14, .aload_n 0, 1), (15, .iload_n 3, 1), (16, .putfield 16, 3), (19, .return_, 1)]]
def iX17_init : Mi := (tX17_init, 29, 4, 0, true, [], [])
theorem kX17_init : (tX17_init.all fun l => l.all fun q => am_chk prog_4_method_1_code q) = true := by decide +kernel
def tX17_holds : List (List (Nat × Instr × Nat)) := [
  [(0, .aload_n 0, 1), (1, .getfield 19, 3), (4, .ifnull 16, 3), (7, .aload_n 0, 1), (8, .getfield 19, 3), (11, .aload_n 1, 1), (12, .invokevirtual 23, 3), (15, .ifCond .ne 5, 3), (18, .iconst 0, 1), (19, .ireturn, 1), (20, .aload_n 0, 1), (21, .getfield 29, 3), (24, .aload_n 1, 1), (25, .invokevirtual 33, 3), (28, .lstore_n 3, 1), (29, .aload_n 0, 1), (30, .getfield 39, 3)],
  [(33, .ifnonnull 7, 3), (36, .lconst 0, 1), (37, .goto 11, 3), (40, .aload_n 0, 1), (41, .getfield 39, 3), (44, .aload_n 1, 1), (45, .invokevirtual 33, 3), (48, .lstore 5, 2), (50, .aload_n 2, 1), (51, .iconst 0, 1), (52, .lload_n 3, 1), (53, .lastore, 1), (54, .aload_n 2, 1), (55, .iconst 1, 1), (56, .lload 5, 2), (58, .lastore, 1), (59, .iconst 1, 1), (60, .ireturn, 1), (61, .astore_n 3, 1), (62, .iconst 0, 1), (63, .ireturn, 1)]]
def iX17_holds : Mi := (tX17_holds, 29, 7, 2, false, [(0, 19, 61, 2), (20, 60, 61, 2)], [(20, [false, false, false, true, true, true, true]), (48, [true, true, false, false, false, true, true]), (61, [true, true, true, true, true, true, true])])
theorem kX17_holds : (tX17_holds.all fun l => l.all fun q => am_chk prog_4_method_2_code q) = true := by decide +kernel
def tX18_init : List (List (Nat × Instr × Nat)) := [
  [(0, .aload_n 0, 1), (1, .invokespecial 1, 3), (4, .return_, 1)]]
def iX18_init : Mi := (tX18_init, 30, 1, 0, true, [], [])
theorem kX18_init : (tX18_init.all fun l => l.all fun q => am_chk prog_24_method_1_code q) = true := by decide +kernel
def tX19_init : List (List (Nat × Instr × Nat)) := [
  [(0, .aload_n 0, 1), (1, .invokespecial 1, 3), (4, .aload_n 0, 1), (5, .aload_n 1, 1), (6, .putfield 7, 3), (9, .return_, 1)]]
def iX19_init : Mi := (tX19_init, 31, 2, 0, true, [], [])
theorem kX19_init : (tX19_init.all fun l => l.all fun q => am_chk prog_27_method_1_code q) = true := by decide +kernel
def tX19_of : List (List (Nat × Instr × Nat)) := [
  [(0, .aload_n 0, 1), (1, .getfield 7, 3), (4, .aload_n 1, 1), (5, .invokevirtual 13, 3), (8, .lneg, 1), (9, .lreturn, 1)]]
def iX19_of : Mi := (tX19_of, 31, 2, 3, false, [], [])
theorem kX19_of : (tX19_of.all fun l => l.all fun q => am_chk prog_27_method_2_code q) = true := by decide +kernel
def tX2_init : List (List (Nat × Instr × Nat)) := [
  [(0, .aload_n 0, 1), (1, .aload_n 1, 1), (2, .putfield 3, 3), (5, .aload_n 0, 1), (6, .invokespecial 9, 3), (9, .aload_n 0, 1), (10, .sipush 240, 3), (13, .newarray .boolean, 2), (15, .putfield 15, 3), (18, .aload_n 0, 1), (19, .sipush 240, 3), (22, .newarray .boolean, 2), (24, .putfield 19, 3), (27, .aload_n 0, 1), (28, .iconst (-1), 1), (29, .putfield 22, 3)],
  [(32, .aload_n 0, 1), (33, .iconst (-1), 1), (34, .putfield 26, 3), (37, .return_, 1)]]
def iX2_init : Mi := (tX2_init, 32, 2, 0, true, [], [])
theorem kX2_init : (tX2_init.all fun l => l.all fun q => am_chk prog_11_method_1_code q) = true := by decide +kernel
def tX2_looks : List (List (Nat × Instr × Nat)) := [
  [(0, .aload_n 0, 1), (1, .getfield 22, 3), (4, .iload_n 1, 1), (5, .if_icmp .ne 18, 3), (8, .aload_n 0, 1), (9, .getfield 26, 3), (12, .aload_n 0, 1), (13, .getfield 3, 3), (16, .getfield 29, 3), (19, .if_icmp .ne 4, 3), (22, .return_, 1), (23, .aload_n 0, 1), (24, .iload_n 1, 1), (25, .putfield 22, 3), (28, .aload_n 0, 1), (29, .aload_n 0, 1), (30, .getfield 3, 3)],
  [(33, .getfield 29, 3), (36, .putfield 26, 3), (39, .iconst 0, 1), (40, .istore_n 2, 1), (41, .iload_n 2, 1), (42, .sipush 240, 3), (45, .if_icmp .ge 23, 3), (48, .aload_n 0, 1), (49, .getfield 15, 3), (52, .iload_n 2, 1), (53, .iconst 0, 1), (54, .bastore, 1), (55, .aload_n 0, 1), (56, .getfield 19, 3), (59, .iload_n 2, 1), (60, .iconst 0, 1), (61, .bastore, 1), (62, .iinc 2 1, 3)],
  [(65, .goto (-24), 3), (68, .aload_n 0, 1), (69, .getfield 3, 3), (72, .getfield 30, 3), (75, .getfield 34, 3), (78, .invokevirtual 40, 3), (81, .iconst 1, 1), (82, .isub, 1), (83, .istore_n 2, 1), (84, .iload_n 2, 1), (85, .ifCond .lt 54, 3), (88, .aload_n 0, 1), (89, .getfield 3, 3), (92, .getfield 30, 3), (95, .getfield 34, 3)],
  [(98, .iload_n 2, 1), (99, .invokevirtual 46, 3), (102, .checkcast 50, 3), (105, .getfield 52, 3), (108, .iload_n 1, 1), (109, .if_icmp .gt 24, 3), (112, .aload_n 0, 1), (113, .aload_n 0, 1), (114, .getfield 3, 3), (117, .getfield 30, 3), (120, .getfield 34, 3), (123, .iload_n 2, 1), (124, .invokevirtual 46, 3), (127, .checkcast 50, 3)],
  [(130, .invokevirtual 55, 3), (133, .iinc 2 (-1), 3), (136, .goto (-52), 3), (139, .aload_n 0, 1), (140, .iconst 3, 1), (141, .putfield 59, 3), (144, .aload_n 0, 1), (145, .bipush 12, 2), (147, .putfield 62, 3), (150, .iconst 0, 1), (151, .istore_n 2, 1), (152, .iload_n 2, 1), (153, .aload_n 0, 1), (154, .getfield 3, 3), (157, .getfield 30, 3)],
  [(160, .getfield 34, 3), (163, .invokevirtual 40, 3), (166, .if_icmp .ge 139, 3), (169, .iconst 0, 1), (170, .istore_n 3, 1), (171, .iload_n 3, 1), (172, .aload_n 0, 1), (173, .getfield 3, 3), (176, .getfield 30, 3), (179, .getfield 34, 3), (182, .iload_n 2, 1), (183, .invokevirtual 46, 3), (186, .checkcast 50, 3), (189, .getfield 65, 3)],
  [(192, .invokevirtual 40, 3), (195, .if_icmp .ge 104, 3), (198, .aload_n 0, 1), (199, .getfield 3, 3), (202, .getfield 30, 3), (205, .getfield 34, 3), (208, .iload_n 2, 1), (209, .invokevirtual 46, 3), (212, .checkcast 50, 3), (215, .getfield 65, 3), (218, .iload_n 3, 1), (219, .invokevirtual 46, 3), (222, .checkcast 68, 3)],
  [(225, .astore 4, 2), (227, .aload 4, 2), (229, .getfield 70, 3), (232, .bipush 7, 2), (234, .if_icmp .ne 26, 3), (237, .aload_n 0, 1), (238, .getfield 15, 3), (241, .bipush 12, 2), (243, .iload_n 2, 1), (244, .imul, 1), (245, .iload_n 3, 1), (246, .iadd, 1), (247, .baload, 1), (248, .ifCond .eq 12, 3), (251, .aload_n 0, 1), (252, .aload 4, 2), (254, .getfield 73, 3)],
  [(257, .putfield 59, 3), (260, .aload 4, 2), (262, .getfield 70, 3), (265, .bipush 8, 2), (267, .if_icmp .ne 26, 3), (270, .aload_n 0, 1), (271, .getfield 15, 3), (274, .bipush 12, 2), (276, .iload_n 2, 1), (277, .imul, 1), (278, .iload_n 3, 1), (279, .iadd, 1), (280, .baload, 1), (281, .ifCond .eq 12, 3), (284, .aload_n 0, 1), (285, .aload 4, 2), (287, .getfield 73, 3)],
  [(290, .putfield 62, 3), (293, .iinc 3 1, 3), (296, .goto (-125), 3), (299, .iinc 2 1, 3), (302, .goto (-150), 3), (305, .return_, 1)]]
def iX2_looks : Mi := (tX2_looks, 32, 5, 0, false, [], [(23, [false, false, true, true, true]), (41, [false, false, false, true, true]), (84, [false, false, false, true, true]), (133, [false, false, false, true, true]), (152, [false, true, false, true, true]), (171, [false, true, false, false, true]), (260, [false, true]), (293, [false, true, false, false, true])])
theorem kX2_looks : (tX2_looks.all fun l => l.all fun q => am_chk prog_11_method_2_code q) = true := by decide +kernel
def tX2_goes : List (List (Nat × Instr × Nat)) := [
  [(0, .iconst 0, 1), (1, .istore_n 2, 1), (2, .iload_n 2, 1), (3, .aload_n 1, 1), (4, .getfield 65, 3), (7, .invokevirtual 40, 3), (10, .if_icmp .ge 101, 3), (13, .bipush 12, 2), (15, .aload_n 1, 1), (16, .getfield 76, 3), (19, .imul, 1), (20, .iload_n 2, 1), (21, .iadd, 1), (22, .istore_n 3, 1), (23, .aload_n 0, 1), (24, .getfield 15, 3), (27, .iload_n 3, 1), (28, .aload_n 0, 1), (29, .getfield 19, 3)],
  [(32, .iload_n 3, 1), (33, .baload, 1), (34, .ifCond .ne 7, 3), (37, .iconst 1, 1), (38, .goto 4, 3), (41, .iconst 0, 1), (42, .bastore, 1), (43, .aload_n 1, 1), (44, .getfield 65, 3), (47, .iload_n 2, 1), (48, .invokevirtual 46, 3), (51, .checkcast 68, 3), (54, .astore 4, 2), (56, .aload_n 0, 1), (57, .getfield 15, 3), (60, .iload_n 3, 1), (61, .baload, 1), (62, .ifCond .eq 43, 3)],
  [(65, .aload 4, 2), (67, .getfield 70, 3), (70, .ifCond .ne 35, 3), (73, .aload 4, 2), (75, .getfield 79, 3), (78, .aload_n 1, 1), (79, .getfield 76, 3), (82, .if_icmp .ge 23, 3), (85, .aload_n 0, 1), (86, .getfield 19, 3), (89, .bipush 12, 2), (91, .aload 4, 2), (93, .getfield 79, 3)],
  [(96, .imul, 1), (97, .aload 4, 2), (99, .getfield 73, 3), (102, .iadd, 1), (103, .iconst 1, 1), (104, .bastore, 1), (105, .iinc 2 1, 3), (108, .goto (-106), 3), (111, .return_, 1)]]
def iX2_goes : Mi := (tX2_goes, 32, 5, 0, false, [], [(2, [false, false, false, true, true]), (42, [false, false, false, false, true]), (105, [false, false, false, true, true])])
theorem kX2_goes : (tX2_goes.all fun l => l.all fun q => am_chk prog_11_method_3_code q) = true := by decide +kernel
def tX20_init : List (List (Nat × Instr × Nat)) := [
  [(0, .aload_n 0, 1), (1, .invokespecial 1, 3), (4, .aload_n 0, 1), (5, .iload_n 1, 1), (6, .putfield 7, 3), (9, .return_, 1)]]
def iX20_init : Mi := (tX20_init, 33, 2, 0, true, [], [])
theorem kX20_init : (tX20_init.all fun l => l.all fun q => am_chk prog_16_method_1_code q) = true := by decide +kernel
def tX20_of : List (List (Nat × Instr × Nat)) := [
  [(0, .aload_n 0, 1), (1, .getfield 7, 3), (4, .i2l, 1), (5, .lreturn, 1)]]
def iX20_of : Mi := (tX20_of, 33, 2, 3, false, [], [])
theorem kX20_of : (tX20_of.all fun l => l.all fun q => am_chk prog_16_method_2_code q) = true := by decide +kernel
def tX21_init : List (List (Nat × Instr × Nat)) := [
  [(0, .aload_n 0, 1), (1, .invokespecial 1, 3), (4, .aload_n 0, 1), (5, .iload_n 1, 1), (6, .putfield 7, 3), (9, .return_, 1)]]
def iX21_init : Mi := (tX21_init, 34, 2, 0, true, [], [])
theorem kX21_init : (tX21_init.all fun l => l.all fun q => am_chk prog_9_method_1_code q) = true := by decide +kernel
def tX21_of : List (List (Nat × Instr × Nat)) := [
  [(0, .aload_n 1, 1), (1, .aload_n 0, 1), (2, .getfield 7, 3), (5, .invokevirtual 13, 3), (8, .lreturn, 1)]]
def iX21_of : Mi := (tX21_of, 34, 2, 3, false, [], [])
theorem kX21_of : (tX21_of.all fun l => l.all fun q => am_chk prog_9_method_2_code q) = true := by decide +kernel
def tX22_init : List (List (Nat × Instr × Nat)) := [
  [(0, .aload_n 0, 1), (1, .invokespecial 3, 3), (4, .aload_n 0, 1), (5, .iload_n 1, 1), (6, .putfield 9, 3), (9, .aload_n 0, 1), (10, .aload_n 2, 1), (11, .putfield 15, 3), (14, .aload_n 0, 1), (15, .aload_n 3, 1), (16, .putfield 19, 3), (19, .return_, 1)]]
def iX22_init : Mi := (tX22_init, 35, 4, 0, true, [], [])
theorem kX22_init : (tX22_init.all fun l => l.all fun q => am_chk prog_28_method_1_code q) = true := by decide +kernel
def tX22_of : List (List (Nat × Instr × Nat)) := [
  [(0, .aload_n 0, 1), (1, .getfield 15, 3), (4, .aload_n 1, 1), (5, .invokevirtual 22, 3), (8, .lstore_n 2, 1), (9, .aload_n 0, 1), (10, .getfield 19, 3), (13, .aload_n 1, 1), (14, .invokevirtual 22, 3), (17, .lstore 4, 2), (19, .aload_n 0, 1), (20, .getfield 9, 3), (23, .bipush 47, 2), (25, .if_icmp .ne 15, 3), (28, .lload 4, 2), (30, .lconst 0, 1), (31, .lcmp, 1)],
  [(32, .ifCond .ne 8, 3), (35, .aload_n 1, 1), (36, .getfield 26, 3), (39, .athrow, 1), (40, .aload_n 0, 1), (41, .getfield 9, 3), (44, .bipush 43, 2), (46, .if_icmp .ne 10, 3), (49, .lload_n 2, 1), (50, .lload 4, 2), (52, .ladd, 1), (53, .goto 39, 3), (56, .aload_n 0, 1), (57, .getfield 9, 3), (60, .bipush 45, 2), (62, .if_icmp .ne 10, 3)],
  [(65, .lload_n 2, 1), (66, .lload 4, 2), (68, .lsub, 1), (69, .goto 23, 3), (72, .aload_n 0, 1), (73, .getfield 9, 3), (76, .bipush 42, 2), (78, .if_icmp .ne 10, 3), (81, .lload_n 2, 1), (82, .lload 4, 2), (84, .lmul, 1), (85, .goto 7, 3), (88, .lload_n 2, 1), (89, .lload 4, 2), (91, .ldiv, 1), (92, .lstore 6, 2), (94, .lload 6, 2)],
  [(96, .ldc2_w 32, 3), (99, .lcmp, 1), (100, .ifCond .gt 12, 3), (103, .lload 6, 2), (105, .ldc2_w 34, 3), (108, .lcmp, 1), (109, .ifCond .ge 8, 3), (112, .aload_n 1, 1), (113, .getfield 26, 3), (116, .athrow, 1), (117, .lload 6, 2), (119, .lreturn, 1)]]
def iX22_of : Mi := (tX22_of, 35, 8, 3, false, [], [(40, [false, false, false, false, false, false, true, true]), (92, [true, false, true, true, true, true, true, true]), (112, [true, false, true, true, true, true, true, true])])
theorem kX22_of : (tX22_of.all fun l => l.all fun q => am_chk prog_28_method_2_code q) = true := by decide +kernel
def tX23_init : List (List (Nat × Instr × Nat)) := [
  [(0, .aload_n 0, 1), (1, .invokespecial 1, 3), (4, .return_, 1)]]
def iX23_init : Mi := (tX23_init, 36, 1, 0, true, [], [])
theorem kX23_init : (tX23_init.all fun l => l.all fun q => am_chk prog_25_method_1_code q) = true := by decide +kernel
def tX24_init : List (List (Nat × Instr × Nat)) := [
  [(0, .aload_n 0, 1), (1, .invokespecial 1, 3), (4, .aload_n 0, 1), (5, .iload_n 1, 1), (6, .putfield 7, 3), (9, .aload_n 0, 1), (10, .aload_n 2, 1), (11, .putfield 13, 3), (14, .aload_n 0, 1), (15, .aload_n 3, 1), (16, .putfield 17, 3), (19, .return_, 1)]]
def iX24_init : Mi := (tX24_init, 37, 4, 0, true, [], [])
theorem kX24_init : (tX24_init.all fun l => l.all fun q => am_chk prog_5_method_1_code q) = true := by decide +kernel
def tX24_is : List (List (Nat × Instr × Nat)) := [
  [(0, .aload_n 0, 1), (1, .getfield 13, 3), (4, .aload_n 1, 1), (5, .invokevirtual 20, 3), (8, .lstore_n 2, 1), (9, .aload_n 0, 1), (10, .getfield 17, 3), (13, .aload_n 1, 1), (14, .invokevirtual 20, 3), (17, .lstore 4, 2), (19, .aload_n 0, 1), (20, .getfield 7, 3), (23, .bipush 60, 2), (25, .if_icmp .ne 18, 3), (28, .lload_n 2, 1), (29, .lload 4, 2), (31, .lcmp, 1)],
  [(32, .ifCond .ge 7, 3), (35, .iconst 1, 1), (36, .goto 43, 3), (39, .iconst 0, 1), (40, .goto 39, 3), (43, .aload_n 0, 1), (44, .getfield 7, 3), (47, .bipush 62, 2), (49, .if_icmp .ne 18, 3), (52, .lload_n 2, 1), (53, .lload 4, 2), (55, .lcmp, 1), (56, .ifCond .le 7, 3), (59, .iconst 1, 1), (60, .goto 19, 3), (63, .iconst 0, 1)],
  [(64, .goto 15, 3), (67, .lload_n 2, 1), (68, .lload 4, 2), (70, .lcmp, 1), (71, .ifCond .ne 7, 3), (74, .iconst 1, 1), (75, .goto 4, 3), (78, .iconst 0, 1), (79, .ireturn, 1)]]
def iX24_is : Mi := (tX24_is, 37, 6, 2, false, [], [(79, [true, true, true, true, true, true])])
theorem kX24_is : (tX24_is.all fun l => l.all fun q => am_chk prog_5_method_2_code q) = true := by decide +kernel
def tX25_init : List (List (Nat × Instr × Nat)) := [
  [(0, .aload_n 0, 1), (1, .invokespecial 1, 3), (4, .aload_n 0, 1), (5, .aload_n 1, 1), (6, .putfield 7, 3), (9, .return_, 1)]]
def iX25_init : Mi := (tX25_init, 38, 2, 0, true, [], [])
theorem kX25_init : (tX25_init.all fun l => l.all fun q => am_chk prog_14_method_1_code q) = true := by decide +kernel
def tX25_is : List (List (Nat × Instr × Nat)) := [
  [(0, .aload_n 0, 1), (1, .getfield 7, 3), (4, .aload_n 1, 1), (5, .invokevirtual 13, 3), (8, .ifCond .ne 7, 3), (11, .iconst 1, 1), (12, .goto 4, 3), (15, .iconst 0, 1), (16, .ireturn, 1)]]
def iX25_is : Mi := (tX25_is, 38, 2, 2, false, [], [(16, [true, true])])
theorem kX25_is : (tX25_is.all fun l => l.all fun q => am_chk prog_14_method_2_code q) = true := by decide +kernel
def tX26_init : List (List (Nat × Instr × Nat)) := [
  [(0, .aload_n 0, 1), (1, .invokespecial 1, 3), (4, .aload_n 0, 1), (5, .new 7, 3), (8, .dup, 1), (9, .iconst 2, 1), (10, .invokespecial 9, 3), (13, .putfield 12, 3), (16, .aload_n 0, 1), (17, .iload_n 1, 1), (18, .putfield 18, 3), (21, .return_, 1)]]
def iX26_init : Mi := (tX26_init, 39, 2, 0, true, [], [])
theorem kX26_init : (tX26_init.all fun l => l.all fun q => am_chk prog_23_method_1_code q) = true := by decide +kernel
def tX26_is : List (List (Nat × Instr × Nat)) := [
  [(0, .iconst 0, 1), (1, .istore_n 2, 1), (2, .iload_n 2, 1), (3, .aload_n 0, 1), (4, .getfield 12, 3), (7, .invokevirtual 22, 3), (10, .if_icmp .ge 44, 3), (13, .aload_n 0, 1), (14, .getfield 12, 3), (17, .iload_n 2, 1), (18, .invokevirtual 26, 3), (21, .checkcast 2, 3), (24, .aload_n 1, 1), (25, .invokevirtual 30, 3), (28, .aload_n 0, 1), (29, .getfield 18, 3)],
  [(32, .if_icmp .eq 16, 3), (35, .aload_n 0, 1), (36, .getfield 18, 3), (39, .ifCond .ne 7, 3), (42, .iconst 1, 1), (43, .goto 4, 3), (46, .iconst 0, 1), (47, .ireturn, 1), (48, .iinc 2 1, 3), (51, .goto (-49), 3), (54, .aload_n 0, 1), (55, .getfield 18, 3), (58, .ireturn, 1)]]
def iX26_is : Mi := (tX26_is, 39, 3, 2, false, [], [(47, [true, true, true])])
theorem kX26_is : (tX26_is.all fun l => l.all fun q => am_chk prog_23_method_2_code q) = true := by decide +kernel
def tX27_init : List (List (Nat × Instr × Nat)) := [
  [(0, .aload_n 0, 1), (1, .invokespecial 1, 3), (4, .aload_n 0, 1), (5, .iload_n 1, 1), (6, .putfield 7, 3), (9, .aload_n 0, 1), (10, .iload_n 2, 1), (11, .putfield 13, 3), (14, .aload_n 0, 1), (15, .aload_n 3, 1), (16, .putfield 16, 3), (19, .return_, 1)]]
def iX27_init : Mi := (tX27_init, 40, 4, 0, true, [], [])
theorem kX27_init : (tX27_init.all fun l => l.all fun q => am_chk prog_21_method_1_code q) = true := by decide +kernel
def tX28_init : List (List (Nat × Instr × Nat)) := [
  [(0, .aload_n 0, 1), (1, .invokespecial 1, 3), (4, .aload_n 0, 1), (5, .iload_n 1, 1), (6, .putfield 7, 3), (9, .aload_n 0, 1), (10, .iload_n 2, 1), (11, .putfield 13, 3), (14, .aload_n 0, 1), (15, .iload_n 3, 1), (16, .putfield 16, 3), (19, .aload_n 0, 1), (20, .iload 4, 2), (22, .putfield 19, 3), (25, .aload_n 0, 1), (26, .iload 5, 2), (28, .putfield 22, 3), (31, .return_, 1)]]
def iX28_init : Mi := (tX28_init, 41, 6, 0, true, [], [])
theorem kX28_init : (tX28_init.all fun l => l.all fun q => am_chk prog_15_method_1_code q) = true := by decide +kernel
def tX29_hasDegrees : List (List (Nat × Instr × Nat)) := [
  [(0, .iconst 1, 1), (1, .ireturn, 1)]]
def iX29_hasDegrees : Mi := (tX29_hasDegrees, 42, 1, 2, false, [], [])
theorem kX29_hasDegrees : (tX29_hasDegrees.all fun l => l.all fun q => am_chk prog_2_method_1_code q) = true := by decide +kernel
def tX3_init : List (List (Nat × Instr × Nat)) := [
  [(0, .aload_n 0, 1), (1, .invokespecial 1, 3), (4, .aload_n 0, 1), (5, .new 7, 3), (8, .dup, 1), (9, .invokespecial 9, 3), (12, .putfield 10, 3), (15, .return_, 1)]]
def iX3_init : Mi := (tX3_init, 43, 1, 0, true, [], [])
theorem kX3_init : (tX3_init.all fun l => l.all fun q => am_chk prog_22_method_1_code q) = true := by decide +kernel
def tX3_field : List (List (Nat × Instr × Nat)) := [
  [(0, .iload_n 1, 1), (1, .tableswitch 75 0 5 #[39, 45, 51, 57, 63, 69], 39)],
  [(40, .aload_n 0, 1), (41, .getfield 16, 3), (44, .i2l, 1), (45, .lreturn, 1), (46, .aload_n 0, 1), (47, .getfield 20, 3), (50, .i2l, 1), (51, .lreturn, 1), (52, .aload_n 0, 1), (53, .getfield 23, 3), (56, .i2l, 1), (57, .lreturn, 1), (58, .aload_n 0, 1), (59, .getfield 26, 3), (62, .i2l, 1), (63, .lreturn, 1)],
  [(64, .aload_n 0, 1), (65, .getfield 29, 3), (68, .i2l, 1), (69, .lreturn, 1), (70, .aload_n 0, 1), (71, .getfield 32, 3), (74, .i2l, 1), (75, .lreturn, 1), (76, .aload_n 0, 1), (77, .getfield 35, 3), (80, .i2l, 1), (81, .lreturn, 1)]]
def iX3_field : Mi := (tX3_field, 43, 2, 3, false, [], [])
theorem kX3_field : (tX3_field.all fun l => l.all fun q => am_chk prog_22_method_2_code q) = true := by decide +kernel
def tX4_init : List (List (Nat × Instr × Nat)) := [
  [(0, .aload_n 0, 1), (1, .aconst_null, 1), (2, .aconst_null, 1), (3, .iconst 0, 1), (4, .iconst 0, 1), (5, .invokespecial 1, 3), (8, .return_, 1)]]
def iX4_init : Mi := (tX4_init, 44, 1, 0, true, [], [])
theorem kX4_init : (tX4_init.all fun l => l.all fun q => am_chk prog_3_method_1_code q) = true := by decide +kernel
def tX5_init : List (List (Nat × Instr × Nat)) := [
  [(0, .aload_n 0, 1), (1, .aload_n 1, 1), (2, .putfield 3, 3), (5, .aload_n 0, 1), (6, .invokespecial 9, 3), (9, .aload_n 0, 1), (10, .sipush 160, 3), (13, .newarray .int, 2), (15, .putfield 15, 3), (18, .aload_n 0, 1), (19, .sipush 200, 3), (22, .newarray .int, 2), (24, .putfield 19, 3), (27, .aload_n 0, 1), (28, .sipush 200, 3), (31, .newarray .long, 2)],
  [(33, .putfield 22, 3), (36, .aload_n 0, 1), (37, .iconst (-1), 1), (38, .putfield 26, 3), (41, .aload_n 0, 1), (42, .iconst (-1), 1), (43, .putfield 30, 3), (46, .return_, 1)]]
def iX5_init : Mi := (tX5_init, 45, 2, 0, true, [], [])
theorem kX5_init : (tX5_init.all fun l => l.all fun q => am_chk prog_17_method_1_code q) = true := by decide +kernel
def tX5_looks : List (List (Nat × Instr × Nat)) := [
  [(0, .aload_n 0, 1), (1, .getfield 26, 3), (4, .iload_n 1, 1), (5, .if_icmp .ne 18, 3), (8, .aload_n 0, 1), (9, .getfield 30, 3), (12, .aload_n 0, 1), (13, .getfield 3, 3), (16, .getfield 33, 3), (19, .if_icmp .ne 4, 3), (22, .return_, 1), (23, .aload_n 0, 1), (24, .iload_n 1, 1), (25, .putfield 26, 3), (28, .aload_n 0, 1), (29, .aload_n 0, 1), (30, .getfield 3, 3)],
  [(33, .getfield 33, 3), (36, .putfield 30, 3), (39, .aload_n 0, 1), (40, .getfield 3, 3), (43, .invokevirtual 34, 3), (46, .aload_n 0, 1), (47, .iconst 0, 1), (48, .putfield 37, 3), (51, .iconst 0, 1), (52, .istore_n 2, 1), (53, .iload_n 2, 1), (54, .sipush 160, 3), (57, .if_icmp .ge 16, 3), (60, .aload_n 0, 1), (61, .getfield 15, 3)],
  [(64, .iload_n 2, 1), (65, .iconst 0, 1), (66, .iastore, 1), (67, .iinc 2 1, 3), (70, .goto (-17), 3), (73, .iconst 0, 1), (74, .istore_n 2, 1), (75, .iload_n 2, 1), (76, .aload_n 0, 1), (77, .getfield 3, 3), (80, .getfield 40, 3), (83, .getfield 44, 3), (86, .invokevirtual 50, 3), (89, .if_icmp .ge 194, 3), (92, .aload_n 0, 1), (93, .getfield 3, 3)],
  [(96, .getfield 40, 3), (99, .getfield 44, 3), (102, .iload_n 2, 1), (103, .invokevirtual 56, 3), (106, .checkcast 60, 3), (109, .invokevirtual 62, 3), (112, .ifCond .ne 165, 3), (115, .aload_n 0, 1), (116, .getfield 3, 3), (119, .iload_n 2, 1), (120, .iload_n 1, 1), (121, .invokevirtual 65, 3), (124, .ifCond .eq 153, 3), (127, .aload_n 0, 1)],
  [(128, .getfield 3, 3), (131, .getfield 40, 3), (134, .getfield 69, 3), (137, .iload_n 2, 1), (138, .iaload, 1), (139, .iconst 0, 1), (140, .bipush 19, 2), (142, .invokestatic 72, 3), (145, .ifCond .ne 6, 3), (148, .goto 129, 3), (151, .aload_n 0, 1), (152, .iload_n 2, 1), (153, .iload_n 1, 1), (154, .invokevirtual 76, 3), (157, .istore_n 3, 1), (158, .iload_n 3, 1), (159, .iconst (-1), 1)],
  [(160, .if_icmp .ne 6, 3), (163, .goto 114, 3), (166, .aload_n 0, 1), (167, .getfield 19, 3), (170, .aload_n 0, 1), (171, .getfield 37, 3), (174, .bipush 20, 2), (176, .aload_n 0, 1), (177, .getfield 3, 3), (180, .getfield 40, 3), (183, .getfield 80, 3), (186, .aload_n 0, 1), (187, .getfield 3, 3), (190, .getfield 40, 3)],
  [(193, .getfield 44, 3), (196, .iload_n 2, 1), (197, .invokevirtual 56, 3), (200, .checkcast 60, 3), (203, .getfield 83, 3), (206, .iaload, 1), (207, .imul, 1), (208, .aload_n 0, 1), (209, .getfield 3, 3), (212, .getfield 40, 3), (215, .getfield 69, 3), (218, .iload_n 2, 1), (219, .iaload, 1), (220, .iadd, 1), (221, .iastore, 1), (222, .aload_n 0, 1), (223, .getfield 22, 3)],
  [(226, .aload_n 0, 1), (227, .getfield 37, 3), (230, .aload_n 0, 1), (231, .getfield 3, 3), (234, .iload_n 3, 1), (235, .aload_n 0, 1), (236, .getfield 3, 3), (239, .getfield 86, 3), (242, .iload_n 2, 1), (243, .iaload, 1), (244, .iload_n 1, 1), (245, .invokevirtual 89, 3), (248, .lastore, 1), (249, .aload_n 0, 1), (250, .getfield 15, 3), (253, .aload_n 0, 1), (254, .getfield 19, 3)],
  [(257, .aload_n 0, 1), (258, .getfield 37, 3), (261, .iaload, 1), (262, .dup2, 1), (263, .iaload, 1), (264, .iconst 1, 1), (265, .iadd, 1), (266, .iastore, 1), (267, .aload_n 0, 1), (268, .dup, 1), (269, .getfield 37, 3), (272, .iconst 1, 1), (273, .iadd, 1), (274, .putfield 37, 3), (277, .iinc 2 1, 3), (280, .goto (-205), 3), (283, .return_, 1)]]
def iX5_looks : Mi := (tX5_looks, 45, 4, 0, false, [], [(23, [false, false, true, true]), (53, [false, false, false, true]), (75, [false, false, false, true]), (277, [false, false, false, true])])
theorem kX5_looks : (tX5_looks.all fun l => l.all fun q => am_chk prog_17_method_2_code q) = true := by decide +kernel
def tX5_beside : List (List (Nat × Instr × Nat)) := [
  [(0, .aload_n 0, 1), (1, .getfield 3, 3), (4, .getfield 40, 3), (7, .getfield 44, 3), (10, .iload_n 1, 1), (11, .invokevirtual 56, 3), (14, .checkcast 60, 3), (17, .getfield 83, 3), (20, .istore_n 3, 1), (21, .iconst (-1), 1), (22, .istore 4, 2), (24, .aload_n 0, 1), (25, .getfield 3, 3), (28, .getfield 40, 3), (31, .getfield 44, 3)],
  [(34, .invokevirtual 50, 3), (37, .iconst 1, 1), (38, .isub, 1), (39, .istore 5, 2), (41, .iload 5, 2), (43, .ifCond .lt 232, 3), (46, .aload_n 0, 1), (47, .getfield 3, 3), (50, .getfield 40, 3), (53, .getfield 44, 3), (56, .iload 5, 2), (58, .invokevirtual 56, 3), (61, .checkcast 60, 3)],
  [(64, .invokevirtual 62, 3), (67, .iconst 1, 1), (68, .if_icmp .ne 201, 3), (71, .aload_n 0, 1), (72, .getfield 3, 3), (75, .iload 5, 2), (77, .iload_n 2, 1), (78, .invokevirtual 65, 3), (81, .ifCond .eq 188, 3), (84, .aload_n 0, 1), (85, .getfield 3, 3), (88, .getfield 86, 3), (91, .iload 5, 2), (93, .iaload, 1), (94, .aload_n 0, 1), (95, .getfield 3, 3)],
  [(98, .getfield 86, 3), (101, .iload_n 1, 1), (102, .iaload, 1), (103, .if_icmp .eq 6, 3), (106, .goto 163, 3), (109, .aload_n 0, 1), (110, .getfield 3, 3), (113, .getfield 40, 3), (116, .getfield 44, 3), (119, .iload 5, 2), (121, .invokevirtual 56, 3), (124, .checkcast 60, 3), (127, .getfield 83, 3)],
  [(130, .istore 6, 2), (132, .aload_n 0, 1), (133, .getfield 3, 3), (136, .getfield 40, 3), (139, .getfield 80, 3), (142, .iload 6, 2), (144, .iaload, 1), (145, .aload_n 0, 1), (146, .getfield 3, 3), (149, .getfield 40, 3), (152, .getfield 80, 3), (155, .iload_n 3, 1), (156, .iaload, 1), (157, .if_icmp .ne 7, 3)],
  [(160, .iconst 1, 1), (161, .goto 4, 3), (164, .iconst 0, 1), (165, .istore 7, 2), (167, .iload 4, 2), (169, .iconst (-1), 1), (170, .if_icmp .eq 54, 3), (173, .aload_n 0, 1), (174, .getfield 3, 3), (177, .getfield 40, 3), (180, .getfield 80, 3), (183, .aload_n 0, 1), (184, .getfield 3, 3), (187, .getfield 40, 3), (190, .getfield 44, 3)],
  [(193, .iload 4, 2), (195, .invokevirtual 56, 3), (198, .checkcast 60, 3), (201, .getfield 83, 3), (204, .iaload, 1), (205, .aload_n 0, 1), (206, .getfield 3, 3), (209, .getfield 40, 3), (212, .getfield 80, 3), (215, .iload_n 3, 1), (216, .iaload, 1), (217, .if_icmp .ne 7, 3), (220, .iconst 1, 1), (221, .goto 4, 3)],
  [(224, .iconst 0, 1), (225, .istore 8, 2), (227, .iload 7, 2), (229, .ifCond .ne 36, 3), (232, .iload 8, 2), (234, .ifCond .ne 35, 3), (237, .aload_n 0, 1), (238, .getfield 3, 3), (241, .getfield 40, 3), (244, .getfield 93, 3), (247, .iload 6, 2), (249, .iaload, 1), (250, .aload_n 0, 1), (251, .getfield 3, 3), (254, .getfield 40, 3)],
  [(257, .getfield 93, 3), (260, .iload_n 3, 1), (261, .iaload, 1), (262, .if_icmp .ne 7, 3), (265, .iload 5, 2), (267, .istore 4, 2), (269, .iinc 5 (-1), 3), (272, .goto (-231), 3), (275, .iload 4, 2), (277, .ireturn, 1)]]
def iX5_beside : Mi := (tX5_beside, 45, 9, 1, false, [], [(41, [false, false, false, false, false, false, true, true, true]), (165, [false, false, false, false, false, false, false, true, true]), (224, [false, false, false, false, false, false, false, false, true]), (225, [false, false, false, false, false, false, false, false, true]), (265, [false, false, false, false, true, false, true, true, true]), (269, [false, false, false, false, false, false, true, true, true])])
theorem kX5_beside : (tX5_beside.all fun l => l.all fun q => am_chk prog_17_method_3_code q) = true := by decide +kernel
def tX5_held : List (List (Nat × Instr × Nat)) := [
  [(0, .iconst 0, 1), (1, .istore_n 2, 1), (2, .iconst 0, 1), (3, .istore_n 3, 1), (4, .iload_n 3, 1), (5, .aload_n 0, 1), (6, .getfield 37, 3), (9, .if_icmp .ge 56, 3), (12, .aload_n 0, 1), (13, .getfield 19, 3), (16, .iload_n 3, 1), (17, .iaload, 1), (18, .iload_n 1, 1), (19, .if_icmp .ne 40, 3), (22, .aload_n 0, 1), (23, .iload_n 1, 1), (24, .iconst 0, 1), (25, .iload_n 3, 1), (26, .invokevirtual 96, 3), (29, .aload_n 0, 1), (30, .getfield 22, 3)],
  [(33, .iload_n 3, 1), (34, .laload, 1), (35, .lcmp, 1), (36, .ifCond .gt 23, 3), (39, .aload_n 0, 1), (40, .getfield 22, 3), (43, .iload_n 3, 1), (44, .laload, 1), (45, .aload_n 0, 1), (46, .iload_n 1, 1), (47, .iconst 1, 1), (48, .iload_n 3, 1), (49, .invokevirtual 96, 3), (52, .lcmp, 1), (53, .ifCond .gt 6, 3), (56, .iinc 2 1, 3), (59, .iinc 3 1, 3), (62, .goto (-58), 3)],
  [(65, .iload_n 2, 1), (66, .ireturn, 1)]]
def iX5_held : Mi := (tX5_held, 45, 4, 1, false, [], [])
theorem kX5_held : (tX5_held.all fun l => l.all fun q => am_chk prog_17_method_5_code q) = true := by decide +kernel
def tX5_end : List (List (Nat × Instr × Nat)) := [
  [(0, .lconst 0, 1), (1, .lstore 4, 2), (3, .iconst 0, 1), (4, .istore 6, 2), (6, .iconst 0, 1), (7, .istore 7, 2), (9, .iload 7, 2), (11, .aload_n 0, 1), (12, .getfield 37, 3), (15, .if_icmp .ge 79, 3), (18, .aload_n 0, 1), (19, .getfield 19, 3), (22, .iload 7, 2), (24, .iaload, 1), (25, .iload_n 1, 1), (26, .if_icmp .ne 62, 3), (29, .iload 7, 2), (31, .iload_n 3, 1)],
  [(32, .if_icmp .ne 6, 3), (35, .goto 53, 3), (38, .iload 6, 2), (40, .ifCond .eq 36, 3), (43, .iload_n 2, 1), (44, .ifCond .eq 19, 3), (47, .aload_n 0, 1), (48, .getfield 22, 3), (51, .iload 7, 2), (53, .laload, 1), (54, .lload 4, 2), (56, .lcmp, 1), (57, .ifCond .le 28, 3), (60, .goto 16, 3), (63, .aload_n 0, 1)],
  [(64, .getfield 22, 3), (67, .iload 7, 2), (69, .laload, 1), (70, .lload 4, 2), (72, .lcmp, 1), (73, .ifCond .ge 12, 3), (76, .aload_n 0, 1), (77, .getfield 22, 3), (80, .iload 7, 2), (82, .laload, 1), (83, .lstore 4, 2), (85, .iconst 1, 1), (86, .istore 6, 2), (88, .iinc 7 1, 3), (91, .goto (-82), 3), (94, .lload 4, 2)],
  [(96, .lreturn, 1)]]
def iX5_end : Mi := (tX5_end, 45, 8, 3, false, [], [(76, [false, false, false, false, true, true, true]), (85, [false, false, false, false, false, false, true])])
theorem kX5_end : (tX5_end.all fun l => l.all fun q => am_chk prog_17_method_4_code q) = true := by decide +kernel
def tX6_init : List (List (Nat × Instr × Nat)) := [
  [(0, .aload_n 0, 1), (1, .aload_n 1, 1), (2, .putfield 3, 3), (5, .aload_n 0, 1), (6, .invokespecial 9, 3), (9, .aload_n 0, 1), (10, .bipush 16, 2), (12, .newarray .int, 2), (14, .putfield 15, 3), (17, .aload_n 0, 1), (18, .sipush 200, 3), (21, .newarray .int, 2), (23, .putfield 19, 3), (26, .aload_n 0, 1), (27, .sipush 200, 3), (30, .newarray .int, 2)],
  [(32, .putfield 22, 3), (35, .aload_n 0, 1), (36, .sipush 200, 3), (39, .newarray .int, 2), (41, .putfield 25, 3), (44, .aload_n 0, 1), (45, .sipush 200, 3), (48, .newarray .int, 2), (50, .putfield 28, 3), (53, .aload_n 0, 1), (54, .sipush 200, 3), (57, .newarray .boolean, 2), (59, .putfield 31, 3), (62, .aload_n 0, 1), (63, .sipush 200, 3)],
  [(66, .newarray .boolean, 2), (68, .putfield 35, 3), (71, .aload_n 0, 1), (72, .sipush 200, 3), (75, .newarray .long, 2), (77, .putfield 38, 3), (80, .aload_n 0, 1), (81, .iconst (-1), 1), (82, .putfield 42, 3), (85, .aload_n 0, 1), (86, .iconst (-1), 1), (87, .putfield 46, 3), (90, .return_, 1)]]
def iX6_init : Mi := (tX6_init, 46, 2, 0, true, [], [])
theorem kX6_init : (tX6_init.all fun l => l.all fun q => am_chk prog_7_method_1_code q) = true := by decide +kernel
def tX6_looks : List (List (Nat × Instr × Nat)) := [
  [(0, .aload_n 0, 1), (1, .getfield 42, 3), (4, .iload_n 1, 1), (5, .if_icmp .ne 18, 3), (8, .aload_n 0, 1), (9, .getfield 46, 3), (12, .aload_n 0, 1), (13, .getfield 3, 3), (16, .getfield 49, 3), (19, .if_icmp .ne 4, 3), (22, .return_, 1), (23, .aload_n 0, 1), (24, .iload_n 1, 1), (25, .putfield 42, 3), (28, .aload_n 0, 1), (29, .aload_n 0, 1), (30, .getfield 3, 3)],
  [(33, .getfield 49, 3), (36, .putfield 46, 3), (39, .aload_n 0, 1), (40, .getfield 3, 3), (43, .invokevirtual 50, 3), (46, .aload_n 0, 1), (47, .iload_n 1, 1), (48, .invokevirtual 53, 3), (51, .aload_n 0, 1), (52, .getfield 3, 3), (55, .getfield 57, 3), (58, .getfield 61, 3), (61, .invokevirtual 67, 3)],
  [(64, .istore_n 2, 1), (65, .iconst 0, 1), (66, .istore_n 3, 1), (67, .iload_n 3, 1), (68, .iload_n 2, 1), (69, .if_icmp .ge 155, 3), (72, .aload_n 0, 1), (73, .getfield 31, 3), (76, .iload_n 3, 1), (77, .aload_n 0, 1), (78, .getfield 3, 3), (81, .iload_n 3, 1), (82, .iload_n 1, 1), (83, .invokevirtual 73, 3), (86, .ifCond .eq 41, 3), (89, .aload_n 0, 1), (90, .getfield 3, 3), (93, .getfield 77, 3)],
  [(96, .iload_n 3, 1), (97, .iaload, 1), (98, .iconst (-1), 1), (99, .if_icmp .eq 28, 3), (102, .aload_n 0, 1), (103, .getfield 3, 3), (106, .iload_n 3, 1), (107, .aload_n 0, 1), (108, .getfield 3, 3), (111, .getfield 77, 3), (114, .iload_n 3, 1), (115, .iaload, 1), (116, .iload_n 1, 1), (117, .invokevirtual 80, 3), (120, .ifCond .eq 7, 3), (123, .iconst 1, 1), (124, .goto 4, 3), (127, .iconst 0, 1)],
  [(128, .bastore, 1), (129, .aload_n 0, 1), (130, .getfield 19, 3), (133, .iload_n 3, 1), (134, .aload_n 0, 1), (135, .getfield 3, 3), (138, .getfield 84, 3), (141, .iastore, 1), (142, .aload_n 0, 1), (143, .getfield 22, 3), (146, .iload_n 3, 1), (147, .aload_n 0, 1), (148, .getfield 3, 3), (151, .getfield 87, 3), (154, .iastore, 1), (155, .aload_n 0, 1), (156, .getfield 25, 3), (159, .iload_n 3, 1)],
  [(160, .aload_n 0, 1), (161, .getfield 3, 3), (164, .getfield 90, 3), (167, .iastore, 1), (168, .aload_n 0, 1), (169, .getfield 28, 3), (172, .iload_n 3, 1), (173, .aload_n 0, 1), (174, .getfield 3, 3), (177, .getfield 93, 3), (180, .iastore, 1), (181, .aload_n 0, 1), (182, .getfield 38, 3), (185, .iload_n 3, 1), (186, .aload_n 0, 1), (187, .getfield 31, 3), (190, .iload_n 3, 1), (191, .baload, 1)],
  [(192, .ifCond .eq 24, 3), (195, .aload_n 0, 1), (196, .getfield 3, 3), (199, .iload_n 3, 1), (200, .aload_n 0, 1), (201, .getfield 3, 3), (204, .getfield 77, 3), (207, .iload_n 3, 1), (208, .iaload, 1), (209, .iload_n 1, 1), (210, .invokevirtual 96, 3), (213, .goto 4, 3), (216, .lconst 0, 1), (217, .lastore, 1), (218, .iinc 3 1, 3), (221, .goto (-154), 3)],
  [(224, .iconst 0, 1), (225, .istore_n 3, 1), (226, .iload_n 3, 1), (227, .iload_n 2, 1), (228, .if_icmp .ge 62, 3), (231, .aload_n 0, 1), (232, .getfield 35, 3), (235, .iload_n 3, 1), (236, .aload_n 0, 1), (237, .getfield 3, 3), (240, .iload_n 3, 1), (241, .iload_n 1, 1), (242, .invokevirtual 73, 3), (245, .ifCond .eq 37, 3), (248, .aload_n 0, 1), (249, .getfield 3, 3), (252, .getfield 77, 3), (255, .iload_n 3, 1)],
  [(256, .iaload, 1), (257, .iconst (-1), 1), (258, .if_icmp .eq 24, 3), (261, .aload_n 0, 1), (262, .iload_n 3, 1), (263, .invokevirtual 100, 3), (266, .ifCond .ne 16, 3), (269, .aload_n 0, 1), (270, .iload_n 3, 1), (271, .iload_n 2, 1), (272, .invokevirtual 104, 3), (275, .ifCond .ne 7, 3), (278, .iconst 1, 1), (279, .goto 4, 3), (282, .iconst 0, 1), (283, .bastore, 1), (284, .iinc 3 1, 3), (287, .goto (-61), 3)],
  [(290, .return_, 1)]]
def iX6_looks : Mi := (tX6_looks, 46, 4, 0, false, [], [(23, [false, false, true, true])])
theorem kX6_looks : (tX6_looks.all fun l => l.all fun q => am_chk prog_7_method_2_code q) = true := by decide +kernel
def tX6_joins : List (List (Nat × Instr × Nat)) := [
  [(0, .aload_n 0, 1), (1, .getfield 3, 3), (4, .getfield 107, 3), (7, .iload_n 1, 1), (8, .invokevirtual 111, 3), (11, .iconst 0, 1), (12, .istore_n 2, 1), (13, .iload_n 2, 1), (14, .bipush 16, 2), (16, .if_icmp .ge 16, 3), (19, .aload_n 0, 1), (20, .getfield 15, 3), (23, .iload_n 2, 1), (24, .iload_n 2, 1), (25, .iastore, 1), (26, .iinc 2 1, 3), (29, .goto (-16), 3)],
  [(32, .iconst 0, 1), (33, .istore_n 2, 1), (34, .iload_n 2, 1), (35, .aload_n 0, 1), (36, .getfield 3, 3), (39, .getfield 57, 3), (42, .getfield 116, 3), (45, .if_icmp .ge 102, 3), (48, .iload_n 2, 1), (49, .iconst 1, 1), (50, .iadd, 1), (51, .istore_n 3, 1), (52, .iload_n 3, 1), (53, .aload_n 0, 1), (54, .getfield 3, 3), (57, .getfield 57, 3), (60, .getfield 116, 3), (63, .if_icmp .ge 78, 3)],
  [(66, .aload_n 0, 1), (67, .getfield 15, 3), (70, .iload_n 2, 1), (71, .iaload, 1), (72, .aload_n 0, 1), (73, .getfield 15, 3), (76, .iload_n 3, 1), (77, .iaload, 1), (78, .if_icmp .eq 57, 3), (81, .aload_n 0, 1), (82, .iload_n 2, 1), (83, .iload_n 3, 1), (84, .iload_n 1, 1), (85, .invokevirtual 119, 3), (88, .aload_n 0, 1), (89, .getfield 3, 3), (92, .getfield 107, 3), (95, .getfield 123, 3)],
  [(98, .if_icmp .lt 37, 3), (101, .aload_n 0, 1), (102, .aload_n 0, 1), (103, .getfield 15, 3), (106, .iload_n 2, 1), (107, .iaload, 1), (108, .aload_n 0, 1), (109, .getfield 15, 3), (112, .iload_n 3, 1), (113, .iaload, 1), (114, .invokestatic 126, 3), (117, .aload_n 0, 1), (118, .getfield 15, 3), (121, .iload_n 2, 1), (122, .iaload, 1), (123, .aload_n 0, 1), (124, .getfield 15, 3), (127, .iload_n 3, 1)],
  [(128, .iaload, 1), (129, .invokestatic 132, 3), (132, .invokevirtual 135, 3), (135, .iinc 3 1, 3), (138, .goto (-86), 3), (141, .iinc 2 1, 3), (144, .goto (-110), 3), (147, .return_, 1)]]
def iX6_joins : Mi := (tX6_joins, 46, 4, 0, false, [], [(13, [false, false, false, true]), (34, [false, false, false, true])])
theorem kX6_joins : (tX6_joins.all fun l => l.all fun q => am_chk prog_7_method_3_code q) = true := by decide +kernel
def tX6_sharesOf : List (List (Nat × Instr × Nat)) := [
  [(0, .iconst 0, 1), (1, .istore 4, 2), (3, .iconst 0, 1), (4, .istore 5, 2), (6, .iload 5, 2), (8, .aload_n 0, 1), (9, .getfield 3, 3), (12, .getfield 57, 3), (15, .getfield 139, 3), (18, .invokevirtual 67, 3), (21, .if_icmp .ge 77, 3), (24, .aload_n 0, 1), (25, .getfield 3, 3), (28, .getfield 57, 3), (31, .getfield 139, 3)],
  [(34, .iload 5, 2), (36, .invokevirtual 142, 3), (39, .checkcast 146, 3), (42, .astore 6, 2), (44, .aload 6, 2), (46, .getfield 148, 3), (49, .iload_n 3, 1), (50, .if_icmp .gt 42, 3), (53, .aload 6, 2), (55, .getfield 151, 3), (58, .iload_n 1, 1), (59, .if_icmp .ne 12, 3), (62, .aload 6, 2)],
  [(64, .getfield 154, 3), (67, .iload_n 2, 1), (68, .if_icmp .eq 21, 3), (71, .aload 6, 2), (73, .getfield 151, 3), (76, .iload_n 2, 1), (77, .if_icmp .ne 15, 3), (80, .aload 6, 2), (82, .getfield 154, 3), (85, .iload_n 1, 1), (86, .if_icmp .ne 6, 3), (89, .iinc 4 1, 3), (92, .iinc 5 1, 3), (95, .goto (-89), 3)],
  [(98, .iload 4, 2), (100, .ireturn, 1)]]
def iX6_sharesOf : Mi := (tX6_sharesOf, 46, 7, 1, false, [], [(6, [false, false, false, false, false, false, true]), (89, [false, false, false, false, false, false, true]), (92, [false, false, false, false, false, false, true])])
theorem kX6_sharesOf : (tX6_sharesOf.all fun l => l.all fun q => am_chk prog_7_method_5_code q) = true := by decide +kernel
def tX6_merges : List (List (Nat × Instr × Nat)) := [
  [(0, .iconst 0, 1), (1, .istore_n 3, 1), (2, .iload_n 3, 1), (3, .bipush 16, 2), (5, .if_icmp .ge 26, 3), (8, .aload_n 0, 1), (9, .getfield 15, 3), (12, .iload_n 3, 1), (13, .iaload, 1), (14, .iload_n 2, 1), (15, .if_icmp .ne 10, 3), (18, .aload_n 0, 1), (19, .getfield 15, 3), (22, .iload_n 3, 1), (23, .iload_n 1, 1), (24, .iastore, 1), (25, .iinc 3 1, 3), (28, .goto (-26), 3), (31, .return_, 1)]]
def iX6_merges : Mi := (tX6_merges, 46, 4, 0, false, [], [])
theorem kX6_merges : (tX6_merges.all fun l => l.all fun q => am_chk prog_7_method_4_code q) = true := by decide +kernel
def tX6_isStopped : List (List (Nat × Instr × Nat)) := [
  [(0, .aload_n 0, 1), (1, .getfield 3, 3), (4, .getfield 57, 3), (7, .getfield 157, 3), (10, .aload_n 0, 1), (11, .getfield 3, 3), (14, .getfield 57, 3), (17, .getfield 61, 3), (20, .iload_n 1, 1), (21, .invokevirtual 142, 3), (24, .checkcast 160, 3), (27, .getfield 162, 3), (30, .iaload, 1), (31, .istore_n 2, 1)],
  [(32, .iload_n 2, 1), (33, .iconst (-1), 1), (34, .if_icmp .eq 20, 3), (37, .iload_n 2, 1), (38, .aload_n 0, 1), (39, .getfield 3, 3), (42, .getfield 77, 3), (45, .iload_n 1, 1), (46, .iaload, 1), (47, .if_icmp .ge 7, 3), (50, .iconst 1, 1), (51, .goto 4, 3), (54, .iconst 0, 1), (55, .ireturn, 1)]]
def iX6_isStopped : Mi := (tX6_isStopped, 46, 3, 2, false, [], [(54, [true, true, true]), (55, [true, true, true])])
theorem kX6_isStopped : (tX6_isStopped.all fun l => l.all fun q => am_chk prog_7_method_6_code q) = true := by decide +kernel
def tX6_isTold : List (List (Nat × Instr × Nat)) := [
  [(0, .aload_n 0, 1), (1, .getfield 3, 3), (4, .getfield 57, 3), (7, .getfield 61, 3), (10, .iload_n 1, 1), (11, .invokevirtual 142, 3), (14, .checkcast 160, 3), (17, .getfield 162, 3), (20, .istore_n 3, 1), (21, .iconst 0, 1), (22, .istore 4, 2), (24, .iload 4, 2), (26, .iload_n 2, 1), (27, .if_icmp .ge 116, 3), (30, .aload_n 0, 1), (31, .getfield 3, 3)],
  [(34, .getfield 57, 3), (37, .getfield 61, 3), (40, .iload 4, 2), (42, .invokevirtual 142, 3), (45, .checkcast 160, 3), (48, .getfield 162, 3), (51, .istore 5, 2), (53, .iload 5, 2), (55, .iload_n 3, 1), (56, .if_icmp .ge 81, 3), (59, .aload_n 0, 1), (60, .getfield 15, 3), (63, .iload 5, 2)],
  [(65, .iaload, 1), (66, .aload_n 0, 1), (67, .getfield 15, 3), (70, .iload_n 3, 1), (71, .iaload, 1), (72, .if_icmp .ne 65, 3), (75, .aload_n 0, 1), (76, .getfield 3, 3), (79, .getfield 57, 3), (82, .getfield 165, 3), (85, .iload 5, 2), (87, .iaload, 1), (88, .aload_n 0, 1), (89, .getfield 3, 3), (92, .getfield 57, 3), (95, .getfield 165, 3)],
  [(98, .iload_n 3, 1), (99, .iaload, 1), (100, .if_icmp .ne 37, 3), (103, .aload_n 0, 1), (104, .getfield 31, 3), (107, .iload 4, 2), (109, .baload, 1), (110, .ifCond .eq 27, 3), (113, .aload_n 0, 1), (114, .getfield 3, 3), (117, .getfield 77, 3), (120, .iload 4, 2), (122, .iaload, 1), (123, .aload_n 0, 1), (124, .getfield 3, 3), (127, .getfield 77, 3)],
  [(130, .iload_n 1, 1), (131, .iaload, 1), (132, .if_icmp .ne 5, 3), (135, .iconst 1, 1), (136, .ireturn, 1), (137, .iinc 4 1, 3), (140, .goto (-116), 3), (143, .iconst 0, 1), (144, .ireturn, 1)]]
def iX6_isTold : Mi := (tX6_isTold, 46, 6, 2, false, [], [(24, [false, false, false, false, false, true]), (137, [false, false, false, false, false, true])])
theorem kX6_isTold : (tX6_isTold.all fun l => l.all fun q => am_chk prog_7_method_7_code q) = true := by decide +kernel
def tX6_isJoined : List (List (Nat × Instr × Nat)) := [
  [(0, .aload_n 0, 1), (1, .getfield 35, 3), (4, .iload_n 1, 1), (5, .baload, 1), (6, .ifCond .eq 29, 3), (9, .aload_n 0, 1), (10, .getfield 31, 3), (13, .iload_n 1, 1), (14, .baload, 1), (15, .ifCond .eq 20, 3), (18, .aload_n 0, 1), (19, .getfield 3, 3), (22, .getfield 168, 3), (25, .iload_n 1, 1), (26, .iaload, 1), (27, .iconst (-1), 1), (28, .if_icmp .ne 7, 3), (31, .iconst 1, 1)],
  [(32, .goto 4, 3), (35, .iconst 0, 1), (36, .ireturn, 1)]]
def iX6_isJoined : Mi := (tX6_isJoined, 46, 2, 2, false, [], [(35, [true, true]), (36, [true, true])])
theorem kX6_isJoined : (tX6_isJoined.all fun l => l.all fun q => am_chk prog_7_method_8_code q) = true := by decide +kernel
def tX8_init : List (List (Nat × Instr × Nat)) := [
  [(0, .aload_n 0, 1), (1, .invokespecial 1, 3), (4, .aload_n 0, 1), (5, .iload_n 1, 1), (6, .putfield 7, 3), (9, .aload_n 0, 1), (10, .iload_n 2, 1), (11, .putfield 13, 3), (14, .aload_n 0, 1), (15, .iload_n 3, 1), (16, .putfield 16, 3), (19, .aload_n 0, 1), (20, .iload 4, 2), (22, .putfield 19, 3), (25, .aload_n 0, 1), (26, .iload 5, 2), (28, .putfield 22, 3), (31, .aload_n 0, 1)],
  [(32, .iload 6, 2), (34, .putfield 25, 3), (37, .return_, 1)]]
def iX8_init : Mi := (tX8_init, 48, 7, 0, true, [], [])
theorem kX8_init : (tX8_init.all fun l => l.all fun q => am_chk prog_20_method_1_code q) = true := by decide +kernel
def tX9_init : List (List (Nat × Instr × Nat)) := [
  [(0, .aload_n 0, 1), (1, .iload_n 1, 1), (2, .iload_n 2, 1), (3, .iload_n 3, 1), (4, .iload 4, 2), (6, .iload 5, 2), (8, .iload 6, 2), (10, .invokespecial 3, 3), (13, .return_, 1)]]
def iX9_init : Mi := (tX9_init, 49, 7, 0, true, [], [])
theorem kX9_init : (tX9_init.all fun l => l.all fun q => am_chk prog_29_method_1_code q) = true := by decide +kernel
def tX9_kind : List (List (Nat × Instr × Nat)) := [
  [(0, .aload_n 0, 1), (1, .invokevirtual 9, 3), (4, .ifCond .eq 7, 3), (7, .iconst 0, 1), (8, .goto 4, 3), (11, .iconst 2, 1), (12, .ireturn, 1)]]
def iX9_kind : Mi := (tX9_kind, 49, 1, 1, false, [], [(12, [true])])
theorem kX9_kind : (tX9_kind.all fun l => l.all fun q => am_chk prog_29_method_2_code q) = true := by decide +kernel
