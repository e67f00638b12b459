set_option maxRecDepth 100000
def dkwX6_bendsCell_1 : List UInt8 := [3, 172]
abbrev dktX6_bendsCell_1 : List UInt8 := dkwX6_bendsCell_1 ++ []
def dkwX6_bendsCell_0 : List UInt8 := [42, 180, 0, 13, 17, 1, 136, 5, 27, 104, 96, 46, 28, 122, 4, 126, 4, 160, 0, 7, 4, 167, 0, 4]
abbrev dktX6_bendsCell_0 : List UInt8 := dkwX6_bendsCell_0 ++ dktX6_bendsCell_1
theorem dksX6_bendsCell_0 : cX6_bendsCell.data.toList.drop 0 = dktX6_bendsCell_0 := by decide +kernel
theorem dksX6_bendsCell_1 : cX6_bendsCell.data.toList.drop 24 = dktX6_bendsCell_1 := dk_seg dksX6_bendsCell_0 24 rfl rfl
theorem dX6_bendsCell_0 : decode cX6_bendsCell 0 = .ok (.aload_n 0, 1) := dk_42 (dk_at dksX6_bendsCell_0 0 rfl rfl)
theorem dX6_bendsCell_1 : decode cX6_bendsCell 1 = .ok (.getfield 13, 3) := dk_180 0 13 (dk_at dksX6_bendsCell_0 1 rfl rfl)
theorem dX6_bendsCell_4 : decode cX6_bendsCell 4 = .ok (.sipush 392, 3) := dk_17 1 136 (dk_at dksX6_bendsCell_0 4 rfl rfl)
theorem dX6_bendsCell_7 : decode cX6_bendsCell 7 = .ok (.iconst 2, 1) := dk_5 (dk_at dksX6_bendsCell_0 7 rfl rfl)
theorem dX6_bendsCell_8 : decode cX6_bendsCell 8 = .ok (.iload_n 1, 1) := dk_27 (dk_at dksX6_bendsCell_0 8 rfl rfl)
theorem dX6_bendsCell_9 : decode cX6_bendsCell 9 = .ok (.imul, 1) := dk_104 (dk_at dksX6_bendsCell_0 9 rfl rfl)
theorem dX6_bendsCell_10 : decode cX6_bendsCell 10 = .ok (.iadd, 1) := dk_96 (dk_at dksX6_bendsCell_0 10 rfl rfl)
theorem dX6_bendsCell_11 : decode cX6_bendsCell 11 = .ok (.iaload, 1) := dk_46 (dk_at dksX6_bendsCell_0 11 rfl rfl)
theorem dX6_bendsCell_12 : decode cX6_bendsCell 12 = .ok (.iload_n 2, 1) := dk_28 (dk_at dksX6_bendsCell_0 12 rfl rfl)
theorem dX6_bendsCell_13 : decode cX6_bendsCell 13 = .ok (.ishr, 1) := dk_122 (dk_at dksX6_bendsCell_0 13 rfl rfl)
theorem dX6_bendsCell_14 : decode cX6_bendsCell 14 = .ok (.iconst 1, 1) := dk_4 (dk_at dksX6_bendsCell_0 14 rfl rfl)
theorem dX6_bendsCell_15 : decode cX6_bendsCell 15 = .ok (.iand, 1) := dk_126 (dk_at dksX6_bendsCell_0 15 rfl rfl)
theorem dX6_bendsCell_16 : decode cX6_bendsCell 16 = .ok (.iconst 1, 1) := dk_4 (dk_at dksX6_bendsCell_0 16 rfl rfl)
theorem dX6_bendsCell_17 : decode cX6_bendsCell 17 = .ok (.if_icmp .ne 7, 3) := dk_160 0 7 (dk_at dksX6_bendsCell_0 17 rfl rfl)
theorem dX6_bendsCell_20 : decode cX6_bendsCell 20 = .ok (.iconst 1, 1) := dk_4 (dk_at dksX6_bendsCell_0 20 rfl rfl)
theorem dX6_bendsCell_21 : decode cX6_bendsCell 21 = .ok (.goto 4, 3) := dk_167 0 4 (dk_at dksX6_bendsCell_0 21 rfl rfl)
theorem dX6_bendsCell_24 : decode cX6_bendsCell 24 = .ok (.iconst 0, 1) := dk_3 (dk_at dksX6_bendsCell_1 0 rfl rfl)
theorem dX6_bendsCell_25 : decode cX6_bendsCell 25 = .ok (.ireturn, 1) := dk_172 (dk_at dksX6_bendsCell_1 1 rfl rfl)
def dkwX6_closedSet_3 : List UInt8 := [31, 173]
abbrev dktX6_closedSet_3 : List UInt8 := dkwX6_closedSet_3 ++ []
def dkwX6_closedSet_2 : List UInt8 := [180, 0, 74, 21, 4, 47, 167, 0, 4, 9, 129, 64, 132, 4, 1, 167, 255, 221, 132, 3, 1, 167, 255, 204]
abbrev dktX6_closedSet_2 : List UInt8 := dkwX6_closedSet_2 ++ dktX6_closedSet_3
def dkwX6_closedSet_1 : List UInt8 := [54, 4, 21, 4, 42, 182, 0, 112, 162, 0, 32, 31, 31, 21, 4, 184, 1, 39, 153, 0, 13, 42]
abbrev dktX6_closedSet_1 : List UInt8 := dkwX6_closedSet_1 ++ dktX6_closedSet_2
def dkwX6_closedSet_0 : List UInt8 := [42, 182, 0, 112, 154, 0, 7, 9, 167, 0, 4, 10, 64, 3, 62, 29, 42, 182, 0, 112, 162, 0, 50, 3]
abbrev dktX6_closedSet_0 : List UInt8 := dkwX6_closedSet_0 ++ dktX6_closedSet_1
theorem dksX6_closedSet_0 : cX6_closedSet.data.toList.drop 0 = dktX6_closedSet_0 := by decide +kernel
theorem dksX6_closedSet_1 : cX6_closedSet.data.toList.drop 24 = dktX6_closedSet_1 := dk_seg dksX6_closedSet_0 24 rfl rfl
theorem dksX6_closedSet_2 : cX6_closedSet.data.toList.drop 46 = dktX6_closedSet_2 := dk_seg dksX6_closedSet_1 22 rfl rfl
theorem dksX6_closedSet_3 : cX6_closedSet.data.toList.drop 70 = dktX6_closedSet_3 := dk_seg dksX6_closedSet_2 24 rfl rfl
theorem dX6_closedSet_0 : decode cX6_closedSet 0 = .ok (.aload_n 0, 1) := dk_42 (dk_at dksX6_closedSet_0 0 rfl rfl)
theorem dX6_closedSet_1 : decode cX6_closedSet 1 = .ok (.invokevirtual 112, 3) := dk_182 0 112 (dk_at dksX6_closedSet_0 1 rfl rfl)
theorem dX6_closedSet_4 : decode cX6_closedSet 4 = .ok (.ifCond .ne 7, 3) := dk_154 0 7 (dk_at dksX6_closedSet_0 4 rfl rfl)
theorem dX6_closedSet_7 : decode cX6_closedSet 7 = .ok (.lconst 0, 1) := dk_9 (dk_at dksX6_closedSet_0 7 rfl rfl)
theorem dX6_closedSet_8 : decode cX6_closedSet 8 = .ok (.goto 4, 3) := dk_167 0 4 (dk_at dksX6_closedSet_0 8 rfl rfl)
theorem dX6_closedSet_11 : decode cX6_closedSet 11 = .ok (.lconst 1, 1) := dk_10 (dk_at dksX6_closedSet_0 11 rfl rfl)
theorem dX6_closedSet_12 : decode cX6_closedSet 12 = .ok (.lstore_n 1, 1) := dk_64 (dk_at dksX6_closedSet_0 12 rfl rfl)
theorem dX6_closedSet_13 : decode cX6_closedSet 13 = .ok (.iconst 0, 1) := dk_3 (dk_at dksX6_closedSet_0 13 rfl rfl)
theorem dX6_closedSet_14 : decode cX6_closedSet 14 = .ok (.istore_n 3, 1) := dk_62 (dk_at dksX6_closedSet_0 14 rfl rfl)
theorem dX6_closedSet_15 : decode cX6_closedSet 15 = .ok (.iload_n 3, 1) := dk_29 (dk_at dksX6_closedSet_0 15 rfl rfl)
theorem dX6_closedSet_16 : decode cX6_closedSet 16 = .ok (.aload_n 0, 1) := dk_42 (dk_at dksX6_closedSet_0 16 rfl rfl)
theorem dX6_closedSet_17 : decode cX6_closedSet 17 = .ok (.invokevirtual 112, 3) := dk_182 0 112 (dk_at dksX6_closedSet_0 17 rfl rfl)
theorem dX6_closedSet_20 : decode cX6_closedSet 20 = .ok (.if_icmp .ge 50, 3) := dk_162 0 50 (dk_at dksX6_closedSet_0 20 rfl rfl)
theorem dX6_closedSet_23 : decode cX6_closedSet 23 = .ok (.iconst 0, 1) := dk_3 (dk_at dksX6_closedSet_0 23 rfl rfl)
theorem dX6_closedSet_24 : decode cX6_closedSet 24 = .ok (.istore 4, 2) := dk_54 4 (dk_at dksX6_closedSet_1 0 rfl rfl)
theorem dX6_closedSet_26 : decode cX6_closedSet 26 = .ok (.iload 4, 2) := dk_21 4 (dk_at dksX6_closedSet_1 2 rfl rfl)
theorem dX6_closedSet_28 : decode cX6_closedSet 28 = .ok (.aload_n 0, 1) := dk_42 (dk_at dksX6_closedSet_1 4 rfl rfl)
theorem dX6_closedSet_29 : decode cX6_closedSet 29 = .ok (.invokevirtual 112, 3) := dk_182 0 112 (dk_at dksX6_closedSet_1 5 rfl rfl)
theorem dX6_closedSet_32 : decode cX6_closedSet 32 = .ok (.if_icmp .ge 32, 3) := dk_162 0 32 (dk_at dksX6_closedSet_1 8 rfl rfl)
theorem dX6_closedSet_35 : decode cX6_closedSet 35 = .ok (.lload_n 1, 1) := dk_31 (dk_at dksX6_closedSet_1 11 rfl rfl)
theorem dX6_closedSet_36 : decode cX6_closedSet 36 = .ok (.lload_n 1, 1) := dk_31 (dk_at dksX6_closedSet_1 12 rfl rfl)
theorem dX6_closedSet_37 : decode cX6_closedSet 37 = .ok (.iload 4, 2) := dk_21 4 (dk_at dksX6_closedSet_1 13 rfl rfl)
theorem dX6_closedSet_39 : decode cX6_closedSet 39 = .ok (.invokestatic 295, 3) := dk_184 1 39 (dk_at dksX6_closedSet_1 15 rfl rfl)
theorem dX6_closedSet_42 : decode cX6_closedSet 42 = .ok (.ifCond .eq 13, 3) := dk_153 0 13 (dk_at dksX6_closedSet_1 18 rfl rfl)
theorem dX6_closedSet_45 : decode cX6_closedSet 45 = .ok (.aload_n 0, 1) := dk_42 (dk_at dksX6_closedSet_1 21 rfl rfl)
theorem dX6_closedSet_46 : decode cX6_closedSet 46 = .ok (.getfield 74, 3) := dk_180 0 74 (dk_at dksX6_closedSet_2 0 rfl rfl)
theorem dX6_closedSet_49 : decode cX6_closedSet 49 = .ok (.iload 4, 2) := dk_21 4 (dk_at dksX6_closedSet_2 3 rfl rfl)
theorem dX6_closedSet_51 : decode cX6_closedSet 51 = .ok (.laload, 1) := dk_47 (dk_at dksX6_closedSet_2 5 rfl rfl)
theorem dX6_closedSet_52 : decode cX6_closedSet 52 = .ok (.goto 4, 3) := dk_167 0 4 (dk_at dksX6_closedSet_2 6 rfl rfl)
theorem dX6_closedSet_55 : decode cX6_closedSet 55 = .ok (.lconst 0, 1) := dk_9 (dk_at dksX6_closedSet_2 9 rfl rfl)
theorem dX6_closedSet_56 : decode cX6_closedSet 56 = .ok (.lor, 1) := dk_129 (dk_at dksX6_closedSet_2 10 rfl rfl)
theorem dX6_closedSet_57 : decode cX6_closedSet 57 = .ok (.lstore_n 1, 1) := dk_64 (dk_at dksX6_closedSet_2 11 rfl rfl)
theorem dX6_closedSet_58 : decode cX6_closedSet 58 = .ok (.iinc 4 1, 3) := dk_132 4 1 (dk_at dksX6_closedSet_2 12 rfl rfl)
theorem dX6_closedSet_61 : decode cX6_closedSet 61 = .ok (.goto (-35), 3) := dk_167 255 221 (dk_at dksX6_closedSet_2 15 rfl rfl)
theorem dX6_closedSet_64 : decode cX6_closedSet 64 = .ok (.iinc 3 1, 3) := dk_132 3 1 (dk_at dksX6_closedSet_2 18 rfl rfl)
theorem dX6_closedSet_67 : decode cX6_closedSet 67 = .ok (.goto (-52), 3) := dk_167 255 204 (dk_at dksX6_closedSet_2 21 rfl rfl)
theorem dX6_closedSet_70 : decode cX6_closedSet 70 = .ok (.lload_n 1, 1) := dk_31 (dk_at dksX6_closedSet_3 0 rfl rfl)
theorem dX6_closedSet_71 : decode cX6_closedSet 71 = .ok (.lreturn, 1) := dk_173 (dk_at dksX6_closedSet_3 1 rfl rfl)
def dkwX6_reach_1 : List UInt8 := [167, 0, 4, 3, 4, 182, 0, 230, 153, 0, 7, 3, 167, 0, 9, 42, 27, 28, 182, 1, 149, 172]
abbrev dktX6_reach_1 : List UInt8 := dkwX6_reach_1 ++ []
def dkwX6_reach_0 : List UInt8 := [42, 3, 181, 0, 3, 42, 42, 27, 182, 1, 111, 154, 0, 11, 42, 28, 182, 1, 146, 153, 0, 7, 4]
abbrev dktX6_reach_0 : List UInt8 := dkwX6_reach_0 ++ dktX6_reach_1
theorem dksX6_reach_0 : cX6_reach.data.toList.drop 0 = dktX6_reach_0 := by decide +kernel
theorem dksX6_reach_1 : cX6_reach.data.toList.drop 23 = dktX6_reach_1 := dk_seg dksX6_reach_0 23 rfl rfl
theorem dX6_reach_0 : decode cX6_reach 0 = .ok (.aload_n 0, 1) := dk_42 (dk_at dksX6_reach_0 0 rfl rfl)
theorem dX6_reach_1 : decode cX6_reach 1 = .ok (.iconst 0, 1) := dk_3 (dk_at dksX6_reach_0 1 rfl rfl)
theorem dX6_reach_2 : decode cX6_reach 2 = .ok (.putfield 3, 3) := dk_181 0 3 (dk_at dksX6_reach_0 2 rfl rfl)
theorem dX6_reach_5 : decode cX6_reach 5 = .ok (.aload_n 0, 1) := dk_42 (dk_at dksX6_reach_0 5 rfl rfl)
theorem dX6_reach_6 : decode cX6_reach 6 = .ok (.aload_n 0, 1) := dk_42 (dk_at dksX6_reach_0 6 rfl rfl)
theorem dX6_reach_7 : decode cX6_reach 7 = .ok (.iload_n 1, 1) := dk_27 (dk_at dksX6_reach_0 7 rfl rfl)
theorem dX6_reach_8 : decode cX6_reach 8 = .ok (.invokevirtual 367, 3) := dk_182 1 111 (dk_at dksX6_reach_0 8 rfl rfl)
theorem dX6_reach_11 : decode cX6_reach 11 = .ok (.ifCond .ne 11, 3) := dk_154 0 11 (dk_at dksX6_reach_0 11 rfl rfl)
theorem dX6_reach_14 : decode cX6_reach 14 = .ok (.aload_n 0, 1) := dk_42 (dk_at dksX6_reach_0 14 rfl rfl)
theorem dX6_reach_15 : decode cX6_reach 15 = .ok (.iload_n 2, 1) := dk_28 (dk_at dksX6_reach_0 15 rfl rfl)
theorem dX6_reach_16 : decode cX6_reach 16 = .ok (.invokevirtual 402, 3) := dk_182 1 146 (dk_at dksX6_reach_0 16 rfl rfl)
theorem dX6_reach_19 : decode cX6_reach 19 = .ok (.ifCond .eq 7, 3) := dk_153 0 7 (dk_at dksX6_reach_0 19 rfl rfl)
theorem dX6_reach_22 : decode cX6_reach 22 = .ok (.iconst 1, 1) := dk_4 (dk_at dksX6_reach_0 22 rfl rfl)
theorem dX6_reach_23 : decode cX6_reach 23 = .ok (.goto 4, 3) := dk_167 0 4 (dk_at dksX6_reach_1 0 rfl rfl)
theorem dX6_reach_26 : decode cX6_reach 26 = .ok (.iconst 0, 1) := dk_3 (dk_at dksX6_reach_1 3 rfl rfl)
theorem dX6_reach_27 : decode cX6_reach 27 = .ok (.iconst 1, 1) := dk_4 (dk_at dksX6_reach_1 4 rfl rfl)
theorem dX6_reach_28 : decode cX6_reach 28 = .ok (.invokevirtual 230, 3) := dk_182 0 230 (dk_at dksX6_reach_1 5 rfl rfl)
theorem dX6_reach_31 : decode cX6_reach 31 = .ok (.ifCond .eq 7, 3) := dk_153 0 7 (dk_at dksX6_reach_1 8 rfl rfl)
theorem dX6_reach_34 : decode cX6_reach 34 = .ok (.iconst 0, 1) := dk_3 (dk_at dksX6_reach_1 11 rfl rfl)
theorem dX6_reach_35 : decode cX6_reach 35 = .ok (.goto 9, 3) := dk_167 0 9 (dk_at dksX6_reach_1 12 rfl rfl)
theorem dX6_reach_38 : decode cX6_reach 38 = .ok (.aload_n 0, 1) := dk_42 (dk_at dksX6_reach_1 15 rfl rfl)
theorem dX6_reach_39 : decode cX6_reach 39 = .ok (.iload_n 1, 1) := dk_27 (dk_at dksX6_reach_1 16 rfl rfl)
theorem dX6_reach_40 : decode cX6_reach 40 = .ok (.iload_n 2, 1) := dk_28 (dk_at dksX6_reach_1 17 rfl rfl)
theorem dX6_reach_41 : decode cX6_reach 41 = .ok (.invokevirtual 405, 3) := dk_182 1 149 (dk_at dksX6_reach_1 18 rfl rfl)
theorem dX6_reach_44 : decode cX6_reach 44 = .ok (.ireturn, 1) := dk_172 (dk_at dksX6_reach_1 21 rfl rfl)
def dkwX6_noHarm_0 : List UInt8 := [27, 3, 42, 180, 0, 13, 6, 46, 4, 100, 184, 0, 116, 154, 0, 7, 4, 167, 0, 4, 3, 172]
abbrev dktX6_noHarm_0 : List UInt8 := dkwX6_noHarm_0 ++ []
theorem dksX6_noHarm_0 : cX6_noHarm.data.toList.drop 0 = dktX6_noHarm_0 := by decide +kernel
theorem dX6_noHarm_0 : decode cX6_noHarm 0 = .ok (.iload_n 1, 1) := dk_27 (dk_at dksX6_noHarm_0 0 rfl rfl)
theorem dX6_noHarm_1 : decode cX6_noHarm 1 = .ok (.iconst 0, 1) := dk_3 (dk_at dksX6_noHarm_0 1 rfl rfl)
theorem dX6_noHarm_2 : decode cX6_noHarm 2 = .ok (.aload_n 0, 1) := dk_42 (dk_at dksX6_noHarm_0 2 rfl rfl)
theorem dX6_noHarm_3 : decode cX6_noHarm 3 = .ok (.getfield 13, 3) := dk_180 0 13 (dk_at dksX6_noHarm_0 3 rfl rfl)
theorem dX6_noHarm_6 : decode cX6_noHarm 6 = .ok (.iconst 3, 1) := dk_6 (dk_at dksX6_noHarm_0 6 rfl rfl)
theorem dX6_noHarm_7 : decode cX6_noHarm 7 = .ok (.iaload, 1) := dk_46 (dk_at dksX6_noHarm_0 7 rfl rfl)
theorem dX6_noHarm_8 : decode cX6_noHarm 8 = .ok (.iconst 1, 1) := dk_4 (dk_at dksX6_noHarm_0 8 rfl rfl)
theorem dX6_noHarm_9 : decode cX6_noHarm 9 = .ok (.isub, 1) := dk_100 (dk_at dksX6_noHarm_0 9 rfl rfl)
theorem dX6_noHarm_10 : decode cX6_noHarm 10 = .ok (.invokestatic 116, 3) := dk_184 0 116 (dk_at dksX6_noHarm_0 10 rfl rfl)
theorem dX6_noHarm_13 : decode cX6_noHarm 13 = .ok (.ifCond .ne 7, 3) := dk_154 0 7 (dk_at dksX6_noHarm_0 13 rfl rfl)
theorem dX6_noHarm_16 : decode cX6_noHarm 16 = .ok (.iconst 1, 1) := dk_4 (dk_at dksX6_noHarm_0 16 rfl rfl)
theorem dX6_noHarm_17 : decode cX6_noHarm 17 = .ok (.goto 4, 3) := dk_167 0 4 (dk_at dksX6_noHarm_0 17 rfl rfl)
theorem dX6_noHarm_20 : decode cX6_noHarm 20 = .ok (.iconst 0, 1) := dk_3 (dk_at dksX6_noHarm_0 20 rfl rfl)
theorem dX6_noHarm_21 : decode cX6_noHarm 21 = .ok (.ireturn, 1) := dk_172 (dk_at dksX6_noHarm_0 21 rfl rfl)
def dkwX6_reachOf_1 : List UInt8 := [153, 0, 7, 4, 167, 0, 4, 5, 172]
abbrev dktX6_reachOf_1 : List UInt8 := dkwX6_reachOf_1 ++ []
def dkwX6_reachOf_0 : List UInt8 := [42, 27, 28, 182, 1, 140, 42, 180, 1, 126, 154, 0, 7, 3, 167, 0, 17, 42, 27, 28, 182, 1, 143]
abbrev dktX6_reachOf_0 : List UInt8 := dkwX6_reachOf_0 ++ dktX6_reachOf_1
theorem dksX6_reachOf_0 : cX6_reachOf.data.toList.drop 0 = dktX6_reachOf_0 := by decide +kernel
theorem dksX6_reachOf_1 : cX6_reachOf.data.toList.drop 23 = dktX6_reachOf_1 := dk_seg dksX6_reachOf_0 23 rfl rfl
theorem dX6_reachOf_0 : decode cX6_reachOf 0 = .ok (.aload_n 0, 1) := dk_42 (dk_at dksX6_reachOf_0 0 rfl rfl)
theorem dX6_reachOf_1 : decode cX6_reachOf 1 = .ok (.iload_n 1, 1) := dk_27 (dk_at dksX6_reachOf_0 1 rfl rfl)
theorem dX6_reachOf_2 : decode cX6_reachOf 2 = .ok (.iload_n 2, 1) := dk_28 (dk_at dksX6_reachOf_0 2 rfl rfl)
theorem dX6_reachOf_3 : decode cX6_reachOf 3 = .ok (.invokevirtual 396, 3) := dk_182 1 140 (dk_at dksX6_reachOf_0 3 rfl rfl)
theorem dX6_reachOf_6 : decode cX6_reachOf 6 = .ok (.aload_n 0, 1) := dk_42 (dk_at dksX6_reachOf_0 6 rfl rfl)
theorem dX6_reachOf_7 : decode cX6_reachOf 7 = .ok (.getfield 382, 3) := dk_180 1 126 (dk_at dksX6_reachOf_0 7 rfl rfl)
theorem dX6_reachOf_10 : decode cX6_reachOf 10 = .ok (.ifCond .ne 7, 3) := dk_154 0 7 (dk_at dksX6_reachOf_0 10 rfl rfl)
theorem dX6_reachOf_13 : decode cX6_reachOf 13 = .ok (.iconst 0, 1) := dk_3 (dk_at dksX6_reachOf_0 13 rfl rfl)
theorem dX6_reachOf_14 : decode cX6_reachOf 14 = .ok (.goto 17, 3) := dk_167 0 17 (dk_at dksX6_reachOf_0 14 rfl rfl)
theorem dX6_reachOf_17 : decode cX6_reachOf 17 = .ok (.aload_n 0, 1) := dk_42 (dk_at dksX6_reachOf_0 17 rfl rfl)
theorem dX6_reachOf_18 : decode cX6_reachOf 18 = .ok (.iload_n 1, 1) := dk_27 (dk_at dksX6_reachOf_0 18 rfl rfl)
theorem dX6_reachOf_19 : decode cX6_reachOf 19 = .ok (.iload_n 2, 1) := dk_28 (dk_at dksX6_reachOf_0 19 rfl rfl)
theorem dX6_reachOf_20 : decode cX6_reachOf 20 = .ok (.invokevirtual 399, 3) := dk_182 1 143 (dk_at dksX6_reachOf_0 20 rfl rfl)
theorem dX6_reachOf_23 : decode cX6_reachOf 23 = .ok (.ifCond .eq 7, 3) := dk_153 0 7 (dk_at dksX6_reachOf_1 0 rfl rfl)
theorem dX6_reachOf_26 : decode cX6_reachOf 26 = .ok (.iconst 1, 1) := dk_4 (dk_at dksX6_reachOf_1 3 rfl rfl)
theorem dX6_reachOf_27 : decode cX6_reachOf 27 = .ok (.goto 4, 3) := dk_167 0 4 (dk_at dksX6_reachOf_1 4 rfl rfl)
theorem dX6_reachOf_30 : decode cX6_reachOf 30 = .ok (.iconst 2, 1) := dk_5 (dk_at dksX6_reachOf_1 7 rfl rfl)
theorem dX6_reachOf_31 : decode cX6_reachOf 31 = .ok (.ireturn, 1) := dk_172 (dk_at dksX6_reachOf_1 8 rfl rfl)
def dkwX6_finds_11 : List UInt8 := [180, 0, 77, 42, 180, 1, 126, 21, 5, 79, 42, 89, 180, 1, 126, 4, 96, 181, 1, 126, 167, 255, 178, 177]
abbrev dktX6_finds_11 : List UInt8 := dkwX6_finds_11 ++ []
def dkwX6_finds_10 : List UInt8 := [180, 0, 80, 21, 5, 46, 4, 100, 159, 0, 9, 132, 6, 1, 167, 255, 219, 21, 6, 54, 5, 42]
abbrev dktX6_finds_10 : List UInt8 := dkwX6_finds_10 ++ dktX6_finds_11
def dkwX6_finds_9 : List UInt8 := [42, 180, 0, 74, 21, 5, 47, 21, 6, 184, 1, 39, 153, 0, 22, 42, 180, 0, 80, 21, 6, 46, 42]
abbrev dktX6_finds_9 : List UInt8 := dkwX6_finds_9 ++ dktX6_finds_10
def dkwX6_finds_8 : List UInt8 := [180, 0, 77, 3, 3, 79, 42, 4, 181, 1, 126, 42, 180, 0, 80, 21, 5, 46, 158, 0, 74, 3, 54, 6]
abbrev dktX6_finds_8 : List UInt8 := dkwX6_finds_8 ++ dktX6_finds_9
def dkwX6_finds_7 : List UInt8 := [181, 1, 126, 42, 182, 0, 112, 153, 0, 12, 42, 180, 0, 80, 3, 46, 156, 0, 4, 177, 3, 54, 5, 42]
abbrev dktX6_finds_7 : List UInt8 := dkwX6_finds_7 ++ dktX6_finds_8
def dkwX6_finds_6 : List UInt8 := [21, 5, 79, 132, 7, 1, 167, 255, 206, 132, 6, 1, 167, 255, 175, 132, 5, 1, 167, 255, 157, 42, 3]
abbrev dktX6_finds_6 : List UInt8 := dkwX6_finds_6 ++ dktX6_finds_7
def dkwX6_finds_5 : List UInt8 := [153, 0, 26, 42, 180, 0, 80, 21, 7, 46, 21, 5, 4, 100, 160, 0, 12, 42, 180, 0, 80, 21, 6]
abbrev dktX6_finds_5 : List UInt8 := dkwX6_finds_5 ++ dktX6_finds_6
def dkwX6_finds_4 : List UInt8 := [3, 54, 7, 21, 7, 42, 182, 0, 112, 162, 0, 47, 42, 180, 0, 74, 21, 6, 47, 21, 7, 184, 1, 39]
abbrev dktX6_finds_4 : List UInt8 := dkwX6_finds_4 ++ dktX6_finds_5
def dkwX6_finds_3 : List UInt8 := [54, 6, 21, 6, 42, 182, 0, 112, 162, 0, 78, 42, 180, 0, 80, 21, 6, 46, 155, 0, 6, 167, 0, 59]
abbrev dktX6_finds_3 : List UInt8 := dkwX6_finds_3 ++ dktX6_finds_4
def dkwX6_finds_2 : List UInt8 := [167, 0, 4, 2, 79, 132, 5, 1, 167, 255, 223, 4, 54, 5, 21, 5, 42, 182, 0, 112, 163, 0, 96, 3]
abbrev dktX6_finds_2 : List UInt8 := dkwX6_finds_2 ++ dktX6_finds_3
def dkwX6_finds_1 : List UInt8 := [42, 182, 0, 112, 162, 0, 30, 42, 180, 0, 80, 21, 5, 33, 21, 5, 184, 1, 39, 153, 0, 7, 3]
abbrev dktX6_finds_1 : List UInt8 := dkwX6_finds_1 ++ dktX6_finds_2
def dkwX6_finds_0 : List UInt8 := [42, 182, 1, 13, 42, 182, 1, 114, 42, 27, 182, 1, 117, 42, 28, 182, 1, 123, 66, 3, 54, 5, 21, 5]
abbrev dktX6_finds_0 : List UInt8 := dkwX6_finds_0 ++ dktX6_finds_1
theorem dksX6_finds_0 : cX6_finds.data.toList.drop 0 = dktX6_finds_0 := by decide +kernel
theorem dksX6_finds_1 : cX6_finds.data.toList.drop 24 = dktX6_finds_1 := dk_seg dksX6_finds_0 24 rfl rfl
theorem dksX6_finds_2 : cX6_finds.data.toList.drop 47 = dktX6_finds_2 := dk_seg dksX6_finds_1 23 rfl rfl
theorem dksX6_finds_3 : cX6_finds.data.toList.drop 71 = dktX6_finds_3 := dk_seg dksX6_finds_2 24 rfl rfl
theorem dksX6_finds_4 : cX6_finds.data.toList.drop 95 = dktX6_finds_4 := dk_seg dksX6_finds_3 24 rfl rfl
theorem dksX6_finds_5 : cX6_finds.data.toList.drop 119 = dktX6_finds_5 := dk_seg dksX6_finds_4 24 rfl rfl
theorem dksX6_finds_6 : cX6_finds.data.toList.drop 142 = dktX6_finds_6 := dk_seg dksX6_finds_5 23 rfl rfl
theorem dksX6_finds_7 : cX6_finds.data.toList.drop 165 = dktX6_finds_7 := dk_seg dksX6_finds_6 23 rfl rfl
theorem dksX6_finds_8 : cX6_finds.data.toList.drop 189 = dktX6_finds_8 := dk_seg dksX6_finds_7 24 rfl rfl
theorem dksX6_finds_9 : cX6_finds.data.toList.drop 213 = dktX6_finds_9 := dk_seg dksX6_finds_8 24 rfl rfl
theorem dksX6_finds_10 : cX6_finds.data.toList.drop 236 = dktX6_finds_10 := dk_seg dksX6_finds_9 23 rfl rfl
theorem dksX6_finds_11 : cX6_finds.data.toList.drop 258 = dktX6_finds_11 := dk_seg dksX6_finds_10 22 rfl rfl
theorem dX6_finds_0 : decode cX6_finds 0 = .ok (.aload_n 0, 1) := dk_42 (dk_at dksX6_finds_0 0 rfl rfl)
theorem dX6_finds_1 : decode cX6_finds 1 = .ok (.invokevirtual 269, 3) := dk_182 1 13 (dk_at dksX6_finds_0 1 rfl rfl)
theorem dX6_finds_4 : decode cX6_finds 4 = .ok (.aload_n 0, 1) := dk_42 (dk_at dksX6_finds_0 4 rfl rfl)
theorem dX6_finds_5 : decode cX6_finds 5 = .ok (.invokevirtual 370, 3) := dk_182 1 114 (dk_at dksX6_finds_0 5 rfl rfl)
theorem dX6_finds_8 : decode cX6_finds 8 = .ok (.aload_n 0, 1) := dk_42 (dk_at dksX6_finds_0 8 rfl rfl)
theorem dX6_finds_9 : decode cX6_finds 9 = .ok (.iload_n 1, 1) := dk_27 (dk_at dksX6_finds_0 9 rfl rfl)
theorem dX6_finds_10 : decode cX6_finds 10 = .ok (.invokevirtual 373, 3) := dk_182 1 117 (dk_at dksX6_finds_0 10 rfl rfl)
theorem dX6_finds_13 : decode cX6_finds 13 = .ok (.aload_n 0, 1) := dk_42 (dk_at dksX6_finds_0 13 rfl rfl)
theorem dX6_finds_14 : decode cX6_finds 14 = .ok (.iload_n 2, 1) := dk_28 (dk_at dksX6_finds_0 14 rfl rfl)
theorem dX6_finds_15 : decode cX6_finds 15 = .ok (.invokevirtual 379, 3) := dk_182 1 123 (dk_at dksX6_finds_0 15 rfl rfl)
theorem dX6_finds_18 : decode cX6_finds 18 = .ok (.lstore_n 3, 1) := dk_66 (dk_at dksX6_finds_0 18 rfl rfl)
theorem dX6_finds_19 : decode cX6_finds 19 = .ok (.iconst 0, 1) := dk_3 (dk_at dksX6_finds_0 19 rfl rfl)
theorem dX6_finds_20 : decode cX6_finds 20 = .ok (.istore 5, 2) := dk_54 5 (dk_at dksX6_finds_0 20 rfl rfl)
theorem dX6_finds_22 : decode cX6_finds 22 = .ok (.iload 5, 2) := dk_21 5 (dk_at dksX6_finds_0 22 rfl rfl)
theorem dX6_finds_24 : decode cX6_finds 24 = .ok (.aload_n 0, 1) := dk_42 (dk_at dksX6_finds_1 0 rfl rfl)
theorem dX6_finds_25 : decode cX6_finds 25 = .ok (.invokevirtual 112, 3) := dk_182 0 112 (dk_at dksX6_finds_1 1 rfl rfl)
theorem dX6_finds_28 : decode cX6_finds 28 = .ok (.if_icmp .ge 30, 3) := dk_162 0 30 (dk_at dksX6_finds_1 4 rfl rfl)
theorem dX6_finds_31 : decode cX6_finds 31 = .ok (.aload_n 0, 1) := dk_42 (dk_at dksX6_finds_1 7 rfl rfl)
theorem dX6_finds_32 : decode cX6_finds 32 = .ok (.getfield 80, 3) := dk_180 0 80 (dk_at dksX6_finds_1 8 rfl rfl)
theorem dX6_finds_35 : decode cX6_finds 35 = .ok (.iload 5, 2) := dk_21 5 (dk_at dksX6_finds_1 11 rfl rfl)
theorem dX6_finds_37 : decode cX6_finds 37 = .ok (.lload_n 3, 1) := dk_33 (dk_at dksX6_finds_1 13 rfl rfl)
theorem dX6_finds_38 : decode cX6_finds 38 = .ok (.iload 5, 2) := dk_21 5 (dk_at dksX6_finds_1 14 rfl rfl)
theorem dX6_finds_40 : decode cX6_finds 40 = .ok (.invokestatic 295, 3) := dk_184 1 39 (dk_at dksX6_finds_1 16 rfl rfl)
theorem dX6_finds_43 : decode cX6_finds 43 = .ok (.ifCond .eq 7, 3) := dk_153 0 7 (dk_at dksX6_finds_1 19 rfl rfl)
theorem dX6_finds_46 : decode cX6_finds 46 = .ok (.iconst 0, 1) := dk_3 (dk_at dksX6_finds_1 22 rfl rfl)
theorem dX6_finds_47 : decode cX6_finds 47 = .ok (.goto 4, 3) := dk_167 0 4 (dk_at dksX6_finds_2 0 rfl rfl)
theorem dX6_finds_50 : decode cX6_finds 50 = .ok (.iconst (-1), 1) := dk_2 (dk_at dksX6_finds_2 3 rfl rfl)
theorem dX6_finds_51 : decode cX6_finds 51 = .ok (.iastore, 1) := dk_79 (dk_at dksX6_finds_2 4 rfl rfl)
theorem dX6_finds_52 : decode cX6_finds 52 = .ok (.iinc 5 1, 3) := dk_132 5 1 (dk_at dksX6_finds_2 5 rfl rfl)
theorem dX6_finds_55 : decode cX6_finds 55 = .ok (.goto (-33), 3) := dk_167 255 223 (dk_at dksX6_finds_2 8 rfl rfl)
theorem dX6_finds_58 : decode cX6_finds 58 = .ok (.iconst 1, 1) := dk_4 (dk_at dksX6_finds_2 11 rfl rfl)
theorem dX6_finds_59 : decode cX6_finds 59 = .ok (.istore 5, 2) := dk_54 5 (dk_at dksX6_finds_2 12 rfl rfl)
theorem dX6_finds_61 : decode cX6_finds 61 = .ok (.iload 5, 2) := dk_21 5 (dk_at dksX6_finds_2 14 rfl rfl)
theorem dX6_finds_63 : decode cX6_finds 63 = .ok (.aload_n 0, 1) := dk_42 (dk_at dksX6_finds_2 16 rfl rfl)
theorem dX6_finds_64 : decode cX6_finds 64 = .ok (.invokevirtual 112, 3) := dk_182 0 112 (dk_at dksX6_finds_2 17 rfl rfl)
theorem dX6_finds_67 : decode cX6_finds 67 = .ok (.if_icmp .gt 96, 3) := dk_163 0 96 (dk_at dksX6_finds_2 20 rfl rfl)
theorem dX6_finds_70 : decode cX6_finds 70 = .ok (.iconst 0, 1) := dk_3 (dk_at dksX6_finds_2 23 rfl rfl)
theorem dX6_finds_71 : decode cX6_finds 71 = .ok (.istore 6, 2) := dk_54 6 (dk_at dksX6_finds_3 0 rfl rfl)
theorem dX6_finds_73 : decode cX6_finds 73 = .ok (.iload 6, 2) := dk_21 6 (dk_at dksX6_finds_3 2 rfl rfl)
theorem dX6_finds_75 : decode cX6_finds 75 = .ok (.aload_n 0, 1) := dk_42 (dk_at dksX6_finds_3 4 rfl rfl)
theorem dX6_finds_76 : decode cX6_finds 76 = .ok (.invokevirtual 112, 3) := dk_182 0 112 (dk_at dksX6_finds_3 5 rfl rfl)
theorem dX6_finds_79 : decode cX6_finds 79 = .ok (.if_icmp .ge 78, 3) := dk_162 0 78 (dk_at dksX6_finds_3 8 rfl rfl)
theorem dX6_finds_82 : decode cX6_finds 82 = .ok (.aload_n 0, 1) := dk_42 (dk_at dksX6_finds_3 11 rfl rfl)
theorem dX6_finds_83 : decode cX6_finds 83 = .ok (.getfield 80, 3) := dk_180 0 80 (dk_at dksX6_finds_3 12 rfl rfl)
theorem dX6_finds_86 : decode cX6_finds 86 = .ok (.iload 6, 2) := dk_21 6 (dk_at dksX6_finds_3 15 rfl rfl)
theorem dX6_finds_88 : decode cX6_finds 88 = .ok (.iaload, 1) := dk_46 (dk_at dksX6_finds_3 17 rfl rfl)
theorem dX6_finds_89 : decode cX6_finds 89 = .ok (.ifCond .lt 6, 3) := dk_155 0 6 (dk_at dksX6_finds_3 18 rfl rfl)
theorem dX6_finds_92 : decode cX6_finds 92 = .ok (.goto 59, 3) := dk_167 0 59 (dk_at dksX6_finds_3 21 rfl rfl)
theorem dX6_finds_95 : decode cX6_finds 95 = .ok (.iconst 0, 1) := dk_3 (dk_at dksX6_finds_4 0 rfl rfl)
theorem dX6_finds_96 : decode cX6_finds 96 = .ok (.istore 7, 2) := dk_54 7 (dk_at dksX6_finds_4 1 rfl rfl)
theorem dX6_finds_98 : decode cX6_finds 98 = .ok (.iload 7, 2) := dk_21 7 (dk_at dksX6_finds_4 3 rfl rfl)
theorem dX6_finds_100 : decode cX6_finds 100 = .ok (.aload_n 0, 1) := dk_42 (dk_at dksX6_finds_4 5 rfl rfl)
theorem dX6_finds_101 : decode cX6_finds 101 = .ok (.invokevirtual 112, 3) := dk_182 0 112 (dk_at dksX6_finds_4 6 rfl rfl)
theorem dX6_finds_104 : decode cX6_finds 104 = .ok (.if_icmp .ge 47, 3) := dk_162 0 47 (dk_at dksX6_finds_4 9 rfl rfl)
theorem dX6_finds_107 : decode cX6_finds 107 = .ok (.aload_n 0, 1) := dk_42 (dk_at dksX6_finds_4 12 rfl rfl)
theorem dX6_finds_108 : decode cX6_finds 108 = .ok (.getfield 74, 3) := dk_180 0 74 (dk_at dksX6_finds_4 13 rfl rfl)
theorem dX6_finds_111 : decode cX6_finds 111 = .ok (.iload 6, 2) := dk_21 6 (dk_at dksX6_finds_4 16 rfl rfl)
theorem dX6_finds_113 : decode cX6_finds 113 = .ok (.laload, 1) := dk_47 (dk_at dksX6_finds_4 18 rfl rfl)
theorem dX6_finds_114 : decode cX6_finds 114 = .ok (.iload 7, 2) := dk_21 7 (dk_at dksX6_finds_4 19 rfl rfl)
theorem dX6_finds_116 : decode cX6_finds 116 = .ok (.invokestatic 295, 3) := dk_184 1 39 (dk_at dksX6_finds_4 21 rfl rfl)
theorem dX6_finds_119 : decode cX6_finds 119 = .ok (.ifCond .eq 26, 3) := dk_153 0 26 (dk_at dksX6_finds_5 0 rfl rfl)
theorem dX6_finds_122 : decode cX6_finds 122 = .ok (.aload_n 0, 1) := dk_42 (dk_at dksX6_finds_5 3 rfl rfl)
theorem dX6_finds_123 : decode cX6_finds 123 = .ok (.getfield 80, 3) := dk_180 0 80 (dk_at dksX6_finds_5 4 rfl rfl)
theorem dX6_finds_126 : decode cX6_finds 126 = .ok (.iload 7, 2) := dk_21 7 (dk_at dksX6_finds_5 7 rfl rfl)
theorem dX6_finds_128 : decode cX6_finds 128 = .ok (.iaload, 1) := dk_46 (dk_at dksX6_finds_5 9 rfl rfl)
theorem dX6_finds_129 : decode cX6_finds 129 = .ok (.iload 5, 2) := dk_21 5 (dk_at dksX6_finds_5 10 rfl rfl)
theorem dX6_finds_131 : decode cX6_finds 131 = .ok (.iconst 1, 1) := dk_4 (dk_at dksX6_finds_5 12 rfl rfl)
theorem dX6_finds_132 : decode cX6_finds 132 = .ok (.isub, 1) := dk_100 (dk_at dksX6_finds_5 13 rfl rfl)
theorem dX6_finds_133 : decode cX6_finds 133 = .ok (.if_icmp .ne 12, 3) := dk_160 0 12 (dk_at dksX6_finds_5 14 rfl rfl)
theorem dX6_finds_136 : decode cX6_finds 136 = .ok (.aload_n 0, 1) := dk_42 (dk_at dksX6_finds_5 17 rfl rfl)
theorem dX6_finds_137 : decode cX6_finds 137 = .ok (.getfield 80, 3) := dk_180 0 80 (dk_at dksX6_finds_5 18 rfl rfl)
theorem dX6_finds_140 : decode cX6_finds 140 = .ok (.iload 6, 2) := dk_21 6 (dk_at dksX6_finds_5 21 rfl rfl)
theorem dX6_finds_142 : decode cX6_finds 142 = .ok (.iload 5, 2) := dk_21 5 (dk_at dksX6_finds_6 0 rfl rfl)
theorem dX6_finds_144 : decode cX6_finds 144 = .ok (.iastore, 1) := dk_79 (dk_at dksX6_finds_6 2 rfl rfl)
theorem dX6_finds_145 : decode cX6_finds 145 = .ok (.iinc 7 1, 3) := dk_132 7 1 (dk_at dksX6_finds_6 3 rfl rfl)
theorem dX6_finds_148 : decode cX6_finds 148 = .ok (.goto (-50), 3) := dk_167 255 206 (dk_at dksX6_finds_6 6 rfl rfl)
theorem dX6_finds_151 : decode cX6_finds 151 = .ok (.iinc 6 1, 3) := dk_132 6 1 (dk_at dksX6_finds_6 9 rfl rfl)
theorem dX6_finds_154 : decode cX6_finds 154 = .ok (.goto (-81), 3) := dk_167 255 175 (dk_at dksX6_finds_6 12 rfl rfl)
theorem dX6_finds_157 : decode cX6_finds 157 = .ok (.iinc 5 1, 3) := dk_132 5 1 (dk_at dksX6_finds_6 15 rfl rfl)
theorem dX6_finds_160 : decode cX6_finds 160 = .ok (.goto (-99), 3) := dk_167 255 157 (dk_at dksX6_finds_6 18 rfl rfl)
theorem dX6_finds_163 : decode cX6_finds 163 = .ok (.aload_n 0, 1) := dk_42 (dk_at dksX6_finds_6 21 rfl rfl)
theorem dX6_finds_164 : decode cX6_finds 164 = .ok (.iconst 0, 1) := dk_3 (dk_at dksX6_finds_6 22 rfl rfl)
theorem dX6_finds_165 : decode cX6_finds 165 = .ok (.putfield 382, 3) := dk_181 1 126 (dk_at dksX6_finds_7 0 rfl rfl)
theorem dX6_finds_168 : decode cX6_finds 168 = .ok (.aload_n 0, 1) := dk_42 (dk_at dksX6_finds_7 3 rfl rfl)
theorem dX6_finds_169 : decode cX6_finds 169 = .ok (.invokevirtual 112, 3) := dk_182 0 112 (dk_at dksX6_finds_7 4 rfl rfl)
theorem dX6_finds_172 : decode cX6_finds 172 = .ok (.ifCond .eq 12, 3) := dk_153 0 12 (dk_at dksX6_finds_7 7 rfl rfl)
theorem dX6_finds_175 : decode cX6_finds 175 = .ok (.aload_n 0, 1) := dk_42 (dk_at dksX6_finds_7 10 rfl rfl)
theorem dX6_finds_176 : decode cX6_finds 176 = .ok (.getfield 80, 3) := dk_180 0 80 (dk_at dksX6_finds_7 11 rfl rfl)
theorem dX6_finds_179 : decode cX6_finds 179 = .ok (.iconst 0, 1) := dk_3 (dk_at dksX6_finds_7 14 rfl rfl)
theorem dX6_finds_180 : decode cX6_finds 180 = .ok (.iaload, 1) := dk_46 (dk_at dksX6_finds_7 15 rfl rfl)
theorem dX6_finds_181 : decode cX6_finds 181 = .ok (.ifCond .ge 4, 3) := dk_156 0 4 (dk_at dksX6_finds_7 16 rfl rfl)
theorem dX6_finds_184 : decode cX6_finds 184 = .ok (.return_, 1) := dk_177 (dk_at dksX6_finds_7 19 rfl rfl)
theorem dX6_finds_185 : decode cX6_finds 185 = .ok (.iconst 0, 1) := dk_3 (dk_at dksX6_finds_7 20 rfl rfl)
theorem dX6_finds_186 : decode cX6_finds 186 = .ok (.istore 5, 2) := dk_54 5 (dk_at dksX6_finds_7 21 rfl rfl)
theorem dX6_finds_188 : decode cX6_finds 188 = .ok (.aload_n 0, 1) := dk_42 (dk_at dksX6_finds_7 23 rfl rfl)
theorem dX6_finds_189 : decode cX6_finds 189 = .ok (.getfield 77, 3) := dk_180 0 77 (dk_at dksX6_finds_8 0 rfl rfl)
theorem dX6_finds_192 : decode cX6_finds 192 = .ok (.iconst 0, 1) := dk_3 (dk_at dksX6_finds_8 3 rfl rfl)
theorem dX6_finds_193 : decode cX6_finds 193 = .ok (.iconst 0, 1) := dk_3 (dk_at dksX6_finds_8 4 rfl rfl)
theorem dX6_finds_194 : decode cX6_finds 194 = .ok (.iastore, 1) := dk_79 (dk_at dksX6_finds_8 5 rfl rfl)
theorem dX6_finds_195 : decode cX6_finds 195 = .ok (.aload_n 0, 1) := dk_42 (dk_at dksX6_finds_8 6 rfl rfl)
theorem dX6_finds_196 : decode cX6_finds 196 = .ok (.iconst 1, 1) := dk_4 (dk_at dksX6_finds_8 7 rfl rfl)
theorem dX6_finds_197 : decode cX6_finds 197 = .ok (.putfield 382, 3) := dk_181 1 126 (dk_at dksX6_finds_8 8 rfl rfl)
theorem dX6_finds_200 : decode cX6_finds 200 = .ok (.aload_n 0, 1) := dk_42 (dk_at dksX6_finds_8 11 rfl rfl)
theorem dX6_finds_201 : decode cX6_finds 201 = .ok (.getfield 80, 3) := dk_180 0 80 (dk_at dksX6_finds_8 12 rfl rfl)
theorem dX6_finds_204 : decode cX6_finds 204 = .ok (.iload 5, 2) := dk_21 5 (dk_at dksX6_finds_8 15 rfl rfl)
theorem dX6_finds_206 : decode cX6_finds 206 = .ok (.iaload, 1) := dk_46 (dk_at dksX6_finds_8 17 rfl rfl)
theorem dX6_finds_207 : decode cX6_finds 207 = .ok (.ifCond .le 74, 3) := dk_158 0 74 (dk_at dksX6_finds_8 18 rfl rfl)
theorem dX6_finds_210 : decode cX6_finds 210 = .ok (.iconst 0, 1) := dk_3 (dk_at dksX6_finds_8 21 rfl rfl)
theorem dX6_finds_211 : decode cX6_finds 211 = .ok (.istore 6, 2) := dk_54 6 (dk_at dksX6_finds_8 22 rfl rfl)
theorem dX6_finds_213 : decode cX6_finds 213 = .ok (.aload_n 0, 1) := dk_42 (dk_at dksX6_finds_9 0 rfl rfl)
theorem dX6_finds_214 : decode cX6_finds 214 = .ok (.getfield 74, 3) := dk_180 0 74 (dk_at dksX6_finds_9 1 rfl rfl)
theorem dX6_finds_217 : decode cX6_finds 217 = .ok (.iload 5, 2) := dk_21 5 (dk_at dksX6_finds_9 4 rfl rfl)
theorem dX6_finds_219 : decode cX6_finds 219 = .ok (.laload, 1) := dk_47 (dk_at dksX6_finds_9 6 rfl rfl)
theorem dX6_finds_220 : decode cX6_finds 220 = .ok (.iload 6, 2) := dk_21 6 (dk_at dksX6_finds_9 7 rfl rfl)
theorem dX6_finds_222 : decode cX6_finds 222 = .ok (.invokestatic 295, 3) := dk_184 1 39 (dk_at dksX6_finds_9 9 rfl rfl)
theorem dX6_finds_225 : decode cX6_finds 225 = .ok (.ifCond .eq 22, 3) := dk_153 0 22 (dk_at dksX6_finds_9 12 rfl rfl)
theorem dX6_finds_228 : decode cX6_finds 228 = .ok (.aload_n 0, 1) := dk_42 (dk_at dksX6_finds_9 15 rfl rfl)
theorem dX6_finds_229 : decode cX6_finds 229 = .ok (.getfield 80, 3) := dk_180 0 80 (dk_at dksX6_finds_9 16 rfl rfl)
theorem dX6_finds_232 : decode cX6_finds 232 = .ok (.iload 6, 2) := dk_21 6 (dk_at dksX6_finds_9 19 rfl rfl)
theorem dX6_finds_234 : decode cX6_finds 234 = .ok (.iaload, 1) := dk_46 (dk_at dksX6_finds_9 21 rfl rfl)
theorem dX6_finds_235 : decode cX6_finds 235 = .ok (.aload_n 0, 1) := dk_42 (dk_at dksX6_finds_9 22 rfl rfl)
theorem dX6_finds_236 : decode cX6_finds 236 = .ok (.getfield 80, 3) := dk_180 0 80 (dk_at dksX6_finds_10 0 rfl rfl)
theorem dX6_finds_239 : decode cX6_finds 239 = .ok (.iload 5, 2) := dk_21 5 (dk_at dksX6_finds_10 3 rfl rfl)
theorem dX6_finds_241 : decode cX6_finds 241 = .ok (.iaload, 1) := dk_46 (dk_at dksX6_finds_10 5 rfl rfl)
theorem dX6_finds_242 : decode cX6_finds 242 = .ok (.iconst 1, 1) := dk_4 (dk_at dksX6_finds_10 6 rfl rfl)
theorem dX6_finds_243 : decode cX6_finds 243 = .ok (.isub, 1) := dk_100 (dk_at dksX6_finds_10 7 rfl rfl)
theorem dX6_finds_244 : decode cX6_finds 244 = .ok (.if_icmp .eq 9, 3) := dk_159 0 9 (dk_at dksX6_finds_10 8 rfl rfl)
theorem dX6_finds_247 : decode cX6_finds 247 = .ok (.iinc 6 1, 3) := dk_132 6 1 (dk_at dksX6_finds_10 11 rfl rfl)
theorem dX6_finds_250 : decode cX6_finds 250 = .ok (.goto (-37), 3) := dk_167 255 219 (dk_at dksX6_finds_10 14 rfl rfl)
theorem dX6_finds_253 : decode cX6_finds 253 = .ok (.iload 6, 2) := dk_21 6 (dk_at dksX6_finds_10 17 rfl rfl)
theorem dX6_finds_255 : decode cX6_finds 255 = .ok (.istore 5, 2) := dk_54 5 (dk_at dksX6_finds_10 19 rfl rfl)
theorem dX6_finds_257 : decode cX6_finds 257 = .ok (.aload_n 0, 1) := dk_42 (dk_at dksX6_finds_10 21 rfl rfl)
theorem dX6_finds_258 : decode cX6_finds 258 = .ok (.getfield 77, 3) := dk_180 0 77 (dk_at dksX6_finds_11 0 rfl rfl)
theorem dX6_finds_261 : decode cX6_finds 261 = .ok (.aload_n 0, 1) := dk_42 (dk_at dksX6_finds_11 3 rfl rfl)
theorem dX6_finds_262 : decode cX6_finds 262 = .ok (.getfield 382, 3) := dk_180 1 126 (dk_at dksX6_finds_11 4 rfl rfl)
theorem dX6_finds_265 : decode cX6_finds 265 = .ok (.iload 5, 2) := dk_21 5 (dk_at dksX6_finds_11 7 rfl rfl)
theorem dX6_finds_267 : decode cX6_finds 267 = .ok (.iastore, 1) := dk_79 (dk_at dksX6_finds_11 9 rfl rfl)
theorem dX6_finds_268 : decode cX6_finds 268 = .ok (.aload_n 0, 1) := dk_42 (dk_at dksX6_finds_11 10 rfl rfl)
theorem dX6_finds_269 : decode cX6_finds 269 = .ok (.dup, 1) := dk_89 (dk_at dksX6_finds_11 11 rfl rfl)
theorem dX6_finds_270 : decode cX6_finds 270 = .ok (.getfield 382, 3) := dk_180 1 126 (dk_at dksX6_finds_11 12 rfl rfl)
theorem dX6_finds_273 : decode cX6_finds 273 = .ok (.iconst 1, 1) := dk_4 (dk_at dksX6_finds_11 15 rfl rfl)
theorem dX6_finds_274 : decode cX6_finds 274 = .ok (.iadd, 1) := dk_96 (dk_at dksX6_finds_11 16 rfl rfl)
theorem dX6_finds_275 : decode cX6_finds 275 = .ok (.putfield 382, 3) := dk_181 1 126 (dk_at dksX6_finds_11 17 rfl rfl)
theorem dX6_finds_278 : decode cX6_finds 278 = .ok (.goto (-78), 3) := dk_167 255 178 (dk_at dksX6_finds_11 20 rfl rfl)
theorem dX6_finds_281 : decode cX6_finds 281 = .ok (.return_, 1) := dk_177 (dk_at dksX6_finds_11 23 rfl rfl)
def dkwX6_doorsOf_3 : List UInt8 := [132, 4, 1, 167, 255, 191, 32, 173]
abbrev dktX6_doorsOf_3 : List UInt8 := dkwX6_doorsOf_3 ++ []
def dkwX6_doorsOf_2 : List UInt8 := [182, 0, 108, 42, 180, 0, 13, 17, 1, 148, 27, 96, 46, 160, 0, 10, 32, 10, 21, 4, 121, 129, 65]
abbrev dktX6_doorsOf_2 : List UInt8 := dkwX6_doorsOf_2 ++ dktX6_doorsOf_3
def dkwX6_doorsOf_1 : List UInt8 := [160, 0, 45, 42, 21, 4, 16, 6, 182, 0, 108, 17, 3, 232, 162, 0, 24, 42, 21, 4, 16, 6]
abbrev dktX6_doorsOf_1 : List UInt8 := dkwX6_doorsOf_1 ++ dktX6_doorsOf_2
def dkwX6_doorsOf_0 : List UInt8 := [9, 65, 3, 54, 4, 21, 4, 42, 182, 0, 112, 162, 0, 62, 42, 21, 4, 182, 0, 120, 16, 8]
abbrev dktX6_doorsOf_0 : List UInt8 := dkwX6_doorsOf_0 ++ dktX6_doorsOf_1
theorem dksX6_doorsOf_0 : cX6_doorsOf.data.toList.drop 0 = dktX6_doorsOf_0 := by decide +kernel
theorem dksX6_doorsOf_1 : cX6_doorsOf.data.toList.drop 22 = dktX6_doorsOf_1 := dk_seg dksX6_doorsOf_0 22 rfl rfl
theorem dksX6_doorsOf_2 : cX6_doorsOf.data.toList.drop 44 = dktX6_doorsOf_2 := dk_seg dksX6_doorsOf_1 22 rfl rfl
theorem dksX6_doorsOf_3 : cX6_doorsOf.data.toList.drop 67 = dktX6_doorsOf_3 := dk_seg dksX6_doorsOf_2 23 rfl rfl
theorem dX6_doorsOf_0 : decode cX6_doorsOf 0 = .ok (.lconst 0, 1) := dk_9 (dk_at dksX6_doorsOf_0 0 rfl rfl)
theorem dX6_doorsOf_1 : decode cX6_doorsOf 1 = .ok (.lstore_n 2, 1) := dk_65 (dk_at dksX6_doorsOf_0 1 rfl rfl)
theorem dX6_doorsOf_2 : decode cX6_doorsOf 2 = .ok (.iconst 0, 1) := dk_3 (dk_at dksX6_doorsOf_0 2 rfl rfl)
theorem dX6_doorsOf_3 : decode cX6_doorsOf 3 = .ok (.istore 4, 2) := dk_54 4 (dk_at dksX6_doorsOf_0 3 rfl rfl)
theorem dX6_doorsOf_5 : decode cX6_doorsOf 5 = .ok (.iload 4, 2) := dk_21 4 (dk_at dksX6_doorsOf_0 5 rfl rfl)
theorem dX6_doorsOf_7 : decode cX6_doorsOf 7 = .ok (.aload_n 0, 1) := dk_42 (dk_at dksX6_doorsOf_0 7 rfl rfl)
theorem dX6_doorsOf_8 : decode cX6_doorsOf 8 = .ok (.invokevirtual 112, 3) := dk_182 0 112 (dk_at dksX6_doorsOf_0 8 rfl rfl)
theorem dX6_doorsOf_11 : decode cX6_doorsOf 11 = .ok (.if_icmp .ge 62, 3) := dk_162 0 62 (dk_at dksX6_doorsOf_0 11 rfl rfl)
theorem dX6_doorsOf_14 : decode cX6_doorsOf 14 = .ok (.aload_n 0, 1) := dk_42 (dk_at dksX6_doorsOf_0 14 rfl rfl)
theorem dX6_doorsOf_15 : decode cX6_doorsOf 15 = .ok (.iload 4, 2) := dk_21 4 (dk_at dksX6_doorsOf_0 15 rfl rfl)
theorem dX6_doorsOf_17 : decode cX6_doorsOf 17 = .ok (.invokevirtual 120, 3) := dk_182 0 120 (dk_at dksX6_doorsOf_0 17 rfl rfl)
theorem dX6_doorsOf_20 : decode cX6_doorsOf 20 = .ok (.bipush 8, 2) := dk_16 8 (dk_at dksX6_doorsOf_0 20 rfl rfl)
theorem dX6_doorsOf_22 : decode cX6_doorsOf 22 = .ok (.if_icmp .ne 45, 3) := dk_160 0 45 (dk_at dksX6_doorsOf_1 0 rfl rfl)
theorem dX6_doorsOf_25 : decode cX6_doorsOf 25 = .ok (.aload_n 0, 1) := dk_42 (dk_at dksX6_doorsOf_1 3 rfl rfl)
theorem dX6_doorsOf_26 : decode cX6_doorsOf 26 = .ok (.iload 4, 2) := dk_21 4 (dk_at dksX6_doorsOf_1 4 rfl rfl)
theorem dX6_doorsOf_28 : decode cX6_doorsOf 28 = .ok (.bipush 6, 2) := dk_16 6 (dk_at dksX6_doorsOf_1 6 rfl rfl)
theorem dX6_doorsOf_30 : decode cX6_doorsOf 30 = .ok (.invokevirtual 108, 3) := dk_182 0 108 (dk_at dksX6_doorsOf_1 8 rfl rfl)
theorem dX6_doorsOf_33 : decode cX6_doorsOf 33 = .ok (.sipush 1000, 3) := dk_17 3 232 (dk_at dksX6_doorsOf_1 11 rfl rfl)
theorem dX6_doorsOf_36 : decode cX6_doorsOf 36 = .ok (.if_icmp .ge 24, 3) := dk_162 0 24 (dk_at dksX6_doorsOf_1 14 rfl rfl)
theorem dX6_doorsOf_39 : decode cX6_doorsOf 39 = .ok (.aload_n 0, 1) := dk_42 (dk_at dksX6_doorsOf_1 17 rfl rfl)
theorem dX6_doorsOf_40 : decode cX6_doorsOf 40 = .ok (.iload 4, 2) := dk_21 4 (dk_at dksX6_doorsOf_1 18 rfl rfl)
theorem dX6_doorsOf_42 : decode cX6_doorsOf 42 = .ok (.bipush 6, 2) := dk_16 6 (dk_at dksX6_doorsOf_1 20 rfl rfl)
theorem dX6_doorsOf_44 : decode cX6_doorsOf 44 = .ok (.invokevirtual 108, 3) := dk_182 0 108 (dk_at dksX6_doorsOf_2 0 rfl rfl)
theorem dX6_doorsOf_47 : decode cX6_doorsOf 47 = .ok (.aload_n 0, 1) := dk_42 (dk_at dksX6_doorsOf_2 3 rfl rfl)
theorem dX6_doorsOf_48 : decode cX6_doorsOf 48 = .ok (.getfield 13, 3) := dk_180 0 13 (dk_at dksX6_doorsOf_2 4 rfl rfl)
theorem dX6_doorsOf_51 : decode cX6_doorsOf 51 = .ok (.sipush 404, 3) := dk_17 1 148 (dk_at dksX6_doorsOf_2 7 rfl rfl)
theorem dX6_doorsOf_54 : decode cX6_doorsOf 54 = .ok (.iload_n 1, 1) := dk_27 (dk_at dksX6_doorsOf_2 10 rfl rfl)
theorem dX6_doorsOf_55 : decode cX6_doorsOf 55 = .ok (.iadd, 1) := dk_96 (dk_at dksX6_doorsOf_2 11 rfl rfl)
theorem dX6_doorsOf_56 : decode cX6_doorsOf 56 = .ok (.iaload, 1) := dk_46 (dk_at dksX6_doorsOf_2 12 rfl rfl)
theorem dX6_doorsOf_57 : decode cX6_doorsOf 57 = .ok (.if_icmp .ne 10, 3) := dk_160 0 10 (dk_at dksX6_doorsOf_2 13 rfl rfl)
theorem dX6_doorsOf_60 : decode cX6_doorsOf 60 = .ok (.lload_n 2, 1) := dk_32 (dk_at dksX6_doorsOf_2 16 rfl rfl)
theorem dX6_doorsOf_61 : decode cX6_doorsOf 61 = .ok (.lconst 1, 1) := dk_10 (dk_at dksX6_doorsOf_2 17 rfl rfl)
theorem dX6_doorsOf_62 : decode cX6_doorsOf 62 = .ok (.iload 4, 2) := dk_21 4 (dk_at dksX6_doorsOf_2 18 rfl rfl)
theorem dX6_doorsOf_64 : decode cX6_doorsOf 64 = .ok (.lshl, 1) := dk_121 (dk_at dksX6_doorsOf_2 20 rfl rfl)
theorem dX6_doorsOf_65 : decode cX6_doorsOf 65 = .ok (.lor, 1) := dk_129 (dk_at dksX6_doorsOf_2 21 rfl rfl)
theorem dX6_doorsOf_66 : decode cX6_doorsOf 66 = .ok (.lstore_n 2, 1) := dk_65 (dk_at dksX6_doorsOf_2 22 rfl rfl)
theorem dX6_doorsOf_67 : decode cX6_doorsOf 67 = .ok (.iinc 4 1, 3) := dk_132 4 1 (dk_at dksX6_doorsOf_3 0 rfl rfl)
theorem dX6_doorsOf_70 : decode cX6_doorsOf 70 = .ok (.goto (-65), 3) := dk_167 255 191 (dk_at dksX6_doorsOf_3 3 rfl rfl)
theorem dX6_doorsOf_73 : decode cX6_doorsOf 73 = .ok (.lload_n 2, 1) := dk_32 (dk_at dksX6_doorsOf_3 6 rfl rfl)
theorem dX6_doorsOf_74 : decode cX6_doorsOf 74 = .ok (.lreturn, 1) := dk_173 (dk_at dksX6_doorsOf_3 7 rfl rfl)
def dkwX6_isTried_6 : List UInt8 := [159, 0, 5, 3, 172, 132, 3, 1, 167, 255, 113, 3, 172]
abbrev dktX6_isTried_6 : List UInt8 := dkwX6_isTried_6 ++ []
def dkwX6_isTried_5 : List UInt8 := [4, 96, 46, 159, 0, 5, 3, 172, 42, 21, 4, 182, 1, 93, 42, 180, 0, 77, 29, 4, 96, 46]
abbrev dktX6_isTried_5 : List UInt8 := dkwX6_isTried_5 ++ dktX6_isTried_6
def dkwX6_isTried_4 : List UInt8 := [5, 182, 0, 108, 6, 160, 0, 27, 42, 180, 0, 59, 42, 180, 1, 33, 4, 100, 46, 42, 180, 0, 77, 29]
abbrev dktX6_isTried_4 : List UInt8 := dkwX6_isTried_4 ++ dktX6_isTried_5
def dkwX6_isTried_3 : List UInt8 := [46, 160, 0, 7, 4, 167, 0, 4, 3, 172, 42, 21, 4, 182, 0, 120, 16, 7, 160, 0, 38, 42, 21, 4]
abbrev dktX6_isTried_3 : List UInt8 := dkwX6_isTried_3 ++ dktX6_isTried_4
def dkwX6_isTried_2 : List UInt8 := [160, 0, 34, 42, 42, 21, 4, 16, 6, 182, 0, 108, 182, 1, 23, 42, 180, 0, 13, 17, 1, 148, 28, 96]
abbrev dktX6_isTried_2 : List UInt8 := dkwX6_isTried_2 ++ dktX6_isTried_3
def dkwX6_isTried_1 : List UInt8 := [29, 28, 182, 1, 136, 42, 21, 4, 182, 1, 87, 153, 0, 5, 3, 172, 29, 42, 180, 1, 126, 4, 100]
abbrev dktX6_isTried_1 : List UInt8 := dkwX6_isTried_1 ++ dktX6_isTried_2
def dkwX6_isTried_0 : List UInt8 := [42, 182, 1, 78, 3, 62, 29, 42, 180, 1, 126, 162, 0, 141, 42, 180, 0, 77, 29, 46, 54, 4, 42, 27]
abbrev dktX6_isTried_0 : List UInt8 := dkwX6_isTried_0 ++ dktX6_isTried_1
theorem dksX6_isTried_0 : cX6_isTried.data.toList.drop 0 = dktX6_isTried_0 := by decide +kernel
theorem dksX6_isTried_1 : cX6_isTried.data.toList.drop 24 = dktX6_isTried_1 := dk_seg dksX6_isTried_0 24 rfl rfl
theorem dksX6_isTried_2 : cX6_isTried.data.toList.drop 47 = dktX6_isTried_2 := dk_seg dksX6_isTried_1 23 rfl rfl
theorem dksX6_isTried_3 : cX6_isTried.data.toList.drop 71 = dktX6_isTried_3 := dk_seg dksX6_isTried_2 24 rfl rfl
theorem dksX6_isTried_4 : cX6_isTried.data.toList.drop 95 = dktX6_isTried_4 := dk_seg dksX6_isTried_3 24 rfl rfl
theorem dksX6_isTried_5 : cX6_isTried.data.toList.drop 119 = dktX6_isTried_5 := dk_seg dksX6_isTried_4 24 rfl rfl
theorem dksX6_isTried_6 : cX6_isTried.data.toList.drop 141 = dktX6_isTried_6 := dk_seg dksX6_isTried_5 22 rfl rfl
theorem dX6_isTried_0 : decode cX6_isTried 0 = .ok (.aload_n 0, 1) := dk_42 (dk_at dksX6_isTried_0 0 rfl rfl)
theorem dX6_isTried_1 : decode cX6_isTried 1 = .ok (.invokevirtual 334, 3) := dk_182 1 78 (dk_at dksX6_isTried_0 1 rfl rfl)
theorem dX6_isTried_4 : decode cX6_isTried 4 = .ok (.iconst 0, 1) := dk_3 (dk_at dksX6_isTried_0 4 rfl rfl)
theorem dX6_isTried_5 : decode cX6_isTried 5 = .ok (.istore_n 3, 1) := dk_62 (dk_at dksX6_isTried_0 5 rfl rfl)
theorem dX6_isTried_6 : decode cX6_isTried 6 = .ok (.iload_n 3, 1) := dk_29 (dk_at dksX6_isTried_0 6 rfl rfl)
theorem dX6_isTried_7 : decode cX6_isTried 7 = .ok (.aload_n 0, 1) := dk_42 (dk_at dksX6_isTried_0 7 rfl rfl)
theorem dX6_isTried_8 : decode cX6_isTried 8 = .ok (.getfield 382, 3) := dk_180 1 126 (dk_at dksX6_isTried_0 8 rfl rfl)
theorem dX6_isTried_11 : decode cX6_isTried 11 = .ok (.if_icmp .ge 141, 3) := dk_162 0 141 (dk_at dksX6_isTried_0 11 rfl rfl)
theorem dX6_isTried_14 : decode cX6_isTried 14 = .ok (.aload_n 0, 1) := dk_42 (dk_at dksX6_isTried_0 14 rfl rfl)
theorem dX6_isTried_15 : decode cX6_isTried 15 = .ok (.getfield 77, 3) := dk_180 0 77 (dk_at dksX6_isTried_0 15 rfl rfl)
theorem dX6_isTried_18 : decode cX6_isTried 18 = .ok (.iload_n 3, 1) := dk_29 (dk_at dksX6_isTried_0 18 rfl rfl)
theorem dX6_isTried_19 : decode cX6_isTried 19 = .ok (.iaload, 1) := dk_46 (dk_at dksX6_isTried_0 19 rfl rfl)
theorem dX6_isTried_20 : decode cX6_isTried 20 = .ok (.istore 4, 2) := dk_54 4 (dk_at dksX6_isTried_0 20 rfl rfl)
theorem dX6_isTried_22 : decode cX6_isTried 22 = .ok (.aload_n 0, 1) := dk_42 (dk_at dksX6_isTried_0 22 rfl rfl)
theorem dX6_isTried_23 : decode cX6_isTried 23 = .ok (.iload_n 1, 1) := dk_27 (dk_at dksX6_isTried_0 23 rfl rfl)
theorem dX6_isTried_24 : decode cX6_isTried 24 = .ok (.iload_n 3, 1) := dk_29 (dk_at dksX6_isTried_1 0 rfl rfl)
theorem dX6_isTried_25 : decode cX6_isTried 25 = .ok (.iload_n 2, 1) := dk_28 (dk_at dksX6_isTried_1 1 rfl rfl)
theorem dX6_isTried_26 : decode cX6_isTried 26 = .ok (.invokevirtual 392, 3) := dk_182 1 136 (dk_at dksX6_isTried_1 2 rfl rfl)
theorem dX6_isTried_29 : decode cX6_isTried 29 = .ok (.aload_n 0, 1) := dk_42 (dk_at dksX6_isTried_1 5 rfl rfl)
theorem dX6_isTried_30 : decode cX6_isTried 30 = .ok (.iload 4, 2) := dk_21 4 (dk_at dksX6_isTried_1 6 rfl rfl)
theorem dX6_isTried_32 : decode cX6_isTried 32 = .ok (.invokevirtual 343, 3) := dk_182 1 87 (dk_at dksX6_isTried_1 8 rfl rfl)
theorem dX6_isTried_35 : decode cX6_isTried 35 = .ok (.ifCond .eq 5, 3) := dk_153 0 5 (dk_at dksX6_isTried_1 11 rfl rfl)
theorem dX6_isTried_38 : decode cX6_isTried 38 = .ok (.iconst 0, 1) := dk_3 (dk_at dksX6_isTried_1 14 rfl rfl)
theorem dX6_isTried_39 : decode cX6_isTried 39 = .ok (.ireturn, 1) := dk_172 (dk_at dksX6_isTried_1 15 rfl rfl)
theorem dX6_isTried_40 : decode cX6_isTried 40 = .ok (.iload_n 3, 1) := dk_29 (dk_at dksX6_isTried_1 16 rfl rfl)
theorem dX6_isTried_41 : decode cX6_isTried 41 = .ok (.aload_n 0, 1) := dk_42 (dk_at dksX6_isTried_1 17 rfl rfl)
theorem dX6_isTried_42 : decode cX6_isTried 42 = .ok (.getfield 382, 3) := dk_180 1 126 (dk_at dksX6_isTried_1 18 rfl rfl)
theorem dX6_isTried_45 : decode cX6_isTried 45 = .ok (.iconst 1, 1) := dk_4 (dk_at dksX6_isTried_1 21 rfl rfl)
theorem dX6_isTried_46 : decode cX6_isTried 46 = .ok (.isub, 1) := dk_100 (dk_at dksX6_isTried_1 22 rfl rfl)
theorem dX6_isTried_47 : decode cX6_isTried 47 = .ok (.if_icmp .ne 34, 3) := dk_160 0 34 (dk_at dksX6_isTried_2 0 rfl rfl)
theorem dX6_isTried_50 : decode cX6_isTried 50 = .ok (.aload_n 0, 1) := dk_42 (dk_at dksX6_isTried_2 3 rfl rfl)
theorem dX6_isTried_51 : decode cX6_isTried 51 = .ok (.aload_n 0, 1) := dk_42 (dk_at dksX6_isTried_2 4 rfl rfl)
theorem dX6_isTried_52 : decode cX6_isTried 52 = .ok (.iload 4, 2) := dk_21 4 (dk_at dksX6_isTried_2 5 rfl rfl)
theorem dX6_isTried_54 : decode cX6_isTried 54 = .ok (.bipush 6, 2) := dk_16 6 (dk_at dksX6_isTried_2 7 rfl rfl)
theorem dX6_isTried_56 : decode cX6_isTried 56 = .ok (.invokevirtual 108, 3) := dk_182 0 108 (dk_at dksX6_isTried_2 9 rfl rfl)
theorem dX6_isTried_59 : decode cX6_isTried 59 = .ok (.invokevirtual 279, 3) := dk_182 1 23 (dk_at dksX6_isTried_2 12 rfl rfl)
theorem dX6_isTried_62 : decode cX6_isTried 62 = .ok (.aload_n 0, 1) := dk_42 (dk_at dksX6_isTried_2 15 rfl rfl)
theorem dX6_isTried_63 : decode cX6_isTried 63 = .ok (.getfield 13, 3) := dk_180 0 13 (dk_at dksX6_isTried_2 16 rfl rfl)
theorem dX6_isTried_66 : decode cX6_isTried 66 = .ok (.sipush 404, 3) := dk_17 1 148 (dk_at dksX6_isTried_2 19 rfl rfl)
theorem dX6_isTried_69 : decode cX6_isTried 69 = .ok (.iload_n 2, 1) := dk_28 (dk_at dksX6_isTried_2 22 rfl rfl)
theorem dX6_isTried_70 : decode cX6_isTried 70 = .ok (.iadd, 1) := dk_96 (dk_at dksX6_isTried_2 23 rfl rfl)
theorem dX6_isTried_71 : decode cX6_isTried 71 = .ok (.iaload, 1) := dk_46 (dk_at dksX6_isTried_3 0 rfl rfl)
theorem dX6_isTried_72 : decode cX6_isTried 72 = .ok (.if_icmp .ne 7, 3) := dk_160 0 7 (dk_at dksX6_isTried_3 1 rfl rfl)
theorem dX6_isTried_75 : decode cX6_isTried 75 = .ok (.iconst 1, 1) := dk_4 (dk_at dksX6_isTried_3 4 rfl rfl)
theorem dX6_isTried_76 : decode cX6_isTried 76 = .ok (.goto 4, 3) := dk_167 0 4 (dk_at dksX6_isTried_3 5 rfl rfl)
theorem dX6_isTried_79 : decode cX6_isTried 79 = .ok (.iconst 0, 1) := dk_3 (dk_at dksX6_isTried_3 8 rfl rfl)
theorem dX6_isTried_80 : decode cX6_isTried 80 = .ok (.ireturn, 1) := dk_172 (dk_at dksX6_isTried_3 9 rfl rfl)
theorem dX6_isTried_81 : decode cX6_isTried 81 = .ok (.aload_n 0, 1) := dk_42 (dk_at dksX6_isTried_3 10 rfl rfl)
theorem dX6_isTried_82 : decode cX6_isTried 82 = .ok (.iload 4, 2) := dk_21 4 (dk_at dksX6_isTried_3 11 rfl rfl)
theorem dX6_isTried_84 : decode cX6_isTried 84 = .ok (.invokevirtual 120, 3) := dk_182 0 120 (dk_at dksX6_isTried_3 13 rfl rfl)
theorem dX6_isTried_87 : decode cX6_isTried 87 = .ok (.bipush 7, 2) := dk_16 7 (dk_at dksX6_isTried_3 16 rfl rfl)
theorem dX6_isTried_89 : decode cX6_isTried 89 = .ok (.if_icmp .ne 38, 3) := dk_160 0 38 (dk_at dksX6_isTried_3 18 rfl rfl)
theorem dX6_isTried_92 : decode cX6_isTried 92 = .ok (.aload_n 0, 1) := dk_42 (dk_at dksX6_isTried_3 21 rfl rfl)
theorem dX6_isTried_93 : decode cX6_isTried 93 = .ok (.iload 4, 2) := dk_21 4 (dk_at dksX6_isTried_3 22 rfl rfl)
theorem dX6_isTried_95 : decode cX6_isTried 95 = .ok (.iconst 2, 1) := dk_5 (dk_at dksX6_isTried_4 0 rfl rfl)
theorem dX6_isTried_96 : decode cX6_isTried 96 = .ok (.invokevirtual 108, 3) := dk_182 0 108 (dk_at dksX6_isTried_4 1 rfl rfl)
theorem dX6_isTried_99 : decode cX6_isTried 99 = .ok (.iconst 3, 1) := dk_6 (dk_at dksX6_isTried_4 4 rfl rfl)
theorem dX6_isTried_100 : decode cX6_isTried 100 = .ok (.if_icmp .ne 27, 3) := dk_160 0 27 (dk_at dksX6_isTried_4 5 rfl rfl)
theorem dX6_isTried_103 : decode cX6_isTried 103 = .ok (.aload_n 0, 1) := dk_42 (dk_at dksX6_isTried_4 8 rfl rfl)
theorem dX6_isTried_104 : decode cX6_isTried 104 = .ok (.getfield 59, 3) := dk_180 0 59 (dk_at dksX6_isTried_4 9 rfl rfl)
theorem dX6_isTried_107 : decode cX6_isTried 107 = .ok (.aload_n 0, 1) := dk_42 (dk_at dksX6_isTried_4 12 rfl rfl)
theorem dX6_isTried_108 : decode cX6_isTried 108 = .ok (.getfield 289, 3) := dk_180 1 33 (dk_at dksX6_isTried_4 13 rfl rfl)
theorem dX6_isTried_111 : decode cX6_isTried 111 = .ok (.iconst 1, 1) := dk_4 (dk_at dksX6_isTried_4 16 rfl rfl)
theorem dX6_isTried_112 : decode cX6_isTried 112 = .ok (.isub, 1) := dk_100 (dk_at dksX6_isTried_4 17 rfl rfl)
theorem dX6_isTried_113 : decode cX6_isTried 113 = .ok (.iaload, 1) := dk_46 (dk_at dksX6_isTried_4 18 rfl rfl)
theorem dX6_isTried_114 : decode cX6_isTried 114 = .ok (.aload_n 0, 1) := dk_42 (dk_at dksX6_isTried_4 19 rfl rfl)
theorem dX6_isTried_115 : decode cX6_isTried 115 = .ok (.getfield 77, 3) := dk_180 0 77 (dk_at dksX6_isTried_4 20 rfl rfl)
theorem dX6_isTried_118 : decode cX6_isTried 118 = .ok (.iload_n 3, 1) := dk_29 (dk_at dksX6_isTried_4 23 rfl rfl)
theorem dX6_isTried_119 : decode cX6_isTried 119 = .ok (.iconst 1, 1) := dk_4 (dk_at dksX6_isTried_5 0 rfl rfl)
theorem dX6_isTried_120 : decode cX6_isTried 120 = .ok (.iadd, 1) := dk_96 (dk_at dksX6_isTried_5 1 rfl rfl)
theorem dX6_isTried_121 : decode cX6_isTried 121 = .ok (.iaload, 1) := dk_46 (dk_at dksX6_isTried_5 2 rfl rfl)
theorem dX6_isTried_122 : decode cX6_isTried 122 = .ok (.if_icmp .eq 5, 3) := dk_159 0 5 (dk_at dksX6_isTried_5 3 rfl rfl)
theorem dX6_isTried_125 : decode cX6_isTried 125 = .ok (.iconst 0, 1) := dk_3 (dk_at dksX6_isTried_5 6 rfl rfl)
theorem dX6_isTried_126 : decode cX6_isTried 126 = .ok (.ireturn, 1) := dk_172 (dk_at dksX6_isTried_5 7 rfl rfl)
theorem dX6_isTried_127 : decode cX6_isTried 127 = .ok (.aload_n 0, 1) := dk_42 (dk_at dksX6_isTried_5 8 rfl rfl)
theorem dX6_isTried_128 : decode cX6_isTried 128 = .ok (.iload 4, 2) := dk_21 4 (dk_at dksX6_isTried_5 9 rfl rfl)
theorem dX6_isTried_130 : decode cX6_isTried 130 = .ok (.invokevirtual 349, 3) := dk_182 1 93 (dk_at dksX6_isTried_5 11 rfl rfl)
theorem dX6_isTried_133 : decode cX6_isTried 133 = .ok (.aload_n 0, 1) := dk_42 (dk_at dksX6_isTried_5 14 rfl rfl)
theorem dX6_isTried_134 : decode cX6_isTried 134 = .ok (.getfield 77, 3) := dk_180 0 77 (dk_at dksX6_isTried_5 15 rfl rfl)
theorem dX6_isTried_137 : decode cX6_isTried 137 = .ok (.iload_n 3, 1) := dk_29 (dk_at dksX6_isTried_5 18 rfl rfl)
theorem dX6_isTried_138 : decode cX6_isTried 138 = .ok (.iconst 1, 1) := dk_4 (dk_at dksX6_isTried_5 19 rfl rfl)
theorem dX6_isTried_139 : decode cX6_isTried 139 = .ok (.iadd, 1) := dk_96 (dk_at dksX6_isTried_5 20 rfl rfl)
theorem dX6_isTried_140 : decode cX6_isTried 140 = .ok (.iaload, 1) := dk_46 (dk_at dksX6_isTried_5 21 rfl rfl)
theorem dX6_isTried_141 : decode cX6_isTried 141 = .ok (.if_icmp .eq 5, 3) := dk_159 0 5 (dk_at dksX6_isTried_6 0 rfl rfl)
theorem dX6_isTried_144 : decode cX6_isTried 144 = .ok (.iconst 0, 1) := dk_3 (dk_at dksX6_isTried_6 3 rfl rfl)
theorem dX6_isTried_145 : decode cX6_isTried 145 = .ok (.ireturn, 1) := dk_172 (dk_at dksX6_isTried_6 4 rfl rfl)
theorem dX6_isTried_146 : decode cX6_isTried 146 = .ok (.iinc 3 1, 3) := dk_132 3 1 (dk_at dksX6_isTried_6 5 rfl rfl)
theorem dX6_isTried_149 : decode cX6_isTried 149 = .ok (.goto (-143), 3) := dk_167 255 113 (dk_at dksX6_isTried_6 8 rfl rfl)
theorem dX6_isTried_152 : decode cX6_isTried 152 = .ok (.iconst 0, 1) := dk_3 (dk_at dksX6_isTried_6 11 rfl rfl)
theorem dX6_isTried_153 : decode cX6_isTried 153 = .ok (.ireturn, 1) := dk_172 (dk_at dksX6_isTried_6 12 rfl rfl)
def dkwX6_bendsAt_8 : List UInt8 := [158, 0, 16, 42, 180, 0, 53, 42, 180, 1, 33, 4, 100, 21, 6, 79, 177]
abbrev dktX6_bendsAt_8 : List UInt8 := dkwX6_bendsAt_8 ++ []
def dkwX6_bendsAt_7 : List UInt8 := [21, 6, 79, 21, 5, 16, 7, 160, 0, 31, 42, 27, 182, 1, 105, 153, 0, 23, 42, 180, 1, 33]
abbrev dktX6_bendsAt_7 : List UInt8 := dkwX6_bendsAt_7 ++ dktX6_bendsAt_8
def dkwX6_bendsAt_6 : List UInt8 := [21, 4, 8, 182, 0, 108, 182, 1, 102, 153, 0, 17, 42, 180, 0, 47, 42, 21, 4, 8, 182, 0, 108]
abbrev dktX6_bendsAt_6 : List UInt8 := dkwX6_bendsAt_6 ++ dktX6_bendsAt_7
def dkwX6_bendsAt_5 : List UInt8 := [167, 0, 4, 3, 182, 1, 132, 21, 5, 7, 159, 0, 10, 21, 5, 16, 6, 160, 0, 32, 42, 27, 42]
abbrev dktX6_bendsAt_5 : List UInt8 := dkwX6_bendsAt_5 ++ dktX6_bendsAt_6
def dkwX6_bendsAt_4 : List UInt8 := [4, 96, 159, 0, 27, 42, 27, 21, 4, 21, 6, 42, 21, 4, 7, 182, 0, 108, 160, 0, 7, 4]
abbrev dktX6_bendsAt_4 : List UInt8 := dkwX6_bendsAt_4 ++ dktX6_bendsAt_5
def dkwX6_bendsAt_3 : List UInt8 := [180, 0, 77, 28, 4, 96, 46, 54, 6, 21, 5, 6, 160, 0, 41, 42, 21, 4, 7, 182, 0, 108, 21, 4]
abbrev dktX6_bendsAt_3 : List UInt8 := dkwX6_bendsAt_3 ++ dktX6_bendsAt_4
def dkwX6_bendsAt_2 : List UInt8 := [21, 4, 16, 6, 182, 0, 108, 17, 3, 232, 100, 42, 180, 0, 13, 17, 1, 148, 29, 96, 46, 79, 177, 42]
abbrev dktX6_bendsAt_2 : List UInt8 := dkwX6_bendsAt_2 ++ dktX6_bendsAt_3
def dkwX6_bendsAt_1 : List UInt8 := [160, 0, 47, 42, 27, 42, 21, 4, 16, 6, 182, 0, 108, 182, 1, 129, 153, 0, 30, 42, 180, 0, 47, 42]
abbrev dktX6_bendsAt_1 : List UInt8 := dkwX6_bendsAt_1 ++ dktX6_bendsAt_2
def dkwX6_bendsAt_0 : List UInt8 := [42, 180, 0, 77, 28, 46, 54, 4, 42, 21, 4, 182, 0, 120, 54, 5, 28, 42, 180, 1, 126, 4, 100]
abbrev dktX6_bendsAt_0 : List UInt8 := dkwX6_bendsAt_0 ++ dktX6_bendsAt_1
theorem dksX6_bendsAt_0 : cX6_bendsAt.data.toList.drop 0 = dktX6_bendsAt_0 := by decide +kernel
theorem dksX6_bendsAt_1 : cX6_bendsAt.data.toList.drop 23 = dktX6_bendsAt_1 := dk_seg dksX6_bendsAt_0 23 rfl rfl
theorem dksX6_bendsAt_2 : cX6_bendsAt.data.toList.drop 47 = dktX6_bendsAt_2 := dk_seg dksX6_bendsAt_1 24 rfl rfl
theorem dksX6_bendsAt_3 : cX6_bendsAt.data.toList.drop 71 = dktX6_bendsAt_3 := dk_seg dksX6_bendsAt_2 24 rfl rfl
theorem dksX6_bendsAt_4 : cX6_bendsAt.data.toList.drop 95 = dktX6_bendsAt_4 := dk_seg dksX6_bendsAt_3 24 rfl rfl
theorem dksX6_bendsAt_5 : cX6_bendsAt.data.toList.drop 117 = dktX6_bendsAt_5 := dk_seg dksX6_bendsAt_4 22 rfl rfl
theorem dksX6_bendsAt_6 : cX6_bendsAt.data.toList.drop 140 = dktX6_bendsAt_6 := dk_seg dksX6_bendsAt_5 23 rfl rfl
theorem dksX6_bendsAt_7 : cX6_bendsAt.data.toList.drop 163 = dktX6_bendsAt_7 := dk_seg dksX6_bendsAt_6 23 rfl rfl
theorem dksX6_bendsAt_8 : cX6_bendsAt.data.toList.drop 185 = dktX6_bendsAt_8 := dk_seg dksX6_bendsAt_7 22 rfl rfl
theorem dX6_bendsAt_0 : decode cX6_bendsAt 0 = .ok (.aload_n 0, 1) := dk_42 (dk_at dksX6_bendsAt_0 0 rfl rfl)
theorem dX6_bendsAt_1 : decode cX6_bendsAt 1 = .ok (.getfield 77, 3) := dk_180 0 77 (dk_at dksX6_bendsAt_0 1 rfl rfl)
theorem dX6_bendsAt_4 : decode cX6_bendsAt 4 = .ok (.iload_n 2, 1) := dk_28 (dk_at dksX6_bendsAt_0 4 rfl rfl)
theorem dX6_bendsAt_5 : decode cX6_bendsAt 5 = .ok (.iaload, 1) := dk_46 (dk_at dksX6_bendsAt_0 5 rfl rfl)
theorem dX6_bendsAt_6 : decode cX6_bendsAt 6 = .ok (.istore 4, 2) := dk_54 4 (dk_at dksX6_bendsAt_0 6 rfl rfl)
theorem dX6_bendsAt_8 : decode cX6_bendsAt 8 = .ok (.aload_n 0, 1) := dk_42 (dk_at dksX6_bendsAt_0 8 rfl rfl)
theorem dX6_bendsAt_9 : decode cX6_bendsAt 9 = .ok (.iload 4, 2) := dk_21 4 (dk_at dksX6_bendsAt_0 9 rfl rfl)
theorem dX6_bendsAt_11 : decode cX6_bendsAt 11 = .ok (.invokevirtual 120, 3) := dk_182 0 120 (dk_at dksX6_bendsAt_0 11 rfl rfl)
theorem dX6_bendsAt_14 : decode cX6_bendsAt 14 = .ok (.istore 5, 2) := dk_54 5 (dk_at dksX6_bendsAt_0 14 rfl rfl)
theorem dX6_bendsAt_16 : decode cX6_bendsAt 16 = .ok (.iload_n 2, 1) := dk_28 (dk_at dksX6_bendsAt_0 16 rfl rfl)
theorem dX6_bendsAt_17 : decode cX6_bendsAt 17 = .ok (.aload_n 0, 1) := dk_42 (dk_at dksX6_bendsAt_0 17 rfl rfl)
theorem dX6_bendsAt_18 : decode cX6_bendsAt 18 = .ok (.getfield 382, 3) := dk_180 1 126 (dk_at dksX6_bendsAt_0 18 rfl rfl)
theorem dX6_bendsAt_21 : decode cX6_bendsAt 21 = .ok (.iconst 1, 1) := dk_4 (dk_at dksX6_bendsAt_0 21 rfl rfl)
theorem dX6_bendsAt_22 : decode cX6_bendsAt 22 = .ok (.isub, 1) := dk_100 (dk_at dksX6_bendsAt_0 22 rfl rfl)
theorem dX6_bendsAt_23 : decode cX6_bendsAt 23 = .ok (.if_icmp .ne 47, 3) := dk_160 0 47 (dk_at dksX6_bendsAt_1 0 rfl rfl)
theorem dX6_bendsAt_26 : decode cX6_bendsAt 26 = .ok (.aload_n 0, 1) := dk_42 (dk_at dksX6_bendsAt_1 3 rfl rfl)
theorem dX6_bendsAt_27 : decode cX6_bendsAt 27 = .ok (.iload_n 1, 1) := dk_27 (dk_at dksX6_bendsAt_1 4 rfl rfl)
theorem dX6_bendsAt_28 : decode cX6_bendsAt 28 = .ok (.aload_n 0, 1) := dk_42 (dk_at dksX6_bendsAt_1 5 rfl rfl)
theorem dX6_bendsAt_29 : decode cX6_bendsAt 29 = .ok (.iload 4, 2) := dk_21 4 (dk_at dksX6_bendsAt_1 6 rfl rfl)
theorem dX6_bendsAt_31 : decode cX6_bendsAt 31 = .ok (.bipush 6, 2) := dk_16 6 (dk_at dksX6_bendsAt_1 8 rfl rfl)
theorem dX6_bendsAt_33 : decode cX6_bendsAt 33 = .ok (.invokevirtual 108, 3) := dk_182 0 108 (dk_at dksX6_bendsAt_1 10 rfl rfl)
theorem dX6_bendsAt_36 : decode cX6_bendsAt 36 = .ok (.invokevirtual 385, 3) := dk_182 1 129 (dk_at dksX6_bendsAt_1 13 rfl rfl)
theorem dX6_bendsAt_39 : decode cX6_bendsAt 39 = .ok (.ifCond .eq 30, 3) := dk_153 0 30 (dk_at dksX6_bendsAt_1 16 rfl rfl)
theorem dX6_bendsAt_42 : decode cX6_bendsAt 42 = .ok (.aload_n 0, 1) := dk_42 (dk_at dksX6_bendsAt_1 19 rfl rfl)
theorem dX6_bendsAt_43 : decode cX6_bendsAt 43 = .ok (.getfield 47, 3) := dk_180 0 47 (dk_at dksX6_bendsAt_1 20 rfl rfl)
theorem dX6_bendsAt_46 : decode cX6_bendsAt 46 = .ok (.aload_n 0, 1) := dk_42 (dk_at dksX6_bendsAt_1 23 rfl rfl)
theorem dX6_bendsAt_47 : decode cX6_bendsAt 47 = .ok (.iload 4, 2) := dk_21 4 (dk_at dksX6_bendsAt_2 0 rfl rfl)
theorem dX6_bendsAt_49 : decode cX6_bendsAt 49 = .ok (.bipush 6, 2) := dk_16 6 (dk_at dksX6_bendsAt_2 2 rfl rfl)
theorem dX6_bendsAt_51 : decode cX6_bendsAt 51 = .ok (.invokevirtual 108, 3) := dk_182 0 108 (dk_at dksX6_bendsAt_2 4 rfl rfl)
theorem dX6_bendsAt_54 : decode cX6_bendsAt 54 = .ok (.sipush 1000, 3) := dk_17 3 232 (dk_at dksX6_bendsAt_2 7 rfl rfl)
theorem dX6_bendsAt_57 : decode cX6_bendsAt 57 = .ok (.isub, 1) := dk_100 (dk_at dksX6_bendsAt_2 10 rfl rfl)
theorem dX6_bendsAt_58 : decode cX6_bendsAt 58 = .ok (.aload_n 0, 1) := dk_42 (dk_at dksX6_bendsAt_2 11 rfl rfl)
theorem dX6_bendsAt_59 : decode cX6_bendsAt 59 = .ok (.getfield 13, 3) := dk_180 0 13 (dk_at dksX6_bendsAt_2 12 rfl rfl)
theorem dX6_bendsAt_62 : decode cX6_bendsAt 62 = .ok (.sipush 404, 3) := dk_17 1 148 (dk_at dksX6_bendsAt_2 15 rfl rfl)
theorem dX6_bendsAt_65 : decode cX6_bendsAt 65 = .ok (.iload_n 3, 1) := dk_29 (dk_at dksX6_bendsAt_2 18 rfl rfl)
theorem dX6_bendsAt_66 : decode cX6_bendsAt 66 = .ok (.iadd, 1) := dk_96 (dk_at dksX6_bendsAt_2 19 rfl rfl)
theorem dX6_bendsAt_67 : decode cX6_bendsAt 67 = .ok (.iaload, 1) := dk_46 (dk_at dksX6_bendsAt_2 20 rfl rfl)
theorem dX6_bendsAt_68 : decode cX6_bendsAt 68 = .ok (.iastore, 1) := dk_79 (dk_at dksX6_bendsAt_2 21 rfl rfl)
theorem dX6_bendsAt_69 : decode cX6_bendsAt 69 = .ok (.return_, 1) := dk_177 (dk_at dksX6_bendsAt_2 22 rfl rfl)
theorem dX6_bendsAt_70 : decode cX6_bendsAt 70 = .ok (.aload_n 0, 1) := dk_42 (dk_at dksX6_bendsAt_2 23 rfl rfl)
theorem dX6_bendsAt_71 : decode cX6_bendsAt 71 = .ok (.getfield 77, 3) := dk_180 0 77 (dk_at dksX6_bendsAt_3 0 rfl rfl)
theorem dX6_bendsAt_74 : decode cX6_bendsAt 74 = .ok (.iload_n 2, 1) := dk_28 (dk_at dksX6_bendsAt_3 3 rfl rfl)
theorem dX6_bendsAt_75 : decode cX6_bendsAt 75 = .ok (.iconst 1, 1) := dk_4 (dk_at dksX6_bendsAt_3 4 rfl rfl)
theorem dX6_bendsAt_76 : decode cX6_bendsAt 76 = .ok (.iadd, 1) := dk_96 (dk_at dksX6_bendsAt_3 5 rfl rfl)
theorem dX6_bendsAt_77 : decode cX6_bendsAt 77 = .ok (.iaload, 1) := dk_46 (dk_at dksX6_bendsAt_3 6 rfl rfl)
theorem dX6_bendsAt_78 : decode cX6_bendsAt 78 = .ok (.istore 6, 2) := dk_54 6 (dk_at dksX6_bendsAt_3 7 rfl rfl)
theorem dX6_bendsAt_80 : decode cX6_bendsAt 80 = .ok (.iload 5, 2) := dk_21 5 (dk_at dksX6_bendsAt_3 9 rfl rfl)
theorem dX6_bendsAt_82 : decode cX6_bendsAt 82 = .ok (.iconst 3, 1) := dk_6 (dk_at dksX6_bendsAt_3 11 rfl rfl)
theorem dX6_bendsAt_83 : decode cX6_bendsAt 83 = .ok (.if_icmp .ne 41, 3) := dk_160 0 41 (dk_at dksX6_bendsAt_3 12 rfl rfl)
theorem dX6_bendsAt_86 : decode cX6_bendsAt 86 = .ok (.aload_n 0, 1) := dk_42 (dk_at dksX6_bendsAt_3 15 rfl rfl)
theorem dX6_bendsAt_87 : decode cX6_bendsAt 87 = .ok (.iload 4, 2) := dk_21 4 (dk_at dksX6_bendsAt_3 16 rfl rfl)
theorem dX6_bendsAt_89 : decode cX6_bendsAt 89 = .ok (.iconst 4, 1) := dk_7 (dk_at dksX6_bendsAt_3 18 rfl rfl)
theorem dX6_bendsAt_90 : decode cX6_bendsAt 90 = .ok (.invokevirtual 108, 3) := dk_182 0 108 (dk_at dksX6_bendsAt_3 19 rfl rfl)
theorem dX6_bendsAt_93 : decode cX6_bendsAt 93 = .ok (.iload 4, 2) := dk_21 4 (dk_at dksX6_bendsAt_3 22 rfl rfl)
theorem dX6_bendsAt_95 : decode cX6_bendsAt 95 = .ok (.iconst 1, 1) := dk_4 (dk_at dksX6_bendsAt_4 0 rfl rfl)
theorem dX6_bendsAt_96 : decode cX6_bendsAt 96 = .ok (.iadd, 1) := dk_96 (dk_at dksX6_bendsAt_4 1 rfl rfl)
theorem dX6_bendsAt_97 : decode cX6_bendsAt 97 = .ok (.if_icmp .eq 27, 3) := dk_159 0 27 (dk_at dksX6_bendsAt_4 2 rfl rfl)
theorem dX6_bendsAt_100 : decode cX6_bendsAt 100 = .ok (.aload_n 0, 1) := dk_42 (dk_at dksX6_bendsAt_4 5 rfl rfl)
theorem dX6_bendsAt_101 : decode cX6_bendsAt 101 = .ok (.iload_n 1, 1) := dk_27 (dk_at dksX6_bendsAt_4 6 rfl rfl)
theorem dX6_bendsAt_102 : decode cX6_bendsAt 102 = .ok (.iload 4, 2) := dk_21 4 (dk_at dksX6_bendsAt_4 7 rfl rfl)
theorem dX6_bendsAt_104 : decode cX6_bendsAt 104 = .ok (.iload 6, 2) := dk_21 6 (dk_at dksX6_bendsAt_4 9 rfl rfl)
theorem dX6_bendsAt_106 : decode cX6_bendsAt 106 = .ok (.aload_n 0, 1) := dk_42 (dk_at dksX6_bendsAt_4 11 rfl rfl)
theorem dX6_bendsAt_107 : decode cX6_bendsAt 107 = .ok (.iload 4, 2) := dk_21 4 (dk_at dksX6_bendsAt_4 12 rfl rfl)
theorem dX6_bendsAt_109 : decode cX6_bendsAt 109 = .ok (.iconst 4, 1) := dk_7 (dk_at dksX6_bendsAt_4 14 rfl rfl)
theorem dX6_bendsAt_110 : decode cX6_bendsAt 110 = .ok (.invokevirtual 108, 3) := dk_182 0 108 (dk_at dksX6_bendsAt_4 15 rfl rfl)
theorem dX6_bendsAt_113 : decode cX6_bendsAt 113 = .ok (.if_icmp .ne 7, 3) := dk_160 0 7 (dk_at dksX6_bendsAt_4 18 rfl rfl)
theorem dX6_bendsAt_116 : decode cX6_bendsAt 116 = .ok (.iconst 1, 1) := dk_4 (dk_at dksX6_bendsAt_4 21 rfl rfl)
theorem dX6_bendsAt_117 : decode cX6_bendsAt 117 = .ok (.goto 4, 3) := dk_167 0 4 (dk_at dksX6_bendsAt_5 0 rfl rfl)
theorem dX6_bendsAt_120 : decode cX6_bendsAt 120 = .ok (.iconst 0, 1) := dk_3 (dk_at dksX6_bendsAt_5 3 rfl rfl)
theorem dX6_bendsAt_121 : decode cX6_bendsAt 121 = .ok (.invokevirtual 388, 3) := dk_182 1 132 (dk_at dksX6_bendsAt_5 4 rfl rfl)
theorem dX6_bendsAt_124 : decode cX6_bendsAt 124 = .ok (.iload 5, 2) := dk_21 5 (dk_at dksX6_bendsAt_5 7 rfl rfl)
theorem dX6_bendsAt_126 : decode cX6_bendsAt 126 = .ok (.iconst 4, 1) := dk_7 (dk_at dksX6_bendsAt_5 9 rfl rfl)
theorem dX6_bendsAt_127 : decode cX6_bendsAt 127 = .ok (.if_icmp .eq 10, 3) := dk_159 0 10 (dk_at dksX6_bendsAt_5 10 rfl rfl)
theorem dX6_bendsAt_130 : decode cX6_bendsAt 130 = .ok (.iload 5, 2) := dk_21 5 (dk_at dksX6_bendsAt_5 13 rfl rfl)
theorem dX6_bendsAt_132 : decode cX6_bendsAt 132 = .ok (.bipush 6, 2) := dk_16 6 (dk_at dksX6_bendsAt_5 15 rfl rfl)
theorem dX6_bendsAt_134 : decode cX6_bendsAt 134 = .ok (.if_icmp .ne 32, 3) := dk_160 0 32 (dk_at dksX6_bendsAt_5 17 rfl rfl)
theorem dX6_bendsAt_137 : decode cX6_bendsAt 137 = .ok (.aload_n 0, 1) := dk_42 (dk_at dksX6_bendsAt_5 20 rfl rfl)
theorem dX6_bendsAt_138 : decode cX6_bendsAt 138 = .ok (.iload_n 1, 1) := dk_27 (dk_at dksX6_bendsAt_5 21 rfl rfl)
theorem dX6_bendsAt_139 : decode cX6_bendsAt 139 = .ok (.aload_n 0, 1) := dk_42 (dk_at dksX6_bendsAt_5 22 rfl rfl)
theorem dX6_bendsAt_140 : decode cX6_bendsAt 140 = .ok (.iload 4, 2) := dk_21 4 (dk_at dksX6_bendsAt_6 0 rfl rfl)
theorem dX6_bendsAt_142 : decode cX6_bendsAt 142 = .ok (.iconst 5, 1) := dk_8 (dk_at dksX6_bendsAt_6 2 rfl rfl)
theorem dX6_bendsAt_143 : decode cX6_bendsAt 143 = .ok (.invokevirtual 108, 3) := dk_182 0 108 (dk_at dksX6_bendsAt_6 3 rfl rfl)
theorem dX6_bendsAt_146 : decode cX6_bendsAt 146 = .ok (.invokevirtual 358, 3) := dk_182 1 102 (dk_at dksX6_bendsAt_6 6 rfl rfl)
theorem dX6_bendsAt_149 : decode cX6_bendsAt 149 = .ok (.ifCond .eq 17, 3) := dk_153 0 17 (dk_at dksX6_bendsAt_6 9 rfl rfl)
theorem dX6_bendsAt_152 : decode cX6_bendsAt 152 = .ok (.aload_n 0, 1) := dk_42 (dk_at dksX6_bendsAt_6 12 rfl rfl)
theorem dX6_bendsAt_153 : decode cX6_bendsAt 153 = .ok (.getfield 47, 3) := dk_180 0 47 (dk_at dksX6_bendsAt_6 13 rfl rfl)
theorem dX6_bendsAt_156 : decode cX6_bendsAt 156 = .ok (.aload_n 0, 1) := dk_42 (dk_at dksX6_bendsAt_6 16 rfl rfl)
theorem dX6_bendsAt_157 : decode cX6_bendsAt 157 = .ok (.iload 4, 2) := dk_21 4 (dk_at dksX6_bendsAt_6 17 rfl rfl)
theorem dX6_bendsAt_159 : decode cX6_bendsAt 159 = .ok (.iconst 5, 1) := dk_8 (dk_at dksX6_bendsAt_6 19 rfl rfl)
theorem dX6_bendsAt_160 : decode cX6_bendsAt 160 = .ok (.invokevirtual 108, 3) := dk_182 0 108 (dk_at dksX6_bendsAt_6 20 rfl rfl)
theorem dX6_bendsAt_163 : decode cX6_bendsAt 163 = .ok (.iload 6, 2) := dk_21 6 (dk_at dksX6_bendsAt_7 0 rfl rfl)
theorem dX6_bendsAt_165 : decode cX6_bendsAt 165 = .ok (.iastore, 1) := dk_79 (dk_at dksX6_bendsAt_7 2 rfl rfl)
theorem dX6_bendsAt_166 : decode cX6_bendsAt 166 = .ok (.iload 5, 2) := dk_21 5 (dk_at dksX6_bendsAt_7 3 rfl rfl)
theorem dX6_bendsAt_168 : decode cX6_bendsAt 168 = .ok (.bipush 7, 2) := dk_16 7 (dk_at dksX6_bendsAt_7 5 rfl rfl)
theorem dX6_bendsAt_170 : decode cX6_bendsAt 170 = .ok (.if_icmp .ne 31, 3) := dk_160 0 31 (dk_at dksX6_bendsAt_7 7 rfl rfl)
theorem dX6_bendsAt_173 : decode cX6_bendsAt 173 = .ok (.aload_n 0, 1) := dk_42 (dk_at dksX6_bendsAt_7 10 rfl rfl)
theorem dX6_bendsAt_174 : decode cX6_bendsAt 174 = .ok (.iload_n 1, 1) := dk_27 (dk_at dksX6_bendsAt_7 11 rfl rfl)
theorem dX6_bendsAt_175 : decode cX6_bendsAt 175 = .ok (.invokevirtual 361, 3) := dk_182 1 105 (dk_at dksX6_bendsAt_7 12 rfl rfl)
theorem dX6_bendsAt_178 : decode cX6_bendsAt 178 = .ok (.ifCond .eq 23, 3) := dk_153 0 23 (dk_at dksX6_bendsAt_7 15 rfl rfl)
theorem dX6_bendsAt_181 : decode cX6_bendsAt 181 = .ok (.aload_n 0, 1) := dk_42 (dk_at dksX6_bendsAt_7 18 rfl rfl)
theorem dX6_bendsAt_182 : decode cX6_bendsAt 182 = .ok (.getfield 289, 3) := dk_180 1 33 (dk_at dksX6_bendsAt_7 19 rfl rfl)
theorem dX6_bendsAt_185 : decode cX6_bendsAt 185 = .ok (.ifCond .le 16, 3) := dk_158 0 16 (dk_at dksX6_bendsAt_8 0 rfl rfl)
theorem dX6_bendsAt_188 : decode cX6_bendsAt 188 = .ok (.aload_n 0, 1) := dk_42 (dk_at dksX6_bendsAt_8 3 rfl rfl)
theorem dX6_bendsAt_189 : decode cX6_bendsAt 189 = .ok (.getfield 53, 3) := dk_180 0 53 (dk_at dksX6_bendsAt_8 4 rfl rfl)
theorem dX6_bendsAt_192 : decode cX6_bendsAt 192 = .ok (.aload_n 0, 1) := dk_42 (dk_at dksX6_bendsAt_8 7 rfl rfl)
theorem dX6_bendsAt_193 : decode cX6_bendsAt 193 = .ok (.getfield 289, 3) := dk_180 1 33 (dk_at dksX6_bendsAt_8 8 rfl rfl)
theorem dX6_bendsAt_196 : decode cX6_bendsAt 196 = .ok (.iconst 1, 1) := dk_4 (dk_at dksX6_bendsAt_8 11 rfl rfl)
theorem dX6_bendsAt_197 : decode cX6_bendsAt 197 = .ok (.isub, 1) := dk_100 (dk_at dksX6_bendsAt_8 12 rfl rfl)
theorem dX6_bendsAt_198 : decode cX6_bendsAt 198 = .ok (.iload 6, 2) := dk_21 6 (dk_at dksX6_bendsAt_8 13 rfl rfl)
theorem dX6_bendsAt_200 : decode cX6_bendsAt 200 = .ok (.iastore, 1) := dk_79 (dk_at dksX6_bendsAt_8 15 rfl rfl)
theorem dX6_bendsAt_201 : decode cX6_bendsAt 201 = .ok (.return_, 1) := dk_177 (dk_at dksX6_bendsAt_8 16 rfl rfl)
def dkwX6_bendsAtom_1 : List UInt8 := [3, 172]
abbrev dktX6_bendsAtom_1 : List UInt8 := dkwX6_bendsAtom_1 ++ []
def dkwX6_bendsAtom_0 : List UInt8 := [28, 17, 3, 232, 161, 0, 20, 42, 27, 28, 17, 3, 232, 100, 182, 1, 102, 153, 0, 7, 4, 167, 0, 4]
abbrev dktX6_bendsAtom_0 : List UInt8 := dkwX6_bendsAtom_0 ++ dktX6_bendsAtom_1
theorem dksX6_bendsAtom_0 : cX6_bendsAtom.data.toList.drop 0 = dktX6_bendsAtom_0 := by decide +kernel
theorem dksX6_bendsAtom_1 : cX6_bendsAtom.data.toList.drop 24 = dktX6_bendsAtom_1 := dk_seg dksX6_bendsAtom_0 24 rfl rfl
theorem dX6_bendsAtom_0 : decode cX6_bendsAtom 0 = .ok (.iload_n 2, 1) := dk_28 (dk_at dksX6_bendsAtom_0 0 rfl rfl)
theorem dX6_bendsAtom_1 : decode cX6_bendsAtom 1 = .ok (.sipush 1000, 3) := dk_17 3 232 (dk_at dksX6_bendsAtom_0 1 rfl rfl)
theorem dX6_bendsAtom_4 : decode cX6_bendsAtom 4 = .ok (.if_icmp .lt 20, 3) := dk_161 0 20 (dk_at dksX6_bendsAtom_0 4 rfl rfl)
theorem dX6_bendsAtom_7 : decode cX6_bendsAtom 7 = .ok (.aload_n 0, 1) := dk_42 (dk_at dksX6_bendsAtom_0 7 rfl rfl)
theorem dX6_bendsAtom_8 : decode cX6_bendsAtom 8 = .ok (.iload_n 1, 1) := dk_27 (dk_at dksX6_bendsAtom_0 8 rfl rfl)
theorem dX6_bendsAtom_9 : decode cX6_bendsAtom 9 = .ok (.iload_n 2, 1) := dk_28 (dk_at dksX6_bendsAtom_0 9 rfl rfl)
theorem dX6_bendsAtom_10 : decode cX6_bendsAtom 10 = .ok (.sipush 1000, 3) := dk_17 3 232 (dk_at dksX6_bendsAtom_0 10 rfl rfl)
theorem dX6_bendsAtom_13 : decode cX6_bendsAtom 13 = .ok (.isub, 1) := dk_100 (dk_at dksX6_bendsAtom_0 13 rfl rfl)
theorem dX6_bendsAtom_14 : decode cX6_bendsAtom 14 = .ok (.invokevirtual 358, 3) := dk_182 1 102 (dk_at dksX6_bendsAtom_0 14 rfl rfl)
theorem dX6_bendsAtom_17 : decode cX6_bendsAtom 17 = .ok (.ifCond .eq 7, 3) := dk_153 0 7 (dk_at dksX6_bendsAtom_0 17 rfl rfl)
theorem dX6_bendsAtom_20 : decode cX6_bendsAtom 20 = .ok (.iconst 1, 1) := dk_4 (dk_at dksX6_bendsAtom_0 20 rfl rfl)
theorem dX6_bendsAtom_21 : decode cX6_bendsAtom 21 = .ok (.goto 4, 3) := dk_167 0 4 (dk_at dksX6_bendsAtom_0 21 rfl rfl)
theorem dX6_bendsAtom_24 : decode cX6_bendsAtom 24 = .ok (.iconst 0, 1) := dk_3 (dk_at dksX6_bendsAtom_1 0 rfl rfl)
theorem dX6_bendsAtom_25 : decode cX6_bendsAtom 25 = .ok (.ireturn, 1) := dk_172 (dk_at dksX6_bendsAtom_1 1 rfl rfl)
def dkwX6_bendsIf_6 : List UInt8 := [167, 0, 5, 16, 7, 182, 0, 108, 17, 3, 232, 100, 21, 5, 21, 7, 96, 79, 177]
abbrev dktX6_bendsIf_6 : List UInt8 := dkwX6_bendsIf_6 ++ []
def dkwX6_bendsIf_5 : List UInt8 := [160, 0, 7, 2, 167, 0, 4, 4, 54, 7, 42, 180, 0, 47, 42, 28, 21, 4, 153, 0, 8, 16, 6]
abbrev dktX6_bendsIf_5 : List UInt8 := dkwX6_bendsIf_5 ++ dktX6_bendsIf_6
def dkwX6_bendsIf_4 : List UInt8 := [29, 154, 0, 7, 3, 167, 0, 25, 21, 6, 16, 60, 160, 0, 7, 4, 167, 0, 4, 3, 21, 4]
abbrev dktX6_bendsIf_4 : List UInt8 := dkwX6_bendsIf_4 ++ dktX6_bendsIf_5
def dkwX6_bendsIf_3 : List UInt8 := [182, 0, 108, 54, 6, 21, 6, 16, 61, 160, 0, 15, 29, 153, 0, 7, 3, 167, 0, 37, 4, 167, 0, 33]
abbrev dktX6_bendsIf_3 : List UInt8 := dkwX6_bendsIf_3 ++ dktX6_bendsIf_4
def dkwX6_bendsIf_2 : List UInt8 := [21, 4, 153, 0, 8, 16, 7, 167, 0, 5, 16, 6, 182, 0, 108, 182, 1, 23, 54, 5, 42, 28, 16, 8]
abbrev dktX6_bendsIf_2 : List UInt8 := dkwX6_bendsIf_2 ++ dktX6_bendsIf_3
def dkwX6_bendsIf_1 : List UInt8 := [21, 4, 154, 0, 19, 42, 27, 42, 28, 16, 7, 182, 0, 108, 182, 1, 129, 154, 0, 4, 177, 42, 42, 28]
abbrev dktX6_bendsIf_1 : List UInt8 := dkwX6_bendsIf_1 ++ dktX6_bendsIf_2
def dkwX6_bendsIf_0 : List UInt8 := [42, 27, 42, 28, 16, 6, 182, 0, 108, 182, 1, 129, 54, 4, 42, 28, 182, 1, 47, 29, 159, 0, 23]
abbrev dktX6_bendsIf_0 : List UInt8 := dkwX6_bendsIf_0 ++ dktX6_bendsIf_1
theorem dksX6_bendsIf_0 : cX6_bendsIf.data.toList.drop 0 = dktX6_bendsIf_0 := by decide +kernel
theorem dksX6_bendsIf_1 : cX6_bendsIf.data.toList.drop 23 = dktX6_bendsIf_1 := dk_seg dksX6_bendsIf_0 23 rfl rfl
theorem dksX6_bendsIf_2 : cX6_bendsIf.data.toList.drop 47 = dktX6_bendsIf_2 := dk_seg dksX6_bendsIf_1 24 rfl rfl
theorem dksX6_bendsIf_3 : cX6_bendsIf.data.toList.drop 71 = dktX6_bendsIf_3 := dk_seg dksX6_bendsIf_2 24 rfl rfl
theorem dksX6_bendsIf_4 : cX6_bendsIf.data.toList.drop 95 = dktX6_bendsIf_4 := dk_seg dksX6_bendsIf_3 24 rfl rfl
theorem dksX6_bendsIf_5 : cX6_bendsIf.data.toList.drop 117 = dktX6_bendsIf_5 := dk_seg dksX6_bendsIf_4 22 rfl rfl
theorem dksX6_bendsIf_6 : cX6_bendsIf.data.toList.drop 140 = dktX6_bendsIf_6 := dk_seg dksX6_bendsIf_5 23 rfl rfl
theorem dX6_bendsIf_0 : decode cX6_bendsIf 0 = .ok (.aload_n 0, 1) := dk_42 (dk_at dksX6_bendsIf_0 0 rfl rfl)
theorem dX6_bendsIf_1 : decode cX6_bendsIf 1 = .ok (.iload_n 1, 1) := dk_27 (dk_at dksX6_bendsIf_0 1 rfl rfl)
theorem dX6_bendsIf_2 : decode cX6_bendsIf 2 = .ok (.aload_n 0, 1) := dk_42 (dk_at dksX6_bendsIf_0 2 rfl rfl)
theorem dX6_bendsIf_3 : decode cX6_bendsIf 3 = .ok (.iload_n 2, 1) := dk_28 (dk_at dksX6_bendsIf_0 3 rfl rfl)
theorem dX6_bendsIf_4 : decode cX6_bendsIf 4 = .ok (.bipush 6, 2) := dk_16 6 (dk_at dksX6_bendsIf_0 4 rfl rfl)
theorem dX6_bendsIf_6 : decode cX6_bendsIf 6 = .ok (.invokevirtual 108, 3) := dk_182 0 108 (dk_at dksX6_bendsIf_0 6 rfl rfl)
theorem dX6_bendsIf_9 : decode cX6_bendsIf 9 = .ok (.invokevirtual 385, 3) := dk_182 1 129 (dk_at dksX6_bendsIf_0 9 rfl rfl)
theorem dX6_bendsIf_12 : decode cX6_bendsIf 12 = .ok (.istore 4, 2) := dk_54 4 (dk_at dksX6_bendsIf_0 12 rfl rfl)
theorem dX6_bendsIf_14 : decode cX6_bendsIf 14 = .ok (.aload_n 0, 1) := dk_42 (dk_at dksX6_bendsIf_0 14 rfl rfl)
theorem dX6_bendsIf_15 : decode cX6_bendsIf 15 = .ok (.iload_n 2, 1) := dk_28 (dk_at dksX6_bendsIf_0 15 rfl rfl)
theorem dX6_bendsIf_16 : decode cX6_bendsIf 16 = .ok (.invokevirtual 303, 3) := dk_182 1 47 (dk_at dksX6_bendsIf_0 16 rfl rfl)
theorem dX6_bendsIf_19 : decode cX6_bendsIf 19 = .ok (.iload_n 3, 1) := dk_29 (dk_at dksX6_bendsIf_0 19 rfl rfl)
theorem dX6_bendsIf_20 : decode cX6_bendsIf 20 = .ok (.if_icmp .eq 23, 3) := dk_159 0 23 (dk_at dksX6_bendsIf_0 20 rfl rfl)
theorem dX6_bendsIf_23 : decode cX6_bendsIf 23 = .ok (.iload 4, 2) := dk_21 4 (dk_at dksX6_bendsIf_1 0 rfl rfl)
theorem dX6_bendsIf_25 : decode cX6_bendsIf 25 = .ok (.ifCond .ne 19, 3) := dk_154 0 19 (dk_at dksX6_bendsIf_1 2 rfl rfl)
theorem dX6_bendsIf_28 : decode cX6_bendsIf 28 = .ok (.aload_n 0, 1) := dk_42 (dk_at dksX6_bendsIf_1 5 rfl rfl)
theorem dX6_bendsIf_29 : decode cX6_bendsIf 29 = .ok (.iload_n 1, 1) := dk_27 (dk_at dksX6_bendsIf_1 6 rfl rfl)
theorem dX6_bendsIf_30 : decode cX6_bendsIf 30 = .ok (.aload_n 0, 1) := dk_42 (dk_at dksX6_bendsIf_1 7 rfl rfl)
theorem dX6_bendsIf_31 : decode cX6_bendsIf 31 = .ok (.iload_n 2, 1) := dk_28 (dk_at dksX6_bendsIf_1 8 rfl rfl)
theorem dX6_bendsIf_32 : decode cX6_bendsIf 32 = .ok (.bipush 7, 2) := dk_16 7 (dk_at dksX6_bendsIf_1 9 rfl rfl)
theorem dX6_bendsIf_34 : decode cX6_bendsIf 34 = .ok (.invokevirtual 108, 3) := dk_182 0 108 (dk_at dksX6_bendsIf_1 11 rfl rfl)
theorem dX6_bendsIf_37 : decode cX6_bendsIf 37 = .ok (.invokevirtual 385, 3) := dk_182 1 129 (dk_at dksX6_bendsIf_1 14 rfl rfl)
theorem dX6_bendsIf_40 : decode cX6_bendsIf 40 = .ok (.ifCond .ne 4, 3) := dk_154 0 4 (dk_at dksX6_bendsIf_1 17 rfl rfl)
theorem dX6_bendsIf_43 : decode cX6_bendsIf 43 = .ok (.return_, 1) := dk_177 (dk_at dksX6_bendsIf_1 20 rfl rfl)
theorem dX6_bendsIf_44 : decode cX6_bendsIf 44 = .ok (.aload_n 0, 1) := dk_42 (dk_at dksX6_bendsIf_1 21 rfl rfl)
theorem dX6_bendsIf_45 : decode cX6_bendsIf 45 = .ok (.aload_n 0, 1) := dk_42 (dk_at dksX6_bendsIf_1 22 rfl rfl)
theorem dX6_bendsIf_46 : decode cX6_bendsIf 46 = .ok (.iload_n 2, 1) := dk_28 (dk_at dksX6_bendsIf_1 23 rfl rfl)
theorem dX6_bendsIf_47 : decode cX6_bendsIf 47 = .ok (.iload 4, 2) := dk_21 4 (dk_at dksX6_bendsIf_2 0 rfl rfl)
theorem dX6_bendsIf_49 : decode cX6_bendsIf 49 = .ok (.ifCond .eq 8, 3) := dk_153 0 8 (dk_at dksX6_bendsIf_2 2 rfl rfl)
theorem dX6_bendsIf_52 : decode cX6_bendsIf 52 = .ok (.bipush 7, 2) := dk_16 7 (dk_at dksX6_bendsIf_2 5 rfl rfl)
theorem dX6_bendsIf_54 : decode cX6_bendsIf 54 = .ok (.goto 5, 3) := dk_167 0 5 (dk_at dksX6_bendsIf_2 7 rfl rfl)
theorem dX6_bendsIf_57 : decode cX6_bendsIf 57 = .ok (.bipush 6, 2) := dk_16 6 (dk_at dksX6_bendsIf_2 10 rfl rfl)
theorem dX6_bendsIf_59 : decode cX6_bendsIf 59 = .ok (.invokevirtual 108, 3) := dk_182 0 108 (dk_at dksX6_bendsIf_2 12 rfl rfl)
theorem dX6_bendsIf_62 : decode cX6_bendsIf 62 = .ok (.invokevirtual 279, 3) := dk_182 1 23 (dk_at dksX6_bendsIf_2 15 rfl rfl)
theorem dX6_bendsIf_65 : decode cX6_bendsIf 65 = .ok (.istore 5, 2) := dk_54 5 (dk_at dksX6_bendsIf_2 18 rfl rfl)
theorem dX6_bendsIf_67 : decode cX6_bendsIf 67 = .ok (.aload_n 0, 1) := dk_42 (dk_at dksX6_bendsIf_2 20 rfl rfl)
theorem dX6_bendsIf_68 : decode cX6_bendsIf 68 = .ok (.iload_n 2, 1) := dk_28 (dk_at dksX6_bendsIf_2 21 rfl rfl)
theorem dX6_bendsIf_69 : decode cX6_bendsIf 69 = .ok (.bipush 8, 2) := dk_16 8 (dk_at dksX6_bendsIf_2 22 rfl rfl)
theorem dX6_bendsIf_71 : decode cX6_bendsIf 71 = .ok (.invokevirtual 108, 3) := dk_182 0 108 (dk_at dksX6_bendsIf_3 0 rfl rfl)
theorem dX6_bendsIf_74 : decode cX6_bendsIf 74 = .ok (.istore 6, 2) := dk_54 6 (dk_at dksX6_bendsIf_3 3 rfl rfl)
theorem dX6_bendsIf_76 : decode cX6_bendsIf 76 = .ok (.iload 6, 2) := dk_21 6 (dk_at dksX6_bendsIf_3 5 rfl rfl)
theorem dX6_bendsIf_78 : decode cX6_bendsIf 78 = .ok (.bipush 61, 2) := dk_16 61 (dk_at dksX6_bendsIf_3 7 rfl rfl)
theorem dX6_bendsIf_80 : decode cX6_bendsIf 80 = .ok (.if_icmp .ne 15, 3) := dk_160 0 15 (dk_at dksX6_bendsIf_3 9 rfl rfl)
theorem dX6_bendsIf_83 : decode cX6_bendsIf 83 = .ok (.iload_n 3, 1) := dk_29 (dk_at dksX6_bendsIf_3 12 rfl rfl)
theorem dX6_bendsIf_84 : decode cX6_bendsIf 84 = .ok (.ifCond .eq 7, 3) := dk_153 0 7 (dk_at dksX6_bendsIf_3 13 rfl rfl)
theorem dX6_bendsIf_87 : decode cX6_bendsIf 87 = .ok (.iconst 0, 1) := dk_3 (dk_at dksX6_bendsIf_3 16 rfl rfl)
theorem dX6_bendsIf_88 : decode cX6_bendsIf 88 = .ok (.goto 37, 3) := dk_167 0 37 (dk_at dksX6_bendsIf_3 17 rfl rfl)
theorem dX6_bendsIf_91 : decode cX6_bendsIf 91 = .ok (.iconst 1, 1) := dk_4 (dk_at dksX6_bendsIf_3 20 rfl rfl)
theorem dX6_bendsIf_92 : decode cX6_bendsIf 92 = .ok (.goto 33, 3) := dk_167 0 33 (dk_at dksX6_bendsIf_3 21 rfl rfl)
theorem dX6_bendsIf_95 : decode cX6_bendsIf 95 = .ok (.iload_n 3, 1) := dk_29 (dk_at dksX6_bendsIf_4 0 rfl rfl)
theorem dX6_bendsIf_96 : decode cX6_bendsIf 96 = .ok (.ifCond .ne 7, 3) := dk_154 0 7 (dk_at dksX6_bendsIf_4 1 rfl rfl)
theorem dX6_bendsIf_99 : decode cX6_bendsIf 99 = .ok (.iconst 0, 1) := dk_3 (dk_at dksX6_bendsIf_4 4 rfl rfl)
theorem dX6_bendsIf_100 : decode cX6_bendsIf 100 = .ok (.goto 25, 3) := dk_167 0 25 (dk_at dksX6_bendsIf_4 5 rfl rfl)
theorem dX6_bendsIf_103 : decode cX6_bendsIf 103 = .ok (.iload 6, 2) := dk_21 6 (dk_at dksX6_bendsIf_4 8 rfl rfl)
theorem dX6_bendsIf_105 : decode cX6_bendsIf 105 = .ok (.bipush 60, 2) := dk_16 60 (dk_at dksX6_bendsIf_4 10 rfl rfl)
theorem dX6_bendsIf_107 : decode cX6_bendsIf 107 = .ok (.if_icmp .ne 7, 3) := dk_160 0 7 (dk_at dksX6_bendsIf_4 12 rfl rfl)
theorem dX6_bendsIf_110 : decode cX6_bendsIf 110 = .ok (.iconst 1, 1) := dk_4 (dk_at dksX6_bendsIf_4 15 rfl rfl)
theorem dX6_bendsIf_111 : decode cX6_bendsIf 111 = .ok (.goto 4, 3) := dk_167 0 4 (dk_at dksX6_bendsIf_4 16 rfl rfl)
theorem dX6_bendsIf_114 : decode cX6_bendsIf 114 = .ok (.iconst 0, 1) := dk_3 (dk_at dksX6_bendsIf_4 19 rfl rfl)
theorem dX6_bendsIf_115 : decode cX6_bendsIf 115 = .ok (.iload 4, 2) := dk_21 4 (dk_at dksX6_bendsIf_4 20 rfl rfl)
theorem dX6_bendsIf_117 : decode cX6_bendsIf 117 = .ok (.if_icmp .ne 7, 3) := dk_160 0 7 (dk_at dksX6_bendsIf_5 0 rfl rfl)
theorem dX6_bendsIf_120 : decode cX6_bendsIf 120 = .ok (.iconst (-1), 1) := dk_2 (dk_at dksX6_bendsIf_5 3 rfl rfl)
theorem dX6_bendsIf_121 : decode cX6_bendsIf 121 = .ok (.goto 4, 3) := dk_167 0 4 (dk_at dksX6_bendsIf_5 4 rfl rfl)
theorem dX6_bendsIf_124 : decode cX6_bendsIf 124 = .ok (.iconst 1, 1) := dk_4 (dk_at dksX6_bendsIf_5 7 rfl rfl)
theorem dX6_bendsIf_125 : decode cX6_bendsIf 125 = .ok (.istore 7, 2) := dk_54 7 (dk_at dksX6_bendsIf_5 8 rfl rfl)
theorem dX6_bendsIf_127 : decode cX6_bendsIf 127 = .ok (.aload_n 0, 1) := dk_42 (dk_at dksX6_bendsIf_5 10 rfl rfl)
theorem dX6_bendsIf_128 : decode cX6_bendsIf 128 = .ok (.getfield 47, 3) := dk_180 0 47 (dk_at dksX6_bendsIf_5 11 rfl rfl)
theorem dX6_bendsIf_131 : decode cX6_bendsIf 131 = .ok (.aload_n 0, 1) := dk_42 (dk_at dksX6_bendsIf_5 14 rfl rfl)
theorem dX6_bendsIf_132 : decode cX6_bendsIf 132 = .ok (.iload_n 2, 1) := dk_28 (dk_at dksX6_bendsIf_5 15 rfl rfl)
theorem dX6_bendsIf_133 : decode cX6_bendsIf 133 = .ok (.iload 4, 2) := dk_21 4 (dk_at dksX6_bendsIf_5 16 rfl rfl)
theorem dX6_bendsIf_135 : decode cX6_bendsIf 135 = .ok (.ifCond .eq 8, 3) := dk_153 0 8 (dk_at dksX6_bendsIf_5 18 rfl rfl)
theorem dX6_bendsIf_138 : decode cX6_bendsIf 138 = .ok (.bipush 6, 2) := dk_16 6 (dk_at dksX6_bendsIf_5 21 rfl rfl)
theorem dX6_bendsIf_140 : decode cX6_bendsIf 140 = .ok (.goto 5, 3) := dk_167 0 5 (dk_at dksX6_bendsIf_6 0 rfl rfl)
theorem dX6_bendsIf_143 : decode cX6_bendsIf 143 = .ok (.bipush 7, 2) := dk_16 7 (dk_at dksX6_bendsIf_6 3 rfl rfl)
theorem dX6_bendsIf_145 : decode cX6_bendsIf 145 = .ok (.invokevirtual 108, 3) := dk_182 0 108 (dk_at dksX6_bendsIf_6 5 rfl rfl)
theorem dX6_bendsIf_148 : decode cX6_bendsIf 148 = .ok (.sipush 1000, 3) := dk_17 3 232 (dk_at dksX6_bendsIf_6 8 rfl rfl)
theorem dX6_bendsIf_151 : decode cX6_bendsIf 151 = .ok (.isub, 1) := dk_100 (dk_at dksX6_bendsIf_6 11 rfl rfl)
theorem dX6_bendsIf_152 : decode cX6_bendsIf 152 = .ok (.iload 5, 2) := dk_21 5 (dk_at dksX6_bendsIf_6 12 rfl rfl)
theorem dX6_bendsIf_154 : decode cX6_bendsIf 154 = .ok (.iload 7, 2) := dk_21 7 (dk_at dksX6_bendsIf_6 14 rfl rfl)
theorem dX6_bendsIf_156 : decode cX6_bendsIf 156 = .ok (.iadd, 1) := dk_96 (dk_at dksX6_bendsIf_6 16 rfl rfl)
theorem dX6_bendsIf_157 : decode cX6_bendsIf 157 = .ok (.iastore, 1) := dk_79 (dk_at dksX6_bendsIf_6 17 rfl rfl)
theorem dX6_bendsIf_158 : decode cX6_bendsIf 158 = .ok (.return_, 1) := dk_177 (dk_at dksX6_bendsIf_6 18 rfl rfl)
def dkwX6_row_2 : List UInt8 := [180, 1, 126, 4, 100, 184, 0, 116, 153, 0, 12, 42, 180, 0, 77, 29, 46, 167, 0, 4, 2, 172]
abbrev dktX6_row_2 : List UInt8 := dkwX6_row_2 ++ []
def dkwX6_row_1 : List UInt8 := [167, 0, 4, 3, 4, 182, 0, 230, 153, 0, 5, 3, 172, 42, 27, 28, 182, 1, 140, 29, 3, 42]
abbrev dktX6_row_1 : List UInt8 := dkwX6_row_1 ++ dktX6_row_2
def dkwX6_row_0 : List UInt8 := [42, 3, 181, 0, 3, 42, 42, 27, 182, 1, 111, 154, 0, 11, 42, 28, 182, 1, 146, 153, 0, 7, 4]
abbrev dktX6_row_0 : List UInt8 := dkwX6_row_0 ++ dktX6_row_1
theorem dksX6_row_0 : cX6_row.data.toList.drop 0 = dktX6_row_0 := by decide +kernel
theorem dksX6_row_1 : cX6_row.data.toList.drop 23 = dktX6_row_1 := dk_seg dksX6_row_0 23 rfl rfl
theorem dksX6_row_2 : cX6_row.data.toList.drop 45 = dktX6_row_2 := dk_seg dksX6_row_1 22 rfl rfl
theorem dX6_row_0 : decode cX6_row 0 = .ok (.aload_n 0, 1) := dk_42 (dk_at dksX6_row_0 0 rfl rfl)
theorem dX6_row_1 : decode cX6_row 1 = .ok (.iconst 0, 1) := dk_3 (dk_at dksX6_row_0 1 rfl rfl)
theorem dX6_row_2 : decode cX6_row 2 = .ok (.putfield 3, 3) := dk_181 0 3 (dk_at dksX6_row_0 2 rfl rfl)
theorem dX6_row_5 : decode cX6_row 5 = .ok (.aload_n 0, 1) := dk_42 (dk_at dksX6_row_0 5 rfl rfl)
theorem dX6_row_6 : decode cX6_row 6 = .ok (.aload_n 0, 1) := dk_42 (dk_at dksX6_row_0 6 rfl rfl)
theorem dX6_row_7 : decode cX6_row 7 = .ok (.iload_n 1, 1) := dk_27 (dk_at dksX6_row_0 7 rfl rfl)
theorem dX6_row_8 : decode cX6_row 8 = .ok (.invokevirtual 367, 3) := dk_182 1 111 (dk_at dksX6_row_0 8 rfl rfl)
theorem dX6_row_11 : decode cX6_row 11 = .ok (.ifCond .ne 11, 3) := dk_154 0 11 (dk_at dksX6_row_0 11 rfl rfl)
theorem dX6_row_14 : decode cX6_row 14 = .ok (.aload_n 0, 1) := dk_42 (dk_at dksX6_row_0 14 rfl rfl)
theorem dX6_row_15 : decode cX6_row 15 = .ok (.iload_n 2, 1) := dk_28 (dk_at dksX6_row_0 15 rfl rfl)
theorem dX6_row_16 : decode cX6_row 16 = .ok (.invokevirtual 402, 3) := dk_182 1 146 (dk_at dksX6_row_0 16 rfl rfl)
theorem dX6_row_19 : decode cX6_row 19 = .ok (.ifCond .eq 7, 3) := dk_153 0 7 (dk_at dksX6_row_0 19 rfl rfl)
theorem dX6_row_22 : decode cX6_row 22 = .ok (.iconst 1, 1) := dk_4 (dk_at dksX6_row_0 22 rfl rfl)
theorem dX6_row_23 : decode cX6_row 23 = .ok (.goto 4, 3) := dk_167 0 4 (dk_at dksX6_row_1 0 rfl rfl)
theorem dX6_row_26 : decode cX6_row 26 = .ok (.iconst 0, 1) := dk_3 (dk_at dksX6_row_1 3 rfl rfl)
theorem dX6_row_27 : decode cX6_row 27 = .ok (.iconst 1, 1) := dk_4 (dk_at dksX6_row_1 4 rfl rfl)
theorem dX6_row_28 : decode cX6_row 28 = .ok (.invokevirtual 230, 3) := dk_182 0 230 (dk_at dksX6_row_1 5 rfl rfl)
theorem dX6_row_31 : decode cX6_row 31 = .ok (.ifCond .eq 5, 3) := dk_153 0 5 (dk_at dksX6_row_1 8 rfl rfl)
theorem dX6_row_34 : decode cX6_row 34 = .ok (.iconst 0, 1) := dk_3 (dk_at dksX6_row_1 11 rfl rfl)
theorem dX6_row_35 : decode cX6_row 35 = .ok (.ireturn, 1) := dk_172 (dk_at dksX6_row_1 12 rfl rfl)
theorem dX6_row_36 : decode cX6_row 36 = .ok (.aload_n 0, 1) := dk_42 (dk_at dksX6_row_1 13 rfl rfl)
theorem dX6_row_37 : decode cX6_row 37 = .ok (.iload_n 1, 1) := dk_27 (dk_at dksX6_row_1 14 rfl rfl)
theorem dX6_row_38 : decode cX6_row 38 = .ok (.iload_n 2, 1) := dk_28 (dk_at dksX6_row_1 15 rfl rfl)
theorem dX6_row_39 : decode cX6_row 39 = .ok (.invokevirtual 396, 3) := dk_182 1 140 (dk_at dksX6_row_1 16 rfl rfl)
theorem dX6_row_42 : decode cX6_row 42 = .ok (.iload_n 3, 1) := dk_29 (dk_at dksX6_row_1 19 rfl rfl)
theorem dX6_row_43 : decode cX6_row 43 = .ok (.iconst 0, 1) := dk_3 (dk_at dksX6_row_1 20 rfl rfl)
theorem dX6_row_44 : decode cX6_row 44 = .ok (.aload_n 0, 1) := dk_42 (dk_at dksX6_row_1 21 rfl rfl)
theorem dX6_row_45 : decode cX6_row 45 = .ok (.getfield 382, 3) := dk_180 1 126 (dk_at dksX6_row_2 0 rfl rfl)
theorem dX6_row_48 : decode cX6_row 48 = .ok (.iconst 1, 1) := dk_4 (dk_at dksX6_row_2 3 rfl rfl)
theorem dX6_row_49 : decode cX6_row 49 = .ok (.isub, 1) := dk_100 (dk_at dksX6_row_2 4 rfl rfl)
theorem dX6_row_50 : decode cX6_row 50 = .ok (.invokestatic 116, 3) := dk_184 0 116 (dk_at dksX6_row_2 5 rfl rfl)
theorem dX6_row_53 : decode cX6_row 53 = .ok (.ifCond .eq 12, 3) := dk_153 0 12 (dk_at dksX6_row_2 8 rfl rfl)
theorem dX6_row_56 : decode cX6_row 56 = .ok (.aload_n 0, 1) := dk_42 (dk_at dksX6_row_2 11 rfl rfl)
theorem dX6_row_57 : decode cX6_row 57 = .ok (.getfield 77, 3) := dk_180 0 77 (dk_at dksX6_row_2 12 rfl rfl)
theorem dX6_row_60 : decode cX6_row 60 = .ok (.iload_n 3, 1) := dk_29 (dk_at dksX6_row_2 15 rfl rfl)
theorem dX6_row_61 : decode cX6_row 61 = .ok (.iaload, 1) := dk_46 (dk_at dksX6_row_2 16 rfl rfl)
theorem dX6_row_62 : decode cX6_row 62 = .ok (.goto 4, 3) := dk_167 0 4 (dk_at dksX6_row_2 17 rfl rfl)
theorem dX6_row_65 : decode cX6_row 65 = .ok (.iconst (-1), 1) := dk_2 (dk_at dksX6_row_2 20 rfl rfl)
theorem dX6_row_66 : decode cX6_row 66 = .ok (.ireturn, 1) := dk_172 (dk_at dksX6_row_2 21 rfl rfl)
def dkwX6_least_8 : List UInt8 := [132, 4, 1, 167, 255, 225, 2, 172]
abbrev dktX6_least_8 : List UInt8 := dkwX6_least_8 ++ []
def dkwX6_least_7 : List UInt8 := [162, 0, 28, 42, 180, 0, 89, 21, 4, 46, 29, 160, 0, 11, 42, 180, 0, 86, 21, 4, 46, 172]
abbrev dktX6_least_7 : List UInt8 := dkwX6_least_7 ++ dktX6_least_8
def dkwX6_least_6 : List UInt8 := [155, 0, 8, 29, 2, 160, 0, 8, 42, 180, 1, 152, 172, 3, 54, 4, 21, 4, 42, 180, 1, 155]
abbrev dktX6_least_6 : List UInt8 := dkwX6_least_6 ++ dktX6_least_7
def dkwX6_least_5 : List UInt8 := [167, 255, 205, 42, 2, 181, 1, 152, 42, 3, 3, 27, 42, 28, 182, 1, 123, 182, 1, 161, 42, 180, 1, 152]
abbrev dktX6_least_5 : List UInt8 := dkwX6_least_5 ++ dktX6_least_6
def dkwX6_least_4 : List UInt8 := [180, 0, 89, 42, 180, 1, 155, 21, 4, 79, 42, 89, 180, 1, 155, 4, 96, 181, 1, 155, 132, 4, 1]
abbrev dktX6_least_4 : List UInt8 := dkwX6_least_4 ++ dktX6_least_5
def dkwX6_least_3 : List UInt8 := [162, 0, 48, 42, 180, 1, 155, 16, 6, 162, 0, 39, 42, 21, 4, 182, 0, 237, 153, 0, 24, 42]
abbrev dktX6_least_3 : List UInt8 := dkwX6_least_3 ++ dktX6_least_4
def dkwX6_least_2 : List UInt8 := [172, 42, 182, 1, 13, 42, 182, 1, 114, 42, 3, 181, 1, 155, 3, 54, 4, 21, 4, 42, 182, 0, 112]
abbrev dktX6_least_2 : List UInt8 := dkwX6_least_2 ++ dktX6_least_3
def dkwX6_least_1 : List UInt8 := [159, 0, 15, 42, 29, 182, 0, 234, 153, 0, 7, 4, 167, 0, 4, 3, 4, 182, 0, 230, 153, 0, 5, 3]
abbrev dktX6_least_1 : List UInt8 := dkwX6_least_1 ++ dktX6_least_2
def dkwX6_least_0 : List UInt8 := [42, 3, 181, 0, 3, 42, 42, 27, 182, 1, 111, 154, 0, 24, 42, 28, 182, 1, 146, 154, 0, 16, 29, 2]
abbrev dktX6_least_0 : List UInt8 := dkwX6_least_0 ++ dktX6_least_1
theorem dksX6_least_0 : cX6_least.data.toList.drop 0 = dktX6_least_0 := by decide +kernel
theorem dksX6_least_1 : cX6_least.data.toList.drop 24 = dktX6_least_1 := dk_seg dksX6_least_0 24 rfl rfl
theorem dksX6_least_2 : cX6_least.data.toList.drop 48 = dktX6_least_2 := dk_seg dksX6_least_1 24 rfl rfl
theorem dksX6_least_3 : cX6_least.data.toList.drop 71 = dktX6_least_3 := dk_seg dksX6_least_2 23 rfl rfl
theorem dksX6_least_4 : cX6_least.data.toList.drop 93 = dktX6_least_4 := dk_seg dksX6_least_3 22 rfl rfl
theorem dksX6_least_5 : cX6_least.data.toList.drop 116 = dktX6_least_5 := dk_seg dksX6_least_4 23 rfl rfl
theorem dksX6_least_6 : cX6_least.data.toList.drop 140 = dktX6_least_6 := dk_seg dksX6_least_5 24 rfl rfl
theorem dksX6_least_7 : cX6_least.data.toList.drop 162 = dktX6_least_7 := dk_seg dksX6_least_6 22 rfl rfl
theorem dksX6_least_8 : cX6_least.data.toList.drop 184 = dktX6_least_8 := dk_seg dksX6_least_7 22 rfl rfl
theorem dX6_least_0 : decode cX6_least 0 = .ok (.aload_n 0, 1) := dk_42 (dk_at dksX6_least_0 0 rfl rfl)
theorem dX6_least_1 : decode cX6_least 1 = .ok (.iconst 0, 1) := dk_3 (dk_at dksX6_least_0 1 rfl rfl)
theorem dX6_least_2 : decode cX6_least 2 = .ok (.putfield 3, 3) := dk_181 0 3 (dk_at dksX6_least_0 2 rfl rfl)
theorem dX6_least_5 : decode cX6_least 5 = .ok (.aload_n 0, 1) := dk_42 (dk_at dksX6_least_0 5 rfl rfl)
theorem dX6_least_6 : decode cX6_least 6 = .ok (.aload_n 0, 1) := dk_42 (dk_at dksX6_least_0 6 rfl rfl)
theorem dX6_least_7 : decode cX6_least 7 = .ok (.iload_n 1, 1) := dk_27 (dk_at dksX6_least_0 7 rfl rfl)
theorem dX6_least_8 : decode cX6_least 8 = .ok (.invokevirtual 367, 3) := dk_182 1 111 (dk_at dksX6_least_0 8 rfl rfl)
theorem dX6_least_11 : decode cX6_least 11 = .ok (.ifCond .ne 24, 3) := dk_154 0 24 (dk_at dksX6_least_0 11 rfl rfl)
theorem dX6_least_14 : decode cX6_least 14 = .ok (.aload_n 0, 1) := dk_42 (dk_at dksX6_least_0 14 rfl rfl)
theorem dX6_least_15 : decode cX6_least 15 = .ok (.iload_n 2, 1) := dk_28 (dk_at dksX6_least_0 15 rfl rfl)
theorem dX6_least_16 : decode cX6_least 16 = .ok (.invokevirtual 402, 3) := dk_182 1 146 (dk_at dksX6_least_0 16 rfl rfl)
theorem dX6_least_19 : decode cX6_least 19 = .ok (.ifCond .ne 16, 3) := dk_154 0 16 (dk_at dksX6_least_0 19 rfl rfl)
theorem dX6_least_22 : decode cX6_least 22 = .ok (.iload_n 3, 1) := dk_29 (dk_at dksX6_least_0 22 rfl rfl)
theorem dX6_least_23 : decode cX6_least 23 = .ok (.iconst (-1), 1) := dk_2 (dk_at dksX6_least_0 23 rfl rfl)
theorem dX6_least_24 : decode cX6_least 24 = .ok (.if_icmp .eq 15, 3) := dk_159 0 15 (dk_at dksX6_least_1 0 rfl rfl)
theorem dX6_least_27 : decode cX6_least 27 = .ok (.aload_n 0, 1) := dk_42 (dk_at dksX6_least_1 3 rfl rfl)
theorem dX6_least_28 : decode cX6_least 28 = .ok (.iload_n 3, 1) := dk_29 (dk_at dksX6_least_1 4 rfl rfl)
theorem dX6_least_29 : decode cX6_least 29 = .ok (.invokevirtual 234, 3) := dk_182 0 234 (dk_at dksX6_least_1 5 rfl rfl)
theorem dX6_least_32 : decode cX6_least 32 = .ok (.ifCond .eq 7, 3) := dk_153 0 7 (dk_at dksX6_least_1 8 rfl rfl)
theorem dX6_least_35 : decode cX6_least 35 = .ok (.iconst 1, 1) := dk_4 (dk_at dksX6_least_1 11 rfl rfl)
theorem dX6_least_36 : decode cX6_least 36 = .ok (.goto 4, 3) := dk_167 0 4 (dk_at dksX6_least_1 12 rfl rfl)
theorem dX6_least_39 : decode cX6_least 39 = .ok (.iconst 0, 1) := dk_3 (dk_at dksX6_least_1 15 rfl rfl)
theorem dX6_least_40 : decode cX6_least 40 = .ok (.iconst 1, 1) := dk_4 (dk_at dksX6_least_1 16 rfl rfl)
theorem dX6_least_41 : decode cX6_least 41 = .ok (.invokevirtual 230, 3) := dk_182 0 230 (dk_at dksX6_least_1 17 rfl rfl)
theorem dX6_least_44 : decode cX6_least 44 = .ok (.ifCond .eq 5, 3) := dk_153 0 5 (dk_at dksX6_least_1 20 rfl rfl)
theorem dX6_least_47 : decode cX6_least 47 = .ok (.iconst 0, 1) := dk_3 (dk_at dksX6_least_1 23 rfl rfl)
theorem dX6_least_48 : decode cX6_least 48 = .ok (.ireturn, 1) := dk_172 (dk_at dksX6_least_2 0 rfl rfl)
theorem dX6_least_49 : decode cX6_least 49 = .ok (.aload_n 0, 1) := dk_42 (dk_at dksX6_least_2 1 rfl rfl)
theorem dX6_least_50 : decode cX6_least 50 = .ok (.invokevirtual 269, 3) := dk_182 1 13 (dk_at dksX6_least_2 2 rfl rfl)
theorem dX6_least_53 : decode cX6_least 53 = .ok (.aload_n 0, 1) := dk_42 (dk_at dksX6_least_2 5 rfl rfl)
theorem dX6_least_54 : decode cX6_least 54 = .ok (.invokevirtual 370, 3) := dk_182 1 114 (dk_at dksX6_least_2 6 rfl rfl)
theorem dX6_least_57 : decode cX6_least 57 = .ok (.aload_n 0, 1) := dk_42 (dk_at dksX6_least_2 9 rfl rfl)
theorem dX6_least_58 : decode cX6_least 58 = .ok (.iconst 0, 1) := dk_3 (dk_at dksX6_least_2 10 rfl rfl)
theorem dX6_least_59 : decode cX6_least 59 = .ok (.putfield 411, 3) := dk_181 1 155 (dk_at dksX6_least_2 11 rfl rfl)
theorem dX6_least_62 : decode cX6_least 62 = .ok (.iconst 0, 1) := dk_3 (dk_at dksX6_least_2 14 rfl rfl)
theorem dX6_least_63 : decode cX6_least 63 = .ok (.istore 4, 2) := dk_54 4 (dk_at dksX6_least_2 15 rfl rfl)
theorem dX6_least_65 : decode cX6_least 65 = .ok (.iload 4, 2) := dk_21 4 (dk_at dksX6_least_2 17 rfl rfl)
theorem dX6_least_67 : decode cX6_least 67 = .ok (.aload_n 0, 1) := dk_42 (dk_at dksX6_least_2 19 rfl rfl)
theorem dX6_least_68 : decode cX6_least 68 = .ok (.invokevirtual 112, 3) := dk_182 0 112 (dk_at dksX6_least_2 20 rfl rfl)
theorem dX6_least_71 : decode cX6_least 71 = .ok (.if_icmp .ge 48, 3) := dk_162 0 48 (dk_at dksX6_least_3 0 rfl rfl)
theorem dX6_least_74 : decode cX6_least 74 = .ok (.aload_n 0, 1) := dk_42 (dk_at dksX6_least_3 3 rfl rfl)
theorem dX6_least_75 : decode cX6_least 75 = .ok (.getfield 411, 3) := dk_180 1 155 (dk_at dksX6_least_3 4 rfl rfl)
theorem dX6_least_78 : decode cX6_least 78 = .ok (.bipush 6, 2) := dk_16 6 (dk_at dksX6_least_3 7 rfl rfl)
theorem dX6_least_80 : decode cX6_least 80 = .ok (.if_icmp .ge 39, 3) := dk_162 0 39 (dk_at dksX6_least_3 9 rfl rfl)
theorem dX6_least_83 : decode cX6_least 83 = .ok (.aload_n 0, 1) := dk_42 (dk_at dksX6_least_3 12 rfl rfl)
theorem dX6_least_84 : decode cX6_least 84 = .ok (.iload 4, 2) := dk_21 4 (dk_at dksX6_least_3 13 rfl rfl)
theorem dX6_least_86 : decode cX6_least 86 = .ok (.invokevirtual 237, 3) := dk_182 0 237 (dk_at dksX6_least_3 15 rfl rfl)
theorem dX6_least_89 : decode cX6_least 89 = .ok (.ifCond .eq 24, 3) := dk_153 0 24 (dk_at dksX6_least_3 18 rfl rfl)
theorem dX6_least_92 : decode cX6_least 92 = .ok (.aload_n 0, 1) := dk_42 (dk_at dksX6_least_3 21 rfl rfl)
theorem dX6_least_93 : decode cX6_least 93 = .ok (.getfield 89, 3) := dk_180 0 89 (dk_at dksX6_least_4 0 rfl rfl)
theorem dX6_least_96 : decode cX6_least 96 = .ok (.aload_n 0, 1) := dk_42 (dk_at dksX6_least_4 3 rfl rfl)
theorem dX6_least_97 : decode cX6_least 97 = .ok (.getfield 411, 3) := dk_180 1 155 (dk_at dksX6_least_4 4 rfl rfl)
theorem dX6_least_100 : decode cX6_least 100 = .ok (.iload 4, 2) := dk_21 4 (dk_at dksX6_least_4 7 rfl rfl)
theorem dX6_least_102 : decode cX6_least 102 = .ok (.iastore, 1) := dk_79 (dk_at dksX6_least_4 9 rfl rfl)
theorem dX6_least_103 : decode cX6_least 103 = .ok (.aload_n 0, 1) := dk_42 (dk_at dksX6_least_4 10 rfl rfl)
theorem dX6_least_104 : decode cX6_least 104 = .ok (.dup, 1) := dk_89 (dk_at dksX6_least_4 11 rfl rfl)
theorem dX6_least_105 : decode cX6_least 105 = .ok (.getfield 411, 3) := dk_180 1 155 (dk_at dksX6_least_4 12 rfl rfl)
theorem dX6_least_108 : decode cX6_least 108 = .ok (.iconst 1, 1) := dk_4 (dk_at dksX6_least_4 15 rfl rfl)
theorem dX6_least_109 : decode cX6_least 109 = .ok (.iadd, 1) := dk_96 (dk_at dksX6_least_4 16 rfl rfl)
theorem dX6_least_110 : decode cX6_least 110 = .ok (.putfield 411, 3) := dk_181 1 155 (dk_at dksX6_least_4 17 rfl rfl)
theorem dX6_least_113 : decode cX6_least 113 = .ok (.iinc 4 1, 3) := dk_132 4 1 (dk_at dksX6_least_4 20 rfl rfl)
theorem dX6_least_116 : decode cX6_least 116 = .ok (.goto (-51), 3) := dk_167 255 205 (dk_at dksX6_least_5 0 rfl rfl)
theorem dX6_least_119 : decode cX6_least 119 = .ok (.aload_n 0, 1) := dk_42 (dk_at dksX6_least_5 3 rfl rfl)
theorem dX6_least_120 : decode cX6_least 120 = .ok (.iconst (-1), 1) := dk_2 (dk_at dksX6_least_5 4 rfl rfl)
theorem dX6_least_121 : decode cX6_least 121 = .ok (.putfield 408, 3) := dk_181 1 152 (dk_at dksX6_least_5 5 rfl rfl)
theorem dX6_least_124 : decode cX6_least 124 = .ok (.aload_n 0, 1) := dk_42 (dk_at dksX6_least_5 8 rfl rfl)
theorem dX6_least_125 : decode cX6_least 125 = .ok (.iconst 0, 1) := dk_3 (dk_at dksX6_least_5 9 rfl rfl)
theorem dX6_least_126 : decode cX6_least 126 = .ok (.iconst 0, 1) := dk_3 (dk_at dksX6_least_5 10 rfl rfl)
theorem dX6_least_127 : decode cX6_least 127 = .ok (.iload_n 1, 1) := dk_27 (dk_at dksX6_least_5 11 rfl rfl)
theorem dX6_least_128 : decode cX6_least 128 = .ok (.aload_n 0, 1) := dk_42 (dk_at dksX6_least_5 12 rfl rfl)
theorem dX6_least_129 : decode cX6_least 129 = .ok (.iload_n 2, 1) := dk_28 (dk_at dksX6_least_5 13 rfl rfl)
theorem dX6_least_130 : decode cX6_least 130 = .ok (.invokevirtual 379, 3) := dk_182 1 123 (dk_at dksX6_least_5 14 rfl rfl)
theorem dX6_least_133 : decode cX6_least 133 = .ok (.invokevirtual 417, 3) := dk_182 1 161 (dk_at dksX6_least_5 17 rfl rfl)
theorem dX6_least_136 : decode cX6_least 136 = .ok (.aload_n 0, 1) := dk_42 (dk_at dksX6_least_5 20 rfl rfl)
theorem dX6_least_137 : decode cX6_least 137 = .ok (.getfield 408, 3) := dk_180 1 152 (dk_at dksX6_least_5 21 rfl rfl)
theorem dX6_least_140 : decode cX6_least 140 = .ok (.ifCond .lt 8, 3) := dk_155 0 8 (dk_at dksX6_least_6 0 rfl rfl)
theorem dX6_least_143 : decode cX6_least 143 = .ok (.iload_n 3, 1) := dk_29 (dk_at dksX6_least_6 3 rfl rfl)
theorem dX6_least_144 : decode cX6_least 144 = .ok (.iconst (-1), 1) := dk_2 (dk_at dksX6_least_6 4 rfl rfl)
theorem dX6_least_145 : decode cX6_least 145 = .ok (.if_icmp .ne 8, 3) := dk_160 0 8 (dk_at dksX6_least_6 5 rfl rfl)
theorem dX6_least_148 : decode cX6_least 148 = .ok (.aload_n 0, 1) := dk_42 (dk_at dksX6_least_6 8 rfl rfl)
theorem dX6_least_149 : decode cX6_least 149 = .ok (.getfield 408, 3) := dk_180 1 152 (dk_at dksX6_least_6 9 rfl rfl)
theorem dX6_least_152 : decode cX6_least 152 = .ok (.ireturn, 1) := dk_172 (dk_at dksX6_least_6 12 rfl rfl)
theorem dX6_least_153 : decode cX6_least 153 = .ok (.iconst 0, 1) := dk_3 (dk_at dksX6_least_6 13 rfl rfl)
theorem dX6_least_154 : decode cX6_least 154 = .ok (.istore 4, 2) := dk_54 4 (dk_at dksX6_least_6 14 rfl rfl)
theorem dX6_least_156 : decode cX6_least 156 = .ok (.iload 4, 2) := dk_21 4 (dk_at dksX6_least_6 16 rfl rfl)
theorem dX6_least_158 : decode cX6_least 158 = .ok (.aload_n 0, 1) := dk_42 (dk_at dksX6_least_6 18 rfl rfl)
theorem dX6_least_159 : decode cX6_least 159 = .ok (.getfield 411, 3) := dk_180 1 155 (dk_at dksX6_least_6 19 rfl rfl)
theorem dX6_least_162 : decode cX6_least 162 = .ok (.if_icmp .ge 28, 3) := dk_162 0 28 (dk_at dksX6_least_7 0 rfl rfl)
theorem dX6_least_165 : decode cX6_least 165 = .ok (.aload_n 0, 1) := dk_42 (dk_at dksX6_least_7 3 rfl rfl)
theorem dX6_least_166 : decode cX6_least 166 = .ok (.getfield 89, 3) := dk_180 0 89 (dk_at dksX6_least_7 4 rfl rfl)
theorem dX6_least_169 : decode cX6_least 169 = .ok (.iload 4, 2) := dk_21 4 (dk_at dksX6_least_7 7 rfl rfl)
theorem dX6_least_171 : decode cX6_least 171 = .ok (.iaload, 1) := dk_46 (dk_at dksX6_least_7 9 rfl rfl)
theorem dX6_least_172 : decode cX6_least 172 = .ok (.iload_n 3, 1) := dk_29 (dk_at dksX6_least_7 10 rfl rfl)
theorem dX6_least_173 : decode cX6_least 173 = .ok (.if_icmp .ne 11, 3) := dk_160 0 11 (dk_at dksX6_least_7 11 rfl rfl)
theorem dX6_least_176 : decode cX6_least 176 = .ok (.aload_n 0, 1) := dk_42 (dk_at dksX6_least_7 14 rfl rfl)
theorem dX6_least_177 : decode cX6_least 177 = .ok (.getfield 86, 3) := dk_180 0 86 (dk_at dksX6_least_7 15 rfl rfl)
theorem dX6_least_180 : decode cX6_least 180 = .ok (.iload 4, 2) := dk_21 4 (dk_at dksX6_least_7 18 rfl rfl)
theorem dX6_least_182 : decode cX6_least 182 = .ok (.iaload, 1) := dk_46 (dk_at dksX6_least_7 20 rfl rfl)
theorem dX6_least_183 : decode cX6_least 183 = .ok (.ireturn, 1) := dk_172 (dk_at dksX6_least_7 21 rfl rfl)
theorem dX6_least_184 : decode cX6_least 184 = .ok (.iinc 4 1, 3) := dk_132 4 1 (dk_at dksX6_least_8 0 rfl rfl)
theorem dX6_least_187 : decode cX6_least 187 = .ok (.goto (-31), 3) := dk_167 255 225 (dk_at dksX6_least_8 3 rfl rfl)
theorem dX6_least_190 : decode cX6_least 190 = .ok (.iconst (-1), 1) := dk_2 (dk_at dksX6_least_8 6 rfl rfl)
theorem dX6_least_191 : decode cX6_least 191 = .ok (.ireturn, 1) := dk_172 (dk_at dksX6_least_8 7 rfl rfl)
def dkwX6_chooses_6 : List UInt8 := [182, 1, 161, 132, 7, 1, 167, 255, 197, 177]
abbrev dktX6_chooses_6 : List UInt8 := dkwX6_chooses_6 ++ []
def dkwX6_chooses_5 : List UInt8 := [42, 180, 0, 71, 21, 6, 21, 7, 79, 42, 27, 4, 96, 28, 42, 21, 7, 182, 1, 158, 96, 29, 22, 4]
abbrev dktX6_chooses_5 : List UInt8 := dkwX6_chooses_5 ++ dktX6_chooses_6
def dkwX6_chooses_4 : List UInt8 := [182, 0, 120, 16, 7, 160, 0, 7, 6, 167, 0, 4, 5, 163, 0, 44, 42, 180, 0, 83, 27, 21, 7, 79]
abbrev dktX6_chooses_4 : List UInt8 := dkwX6_chooses_4 ++ dktX6_chooses_5
def dkwX6_chooses_3 : List UInt8 := [132, 6, 1, 167, 255, 233, 177, 42, 180, 0, 89, 27, 46, 54, 6, 3, 54, 7, 21, 7, 42, 21, 6]
abbrev dktX6_chooses_3 : List UInt8 := dkwX6_chooses_3 ++ dktX6_chooses_4
def dkwX6_chooses_2 : List UInt8 := [54, 6, 21, 6, 27, 162, 0, 23, 42, 180, 0, 86, 21, 6, 42, 180, 0, 83, 21, 6, 46, 79]
abbrev dktX6_chooses_2 : List UInt8 := dkwX6_chooses_2 ++ dktX6_chooses_3
def dkwX6_chooses_1 : List UInt8 := [42, 29, 182, 1, 117, 42, 182, 1, 120, 22, 4, 127, 9, 148, 153, 0, 4, 177, 42, 28, 181, 1, 152, 3]
abbrev dktX6_chooses_1 : List UInt8 := dkwX6_chooses_1 ++ dktX6_chooses_2
def dkwX6_chooses_0 : List UInt8 := [42, 180, 1, 152, 155, 0, 12, 28, 42, 180, 1, 152, 161, 0, 4, 177, 27, 42, 180, 1, 155, 160, 0, 56]
abbrev dktX6_chooses_0 : List UInt8 := dkwX6_chooses_0 ++ dktX6_chooses_1
theorem dksX6_chooses_0 : cX6_chooses.data.toList.drop 0 = dktX6_chooses_0 := by decide +kernel
theorem dksX6_chooses_1 : cX6_chooses.data.toList.drop 24 = dktX6_chooses_1 := dk_seg dksX6_chooses_0 24 rfl rfl
theorem dksX6_chooses_2 : cX6_chooses.data.toList.drop 48 = dktX6_chooses_2 := dk_seg dksX6_chooses_1 24 rfl rfl
theorem dksX6_chooses_3 : cX6_chooses.data.toList.drop 70 = dktX6_chooses_3 := dk_seg dksX6_chooses_2 22 rfl rfl
theorem dksX6_chooses_4 : cX6_chooses.data.toList.drop 93 = dktX6_chooses_4 := dk_seg dksX6_chooses_3 23 rfl rfl
theorem dksX6_chooses_5 : cX6_chooses.data.toList.drop 117 = dktX6_chooses_5 := dk_seg dksX6_chooses_4 24 rfl rfl
theorem dksX6_chooses_6 : cX6_chooses.data.toList.drop 141 = dktX6_chooses_6 := dk_seg dksX6_chooses_5 24 rfl rfl
theorem dX6_chooses_0 : decode cX6_chooses 0 = .ok (.aload_n 0, 1) := dk_42 (dk_at dksX6_chooses_0 0 rfl rfl)
theorem dX6_chooses_1 : decode cX6_chooses 1 = .ok (.getfield 408, 3) := dk_180 1 152 (dk_at dksX6_chooses_0 1 rfl rfl)
theorem dX6_chooses_4 : decode cX6_chooses 4 = .ok (.ifCond .lt 12, 3) := dk_155 0 12 (dk_at dksX6_chooses_0 4 rfl rfl)
theorem dX6_chooses_7 : decode cX6_chooses 7 = .ok (.iload_n 2, 1) := dk_28 (dk_at dksX6_chooses_0 7 rfl rfl)
theorem dX6_chooses_8 : decode cX6_chooses 8 = .ok (.aload_n 0, 1) := dk_42 (dk_at dksX6_chooses_0 8 rfl rfl)
theorem dX6_chooses_9 : decode cX6_chooses 9 = .ok (.getfield 408, 3) := dk_180 1 152 (dk_at dksX6_chooses_0 9 rfl rfl)
theorem dX6_chooses_12 : decode cX6_chooses 12 = .ok (.if_icmp .lt 4, 3) := dk_161 0 4 (dk_at dksX6_chooses_0 12 rfl rfl)
theorem dX6_chooses_15 : decode cX6_chooses 15 = .ok (.return_, 1) := dk_177 (dk_at dksX6_chooses_0 15 rfl rfl)
theorem dX6_chooses_16 : decode cX6_chooses 16 = .ok (.iload_n 1, 1) := dk_27 (dk_at dksX6_chooses_0 16 rfl rfl)
theorem dX6_chooses_17 : decode cX6_chooses 17 = .ok (.aload_n 0, 1) := dk_42 (dk_at dksX6_chooses_0 17 rfl rfl)
theorem dX6_chooses_18 : decode cX6_chooses 18 = .ok (.getfield 411, 3) := dk_180 1 155 (dk_at dksX6_chooses_0 18 rfl rfl)
theorem dX6_chooses_21 : decode cX6_chooses 21 = .ok (.if_icmp .ne 56, 3) := dk_160 0 56 (dk_at dksX6_chooses_0 21 rfl rfl)
theorem dX6_chooses_24 : decode cX6_chooses 24 = .ok (.aload_n 0, 1) := dk_42 (dk_at dksX6_chooses_1 0 rfl rfl)
theorem dX6_chooses_25 : decode cX6_chooses 25 = .ok (.iload_n 3, 1) := dk_29 (dk_at dksX6_chooses_1 1 rfl rfl)
theorem dX6_chooses_26 : decode cX6_chooses 26 = .ok (.invokevirtual 373, 3) := dk_182 1 117 (dk_at dksX6_chooses_1 2 rfl rfl)
theorem dX6_chooses_29 : decode cX6_chooses 29 = .ok (.aload_n 0, 1) := dk_42 (dk_at dksX6_chooses_1 5 rfl rfl)
theorem dX6_chooses_30 : decode cX6_chooses 30 = .ok (.invokevirtual 376, 3) := dk_182 1 120 (dk_at dksX6_chooses_1 6 rfl rfl)
theorem dX6_chooses_33 : decode cX6_chooses 33 = .ok (.lload 4, 2) := dk_22 4 (dk_at dksX6_chooses_1 9 rfl rfl)
theorem dX6_chooses_35 : decode cX6_chooses 35 = .ok (.land, 1) := dk_127 (dk_at dksX6_chooses_1 11 rfl rfl)
theorem dX6_chooses_36 : decode cX6_chooses 36 = .ok (.lconst 0, 1) := dk_9 (dk_at dksX6_chooses_1 12 rfl rfl)
theorem dX6_chooses_37 : decode cX6_chooses 37 = .ok (.lcmp, 1) := dk_148 (dk_at dksX6_chooses_1 13 rfl rfl)
theorem dX6_chooses_38 : decode cX6_chooses 38 = .ok (.ifCond .eq 4, 3) := dk_153 0 4 (dk_at dksX6_chooses_1 14 rfl rfl)
theorem dX6_chooses_41 : decode cX6_chooses 41 = .ok (.return_, 1) := dk_177 (dk_at dksX6_chooses_1 17 rfl rfl)
theorem dX6_chooses_42 : decode cX6_chooses 42 = .ok (.aload_n 0, 1) := dk_42 (dk_at dksX6_chooses_1 18 rfl rfl)
theorem dX6_chooses_43 : decode cX6_chooses 43 = .ok (.iload_n 2, 1) := dk_28 (dk_at dksX6_chooses_1 19 rfl rfl)
theorem dX6_chooses_44 : decode cX6_chooses 44 = .ok (.putfield 408, 3) := dk_181 1 152 (dk_at dksX6_chooses_1 20 rfl rfl)
theorem dX6_chooses_47 : decode cX6_chooses 47 = .ok (.iconst 0, 1) := dk_3 (dk_at dksX6_chooses_1 23 rfl rfl)
theorem dX6_chooses_48 : decode cX6_chooses 48 = .ok (.istore 6, 2) := dk_54 6 (dk_at dksX6_chooses_2 0 rfl rfl)
theorem dX6_chooses_50 : decode cX6_chooses 50 = .ok (.iload 6, 2) := dk_21 6 (dk_at dksX6_chooses_2 2 rfl rfl)
theorem dX6_chooses_52 : decode cX6_chooses 52 = .ok (.iload_n 1, 1) := dk_27 (dk_at dksX6_chooses_2 4 rfl rfl)
theorem dX6_chooses_53 : decode cX6_chooses 53 = .ok (.if_icmp .ge 23, 3) := dk_162 0 23 (dk_at dksX6_chooses_2 5 rfl rfl)
theorem dX6_chooses_56 : decode cX6_chooses 56 = .ok (.aload_n 0, 1) := dk_42 (dk_at dksX6_chooses_2 8 rfl rfl)
theorem dX6_chooses_57 : decode cX6_chooses 57 = .ok (.getfield 86, 3) := dk_180 0 86 (dk_at dksX6_chooses_2 9 rfl rfl)
theorem dX6_chooses_60 : decode cX6_chooses 60 = .ok (.iload 6, 2) := dk_21 6 (dk_at dksX6_chooses_2 12 rfl rfl)
theorem dX6_chooses_62 : decode cX6_chooses 62 = .ok (.aload_n 0, 1) := dk_42 (dk_at dksX6_chooses_2 14 rfl rfl)
theorem dX6_chooses_63 : decode cX6_chooses 63 = .ok (.getfield 83, 3) := dk_180 0 83 (dk_at dksX6_chooses_2 15 rfl rfl)
theorem dX6_chooses_66 : decode cX6_chooses 66 = .ok (.iload 6, 2) := dk_21 6 (dk_at dksX6_chooses_2 18 rfl rfl)
theorem dX6_chooses_68 : decode cX6_chooses 68 = .ok (.iaload, 1) := dk_46 (dk_at dksX6_chooses_2 20 rfl rfl)
theorem dX6_chooses_69 : decode cX6_chooses 69 = .ok (.iastore, 1) := dk_79 (dk_at dksX6_chooses_2 21 rfl rfl)
theorem dX6_chooses_70 : decode cX6_chooses 70 = .ok (.iinc 6 1, 3) := dk_132 6 1 (dk_at dksX6_chooses_3 0 rfl rfl)
theorem dX6_chooses_73 : decode cX6_chooses 73 = .ok (.goto (-23), 3) := dk_167 255 233 (dk_at dksX6_chooses_3 3 rfl rfl)
theorem dX6_chooses_76 : decode cX6_chooses 76 = .ok (.return_, 1) := dk_177 (dk_at dksX6_chooses_3 6 rfl rfl)
theorem dX6_chooses_77 : decode cX6_chooses 77 = .ok (.aload_n 0, 1) := dk_42 (dk_at dksX6_chooses_3 7 rfl rfl)
theorem dX6_chooses_78 : decode cX6_chooses 78 = .ok (.getfield 89, 3) := dk_180 0 89 (dk_at dksX6_chooses_3 8 rfl rfl)
theorem dX6_chooses_81 : decode cX6_chooses 81 = .ok (.iload_n 1, 1) := dk_27 (dk_at dksX6_chooses_3 11 rfl rfl)
theorem dX6_chooses_82 : decode cX6_chooses 82 = .ok (.iaload, 1) := dk_46 (dk_at dksX6_chooses_3 12 rfl rfl)
theorem dX6_chooses_83 : decode cX6_chooses 83 = .ok (.istore 6, 2) := dk_54 6 (dk_at dksX6_chooses_3 13 rfl rfl)
theorem dX6_chooses_85 : decode cX6_chooses 85 = .ok (.iconst 0, 1) := dk_3 (dk_at dksX6_chooses_3 15 rfl rfl)
theorem dX6_chooses_86 : decode cX6_chooses 86 = .ok (.istore 7, 2) := dk_54 7 (dk_at dksX6_chooses_3 16 rfl rfl)
theorem dX6_chooses_88 : decode cX6_chooses 88 = .ok (.iload 7, 2) := dk_21 7 (dk_at dksX6_chooses_3 18 rfl rfl)
theorem dX6_chooses_90 : decode cX6_chooses 90 = .ok (.aload_n 0, 1) := dk_42 (dk_at dksX6_chooses_3 20 rfl rfl)
theorem dX6_chooses_91 : decode cX6_chooses 91 = .ok (.iload 6, 2) := dk_21 6 (dk_at dksX6_chooses_3 21 rfl rfl)
theorem dX6_chooses_93 : decode cX6_chooses 93 = .ok (.invokevirtual 120, 3) := dk_182 0 120 (dk_at dksX6_chooses_4 0 rfl rfl)
theorem dX6_chooses_96 : decode cX6_chooses 96 = .ok (.bipush 7, 2) := dk_16 7 (dk_at dksX6_chooses_4 3 rfl rfl)
theorem dX6_chooses_98 : decode cX6_chooses 98 = .ok (.if_icmp .ne 7, 3) := dk_160 0 7 (dk_at dksX6_chooses_4 5 rfl rfl)
theorem dX6_chooses_101 : decode cX6_chooses 101 = .ok (.iconst 3, 1) := dk_6 (dk_at dksX6_chooses_4 8 rfl rfl)
theorem dX6_chooses_102 : decode cX6_chooses 102 = .ok (.goto 4, 3) := dk_167 0 4 (dk_at dksX6_chooses_4 9 rfl rfl)
theorem dX6_chooses_105 : decode cX6_chooses 105 = .ok (.iconst 2, 1) := dk_5 (dk_at dksX6_chooses_4 12 rfl rfl)
theorem dX6_chooses_106 : decode cX6_chooses 106 = .ok (.if_icmp .gt 44, 3) := dk_163 0 44 (dk_at dksX6_chooses_4 13 rfl rfl)
theorem dX6_chooses_109 : decode cX6_chooses 109 = .ok (.aload_n 0, 1) := dk_42 (dk_at dksX6_chooses_4 16 rfl rfl)
theorem dX6_chooses_110 : decode cX6_chooses 110 = .ok (.getfield 83, 3) := dk_180 0 83 (dk_at dksX6_chooses_4 17 rfl rfl)
theorem dX6_chooses_113 : decode cX6_chooses 113 = .ok (.iload_n 1, 1) := dk_27 (dk_at dksX6_chooses_4 20 rfl rfl)
theorem dX6_chooses_114 : decode cX6_chooses 114 = .ok (.iload 7, 2) := dk_21 7 (dk_at dksX6_chooses_4 21 rfl rfl)
theorem dX6_chooses_116 : decode cX6_chooses 116 = .ok (.iastore, 1) := dk_79 (dk_at dksX6_chooses_4 23 rfl rfl)
theorem dX6_chooses_117 : decode cX6_chooses 117 = .ok (.aload_n 0, 1) := dk_42 (dk_at dksX6_chooses_5 0 rfl rfl)
theorem dX6_chooses_118 : decode cX6_chooses 118 = .ok (.getfield 71, 3) := dk_180 0 71 (dk_at dksX6_chooses_5 1 rfl rfl)
theorem dX6_chooses_121 : decode cX6_chooses 121 = .ok (.iload 6, 2) := dk_21 6 (dk_at dksX6_chooses_5 4 rfl rfl)
theorem dX6_chooses_123 : decode cX6_chooses 123 = .ok (.iload 7, 2) := dk_21 7 (dk_at dksX6_chooses_5 6 rfl rfl)
theorem dX6_chooses_125 : decode cX6_chooses 125 = .ok (.iastore, 1) := dk_79 (dk_at dksX6_chooses_5 8 rfl rfl)
theorem dX6_chooses_126 : decode cX6_chooses 126 = .ok (.aload_n 0, 1) := dk_42 (dk_at dksX6_chooses_5 9 rfl rfl)
theorem dX6_chooses_127 : decode cX6_chooses 127 = .ok (.iload_n 1, 1) := dk_27 (dk_at dksX6_chooses_5 10 rfl rfl)
theorem dX6_chooses_128 : decode cX6_chooses 128 = .ok (.iconst 1, 1) := dk_4 (dk_at dksX6_chooses_5 11 rfl rfl)
theorem dX6_chooses_129 : decode cX6_chooses 129 = .ok (.iadd, 1) := dk_96 (dk_at dksX6_chooses_5 12 rfl rfl)
theorem dX6_chooses_130 : decode cX6_chooses 130 = .ok (.iload_n 2, 1) := dk_28 (dk_at dksX6_chooses_5 13 rfl rfl)
theorem dX6_chooses_131 : decode cX6_chooses 131 = .ok (.aload_n 0, 1) := dk_42 (dk_at dksX6_chooses_5 14 rfl rfl)
theorem dX6_chooses_132 : decode cX6_chooses 132 = .ok (.iload 7, 2) := dk_21 7 (dk_at dksX6_chooses_5 15 rfl rfl)
theorem dX6_chooses_134 : decode cX6_chooses 134 = .ok (.invokevirtual 414, 3) := dk_182 1 158 (dk_at dksX6_chooses_5 17 rfl rfl)
theorem dX6_chooses_137 : decode cX6_chooses 137 = .ok (.iadd, 1) := dk_96 (dk_at dksX6_chooses_5 20 rfl rfl)
theorem dX6_chooses_138 : decode cX6_chooses 138 = .ok (.iload_n 3, 1) := dk_29 (dk_at dksX6_chooses_5 21 rfl rfl)
theorem dX6_chooses_139 : decode cX6_chooses 139 = .ok (.lload 4, 2) := dk_22 4 (dk_at dksX6_chooses_5 22 rfl rfl)
theorem dX6_chooses_141 : decode cX6_chooses 141 = .ok (.invokevirtual 417, 3) := dk_182 1 161 (dk_at dksX6_chooses_6 0 rfl rfl)
theorem dX6_chooses_144 : decode cX6_chooses 144 = .ok (.iinc 7 1, 3) := dk_132 7 1 (dk_at dksX6_chooses_6 3 rfl rfl)
theorem dX6_chooses_147 : decode cX6_chooses 147 = .ok (.goto (-59), 3) := dk_167 255 197 (dk_at dksX6_chooses_6 6 rfl rfl)
theorem dX6_chooses_150 : decode cX6_chooses 150 = .ok (.return_, 1) := dk_177 (dk_at dksX6_chooses_6 9 rfl rfl)
def dkwX6_ticksOf_0 : List UInt8 := [27, 154, 0, 7, 3, 167, 0, 11, 42, 180, 0, 13, 7, 27, 96, 46, 172]
abbrev dktX6_ticksOf_0 : List UInt8 := dkwX6_ticksOf_0 ++ []
theorem dksX6_ticksOf_0 : cX6_ticksOf.data.toList.drop 0 = dktX6_ticksOf_0 := by decide +kernel
theorem dX6_ticksOf_0 : decode cX6_ticksOf 0 = .ok (.iload_n 1, 1) := dk_27 (dk_at dksX6_ticksOf_0 0 rfl rfl)
theorem dX6_ticksOf_1 : decode cX6_ticksOf 1 = .ok (.ifCond .ne 7, 3) := dk_154 0 7 (dk_at dksX6_ticksOf_0 1 rfl rfl)
theorem dX6_ticksOf_4 : decode cX6_ticksOf 4 = .ok (.iconst 0, 1) := dk_3 (dk_at dksX6_ticksOf_0 4 rfl rfl)
theorem dX6_ticksOf_5 : decode cX6_ticksOf 5 = .ok (.goto 11, 3) := dk_167 0 11 (dk_at dksX6_ticksOf_0 5 rfl rfl)
theorem dX6_ticksOf_8 : decode cX6_ticksOf 8 = .ok (.aload_n 0, 1) := dk_42 (dk_at dksX6_ticksOf_0 8 rfl rfl)
theorem dX6_ticksOf_9 : decode cX6_ticksOf 9 = .ok (.getfield 13, 3) := dk_180 0 13 (dk_at dksX6_ticksOf_0 9 rfl rfl)
theorem dX6_ticksOf_12 : decode cX6_ticksOf 12 = .ok (.iconst 4, 1) := dk_7 (dk_at dksX6_ticksOf_0 12 rfl rfl)
theorem dX6_ticksOf_13 : decode cX6_ticksOf 13 = .ok (.iload_n 1, 1) := dk_27 (dk_at dksX6_ticksOf_0 13 rfl rfl)
theorem dX6_ticksOf_14 : decode cX6_ticksOf 14 = .ok (.iadd, 1) := dk_96 (dk_at dksX6_ticksOf_0 14 rfl rfl)
theorem dX6_ticksOf_15 : decode cX6_ticksOf 15 = .ok (.iaload, 1) := dk_46 (dk_at dksX6_ticksOf_0 15 rfl rfl)
theorem dX6_ticksOf_16 : decode cX6_ticksOf 16 = .ok (.ireturn, 1) := dk_172 (dk_at dksX6_ticksOf_0 16 rfl rfl)
def dkwX6_marks_6 : List UInt8 := [160, 0, 7, 4, 167, 0, 4, 3, 96, 60, 132, 2, 1, 167, 255, 227, 27, 172]
abbrev dktX6_marks_6 : List UInt8 := dkwX6_marks_6 ++ []
def dkwX6_marks_5 : List UInt8 := [167, 255, 174, 3, 60, 3, 61, 28, 42, 180, 1, 165, 162, 0, 27, 27, 42, 180, 0, 95, 28, 46, 28]
abbrev dktX6_marks_5 : List UInt8 := dkwX6_marks_5 ++ dktX6_marks_6
def dkwX6_marks_4 : List UInt8 := [180, 0, 95, 29, 46, 184, 1, 171, 79, 132, 3, 1, 167, 255, 206, 132, 2, 1, 167, 255, 190, 132, 1, 1]
abbrev dktX6_marks_4 : List UInt8 := dkwX6_marks_4 ++ dktX6_marks_5
def dkwX6_marks_3 : List UInt8 := [180, 0, 92, 29, 47, 127, 9, 148, 153, 0, 24, 42, 180, 0, 95, 28, 42, 180, 0, 95, 28, 46, 42]
abbrev dktX6_marks_3 : List UInt8 := dkwX6_marks_3 ++ dktX6_marks_4
def dkwX6_marks_2 : List UInt8 := [180, 1, 165, 162, 0, 64, 3, 62, 29, 42, 180, 1, 165, 162, 0, 48, 42, 180, 0, 92, 28, 47, 42]
abbrev dktX6_marks_2 : List UInt8 := dkwX6_marks_2 ++ dktX6_marks_3
def dkwX6_marks_1 : List UInt8 := [27, 79, 132, 1, 1, 167, 255, 238, 3, 60, 27, 42, 180, 1, 165, 162, 0, 80, 3, 61, 28, 42]
abbrev dktX6_marks_1 : List UInt8 := dkwX6_marks_1 ++ dktX6_marks_2
def dkwX6_marks_0 : List UInt8 := [42, 3, 181, 0, 3, 42, 182, 1, 168, 3, 60, 27, 42, 180, 1, 165, 162, 0, 16, 42, 180, 0, 95, 27]
abbrev dktX6_marks_0 : List UInt8 := dkwX6_marks_0 ++ dktX6_marks_1
theorem dksX6_marks_0 : cX6_marks.data.toList.drop 0 = dktX6_marks_0 := by decide +kernel
theorem dksX6_marks_1 : cX6_marks.data.toList.drop 24 = dktX6_marks_1 := dk_seg dksX6_marks_0 24 rfl rfl
theorem dksX6_marks_2 : cX6_marks.data.toList.drop 46 = dktX6_marks_2 := dk_seg dksX6_marks_1 22 rfl rfl
theorem dksX6_marks_3 : cX6_marks.data.toList.drop 69 = dktX6_marks_3 := dk_seg dksX6_marks_2 23 rfl rfl
theorem dksX6_marks_4 : cX6_marks.data.toList.drop 92 = dktX6_marks_4 := dk_seg dksX6_marks_3 23 rfl rfl
theorem dksX6_marks_5 : cX6_marks.data.toList.drop 116 = dktX6_marks_5 := dk_seg dksX6_marks_4 24 rfl rfl
theorem dksX6_marks_6 : cX6_marks.data.toList.drop 139 = dktX6_marks_6 := dk_seg dksX6_marks_5 23 rfl rfl
theorem dX6_marks_0 : decode cX6_marks 0 = .ok (.aload_n 0, 1) := dk_42 (dk_at dksX6_marks_0 0 rfl rfl)
theorem dX6_marks_1 : decode cX6_marks 1 = .ok (.iconst 0, 1) := dk_3 (dk_at dksX6_marks_0 1 rfl rfl)
theorem dX6_marks_2 : decode cX6_marks 2 = .ok (.putfield 3, 3) := dk_181 0 3 (dk_at dksX6_marks_0 2 rfl rfl)
theorem dX6_marks_5 : decode cX6_marks 5 = .ok (.aload_n 0, 1) := dk_42 (dk_at dksX6_marks_0 5 rfl rfl)
theorem dX6_marks_6 : decode cX6_marks 6 = .ok (.invokevirtual 424, 3) := dk_182 1 168 (dk_at dksX6_marks_0 6 rfl rfl)
theorem dX6_marks_9 : decode cX6_marks 9 = .ok (.iconst 0, 1) := dk_3 (dk_at dksX6_marks_0 9 rfl rfl)
theorem dX6_marks_10 : decode cX6_marks 10 = .ok (.istore_n 1, 1) := dk_60 (dk_at dksX6_marks_0 10 rfl rfl)
theorem dX6_marks_11 : decode cX6_marks 11 = .ok (.iload_n 1, 1) := dk_27 (dk_at dksX6_marks_0 11 rfl rfl)
theorem dX6_marks_12 : decode cX6_marks 12 = .ok (.aload_n 0, 1) := dk_42 (dk_at dksX6_marks_0 12 rfl rfl)
theorem dX6_marks_13 : decode cX6_marks 13 = .ok (.getfield 421, 3) := dk_180 1 165 (dk_at dksX6_marks_0 13 rfl rfl)
theorem dX6_marks_16 : decode cX6_marks 16 = .ok (.if_icmp .ge 16, 3) := dk_162 0 16 (dk_at dksX6_marks_0 16 rfl rfl)
theorem dX6_marks_19 : decode cX6_marks 19 = .ok (.aload_n 0, 1) := dk_42 (dk_at dksX6_marks_0 19 rfl rfl)
theorem dX6_marks_20 : decode cX6_marks 20 = .ok (.getfield 95, 3) := dk_180 0 95 (dk_at dksX6_marks_0 20 rfl rfl)
theorem dX6_marks_23 : decode cX6_marks 23 = .ok (.iload_n 1, 1) := dk_27 (dk_at dksX6_marks_0 23 rfl rfl)
theorem dX6_marks_24 : decode cX6_marks 24 = .ok (.iload_n 1, 1) := dk_27 (dk_at dksX6_marks_1 0 rfl rfl)
theorem dX6_marks_25 : decode cX6_marks 25 = .ok (.iastore, 1) := dk_79 (dk_at dksX6_marks_1 1 rfl rfl)
theorem dX6_marks_26 : decode cX6_marks 26 = .ok (.iinc 1 1, 3) := dk_132 1 1 (dk_at dksX6_marks_1 2 rfl rfl)
theorem dX6_marks_29 : decode cX6_marks 29 = .ok (.goto (-18), 3) := dk_167 255 238 (dk_at dksX6_marks_1 5 rfl rfl)
theorem dX6_marks_32 : decode cX6_marks 32 = .ok (.iconst 0, 1) := dk_3 (dk_at dksX6_marks_1 8 rfl rfl)
theorem dX6_marks_33 : decode cX6_marks 33 = .ok (.istore_n 1, 1) := dk_60 (dk_at dksX6_marks_1 9 rfl rfl)
theorem dX6_marks_34 : decode cX6_marks 34 = .ok (.iload_n 1, 1) := dk_27 (dk_at dksX6_marks_1 10 rfl rfl)
theorem dX6_marks_35 : decode cX6_marks 35 = .ok (.aload_n 0, 1) := dk_42 (dk_at dksX6_marks_1 11 rfl rfl)
theorem dX6_marks_36 : decode cX6_marks 36 = .ok (.getfield 421, 3) := dk_180 1 165 (dk_at dksX6_marks_1 12 rfl rfl)
theorem dX6_marks_39 : decode cX6_marks 39 = .ok (.if_icmp .ge 80, 3) := dk_162 0 80 (dk_at dksX6_marks_1 15 rfl rfl)
theorem dX6_marks_42 : decode cX6_marks 42 = .ok (.iconst 0, 1) := dk_3 (dk_at dksX6_marks_1 18 rfl rfl)
theorem dX6_marks_43 : decode cX6_marks 43 = .ok (.istore_n 2, 1) := dk_61 (dk_at dksX6_marks_1 19 rfl rfl)
theorem dX6_marks_44 : decode cX6_marks 44 = .ok (.iload_n 2, 1) := dk_28 (dk_at dksX6_marks_1 20 rfl rfl)
theorem dX6_marks_45 : decode cX6_marks 45 = .ok (.aload_n 0, 1) := dk_42 (dk_at dksX6_marks_1 21 rfl rfl)
theorem dX6_marks_46 : decode cX6_marks 46 = .ok (.getfield 421, 3) := dk_180 1 165 (dk_at dksX6_marks_2 0 rfl rfl)
theorem dX6_marks_49 : decode cX6_marks 49 = .ok (.if_icmp .ge 64, 3) := dk_162 0 64 (dk_at dksX6_marks_2 3 rfl rfl)
theorem dX6_marks_52 : decode cX6_marks 52 = .ok (.iconst 0, 1) := dk_3 (dk_at dksX6_marks_2 6 rfl rfl)
theorem dX6_marks_53 : decode cX6_marks 53 = .ok (.istore_n 3, 1) := dk_62 (dk_at dksX6_marks_2 7 rfl rfl)
theorem dX6_marks_54 : decode cX6_marks 54 = .ok (.iload_n 3, 1) := dk_29 (dk_at dksX6_marks_2 8 rfl rfl)
theorem dX6_marks_55 : decode cX6_marks 55 = .ok (.aload_n 0, 1) := dk_42 (dk_at dksX6_marks_2 9 rfl rfl)
theorem dX6_marks_56 : decode cX6_marks 56 = .ok (.getfield 421, 3) := dk_180 1 165 (dk_at dksX6_marks_2 10 rfl rfl)
theorem dX6_marks_59 : decode cX6_marks 59 = .ok (.if_icmp .ge 48, 3) := dk_162 0 48 (dk_at dksX6_marks_2 13 rfl rfl)
theorem dX6_marks_62 : decode cX6_marks 62 = .ok (.aload_n 0, 1) := dk_42 (dk_at dksX6_marks_2 16 rfl rfl)
theorem dX6_marks_63 : decode cX6_marks 63 = .ok (.getfield 92, 3) := dk_180 0 92 (dk_at dksX6_marks_2 17 rfl rfl)
theorem dX6_marks_66 : decode cX6_marks 66 = .ok (.iload_n 2, 1) := dk_28 (dk_at dksX6_marks_2 20 rfl rfl)
theorem dX6_marks_67 : decode cX6_marks 67 = .ok (.laload, 1) := dk_47 (dk_at dksX6_marks_2 21 rfl rfl)
theorem dX6_marks_68 : decode cX6_marks 68 = .ok (.aload_n 0, 1) := dk_42 (dk_at dksX6_marks_2 22 rfl rfl)
theorem dX6_marks_69 : decode cX6_marks 69 = .ok (.getfield 92, 3) := dk_180 0 92 (dk_at dksX6_marks_3 0 rfl rfl)
theorem dX6_marks_72 : decode cX6_marks 72 = .ok (.iload_n 3, 1) := dk_29 (dk_at dksX6_marks_3 3 rfl rfl)
theorem dX6_marks_73 : decode cX6_marks 73 = .ok (.laload, 1) := dk_47 (dk_at dksX6_marks_3 4 rfl rfl)
theorem dX6_marks_74 : decode cX6_marks 74 = .ok (.land, 1) := dk_127 (dk_at dksX6_marks_3 5 rfl rfl)
theorem dX6_marks_75 : decode cX6_marks 75 = .ok (.lconst 0, 1) := dk_9 (dk_at dksX6_marks_3 6 rfl rfl)
theorem dX6_marks_76 : decode cX6_marks 76 = .ok (.lcmp, 1) := dk_148 (dk_at dksX6_marks_3 7 rfl rfl)
theorem dX6_marks_77 : decode cX6_marks 77 = .ok (.ifCond .eq 24, 3) := dk_153 0 24 (dk_at dksX6_marks_3 8 rfl rfl)
theorem dX6_marks_80 : decode cX6_marks 80 = .ok (.aload_n 0, 1) := dk_42 (dk_at dksX6_marks_3 11 rfl rfl)
theorem dX6_marks_81 : decode cX6_marks 81 = .ok (.getfield 95, 3) := dk_180 0 95 (dk_at dksX6_marks_3 12 rfl rfl)
theorem dX6_marks_84 : decode cX6_marks 84 = .ok (.iload_n 2, 1) := dk_28 (dk_at dksX6_marks_3 15 rfl rfl)
theorem dX6_marks_85 : decode cX6_marks 85 = .ok (.aload_n 0, 1) := dk_42 (dk_at dksX6_marks_3 16 rfl rfl)
theorem dX6_marks_86 : decode cX6_marks 86 = .ok (.getfield 95, 3) := dk_180 0 95 (dk_at dksX6_marks_3 17 rfl rfl)
theorem dX6_marks_89 : decode cX6_marks 89 = .ok (.iload_n 2, 1) := dk_28 (dk_at dksX6_marks_3 20 rfl rfl)
theorem dX6_marks_90 : decode cX6_marks 90 = .ok (.iaload, 1) := dk_46 (dk_at dksX6_marks_3 21 rfl rfl)
theorem dX6_marks_91 : decode cX6_marks 91 = .ok (.aload_n 0, 1) := dk_42 (dk_at dksX6_marks_3 22 rfl rfl)
theorem dX6_marks_92 : decode cX6_marks 92 = .ok (.getfield 95, 3) := dk_180 0 95 (dk_at dksX6_marks_4 0 rfl rfl)
theorem dX6_marks_95 : decode cX6_marks 95 = .ok (.iload_n 3, 1) := dk_29 (dk_at dksX6_marks_4 3 rfl rfl)
theorem dX6_marks_96 : decode cX6_marks 96 = .ok (.iaload, 1) := dk_46 (dk_at dksX6_marks_4 4 rfl rfl)
theorem dX6_marks_97 : decode cX6_marks 97 = .ok (.invokestatic 427, 3) := dk_184 1 171 (dk_at dksX6_marks_4 5 rfl rfl)
theorem dX6_marks_100 : decode cX6_marks 100 = .ok (.iastore, 1) := dk_79 (dk_at dksX6_marks_4 8 rfl rfl)
theorem dX6_marks_101 : decode cX6_marks 101 = .ok (.iinc 3 1, 3) := dk_132 3 1 (dk_at dksX6_marks_4 9 rfl rfl)
theorem dX6_marks_104 : decode cX6_marks 104 = .ok (.goto (-50), 3) := dk_167 255 206 (dk_at dksX6_marks_4 12 rfl rfl)
theorem dX6_marks_107 : decode cX6_marks 107 = .ok (.iinc 2 1, 3) := dk_132 2 1 (dk_at dksX6_marks_4 15 rfl rfl)
theorem dX6_marks_110 : decode cX6_marks 110 = .ok (.goto (-66), 3) := dk_167 255 190 (dk_at dksX6_marks_4 18 rfl rfl)
theorem dX6_marks_113 : decode cX6_marks 113 = .ok (.iinc 1 1, 3) := dk_132 1 1 (dk_at dksX6_marks_4 21 rfl rfl)
theorem dX6_marks_116 : decode cX6_marks 116 = .ok (.goto (-82), 3) := dk_167 255 174 (dk_at dksX6_marks_5 0 rfl rfl)
theorem dX6_marks_119 : decode cX6_marks 119 = .ok (.iconst 0, 1) := dk_3 (dk_at dksX6_marks_5 3 rfl rfl)
theorem dX6_marks_120 : decode cX6_marks 120 = .ok (.istore_n 1, 1) := dk_60 (dk_at dksX6_marks_5 4 rfl rfl)
theorem dX6_marks_121 : decode cX6_marks 121 = .ok (.iconst 0, 1) := dk_3 (dk_at dksX6_marks_5 5 rfl rfl)
theorem dX6_marks_122 : decode cX6_marks 122 = .ok (.istore_n 2, 1) := dk_61 (dk_at dksX6_marks_5 6 rfl rfl)
theorem dX6_marks_123 : decode cX6_marks 123 = .ok (.iload_n 2, 1) := dk_28 (dk_at dksX6_marks_5 7 rfl rfl)
theorem dX6_marks_124 : decode cX6_marks 124 = .ok (.aload_n 0, 1) := dk_42 (dk_at dksX6_marks_5 8 rfl rfl)
theorem dX6_marks_125 : decode cX6_marks 125 = .ok (.getfield 421, 3) := dk_180 1 165 (dk_at dksX6_marks_5 9 rfl rfl)
theorem dX6_marks_128 : decode cX6_marks 128 = .ok (.if_icmp .ge 27, 3) := dk_162 0 27 (dk_at dksX6_marks_5 12 rfl rfl)
theorem dX6_marks_131 : decode cX6_marks 131 = .ok (.iload_n 1, 1) := dk_27 (dk_at dksX6_marks_5 15 rfl rfl)
theorem dX6_marks_132 : decode cX6_marks 132 = .ok (.aload_n 0, 1) := dk_42 (dk_at dksX6_marks_5 16 rfl rfl)
theorem dX6_marks_133 : decode cX6_marks 133 = .ok (.getfield 95, 3) := dk_180 0 95 (dk_at dksX6_marks_5 17 rfl rfl)
theorem dX6_marks_136 : decode cX6_marks 136 = .ok (.iload_n 2, 1) := dk_28 (dk_at dksX6_marks_5 20 rfl rfl)
theorem dX6_marks_137 : decode cX6_marks 137 = .ok (.iaload, 1) := dk_46 (dk_at dksX6_marks_5 21 rfl rfl)
theorem dX6_marks_138 : decode cX6_marks 138 = .ok (.iload_n 2, 1) := dk_28 (dk_at dksX6_marks_5 22 rfl rfl)
theorem dX6_marks_139 : decode cX6_marks 139 = .ok (.if_icmp .ne 7, 3) := dk_160 0 7 (dk_at dksX6_marks_6 0 rfl rfl)
theorem dX6_marks_142 : decode cX6_marks 142 = .ok (.iconst 1, 1) := dk_4 (dk_at dksX6_marks_6 3 rfl rfl)
theorem dX6_marks_143 : decode cX6_marks 143 = .ok (.goto 4, 3) := dk_167 0 4 (dk_at dksX6_marks_6 4 rfl rfl)
theorem dX6_marks_146 : decode cX6_marks 146 = .ok (.iconst 0, 1) := dk_3 (dk_at dksX6_marks_6 7 rfl rfl)
theorem dX6_marks_147 : decode cX6_marks 147 = .ok (.iadd, 1) := dk_96 (dk_at dksX6_marks_6 8 rfl rfl)
theorem dX6_marks_148 : decode cX6_marks 148 = .ok (.istore_n 1, 1) := dk_60 (dk_at dksX6_marks_6 9 rfl rfl)
theorem dX6_marks_149 : decode cX6_marks 149 = .ok (.iinc 2 1, 3) := dk_132 2 1 (dk_at dksX6_marks_6 10 rfl rfl)
theorem dX6_marks_152 : decode cX6_marks 152 = .ok (.goto (-29), 3) := dk_167 255 227 (dk_at dksX6_marks_6 13 rfl rfl)
theorem dX6_marks_155 : decode cX6_marks 155 = .ok (.iload_n 1, 1) := dk_27 (dk_at dksX6_marks_6 16 rfl rfl)
theorem dX6_marks_156 : decode cX6_marks 156 = .ok (.ireturn, 1) := dk_172 (dk_at dksX6_marks_6 17 rfl rfl)
def dkwX6_gathers_3 : List UInt8 := [167, 255, 195, 177]
abbrev dktX6_gathers_3 : List UInt8 := dkwX6_gathers_3 ++ []
def dkwX6_gathers_2 : List UInt8 := [27, 42, 27, 5, 182, 0, 108, 182, 1, 16, 80, 42, 89, 180, 1, 165, 4, 96, 181, 1, 165, 132, 1, 1]
abbrev dktX6_gathers_2 : List UInt8 := dkwX6_gathers_2 ++ dktX6_gathers_3
def dkwX6_gathers_1 : List UInt8 := [153, 0, 45, 42, 27, 5, 182, 0, 108, 154, 0, 6, 167, 0, 33, 42, 180, 0, 92, 42, 180, 1, 165, 42]
abbrev dktX6_gathers_1 : List UInt8 := dkwX6_gathers_1 ++ dktX6_gathers_2
def dkwX6_gathers_0 : List UInt8 := [42, 182, 1, 13, 42, 3, 181, 1, 165, 3, 60, 27, 42, 182, 0, 112, 162, 0, 59, 42, 27, 182, 0, 237]
abbrev dktX6_gathers_0 : List UInt8 := dkwX6_gathers_0 ++ dktX6_gathers_1
theorem dksX6_gathers_0 : cX6_gathers.data.toList.drop 0 = dktX6_gathers_0 := by decide +kernel
theorem dksX6_gathers_1 : cX6_gathers.data.toList.drop 24 = dktX6_gathers_1 := dk_seg dksX6_gathers_0 24 rfl rfl
theorem dksX6_gathers_2 : cX6_gathers.data.toList.drop 48 = dktX6_gathers_2 := dk_seg dksX6_gathers_1 24 rfl rfl
theorem dksX6_gathers_3 : cX6_gathers.data.toList.drop 72 = dktX6_gathers_3 := dk_seg dksX6_gathers_2 24 rfl rfl
theorem dX6_gathers_0 : decode cX6_gathers 0 = .ok (.aload_n 0, 1) := dk_42 (dk_at dksX6_gathers_0 0 rfl rfl)
theorem dX6_gathers_1 : decode cX6_gathers 1 = .ok (.invokevirtual 269, 3) := dk_182 1 13 (dk_at dksX6_gathers_0 1 rfl rfl)
theorem dX6_gathers_4 : decode cX6_gathers 4 = .ok (.aload_n 0, 1) := dk_42 (dk_at dksX6_gathers_0 4 rfl rfl)
theorem dX6_gathers_5 : decode cX6_gathers 5 = .ok (.iconst 0, 1) := dk_3 (dk_at dksX6_gathers_0 5 rfl rfl)
theorem dX6_gathers_6 : decode cX6_gathers 6 = .ok (.putfield 421, 3) := dk_181 1 165 (dk_at dksX6_gathers_0 6 rfl rfl)
theorem dX6_gathers_9 : decode cX6_gathers 9 = .ok (.iconst 0, 1) := dk_3 (dk_at dksX6_gathers_0 9 rfl rfl)
theorem dX6_gathers_10 : decode cX6_gathers 10 = .ok (.istore_n 1, 1) := dk_60 (dk_at dksX6_gathers_0 10 rfl rfl)
theorem dX6_gathers_11 : decode cX6_gathers 11 = .ok (.iload_n 1, 1) := dk_27 (dk_at dksX6_gathers_0 11 rfl rfl)
theorem dX6_gathers_12 : decode cX6_gathers 12 = .ok (.aload_n 0, 1) := dk_42 (dk_at dksX6_gathers_0 12 rfl rfl)
theorem dX6_gathers_13 : decode cX6_gathers 13 = .ok (.invokevirtual 112, 3) := dk_182 0 112 (dk_at dksX6_gathers_0 13 rfl rfl)
theorem dX6_gathers_16 : decode cX6_gathers 16 = .ok (.if_icmp .ge 59, 3) := dk_162 0 59 (dk_at dksX6_gathers_0 16 rfl rfl)
theorem dX6_gathers_19 : decode cX6_gathers 19 = .ok (.aload_n 0, 1) := dk_42 (dk_at dksX6_gathers_0 19 rfl rfl)
theorem dX6_gathers_20 : decode cX6_gathers 20 = .ok (.iload_n 1, 1) := dk_27 (dk_at dksX6_gathers_0 20 rfl rfl)
theorem dX6_gathers_21 : decode cX6_gathers 21 = .ok (.invokevirtual 237, 3) := dk_182 0 237 (dk_at dksX6_gathers_0 21 rfl rfl)
theorem dX6_gathers_24 : decode cX6_gathers 24 = .ok (.ifCond .eq 45, 3) := dk_153 0 45 (dk_at dksX6_gathers_1 0 rfl rfl)
theorem dX6_gathers_27 : decode cX6_gathers 27 = .ok (.aload_n 0, 1) := dk_42 (dk_at dksX6_gathers_1 3 rfl rfl)
theorem dX6_gathers_28 : decode cX6_gathers 28 = .ok (.iload_n 1, 1) := dk_27 (dk_at dksX6_gathers_1 4 rfl rfl)
theorem dX6_gathers_29 : decode cX6_gathers 29 = .ok (.iconst 2, 1) := dk_5 (dk_at dksX6_gathers_1 5 rfl rfl)
theorem dX6_gathers_30 : decode cX6_gathers 30 = .ok (.invokevirtual 108, 3) := dk_182 0 108 (dk_at dksX6_gathers_1 6 rfl rfl)
theorem dX6_gathers_33 : decode cX6_gathers 33 = .ok (.ifCond .ne 6, 3) := dk_154 0 6 (dk_at dksX6_gathers_1 9 rfl rfl)
theorem dX6_gathers_36 : decode cX6_gathers 36 = .ok (.goto 33, 3) := dk_167 0 33 (dk_at dksX6_gathers_1 12 rfl rfl)
theorem dX6_gathers_39 : decode cX6_gathers 39 = .ok (.aload_n 0, 1) := dk_42 (dk_at dksX6_gathers_1 15 rfl rfl)
theorem dX6_gathers_40 : decode cX6_gathers 40 = .ok (.getfield 92, 3) := dk_180 0 92 (dk_at dksX6_gathers_1 16 rfl rfl)
theorem dX6_gathers_43 : decode cX6_gathers 43 = .ok (.aload_n 0, 1) := dk_42 (dk_at dksX6_gathers_1 19 rfl rfl)
theorem dX6_gathers_44 : decode cX6_gathers 44 = .ok (.getfield 421, 3) := dk_180 1 165 (dk_at dksX6_gathers_1 20 rfl rfl)
theorem dX6_gathers_47 : decode cX6_gathers 47 = .ok (.aload_n 0, 1) := dk_42 (dk_at dksX6_gathers_1 23 rfl rfl)
theorem dX6_gathers_48 : decode cX6_gathers 48 = .ok (.iload_n 1, 1) := dk_27 (dk_at dksX6_gathers_2 0 rfl rfl)
theorem dX6_gathers_49 : decode cX6_gathers 49 = .ok (.aload_n 0, 1) := dk_42 (dk_at dksX6_gathers_2 1 rfl rfl)
theorem dX6_gathers_50 : decode cX6_gathers 50 = .ok (.iload_n 1, 1) := dk_27 (dk_at dksX6_gathers_2 2 rfl rfl)
theorem dX6_gathers_51 : decode cX6_gathers 51 = .ok (.iconst 2, 1) := dk_5 (dk_at dksX6_gathers_2 3 rfl rfl)
theorem dX6_gathers_52 : decode cX6_gathers 52 = .ok (.invokevirtual 108, 3) := dk_182 0 108 (dk_at dksX6_gathers_2 4 rfl rfl)
theorem dX6_gathers_55 : decode cX6_gathers 55 = .ok (.invokevirtual 272, 3) := dk_182 1 16 (dk_at dksX6_gathers_2 7 rfl rfl)
theorem dX6_gathers_58 : decode cX6_gathers 58 = .ok (.lastore, 1) := dk_80 (dk_at dksX6_gathers_2 10 rfl rfl)
theorem dX6_gathers_59 : decode cX6_gathers 59 = .ok (.aload_n 0, 1) := dk_42 (dk_at dksX6_gathers_2 11 rfl rfl)
theorem dX6_gathers_60 : decode cX6_gathers 60 = .ok (.dup, 1) := dk_89 (dk_at dksX6_gathers_2 12 rfl rfl)
theorem dX6_gathers_61 : decode cX6_gathers 61 = .ok (.getfield 421, 3) := dk_180 1 165 (dk_at dksX6_gathers_2 13 rfl rfl)
theorem dX6_gathers_64 : decode cX6_gathers 64 = .ok (.iconst 1, 1) := dk_4 (dk_at dksX6_gathers_2 16 rfl rfl)
theorem dX6_gathers_65 : decode cX6_gathers 65 = .ok (.iadd, 1) := dk_96 (dk_at dksX6_gathers_2 17 rfl rfl)
theorem dX6_gathers_66 : decode cX6_gathers 66 = .ok (.putfield 421, 3) := dk_181 1 165 (dk_at dksX6_gathers_2 18 rfl rfl)
theorem dX6_gathers_69 : decode cX6_gathers 69 = .ok (.iinc 1 1, 3) := dk_132 1 1 (dk_at dksX6_gathers_2 21 rfl rfl)
theorem dX6_gathers_72 : decode cX6_gathers 72 = .ok (.goto (-61), 3) := dk_167 255 195 (dk_at dksX6_gathers_3 0 rfl rfl)
theorem dX6_gathers_75 : decode cX6_gathers 75 = .ok (.return_, 1) := dk_177 (dk_at dksX6_gathers_3 3 rfl rfl)
def dkwX6_joined_2 : List UInt8 := [42, 180, 1, 182, 172]
abbrev dktX6_joined_2 : List UInt8 := dkwX6_joined_2 ++ []
def dkwX6_joined_1 : List UInt8 := [182, 0, 230, 153, 0, 5, 3, 172, 42, 182, 1, 168, 42, 2, 181, 1, 182, 42, 3, 3, 27, 182, 1, 185]
abbrev dktX6_joined_1 : List UInt8 := dkwX6_joined_1 ++ dktX6_joined_2
def dkwX6_joined_0 : List UInt8 := [42, 3, 181, 0, 3, 42, 27, 4, 16, 16, 184, 0, 116, 154, 0, 7, 4, 167, 0, 4, 3, 4]
abbrev dktX6_joined_0 : List UInt8 := dkwX6_joined_0 ++ dktX6_joined_1
theorem dksX6_joined_0 : cX6_joined.data.toList.drop 0 = dktX6_joined_0 := by decide +kernel
theorem dksX6_joined_1 : cX6_joined.data.toList.drop 22 = dktX6_joined_1 := dk_seg dksX6_joined_0 22 rfl rfl
theorem dksX6_joined_2 : cX6_joined.data.toList.drop 46 = dktX6_joined_2 := dk_seg dksX6_joined_1 24 rfl rfl
theorem dX6_joined_0 : decode cX6_joined 0 = .ok (.aload_n 0, 1) := dk_42 (dk_at dksX6_joined_0 0 rfl rfl)
theorem dX6_joined_1 : decode cX6_joined 1 = .ok (.iconst 0, 1) := dk_3 (dk_at dksX6_joined_0 1 rfl rfl)
theorem dX6_joined_2 : decode cX6_joined 2 = .ok (.putfield 3, 3) := dk_181 0 3 (dk_at dksX6_joined_0 2 rfl rfl)
theorem dX6_joined_5 : decode cX6_joined 5 = .ok (.aload_n 0, 1) := dk_42 (dk_at dksX6_joined_0 5 rfl rfl)
theorem dX6_joined_6 : decode cX6_joined 6 = .ok (.iload_n 1, 1) := dk_27 (dk_at dksX6_joined_0 6 rfl rfl)
theorem dX6_joined_7 : decode cX6_joined 7 = .ok (.iconst 1, 1) := dk_4 (dk_at dksX6_joined_0 7 rfl rfl)
theorem dX6_joined_8 : decode cX6_joined 8 = .ok (.bipush 16, 2) := dk_16 16 (dk_at dksX6_joined_0 8 rfl rfl)
theorem dX6_joined_10 : decode cX6_joined 10 = .ok (.invokestatic 116, 3) := dk_184 0 116 (dk_at dksX6_joined_0 10 rfl rfl)
theorem dX6_joined_13 : decode cX6_joined 13 = .ok (.ifCond .ne 7, 3) := dk_154 0 7 (dk_at dksX6_joined_0 13 rfl rfl)
theorem dX6_joined_16 : decode cX6_joined 16 = .ok (.iconst 1, 1) := dk_4 (dk_at dksX6_joined_0 16 rfl rfl)
theorem dX6_joined_17 : decode cX6_joined 17 = .ok (.goto 4, 3) := dk_167 0 4 (dk_at dksX6_joined_0 17 rfl rfl)
theorem dX6_joined_20 : decode cX6_joined 20 = .ok (.iconst 0, 1) := dk_3 (dk_at dksX6_joined_0 20 rfl rfl)
theorem dX6_joined_21 : decode cX6_joined 21 = .ok (.iconst 1, 1) := dk_4 (dk_at dksX6_joined_0 21 rfl rfl)
theorem dX6_joined_22 : decode cX6_joined 22 = .ok (.invokevirtual 230, 3) := dk_182 0 230 (dk_at dksX6_joined_1 0 rfl rfl)
theorem dX6_joined_25 : decode cX6_joined 25 = .ok (.ifCond .eq 5, 3) := dk_153 0 5 (dk_at dksX6_joined_1 3 rfl rfl)
theorem dX6_joined_28 : decode cX6_joined 28 = .ok (.iconst 0, 1) := dk_3 (dk_at dksX6_joined_1 6 rfl rfl)
theorem dX6_joined_29 : decode cX6_joined 29 = .ok (.ireturn, 1) := dk_172 (dk_at dksX6_joined_1 7 rfl rfl)
theorem dX6_joined_30 : decode cX6_joined 30 = .ok (.aload_n 0, 1) := dk_42 (dk_at dksX6_joined_1 8 rfl rfl)
theorem dX6_joined_31 : decode cX6_joined 31 = .ok (.invokevirtual 424, 3) := dk_182 1 168 (dk_at dksX6_joined_1 9 rfl rfl)
theorem dX6_joined_34 : decode cX6_joined 34 = .ok (.aload_n 0, 1) := dk_42 (dk_at dksX6_joined_1 12 rfl rfl)
theorem dX6_joined_35 : decode cX6_joined 35 = .ok (.iconst (-1), 1) := dk_2 (dk_at dksX6_joined_1 13 rfl rfl)
theorem dX6_joined_36 : decode cX6_joined 36 = .ok (.putfield 438, 3) := dk_181 1 182 (dk_at dksX6_joined_1 14 rfl rfl)
theorem dX6_joined_39 : decode cX6_joined 39 = .ok (.aload_n 0, 1) := dk_42 (dk_at dksX6_joined_1 17 rfl rfl)
theorem dX6_joined_40 : decode cX6_joined 40 = .ok (.iconst 0, 1) := dk_3 (dk_at dksX6_joined_1 18 rfl rfl)
theorem dX6_joined_41 : decode cX6_joined 41 = .ok (.iconst 0, 1) := dk_3 (dk_at dksX6_joined_1 19 rfl rfl)
theorem dX6_joined_42 : decode cX6_joined 42 = .ok (.iload_n 1, 1) := dk_27 (dk_at dksX6_joined_1 20 rfl rfl)
theorem dX6_joined_43 : decode cX6_joined 43 = .ok (.invokevirtual 441, 3) := dk_182 1 185 (dk_at dksX6_joined_1 21 rfl rfl)
theorem dX6_joined_46 : decode cX6_joined 46 = .ok (.aload_n 0, 1) := dk_42 (dk_at dksX6_joined_2 0 rfl rfl)
theorem dX6_joined_47 : decode cX6_joined 47 = .ok (.getfield 438, 3) := dk_180 1 182 (dk_at dksX6_joined_2 1 rfl rfl)
theorem dX6_joined_50 : decode cX6_joined 50 = .ok (.ireturn, 1) := dk_172 (dk_at dksX6_joined_2 4 rfl rfl)
def dkwX6_parts_11 : List UInt8 := [22, 5, 80, 42, 180, 0, 101, 21, 4, 21, 7, 79, 132, 4, 1, 167, 255, 137, 177]
abbrev dktX6_parts_11 : List UInt8 := dkwX6_parts_11 ++ []
def dkwX6_parts_10 : List UInt8 := [21, 4, 28, 160, 0, 9, 28, 4, 96, 167, 0, 4, 28, 29, 182, 1, 185, 42, 180, 0, 98, 21, 4]
abbrev dktX6_parts_10 : List UInt8 := dkwX6_parts_10 ++ dktX6_parts_11
def dkwX6_parts_9 : List UInt8 := [42, 180, 0, 92, 27, 47, 129, 80, 42, 180, 0, 101, 21, 4, 21, 7, 4, 96, 79, 42, 27, 4, 96]
abbrev dktX6_parts_9 : List UInt8 := dkwX6_parts_9 ++ dktX6_parts_10
def dkwX6_parts_8 : List UInt8 := [160, 0, 7, 3, 167, 0, 10, 42, 180, 0, 101, 21, 4, 46, 54, 7, 42, 180, 0, 98, 21, 4, 22, 5]
abbrev dktX6_parts_8 : List UInt8 := dkwX6_parts_8 ++ dktX6_parts_9
def dkwX6_parts_7 : List UInt8 := [21, 4, 28, 160, 0, 7, 9, 167, 0, 10, 42, 180, 0, 98, 21, 4, 47, 55, 5, 21, 4, 28]
abbrev dktX6_parts_7 : List UInt8 := dkwX6_parts_7 ++ dktX6_parts_8
def dkwX6_parts_6 : List UInt8 := [21, 4, 184, 1, 171, 181, 1, 182, 177, 3, 54, 4, 21, 4, 28, 163, 0, 119, 21, 4, 29, 162, 0, 113]
abbrev dktX6_parts_6 : List UInt8 := dkwX6_parts_6 ++ dktX6_parts_7
def dkwX6_parts_5 : List UInt8 := [132, 5, 1, 167, 255, 232, 42, 42, 180, 1, 182, 156, 0, 8, 21, 4, 167, 0, 12, 42, 180, 1, 182]
abbrev dktX6_parts_5 : List UInt8 := dkwX6_parts_5 ++ dktX6_parts_6
def dkwX6_parts_4 : List UInt8 := [54, 5, 21, 5, 27, 162, 0, 24, 21, 4, 42, 180, 0, 92, 21, 5, 47, 184, 1, 176, 100, 54, 4]
abbrev dktX6_parts_4 : List UInt8 := dkwX6_parts_4 ++ dktX6_parts_5
def dkwX6_parts_3 : List UInt8 := [21, 6, 47, 127, 9, 148, 153, 0, 4, 177, 132, 6, 1, 167, 255, 225, 132, 5, 1, 167, 255, 187, 3]
abbrev dktX6_parts_3 : List UInt8 := dkwX6_parts_3 ++ dktX6_parts_4
def dkwX6_parts_2 : List UInt8 := [54, 4, 3, 54, 6, 21, 6, 21, 5, 162, 0, 30, 42, 180, 0, 98, 21, 5, 47, 42, 180, 0, 98]
abbrev dktX6_parts_2 : List UInt8 := dkwX6_parts_2 ++ dktX6_parts_3
def dkwX6_parts_1 : List UInt8 := [162, 0, 69, 21, 4, 42, 180, 0, 101, 21, 5, 46, 42, 180, 0, 98, 21, 5, 47, 184, 1, 176, 104, 96]
abbrev dktX6_parts_1 : List UInt8 := dkwX6_parts_1 ++ dktX6_parts_2
def dkwX6_parts_0 : List UInt8 := [27, 16, 6, 42, 180, 1, 165, 184, 1, 171, 160, 0, 137, 3, 54, 4, 3, 54, 5, 21, 5, 28]
abbrev dktX6_parts_0 : List UInt8 := dkwX6_parts_0 ++ dktX6_parts_1
theorem dksX6_parts_0 : cX6_parts.data.toList.drop 0 = dktX6_parts_0 := by decide +kernel
theorem dksX6_parts_1 : cX6_parts.data.toList.drop 22 = dktX6_parts_1 := dk_seg dksX6_parts_0 22 rfl rfl
theorem dksX6_parts_2 : cX6_parts.data.toList.drop 46 = dktX6_parts_2 := dk_seg dksX6_parts_1 24 rfl rfl
theorem dksX6_parts_3 : cX6_parts.data.toList.drop 69 = dktX6_parts_3 := dk_seg dksX6_parts_2 23 rfl rfl
theorem dksX6_parts_4 : cX6_parts.data.toList.drop 92 = dktX6_parts_4 := dk_seg dksX6_parts_3 23 rfl rfl
theorem dksX6_parts_5 : cX6_parts.data.toList.drop 115 = dktX6_parts_5 := dk_seg dksX6_parts_4 23 rfl rfl
theorem dksX6_parts_6 : cX6_parts.data.toList.drop 138 = dktX6_parts_6 := dk_seg dksX6_parts_5 23 rfl rfl
theorem dksX6_parts_7 : cX6_parts.data.toList.drop 162 = dktX6_parts_7 := dk_seg dksX6_parts_6 24 rfl rfl
theorem dksX6_parts_8 : cX6_parts.data.toList.drop 184 = dktX6_parts_8 := dk_seg dksX6_parts_7 22 rfl rfl
theorem dksX6_parts_9 : cX6_parts.data.toList.drop 208 = dktX6_parts_9 := dk_seg dksX6_parts_8 24 rfl rfl
theorem dksX6_parts_10 : cX6_parts.data.toList.drop 231 = dktX6_parts_10 := dk_seg dksX6_parts_9 23 rfl rfl
theorem dksX6_parts_11 : cX6_parts.data.toList.drop 254 = dktX6_parts_11 := dk_seg dksX6_parts_10 23 rfl rfl
theorem dX6_parts_0 : decode cX6_parts 0 = .ok (.iload_n 1, 1) := dk_27 (dk_at dksX6_parts_0 0 rfl rfl)
theorem dX6_parts_1 : decode cX6_parts 1 = .ok (.bipush 6, 2) := dk_16 6 (dk_at dksX6_parts_0 1 rfl rfl)
theorem dX6_parts_3 : decode cX6_parts 3 = .ok (.aload_n 0, 1) := dk_42 (dk_at dksX6_parts_0 3 rfl rfl)
theorem dX6_parts_4 : decode cX6_parts 4 = .ok (.getfield 421, 3) := dk_180 1 165 (dk_at dksX6_parts_0 4 rfl rfl)
theorem dX6_parts_7 : decode cX6_parts 7 = .ok (.invokestatic 427, 3) := dk_184 1 171 (dk_at dksX6_parts_0 7 rfl rfl)
theorem dX6_parts_10 : decode cX6_parts 10 = .ok (.if_icmp .ne 137, 3) := dk_160 0 137 (dk_at dksX6_parts_0 10 rfl rfl)
theorem dX6_parts_13 : decode cX6_parts 13 = .ok (.iconst 0, 1) := dk_3 (dk_at dksX6_parts_0 13 rfl rfl)
theorem dX6_parts_14 : decode cX6_parts 14 = .ok (.istore 4, 2) := dk_54 4 (dk_at dksX6_parts_0 14 rfl rfl)
theorem dX6_parts_16 : decode cX6_parts 16 = .ok (.iconst 0, 1) := dk_3 (dk_at dksX6_parts_0 16 rfl rfl)
theorem dX6_parts_17 : decode cX6_parts 17 = .ok (.istore 5, 2) := dk_54 5 (dk_at dksX6_parts_0 17 rfl rfl)
theorem dX6_parts_19 : decode cX6_parts 19 = .ok (.iload 5, 2) := dk_21 5 (dk_at dksX6_parts_0 19 rfl rfl)
theorem dX6_parts_21 : decode cX6_parts 21 = .ok (.iload_n 2, 1) := dk_28 (dk_at dksX6_parts_0 21 rfl rfl)
theorem dX6_parts_22 : decode cX6_parts 22 = .ok (.if_icmp .ge 69, 3) := dk_162 0 69 (dk_at dksX6_parts_1 0 rfl rfl)
theorem dX6_parts_25 : decode cX6_parts 25 = .ok (.iload 4, 2) := dk_21 4 (dk_at dksX6_parts_1 3 rfl rfl)
theorem dX6_parts_27 : decode cX6_parts 27 = .ok (.aload_n 0, 1) := dk_42 (dk_at dksX6_parts_1 5 rfl rfl)
theorem dX6_parts_28 : decode cX6_parts 28 = .ok (.getfield 101, 3) := dk_180 0 101 (dk_at dksX6_parts_1 6 rfl rfl)
theorem dX6_parts_31 : decode cX6_parts 31 = .ok (.iload 5, 2) := dk_21 5 (dk_at dksX6_parts_1 9 rfl rfl)
theorem dX6_parts_33 : decode cX6_parts 33 = .ok (.iaload, 1) := dk_46 (dk_at dksX6_parts_1 11 rfl rfl)
theorem dX6_parts_34 : decode cX6_parts 34 = .ok (.aload_n 0, 1) := dk_42 (dk_at dksX6_parts_1 12 rfl rfl)
theorem dX6_parts_35 : decode cX6_parts 35 = .ok (.getfield 98, 3) := dk_180 0 98 (dk_at dksX6_parts_1 13 rfl rfl)
theorem dX6_parts_38 : decode cX6_parts 38 = .ok (.iload 5, 2) := dk_21 5 (dk_at dksX6_parts_1 16 rfl rfl)
theorem dX6_parts_40 : decode cX6_parts 40 = .ok (.laload, 1) := dk_47 (dk_at dksX6_parts_1 18 rfl rfl)
theorem dX6_parts_41 : decode cX6_parts 41 = .ok (.invokestatic 432, 3) := dk_184 1 176 (dk_at dksX6_parts_1 19 rfl rfl)
theorem dX6_parts_44 : decode cX6_parts 44 = .ok (.imul, 1) := dk_104 (dk_at dksX6_parts_1 22 rfl rfl)
theorem dX6_parts_45 : decode cX6_parts 45 = .ok (.iadd, 1) := dk_96 (dk_at dksX6_parts_1 23 rfl rfl)
theorem dX6_parts_46 : decode cX6_parts 46 = .ok (.istore 4, 2) := dk_54 4 (dk_at dksX6_parts_2 0 rfl rfl)
theorem dX6_parts_48 : decode cX6_parts 48 = .ok (.iconst 0, 1) := dk_3 (dk_at dksX6_parts_2 2 rfl rfl)
theorem dX6_parts_49 : decode cX6_parts 49 = .ok (.istore 6, 2) := dk_54 6 (dk_at dksX6_parts_2 3 rfl rfl)
theorem dX6_parts_51 : decode cX6_parts 51 = .ok (.iload 6, 2) := dk_21 6 (dk_at dksX6_parts_2 5 rfl rfl)
theorem dX6_parts_53 : decode cX6_parts 53 = .ok (.iload 5, 2) := dk_21 5 (dk_at dksX6_parts_2 7 rfl rfl)
theorem dX6_parts_55 : decode cX6_parts 55 = .ok (.if_icmp .ge 30, 3) := dk_162 0 30 (dk_at dksX6_parts_2 9 rfl rfl)
theorem dX6_parts_58 : decode cX6_parts 58 = .ok (.aload_n 0, 1) := dk_42 (dk_at dksX6_parts_2 12 rfl rfl)
theorem dX6_parts_59 : decode cX6_parts 59 = .ok (.getfield 98, 3) := dk_180 0 98 (dk_at dksX6_parts_2 13 rfl rfl)
theorem dX6_parts_62 : decode cX6_parts 62 = .ok (.iload 5, 2) := dk_21 5 (dk_at dksX6_parts_2 16 rfl rfl)
theorem dX6_parts_64 : decode cX6_parts 64 = .ok (.laload, 1) := dk_47 (dk_at dksX6_parts_2 18 rfl rfl)
theorem dX6_parts_65 : decode cX6_parts 65 = .ok (.aload_n 0, 1) := dk_42 (dk_at dksX6_parts_2 19 rfl rfl)
theorem dX6_parts_66 : decode cX6_parts 66 = .ok (.getfield 98, 3) := dk_180 0 98 (dk_at dksX6_parts_2 20 rfl rfl)
theorem dX6_parts_69 : decode cX6_parts 69 = .ok (.iload 6, 2) := dk_21 6 (dk_at dksX6_parts_3 0 rfl rfl)
theorem dX6_parts_71 : decode cX6_parts 71 = .ok (.laload, 1) := dk_47 (dk_at dksX6_parts_3 2 rfl rfl)
theorem dX6_parts_72 : decode cX6_parts 72 = .ok (.land, 1) := dk_127 (dk_at dksX6_parts_3 3 rfl rfl)
theorem dX6_parts_73 : decode cX6_parts 73 = .ok (.lconst 0, 1) := dk_9 (dk_at dksX6_parts_3 4 rfl rfl)
theorem dX6_parts_74 : decode cX6_parts 74 = .ok (.lcmp, 1) := dk_148 (dk_at dksX6_parts_3 5 rfl rfl)
theorem dX6_parts_75 : decode cX6_parts 75 = .ok (.ifCond .eq 4, 3) := dk_153 0 4 (dk_at dksX6_parts_3 6 rfl rfl)
theorem dX6_parts_78 : decode cX6_parts 78 = .ok (.return_, 1) := dk_177 (dk_at dksX6_parts_3 9 rfl rfl)
theorem dX6_parts_79 : decode cX6_parts 79 = .ok (.iinc 6 1, 3) := dk_132 6 1 (dk_at dksX6_parts_3 10 rfl rfl)
theorem dX6_parts_82 : decode cX6_parts 82 = .ok (.goto (-31), 3) := dk_167 255 225 (dk_at dksX6_parts_3 13 rfl rfl)
theorem dX6_parts_85 : decode cX6_parts 85 = .ok (.iinc 5 1, 3) := dk_132 5 1 (dk_at dksX6_parts_3 16 rfl rfl)
theorem dX6_parts_88 : decode cX6_parts 88 = .ok (.goto (-69), 3) := dk_167 255 187 (dk_at dksX6_parts_3 19 rfl rfl)
theorem dX6_parts_91 : decode cX6_parts 91 = .ok (.iconst 0, 1) := dk_3 (dk_at dksX6_parts_3 22 rfl rfl)
theorem dX6_parts_92 : decode cX6_parts 92 = .ok (.istore 5, 2) := dk_54 5 (dk_at dksX6_parts_4 0 rfl rfl)
theorem dX6_parts_94 : decode cX6_parts 94 = .ok (.iload 5, 2) := dk_21 5 (dk_at dksX6_parts_4 2 rfl rfl)
theorem dX6_parts_96 : decode cX6_parts 96 = .ok (.iload_n 1, 1) := dk_27 (dk_at dksX6_parts_4 4 rfl rfl)
theorem dX6_parts_97 : decode cX6_parts 97 = .ok (.if_icmp .ge 24, 3) := dk_162 0 24 (dk_at dksX6_parts_4 5 rfl rfl)
theorem dX6_parts_100 : decode cX6_parts 100 = .ok (.iload 4, 2) := dk_21 4 (dk_at dksX6_parts_4 8 rfl rfl)
theorem dX6_parts_102 : decode cX6_parts 102 = .ok (.aload_n 0, 1) := dk_42 (dk_at dksX6_parts_4 10 rfl rfl)
theorem dX6_parts_103 : decode cX6_parts 103 = .ok (.getfield 92, 3) := dk_180 0 92 (dk_at dksX6_parts_4 11 rfl rfl)
theorem dX6_parts_106 : decode cX6_parts 106 = .ok (.iload 5, 2) := dk_21 5 (dk_at dksX6_parts_4 14 rfl rfl)
theorem dX6_parts_108 : decode cX6_parts 108 = .ok (.laload, 1) := dk_47 (dk_at dksX6_parts_4 16 rfl rfl)
theorem dX6_parts_109 : decode cX6_parts 109 = .ok (.invokestatic 432, 3) := dk_184 1 176 (dk_at dksX6_parts_4 17 rfl rfl)
theorem dX6_parts_112 : decode cX6_parts 112 = .ok (.isub, 1) := dk_100 (dk_at dksX6_parts_4 20 rfl rfl)
theorem dX6_parts_113 : decode cX6_parts 113 = .ok (.istore 4, 2) := dk_54 4 (dk_at dksX6_parts_4 21 rfl rfl)
theorem dX6_parts_115 : decode cX6_parts 115 = .ok (.iinc 5 1, 3) := dk_132 5 1 (dk_at dksX6_parts_5 0 rfl rfl)
theorem dX6_parts_118 : decode cX6_parts 118 = .ok (.goto (-24), 3) := dk_167 255 232 (dk_at dksX6_parts_5 3 rfl rfl)
theorem dX6_parts_121 : decode cX6_parts 121 = .ok (.aload_n 0, 1) := dk_42 (dk_at dksX6_parts_5 6 rfl rfl)
theorem dX6_parts_122 : decode cX6_parts 122 = .ok (.aload_n 0, 1) := dk_42 (dk_at dksX6_parts_5 7 rfl rfl)
theorem dX6_parts_123 : decode cX6_parts 123 = .ok (.getfield 438, 3) := dk_180 1 182 (dk_at dksX6_parts_5 8 rfl rfl)
theorem dX6_parts_126 : decode cX6_parts 126 = .ok (.ifCond .ge 8, 3) := dk_156 0 8 (dk_at dksX6_parts_5 11 rfl rfl)
theorem dX6_parts_129 : decode cX6_parts 129 = .ok (.iload 4, 2) := dk_21 4 (dk_at dksX6_parts_5 14 rfl rfl)
theorem dX6_parts_131 : decode cX6_parts 131 = .ok (.goto 12, 3) := dk_167 0 12 (dk_at dksX6_parts_5 16 rfl rfl)
theorem dX6_parts_134 : decode cX6_parts 134 = .ok (.aload_n 0, 1) := dk_42 (dk_at dksX6_parts_5 19 rfl rfl)
theorem dX6_parts_135 : decode cX6_parts 135 = .ok (.getfield 438, 3) := dk_180 1 182 (dk_at dksX6_parts_5 20 rfl rfl)
theorem dX6_parts_138 : decode cX6_parts 138 = .ok (.iload 4, 2) := dk_21 4 (dk_at dksX6_parts_6 0 rfl rfl)
theorem dX6_parts_140 : decode cX6_parts 140 = .ok (.invokestatic 427, 3) := dk_184 1 171 (dk_at dksX6_parts_6 2 rfl rfl)
theorem dX6_parts_143 : decode cX6_parts 143 = .ok (.putfield 438, 3) := dk_181 1 182 (dk_at dksX6_parts_6 5 rfl rfl)
theorem dX6_parts_146 : decode cX6_parts 146 = .ok (.return_, 1) := dk_177 (dk_at dksX6_parts_6 8 rfl rfl)
theorem dX6_parts_147 : decode cX6_parts 147 = .ok (.iconst 0, 1) := dk_3 (dk_at dksX6_parts_6 9 rfl rfl)
theorem dX6_parts_148 : decode cX6_parts 148 = .ok (.istore 4, 2) := dk_54 4 (dk_at dksX6_parts_6 10 rfl rfl)
theorem dX6_parts_150 : decode cX6_parts 150 = .ok (.iload 4, 2) := dk_21 4 (dk_at dksX6_parts_6 12 rfl rfl)
theorem dX6_parts_152 : decode cX6_parts 152 = .ok (.iload_n 2, 1) := dk_28 (dk_at dksX6_parts_6 14 rfl rfl)
theorem dX6_parts_153 : decode cX6_parts 153 = .ok (.if_icmp .gt 119, 3) := dk_163 0 119 (dk_at dksX6_parts_6 15 rfl rfl)
theorem dX6_parts_156 : decode cX6_parts 156 = .ok (.iload 4, 2) := dk_21 4 (dk_at dksX6_parts_6 18 rfl rfl)
theorem dX6_parts_158 : decode cX6_parts 158 = .ok (.iload_n 3, 1) := dk_29 (dk_at dksX6_parts_6 20 rfl rfl)
theorem dX6_parts_159 : decode cX6_parts 159 = .ok (.if_icmp .ge 113, 3) := dk_162 0 113 (dk_at dksX6_parts_6 21 rfl rfl)
theorem dX6_parts_162 : decode cX6_parts 162 = .ok (.iload 4, 2) := dk_21 4 (dk_at dksX6_parts_7 0 rfl rfl)
theorem dX6_parts_164 : decode cX6_parts 164 = .ok (.iload_n 2, 1) := dk_28 (dk_at dksX6_parts_7 2 rfl rfl)
theorem dX6_parts_165 : decode cX6_parts 165 = .ok (.if_icmp .ne 7, 3) := dk_160 0 7 (dk_at dksX6_parts_7 3 rfl rfl)
theorem dX6_parts_168 : decode cX6_parts 168 = .ok (.lconst 0, 1) := dk_9 (dk_at dksX6_parts_7 6 rfl rfl)
theorem dX6_parts_169 : decode cX6_parts 169 = .ok (.goto 10, 3) := dk_167 0 10 (dk_at dksX6_parts_7 7 rfl rfl)
theorem dX6_parts_172 : decode cX6_parts 172 = .ok (.aload_n 0, 1) := dk_42 (dk_at dksX6_parts_7 10 rfl rfl)
theorem dX6_parts_173 : decode cX6_parts 173 = .ok (.getfield 98, 3) := dk_180 0 98 (dk_at dksX6_parts_7 11 rfl rfl)
theorem dX6_parts_176 : decode cX6_parts 176 = .ok (.iload 4, 2) := dk_21 4 (dk_at dksX6_parts_7 14 rfl rfl)
theorem dX6_parts_178 : decode cX6_parts 178 = .ok (.laload, 1) := dk_47 (dk_at dksX6_parts_7 16 rfl rfl)
theorem dX6_parts_179 : decode cX6_parts 179 = .ok (.lstore 5, 2) := dk_55 5 (dk_at dksX6_parts_7 17 rfl rfl)
theorem dX6_parts_181 : decode cX6_parts 181 = .ok (.iload 4, 2) := dk_21 4 (dk_at dksX6_parts_7 19 rfl rfl)
theorem dX6_parts_183 : decode cX6_parts 183 = .ok (.iload_n 2, 1) := dk_28 (dk_at dksX6_parts_7 21 rfl rfl)
theorem dX6_parts_184 : decode cX6_parts 184 = .ok (.if_icmp .ne 7, 3) := dk_160 0 7 (dk_at dksX6_parts_8 0 rfl rfl)
theorem dX6_parts_187 : decode cX6_parts 187 = .ok (.iconst 0, 1) := dk_3 (dk_at dksX6_parts_8 3 rfl rfl)
theorem dX6_parts_188 : decode cX6_parts 188 = .ok (.goto 10, 3) := dk_167 0 10 (dk_at dksX6_parts_8 4 rfl rfl)
theorem dX6_parts_191 : decode cX6_parts 191 = .ok (.aload_n 0, 1) := dk_42 (dk_at dksX6_parts_8 7 rfl rfl)
theorem dX6_parts_192 : decode cX6_parts 192 = .ok (.getfield 101, 3) := dk_180 0 101 (dk_at dksX6_parts_8 8 rfl rfl)
theorem dX6_parts_195 : decode cX6_parts 195 = .ok (.iload 4, 2) := dk_21 4 (dk_at dksX6_parts_8 11 rfl rfl)
theorem dX6_parts_197 : decode cX6_parts 197 = .ok (.iaload, 1) := dk_46 (dk_at dksX6_parts_8 13 rfl rfl)
theorem dX6_parts_198 : decode cX6_parts 198 = .ok (.istore 7, 2) := dk_54 7 (dk_at dksX6_parts_8 14 rfl rfl)
theorem dX6_parts_200 : decode cX6_parts 200 = .ok (.aload_n 0, 1) := dk_42 (dk_at dksX6_parts_8 16 rfl rfl)
theorem dX6_parts_201 : decode cX6_parts 201 = .ok (.getfield 98, 3) := dk_180 0 98 (dk_at dksX6_parts_8 17 rfl rfl)
theorem dX6_parts_204 : decode cX6_parts 204 = .ok (.iload 4, 2) := dk_21 4 (dk_at dksX6_parts_8 20 rfl rfl)
theorem dX6_parts_206 : decode cX6_parts 206 = .ok (.lload 5, 2) := dk_22 5 (dk_at dksX6_parts_8 22 rfl rfl)
theorem dX6_parts_208 : decode cX6_parts 208 = .ok (.aload_n 0, 1) := dk_42 (dk_at dksX6_parts_9 0 rfl rfl)
theorem dX6_parts_209 : decode cX6_parts 209 = .ok (.getfield 92, 3) := dk_180 0 92 (dk_at dksX6_parts_9 1 rfl rfl)
theorem dX6_parts_212 : decode cX6_parts 212 = .ok (.iload_n 1, 1) := dk_27 (dk_at dksX6_parts_9 4 rfl rfl)
theorem dX6_parts_213 : decode cX6_parts 213 = .ok (.laload, 1) := dk_47 (dk_at dksX6_parts_9 5 rfl rfl)
theorem dX6_parts_214 : decode cX6_parts 214 = .ok (.lor, 1) := dk_129 (dk_at dksX6_parts_9 6 rfl rfl)
theorem dX6_parts_215 : decode cX6_parts 215 = .ok (.lastore, 1) := dk_80 (dk_at dksX6_parts_9 7 rfl rfl)
theorem dX6_parts_216 : decode cX6_parts 216 = .ok (.aload_n 0, 1) := dk_42 (dk_at dksX6_parts_9 8 rfl rfl)
theorem dX6_parts_217 : decode cX6_parts 217 = .ok (.getfield 101, 3) := dk_180 0 101 (dk_at dksX6_parts_9 9 rfl rfl)
theorem dX6_parts_220 : decode cX6_parts 220 = .ok (.iload 4, 2) := dk_21 4 (dk_at dksX6_parts_9 12 rfl rfl)
theorem dX6_parts_222 : decode cX6_parts 222 = .ok (.iload 7, 2) := dk_21 7 (dk_at dksX6_parts_9 14 rfl rfl)
theorem dX6_parts_224 : decode cX6_parts 224 = .ok (.iconst 1, 1) := dk_4 (dk_at dksX6_parts_9 16 rfl rfl)
theorem dX6_parts_225 : decode cX6_parts 225 = .ok (.iadd, 1) := dk_96 (dk_at dksX6_parts_9 17 rfl rfl)
theorem dX6_parts_226 : decode cX6_parts 226 = .ok (.iastore, 1) := dk_79 (dk_at dksX6_parts_9 18 rfl rfl)
theorem dX6_parts_227 : decode cX6_parts 227 = .ok (.aload_n 0, 1) := dk_42 (dk_at dksX6_parts_9 19 rfl rfl)
theorem dX6_parts_228 : decode cX6_parts 228 = .ok (.iload_n 1, 1) := dk_27 (dk_at dksX6_parts_9 20 rfl rfl)
theorem dX6_parts_229 : decode cX6_parts 229 = .ok (.iconst 1, 1) := dk_4 (dk_at dksX6_parts_9 21 rfl rfl)
theorem dX6_parts_230 : decode cX6_parts 230 = .ok (.iadd, 1) := dk_96 (dk_at dksX6_parts_9 22 rfl rfl)
theorem dX6_parts_231 : decode cX6_parts 231 = .ok (.iload 4, 2) := dk_21 4 (dk_at dksX6_parts_10 0 rfl rfl)
theorem dX6_parts_233 : decode cX6_parts 233 = .ok (.iload_n 2, 1) := dk_28 (dk_at dksX6_parts_10 2 rfl rfl)
theorem dX6_parts_234 : decode cX6_parts 234 = .ok (.if_icmp .ne 9, 3) := dk_160 0 9 (dk_at dksX6_parts_10 3 rfl rfl)
theorem dX6_parts_237 : decode cX6_parts 237 = .ok (.iload_n 2, 1) := dk_28 (dk_at dksX6_parts_10 6 rfl rfl)
theorem dX6_parts_238 : decode cX6_parts 238 = .ok (.iconst 1, 1) := dk_4 (dk_at dksX6_parts_10 7 rfl rfl)
theorem dX6_parts_239 : decode cX6_parts 239 = .ok (.iadd, 1) := dk_96 (dk_at dksX6_parts_10 8 rfl rfl)
theorem dX6_parts_240 : decode cX6_parts 240 = .ok (.goto 4, 3) := dk_167 0 4 (dk_at dksX6_parts_10 9 rfl rfl)
theorem dX6_parts_243 : decode cX6_parts 243 = .ok (.iload_n 2, 1) := dk_28 (dk_at dksX6_parts_10 12 rfl rfl)
theorem dX6_parts_244 : decode cX6_parts 244 = .ok (.iload_n 3, 1) := dk_29 (dk_at dksX6_parts_10 13 rfl rfl)
theorem dX6_parts_245 : decode cX6_parts 245 = .ok (.invokevirtual 441, 3) := dk_182 1 185 (dk_at dksX6_parts_10 14 rfl rfl)
theorem dX6_parts_248 : decode cX6_parts 248 = .ok (.aload_n 0, 1) := dk_42 (dk_at dksX6_parts_10 17 rfl rfl)
theorem dX6_parts_249 : decode cX6_parts 249 = .ok (.getfield 98, 3) := dk_180 0 98 (dk_at dksX6_parts_10 18 rfl rfl)
theorem dX6_parts_252 : decode cX6_parts 252 = .ok (.iload 4, 2) := dk_21 4 (dk_at dksX6_parts_10 21 rfl rfl)
theorem dX6_parts_254 : decode cX6_parts 254 = .ok (.lload 5, 2) := dk_22 5 (dk_at dksX6_parts_11 0 rfl rfl)
theorem dX6_parts_256 : decode cX6_parts 256 = .ok (.lastore, 1) := dk_80 (dk_at dksX6_parts_11 2 rfl rfl)
theorem dX6_parts_257 : decode cX6_parts 257 = .ok (.aload_n 0, 1) := dk_42 (dk_at dksX6_parts_11 3 rfl rfl)
theorem dX6_parts_258 : decode cX6_parts 258 = .ok (.getfield 101, 3) := dk_180 0 101 (dk_at dksX6_parts_11 4 rfl rfl)
theorem dX6_parts_261 : decode cX6_parts 261 = .ok (.iload 4, 2) := dk_21 4 (dk_at dksX6_parts_11 7 rfl rfl)
theorem dX6_parts_263 : decode cX6_parts 263 = .ok (.iload 7, 2) := dk_21 7 (dk_at dksX6_parts_11 9 rfl rfl)
theorem dX6_parts_265 : decode cX6_parts 265 = .ok (.iastore, 1) := dk_79 (dk_at dksX6_parts_11 11 rfl rfl)
theorem dX6_parts_266 : decode cX6_parts 266 = .ok (.iinc 4 1, 3) := dk_132 4 1 (dk_at dksX6_parts_11 12 rfl rfl)
theorem dX6_parts_269 : decode cX6_parts 269 = .ok (.goto (-119), 3) := dk_167 255 137 (dk_at dksX6_parts_11 15 rfl rfl)
theorem dX6_parts_272 : decode cX6_parts 272 = .ok (.return_, 1) := dk_177 (dk_at dksX6_parts_11 18 rfl rfl)
def dkwX6_fence_6 : List UInt8 := [131, 127, 9, 148, 153, 0, 6, 21, 10, 172, 132, 10, 1, 167, 255, 200, 2, 172]
abbrev dktX6_fence_6 : List UInt8 := dkwX6_fence_6 ++ []
def dkwX6_fence_5 : List UInt8 := [21, 10, 27, 28, 184, 0, 116, 154, 0, 27, 42, 180, 0, 74, 21, 10, 47, 22, 8, 127, 33, 20, 1, 188]
abbrev dktX6_fence_5 : List UInt8 := dkwX6_fence_5 ++ dktX6_fence_6
def dkwX6_fence_4 : List UInt8 := [55, 8, 3, 54, 10, 21, 10, 42, 182, 0, 112, 162, 0, 53, 22, 6, 21, 10, 184, 1, 39, 153, 0, 37]
abbrev dktX6_fence_4 : List UInt8 := dkwX6_fence_4 ++ dktX6_fence_5
def dkwX6_fence_3 : List UInt8 := [182, 1, 114, 42, 21, 5, 182, 1, 117, 42, 182, 1, 120, 55, 6, 10, 28, 4, 96, 121, 10, 27, 121, 101]
abbrev dktX6_fence_3 : List UInt8 := dkwX6_fence_3 ++ dktX6_fence_4
def dkwX6_fence_2 : List UInt8 := [164, 0, 7, 4, 167, 0, 4, 3, 5, 182, 0, 230, 153, 0, 5, 3, 172, 42, 182, 1, 13, 42]
abbrev dktX6_fence_2 : List UInt8 := dkwX6_fence_2 ++ dktX6_fence_3
def dkwX6_fence_1 : List UInt8 := [21, 5, 182, 1, 111, 153, 0, 7, 4, 167, 0, 4, 3, 4, 182, 0, 230, 154, 0, 21, 42, 27, 28]
abbrev dktX6_fence_1 : List UInt8 := dkwX6_fence_1 ++ dktX6_fence_2
def dkwX6_fence_0 : List UInt8 := [42, 3, 181, 0, 3, 42, 42, 27, 182, 0, 234, 154, 0, 20, 42, 28, 182, 0, 234, 154, 0, 12, 42]
abbrev dktX6_fence_0 : List UInt8 := dkwX6_fence_0 ++ dktX6_fence_1
theorem dksX6_fence_0 : cX6_fence.data.toList.drop 0 = dktX6_fence_0 := by decide +kernel
theorem dksX6_fence_1 : cX6_fence.data.toList.drop 23 = dktX6_fence_1 := dk_seg dksX6_fence_0 23 rfl rfl
theorem dksX6_fence_2 : cX6_fence.data.toList.drop 46 = dktX6_fence_2 := dk_seg dksX6_fence_1 23 rfl rfl
theorem dksX6_fence_3 : cX6_fence.data.toList.drop 68 = dktX6_fence_3 := dk_seg dksX6_fence_2 22 rfl rfl
theorem dksX6_fence_4 : cX6_fence.data.toList.drop 92 = dktX6_fence_4 := dk_seg dksX6_fence_3 24 rfl rfl
theorem dksX6_fence_5 : cX6_fence.data.toList.drop 116 = dktX6_fence_5 := dk_seg dksX6_fence_4 24 rfl rfl
theorem dksX6_fence_6 : cX6_fence.data.toList.drop 140 = dktX6_fence_6 := dk_seg dksX6_fence_5 24 rfl rfl
theorem dX6_fence_0 : decode cX6_fence 0 = .ok (.aload_n 0, 1) := dk_42 (dk_at dksX6_fence_0 0 rfl rfl)
theorem dX6_fence_1 : decode cX6_fence 1 = .ok (.iconst 0, 1) := dk_3 (dk_at dksX6_fence_0 1 rfl rfl)
theorem dX6_fence_2 : decode cX6_fence 2 = .ok (.putfield 3, 3) := dk_181 0 3 (dk_at dksX6_fence_0 2 rfl rfl)
theorem dX6_fence_5 : decode cX6_fence 5 = .ok (.aload_n 0, 1) := dk_42 (dk_at dksX6_fence_0 5 rfl rfl)
theorem dX6_fence_6 : decode cX6_fence 6 = .ok (.aload_n 0, 1) := dk_42 (dk_at dksX6_fence_0 6 rfl rfl)
theorem dX6_fence_7 : decode cX6_fence 7 = .ok (.iload_n 1, 1) := dk_27 (dk_at dksX6_fence_0 7 rfl rfl)
theorem dX6_fence_8 : decode cX6_fence 8 = .ok (.invokevirtual 234, 3) := dk_182 0 234 (dk_at dksX6_fence_0 8 rfl rfl)
theorem dX6_fence_11 : decode cX6_fence 11 = .ok (.ifCond .ne 20, 3) := dk_154 0 20 (dk_at dksX6_fence_0 11 rfl rfl)
theorem dX6_fence_14 : decode cX6_fence 14 = .ok (.aload_n 0, 1) := dk_42 (dk_at dksX6_fence_0 14 rfl rfl)
theorem dX6_fence_15 : decode cX6_fence 15 = .ok (.iload_n 2, 1) := dk_28 (dk_at dksX6_fence_0 15 rfl rfl)
theorem dX6_fence_16 : decode cX6_fence 16 = .ok (.invokevirtual 234, 3) := dk_182 0 234 (dk_at dksX6_fence_0 16 rfl rfl)
theorem dX6_fence_19 : decode cX6_fence 19 = .ok (.ifCond .ne 12, 3) := dk_154 0 12 (dk_at dksX6_fence_0 19 rfl rfl)
theorem dX6_fence_22 : decode cX6_fence 22 = .ok (.aload_n 0, 1) := dk_42 (dk_at dksX6_fence_0 22 rfl rfl)
theorem dX6_fence_23 : decode cX6_fence 23 = .ok (.iload 5, 2) := dk_21 5 (dk_at dksX6_fence_1 0 rfl rfl)
theorem dX6_fence_25 : decode cX6_fence 25 = .ok (.invokevirtual 367, 3) := dk_182 1 111 (dk_at dksX6_fence_1 2 rfl rfl)
theorem dX6_fence_28 : decode cX6_fence 28 = .ok (.ifCond .eq 7, 3) := dk_153 0 7 (dk_at dksX6_fence_1 5 rfl rfl)
theorem dX6_fence_31 : decode cX6_fence 31 = .ok (.iconst 1, 1) := dk_4 (dk_at dksX6_fence_1 8 rfl rfl)
theorem dX6_fence_32 : decode cX6_fence 32 = .ok (.goto 4, 3) := dk_167 0 4 (dk_at dksX6_fence_1 9 rfl rfl)
theorem dX6_fence_35 : decode cX6_fence 35 = .ok (.iconst 0, 1) := dk_3 (dk_at dksX6_fence_1 12 rfl rfl)
theorem dX6_fence_36 : decode cX6_fence 36 = .ok (.iconst 1, 1) := dk_4 (dk_at dksX6_fence_1 13 rfl rfl)
theorem dX6_fence_37 : decode cX6_fence 37 = .ok (.invokevirtual 230, 3) := dk_182 0 230 (dk_at dksX6_fence_1 14 rfl rfl)
theorem dX6_fence_40 : decode cX6_fence 40 = .ok (.ifCond .ne 21, 3) := dk_154 0 21 (dk_at dksX6_fence_1 17 rfl rfl)
theorem dX6_fence_43 : decode cX6_fence 43 = .ok (.aload_n 0, 1) := dk_42 (dk_at dksX6_fence_1 20 rfl rfl)
theorem dX6_fence_44 : decode cX6_fence 44 = .ok (.iload_n 1, 1) := dk_27 (dk_at dksX6_fence_1 21 rfl rfl)
theorem dX6_fence_45 : decode cX6_fence 45 = .ok (.iload_n 2, 1) := dk_28 (dk_at dksX6_fence_1 22 rfl rfl)
theorem dX6_fence_46 : decode cX6_fence 46 = .ok (.if_icmp .le 7, 3) := dk_164 0 7 (dk_at dksX6_fence_2 0 rfl rfl)
theorem dX6_fence_49 : decode cX6_fence 49 = .ok (.iconst 1, 1) := dk_4 (dk_at dksX6_fence_2 3 rfl rfl)
theorem dX6_fence_50 : decode cX6_fence 50 = .ok (.goto 4, 3) := dk_167 0 4 (dk_at dksX6_fence_2 4 rfl rfl)
theorem dX6_fence_53 : decode cX6_fence 53 = .ok (.iconst 0, 1) := dk_3 (dk_at dksX6_fence_2 7 rfl rfl)
theorem dX6_fence_54 : decode cX6_fence 54 = .ok (.iconst 2, 1) := dk_5 (dk_at dksX6_fence_2 8 rfl rfl)
theorem dX6_fence_55 : decode cX6_fence 55 = .ok (.invokevirtual 230, 3) := dk_182 0 230 (dk_at dksX6_fence_2 9 rfl rfl)
theorem dX6_fence_58 : decode cX6_fence 58 = .ok (.ifCond .eq 5, 3) := dk_153 0 5 (dk_at dksX6_fence_2 12 rfl rfl)
theorem dX6_fence_61 : decode cX6_fence 61 = .ok (.iconst 0, 1) := dk_3 (dk_at dksX6_fence_2 15 rfl rfl)
theorem dX6_fence_62 : decode cX6_fence 62 = .ok (.ireturn, 1) := dk_172 (dk_at dksX6_fence_2 16 rfl rfl)
theorem dX6_fence_63 : decode cX6_fence 63 = .ok (.aload_n 0, 1) := dk_42 (dk_at dksX6_fence_2 17 rfl rfl)
theorem dX6_fence_64 : decode cX6_fence 64 = .ok (.invokevirtual 269, 3) := dk_182 1 13 (dk_at dksX6_fence_2 18 rfl rfl)
theorem dX6_fence_67 : decode cX6_fence 67 = .ok (.aload_n 0, 1) := dk_42 (dk_at dksX6_fence_2 21 rfl rfl)
theorem dX6_fence_68 : decode cX6_fence 68 = .ok (.invokevirtual 370, 3) := dk_182 1 114 (dk_at dksX6_fence_3 0 rfl rfl)
theorem dX6_fence_71 : decode cX6_fence 71 = .ok (.aload_n 0, 1) := dk_42 (dk_at dksX6_fence_3 3 rfl rfl)
theorem dX6_fence_72 : decode cX6_fence 72 = .ok (.iload 5, 2) := dk_21 5 (dk_at dksX6_fence_3 4 rfl rfl)
theorem dX6_fence_74 : decode cX6_fence 74 = .ok (.invokevirtual 373, 3) := dk_182 1 117 (dk_at dksX6_fence_3 6 rfl rfl)
theorem dX6_fence_77 : decode cX6_fence 77 = .ok (.aload_n 0, 1) := dk_42 (dk_at dksX6_fence_3 9 rfl rfl)
theorem dX6_fence_78 : decode cX6_fence 78 = .ok (.invokevirtual 376, 3) := dk_182 1 120 (dk_at dksX6_fence_3 10 rfl rfl)
theorem dX6_fence_81 : decode cX6_fence 81 = .ok (.lstore 6, 2) := dk_55 6 (dk_at dksX6_fence_3 13 rfl rfl)
theorem dX6_fence_83 : decode cX6_fence 83 = .ok (.lconst 1, 1) := dk_10 (dk_at dksX6_fence_3 15 rfl rfl)
theorem dX6_fence_84 : decode cX6_fence 84 = .ok (.iload_n 2, 1) := dk_28 (dk_at dksX6_fence_3 16 rfl rfl)
theorem dX6_fence_85 : decode cX6_fence 85 = .ok (.iconst 1, 1) := dk_4 (dk_at dksX6_fence_3 17 rfl rfl)
theorem dX6_fence_86 : decode cX6_fence 86 = .ok (.iadd, 1) := dk_96 (dk_at dksX6_fence_3 18 rfl rfl)
theorem dX6_fence_87 : decode cX6_fence 87 = .ok (.lshl, 1) := dk_121 (dk_at dksX6_fence_3 19 rfl rfl)
theorem dX6_fence_88 : decode cX6_fence 88 = .ok (.lconst 1, 1) := dk_10 (dk_at dksX6_fence_3 20 rfl rfl)
theorem dX6_fence_89 : decode cX6_fence 89 = .ok (.iload_n 1, 1) := dk_27 (dk_at dksX6_fence_3 21 rfl rfl)
theorem dX6_fence_90 : decode cX6_fence 90 = .ok (.lshl, 1) := dk_121 (dk_at dksX6_fence_3 22 rfl rfl)
theorem dX6_fence_91 : decode cX6_fence 91 = .ok (.lsub, 1) := dk_101 (dk_at dksX6_fence_3 23 rfl rfl)
theorem dX6_fence_92 : decode cX6_fence 92 = .ok (.lstore 8, 2) := dk_55 8 (dk_at dksX6_fence_4 0 rfl rfl)
theorem dX6_fence_94 : decode cX6_fence 94 = .ok (.iconst 0, 1) := dk_3 (dk_at dksX6_fence_4 2 rfl rfl)
theorem dX6_fence_95 : decode cX6_fence 95 = .ok (.istore 10, 2) := dk_54 10 (dk_at dksX6_fence_4 3 rfl rfl)
theorem dX6_fence_97 : decode cX6_fence 97 = .ok (.iload 10, 2) := dk_21 10 (dk_at dksX6_fence_4 5 rfl rfl)
theorem dX6_fence_99 : decode cX6_fence 99 = .ok (.aload_n 0, 1) := dk_42 (dk_at dksX6_fence_4 7 rfl rfl)
theorem dX6_fence_100 : decode cX6_fence 100 = .ok (.invokevirtual 112, 3) := dk_182 0 112 (dk_at dksX6_fence_4 8 rfl rfl)
theorem dX6_fence_103 : decode cX6_fence 103 = .ok (.if_icmp .ge 53, 3) := dk_162 0 53 (dk_at dksX6_fence_4 11 rfl rfl)
theorem dX6_fence_106 : decode cX6_fence 106 = .ok (.lload 6, 2) := dk_22 6 (dk_at dksX6_fence_4 14 rfl rfl)
theorem dX6_fence_108 : decode cX6_fence 108 = .ok (.iload 10, 2) := dk_21 10 (dk_at dksX6_fence_4 16 rfl rfl)
theorem dX6_fence_110 : decode cX6_fence 110 = .ok (.invokestatic 295, 3) := dk_184 1 39 (dk_at dksX6_fence_4 18 rfl rfl)
theorem dX6_fence_113 : decode cX6_fence 113 = .ok (.ifCond .eq 37, 3) := dk_153 0 37 (dk_at dksX6_fence_4 21 rfl rfl)
theorem dX6_fence_116 : decode cX6_fence 116 = .ok (.iload 10, 2) := dk_21 10 (dk_at dksX6_fence_5 0 rfl rfl)
theorem dX6_fence_118 : decode cX6_fence 118 = .ok (.iload_n 1, 1) := dk_27 (dk_at dksX6_fence_5 2 rfl rfl)
theorem dX6_fence_119 : decode cX6_fence 119 = .ok (.iload_n 2, 1) := dk_28 (dk_at dksX6_fence_5 3 rfl rfl)
theorem dX6_fence_120 : decode cX6_fence 120 = .ok (.invokestatic 116, 3) := dk_184 0 116 (dk_at dksX6_fence_5 4 rfl rfl)
theorem dX6_fence_123 : decode cX6_fence 123 = .ok (.ifCond .ne 27, 3) := dk_154 0 27 (dk_at dksX6_fence_5 7 rfl rfl)
theorem dX6_fence_126 : decode cX6_fence 126 = .ok (.aload_n 0, 1) := dk_42 (dk_at dksX6_fence_5 10 rfl rfl)
theorem dX6_fence_127 : decode cX6_fence 127 = .ok (.getfield 74, 3) := dk_180 0 74 (dk_at dksX6_fence_5 11 rfl rfl)
theorem dX6_fence_130 : decode cX6_fence 130 = .ok (.iload 10, 2) := dk_21 10 (dk_at dksX6_fence_5 14 rfl rfl)
theorem dX6_fence_132 : decode cX6_fence 132 = .ok (.laload, 1) := dk_47 (dk_at dksX6_fence_5 16 rfl rfl)
theorem dX6_fence_133 : decode cX6_fence 133 = .ok (.lload 8, 2) := dk_22 8 (dk_at dksX6_fence_5 17 rfl rfl)
theorem dX6_fence_135 : decode cX6_fence 135 = .ok (.land, 1) := dk_127 (dk_at dksX6_fence_5 19 rfl rfl)
theorem dX6_fence_136 : decode cX6_fence 136 = .ok (.lload_n 3, 1) := dk_33 (dk_at dksX6_fence_5 20 rfl rfl)
theorem dX6_fence_137 : decode cX6_fence 137 = .ok (.ldc2_w 444, 3) := dk_20 1 188 (dk_at dksX6_fence_5 21 rfl rfl)
theorem dX6_fence_140 : decode cX6_fence 140 = .ok (.lxor, 1) := dk_131 (dk_at dksX6_fence_6 0 rfl rfl)
theorem dX6_fence_141 : decode cX6_fence 141 = .ok (.land, 1) := dk_127 (dk_at dksX6_fence_6 1 rfl rfl)
theorem dX6_fence_142 : decode cX6_fence 142 = .ok (.lconst 0, 1) := dk_9 (dk_at dksX6_fence_6 2 rfl rfl)
theorem dX6_fence_143 : decode cX6_fence 143 = .ok (.lcmp, 1) := dk_148 (dk_at dksX6_fence_6 3 rfl rfl)
theorem dX6_fence_144 : decode cX6_fence 144 = .ok (.ifCond .eq 6, 3) := dk_153 0 6 (dk_at dksX6_fence_6 4 rfl rfl)
theorem dX6_fence_147 : decode cX6_fence 147 = .ok (.iload 10, 2) := dk_21 10 (dk_at dksX6_fence_6 7 rfl rfl)
theorem dX6_fence_149 : decode cX6_fence 149 = .ok (.ireturn, 1) := dk_172 (dk_at dksX6_fence_6 9 rfl rfl)
theorem dX6_fence_150 : decode cX6_fence 150 = .ok (.iinc 10 1, 3) := dk_132 10 1 (dk_at dksX6_fence_6 10 rfl rfl)
theorem dX6_fence_153 : decode cX6_fence 153 = .ok (.goto (-56), 3) := dk_167 255 200 (dk_at dksX6_fence_6 13 rfl rfl)
theorem dX6_fence_156 : decode cX6_fence 156 = .ok (.iconst (-1), 1) := dk_2 (dk_at dksX6_fence_6 16 rfl rfl)
theorem dX6_fence_157 : decode cX6_fence 157 = .ok (.ireturn, 1) := dk_172 (dk_at dksX6_fence_6 17 rfl rfl)
def dkwX6_late_3 : List UInt8 := [100, 172]
abbrev dktX6_late_3 : List UInt8 := dkwX6_late_3 ++ []
def dkwX6_late_2 : List UInt8 := [180, 1, 75, 27, 96, 4, 100, 27, 108, 27, 104, 61, 28, 42, 180, 1, 66, 184, 1, 171, 42, 180, 1, 75]
abbrev dktX6_late_2 : List UInt8 := dkwX6_late_2 ++ dktX6_late_3
def dkwX6_late_1 : List UInt8 := [182, 0, 230, 153, 0, 5, 3, 172, 42, 4, 3, 182, 1, 96, 42, 180, 1, 75, 154, 0, 5, 2, 172, 42]
abbrev dktX6_late_1 : List UInt8 := dkwX6_late_1 ++ dktX6_late_2
def dkwX6_late_0 : List UInt8 := [42, 3, 181, 0, 3, 42, 27, 4, 16, 20, 184, 0, 116, 154, 0, 7, 4, 167, 0, 4, 3, 4]
abbrev dktX6_late_0 : List UInt8 := dkwX6_late_0 ++ dktX6_late_1
theorem dksX6_late_0 : cX6_late.data.toList.drop 0 = dktX6_late_0 := by decide +kernel
theorem dksX6_late_1 : cX6_late.data.toList.drop 22 = dktX6_late_1 := dk_seg dksX6_late_0 22 rfl rfl
theorem dksX6_late_2 : cX6_late.data.toList.drop 46 = dktX6_late_2 := dk_seg dksX6_late_1 24 rfl rfl
theorem dksX6_late_3 : cX6_late.data.toList.drop 70 = dktX6_late_3 := dk_seg dksX6_late_2 24 rfl rfl
theorem dX6_late_0 : decode cX6_late 0 = .ok (.aload_n 0, 1) := dk_42 (dk_at dksX6_late_0 0 rfl rfl)
theorem dX6_late_1 : decode cX6_late 1 = .ok (.iconst 0, 1) := dk_3 (dk_at dksX6_late_0 1 rfl rfl)
theorem dX6_late_2 : decode cX6_late 2 = .ok (.putfield 3, 3) := dk_181 0 3 (dk_at dksX6_late_0 2 rfl rfl)
theorem dX6_late_5 : decode cX6_late 5 = .ok (.aload_n 0, 1) := dk_42 (dk_at dksX6_late_0 5 rfl rfl)
theorem dX6_late_6 : decode cX6_late 6 = .ok (.iload_n 1, 1) := dk_27 (dk_at dksX6_late_0 6 rfl rfl)
theorem dX6_late_7 : decode cX6_late 7 = .ok (.iconst 1, 1) := dk_4 (dk_at dksX6_late_0 7 rfl rfl)
theorem dX6_late_8 : decode cX6_late 8 = .ok (.bipush 20, 2) := dk_16 20 (dk_at dksX6_late_0 8 rfl rfl)
theorem dX6_late_10 : decode cX6_late 10 = .ok (.invokestatic 116, 3) := dk_184 0 116 (dk_at dksX6_late_0 10 rfl rfl)
theorem dX6_late_13 : decode cX6_late 13 = .ok (.ifCond .ne 7, 3) := dk_154 0 7 (dk_at dksX6_late_0 13 rfl rfl)
theorem dX6_late_16 : decode cX6_late 16 = .ok (.iconst 1, 1) := dk_4 (dk_at dksX6_late_0 16 rfl rfl)
theorem dX6_late_17 : decode cX6_late 17 = .ok (.goto 4, 3) := dk_167 0 4 (dk_at dksX6_late_0 17 rfl rfl)
theorem dX6_late_20 : decode cX6_late 20 = .ok (.iconst 0, 1) := dk_3 (dk_at dksX6_late_0 20 rfl rfl)
theorem dX6_late_21 : decode cX6_late 21 = .ok (.iconst 1, 1) := dk_4 (dk_at dksX6_late_0 21 rfl rfl)
theorem dX6_late_22 : decode cX6_late 22 = .ok (.invokevirtual 230, 3) := dk_182 0 230 (dk_at dksX6_late_1 0 rfl rfl)
theorem dX6_late_25 : decode cX6_late 25 = .ok (.ifCond .eq 5, 3) := dk_153 0 5 (dk_at dksX6_late_1 3 rfl rfl)
theorem dX6_late_28 : decode cX6_late 28 = .ok (.iconst 0, 1) := dk_3 (dk_at dksX6_late_1 6 rfl rfl)
theorem dX6_late_29 : decode cX6_late 29 = .ok (.ireturn, 1) := dk_172 (dk_at dksX6_late_1 7 rfl rfl)
theorem dX6_late_30 : decode cX6_late 30 = .ok (.aload_n 0, 1) := dk_42 (dk_at dksX6_late_1 8 rfl rfl)
theorem dX6_late_31 : decode cX6_late 31 = .ok (.iconst 1, 1) := dk_4 (dk_at dksX6_late_1 9 rfl rfl)
theorem dX6_late_32 : decode cX6_late 32 = .ok (.iconst 0, 1) := dk_3 (dk_at dksX6_late_1 10 rfl rfl)
theorem dX6_late_33 : decode cX6_late 33 = .ok (.invokevirtual 352, 3) := dk_182 1 96 (dk_at dksX6_late_1 11 rfl rfl)
theorem dX6_late_36 : decode cX6_late 36 = .ok (.aload_n 0, 1) := dk_42 (dk_at dksX6_late_1 14 rfl rfl)
theorem dX6_late_37 : decode cX6_late 37 = .ok (.getfield 331, 3) := dk_180 1 75 (dk_at dksX6_late_1 15 rfl rfl)
theorem dX6_late_40 : decode cX6_late 40 = .ok (.ifCond .ne 5, 3) := dk_154 0 5 (dk_at dksX6_late_1 18 rfl rfl)
theorem dX6_late_43 : decode cX6_late 43 = .ok (.iconst (-1), 1) := dk_2 (dk_at dksX6_late_1 21 rfl rfl)
theorem dX6_late_44 : decode cX6_late 44 = .ok (.ireturn, 1) := dk_172 (dk_at dksX6_late_1 22 rfl rfl)
theorem dX6_late_45 : decode cX6_late 45 = .ok (.aload_n 0, 1) := dk_42 (dk_at dksX6_late_1 23 rfl rfl)
theorem dX6_late_46 : decode cX6_late 46 = .ok (.getfield 331, 3) := dk_180 1 75 (dk_at dksX6_late_2 0 rfl rfl)
theorem dX6_late_49 : decode cX6_late 49 = .ok (.iload_n 1, 1) := dk_27 (dk_at dksX6_late_2 3 rfl rfl)
theorem dX6_late_50 : decode cX6_late 50 = .ok (.iadd, 1) := dk_96 (dk_at dksX6_late_2 4 rfl rfl)
theorem dX6_late_51 : decode cX6_late 51 = .ok (.iconst 1, 1) := dk_4 (dk_at dksX6_late_2 5 rfl rfl)
theorem dX6_late_52 : decode cX6_late 52 = .ok (.isub, 1) := dk_100 (dk_at dksX6_late_2 6 rfl rfl)
theorem dX6_late_53 : decode cX6_late 53 = .ok (.iload_n 1, 1) := dk_27 (dk_at dksX6_late_2 7 rfl rfl)
theorem dX6_late_54 : decode cX6_late 54 = .ok (.idiv, 1) := dk_108 (dk_at dksX6_late_2 8 rfl rfl)
theorem dX6_late_55 : decode cX6_late 55 = .ok (.iload_n 1, 1) := dk_27 (dk_at dksX6_late_2 9 rfl rfl)
theorem dX6_late_56 : decode cX6_late 56 = .ok (.imul, 1) := dk_104 (dk_at dksX6_late_2 10 rfl rfl)
theorem dX6_late_57 : decode cX6_late 57 = .ok (.istore_n 2, 1) := dk_61 (dk_at dksX6_late_2 11 rfl rfl)
theorem dX6_late_58 : decode cX6_late 58 = .ok (.iload_n 2, 1) := dk_28 (dk_at dksX6_late_2 12 rfl rfl)
theorem dX6_late_59 : decode cX6_late 59 = .ok (.aload_n 0, 1) := dk_42 (dk_at dksX6_late_2 13 rfl rfl)
theorem dX6_late_60 : decode cX6_late 60 = .ok (.getfield 322, 3) := dk_180 1 66 (dk_at dksX6_late_2 14 rfl rfl)
theorem dX6_late_63 : decode cX6_late 63 = .ok (.invokestatic 427, 3) := dk_184 1 171 (dk_at dksX6_late_2 17 rfl rfl)
theorem dX6_late_66 : decode cX6_late 66 = .ok (.aload_n 0, 1) := dk_42 (dk_at dksX6_late_2 20 rfl rfl)
theorem dX6_late_67 : decode cX6_late 67 = .ok (.getfield 331, 3) := dk_180 1 75 (dk_at dksX6_late_2 21 rfl rfl)
theorem dX6_late_70 : decode cX6_late 70 = .ok (.isub, 1) := dk_100 (dk_at dksX6_late_3 0 rfl rfl)
theorem dX6_late_71 : decode cX6_late 71 = .ok (.ireturn, 1) := dk_172 (dk_at dksX6_late_3 1 rfl rfl)
def dkwX6_judge_2 : List UInt8 := [159, 0, 5, 27, 172, 132, 1, 1, 167, 255, 216, 2, 172]
abbrev dktX6_judge_2 : List UInt8 := dkwX6_judge_2 ++ []
def dkwX6_judge_1 : List UInt8 := [180, 1, 57, 162, 0, 22, 42, 180, 0, 20, 27, 51, 17, 0, 255, 126, 42, 180, 0, 62, 27, 46]
abbrev dktX6_judge_1 : List UInt8 := dkwX6_judge_1 ++ dktX6_judge_2
def dkwX6_judge_0 : List UInt8 := [42, 182, 0, 224, 42, 4, 4, 182, 1, 96, 3, 60, 27, 42, 180, 0, 127, 162, 0, 38, 27, 42]
abbrev dktX6_judge_0 : List UInt8 := dkwX6_judge_0 ++ dktX6_judge_1
theorem dksX6_judge_0 : cX6_judge.data.toList.drop 0 = dktX6_judge_0 := by decide +kernel
theorem dksX6_judge_1 : cX6_judge.data.toList.drop 22 = dktX6_judge_1 := dk_seg dksX6_judge_0 22 rfl rfl
theorem dksX6_judge_2 : cX6_judge.data.toList.drop 44 = dktX6_judge_2 := dk_seg dksX6_judge_1 22 rfl rfl
theorem dX6_judge_0 : decode cX6_judge 0 = .ok (.aload_n 0, 1) := dk_42 (dk_at dksX6_judge_0 0 rfl rfl)
theorem dX6_judge_1 : decode cX6_judge 1 = .ok (.invokevirtual 224, 3) := dk_182 0 224 (dk_at dksX6_judge_0 1 rfl rfl)
theorem dX6_judge_4 : decode cX6_judge 4 = .ok (.aload_n 0, 1) := dk_42 (dk_at dksX6_judge_0 4 rfl rfl)
theorem dX6_judge_5 : decode cX6_judge 5 = .ok (.iconst 1, 1) := dk_4 (dk_at dksX6_judge_0 5 rfl rfl)
theorem dX6_judge_6 : decode cX6_judge 6 = .ok (.iconst 1, 1) := dk_4 (dk_at dksX6_judge_0 6 rfl rfl)
theorem dX6_judge_7 : decode cX6_judge 7 = .ok (.invokevirtual 352, 3) := dk_182 1 96 (dk_at dksX6_judge_0 7 rfl rfl)
theorem dX6_judge_10 : decode cX6_judge 10 = .ok (.iconst 0, 1) := dk_3 (dk_at dksX6_judge_0 10 rfl rfl)
theorem dX6_judge_11 : decode cX6_judge 11 = .ok (.istore_n 1, 1) := dk_60 (dk_at dksX6_judge_0 11 rfl rfl)
theorem dX6_judge_12 : decode cX6_judge 12 = .ok (.iload_n 1, 1) := dk_27 (dk_at dksX6_judge_0 12 rfl rfl)
theorem dX6_judge_13 : decode cX6_judge 13 = .ok (.aload_n 0, 1) := dk_42 (dk_at dksX6_judge_0 13 rfl rfl)
theorem dX6_judge_14 : decode cX6_judge 14 = .ok (.getfield 127, 3) := dk_180 0 127 (dk_at dksX6_judge_0 14 rfl rfl)
theorem dX6_judge_17 : decode cX6_judge 17 = .ok (.if_icmp .ge 38, 3) := dk_162 0 38 (dk_at dksX6_judge_0 17 rfl rfl)
theorem dX6_judge_20 : decode cX6_judge 20 = .ok (.iload_n 1, 1) := dk_27 (dk_at dksX6_judge_0 20 rfl rfl)
theorem dX6_judge_21 : decode cX6_judge 21 = .ok (.aload_n 0, 1) := dk_42 (dk_at dksX6_judge_0 21 rfl rfl)
theorem dX6_judge_22 : decode cX6_judge 22 = .ok (.getfield 313, 3) := dk_180 1 57 (dk_at dksX6_judge_1 0 rfl rfl)
theorem dX6_judge_25 : decode cX6_judge 25 = .ok (.if_icmp .ge 22, 3) := dk_162 0 22 (dk_at dksX6_judge_1 3 rfl rfl)
theorem dX6_judge_28 : decode cX6_judge 28 = .ok (.aload_n 0, 1) := dk_42 (dk_at dksX6_judge_1 6 rfl rfl)
theorem dX6_judge_29 : decode cX6_judge 29 = .ok (.getfield 20, 3) := dk_180 0 20 (dk_at dksX6_judge_1 7 rfl rfl)
theorem dX6_judge_32 : decode cX6_judge 32 = .ok (.iload_n 1, 1) := dk_27 (dk_at dksX6_judge_1 10 rfl rfl)
theorem dX6_judge_33 : decode cX6_judge 33 = .ok (.baload, 1) := dk_51 (dk_at dksX6_judge_1 11 rfl rfl)
theorem dX6_judge_34 : decode cX6_judge 34 = .ok (.sipush 255, 3) := dk_17 0 255 (dk_at dksX6_judge_1 12 rfl rfl)
theorem dX6_judge_37 : decode cX6_judge 37 = .ok (.iand, 1) := dk_126 (dk_at dksX6_judge_1 15 rfl rfl)
theorem dX6_judge_38 : decode cX6_judge 38 = .ok (.aload_n 0, 1) := dk_42 (dk_at dksX6_judge_1 16 rfl rfl)
theorem dX6_judge_39 : decode cX6_judge 39 = .ok (.getfield 62, 3) := dk_180 0 62 (dk_at dksX6_judge_1 17 rfl rfl)
theorem dX6_judge_42 : decode cX6_judge 42 = .ok (.iload_n 1, 1) := dk_27 (dk_at dksX6_judge_1 20 rfl rfl)
theorem dX6_judge_43 : decode cX6_judge 43 = .ok (.iaload, 1) := dk_46 (dk_at dksX6_judge_1 21 rfl rfl)
theorem dX6_judge_44 : decode cX6_judge 44 = .ok (.if_icmp .eq 5, 3) := dk_159 0 5 (dk_at dksX6_judge_2 0 rfl rfl)
theorem dX6_judge_47 : decode cX6_judge 47 = .ok (.iload_n 1, 1) := dk_27 (dk_at dksX6_judge_2 3 rfl rfl)
theorem dX6_judge_48 : decode cX6_judge 48 = .ok (.ireturn, 1) := dk_172 (dk_at dksX6_judge_2 4 rfl rfl)
theorem dX6_judge_49 : decode cX6_judge 49 = .ok (.iinc 1 1, 3) := dk_132 1 1 (dk_at dksX6_judge_2 5 rfl rfl)
theorem dX6_judge_52 : decode cX6_judge 52 = .ok (.goto (-40), 3) := dk_167 255 216 (dk_at dksX6_judge_2 8 rfl rfl)
theorem dX6_judge_55 : decode cX6_judge 55 = .ok (.iconst (-1), 1) := dk_2 (dk_at dksX6_judge_2 11 rfl rfl)
theorem dX6_judge_56 : decode cX6_judge 56 = .ok (.ireturn, 1) := dk_172 (dk_at dksX6_judge_2 12 rfl rfl)
def dkwX6_count_8 : List UInt8 := [167, 255, 230, 28, 172, 42, 3, 182, 1, 190, 172, 42, 4, 182, 1, 190, 172, 2, 172]
abbrev dktX6_count_8 : List UInt8 := dkwX6_count_8 ++ []
def dkwX6_count_7 : List UInt8 := [162, 0, 26, 28, 42, 180, 0, 37, 29, 51, 153, 0, 7, 4, 167, 0, 4, 3, 96, 61, 132, 3, 1]
abbrev dktX6_count_7 : List UInt8 := dkwX6_count_7 ++ dktX6_count_8
def dkwX6_count_6 : List UInt8 := [167, 0, 4, 3, 96, 61, 132, 3, 1, 167, 255, 228, 28, 172, 42, 182, 1, 13, 3, 62, 29, 16, 16]
abbrev dktX6_count_6 : List UInt8 := dkwX6_count_6 ++ dktX6_count_7
def dkwX6_count_5 : List UInt8 := [46, 172, 3, 62, 29, 42, 182, 0, 112, 162, 0, 26, 28, 42, 29, 4, 182, 0, 108, 155, 0, 7, 4]
abbrev dktX6_count_5 : List UInt8 := dkwX6_count_5 ++ dktX6_count_6
def dkwX6_count_4 : List UInt8 := [167, 255, 215, 28, 172, 42, 180, 0, 13, 4, 46, 172, 42, 180, 0, 13, 5, 46, 172, 42, 180, 0, 13, 6]
abbrev dktX6_count_4 : List UInt8 := dkwX6_count_4 ++ dktX6_count_5
def dkwX6_count_3 : List UInt8 := [27, 4, 159, 0, 12, 42, 29, 5, 182, 0, 108, 158, 0, 7, 4, 167, 0, 4, 3, 96, 61, 132, 3, 1]
abbrev dktX6_count_3 : List UInt8 := dkwX6_count_3 ++ dktX6_count_4
def dkwX6_count_2 : List UInt8 := [42, 182, 0, 112, 172, 3, 62, 29, 42, 182, 0, 112, 162, 0, 39, 28, 42, 29, 182, 0, 237, 153, 0, 21]
abbrev dktX6_count_2 : List UInt8 := dkwX6_count_2 ++ dktX6_count_3
def dkwX6_count_1 : List UInt8 := [170, 0, 0, 0, 0, 0, 0, 214, 0, 0, 0, 0, 0, 0, 0, 9, 0, 0, 0, 56, 0, 0, 0, 61, 0, 0, 0, 61, 0, 0, 0, 109, 0, 0, 0, 116, 0, 0, 0, 123, 0, 0, 0, 130, 0, 0, 0, 165, 0, 0, 0, 202, 0, 0, 0, 208]
abbrev dktX6_count_1 : List UInt8 := dkwX6_count_1 ++ dktX6_count_2
def dkwX6_count_0 : List UInt8 := [42, 3, 181, 0, 3, 3, 61, 27]
abbrev dktX6_count_0 : List UInt8 := dkwX6_count_0 ++ dktX6_count_1
theorem dksX6_count_0 : cX6_count.data.toList.drop 0 = dktX6_count_0 := by decide +kernel
theorem dksX6_count_1 : cX6_count.data.toList.drop 8 = dktX6_count_1 := dk_seg dksX6_count_0 8 rfl rfl
theorem dksX6_count_2 : cX6_count.data.toList.drop 64 = dktX6_count_2 := dk_seg dksX6_count_1 56 rfl rfl
theorem dksX6_count_3 : cX6_count.data.toList.drop 88 = dktX6_count_3 := dk_seg dksX6_count_2 24 rfl rfl
theorem dksX6_count_4 : cX6_count.data.toList.drop 112 = dktX6_count_4 := dk_seg dksX6_count_3 24 rfl rfl
theorem dksX6_count_5 : cX6_count.data.toList.drop 136 = dktX6_count_5 := dk_seg dksX6_count_4 24 rfl rfl
theorem dksX6_count_6 : cX6_count.data.toList.drop 159 = dktX6_count_6 := dk_seg dksX6_count_5 23 rfl rfl
theorem dksX6_count_7 : cX6_count.data.toList.drop 182 = dktX6_count_7 := dk_seg dksX6_count_6 23 rfl rfl
theorem dksX6_count_8 : cX6_count.data.toList.drop 205 = dktX6_count_8 := dk_seg dksX6_count_7 23 rfl rfl
theorem dX6_count_0 : decode cX6_count 0 = .ok (.aload_n 0, 1) := dk_42 (dk_at dksX6_count_0 0 rfl rfl)
theorem dX6_count_1 : decode cX6_count 1 = .ok (.iconst 0, 1) := dk_3 (dk_at dksX6_count_0 1 rfl rfl)
theorem dX6_count_2 : decode cX6_count 2 = .ok (.putfield 3, 3) := dk_181 0 3 (dk_at dksX6_count_0 2 rfl rfl)
theorem dX6_count_5 : decode cX6_count 5 = .ok (.iconst 0, 1) := dk_3 (dk_at dksX6_count_0 5 rfl rfl)
theorem dX6_count_6 : decode cX6_count 6 = .ok (.istore_n 2, 1) := dk_61 (dk_at dksX6_count_0 6 rfl rfl)
theorem dX6_count_7 : decode cX6_count 7 = .ok (.iload_n 1, 1) := dk_27 (dk_at dksX6_count_0 7 rfl rfl)
theorem dX6_count_8 : decode cX6_count 8 = .ok (.tableswitch 214 0 9 #[56, 61, 61, 109, 116, 123, 130, 165, 202, 208], 56) := by decide +kernel
theorem dX6_count_64 : decode cX6_count 64 = .ok (.aload_n 0, 1) := dk_42 (dk_at dksX6_count_2 0 rfl rfl)
theorem dX6_count_65 : decode cX6_count 65 = .ok (.invokevirtual 112, 3) := dk_182 0 112 (dk_at dksX6_count_2 1 rfl rfl)
theorem dX6_count_68 : decode cX6_count 68 = .ok (.ireturn, 1) := dk_172 (dk_at dksX6_count_2 4 rfl rfl)
theorem dX6_count_69 : decode cX6_count 69 = .ok (.iconst 0, 1) := dk_3 (dk_at dksX6_count_2 5 rfl rfl)
theorem dX6_count_70 : decode cX6_count 70 = .ok (.istore_n 3, 1) := dk_62 (dk_at dksX6_count_2 6 rfl rfl)
theorem dX6_count_71 : decode cX6_count 71 = .ok (.iload_n 3, 1) := dk_29 (dk_at dksX6_count_2 7 rfl rfl)
theorem dX6_count_72 : decode cX6_count 72 = .ok (.aload_n 0, 1) := dk_42 (dk_at dksX6_count_2 8 rfl rfl)
theorem dX6_count_73 : decode cX6_count 73 = .ok (.invokevirtual 112, 3) := dk_182 0 112 (dk_at dksX6_count_2 9 rfl rfl)
theorem dX6_count_76 : decode cX6_count 76 = .ok (.if_icmp .ge 39, 3) := dk_162 0 39 (dk_at dksX6_count_2 12 rfl rfl)
theorem dX6_count_79 : decode cX6_count 79 = .ok (.iload_n 2, 1) := dk_28 (dk_at dksX6_count_2 15 rfl rfl)
theorem dX6_count_80 : decode cX6_count 80 = .ok (.aload_n 0, 1) := dk_42 (dk_at dksX6_count_2 16 rfl rfl)
theorem dX6_count_81 : decode cX6_count 81 = .ok (.iload_n 3, 1) := dk_29 (dk_at dksX6_count_2 17 rfl rfl)
theorem dX6_count_82 : decode cX6_count 82 = .ok (.invokevirtual 237, 3) := dk_182 0 237 (dk_at dksX6_count_2 18 rfl rfl)
theorem dX6_count_85 : decode cX6_count 85 = .ok (.ifCond .eq 21, 3) := dk_153 0 21 (dk_at dksX6_count_2 21 rfl rfl)
theorem dX6_count_88 : decode cX6_count 88 = .ok (.iload_n 1, 1) := dk_27 (dk_at dksX6_count_3 0 rfl rfl)
theorem dX6_count_89 : decode cX6_count 89 = .ok (.iconst 1, 1) := dk_4 (dk_at dksX6_count_3 1 rfl rfl)
theorem dX6_count_90 : decode cX6_count 90 = .ok (.if_icmp .eq 12, 3) := dk_159 0 12 (dk_at dksX6_count_3 2 rfl rfl)
theorem dX6_count_93 : decode cX6_count 93 = .ok (.aload_n 0, 1) := dk_42 (dk_at dksX6_count_3 5 rfl rfl)
theorem dX6_count_94 : decode cX6_count 94 = .ok (.iload_n 3, 1) := dk_29 (dk_at dksX6_count_3 6 rfl rfl)
theorem dX6_count_95 : decode cX6_count 95 = .ok (.iconst 2, 1) := dk_5 (dk_at dksX6_count_3 7 rfl rfl)
theorem dX6_count_96 : decode cX6_count 96 = .ok (.invokevirtual 108, 3) := dk_182 0 108 (dk_at dksX6_count_3 8 rfl rfl)
theorem dX6_count_99 : decode cX6_count 99 = .ok (.ifCond .le 7, 3) := dk_158 0 7 (dk_at dksX6_count_3 11 rfl rfl)
theorem dX6_count_102 : decode cX6_count 102 = .ok (.iconst 1, 1) := dk_4 (dk_at dksX6_count_3 14 rfl rfl)
theorem dX6_count_103 : decode cX6_count 103 = .ok (.goto 4, 3) := dk_167 0 4 (dk_at dksX6_count_3 15 rfl rfl)
theorem dX6_count_106 : decode cX6_count 106 = .ok (.iconst 0, 1) := dk_3 (dk_at dksX6_count_3 18 rfl rfl)
theorem dX6_count_107 : decode cX6_count 107 = .ok (.iadd, 1) := dk_96 (dk_at dksX6_count_3 19 rfl rfl)
theorem dX6_count_108 : decode cX6_count 108 = .ok (.istore_n 2, 1) := dk_61 (dk_at dksX6_count_3 20 rfl rfl)
theorem dX6_count_109 : decode cX6_count 109 = .ok (.iinc 3 1, 3) := dk_132 3 1 (dk_at dksX6_count_3 21 rfl rfl)
theorem dX6_count_112 : decode cX6_count 112 = .ok (.goto (-41), 3) := dk_167 255 215 (dk_at dksX6_count_4 0 rfl rfl)
theorem dX6_count_115 : decode cX6_count 115 = .ok (.iload_n 2, 1) := dk_28 (dk_at dksX6_count_4 3 rfl rfl)
theorem dX6_count_116 : decode cX6_count 116 = .ok (.ireturn, 1) := dk_172 (dk_at dksX6_count_4 4 rfl rfl)
theorem dX6_count_117 : decode cX6_count 117 = .ok (.aload_n 0, 1) := dk_42 (dk_at dksX6_count_4 5 rfl rfl)
theorem dX6_count_118 : decode cX6_count 118 = .ok (.getfield 13, 3) := dk_180 0 13 (dk_at dksX6_count_4 6 rfl rfl)
theorem dX6_count_121 : decode cX6_count 121 = .ok (.iconst 1, 1) := dk_4 (dk_at dksX6_count_4 9 rfl rfl)
theorem dX6_count_122 : decode cX6_count 122 = .ok (.iaload, 1) := dk_46 (dk_at dksX6_count_4 10 rfl rfl)
theorem dX6_count_123 : decode cX6_count 123 = .ok (.ireturn, 1) := dk_172 (dk_at dksX6_count_4 11 rfl rfl)
theorem dX6_count_124 : decode cX6_count 124 = .ok (.aload_n 0, 1) := dk_42 (dk_at dksX6_count_4 12 rfl rfl)
theorem dX6_count_125 : decode cX6_count 125 = .ok (.getfield 13, 3) := dk_180 0 13 (dk_at dksX6_count_4 13 rfl rfl)
theorem dX6_count_128 : decode cX6_count 128 = .ok (.iconst 2, 1) := dk_5 (dk_at dksX6_count_4 16 rfl rfl)
theorem dX6_count_129 : decode cX6_count 129 = .ok (.iaload, 1) := dk_46 (dk_at dksX6_count_4 17 rfl rfl)
theorem dX6_count_130 : decode cX6_count 130 = .ok (.ireturn, 1) := dk_172 (dk_at dksX6_count_4 18 rfl rfl)
theorem dX6_count_131 : decode cX6_count 131 = .ok (.aload_n 0, 1) := dk_42 (dk_at dksX6_count_4 19 rfl rfl)
theorem dX6_count_132 : decode cX6_count 132 = .ok (.getfield 13, 3) := dk_180 0 13 (dk_at dksX6_count_4 20 rfl rfl)
theorem dX6_count_135 : decode cX6_count 135 = .ok (.iconst 3, 1) := dk_6 (dk_at dksX6_count_4 23 rfl rfl)
theorem dX6_count_136 : decode cX6_count 136 = .ok (.iaload, 1) := dk_46 (dk_at dksX6_count_5 0 rfl rfl)
theorem dX6_count_137 : decode cX6_count 137 = .ok (.ireturn, 1) := dk_172 (dk_at dksX6_count_5 1 rfl rfl)
theorem dX6_count_138 : decode cX6_count 138 = .ok (.iconst 0, 1) := dk_3 (dk_at dksX6_count_5 2 rfl rfl)
theorem dX6_count_139 : decode cX6_count 139 = .ok (.istore_n 3, 1) := dk_62 (dk_at dksX6_count_5 3 rfl rfl)
theorem dX6_count_140 : decode cX6_count 140 = .ok (.iload_n 3, 1) := dk_29 (dk_at dksX6_count_5 4 rfl rfl)
theorem dX6_count_141 : decode cX6_count 141 = .ok (.aload_n 0, 1) := dk_42 (dk_at dksX6_count_5 5 rfl rfl)
theorem dX6_count_142 : decode cX6_count 142 = .ok (.invokevirtual 112, 3) := dk_182 0 112 (dk_at dksX6_count_5 6 rfl rfl)
theorem dX6_count_145 : decode cX6_count 145 = .ok (.if_icmp .ge 26, 3) := dk_162 0 26 (dk_at dksX6_count_5 9 rfl rfl)
theorem dX6_count_148 : decode cX6_count 148 = .ok (.iload_n 2, 1) := dk_28 (dk_at dksX6_count_5 12 rfl rfl)
theorem dX6_count_149 : decode cX6_count 149 = .ok (.aload_n 0, 1) := dk_42 (dk_at dksX6_count_5 13 rfl rfl)
theorem dX6_count_150 : decode cX6_count 150 = .ok (.iload_n 3, 1) := dk_29 (dk_at dksX6_count_5 14 rfl rfl)
theorem dX6_count_151 : decode cX6_count 151 = .ok (.iconst 1, 1) := dk_4 (dk_at dksX6_count_5 15 rfl rfl)
theorem dX6_count_152 : decode cX6_count 152 = .ok (.invokevirtual 108, 3) := dk_182 0 108 (dk_at dksX6_count_5 16 rfl rfl)
theorem dX6_count_155 : decode cX6_count 155 = .ok (.ifCond .lt 7, 3) := dk_155 0 7 (dk_at dksX6_count_5 19 rfl rfl)
theorem dX6_count_158 : decode cX6_count 158 = .ok (.iconst 1, 1) := dk_4 (dk_at dksX6_count_5 22 rfl rfl)
theorem dX6_count_159 : decode cX6_count 159 = .ok (.goto 4, 3) := dk_167 0 4 (dk_at dksX6_count_6 0 rfl rfl)
theorem dX6_count_162 : decode cX6_count 162 = .ok (.iconst 0, 1) := dk_3 (dk_at dksX6_count_6 3 rfl rfl)
theorem dX6_count_163 : decode cX6_count 163 = .ok (.iadd, 1) := dk_96 (dk_at dksX6_count_6 4 rfl rfl)
theorem dX6_count_164 : decode cX6_count 164 = .ok (.istore_n 2, 1) := dk_61 (dk_at dksX6_count_6 5 rfl rfl)
theorem dX6_count_165 : decode cX6_count 165 = .ok (.iinc 3 1, 3) := dk_132 3 1 (dk_at dksX6_count_6 6 rfl rfl)
theorem dX6_count_168 : decode cX6_count 168 = .ok (.goto (-28), 3) := dk_167 255 228 (dk_at dksX6_count_6 9 rfl rfl)
theorem dX6_count_171 : decode cX6_count 171 = .ok (.iload_n 2, 1) := dk_28 (dk_at dksX6_count_6 12 rfl rfl)
theorem dX6_count_172 : decode cX6_count 172 = .ok (.ireturn, 1) := dk_172 (dk_at dksX6_count_6 13 rfl rfl)
theorem dX6_count_173 : decode cX6_count 173 = .ok (.aload_n 0, 1) := dk_42 (dk_at dksX6_count_6 14 rfl rfl)
theorem dX6_count_174 : decode cX6_count 174 = .ok (.invokevirtual 269, 3) := dk_182 1 13 (dk_at dksX6_count_6 15 rfl rfl)
theorem dX6_count_177 : decode cX6_count 177 = .ok (.iconst 0, 1) := dk_3 (dk_at dksX6_count_6 18 rfl rfl)
theorem dX6_count_178 : decode cX6_count 178 = .ok (.istore_n 3, 1) := dk_62 (dk_at dksX6_count_6 19 rfl rfl)
theorem dX6_count_179 : decode cX6_count 179 = .ok (.iload_n 3, 1) := dk_29 (dk_at dksX6_count_6 20 rfl rfl)
theorem dX6_count_180 : decode cX6_count 180 = .ok (.bipush 16, 2) := dk_16 16 (dk_at dksX6_count_6 21 rfl rfl)
theorem dX6_count_182 : decode cX6_count 182 = .ok (.if_icmp .ge 26, 3) := dk_162 0 26 (dk_at dksX6_count_7 0 rfl rfl)
theorem dX6_count_185 : decode cX6_count 185 = .ok (.iload_n 2, 1) := dk_28 (dk_at dksX6_count_7 3 rfl rfl)
theorem dX6_count_186 : decode cX6_count 186 = .ok (.aload_n 0, 1) := dk_42 (dk_at dksX6_count_7 4 rfl rfl)
theorem dX6_count_187 : decode cX6_count 187 = .ok (.getfield 37, 3) := dk_180 0 37 (dk_at dksX6_count_7 5 rfl rfl)
theorem dX6_count_190 : decode cX6_count 190 = .ok (.iload_n 3, 1) := dk_29 (dk_at dksX6_count_7 8 rfl rfl)
theorem dX6_count_191 : decode cX6_count 191 = .ok (.baload, 1) := dk_51 (dk_at dksX6_count_7 9 rfl rfl)
theorem dX6_count_192 : decode cX6_count 192 = .ok (.ifCond .eq 7, 3) := dk_153 0 7 (dk_at dksX6_count_7 10 rfl rfl)
theorem dX6_count_195 : decode cX6_count 195 = .ok (.iconst 1, 1) := dk_4 (dk_at dksX6_count_7 13 rfl rfl)
theorem dX6_count_196 : decode cX6_count 196 = .ok (.goto 4, 3) := dk_167 0 4 (dk_at dksX6_count_7 14 rfl rfl)
theorem dX6_count_199 : decode cX6_count 199 = .ok (.iconst 0, 1) := dk_3 (dk_at dksX6_count_7 17 rfl rfl)
theorem dX6_count_200 : decode cX6_count 200 = .ok (.iadd, 1) := dk_96 (dk_at dksX6_count_7 18 rfl rfl)
theorem dX6_count_201 : decode cX6_count 201 = .ok (.istore_n 2, 1) := dk_61 (dk_at dksX6_count_7 19 rfl rfl)
theorem dX6_count_202 : decode cX6_count 202 = .ok (.iinc 3 1, 3) := dk_132 3 1 (dk_at dksX6_count_7 20 rfl rfl)
theorem dX6_count_205 : decode cX6_count 205 = .ok (.goto (-26), 3) := dk_167 255 230 (dk_at dksX6_count_8 0 rfl rfl)
theorem dX6_count_208 : decode cX6_count 208 = .ok (.iload_n 2, 1) := dk_28 (dk_at dksX6_count_8 3 rfl rfl)
theorem dX6_count_209 : decode cX6_count 209 = .ok (.ireturn, 1) := dk_172 (dk_at dksX6_count_8 4 rfl rfl)
theorem dX6_count_210 : decode cX6_count 210 = .ok (.aload_n 0, 1) := dk_42 (dk_at dksX6_count_8 5 rfl rfl)
theorem dX6_count_211 : decode cX6_count 211 = .ok (.iconst 0, 1) := dk_3 (dk_at dksX6_count_8 6 rfl rfl)
theorem dX6_count_212 : decode cX6_count 212 = .ok (.invokevirtual 446, 3) := dk_182 1 190 (dk_at dksX6_count_8 7 rfl rfl)
theorem dX6_count_215 : decode cX6_count 215 = .ok (.ireturn, 1) := dk_172 (dk_at dksX6_count_8 10 rfl rfl)
theorem dX6_count_216 : decode cX6_count 216 = .ok (.aload_n 0, 1) := dk_42 (dk_at dksX6_count_8 11 rfl rfl)
theorem dX6_count_217 : decode cX6_count 217 = .ok (.iconst 1, 1) := dk_4 (dk_at dksX6_count_8 12 rfl rfl)
theorem dX6_count_218 : decode cX6_count 218 = .ok (.invokevirtual 446, 3) := dk_182 1 190 (dk_at dksX6_count_8 13 rfl rfl)
theorem dX6_count_221 : decode cX6_count 221 = .ok (.ireturn, 1) := dk_172 (dk_at dksX6_count_8 16 rfl rfl)
theorem dX6_count_222 : decode cX6_count 222 = .ok (.iconst (-1), 1) := dk_2 (dk_at dksX6_count_8 17 rfl rfl)
theorem dX6_count_223 : decode cX6_count 223 = .ok (.ireturn, 1) := dk_172 (dk_at dksX6_count_8 18 rfl rfl)
def dkwX6_reaches_2 : List UInt8 := [132, 4, 1, 167, 255, 223, 132, 3, 1, 167, 255, 204, 28, 172]
abbrev dktX6_reaches_2 : List UInt8 := dkwX6_reaches_2 ++ []
def dkwX6_reaches_1 : List UInt8 := [46, 162, 0, 28, 28, 42, 29, 21, 4, 182, 1, 149, 27, 160, 0, 7, 4, 167, 0, 4, 3, 96, 61]
abbrev dktX6_reaches_1 : List UInt8 := dkwX6_reaches_1 ++ dktX6_reaches_2
def dkwX6_reaches_0 : List UInt8 := [3, 61, 3, 62, 29, 42, 180, 0, 13, 5, 46, 162, 0, 48, 3, 54, 4, 21, 4, 42, 180, 0, 13, 6]
abbrev dktX6_reaches_0 : List UInt8 := dkwX6_reaches_0 ++ dktX6_reaches_1
theorem dksX6_reaches_0 : cX6_reaches.data.toList.drop 0 = dktX6_reaches_0 := by decide +kernel
theorem dksX6_reaches_1 : cX6_reaches.data.toList.drop 24 = dktX6_reaches_1 := dk_seg dksX6_reaches_0 24 rfl rfl
theorem dksX6_reaches_2 : cX6_reaches.data.toList.drop 47 = dktX6_reaches_2 := dk_seg dksX6_reaches_1 23 rfl rfl
theorem dX6_reaches_0 : decode cX6_reaches 0 = .ok (.iconst 0, 1) := dk_3 (dk_at dksX6_reaches_0 0 rfl rfl)
theorem dX6_reaches_1 : decode cX6_reaches 1 = .ok (.istore_n 2, 1) := dk_61 (dk_at dksX6_reaches_0 1 rfl rfl)
theorem dX6_reaches_2 : decode cX6_reaches 2 = .ok (.iconst 0, 1) := dk_3 (dk_at dksX6_reaches_0 2 rfl rfl)
theorem dX6_reaches_3 : decode cX6_reaches 3 = .ok (.istore_n 3, 1) := dk_62 (dk_at dksX6_reaches_0 3 rfl rfl)
theorem dX6_reaches_4 : decode cX6_reaches 4 = .ok (.iload_n 3, 1) := dk_29 (dk_at dksX6_reaches_0 4 rfl rfl)
theorem dX6_reaches_5 : decode cX6_reaches 5 = .ok (.aload_n 0, 1) := dk_42 (dk_at dksX6_reaches_0 5 rfl rfl)
theorem dX6_reaches_6 : decode cX6_reaches 6 = .ok (.getfield 13, 3) := dk_180 0 13 (dk_at dksX6_reaches_0 6 rfl rfl)
theorem dX6_reaches_9 : decode cX6_reaches 9 = .ok (.iconst 2, 1) := dk_5 (dk_at dksX6_reaches_0 9 rfl rfl)
theorem dX6_reaches_10 : decode cX6_reaches 10 = .ok (.iaload, 1) := dk_46 (dk_at dksX6_reaches_0 10 rfl rfl)
theorem dX6_reaches_11 : decode cX6_reaches 11 = .ok (.if_icmp .ge 48, 3) := dk_162 0 48 (dk_at dksX6_reaches_0 11 rfl rfl)
theorem dX6_reaches_14 : decode cX6_reaches 14 = .ok (.iconst 0, 1) := dk_3 (dk_at dksX6_reaches_0 14 rfl rfl)
theorem dX6_reaches_15 : decode cX6_reaches 15 = .ok (.istore 4, 2) := dk_54 4 (dk_at dksX6_reaches_0 15 rfl rfl)
theorem dX6_reaches_17 : decode cX6_reaches 17 = .ok (.iload 4, 2) := dk_21 4 (dk_at dksX6_reaches_0 17 rfl rfl)
theorem dX6_reaches_19 : decode cX6_reaches 19 = .ok (.aload_n 0, 1) := dk_42 (dk_at dksX6_reaches_0 19 rfl rfl)
theorem dX6_reaches_20 : decode cX6_reaches 20 = .ok (.getfield 13, 3) := dk_180 0 13 (dk_at dksX6_reaches_0 20 rfl rfl)
theorem dX6_reaches_23 : decode cX6_reaches 23 = .ok (.iconst 3, 1) := dk_6 (dk_at dksX6_reaches_0 23 rfl rfl)
theorem dX6_reaches_24 : decode cX6_reaches 24 = .ok (.iaload, 1) := dk_46 (dk_at dksX6_reaches_1 0 rfl rfl)
theorem dX6_reaches_25 : decode cX6_reaches 25 = .ok (.if_icmp .ge 28, 3) := dk_162 0 28 (dk_at dksX6_reaches_1 1 rfl rfl)
theorem dX6_reaches_28 : decode cX6_reaches 28 = .ok (.iload_n 2, 1) := dk_28 (dk_at dksX6_reaches_1 4 rfl rfl)
theorem dX6_reaches_29 : decode cX6_reaches 29 = .ok (.aload_n 0, 1) := dk_42 (dk_at dksX6_reaches_1 5 rfl rfl)
theorem dX6_reaches_30 : decode cX6_reaches 30 = .ok (.iload_n 3, 1) := dk_29 (dk_at dksX6_reaches_1 6 rfl rfl)
theorem dX6_reaches_31 : decode cX6_reaches 31 = .ok (.iload 4, 2) := dk_21 4 (dk_at dksX6_reaches_1 7 rfl rfl)
theorem dX6_reaches_33 : decode cX6_reaches 33 = .ok (.invokevirtual 405, 3) := dk_182 1 149 (dk_at dksX6_reaches_1 9 rfl rfl)
theorem dX6_reaches_36 : decode cX6_reaches 36 = .ok (.iload_n 1, 1) := dk_27 (dk_at dksX6_reaches_1 12 rfl rfl)
theorem dX6_reaches_37 : decode cX6_reaches 37 = .ok (.if_icmp .ne 7, 3) := dk_160 0 7 (dk_at dksX6_reaches_1 13 rfl rfl)
theorem dX6_reaches_40 : decode cX6_reaches 40 = .ok (.iconst 1, 1) := dk_4 (dk_at dksX6_reaches_1 16 rfl rfl)
theorem dX6_reaches_41 : decode cX6_reaches 41 = .ok (.goto 4, 3) := dk_167 0 4 (dk_at dksX6_reaches_1 17 rfl rfl)
theorem dX6_reaches_44 : decode cX6_reaches 44 = .ok (.iconst 0, 1) := dk_3 (dk_at dksX6_reaches_1 20 rfl rfl)
theorem dX6_reaches_45 : decode cX6_reaches 45 = .ok (.iadd, 1) := dk_96 (dk_at dksX6_reaches_1 21 rfl rfl)
theorem dX6_reaches_46 : decode cX6_reaches 46 = .ok (.istore_n 2, 1) := dk_61 (dk_at dksX6_reaches_1 22 rfl rfl)
theorem dX6_reaches_47 : decode cX6_reaches 47 = .ok (.iinc 4 1, 3) := dk_132 4 1 (dk_at dksX6_reaches_2 0 rfl rfl)
theorem dX6_reaches_50 : decode cX6_reaches 50 = .ok (.goto (-33), 3) := dk_167 255 223 (dk_at dksX6_reaches_2 3 rfl rfl)
theorem dX6_reaches_53 : decode cX6_reaches 53 = .ok (.iinc 3 1, 3) := dk_132 3 1 (dk_at dksX6_reaches_2 6 rfl rfl)
theorem dX6_reaches_56 : decode cX6_reaches 56 = .ok (.goto (-52), 3) := dk_167 255 204 (dk_at dksX6_reaches_2 9 rfl rfl)
theorem dX6_reaches_59 : decode cX6_reaches 59 = .ok (.iload_n 2, 1) := dk_28 (dk_at dksX6_reaches_2 12 rfl rfl)
theorem dX6_reaches_60 : decode cX6_reaches 60 = .ok (.ireturn, 1) := dk_172 (dk_at dksX6_reaches_2 13 rfl rfl)
