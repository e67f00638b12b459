set_option maxRecDepth 100000
def dkwX6_byFlow_5 : List UInt8 := [22, 4, 173]
abbrev dktX6_byFlow_5 : List UInt8 := dkwX6_byFlow_5 ++ []
def dkwX6_byFlow_4 : List UInt8 := [148, 153, 0, 12, 10, 21, 6, 4, 96, 121, 167, 0, 4, 9, 129, 55, 4, 132, 6, 1, 167, 255, 171]
abbrev dktX6_byFlow_4 : List UInt8 := dkwX6_byFlow_4 ++ dktX6_byFlow_5
def dkwX6_byFlow_3 : List UInt8 := [121, 42, 182, 1, 1, 127, 167, 0, 9, 42, 21, 6, 182, 1, 4, 55, 7, 22, 4, 22, 7, 32, 127, 9]
abbrev dktX6_byFlow_3 : List UInt8 := dkwX6_byFlow_3 ++ dktX6_byFlow_4
def dkwX6_byFlow_2 : List UInt8 := [154, 0, 6, 167, 0, 62, 42, 21, 6, 182, 0, 120, 8, 160, 0, 20, 10, 42, 21, 6, 7, 182, 0, 108]
abbrev dktX6_byFlow_2 : List UInt8 := dkwX6_byFlow_2 ++ dktX6_byFlow_3
def dkwX6_byFlow_1 : List UInt8 := [55, 4, 3, 54, 6, 21, 6, 4, 96, 42, 182, 0, 112, 162, 0, 80, 42, 21, 6, 182, 0, 247]
abbrev dktX6_byFlow_1 : List UInt8 := dkwX6_byFlow_1 ++ dktX6_byFlow_2
def dkwX6_byFlow_0 : List UInt8 := [42, 27, 182, 0, 120, 16, 7, 159, 0, 9, 42, 27, 182, 1, 4, 173, 42, 27, 182, 1, 7, 65, 9]
abbrev dktX6_byFlow_0 : List UInt8 := dkwX6_byFlow_0 ++ dktX6_byFlow_1
theorem dksX6_byFlow_0 : cX6_byFlow.data.toList.drop 0 = dktX6_byFlow_0 := by decide +kernel
theorem dksX6_byFlow_1 : cX6_byFlow.data.toList.drop 23 = dktX6_byFlow_1 := dk_seg dksX6_byFlow_0 23 rfl rfl
theorem dksX6_byFlow_2 : cX6_byFlow.data.toList.drop 45 = dktX6_byFlow_2 := dk_seg dksX6_byFlow_1 22 rfl rfl
theorem dksX6_byFlow_3 : cX6_byFlow.data.toList.drop 69 = dktX6_byFlow_3 := dk_seg dksX6_byFlow_2 24 rfl rfl
theorem dksX6_byFlow_4 : cX6_byFlow.data.toList.drop 93 = dktX6_byFlow_4 := dk_seg dksX6_byFlow_3 24 rfl rfl
theorem dksX6_byFlow_5 : cX6_byFlow.data.toList.drop 116 = dktX6_byFlow_5 := dk_seg dksX6_byFlow_4 23 rfl rfl
theorem dX6_byFlow_0 : decode cX6_byFlow 0 = .ok (.aload_n 0, 1) := dk_42 (dk_at dksX6_byFlow_0 0 rfl rfl)
theorem dX6_byFlow_1 : decode cX6_byFlow 1 = .ok (.iload_n 1, 1) := dk_27 (dk_at dksX6_byFlow_0 1 rfl rfl)
theorem dX6_byFlow_2 : decode cX6_byFlow 2 = .ok (.invokevirtual 120, 3) := dk_182 0 120 (dk_at dksX6_byFlow_0 2 rfl rfl)
theorem dX6_byFlow_5 : decode cX6_byFlow 5 = .ok (.bipush 7, 2) := dk_16 7 (dk_at dksX6_byFlow_0 5 rfl rfl)
theorem dX6_byFlow_7 : decode cX6_byFlow 7 = .ok (.if_icmp .eq 9, 3) := dk_159 0 9 (dk_at dksX6_byFlow_0 7 rfl rfl)
theorem dX6_byFlow_10 : decode cX6_byFlow 10 = .ok (.aload_n 0, 1) := dk_42 (dk_at dksX6_byFlow_0 10 rfl rfl)
theorem dX6_byFlow_11 : decode cX6_byFlow 11 = .ok (.iload_n 1, 1) := dk_27 (dk_at dksX6_byFlow_0 11 rfl rfl)
theorem dX6_byFlow_12 : decode cX6_byFlow 12 = .ok (.invokevirtual 260, 3) := dk_182 1 4 (dk_at dksX6_byFlow_0 12 rfl rfl)
theorem dX6_byFlow_15 : decode cX6_byFlow 15 = .ok (.lreturn, 1) := dk_173 (dk_at dksX6_byFlow_0 15 rfl rfl)
theorem dX6_byFlow_16 : decode cX6_byFlow 16 = .ok (.aload_n 0, 1) := dk_42 (dk_at dksX6_byFlow_0 16 rfl rfl)
theorem dX6_byFlow_17 : decode cX6_byFlow 17 = .ok (.iload_n 1, 1) := dk_27 (dk_at dksX6_byFlow_0 17 rfl rfl)
theorem dX6_byFlow_18 : decode cX6_byFlow 18 = .ok (.invokevirtual 263, 3) := dk_182 1 7 (dk_at dksX6_byFlow_0 18 rfl rfl)
theorem dX6_byFlow_21 : decode cX6_byFlow 21 = .ok (.lstore_n 2, 1) := dk_65 (dk_at dksX6_byFlow_0 21 rfl rfl)
theorem dX6_byFlow_22 : decode cX6_byFlow 22 = .ok (.lconst 0, 1) := dk_9 (dk_at dksX6_byFlow_0 22 rfl rfl)
theorem dX6_byFlow_23 : decode cX6_byFlow 23 = .ok (.lstore 4, 2) := dk_55 4 (dk_at dksX6_byFlow_1 0 rfl rfl)
theorem dX6_byFlow_25 : decode cX6_byFlow 25 = .ok (.iconst 0, 1) := dk_3 (dk_at dksX6_byFlow_1 2 rfl rfl)
theorem dX6_byFlow_26 : decode cX6_byFlow 26 = .ok (.istore 6, 2) := dk_54 6 (dk_at dksX6_byFlow_1 3 rfl rfl)
theorem dX6_byFlow_28 : decode cX6_byFlow 28 = .ok (.iload 6, 2) := dk_21 6 (dk_at dksX6_byFlow_1 5 rfl rfl)
theorem dX6_byFlow_30 : decode cX6_byFlow 30 = .ok (.iconst 1, 1) := dk_4 (dk_at dksX6_byFlow_1 7 rfl rfl)
theorem dX6_byFlow_31 : decode cX6_byFlow 31 = .ok (.iadd, 1) := dk_96 (dk_at dksX6_byFlow_1 8 rfl rfl)
theorem dX6_byFlow_32 : decode cX6_byFlow 32 = .ok (.aload_n 0, 1) := dk_42 (dk_at dksX6_byFlow_1 9 rfl rfl)
theorem dX6_byFlow_33 : decode cX6_byFlow 33 = .ok (.invokevirtual 112, 3) := dk_182 0 112 (dk_at dksX6_byFlow_1 10 rfl rfl)
theorem dX6_byFlow_36 : decode cX6_byFlow 36 = .ok (.if_icmp .ge 80, 3) := dk_162 0 80 (dk_at dksX6_byFlow_1 13 rfl rfl)
theorem dX6_byFlow_39 : decode cX6_byFlow 39 = .ok (.aload_n 0, 1) := dk_42 (dk_at dksX6_byFlow_1 16 rfl rfl)
theorem dX6_byFlow_40 : decode cX6_byFlow 40 = .ok (.iload 6, 2) := dk_21 6 (dk_at dksX6_byFlow_1 17 rfl rfl)
theorem dX6_byFlow_42 : decode cX6_byFlow 42 = .ok (.invokevirtual 247, 3) := dk_182 0 247 (dk_at dksX6_byFlow_1 19 rfl rfl)
theorem dX6_byFlow_45 : decode cX6_byFlow 45 = .ok (.ifCond .ne 6, 3) := dk_154 0 6 (dk_at dksX6_byFlow_2 0 rfl rfl)
theorem dX6_byFlow_48 : decode cX6_byFlow 48 = .ok (.goto 62, 3) := dk_167 0 62 (dk_at dksX6_byFlow_2 3 rfl rfl)
theorem dX6_byFlow_51 : decode cX6_byFlow 51 = .ok (.aload_n 0, 1) := dk_42 (dk_at dksX6_byFlow_2 6 rfl rfl)
theorem dX6_byFlow_52 : decode cX6_byFlow 52 = .ok (.iload 6, 2) := dk_21 6 (dk_at dksX6_byFlow_2 7 rfl rfl)
theorem dX6_byFlow_54 : decode cX6_byFlow 54 = .ok (.invokevirtual 120, 3) := dk_182 0 120 (dk_at dksX6_byFlow_2 9 rfl rfl)
theorem dX6_byFlow_57 : decode cX6_byFlow 57 = .ok (.iconst 5, 1) := dk_8 (dk_at dksX6_byFlow_2 12 rfl rfl)
theorem dX6_byFlow_58 : decode cX6_byFlow 58 = .ok (.if_icmp .ne 20, 3) := dk_160 0 20 (dk_at dksX6_byFlow_2 13 rfl rfl)
theorem dX6_byFlow_61 : decode cX6_byFlow 61 = .ok (.lconst 1, 1) := dk_10 (dk_at dksX6_byFlow_2 16 rfl rfl)
theorem dX6_byFlow_62 : decode cX6_byFlow 62 = .ok (.aload_n 0, 1) := dk_42 (dk_at dksX6_byFlow_2 17 rfl rfl)
theorem dX6_byFlow_63 : decode cX6_byFlow 63 = .ok (.iload 6, 2) := dk_21 6 (dk_at dksX6_byFlow_2 18 rfl rfl)
theorem dX6_byFlow_65 : decode cX6_byFlow 65 = .ok (.iconst 4, 1) := dk_7 (dk_at dksX6_byFlow_2 20 rfl rfl)
theorem dX6_byFlow_66 : decode cX6_byFlow 66 = .ok (.invokevirtual 108, 3) := dk_182 0 108 (dk_at dksX6_byFlow_2 21 rfl rfl)
theorem dX6_byFlow_69 : decode cX6_byFlow 69 = .ok (.lshl, 1) := dk_121 (dk_at dksX6_byFlow_3 0 rfl rfl)
theorem dX6_byFlow_70 : decode cX6_byFlow 70 = .ok (.aload_n 0, 1) := dk_42 (dk_at dksX6_byFlow_3 1 rfl rfl)
theorem dX6_byFlow_71 : decode cX6_byFlow 71 = .ok (.invokevirtual 257, 3) := dk_182 1 1 (dk_at dksX6_byFlow_3 2 rfl rfl)
theorem dX6_byFlow_74 : decode cX6_byFlow 74 = .ok (.land, 1) := dk_127 (dk_at dksX6_byFlow_3 5 rfl rfl)
theorem dX6_byFlow_75 : decode cX6_byFlow 75 = .ok (.goto 9, 3) := dk_167 0 9 (dk_at dksX6_byFlow_3 6 rfl rfl)
theorem dX6_byFlow_78 : decode cX6_byFlow 78 = .ok (.aload_n 0, 1) := dk_42 (dk_at dksX6_byFlow_3 9 rfl rfl)
theorem dX6_byFlow_79 : decode cX6_byFlow 79 = .ok (.iload 6, 2) := dk_21 6 (dk_at dksX6_byFlow_3 10 rfl rfl)
theorem dX6_byFlow_81 : decode cX6_byFlow 81 = .ok (.invokevirtual 260, 3) := dk_182 1 4 (dk_at dksX6_byFlow_3 12 rfl rfl)
theorem dX6_byFlow_84 : decode cX6_byFlow 84 = .ok (.lstore 7, 2) := dk_55 7 (dk_at dksX6_byFlow_3 15 rfl rfl)
theorem dX6_byFlow_86 : decode cX6_byFlow 86 = .ok (.lload 4, 2) := dk_22 4 (dk_at dksX6_byFlow_3 17 rfl rfl)
theorem dX6_byFlow_88 : decode cX6_byFlow 88 = .ok (.lload 7, 2) := dk_22 7 (dk_at dksX6_byFlow_3 19 rfl rfl)
theorem dX6_byFlow_90 : decode cX6_byFlow 90 = .ok (.lload_n 2, 1) := dk_32 (dk_at dksX6_byFlow_3 21 rfl rfl)
theorem dX6_byFlow_91 : decode cX6_byFlow 91 = .ok (.land, 1) := dk_127 (dk_at dksX6_byFlow_3 22 rfl rfl)
theorem dX6_byFlow_92 : decode cX6_byFlow 92 = .ok (.lconst 0, 1) := dk_9 (dk_at dksX6_byFlow_3 23 rfl rfl)
theorem dX6_byFlow_93 : decode cX6_byFlow 93 = .ok (.lcmp, 1) := dk_148 (dk_at dksX6_byFlow_4 0 rfl rfl)
theorem dX6_byFlow_94 : decode cX6_byFlow 94 = .ok (.ifCond .eq 12, 3) := dk_153 0 12 (dk_at dksX6_byFlow_4 1 rfl rfl)
theorem dX6_byFlow_97 : decode cX6_byFlow 97 = .ok (.lconst 1, 1) := dk_10 (dk_at dksX6_byFlow_4 4 rfl rfl)
theorem dX6_byFlow_98 : decode cX6_byFlow 98 = .ok (.iload 6, 2) := dk_21 6 (dk_at dksX6_byFlow_4 5 rfl rfl)
theorem dX6_byFlow_100 : decode cX6_byFlow 100 = .ok (.iconst 1, 1) := dk_4 (dk_at dksX6_byFlow_4 7 rfl rfl)
theorem dX6_byFlow_101 : decode cX6_byFlow 101 = .ok (.iadd, 1) := dk_96 (dk_at dksX6_byFlow_4 8 rfl rfl)
theorem dX6_byFlow_102 : decode cX6_byFlow 102 = .ok (.lshl, 1) := dk_121 (dk_at dksX6_byFlow_4 9 rfl rfl)
theorem dX6_byFlow_103 : decode cX6_byFlow 103 = .ok (.goto 4, 3) := dk_167 0 4 (dk_at dksX6_byFlow_4 10 rfl rfl)
theorem dX6_byFlow_106 : decode cX6_byFlow 106 = .ok (.lconst 0, 1) := dk_9 (dk_at dksX6_byFlow_4 13 rfl rfl)
theorem dX6_byFlow_107 : decode cX6_byFlow 107 = .ok (.lor, 1) := dk_129 (dk_at dksX6_byFlow_4 14 rfl rfl)
theorem dX6_byFlow_108 : decode cX6_byFlow 108 = .ok (.lstore 4, 2) := dk_55 4 (dk_at dksX6_byFlow_4 15 rfl rfl)
theorem dX6_byFlow_110 : decode cX6_byFlow 110 = .ok (.iinc 6 1, 3) := dk_132 6 1 (dk_at dksX6_byFlow_4 17 rfl rfl)
theorem dX6_byFlow_113 : decode cX6_byFlow 113 = .ok (.goto (-85), 3) := dk_167 255 171 (dk_at dksX6_byFlow_4 20 rfl rfl)
theorem dX6_byFlow_116 : decode cX6_byFlow 116 = .ok (.lload 4, 2) := dk_22 4 (dk_at dksX6_byFlow_5 0 rfl rfl)
theorem dX6_byFlow_118 : decode cX6_byFlow 118 = .ok (.lreturn, 1) := dk_173 (dk_at dksX6_byFlow_5 2 rfl rfl)
def dkwX6_throughFlow_1 : List UInt8 := [180, 0, 33, 42, 27, 8, 182, 0, 108, 47, 42, 182, 1, 1, 127, 173]
abbrev dktX6_throughFlow_1 : List UInt8 := dkwX6_throughFlow_1 ++ []
def dkwX6_throughFlow_0 : List UInt8 := [42, 180, 0, 37, 42, 27, 8, 182, 0, 108, 51, 153, 0, 11, 42, 27, 182, 0, 240, 167, 0, 19, 42]
abbrev dktX6_throughFlow_0 : List UInt8 := dkwX6_throughFlow_0 ++ dktX6_throughFlow_1
theorem dksX6_throughFlow_0 : cX6_throughFlow.data.toList.drop 0 = dktX6_throughFlow_0 := by decide +kernel
theorem dksX6_throughFlow_1 : cX6_throughFlow.data.toList.drop 23 = dktX6_throughFlow_1 := dk_seg dksX6_throughFlow_0 23 rfl rfl
theorem dX6_throughFlow_0 : decode cX6_throughFlow 0 = .ok (.aload_n 0, 1) := dk_42 (dk_at dksX6_throughFlow_0 0 rfl rfl)
theorem dX6_throughFlow_1 : decode cX6_throughFlow 1 = .ok (.getfield 37, 3) := dk_180 0 37 (dk_at dksX6_throughFlow_0 1 rfl rfl)
theorem dX6_throughFlow_4 : decode cX6_throughFlow 4 = .ok (.aload_n 0, 1) := dk_42 (dk_at dksX6_throughFlow_0 4 rfl rfl)
theorem dX6_throughFlow_5 : decode cX6_throughFlow 5 = .ok (.iload_n 1, 1) := dk_27 (dk_at dksX6_throughFlow_0 5 rfl rfl)
theorem dX6_throughFlow_6 : decode cX6_throughFlow 6 = .ok (.iconst 5, 1) := dk_8 (dk_at dksX6_throughFlow_0 6 rfl rfl)
theorem dX6_throughFlow_7 : decode cX6_throughFlow 7 = .ok (.invokevirtual 108, 3) := dk_182 0 108 (dk_at dksX6_throughFlow_0 7 rfl rfl)
theorem dX6_throughFlow_10 : decode cX6_throughFlow 10 = .ok (.baload, 1) := dk_51 (dk_at dksX6_throughFlow_0 10 rfl rfl)
theorem dX6_throughFlow_11 : decode cX6_throughFlow 11 = .ok (.ifCond .eq 11, 3) := dk_153 0 11 (dk_at dksX6_throughFlow_0 11 rfl rfl)
theorem dX6_throughFlow_14 : decode cX6_throughFlow 14 = .ok (.aload_n 0, 1) := dk_42 (dk_at dksX6_throughFlow_0 14 rfl rfl)
theorem dX6_throughFlow_15 : decode cX6_throughFlow 15 = .ok (.iload_n 1, 1) := dk_27 (dk_at dksX6_throughFlow_0 15 rfl rfl)
theorem dX6_throughFlow_16 : decode cX6_throughFlow 16 = .ok (.invokevirtual 240, 3) := dk_182 0 240 (dk_at dksX6_throughFlow_0 16 rfl rfl)
theorem dX6_throughFlow_19 : decode cX6_throughFlow 19 = .ok (.goto 19, 3) := dk_167 0 19 (dk_at dksX6_throughFlow_0 19 rfl rfl)
theorem dX6_throughFlow_22 : decode cX6_throughFlow 22 = .ok (.aload_n 0, 1) := dk_42 (dk_at dksX6_throughFlow_0 22 rfl rfl)
theorem dX6_throughFlow_23 : decode cX6_throughFlow 23 = .ok (.getfield 33, 3) := dk_180 0 33 (dk_at dksX6_throughFlow_1 0 rfl rfl)
theorem dX6_throughFlow_26 : decode cX6_throughFlow 26 = .ok (.aload_n 0, 1) := dk_42 (dk_at dksX6_throughFlow_1 3 rfl rfl)
theorem dX6_throughFlow_27 : decode cX6_throughFlow 27 = .ok (.iload_n 1, 1) := dk_27 (dk_at dksX6_throughFlow_1 4 rfl rfl)
theorem dX6_throughFlow_28 : decode cX6_throughFlow 28 = .ok (.iconst 5, 1) := dk_8 (dk_at dksX6_throughFlow_1 5 rfl rfl)
theorem dX6_throughFlow_29 : decode cX6_throughFlow 29 = .ok (.invokevirtual 108, 3) := dk_182 0 108 (dk_at dksX6_throughFlow_1 6 rfl rfl)
theorem dX6_throughFlow_32 : decode cX6_throughFlow 32 = .ok (.laload, 1) := dk_47 (dk_at dksX6_throughFlow_1 9 rfl rfl)
theorem dX6_throughFlow_33 : decode cX6_throughFlow 33 = .ok (.aload_n 0, 1) := dk_42 (dk_at dksX6_throughFlow_1 10 rfl rfl)
theorem dX6_throughFlow_34 : decode cX6_throughFlow 34 = .ok (.invokevirtual 257, 3) := dk_182 1 1 (dk_at dksX6_throughFlow_1 11 rfl rfl)
theorem dX6_throughFlow_37 : decode cX6_throughFlow 37 = .ok (.land, 1) := dk_127 (dk_at dksX6_throughFlow_1 14 rfl rfl)
theorem dX6_throughFlow_38 : decode cX6_throughFlow 38 = .ok (.lreturn, 1) := dk_173 (dk_at dksX6_throughFlow_1 15 rfl rfl)
def dkwX6_all_0 : List UInt8 := [10, 42, 182, 0, 112, 121, 10, 101, 173]
abbrev dktX6_all_0 : List UInt8 := dkwX6_all_0 ++ []
theorem dksX6_all_0 : cX6_all.data.toList.drop 0 = dktX6_all_0 := by decide +kernel
theorem dX6_all_0 : decode cX6_all 0 = .ok (.lconst 1, 1) := dk_10 (dk_at dksX6_all_0 0 rfl rfl)
theorem dX6_all_1 : decode cX6_all 1 = .ok (.aload_n 0, 1) := dk_42 (dk_at dksX6_all_0 1 rfl rfl)
theorem dX6_all_2 : decode cX6_all 2 = .ok (.invokevirtual 112, 3) := dk_182 0 112 (dk_at dksX6_all_0 2 rfl rfl)
theorem dX6_all_5 : decode cX6_all 5 = .ok (.lshl, 1) := dk_121 (dk_at dksX6_all_0 5 rfl rfl)
theorem dX6_all_6 : decode cX6_all 6 = .ok (.lconst 1, 1) := dk_10 (dk_at dksX6_all_0 6 rfl rfl)
theorem dX6_all_7 : decode cX6_all 7 = .ok (.lsub, 1) := dk_101 (dk_at dksX6_all_0 7 rfl rfl)
theorem dX6_all_8 : decode cX6_all 8 = .ok (.lreturn, 1) := dk_173 (dk_at dksX6_all_0 8 rfl rfl)
def dkwX6_comesTo_5 : List UInt8 := [153, 0, 10, 32, 10, 21, 5, 121, 129, 65, 132, 5, 255, 167, 255, 147, 132, 4, 1, 167, 255, 124, 32, 173]
abbrev dktX6_comesTo_5 : List UInt8 := dkwX6_comesTo_5 ++ []
def dkwX6_comesTo_4 : List UInt8 := [21, 8, 16, 9, 159, 0, 14, 22, 6, 10, 21, 5, 4, 96, 121, 129, 55, 6, 22, 6, 32, 127, 9, 148]
abbrev dktX6_comesTo_4 : List UInt8 := dkwX6_comesTo_4 ++ dktX6_comesTo_5
def dkwX6_comesTo_3 : List UInt8 := [42, 21, 5, 182, 1, 4, 55, 6, 167, 0, 34, 21, 8, 5, 159, 0, 28, 21, 8, 16, 7, 159, 0, 21]
abbrev dktX6_comesTo_3 : List UInt8 := dkwX6_comesTo_3 ++ dktX6_comesTo_4
def dkwX6_comesTo_2 : List UInt8 := [6, 160, 0, 17, 22, 6, 10, 42, 21, 5, 7, 182, 0, 108, 121, 129, 55, 6, 21, 8, 7, 160, 0, 14]
abbrev dktX6_comesTo_2 : List UInt8 := dkwX6_comesTo_2 ++ dktX6_comesTo_3
def dkwX6_comesTo_1 : List UInt8 := [21, 5, 155, 0, 110, 9, 55, 6, 42, 21, 5, 182, 0, 120, 54, 8, 21, 8, 5, 159, 0, 9, 21, 8]
abbrev dktX6_comesTo_1 : List UInt8 := dkwX6_comesTo_1 ++ dktX6_comesTo_2
def dkwX6_comesTo_0 : List UInt8 := [10, 27, 121, 65, 3, 54, 4, 21, 4, 42, 182, 0, 112, 162, 0, 129, 42, 182, 0, 112, 4, 100, 54, 5]
abbrev dktX6_comesTo_0 : List UInt8 := dkwX6_comesTo_0 ++ dktX6_comesTo_1
theorem dksX6_comesTo_0 : cX6_comesTo.data.toList.drop 0 = dktX6_comesTo_0 := by decide +kernel
theorem dksX6_comesTo_1 : cX6_comesTo.data.toList.drop 24 = dktX6_comesTo_1 := dk_seg dksX6_comesTo_0 24 rfl rfl
theorem dksX6_comesTo_2 : cX6_comesTo.data.toList.drop 48 = dktX6_comesTo_2 := dk_seg dksX6_comesTo_1 24 rfl rfl
theorem dksX6_comesTo_3 : cX6_comesTo.data.toList.drop 72 = dktX6_comesTo_3 := dk_seg dksX6_comesTo_2 24 rfl rfl
theorem dksX6_comesTo_4 : cX6_comesTo.data.toList.drop 96 = dktX6_comesTo_4 := dk_seg dksX6_comesTo_3 24 rfl rfl
theorem dksX6_comesTo_5 : cX6_comesTo.data.toList.drop 120 = dktX6_comesTo_5 := dk_seg dksX6_comesTo_4 24 rfl rfl
theorem dX6_comesTo_0 : decode cX6_comesTo 0 = .ok (.lconst 1, 1) := dk_10 (dk_at dksX6_comesTo_0 0 rfl rfl)
theorem dX6_comesTo_1 : decode cX6_comesTo 1 = .ok (.iload_n 1, 1) := dk_27 (dk_at dksX6_comesTo_0 1 rfl rfl)
theorem dX6_comesTo_2 : decode cX6_comesTo 2 = .ok (.lshl, 1) := dk_121 (dk_at dksX6_comesTo_0 2 rfl rfl)
theorem dX6_comesTo_3 : decode cX6_comesTo 3 = .ok (.lstore_n 2, 1) := dk_65 (dk_at dksX6_comesTo_0 3 rfl rfl)
theorem dX6_comesTo_4 : decode cX6_comesTo 4 = .ok (.iconst 0, 1) := dk_3 (dk_at dksX6_comesTo_0 4 rfl rfl)
theorem dX6_comesTo_5 : decode cX6_comesTo 5 = .ok (.istore 4, 2) := dk_54 4 (dk_at dksX6_comesTo_0 5 rfl rfl)
theorem dX6_comesTo_7 : decode cX6_comesTo 7 = .ok (.iload 4, 2) := dk_21 4 (dk_at dksX6_comesTo_0 7 rfl rfl)
theorem dX6_comesTo_9 : decode cX6_comesTo 9 = .ok (.aload_n 0, 1) := dk_42 (dk_at dksX6_comesTo_0 9 rfl rfl)
theorem dX6_comesTo_10 : decode cX6_comesTo 10 = .ok (.invokevirtual 112, 3) := dk_182 0 112 (dk_at dksX6_comesTo_0 10 rfl rfl)
theorem dX6_comesTo_13 : decode cX6_comesTo 13 = .ok (.if_icmp .ge 129, 3) := dk_162 0 129 (dk_at dksX6_comesTo_0 13 rfl rfl)
theorem dX6_comesTo_16 : decode cX6_comesTo 16 = .ok (.aload_n 0, 1) := dk_42 (dk_at dksX6_comesTo_0 16 rfl rfl)
theorem dX6_comesTo_17 : decode cX6_comesTo 17 = .ok (.invokevirtual 112, 3) := dk_182 0 112 (dk_at dksX6_comesTo_0 17 rfl rfl)
theorem dX6_comesTo_20 : decode cX6_comesTo 20 = .ok (.iconst 1, 1) := dk_4 (dk_at dksX6_comesTo_0 20 rfl rfl)
theorem dX6_comesTo_21 : decode cX6_comesTo 21 = .ok (.isub, 1) := dk_100 (dk_at dksX6_comesTo_0 21 rfl rfl)
theorem dX6_comesTo_22 : decode cX6_comesTo 22 = .ok (.istore 5, 2) := dk_54 5 (dk_at dksX6_comesTo_0 22 rfl rfl)
theorem dX6_comesTo_24 : decode cX6_comesTo 24 = .ok (.iload 5, 2) := dk_21 5 (dk_at dksX6_comesTo_1 0 rfl rfl)
theorem dX6_comesTo_26 : decode cX6_comesTo 26 = .ok (.ifCond .lt 110, 3) := dk_155 0 110 (dk_at dksX6_comesTo_1 2 rfl rfl)
theorem dX6_comesTo_29 : decode cX6_comesTo 29 = .ok (.lconst 0, 1) := dk_9 (dk_at dksX6_comesTo_1 5 rfl rfl)
theorem dX6_comesTo_30 : decode cX6_comesTo 30 = .ok (.lstore 6, 2) := dk_55 6 (dk_at dksX6_comesTo_1 6 rfl rfl)
theorem dX6_comesTo_32 : decode cX6_comesTo 32 = .ok (.aload_n 0, 1) := dk_42 (dk_at dksX6_comesTo_1 8 rfl rfl)
theorem dX6_comesTo_33 : decode cX6_comesTo 33 = .ok (.iload 5, 2) := dk_21 5 (dk_at dksX6_comesTo_1 9 rfl rfl)
theorem dX6_comesTo_35 : decode cX6_comesTo 35 = .ok (.invokevirtual 120, 3) := dk_182 0 120 (dk_at dksX6_comesTo_1 11 rfl rfl)
theorem dX6_comesTo_38 : decode cX6_comesTo 38 = .ok (.istore 8, 2) := dk_54 8 (dk_at dksX6_comesTo_1 14 rfl rfl)
theorem dX6_comesTo_40 : decode cX6_comesTo 40 = .ok (.iload 8, 2) := dk_21 8 (dk_at dksX6_comesTo_1 16 rfl rfl)
theorem dX6_comesTo_42 : decode cX6_comesTo 42 = .ok (.iconst 2, 1) := dk_5 (dk_at dksX6_comesTo_1 18 rfl rfl)
theorem dX6_comesTo_43 : decode cX6_comesTo 43 = .ok (.if_icmp .eq 9, 3) := dk_159 0 9 (dk_at dksX6_comesTo_1 19 rfl rfl)
theorem dX6_comesTo_46 : decode cX6_comesTo 46 = .ok (.iload 8, 2) := dk_21 8 (dk_at dksX6_comesTo_1 22 rfl rfl)
theorem dX6_comesTo_48 : decode cX6_comesTo 48 = .ok (.iconst 3, 1) := dk_6 (dk_at dksX6_comesTo_2 0 rfl rfl)
theorem dX6_comesTo_49 : decode cX6_comesTo 49 = .ok (.if_icmp .ne 17, 3) := dk_160 0 17 (dk_at dksX6_comesTo_2 1 rfl rfl)
theorem dX6_comesTo_52 : decode cX6_comesTo 52 = .ok (.lload 6, 2) := dk_22 6 (dk_at dksX6_comesTo_2 4 rfl rfl)
theorem dX6_comesTo_54 : decode cX6_comesTo 54 = .ok (.lconst 1, 1) := dk_10 (dk_at dksX6_comesTo_2 6 rfl rfl)
theorem dX6_comesTo_55 : decode cX6_comesTo 55 = .ok (.aload_n 0, 1) := dk_42 (dk_at dksX6_comesTo_2 7 rfl rfl)
theorem dX6_comesTo_56 : decode cX6_comesTo 56 = .ok (.iload 5, 2) := dk_21 5 (dk_at dksX6_comesTo_2 8 rfl rfl)
theorem dX6_comesTo_58 : decode cX6_comesTo 58 = .ok (.iconst 4, 1) := dk_7 (dk_at dksX6_comesTo_2 10 rfl rfl)
theorem dX6_comesTo_59 : decode cX6_comesTo 59 = .ok (.invokevirtual 108, 3) := dk_182 0 108 (dk_at dksX6_comesTo_2 11 rfl rfl)
theorem dX6_comesTo_62 : decode cX6_comesTo 62 = .ok (.lshl, 1) := dk_121 (dk_at dksX6_comesTo_2 14 rfl rfl)
theorem dX6_comesTo_63 : decode cX6_comesTo 63 = .ok (.lor, 1) := dk_129 (dk_at dksX6_comesTo_2 15 rfl rfl)
theorem dX6_comesTo_64 : decode cX6_comesTo 64 = .ok (.lstore 6, 2) := dk_55 6 (dk_at dksX6_comesTo_2 16 rfl rfl)
theorem dX6_comesTo_66 : decode cX6_comesTo 66 = .ok (.iload 8, 2) := dk_21 8 (dk_at dksX6_comesTo_2 18 rfl rfl)
theorem dX6_comesTo_68 : decode cX6_comesTo 68 = .ok (.iconst 4, 1) := dk_7 (dk_at dksX6_comesTo_2 20 rfl rfl)
theorem dX6_comesTo_69 : decode cX6_comesTo 69 = .ok (.if_icmp .ne 14, 3) := dk_160 0 14 (dk_at dksX6_comesTo_2 21 rfl rfl)
theorem dX6_comesTo_72 : decode cX6_comesTo 72 = .ok (.aload_n 0, 1) := dk_42 (dk_at dksX6_comesTo_3 0 rfl rfl)
theorem dX6_comesTo_73 : decode cX6_comesTo 73 = .ok (.iload 5, 2) := dk_21 5 (dk_at dksX6_comesTo_3 1 rfl rfl)
theorem dX6_comesTo_75 : decode cX6_comesTo 75 = .ok (.invokevirtual 260, 3) := dk_182 1 4 (dk_at dksX6_comesTo_3 3 rfl rfl)
theorem dX6_comesTo_78 : decode cX6_comesTo 78 = .ok (.lstore 6, 2) := dk_55 6 (dk_at dksX6_comesTo_3 6 rfl rfl)
theorem dX6_comesTo_80 : decode cX6_comesTo 80 = .ok (.goto 34, 3) := dk_167 0 34 (dk_at dksX6_comesTo_3 8 rfl rfl)
theorem dX6_comesTo_83 : decode cX6_comesTo 83 = .ok (.iload 8, 2) := dk_21 8 (dk_at dksX6_comesTo_3 11 rfl rfl)
theorem dX6_comesTo_85 : decode cX6_comesTo 85 = .ok (.iconst 2, 1) := dk_5 (dk_at dksX6_comesTo_3 13 rfl rfl)
theorem dX6_comesTo_86 : decode cX6_comesTo 86 = .ok (.if_icmp .eq 28, 3) := dk_159 0 28 (dk_at dksX6_comesTo_3 14 rfl rfl)
theorem dX6_comesTo_89 : decode cX6_comesTo 89 = .ok (.iload 8, 2) := dk_21 8 (dk_at dksX6_comesTo_3 17 rfl rfl)
theorem dX6_comesTo_91 : decode cX6_comesTo 91 = .ok (.bipush 7, 2) := dk_16 7 (dk_at dksX6_comesTo_3 19 rfl rfl)
theorem dX6_comesTo_93 : decode cX6_comesTo 93 = .ok (.if_icmp .eq 21, 3) := dk_159 0 21 (dk_at dksX6_comesTo_3 21 rfl rfl)
theorem dX6_comesTo_96 : decode cX6_comesTo 96 = .ok (.iload 8, 2) := dk_21 8 (dk_at dksX6_comesTo_4 0 rfl rfl)
theorem dX6_comesTo_98 : decode cX6_comesTo 98 = .ok (.bipush 9, 2) := dk_16 9 (dk_at dksX6_comesTo_4 2 rfl rfl)
theorem dX6_comesTo_100 : decode cX6_comesTo 100 = .ok (.if_icmp .eq 14, 3) := dk_159 0 14 (dk_at dksX6_comesTo_4 4 rfl rfl)
theorem dX6_comesTo_103 : decode cX6_comesTo 103 = .ok (.lload 6, 2) := dk_22 6 (dk_at dksX6_comesTo_4 7 rfl rfl)
theorem dX6_comesTo_105 : decode cX6_comesTo 105 = .ok (.lconst 1, 1) := dk_10 (dk_at dksX6_comesTo_4 9 rfl rfl)
theorem dX6_comesTo_106 : decode cX6_comesTo 106 = .ok (.iload 5, 2) := dk_21 5 (dk_at dksX6_comesTo_4 10 rfl rfl)
theorem dX6_comesTo_108 : decode cX6_comesTo 108 = .ok (.iconst 1, 1) := dk_4 (dk_at dksX6_comesTo_4 12 rfl rfl)
theorem dX6_comesTo_109 : decode cX6_comesTo 109 = .ok (.iadd, 1) := dk_96 (dk_at dksX6_comesTo_4 13 rfl rfl)
theorem dX6_comesTo_110 : decode cX6_comesTo 110 = .ok (.lshl, 1) := dk_121 (dk_at dksX6_comesTo_4 14 rfl rfl)
theorem dX6_comesTo_111 : decode cX6_comesTo 111 = .ok (.lor, 1) := dk_129 (dk_at dksX6_comesTo_4 15 rfl rfl)
theorem dX6_comesTo_112 : decode cX6_comesTo 112 = .ok (.lstore 6, 2) := dk_55 6 (dk_at dksX6_comesTo_4 16 rfl rfl)
theorem dX6_comesTo_114 : decode cX6_comesTo 114 = .ok (.lload 6, 2) := dk_22 6 (dk_at dksX6_comesTo_4 18 rfl rfl)
theorem dX6_comesTo_116 : decode cX6_comesTo 116 = .ok (.lload_n 2, 1) := dk_32 (dk_at dksX6_comesTo_4 20 rfl rfl)
theorem dX6_comesTo_117 : decode cX6_comesTo 117 = .ok (.land, 1) := dk_127 (dk_at dksX6_comesTo_4 21 rfl rfl)
theorem dX6_comesTo_118 : decode cX6_comesTo 118 = .ok (.lconst 0, 1) := dk_9 (dk_at dksX6_comesTo_4 22 rfl rfl)
theorem dX6_comesTo_119 : decode cX6_comesTo 119 = .ok (.lcmp, 1) := dk_148 (dk_at dksX6_comesTo_4 23 rfl rfl)
theorem dX6_comesTo_120 : decode cX6_comesTo 120 = .ok (.ifCond .eq 10, 3) := dk_153 0 10 (dk_at dksX6_comesTo_5 0 rfl rfl)
theorem dX6_comesTo_123 : decode cX6_comesTo 123 = .ok (.lload_n 2, 1) := dk_32 (dk_at dksX6_comesTo_5 3 rfl rfl)
theorem dX6_comesTo_124 : decode cX6_comesTo 124 = .ok (.lconst 1, 1) := dk_10 (dk_at dksX6_comesTo_5 4 rfl rfl)
theorem dX6_comesTo_125 : decode cX6_comesTo 125 = .ok (.iload 5, 2) := dk_21 5 (dk_at dksX6_comesTo_5 5 rfl rfl)
theorem dX6_comesTo_127 : decode cX6_comesTo 127 = .ok (.lshl, 1) := dk_121 (dk_at dksX6_comesTo_5 7 rfl rfl)
theorem dX6_comesTo_128 : decode cX6_comesTo 128 = .ok (.lor, 1) := dk_129 (dk_at dksX6_comesTo_5 8 rfl rfl)
theorem dX6_comesTo_129 : decode cX6_comesTo 129 = .ok (.lstore_n 2, 1) := dk_65 (dk_at dksX6_comesTo_5 9 rfl rfl)
theorem dX6_comesTo_130 : decode cX6_comesTo 130 = .ok (.iinc 5 (-1), 3) := dk_132 5 255 (dk_at dksX6_comesTo_5 10 rfl rfl)
theorem dX6_comesTo_133 : decode cX6_comesTo 133 = .ok (.goto (-109), 3) := dk_167 255 147 (dk_at dksX6_comesTo_5 13 rfl rfl)
theorem dX6_comesTo_136 : decode cX6_comesTo 136 = .ok (.iinc 4 1, 3) := dk_132 4 1 (dk_at dksX6_comesTo_5 16 rfl rfl)
theorem dX6_comesTo_139 : decode cX6_comesTo 139 = .ok (.goto (-132), 3) := dk_167 255 124 (dk_at dksX6_comesTo_5 19 rfl rfl)
theorem dX6_comesTo_142 : decode cX6_comesTo 142 = .ok (.lload_n 2, 1) := dk_32 (dk_at dksX6_comesTo_5 22 rfl rfl)
theorem dX6_comesTo_143 : decode cX6_comesTo 143 = .ok (.lreturn, 1) := dk_173 (dk_at dksX6_comesTo_5 23 rfl rfl)
def dkwX6_lets_1 : List UInt8 := [182, 0, 108, 182, 1, 16, 173]
abbrev dktX6_lets_1 : List UInt8 := dkwX6_lets_1 ++ []
def dkwX6_lets_0 : List UInt8 := [42, 3, 181, 0, 3, 42, 27, 182, 1, 10, 153, 0, 5, 9, 173, 42, 182, 1, 13, 42, 27, 42, 27, 5]
abbrev dktX6_lets_0 : List UInt8 := dkwX6_lets_0 ++ dktX6_lets_1
theorem dksX6_lets_0 : cX6_lets.data.toList.drop 0 = dktX6_lets_0 := by decide +kernel
theorem dksX6_lets_1 : cX6_lets.data.toList.drop 24 = dktX6_lets_1 := dk_seg dksX6_lets_0 24 rfl rfl
theorem dX6_lets_0 : decode cX6_lets 0 = .ok (.aload_n 0, 1) := dk_42 (dk_at dksX6_lets_0 0 rfl rfl)
theorem dX6_lets_1 : decode cX6_lets 1 = .ok (.iconst 0, 1) := dk_3 (dk_at dksX6_lets_0 1 rfl rfl)
theorem dX6_lets_2 : decode cX6_lets 2 = .ok (.putfield 3, 3) := dk_181 0 3 (dk_at dksX6_lets_0 2 rfl rfl)
theorem dX6_lets_5 : decode cX6_lets 5 = .ok (.aload_n 0, 1) := dk_42 (dk_at dksX6_lets_0 5 rfl rfl)
theorem dX6_lets_6 : decode cX6_lets 6 = .ok (.iload_n 1, 1) := dk_27 (dk_at dksX6_lets_0 6 rfl rfl)
theorem dX6_lets_7 : decode cX6_lets 7 = .ok (.invokevirtual 266, 3) := dk_182 1 10 (dk_at dksX6_lets_0 7 rfl rfl)
theorem dX6_lets_10 : decode cX6_lets 10 = .ok (.ifCond .eq 5, 3) := dk_153 0 5 (dk_at dksX6_lets_0 10 rfl rfl)
theorem dX6_lets_13 : decode cX6_lets 13 = .ok (.lconst 0, 1) := dk_9 (dk_at dksX6_lets_0 13 rfl rfl)
theorem dX6_lets_14 : decode cX6_lets 14 = .ok (.lreturn, 1) := dk_173 (dk_at dksX6_lets_0 14 rfl rfl)
theorem dX6_lets_15 : decode cX6_lets 15 = .ok (.aload_n 0, 1) := dk_42 (dk_at dksX6_lets_0 15 rfl rfl)
theorem dX6_lets_16 : decode cX6_lets 16 = .ok (.invokevirtual 269, 3) := dk_182 1 13 (dk_at dksX6_lets_0 16 rfl rfl)
theorem dX6_lets_19 : decode cX6_lets 19 = .ok (.aload_n 0, 1) := dk_42 (dk_at dksX6_lets_0 19 rfl rfl)
theorem dX6_lets_20 : decode cX6_lets 20 = .ok (.iload_n 1, 1) := dk_27 (dk_at dksX6_lets_0 20 rfl rfl)
theorem dX6_lets_21 : decode cX6_lets 21 = .ok (.aload_n 0, 1) := dk_42 (dk_at dksX6_lets_0 21 rfl rfl)
theorem dX6_lets_22 : decode cX6_lets 22 = .ok (.iload_n 1, 1) := dk_27 (dk_at dksX6_lets_0 22 rfl rfl)
theorem dX6_lets_23 : decode cX6_lets 23 = .ok (.iconst 2, 1) := dk_5 (dk_at dksX6_lets_0 23 rfl rfl)
theorem dX6_lets_24 : decode cX6_lets 24 = .ok (.invokevirtual 108, 3) := dk_182 0 108 (dk_at dksX6_lets_1 0 rfl rfl)
theorem dX6_lets_27 : decode cX6_lets 27 = .ok (.invokevirtual 272, 3) := dk_182 1 16 (dk_at dksX6_lets_1 3 rfl rfl)
theorem dX6_lets_30 : decode cX6_lets 30 = .ok (.lreturn, 1) := dk_173 (dk_at dksX6_lets_1 6 rfl rfl)
def dkwX6_letsBy_1 : List UInt8 := [167, 0, 9, 42, 180, 0, 44, 27, 47, 173]
abbrev dktX6_letsBy_1 : List UInt8 := dkwX6_letsBy_1 ++ []
def dkwX6_letsBy_0 : List UInt8 := [28, 154, 0, 10, 42, 182, 1, 1, 167, 0, 23, 28, 4, 160, 0, 12, 42, 180, 0, 41, 27, 47]
abbrev dktX6_letsBy_0 : List UInt8 := dkwX6_letsBy_0 ++ dktX6_letsBy_1
theorem dksX6_letsBy_0 : cX6_letsBy.data.toList.drop 0 = dktX6_letsBy_0 := by decide +kernel
theorem dksX6_letsBy_1 : cX6_letsBy.data.toList.drop 22 = dktX6_letsBy_1 := dk_seg dksX6_letsBy_0 22 rfl rfl
theorem dX6_letsBy_0 : decode cX6_letsBy 0 = .ok (.iload_n 2, 1) := dk_28 (dk_at dksX6_letsBy_0 0 rfl rfl)
theorem dX6_letsBy_1 : decode cX6_letsBy 1 = .ok (.ifCond .ne 10, 3) := dk_154 0 10 (dk_at dksX6_letsBy_0 1 rfl rfl)
theorem dX6_letsBy_4 : decode cX6_letsBy 4 = .ok (.aload_n 0, 1) := dk_42 (dk_at dksX6_letsBy_0 4 rfl rfl)
theorem dX6_letsBy_5 : decode cX6_letsBy 5 = .ok (.invokevirtual 257, 3) := dk_182 1 1 (dk_at dksX6_letsBy_0 5 rfl rfl)
theorem dX6_letsBy_8 : decode cX6_letsBy 8 = .ok (.goto 23, 3) := dk_167 0 23 (dk_at dksX6_letsBy_0 8 rfl rfl)
theorem dX6_letsBy_11 : decode cX6_letsBy 11 = .ok (.iload_n 2, 1) := dk_28 (dk_at dksX6_letsBy_0 11 rfl rfl)
theorem dX6_letsBy_12 : decode cX6_letsBy 12 = .ok (.iconst 1, 1) := dk_4 (dk_at dksX6_letsBy_0 12 rfl rfl)
theorem dX6_letsBy_13 : decode cX6_letsBy 13 = .ok (.if_icmp .ne 12, 3) := dk_160 0 12 (dk_at dksX6_letsBy_0 13 rfl rfl)
theorem dX6_letsBy_16 : decode cX6_letsBy 16 = .ok (.aload_n 0, 1) := dk_42 (dk_at dksX6_letsBy_0 16 rfl rfl)
theorem dX6_letsBy_17 : decode cX6_letsBy 17 = .ok (.getfield 41, 3) := dk_180 0 41 (dk_at dksX6_letsBy_0 17 rfl rfl)
theorem dX6_letsBy_20 : decode cX6_letsBy 20 = .ok (.iload_n 1, 1) := dk_27 (dk_at dksX6_letsBy_0 20 rfl rfl)
theorem dX6_letsBy_21 : decode cX6_letsBy 21 = .ok (.laload, 1) := dk_47 (dk_at dksX6_letsBy_0 21 rfl rfl)
theorem dX6_letsBy_22 : decode cX6_letsBy 22 = .ok (.goto 9, 3) := dk_167 0 9 (dk_at dksX6_letsBy_1 0 rfl rfl)
theorem dX6_letsBy_25 : decode cX6_letsBy 25 = .ok (.aload_n 0, 1) := dk_42 (dk_at dksX6_letsBy_1 3 rfl rfl)
theorem dX6_letsBy_26 : decode cX6_letsBy 26 = .ok (.getfield 44, 3) := dk_180 0 44 (dk_at dksX6_letsBy_1 4 rfl rfl)
theorem dX6_letsBy_29 : decode cX6_letsBy 29 = .ok (.iload_n 1, 1) := dk_27 (dk_at dksX6_letsBy_1 7 rfl rfl)
theorem dX6_letsBy_30 : decode cX6_letsBy 30 = .ok (.laload, 1) := dk_47 (dk_at dksX6_letsBy_1 8 rfl rfl)
theorem dX6_letsBy_31 : decode cX6_letsBy 31 = .ok (.lreturn, 1) := dk_173 (dk_at dksX6_letsBy_1 9 rfl rfl)
def dkwX6_holds_1 : List UInt8 := [180, 0, 33, 27, 47, 173]
abbrev dktX6_holds_1 : List UInt8 := dkwX6_holds_1 ++ []
def dkwX6_holds_0 : List UInt8 := [42, 3, 181, 0, 3, 42, 27, 184, 1, 20, 4, 182, 0, 230, 153, 0, 5, 9, 173, 42, 182, 1, 13, 42]
abbrev dktX6_holds_0 : List UInt8 := dkwX6_holds_0 ++ dktX6_holds_1
theorem dksX6_holds_0 : cX6_holds.data.toList.drop 0 = dktX6_holds_0 := by decide +kernel
theorem dksX6_holds_1 : cX6_holds.data.toList.drop 24 = dktX6_holds_1 := dk_seg dksX6_holds_0 24 rfl rfl
theorem dX6_holds_0 : decode cX6_holds 0 = .ok (.aload_n 0, 1) := dk_42 (dk_at dksX6_holds_0 0 rfl rfl)
theorem dX6_holds_1 : decode cX6_holds 1 = .ok (.iconst 0, 1) := dk_3 (dk_at dksX6_holds_0 1 rfl rfl)
theorem dX6_holds_2 : decode cX6_holds 2 = .ok (.putfield 3, 3) := dk_181 0 3 (dk_at dksX6_holds_0 2 rfl rfl)
theorem dX6_holds_5 : decode cX6_holds 5 = .ok (.aload_n 0, 1) := dk_42 (dk_at dksX6_holds_0 5 rfl rfl)
theorem dX6_holds_6 : decode cX6_holds 6 = .ok (.iload_n 1, 1) := dk_27 (dk_at dksX6_holds_0 6 rfl rfl)
theorem dX6_holds_7 : decode cX6_holds 7 = .ok (.invokestatic 276, 3) := dk_184 1 20 (dk_at dksX6_holds_0 7 rfl rfl)
theorem dX6_holds_10 : decode cX6_holds 10 = .ok (.iconst 1, 1) := dk_4 (dk_at dksX6_holds_0 10 rfl rfl)
theorem dX6_holds_11 : decode cX6_holds 11 = .ok (.invokevirtual 230, 3) := dk_182 0 230 (dk_at dksX6_holds_0 11 rfl rfl)
theorem dX6_holds_14 : decode cX6_holds 14 = .ok (.ifCond .eq 5, 3) := dk_153 0 5 (dk_at dksX6_holds_0 14 rfl rfl)
theorem dX6_holds_17 : decode cX6_holds 17 = .ok (.lconst 0, 1) := dk_9 (dk_at dksX6_holds_0 17 rfl rfl)
theorem dX6_holds_18 : decode cX6_holds 18 = .ok (.lreturn, 1) := dk_173 (dk_at dksX6_holds_0 18 rfl rfl)
theorem dX6_holds_19 : decode cX6_holds 19 = .ok (.aload_n 0, 1) := dk_42 (dk_at dksX6_holds_0 19 rfl rfl)
theorem dX6_holds_20 : decode cX6_holds 20 = .ok (.invokevirtual 269, 3) := dk_182 1 13 (dk_at dksX6_holds_0 20 rfl rfl)
theorem dX6_holds_23 : decode cX6_holds 23 = .ok (.aload_n 0, 1) := dk_42 (dk_at dksX6_holds_0 23 rfl rfl)
theorem dX6_holds_24 : decode cX6_holds 24 = .ok (.getfield 33, 3) := dk_180 0 33 (dk_at dksX6_holds_1 0 rfl rfl)
theorem dX6_holds_27 : decode cX6_holds 27 = .ok (.iload_n 1, 1) := dk_27 (dk_at dksX6_holds_1 3 rfl rfl)
theorem dX6_holds_28 : decode cX6_holds 28 = .ok (.laload, 1) := dk_47 (dk_at dksX6_holds_1 4 rfl rfl)
theorem dX6_holds_29 : decode cX6_holds 29 = .ok (.lreturn, 1) := dk_173 (dk_at dksX6_holds_1 5 rfl rfl)
def dkwX6_noCell_0 : List UInt8 := [26, 3, 16, 15, 184, 0, 116, 154, 0, 7, 4, 167, 0, 4, 3, 172]
abbrev dktX6_noCell_0 : List UInt8 := dkwX6_noCell_0 ++ []
theorem dksX6_noCell_0 : cX6_noCell.data.toList.drop 0 = dktX6_noCell_0 := by decide +kernel
theorem dX6_noCell_0 : decode cX6_noCell 0 = .ok (.iload_n 0, 1) := dk_26 (dk_at dksX6_noCell_0 0 rfl rfl)
theorem dX6_noCell_1 : decode cX6_noCell 1 = .ok (.iconst 0, 1) := dk_3 (dk_at dksX6_noCell_0 1 rfl rfl)
theorem dX6_noCell_2 : decode cX6_noCell 2 = .ok (.bipush 15, 2) := dk_16 15 (dk_at dksX6_noCell_0 2 rfl rfl)
theorem dX6_noCell_4 : decode cX6_noCell 4 = .ok (.invokestatic 116, 3) := dk_184 0 116 (dk_at dksX6_noCell_0 4 rfl rfl)
theorem dX6_noCell_7 : decode cX6_noCell 7 = .ok (.ifCond .ne 7, 3) := dk_154 0 7 (dk_at dksX6_noCell_0 7 rfl rfl)
theorem dX6_noCell_10 : decode cX6_noCell 10 = .ok (.iconst 1, 1) := dk_4 (dk_at dksX6_noCell_0 10 rfl rfl)
theorem dX6_noCell_11 : decode cX6_noCell 11 = .ok (.goto 4, 3) := dk_167 0 4 (dk_at dksX6_noCell_0 11 rfl rfl)
theorem dX6_noCell_14 : decode cX6_noCell 14 = .ok (.iconst 0, 1) := dk_3 (dk_at dksX6_noCell_0 14 rfl rfl)
theorem dX6_noCell_15 : decode cX6_noCell 15 = .ok (.ireturn, 1) := dk_172 (dk_at dksX6_noCell_0 15 rfl rfl)
def dkwX6_odd_1 : List UInt8 := [180, 0, 37, 27, 51, 172]
abbrev dktX6_odd_1 : List UInt8 := dkwX6_odd_1 ++ []
def dkwX6_odd_0 : List UInt8 := [42, 3, 181, 0, 3, 42, 27, 184, 1, 20, 4, 182, 0, 230, 153, 0, 5, 3, 172, 42, 182, 1, 13, 42]
abbrev dktX6_odd_0 : List UInt8 := dkwX6_odd_0 ++ dktX6_odd_1
theorem dksX6_odd_0 : cX6_odd.data.toList.drop 0 = dktX6_odd_0 := by decide +kernel
theorem dksX6_odd_1 : cX6_odd.data.toList.drop 24 = dktX6_odd_1 := dk_seg dksX6_odd_0 24 rfl rfl
theorem dX6_odd_0 : decode cX6_odd 0 = .ok (.aload_n 0, 1) := dk_42 (dk_at dksX6_odd_0 0 rfl rfl)
theorem dX6_odd_1 : decode cX6_odd 1 = .ok (.iconst 0, 1) := dk_3 (dk_at dksX6_odd_0 1 rfl rfl)
theorem dX6_odd_2 : decode cX6_odd 2 = .ok (.putfield 3, 3) := dk_181 0 3 (dk_at dksX6_odd_0 2 rfl rfl)
theorem dX6_odd_5 : decode cX6_odd 5 = .ok (.aload_n 0, 1) := dk_42 (dk_at dksX6_odd_0 5 rfl rfl)
theorem dX6_odd_6 : decode cX6_odd 6 = .ok (.iload_n 1, 1) := dk_27 (dk_at dksX6_odd_0 6 rfl rfl)
theorem dX6_odd_7 : decode cX6_odd 7 = .ok (.invokestatic 276, 3) := dk_184 1 20 (dk_at dksX6_odd_0 7 rfl rfl)
theorem dX6_odd_10 : decode cX6_odd 10 = .ok (.iconst 1, 1) := dk_4 (dk_at dksX6_odd_0 10 rfl rfl)
theorem dX6_odd_11 : decode cX6_odd 11 = .ok (.invokevirtual 230, 3) := dk_182 0 230 (dk_at dksX6_odd_0 11 rfl rfl)
theorem dX6_odd_14 : decode cX6_odd 14 = .ok (.ifCond .eq 5, 3) := dk_153 0 5 (dk_at dksX6_odd_0 14 rfl rfl)
theorem dX6_odd_17 : decode cX6_odd 17 = .ok (.iconst 0, 1) := dk_3 (dk_at dksX6_odd_0 17 rfl rfl)
theorem dX6_odd_18 : decode cX6_odd 18 = .ok (.ireturn, 1) := dk_172 (dk_at dksX6_odd_0 18 rfl rfl)
theorem dX6_odd_19 : decode cX6_odd 19 = .ok (.aload_n 0, 1) := dk_42 (dk_at dksX6_odd_0 19 rfl rfl)
theorem dX6_odd_20 : decode cX6_odd 20 = .ok (.invokevirtual 269, 3) := dk_182 1 13 (dk_at dksX6_odd_0 20 rfl rfl)
theorem dX6_odd_23 : decode cX6_odd 23 = .ok (.aload_n 0, 1) := dk_42 (dk_at dksX6_odd_0 23 rfl rfl)
theorem dX6_odd_24 : decode cX6_odd 24 = .ok (.getfield 37, 3) := dk_180 0 37 (dk_at dksX6_odd_1 0 rfl rfl)
theorem dX6_odd_27 : decode cX6_odd 27 = .ok (.iload_n 1, 1) := dk_27 (dk_at dksX6_odd_1 3 rfl rfl)
theorem dX6_odd_28 : decode cX6_odd 28 = .ok (.baload, 1) := dk_51 (dk_at dksX6_odd_1 4 rfl rfl)
theorem dX6_odd_29 : decode cX6_odd 29 = .ok (.ireturn, 1) := dk_172 (dk_at dksX6_odd_1 5 rfl rfl)
def dkwX6_bend_5 : List UInt8 := [96, 29, 79, 42, 180, 0, 13, 4, 92, 46, 4, 96, 79, 42, 180, 0, 13, 4, 46, 4, 100, 172]
abbrev dktX6_bend_5 : List UInt8 := dkwX6_bend_5 ++ []
def dkwX6_bend_4 : List UInt8 := [180, 0, 13, 21, 4, 27, 79, 42, 180, 0, 13, 21, 4, 4, 96, 28, 79, 42, 180, 0, 13, 21, 4, 5]
abbrev dktX6_bend_4 : List UInt8 := dkwX6_bend_4 ++ dktX6_bend_5
def dkwX6_bend_3 : List UInt8 := [182, 0, 230, 153, 0, 5, 3, 172, 17, 1, 112, 6, 42, 180, 0, 13, 4, 46, 104, 96, 54, 4, 42]
abbrev dktX6_bend_3 : List UInt8 := dkwX6_bend_3 ++ dktX6_bend_4
def dkwX6_bend_2 : List UInt8 := [182, 0, 230, 154, 0, 27, 42, 42, 180, 0, 13, 4, 46, 16, 8, 160, 0, 7, 4, 167, 0, 4, 3, 6]
abbrev dktX6_bend_2 : List UInt8 := dkwX6_bend_2 ++ dktX6_bend_3
def dkwX6_bend_1 : List UInt8 := [182, 0, 230, 154, 0, 51, 42, 27, 3, 17, 1, 43, 184, 0, 116, 154, 0, 7, 4, 167, 0, 4, 3, 5]
abbrev dktX6_bend_1 : List UInt8 := dkwX6_bend_1 ++ dktX6_bend_2
def dkwX6_bend_0 : List UInt8 := [42, 3, 181, 0, 3, 42, 28, 3, 16, 16, 184, 0, 116, 154, 0, 7, 4, 167, 0, 4, 3, 4]
abbrev dktX6_bend_0 : List UInt8 := dkwX6_bend_0 ++ dktX6_bend_1
theorem dksX6_bend_0 : cX6_bend.data.toList.drop 0 = dktX6_bend_0 := by decide +kernel
theorem dksX6_bend_1 : cX6_bend.data.toList.drop 22 = dktX6_bend_1 := dk_seg dksX6_bend_0 22 rfl rfl
theorem dksX6_bend_2 : cX6_bend.data.toList.drop 46 = dktX6_bend_2 := dk_seg dksX6_bend_1 24 rfl rfl
theorem dksX6_bend_3 : cX6_bend.data.toList.drop 70 = dktX6_bend_3 := dk_seg dksX6_bend_2 24 rfl rfl
theorem dksX6_bend_4 : cX6_bend.data.toList.drop 93 = dktX6_bend_4 := dk_seg dksX6_bend_3 23 rfl rfl
theorem dksX6_bend_5 : cX6_bend.data.toList.drop 117 = dktX6_bend_5 := dk_seg dksX6_bend_4 24 rfl rfl
theorem dX6_bend_0 : decode cX6_bend 0 = .ok (.aload_n 0, 1) := dk_42 (dk_at dksX6_bend_0 0 rfl rfl)
theorem dX6_bend_1 : decode cX6_bend 1 = .ok (.iconst 0, 1) := dk_3 (dk_at dksX6_bend_0 1 rfl rfl)
theorem dX6_bend_2 : decode cX6_bend 2 = .ok (.putfield 3, 3) := dk_181 0 3 (dk_at dksX6_bend_0 2 rfl rfl)
theorem dX6_bend_5 : decode cX6_bend 5 = .ok (.aload_n 0, 1) := dk_42 (dk_at dksX6_bend_0 5 rfl rfl)
theorem dX6_bend_6 : decode cX6_bend 6 = .ok (.iload_n 2, 1) := dk_28 (dk_at dksX6_bend_0 6 rfl rfl)
theorem dX6_bend_7 : decode cX6_bend 7 = .ok (.iconst 0, 1) := dk_3 (dk_at dksX6_bend_0 7 rfl rfl)
theorem dX6_bend_8 : decode cX6_bend 8 = .ok (.bipush 16, 2) := dk_16 16 (dk_at dksX6_bend_0 8 rfl rfl)
theorem dX6_bend_10 : decode cX6_bend 10 = .ok (.invokestatic 116, 3) := dk_184 0 116 (dk_at dksX6_bend_0 10 rfl rfl)
theorem dX6_bend_13 : decode cX6_bend 13 = .ok (.ifCond .ne 7, 3) := dk_154 0 7 (dk_at dksX6_bend_0 13 rfl rfl)
theorem dX6_bend_16 : decode cX6_bend 16 = .ok (.iconst 1, 1) := dk_4 (dk_at dksX6_bend_0 16 rfl rfl)
theorem dX6_bend_17 : decode cX6_bend 17 = .ok (.goto 4, 3) := dk_167 0 4 (dk_at dksX6_bend_0 17 rfl rfl)
theorem dX6_bend_20 : decode cX6_bend 20 = .ok (.iconst 0, 1) := dk_3 (dk_at dksX6_bend_0 20 rfl rfl)
theorem dX6_bend_21 : decode cX6_bend 21 = .ok (.iconst 1, 1) := dk_4 (dk_at dksX6_bend_0 21 rfl rfl)
theorem dX6_bend_22 : decode cX6_bend 22 = .ok (.invokevirtual 230, 3) := dk_182 0 230 (dk_at dksX6_bend_1 0 rfl rfl)
theorem dX6_bend_25 : decode cX6_bend 25 = .ok (.ifCond .ne 51, 3) := dk_154 0 51 (dk_at dksX6_bend_1 3 rfl rfl)
theorem dX6_bend_28 : decode cX6_bend 28 = .ok (.aload_n 0, 1) := dk_42 (dk_at dksX6_bend_1 6 rfl rfl)
theorem dX6_bend_29 : decode cX6_bend 29 = .ok (.iload_n 1, 1) := dk_27 (dk_at dksX6_bend_1 7 rfl rfl)
theorem dX6_bend_30 : decode cX6_bend 30 = .ok (.iconst 0, 1) := dk_3 (dk_at dksX6_bend_1 8 rfl rfl)
theorem dX6_bend_31 : decode cX6_bend 31 = .ok (.sipush 299, 3) := dk_17 1 43 (dk_at dksX6_bend_1 9 rfl rfl)
theorem dX6_bend_34 : decode cX6_bend 34 = .ok (.invokestatic 116, 3) := dk_184 0 116 (dk_at dksX6_bend_1 12 rfl rfl)
theorem dX6_bend_37 : decode cX6_bend 37 = .ok (.ifCond .ne 7, 3) := dk_154 0 7 (dk_at dksX6_bend_1 15 rfl rfl)
theorem dX6_bend_40 : decode cX6_bend 40 = .ok (.iconst 1, 1) := dk_4 (dk_at dksX6_bend_1 18 rfl rfl)
theorem dX6_bend_41 : decode cX6_bend 41 = .ok (.goto 4, 3) := dk_167 0 4 (dk_at dksX6_bend_1 19 rfl rfl)
theorem dX6_bend_44 : decode cX6_bend 44 = .ok (.iconst 0, 1) := dk_3 (dk_at dksX6_bend_1 22 rfl rfl)
theorem dX6_bend_45 : decode cX6_bend 45 = .ok (.iconst 2, 1) := dk_5 (dk_at dksX6_bend_1 23 rfl rfl)
theorem dX6_bend_46 : decode cX6_bend 46 = .ok (.invokevirtual 230, 3) := dk_182 0 230 (dk_at dksX6_bend_2 0 rfl rfl)
theorem dX6_bend_49 : decode cX6_bend 49 = .ok (.ifCond .ne 27, 3) := dk_154 0 27 (dk_at dksX6_bend_2 3 rfl rfl)
theorem dX6_bend_52 : decode cX6_bend 52 = .ok (.aload_n 0, 1) := dk_42 (dk_at dksX6_bend_2 6 rfl rfl)
theorem dX6_bend_53 : decode cX6_bend 53 = .ok (.aload_n 0, 1) := dk_42 (dk_at dksX6_bend_2 7 rfl rfl)
theorem dX6_bend_54 : decode cX6_bend 54 = .ok (.getfield 13, 3) := dk_180 0 13 (dk_at dksX6_bend_2 8 rfl rfl)
theorem dX6_bend_57 : decode cX6_bend 57 = .ok (.iconst 1, 1) := dk_4 (dk_at dksX6_bend_2 11 rfl rfl)
theorem dX6_bend_58 : decode cX6_bend 58 = .ok (.iaload, 1) := dk_46 (dk_at dksX6_bend_2 12 rfl rfl)
theorem dX6_bend_59 : decode cX6_bend 59 = .ok (.bipush 8, 2) := dk_16 8 (dk_at dksX6_bend_2 13 rfl rfl)
theorem dX6_bend_61 : decode cX6_bend 61 = .ok (.if_icmp .ne 7, 3) := dk_160 0 7 (dk_at dksX6_bend_2 15 rfl rfl)
theorem dX6_bend_64 : decode cX6_bend 64 = .ok (.iconst 1, 1) := dk_4 (dk_at dksX6_bend_2 18 rfl rfl)
theorem dX6_bend_65 : decode cX6_bend 65 = .ok (.goto 4, 3) := dk_167 0 4 (dk_at dksX6_bend_2 19 rfl rfl)
theorem dX6_bend_68 : decode cX6_bend 68 = .ok (.iconst 0, 1) := dk_3 (dk_at dksX6_bend_2 22 rfl rfl)
theorem dX6_bend_69 : decode cX6_bend 69 = .ok (.iconst 3, 1) := dk_6 (dk_at dksX6_bend_2 23 rfl rfl)
theorem dX6_bend_70 : decode cX6_bend 70 = .ok (.invokevirtual 230, 3) := dk_182 0 230 (dk_at dksX6_bend_3 0 rfl rfl)
theorem dX6_bend_73 : decode cX6_bend 73 = .ok (.ifCond .eq 5, 3) := dk_153 0 5 (dk_at dksX6_bend_3 3 rfl rfl)
theorem dX6_bend_76 : decode cX6_bend 76 = .ok (.iconst 0, 1) := dk_3 (dk_at dksX6_bend_3 6 rfl rfl)
theorem dX6_bend_77 : decode cX6_bend 77 = .ok (.ireturn, 1) := dk_172 (dk_at dksX6_bend_3 7 rfl rfl)
theorem dX6_bend_78 : decode cX6_bend 78 = .ok (.sipush 368, 3) := dk_17 1 112 (dk_at dksX6_bend_3 8 rfl rfl)
theorem dX6_bend_81 : decode cX6_bend 81 = .ok (.iconst 3, 1) := dk_6 (dk_at dksX6_bend_3 11 rfl rfl)
theorem dX6_bend_82 : decode cX6_bend 82 = .ok (.aload_n 0, 1) := dk_42 (dk_at dksX6_bend_3 12 rfl rfl)
theorem dX6_bend_83 : decode cX6_bend 83 = .ok (.getfield 13, 3) := dk_180 0 13 (dk_at dksX6_bend_3 13 rfl rfl)
theorem dX6_bend_86 : decode cX6_bend 86 = .ok (.iconst 1, 1) := dk_4 (dk_at dksX6_bend_3 16 rfl rfl)
theorem dX6_bend_87 : decode cX6_bend 87 = .ok (.iaload, 1) := dk_46 (dk_at dksX6_bend_3 17 rfl rfl)
theorem dX6_bend_88 : decode cX6_bend 88 = .ok (.imul, 1) := dk_104 (dk_at dksX6_bend_3 18 rfl rfl)
theorem dX6_bend_89 : decode cX6_bend 89 = .ok (.iadd, 1) := dk_96 (dk_at dksX6_bend_3 19 rfl rfl)
theorem dX6_bend_90 : decode cX6_bend 90 = .ok (.istore 4, 2) := dk_54 4 (dk_at dksX6_bend_3 20 rfl rfl)
theorem dX6_bend_92 : decode cX6_bend 92 = .ok (.aload_n 0, 1) := dk_42 (dk_at dksX6_bend_3 22 rfl rfl)
theorem dX6_bend_93 : decode cX6_bend 93 = .ok (.getfield 13, 3) := dk_180 0 13 (dk_at dksX6_bend_4 0 rfl rfl)
theorem dX6_bend_96 : decode cX6_bend 96 = .ok (.iload 4, 2) := dk_21 4 (dk_at dksX6_bend_4 3 rfl rfl)
theorem dX6_bend_98 : decode cX6_bend 98 = .ok (.iload_n 1, 1) := dk_27 (dk_at dksX6_bend_4 5 rfl rfl)
theorem dX6_bend_99 : decode cX6_bend 99 = .ok (.iastore, 1) := dk_79 (dk_at dksX6_bend_4 6 rfl rfl)
theorem dX6_bend_100 : decode cX6_bend 100 = .ok (.aload_n 0, 1) := dk_42 (dk_at dksX6_bend_4 7 rfl rfl)
theorem dX6_bend_101 : decode cX6_bend 101 = .ok (.getfield 13, 3) := dk_180 0 13 (dk_at dksX6_bend_4 8 rfl rfl)
theorem dX6_bend_104 : decode cX6_bend 104 = .ok (.iload 4, 2) := dk_21 4 (dk_at dksX6_bend_4 11 rfl rfl)
theorem dX6_bend_106 : decode cX6_bend 106 = .ok (.iconst 1, 1) := dk_4 (dk_at dksX6_bend_4 13 rfl rfl)
theorem dX6_bend_107 : decode cX6_bend 107 = .ok (.iadd, 1) := dk_96 (dk_at dksX6_bend_4 14 rfl rfl)
theorem dX6_bend_108 : decode cX6_bend 108 = .ok (.iload_n 2, 1) := dk_28 (dk_at dksX6_bend_4 15 rfl rfl)
theorem dX6_bend_109 : decode cX6_bend 109 = .ok (.iastore, 1) := dk_79 (dk_at dksX6_bend_4 16 rfl rfl)
theorem dX6_bend_110 : decode cX6_bend 110 = .ok (.aload_n 0, 1) := dk_42 (dk_at dksX6_bend_4 17 rfl rfl)
theorem dX6_bend_111 : decode cX6_bend 111 = .ok (.getfield 13, 3) := dk_180 0 13 (dk_at dksX6_bend_4 18 rfl rfl)
theorem dX6_bend_114 : decode cX6_bend 114 = .ok (.iload 4, 2) := dk_21 4 (dk_at dksX6_bend_4 21 rfl rfl)
theorem dX6_bend_116 : decode cX6_bend 116 = .ok (.iconst 2, 1) := dk_5 (dk_at dksX6_bend_4 23 rfl rfl)
theorem dX6_bend_117 : decode cX6_bend 117 = .ok (.iadd, 1) := dk_96 (dk_at dksX6_bend_5 0 rfl rfl)
theorem dX6_bend_118 : decode cX6_bend 118 = .ok (.iload_n 3, 1) := dk_29 (dk_at dksX6_bend_5 1 rfl rfl)
theorem dX6_bend_119 : decode cX6_bend 119 = .ok (.iastore, 1) := dk_79 (dk_at dksX6_bend_5 2 rfl rfl)
theorem dX6_bend_120 : decode cX6_bend 120 = .ok (.aload_n 0, 1) := dk_42 (dk_at dksX6_bend_5 3 rfl rfl)
theorem dX6_bend_121 : decode cX6_bend 121 = .ok (.getfield 13, 3) := dk_180 0 13 (dk_at dksX6_bend_5 4 rfl rfl)
theorem dX6_bend_124 : decode cX6_bend 124 = .ok (.iconst 1, 1) := dk_4 (dk_at dksX6_bend_5 7 rfl rfl)
theorem dX6_bend_125 : decode cX6_bend 125 = .ok (.dup2, 1) := dk_92 (dk_at dksX6_bend_5 8 rfl rfl)
theorem dX6_bend_126 : decode cX6_bend 126 = .ok (.iaload, 1) := dk_46 (dk_at dksX6_bend_5 9 rfl rfl)
theorem dX6_bend_127 : decode cX6_bend 127 = .ok (.iconst 1, 1) := dk_4 (dk_at dksX6_bend_5 10 rfl rfl)
theorem dX6_bend_128 : decode cX6_bend 128 = .ok (.iadd, 1) := dk_96 (dk_at dksX6_bend_5 11 rfl rfl)
theorem dX6_bend_129 : decode cX6_bend 129 = .ok (.iastore, 1) := dk_79 (dk_at dksX6_bend_5 12 rfl rfl)
theorem dX6_bend_130 : decode cX6_bend 130 = .ok (.aload_n 0, 1) := dk_42 (dk_at dksX6_bend_5 13 rfl rfl)
theorem dX6_bend_131 : decode cX6_bend 131 = .ok (.getfield 13, 3) := dk_180 0 13 (dk_at dksX6_bend_5 14 rfl rfl)
theorem dX6_bend_134 : decode cX6_bend 134 = .ok (.iconst 1, 1) := dk_4 (dk_at dksX6_bend_5 17 rfl rfl)
theorem dX6_bend_135 : decode cX6_bend 135 = .ok (.iaload, 1) := dk_46 (dk_at dksX6_bend_5 18 rfl rfl)
theorem dX6_bend_136 : decode cX6_bend 136 = .ok (.iconst 1, 1) := dk_4 (dk_at dksX6_bend_5 19 rfl rfl)
theorem dX6_bend_137 : decode cX6_bend 137 = .ok (.isub, 1) := dk_100 (dk_at dksX6_bend_5 20 rfl rfl)
theorem dX6_bend_138 : decode cX6_bend 138 = .ok (.ireturn, 1) := dk_172 (dk_at dksX6_bend_5 21 rfl rfl)
def dkwX6_straight_0 : List UInt8 := [42, 3, 181, 0, 3, 42, 180, 0, 13, 4, 46, 60, 42, 180, 0, 13, 4, 3, 79, 27, 172]
abbrev dktX6_straight_0 : List UInt8 := dkwX6_straight_0 ++ []
theorem dksX6_straight_0 : cX6_straight.data.toList.drop 0 = dktX6_straight_0 := by decide +kernel
theorem dX6_straight_0 : decode cX6_straight 0 = .ok (.aload_n 0, 1) := dk_42 (dk_at dksX6_straight_0 0 rfl rfl)
theorem dX6_straight_1 : decode cX6_straight 1 = .ok (.iconst 0, 1) := dk_3 (dk_at dksX6_straight_0 1 rfl rfl)
theorem dX6_straight_2 : decode cX6_straight 2 = .ok (.putfield 3, 3) := dk_181 0 3 (dk_at dksX6_straight_0 2 rfl rfl)
theorem dX6_straight_5 : decode cX6_straight 5 = .ok (.aload_n 0, 1) := dk_42 (dk_at dksX6_straight_0 5 rfl rfl)
theorem dX6_straight_6 : decode cX6_straight 6 = .ok (.getfield 13, 3) := dk_180 0 13 (dk_at dksX6_straight_0 6 rfl rfl)
theorem dX6_straight_9 : decode cX6_straight 9 = .ok (.iconst 1, 1) := dk_4 (dk_at dksX6_straight_0 9 rfl rfl)
theorem dX6_straight_10 : decode cX6_straight 10 = .ok (.iaload, 1) := dk_46 (dk_at dksX6_straight_0 10 rfl rfl)
theorem dX6_straight_11 : decode cX6_straight 11 = .ok (.istore_n 1, 1) := dk_60 (dk_at dksX6_straight_0 11 rfl rfl)
theorem dX6_straight_12 : decode cX6_straight 12 = .ok (.aload_n 0, 1) := dk_42 (dk_at dksX6_straight_0 12 rfl rfl)
theorem dX6_straight_13 : decode cX6_straight 13 = .ok (.getfield 13, 3) := dk_180 0 13 (dk_at dksX6_straight_0 13 rfl rfl)
theorem dX6_straight_16 : decode cX6_straight 16 = .ok (.iconst 1, 1) := dk_4 (dk_at dksX6_straight_0 16 rfl rfl)
theorem dX6_straight_17 : decode cX6_straight 17 = .ok (.iconst 0, 1) := dk_3 (dk_at dksX6_straight_0 17 rfl rfl)
theorem dX6_straight_18 : decode cX6_straight 18 = .ok (.iastore, 1) := dk_79 (dk_at dksX6_straight_0 18 rfl rfl)
theorem dX6_straight_19 : decode cX6_straight 19 = .ok (.iload_n 1, 1) := dk_27 (dk_at dksX6_straight_0 19 rfl rfl)
theorem dX6_straight_20 : decode cX6_straight 20 = .ok (.ireturn, 1) := dk_172 (dk_at dksX6_straight_0 20 rfl rfl)
def dkwX6_run_4 : List UInt8 := [172, 42, 180, 1, 66, 172, 42, 180, 1, 69, 172, 42, 180, 1, 72, 172]
abbrev dktX6_run_4 : List UInt8 := dkwX6_run_4 ++ []
def dkwX6_run_3 : List UInt8 := [42, 180, 1, 84, 172, 42, 180, 1, 57, 172, 42, 180, 1, 63, 172, 42, 180, 1, 60, 172, 42, 180, 1, 54]
abbrev dktX6_run_3 : List UInt8 := dkwX6_run_3 ++ dktX6_run_4
def dkwX6_run_2 : List UInt8 := [170, 0, 0, 0, 0, 0, 78, 0, 0, 0, 0, 0, 0, 0, 6, 0, 0, 0, 43, 0, 0, 0, 48, 0, 0, 0, 53, 0, 0, 0, 58, 0, 0, 0, 63, 0, 0, 0, 68, 0, 0, 0, 73]
abbrev dktX6_run_2 : List UInt8 := dkwX6_run_2 ++ dktX6_run_3
def dkwX6_run_1 : List UInt8 := [182, 0, 230, 153, 0, 5, 3, 172, 42, 27, 4, 182, 1, 96, 28]
abbrev dktX6_run_1 : List UInt8 := dkwX6_run_1 ++ dktX6_run_2
def dkwX6_run_0 : List UInt8 := [42, 3, 181, 0, 3, 42, 28, 3, 16, 7, 184, 0, 116, 154, 0, 7, 4, 167, 0, 4, 3, 4]
abbrev dktX6_run_0 : List UInt8 := dkwX6_run_0 ++ dktX6_run_1
theorem dksX6_run_0 : cX6_run.data.toList.drop 0 = dktX6_run_0 := by decide +kernel
theorem dksX6_run_1 : cX6_run.data.toList.drop 22 = dktX6_run_1 := dk_seg dksX6_run_0 22 rfl rfl
theorem dksX6_run_2 : cX6_run.data.toList.drop 37 = dktX6_run_2 := dk_seg dksX6_run_1 15 rfl rfl
theorem dksX6_run_3 : cX6_run.data.toList.drop 80 = dktX6_run_3 := dk_seg dksX6_run_2 43 rfl rfl
theorem dksX6_run_4 : cX6_run.data.toList.drop 104 = dktX6_run_4 := dk_seg dksX6_run_3 24 rfl rfl
theorem dX6_run_0 : decode cX6_run 0 = .ok (.aload_n 0, 1) := dk_42 (dk_at dksX6_run_0 0 rfl rfl)
theorem dX6_run_1 : decode cX6_run 1 = .ok (.iconst 0, 1) := dk_3 (dk_at dksX6_run_0 1 rfl rfl)
theorem dX6_run_2 : decode cX6_run 2 = .ok (.putfield 3, 3) := dk_181 0 3 (dk_at dksX6_run_0 2 rfl rfl)
theorem dX6_run_5 : decode cX6_run 5 = .ok (.aload_n 0, 1) := dk_42 (dk_at dksX6_run_0 5 rfl rfl)
theorem dX6_run_6 : decode cX6_run 6 = .ok (.iload_n 2, 1) := dk_28 (dk_at dksX6_run_0 6 rfl rfl)
theorem dX6_run_7 : decode cX6_run 7 = .ok (.iconst 0, 1) := dk_3 (dk_at dksX6_run_0 7 rfl rfl)
theorem dX6_run_8 : decode cX6_run 8 = .ok (.bipush 7, 2) := dk_16 7 (dk_at dksX6_run_0 8 rfl rfl)
theorem dX6_run_10 : decode cX6_run 10 = .ok (.invokestatic 116, 3) := dk_184 0 116 (dk_at dksX6_run_0 10 rfl rfl)
theorem dX6_run_13 : decode cX6_run 13 = .ok (.ifCond .ne 7, 3) := dk_154 0 7 (dk_at dksX6_run_0 13 rfl rfl)
theorem dX6_run_16 : decode cX6_run 16 = .ok (.iconst 1, 1) := dk_4 (dk_at dksX6_run_0 16 rfl rfl)
theorem dX6_run_17 : decode cX6_run 17 = .ok (.goto 4, 3) := dk_167 0 4 (dk_at dksX6_run_0 17 rfl rfl)
theorem dX6_run_20 : decode cX6_run 20 = .ok (.iconst 0, 1) := dk_3 (dk_at dksX6_run_0 20 rfl rfl)
theorem dX6_run_21 : decode cX6_run 21 = .ok (.iconst 1, 1) := dk_4 (dk_at dksX6_run_0 21 rfl rfl)
theorem dX6_run_22 : decode cX6_run 22 = .ok (.invokevirtual 230, 3) := dk_182 0 230 (dk_at dksX6_run_1 0 rfl rfl)
theorem dX6_run_25 : decode cX6_run 25 = .ok (.ifCond .eq 5, 3) := dk_153 0 5 (dk_at dksX6_run_1 3 rfl rfl)
theorem dX6_run_28 : decode cX6_run 28 = .ok (.iconst 0, 1) := dk_3 (dk_at dksX6_run_1 6 rfl rfl)
theorem dX6_run_29 : decode cX6_run 29 = .ok (.ireturn, 1) := dk_172 (dk_at dksX6_run_1 7 rfl rfl)
theorem dX6_run_30 : decode cX6_run 30 = .ok (.aload_n 0, 1) := dk_42 (dk_at dksX6_run_1 8 rfl rfl)
theorem dX6_run_31 : decode cX6_run 31 = .ok (.iload_n 1, 1) := dk_27 (dk_at dksX6_run_1 9 rfl rfl)
theorem dX6_run_32 : decode cX6_run 32 = .ok (.iconst 1, 1) := dk_4 (dk_at dksX6_run_1 10 rfl rfl)
theorem dX6_run_33 : decode cX6_run 33 = .ok (.invokevirtual 352, 3) := dk_182 1 96 (dk_at dksX6_run_1 11 rfl rfl)
theorem dX6_run_36 : decode cX6_run 36 = .ok (.iload_n 2, 1) := dk_28 (dk_at dksX6_run_1 14 rfl rfl)
theorem dX6_run_37 : decode cX6_run 37 = .ok (.tableswitch 78 0 6 #[43, 48, 53, 58, 63, 68, 73], 43) := by decide +kernel
theorem dX6_run_80 : decode cX6_run 80 = .ok (.aload_n 0, 1) := dk_42 (dk_at dksX6_run_3 0 rfl rfl)
theorem dX6_run_81 : decode cX6_run 81 = .ok (.getfield 340, 3) := dk_180 1 84 (dk_at dksX6_run_3 1 rfl rfl)
theorem dX6_run_84 : decode cX6_run 84 = .ok (.ireturn, 1) := dk_172 (dk_at dksX6_run_3 4 rfl rfl)
theorem dX6_run_85 : decode cX6_run 85 = .ok (.aload_n 0, 1) := dk_42 (dk_at dksX6_run_3 5 rfl rfl)
theorem dX6_run_86 : decode cX6_run 86 = .ok (.getfield 313, 3) := dk_180 1 57 (dk_at dksX6_run_3 6 rfl rfl)
theorem dX6_run_89 : decode cX6_run 89 = .ok (.ireturn, 1) := dk_172 (dk_at dksX6_run_3 9 rfl rfl)
theorem dX6_run_90 : decode cX6_run 90 = .ok (.aload_n 0, 1) := dk_42 (dk_at dksX6_run_3 10 rfl rfl)
theorem dX6_run_91 : decode cX6_run 91 = .ok (.getfield 319, 3) := dk_180 1 63 (dk_at dksX6_run_3 11 rfl rfl)
theorem dX6_run_94 : decode cX6_run 94 = .ok (.ireturn, 1) := dk_172 (dk_at dksX6_run_3 14 rfl rfl)
theorem dX6_run_95 : decode cX6_run 95 = .ok (.aload_n 0, 1) := dk_42 (dk_at dksX6_run_3 15 rfl rfl)
theorem dX6_run_96 : decode cX6_run 96 = .ok (.getfield 316, 3) := dk_180 1 60 (dk_at dksX6_run_3 16 rfl rfl)
theorem dX6_run_99 : decode cX6_run 99 = .ok (.ireturn, 1) := dk_172 (dk_at dksX6_run_3 19 rfl rfl)
theorem dX6_run_100 : decode cX6_run 100 = .ok (.aload_n 0, 1) := dk_42 (dk_at dksX6_run_3 20 rfl rfl)
theorem dX6_run_101 : decode cX6_run 101 = .ok (.getfield 310, 3) := dk_180 1 54 (dk_at dksX6_run_3 21 rfl rfl)
theorem dX6_run_104 : decode cX6_run 104 = .ok (.ireturn, 1) := dk_172 (dk_at dksX6_run_4 0 rfl rfl)
theorem dX6_run_105 : decode cX6_run 105 = .ok (.aload_n 0, 1) := dk_42 (dk_at dksX6_run_4 1 rfl rfl)
theorem dX6_run_106 : decode cX6_run 106 = .ok (.getfield 322, 3) := dk_180 1 66 (dk_at dksX6_run_4 2 rfl rfl)
theorem dX6_run_109 : decode cX6_run 109 = .ok (.ireturn, 1) := dk_172 (dk_at dksX6_run_4 5 rfl rfl)
theorem dX6_run_110 : decode cX6_run 110 = .ok (.aload_n 0, 1) := dk_42 (dk_at dksX6_run_4 6 rfl rfl)
theorem dX6_run_111 : decode cX6_run 111 = .ok (.getfield 325, 3) := dk_180 1 69 (dk_at dksX6_run_4 7 rfl rfl)
theorem dX6_run_114 : decode cX6_run 114 = .ok (.ireturn, 1) := dk_172 (dk_at dksX6_run_4 10 rfl rfl)
theorem dX6_run_115 : decode cX6_run 115 = .ok (.aload_n 0, 1) := dk_42 (dk_at dksX6_run_4 11 rfl rfl)
theorem dX6_run_116 : decode cX6_run 116 = .ok (.getfield 328, 3) := dk_180 1 72 (dk_at dksX6_run_4 12 rfl rfl)
theorem dX6_run_119 : decode cX6_run 119 = .ok (.ireturn, 1) := dk_172 (dk_at dksX6_run_4 15 rfl rfl)
def dkwX6_runs_12 : List UInt8 := [160, 0, 9, 42, 3, 181, 1, 84, 177, 167, 255, 22]
abbrev dktX6_runs_12 : List UInt8 := dkwX6_runs_12 ++ []
def dkwX6_runs_11 : List UInt8 := [180, 1, 57, 4, 96, 181, 1, 57, 42, 42, 29, 182, 1, 93, 181, 1, 60, 42, 29, 182, 0, 120, 16, 9]
abbrev dktX6_runs_11 : List UInt8 := dkwX6_runs_11 ++ dktX6_runs_12
def dkwX6_runs_10 : List UInt8 := [5, 182, 0, 108, 96, 46, 96, 181, 1, 63, 42, 180, 0, 62, 42, 180, 1, 57, 29, 79, 42, 89]
abbrev dktX6_runs_10 : List UInt8 := dkwX6_runs_10 ++ dktX6_runs_11
def dkwX6_runs_9 : List UInt8 := [89, 180, 1, 63, 42, 29, 5, 182, 0, 108, 154, 0, 7, 3, 167, 0, 16, 42, 180, 0, 13, 7, 42, 29]
abbrev dktX6_runs_9 : List UInt8 := dkwX6_runs_9 ++ dktX6_runs_10
def dkwX6_runs_8 : List UInt8 := [181, 1, 66, 21, 4, 153, 0, 18, 42, 180, 1, 75, 154, 0, 11, 42, 42, 180, 1, 66, 181, 1, 75, 42]
abbrev dktX6_runs_8 : List UInt8 := dkwX6_runs_8 ++ dktX6_runs_9
def dkwX6_runs_7 : List UInt8 := [42, 180, 0, 50, 42, 29, 8, 182, 0, 108, 46, 181, 1, 69, 177, 42, 89, 180, 1, 66, 4, 96]
abbrev dktX6_runs_7 : List UInt8 := dkwX6_runs_7 ++ dktX6_runs_8
def dkwX6_runs_6 : List UInt8 := [42, 29, 182, 0, 120, 16, 7, 160, 0, 17, 42, 180, 0, 56, 42, 180, 1, 33, 4, 100, 46, 167, 0, 14]
abbrev dktX6_runs_6 : List UInt8 := dkwX6_runs_6 ++ dktX6_runs_7
def dkwX6_runs_5 : List UInt8 := [21, 4, 153, 0, 61, 28, 153, 0, 57, 42, 4, 181, 1, 84, 42, 42, 29, 182, 1, 36, 181, 1, 72, 42]
abbrev dktX6_runs_5 : List UInt8 := dkwX6_runs_5 ++ dktX6_runs_6
def dkwX6_runs_4 : List UInt8 := [181, 1, 84, 177, 42, 180, 1, 60, 62, 42, 29, 182, 0, 237, 153, 0, 138, 42, 29, 182, 1, 90, 54, 4]
abbrev dktX6_runs_4 : List UInt8 := dkwX6_runs_4 ++ dktX6_runs_5
def dkwX6_runs_3 : List UInt8 := [160, 0, 9, 42, 5, 181, 1, 84, 177, 42, 42, 180, 1, 60, 182, 1, 87, 153, 0, 9, 42, 6]
abbrev dktX6_runs_3 : List UInt8 := dkwX6_runs_3 ++ dktX6_runs_4
def dkwX6_runs_2 : List UInt8 := [167, 255, 216, 42, 182, 1, 78, 27, 153, 0, 7, 42, 182, 1, 81, 42, 180, 1, 57, 17, 1, 44]
abbrev dktX6_runs_2 : List UInt8 := dkwX6_runs_2 ++ dktX6_runs_3
def dkwX6_runs_1 : List UInt8 := [153, 0, 17, 42, 29, 42, 29, 5, 182, 0, 108, 182, 1, 16, 167, 0, 4, 9, 80, 132, 3, 1]
abbrev dktX6_runs_1 : List UInt8 := dkwX6_runs_1 ++ dktX6_runs_2
def dkwX6_runs_0 : List UInt8 := [42, 182, 1, 13, 3, 62, 29, 42, 182, 0, 112, 162, 0, 38, 42, 180, 0, 68, 29, 42, 29, 182, 0, 237]
abbrev dktX6_runs_0 : List UInt8 := dkwX6_runs_0 ++ dktX6_runs_1
theorem dksX6_runs_0 : cX6_runs.data.toList.drop 0 = dktX6_runs_0 := by decide +kernel
theorem dksX6_runs_1 : cX6_runs.data.toList.drop 24 = dktX6_runs_1 := dk_seg dksX6_runs_0 24 rfl rfl
theorem dksX6_runs_2 : cX6_runs.data.toList.drop 46 = dktX6_runs_2 := dk_seg dksX6_runs_1 22 rfl rfl
theorem dksX6_runs_3 : cX6_runs.data.toList.drop 68 = dktX6_runs_3 := dk_seg dksX6_runs_2 22 rfl rfl
theorem dksX6_runs_4 : cX6_runs.data.toList.drop 90 = dktX6_runs_4 := dk_seg dksX6_runs_3 22 rfl rfl
theorem dksX6_runs_5 : cX6_runs.data.toList.drop 114 = dktX6_runs_5 := dk_seg dksX6_runs_4 24 rfl rfl
theorem dksX6_runs_6 : cX6_runs.data.toList.drop 138 = dktX6_runs_6 := dk_seg dksX6_runs_5 24 rfl rfl
theorem dksX6_runs_7 : cX6_runs.data.toList.drop 162 = dktX6_runs_7 := dk_seg dksX6_runs_6 24 rfl rfl
theorem dksX6_runs_8 : cX6_runs.data.toList.drop 184 = dktX6_runs_8 := dk_seg dksX6_runs_7 22 rfl rfl
theorem dksX6_runs_9 : cX6_runs.data.toList.drop 208 = dktX6_runs_9 := dk_seg dksX6_runs_8 24 rfl rfl
theorem dksX6_runs_10 : cX6_runs.data.toList.drop 232 = dktX6_runs_10 := dk_seg dksX6_runs_9 24 rfl rfl
theorem dksX6_runs_11 : cX6_runs.data.toList.drop 254 = dktX6_runs_11 := dk_seg dksX6_runs_10 22 rfl rfl
theorem dksX6_runs_12 : cX6_runs.data.toList.drop 278 = dktX6_runs_12 := dk_seg dksX6_runs_11 24 rfl rfl
theorem dX6_runs_0 : decode cX6_runs 0 = .ok (.aload_n 0, 1) := dk_42 (dk_at dksX6_runs_0 0 rfl rfl)
theorem dX6_runs_1 : decode cX6_runs 1 = .ok (.invokevirtual 269, 3) := dk_182 1 13 (dk_at dksX6_runs_0 1 rfl rfl)
theorem dX6_runs_4 : decode cX6_runs 4 = .ok (.iconst 0, 1) := dk_3 (dk_at dksX6_runs_0 4 rfl rfl)
theorem dX6_runs_5 : decode cX6_runs 5 = .ok (.istore_n 3, 1) := dk_62 (dk_at dksX6_runs_0 5 rfl rfl)
theorem dX6_runs_6 : decode cX6_runs 6 = .ok (.iload_n 3, 1) := dk_29 (dk_at dksX6_runs_0 6 rfl rfl)
theorem dX6_runs_7 : decode cX6_runs 7 = .ok (.aload_n 0, 1) := dk_42 (dk_at dksX6_runs_0 7 rfl rfl)
theorem dX6_runs_8 : decode cX6_runs 8 = .ok (.invokevirtual 112, 3) := dk_182 0 112 (dk_at dksX6_runs_0 8 rfl rfl)
theorem dX6_runs_11 : decode cX6_runs 11 = .ok (.if_icmp .ge 38, 3) := dk_162 0 38 (dk_at dksX6_runs_0 11 rfl rfl)
theorem dX6_runs_14 : decode cX6_runs 14 = .ok (.aload_n 0, 1) := dk_42 (dk_at dksX6_runs_0 14 rfl rfl)
theorem dX6_runs_15 : decode cX6_runs 15 = .ok (.getfield 68, 3) := dk_180 0 68 (dk_at dksX6_runs_0 15 rfl rfl)
theorem dX6_runs_18 : decode cX6_runs 18 = .ok (.iload_n 3, 1) := dk_29 (dk_at dksX6_runs_0 18 rfl rfl)
theorem dX6_runs_19 : decode cX6_runs 19 = .ok (.aload_n 0, 1) := dk_42 (dk_at dksX6_runs_0 19 rfl rfl)
theorem dX6_runs_20 : decode cX6_runs 20 = .ok (.iload_n 3, 1) := dk_29 (dk_at dksX6_runs_0 20 rfl rfl)
theorem dX6_runs_21 : decode cX6_runs 21 = .ok (.invokevirtual 237, 3) := dk_182 0 237 (dk_at dksX6_runs_0 21 rfl rfl)
theorem dX6_runs_24 : decode cX6_runs 24 = .ok (.ifCond .eq 17, 3) := dk_153 0 17 (dk_at dksX6_runs_1 0 rfl rfl)
theorem dX6_runs_27 : decode cX6_runs 27 = .ok (.aload_n 0, 1) := dk_42 (dk_at dksX6_runs_1 3 rfl rfl)
theorem dX6_runs_28 : decode cX6_runs 28 = .ok (.iload_n 3, 1) := dk_29 (dk_at dksX6_runs_1 4 rfl rfl)
theorem dX6_runs_29 : decode cX6_runs 29 = .ok (.aload_n 0, 1) := dk_42 (dk_at dksX6_runs_1 5 rfl rfl)
theorem dX6_runs_30 : decode cX6_runs 30 = .ok (.iload_n 3, 1) := dk_29 (dk_at dksX6_runs_1 6 rfl rfl)
theorem dX6_runs_31 : decode cX6_runs 31 = .ok (.iconst 2, 1) := dk_5 (dk_at dksX6_runs_1 7 rfl rfl)
theorem dX6_runs_32 : decode cX6_runs 32 = .ok (.invokevirtual 108, 3) := dk_182 0 108 (dk_at dksX6_runs_1 8 rfl rfl)
theorem dX6_runs_35 : decode cX6_runs 35 = .ok (.invokevirtual 272, 3) := dk_182 1 16 (dk_at dksX6_runs_1 11 rfl rfl)
theorem dX6_runs_38 : decode cX6_runs 38 = .ok (.goto 4, 3) := dk_167 0 4 (dk_at dksX6_runs_1 14 rfl rfl)
theorem dX6_runs_41 : decode cX6_runs 41 = .ok (.lconst 0, 1) := dk_9 (dk_at dksX6_runs_1 17 rfl rfl)
theorem dX6_runs_42 : decode cX6_runs 42 = .ok (.lastore, 1) := dk_80 (dk_at dksX6_runs_1 18 rfl rfl)
theorem dX6_runs_43 : decode cX6_runs 43 = .ok (.iinc 3 1, 3) := dk_132 3 1 (dk_at dksX6_runs_1 19 rfl rfl)
theorem dX6_runs_46 : decode cX6_runs 46 = .ok (.goto (-40), 3) := dk_167 255 216 (dk_at dksX6_runs_2 0 rfl rfl)
theorem dX6_runs_49 : decode cX6_runs 49 = .ok (.aload_n 0, 1) := dk_42 (dk_at dksX6_runs_2 3 rfl rfl)
theorem dX6_runs_50 : decode cX6_runs 50 = .ok (.invokevirtual 334, 3) := dk_182 1 78 (dk_at dksX6_runs_2 4 rfl rfl)
theorem dX6_runs_53 : decode cX6_runs 53 = .ok (.iload_n 1, 1) := dk_27 (dk_at dksX6_runs_2 7 rfl rfl)
theorem dX6_runs_54 : decode cX6_runs 54 = .ok (.ifCond .eq 7, 3) := dk_153 0 7 (dk_at dksX6_runs_2 8 rfl rfl)
theorem dX6_runs_57 : decode cX6_runs 57 = .ok (.aload_n 0, 1) := dk_42 (dk_at dksX6_runs_2 11 rfl rfl)
theorem dX6_runs_58 : decode cX6_runs 58 = .ok (.invokevirtual 337, 3) := dk_182 1 81 (dk_at dksX6_runs_2 12 rfl rfl)
theorem dX6_runs_61 : decode cX6_runs 61 = .ok (.aload_n 0, 1) := dk_42 (dk_at dksX6_runs_2 15 rfl rfl)
theorem dX6_runs_62 : decode cX6_runs 62 = .ok (.getfield 313, 3) := dk_180 1 57 (dk_at dksX6_runs_2 16 rfl rfl)
theorem dX6_runs_65 : decode cX6_runs 65 = .ok (.sipush 300, 3) := dk_17 1 44 (dk_at dksX6_runs_2 19 rfl rfl)
theorem dX6_runs_68 : decode cX6_runs 68 = .ok (.if_icmp .ne 9, 3) := dk_160 0 9 (dk_at dksX6_runs_3 0 rfl rfl)
theorem dX6_runs_71 : decode cX6_runs 71 = .ok (.aload_n 0, 1) := dk_42 (dk_at dksX6_runs_3 3 rfl rfl)
theorem dX6_runs_72 : decode cX6_runs 72 = .ok (.iconst 2, 1) := dk_5 (dk_at dksX6_runs_3 4 rfl rfl)
theorem dX6_runs_73 : decode cX6_runs 73 = .ok (.putfield 340, 3) := dk_181 1 84 (dk_at dksX6_runs_3 5 rfl rfl)
theorem dX6_runs_76 : decode cX6_runs 76 = .ok (.return_, 1) := dk_177 (dk_at dksX6_runs_3 8 rfl rfl)
theorem dX6_runs_77 : decode cX6_runs 77 = .ok (.aload_n 0, 1) := dk_42 (dk_at dksX6_runs_3 9 rfl rfl)
theorem dX6_runs_78 : decode cX6_runs 78 = .ok (.aload_n 0, 1) := dk_42 (dk_at dksX6_runs_3 10 rfl rfl)
theorem dX6_runs_79 : decode cX6_runs 79 = .ok (.getfield 316, 3) := dk_180 1 60 (dk_at dksX6_runs_3 11 rfl rfl)
theorem dX6_runs_82 : decode cX6_runs 82 = .ok (.invokevirtual 343, 3) := dk_182 1 87 (dk_at dksX6_runs_3 14 rfl rfl)
theorem dX6_runs_85 : decode cX6_runs 85 = .ok (.ifCond .eq 9, 3) := dk_153 0 9 (dk_at dksX6_runs_3 17 rfl rfl)
theorem dX6_runs_88 : decode cX6_runs 88 = .ok (.aload_n 0, 1) := dk_42 (dk_at dksX6_runs_3 20 rfl rfl)
theorem dX6_runs_89 : decode cX6_runs 89 = .ok (.iconst 3, 1) := dk_6 (dk_at dksX6_runs_3 21 rfl rfl)
theorem dX6_runs_90 : decode cX6_runs 90 = .ok (.putfield 340, 3) := dk_181 1 84 (dk_at dksX6_runs_4 0 rfl rfl)
theorem dX6_runs_93 : decode cX6_runs 93 = .ok (.return_, 1) := dk_177 (dk_at dksX6_runs_4 3 rfl rfl)
theorem dX6_runs_94 : decode cX6_runs 94 = .ok (.aload_n 0, 1) := dk_42 (dk_at dksX6_runs_4 4 rfl rfl)
theorem dX6_runs_95 : decode cX6_runs 95 = .ok (.getfield 316, 3) := dk_180 1 60 (dk_at dksX6_runs_4 5 rfl rfl)
theorem dX6_runs_98 : decode cX6_runs 98 = .ok (.istore_n 3, 1) := dk_62 (dk_at dksX6_runs_4 8 rfl rfl)
theorem dX6_runs_99 : decode cX6_runs 99 = .ok (.aload_n 0, 1) := dk_42 (dk_at dksX6_runs_4 9 rfl rfl)
theorem dX6_runs_100 : decode cX6_runs 100 = .ok (.iload_n 3, 1) := dk_29 (dk_at dksX6_runs_4 10 rfl rfl)
theorem dX6_runs_101 : decode cX6_runs 101 = .ok (.invokevirtual 237, 3) := dk_182 0 237 (dk_at dksX6_runs_4 11 rfl rfl)
theorem dX6_runs_104 : decode cX6_runs 104 = .ok (.ifCond .eq 138, 3) := dk_153 0 138 (dk_at dksX6_runs_4 14 rfl rfl)
theorem dX6_runs_107 : decode cX6_runs 107 = .ok (.aload_n 0, 1) := dk_42 (dk_at dksX6_runs_4 17 rfl rfl)
theorem dX6_runs_108 : decode cX6_runs 108 = .ok (.iload_n 3, 1) := dk_29 (dk_at dksX6_runs_4 18 rfl rfl)
theorem dX6_runs_109 : decode cX6_runs 109 = .ok (.invokevirtual 346, 3) := dk_182 1 90 (dk_at dksX6_runs_4 19 rfl rfl)
theorem dX6_runs_112 : decode cX6_runs 112 = .ok (.istore 4, 2) := dk_54 4 (dk_at dksX6_runs_4 22 rfl rfl)
theorem dX6_runs_114 : decode cX6_runs 114 = .ok (.iload 4, 2) := dk_21 4 (dk_at dksX6_runs_5 0 rfl rfl)
theorem dX6_runs_116 : decode cX6_runs 116 = .ok (.ifCond .eq 61, 3) := dk_153 0 61 (dk_at dksX6_runs_5 2 rfl rfl)
theorem dX6_runs_119 : decode cX6_runs 119 = .ok (.iload_n 2, 1) := dk_28 (dk_at dksX6_runs_5 5 rfl rfl)
theorem dX6_runs_120 : decode cX6_runs 120 = .ok (.ifCond .eq 57, 3) := dk_153 0 57 (dk_at dksX6_runs_5 6 rfl rfl)
theorem dX6_runs_123 : decode cX6_runs 123 = .ok (.aload_n 0, 1) := dk_42 (dk_at dksX6_runs_5 9 rfl rfl)
theorem dX6_runs_124 : decode cX6_runs 124 = .ok (.iconst 1, 1) := dk_4 (dk_at dksX6_runs_5 10 rfl rfl)
theorem dX6_runs_125 : decode cX6_runs 125 = .ok (.putfield 340, 3) := dk_181 1 84 (dk_at dksX6_runs_5 11 rfl rfl)
theorem dX6_runs_128 : decode cX6_runs 128 = .ok (.aload_n 0, 1) := dk_42 (dk_at dksX6_runs_5 14 rfl rfl)
theorem dX6_runs_129 : decode cX6_runs 129 = .ok (.aload_n 0, 1) := dk_42 (dk_at dksX6_runs_5 15 rfl rfl)
theorem dX6_runs_130 : decode cX6_runs 130 = .ok (.iload_n 3, 1) := dk_29 (dk_at dksX6_runs_5 16 rfl rfl)
theorem dX6_runs_131 : decode cX6_runs 131 = .ok (.invokevirtual 292, 3) := dk_182 1 36 (dk_at dksX6_runs_5 17 rfl rfl)
theorem dX6_runs_134 : decode cX6_runs 134 = .ok (.putfield 328, 3) := dk_181 1 72 (dk_at dksX6_runs_5 20 rfl rfl)
theorem dX6_runs_137 : decode cX6_runs 137 = .ok (.aload_n 0, 1) := dk_42 (dk_at dksX6_runs_5 23 rfl rfl)
theorem dX6_runs_138 : decode cX6_runs 138 = .ok (.aload_n 0, 1) := dk_42 (dk_at dksX6_runs_6 0 rfl rfl)
theorem dX6_runs_139 : decode cX6_runs 139 = .ok (.iload_n 3, 1) := dk_29 (dk_at dksX6_runs_6 1 rfl rfl)
theorem dX6_runs_140 : decode cX6_runs 140 = .ok (.invokevirtual 120, 3) := dk_182 0 120 (dk_at dksX6_runs_6 2 rfl rfl)
theorem dX6_runs_143 : decode cX6_runs 143 = .ok (.bipush 7, 2) := dk_16 7 (dk_at dksX6_runs_6 5 rfl rfl)
theorem dX6_runs_145 : decode cX6_runs 145 = .ok (.if_icmp .ne 17, 3) := dk_160 0 17 (dk_at dksX6_runs_6 7 rfl rfl)
theorem dX6_runs_148 : decode cX6_runs 148 = .ok (.aload_n 0, 1) := dk_42 (dk_at dksX6_runs_6 10 rfl rfl)
theorem dX6_runs_149 : decode cX6_runs 149 = .ok (.getfield 56, 3) := dk_180 0 56 (dk_at dksX6_runs_6 11 rfl rfl)
theorem dX6_runs_152 : decode cX6_runs 152 = .ok (.aload_n 0, 1) := dk_42 (dk_at dksX6_runs_6 14 rfl rfl)
theorem dX6_runs_153 : decode cX6_runs 153 = .ok (.getfield 289, 3) := dk_180 1 33 (dk_at dksX6_runs_6 15 rfl rfl)
theorem dX6_runs_156 : decode cX6_runs 156 = .ok (.iconst 1, 1) := dk_4 (dk_at dksX6_runs_6 18 rfl rfl)
theorem dX6_runs_157 : decode cX6_runs 157 = .ok (.isub, 1) := dk_100 (dk_at dksX6_runs_6 19 rfl rfl)
theorem dX6_runs_158 : decode cX6_runs 158 = .ok (.iaload, 1) := dk_46 (dk_at dksX6_runs_6 20 rfl rfl)
theorem dX6_runs_159 : decode cX6_runs 159 = .ok (.goto 14, 3) := dk_167 0 14 (dk_at dksX6_runs_6 21 rfl rfl)
theorem dX6_runs_162 : decode cX6_runs 162 = .ok (.aload_n 0, 1) := dk_42 (dk_at dksX6_runs_7 0 rfl rfl)
theorem dX6_runs_163 : decode cX6_runs 163 = .ok (.getfield 50, 3) := dk_180 0 50 (dk_at dksX6_runs_7 1 rfl rfl)
theorem dX6_runs_166 : decode cX6_runs 166 = .ok (.aload_n 0, 1) := dk_42 (dk_at dksX6_runs_7 4 rfl rfl)
theorem dX6_runs_167 : decode cX6_runs 167 = .ok (.iload_n 3, 1) := dk_29 (dk_at dksX6_runs_7 5 rfl rfl)
theorem dX6_runs_168 : decode cX6_runs 168 = .ok (.iconst 5, 1) := dk_8 (dk_at dksX6_runs_7 6 rfl rfl)
theorem dX6_runs_169 : decode cX6_runs 169 = .ok (.invokevirtual 108, 3) := dk_182 0 108 (dk_at dksX6_runs_7 7 rfl rfl)
theorem dX6_runs_172 : decode cX6_runs 172 = .ok (.iaload, 1) := dk_46 (dk_at dksX6_runs_7 10 rfl rfl)
theorem dX6_runs_173 : decode cX6_runs 173 = .ok (.putfield 325, 3) := dk_181 1 69 (dk_at dksX6_runs_7 11 rfl rfl)
theorem dX6_runs_176 : decode cX6_runs 176 = .ok (.return_, 1) := dk_177 (dk_at dksX6_runs_7 14 rfl rfl)
theorem dX6_runs_177 : decode cX6_runs 177 = .ok (.aload_n 0, 1) := dk_42 (dk_at dksX6_runs_7 15 rfl rfl)
theorem dX6_runs_178 : decode cX6_runs 178 = .ok (.dup, 1) := dk_89 (dk_at dksX6_runs_7 16 rfl rfl)
theorem dX6_runs_179 : decode cX6_runs 179 = .ok (.getfield 322, 3) := dk_180 1 66 (dk_at dksX6_runs_7 17 rfl rfl)
theorem dX6_runs_182 : decode cX6_runs 182 = .ok (.iconst 1, 1) := dk_4 (dk_at dksX6_runs_7 20 rfl rfl)
theorem dX6_runs_183 : decode cX6_runs 183 = .ok (.iadd, 1) := dk_96 (dk_at dksX6_runs_7 21 rfl rfl)
theorem dX6_runs_184 : decode cX6_runs 184 = .ok (.putfield 322, 3) := dk_181 1 66 (dk_at dksX6_runs_8 0 rfl rfl)
theorem dX6_runs_187 : decode cX6_runs 187 = .ok (.iload 4, 2) := dk_21 4 (dk_at dksX6_runs_8 3 rfl rfl)
theorem dX6_runs_189 : decode cX6_runs 189 = .ok (.ifCond .eq 18, 3) := dk_153 0 18 (dk_at dksX6_runs_8 5 rfl rfl)
theorem dX6_runs_192 : decode cX6_runs 192 = .ok (.aload_n 0, 1) := dk_42 (dk_at dksX6_runs_8 8 rfl rfl)
theorem dX6_runs_193 : decode cX6_runs 193 = .ok (.getfield 331, 3) := dk_180 1 75 (dk_at dksX6_runs_8 9 rfl rfl)
theorem dX6_runs_196 : decode cX6_runs 196 = .ok (.ifCond .ne 11, 3) := dk_154 0 11 (dk_at dksX6_runs_8 12 rfl rfl)
theorem dX6_runs_199 : decode cX6_runs 199 = .ok (.aload_n 0, 1) := dk_42 (dk_at dksX6_runs_8 15 rfl rfl)
theorem dX6_runs_200 : decode cX6_runs 200 = .ok (.aload_n 0, 1) := dk_42 (dk_at dksX6_runs_8 16 rfl rfl)
theorem dX6_runs_201 : decode cX6_runs 201 = .ok (.getfield 322, 3) := dk_180 1 66 (dk_at dksX6_runs_8 17 rfl rfl)
theorem dX6_runs_204 : decode cX6_runs 204 = .ok (.putfield 331, 3) := dk_181 1 75 (dk_at dksX6_runs_8 20 rfl rfl)
theorem dX6_runs_207 : decode cX6_runs 207 = .ok (.aload_n 0, 1) := dk_42 (dk_at dksX6_runs_8 23 rfl rfl)
theorem dX6_runs_208 : decode cX6_runs 208 = .ok (.dup, 1) := dk_89 (dk_at dksX6_runs_9 0 rfl rfl)
theorem dX6_runs_209 : decode cX6_runs 209 = .ok (.getfield 319, 3) := dk_180 1 63 (dk_at dksX6_runs_9 1 rfl rfl)
theorem dX6_runs_212 : decode cX6_runs 212 = .ok (.aload_n 0, 1) := dk_42 (dk_at dksX6_runs_9 4 rfl rfl)
theorem dX6_runs_213 : decode cX6_runs 213 = .ok (.iload_n 3, 1) := dk_29 (dk_at dksX6_runs_9 5 rfl rfl)
theorem dX6_runs_214 : decode cX6_runs 214 = .ok (.iconst 2, 1) := dk_5 (dk_at dksX6_runs_9 6 rfl rfl)
theorem dX6_runs_215 : decode cX6_runs 215 = .ok (.invokevirtual 108, 3) := dk_182 0 108 (dk_at dksX6_runs_9 7 rfl rfl)
theorem dX6_runs_218 : decode cX6_runs 218 = .ok (.ifCond .ne 7, 3) := dk_154 0 7 (dk_at dksX6_runs_9 10 rfl rfl)
theorem dX6_runs_221 : decode cX6_runs 221 = .ok (.iconst 0, 1) := dk_3 (dk_at dksX6_runs_9 13 rfl rfl)
theorem dX6_runs_222 : decode cX6_runs 222 = .ok (.goto 16, 3) := dk_167 0 16 (dk_at dksX6_runs_9 14 rfl rfl)
theorem dX6_runs_225 : decode cX6_runs 225 = .ok (.aload_n 0, 1) := dk_42 (dk_at dksX6_runs_9 17 rfl rfl)
theorem dX6_runs_226 : decode cX6_runs 226 = .ok (.getfield 13, 3) := dk_180 0 13 (dk_at dksX6_runs_9 18 rfl rfl)
theorem dX6_runs_229 : decode cX6_runs 229 = .ok (.iconst 4, 1) := dk_7 (dk_at dksX6_runs_9 21 rfl rfl)
theorem dX6_runs_230 : decode cX6_runs 230 = .ok (.aload_n 0, 1) := dk_42 (dk_at dksX6_runs_9 22 rfl rfl)
theorem dX6_runs_231 : decode cX6_runs 231 = .ok (.iload_n 3, 1) := dk_29 (dk_at dksX6_runs_9 23 rfl rfl)
theorem dX6_runs_232 : decode cX6_runs 232 = .ok (.iconst 2, 1) := dk_5 (dk_at dksX6_runs_10 0 rfl rfl)
theorem dX6_runs_233 : decode cX6_runs 233 = .ok (.invokevirtual 108, 3) := dk_182 0 108 (dk_at dksX6_runs_10 1 rfl rfl)
theorem dX6_runs_236 : decode cX6_runs 236 = .ok (.iadd, 1) := dk_96 (dk_at dksX6_runs_10 4 rfl rfl)
theorem dX6_runs_237 : decode cX6_runs 237 = .ok (.iaload, 1) := dk_46 (dk_at dksX6_runs_10 5 rfl rfl)
theorem dX6_runs_238 : decode cX6_runs 238 = .ok (.iadd, 1) := dk_96 (dk_at dksX6_runs_10 6 rfl rfl)
theorem dX6_runs_239 : decode cX6_runs 239 = .ok (.putfield 319, 3) := dk_181 1 63 (dk_at dksX6_runs_10 7 rfl rfl)
theorem dX6_runs_242 : decode cX6_runs 242 = .ok (.aload_n 0, 1) := dk_42 (dk_at dksX6_runs_10 10 rfl rfl)
theorem dX6_runs_243 : decode cX6_runs 243 = .ok (.getfield 62, 3) := dk_180 0 62 (dk_at dksX6_runs_10 11 rfl rfl)
theorem dX6_runs_246 : decode cX6_runs 246 = .ok (.aload_n 0, 1) := dk_42 (dk_at dksX6_runs_10 14 rfl rfl)
theorem dX6_runs_247 : decode cX6_runs 247 = .ok (.getfield 313, 3) := dk_180 1 57 (dk_at dksX6_runs_10 15 rfl rfl)
theorem dX6_runs_250 : decode cX6_runs 250 = .ok (.iload_n 3, 1) := dk_29 (dk_at dksX6_runs_10 18 rfl rfl)
theorem dX6_runs_251 : decode cX6_runs 251 = .ok (.iastore, 1) := dk_79 (dk_at dksX6_runs_10 19 rfl rfl)
theorem dX6_runs_252 : decode cX6_runs 252 = .ok (.aload_n 0, 1) := dk_42 (dk_at dksX6_runs_10 20 rfl rfl)
theorem dX6_runs_253 : decode cX6_runs 253 = .ok (.dup, 1) := dk_89 (dk_at dksX6_runs_10 21 rfl rfl)
theorem dX6_runs_254 : decode cX6_runs 254 = .ok (.getfield 313, 3) := dk_180 1 57 (dk_at dksX6_runs_11 0 rfl rfl)
theorem dX6_runs_257 : decode cX6_runs 257 = .ok (.iconst 1, 1) := dk_4 (dk_at dksX6_runs_11 3 rfl rfl)
theorem dX6_runs_258 : decode cX6_runs 258 = .ok (.iadd, 1) := dk_96 (dk_at dksX6_runs_11 4 rfl rfl)
theorem dX6_runs_259 : decode cX6_runs 259 = .ok (.putfield 313, 3) := dk_181 1 57 (dk_at dksX6_runs_11 5 rfl rfl)
theorem dX6_runs_262 : decode cX6_runs 262 = .ok (.aload_n 0, 1) := dk_42 (dk_at dksX6_runs_11 8 rfl rfl)
theorem dX6_runs_263 : decode cX6_runs 263 = .ok (.aload_n 0, 1) := dk_42 (dk_at dksX6_runs_11 9 rfl rfl)
theorem dX6_runs_264 : decode cX6_runs 264 = .ok (.iload_n 3, 1) := dk_29 (dk_at dksX6_runs_11 10 rfl rfl)
theorem dX6_runs_265 : decode cX6_runs 265 = .ok (.invokevirtual 349, 3) := dk_182 1 93 (dk_at dksX6_runs_11 11 rfl rfl)
theorem dX6_runs_268 : decode cX6_runs 268 = .ok (.putfield 316, 3) := dk_181 1 60 (dk_at dksX6_runs_11 14 rfl rfl)
theorem dX6_runs_271 : decode cX6_runs 271 = .ok (.aload_n 0, 1) := dk_42 (dk_at dksX6_runs_11 17 rfl rfl)
theorem dX6_runs_272 : decode cX6_runs 272 = .ok (.iload_n 3, 1) := dk_29 (dk_at dksX6_runs_11 18 rfl rfl)
theorem dX6_runs_273 : decode cX6_runs 273 = .ok (.invokevirtual 120, 3) := dk_182 0 120 (dk_at dksX6_runs_11 19 rfl rfl)
theorem dX6_runs_276 : decode cX6_runs 276 = .ok (.bipush 9, 2) := dk_16 9 (dk_at dksX6_runs_11 22 rfl rfl)
theorem dX6_runs_278 : decode cX6_runs 278 = .ok (.if_icmp .ne 9, 3) := dk_160 0 9 (dk_at dksX6_runs_12 0 rfl rfl)
theorem dX6_runs_281 : decode cX6_runs 281 = .ok (.aload_n 0, 1) := dk_42 (dk_at dksX6_runs_12 3 rfl rfl)
theorem dX6_runs_282 : decode cX6_runs 282 = .ok (.iconst 0, 1) := dk_3 (dk_at dksX6_runs_12 4 rfl rfl)
theorem dX6_runs_283 : decode cX6_runs 283 = .ok (.putfield 340, 3) := dk_181 1 84 (dk_at dksX6_runs_12 5 rfl rfl)
theorem dX6_runs_286 : decode cX6_runs 286 = .ok (.return_, 1) := dk_177 (dk_at dksX6_runs_12 8 rfl rfl)
theorem dX6_runs_287 : decode cX6_runs 287 = .ok (.goto (-234), 3) := dk_167 255 22 (dk_at dksX6_runs_12 9 rfl rfl)
def dkwX6_begins_3 : List UInt8 := [3, 181, 1, 75, 177]
abbrev dktX6_begins_3 : List UInt8 := dkwX6_begins_3 ++ []
def dkwX6_begins_2 : List UInt8 := [181, 1, 60, 42, 3, 181, 1, 63, 42, 3, 181, 1, 66, 42, 2, 181, 1, 69, 42, 2, 181, 1, 72, 42]
abbrev dktX6_begins_2 : List UInt8 := dkwX6_begins_2 ++ dktX6_begins_3
def dkwX6_begins_1 : List UInt8 := [132, 1, 1, 167, 255, 233, 42, 3, 181, 1, 33, 42, 3, 181, 1, 57, 42, 3, 181, 1, 54, 42, 3]
abbrev dktX6_begins_1 : List UInt8 := dkwX6_begins_1 ++ dktX6_begins_2
def dkwX6_begins_0 : List UInt8 := [3, 60, 27, 16, 16, 162, 0, 23, 42, 180, 0, 47, 27, 3, 79, 42, 180, 0, 50, 27, 2, 79]
abbrev dktX6_begins_0 : List UInt8 := dkwX6_begins_0 ++ dktX6_begins_1
theorem dksX6_begins_0 : cX6_begins.data.toList.drop 0 = dktX6_begins_0 := by decide +kernel
theorem dksX6_begins_1 : cX6_begins.data.toList.drop 22 = dktX6_begins_1 := dk_seg dksX6_begins_0 22 rfl rfl
theorem dksX6_begins_2 : cX6_begins.data.toList.drop 45 = dktX6_begins_2 := dk_seg dksX6_begins_1 23 rfl rfl
theorem dksX6_begins_3 : cX6_begins.data.toList.drop 69 = dktX6_begins_3 := dk_seg dksX6_begins_2 24 rfl rfl
theorem dX6_begins_0 : decode cX6_begins 0 = .ok (.iconst 0, 1) := dk_3 (dk_at dksX6_begins_0 0 rfl rfl)
theorem dX6_begins_1 : decode cX6_begins 1 = .ok (.istore_n 1, 1) := dk_60 (dk_at dksX6_begins_0 1 rfl rfl)
theorem dX6_begins_2 : decode cX6_begins 2 = .ok (.iload_n 1, 1) := dk_27 (dk_at dksX6_begins_0 2 rfl rfl)
theorem dX6_begins_3 : decode cX6_begins 3 = .ok (.bipush 16, 2) := dk_16 16 (dk_at dksX6_begins_0 3 rfl rfl)
theorem dX6_begins_5 : decode cX6_begins 5 = .ok (.if_icmp .ge 23, 3) := dk_162 0 23 (dk_at dksX6_begins_0 5 rfl rfl)
theorem dX6_begins_8 : decode cX6_begins 8 = .ok (.aload_n 0, 1) := dk_42 (dk_at dksX6_begins_0 8 rfl rfl)
theorem dX6_begins_9 : decode cX6_begins 9 = .ok (.getfield 47, 3) := dk_180 0 47 (dk_at dksX6_begins_0 9 rfl rfl)
theorem dX6_begins_12 : decode cX6_begins 12 = .ok (.iload_n 1, 1) := dk_27 (dk_at dksX6_begins_0 12 rfl rfl)
theorem dX6_begins_13 : decode cX6_begins 13 = .ok (.iconst 0, 1) := dk_3 (dk_at dksX6_begins_0 13 rfl rfl)
theorem dX6_begins_14 : decode cX6_begins 14 = .ok (.iastore, 1) := dk_79 (dk_at dksX6_begins_0 14 rfl rfl)
theorem dX6_begins_15 : decode cX6_begins 15 = .ok (.aload_n 0, 1) := dk_42 (dk_at dksX6_begins_0 15 rfl rfl)
theorem dX6_begins_16 : decode cX6_begins 16 = .ok (.getfield 50, 3) := dk_180 0 50 (dk_at dksX6_begins_0 16 rfl rfl)
theorem dX6_begins_19 : decode cX6_begins 19 = .ok (.iload_n 1, 1) := dk_27 (dk_at dksX6_begins_0 19 rfl rfl)
theorem dX6_begins_20 : decode cX6_begins 20 = .ok (.iconst (-1), 1) := dk_2 (dk_at dksX6_begins_0 20 rfl rfl)
theorem dX6_begins_21 : decode cX6_begins 21 = .ok (.iastore, 1) := dk_79 (dk_at dksX6_begins_0 21 rfl rfl)
theorem dX6_begins_22 : decode cX6_begins 22 = .ok (.iinc 1 1, 3) := dk_132 1 1 (dk_at dksX6_begins_1 0 rfl rfl)
theorem dX6_begins_25 : decode cX6_begins 25 = .ok (.goto (-23), 3) := dk_167 255 233 (dk_at dksX6_begins_1 3 rfl rfl)
theorem dX6_begins_28 : decode cX6_begins 28 = .ok (.aload_n 0, 1) := dk_42 (dk_at dksX6_begins_1 6 rfl rfl)
theorem dX6_begins_29 : decode cX6_begins 29 = .ok (.iconst 0, 1) := dk_3 (dk_at dksX6_begins_1 7 rfl rfl)
theorem dX6_begins_30 : decode cX6_begins 30 = .ok (.putfield 289, 3) := dk_181 1 33 (dk_at dksX6_begins_1 8 rfl rfl)
theorem dX6_begins_33 : decode cX6_begins 33 = .ok (.aload_n 0, 1) := dk_42 (dk_at dksX6_begins_1 11 rfl rfl)
theorem dX6_begins_34 : decode cX6_begins 34 = .ok (.iconst 0, 1) := dk_3 (dk_at dksX6_begins_1 12 rfl rfl)
theorem dX6_begins_35 : decode cX6_begins 35 = .ok (.putfield 313, 3) := dk_181 1 57 (dk_at dksX6_begins_1 13 rfl rfl)
theorem dX6_begins_38 : decode cX6_begins 38 = .ok (.aload_n 0, 1) := dk_42 (dk_at dksX6_begins_1 16 rfl rfl)
theorem dX6_begins_39 : decode cX6_begins 39 = .ok (.iconst 0, 1) := dk_3 (dk_at dksX6_begins_1 17 rfl rfl)
theorem dX6_begins_40 : decode cX6_begins 40 = .ok (.putfield 310, 3) := dk_181 1 54 (dk_at dksX6_begins_1 18 rfl rfl)
theorem dX6_begins_43 : decode cX6_begins 43 = .ok (.aload_n 0, 1) := dk_42 (dk_at dksX6_begins_1 21 rfl rfl)
theorem dX6_begins_44 : decode cX6_begins 44 = .ok (.iconst 0, 1) := dk_3 (dk_at dksX6_begins_1 22 rfl rfl)
theorem dX6_begins_45 : decode cX6_begins 45 = .ok (.putfield 316, 3) := dk_181 1 60 (dk_at dksX6_begins_2 0 rfl rfl)
theorem dX6_begins_48 : decode cX6_begins 48 = .ok (.aload_n 0, 1) := dk_42 (dk_at dksX6_begins_2 3 rfl rfl)
theorem dX6_begins_49 : decode cX6_begins 49 = .ok (.iconst 0, 1) := dk_3 (dk_at dksX6_begins_2 4 rfl rfl)
theorem dX6_begins_50 : decode cX6_begins 50 = .ok (.putfield 319, 3) := dk_181 1 63 (dk_at dksX6_begins_2 5 rfl rfl)
theorem dX6_begins_53 : decode cX6_begins 53 = .ok (.aload_n 0, 1) := dk_42 (dk_at dksX6_begins_2 8 rfl rfl)
theorem dX6_begins_54 : decode cX6_begins 54 = .ok (.iconst 0, 1) := dk_3 (dk_at dksX6_begins_2 9 rfl rfl)
theorem dX6_begins_55 : decode cX6_begins 55 = .ok (.putfield 322, 3) := dk_181 1 66 (dk_at dksX6_begins_2 10 rfl rfl)
theorem dX6_begins_58 : decode cX6_begins 58 = .ok (.aload_n 0, 1) := dk_42 (dk_at dksX6_begins_2 13 rfl rfl)
theorem dX6_begins_59 : decode cX6_begins 59 = .ok (.iconst (-1), 1) := dk_2 (dk_at dksX6_begins_2 14 rfl rfl)
theorem dX6_begins_60 : decode cX6_begins 60 = .ok (.putfield 325, 3) := dk_181 1 69 (dk_at dksX6_begins_2 15 rfl rfl)
theorem dX6_begins_63 : decode cX6_begins 63 = .ok (.aload_n 0, 1) := dk_42 (dk_at dksX6_begins_2 18 rfl rfl)
theorem dX6_begins_64 : decode cX6_begins 64 = .ok (.iconst (-1), 1) := dk_2 (dk_at dksX6_begins_2 19 rfl rfl)
theorem dX6_begins_65 : decode cX6_begins 65 = .ok (.putfield 328, 3) := dk_181 1 72 (dk_at dksX6_begins_2 20 rfl rfl)
theorem dX6_begins_68 : decode cX6_begins 68 = .ok (.aload_n 0, 1) := dk_42 (dk_at dksX6_begins_2 23 rfl rfl)
theorem dX6_begins_69 : decode cX6_begins 69 = .ok (.iconst 0, 1) := dk_3 (dk_at dksX6_begins_3 0 rfl rfl)
theorem dX6_begins_70 : decode cX6_begins 70 = .ok (.putfield 331, 3) := dk_181 1 75 (dk_at dksX6_begins_3 1 rfl rfl)
theorem dX6_begins_73 : decode cX6_begins 73 = .ok (.return_, 1) := dk_177 (dk_at dksX6_begins_3 4 rfl rfl)
def dkwX6_bendsNow_4 : List UInt8 := [28, 5, 96, 46, 79, 42, 180, 0, 56, 42, 180, 1, 33, 4, 100, 27, 79, 132, 1, 1, 167, 255, 142, 177]
abbrev dktX6_bendsNow_4 : List UInt8 := dkwX6_bendsNow_4 ++ []
def dkwX6_bendsNow_3 : List UInt8 := [167, 0, 41, 42, 180, 1, 33, 158, 0, 34, 42, 180, 0, 53, 42, 180, 1, 33, 4, 100, 42, 180, 0, 13]
abbrev dktX6_bendsNow_3 : List UInt8 := dkwX6_bendsNow_3 ++ dktX6_bendsNow_4
def dkwX6_bendsNow_2 : List UInt8 := [162, 0, 27, 42, 180, 0, 47, 29, 42, 180, 0, 13, 28, 5, 96, 46, 79, 42, 180, 0, 50, 29, 27, 79]
abbrev dktX6_bendsNow_2 : List UInt8 := dkwX6_bendsNow_2 ++ dktX6_bendsNow_3
def dkwX6_bendsNow_1 : List UInt8 := [28, 46, 42, 180, 1, 57, 159, 0, 6, 167, 0, 80, 42, 180, 0, 13, 28, 4, 96, 46, 62, 29, 16, 16]
abbrev dktX6_bendsNow_1 : List UInt8 := dkwX6_bendsNow_1 ++ dktX6_bendsNow_2
def dkwX6_bendsNow_0 : List UInt8 := [3, 60, 27, 42, 180, 0, 13, 4, 46, 162, 0, 110, 17, 1, 112, 6, 27, 104, 96, 61, 42, 180, 0, 13]
abbrev dktX6_bendsNow_0 : List UInt8 := dkwX6_bendsNow_0 ++ dktX6_bendsNow_1
theorem dksX6_bendsNow_0 : cX6_bendsNow.data.toList.drop 0 = dktX6_bendsNow_0 := by decide +kernel
theorem dksX6_bendsNow_1 : cX6_bendsNow.data.toList.drop 24 = dktX6_bendsNow_1 := dk_seg dksX6_bendsNow_0 24 rfl rfl
theorem dksX6_bendsNow_2 : cX6_bendsNow.data.toList.drop 48 = dktX6_bendsNow_2 := dk_seg dksX6_bendsNow_1 24 rfl rfl
theorem dksX6_bendsNow_3 : cX6_bendsNow.data.toList.drop 72 = dktX6_bendsNow_3 := dk_seg dksX6_bendsNow_2 24 rfl rfl
theorem dksX6_bendsNow_4 : cX6_bendsNow.data.toList.drop 96 = dktX6_bendsNow_4 := dk_seg dksX6_bendsNow_3 24 rfl rfl
theorem dX6_bendsNow_0 : decode cX6_bendsNow 0 = .ok (.iconst 0, 1) := dk_3 (dk_at dksX6_bendsNow_0 0 rfl rfl)
theorem dX6_bendsNow_1 : decode cX6_bendsNow 1 = .ok (.istore_n 1, 1) := dk_60 (dk_at dksX6_bendsNow_0 1 rfl rfl)
theorem dX6_bendsNow_2 : decode cX6_bendsNow 2 = .ok (.iload_n 1, 1) := dk_27 (dk_at dksX6_bendsNow_0 2 rfl rfl)
theorem dX6_bendsNow_3 : decode cX6_bendsNow 3 = .ok (.aload_n 0, 1) := dk_42 (dk_at dksX6_bendsNow_0 3 rfl rfl)
theorem dX6_bendsNow_4 : decode cX6_bendsNow 4 = .ok (.getfield 13, 3) := dk_180 0 13 (dk_at dksX6_bendsNow_0 4 rfl rfl)
theorem dX6_bendsNow_7 : decode cX6_bendsNow 7 = .ok (.iconst 1, 1) := dk_4 (dk_at dksX6_bendsNow_0 7 rfl rfl)
theorem dX6_bendsNow_8 : decode cX6_bendsNow 8 = .ok (.iaload, 1) := dk_46 (dk_at dksX6_bendsNow_0 8 rfl rfl)
theorem dX6_bendsNow_9 : decode cX6_bendsNow 9 = .ok (.if_icmp .ge 110, 3) := dk_162 0 110 (dk_at dksX6_bendsNow_0 9 rfl rfl)
theorem dX6_bendsNow_12 : decode cX6_bendsNow 12 = .ok (.sipush 368, 3) := dk_17 1 112 (dk_at dksX6_bendsNow_0 12 rfl rfl)
theorem dX6_bendsNow_15 : decode cX6_bendsNow 15 = .ok (.iconst 3, 1) := dk_6 (dk_at dksX6_bendsNow_0 15 rfl rfl)
theorem dX6_bendsNow_16 : decode cX6_bendsNow 16 = .ok (.iload_n 1, 1) := dk_27 (dk_at dksX6_bendsNow_0 16 rfl rfl)
theorem dX6_bendsNow_17 : decode cX6_bendsNow 17 = .ok (.imul, 1) := dk_104 (dk_at dksX6_bendsNow_0 17 rfl rfl)
theorem dX6_bendsNow_18 : decode cX6_bendsNow 18 = .ok (.iadd, 1) := dk_96 (dk_at dksX6_bendsNow_0 18 rfl rfl)
theorem dX6_bendsNow_19 : decode cX6_bendsNow 19 = .ok (.istore_n 2, 1) := dk_61 (dk_at dksX6_bendsNow_0 19 rfl rfl)
theorem dX6_bendsNow_20 : decode cX6_bendsNow 20 = .ok (.aload_n 0, 1) := dk_42 (dk_at dksX6_bendsNow_0 20 rfl rfl)
theorem dX6_bendsNow_21 : decode cX6_bendsNow 21 = .ok (.getfield 13, 3) := dk_180 0 13 (dk_at dksX6_bendsNow_0 21 rfl rfl)
theorem dX6_bendsNow_24 : decode cX6_bendsNow 24 = .ok (.iload_n 2, 1) := dk_28 (dk_at dksX6_bendsNow_1 0 rfl rfl)
theorem dX6_bendsNow_25 : decode cX6_bendsNow 25 = .ok (.iaload, 1) := dk_46 (dk_at dksX6_bendsNow_1 1 rfl rfl)
theorem dX6_bendsNow_26 : decode cX6_bendsNow 26 = .ok (.aload_n 0, 1) := dk_42 (dk_at dksX6_bendsNow_1 2 rfl rfl)
theorem dX6_bendsNow_27 : decode cX6_bendsNow 27 = .ok (.getfield 313, 3) := dk_180 1 57 (dk_at dksX6_bendsNow_1 3 rfl rfl)
theorem dX6_bendsNow_30 : decode cX6_bendsNow 30 = .ok (.if_icmp .eq 6, 3) := dk_159 0 6 (dk_at dksX6_bendsNow_1 6 rfl rfl)
theorem dX6_bendsNow_33 : decode cX6_bendsNow 33 = .ok (.goto 80, 3) := dk_167 0 80 (dk_at dksX6_bendsNow_1 9 rfl rfl)
theorem dX6_bendsNow_36 : decode cX6_bendsNow 36 = .ok (.aload_n 0, 1) := dk_42 (dk_at dksX6_bendsNow_1 12 rfl rfl)
theorem dX6_bendsNow_37 : decode cX6_bendsNow 37 = .ok (.getfield 13, 3) := dk_180 0 13 (dk_at dksX6_bendsNow_1 13 rfl rfl)
theorem dX6_bendsNow_40 : decode cX6_bendsNow 40 = .ok (.iload_n 2, 1) := dk_28 (dk_at dksX6_bendsNow_1 16 rfl rfl)
theorem dX6_bendsNow_41 : decode cX6_bendsNow 41 = .ok (.iconst 1, 1) := dk_4 (dk_at dksX6_bendsNow_1 17 rfl rfl)
theorem dX6_bendsNow_42 : decode cX6_bendsNow 42 = .ok (.iadd, 1) := dk_96 (dk_at dksX6_bendsNow_1 18 rfl rfl)
theorem dX6_bendsNow_43 : decode cX6_bendsNow 43 = .ok (.iaload, 1) := dk_46 (dk_at dksX6_bendsNow_1 19 rfl rfl)
theorem dX6_bendsNow_44 : decode cX6_bendsNow 44 = .ok (.istore_n 3, 1) := dk_62 (dk_at dksX6_bendsNow_1 20 rfl rfl)
theorem dX6_bendsNow_45 : decode cX6_bendsNow 45 = .ok (.iload_n 3, 1) := dk_29 (dk_at dksX6_bendsNow_1 21 rfl rfl)
theorem dX6_bendsNow_46 : decode cX6_bendsNow 46 = .ok (.bipush 16, 2) := dk_16 16 (dk_at dksX6_bendsNow_1 22 rfl rfl)
theorem dX6_bendsNow_48 : decode cX6_bendsNow 48 = .ok (.if_icmp .ge 27, 3) := dk_162 0 27 (dk_at dksX6_bendsNow_2 0 rfl rfl)
theorem dX6_bendsNow_51 : decode cX6_bendsNow 51 = .ok (.aload_n 0, 1) := dk_42 (dk_at dksX6_bendsNow_2 3 rfl rfl)
theorem dX6_bendsNow_52 : decode cX6_bendsNow 52 = .ok (.getfield 47, 3) := dk_180 0 47 (dk_at dksX6_bendsNow_2 4 rfl rfl)
theorem dX6_bendsNow_55 : decode cX6_bendsNow 55 = .ok (.iload_n 3, 1) := dk_29 (dk_at dksX6_bendsNow_2 7 rfl rfl)
theorem dX6_bendsNow_56 : decode cX6_bendsNow 56 = .ok (.aload_n 0, 1) := dk_42 (dk_at dksX6_bendsNow_2 8 rfl rfl)
theorem dX6_bendsNow_57 : decode cX6_bendsNow 57 = .ok (.getfield 13, 3) := dk_180 0 13 (dk_at dksX6_bendsNow_2 9 rfl rfl)
theorem dX6_bendsNow_60 : decode cX6_bendsNow 60 = .ok (.iload_n 2, 1) := dk_28 (dk_at dksX6_bendsNow_2 12 rfl rfl)
theorem dX6_bendsNow_61 : decode cX6_bendsNow 61 = .ok (.iconst 2, 1) := dk_5 (dk_at dksX6_bendsNow_2 13 rfl rfl)
theorem dX6_bendsNow_62 : decode cX6_bendsNow 62 = .ok (.iadd, 1) := dk_96 (dk_at dksX6_bendsNow_2 14 rfl rfl)
theorem dX6_bendsNow_63 : decode cX6_bendsNow 63 = .ok (.iaload, 1) := dk_46 (dk_at dksX6_bendsNow_2 15 rfl rfl)
theorem dX6_bendsNow_64 : decode cX6_bendsNow 64 = .ok (.iastore, 1) := dk_79 (dk_at dksX6_bendsNow_2 16 rfl rfl)
theorem dX6_bendsNow_65 : decode cX6_bendsNow 65 = .ok (.aload_n 0, 1) := dk_42 (dk_at dksX6_bendsNow_2 17 rfl rfl)
theorem dX6_bendsNow_66 : decode cX6_bendsNow 66 = .ok (.getfield 50, 3) := dk_180 0 50 (dk_at dksX6_bendsNow_2 18 rfl rfl)
theorem dX6_bendsNow_69 : decode cX6_bendsNow 69 = .ok (.iload_n 3, 1) := dk_29 (dk_at dksX6_bendsNow_2 21 rfl rfl)
theorem dX6_bendsNow_70 : decode cX6_bendsNow 70 = .ok (.iload_n 1, 1) := dk_27 (dk_at dksX6_bendsNow_2 22 rfl rfl)
theorem dX6_bendsNow_71 : decode cX6_bendsNow 71 = .ok (.iastore, 1) := dk_79 (dk_at dksX6_bendsNow_2 23 rfl rfl)
theorem dX6_bendsNow_72 : decode cX6_bendsNow 72 = .ok (.goto 41, 3) := dk_167 0 41 (dk_at dksX6_bendsNow_3 0 rfl rfl)
theorem dX6_bendsNow_75 : decode cX6_bendsNow 75 = .ok (.aload_n 0, 1) := dk_42 (dk_at dksX6_bendsNow_3 3 rfl rfl)
theorem dX6_bendsNow_76 : decode cX6_bendsNow 76 = .ok (.getfield 289, 3) := dk_180 1 33 (dk_at dksX6_bendsNow_3 4 rfl rfl)
theorem dX6_bendsNow_79 : decode cX6_bendsNow 79 = .ok (.ifCond .le 34, 3) := dk_158 0 34 (dk_at dksX6_bendsNow_3 7 rfl rfl)
theorem dX6_bendsNow_82 : decode cX6_bendsNow 82 = .ok (.aload_n 0, 1) := dk_42 (dk_at dksX6_bendsNow_3 10 rfl rfl)
theorem dX6_bendsNow_83 : decode cX6_bendsNow 83 = .ok (.getfield 53, 3) := dk_180 0 53 (dk_at dksX6_bendsNow_3 11 rfl rfl)
theorem dX6_bendsNow_86 : decode cX6_bendsNow 86 = .ok (.aload_n 0, 1) := dk_42 (dk_at dksX6_bendsNow_3 14 rfl rfl)
theorem dX6_bendsNow_87 : decode cX6_bendsNow 87 = .ok (.getfield 289, 3) := dk_180 1 33 (dk_at dksX6_bendsNow_3 15 rfl rfl)
theorem dX6_bendsNow_90 : decode cX6_bendsNow 90 = .ok (.iconst 1, 1) := dk_4 (dk_at dksX6_bendsNow_3 18 rfl rfl)
theorem dX6_bendsNow_91 : decode cX6_bendsNow 91 = .ok (.isub, 1) := dk_100 (dk_at dksX6_bendsNow_3 19 rfl rfl)
theorem dX6_bendsNow_92 : decode cX6_bendsNow 92 = .ok (.aload_n 0, 1) := dk_42 (dk_at dksX6_bendsNow_3 20 rfl rfl)
theorem dX6_bendsNow_93 : decode cX6_bendsNow 93 = .ok (.getfield 13, 3) := dk_180 0 13 (dk_at dksX6_bendsNow_3 21 rfl rfl)
theorem dX6_bendsNow_96 : decode cX6_bendsNow 96 = .ok (.iload_n 2, 1) := dk_28 (dk_at dksX6_bendsNow_4 0 rfl rfl)
theorem dX6_bendsNow_97 : decode cX6_bendsNow 97 = .ok (.iconst 2, 1) := dk_5 (dk_at dksX6_bendsNow_4 1 rfl rfl)
theorem dX6_bendsNow_98 : decode cX6_bendsNow 98 = .ok (.iadd, 1) := dk_96 (dk_at dksX6_bendsNow_4 2 rfl rfl)
theorem dX6_bendsNow_99 : decode cX6_bendsNow 99 = .ok (.iaload, 1) := dk_46 (dk_at dksX6_bendsNow_4 3 rfl rfl)
theorem dX6_bendsNow_100 : decode cX6_bendsNow 100 = .ok (.iastore, 1) := dk_79 (dk_at dksX6_bendsNow_4 4 rfl rfl)
theorem dX6_bendsNow_101 : decode cX6_bendsNow 101 = .ok (.aload_n 0, 1) := dk_42 (dk_at dksX6_bendsNow_4 5 rfl rfl)
theorem dX6_bendsNow_102 : decode cX6_bendsNow 102 = .ok (.getfield 56, 3) := dk_180 0 56 (dk_at dksX6_bendsNow_4 6 rfl rfl)
theorem dX6_bendsNow_105 : decode cX6_bendsNow 105 = .ok (.aload_n 0, 1) := dk_42 (dk_at dksX6_bendsNow_4 9 rfl rfl)
theorem dX6_bendsNow_106 : decode cX6_bendsNow 106 = .ok (.getfield 289, 3) := dk_180 1 33 (dk_at dksX6_bendsNow_4 10 rfl rfl)
theorem dX6_bendsNow_109 : decode cX6_bendsNow 109 = .ok (.iconst 1, 1) := dk_4 (dk_at dksX6_bendsNow_4 13 rfl rfl)
theorem dX6_bendsNow_110 : decode cX6_bendsNow 110 = .ok (.isub, 1) := dk_100 (dk_at dksX6_bendsNow_4 14 rfl rfl)
theorem dX6_bendsNow_111 : decode cX6_bendsNow 111 = .ok (.iload_n 1, 1) := dk_27 (dk_at dksX6_bendsNow_4 15 rfl rfl)
theorem dX6_bendsNow_112 : decode cX6_bendsNow 112 = .ok (.iastore, 1) := dk_79 (dk_at dksX6_bendsNow_4 16 rfl rfl)
theorem dX6_bendsNow_113 : decode cX6_bendsNow 113 = .ok (.iinc 1 1, 3) := dk_132 1 1 (dk_at dksX6_bendsNow_4 17 rfl rfl)
theorem dX6_bendsNow_116 : decode cX6_bendsNow 116 = .ok (.goto (-114), 3) := dk_167 255 142 (dk_at dksX6_bendsNow_4 20 rfl rfl)
theorem dX6_bendsNow_119 : decode cX6_bendsNow 119 = .ok (.return_, 1) := dk_177 (dk_at dksX6_bendsNow_4 23 rfl rfl)
def dkwX6_isTrapped_3 : List UInt8 := [16, 7, 160, 0, 14, 42, 180, 1, 33, 154, 0, 7, 4, 167, 0, 4, 3, 172]
abbrev dktX6_isTrapped_3 : List UInt8 := dkwX6_isTrapped_3 ++ []
def dkwX6_isTrapped_2 : List UInt8 := [167, 0, 4, 3, 172, 42, 27, 182, 0, 247, 153, 0, 12, 42, 180, 1, 33, 16, 8, 159, 0, 16, 28]
abbrev dktX6_isTrapped_2 : List UInt8 := dkwX6_isTrapped_2 ++ dktX6_isTrapped_3
def dkwX6_isTrapped_1 : List UInt8 := [182, 1, 26, 20, 1, 29, 148, 157, 0, 15, 42, 27, 182, 1, 26, 20, 1, 31, 148, 156, 0, 7, 4]
abbrev dktX6_isTrapped_1 : List UInt8 := dkwX6_isTrapped_1 ++ dktX6_isTrapped_2
def dkwX6_isTrapped_0 : List UInt8 := [42, 27, 182, 0, 234, 153, 0, 5, 4, 172, 42, 27, 182, 0, 120, 61, 28, 154, 0, 33, 42, 27]
abbrev dktX6_isTrapped_0 : List UInt8 := dkwX6_isTrapped_0 ++ dktX6_isTrapped_1
theorem dksX6_isTrapped_0 : cX6_isTrapped.data.toList.drop 0 = dktX6_isTrapped_0 := by decide +kernel
theorem dksX6_isTrapped_1 : cX6_isTrapped.data.toList.drop 22 = dktX6_isTrapped_1 := dk_seg dksX6_isTrapped_0 22 rfl rfl
theorem dksX6_isTrapped_2 : cX6_isTrapped.data.toList.drop 45 = dktX6_isTrapped_2 := dk_seg dksX6_isTrapped_1 23 rfl rfl
theorem dksX6_isTrapped_3 : cX6_isTrapped.data.toList.drop 68 = dktX6_isTrapped_3 := dk_seg dksX6_isTrapped_2 23 rfl rfl
theorem dX6_isTrapped_0 : decode cX6_isTrapped 0 = .ok (.aload_n 0, 1) := dk_42 (dk_at dksX6_isTrapped_0 0 rfl rfl)
theorem dX6_isTrapped_1 : decode cX6_isTrapped 1 = .ok (.iload_n 1, 1) := dk_27 (dk_at dksX6_isTrapped_0 1 rfl rfl)
theorem dX6_isTrapped_2 : decode cX6_isTrapped 2 = .ok (.invokevirtual 234, 3) := dk_182 0 234 (dk_at dksX6_isTrapped_0 2 rfl rfl)
theorem dX6_isTrapped_5 : decode cX6_isTrapped 5 = .ok (.ifCond .eq 5, 3) := dk_153 0 5 (dk_at dksX6_isTrapped_0 5 rfl rfl)
theorem dX6_isTrapped_8 : decode cX6_isTrapped 8 = .ok (.iconst 1, 1) := dk_4 (dk_at dksX6_isTrapped_0 8 rfl rfl)
theorem dX6_isTrapped_9 : decode cX6_isTrapped 9 = .ok (.ireturn, 1) := dk_172 (dk_at dksX6_isTrapped_0 9 rfl rfl)
theorem dX6_isTrapped_10 : decode cX6_isTrapped 10 = .ok (.aload_n 0, 1) := dk_42 (dk_at dksX6_isTrapped_0 10 rfl rfl)
theorem dX6_isTrapped_11 : decode cX6_isTrapped 11 = .ok (.iload_n 1, 1) := dk_27 (dk_at dksX6_isTrapped_0 11 rfl rfl)
theorem dX6_isTrapped_12 : decode cX6_isTrapped 12 = .ok (.invokevirtual 120, 3) := dk_182 0 120 (dk_at dksX6_isTrapped_0 12 rfl rfl)
theorem dX6_isTrapped_15 : decode cX6_isTrapped 15 = .ok (.istore_n 2, 1) := dk_61 (dk_at dksX6_isTrapped_0 15 rfl rfl)
theorem dX6_isTrapped_16 : decode cX6_isTrapped 16 = .ok (.iload_n 2, 1) := dk_28 (dk_at dksX6_isTrapped_0 16 rfl rfl)
theorem dX6_isTrapped_17 : decode cX6_isTrapped 17 = .ok (.ifCond .ne 33, 3) := dk_154 0 33 (dk_at dksX6_isTrapped_0 17 rfl rfl)
theorem dX6_isTrapped_20 : decode cX6_isTrapped 20 = .ok (.aload_n 0, 1) := dk_42 (dk_at dksX6_isTrapped_0 20 rfl rfl)
theorem dX6_isTrapped_21 : decode cX6_isTrapped 21 = .ok (.iload_n 1, 1) := dk_27 (dk_at dksX6_isTrapped_0 21 rfl rfl)
theorem dX6_isTrapped_22 : decode cX6_isTrapped 22 = .ok (.invokevirtual 282, 3) := dk_182 1 26 (dk_at dksX6_isTrapped_1 0 rfl rfl)
theorem dX6_isTrapped_25 : decode cX6_isTrapped 25 = .ok (.ldc2_w 285, 3) := dk_20 1 29 (dk_at dksX6_isTrapped_1 3 rfl rfl)
theorem dX6_isTrapped_28 : decode cX6_isTrapped 28 = .ok (.lcmp, 1) := dk_148 (dk_at dksX6_isTrapped_1 6 rfl rfl)
theorem dX6_isTrapped_29 : decode cX6_isTrapped 29 = .ok (.ifCond .gt 15, 3) := dk_157 0 15 (dk_at dksX6_isTrapped_1 7 rfl rfl)
theorem dX6_isTrapped_32 : decode cX6_isTrapped 32 = .ok (.aload_n 0, 1) := dk_42 (dk_at dksX6_isTrapped_1 10 rfl rfl)
theorem dX6_isTrapped_33 : decode cX6_isTrapped 33 = .ok (.iload_n 1, 1) := dk_27 (dk_at dksX6_isTrapped_1 11 rfl rfl)
theorem dX6_isTrapped_34 : decode cX6_isTrapped 34 = .ok (.invokevirtual 282, 3) := dk_182 1 26 (dk_at dksX6_isTrapped_1 12 rfl rfl)
theorem dX6_isTrapped_37 : decode cX6_isTrapped 37 = .ok (.ldc2_w 287, 3) := dk_20 1 31 (dk_at dksX6_isTrapped_1 15 rfl rfl)
theorem dX6_isTrapped_40 : decode cX6_isTrapped 40 = .ok (.lcmp, 1) := dk_148 (dk_at dksX6_isTrapped_1 18 rfl rfl)
theorem dX6_isTrapped_41 : decode cX6_isTrapped 41 = .ok (.ifCond .ge 7, 3) := dk_156 0 7 (dk_at dksX6_isTrapped_1 19 rfl rfl)
theorem dX6_isTrapped_44 : decode cX6_isTrapped 44 = .ok (.iconst 1, 1) := dk_4 (dk_at dksX6_isTrapped_1 22 rfl rfl)
theorem dX6_isTrapped_45 : decode cX6_isTrapped 45 = .ok (.goto 4, 3) := dk_167 0 4 (dk_at dksX6_isTrapped_2 0 rfl rfl)
theorem dX6_isTrapped_48 : decode cX6_isTrapped 48 = .ok (.iconst 0, 1) := dk_3 (dk_at dksX6_isTrapped_2 3 rfl rfl)
theorem dX6_isTrapped_49 : decode cX6_isTrapped 49 = .ok (.ireturn, 1) := dk_172 (dk_at dksX6_isTrapped_2 4 rfl rfl)
theorem dX6_isTrapped_50 : decode cX6_isTrapped 50 = .ok (.aload_n 0, 1) := dk_42 (dk_at dksX6_isTrapped_2 5 rfl rfl)
theorem dX6_isTrapped_51 : decode cX6_isTrapped 51 = .ok (.iload_n 1, 1) := dk_27 (dk_at dksX6_isTrapped_2 6 rfl rfl)
theorem dX6_isTrapped_52 : decode cX6_isTrapped 52 = .ok (.invokevirtual 247, 3) := dk_182 0 247 (dk_at dksX6_isTrapped_2 7 rfl rfl)
theorem dX6_isTrapped_55 : decode cX6_isTrapped 55 = .ok (.ifCond .eq 12, 3) := dk_153 0 12 (dk_at dksX6_isTrapped_2 10 rfl rfl)
theorem dX6_isTrapped_58 : decode cX6_isTrapped 58 = .ok (.aload_n 0, 1) := dk_42 (dk_at dksX6_isTrapped_2 13 rfl rfl)
theorem dX6_isTrapped_59 : decode cX6_isTrapped 59 = .ok (.getfield 289, 3) := dk_180 1 33 (dk_at dksX6_isTrapped_2 14 rfl rfl)
theorem dX6_isTrapped_62 : decode cX6_isTrapped 62 = .ok (.bipush 8, 2) := dk_16 8 (dk_at dksX6_isTrapped_2 17 rfl rfl)
theorem dX6_isTrapped_64 : decode cX6_isTrapped 64 = .ok (.if_icmp .eq 16, 3) := dk_159 0 16 (dk_at dksX6_isTrapped_2 19 rfl rfl)
theorem dX6_isTrapped_67 : decode cX6_isTrapped 67 = .ok (.iload_n 2, 1) := dk_28 (dk_at dksX6_isTrapped_2 22 rfl rfl)
theorem dX6_isTrapped_68 : decode cX6_isTrapped 68 = .ok (.bipush 7, 2) := dk_16 7 (dk_at dksX6_isTrapped_3 0 rfl rfl)
theorem dX6_isTrapped_70 : decode cX6_isTrapped 70 = .ok (.if_icmp .ne 14, 3) := dk_160 0 14 (dk_at dksX6_isTrapped_3 2 rfl rfl)
theorem dX6_isTrapped_73 : decode cX6_isTrapped 73 = .ok (.aload_n 0, 1) := dk_42 (dk_at dksX6_isTrapped_3 5 rfl rfl)
theorem dX6_isTrapped_74 : decode cX6_isTrapped 74 = .ok (.getfield 289, 3) := dk_180 1 33 (dk_at dksX6_isTrapped_3 6 rfl rfl)
theorem dX6_isTrapped_77 : decode cX6_isTrapped 77 = .ok (.ifCond .ne 7, 3) := dk_154 0 7 (dk_at dksX6_isTrapped_3 9 rfl rfl)
theorem dX6_isTrapped_80 : decode cX6_isTrapped 80 = .ok (.iconst 1, 1) := dk_4 (dk_at dksX6_isTrapped_3 12 rfl rfl)
theorem dX6_isTrapped_81 : decode cX6_isTrapped 81 = .ok (.goto 4, 3) := dk_167 0 4 (dk_at dksX6_isTrapped_3 13 rfl rfl)
theorem dX6_isTrapped_84 : decode cX6_isTrapped 84 = .ok (.iconst 0, 1) := dk_3 (dk_at dksX6_isTrapped_3 16 rfl rfl)
theorem dX6_isTrapped_85 : decode cX6_isTrapped 85 = .ok (.ireturn, 1) := dk_172 (dk_at dksX6_isTrapped_3 17 rfl rfl)
def dkwX6_sumOf_3 : List UInt8 := [32, 22, 5, 105, 173]
abbrev dktX6_sumOf_3 : List UInt8 := dkwX6_sumOf_3 ++ []
def dkwX6_sumOf_2 : List UInt8 := [160, 0, 10, 32, 22, 5, 97, 167, 0, 21, 21, 4, 16, 45, 160, 0, 10, 32, 22, 5, 101, 167, 0, 7]
abbrev dktX6_sumOf_2 : List UInt8 := dkwX6_sumOf_2 ++ dktX6_sumOf_3
def dkwX6_sumOf_1 : List UInt8 := [154, 0, 5, 32, 173, 42, 42, 27, 16, 7, 182, 0, 108, 182, 1, 23, 133, 55, 5, 21, 4, 16, 43]
abbrev dktX6_sumOf_1 : List UInt8 := dkwX6_sumOf_1 ++ dktX6_sumOf_2
def dkwX6_sumOf_0 : List UInt8 := [42, 42, 27, 16, 6, 182, 0, 108, 182, 1, 23, 133, 65, 42, 27, 16, 8, 182, 0, 108, 54, 4, 21, 4]
abbrev dktX6_sumOf_0 : List UInt8 := dkwX6_sumOf_0 ++ dktX6_sumOf_1
theorem dksX6_sumOf_0 : cX6_sumOf.data.toList.drop 0 = dktX6_sumOf_0 := by decide +kernel
theorem dksX6_sumOf_1 : cX6_sumOf.data.toList.drop 24 = dktX6_sumOf_1 := dk_seg dksX6_sumOf_0 24 rfl rfl
theorem dksX6_sumOf_2 : cX6_sumOf.data.toList.drop 47 = dktX6_sumOf_2 := dk_seg dksX6_sumOf_1 23 rfl rfl
theorem dksX6_sumOf_3 : cX6_sumOf.data.toList.drop 71 = dktX6_sumOf_3 := dk_seg dksX6_sumOf_2 24 rfl rfl
theorem dX6_sumOf_0 : decode cX6_sumOf 0 = .ok (.aload_n 0, 1) := dk_42 (dk_at dksX6_sumOf_0 0 rfl rfl)
theorem dX6_sumOf_1 : decode cX6_sumOf 1 = .ok (.aload_n 0, 1) := dk_42 (dk_at dksX6_sumOf_0 1 rfl rfl)
theorem dX6_sumOf_2 : decode cX6_sumOf 2 = .ok (.iload_n 1, 1) := dk_27 (dk_at dksX6_sumOf_0 2 rfl rfl)
theorem dX6_sumOf_3 : decode cX6_sumOf 3 = .ok (.bipush 6, 2) := dk_16 6 (dk_at dksX6_sumOf_0 3 rfl rfl)
theorem dX6_sumOf_5 : decode cX6_sumOf 5 = .ok (.invokevirtual 108, 3) := dk_182 0 108 (dk_at dksX6_sumOf_0 5 rfl rfl)
theorem dX6_sumOf_8 : decode cX6_sumOf 8 = .ok (.invokevirtual 279, 3) := dk_182 1 23 (dk_at dksX6_sumOf_0 8 rfl rfl)
theorem dX6_sumOf_11 : decode cX6_sumOf 11 = .ok (.i2l, 1) := dk_133 (dk_at dksX6_sumOf_0 11 rfl rfl)
theorem dX6_sumOf_12 : decode cX6_sumOf 12 = .ok (.lstore_n 2, 1) := dk_65 (dk_at dksX6_sumOf_0 12 rfl rfl)
theorem dX6_sumOf_13 : decode cX6_sumOf 13 = .ok (.aload_n 0, 1) := dk_42 (dk_at dksX6_sumOf_0 13 rfl rfl)
theorem dX6_sumOf_14 : decode cX6_sumOf 14 = .ok (.iload_n 1, 1) := dk_27 (dk_at dksX6_sumOf_0 14 rfl rfl)
theorem dX6_sumOf_15 : decode cX6_sumOf 15 = .ok (.bipush 8, 2) := dk_16 8 (dk_at dksX6_sumOf_0 15 rfl rfl)
theorem dX6_sumOf_17 : decode cX6_sumOf 17 = .ok (.invokevirtual 108, 3) := dk_182 0 108 (dk_at dksX6_sumOf_0 17 rfl rfl)
theorem dX6_sumOf_20 : decode cX6_sumOf 20 = .ok (.istore 4, 2) := dk_54 4 (dk_at dksX6_sumOf_0 20 rfl rfl)
theorem dX6_sumOf_22 : decode cX6_sumOf 22 = .ok (.iload 4, 2) := dk_21 4 (dk_at dksX6_sumOf_0 22 rfl rfl)
theorem dX6_sumOf_24 : decode cX6_sumOf 24 = .ok (.ifCond .ne 5, 3) := dk_154 0 5 (dk_at dksX6_sumOf_1 0 rfl rfl)
theorem dX6_sumOf_27 : decode cX6_sumOf 27 = .ok (.lload_n 2, 1) := dk_32 (dk_at dksX6_sumOf_1 3 rfl rfl)
theorem dX6_sumOf_28 : decode cX6_sumOf 28 = .ok (.lreturn, 1) := dk_173 (dk_at dksX6_sumOf_1 4 rfl rfl)
theorem dX6_sumOf_29 : decode cX6_sumOf 29 = .ok (.aload_n 0, 1) := dk_42 (dk_at dksX6_sumOf_1 5 rfl rfl)
theorem dX6_sumOf_30 : decode cX6_sumOf 30 = .ok (.aload_n 0, 1) := dk_42 (dk_at dksX6_sumOf_1 6 rfl rfl)
theorem dX6_sumOf_31 : decode cX6_sumOf 31 = .ok (.iload_n 1, 1) := dk_27 (dk_at dksX6_sumOf_1 7 rfl rfl)
theorem dX6_sumOf_32 : decode cX6_sumOf 32 = .ok (.bipush 7, 2) := dk_16 7 (dk_at dksX6_sumOf_1 8 rfl rfl)
theorem dX6_sumOf_34 : decode cX6_sumOf 34 = .ok (.invokevirtual 108, 3) := dk_182 0 108 (dk_at dksX6_sumOf_1 10 rfl rfl)
theorem dX6_sumOf_37 : decode cX6_sumOf 37 = .ok (.invokevirtual 279, 3) := dk_182 1 23 (dk_at dksX6_sumOf_1 13 rfl rfl)
theorem dX6_sumOf_40 : decode cX6_sumOf 40 = .ok (.i2l, 1) := dk_133 (dk_at dksX6_sumOf_1 16 rfl rfl)
theorem dX6_sumOf_41 : decode cX6_sumOf 41 = .ok (.lstore 5, 2) := dk_55 5 (dk_at dksX6_sumOf_1 17 rfl rfl)
theorem dX6_sumOf_43 : decode cX6_sumOf 43 = .ok (.iload 4, 2) := dk_21 4 (dk_at dksX6_sumOf_1 19 rfl rfl)
theorem dX6_sumOf_45 : decode cX6_sumOf 45 = .ok (.bipush 43, 2) := dk_16 43 (dk_at dksX6_sumOf_1 21 rfl rfl)
theorem dX6_sumOf_47 : decode cX6_sumOf 47 = .ok (.if_icmp .ne 10, 3) := dk_160 0 10 (dk_at dksX6_sumOf_2 0 rfl rfl)
theorem dX6_sumOf_50 : decode cX6_sumOf 50 = .ok (.lload_n 2, 1) := dk_32 (dk_at dksX6_sumOf_2 3 rfl rfl)
theorem dX6_sumOf_51 : decode cX6_sumOf 51 = .ok (.lload 5, 2) := dk_22 5 (dk_at dksX6_sumOf_2 4 rfl rfl)
theorem dX6_sumOf_53 : decode cX6_sumOf 53 = .ok (.ladd, 1) := dk_97 (dk_at dksX6_sumOf_2 6 rfl rfl)
theorem dX6_sumOf_54 : decode cX6_sumOf 54 = .ok (.goto 21, 3) := dk_167 0 21 (dk_at dksX6_sumOf_2 7 rfl rfl)
theorem dX6_sumOf_57 : decode cX6_sumOf 57 = .ok (.iload 4, 2) := dk_21 4 (dk_at dksX6_sumOf_2 10 rfl rfl)
theorem dX6_sumOf_59 : decode cX6_sumOf 59 = .ok (.bipush 45, 2) := dk_16 45 (dk_at dksX6_sumOf_2 12 rfl rfl)
theorem dX6_sumOf_61 : decode cX6_sumOf 61 = .ok (.if_icmp .ne 10, 3) := dk_160 0 10 (dk_at dksX6_sumOf_2 14 rfl rfl)
theorem dX6_sumOf_64 : decode cX6_sumOf 64 = .ok (.lload_n 2, 1) := dk_32 (dk_at dksX6_sumOf_2 17 rfl rfl)
theorem dX6_sumOf_65 : decode cX6_sumOf 65 = .ok (.lload 5, 2) := dk_22 5 (dk_at dksX6_sumOf_2 18 rfl rfl)
theorem dX6_sumOf_67 : decode cX6_sumOf 67 = .ok (.lsub, 1) := dk_101 (dk_at dksX6_sumOf_2 20 rfl rfl)
theorem dX6_sumOf_68 : decode cX6_sumOf 68 = .ok (.goto 7, 3) := dk_167 0 7 (dk_at dksX6_sumOf_2 21 rfl rfl)
theorem dX6_sumOf_71 : decode cX6_sumOf 71 = .ok (.lload_n 2, 1) := dk_32 (dk_at dksX6_sumOf_3 0 rfl rfl)
theorem dX6_sumOf_72 : decode cX6_sumOf 72 = .ok (.lload 5, 2) := dk_22 5 (dk_at dksX6_sumOf_3 1 rfl rfl)
theorem dX6_sumOf_74 : decode cX6_sumOf 74 = .ok (.lmul, 1) := dk_105 (dk_at dksX6_sumOf_3 3 rfl rfl)
theorem dX6_sumOf_75 : decode cX6_sumOf 75 = .ok (.lreturn, 1) := dk_173 (dk_at dksX6_sumOf_3 4 rfl rfl)
def dkwX6_valueOf_0 : List UInt8 := [27, 17, 3, 232, 161, 0, 16, 42, 180, 0, 47, 27, 17, 3, 232, 100, 46, 167, 0, 4, 27, 172]
abbrev dktX6_valueOf_0 : List UInt8 := dkwX6_valueOf_0 ++ []
theorem dksX6_valueOf_0 : cX6_valueOf.data.toList.drop 0 = dktX6_valueOf_0 := by decide +kernel
theorem dX6_valueOf_0 : decode cX6_valueOf 0 = .ok (.iload_n 1, 1) := dk_27 (dk_at dksX6_valueOf_0 0 rfl rfl)
theorem dX6_valueOf_1 : decode cX6_valueOf 1 = .ok (.sipush 1000, 3) := dk_17 3 232 (dk_at dksX6_valueOf_0 1 rfl rfl)
theorem dX6_valueOf_4 : decode cX6_valueOf 4 = .ok (.if_icmp .lt 16, 3) := dk_161 0 16 (dk_at dksX6_valueOf_0 4 rfl rfl)
theorem dX6_valueOf_7 : decode cX6_valueOf 7 = .ok (.aload_n 0, 1) := dk_42 (dk_at dksX6_valueOf_0 7 rfl rfl)
theorem dX6_valueOf_8 : decode cX6_valueOf 8 = .ok (.getfield 47, 3) := dk_180 0 47 (dk_at dksX6_valueOf_0 8 rfl rfl)
theorem dX6_valueOf_11 : decode cX6_valueOf 11 = .ok (.iload_n 1, 1) := dk_27 (dk_at dksX6_valueOf_0 11 rfl rfl)
theorem dX6_valueOf_12 : decode cX6_valueOf 12 = .ok (.sipush 1000, 3) := dk_17 3 232 (dk_at dksX6_valueOf_0 12 rfl rfl)
theorem dX6_valueOf_15 : decode cX6_valueOf 15 = .ok (.isub, 1) := dk_100 (dk_at dksX6_valueOf_0 15 rfl rfl)
theorem dX6_valueOf_16 : decode cX6_valueOf 16 = .ok (.iaload, 1) := dk_46 (dk_at dksX6_valueOf_0 16 rfl rfl)
theorem dX6_valueOf_17 : decode cX6_valueOf 17 = .ok (.goto 4, 3) := dk_167 0 4 (dk_at dksX6_valueOf_0 17 rfl rfl)
theorem dX6_valueOf_20 : decode cX6_valueOf 20 = .ok (.iload_n 1, 1) := dk_27 (dk_at dksX6_valueOf_0 20 rfl rfl)
theorem dX6_valueOf_21 : decode cX6_valueOf 21 = .ok (.ireturn, 1) := dk_172 (dk_at dksX6_valueOf_0 21 rfl rfl)
def dkwX6_isGuarded_3 : List UInt8 := [47, 28, 184, 1, 39, 154, 0, 7, 4, 167, 0, 4, 3, 172]
abbrev dktX6_isGuarded_3 : List UInt8 := dkwX6_isGuarded_3 ++ []
def dkwX6_isGuarded_2 : List UInt8 := [159, 0, 7, 4, 167, 0, 4, 3, 172, 28, 3, 16, 39, 184, 0, 116, 153, 0, 16, 42, 180, 0, 68, 27]
abbrev dktX6_isGuarded_2 : List UInt8 := dkwX6_isGuarded_2 ++ dktX6_isGuarded_3
def dkwX6_isGuarded_1 : List UInt8 := [42, 27, 182, 0, 120, 16, 7, 160, 0, 24, 28, 42, 180, 0, 59, 42, 180, 1, 33, 4, 100, 46]
abbrev dktX6_isGuarded_1 : List UInt8 := dkwX6_isGuarded_1 ++ dktX6_isGuarded_2
def dkwX6_isGuarded_0 : List UInt8 := [42, 27, 182, 1, 36, 61, 42, 27, 5, 182, 0, 108, 62, 29, 154, 0, 5, 3, 172, 29, 6, 160, 0, 34]
abbrev dktX6_isGuarded_0 : List UInt8 := dkwX6_isGuarded_0 ++ dktX6_isGuarded_1
theorem dksX6_isGuarded_0 : cX6_isGuarded.data.toList.drop 0 = dktX6_isGuarded_0 := by decide +kernel
theorem dksX6_isGuarded_1 : cX6_isGuarded.data.toList.drop 24 = dktX6_isGuarded_1 := dk_seg dksX6_isGuarded_0 24 rfl rfl
theorem dksX6_isGuarded_2 : cX6_isGuarded.data.toList.drop 46 = dktX6_isGuarded_2 := dk_seg dksX6_isGuarded_1 22 rfl rfl
theorem dksX6_isGuarded_3 : cX6_isGuarded.data.toList.drop 70 = dktX6_isGuarded_3 := dk_seg dksX6_isGuarded_2 24 rfl rfl
theorem dX6_isGuarded_0 : decode cX6_isGuarded 0 = .ok (.aload_n 0, 1) := dk_42 (dk_at dksX6_isGuarded_0 0 rfl rfl)
theorem dX6_isGuarded_1 : decode cX6_isGuarded 1 = .ok (.iload_n 1, 1) := dk_27 (dk_at dksX6_isGuarded_0 1 rfl rfl)
theorem dX6_isGuarded_2 : decode cX6_isGuarded 2 = .ok (.invokevirtual 292, 3) := dk_182 1 36 (dk_at dksX6_isGuarded_0 2 rfl rfl)
theorem dX6_isGuarded_5 : decode cX6_isGuarded 5 = .ok (.istore_n 2, 1) := dk_61 (dk_at dksX6_isGuarded_0 5 rfl rfl)
theorem dX6_isGuarded_6 : decode cX6_isGuarded 6 = .ok (.aload_n 0, 1) := dk_42 (dk_at dksX6_isGuarded_0 6 rfl rfl)
theorem dX6_isGuarded_7 : decode cX6_isGuarded 7 = .ok (.iload_n 1, 1) := dk_27 (dk_at dksX6_isGuarded_0 7 rfl rfl)
theorem dX6_isGuarded_8 : decode cX6_isGuarded 8 = .ok (.iconst 2, 1) := dk_5 (dk_at dksX6_isGuarded_0 8 rfl rfl)
theorem dX6_isGuarded_9 : decode cX6_isGuarded 9 = .ok (.invokevirtual 108, 3) := dk_182 0 108 (dk_at dksX6_isGuarded_0 9 rfl rfl)
theorem dX6_isGuarded_12 : decode cX6_isGuarded 12 = .ok (.istore_n 3, 1) := dk_62 (dk_at dksX6_isGuarded_0 12 rfl rfl)
theorem dX6_isGuarded_13 : decode cX6_isGuarded 13 = .ok (.iload_n 3, 1) := dk_29 (dk_at dksX6_isGuarded_0 13 rfl rfl)
theorem dX6_isGuarded_14 : decode cX6_isGuarded 14 = .ok (.ifCond .ne 5, 3) := dk_154 0 5 (dk_at dksX6_isGuarded_0 14 rfl rfl)
theorem dX6_isGuarded_17 : decode cX6_isGuarded 17 = .ok (.iconst 0, 1) := dk_3 (dk_at dksX6_isGuarded_0 17 rfl rfl)
theorem dX6_isGuarded_18 : decode cX6_isGuarded 18 = .ok (.ireturn, 1) := dk_172 (dk_at dksX6_isGuarded_0 18 rfl rfl)
theorem dX6_isGuarded_19 : decode cX6_isGuarded 19 = .ok (.iload_n 3, 1) := dk_29 (dk_at dksX6_isGuarded_0 19 rfl rfl)
theorem dX6_isGuarded_20 : decode cX6_isGuarded 20 = .ok (.iconst 3, 1) := dk_6 (dk_at dksX6_isGuarded_0 20 rfl rfl)
theorem dX6_isGuarded_21 : decode cX6_isGuarded 21 = .ok (.if_icmp .ne 34, 3) := dk_160 0 34 (dk_at dksX6_isGuarded_0 21 rfl rfl)
theorem dX6_isGuarded_24 : decode cX6_isGuarded 24 = .ok (.aload_n 0, 1) := dk_42 (dk_at dksX6_isGuarded_1 0 rfl rfl)
theorem dX6_isGuarded_25 : decode cX6_isGuarded 25 = .ok (.iload_n 1, 1) := dk_27 (dk_at dksX6_isGuarded_1 1 rfl rfl)
theorem dX6_isGuarded_26 : decode cX6_isGuarded 26 = .ok (.invokevirtual 120, 3) := dk_182 0 120 (dk_at dksX6_isGuarded_1 2 rfl rfl)
theorem dX6_isGuarded_29 : decode cX6_isGuarded 29 = .ok (.bipush 7, 2) := dk_16 7 (dk_at dksX6_isGuarded_1 5 rfl rfl)
theorem dX6_isGuarded_31 : decode cX6_isGuarded 31 = .ok (.if_icmp .ne 24, 3) := dk_160 0 24 (dk_at dksX6_isGuarded_1 7 rfl rfl)
theorem dX6_isGuarded_34 : decode cX6_isGuarded 34 = .ok (.iload_n 2, 1) := dk_28 (dk_at dksX6_isGuarded_1 10 rfl rfl)
theorem dX6_isGuarded_35 : decode cX6_isGuarded 35 = .ok (.aload_n 0, 1) := dk_42 (dk_at dksX6_isGuarded_1 11 rfl rfl)
theorem dX6_isGuarded_36 : decode cX6_isGuarded 36 = .ok (.getfield 59, 3) := dk_180 0 59 (dk_at dksX6_isGuarded_1 12 rfl rfl)
theorem dX6_isGuarded_39 : decode cX6_isGuarded 39 = .ok (.aload_n 0, 1) := dk_42 (dk_at dksX6_isGuarded_1 15 rfl rfl)
theorem dX6_isGuarded_40 : decode cX6_isGuarded 40 = .ok (.getfield 289, 3) := dk_180 1 33 (dk_at dksX6_isGuarded_1 16 rfl rfl)
theorem dX6_isGuarded_43 : decode cX6_isGuarded 43 = .ok (.iconst 1, 1) := dk_4 (dk_at dksX6_isGuarded_1 19 rfl rfl)
theorem dX6_isGuarded_44 : decode cX6_isGuarded 44 = .ok (.isub, 1) := dk_100 (dk_at dksX6_isGuarded_1 20 rfl rfl)
theorem dX6_isGuarded_45 : decode cX6_isGuarded 45 = .ok (.iaload, 1) := dk_46 (dk_at dksX6_isGuarded_1 21 rfl rfl)
theorem dX6_isGuarded_46 : decode cX6_isGuarded 46 = .ok (.if_icmp .eq 7, 3) := dk_159 0 7 (dk_at dksX6_isGuarded_2 0 rfl rfl)
theorem dX6_isGuarded_49 : decode cX6_isGuarded 49 = .ok (.iconst 1, 1) := dk_4 (dk_at dksX6_isGuarded_2 3 rfl rfl)
theorem dX6_isGuarded_50 : decode cX6_isGuarded 50 = .ok (.goto 4, 3) := dk_167 0 4 (dk_at dksX6_isGuarded_2 4 rfl rfl)
theorem dX6_isGuarded_53 : decode cX6_isGuarded 53 = .ok (.iconst 0, 1) := dk_3 (dk_at dksX6_isGuarded_2 7 rfl rfl)
theorem dX6_isGuarded_54 : decode cX6_isGuarded 54 = .ok (.ireturn, 1) := dk_172 (dk_at dksX6_isGuarded_2 8 rfl rfl)
theorem dX6_isGuarded_55 : decode cX6_isGuarded 55 = .ok (.iload_n 2, 1) := dk_28 (dk_at dksX6_isGuarded_2 9 rfl rfl)
theorem dX6_isGuarded_56 : decode cX6_isGuarded 56 = .ok (.iconst 0, 1) := dk_3 (dk_at dksX6_isGuarded_2 10 rfl rfl)
theorem dX6_isGuarded_57 : decode cX6_isGuarded 57 = .ok (.bipush 39, 2) := dk_16 39 (dk_at dksX6_isGuarded_2 11 rfl rfl)
theorem dX6_isGuarded_59 : decode cX6_isGuarded 59 = .ok (.invokestatic 116, 3) := dk_184 0 116 (dk_at dksX6_isGuarded_2 13 rfl rfl)
theorem dX6_isGuarded_62 : decode cX6_isGuarded 62 = .ok (.ifCond .eq 16, 3) := dk_153 0 16 (dk_at dksX6_isGuarded_2 16 rfl rfl)
theorem dX6_isGuarded_65 : decode cX6_isGuarded 65 = .ok (.aload_n 0, 1) := dk_42 (dk_at dksX6_isGuarded_2 19 rfl rfl)
theorem dX6_isGuarded_66 : decode cX6_isGuarded 66 = .ok (.getfield 68, 3) := dk_180 0 68 (dk_at dksX6_isGuarded_2 20 rfl rfl)
theorem dX6_isGuarded_69 : decode cX6_isGuarded 69 = .ok (.iload_n 1, 1) := dk_27 (dk_at dksX6_isGuarded_2 23 rfl rfl)
theorem dX6_isGuarded_70 : decode cX6_isGuarded 70 = .ok (.laload, 1) := dk_47 (dk_at dksX6_isGuarded_3 0 rfl rfl)
theorem dX6_isGuarded_71 : decode cX6_isGuarded 71 = .ok (.iload_n 2, 1) := dk_28 (dk_at dksX6_isGuarded_3 1 rfl rfl)
theorem dX6_isGuarded_72 : decode cX6_isGuarded 72 = .ok (.invokestatic 295, 3) := dk_184 1 39 (dk_at dksX6_isGuarded_3 2 rfl rfl)
theorem dX6_isGuarded_75 : decode cX6_isGuarded 75 = .ok (.ifCond .ne 7, 3) := dk_154 0 7 (dk_at dksX6_isGuarded_3 5 rfl rfl)
theorem dX6_isGuarded_78 : decode cX6_isGuarded 78 = .ok (.iconst 1, 1) := dk_4 (dk_at dksX6_isGuarded_3 8 rfl rfl)
theorem dX6_isGuarded_79 : decode cX6_isGuarded 79 = .ok (.goto 4, 3) := dk_167 0 4 (dk_at dksX6_isGuarded_3 9 rfl rfl)
theorem dX6_isGuarded_82 : decode cX6_isGuarded 82 = .ok (.iconst 0, 1) := dk_3 (dk_at dksX6_isGuarded_3 12 rfl rfl)
theorem dX6_isGuarded_83 : decode cX6_isGuarded 83 = .ok (.ireturn, 1) := dk_172 (dk_at dksX6_isGuarded_3 13 rfl rfl)
def dkwX6_landingOf_1 : List UInt8 := [42, 180, 0, 47, 42, 27, 8, 182, 0, 108, 46, 172]
abbrev dktX6_landingOf_1 : List UInt8 := dkwX6_landingOf_1 ++ []
def dkwX6_landingOf_0 : List UInt8 := [42, 27, 182, 0, 120, 16, 7, 160, 0, 17, 42, 180, 0, 53, 42, 180, 1, 33, 4, 100, 46, 167, 0, 14]
abbrev dktX6_landingOf_0 : List UInt8 := dkwX6_landingOf_0 ++ dktX6_landingOf_1
theorem dksX6_landingOf_0 : cX6_landingOf.data.toList.drop 0 = dktX6_landingOf_0 := by decide +kernel
theorem dksX6_landingOf_1 : cX6_landingOf.data.toList.drop 24 = dktX6_landingOf_1 := dk_seg dksX6_landingOf_0 24 rfl rfl
theorem dX6_landingOf_0 : decode cX6_landingOf 0 = .ok (.aload_n 0, 1) := dk_42 (dk_at dksX6_landingOf_0 0 rfl rfl)
theorem dX6_landingOf_1 : decode cX6_landingOf 1 = .ok (.iload_n 1, 1) := dk_27 (dk_at dksX6_landingOf_0 1 rfl rfl)
theorem dX6_landingOf_2 : decode cX6_landingOf 2 = .ok (.invokevirtual 120, 3) := dk_182 0 120 (dk_at dksX6_landingOf_0 2 rfl rfl)
theorem dX6_landingOf_5 : decode cX6_landingOf 5 = .ok (.bipush 7, 2) := dk_16 7 (dk_at dksX6_landingOf_0 5 rfl rfl)
theorem dX6_landingOf_7 : decode cX6_landingOf 7 = .ok (.if_icmp .ne 17, 3) := dk_160 0 17 (dk_at dksX6_landingOf_0 7 rfl rfl)
theorem dX6_landingOf_10 : decode cX6_landingOf 10 = .ok (.aload_n 0, 1) := dk_42 (dk_at dksX6_landingOf_0 10 rfl rfl)
theorem dX6_landingOf_11 : decode cX6_landingOf 11 = .ok (.getfield 53, 3) := dk_180 0 53 (dk_at dksX6_landingOf_0 11 rfl rfl)
theorem dX6_landingOf_14 : decode cX6_landingOf 14 = .ok (.aload_n 0, 1) := dk_42 (dk_at dksX6_landingOf_0 14 rfl rfl)
theorem dX6_landingOf_15 : decode cX6_landingOf 15 = .ok (.getfield 289, 3) := dk_180 1 33 (dk_at dksX6_landingOf_0 15 rfl rfl)
theorem dX6_landingOf_18 : decode cX6_landingOf 18 = .ok (.iconst 1, 1) := dk_4 (dk_at dksX6_landingOf_0 18 rfl rfl)
theorem dX6_landingOf_19 : decode cX6_landingOf 19 = .ok (.isub, 1) := dk_100 (dk_at dksX6_landingOf_0 19 rfl rfl)
theorem dX6_landingOf_20 : decode cX6_landingOf 20 = .ok (.iaload, 1) := dk_46 (dk_at dksX6_landingOf_0 20 rfl rfl)
theorem dX6_landingOf_21 : decode cX6_landingOf 21 = .ok (.goto 14, 3) := dk_167 0 14 (dk_at dksX6_landingOf_0 21 rfl rfl)
theorem dX6_landingOf_24 : decode cX6_landingOf 24 = .ok (.aload_n 0, 1) := dk_42 (dk_at dksX6_landingOf_1 0 rfl rfl)
theorem dX6_landingOf_25 : decode cX6_landingOf 25 = .ok (.getfield 47, 3) := dk_180 0 47 (dk_at dksX6_landingOf_1 1 rfl rfl)
theorem dX6_landingOf_28 : decode cX6_landingOf 28 = .ok (.aload_n 0, 1) := dk_42 (dk_at dksX6_landingOf_1 4 rfl rfl)
theorem dX6_landingOf_29 : decode cX6_landingOf 29 = .ok (.iload_n 1, 1) := dk_27 (dk_at dksX6_landingOf_1 5 rfl rfl)
theorem dX6_landingOf_30 : decode cX6_landingOf 30 = .ok (.iconst 5, 1) := dk_8 (dk_at dksX6_landingOf_1 6 rfl rfl)
theorem dX6_landingOf_31 : decode cX6_landingOf 31 = .ok (.invokevirtual 108, 3) := dk_182 0 108 (dk_at dksX6_landingOf_1 7 rfl rfl)
theorem dX6_landingOf_34 : decode cX6_landingOf 34 = .ok (.iaload, 1) := dk_46 (dk_at dksX6_landingOf_1 10 rfl rfl)
theorem dX6_landingOf_35 : decode cX6_landingOf 35 = .ok (.ireturn, 1) := dk_172 (dk_at dksX6_landingOf_1 11 rfl rfl)
def dkwX6_has_0 : List UInt8 := [30, 28, 123, 10, 127, 10, 148, 154, 0, 7, 4, 167, 0, 4, 3, 172]
abbrev dktX6_has_0 : List UInt8 := dkwX6_has_0 ++ []
theorem dksX6_has_0 : cX6_has.data.toList.drop 0 = dktX6_has_0 := by decide +kernel
theorem dX6_has_0 : decode cX6_has 0 = .ok (.lload_n 0, 1) := dk_30 (dk_at dksX6_has_0 0 rfl rfl)
theorem dX6_has_1 : decode cX6_has 1 = .ok (.iload_n 2, 1) := dk_28 (dk_at dksX6_has_0 1 rfl rfl)
theorem dX6_has_2 : decode cX6_has 2 = .ok (.lshr, 1) := dk_123 (dk_at dksX6_has_0 2 rfl rfl)
theorem dX6_has_3 : decode cX6_has 3 = .ok (.lconst 1, 1) := dk_10 (dk_at dksX6_has_0 3 rfl rfl)
theorem dX6_has_4 : decode cX6_has 4 = .ok (.land, 1) := dk_127 (dk_at dksX6_has_0 4 rfl rfl)
theorem dX6_has_5 : decode cX6_has 5 = .ok (.lconst 1, 1) := dk_10 (dk_at dksX6_has_0 5 rfl rfl)
theorem dX6_has_6 : decode cX6_has 6 = .ok (.lcmp, 1) := dk_148 (dk_at dksX6_has_0 6 rfl rfl)
theorem dX6_has_7 : decode cX6_has 7 = .ok (.ifCond .ne 7, 3) := dk_154 0 7 (dk_at dksX6_has_0 7 rfl rfl)
theorem dX6_has_10 : decode cX6_has 10 = .ok (.iconst 1, 1) := dk_4 (dk_at dksX6_has_0 10 rfl rfl)
theorem dX6_has_11 : decode cX6_has 11 = .ok (.goto 4, 3) := dk_167 0 4 (dk_at dksX6_has_0 11 rfl rfl)
theorem dX6_has_14 : decode cX6_has 14 = .ok (.iconst 0, 1) := dk_3 (dk_at dksX6_has_0 14 rfl rfl)
theorem dX6_has_15 : decode cX6_has 15 = .ok (.ireturn, 1) := dk_172 (dk_at dksX6_has_0 15 rfl rfl)
def dkwX6_does_8 : List UInt8 := [27, 172]
abbrev dktX6_does_8 : List UInt8 := dkwX6_does_8 ++ []
def dkwX6_does_7 : List UInt8 := [27, 16, 6, 182, 0, 108, 182, 1, 23, 79, 42, 89, 180, 1, 54, 4, 96, 181, 1, 54, 27, 4, 96, 172]
abbrev dktX6_does_7 : List UInt8 := dkwX6_does_7 ++ dktX6_does_8
def dkwX6_does_6 : List UInt8 := [100, 181, 1, 33, 42, 180, 0, 53, 42, 180, 1, 33, 46, 172, 42, 180, 0, 65, 42, 180, 1, 54, 42, 42]
abbrev dktX6_does_6 : List UInt8 := dkwX6_does_6 ++ dktX6_does_7
def dkwX6_does_5 : List UInt8 := [27, 7, 182, 0, 108, 172, 42, 27, 182, 1, 50, 42, 180, 0, 47, 28, 46, 172, 42, 89, 180, 1, 33, 4]
abbrev dktX6_does_5 : List UInt8 := dkwX6_does_5 ++ dktX6_does_6
def dkwX6_does_4 : List UInt8 := [7, 182, 0, 108, 167, 0, 6, 27, 4, 96, 172, 42, 180, 0, 47, 28, 46, 172, 42, 27, 182, 1, 50, 42]
abbrev dktX6_does_4 : List UInt8 := dkwX6_does_4 ++ dktX6_does_5
def dkwX6_does_3 : List UInt8 := [182, 1, 43, 27, 4, 96, 172, 42, 27, 7, 182, 0, 108, 172, 42, 27, 182, 1, 47, 153, 0, 12, 42, 27]
abbrev dktX6_does_3 : List UInt8 := dkwX6_does_3 ++ dktX6_does_4
def dkwX6_does_2 : List UInt8 := [42, 28, 42, 27, 182, 1, 26, 136, 182, 1, 43, 27, 4, 96, 172, 42, 28, 42, 27, 7, 182, 0, 108]
abbrev dktX6_does_2 : List UInt8 := dkwX6_does_2 ++ dktX6_does_3
def dkwX6_does_1 : List UInt8 := [170, 0, 0, 0, 0, 0, 0, 195, 0, 0, 0, 0, 0, 0, 0, 8, 0, 0, 0, 52, 0, 0, 0, 67, 0, 0, 0, 82, 0, 0, 0, 89, 0, 0, 0, 110, 0, 0, 0, 117, 0, 0, 0, 129, 0, 0, 0, 141, 0, 0, 0, 161]
abbrev dktX6_does_1 : List UInt8 := dkwX6_does_1 ++ dktX6_does_2
def dkwX6_does_0 : List UInt8 := [42, 27, 8, 182, 0, 108, 61, 42, 27, 182, 0, 120]
abbrev dktX6_does_0 : List UInt8 := dkwX6_does_0 ++ dktX6_does_1
theorem dksX6_does_0 : cX6_does.data.toList.drop 0 = dktX6_does_0 := by decide +kernel
theorem dksX6_does_1 : cX6_does.data.toList.drop 12 = dktX6_does_1 := dk_seg dksX6_does_0 12 rfl rfl
theorem dksX6_does_2 : cX6_does.data.toList.drop 64 = dktX6_does_2 := dk_seg dksX6_does_1 52 rfl rfl
theorem dksX6_does_3 : cX6_does.data.toList.drop 87 = dktX6_does_3 := dk_seg dksX6_does_2 23 rfl rfl
theorem dksX6_does_4 : cX6_does.data.toList.drop 111 = dktX6_does_4 := dk_seg dksX6_does_3 24 rfl rfl
theorem dksX6_does_5 : cX6_does.data.toList.drop 135 = dktX6_does_5 := dk_seg dksX6_does_4 24 rfl rfl
theorem dksX6_does_6 : cX6_does.data.toList.drop 159 = dktX6_does_6 := dk_seg dksX6_does_5 24 rfl rfl
theorem dksX6_does_7 : cX6_does.data.toList.drop 183 = dktX6_does_7 := dk_seg dksX6_does_6 24 rfl rfl
theorem dksX6_does_8 : cX6_does.data.toList.drop 207 = dktX6_does_8 := dk_seg dksX6_does_7 24 rfl rfl
theorem dX6_does_0 : decode cX6_does 0 = .ok (.aload_n 0, 1) := dk_42 (dk_at dksX6_does_0 0 rfl rfl)
theorem dX6_does_1 : decode cX6_does 1 = .ok (.iload_n 1, 1) := dk_27 (dk_at dksX6_does_0 1 rfl rfl)
theorem dX6_does_2 : decode cX6_does 2 = .ok (.iconst 5, 1) := dk_8 (dk_at dksX6_does_0 2 rfl rfl)
theorem dX6_does_3 : decode cX6_does 3 = .ok (.invokevirtual 108, 3) := dk_182 0 108 (dk_at dksX6_does_0 3 rfl rfl)
theorem dX6_does_6 : decode cX6_does 6 = .ok (.istore_n 2, 1) := dk_61 (dk_at dksX6_does_0 6 rfl rfl)
theorem dX6_does_7 : decode cX6_does 7 = .ok (.aload_n 0, 1) := dk_42 (dk_at dksX6_does_0 7 rfl rfl)
theorem dX6_does_8 : decode cX6_does 8 = .ok (.iload_n 1, 1) := dk_27 (dk_at dksX6_does_0 8 rfl rfl)
theorem dX6_does_9 : decode cX6_does 9 = .ok (.invokevirtual 120, 3) := dk_182 0 120 (dk_at dksX6_does_0 9 rfl rfl)
theorem dX6_does_12 : decode cX6_does 12 = .ok (.tableswitch 195 0 8 #[52, 67, 82, 89, 110, 117, 129, 141, 161], 52) := by decide +kernel
theorem dX6_does_64 : decode cX6_does 64 = .ok (.aload_n 0, 1) := dk_42 (dk_at dksX6_does_2 0 rfl rfl)
theorem dX6_does_65 : decode cX6_does 65 = .ok (.iload_n 2, 1) := dk_28 (dk_at dksX6_does_2 1 rfl rfl)
theorem dX6_does_66 : decode cX6_does 66 = .ok (.aload_n 0, 1) := dk_42 (dk_at dksX6_does_2 2 rfl rfl)
theorem dX6_does_67 : decode cX6_does 67 = .ok (.iload_n 1, 1) := dk_27 (dk_at dksX6_does_2 3 rfl rfl)
theorem dX6_does_68 : decode cX6_does 68 = .ok (.invokevirtual 282, 3) := dk_182 1 26 (dk_at dksX6_does_2 4 rfl rfl)
theorem dX6_does_71 : decode cX6_does 71 = .ok (.l2i, 1) := dk_136 (dk_at dksX6_does_2 7 rfl rfl)
theorem dX6_does_72 : decode cX6_does 72 = .ok (.invokevirtual 299, 3) := dk_182 1 43 (dk_at dksX6_does_2 8 rfl rfl)
theorem dX6_does_75 : decode cX6_does 75 = .ok (.iload_n 1, 1) := dk_27 (dk_at dksX6_does_2 11 rfl rfl)
theorem dX6_does_76 : decode cX6_does 76 = .ok (.iconst 1, 1) := dk_4 (dk_at dksX6_does_2 12 rfl rfl)
theorem dX6_does_77 : decode cX6_does 77 = .ok (.iadd, 1) := dk_96 (dk_at dksX6_does_2 13 rfl rfl)
theorem dX6_does_78 : decode cX6_does 78 = .ok (.ireturn, 1) := dk_172 (dk_at dksX6_does_2 14 rfl rfl)
theorem dX6_does_79 : decode cX6_does 79 = .ok (.aload_n 0, 1) := dk_42 (dk_at dksX6_does_2 15 rfl rfl)
theorem dX6_does_80 : decode cX6_does 80 = .ok (.iload_n 2, 1) := dk_28 (dk_at dksX6_does_2 16 rfl rfl)
theorem dX6_does_81 : decode cX6_does 81 = .ok (.aload_n 0, 1) := dk_42 (dk_at dksX6_does_2 17 rfl rfl)
theorem dX6_does_82 : decode cX6_does 82 = .ok (.iload_n 1, 1) := dk_27 (dk_at dksX6_does_2 18 rfl rfl)
theorem dX6_does_83 : decode cX6_does 83 = .ok (.iconst 4, 1) := dk_7 (dk_at dksX6_does_2 19 rfl rfl)
theorem dX6_does_84 : decode cX6_does 84 = .ok (.invokevirtual 108, 3) := dk_182 0 108 (dk_at dksX6_does_2 20 rfl rfl)
theorem dX6_does_87 : decode cX6_does 87 = .ok (.invokevirtual 299, 3) := dk_182 1 43 (dk_at dksX6_does_3 0 rfl rfl)
theorem dX6_does_90 : decode cX6_does 90 = .ok (.iload_n 1, 1) := dk_27 (dk_at dksX6_does_3 3 rfl rfl)
theorem dX6_does_91 : decode cX6_does 91 = .ok (.iconst 1, 1) := dk_4 (dk_at dksX6_does_3 4 rfl rfl)
theorem dX6_does_92 : decode cX6_does 92 = .ok (.iadd, 1) := dk_96 (dk_at dksX6_does_3 5 rfl rfl)
theorem dX6_does_93 : decode cX6_does 93 = .ok (.ireturn, 1) := dk_172 (dk_at dksX6_does_3 6 rfl rfl)
theorem dX6_does_94 : decode cX6_does 94 = .ok (.aload_n 0, 1) := dk_42 (dk_at dksX6_does_3 7 rfl rfl)
theorem dX6_does_95 : decode cX6_does 95 = .ok (.iload_n 1, 1) := dk_27 (dk_at dksX6_does_3 8 rfl rfl)
theorem dX6_does_96 : decode cX6_does 96 = .ok (.iconst 4, 1) := dk_7 (dk_at dksX6_does_3 9 rfl rfl)
theorem dX6_does_97 : decode cX6_does 97 = .ok (.invokevirtual 108, 3) := dk_182 0 108 (dk_at dksX6_does_3 10 rfl rfl)
theorem dX6_does_100 : decode cX6_does 100 = .ok (.ireturn, 1) := dk_172 (dk_at dksX6_does_3 13 rfl rfl)
theorem dX6_does_101 : decode cX6_does 101 = .ok (.aload_n 0, 1) := dk_42 (dk_at dksX6_does_3 14 rfl rfl)
theorem dX6_does_102 : decode cX6_does 102 = .ok (.iload_n 1, 1) := dk_27 (dk_at dksX6_does_3 15 rfl rfl)
theorem dX6_does_103 : decode cX6_does 103 = .ok (.invokevirtual 303, 3) := dk_182 1 47 (dk_at dksX6_does_3 16 rfl rfl)
theorem dX6_does_106 : decode cX6_does 106 = .ok (.ifCond .eq 12, 3) := dk_153 0 12 (dk_at dksX6_does_3 19 rfl rfl)
theorem dX6_does_109 : decode cX6_does 109 = .ok (.aload_n 0, 1) := dk_42 (dk_at dksX6_does_3 22 rfl rfl)
theorem dX6_does_110 : decode cX6_does 110 = .ok (.iload_n 1, 1) := dk_27 (dk_at dksX6_does_3 23 rfl rfl)
theorem dX6_does_111 : decode cX6_does 111 = .ok (.iconst 4, 1) := dk_7 (dk_at dksX6_does_4 0 rfl rfl)
theorem dX6_does_112 : decode cX6_does 112 = .ok (.invokevirtual 108, 3) := dk_182 0 108 (dk_at dksX6_does_4 1 rfl rfl)
theorem dX6_does_115 : decode cX6_does 115 = .ok (.goto 6, 3) := dk_167 0 6 (dk_at dksX6_does_4 4 rfl rfl)
theorem dX6_does_118 : decode cX6_does 118 = .ok (.iload_n 1, 1) := dk_27 (dk_at dksX6_does_4 7 rfl rfl)
theorem dX6_does_119 : decode cX6_does 119 = .ok (.iconst 1, 1) := dk_4 (dk_at dksX6_does_4 8 rfl rfl)
theorem dX6_does_120 : decode cX6_does 120 = .ok (.iadd, 1) := dk_96 (dk_at dksX6_does_4 9 rfl rfl)
theorem dX6_does_121 : decode cX6_does 121 = .ok (.ireturn, 1) := dk_172 (dk_at dksX6_does_4 10 rfl rfl)
theorem dX6_does_122 : decode cX6_does 122 = .ok (.aload_n 0, 1) := dk_42 (dk_at dksX6_does_4 11 rfl rfl)
theorem dX6_does_123 : decode cX6_does 123 = .ok (.getfield 47, 3) := dk_180 0 47 (dk_at dksX6_does_4 12 rfl rfl)
theorem dX6_does_126 : decode cX6_does 126 = .ok (.iload_n 2, 1) := dk_28 (dk_at dksX6_does_4 15 rfl rfl)
theorem dX6_does_127 : decode cX6_does 127 = .ok (.iaload, 1) := dk_46 (dk_at dksX6_does_4 16 rfl rfl)
theorem dX6_does_128 : decode cX6_does 128 = .ok (.ireturn, 1) := dk_172 (dk_at dksX6_does_4 17 rfl rfl)
theorem dX6_does_129 : decode cX6_does 129 = .ok (.aload_n 0, 1) := dk_42 (dk_at dksX6_does_4 18 rfl rfl)
theorem dX6_does_130 : decode cX6_does 130 = .ok (.iload_n 1, 1) := dk_27 (dk_at dksX6_does_4 19 rfl rfl)
theorem dX6_does_131 : decode cX6_does 131 = .ok (.invokevirtual 306, 3) := dk_182 1 50 (dk_at dksX6_does_4 20 rfl rfl)
theorem dX6_does_134 : decode cX6_does 134 = .ok (.aload_n 0, 1) := dk_42 (dk_at dksX6_does_4 23 rfl rfl)
theorem dX6_does_135 : decode cX6_does 135 = .ok (.iload_n 1, 1) := dk_27 (dk_at dksX6_does_5 0 rfl rfl)
theorem dX6_does_136 : decode cX6_does 136 = .ok (.iconst 4, 1) := dk_7 (dk_at dksX6_does_5 1 rfl rfl)
theorem dX6_does_137 : decode cX6_does 137 = .ok (.invokevirtual 108, 3) := dk_182 0 108 (dk_at dksX6_does_5 2 rfl rfl)
theorem dX6_does_140 : decode cX6_does 140 = .ok (.ireturn, 1) := dk_172 (dk_at dksX6_does_5 5 rfl rfl)
theorem dX6_does_141 : decode cX6_does 141 = .ok (.aload_n 0, 1) := dk_42 (dk_at dksX6_does_5 6 rfl rfl)
theorem dX6_does_142 : decode cX6_does 142 = .ok (.iload_n 1, 1) := dk_27 (dk_at dksX6_does_5 7 rfl rfl)
theorem dX6_does_143 : decode cX6_does 143 = .ok (.invokevirtual 306, 3) := dk_182 1 50 (dk_at dksX6_does_5 8 rfl rfl)
theorem dX6_does_146 : decode cX6_does 146 = .ok (.aload_n 0, 1) := dk_42 (dk_at dksX6_does_5 11 rfl rfl)
theorem dX6_does_147 : decode cX6_does 147 = .ok (.getfield 47, 3) := dk_180 0 47 (dk_at dksX6_does_5 12 rfl rfl)
theorem dX6_does_150 : decode cX6_does 150 = .ok (.iload_n 2, 1) := dk_28 (dk_at dksX6_does_5 15 rfl rfl)
theorem dX6_does_151 : decode cX6_does 151 = .ok (.iaload, 1) := dk_46 (dk_at dksX6_does_5 16 rfl rfl)
theorem dX6_does_152 : decode cX6_does 152 = .ok (.ireturn, 1) := dk_172 (dk_at dksX6_does_5 17 rfl rfl)
theorem dX6_does_153 : decode cX6_does 153 = .ok (.aload_n 0, 1) := dk_42 (dk_at dksX6_does_5 18 rfl rfl)
theorem dX6_does_154 : decode cX6_does 154 = .ok (.dup, 1) := dk_89 (dk_at dksX6_does_5 19 rfl rfl)
theorem dX6_does_155 : decode cX6_does 155 = .ok (.getfield 289, 3) := dk_180 1 33 (dk_at dksX6_does_5 20 rfl rfl)
theorem dX6_does_158 : decode cX6_does 158 = .ok (.iconst 1, 1) := dk_4 (dk_at dksX6_does_5 23 rfl rfl)
theorem dX6_does_159 : decode cX6_does 159 = .ok (.isub, 1) := dk_100 (dk_at dksX6_does_6 0 rfl rfl)
theorem dX6_does_160 : decode cX6_does 160 = .ok (.putfield 289, 3) := dk_181 1 33 (dk_at dksX6_does_6 1 rfl rfl)
theorem dX6_does_163 : decode cX6_does 163 = .ok (.aload_n 0, 1) := dk_42 (dk_at dksX6_does_6 4 rfl rfl)
theorem dX6_does_164 : decode cX6_does 164 = .ok (.getfield 53, 3) := dk_180 0 53 (dk_at dksX6_does_6 5 rfl rfl)
theorem dX6_does_167 : decode cX6_does 167 = .ok (.aload_n 0, 1) := dk_42 (dk_at dksX6_does_6 8 rfl rfl)
theorem dX6_does_168 : decode cX6_does 168 = .ok (.getfield 289, 3) := dk_180 1 33 (dk_at dksX6_does_6 9 rfl rfl)
theorem dX6_does_171 : decode cX6_does 171 = .ok (.iaload, 1) := dk_46 (dk_at dksX6_does_6 12 rfl rfl)
theorem dX6_does_172 : decode cX6_does 172 = .ok (.ireturn, 1) := dk_172 (dk_at dksX6_does_6 13 rfl rfl)
theorem dX6_does_173 : decode cX6_does 173 = .ok (.aload_n 0, 1) := dk_42 (dk_at dksX6_does_6 14 rfl rfl)
theorem dX6_does_174 : decode cX6_does 174 = .ok (.getfield 65, 3) := dk_180 0 65 (dk_at dksX6_does_6 15 rfl rfl)
theorem dX6_does_177 : decode cX6_does 177 = .ok (.aload_n 0, 1) := dk_42 (dk_at dksX6_does_6 18 rfl rfl)
theorem dX6_does_178 : decode cX6_does 178 = .ok (.getfield 310, 3) := dk_180 1 54 (dk_at dksX6_does_6 19 rfl rfl)
theorem dX6_does_181 : decode cX6_does 181 = .ok (.aload_n 0, 1) := dk_42 (dk_at dksX6_does_6 22 rfl rfl)
theorem dX6_does_182 : decode cX6_does 182 = .ok (.aload_n 0, 1) := dk_42 (dk_at dksX6_does_6 23 rfl rfl)
theorem dX6_does_183 : decode cX6_does 183 = .ok (.iload_n 1, 1) := dk_27 (dk_at dksX6_does_7 0 rfl rfl)
theorem dX6_does_184 : decode cX6_does 184 = .ok (.bipush 6, 2) := dk_16 6 (dk_at dksX6_does_7 1 rfl rfl)
theorem dX6_does_186 : decode cX6_does 186 = .ok (.invokevirtual 108, 3) := dk_182 0 108 (dk_at dksX6_does_7 3 rfl rfl)
theorem dX6_does_189 : decode cX6_does 189 = .ok (.invokevirtual 279, 3) := dk_182 1 23 (dk_at dksX6_does_7 6 rfl rfl)
theorem dX6_does_192 : decode cX6_does 192 = .ok (.iastore, 1) := dk_79 (dk_at dksX6_does_7 9 rfl rfl)
theorem dX6_does_193 : decode cX6_does 193 = .ok (.aload_n 0, 1) := dk_42 (dk_at dksX6_does_7 10 rfl rfl)
theorem dX6_does_194 : decode cX6_does 194 = .ok (.dup, 1) := dk_89 (dk_at dksX6_does_7 11 rfl rfl)
theorem dX6_does_195 : decode cX6_does 195 = .ok (.getfield 310, 3) := dk_180 1 54 (dk_at dksX6_does_7 12 rfl rfl)
theorem dX6_does_198 : decode cX6_does 198 = .ok (.iconst 1, 1) := dk_4 (dk_at dksX6_does_7 15 rfl rfl)
theorem dX6_does_199 : decode cX6_does 199 = .ok (.iadd, 1) := dk_96 (dk_at dksX6_does_7 16 rfl rfl)
theorem dX6_does_200 : decode cX6_does 200 = .ok (.putfield 310, 3) := dk_181 1 54 (dk_at dksX6_does_7 17 rfl rfl)
theorem dX6_does_203 : decode cX6_does 203 = .ok (.iload_n 1, 1) := dk_27 (dk_at dksX6_does_7 20 rfl rfl)
theorem dX6_does_204 : decode cX6_does 204 = .ok (.iconst 1, 1) := dk_4 (dk_at dksX6_does_7 21 rfl rfl)
theorem dX6_does_205 : decode cX6_does 205 = .ok (.iadd, 1) := dk_96 (dk_at dksX6_does_7 22 rfl rfl)
theorem dX6_does_206 : decode cX6_does 206 = .ok (.ireturn, 1) := dk_172 (dk_at dksX6_does_7 23 rfl rfl)
theorem dX6_does_207 : decode cX6_does 207 = .ok (.iload_n 1, 1) := dk_27 (dk_at dksX6_does_8 0 rfl rfl)
theorem dX6_does_208 : decode cX6_does 208 = .ok (.ireturn, 1) := dk_172 (dk_at dksX6_does_8 1 rfl rfl)
def dkwX6_writes_0 : List UInt8 := [42, 180, 0, 47, 27, 28, 79, 42, 180, 0, 50, 27, 2, 79, 177]
abbrev dktX6_writes_0 : List UInt8 := dkwX6_writes_0 ++ []
theorem dksX6_writes_0 : cX6_writes.data.toList.drop 0 = dktX6_writes_0 := by decide +kernel
theorem dX6_writes_0 : decode cX6_writes 0 = .ok (.aload_n 0, 1) := dk_42 (dk_at dksX6_writes_0 0 rfl rfl)
theorem dX6_writes_1 : decode cX6_writes 1 = .ok (.getfield 47, 3) := dk_180 0 47 (dk_at dksX6_writes_0 1 rfl rfl)
theorem dX6_writes_4 : decode cX6_writes 4 = .ok (.iload_n 1, 1) := dk_27 (dk_at dksX6_writes_0 4 rfl rfl)
theorem dX6_writes_5 : decode cX6_writes 5 = .ok (.iload_n 2, 1) := dk_28 (dk_at dksX6_writes_0 5 rfl rfl)
theorem dX6_writes_6 : decode cX6_writes 6 = .ok (.iastore, 1) := dk_79 (dk_at dksX6_writes_0 6 rfl rfl)
theorem dX6_writes_7 : decode cX6_writes 7 = .ok (.aload_n 0, 1) := dk_42 (dk_at dksX6_writes_0 7 rfl rfl)
theorem dX6_writes_8 : decode cX6_writes 8 = .ok (.getfield 50, 3) := dk_180 0 50 (dk_at dksX6_writes_0 8 rfl rfl)
theorem dX6_writes_11 : decode cX6_writes 11 = .ok (.iload_n 1, 1) := dk_27 (dk_at dksX6_writes_0 11 rfl rfl)
theorem dX6_writes_12 : decode cX6_writes 12 = .ok (.iconst (-1), 1) := dk_2 (dk_at dksX6_writes_0 12 rfl rfl)
theorem dX6_writes_13 : decode cX6_writes 13 = .ok (.iastore, 1) := dk_79 (dk_at dksX6_writes_0 13 rfl rfl)
theorem dX6_writes_14 : decode cX6_writes 14 = .ok (.return_, 1) := dk_177 (dk_at dksX6_writes_0 14 rfl rfl)
def dkwX6_isSo_3 : List UInt8 := [167, 0, 13, 28, 29, 160, 0, 7, 4, 167, 0, 4, 3, 172]
abbrev dktX6_isSo_3 : List UInt8 := dkwX6_isSo_3 ++ []
def dkwX6_isSo_2 : List UInt8 := [167, 0, 37, 3, 167, 0, 33, 21, 4, 16, 62, 160, 0, 16, 28, 29, 164, 0, 7, 4, 167, 0, 17, 3]
abbrev dktX6_isSo_2 : List UInt8 := dkwX6_isSo_2 ++ dktX6_isSo_3
def dkwX6_isSo_1 : List UInt8 := [42, 27, 16, 8, 182, 0, 108, 54, 4, 21, 4, 16, 60, 160, 0, 16, 28, 29, 162, 0, 7, 4]
abbrev dktX6_isSo_1 : List UInt8 := dkwX6_isSo_1 ++ dktX6_isSo_2
def dkwX6_isSo_0 : List UInt8 := [42, 42, 27, 16, 6, 182, 0, 108, 182, 1, 23, 61, 42, 42, 27, 16, 7, 182, 0, 108, 182, 1, 23, 62]
abbrev dktX6_isSo_0 : List UInt8 := dkwX6_isSo_0 ++ dktX6_isSo_1
theorem dksX6_isSo_0 : cX6_isSo.data.toList.drop 0 = dktX6_isSo_0 := by decide +kernel
theorem dksX6_isSo_1 : cX6_isSo.data.toList.drop 24 = dktX6_isSo_1 := dk_seg dksX6_isSo_0 24 rfl rfl
theorem dksX6_isSo_2 : cX6_isSo.data.toList.drop 46 = dktX6_isSo_2 := dk_seg dksX6_isSo_1 22 rfl rfl
theorem dksX6_isSo_3 : cX6_isSo.data.toList.drop 70 = dktX6_isSo_3 := dk_seg dksX6_isSo_2 24 rfl rfl
theorem dX6_isSo_0 : decode cX6_isSo 0 = .ok (.aload_n 0, 1) := dk_42 (dk_at dksX6_isSo_0 0 rfl rfl)
theorem dX6_isSo_1 : decode cX6_isSo 1 = .ok (.aload_n 0, 1) := dk_42 (dk_at dksX6_isSo_0 1 rfl rfl)
theorem dX6_isSo_2 : decode cX6_isSo 2 = .ok (.iload_n 1, 1) := dk_27 (dk_at dksX6_isSo_0 2 rfl rfl)
theorem dX6_isSo_3 : decode cX6_isSo 3 = .ok (.bipush 6, 2) := dk_16 6 (dk_at dksX6_isSo_0 3 rfl rfl)
theorem dX6_isSo_5 : decode cX6_isSo 5 = .ok (.invokevirtual 108, 3) := dk_182 0 108 (dk_at dksX6_isSo_0 5 rfl rfl)
theorem dX6_isSo_8 : decode cX6_isSo 8 = .ok (.invokevirtual 279, 3) := dk_182 1 23 (dk_at dksX6_isSo_0 8 rfl rfl)
theorem dX6_isSo_11 : decode cX6_isSo 11 = .ok (.istore_n 2, 1) := dk_61 (dk_at dksX6_isSo_0 11 rfl rfl)
theorem dX6_isSo_12 : decode cX6_isSo 12 = .ok (.aload_n 0, 1) := dk_42 (dk_at dksX6_isSo_0 12 rfl rfl)
theorem dX6_isSo_13 : decode cX6_isSo 13 = .ok (.aload_n 0, 1) := dk_42 (dk_at dksX6_isSo_0 13 rfl rfl)
theorem dX6_isSo_14 : decode cX6_isSo 14 = .ok (.iload_n 1, 1) := dk_27 (dk_at dksX6_isSo_0 14 rfl rfl)
theorem dX6_isSo_15 : decode cX6_isSo 15 = .ok (.bipush 7, 2) := dk_16 7 (dk_at dksX6_isSo_0 15 rfl rfl)
theorem dX6_isSo_17 : decode cX6_isSo 17 = .ok (.invokevirtual 108, 3) := dk_182 0 108 (dk_at dksX6_isSo_0 17 rfl rfl)
theorem dX6_isSo_20 : decode cX6_isSo 20 = .ok (.invokevirtual 279, 3) := dk_182 1 23 (dk_at dksX6_isSo_0 20 rfl rfl)
theorem dX6_isSo_23 : decode cX6_isSo 23 = .ok (.istore_n 3, 1) := dk_62 (dk_at dksX6_isSo_0 23 rfl rfl)
theorem dX6_isSo_24 : decode cX6_isSo 24 = .ok (.aload_n 0, 1) := dk_42 (dk_at dksX6_isSo_1 0 rfl rfl)
theorem dX6_isSo_25 : decode cX6_isSo 25 = .ok (.iload_n 1, 1) := dk_27 (dk_at dksX6_isSo_1 1 rfl rfl)
theorem dX6_isSo_26 : decode cX6_isSo 26 = .ok (.bipush 8, 2) := dk_16 8 (dk_at dksX6_isSo_1 2 rfl rfl)
theorem dX6_isSo_28 : decode cX6_isSo 28 = .ok (.invokevirtual 108, 3) := dk_182 0 108 (dk_at dksX6_isSo_1 4 rfl rfl)
theorem dX6_isSo_31 : decode cX6_isSo 31 = .ok (.istore 4, 2) := dk_54 4 (dk_at dksX6_isSo_1 7 rfl rfl)
theorem dX6_isSo_33 : decode cX6_isSo 33 = .ok (.iload 4, 2) := dk_21 4 (dk_at dksX6_isSo_1 9 rfl rfl)
theorem dX6_isSo_35 : decode cX6_isSo 35 = .ok (.bipush 60, 2) := dk_16 60 (dk_at dksX6_isSo_1 11 rfl rfl)
theorem dX6_isSo_37 : decode cX6_isSo 37 = .ok (.if_icmp .ne 16, 3) := dk_160 0 16 (dk_at dksX6_isSo_1 13 rfl rfl)
theorem dX6_isSo_40 : decode cX6_isSo 40 = .ok (.iload_n 2, 1) := dk_28 (dk_at dksX6_isSo_1 16 rfl rfl)
theorem dX6_isSo_41 : decode cX6_isSo 41 = .ok (.iload_n 3, 1) := dk_29 (dk_at dksX6_isSo_1 17 rfl rfl)
theorem dX6_isSo_42 : decode cX6_isSo 42 = .ok (.if_icmp .ge 7, 3) := dk_162 0 7 (dk_at dksX6_isSo_1 18 rfl rfl)
theorem dX6_isSo_45 : decode cX6_isSo 45 = .ok (.iconst 1, 1) := dk_4 (dk_at dksX6_isSo_1 21 rfl rfl)
theorem dX6_isSo_46 : decode cX6_isSo 46 = .ok (.goto 37, 3) := dk_167 0 37 (dk_at dksX6_isSo_2 0 rfl rfl)
theorem dX6_isSo_49 : decode cX6_isSo 49 = .ok (.iconst 0, 1) := dk_3 (dk_at dksX6_isSo_2 3 rfl rfl)
theorem dX6_isSo_50 : decode cX6_isSo 50 = .ok (.goto 33, 3) := dk_167 0 33 (dk_at dksX6_isSo_2 4 rfl rfl)
theorem dX6_isSo_53 : decode cX6_isSo 53 = .ok (.iload 4, 2) := dk_21 4 (dk_at dksX6_isSo_2 7 rfl rfl)
theorem dX6_isSo_55 : decode cX6_isSo 55 = .ok (.bipush 62, 2) := dk_16 62 (dk_at dksX6_isSo_2 9 rfl rfl)
theorem dX6_isSo_57 : decode cX6_isSo 57 = .ok (.if_icmp .ne 16, 3) := dk_160 0 16 (dk_at dksX6_isSo_2 11 rfl rfl)
theorem dX6_isSo_60 : decode cX6_isSo 60 = .ok (.iload_n 2, 1) := dk_28 (dk_at dksX6_isSo_2 14 rfl rfl)
theorem dX6_isSo_61 : decode cX6_isSo 61 = .ok (.iload_n 3, 1) := dk_29 (dk_at dksX6_isSo_2 15 rfl rfl)
theorem dX6_isSo_62 : decode cX6_isSo 62 = .ok (.if_icmp .le 7, 3) := dk_164 0 7 (dk_at dksX6_isSo_2 16 rfl rfl)
theorem dX6_isSo_65 : decode cX6_isSo 65 = .ok (.iconst 1, 1) := dk_4 (dk_at dksX6_isSo_2 19 rfl rfl)
theorem dX6_isSo_66 : decode cX6_isSo 66 = .ok (.goto 17, 3) := dk_167 0 17 (dk_at dksX6_isSo_2 20 rfl rfl)
theorem dX6_isSo_69 : decode cX6_isSo 69 = .ok (.iconst 0, 1) := dk_3 (dk_at dksX6_isSo_2 23 rfl rfl)
theorem dX6_isSo_70 : decode cX6_isSo 70 = .ok (.goto 13, 3) := dk_167 0 13 (dk_at dksX6_isSo_3 0 rfl rfl)
theorem dX6_isSo_73 : decode cX6_isSo 73 = .ok (.iload_n 2, 1) := dk_28 (dk_at dksX6_isSo_3 3 rfl rfl)
theorem dX6_isSo_74 : decode cX6_isSo 74 = .ok (.iload_n 3, 1) := dk_29 (dk_at dksX6_isSo_3 4 rfl rfl)
theorem dX6_isSo_75 : decode cX6_isSo 75 = .ok (.if_icmp .ne 7, 3) := dk_160 0 7 (dk_at dksX6_isSo_3 5 rfl rfl)
theorem dX6_isSo_78 : decode cX6_isSo 78 = .ok (.iconst 1, 1) := dk_4 (dk_at dksX6_isSo_3 8 rfl rfl)
theorem dX6_isSo_79 : decode cX6_isSo 79 = .ok (.goto 4, 3) := dk_167 0 4 (dk_at dksX6_isSo_3 9 rfl rfl)
theorem dX6_isSo_82 : decode cX6_isSo 82 = .ok (.iconst 0, 1) := dk_3 (dk_at dksX6_isSo_3 12 rfl rfl)
theorem dX6_isSo_83 : decode cX6_isSo 83 = .ok (.ireturn, 1) := dk_172 (dk_at dksX6_isSo_3 13 rfl rfl)
def dkwX6_keepsPlace_1 : List UInt8 := [180, 0, 59, 42, 180, 1, 33, 27, 4, 96, 79, 42, 89, 180, 1, 33, 4, 96, 181, 1, 33, 177]
abbrev dktX6_keepsPlace_1 : List UInt8 := dkwX6_keepsPlace_1 ++ []
def dkwX6_keepsPlace_0 : List UInt8 := [42, 180, 0, 53, 42, 180, 1, 33, 27, 4, 96, 79, 42, 180, 0, 56, 42, 180, 1, 33, 2, 79, 42]
abbrev dktX6_keepsPlace_0 : List UInt8 := dkwX6_keepsPlace_0 ++ dktX6_keepsPlace_1
theorem dksX6_keepsPlace_0 : cX6_keepsPlace.data.toList.drop 0 = dktX6_keepsPlace_0 := by decide +kernel
theorem dksX6_keepsPlace_1 : cX6_keepsPlace.data.toList.drop 23 = dktX6_keepsPlace_1 := dk_seg dksX6_keepsPlace_0 23 rfl rfl
theorem dX6_keepsPlace_0 : decode cX6_keepsPlace 0 = .ok (.aload_n 0, 1) := dk_42 (dk_at dksX6_keepsPlace_0 0 rfl rfl)
theorem dX6_keepsPlace_1 : decode cX6_keepsPlace 1 = .ok (.getfield 53, 3) := dk_180 0 53 (dk_at dksX6_keepsPlace_0 1 rfl rfl)
theorem dX6_keepsPlace_4 : decode cX6_keepsPlace 4 = .ok (.aload_n 0, 1) := dk_42 (dk_at dksX6_keepsPlace_0 4 rfl rfl)
theorem dX6_keepsPlace_5 : decode cX6_keepsPlace 5 = .ok (.getfield 289, 3) := dk_180 1 33 (dk_at dksX6_keepsPlace_0 5 rfl rfl)
theorem dX6_keepsPlace_8 : decode cX6_keepsPlace 8 = .ok (.iload_n 1, 1) := dk_27 (dk_at dksX6_keepsPlace_0 8 rfl rfl)
theorem dX6_keepsPlace_9 : decode cX6_keepsPlace 9 = .ok (.iconst 1, 1) := dk_4 (dk_at dksX6_keepsPlace_0 9 rfl rfl)
theorem dX6_keepsPlace_10 : decode cX6_keepsPlace 10 = .ok (.iadd, 1) := dk_96 (dk_at dksX6_keepsPlace_0 10 rfl rfl)
theorem dX6_keepsPlace_11 : decode cX6_keepsPlace 11 = .ok (.iastore, 1) := dk_79 (dk_at dksX6_keepsPlace_0 11 rfl rfl)
theorem dX6_keepsPlace_12 : decode cX6_keepsPlace 12 = .ok (.aload_n 0, 1) := dk_42 (dk_at dksX6_keepsPlace_0 12 rfl rfl)
theorem dX6_keepsPlace_13 : decode cX6_keepsPlace 13 = .ok (.getfield 56, 3) := dk_180 0 56 (dk_at dksX6_keepsPlace_0 13 rfl rfl)
theorem dX6_keepsPlace_16 : decode cX6_keepsPlace 16 = .ok (.aload_n 0, 1) := dk_42 (dk_at dksX6_keepsPlace_0 16 rfl rfl)
theorem dX6_keepsPlace_17 : decode cX6_keepsPlace 17 = .ok (.getfield 289, 3) := dk_180 1 33 (dk_at dksX6_keepsPlace_0 17 rfl rfl)
theorem dX6_keepsPlace_20 : decode cX6_keepsPlace 20 = .ok (.iconst (-1), 1) := dk_2 (dk_at dksX6_keepsPlace_0 20 rfl rfl)
theorem dX6_keepsPlace_21 : decode cX6_keepsPlace 21 = .ok (.iastore, 1) := dk_79 (dk_at dksX6_keepsPlace_0 21 rfl rfl)
theorem dX6_keepsPlace_22 : decode cX6_keepsPlace 22 = .ok (.aload_n 0, 1) := dk_42 (dk_at dksX6_keepsPlace_0 22 rfl rfl)
theorem dX6_keepsPlace_23 : decode cX6_keepsPlace 23 = .ok (.getfield 59, 3) := dk_180 0 59 (dk_at dksX6_keepsPlace_1 0 rfl rfl)
theorem dX6_keepsPlace_26 : decode cX6_keepsPlace 26 = .ok (.aload_n 0, 1) := dk_42 (dk_at dksX6_keepsPlace_1 3 rfl rfl)
theorem dX6_keepsPlace_27 : decode cX6_keepsPlace 27 = .ok (.getfield 289, 3) := dk_180 1 33 (dk_at dksX6_keepsPlace_1 4 rfl rfl)
theorem dX6_keepsPlace_30 : decode cX6_keepsPlace 30 = .ok (.iload_n 1, 1) := dk_27 (dk_at dksX6_keepsPlace_1 7 rfl rfl)
theorem dX6_keepsPlace_31 : decode cX6_keepsPlace 31 = .ok (.iconst 1, 1) := dk_4 (dk_at dksX6_keepsPlace_1 8 rfl rfl)
theorem dX6_keepsPlace_32 : decode cX6_keepsPlace 32 = .ok (.iadd, 1) := dk_96 (dk_at dksX6_keepsPlace_1 9 rfl rfl)
theorem dX6_keepsPlace_33 : decode cX6_keepsPlace 33 = .ok (.iastore, 1) := dk_79 (dk_at dksX6_keepsPlace_1 10 rfl rfl)
theorem dX6_keepsPlace_34 : decode cX6_keepsPlace 34 = .ok (.aload_n 0, 1) := dk_42 (dk_at dksX6_keepsPlace_1 11 rfl rfl)
theorem dX6_keepsPlace_35 : decode cX6_keepsPlace 35 = .ok (.dup, 1) := dk_89 (dk_at dksX6_keepsPlace_1 12 rfl rfl)
theorem dX6_keepsPlace_36 : decode cX6_keepsPlace 36 = .ok (.getfield 289, 3) := dk_180 1 33 (dk_at dksX6_keepsPlace_1 13 rfl rfl)
theorem dX6_keepsPlace_39 : decode cX6_keepsPlace 39 = .ok (.iconst 1, 1) := dk_4 (dk_at dksX6_keepsPlace_1 16 rfl rfl)
theorem dX6_keepsPlace_40 : decode cX6_keepsPlace 40 = .ok (.iadd, 1) := dk_96 (dk_at dksX6_keepsPlace_1 17 rfl rfl)
theorem dX6_keepsPlace_41 : decode cX6_keepsPlace 41 = .ok (.putfield 289, 3) := dk_181 1 33 (dk_at dksX6_keepsPlace_1 18 rfl rfl)
theorem dX6_keepsPlace_44 : decode cX6_keepsPlace 44 = .ok (.return_, 1) := dk_177 (dk_at dksX6_keepsPlace_1 21 rfl rfl)
def dkwX6_step_1 : List UInt8 := [153, 0, 12, 42, 180, 0, 62, 28, 46, 167, 0, 4, 2, 172]
abbrev dktX6_step_1 : List UInt8 := dkwX6_step_1 ++ []
def dkwX6_step_0 : List UInt8 := [42, 3, 181, 0, 3, 42, 27, 4, 182, 1, 96, 28, 3, 42, 180, 1, 57, 4, 100, 184, 0, 116]
abbrev dktX6_step_0 : List UInt8 := dkwX6_step_0 ++ dktX6_step_1
theorem dksX6_step_0 : cX6_step.data.toList.drop 0 = dktX6_step_0 := by decide +kernel
theorem dksX6_step_1 : cX6_step.data.toList.drop 22 = dktX6_step_1 := dk_seg dksX6_step_0 22 rfl rfl
theorem dX6_step_0 : decode cX6_step 0 = .ok (.aload_n 0, 1) := dk_42 (dk_at dksX6_step_0 0 rfl rfl)
theorem dX6_step_1 : decode cX6_step 1 = .ok (.iconst 0, 1) := dk_3 (dk_at dksX6_step_0 1 rfl rfl)
theorem dX6_step_2 : decode cX6_step 2 = .ok (.putfield 3, 3) := dk_181 0 3 (dk_at dksX6_step_0 2 rfl rfl)
theorem dX6_step_5 : decode cX6_step 5 = .ok (.aload_n 0, 1) := dk_42 (dk_at dksX6_step_0 5 rfl rfl)
theorem dX6_step_6 : decode cX6_step 6 = .ok (.iload_n 1, 1) := dk_27 (dk_at dksX6_step_0 6 rfl rfl)
theorem dX6_step_7 : decode cX6_step 7 = .ok (.iconst 1, 1) := dk_4 (dk_at dksX6_step_0 7 rfl rfl)
theorem dX6_step_8 : decode cX6_step 8 = .ok (.invokevirtual 352, 3) := dk_182 1 96 (dk_at dksX6_step_0 8 rfl rfl)
theorem dX6_step_11 : decode cX6_step 11 = .ok (.iload_n 2, 1) := dk_28 (dk_at dksX6_step_0 11 rfl rfl)
theorem dX6_step_12 : decode cX6_step 12 = .ok (.iconst 0, 1) := dk_3 (dk_at dksX6_step_0 12 rfl rfl)
theorem dX6_step_13 : decode cX6_step 13 = .ok (.aload_n 0, 1) := dk_42 (dk_at dksX6_step_0 13 rfl rfl)
theorem dX6_step_14 : decode cX6_step 14 = .ok (.getfield 313, 3) := dk_180 1 57 (dk_at dksX6_step_0 14 rfl rfl)
theorem dX6_step_17 : decode cX6_step 17 = .ok (.iconst 1, 1) := dk_4 (dk_at dksX6_step_0 17 rfl rfl)
theorem dX6_step_18 : decode cX6_step 18 = .ok (.isub, 1) := dk_100 (dk_at dksX6_step_0 18 rfl rfl)
theorem dX6_step_19 : decode cX6_step 19 = .ok (.invokestatic 116, 3) := dk_184 0 116 (dk_at dksX6_step_0 19 rfl rfl)
theorem dX6_step_22 : decode cX6_step 22 = .ok (.ifCond .eq 12, 3) := dk_153 0 12 (dk_at dksX6_step_1 0 rfl rfl)
theorem dX6_step_25 : decode cX6_step 25 = .ok (.aload_n 0, 1) := dk_42 (dk_at dksX6_step_1 3 rfl rfl)
theorem dX6_step_26 : decode cX6_step 26 = .ok (.getfield 62, 3) := dk_180 0 62 (dk_at dksX6_step_1 4 rfl rfl)
theorem dX6_step_29 : decode cX6_step 29 = .ok (.iload_n 2, 1) := dk_28 (dk_at dksX6_step_1 7 rfl rfl)
theorem dX6_step_30 : decode cX6_step 30 = .ok (.iaload, 1) := dk_46 (dk_at dksX6_step_1 8 rfl rfl)
theorem dX6_step_31 : decode cX6_step 31 = .ok (.goto 4, 3) := dk_167 0 4 (dk_at dksX6_step_1 9 rfl rfl)
theorem dX6_step_34 : decode cX6_step 34 = .ok (.iconst (-1), 1) := dk_2 (dk_at dksX6_step_1 12 rfl rfl)
theorem dX6_step_35 : decode cX6_step 35 = .ok (.ireturn, 1) := dk_172 (dk_at dksX6_step_1 13 rfl rfl)
def dkwX6_said_1 : List UInt8 := [153, 0, 12, 42, 180, 0, 65, 28, 46, 167, 0, 6, 19, 1, 100, 172]
abbrev dktX6_said_1 : List UInt8 := dkwX6_said_1 ++ []
def dkwX6_said_0 : List UInt8 := [42, 3, 181, 0, 3, 42, 27, 4, 182, 1, 96, 28, 3, 42, 180, 1, 54, 4, 100, 184, 0, 116]
abbrev dktX6_said_0 : List UInt8 := dkwX6_said_0 ++ dktX6_said_1
theorem dksX6_said_0 : cX6_said.data.toList.drop 0 = dktX6_said_0 := by decide +kernel
theorem dksX6_said_1 : cX6_said.data.toList.drop 22 = dktX6_said_1 := dk_seg dksX6_said_0 22 rfl rfl
theorem dX6_said_0 : decode cX6_said 0 = .ok (.aload_n 0, 1) := dk_42 (dk_at dksX6_said_0 0 rfl rfl)
theorem dX6_said_1 : decode cX6_said 1 = .ok (.iconst 0, 1) := dk_3 (dk_at dksX6_said_0 1 rfl rfl)
theorem dX6_said_2 : decode cX6_said 2 = .ok (.putfield 3, 3) := dk_181 0 3 (dk_at dksX6_said_0 2 rfl rfl)
theorem dX6_said_5 : decode cX6_said 5 = .ok (.aload_n 0, 1) := dk_42 (dk_at dksX6_said_0 5 rfl rfl)
theorem dX6_said_6 : decode cX6_said 6 = .ok (.iload_n 1, 1) := dk_27 (dk_at dksX6_said_0 6 rfl rfl)
theorem dX6_said_7 : decode cX6_said 7 = .ok (.iconst 1, 1) := dk_4 (dk_at dksX6_said_0 7 rfl rfl)
theorem dX6_said_8 : decode cX6_said 8 = .ok (.invokevirtual 352, 3) := dk_182 1 96 (dk_at dksX6_said_0 8 rfl rfl)
theorem dX6_said_11 : decode cX6_said 11 = .ok (.iload_n 2, 1) := dk_28 (dk_at dksX6_said_0 11 rfl rfl)
theorem dX6_said_12 : decode cX6_said 12 = .ok (.iconst 0, 1) := dk_3 (dk_at dksX6_said_0 12 rfl rfl)
theorem dX6_said_13 : decode cX6_said 13 = .ok (.aload_n 0, 1) := dk_42 (dk_at dksX6_said_0 13 rfl rfl)
theorem dX6_said_14 : decode cX6_said 14 = .ok (.getfield 310, 3) := dk_180 1 54 (dk_at dksX6_said_0 14 rfl rfl)
theorem dX6_said_17 : decode cX6_said 17 = .ok (.iconst 1, 1) := dk_4 (dk_at dksX6_said_0 17 rfl rfl)
theorem dX6_said_18 : decode cX6_said 18 = .ok (.isub, 1) := dk_100 (dk_at dksX6_said_0 18 rfl rfl)
theorem dX6_said_19 : decode cX6_said 19 = .ok (.invokestatic 116, 3) := dk_184 0 116 (dk_at dksX6_said_0 19 rfl rfl)
theorem dX6_said_22 : decode cX6_said 22 = .ok (.ifCond .eq 12, 3) := dk_153 0 12 (dk_at dksX6_said_1 0 rfl rfl)
theorem dX6_said_25 : decode cX6_said 25 = .ok (.aload_n 0, 1) := dk_42 (dk_at dksX6_said_1 3 rfl rfl)
theorem dX6_said_26 : decode cX6_said 26 = .ok (.getfield 65, 3) := dk_180 0 65 (dk_at dksX6_said_1 4 rfl rfl)
theorem dX6_said_29 : decode cX6_said 29 = .ok (.iload_n 2, 1) := dk_28 (dk_at dksX6_said_1 7 rfl rfl)
theorem dX6_said_30 : decode cX6_said 30 = .ok (.iaload, 1) := dk_46 (dk_at dksX6_said_1 8 rfl rfl)
theorem dX6_said_31 : decode cX6_said 31 = .ok (.goto 6, 3) := dk_167 0 6 (dk_at dksX6_said_1 9 rfl rfl)
theorem dX6_said_34 : decode cX6_said 34 = .ok (.ldc_w 356, 3) := dk_19 1 100 (dk_at dksX6_said_1 12 rfl rfl)
theorem dX6_said_37 : decode cX6_said 37 = .ok (.ireturn, 1) := dk_172 (dk_at dksX6_said_1 15 rfl rfl)
def dkwX6_cell_1 : List UInt8 := [182, 1, 96, 42, 180, 0, 47, 28, 46, 172]
abbrev dktX6_cell_1 : List UInt8 := dkwX6_cell_1 ++ []
def dkwX6_cell_0 : List UInt8 := [42, 3, 181, 0, 3, 42, 28, 184, 1, 20, 4, 182, 0, 230, 153, 0, 5, 3, 172, 42, 27, 4]
abbrev dktX6_cell_0 : List UInt8 := dkwX6_cell_0 ++ dktX6_cell_1
theorem dksX6_cell_0 : cX6_cell.data.toList.drop 0 = dktX6_cell_0 := by decide +kernel
theorem dksX6_cell_1 : cX6_cell.data.toList.drop 22 = dktX6_cell_1 := dk_seg dksX6_cell_0 22 rfl rfl
theorem dX6_cell_0 : decode cX6_cell 0 = .ok (.aload_n 0, 1) := dk_42 (dk_at dksX6_cell_0 0 rfl rfl)
theorem dX6_cell_1 : decode cX6_cell 1 = .ok (.iconst 0, 1) := dk_3 (dk_at dksX6_cell_0 1 rfl rfl)
theorem dX6_cell_2 : decode cX6_cell 2 = .ok (.putfield 3, 3) := dk_181 0 3 (dk_at dksX6_cell_0 2 rfl rfl)
theorem dX6_cell_5 : decode cX6_cell 5 = .ok (.aload_n 0, 1) := dk_42 (dk_at dksX6_cell_0 5 rfl rfl)
theorem dX6_cell_6 : decode cX6_cell 6 = .ok (.iload_n 2, 1) := dk_28 (dk_at dksX6_cell_0 6 rfl rfl)
theorem dX6_cell_7 : decode cX6_cell 7 = .ok (.invokestatic 276, 3) := dk_184 1 20 (dk_at dksX6_cell_0 7 rfl rfl)
theorem dX6_cell_10 : decode cX6_cell 10 = .ok (.iconst 1, 1) := dk_4 (dk_at dksX6_cell_0 10 rfl rfl)
theorem dX6_cell_11 : decode cX6_cell 11 = .ok (.invokevirtual 230, 3) := dk_182 0 230 (dk_at dksX6_cell_0 11 rfl rfl)
theorem dX6_cell_14 : decode cX6_cell 14 = .ok (.ifCond .eq 5, 3) := dk_153 0 5 (dk_at dksX6_cell_0 14 rfl rfl)
theorem dX6_cell_17 : decode cX6_cell 17 = .ok (.iconst 0, 1) := dk_3 (dk_at dksX6_cell_0 17 rfl rfl)
theorem dX6_cell_18 : decode cX6_cell 18 = .ok (.ireturn, 1) := dk_172 (dk_at dksX6_cell_0 18 rfl rfl)
theorem dX6_cell_19 : decode cX6_cell 19 = .ok (.aload_n 0, 1) := dk_42 (dk_at dksX6_cell_0 19 rfl rfl)
theorem dX6_cell_20 : decode cX6_cell 20 = .ok (.iload_n 1, 1) := dk_27 (dk_at dksX6_cell_0 20 rfl rfl)
theorem dX6_cell_21 : decode cX6_cell 21 = .ok (.iconst 1, 1) := dk_4 (dk_at dksX6_cell_0 21 rfl rfl)
theorem dX6_cell_22 : decode cX6_cell 22 = .ok (.invokevirtual 352, 3) := dk_182 1 96 (dk_at dksX6_cell_1 0 rfl rfl)
theorem dX6_cell_25 : decode cX6_cell 25 = .ok (.aload_n 0, 1) := dk_42 (dk_at dksX6_cell_1 3 rfl rfl)
theorem dX6_cell_26 : decode cX6_cell 26 = .ok (.getfield 47, 3) := dk_180 0 47 (dk_at dksX6_cell_1 4 rfl rfl)
theorem dX6_cell_29 : decode cX6_cell 29 = .ok (.iload_n 2, 1) := dk_28 (dk_at dksX6_cell_1 7 rfl rfl)
theorem dX6_cell_30 : decode cX6_cell 30 = .ok (.iaload, 1) := dk_46 (dk_at dksX6_cell_1 8 rfl rfl)
theorem dX6_cell_31 : decode cX6_cell 31 = .ok (.ireturn, 1) := dk_172 (dk_at dksX6_cell_1 9 rfl rfl)
def dkwX6_power_4 : List UInt8 := [167, 0, 4, 3, 79, 42, 180, 0, 13, 5, 92, 46, 4, 96, 79, 29, 172]
abbrev dktX6_power_4 : List UInt8 := dkwX6_power_4 ++ []
def dkwX6_power_3 : List UInt8 := [104, 96, 27, 79, 42, 180, 0, 13, 17, 1, 136, 5, 29, 104, 96, 4, 96, 28, 153, 0, 7, 4]
abbrev dktX6_power_3 : List UInt8 := dkwX6_power_3 ++ dktX6_power_4
def dkwX6_power_2 : List UInt8 := [182, 0, 230, 153, 0, 5, 3, 172, 42, 180, 0, 13, 5, 46, 62, 42, 180, 0, 13, 17, 1, 136, 5, 29]
abbrev dktX6_power_2 : List UInt8 := dkwX6_power_2 ++ dktX6_power_3
def dkwX6_power_1 : List UInt8 := [182, 0, 230, 154, 0, 27, 42, 42, 180, 0, 13, 5, 46, 16, 6, 160, 0, 7, 4, 167, 0, 4, 3, 5]
abbrev dktX6_power_1 : List UInt8 := dkwX6_power_1 ++ dktX6_power_2
def dkwX6_power_0 : List UInt8 := [42, 3, 181, 0, 3, 42, 27, 3, 19, 1, 101, 184, 0, 116, 154, 0, 7, 4, 167, 0, 4, 3, 4]
abbrev dktX6_power_0 : List UInt8 := dkwX6_power_0 ++ dktX6_power_1
theorem dksX6_power_0 : cX6_power.data.toList.drop 0 = dktX6_power_0 := by decide +kernel
theorem dksX6_power_1 : cX6_power.data.toList.drop 23 = dktX6_power_1 := dk_seg dksX6_power_0 23 rfl rfl
theorem dksX6_power_2 : cX6_power.data.toList.drop 47 = dktX6_power_2 := dk_seg dksX6_power_1 24 rfl rfl
theorem dksX6_power_3 : cX6_power.data.toList.drop 71 = dktX6_power_3 := dk_seg dksX6_power_2 24 rfl rfl
theorem dksX6_power_4 : cX6_power.data.toList.drop 93 = dktX6_power_4 := dk_seg dksX6_power_3 22 rfl rfl
theorem dX6_power_0 : decode cX6_power 0 = .ok (.aload_n 0, 1) := dk_42 (dk_at dksX6_power_0 0 rfl rfl)
theorem dX6_power_1 : decode cX6_power 1 = .ok (.iconst 0, 1) := dk_3 (dk_at dksX6_power_0 1 rfl rfl)
theorem dX6_power_2 : decode cX6_power 2 = .ok (.putfield 3, 3) := dk_181 0 3 (dk_at dksX6_power_0 2 rfl rfl)
theorem dX6_power_5 : decode cX6_power 5 = .ok (.aload_n 0, 1) := dk_42 (dk_at dksX6_power_0 5 rfl rfl)
theorem dX6_power_6 : decode cX6_power 6 = .ok (.iload_n 1, 1) := dk_27 (dk_at dksX6_power_0 6 rfl rfl)
theorem dX6_power_7 : decode cX6_power 7 = .ok (.iconst 0, 1) := dk_3 (dk_at dksX6_power_0 7 rfl rfl)
theorem dX6_power_8 : decode cX6_power 8 = .ok (.ldc_w 357, 3) := dk_19 1 101 (dk_at dksX6_power_0 8 rfl rfl)
theorem dX6_power_11 : decode cX6_power 11 = .ok (.invokestatic 116, 3) := dk_184 0 116 (dk_at dksX6_power_0 11 rfl rfl)
theorem dX6_power_14 : decode cX6_power 14 = .ok (.ifCond .ne 7, 3) := dk_154 0 7 (dk_at dksX6_power_0 14 rfl rfl)
theorem dX6_power_17 : decode cX6_power 17 = .ok (.iconst 1, 1) := dk_4 (dk_at dksX6_power_0 17 rfl rfl)
theorem dX6_power_18 : decode cX6_power 18 = .ok (.goto 4, 3) := dk_167 0 4 (dk_at dksX6_power_0 18 rfl rfl)
theorem dX6_power_21 : decode cX6_power 21 = .ok (.iconst 0, 1) := dk_3 (dk_at dksX6_power_0 21 rfl rfl)
theorem dX6_power_22 : decode cX6_power 22 = .ok (.iconst 1, 1) := dk_4 (dk_at dksX6_power_0 22 rfl rfl)
theorem dX6_power_23 : decode cX6_power 23 = .ok (.invokevirtual 230, 3) := dk_182 0 230 (dk_at dksX6_power_1 0 rfl rfl)
theorem dX6_power_26 : decode cX6_power 26 = .ok (.ifCond .ne 27, 3) := dk_154 0 27 (dk_at dksX6_power_1 3 rfl rfl)
theorem dX6_power_29 : decode cX6_power 29 = .ok (.aload_n 0, 1) := dk_42 (dk_at dksX6_power_1 6 rfl rfl)
theorem dX6_power_30 : decode cX6_power 30 = .ok (.aload_n 0, 1) := dk_42 (dk_at dksX6_power_1 7 rfl rfl)
theorem dX6_power_31 : decode cX6_power 31 = .ok (.getfield 13, 3) := dk_180 0 13 (dk_at dksX6_power_1 8 rfl rfl)
theorem dX6_power_34 : decode cX6_power 34 = .ok (.iconst 2, 1) := dk_5 (dk_at dksX6_power_1 11 rfl rfl)
theorem dX6_power_35 : decode cX6_power 35 = .ok (.iaload, 1) := dk_46 (dk_at dksX6_power_1 12 rfl rfl)
theorem dX6_power_36 : decode cX6_power 36 = .ok (.bipush 6, 2) := dk_16 6 (dk_at dksX6_power_1 13 rfl rfl)
theorem dX6_power_38 : decode cX6_power 38 = .ok (.if_icmp .ne 7, 3) := dk_160 0 7 (dk_at dksX6_power_1 15 rfl rfl)
theorem dX6_power_41 : decode cX6_power 41 = .ok (.iconst 1, 1) := dk_4 (dk_at dksX6_power_1 18 rfl rfl)
theorem dX6_power_42 : decode cX6_power 42 = .ok (.goto 4, 3) := dk_167 0 4 (dk_at dksX6_power_1 19 rfl rfl)
theorem dX6_power_45 : decode cX6_power 45 = .ok (.iconst 0, 1) := dk_3 (dk_at dksX6_power_1 22 rfl rfl)
theorem dX6_power_46 : decode cX6_power 46 = .ok (.iconst 2, 1) := dk_5 (dk_at dksX6_power_1 23 rfl rfl)
theorem dX6_power_47 : decode cX6_power 47 = .ok (.invokevirtual 230, 3) := dk_182 0 230 (dk_at dksX6_power_2 0 rfl rfl)
theorem dX6_power_50 : decode cX6_power 50 = .ok (.ifCond .eq 5, 3) := dk_153 0 5 (dk_at dksX6_power_2 3 rfl rfl)
theorem dX6_power_53 : decode cX6_power 53 = .ok (.iconst 0, 1) := dk_3 (dk_at dksX6_power_2 6 rfl rfl)
theorem dX6_power_54 : decode cX6_power 54 = .ok (.ireturn, 1) := dk_172 (dk_at dksX6_power_2 7 rfl rfl)
theorem dX6_power_55 : decode cX6_power 55 = .ok (.aload_n 0, 1) := dk_42 (dk_at dksX6_power_2 8 rfl rfl)
theorem dX6_power_56 : decode cX6_power 56 = .ok (.getfield 13, 3) := dk_180 0 13 (dk_at dksX6_power_2 9 rfl rfl)
theorem dX6_power_59 : decode cX6_power 59 = .ok (.iconst 2, 1) := dk_5 (dk_at dksX6_power_2 12 rfl rfl)
theorem dX6_power_60 : decode cX6_power 60 = .ok (.iaload, 1) := dk_46 (dk_at dksX6_power_2 13 rfl rfl)
theorem dX6_power_61 : decode cX6_power 61 = .ok (.istore_n 3, 1) := dk_62 (dk_at dksX6_power_2 14 rfl rfl)
theorem dX6_power_62 : decode cX6_power 62 = .ok (.aload_n 0, 1) := dk_42 (dk_at dksX6_power_2 15 rfl rfl)
theorem dX6_power_63 : decode cX6_power 63 = .ok (.getfield 13, 3) := dk_180 0 13 (dk_at dksX6_power_2 16 rfl rfl)
theorem dX6_power_66 : decode cX6_power 66 = .ok (.sipush 392, 3) := dk_17 1 136 (dk_at dksX6_power_2 19 rfl rfl)
theorem dX6_power_69 : decode cX6_power 69 = .ok (.iconst 2, 1) := dk_5 (dk_at dksX6_power_2 22 rfl rfl)
theorem dX6_power_70 : decode cX6_power 70 = .ok (.iload_n 3, 1) := dk_29 (dk_at dksX6_power_2 23 rfl rfl)
theorem dX6_power_71 : decode cX6_power 71 = .ok (.imul, 1) := dk_104 (dk_at dksX6_power_3 0 rfl rfl)
theorem dX6_power_72 : decode cX6_power 72 = .ok (.iadd, 1) := dk_96 (dk_at dksX6_power_3 1 rfl rfl)
theorem dX6_power_73 : decode cX6_power 73 = .ok (.iload_n 1, 1) := dk_27 (dk_at dksX6_power_3 2 rfl rfl)
theorem dX6_power_74 : decode cX6_power 74 = .ok (.iastore, 1) := dk_79 (dk_at dksX6_power_3 3 rfl rfl)
theorem dX6_power_75 : decode cX6_power 75 = .ok (.aload_n 0, 1) := dk_42 (dk_at dksX6_power_3 4 rfl rfl)
theorem dX6_power_76 : decode cX6_power 76 = .ok (.getfield 13, 3) := dk_180 0 13 (dk_at dksX6_power_3 5 rfl rfl)
theorem dX6_power_79 : decode cX6_power 79 = .ok (.sipush 392, 3) := dk_17 1 136 (dk_at dksX6_power_3 8 rfl rfl)
theorem dX6_power_82 : decode cX6_power 82 = .ok (.iconst 2, 1) := dk_5 (dk_at dksX6_power_3 11 rfl rfl)
theorem dX6_power_83 : decode cX6_power 83 = .ok (.iload_n 3, 1) := dk_29 (dk_at dksX6_power_3 12 rfl rfl)
theorem dX6_power_84 : decode cX6_power 84 = .ok (.imul, 1) := dk_104 (dk_at dksX6_power_3 13 rfl rfl)
theorem dX6_power_85 : decode cX6_power 85 = .ok (.iadd, 1) := dk_96 (dk_at dksX6_power_3 14 rfl rfl)
theorem dX6_power_86 : decode cX6_power 86 = .ok (.iconst 1, 1) := dk_4 (dk_at dksX6_power_3 15 rfl rfl)
theorem dX6_power_87 : decode cX6_power 87 = .ok (.iadd, 1) := dk_96 (dk_at dksX6_power_3 16 rfl rfl)
theorem dX6_power_88 : decode cX6_power 88 = .ok (.iload_n 2, 1) := dk_28 (dk_at dksX6_power_3 17 rfl rfl)
theorem dX6_power_89 : decode cX6_power 89 = .ok (.ifCond .eq 7, 3) := dk_153 0 7 (dk_at dksX6_power_3 18 rfl rfl)
theorem dX6_power_92 : decode cX6_power 92 = .ok (.iconst 1, 1) := dk_4 (dk_at dksX6_power_3 21 rfl rfl)
theorem dX6_power_93 : decode cX6_power 93 = .ok (.goto 4, 3) := dk_167 0 4 (dk_at dksX6_power_4 0 rfl rfl)
theorem dX6_power_96 : decode cX6_power 96 = .ok (.iconst 0, 1) := dk_3 (dk_at dksX6_power_4 3 rfl rfl)
theorem dX6_power_97 : decode cX6_power 97 = .ok (.iastore, 1) := dk_79 (dk_at dksX6_power_4 4 rfl rfl)
theorem dX6_power_98 : decode cX6_power 98 = .ok (.aload_n 0, 1) := dk_42 (dk_at dksX6_power_4 5 rfl rfl)
theorem dX6_power_99 : decode cX6_power 99 = .ok (.getfield 13, 3) := dk_180 0 13 (dk_at dksX6_power_4 6 rfl rfl)
theorem dX6_power_102 : decode cX6_power 102 = .ok (.iconst 2, 1) := dk_5 (dk_at dksX6_power_4 9 rfl rfl)
theorem dX6_power_103 : decode cX6_power 103 = .ok (.dup2, 1) := dk_92 (dk_at dksX6_power_4 10 rfl rfl)
theorem dX6_power_104 : decode cX6_power 104 = .ok (.iaload, 1) := dk_46 (dk_at dksX6_power_4 11 rfl rfl)
theorem dX6_power_105 : decode cX6_power 105 = .ok (.iconst 1, 1) := dk_4 (dk_at dksX6_power_4 12 rfl rfl)
theorem dX6_power_106 : decode cX6_power 106 = .ok (.iadd, 1) := dk_96 (dk_at dksX6_power_4 13 rfl rfl)
theorem dX6_power_107 : decode cX6_power 107 = .ok (.iastore, 1) := dk_79 (dk_at dksX6_power_4 14 rfl rfl)
theorem dX6_power_108 : decode cX6_power 108 = .ok (.iload_n 3, 1) := dk_29 (dk_at dksX6_power_4 15 rfl rfl)
theorem dX6_power_109 : decode cX6_power 109 = .ok (.ireturn, 1) := dk_172 (dk_at dksX6_power_4 16 rfl rfl)
def dkwX6_harm_3 : List UInt8 := [42, 180, 0, 13, 6, 92, 46, 4, 96, 79, 42, 180, 0, 13, 6, 46, 4, 100, 172]
abbrev dktX6_harm_3 : List UInt8 := dkwX6_harm_3 ++ []
def dkwX6_harm_2 : List UInt8 := [182, 0, 230, 153, 0, 5, 3, 172, 42, 180, 0, 13, 17, 1, 148, 42, 180, 0, 13, 6, 46, 96, 27, 79]
abbrev dktX6_harm_2 : List UInt8 := dkwX6_harm_2 ++ dktX6_harm_3
def dkwX6_harm_1 : List UInt8 := [182, 0, 230, 154, 0, 27, 42, 42, 180, 0, 13, 6, 46, 16, 8, 160, 0, 7, 4, 167, 0, 4, 3, 5]
abbrev dktX6_harm_1 : List UInt8 := dkwX6_harm_1 ++ dktX6_harm_2
def dkwX6_harm_0 : List UInt8 := [42, 3, 181, 0, 3, 42, 27, 3, 17, 3, 231, 184, 0, 116, 154, 0, 7, 4, 167, 0, 4, 3, 4]
abbrev dktX6_harm_0 : List UInt8 := dkwX6_harm_0 ++ dktX6_harm_1
theorem dksX6_harm_0 : cX6_harm.data.toList.drop 0 = dktX6_harm_0 := by decide +kernel
theorem dksX6_harm_1 : cX6_harm.data.toList.drop 23 = dktX6_harm_1 := dk_seg dksX6_harm_0 23 rfl rfl
theorem dksX6_harm_2 : cX6_harm.data.toList.drop 47 = dktX6_harm_2 := dk_seg dksX6_harm_1 24 rfl rfl
theorem dksX6_harm_3 : cX6_harm.data.toList.drop 71 = dktX6_harm_3 := dk_seg dksX6_harm_2 24 rfl rfl
theorem dX6_harm_0 : decode cX6_harm 0 = .ok (.aload_n 0, 1) := dk_42 (dk_at dksX6_harm_0 0 rfl rfl)
theorem dX6_harm_1 : decode cX6_harm 1 = .ok (.iconst 0, 1) := dk_3 (dk_at dksX6_harm_0 1 rfl rfl)
theorem dX6_harm_2 : decode cX6_harm 2 = .ok (.putfield 3, 3) := dk_181 0 3 (dk_at dksX6_harm_0 2 rfl rfl)
theorem dX6_harm_5 : decode cX6_harm 5 = .ok (.aload_n 0, 1) := dk_42 (dk_at dksX6_harm_0 5 rfl rfl)
theorem dX6_harm_6 : decode cX6_harm 6 = .ok (.iload_n 1, 1) := dk_27 (dk_at dksX6_harm_0 6 rfl rfl)
theorem dX6_harm_7 : decode cX6_harm 7 = .ok (.iconst 0, 1) := dk_3 (dk_at dksX6_harm_0 7 rfl rfl)
theorem dX6_harm_8 : decode cX6_harm 8 = .ok (.sipush 999, 3) := dk_17 3 231 (dk_at dksX6_harm_0 8 rfl rfl)
theorem dX6_harm_11 : decode cX6_harm 11 = .ok (.invokestatic 116, 3) := dk_184 0 116 (dk_at dksX6_harm_0 11 rfl rfl)
theorem dX6_harm_14 : decode cX6_harm 14 = .ok (.ifCond .ne 7, 3) := dk_154 0 7 (dk_at dksX6_harm_0 14 rfl rfl)
theorem dX6_harm_17 : decode cX6_harm 17 = .ok (.iconst 1, 1) := dk_4 (dk_at dksX6_harm_0 17 rfl rfl)
theorem dX6_harm_18 : decode cX6_harm 18 = .ok (.goto 4, 3) := dk_167 0 4 (dk_at dksX6_harm_0 18 rfl rfl)
theorem dX6_harm_21 : decode cX6_harm 21 = .ok (.iconst 0, 1) := dk_3 (dk_at dksX6_harm_0 21 rfl rfl)
theorem dX6_harm_22 : decode cX6_harm 22 = .ok (.iconst 1, 1) := dk_4 (dk_at dksX6_harm_0 22 rfl rfl)
theorem dX6_harm_23 : decode cX6_harm 23 = .ok (.invokevirtual 230, 3) := dk_182 0 230 (dk_at dksX6_harm_1 0 rfl rfl)
theorem dX6_harm_26 : decode cX6_harm 26 = .ok (.ifCond .ne 27, 3) := dk_154 0 27 (dk_at dksX6_harm_1 3 rfl rfl)
theorem dX6_harm_29 : decode cX6_harm 29 = .ok (.aload_n 0, 1) := dk_42 (dk_at dksX6_harm_1 6 rfl rfl)
theorem dX6_harm_30 : decode cX6_harm 30 = .ok (.aload_n 0, 1) := dk_42 (dk_at dksX6_harm_1 7 rfl rfl)
theorem dX6_harm_31 : decode cX6_harm 31 = .ok (.getfield 13, 3) := dk_180 0 13 (dk_at dksX6_harm_1 8 rfl rfl)
theorem dX6_harm_34 : decode cX6_harm 34 = .ok (.iconst 3, 1) := dk_6 (dk_at dksX6_harm_1 11 rfl rfl)
theorem dX6_harm_35 : decode cX6_harm 35 = .ok (.iaload, 1) := dk_46 (dk_at dksX6_harm_1 12 rfl rfl)
theorem dX6_harm_36 : decode cX6_harm 36 = .ok (.bipush 8, 2) := dk_16 8 (dk_at dksX6_harm_1 13 rfl rfl)
theorem dX6_harm_38 : decode cX6_harm 38 = .ok (.if_icmp .ne 7, 3) := dk_160 0 7 (dk_at dksX6_harm_1 15 rfl rfl)
theorem dX6_harm_41 : decode cX6_harm 41 = .ok (.iconst 1, 1) := dk_4 (dk_at dksX6_harm_1 18 rfl rfl)
theorem dX6_harm_42 : decode cX6_harm 42 = .ok (.goto 4, 3) := dk_167 0 4 (dk_at dksX6_harm_1 19 rfl rfl)
theorem dX6_harm_45 : decode cX6_harm 45 = .ok (.iconst 0, 1) := dk_3 (dk_at dksX6_harm_1 22 rfl rfl)
theorem dX6_harm_46 : decode cX6_harm 46 = .ok (.iconst 2, 1) := dk_5 (dk_at dksX6_harm_1 23 rfl rfl)
theorem dX6_harm_47 : decode cX6_harm 47 = .ok (.invokevirtual 230, 3) := dk_182 0 230 (dk_at dksX6_harm_2 0 rfl rfl)
theorem dX6_harm_50 : decode cX6_harm 50 = .ok (.ifCond .eq 5, 3) := dk_153 0 5 (dk_at dksX6_harm_2 3 rfl rfl)
theorem dX6_harm_53 : decode cX6_harm 53 = .ok (.iconst 0, 1) := dk_3 (dk_at dksX6_harm_2 6 rfl rfl)
theorem dX6_harm_54 : decode cX6_harm 54 = .ok (.ireturn, 1) := dk_172 (dk_at dksX6_harm_2 7 rfl rfl)
theorem dX6_harm_55 : decode cX6_harm 55 = .ok (.aload_n 0, 1) := dk_42 (dk_at dksX6_harm_2 8 rfl rfl)
theorem dX6_harm_56 : decode cX6_harm 56 = .ok (.getfield 13, 3) := dk_180 0 13 (dk_at dksX6_harm_2 9 rfl rfl)
theorem dX6_harm_59 : decode cX6_harm 59 = .ok (.sipush 404, 3) := dk_17 1 148 (dk_at dksX6_harm_2 12 rfl rfl)
theorem dX6_harm_62 : decode cX6_harm 62 = .ok (.aload_n 0, 1) := dk_42 (dk_at dksX6_harm_2 15 rfl rfl)
theorem dX6_harm_63 : decode cX6_harm 63 = .ok (.getfield 13, 3) := dk_180 0 13 (dk_at dksX6_harm_2 16 rfl rfl)
theorem dX6_harm_66 : decode cX6_harm 66 = .ok (.iconst 3, 1) := dk_6 (dk_at dksX6_harm_2 19 rfl rfl)
theorem dX6_harm_67 : decode cX6_harm 67 = .ok (.iaload, 1) := dk_46 (dk_at dksX6_harm_2 20 rfl rfl)
theorem dX6_harm_68 : decode cX6_harm 68 = .ok (.iadd, 1) := dk_96 (dk_at dksX6_harm_2 21 rfl rfl)
theorem dX6_harm_69 : decode cX6_harm 69 = .ok (.iload_n 1, 1) := dk_27 (dk_at dksX6_harm_2 22 rfl rfl)
theorem dX6_harm_70 : decode cX6_harm 70 = .ok (.iastore, 1) := dk_79 (dk_at dksX6_harm_2 23 rfl rfl)
theorem dX6_harm_71 : decode cX6_harm 71 = .ok (.aload_n 0, 1) := dk_42 (dk_at dksX6_harm_3 0 rfl rfl)
theorem dX6_harm_72 : decode cX6_harm 72 = .ok (.getfield 13, 3) := dk_180 0 13 (dk_at dksX6_harm_3 1 rfl rfl)
theorem dX6_harm_75 : decode cX6_harm 75 = .ok (.iconst 3, 1) := dk_6 (dk_at dksX6_harm_3 4 rfl rfl)
theorem dX6_harm_76 : decode cX6_harm 76 = .ok (.dup2, 1) := dk_92 (dk_at dksX6_harm_3 5 rfl rfl)
theorem dX6_harm_77 : decode cX6_harm 77 = .ok (.iaload, 1) := dk_46 (dk_at dksX6_harm_3 6 rfl rfl)
theorem dX6_harm_78 : decode cX6_harm 78 = .ok (.iconst 1, 1) := dk_4 (dk_at dksX6_harm_3 7 rfl rfl)
theorem dX6_harm_79 : decode cX6_harm 79 = .ok (.iadd, 1) := dk_96 (dk_at dksX6_harm_3 8 rfl rfl)
theorem dX6_harm_80 : decode cX6_harm 80 = .ok (.iastore, 1) := dk_79 (dk_at dksX6_harm_3 9 rfl rfl)
theorem dX6_harm_81 : decode cX6_harm 81 = .ok (.aload_n 0, 1) := dk_42 (dk_at dksX6_harm_3 10 rfl rfl)
theorem dX6_harm_82 : decode cX6_harm 82 = .ok (.getfield 13, 3) := dk_180 0 13 (dk_at dksX6_harm_3 11 rfl rfl)
theorem dX6_harm_85 : decode cX6_harm 85 = .ok (.iconst 3, 1) := dk_6 (dk_at dksX6_harm_3 14 rfl rfl)
theorem dX6_harm_86 : decode cX6_harm 86 = .ok (.iaload, 1) := dk_46 (dk_at dksX6_harm_3 15 rfl rfl)
theorem dX6_harm_87 : decode cX6_harm 87 = .ok (.iconst 1, 1) := dk_4 (dk_at dksX6_harm_3 16 rfl rfl)
theorem dX6_harm_88 : decode cX6_harm 88 = .ok (.isub, 1) := dk_100 (dk_at dksX6_harm_3 17 rfl rfl)
theorem dX6_harm_89 : decode cX6_harm 89 = .ok (.ireturn, 1) := dk_172 (dk_at dksX6_harm_3 18 rfl rfl)
def dkwX6_closed_1 : List UInt8 := [42, 182, 1, 114, 42, 27, 182, 1, 117, 42, 182, 1, 120, 173]
abbrev dktX6_closed_1 : List UInt8 := dkwX6_closed_1 ++ []
def dkwX6_closed_0 : List UInt8 := [42, 3, 181, 0, 3, 42, 42, 27, 182, 1, 111, 4, 182, 0, 230, 153, 0, 5, 9, 173, 42, 182, 1, 13]
abbrev dktX6_closed_0 : List UInt8 := dkwX6_closed_0 ++ dktX6_closed_1
theorem dksX6_closed_0 : cX6_closed.data.toList.drop 0 = dktX6_closed_0 := by decide +kernel
theorem dksX6_closed_1 : cX6_closed.data.toList.drop 24 = dktX6_closed_1 := dk_seg dksX6_closed_0 24 rfl rfl
theorem dX6_closed_0 : decode cX6_closed 0 = .ok (.aload_n 0, 1) := dk_42 (dk_at dksX6_closed_0 0 rfl rfl)
theorem dX6_closed_1 : decode cX6_closed 1 = .ok (.iconst 0, 1) := dk_3 (dk_at dksX6_closed_0 1 rfl rfl)
theorem dX6_closed_2 : decode cX6_closed 2 = .ok (.putfield 3, 3) := dk_181 0 3 (dk_at dksX6_closed_0 2 rfl rfl)
theorem dX6_closed_5 : decode cX6_closed 5 = .ok (.aload_n 0, 1) := dk_42 (dk_at dksX6_closed_0 5 rfl rfl)
theorem dX6_closed_6 : decode cX6_closed 6 = .ok (.aload_n 0, 1) := dk_42 (dk_at dksX6_closed_0 6 rfl rfl)
theorem dX6_closed_7 : decode cX6_closed 7 = .ok (.iload_n 1, 1) := dk_27 (dk_at dksX6_closed_0 7 rfl rfl)
theorem dX6_closed_8 : decode cX6_closed 8 = .ok (.invokevirtual 367, 3) := dk_182 1 111 (dk_at dksX6_closed_0 8 rfl rfl)
theorem dX6_closed_11 : decode cX6_closed 11 = .ok (.iconst 1, 1) := dk_4 (dk_at dksX6_closed_0 11 rfl rfl)
theorem dX6_closed_12 : decode cX6_closed 12 = .ok (.invokevirtual 230, 3) := dk_182 0 230 (dk_at dksX6_closed_0 12 rfl rfl)
theorem dX6_closed_15 : decode cX6_closed 15 = .ok (.ifCond .eq 5, 3) := dk_153 0 5 (dk_at dksX6_closed_0 15 rfl rfl)
theorem dX6_closed_18 : decode cX6_closed 18 = .ok (.lconst 0, 1) := dk_9 (dk_at dksX6_closed_0 18 rfl rfl)
theorem dX6_closed_19 : decode cX6_closed 19 = .ok (.lreturn, 1) := dk_173 (dk_at dksX6_closed_0 19 rfl rfl)
theorem dX6_closed_20 : decode cX6_closed 20 = .ok (.aload_n 0, 1) := dk_42 (dk_at dksX6_closed_0 20 rfl rfl)
theorem dX6_closed_21 : decode cX6_closed 21 = .ok (.invokevirtual 269, 3) := dk_182 1 13 (dk_at dksX6_closed_0 21 rfl rfl)
theorem dX6_closed_24 : decode cX6_closed 24 = .ok (.aload_n 0, 1) := dk_42 (dk_at dksX6_closed_1 0 rfl rfl)
theorem dX6_closed_25 : decode cX6_closed 25 = .ok (.invokevirtual 370, 3) := dk_182 1 114 (dk_at dksX6_closed_1 1 rfl rfl)
theorem dX6_closed_28 : decode cX6_closed 28 = .ok (.aload_n 0, 1) := dk_42 (dk_at dksX6_closed_1 4 rfl rfl)
theorem dX6_closed_29 : decode cX6_closed 29 = .ok (.iload_n 1, 1) := dk_27 (dk_at dksX6_closed_1 5 rfl rfl)
theorem dX6_closed_30 : decode cX6_closed 30 = .ok (.invokevirtual 373, 3) := dk_182 1 117 (dk_at dksX6_closed_1 6 rfl rfl)
theorem dX6_closed_33 : decode cX6_closed 33 = .ok (.aload_n 0, 1) := dk_42 (dk_at dksX6_closed_1 9 rfl rfl)
theorem dX6_closed_34 : decode cX6_closed 34 = .ok (.invokevirtual 376, 3) := dk_182 1 120 (dk_at dksX6_closed_1 10 rfl rfl)
theorem dX6_closed_37 : decode cX6_closed 37 = .ok (.lreturn, 1) := dk_173 (dk_at dksX6_closed_1 13 rfl rfl)
def dkwX6_noPower_0 : List UInt8 := [27, 3, 42, 180, 0, 13, 5, 46, 4, 100, 184, 0, 116, 154, 0, 7, 4, 167, 0, 4, 3, 172]
abbrev dktX6_noPower_0 : List UInt8 := dkwX6_noPower_0 ++ []
theorem dksX6_noPower_0 : cX6_noPower.data.toList.drop 0 = dktX6_noPower_0 := by decide +kernel
theorem dX6_noPower_0 : decode cX6_noPower 0 = .ok (.iload_n 1, 1) := dk_27 (dk_at dksX6_noPower_0 0 rfl rfl)
theorem dX6_noPower_1 : decode cX6_noPower 1 = .ok (.iconst 0, 1) := dk_3 (dk_at dksX6_noPower_0 1 rfl rfl)
theorem dX6_noPower_2 : decode cX6_noPower 2 = .ok (.aload_n 0, 1) := dk_42 (dk_at dksX6_noPower_0 2 rfl rfl)
theorem dX6_noPower_3 : decode cX6_noPower 3 = .ok (.getfield 13, 3) := dk_180 0 13 (dk_at dksX6_noPower_0 3 rfl rfl)
theorem dX6_noPower_6 : decode cX6_noPower 6 = .ok (.iconst 2, 1) := dk_5 (dk_at dksX6_noPower_0 6 rfl rfl)
theorem dX6_noPower_7 : decode cX6_noPower 7 = .ok (.iaload, 1) := dk_46 (dk_at dksX6_noPower_0 7 rfl rfl)
theorem dX6_noPower_8 : decode cX6_noPower 8 = .ok (.iconst 1, 1) := dk_4 (dk_at dksX6_noPower_0 8 rfl rfl)
theorem dX6_noPower_9 : decode cX6_noPower 9 = .ok (.isub, 1) := dk_100 (dk_at dksX6_noPower_0 9 rfl rfl)
theorem dX6_noPower_10 : decode cX6_noPower 10 = .ok (.invokestatic 116, 3) := dk_184 0 116 (dk_at dksX6_noPower_0 10 rfl rfl)
theorem dX6_noPower_13 : decode cX6_noPower 13 = .ok (.ifCond .ne 7, 3) := dk_154 0 7 (dk_at dksX6_noPower_0 13 rfl rfl)
theorem dX6_noPower_16 : decode cX6_noPower 16 = .ok (.iconst 1, 1) := dk_4 (dk_at dksX6_noPower_0 16 rfl rfl)
theorem dX6_noPower_17 : decode cX6_noPower 17 = .ok (.goto 4, 3) := dk_167 0 4 (dk_at dksX6_noPower_0 17 rfl rfl)
theorem dX6_noPower_20 : decode cX6_noPower 20 = .ok (.iconst 0, 1) := dk_3 (dk_at dksX6_noPower_0 20 rfl rfl)
theorem dX6_noPower_21 : decode cX6_noPower 21 = .ok (.ireturn, 1) := dk_172 (dk_at dksX6_noPower_0 21 rfl rfl)
def dkwX6_gradesNow_1 : List UInt8 := [132, 1, 1, 167, 255, 233, 177]
abbrev dktX6_gradesNow_1 : List UInt8 := dkwX6_gradesNow_1 ++ []
def dkwX6_gradesNow_0 : List UInt8 := [3, 60, 27, 42, 182, 0, 112, 162, 0, 21, 42, 180, 0, 71, 27, 42, 27, 5, 182, 0, 108, 79]
abbrev dktX6_gradesNow_0 : List UInt8 := dkwX6_gradesNow_0 ++ dktX6_gradesNow_1
theorem dksX6_gradesNow_0 : cX6_gradesNow.data.toList.drop 0 = dktX6_gradesNow_0 := by decide +kernel
theorem dksX6_gradesNow_1 : cX6_gradesNow.data.toList.drop 22 = dktX6_gradesNow_1 := dk_seg dksX6_gradesNow_0 22 rfl rfl
theorem dX6_gradesNow_0 : decode cX6_gradesNow 0 = .ok (.iconst 0, 1) := dk_3 (dk_at dksX6_gradesNow_0 0 rfl rfl)
theorem dX6_gradesNow_1 : decode cX6_gradesNow 1 = .ok (.istore_n 1, 1) := dk_60 (dk_at dksX6_gradesNow_0 1 rfl rfl)
theorem dX6_gradesNow_2 : decode cX6_gradesNow 2 = .ok (.iload_n 1, 1) := dk_27 (dk_at dksX6_gradesNow_0 2 rfl rfl)
theorem dX6_gradesNow_3 : decode cX6_gradesNow 3 = .ok (.aload_n 0, 1) := dk_42 (dk_at dksX6_gradesNow_0 3 rfl rfl)
theorem dX6_gradesNow_4 : decode cX6_gradesNow 4 = .ok (.invokevirtual 112, 3) := dk_182 0 112 (dk_at dksX6_gradesNow_0 4 rfl rfl)
theorem dX6_gradesNow_7 : decode cX6_gradesNow 7 = .ok (.if_icmp .ge 21, 3) := dk_162 0 21 (dk_at dksX6_gradesNow_0 7 rfl rfl)
theorem dX6_gradesNow_10 : decode cX6_gradesNow 10 = .ok (.aload_n 0, 1) := dk_42 (dk_at dksX6_gradesNow_0 10 rfl rfl)
theorem dX6_gradesNow_11 : decode cX6_gradesNow 11 = .ok (.getfield 71, 3) := dk_180 0 71 (dk_at dksX6_gradesNow_0 11 rfl rfl)
theorem dX6_gradesNow_14 : decode cX6_gradesNow 14 = .ok (.iload_n 1, 1) := dk_27 (dk_at dksX6_gradesNow_0 14 rfl rfl)
theorem dX6_gradesNow_15 : decode cX6_gradesNow 15 = .ok (.aload_n 0, 1) := dk_42 (dk_at dksX6_gradesNow_0 15 rfl rfl)
theorem dX6_gradesNow_16 : decode cX6_gradesNow 16 = .ok (.iload_n 1, 1) := dk_27 (dk_at dksX6_gradesNow_0 16 rfl rfl)
theorem dX6_gradesNow_17 : decode cX6_gradesNow 17 = .ok (.iconst 2, 1) := dk_5 (dk_at dksX6_gradesNow_0 17 rfl rfl)
theorem dX6_gradesNow_18 : decode cX6_gradesNow 18 = .ok (.invokevirtual 108, 3) := dk_182 0 108 (dk_at dksX6_gradesNow_0 18 rfl rfl)
theorem dX6_gradesNow_21 : decode cX6_gradesNow 21 = .ok (.iastore, 1) := dk_79 (dk_at dksX6_gradesNow_0 21 rfl rfl)
theorem dX6_gradesNow_22 : decode cX6_gradesNow 22 = .ok (.iinc 1 1, 3) := dk_132 1 1 (dk_at dksX6_gradesNow_1 0 rfl rfl)
theorem dX6_gradesNow_25 : decode cX6_gradesNow 25 = .ok (.goto (-23), 3) := dk_167 255 233 (dk_at dksX6_gradesNow_1 3 rfl rfl)
theorem dX6_gradesNow_28 : decode cX6_gradesNow 28 = .ok (.return_, 1) := dk_177 (dk_at dksX6_gradesNow_1 6 rfl rfl)
def dkwX6_ways_1 : List UInt8 := [182, 1, 1, 127, 80, 132, 2, 1, 167, 255, 228, 177]
abbrev dktX6_ways_1 : List UInt8 := dkwX6_ways_1 ++ []
def dkwX6_ways_0 : List UInt8 := [3, 61, 28, 42, 182, 0, 112, 162, 0, 26, 42, 180, 0, 74, 28, 42, 28, 27, 182, 1, 108, 42]
abbrev dktX6_ways_0 : List UInt8 := dkwX6_ways_0 ++ dktX6_ways_1
theorem dksX6_ways_0 : cX6_ways.data.toList.drop 0 = dktX6_ways_0 := by decide +kernel
theorem dksX6_ways_1 : cX6_ways.data.toList.drop 22 = dktX6_ways_1 := dk_seg dksX6_ways_0 22 rfl rfl
theorem dX6_ways_0 : decode cX6_ways 0 = .ok (.iconst 0, 1) := dk_3 (dk_at dksX6_ways_0 0 rfl rfl)
theorem dX6_ways_1 : decode cX6_ways 1 = .ok (.istore_n 2, 1) := dk_61 (dk_at dksX6_ways_0 1 rfl rfl)
theorem dX6_ways_2 : decode cX6_ways 2 = .ok (.iload_n 2, 1) := dk_28 (dk_at dksX6_ways_0 2 rfl rfl)
theorem dX6_ways_3 : decode cX6_ways 3 = .ok (.aload_n 0, 1) := dk_42 (dk_at dksX6_ways_0 3 rfl rfl)
theorem dX6_ways_4 : decode cX6_ways 4 = .ok (.invokevirtual 112, 3) := dk_182 0 112 (dk_at dksX6_ways_0 4 rfl rfl)
theorem dX6_ways_7 : decode cX6_ways 7 = .ok (.if_icmp .ge 26, 3) := dk_162 0 26 (dk_at dksX6_ways_0 7 rfl rfl)
theorem dX6_ways_10 : decode cX6_ways 10 = .ok (.aload_n 0, 1) := dk_42 (dk_at dksX6_ways_0 10 rfl rfl)
theorem dX6_ways_11 : decode cX6_ways 11 = .ok (.getfield 74, 3) := dk_180 0 74 (dk_at dksX6_ways_0 11 rfl rfl)
theorem dX6_ways_14 : decode cX6_ways 14 = .ok (.iload_n 2, 1) := dk_28 (dk_at dksX6_ways_0 14 rfl rfl)
theorem dX6_ways_15 : decode cX6_ways 15 = .ok (.aload_n 0, 1) := dk_42 (dk_at dksX6_ways_0 15 rfl rfl)
theorem dX6_ways_16 : decode cX6_ways 16 = .ok (.iload_n 2, 1) := dk_28 (dk_at dksX6_ways_0 16 rfl rfl)
theorem dX6_ways_17 : decode cX6_ways 17 = .ok (.iload_n 1, 1) := dk_27 (dk_at dksX6_ways_0 17 rfl rfl)
theorem dX6_ways_18 : decode cX6_ways 18 = .ok (.invokevirtual 364, 3) := dk_182 1 108 (dk_at dksX6_ways_0 18 rfl rfl)
theorem dX6_ways_21 : decode cX6_ways 21 = .ok (.aload_n 0, 1) := dk_42 (dk_at dksX6_ways_0 21 rfl rfl)
theorem dX6_ways_22 : decode cX6_ways 22 = .ok (.invokevirtual 257, 3) := dk_182 1 1 (dk_at dksX6_ways_1 0 rfl rfl)
theorem dX6_ways_25 : decode cX6_ways 25 = .ok (.land, 1) := dk_127 (dk_at dksX6_ways_1 3 rfl rfl)
theorem dX6_ways_26 : decode cX6_ways 26 = .ok (.lastore, 1) := dk_80 (dk_at dksX6_ways_1 4 rfl rfl)
theorem dX6_ways_27 : decode cX6_ways 27 = .ok (.iinc 2 1, 3) := dk_132 2 1 (dk_at dksX6_ways_1 5 rfl rfl)
theorem dX6_ways_30 : decode cX6_ways 30 = .ok (.goto (-28), 3) := dk_167 255 228 (dk_at dksX6_ways_1 8 rfl rfl)
theorem dX6_ways_33 : decode cX6_ways 33 = .ok (.return_, 1) := dk_177 (dk_at dksX6_ways_1 11 rfl rfl)
def dkwX6_mayFrom_9 : List UInt8 := [153, 0, 8, 22, 8, 167, 0, 13, 42, 180, 0, 33, 21, 10, 47, 22, 8, 127, 173]
abbrev dktX6_mayFrom_9 : List UInt8 := dkwX6_mayFrom_9 ++ []
def dkwX6_mayFrom_8 : List UInt8 := [27, 8, 182, 0, 108, 54, 10, 42, 28, 21, 10, 182, 1, 102, 154, 0, 13, 42, 180, 0, 37, 21, 10, 51]
abbrev dktX6_mayFrom_8 : List UInt8 := dkwX6_mayFrom_8 ++ dktX6_mayFrom_9
def dkwX6_mayFrom_7 : List UInt8 := [42, 180, 0, 71, 27, 46, 6, 162, 0, 8, 22, 8, 167, 0, 10, 42, 182, 0, 250, 22, 8, 127, 173, 42]
abbrev dktX6_mayFrom_7 : List UInt8 := dkwX6_mayFrom_7 ++ dktX6_mayFrom_8
def dkwX6_mayFrom_6 : List UInt8 := [180, 0, 71, 27, 46, 182, 1, 16, 55, 8, 29, 16, 7, 160, 0, 34, 42, 28, 182, 1, 105, 153, 0, 18]
abbrev dktX6_mayFrom_6 : List UInt8 := dkwX6_mayFrom_6 ++ dktX6_mayFrom_7
def dkwX6_mayFrom_5 : List UInt8 := [22, 6, 167, 0, 5, 22, 4, 173, 42, 27, 182, 0, 237, 154, 0, 6, 22, 4, 173, 42, 27, 42]
abbrev dktX6_mayFrom_5 : List UInt8 := dkwX6_mayFrom_5 ++ dktX6_mayFrom_6
def dkwX6_mayFrom_4 : List UInt8 := [54, 8, 21, 8, 154, 0, 11, 22, 4, 22, 6, 129, 167, 0, 18, 42, 27, 182, 1, 47, 153, 0, 8]
abbrev dktX6_mayFrom_4 : List UInt8 := dkwX6_mayFrom_4 ++ dktX6_mayFrom_5
def dkwX6_mayFrom_3 : List UInt8 := [17, 3, 232, 162, 0, 20, 42, 27, 16, 7, 182, 0, 108, 17, 3, 232, 162, 0, 7, 4, 167, 0, 4, 3]
abbrev dktX6_mayFrom_3 : List UInt8 := dkwX6_mayFrom_3 ++ dktX6_mayFrom_4
def dkwX6_mayFrom_2 : List UInt8 := [159, 0, 8, 29, 8, 160, 0, 6, 22, 6, 173, 29, 6, 160, 0, 65, 42, 27, 16, 6, 182, 0, 108]
abbrev dktX6_mayFrom_2 : List UInt8 := dkwX6_mayFrom_2 ++ dktX6_mayFrom_3
def dkwX6_mayFrom_1 : List UInt8 := [167, 0, 11, 10, 42, 27, 7, 182, 0, 108, 121, 55, 6, 29, 16, 9, 160, 0, 5, 9, 173, 29, 5]
abbrev dktX6_mayFrom_1 : List UInt8 := dkwX6_mayFrom_1 ++ dktX6_mayFrom_2
def dkwX6_mayFrom_0 : List UInt8 := [42, 27, 182, 0, 120, 62, 10, 27, 4, 96, 121, 55, 4, 42, 27, 7, 182, 0, 108, 156, 0, 7, 9]
abbrev dktX6_mayFrom_0 : List UInt8 := dkwX6_mayFrom_0 ++ dktX6_mayFrom_1
theorem dksX6_mayFrom_0 : cX6_mayFrom.data.toList.drop 0 = dktX6_mayFrom_0 := by decide +kernel
theorem dksX6_mayFrom_1 : cX6_mayFrom.data.toList.drop 23 = dktX6_mayFrom_1 := dk_seg dksX6_mayFrom_0 23 rfl rfl
theorem dksX6_mayFrom_2 : cX6_mayFrom.data.toList.drop 46 = dktX6_mayFrom_2 := dk_seg dksX6_mayFrom_1 23 rfl rfl
theorem dksX6_mayFrom_3 : cX6_mayFrom.data.toList.drop 69 = dktX6_mayFrom_3 := dk_seg dksX6_mayFrom_2 23 rfl rfl
theorem dksX6_mayFrom_4 : cX6_mayFrom.data.toList.drop 93 = dktX6_mayFrom_4 := dk_seg dksX6_mayFrom_3 24 rfl rfl
theorem dksX6_mayFrom_5 : cX6_mayFrom.data.toList.drop 116 = dktX6_mayFrom_5 := dk_seg dksX6_mayFrom_4 23 rfl rfl
theorem dksX6_mayFrom_6 : cX6_mayFrom.data.toList.drop 138 = dktX6_mayFrom_6 := dk_seg dksX6_mayFrom_5 22 rfl rfl
theorem dksX6_mayFrom_7 : cX6_mayFrom.data.toList.drop 162 = dktX6_mayFrom_7 := dk_seg dksX6_mayFrom_6 24 rfl rfl
theorem dksX6_mayFrom_8 : cX6_mayFrom.data.toList.drop 186 = dktX6_mayFrom_8 := dk_seg dksX6_mayFrom_7 24 rfl rfl
theorem dksX6_mayFrom_9 : cX6_mayFrom.data.toList.drop 210 = dktX6_mayFrom_9 := dk_seg dksX6_mayFrom_8 24 rfl rfl
theorem dX6_mayFrom_0 : decode cX6_mayFrom 0 = .ok (.aload_n 0, 1) := dk_42 (dk_at dksX6_mayFrom_0 0 rfl rfl)
theorem dX6_mayFrom_1 : decode cX6_mayFrom 1 = .ok (.iload_n 1, 1) := dk_27 (dk_at dksX6_mayFrom_0 1 rfl rfl)
theorem dX6_mayFrom_2 : decode cX6_mayFrom 2 = .ok (.invokevirtual 120, 3) := dk_182 0 120 (dk_at dksX6_mayFrom_0 2 rfl rfl)
theorem dX6_mayFrom_5 : decode cX6_mayFrom 5 = .ok (.istore_n 3, 1) := dk_62 (dk_at dksX6_mayFrom_0 5 rfl rfl)
theorem dX6_mayFrom_6 : decode cX6_mayFrom 6 = .ok (.lconst 1, 1) := dk_10 (dk_at dksX6_mayFrom_0 6 rfl rfl)
theorem dX6_mayFrom_7 : decode cX6_mayFrom 7 = .ok (.iload_n 1, 1) := dk_27 (dk_at dksX6_mayFrom_0 7 rfl rfl)
theorem dX6_mayFrom_8 : decode cX6_mayFrom 8 = .ok (.iconst 1, 1) := dk_4 (dk_at dksX6_mayFrom_0 8 rfl rfl)
theorem dX6_mayFrom_9 : decode cX6_mayFrom 9 = .ok (.iadd, 1) := dk_96 (dk_at dksX6_mayFrom_0 9 rfl rfl)
theorem dX6_mayFrom_10 : decode cX6_mayFrom 10 = .ok (.lshl, 1) := dk_121 (dk_at dksX6_mayFrom_0 10 rfl rfl)
theorem dX6_mayFrom_11 : decode cX6_mayFrom 11 = .ok (.lstore 4, 2) := dk_55 4 (dk_at dksX6_mayFrom_0 11 rfl rfl)
theorem dX6_mayFrom_13 : decode cX6_mayFrom 13 = .ok (.aload_n 0, 1) := dk_42 (dk_at dksX6_mayFrom_0 13 rfl rfl)
theorem dX6_mayFrom_14 : decode cX6_mayFrom 14 = .ok (.iload_n 1, 1) := dk_27 (dk_at dksX6_mayFrom_0 14 rfl rfl)
theorem dX6_mayFrom_15 : decode cX6_mayFrom 15 = .ok (.iconst 4, 1) := dk_7 (dk_at dksX6_mayFrom_0 15 rfl rfl)
theorem dX6_mayFrom_16 : decode cX6_mayFrom 16 = .ok (.invokevirtual 108, 3) := dk_182 0 108 (dk_at dksX6_mayFrom_0 16 rfl rfl)
theorem dX6_mayFrom_19 : decode cX6_mayFrom 19 = .ok (.ifCond .ge 7, 3) := dk_156 0 7 (dk_at dksX6_mayFrom_0 19 rfl rfl)
theorem dX6_mayFrom_22 : decode cX6_mayFrom 22 = .ok (.lconst 0, 1) := dk_9 (dk_at dksX6_mayFrom_0 22 rfl rfl)
theorem dX6_mayFrom_23 : decode cX6_mayFrom 23 = .ok (.goto 11, 3) := dk_167 0 11 (dk_at dksX6_mayFrom_1 0 rfl rfl)
theorem dX6_mayFrom_26 : decode cX6_mayFrom 26 = .ok (.lconst 1, 1) := dk_10 (dk_at dksX6_mayFrom_1 3 rfl rfl)
theorem dX6_mayFrom_27 : decode cX6_mayFrom 27 = .ok (.aload_n 0, 1) := dk_42 (dk_at dksX6_mayFrom_1 4 rfl rfl)
theorem dX6_mayFrom_28 : decode cX6_mayFrom 28 = .ok (.iload_n 1, 1) := dk_27 (dk_at dksX6_mayFrom_1 5 rfl rfl)
theorem dX6_mayFrom_29 : decode cX6_mayFrom 29 = .ok (.iconst 4, 1) := dk_7 (dk_at dksX6_mayFrom_1 6 rfl rfl)
theorem dX6_mayFrom_30 : decode cX6_mayFrom 30 = .ok (.invokevirtual 108, 3) := dk_182 0 108 (dk_at dksX6_mayFrom_1 7 rfl rfl)
theorem dX6_mayFrom_33 : decode cX6_mayFrom 33 = .ok (.lshl, 1) := dk_121 (dk_at dksX6_mayFrom_1 10 rfl rfl)
theorem dX6_mayFrom_34 : decode cX6_mayFrom 34 = .ok (.lstore 6, 2) := dk_55 6 (dk_at dksX6_mayFrom_1 11 rfl rfl)
theorem dX6_mayFrom_36 : decode cX6_mayFrom 36 = .ok (.iload_n 3, 1) := dk_29 (dk_at dksX6_mayFrom_1 13 rfl rfl)
theorem dX6_mayFrom_37 : decode cX6_mayFrom 37 = .ok (.bipush 9, 2) := dk_16 9 (dk_at dksX6_mayFrom_1 14 rfl rfl)
theorem dX6_mayFrom_39 : decode cX6_mayFrom 39 = .ok (.if_icmp .ne 5, 3) := dk_160 0 5 (dk_at dksX6_mayFrom_1 16 rfl rfl)
theorem dX6_mayFrom_42 : decode cX6_mayFrom 42 = .ok (.lconst 0, 1) := dk_9 (dk_at dksX6_mayFrom_1 19 rfl rfl)
theorem dX6_mayFrom_43 : decode cX6_mayFrom 43 = .ok (.lreturn, 1) := dk_173 (dk_at dksX6_mayFrom_1 20 rfl rfl)
theorem dX6_mayFrom_44 : decode cX6_mayFrom 44 = .ok (.iload_n 3, 1) := dk_29 (dk_at dksX6_mayFrom_1 21 rfl rfl)
theorem dX6_mayFrom_45 : decode cX6_mayFrom 45 = .ok (.iconst 2, 1) := dk_5 (dk_at dksX6_mayFrom_1 22 rfl rfl)
theorem dX6_mayFrom_46 : decode cX6_mayFrom 46 = .ok (.if_icmp .eq 8, 3) := dk_159 0 8 (dk_at dksX6_mayFrom_2 0 rfl rfl)
theorem dX6_mayFrom_49 : decode cX6_mayFrom 49 = .ok (.iload_n 3, 1) := dk_29 (dk_at dksX6_mayFrom_2 3 rfl rfl)
theorem dX6_mayFrom_50 : decode cX6_mayFrom 50 = .ok (.iconst 5, 1) := dk_8 (dk_at dksX6_mayFrom_2 4 rfl rfl)
theorem dX6_mayFrom_51 : decode cX6_mayFrom 51 = .ok (.if_icmp .ne 6, 3) := dk_160 0 6 (dk_at dksX6_mayFrom_2 5 rfl rfl)
theorem dX6_mayFrom_54 : decode cX6_mayFrom 54 = .ok (.lload 6, 2) := dk_22 6 (dk_at dksX6_mayFrom_2 8 rfl rfl)
theorem dX6_mayFrom_56 : decode cX6_mayFrom 56 = .ok (.lreturn, 1) := dk_173 (dk_at dksX6_mayFrom_2 10 rfl rfl)
theorem dX6_mayFrom_57 : decode cX6_mayFrom 57 = .ok (.iload_n 3, 1) := dk_29 (dk_at dksX6_mayFrom_2 11 rfl rfl)
theorem dX6_mayFrom_58 : decode cX6_mayFrom 58 = .ok (.iconst 3, 1) := dk_6 (dk_at dksX6_mayFrom_2 12 rfl rfl)
theorem dX6_mayFrom_59 : decode cX6_mayFrom 59 = .ok (.if_icmp .ne 65, 3) := dk_160 0 65 (dk_at dksX6_mayFrom_2 13 rfl rfl)
theorem dX6_mayFrom_62 : decode cX6_mayFrom 62 = .ok (.aload_n 0, 1) := dk_42 (dk_at dksX6_mayFrom_2 16 rfl rfl)
theorem dX6_mayFrom_63 : decode cX6_mayFrom 63 = .ok (.iload_n 1, 1) := dk_27 (dk_at dksX6_mayFrom_2 17 rfl rfl)
theorem dX6_mayFrom_64 : decode cX6_mayFrom 64 = .ok (.bipush 6, 2) := dk_16 6 (dk_at dksX6_mayFrom_2 18 rfl rfl)
theorem dX6_mayFrom_66 : decode cX6_mayFrom 66 = .ok (.invokevirtual 108, 3) := dk_182 0 108 (dk_at dksX6_mayFrom_2 20 rfl rfl)
theorem dX6_mayFrom_69 : decode cX6_mayFrom 69 = .ok (.sipush 1000, 3) := dk_17 3 232 (dk_at dksX6_mayFrom_3 0 rfl rfl)
theorem dX6_mayFrom_72 : decode cX6_mayFrom 72 = .ok (.if_icmp .ge 20, 3) := dk_162 0 20 (dk_at dksX6_mayFrom_3 3 rfl rfl)
theorem dX6_mayFrom_75 : decode cX6_mayFrom 75 = .ok (.aload_n 0, 1) := dk_42 (dk_at dksX6_mayFrom_3 6 rfl rfl)
theorem dX6_mayFrom_76 : decode cX6_mayFrom 76 = .ok (.iload_n 1, 1) := dk_27 (dk_at dksX6_mayFrom_3 7 rfl rfl)
theorem dX6_mayFrom_77 : decode cX6_mayFrom 77 = .ok (.bipush 7, 2) := dk_16 7 (dk_at dksX6_mayFrom_3 8 rfl rfl)
theorem dX6_mayFrom_79 : decode cX6_mayFrom 79 = .ok (.invokevirtual 108, 3) := dk_182 0 108 (dk_at dksX6_mayFrom_3 10 rfl rfl)
theorem dX6_mayFrom_82 : decode cX6_mayFrom 82 = .ok (.sipush 1000, 3) := dk_17 3 232 (dk_at dksX6_mayFrom_3 13 rfl rfl)
theorem dX6_mayFrom_85 : decode cX6_mayFrom 85 = .ok (.if_icmp .ge 7, 3) := dk_162 0 7 (dk_at dksX6_mayFrom_3 16 rfl rfl)
theorem dX6_mayFrom_88 : decode cX6_mayFrom 88 = .ok (.iconst 1, 1) := dk_4 (dk_at dksX6_mayFrom_3 19 rfl rfl)
theorem dX6_mayFrom_89 : decode cX6_mayFrom 89 = .ok (.goto 4, 3) := dk_167 0 4 (dk_at dksX6_mayFrom_3 20 rfl rfl)
theorem dX6_mayFrom_92 : decode cX6_mayFrom 92 = .ok (.iconst 0, 1) := dk_3 (dk_at dksX6_mayFrom_3 23 rfl rfl)
theorem dX6_mayFrom_93 : decode cX6_mayFrom 93 = .ok (.istore 8, 2) := dk_54 8 (dk_at dksX6_mayFrom_4 0 rfl rfl)
theorem dX6_mayFrom_95 : decode cX6_mayFrom 95 = .ok (.iload 8, 2) := dk_21 8 (dk_at dksX6_mayFrom_4 2 rfl rfl)
theorem dX6_mayFrom_97 : decode cX6_mayFrom 97 = .ok (.ifCond .ne 11, 3) := dk_154 0 11 (dk_at dksX6_mayFrom_4 4 rfl rfl)
theorem dX6_mayFrom_100 : decode cX6_mayFrom 100 = .ok (.lload 4, 2) := dk_22 4 (dk_at dksX6_mayFrom_4 7 rfl rfl)
theorem dX6_mayFrom_102 : decode cX6_mayFrom 102 = .ok (.lload 6, 2) := dk_22 6 (dk_at dksX6_mayFrom_4 9 rfl rfl)
theorem dX6_mayFrom_104 : decode cX6_mayFrom 104 = .ok (.lor, 1) := dk_129 (dk_at dksX6_mayFrom_4 11 rfl rfl)
theorem dX6_mayFrom_105 : decode cX6_mayFrom 105 = .ok (.goto 18, 3) := dk_167 0 18 (dk_at dksX6_mayFrom_4 12 rfl rfl)
theorem dX6_mayFrom_108 : decode cX6_mayFrom 108 = .ok (.aload_n 0, 1) := dk_42 (dk_at dksX6_mayFrom_4 15 rfl rfl)
theorem dX6_mayFrom_109 : decode cX6_mayFrom 109 = .ok (.iload_n 1, 1) := dk_27 (dk_at dksX6_mayFrom_4 16 rfl rfl)
theorem dX6_mayFrom_110 : decode cX6_mayFrom 110 = .ok (.invokevirtual 303, 3) := dk_182 1 47 (dk_at dksX6_mayFrom_4 17 rfl rfl)
theorem dX6_mayFrom_113 : decode cX6_mayFrom 113 = .ok (.ifCond .eq 8, 3) := dk_153 0 8 (dk_at dksX6_mayFrom_4 20 rfl rfl)
theorem dX6_mayFrom_116 : decode cX6_mayFrom 116 = .ok (.lload 6, 2) := dk_22 6 (dk_at dksX6_mayFrom_5 0 rfl rfl)
theorem dX6_mayFrom_118 : decode cX6_mayFrom 118 = .ok (.goto 5, 3) := dk_167 0 5 (dk_at dksX6_mayFrom_5 2 rfl rfl)
theorem dX6_mayFrom_121 : decode cX6_mayFrom 121 = .ok (.lload 4, 2) := dk_22 4 (dk_at dksX6_mayFrom_5 5 rfl rfl)
theorem dX6_mayFrom_123 : decode cX6_mayFrom 123 = .ok (.lreturn, 1) := dk_173 (dk_at dksX6_mayFrom_5 7 rfl rfl)
theorem dX6_mayFrom_124 : decode cX6_mayFrom 124 = .ok (.aload_n 0, 1) := dk_42 (dk_at dksX6_mayFrom_5 8 rfl rfl)
theorem dX6_mayFrom_125 : decode cX6_mayFrom 125 = .ok (.iload_n 1, 1) := dk_27 (dk_at dksX6_mayFrom_5 9 rfl rfl)
theorem dX6_mayFrom_126 : decode cX6_mayFrom 126 = .ok (.invokevirtual 237, 3) := dk_182 0 237 (dk_at dksX6_mayFrom_5 10 rfl rfl)
theorem dX6_mayFrom_129 : decode cX6_mayFrom 129 = .ok (.ifCond .ne 6, 3) := dk_154 0 6 (dk_at dksX6_mayFrom_5 13 rfl rfl)
theorem dX6_mayFrom_132 : decode cX6_mayFrom 132 = .ok (.lload 4, 2) := dk_22 4 (dk_at dksX6_mayFrom_5 16 rfl rfl)
theorem dX6_mayFrom_134 : decode cX6_mayFrom 134 = .ok (.lreturn, 1) := dk_173 (dk_at dksX6_mayFrom_5 18 rfl rfl)
theorem dX6_mayFrom_135 : decode cX6_mayFrom 135 = .ok (.aload_n 0, 1) := dk_42 (dk_at dksX6_mayFrom_5 19 rfl rfl)
theorem dX6_mayFrom_136 : decode cX6_mayFrom 136 = .ok (.iload_n 1, 1) := dk_27 (dk_at dksX6_mayFrom_5 20 rfl rfl)
theorem dX6_mayFrom_137 : decode cX6_mayFrom 137 = .ok (.aload_n 0, 1) := dk_42 (dk_at dksX6_mayFrom_5 21 rfl rfl)
theorem dX6_mayFrom_138 : decode cX6_mayFrom 138 = .ok (.getfield 71, 3) := dk_180 0 71 (dk_at dksX6_mayFrom_6 0 rfl rfl)
theorem dX6_mayFrom_141 : decode cX6_mayFrom 141 = .ok (.iload_n 1, 1) := dk_27 (dk_at dksX6_mayFrom_6 3 rfl rfl)
theorem dX6_mayFrom_142 : decode cX6_mayFrom 142 = .ok (.iaload, 1) := dk_46 (dk_at dksX6_mayFrom_6 4 rfl rfl)
theorem dX6_mayFrom_143 : decode cX6_mayFrom 143 = .ok (.invokevirtual 272, 3) := dk_182 1 16 (dk_at dksX6_mayFrom_6 5 rfl rfl)
theorem dX6_mayFrom_146 : decode cX6_mayFrom 146 = .ok (.lstore 8, 2) := dk_55 8 (dk_at dksX6_mayFrom_6 8 rfl rfl)
theorem dX6_mayFrom_148 : decode cX6_mayFrom 148 = .ok (.iload_n 3, 1) := dk_29 (dk_at dksX6_mayFrom_6 10 rfl rfl)
theorem dX6_mayFrom_149 : decode cX6_mayFrom 149 = .ok (.bipush 7, 2) := dk_16 7 (dk_at dksX6_mayFrom_6 11 rfl rfl)
theorem dX6_mayFrom_151 : decode cX6_mayFrom 151 = .ok (.if_icmp .ne 34, 3) := dk_160 0 34 (dk_at dksX6_mayFrom_6 13 rfl rfl)
theorem dX6_mayFrom_154 : decode cX6_mayFrom 154 = .ok (.aload_n 0, 1) := dk_42 (dk_at dksX6_mayFrom_6 16 rfl rfl)
theorem dX6_mayFrom_155 : decode cX6_mayFrom 155 = .ok (.iload_n 2, 1) := dk_28 (dk_at dksX6_mayFrom_6 17 rfl rfl)
theorem dX6_mayFrom_156 : decode cX6_mayFrom 156 = .ok (.invokevirtual 361, 3) := dk_182 1 105 (dk_at dksX6_mayFrom_6 18 rfl rfl)
theorem dX6_mayFrom_159 : decode cX6_mayFrom 159 = .ok (.ifCond .eq 18, 3) := dk_153 0 18 (dk_at dksX6_mayFrom_6 21 rfl rfl)
theorem dX6_mayFrom_162 : decode cX6_mayFrom 162 = .ok (.aload_n 0, 1) := dk_42 (dk_at dksX6_mayFrom_7 0 rfl rfl)
theorem dX6_mayFrom_163 : decode cX6_mayFrom 163 = .ok (.getfield 71, 3) := dk_180 0 71 (dk_at dksX6_mayFrom_7 1 rfl rfl)
theorem dX6_mayFrom_166 : decode cX6_mayFrom 166 = .ok (.iload_n 1, 1) := dk_27 (dk_at dksX6_mayFrom_7 4 rfl rfl)
theorem dX6_mayFrom_167 : decode cX6_mayFrom 167 = .ok (.iaload, 1) := dk_46 (dk_at dksX6_mayFrom_7 5 rfl rfl)
theorem dX6_mayFrom_168 : decode cX6_mayFrom 168 = .ok (.iconst 3, 1) := dk_6 (dk_at dksX6_mayFrom_7 6 rfl rfl)
theorem dX6_mayFrom_169 : decode cX6_mayFrom 169 = .ok (.if_icmp .ge 8, 3) := dk_162 0 8 (dk_at dksX6_mayFrom_7 7 rfl rfl)
theorem dX6_mayFrom_172 : decode cX6_mayFrom 172 = .ok (.lload 8, 2) := dk_22 8 (dk_at dksX6_mayFrom_7 10 rfl rfl)
theorem dX6_mayFrom_174 : decode cX6_mayFrom 174 = .ok (.goto 10, 3) := dk_167 0 10 (dk_at dksX6_mayFrom_7 12 rfl rfl)
theorem dX6_mayFrom_177 : decode cX6_mayFrom 177 = .ok (.aload_n 0, 1) := dk_42 (dk_at dksX6_mayFrom_7 15 rfl rfl)
theorem dX6_mayFrom_178 : decode cX6_mayFrom 178 = .ok (.invokevirtual 250, 3) := dk_182 0 250 (dk_at dksX6_mayFrom_7 16 rfl rfl)
theorem dX6_mayFrom_181 : decode cX6_mayFrom 181 = .ok (.lload 8, 2) := dk_22 8 (dk_at dksX6_mayFrom_7 19 rfl rfl)
theorem dX6_mayFrom_183 : decode cX6_mayFrom 183 = .ok (.land, 1) := dk_127 (dk_at dksX6_mayFrom_7 21 rfl rfl)
theorem dX6_mayFrom_184 : decode cX6_mayFrom 184 = .ok (.lreturn, 1) := dk_173 (dk_at dksX6_mayFrom_7 22 rfl rfl)
theorem dX6_mayFrom_185 : decode cX6_mayFrom 185 = .ok (.aload_n 0, 1) := dk_42 (dk_at dksX6_mayFrom_7 23 rfl rfl)
theorem dX6_mayFrom_186 : decode cX6_mayFrom 186 = .ok (.iload_n 1, 1) := dk_27 (dk_at dksX6_mayFrom_8 0 rfl rfl)
theorem dX6_mayFrom_187 : decode cX6_mayFrom 187 = .ok (.iconst 5, 1) := dk_8 (dk_at dksX6_mayFrom_8 1 rfl rfl)
theorem dX6_mayFrom_188 : decode cX6_mayFrom 188 = .ok (.invokevirtual 108, 3) := dk_182 0 108 (dk_at dksX6_mayFrom_8 2 rfl rfl)
theorem dX6_mayFrom_191 : decode cX6_mayFrom 191 = .ok (.istore 10, 2) := dk_54 10 (dk_at dksX6_mayFrom_8 5 rfl rfl)
theorem dX6_mayFrom_193 : decode cX6_mayFrom 193 = .ok (.aload_n 0, 1) := dk_42 (dk_at dksX6_mayFrom_8 7 rfl rfl)
theorem dX6_mayFrom_194 : decode cX6_mayFrom 194 = .ok (.iload_n 2, 1) := dk_28 (dk_at dksX6_mayFrom_8 8 rfl rfl)
theorem dX6_mayFrom_195 : decode cX6_mayFrom 195 = .ok (.iload 10, 2) := dk_21 10 (dk_at dksX6_mayFrom_8 9 rfl rfl)
theorem dX6_mayFrom_197 : decode cX6_mayFrom 197 = .ok (.invokevirtual 358, 3) := dk_182 1 102 (dk_at dksX6_mayFrom_8 11 rfl rfl)
theorem dX6_mayFrom_200 : decode cX6_mayFrom 200 = .ok (.ifCond .ne 13, 3) := dk_154 0 13 (dk_at dksX6_mayFrom_8 14 rfl rfl)
theorem dX6_mayFrom_203 : decode cX6_mayFrom 203 = .ok (.aload_n 0, 1) := dk_42 (dk_at dksX6_mayFrom_8 17 rfl rfl)
theorem dX6_mayFrom_204 : decode cX6_mayFrom 204 = .ok (.getfield 37, 3) := dk_180 0 37 (dk_at dksX6_mayFrom_8 18 rfl rfl)
theorem dX6_mayFrom_207 : decode cX6_mayFrom 207 = .ok (.iload 10, 2) := dk_21 10 (dk_at dksX6_mayFrom_8 21 rfl rfl)
theorem dX6_mayFrom_209 : decode cX6_mayFrom 209 = .ok (.baload, 1) := dk_51 (dk_at dksX6_mayFrom_8 23 rfl rfl)
theorem dX6_mayFrom_210 : decode cX6_mayFrom 210 = .ok (.ifCond .eq 8, 3) := dk_153 0 8 (dk_at dksX6_mayFrom_9 0 rfl rfl)
theorem dX6_mayFrom_213 : decode cX6_mayFrom 213 = .ok (.lload 8, 2) := dk_22 8 (dk_at dksX6_mayFrom_9 3 rfl rfl)
theorem dX6_mayFrom_215 : decode cX6_mayFrom 215 = .ok (.goto 13, 3) := dk_167 0 13 (dk_at dksX6_mayFrom_9 5 rfl rfl)
theorem dX6_mayFrom_218 : decode cX6_mayFrom 218 = .ok (.aload_n 0, 1) := dk_42 (dk_at dksX6_mayFrom_9 8 rfl rfl)
theorem dX6_mayFrom_219 : decode cX6_mayFrom 219 = .ok (.getfield 33, 3) := dk_180 0 33 (dk_at dksX6_mayFrom_9 9 rfl rfl)
theorem dX6_mayFrom_222 : decode cX6_mayFrom 222 = .ok (.iload 10, 2) := dk_21 10 (dk_at dksX6_mayFrom_9 12 rfl rfl)
theorem dX6_mayFrom_224 : decode cX6_mayFrom 224 = .ok (.laload, 1) := dk_47 (dk_at dksX6_mayFrom_9 14 rfl rfl)
theorem dX6_mayFrom_225 : decode cX6_mayFrom 225 = .ok (.lload 8, 2) := dk_22 8 (dk_at dksX6_mayFrom_9 15 rfl rfl)
theorem dX6_mayFrom_227 : decode cX6_mayFrom 227 = .ok (.land, 1) := dk_127 (dk_at dksX6_mayFrom_9 17 rfl rfl)
theorem dX6_mayFrom_228 : decode cX6_mayFrom 228 = .ok (.lreturn, 1) := dk_173 (dk_at dksX6_mayFrom_9 18 rfl rfl)
def dkwX6_bendsRow_0 : List UInt8 := [42, 180, 0, 13, 17, 1, 136, 5, 27, 104, 96, 4, 96, 46, 4, 160, 0, 7, 4, 167, 0, 4, 3, 172]
abbrev dktX6_bendsRow_0 : List UInt8 := dkwX6_bendsRow_0 ++ []
theorem dksX6_bendsRow_0 : cX6_bendsRow.data.toList.drop 0 = dktX6_bendsRow_0 := by decide +kernel
theorem dX6_bendsRow_0 : decode cX6_bendsRow 0 = .ok (.aload_n 0, 1) := dk_42 (dk_at dksX6_bendsRow_0 0 rfl rfl)
theorem dX6_bendsRow_1 : decode cX6_bendsRow 1 = .ok (.getfield 13, 3) := dk_180 0 13 (dk_at dksX6_bendsRow_0 1 rfl rfl)
theorem dX6_bendsRow_4 : decode cX6_bendsRow 4 = .ok (.sipush 392, 3) := dk_17 1 136 (dk_at dksX6_bendsRow_0 4 rfl rfl)
theorem dX6_bendsRow_7 : decode cX6_bendsRow 7 = .ok (.iconst 2, 1) := dk_5 (dk_at dksX6_bendsRow_0 7 rfl rfl)
theorem dX6_bendsRow_8 : decode cX6_bendsRow 8 = .ok (.iload_n 1, 1) := dk_27 (dk_at dksX6_bendsRow_0 8 rfl rfl)
theorem dX6_bendsRow_9 : decode cX6_bendsRow 9 = .ok (.imul, 1) := dk_104 (dk_at dksX6_bendsRow_0 9 rfl rfl)
theorem dX6_bendsRow_10 : decode cX6_bendsRow 10 = .ok (.iadd, 1) := dk_96 (dk_at dksX6_bendsRow_0 10 rfl rfl)
theorem dX6_bendsRow_11 : decode cX6_bendsRow 11 = .ok (.iconst 1, 1) := dk_4 (dk_at dksX6_bendsRow_0 11 rfl rfl)
theorem dX6_bendsRow_12 : decode cX6_bendsRow 12 = .ok (.iadd, 1) := dk_96 (dk_at dksX6_bendsRow_0 12 rfl rfl)
theorem dX6_bendsRow_13 : decode cX6_bendsRow 13 = .ok (.iaload, 1) := dk_46 (dk_at dksX6_bendsRow_0 13 rfl rfl)
theorem dX6_bendsRow_14 : decode cX6_bendsRow 14 = .ok (.iconst 1, 1) := dk_4 (dk_at dksX6_bendsRow_0 14 rfl rfl)
theorem dX6_bendsRow_15 : decode cX6_bendsRow 15 = .ok (.if_icmp .ne 7, 3) := dk_160 0 7 (dk_at dksX6_bendsRow_0 15 rfl rfl)
theorem dX6_bendsRow_18 : decode cX6_bendsRow 18 = .ok (.iconst 1, 1) := dk_4 (dk_at dksX6_bendsRow_0 18 rfl rfl)
theorem dX6_bendsRow_19 : decode cX6_bendsRow 19 = .ok (.goto 4, 3) := dk_167 0 4 (dk_at dksX6_bendsRow_0 19 rfl rfl)
theorem dX6_bendsRow_22 : decode cX6_bendsRow 22 = .ok (.iconst 0, 1) := dk_3 (dk_at dksX6_bendsRow_0 22 rfl rfl)
theorem dX6_bendsRow_23 : decode cX6_bendsRow 23 = .ok (.ireturn, 1) := dk_172 (dk_at dksX6_bendsRow_0 23 rfl rfl)
