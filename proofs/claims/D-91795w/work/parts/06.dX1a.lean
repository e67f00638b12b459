set_option maxRecDepth 100000
def dkwX1_init_4 : List UInt8 := [16, 6, 188, 10, 181, 0, 51, 42, 2, 181, 0, 54, 177]
abbrev dktX1_init_4 : List UInt8 := dkwX1_init_4 ++ []
def dkwX1_init_3 : List UInt8 := [16, 40, 188, 10, 181, 0, 42, 42, 16, 40, 188, 10, 181, 0, 45, 42, 16, 6, 188, 10, 181, 0, 48, 42]
abbrev dktX1_init_3 : List UInt8 := dkwX1_init_3 ++ dktX1_init_4
def dkwX1_init_2 : List UInt8 := [183, 0, 28, 181, 0, 31, 42, 16, 40, 188, 10, 181, 0, 35, 42, 16, 40, 188, 10, 181, 0, 39, 42]
abbrev dktX1_init_2 : List UInt8 := dkwX1_init_2 ++ dktX1_init_3
def dkwX1_init_1 : List UInt8 := [181, 0, 19, 42, 187, 0, 16, 89, 183, 0, 18, 181, 0, 23, 42, 187, 0, 26, 89, 42, 180, 0, 19]
abbrev dktX1_init_1 : List UInt8 := dkwX1_init_1 ++ dktX1_init_2
def dkwX1_init_0 : List UInt8 := [42, 183, 0, 3, 42, 187, 0, 9, 89, 183, 0, 11, 181, 0, 12, 42, 187, 0, 16, 89, 183, 0, 18]
abbrev dktX1_init_0 : List UInt8 := dkwX1_init_0 ++ dktX1_init_1
theorem dksX1_init_0 : cX1_init.data.toList.drop 0 = dktX1_init_0 := by decide +kernel
theorem dksX1_init_1 : cX1_init.data.toList.drop 23 = dktX1_init_1 := dk_seg dksX1_init_0 23 rfl rfl
theorem dksX1_init_2 : cX1_init.data.toList.drop 46 = dktX1_init_2 := dk_seg dksX1_init_1 23 rfl rfl
theorem dksX1_init_3 : cX1_init.data.toList.drop 69 = dktX1_init_3 := dk_seg dksX1_init_2 23 rfl rfl
theorem dksX1_init_4 : cX1_init.data.toList.drop 93 = dktX1_init_4 := dk_seg dksX1_init_3 24 rfl rfl
theorem dX1_init_0 : decode cX1_init 0 = .ok (.aload_n 0, 1) := dk_42 (dk_at dksX1_init_0 0 rfl rfl)
theorem dX1_init_1 : decode cX1_init 1 = .ok (.invokespecial 3, 3) := dk_183 0 3 (dk_at dksX1_init_0 1 rfl rfl)
theorem dX1_init_4 : decode cX1_init 4 = .ok (.aload_n 0, 1) := dk_42 (dk_at dksX1_init_0 4 rfl rfl)
theorem dX1_init_5 : decode cX1_init 5 = .ok (.new 9, 3) := dk_187 0 9 (dk_at dksX1_init_0 5 rfl rfl)
theorem dX1_init_8 : decode cX1_init 8 = .ok (.dup, 1) := dk_89 (dk_at dksX1_init_0 8 rfl rfl)
theorem dX1_init_9 : decode cX1_init 9 = .ok (.invokespecial 11, 3) := dk_183 0 11 (dk_at dksX1_init_0 9 rfl rfl)
theorem dX1_init_12 : decode cX1_init 12 = .ok (.putfield 12, 3) := dk_181 0 12 (dk_at dksX1_init_0 12 rfl rfl)
theorem dX1_init_15 : decode cX1_init 15 = .ok (.aload_n 0, 1) := dk_42 (dk_at dksX1_init_0 15 rfl rfl)
theorem dX1_init_16 : decode cX1_init 16 = .ok (.new 16, 3) := dk_187 0 16 (dk_at dksX1_init_0 16 rfl rfl)
theorem dX1_init_19 : decode cX1_init 19 = .ok (.dup, 1) := dk_89 (dk_at dksX1_init_0 19 rfl rfl)
theorem dX1_init_20 : decode cX1_init 20 = .ok (.invokespecial 18, 3) := dk_183 0 18 (dk_at dksX1_init_0 20 rfl rfl)
theorem dX1_init_23 : decode cX1_init 23 = .ok (.putfield 19, 3) := dk_181 0 19 (dk_at dksX1_init_1 0 rfl rfl)
theorem dX1_init_26 : decode cX1_init 26 = .ok (.aload_n 0, 1) := dk_42 (dk_at dksX1_init_1 3 rfl rfl)
theorem dX1_init_27 : decode cX1_init 27 = .ok (.new 16, 3) := dk_187 0 16 (dk_at dksX1_init_1 4 rfl rfl)
theorem dX1_init_30 : decode cX1_init 30 = .ok (.dup, 1) := dk_89 (dk_at dksX1_init_1 7 rfl rfl)
theorem dX1_init_31 : decode cX1_init 31 = .ok (.invokespecial 18, 3) := dk_183 0 18 (dk_at dksX1_init_1 8 rfl rfl)
theorem dX1_init_34 : decode cX1_init 34 = .ok (.putfield 23, 3) := dk_181 0 23 (dk_at dksX1_init_1 11 rfl rfl)
theorem dX1_init_37 : decode cX1_init 37 = .ok (.aload_n 0, 1) := dk_42 (dk_at dksX1_init_1 14 rfl rfl)
theorem dX1_init_38 : decode cX1_init 38 = .ok (.new 26, 3) := dk_187 0 26 (dk_at dksX1_init_1 15 rfl rfl)
theorem dX1_init_41 : decode cX1_init 41 = .ok (.dup, 1) := dk_89 (dk_at dksX1_init_1 18 rfl rfl)
theorem dX1_init_42 : decode cX1_init 42 = .ok (.aload_n 0, 1) := dk_42 (dk_at dksX1_init_1 19 rfl rfl)
theorem dX1_init_43 : decode cX1_init 43 = .ok (.getfield 19, 3) := dk_180 0 19 (dk_at dksX1_init_1 20 rfl rfl)
theorem dX1_init_46 : decode cX1_init 46 = .ok (.invokespecial 28, 3) := dk_183 0 28 (dk_at dksX1_init_2 0 rfl rfl)
theorem dX1_init_49 : decode cX1_init 49 = .ok (.putfield 31, 3) := dk_181 0 31 (dk_at dksX1_init_2 3 rfl rfl)
theorem dX1_init_52 : decode cX1_init 52 = .ok (.aload_n 0, 1) := dk_42 (dk_at dksX1_init_2 6 rfl rfl)
theorem dX1_init_53 : decode cX1_init 53 = .ok (.bipush 40, 2) := dk_16 40 (dk_at dksX1_init_2 7 rfl rfl)
theorem dX1_init_55 : decode cX1_init 55 = .ok (.newarray .int, 2) := dk_188_10 (dk_at dksX1_init_2 9 rfl rfl)
theorem dX1_init_57 : decode cX1_init 57 = .ok (.putfield 35, 3) := dk_181 0 35 (dk_at dksX1_init_2 11 rfl rfl)
theorem dX1_init_60 : decode cX1_init 60 = .ok (.aload_n 0, 1) := dk_42 (dk_at dksX1_init_2 14 rfl rfl)
theorem dX1_init_61 : decode cX1_init 61 = .ok (.bipush 40, 2) := dk_16 40 (dk_at dksX1_init_2 15 rfl rfl)
theorem dX1_init_63 : decode cX1_init 63 = .ok (.newarray .int, 2) := dk_188_10 (dk_at dksX1_init_2 17 rfl rfl)
theorem dX1_init_65 : decode cX1_init 65 = .ok (.putfield 39, 3) := dk_181 0 39 (dk_at dksX1_init_2 19 rfl rfl)
theorem dX1_init_68 : decode cX1_init 68 = .ok (.aload_n 0, 1) := dk_42 (dk_at dksX1_init_2 22 rfl rfl)
theorem dX1_init_69 : decode cX1_init 69 = .ok (.bipush 40, 2) := dk_16 40 (dk_at dksX1_init_3 0 rfl rfl)
theorem dX1_init_71 : decode cX1_init 71 = .ok (.newarray .int, 2) := dk_188_10 (dk_at dksX1_init_3 2 rfl rfl)
theorem dX1_init_73 : decode cX1_init 73 = .ok (.putfield 42, 3) := dk_181 0 42 (dk_at dksX1_init_3 4 rfl rfl)
theorem dX1_init_76 : decode cX1_init 76 = .ok (.aload_n 0, 1) := dk_42 (dk_at dksX1_init_3 7 rfl rfl)
theorem dX1_init_77 : decode cX1_init 77 = .ok (.bipush 40, 2) := dk_16 40 (dk_at dksX1_init_3 8 rfl rfl)
theorem dX1_init_79 : decode cX1_init 79 = .ok (.newarray .int, 2) := dk_188_10 (dk_at dksX1_init_3 10 rfl rfl)
theorem dX1_init_81 : decode cX1_init 81 = .ok (.putfield 45, 3) := dk_181 0 45 (dk_at dksX1_init_3 12 rfl rfl)
theorem dX1_init_84 : decode cX1_init 84 = .ok (.aload_n 0, 1) := dk_42 (dk_at dksX1_init_3 15 rfl rfl)
theorem dX1_init_85 : decode cX1_init 85 = .ok (.bipush 6, 2) := dk_16 6 (dk_at dksX1_init_3 16 rfl rfl)
theorem dX1_init_87 : decode cX1_init 87 = .ok (.newarray .int, 2) := dk_188_10 (dk_at dksX1_init_3 18 rfl rfl)
theorem dX1_init_89 : decode cX1_init 89 = .ok (.putfield 48, 3) := dk_181 0 48 (dk_at dksX1_init_3 20 rfl rfl)
theorem dX1_init_92 : decode cX1_init 92 = .ok (.aload_n 0, 1) := dk_42 (dk_at dksX1_init_3 23 rfl rfl)
theorem dX1_init_93 : decode cX1_init 93 = .ok (.bipush 6, 2) := dk_16 6 (dk_at dksX1_init_4 0 rfl rfl)
theorem dX1_init_95 : decode cX1_init 95 = .ok (.newarray .int, 2) := dk_188_10 (dk_at dksX1_init_4 2 rfl rfl)
theorem dX1_init_97 : decode cX1_init 97 = .ok (.putfield 51, 3) := dk_181 0 51 (dk_at dksX1_init_4 4 rfl rfl)
theorem dX1_init_100 : decode cX1_init 100 = .ok (.aload_n 0, 1) := dk_42 (dk_at dksX1_init_4 7 rfl rfl)
theorem dX1_init_101 : decode cX1_init 101 = .ok (.iconst (-1), 1) := dk_2 (dk_at dksX1_init_4 8 rfl rfl)
theorem dX1_init_102 : decode cX1_init 102 = .ok (.putfield 54, 3) := dk_181 0 54 (dk_at dksX1_init_4 9 rfl rfl)
theorem dX1_init_105 : decode cX1_init 105 = .ok (.return_, 1) := dk_177 (dk_at dksX1_init_4 12 rfl rfl)
def dkwX1_feed_2 : List UInt8 := [180, 0, 12, 180, 0, 108, 172]
abbrev dktX1_feed_2 : List UInt8 := dkwX1_feed_2 ++ []
def dkwX1_feed_1 : List UInt8 := [28, 182, 0, 111, 42, 29, 182, 0, 111, 42, 21, 4, 182, 0, 111, 42, 21, 5, 182, 0, 111, 42]
abbrev dktX1_feed_1 : List UInt8 := dkwX1_feed_1 ++ dktX1_feed_2
def dkwX1_feed_0 : List UInt8 := [42, 180, 0, 12, 180, 0, 108, 16, 20, 96, 17, 1, 144, 164, 0, 5, 2, 172, 42, 27, 182, 0, 111, 42]
abbrev dktX1_feed_0 : List UInt8 := dkwX1_feed_0 ++ dktX1_feed_1
theorem dksX1_feed_0 : cX1_feed.data.toList.drop 0 = dktX1_feed_0 := by decide +kernel
theorem dksX1_feed_1 : cX1_feed.data.toList.drop 24 = dktX1_feed_1 := dk_seg dksX1_feed_0 24 rfl rfl
theorem dksX1_feed_2 : cX1_feed.data.toList.drop 46 = dktX1_feed_2 := dk_seg dksX1_feed_1 22 rfl rfl
theorem dX1_feed_0 : decode cX1_feed 0 = .ok (.aload_n 0, 1) := dk_42 (dk_at dksX1_feed_0 0 rfl rfl)
theorem dX1_feed_1 : decode cX1_feed 1 = .ok (.getfield 12, 3) := dk_180 0 12 (dk_at dksX1_feed_0 1 rfl rfl)
theorem dX1_feed_4 : decode cX1_feed 4 = .ok (.getfield 108, 3) := dk_180 0 108 (dk_at dksX1_feed_0 4 rfl rfl)
theorem dX1_feed_7 : decode cX1_feed 7 = .ok (.bipush 20, 2) := dk_16 20 (dk_at dksX1_feed_0 7 rfl rfl)
theorem dX1_feed_9 : decode cX1_feed 9 = .ok (.iadd, 1) := dk_96 (dk_at dksX1_feed_0 9 rfl rfl)
theorem dX1_feed_10 : decode cX1_feed 10 = .ok (.sipush 400, 3) := dk_17 1 144 (dk_at dksX1_feed_0 10 rfl rfl)
theorem dX1_feed_13 : decode cX1_feed 13 = .ok (.if_icmp .le 5, 3) := dk_164 0 5 (dk_at dksX1_feed_0 13 rfl rfl)
theorem dX1_feed_16 : decode cX1_feed 16 = .ok (.iconst (-1), 1) := dk_2 (dk_at dksX1_feed_0 16 rfl rfl)
theorem dX1_feed_17 : decode cX1_feed 17 = .ok (.ireturn, 1) := dk_172 (dk_at dksX1_feed_0 17 rfl rfl)
theorem dX1_feed_18 : decode cX1_feed 18 = .ok (.aload_n 0, 1) := dk_42 (dk_at dksX1_feed_0 18 rfl rfl)
theorem dX1_feed_19 : decode cX1_feed 19 = .ok (.iload_n 1, 1) := dk_27 (dk_at dksX1_feed_0 19 rfl rfl)
theorem dX1_feed_20 : decode cX1_feed 20 = .ok (.invokevirtual 111, 3) := dk_182 0 111 (dk_at dksX1_feed_0 20 rfl rfl)
theorem dX1_feed_23 : decode cX1_feed 23 = .ok (.aload_n 0, 1) := dk_42 (dk_at dksX1_feed_0 23 rfl rfl)
theorem dX1_feed_24 : decode cX1_feed 24 = .ok (.iload_n 2, 1) := dk_28 (dk_at dksX1_feed_1 0 rfl rfl)
theorem dX1_feed_25 : decode cX1_feed 25 = .ok (.invokevirtual 111, 3) := dk_182 0 111 (dk_at dksX1_feed_1 1 rfl rfl)
theorem dX1_feed_28 : decode cX1_feed 28 = .ok (.aload_n 0, 1) := dk_42 (dk_at dksX1_feed_1 4 rfl rfl)
theorem dX1_feed_29 : decode cX1_feed 29 = .ok (.iload_n 3, 1) := dk_29 (dk_at dksX1_feed_1 5 rfl rfl)
theorem dX1_feed_30 : decode cX1_feed 30 = .ok (.invokevirtual 111, 3) := dk_182 0 111 (dk_at dksX1_feed_1 6 rfl rfl)
theorem dX1_feed_33 : decode cX1_feed 33 = .ok (.aload_n 0, 1) := dk_42 (dk_at dksX1_feed_1 9 rfl rfl)
theorem dX1_feed_34 : decode cX1_feed 34 = .ok (.iload 4, 2) := dk_21 4 (dk_at dksX1_feed_1 10 rfl rfl)
theorem dX1_feed_36 : decode cX1_feed 36 = .ok (.invokevirtual 111, 3) := dk_182 0 111 (dk_at dksX1_feed_1 12 rfl rfl)
theorem dX1_feed_39 : decode cX1_feed 39 = .ok (.aload_n 0, 1) := dk_42 (dk_at dksX1_feed_1 15 rfl rfl)
theorem dX1_feed_40 : decode cX1_feed 40 = .ok (.iload 5, 2) := dk_21 5 (dk_at dksX1_feed_1 16 rfl rfl)
theorem dX1_feed_42 : decode cX1_feed 42 = .ok (.invokevirtual 111, 3) := dk_182 0 111 (dk_at dksX1_feed_1 18 rfl rfl)
theorem dX1_feed_45 : decode cX1_feed 45 = .ok (.aload_n 0, 1) := dk_42 (dk_at dksX1_feed_1 21 rfl rfl)
theorem dX1_feed_46 : decode cX1_feed 46 = .ok (.getfield 12, 3) := dk_180 0 12 (dk_at dksX1_feed_2 0 rfl rfl)
theorem dX1_feed_49 : decode cX1_feed 49 = .ok (.getfield 108, 3) := dk_180 0 108 (dk_at dksX1_feed_2 3 rfl rfl)
theorem dX1_feed_52 : decode cX1_feed 52 = .ok (.ireturn, 1) := dk_172 (dk_at dksX1_feed_2 6 rfl rfl)
def dkwX1_four_1 : List UInt8 := [145, 84, 42, 180, 0, 12, 89, 180, 0, 108, 4, 96, 181, 0, 108, 132, 2, 248, 167, 255, 217, 177]
abbrev dktX1_four_1 : List UInt8 := dkwX1_four_1 ++ []
def dkwX1_four_0 : List UInt8 := [16, 24, 61, 28, 155, 0, 41, 42, 180, 0, 12, 180, 0, 104, 42, 180, 0, 12, 180, 0, 108, 27, 28, 122]
abbrev dktX1_four_0 : List UInt8 := dkwX1_four_0 ++ dktX1_four_1
theorem dksX1_four_0 : cX1_four.data.toList.drop 0 = dktX1_four_0 := by decide +kernel
theorem dksX1_four_1 : cX1_four.data.toList.drop 24 = dktX1_four_1 := dk_seg dksX1_four_0 24 rfl rfl
theorem dX1_four_0 : decode cX1_four 0 = .ok (.bipush 24, 2) := dk_16 24 (dk_at dksX1_four_0 0 rfl rfl)
theorem dX1_four_2 : decode cX1_four 2 = .ok (.istore_n 2, 1) := dk_61 (dk_at dksX1_four_0 2 rfl rfl)
theorem dX1_four_3 : decode cX1_four 3 = .ok (.iload_n 2, 1) := dk_28 (dk_at dksX1_four_0 3 rfl rfl)
theorem dX1_four_4 : decode cX1_four 4 = .ok (.ifCond .lt 41, 3) := dk_155 0 41 (dk_at dksX1_four_0 4 rfl rfl)
theorem dX1_four_7 : decode cX1_four 7 = .ok (.aload_n 0, 1) := dk_42 (dk_at dksX1_four_0 7 rfl rfl)
theorem dX1_four_8 : decode cX1_four 8 = .ok (.getfield 12, 3) := dk_180 0 12 (dk_at dksX1_four_0 8 rfl rfl)
theorem dX1_four_11 : decode cX1_four 11 = .ok (.getfield 104, 3) := dk_180 0 104 (dk_at dksX1_four_0 11 rfl rfl)
theorem dX1_four_14 : decode cX1_four 14 = .ok (.aload_n 0, 1) := dk_42 (dk_at dksX1_four_0 14 rfl rfl)
theorem dX1_four_15 : decode cX1_four 15 = .ok (.getfield 12, 3) := dk_180 0 12 (dk_at dksX1_four_0 15 rfl rfl)
theorem dX1_four_18 : decode cX1_four 18 = .ok (.getfield 108, 3) := dk_180 0 108 (dk_at dksX1_four_0 18 rfl rfl)
theorem dX1_four_21 : decode cX1_four 21 = .ok (.iload_n 1, 1) := dk_27 (dk_at dksX1_four_0 21 rfl rfl)
theorem dX1_four_22 : decode cX1_four 22 = .ok (.iload_n 2, 1) := dk_28 (dk_at dksX1_four_0 22 rfl rfl)
theorem dX1_four_23 : decode cX1_four 23 = .ok (.ishr, 1) := dk_122 (dk_at dksX1_four_0 23 rfl rfl)
theorem dX1_four_24 : decode cX1_four 24 = .ok (.i2b, 1) := dk_145 (dk_at dksX1_four_1 0 rfl rfl)
theorem dX1_four_25 : decode cX1_four 25 = .ok (.bastore, 1) := dk_84 (dk_at dksX1_four_1 1 rfl rfl)
theorem dX1_four_26 : decode cX1_four 26 = .ok (.aload_n 0, 1) := dk_42 (dk_at dksX1_four_1 2 rfl rfl)
theorem dX1_four_27 : decode cX1_four 27 = .ok (.getfield 12, 3) := dk_180 0 12 (dk_at dksX1_four_1 3 rfl rfl)
theorem dX1_four_30 : decode cX1_four 30 = .ok (.dup, 1) := dk_89 (dk_at dksX1_four_1 6 rfl rfl)
theorem dX1_four_31 : decode cX1_four 31 = .ok (.getfield 108, 3) := dk_180 0 108 (dk_at dksX1_four_1 7 rfl rfl)
theorem dX1_four_34 : decode cX1_four 34 = .ok (.iconst 1, 1) := dk_4 (dk_at dksX1_four_1 10 rfl rfl)
theorem dX1_four_35 : decode cX1_four 35 = .ok (.iadd, 1) := dk_96 (dk_at dksX1_four_1 11 rfl rfl)
theorem dX1_four_36 : decode cX1_four 36 = .ok (.putfield 108, 3) := dk_181 0 108 (dk_at dksX1_four_1 12 rfl rfl)
theorem dX1_four_39 : decode cX1_four 39 = .ok (.iinc 2 (-8), 3) := dk_132 2 248 (dk_at dksX1_four_1 15 rfl rfl)
theorem dX1_four_42 : decode cX1_four 42 = .ok (.goto (-39), 3) := dk_167 255 217 (dk_at dksX1_four_1 18 rfl rfl)
theorem dX1_four_45 : decode cX1_four 45 = .ok (.return_, 1) := dk_177 (dk_at dksX1_four_1 21 rfl rfl)
def dkwX1_end_1 : List UInt8 := [181, 0, 108, 4, 172]
abbrev dktX1_end_1 : List UInt8 := dkwX1_end_1 ++ []
def dkwX1_end_0 : List UInt8 := [27, 3, 42, 180, 0, 12, 180, 0, 108, 184, 0, 73, 154, 0, 5, 3, 172, 42, 180, 0, 12, 27]
abbrev dktX1_end_0 : List UInt8 := dkwX1_end_0 ++ dktX1_end_1
theorem dksX1_end_0 : cX1_end.data.toList.drop 0 = dktX1_end_0 := by decide +kernel
theorem dksX1_end_1 : cX1_end.data.toList.drop 22 = dktX1_end_1 := dk_seg dksX1_end_0 22 rfl rfl
theorem dX1_end_0 : decode cX1_end 0 = .ok (.iload_n 1, 1) := dk_27 (dk_at dksX1_end_0 0 rfl rfl)
theorem dX1_end_1 : decode cX1_end 1 = .ok (.iconst 0, 1) := dk_3 (dk_at dksX1_end_0 1 rfl rfl)
theorem dX1_end_2 : decode cX1_end 2 = .ok (.aload_n 0, 1) := dk_42 (dk_at dksX1_end_0 2 rfl rfl)
theorem dX1_end_3 : decode cX1_end 3 = .ok (.getfield 12, 3) := dk_180 0 12 (dk_at dksX1_end_0 3 rfl rfl)
theorem dX1_end_6 : decode cX1_end 6 = .ok (.getfield 108, 3) := dk_180 0 108 (dk_at dksX1_end_0 6 rfl rfl)
theorem dX1_end_9 : decode cX1_end 9 = .ok (.invokestatic 73, 3) := dk_184 0 73 (dk_at dksX1_end_0 9 rfl rfl)
theorem dX1_end_12 : decode cX1_end 12 = .ok (.ifCond .ne 5, 3) := dk_154 0 5 (dk_at dksX1_end_0 12 rfl rfl)
theorem dX1_end_15 : decode cX1_end 15 = .ok (.iconst 0, 1) := dk_3 (dk_at dksX1_end_0 15 rfl rfl)
theorem dX1_end_16 : decode cX1_end 16 = .ok (.ireturn, 1) := dk_172 (dk_at dksX1_end_0 16 rfl rfl)
theorem dX1_end_17 : decode cX1_end 17 = .ok (.aload_n 0, 1) := dk_42 (dk_at dksX1_end_0 17 rfl rfl)
theorem dX1_end_18 : decode cX1_end 18 = .ok (.getfield 12, 3) := dk_180 0 12 (dk_at dksX1_end_0 18 rfl rfl)
theorem dX1_end_21 : decode cX1_end 21 = .ok (.iload_n 1, 1) := dk_27 (dk_at dksX1_end_0 21 rfl rfl)
theorem dX1_end_22 : decode cX1_end 22 = .ok (.putfield 108, 3) := dk_181 0 108 (dk_at dksX1_end_1 0 rfl rfl)
theorem dX1_end_25 : decode cX1_end 25 = .ok (.iconst 1, 1) := dk_4 (dk_at dksX1_end_1 3 rfl rfl)
theorem dX1_end_26 : decode cX1_end 26 = .ok (.ireturn, 1) := dk_172 (dk_at dksX1_end_1 4 rfl rfl)
def dkwX1_isIn_0 : List UInt8 := [26, 27, 161, 0, 12, 26, 28, 163, 0, 7, 4, 167, 0, 4, 3, 172]
abbrev dktX1_isIn_0 : List UInt8 := dkwX1_isIn_0 ++ []
theorem dksX1_isIn_0 : cX1_isIn.data.toList.drop 0 = dktX1_isIn_0 := by decide +kernel
theorem dX1_isIn_0 : decode cX1_isIn 0 = .ok (.iload_n 0, 1) := dk_26 (dk_at dksX1_isIn_0 0 rfl rfl)
theorem dX1_isIn_1 : decode cX1_isIn 1 = .ok (.iload_n 1, 1) := dk_27 (dk_at dksX1_isIn_0 1 rfl rfl)
theorem dX1_isIn_2 : decode cX1_isIn 2 = .ok (.if_icmp .lt 12, 3) := dk_161 0 12 (dk_at dksX1_isIn_0 2 rfl rfl)
theorem dX1_isIn_5 : decode cX1_isIn 5 = .ok (.iload_n 0, 1) := dk_26 (dk_at dksX1_isIn_0 5 rfl rfl)
theorem dX1_isIn_6 : decode cX1_isIn 6 = .ok (.iload_n 2, 1) := dk_28 (dk_at dksX1_isIn_0 6 rfl rfl)
theorem dX1_isIn_7 : decode cX1_isIn 7 = .ok (.if_icmp .gt 7, 3) := dk_163 0 7 (dk_at dksX1_isIn_0 7 rfl rfl)
theorem dX1_isIn_10 : decode cX1_isIn 10 = .ok (.iconst 1, 1) := dk_4 (dk_at dksX1_isIn_0 10 rfl rfl)
theorem dX1_isIn_11 : decode cX1_isIn 11 = .ok (.goto 4, 3) := dk_167 0 4 (dk_at dksX1_isIn_0 11 rfl rfl)
theorem dX1_isIn_14 : decode cX1_isIn 14 = .ok (.iconst 0, 1) := dk_3 (dk_at dksX1_isIn_0 14 rfl rfl)
theorem dX1_isIn_15 : decode cX1_isIn 15 = .ok (.ireturn, 1) := dk_172 (dk_at dksX1_isIn_0 15 rfl rfl)
theorem dX1_fault_0 : decode cX1_fault 0 = .ok (.aload_n 0, 1) := by decide +kernel
theorem dX1_fault_1 : decode cX1_fault 1 = .ok (.getfield 54, 3) := by decide +kernel
theorem dX1_fault_4 : decode cX1_fault 4 = .ok (.ireturn, 1) := by decide +kernel
def dkwX1_straight_0 : List UInt8 := [42, 180, 0, 19, 180, 0, 174, 60, 42, 180, 0, 19, 3, 181, 0, 174, 27, 172]
abbrev dktX1_straight_0 : List UInt8 := dkwX1_straight_0 ++ []
theorem dksX1_straight_0 : cX1_straight.data.toList.drop 0 = dktX1_straight_0 := by decide +kernel
theorem dX1_straight_0 : decode cX1_straight 0 = .ok (.aload_n 0, 1) := dk_42 (dk_at dksX1_straight_0 0 rfl rfl)
theorem dX1_straight_1 : decode cX1_straight 1 = .ok (.getfield 19, 3) := dk_180 0 19 (dk_at dksX1_straight_0 1 rfl rfl)
theorem dX1_straight_4 : decode cX1_straight 4 = .ok (.getfield 174, 3) := dk_180 0 174 (dk_at dksX1_straight_0 4 rfl rfl)
theorem dX1_straight_7 : decode cX1_straight 7 = .ok (.istore_n 1, 1) := dk_60 (dk_at dksX1_straight_0 7 rfl rfl)
theorem dX1_straight_8 : decode cX1_straight 8 = .ok (.aload_n 0, 1) := dk_42 (dk_at dksX1_straight_0 8 rfl rfl)
theorem dX1_straight_9 : decode cX1_straight 9 = .ok (.getfield 19, 3) := dk_180 0 19 (dk_at dksX1_straight_0 9 rfl rfl)
theorem dX1_straight_12 : decode cX1_straight 12 = .ok (.iconst 0, 1) := dk_3 (dk_at dksX1_straight_0 12 rfl rfl)
theorem dX1_straight_13 : decode cX1_straight 13 = .ok (.putfield 174, 3) := dk_181 0 174 (dk_at dksX1_straight_0 13 rfl rfl)
theorem dX1_straight_16 : decode cX1_straight 16 = .ok (.iload_n 1, 1) := dk_27 (dk_at dksX1_straight_0 16 rfl rfl)
theorem dX1_straight_17 : decode cX1_straight 17 = .ok (.ireturn, 1) := dk_172 (dk_at dksX1_straight_0 17 rfl rfl)
def dkwX1_step_1 : List UInt8 := [153, 0, 15, 42, 180, 0, 31, 180, 0, 219, 28, 46, 167, 0, 4, 2, 172]
abbrev dktX1_step_1 : List UInt8 := dkwX1_step_1 ++ []
def dkwX1_step_0 : List UInt8 := [42, 180, 0, 31, 27, 4, 182, 0, 192, 28, 3, 42, 180, 0, 31, 180, 0, 199, 4, 100, 184, 0, 73]
abbrev dktX1_step_0 : List UInt8 := dkwX1_step_0 ++ dktX1_step_1
theorem dksX1_step_0 : cX1_step.data.toList.drop 0 = dktX1_step_0 := by decide +kernel
theorem dksX1_step_1 : cX1_step.data.toList.drop 23 = dktX1_step_1 := dk_seg dksX1_step_0 23 rfl rfl
theorem dX1_step_0 : decode cX1_step 0 = .ok (.aload_n 0, 1) := dk_42 (dk_at dksX1_step_0 0 rfl rfl)
theorem dX1_step_1 : decode cX1_step 1 = .ok (.getfield 31, 3) := dk_180 0 31 (dk_at dksX1_step_0 1 rfl rfl)
theorem dX1_step_4 : decode cX1_step 4 = .ok (.iload_n 1, 1) := dk_27 (dk_at dksX1_step_0 4 rfl rfl)
theorem dX1_step_5 : decode cX1_step 5 = .ok (.iconst 1, 1) := dk_4 (dk_at dksX1_step_0 5 rfl rfl)
theorem dX1_step_6 : decode cX1_step 6 = .ok (.invokevirtual 192, 3) := dk_182 0 192 (dk_at dksX1_step_0 6 rfl rfl)
theorem dX1_step_9 : decode cX1_step 9 = .ok (.iload_n 2, 1) := dk_28 (dk_at dksX1_step_0 9 rfl rfl)
theorem dX1_step_10 : decode cX1_step 10 = .ok (.iconst 0, 1) := dk_3 (dk_at dksX1_step_0 10 rfl rfl)
theorem dX1_step_11 : decode cX1_step 11 = .ok (.aload_n 0, 1) := dk_42 (dk_at dksX1_step_0 11 rfl rfl)
theorem dX1_step_12 : decode cX1_step 12 = .ok (.getfield 31, 3) := dk_180 0 31 (dk_at dksX1_step_0 12 rfl rfl)
theorem dX1_step_15 : decode cX1_step 15 = .ok (.getfield 199, 3) := dk_180 0 199 (dk_at dksX1_step_0 15 rfl rfl)
theorem dX1_step_18 : decode cX1_step 18 = .ok (.iconst 1, 1) := dk_4 (dk_at dksX1_step_0 18 rfl rfl)
theorem dX1_step_19 : decode cX1_step 19 = .ok (.isub, 1) := dk_100 (dk_at dksX1_step_0 19 rfl rfl)
theorem dX1_step_20 : decode cX1_step 20 = .ok (.invokestatic 73, 3) := dk_184 0 73 (dk_at dksX1_step_0 20 rfl rfl)
theorem dX1_step_23 : decode cX1_step 23 = .ok (.ifCond .eq 15, 3) := dk_153 0 15 (dk_at dksX1_step_1 0 rfl rfl)
theorem dX1_step_26 : decode cX1_step 26 = .ok (.aload_n 0, 1) := dk_42 (dk_at dksX1_step_1 3 rfl rfl)
theorem dX1_step_27 : decode cX1_step 27 = .ok (.getfield 31, 3) := dk_180 0 31 (dk_at dksX1_step_1 4 rfl rfl)
theorem dX1_step_30 : decode cX1_step 30 = .ok (.getfield 219, 3) := dk_180 0 219 (dk_at dksX1_step_1 7 rfl rfl)
theorem dX1_step_33 : decode cX1_step 33 = .ok (.iload_n 2, 1) := dk_28 (dk_at dksX1_step_1 10 rfl rfl)
theorem dX1_step_34 : decode cX1_step 34 = .ok (.iaload, 1) := dk_46 (dk_at dksX1_step_1 11 rfl rfl)
theorem dX1_step_35 : decode cX1_step 35 = .ok (.goto 4, 3) := dk_167 0 4 (dk_at dksX1_step_1 12 rfl rfl)
theorem dX1_step_38 : decode cX1_step 38 = .ok (.iconst (-1), 1) := dk_2 (dk_at dksX1_step_1 15 rfl rfl)
theorem dX1_step_39 : decode cX1_step 39 = .ok (.ireturn, 1) := dk_172 (dk_at dksX1_step_1 16 rfl rfl)
def dkwX1_said_1 : List UInt8 := [153, 0, 15, 42, 180, 0, 31, 180, 0, 222, 28, 46, 167, 0, 5, 18, 225, 172]
abbrev dktX1_said_1 : List UInt8 := dkwX1_said_1 ++ []
def dkwX1_said_0 : List UInt8 := [42, 180, 0, 31, 27, 4, 182, 0, 192, 28, 3, 42, 180, 0, 31, 180, 0, 207, 4, 100, 184, 0, 73]
abbrev dktX1_said_0 : List UInt8 := dkwX1_said_0 ++ dktX1_said_1
theorem dksX1_said_0 : cX1_said.data.toList.drop 0 = dktX1_said_0 := by decide +kernel
theorem dksX1_said_1 : cX1_said.data.toList.drop 23 = dktX1_said_1 := dk_seg dksX1_said_0 23 rfl rfl
theorem dX1_said_0 : decode cX1_said 0 = .ok (.aload_n 0, 1) := dk_42 (dk_at dksX1_said_0 0 rfl rfl)
theorem dX1_said_1 : decode cX1_said 1 = .ok (.getfield 31, 3) := dk_180 0 31 (dk_at dksX1_said_0 1 rfl rfl)
theorem dX1_said_4 : decode cX1_said 4 = .ok (.iload_n 1, 1) := dk_27 (dk_at dksX1_said_0 4 rfl rfl)
theorem dX1_said_5 : decode cX1_said 5 = .ok (.iconst 1, 1) := dk_4 (dk_at dksX1_said_0 5 rfl rfl)
theorem dX1_said_6 : decode cX1_said 6 = .ok (.invokevirtual 192, 3) := dk_182 0 192 (dk_at dksX1_said_0 6 rfl rfl)
theorem dX1_said_9 : decode cX1_said 9 = .ok (.iload_n 2, 1) := dk_28 (dk_at dksX1_said_0 9 rfl rfl)
theorem dX1_said_10 : decode cX1_said 10 = .ok (.iconst 0, 1) := dk_3 (dk_at dksX1_said_0 10 rfl rfl)
theorem dX1_said_11 : decode cX1_said 11 = .ok (.aload_n 0, 1) := dk_42 (dk_at dksX1_said_0 11 rfl rfl)
theorem dX1_said_12 : decode cX1_said 12 = .ok (.getfield 31, 3) := dk_180 0 31 (dk_at dksX1_said_0 12 rfl rfl)
theorem dX1_said_15 : decode cX1_said 15 = .ok (.getfield 207, 3) := dk_180 0 207 (dk_at dksX1_said_0 15 rfl rfl)
theorem dX1_said_18 : decode cX1_said 18 = .ok (.iconst 1, 1) := dk_4 (dk_at dksX1_said_0 18 rfl rfl)
theorem dX1_said_19 : decode cX1_said 19 = .ok (.isub, 1) := dk_100 (dk_at dksX1_said_0 19 rfl rfl)
theorem dX1_said_20 : decode cX1_said 20 = .ok (.invokestatic 73, 3) := dk_184 0 73 (dk_at dksX1_said_0 20 rfl rfl)
theorem dX1_said_23 : decode cX1_said 23 = .ok (.ifCond .eq 15, 3) := dk_153 0 15 (dk_at dksX1_said_1 0 rfl rfl)
theorem dX1_said_26 : decode cX1_said 26 = .ok (.aload_n 0, 1) := dk_42 (dk_at dksX1_said_1 3 rfl rfl)
theorem dX1_said_27 : decode cX1_said 27 = .ok (.getfield 31, 3) := dk_180 0 31 (dk_at dksX1_said_1 4 rfl rfl)
theorem dX1_said_30 : decode cX1_said 30 = .ok (.getfield 222, 3) := dk_180 0 222 (dk_at dksX1_said_1 7 rfl rfl)
theorem dX1_said_33 : decode cX1_said 33 = .ok (.iload_n 2, 1) := dk_28 (dk_at dksX1_said_1 10 rfl rfl)
theorem dX1_said_34 : decode cX1_said 34 = .ok (.iaload, 1) := dk_46 (dk_at dksX1_said_1 11 rfl rfl)
theorem dX1_said_35 : decode cX1_said 35 = .ok (.goto 5, 3) := dk_167 0 5 (dk_at dksX1_said_1 12 rfl rfl)
theorem dX1_said_38 : decode cX1_said 38 = .ok (.ldc 225, 2) := dk_18 225 (dk_at dksX1_said_1 15 rfl rfl)
theorem dX1_said_40 : decode cX1_said 40 = .ok (.ireturn, 1) := dk_172 (dk_at dksX1_said_1 17 rfl rfl)
def dkwX1_marks_7 : List UInt8 := [132, 4, 1, 167, 255, 98, 27, 172]
abbrev dktX1_marks_7 : List UInt8 := dkwX1_marks_7 ++ []
def dkwX1_marks_6 : List UInt8 := [182, 1, 102, 129, 55, 7, 4, 54, 9, 132, 10, 1, 167, 255, 179, 167, 255, 165, 32, 22, 5, 129, 65]
abbrev dktX1_marks_6 : List UInt8 := dkwX1_marks_6 ++ dktX1_marks_7
def dkwX1_marks_5 : List UInt8 := [9, 148, 154, 0, 6, 167, 0, 27, 22, 5, 21, 10, 184, 1, 99, 129, 55, 5, 22, 7, 42, 21, 10]
abbrev dktX1_marks_5 : List UInt8 := dkwX1_marks_5 ++ dktX1_marks_6
def dkwX1_marks_4 : List UInt8 := [153, 0, 56, 22, 5, 21, 10, 123, 10, 127, 10, 148, 153, 0, 44, 42, 21, 10, 182, 1, 102, 22, 7, 127]
abbrev dktX1_marks_4 : List UInt8 := dkwX1_marks_4 ++ dktX1_marks_5
def dkwX1_marks_3 : List UInt8 := [54, 9, 3, 54, 10, 21, 10, 42, 180, 0, 19, 180, 0, 70, 162, 0, 71, 42, 21, 10, 182, 1, 95]
abbrev dktX1_marks_3 : List UInt8 := dkwX1_marks_3 ++ dktX1_marks_4
def dkwX1_marks_2 : List UInt8 := [21, 4, 184, 1, 99, 55, 5, 42, 21, 4, 182, 1, 102, 55, 7, 4, 54, 9, 21, 9, 153, 0, 92, 3]
abbrev dktX1_marks_2 : List UInt8 := dkwX1_marks_2 ++ dktX1_marks_3
def dkwX1_marks_1 : List UInt8 := [182, 1, 95, 153, 0, 137, 32, 21, 4, 123, 10, 127, 10, 148, 154, 0, 6, 167, 0, 123, 132, 1, 1]
abbrev dktX1_marks_1 : List UInt8 := dkwX1_marks_1 ++ dktX1_marks_2
def dkwX1_marks_0 : List UInt8 := [3, 60, 9, 65, 3, 54, 4, 21, 4, 42, 180, 0, 19, 180, 0, 70, 162, 0, 152, 42, 21, 4]
abbrev dktX1_marks_0 : List UInt8 := dkwX1_marks_0 ++ dktX1_marks_1
theorem dksX1_marks_0 : cX1_marks.data.toList.drop 0 = dktX1_marks_0 := by decide +kernel
theorem dksX1_marks_1 : cX1_marks.data.toList.drop 22 = dktX1_marks_1 := dk_seg dksX1_marks_0 22 rfl rfl
theorem dksX1_marks_2 : cX1_marks.data.toList.drop 45 = dktX1_marks_2 := dk_seg dksX1_marks_1 23 rfl rfl
theorem dksX1_marks_3 : cX1_marks.data.toList.drop 69 = dktX1_marks_3 := dk_seg dksX1_marks_2 24 rfl rfl
theorem dksX1_marks_4 : cX1_marks.data.toList.drop 92 = dktX1_marks_4 := dk_seg dksX1_marks_3 23 rfl rfl
theorem dksX1_marks_5 : cX1_marks.data.toList.drop 116 = dktX1_marks_5 := dk_seg dksX1_marks_4 24 rfl rfl
theorem dksX1_marks_6 : cX1_marks.data.toList.drop 139 = dktX1_marks_6 := dk_seg dksX1_marks_5 23 rfl rfl
theorem dksX1_marks_7 : cX1_marks.data.toList.drop 162 = dktX1_marks_7 := dk_seg dksX1_marks_6 23 rfl rfl
theorem dX1_marks_0 : decode cX1_marks 0 = .ok (.iconst 0, 1) := dk_3 (dk_at dksX1_marks_0 0 rfl rfl)
theorem dX1_marks_1 : decode cX1_marks 1 = .ok (.istore_n 1, 1) := dk_60 (dk_at dksX1_marks_0 1 rfl rfl)
theorem dX1_marks_2 : decode cX1_marks 2 = .ok (.lconst 0, 1) := dk_9 (dk_at dksX1_marks_0 2 rfl rfl)
theorem dX1_marks_3 : decode cX1_marks 3 = .ok (.lstore_n 2, 1) := dk_65 (dk_at dksX1_marks_0 3 rfl rfl)
theorem dX1_marks_4 : decode cX1_marks 4 = .ok (.iconst 0, 1) := dk_3 (dk_at dksX1_marks_0 4 rfl rfl)
theorem dX1_marks_5 : decode cX1_marks 5 = .ok (.istore 4, 2) := dk_54 4 (dk_at dksX1_marks_0 5 rfl rfl)
theorem dX1_marks_7 : decode cX1_marks 7 = .ok (.iload 4, 2) := dk_21 4 (dk_at dksX1_marks_0 7 rfl rfl)
theorem dX1_marks_9 : decode cX1_marks 9 = .ok (.aload_n 0, 1) := dk_42 (dk_at dksX1_marks_0 9 rfl rfl)
theorem dX1_marks_10 : decode cX1_marks 10 = .ok (.getfield 19, 3) := dk_180 0 19 (dk_at dksX1_marks_0 10 rfl rfl)
theorem dX1_marks_13 : decode cX1_marks 13 = .ok (.getfield 70, 3) := dk_180 0 70 (dk_at dksX1_marks_0 13 rfl rfl)
theorem dX1_marks_16 : decode cX1_marks 16 = .ok (.if_icmp .ge 152, 3) := dk_162 0 152 (dk_at dksX1_marks_0 16 rfl rfl)
theorem dX1_marks_19 : decode cX1_marks 19 = .ok (.aload_n 0, 1) := dk_42 (dk_at dksX1_marks_0 19 rfl rfl)
theorem dX1_marks_20 : decode cX1_marks 20 = .ok (.iload 4, 2) := dk_21 4 (dk_at dksX1_marks_0 20 rfl rfl)
theorem dX1_marks_22 : decode cX1_marks 22 = .ok (.invokevirtual 351, 3) := dk_182 1 95 (dk_at dksX1_marks_1 0 rfl rfl)
theorem dX1_marks_25 : decode cX1_marks 25 = .ok (.ifCond .eq 137, 3) := dk_153 0 137 (dk_at dksX1_marks_1 3 rfl rfl)
theorem dX1_marks_28 : decode cX1_marks 28 = .ok (.lload_n 2, 1) := dk_32 (dk_at dksX1_marks_1 6 rfl rfl)
theorem dX1_marks_29 : decode cX1_marks 29 = .ok (.iload 4, 2) := dk_21 4 (dk_at dksX1_marks_1 7 rfl rfl)
theorem dX1_marks_31 : decode cX1_marks 31 = .ok (.lshr, 1) := dk_123 (dk_at dksX1_marks_1 9 rfl rfl)
theorem dX1_marks_32 : decode cX1_marks 32 = .ok (.lconst 1, 1) := dk_10 (dk_at dksX1_marks_1 10 rfl rfl)
theorem dX1_marks_33 : decode cX1_marks 33 = .ok (.land, 1) := dk_127 (dk_at dksX1_marks_1 11 rfl rfl)
theorem dX1_marks_34 : decode cX1_marks 34 = .ok (.lconst 1, 1) := dk_10 (dk_at dksX1_marks_1 12 rfl rfl)
theorem dX1_marks_35 : decode cX1_marks 35 = .ok (.lcmp, 1) := dk_148 (dk_at dksX1_marks_1 13 rfl rfl)
theorem dX1_marks_36 : decode cX1_marks 36 = .ok (.ifCond .ne 6, 3) := dk_154 0 6 (dk_at dksX1_marks_1 14 rfl rfl)
theorem dX1_marks_39 : decode cX1_marks 39 = .ok (.goto 123, 3) := dk_167 0 123 (dk_at dksX1_marks_1 17 rfl rfl)
theorem dX1_marks_42 : decode cX1_marks 42 = .ok (.iinc 1 1, 3) := dk_132 1 1 (dk_at dksX1_marks_1 20 rfl rfl)
theorem dX1_marks_45 : decode cX1_marks 45 = .ok (.iload 4, 2) := dk_21 4 (dk_at dksX1_marks_2 0 rfl rfl)
theorem dX1_marks_47 : decode cX1_marks 47 = .ok (.invokestatic 355, 3) := dk_184 1 99 (dk_at dksX1_marks_2 2 rfl rfl)
theorem dX1_marks_50 : decode cX1_marks 50 = .ok (.lstore 5, 2) := dk_55 5 (dk_at dksX1_marks_2 5 rfl rfl)
theorem dX1_marks_52 : decode cX1_marks 52 = .ok (.aload_n 0, 1) := dk_42 (dk_at dksX1_marks_2 7 rfl rfl)
theorem dX1_marks_53 : decode cX1_marks 53 = .ok (.iload 4, 2) := dk_21 4 (dk_at dksX1_marks_2 8 rfl rfl)
theorem dX1_marks_55 : decode cX1_marks 55 = .ok (.invokevirtual 358, 3) := dk_182 1 102 (dk_at dksX1_marks_2 10 rfl rfl)
theorem dX1_marks_58 : decode cX1_marks 58 = .ok (.lstore 7, 2) := dk_55 7 (dk_at dksX1_marks_2 13 rfl rfl)
theorem dX1_marks_60 : decode cX1_marks 60 = .ok (.iconst 1, 1) := dk_4 (dk_at dksX1_marks_2 15 rfl rfl)
theorem dX1_marks_61 : decode cX1_marks 61 = .ok (.istore 9, 2) := dk_54 9 (dk_at dksX1_marks_2 16 rfl rfl)
theorem dX1_marks_63 : decode cX1_marks 63 = .ok (.iload 9, 2) := dk_21 9 (dk_at dksX1_marks_2 18 rfl rfl)
theorem dX1_marks_65 : decode cX1_marks 65 = .ok (.ifCond .eq 92, 3) := dk_153 0 92 (dk_at dksX1_marks_2 20 rfl rfl)
theorem dX1_marks_68 : decode cX1_marks 68 = .ok (.iconst 0, 1) := dk_3 (dk_at dksX1_marks_2 23 rfl rfl)
theorem dX1_marks_69 : decode cX1_marks 69 = .ok (.istore 9, 2) := dk_54 9 (dk_at dksX1_marks_3 0 rfl rfl)
theorem dX1_marks_71 : decode cX1_marks 71 = .ok (.iconst 0, 1) := dk_3 (dk_at dksX1_marks_3 2 rfl rfl)
theorem dX1_marks_72 : decode cX1_marks 72 = .ok (.istore 10, 2) := dk_54 10 (dk_at dksX1_marks_3 3 rfl rfl)
theorem dX1_marks_74 : decode cX1_marks 74 = .ok (.iload 10, 2) := dk_21 10 (dk_at dksX1_marks_3 5 rfl rfl)
theorem dX1_marks_76 : decode cX1_marks 76 = .ok (.aload_n 0, 1) := dk_42 (dk_at dksX1_marks_3 7 rfl rfl)
theorem dX1_marks_77 : decode cX1_marks 77 = .ok (.getfield 19, 3) := dk_180 0 19 (dk_at dksX1_marks_3 8 rfl rfl)
theorem dX1_marks_80 : decode cX1_marks 80 = .ok (.getfield 70, 3) := dk_180 0 70 (dk_at dksX1_marks_3 11 rfl rfl)
theorem dX1_marks_83 : decode cX1_marks 83 = .ok (.if_icmp .ge 71, 3) := dk_162 0 71 (dk_at dksX1_marks_3 14 rfl rfl)
theorem dX1_marks_86 : decode cX1_marks 86 = .ok (.aload_n 0, 1) := dk_42 (dk_at dksX1_marks_3 17 rfl rfl)
theorem dX1_marks_87 : decode cX1_marks 87 = .ok (.iload 10, 2) := dk_21 10 (dk_at dksX1_marks_3 18 rfl rfl)
theorem dX1_marks_89 : decode cX1_marks 89 = .ok (.invokevirtual 351, 3) := dk_182 1 95 (dk_at dksX1_marks_3 20 rfl rfl)
theorem dX1_marks_92 : decode cX1_marks 92 = .ok (.ifCond .eq 56, 3) := dk_153 0 56 (dk_at dksX1_marks_4 0 rfl rfl)
theorem dX1_marks_95 : decode cX1_marks 95 = .ok (.lload 5, 2) := dk_22 5 (dk_at dksX1_marks_4 3 rfl rfl)
theorem dX1_marks_97 : decode cX1_marks 97 = .ok (.iload 10, 2) := dk_21 10 (dk_at dksX1_marks_4 5 rfl rfl)
theorem dX1_marks_99 : decode cX1_marks 99 = .ok (.lshr, 1) := dk_123 (dk_at dksX1_marks_4 7 rfl rfl)
theorem dX1_marks_100 : decode cX1_marks 100 = .ok (.lconst 1, 1) := dk_10 (dk_at dksX1_marks_4 8 rfl rfl)
theorem dX1_marks_101 : decode cX1_marks 101 = .ok (.land, 1) := dk_127 (dk_at dksX1_marks_4 9 rfl rfl)
theorem dX1_marks_102 : decode cX1_marks 102 = .ok (.lconst 1, 1) := dk_10 (dk_at dksX1_marks_4 10 rfl rfl)
theorem dX1_marks_103 : decode cX1_marks 103 = .ok (.lcmp, 1) := dk_148 (dk_at dksX1_marks_4 11 rfl rfl)
theorem dX1_marks_104 : decode cX1_marks 104 = .ok (.ifCond .eq 44, 3) := dk_153 0 44 (dk_at dksX1_marks_4 12 rfl rfl)
theorem dX1_marks_107 : decode cX1_marks 107 = .ok (.aload_n 0, 1) := dk_42 (dk_at dksX1_marks_4 15 rfl rfl)
theorem dX1_marks_108 : decode cX1_marks 108 = .ok (.iload 10, 2) := dk_21 10 (dk_at dksX1_marks_4 16 rfl rfl)
theorem dX1_marks_110 : decode cX1_marks 110 = .ok (.invokevirtual 358, 3) := dk_182 1 102 (dk_at dksX1_marks_4 18 rfl rfl)
theorem dX1_marks_113 : decode cX1_marks 113 = .ok (.lload 7, 2) := dk_22 7 (dk_at dksX1_marks_4 21 rfl rfl)
theorem dX1_marks_115 : decode cX1_marks 115 = .ok (.land, 1) := dk_127 (dk_at dksX1_marks_4 23 rfl rfl)
theorem dX1_marks_116 : decode cX1_marks 116 = .ok (.lconst 0, 1) := dk_9 (dk_at dksX1_marks_5 0 rfl rfl)
theorem dX1_marks_117 : decode cX1_marks 117 = .ok (.lcmp, 1) := dk_148 (dk_at dksX1_marks_5 1 rfl rfl)
theorem dX1_marks_118 : decode cX1_marks 118 = .ok (.ifCond .ne 6, 3) := dk_154 0 6 (dk_at dksX1_marks_5 2 rfl rfl)
theorem dX1_marks_121 : decode cX1_marks 121 = .ok (.goto 27, 3) := dk_167 0 27 (dk_at dksX1_marks_5 5 rfl rfl)
theorem dX1_marks_124 : decode cX1_marks 124 = .ok (.lload 5, 2) := dk_22 5 (dk_at dksX1_marks_5 8 rfl rfl)
theorem dX1_marks_126 : decode cX1_marks 126 = .ok (.iload 10, 2) := dk_21 10 (dk_at dksX1_marks_5 10 rfl rfl)
theorem dX1_marks_128 : decode cX1_marks 128 = .ok (.invokestatic 355, 3) := dk_184 1 99 (dk_at dksX1_marks_5 12 rfl rfl)
theorem dX1_marks_131 : decode cX1_marks 131 = .ok (.lor, 1) := dk_129 (dk_at dksX1_marks_5 15 rfl rfl)
theorem dX1_marks_132 : decode cX1_marks 132 = .ok (.lstore 5, 2) := dk_55 5 (dk_at dksX1_marks_5 16 rfl rfl)
theorem dX1_marks_134 : decode cX1_marks 134 = .ok (.lload 7, 2) := dk_22 7 (dk_at dksX1_marks_5 18 rfl rfl)
theorem dX1_marks_136 : decode cX1_marks 136 = .ok (.aload_n 0, 1) := dk_42 (dk_at dksX1_marks_5 20 rfl rfl)
theorem dX1_marks_137 : decode cX1_marks 137 = .ok (.iload 10, 2) := dk_21 10 (dk_at dksX1_marks_5 21 rfl rfl)
theorem dX1_marks_139 : decode cX1_marks 139 = .ok (.invokevirtual 358, 3) := dk_182 1 102 (dk_at dksX1_marks_6 0 rfl rfl)
theorem dX1_marks_142 : decode cX1_marks 142 = .ok (.lor, 1) := dk_129 (dk_at dksX1_marks_6 3 rfl rfl)
theorem dX1_marks_143 : decode cX1_marks 143 = .ok (.lstore 7, 2) := dk_55 7 (dk_at dksX1_marks_6 4 rfl rfl)
theorem dX1_marks_145 : decode cX1_marks 145 = .ok (.iconst 1, 1) := dk_4 (dk_at dksX1_marks_6 6 rfl rfl)
theorem dX1_marks_146 : decode cX1_marks 146 = .ok (.istore 9, 2) := dk_54 9 (dk_at dksX1_marks_6 7 rfl rfl)
theorem dX1_marks_148 : decode cX1_marks 148 = .ok (.iinc 10 1, 3) := dk_132 10 1 (dk_at dksX1_marks_6 9 rfl rfl)
theorem dX1_marks_151 : decode cX1_marks 151 = .ok (.goto (-77), 3) := dk_167 255 179 (dk_at dksX1_marks_6 12 rfl rfl)
theorem dX1_marks_154 : decode cX1_marks 154 = .ok (.goto (-91), 3) := dk_167 255 165 (dk_at dksX1_marks_6 15 rfl rfl)
theorem dX1_marks_157 : decode cX1_marks 157 = .ok (.lload_n 2, 1) := dk_32 (dk_at dksX1_marks_6 18 rfl rfl)
theorem dX1_marks_158 : decode cX1_marks 158 = .ok (.lload 5, 2) := dk_22 5 (dk_at dksX1_marks_6 19 rfl rfl)
theorem dX1_marks_160 : decode cX1_marks 160 = .ok (.lor, 1) := dk_129 (dk_at dksX1_marks_6 21 rfl rfl)
theorem dX1_marks_161 : decode cX1_marks 161 = .ok (.lstore_n 2, 1) := dk_65 (dk_at dksX1_marks_6 22 rfl rfl)
theorem dX1_marks_162 : decode cX1_marks 162 = .ok (.iinc 4 1, 3) := dk_132 4 1 (dk_at dksX1_marks_7 0 rfl rfl)
theorem dX1_marks_165 : decode cX1_marks 165 = .ok (.goto (-158), 3) := dk_167 255 98 (dk_at dksX1_marks_7 3 rfl rfl)
theorem dX1_marks_168 : decode cX1_marks 168 = .ok (.iload_n 1, 1) := dk_27 (dk_at dksX1_marks_7 6 rfl rfl)
theorem dX1_marks_169 : decode cX1_marks 169 = .ok (.ireturn, 1) := dk_172 (dk_at dksX1_marks_7 7 rfl rfl)
def dkwX1_isGuarded_1 : List UInt8 := [158, 0, 7, 4, 167, 0, 4, 3, 172]
abbrev dktX1_isGuarded_1 : List UInt8 := dkwX1_isGuarded_1 ++ []
def dkwX1_isGuarded_0 : List UInt8 := [42, 180, 0, 19, 180, 0, 81, 27, 50, 182, 0, 89, 153, 0, 19, 42, 180, 0, 19, 180, 0, 128, 27, 46]
abbrev dktX1_isGuarded_0 : List UInt8 := dkwX1_isGuarded_0 ++ dktX1_isGuarded_1
theorem dksX1_isGuarded_0 : cX1_isGuarded.data.toList.drop 0 = dktX1_isGuarded_0 := by decide +kernel
theorem dksX1_isGuarded_1 : cX1_isGuarded.data.toList.drop 24 = dktX1_isGuarded_1 := dk_seg dksX1_isGuarded_0 24 rfl rfl
theorem dX1_isGuarded_0 : decode cX1_isGuarded 0 = .ok (.aload_n 0, 1) := dk_42 (dk_at dksX1_isGuarded_0 0 rfl rfl)
theorem dX1_isGuarded_1 : decode cX1_isGuarded 1 = .ok (.getfield 19, 3) := dk_180 0 19 (dk_at dksX1_isGuarded_0 1 rfl rfl)
theorem dX1_isGuarded_4 : decode cX1_isGuarded 4 = .ok (.getfield 81, 3) := dk_180 0 81 (dk_at dksX1_isGuarded_0 4 rfl rfl)
theorem dX1_isGuarded_7 : decode cX1_isGuarded 7 = .ok (.iload_n 1, 1) := dk_27 (dk_at dksX1_isGuarded_0 7 rfl rfl)
theorem dX1_isGuarded_8 : decode cX1_isGuarded 8 = .ok (.aaload, 1) := dk_50 (dk_at dksX1_isGuarded_0 8 rfl rfl)
theorem dX1_isGuarded_9 : decode cX1_isGuarded 9 = .ok (.invokevirtual 89, 3) := dk_182 0 89 (dk_at dksX1_isGuarded_0 9 rfl rfl)
theorem dX1_isGuarded_12 : decode cX1_isGuarded 12 = .ok (.ifCond .eq 19, 3) := dk_153 0 19 (dk_at dksX1_isGuarded_0 12 rfl rfl)
theorem dX1_isGuarded_15 : decode cX1_isGuarded 15 = .ok (.aload_n 0, 1) := dk_42 (dk_at dksX1_isGuarded_0 15 rfl rfl)
theorem dX1_isGuarded_16 : decode cX1_isGuarded 16 = .ok (.getfield 19, 3) := dk_180 0 19 (dk_at dksX1_isGuarded_0 16 rfl rfl)
theorem dX1_isGuarded_19 : decode cX1_isGuarded 19 = .ok (.getfield 128, 3) := dk_180 0 128 (dk_at dksX1_isGuarded_0 19 rfl rfl)
theorem dX1_isGuarded_22 : decode cX1_isGuarded 22 = .ok (.iload_n 1, 1) := dk_27 (dk_at dksX1_isGuarded_0 22 rfl rfl)
theorem dX1_isGuarded_23 : decode cX1_isGuarded 23 = .ok (.iaload, 1) := dk_46 (dk_at dksX1_isGuarded_0 23 rfl rfl)
theorem dX1_isGuarded_24 : decode cX1_isGuarded 24 = .ok (.ifCond .le 7, 3) := dk_158 0 7 (dk_at dksX1_isGuarded_1 0 rfl rfl)
theorem dX1_isGuarded_27 : decode cX1_isGuarded 27 = .ok (.iconst 1, 1) := dk_4 (dk_at dksX1_isGuarded_1 3 rfl rfl)
theorem dX1_isGuarded_28 : decode cX1_isGuarded 28 = .ok (.goto 4, 3) := dk_167 0 4 (dk_at dksX1_isGuarded_1 4 rfl rfl)
theorem dX1_isGuarded_31 : decode cX1_isGuarded 31 = .ok (.iconst 0, 1) := dk_3 (dk_at dksX1_isGuarded_1 7 rfl rfl)
theorem dX1_isGuarded_32 : decode cX1_isGuarded 32 = .ok (.ireturn, 1) := dk_172 (dk_at dksX1_isGuarded_1 8 rfl rfl)
def dkwX1_bit_0 : List UInt8 := [26, 155, 0, 9, 26, 16, 40, 161, 0, 7, 9, 167, 0, 6, 10, 26, 121, 173]
abbrev dktX1_bit_0 : List UInt8 := dkwX1_bit_0 ++ []
theorem dksX1_bit_0 : cX1_bit.data.toList.drop 0 = dktX1_bit_0 := by decide +kernel
theorem dX1_bit_0 : decode cX1_bit 0 = .ok (.iload_n 0, 1) := dk_26 (dk_at dksX1_bit_0 0 rfl rfl)
theorem dX1_bit_1 : decode cX1_bit 1 = .ok (.ifCond .lt 9, 3) := dk_155 0 9 (dk_at dksX1_bit_0 1 rfl rfl)
theorem dX1_bit_4 : decode cX1_bit 4 = .ok (.iload_n 0, 1) := dk_26 (dk_at dksX1_bit_0 4 rfl rfl)
theorem dX1_bit_5 : decode cX1_bit 5 = .ok (.bipush 40, 2) := dk_16 40 (dk_at dksX1_bit_0 5 rfl rfl)
theorem dX1_bit_7 : decode cX1_bit 7 = .ok (.if_icmp .lt 7, 3) := dk_161 0 7 (dk_at dksX1_bit_0 7 rfl rfl)
theorem dX1_bit_10 : decode cX1_bit 10 = .ok (.lconst 0, 1) := dk_9 (dk_at dksX1_bit_0 10 rfl rfl)
theorem dX1_bit_11 : decode cX1_bit 11 = .ok (.goto 6, 3) := dk_167 0 6 (dk_at dksX1_bit_0 11 rfl rfl)
theorem dX1_bit_14 : decode cX1_bit 14 = .ok (.lconst 1, 1) := dk_10 (dk_at dksX1_bit_0 14 rfl rfl)
theorem dX1_bit_15 : decode cX1_bit 15 = .ok (.iload_n 0, 1) := dk_26 (dk_at dksX1_bit_0 15 rfl rfl)
theorem dX1_bit_16 : decode cX1_bit 16 = .ok (.lshl, 1) := dk_121 (dk_at dksX1_bit_0 16 rfl rfl)
theorem dX1_bit_17 : decode cX1_bit 17 = .ok (.lreturn, 1) := dk_173 (dk_at dksX1_bit_0 17 rfl rfl)
def dkwX1_letsOf_0 : List UInt8 := [42, 180, 0, 19, 27, 42, 180, 0, 19, 180, 0, 128, 27, 46, 182, 0, 161, 173]
abbrev dktX1_letsOf_0 : List UInt8 := dkwX1_letsOf_0 ++ []
theorem dksX1_letsOf_0 : cX1_letsOf.data.toList.drop 0 = dktX1_letsOf_0 := by decide +kernel
theorem dX1_letsOf_0 : decode cX1_letsOf 0 = .ok (.aload_n 0, 1) := dk_42 (dk_at dksX1_letsOf_0 0 rfl rfl)
theorem dX1_letsOf_1 : decode cX1_letsOf 1 = .ok (.getfield 19, 3) := dk_180 0 19 (dk_at dksX1_letsOf_0 1 rfl rfl)
theorem dX1_letsOf_4 : decode cX1_letsOf 4 = .ok (.iload_n 1, 1) := dk_27 (dk_at dksX1_letsOf_0 4 rfl rfl)
theorem dX1_letsOf_5 : decode cX1_letsOf 5 = .ok (.aload_n 0, 1) := dk_42 (dk_at dksX1_letsOf_0 5 rfl rfl)
theorem dX1_letsOf_6 : decode cX1_letsOf 6 = .ok (.getfield 19, 3) := dk_180 0 19 (dk_at dksX1_letsOf_0 6 rfl rfl)
theorem dX1_letsOf_9 : decode cX1_letsOf 9 = .ok (.getfield 128, 3) := dk_180 0 128 (dk_at dksX1_letsOf_0 9 rfl rfl)
theorem dX1_letsOf_12 : decode cX1_letsOf 12 = .ok (.iload_n 1, 1) := dk_27 (dk_at dksX1_letsOf_0 12 rfl rfl)
theorem dX1_letsOf_13 : decode cX1_letsOf 13 = .ok (.iaload, 1) := dk_46 (dk_at dksX1_letsOf_0 13 rfl rfl)
theorem dX1_letsOf_14 : decode cX1_letsOf 14 = .ok (.invokevirtual 161, 3) := dk_182 0 161 (dk_at dksX1_letsOf_0 14 rfl rfl)
theorem dX1_letsOf_17 : decode cX1_letsOf 17 = .ok (.lreturn, 1) := dk_173 (dk_at dksX1_letsOf_0 17 rfl rfl)
def dkwX1_judge_3 : List UInt8 := [28, 172, 132, 2, 1, 167, 255, 210, 2, 172]
abbrev dktX1_judge_3 : List UInt8 := dkwX1_judge_3 ++ []
def dkwX1_judge_2 : List UInt8 := [180, 0, 12, 180, 0, 104, 28, 51, 17, 0, 255, 126, 42, 180, 0, 31, 180, 0, 219, 28, 46, 159, 0, 5]
abbrev dktX1_judge_2 : List UInt8 := dkwX1_judge_2 ++ dktX1_judge_3
def dkwX1_judge_1 : List UInt8 := [182, 0, 192, 3, 61, 28, 27, 162, 0, 47, 28, 42, 180, 0, 31, 180, 0, 199, 162, 0, 28, 42]
abbrev dktX1_judge_1 : List UInt8 := dkwX1_judge_1 ++ dktX1_judge_2
def dkwX1_judge_0 : List UInt8 := [42, 180, 0, 12, 180, 0, 108, 60, 42, 180, 0, 12, 3, 181, 0, 108, 42, 180, 0, 31, 4, 4]
abbrev dktX1_judge_0 : List UInt8 := dkwX1_judge_0 ++ dktX1_judge_1
theorem dksX1_judge_0 : cX1_judge.data.toList.drop 0 = dktX1_judge_0 := by decide +kernel
theorem dksX1_judge_1 : cX1_judge.data.toList.drop 22 = dktX1_judge_1 := dk_seg dksX1_judge_0 22 rfl rfl
theorem dksX1_judge_2 : cX1_judge.data.toList.drop 44 = dktX1_judge_2 := dk_seg dksX1_judge_1 22 rfl rfl
theorem dksX1_judge_3 : cX1_judge.data.toList.drop 68 = dktX1_judge_3 := dk_seg dksX1_judge_2 24 rfl rfl
theorem dX1_judge_0 : decode cX1_judge 0 = .ok (.aload_n 0, 1) := dk_42 (dk_at dksX1_judge_0 0 rfl rfl)
theorem dX1_judge_1 : decode cX1_judge 1 = .ok (.getfield 12, 3) := dk_180 0 12 (dk_at dksX1_judge_0 1 rfl rfl)
theorem dX1_judge_4 : decode cX1_judge 4 = .ok (.getfield 108, 3) := dk_180 0 108 (dk_at dksX1_judge_0 4 rfl rfl)
theorem dX1_judge_7 : decode cX1_judge 7 = .ok (.istore_n 1, 1) := dk_60 (dk_at dksX1_judge_0 7 rfl rfl)
theorem dX1_judge_8 : decode cX1_judge 8 = .ok (.aload_n 0, 1) := dk_42 (dk_at dksX1_judge_0 8 rfl rfl)
theorem dX1_judge_9 : decode cX1_judge 9 = .ok (.getfield 12, 3) := dk_180 0 12 (dk_at dksX1_judge_0 9 rfl rfl)
theorem dX1_judge_12 : decode cX1_judge 12 = .ok (.iconst 0, 1) := dk_3 (dk_at dksX1_judge_0 12 rfl rfl)
theorem dX1_judge_13 : decode cX1_judge 13 = .ok (.putfield 108, 3) := dk_181 0 108 (dk_at dksX1_judge_0 13 rfl rfl)
theorem dX1_judge_16 : decode cX1_judge 16 = .ok (.aload_n 0, 1) := dk_42 (dk_at dksX1_judge_0 16 rfl rfl)
theorem dX1_judge_17 : decode cX1_judge 17 = .ok (.getfield 31, 3) := dk_180 0 31 (dk_at dksX1_judge_0 17 rfl rfl)
theorem dX1_judge_20 : decode cX1_judge 20 = .ok (.iconst 1, 1) := dk_4 (dk_at dksX1_judge_0 20 rfl rfl)
theorem dX1_judge_21 : decode cX1_judge 21 = .ok (.iconst 1, 1) := dk_4 (dk_at dksX1_judge_0 21 rfl rfl)
theorem dX1_judge_22 : decode cX1_judge 22 = .ok (.invokevirtual 192, 3) := dk_182 0 192 (dk_at dksX1_judge_1 0 rfl rfl)
theorem dX1_judge_25 : decode cX1_judge 25 = .ok (.iconst 0, 1) := dk_3 (dk_at dksX1_judge_1 3 rfl rfl)
theorem dX1_judge_26 : decode cX1_judge 26 = .ok (.istore_n 2, 1) := dk_61 (dk_at dksX1_judge_1 4 rfl rfl)
theorem dX1_judge_27 : decode cX1_judge 27 = .ok (.iload_n 2, 1) := dk_28 (dk_at dksX1_judge_1 5 rfl rfl)
theorem dX1_judge_28 : decode cX1_judge 28 = .ok (.iload_n 1, 1) := dk_27 (dk_at dksX1_judge_1 6 rfl rfl)
theorem dX1_judge_29 : decode cX1_judge 29 = .ok (.if_icmp .ge 47, 3) := dk_162 0 47 (dk_at dksX1_judge_1 7 rfl rfl)
theorem dX1_judge_32 : decode cX1_judge 32 = .ok (.iload_n 2, 1) := dk_28 (dk_at dksX1_judge_1 10 rfl rfl)
theorem dX1_judge_33 : decode cX1_judge 33 = .ok (.aload_n 0, 1) := dk_42 (dk_at dksX1_judge_1 11 rfl rfl)
theorem dX1_judge_34 : decode cX1_judge 34 = .ok (.getfield 31, 3) := dk_180 0 31 (dk_at dksX1_judge_1 12 rfl rfl)
theorem dX1_judge_37 : decode cX1_judge 37 = .ok (.getfield 199, 3) := dk_180 0 199 (dk_at dksX1_judge_1 15 rfl rfl)
theorem dX1_judge_40 : decode cX1_judge 40 = .ok (.if_icmp .ge 28, 3) := dk_162 0 28 (dk_at dksX1_judge_1 18 rfl rfl)
theorem dX1_judge_43 : decode cX1_judge 43 = .ok (.aload_n 0, 1) := dk_42 (dk_at dksX1_judge_1 21 rfl rfl)
theorem dX1_judge_44 : decode cX1_judge 44 = .ok (.getfield 12, 3) := dk_180 0 12 (dk_at dksX1_judge_2 0 rfl rfl)
theorem dX1_judge_47 : decode cX1_judge 47 = .ok (.getfield 104, 3) := dk_180 0 104 (dk_at dksX1_judge_2 3 rfl rfl)
theorem dX1_judge_50 : decode cX1_judge 50 = .ok (.iload_n 2, 1) := dk_28 (dk_at dksX1_judge_2 6 rfl rfl)
theorem dX1_judge_51 : decode cX1_judge 51 = .ok (.baload, 1) := dk_51 (dk_at dksX1_judge_2 7 rfl rfl)
theorem dX1_judge_52 : decode cX1_judge 52 = .ok (.sipush 255, 3) := dk_17 0 255 (dk_at dksX1_judge_2 8 rfl rfl)
theorem dX1_judge_55 : decode cX1_judge 55 = .ok (.iand, 1) := dk_126 (dk_at dksX1_judge_2 11 rfl rfl)
theorem dX1_judge_56 : decode cX1_judge 56 = .ok (.aload_n 0, 1) := dk_42 (dk_at dksX1_judge_2 12 rfl rfl)
theorem dX1_judge_57 : decode cX1_judge 57 = .ok (.getfield 31, 3) := dk_180 0 31 (dk_at dksX1_judge_2 13 rfl rfl)
theorem dX1_judge_60 : decode cX1_judge 60 = .ok (.getfield 219, 3) := dk_180 0 219 (dk_at dksX1_judge_2 16 rfl rfl)
theorem dX1_judge_63 : decode cX1_judge 63 = .ok (.iload_n 2, 1) := dk_28 (dk_at dksX1_judge_2 19 rfl rfl)
theorem dX1_judge_64 : decode cX1_judge 64 = .ok (.iaload, 1) := dk_46 (dk_at dksX1_judge_2 20 rfl rfl)
theorem dX1_judge_65 : decode cX1_judge 65 = .ok (.if_icmp .eq 5, 3) := dk_159 0 5 (dk_at dksX1_judge_2 21 rfl rfl)
theorem dX1_judge_68 : decode cX1_judge 68 = .ok (.iload_n 2, 1) := dk_28 (dk_at dksX1_judge_3 0 rfl rfl)
theorem dX1_judge_69 : decode cX1_judge 69 = .ok (.ireturn, 1) := dk_172 (dk_at dksX1_judge_3 1 rfl rfl)
theorem dX1_judge_70 : decode cX1_judge 70 = .ok (.iinc 2 1, 3) := dk_132 2 1 (dk_at dksX1_judge_3 2 rfl rfl)
theorem dX1_judge_73 : decode cX1_judge 73 = .ok (.goto (-46), 3) := dk_167 255 210 (dk_at dksX1_judge_3 5 rfl rfl)
theorem dX1_judge_76 : decode cX1_judge 76 = .ok (.iconst (-1), 1) := dk_2 (dk_at dksX1_judge_3 8 rfl rfl)
theorem dX1_judge_77 : decode cX1_judge 77 = .ok (.ireturn, 1) := dk_172 (dk_at dksX1_judge_3 9 rfl rfl)
def dkwX1_image_0 : List UInt8 := [42, 180, 0, 23, 42, 180, 0, 19, 182, 1, 128, 42, 4, 181, 1, 131, 177]
abbrev dktX1_image_0 : List UInt8 := dkwX1_image_0 ++ []
theorem dksX1_image_0 : cX1_image.data.toList.drop 0 = dktX1_image_0 := by decide +kernel
theorem dX1_image_0 : decode cX1_image 0 = .ok (.aload_n 0, 1) := dk_42 (dk_at dksX1_image_0 0 rfl rfl)
theorem dX1_image_1 : decode cX1_image 1 = .ok (.getfield 23, 3) := dk_180 0 23 (dk_at dksX1_image_0 1 rfl rfl)
theorem dX1_image_4 : decode cX1_image 4 = .ok (.aload_n 0, 1) := dk_42 (dk_at dksX1_image_0 4 rfl rfl)
theorem dX1_image_5 : decode cX1_image 5 = .ok (.getfield 19, 3) := dk_180 0 19 (dk_at dksX1_image_0 5 rfl rfl)
theorem dX1_image_8 : decode cX1_image 8 = .ok (.invokevirtual 384, 3) := dk_182 1 128 (dk_at dksX1_image_0 8 rfl rfl)
theorem dX1_image_11 : decode cX1_image 11 = .ok (.aload_n 0, 1) := dk_42 (dk_at dksX1_image_0 11 rfl rfl)
theorem dX1_image_12 : decode cX1_image 12 = .ok (.iconst 1, 1) := dk_4 (dk_at dksX1_image_0 12 rfl rfl)
theorem dX1_image_13 : decode cX1_image 13 = .ok (.putfield 387, 3) := dk_181 1 131 (dk_at dksX1_image_0 13 rfl rfl)
theorem dX1_image_16 : decode cX1_image 16 = .ok (.return_, 1) := dk_177 (dk_at dksX1_image_0 16 rfl rfl)
def dkwX1_back_0 : List UInt8 := [42, 180, 1, 131, 153, 0, 14, 42, 180, 0, 19, 42, 180, 0, 23, 182, 1, 128, 42, 180, 1, 131, 172]
abbrev dktX1_back_0 : List UInt8 := dkwX1_back_0 ++ []
theorem dksX1_back_0 : cX1_back.data.toList.drop 0 = dktX1_back_0 := by decide +kernel
theorem dX1_back_0 : decode cX1_back 0 = .ok (.aload_n 0, 1) := dk_42 (dk_at dksX1_back_0 0 rfl rfl)
theorem dX1_back_1 : decode cX1_back 1 = .ok (.getfield 387, 3) := dk_180 1 131 (dk_at dksX1_back_0 1 rfl rfl)
theorem dX1_back_4 : decode cX1_back 4 = .ok (.ifCond .eq 14, 3) := dk_153 0 14 (dk_at dksX1_back_0 4 rfl rfl)
theorem dX1_back_7 : decode cX1_back 7 = .ok (.aload_n 0, 1) := dk_42 (dk_at dksX1_back_0 7 rfl rfl)
theorem dX1_back_8 : decode cX1_back 8 = .ok (.getfield 19, 3) := dk_180 0 19 (dk_at dksX1_back_0 8 rfl rfl)
theorem dX1_back_11 : decode cX1_back 11 = .ok (.aload_n 0, 1) := dk_42 (dk_at dksX1_back_0 11 rfl rfl)
theorem dX1_back_12 : decode cX1_back 12 = .ok (.getfield 23, 3) := dk_180 0 23 (dk_at dksX1_back_0 12 rfl rfl)
theorem dX1_back_15 : decode cX1_back 15 = .ok (.invokevirtual 384, 3) := dk_182 1 128 (dk_at dksX1_back_0 15 rfl rfl)
theorem dX1_back_18 : decode cX1_back 18 = .ok (.aload_n 0, 1) := dk_42 (dk_at dksX1_back_0 18 rfl rfl)
theorem dX1_back_19 : decode cX1_back 19 = .ok (.getfield 387, 3) := dk_180 1 131 (dk_at dksX1_back_0 19 rfl rfl)
theorem dX1_back_22 : decode cX1_back 22 = .ok (.ireturn, 1) := dk_172 (dk_at dksX1_back_0 22 rfl rfl)
def dkwX1_count_12 : List UInt8 := [2, 172]
abbrev dktX1_count_12 : List UInt8 := dkwX1_count_12 ++ []
def dkwX1_count_11 : List UInt8 := [160, 0, 7, 4, 167, 0, 4, 3, 96, 61, 132, 4, 1, 167, 255, 219, 132, 3, 1, 167, 255, 199, 28, 172]
abbrev dktX1_count_11 : List UInt8 := dkwX1_count_11 ++ dktX1_count_12
def dkwX1_count_10 : List UInt8 := [21, 4, 42, 180, 0, 19, 180, 0, 101, 162, 0, 31, 28, 42, 29, 21, 4, 182, 1, 68, 27, 16, 8, 100]
abbrev dktX1_count_10 : List UInt8 := dkwX1_count_10 ++ dktX1_count_11
def dkwX1_count_9 : List UInt8 := [180, 0, 171, 184, 1, 134, 172, 3, 62, 29, 42, 180, 0, 19, 180, 0, 98, 162, 0, 52, 3, 54, 4]
abbrev dktX1_count_9 : List UInt8 := dkwX1_count_9 ++ dktX1_count_10
def dkwX1_count_8 : List UInt8 := [160, 0, 7, 3, 167, 0, 4, 4, 96, 61, 132, 3, 1, 167, 255, 218, 28, 172, 42, 180, 0, 19]
abbrev dktX1_count_8 : List UInt8 := dkwX1_count_8 ++ dktX1_count_9
def dkwX1_count_7 : List UInt8 := [180, 0, 19, 180, 0, 70, 162, 0, 33, 28, 42, 180, 0, 19, 180, 0, 81, 29, 50, 180, 0, 138, 2]
abbrev dktX1_count_7 : List UInt8 := dkwX1_count_7 ++ dktX1_count_8
def dkwX1_count_6 : List UInt8 := [180, 0, 174, 172, 42, 180, 0, 19, 180, 0, 98, 172, 42, 180, 0, 19, 180, 0, 101, 172, 3, 62, 29, 42]
abbrev dktX1_count_6 : List UInt8 := dkwX1_count_6 ++ dktX1_count_7
def dkwX1_count_5 : List UInt8 := [153, 0, 7, 4, 167, 0, 4, 3, 96, 61, 132, 3, 1, 167, 255, 226, 28, 172, 42, 180, 0, 19]
abbrev dktX1_count_5 : List UInt8 := dkwX1_count_5 ++ dktX1_count_6
def dkwX1_count_4 : List UInt8 := [167, 255, 219, 28, 172, 3, 62, 29, 42, 180, 0, 19, 180, 0, 70, 162, 0, 25, 28, 42, 29, 182, 1, 95]
abbrev dktX1_count_4 : List UInt8 := dkwX1_count_4 ++ dktX1_count_5
def dkwX1_count_3 : List UInt8 := [180, 0, 19, 180, 0, 81, 29, 50, 182, 0, 89, 153, 0, 7, 4, 167, 0, 4, 3, 96, 61, 132, 3, 1]
abbrev dktX1_count_3 : List UInt8 := dkwX1_count_3 ++ dktX1_count_4
def dkwX1_count_2 : List UInt8 := [42, 180, 0, 19, 180, 0, 70, 172, 3, 62, 29, 42, 180, 0, 19, 180, 0, 70, 162, 0, 32, 28, 42]
abbrev dktX1_count_2 : List UInt8 := dkwX1_count_2 ++ dktX1_count_3
def dkwX1_count_1 : List UInt8 := [170, 0, 0, 1, 30, 0, 0, 0, 0, 0, 0, 0, 9, 0, 0, 0, 53, 0, 0, 0, 61, 0, 0, 0, 105, 0, 0, 0, 142, 0, 0, 0, 150, 0, 0, 0, 158, 0, 0, 0, 166, 0, 0, 0, 211, 0, 0, 0, 222, 0, 0, 0, 222]
abbrev dktX1_count_1 : List UInt8 := dkwX1_count_1 ++ dktX1_count_2
def dkwX1_count_0 : List UInt8 := [3, 61, 27]
abbrev dktX1_count_0 : List UInt8 := dkwX1_count_0 ++ dktX1_count_1
theorem dksX1_count_0 : cX1_count.data.toList.drop 0 = dktX1_count_0 := by decide +kernel
theorem dksX1_count_1 : cX1_count.data.toList.drop 3 = dktX1_count_1 := dk_seg dksX1_count_0 3 rfl rfl
theorem dksX1_count_2 : cX1_count.data.toList.drop 56 = dktX1_count_2 := dk_seg dksX1_count_1 53 rfl rfl
theorem dksX1_count_3 : cX1_count.data.toList.drop 79 = dktX1_count_3 := dk_seg dksX1_count_2 23 rfl rfl
theorem dksX1_count_4 : cX1_count.data.toList.drop 103 = dktX1_count_4 := dk_seg dksX1_count_3 24 rfl rfl
theorem dksX1_count_5 : cX1_count.data.toList.drop 127 = dktX1_count_5 := dk_seg dksX1_count_4 24 rfl rfl
theorem dksX1_count_6 : cX1_count.data.toList.drop 149 = dktX1_count_6 := dk_seg dksX1_count_5 22 rfl rfl
theorem dksX1_count_7 : cX1_count.data.toList.drop 173 = dktX1_count_7 := dk_seg dksX1_count_6 24 rfl rfl
theorem dksX1_count_8 : cX1_count.data.toList.drop 196 = dktX1_count_8 := dk_seg dksX1_count_7 23 rfl rfl
theorem dksX1_count_9 : cX1_count.data.toList.drop 218 = dktX1_count_9 := dk_seg dksX1_count_8 22 rfl rfl
theorem dksX1_count_10 : cX1_count.data.toList.drop 241 = dktX1_count_10 := dk_seg dksX1_count_9 23 rfl rfl
theorem dksX1_count_11 : cX1_count.data.toList.drop 265 = dktX1_count_11 := dk_seg dksX1_count_10 24 rfl rfl
theorem dksX1_count_12 : cX1_count.data.toList.drop 289 = dktX1_count_12 := dk_seg dksX1_count_11 24 rfl rfl
theorem dX1_count_0 : decode cX1_count 0 = .ok (.iconst 0, 1) := dk_3 (dk_at dksX1_count_0 0 rfl rfl)
theorem dX1_count_1 : decode cX1_count 1 = .ok (.istore_n 2, 1) := dk_61 (dk_at dksX1_count_0 1 rfl rfl)
theorem dX1_count_2 : decode cX1_count 2 = .ok (.iload_n 1, 1) := dk_27 (dk_at dksX1_count_0 2 rfl rfl)
theorem dX1_count_3 : decode cX1_count 3 = .ok (.tableswitch 286 0 9 #[53, 61, 105, 142, 150, 158, 166, 211, 222, 222], 53) := by decide +kernel
theorem dX1_count_56 : decode cX1_count 56 = .ok (.aload_n 0, 1) := dk_42 (dk_at dksX1_count_2 0 rfl rfl)
theorem dX1_count_57 : decode cX1_count 57 = .ok (.getfield 19, 3) := dk_180 0 19 (dk_at dksX1_count_2 1 rfl rfl)
theorem dX1_count_60 : decode cX1_count 60 = .ok (.getfield 70, 3) := dk_180 0 70 (dk_at dksX1_count_2 4 rfl rfl)
theorem dX1_count_63 : decode cX1_count 63 = .ok (.ireturn, 1) := dk_172 (dk_at dksX1_count_2 7 rfl rfl)
theorem dX1_count_64 : decode cX1_count 64 = .ok (.iconst 0, 1) := dk_3 (dk_at dksX1_count_2 8 rfl rfl)
theorem dX1_count_65 : decode cX1_count 65 = .ok (.istore_n 3, 1) := dk_62 (dk_at dksX1_count_2 9 rfl rfl)
theorem dX1_count_66 : decode cX1_count 66 = .ok (.iload_n 3, 1) := dk_29 (dk_at dksX1_count_2 10 rfl rfl)
theorem dX1_count_67 : decode cX1_count 67 = .ok (.aload_n 0, 1) := dk_42 (dk_at dksX1_count_2 11 rfl rfl)
theorem dX1_count_68 : decode cX1_count 68 = .ok (.getfield 19, 3) := dk_180 0 19 (dk_at dksX1_count_2 12 rfl rfl)
theorem dX1_count_71 : decode cX1_count 71 = .ok (.getfield 70, 3) := dk_180 0 70 (dk_at dksX1_count_2 15 rfl rfl)
theorem dX1_count_74 : decode cX1_count 74 = .ok (.if_icmp .ge 32, 3) := dk_162 0 32 (dk_at dksX1_count_2 18 rfl rfl)
theorem dX1_count_77 : decode cX1_count 77 = .ok (.iload_n 2, 1) := dk_28 (dk_at dksX1_count_2 21 rfl rfl)
theorem dX1_count_78 : decode cX1_count 78 = .ok (.aload_n 0, 1) := dk_42 (dk_at dksX1_count_2 22 rfl rfl)
theorem dX1_count_79 : decode cX1_count 79 = .ok (.getfield 19, 3) := dk_180 0 19 (dk_at dksX1_count_3 0 rfl rfl)
theorem dX1_count_82 : decode cX1_count 82 = .ok (.getfield 81, 3) := dk_180 0 81 (dk_at dksX1_count_3 3 rfl rfl)
theorem dX1_count_85 : decode cX1_count 85 = .ok (.iload_n 3, 1) := dk_29 (dk_at dksX1_count_3 6 rfl rfl)
theorem dX1_count_86 : decode cX1_count 86 = .ok (.aaload, 1) := dk_50 (dk_at dksX1_count_3 7 rfl rfl)
theorem dX1_count_87 : decode cX1_count 87 = .ok (.invokevirtual 89, 3) := dk_182 0 89 (dk_at dksX1_count_3 8 rfl rfl)
theorem dX1_count_90 : decode cX1_count 90 = .ok (.ifCond .eq 7, 3) := dk_153 0 7 (dk_at dksX1_count_3 11 rfl rfl)
theorem dX1_count_93 : decode cX1_count 93 = .ok (.iconst 1, 1) := dk_4 (dk_at dksX1_count_3 14 rfl rfl)
theorem dX1_count_94 : decode cX1_count 94 = .ok (.goto 4, 3) := dk_167 0 4 (dk_at dksX1_count_3 15 rfl rfl)
theorem dX1_count_97 : decode cX1_count 97 = .ok (.iconst 0, 1) := dk_3 (dk_at dksX1_count_3 18 rfl rfl)
theorem dX1_count_98 : decode cX1_count 98 = .ok (.iadd, 1) := dk_96 (dk_at dksX1_count_3 19 rfl rfl)
theorem dX1_count_99 : decode cX1_count 99 = .ok (.istore_n 2, 1) := dk_61 (dk_at dksX1_count_3 20 rfl rfl)
theorem dX1_count_100 : decode cX1_count 100 = .ok (.iinc 3 1, 3) := dk_132 3 1 (dk_at dksX1_count_3 21 rfl rfl)
theorem dX1_count_103 : decode cX1_count 103 = .ok (.goto (-37), 3) := dk_167 255 219 (dk_at dksX1_count_4 0 rfl rfl)
theorem dX1_count_106 : decode cX1_count 106 = .ok (.iload_n 2, 1) := dk_28 (dk_at dksX1_count_4 3 rfl rfl)
theorem dX1_count_107 : decode cX1_count 107 = .ok (.ireturn, 1) := dk_172 (dk_at dksX1_count_4 4 rfl rfl)
theorem dX1_count_108 : decode cX1_count 108 = .ok (.iconst 0, 1) := dk_3 (dk_at dksX1_count_4 5 rfl rfl)
theorem dX1_count_109 : decode cX1_count 109 = .ok (.istore_n 3, 1) := dk_62 (dk_at dksX1_count_4 6 rfl rfl)
theorem dX1_count_110 : decode cX1_count 110 = .ok (.iload_n 3, 1) := dk_29 (dk_at dksX1_count_4 7 rfl rfl)
theorem dX1_count_111 : decode cX1_count 111 = .ok (.aload_n 0, 1) := dk_42 (dk_at dksX1_count_4 8 rfl rfl)
theorem dX1_count_112 : decode cX1_count 112 = .ok (.getfield 19, 3) := dk_180 0 19 (dk_at dksX1_count_4 9 rfl rfl)
theorem dX1_count_115 : decode cX1_count 115 = .ok (.getfield 70, 3) := dk_180 0 70 (dk_at dksX1_count_4 12 rfl rfl)
theorem dX1_count_118 : decode cX1_count 118 = .ok (.if_icmp .ge 25, 3) := dk_162 0 25 (dk_at dksX1_count_4 15 rfl rfl)
theorem dX1_count_121 : decode cX1_count 121 = .ok (.iload_n 2, 1) := dk_28 (dk_at dksX1_count_4 18 rfl rfl)
theorem dX1_count_122 : decode cX1_count 122 = .ok (.aload_n 0, 1) := dk_42 (dk_at dksX1_count_4 19 rfl rfl)
theorem dX1_count_123 : decode cX1_count 123 = .ok (.iload_n 3, 1) := dk_29 (dk_at dksX1_count_4 20 rfl rfl)
theorem dX1_count_124 : decode cX1_count 124 = .ok (.invokevirtual 351, 3) := dk_182 1 95 (dk_at dksX1_count_4 21 rfl rfl)
theorem dX1_count_127 : decode cX1_count 127 = .ok (.ifCond .eq 7, 3) := dk_153 0 7 (dk_at dksX1_count_5 0 rfl rfl)
theorem dX1_count_130 : decode cX1_count 130 = .ok (.iconst 1, 1) := dk_4 (dk_at dksX1_count_5 3 rfl rfl)
theorem dX1_count_131 : decode cX1_count 131 = .ok (.goto 4, 3) := dk_167 0 4 (dk_at dksX1_count_5 4 rfl rfl)
theorem dX1_count_134 : decode cX1_count 134 = .ok (.iconst 0, 1) := dk_3 (dk_at dksX1_count_5 7 rfl rfl)
theorem dX1_count_135 : decode cX1_count 135 = .ok (.iadd, 1) := dk_96 (dk_at dksX1_count_5 8 rfl rfl)
theorem dX1_count_136 : decode cX1_count 136 = .ok (.istore_n 2, 1) := dk_61 (dk_at dksX1_count_5 9 rfl rfl)
theorem dX1_count_137 : decode cX1_count 137 = .ok (.iinc 3 1, 3) := dk_132 3 1 (dk_at dksX1_count_5 10 rfl rfl)
theorem dX1_count_140 : decode cX1_count 140 = .ok (.goto (-30), 3) := dk_167 255 226 (dk_at dksX1_count_5 13 rfl rfl)
theorem dX1_count_143 : decode cX1_count 143 = .ok (.iload_n 2, 1) := dk_28 (dk_at dksX1_count_5 16 rfl rfl)
theorem dX1_count_144 : decode cX1_count 144 = .ok (.ireturn, 1) := dk_172 (dk_at dksX1_count_5 17 rfl rfl)
theorem dX1_count_145 : decode cX1_count 145 = .ok (.aload_n 0, 1) := dk_42 (dk_at dksX1_count_5 18 rfl rfl)
theorem dX1_count_146 : decode cX1_count 146 = .ok (.getfield 19, 3) := dk_180 0 19 (dk_at dksX1_count_5 19 rfl rfl)
theorem dX1_count_149 : decode cX1_count 149 = .ok (.getfield 174, 3) := dk_180 0 174 (dk_at dksX1_count_6 0 rfl rfl)
theorem dX1_count_152 : decode cX1_count 152 = .ok (.ireturn, 1) := dk_172 (dk_at dksX1_count_6 3 rfl rfl)
theorem dX1_count_153 : decode cX1_count 153 = .ok (.aload_n 0, 1) := dk_42 (dk_at dksX1_count_6 4 rfl rfl)
theorem dX1_count_154 : decode cX1_count 154 = .ok (.getfield 19, 3) := dk_180 0 19 (dk_at dksX1_count_6 5 rfl rfl)
theorem dX1_count_157 : decode cX1_count 157 = .ok (.getfield 98, 3) := dk_180 0 98 (dk_at dksX1_count_6 8 rfl rfl)
theorem dX1_count_160 : decode cX1_count 160 = .ok (.ireturn, 1) := dk_172 (dk_at dksX1_count_6 11 rfl rfl)
theorem dX1_count_161 : decode cX1_count 161 = .ok (.aload_n 0, 1) := dk_42 (dk_at dksX1_count_6 12 rfl rfl)
theorem dX1_count_162 : decode cX1_count 162 = .ok (.getfield 19, 3) := dk_180 0 19 (dk_at dksX1_count_6 13 rfl rfl)
theorem dX1_count_165 : decode cX1_count 165 = .ok (.getfield 101, 3) := dk_180 0 101 (dk_at dksX1_count_6 16 rfl rfl)
theorem dX1_count_168 : decode cX1_count 168 = .ok (.ireturn, 1) := dk_172 (dk_at dksX1_count_6 19 rfl rfl)
theorem dX1_count_169 : decode cX1_count 169 = .ok (.iconst 0, 1) := dk_3 (dk_at dksX1_count_6 20 rfl rfl)
theorem dX1_count_170 : decode cX1_count 170 = .ok (.istore_n 3, 1) := dk_62 (dk_at dksX1_count_6 21 rfl rfl)
theorem dX1_count_171 : decode cX1_count 171 = .ok (.iload_n 3, 1) := dk_29 (dk_at dksX1_count_6 22 rfl rfl)
theorem dX1_count_172 : decode cX1_count 172 = .ok (.aload_n 0, 1) := dk_42 (dk_at dksX1_count_6 23 rfl rfl)
theorem dX1_count_173 : decode cX1_count 173 = .ok (.getfield 19, 3) := dk_180 0 19 (dk_at dksX1_count_7 0 rfl rfl)
theorem dX1_count_176 : decode cX1_count 176 = .ok (.getfield 70, 3) := dk_180 0 70 (dk_at dksX1_count_7 3 rfl rfl)
theorem dX1_count_179 : decode cX1_count 179 = .ok (.if_icmp .ge 33, 3) := dk_162 0 33 (dk_at dksX1_count_7 6 rfl rfl)
theorem dX1_count_182 : decode cX1_count 182 = .ok (.iload_n 2, 1) := dk_28 (dk_at dksX1_count_7 9 rfl rfl)
theorem dX1_count_183 : decode cX1_count 183 = .ok (.aload_n 0, 1) := dk_42 (dk_at dksX1_count_7 10 rfl rfl)
theorem dX1_count_184 : decode cX1_count 184 = .ok (.getfield 19, 3) := dk_180 0 19 (dk_at dksX1_count_7 11 rfl rfl)
theorem dX1_count_187 : decode cX1_count 187 = .ok (.getfield 81, 3) := dk_180 0 81 (dk_at dksX1_count_7 14 rfl rfl)
theorem dX1_count_190 : decode cX1_count 190 = .ok (.iload_n 3, 1) := dk_29 (dk_at dksX1_count_7 17 rfl rfl)
theorem dX1_count_191 : decode cX1_count 191 = .ok (.aaload, 1) := dk_50 (dk_at dksX1_count_7 18 rfl rfl)
theorem dX1_count_192 : decode cX1_count 192 = .ok (.getfield 138, 3) := dk_180 0 138 (dk_at dksX1_count_7 19 rfl rfl)
theorem dX1_count_195 : decode cX1_count 195 = .ok (.iconst (-1), 1) := dk_2 (dk_at dksX1_count_7 22 rfl rfl)
theorem dX1_count_196 : decode cX1_count 196 = .ok (.if_icmp .ne 7, 3) := dk_160 0 7 (dk_at dksX1_count_8 0 rfl rfl)
theorem dX1_count_199 : decode cX1_count 199 = .ok (.iconst 0, 1) := dk_3 (dk_at dksX1_count_8 3 rfl rfl)
theorem dX1_count_200 : decode cX1_count 200 = .ok (.goto 4, 3) := dk_167 0 4 (dk_at dksX1_count_8 4 rfl rfl)
theorem dX1_count_203 : decode cX1_count 203 = .ok (.iconst 1, 1) := dk_4 (dk_at dksX1_count_8 7 rfl rfl)
theorem dX1_count_204 : decode cX1_count 204 = .ok (.iadd, 1) := dk_96 (dk_at dksX1_count_8 8 rfl rfl)
theorem dX1_count_205 : decode cX1_count 205 = .ok (.istore_n 2, 1) := dk_61 (dk_at dksX1_count_8 9 rfl rfl)
theorem dX1_count_206 : decode cX1_count 206 = .ok (.iinc 3 1, 3) := dk_132 3 1 (dk_at dksX1_count_8 10 rfl rfl)
theorem dX1_count_209 : decode cX1_count 209 = .ok (.goto (-38), 3) := dk_167 255 218 (dk_at dksX1_count_8 13 rfl rfl)
theorem dX1_count_212 : decode cX1_count 212 = .ok (.iload_n 2, 1) := dk_28 (dk_at dksX1_count_8 16 rfl rfl)
theorem dX1_count_213 : decode cX1_count 213 = .ok (.ireturn, 1) := dk_172 (dk_at dksX1_count_8 17 rfl rfl)
theorem dX1_count_214 : decode cX1_count 214 = .ok (.aload_n 0, 1) := dk_42 (dk_at dksX1_count_8 18 rfl rfl)
theorem dX1_count_215 : decode cX1_count 215 = .ok (.getfield 19, 3) := dk_180 0 19 (dk_at dksX1_count_8 19 rfl rfl)
theorem dX1_count_218 : decode cX1_count 218 = .ok (.getfield 171, 3) := dk_180 0 171 (dk_at dksX1_count_9 0 rfl rfl)
theorem dX1_count_221 : decode cX1_count 221 = .ok (.invokestatic 390, 3) := dk_184 1 134 (dk_at dksX1_count_9 3 rfl rfl)
theorem dX1_count_224 : decode cX1_count 224 = .ok (.ireturn, 1) := dk_172 (dk_at dksX1_count_9 6 rfl rfl)
theorem dX1_count_225 : decode cX1_count 225 = .ok (.iconst 0, 1) := dk_3 (dk_at dksX1_count_9 7 rfl rfl)
theorem dX1_count_226 : decode cX1_count 226 = .ok (.istore_n 3, 1) := dk_62 (dk_at dksX1_count_9 8 rfl rfl)
theorem dX1_count_227 : decode cX1_count 227 = .ok (.iload_n 3, 1) := dk_29 (dk_at dksX1_count_9 9 rfl rfl)
theorem dX1_count_228 : decode cX1_count 228 = .ok (.aload_n 0, 1) := dk_42 (dk_at dksX1_count_9 10 rfl rfl)
theorem dX1_count_229 : decode cX1_count 229 = .ok (.getfield 19, 3) := dk_180 0 19 (dk_at dksX1_count_9 11 rfl rfl)
theorem dX1_count_232 : decode cX1_count 232 = .ok (.getfield 98, 3) := dk_180 0 98 (dk_at dksX1_count_9 14 rfl rfl)
theorem dX1_count_235 : decode cX1_count 235 = .ok (.if_icmp .ge 52, 3) := dk_162 0 52 (dk_at dksX1_count_9 17 rfl rfl)
theorem dX1_count_238 : decode cX1_count 238 = .ok (.iconst 0, 1) := dk_3 (dk_at dksX1_count_9 20 rfl rfl)
theorem dX1_count_239 : decode cX1_count 239 = .ok (.istore 4, 2) := dk_54 4 (dk_at dksX1_count_9 21 rfl rfl)
theorem dX1_count_241 : decode cX1_count 241 = .ok (.iload 4, 2) := dk_21 4 (dk_at dksX1_count_10 0 rfl rfl)
theorem dX1_count_243 : decode cX1_count 243 = .ok (.aload_n 0, 1) := dk_42 (dk_at dksX1_count_10 2 rfl rfl)
theorem dX1_count_244 : decode cX1_count 244 = .ok (.getfield 19, 3) := dk_180 0 19 (dk_at dksX1_count_10 3 rfl rfl)
theorem dX1_count_247 : decode cX1_count 247 = .ok (.getfield 101, 3) := dk_180 0 101 (dk_at dksX1_count_10 6 rfl rfl)
theorem dX1_count_250 : decode cX1_count 250 = .ok (.if_icmp .ge 31, 3) := dk_162 0 31 (dk_at dksX1_count_10 9 rfl rfl)
theorem dX1_count_253 : decode cX1_count 253 = .ok (.iload_n 2, 1) := dk_28 (dk_at dksX1_count_10 12 rfl rfl)
theorem dX1_count_254 : decode cX1_count 254 = .ok (.aload_n 0, 1) := dk_42 (dk_at dksX1_count_10 13 rfl rfl)
theorem dX1_count_255 : decode cX1_count 255 = .ok (.iload_n 3, 1) := dk_29 (dk_at dksX1_count_10 14 rfl rfl)
theorem dX1_count_256 : decode cX1_count 256 = .ok (.iload 4, 2) := dk_21 4 (dk_at dksX1_count_10 15 rfl rfl)
theorem dX1_count_258 : decode cX1_count 258 = .ok (.invokevirtual 324, 3) := dk_182 1 68 (dk_at dksX1_count_10 17 rfl rfl)
theorem dX1_count_261 : decode cX1_count 261 = .ok (.iload_n 1, 1) := dk_27 (dk_at dksX1_count_10 20 rfl rfl)
theorem dX1_count_262 : decode cX1_count 262 = .ok (.bipush 8, 2) := dk_16 8 (dk_at dksX1_count_10 21 rfl rfl)
theorem dX1_count_264 : decode cX1_count 264 = .ok (.isub, 1) := dk_100 (dk_at dksX1_count_10 23 rfl rfl)
theorem dX1_count_265 : decode cX1_count 265 = .ok (.if_icmp .ne 7, 3) := dk_160 0 7 (dk_at dksX1_count_11 0 rfl rfl)
theorem dX1_count_268 : decode cX1_count 268 = .ok (.iconst 1, 1) := dk_4 (dk_at dksX1_count_11 3 rfl rfl)
theorem dX1_count_269 : decode cX1_count 269 = .ok (.goto 4, 3) := dk_167 0 4 (dk_at dksX1_count_11 4 rfl rfl)
theorem dX1_count_272 : decode cX1_count 272 = .ok (.iconst 0, 1) := dk_3 (dk_at dksX1_count_11 7 rfl rfl)
theorem dX1_count_273 : decode cX1_count 273 = .ok (.iadd, 1) := dk_96 (dk_at dksX1_count_11 8 rfl rfl)
theorem dX1_count_274 : decode cX1_count 274 = .ok (.istore_n 2, 1) := dk_61 (dk_at dksX1_count_11 9 rfl rfl)
theorem dX1_count_275 : decode cX1_count 275 = .ok (.iinc 4 1, 3) := dk_132 4 1 (dk_at dksX1_count_11 10 rfl rfl)
theorem dX1_count_278 : decode cX1_count 278 = .ok (.goto (-37), 3) := dk_167 255 219 (dk_at dksX1_count_11 13 rfl rfl)
theorem dX1_count_281 : decode cX1_count 281 = .ok (.iinc 3 1, 3) := dk_132 3 1 (dk_at dksX1_count_11 16 rfl rfl)
theorem dX1_count_284 : decode cX1_count 284 = .ok (.goto (-57), 3) := dk_167 255 199 (dk_at dksX1_count_11 19 rfl rfl)
theorem dX1_count_287 : decode cX1_count 287 = .ok (.iload_n 2, 1) := dk_28 (dk_at dksX1_count_11 22 rfl rfl)
theorem dX1_count_288 : decode cX1_count 288 = .ok (.ireturn, 1) := dk_172 (dk_at dksX1_count_11 23 rfl rfl)
theorem dX1_count_289 : decode cX1_count 289 = .ok (.iconst (-1), 1) := dk_2 (dk_at dksX1_count_12 0 rfl rfl)
theorem dX1_count_290 : decode cX1_count 290 = .ok (.ireturn, 1) := dk_172 (dk_at dksX1_count_12 1 rfl rfl)
def dkwX1_reaches_1 : List UInt8 := [182, 1, 59, 153, 0, 7, 4, 167, 0, 4, 5, 172]
abbrev dktX1_reaches_1 : List UInt8 := dkwX1_reaches_1 ++ []
def dkwX1_reaches_0 : List UInt8 := [42, 27, 28, 182, 1, 56, 154, 0, 5, 3, 172, 42, 27, 42, 180, 0, 19, 180, 0, 237, 28, 46]
abbrev dktX1_reaches_0 : List UInt8 := dkwX1_reaches_0 ++ dktX1_reaches_1
theorem dksX1_reaches_0 : cX1_reaches.data.toList.drop 0 = dktX1_reaches_0 := by decide +kernel
theorem dksX1_reaches_1 : cX1_reaches.data.toList.drop 22 = dktX1_reaches_1 := dk_seg dksX1_reaches_0 22 rfl rfl
theorem dX1_reaches_0 : decode cX1_reaches 0 = .ok (.aload_n 0, 1) := dk_42 (dk_at dksX1_reaches_0 0 rfl rfl)
theorem dX1_reaches_1 : decode cX1_reaches 1 = .ok (.iload_n 1, 1) := dk_27 (dk_at dksX1_reaches_0 1 rfl rfl)
theorem dX1_reaches_2 : decode cX1_reaches 2 = .ok (.iload_n 2, 1) := dk_28 (dk_at dksX1_reaches_0 2 rfl rfl)
theorem dX1_reaches_3 : decode cX1_reaches 3 = .ok (.invokevirtual 312, 3) := dk_182 1 56 (dk_at dksX1_reaches_0 3 rfl rfl)
theorem dX1_reaches_6 : decode cX1_reaches 6 = .ok (.ifCond .ne 5, 3) := dk_154 0 5 (dk_at dksX1_reaches_0 6 rfl rfl)
theorem dX1_reaches_9 : decode cX1_reaches 9 = .ok (.iconst 0, 1) := dk_3 (dk_at dksX1_reaches_0 9 rfl rfl)
theorem dX1_reaches_10 : decode cX1_reaches 10 = .ok (.ireturn, 1) := dk_172 (dk_at dksX1_reaches_0 10 rfl rfl)
theorem dX1_reaches_11 : decode cX1_reaches 11 = .ok (.aload_n 0, 1) := dk_42 (dk_at dksX1_reaches_0 11 rfl rfl)
theorem dX1_reaches_12 : decode cX1_reaches 12 = .ok (.iload_n 1, 1) := dk_27 (dk_at dksX1_reaches_0 12 rfl rfl)
theorem dX1_reaches_13 : decode cX1_reaches 13 = .ok (.aload_n 0, 1) := dk_42 (dk_at dksX1_reaches_0 13 rfl rfl)
theorem dX1_reaches_14 : decode cX1_reaches 14 = .ok (.getfield 19, 3) := dk_180 0 19 (dk_at dksX1_reaches_0 14 rfl rfl)
theorem dX1_reaches_17 : decode cX1_reaches 17 = .ok (.getfield 237, 3) := dk_180 0 237 (dk_at dksX1_reaches_0 17 rfl rfl)
theorem dX1_reaches_20 : decode cX1_reaches 20 = .ok (.iload_n 2, 1) := dk_28 (dk_at dksX1_reaches_0 20 rfl rfl)
theorem dX1_reaches_21 : decode cX1_reaches 21 = .ok (.iaload, 1) := dk_46 (dk_at dksX1_reaches_0 21 rfl rfl)
theorem dX1_reaches_22 : decode cX1_reaches 22 = .ok (.invokevirtual 315, 3) := dk_182 1 59 (dk_at dksX1_reaches_1 0 rfl rfl)
theorem dX1_reaches_25 : decode cX1_reaches 25 = .ok (.ifCond .eq 7, 3) := dk_153 0 7 (dk_at dksX1_reaches_1 3 rfl rfl)
theorem dX1_reaches_28 : decode cX1_reaches 28 = .ok (.iconst 1, 1) := dk_4 (dk_at dksX1_reaches_1 6 rfl rfl)
theorem dX1_reaches_29 : decode cX1_reaches 29 = .ok (.goto 4, 3) := dk_167 0 4 (dk_at dksX1_reaches_1 7 rfl rfl)
theorem dX1_reaches_32 : decode cX1_reaches 32 = .ok (.iconst 2, 1) := dk_5 (dk_at dksX1_reaches_1 10 rfl rfl)
theorem dX1_reaches_33 : decode cX1_reaches 33 = .ok (.ireturn, 1) := dk_172 (dk_at dksX1_reaches_1 11 rfl rfl)
def dkwX1_finds_13 : List UInt8 := [21, 6, 79, 42, 89, 180, 0, 248, 4, 96, 181, 0, 248, 167, 255, 162, 4, 172]
abbrev dktX1_finds_13 : List UInt8 := dkwX1_finds_13 ++ []
def dkwX1_finds_12 : List UInt8 := [4, 100, 159, 0, 9, 132, 9, 1, 167, 255, 222, 21, 9, 54, 6, 42, 180, 0, 39, 42, 180, 0, 248]
abbrev dktX1_finds_12 : List UInt8 := dkwX1_finds_12 ++ dktX1_finds_13
def dkwX1_finds_11 : List UInt8 := [21, 9, 123, 10, 127, 9, 148, 153, 0, 22, 42, 180, 0, 35, 21, 9, 46, 42, 180, 0, 35, 21, 6, 46]
abbrev dktX1_finds_11 : List UInt8 := dkwX1_finds_11 ++ dktX1_finds_12
def dkwX1_finds_10 : List UInt8 := [42, 180, 0, 19, 21, 6, 42, 180, 0, 19, 180, 0, 128, 27, 182, 0, 244, 55, 7, 3, 54, 9, 22, 7]
abbrev dktX1_finds_10 : List UInt8 := dkwX1_finds_10 ++ dktX1_finds_11
def dkwX1_finds_9 : List UInt8 := [54, 6, 42, 180, 0, 39, 3, 3, 79, 42, 4, 181, 0, 248, 42, 180, 0, 35, 21, 6, 46, 158, 0, 90]
abbrev dktX1_finds_9 : List UInt8 := dkwX1_finds_9 ++ dktX1_finds_10
def dkwX1_finds_8 : List UInt8 := [180, 0, 19, 180, 0, 70, 153, 0, 14, 42, 180, 0, 35, 3, 46, 16, 40, 160, 0, 5, 3, 172, 3]
abbrev dktX1_finds_8 : List UInt8 := dkwX1_finds_8 ++ dktX1_finds_9
def dkwX1_finds_7 : List UInt8 := [54, 5, 132, 9, 1, 167, 255, 188, 132, 6, 1, 167, 255, 148, 167, 255, 134, 42, 3, 181, 0, 248, 42]
abbrev dktX1_finds_7 : List UInt8 := dkwX1_finds_7 ++ dktX1_finds_8
def dkwX1_finds_6 : List UInt8 := [161, 0, 6, 167, 0, 22, 42, 180, 0, 35, 21, 6, 42, 180, 0, 35, 21, 9, 46, 4, 96, 79, 4]
abbrev dktX1_finds_6 : List UInt8 := dkwX1_finds_6 ++ dktX1_finds_7
def dkwX1_finds_5 : List UInt8 := [123, 10, 127, 9, 148, 153, 0, 44, 42, 180, 0, 35, 21, 9, 46, 4, 96, 42, 180, 0, 35, 21, 6, 46]
abbrev dktX1_finds_5 : List UInt8 := dkwX1_finds_5 ++ dktX1_finds_6
def dkwX1_finds_4 : List UInt8 := [182, 0, 244, 55, 7, 3, 54, 9, 21, 9, 42, 180, 0, 19, 180, 0, 70, 162, 0, 62, 22, 7, 21, 9]
abbrev dktX1_finds_4 : List UInt8 := dkwX1_finds_4 ++ dktX1_finds_5
def dkwX1_finds_3 : List UInt8 := [180, 0, 19, 180, 0, 70, 162, 0, 102, 42, 180, 0, 19, 21, 6, 42, 180, 0, 19, 180, 0, 128, 27]
abbrev dktX1_finds_3 : List UInt8 := dkwX1_finds_3 ++ dktX1_finds_4
def dkwX1_finds_2 : List UInt8 := [132, 5, 1, 167, 255, 217, 4, 54, 5, 21, 5, 153, 0, 123, 3, 54, 5, 3, 54, 6, 21, 6, 42]
abbrev dktX1_finds_2 : List UInt8 := dkwX1_finds_2 ++ dktX1_finds_3
def dkwX1_finds_1 : List UInt8 := [42, 180, 0, 35, 21, 5, 33, 21, 5, 123, 10, 127, 10, 148, 154, 0, 7, 3, 167, 0, 5, 16, 40, 79]
abbrev dktX1_finds_1 : List UInt8 := dkwX1_finds_1 ++ dktX1_finds_2
def dkwX1_finds_0 : List UInt8 := [42, 180, 0, 19, 28, 182, 0, 240, 66, 3, 54, 5, 21, 5, 42, 180, 0, 19, 180, 0, 70, 162, 0, 33]
abbrev dktX1_finds_0 : List UInt8 := dkwX1_finds_0 ++ dktX1_finds_1
theorem dksX1_finds_0 : cX1_finds.data.toList.drop 0 = dktX1_finds_0 := by decide +kernel
theorem dksX1_finds_1 : cX1_finds.data.toList.drop 24 = dktX1_finds_1 := dk_seg dksX1_finds_0 24 rfl rfl
theorem dksX1_finds_2 : cX1_finds.data.toList.drop 48 = dktX1_finds_2 := dk_seg dksX1_finds_1 24 rfl rfl
theorem dksX1_finds_3 : cX1_finds.data.toList.drop 71 = dktX1_finds_3 := dk_seg dksX1_finds_2 23 rfl rfl
theorem dksX1_finds_4 : cX1_finds.data.toList.drop 94 = dktX1_finds_4 := dk_seg dksX1_finds_3 23 rfl rfl
theorem dksX1_finds_5 : cX1_finds.data.toList.drop 118 = dktX1_finds_5 := dk_seg dksX1_finds_4 24 rfl rfl
theorem dksX1_finds_6 : cX1_finds.data.toList.drop 142 = dktX1_finds_6 := dk_seg dksX1_finds_5 24 rfl rfl
theorem dksX1_finds_7 : cX1_finds.data.toList.drop 165 = dktX1_finds_7 := dk_seg dksX1_finds_6 23 rfl rfl
theorem dksX1_finds_8 : cX1_finds.data.toList.drop 188 = dktX1_finds_8 := dk_seg dksX1_finds_7 23 rfl rfl
theorem dksX1_finds_9 : cX1_finds.data.toList.drop 211 = dktX1_finds_9 := dk_seg dksX1_finds_8 23 rfl rfl
theorem dksX1_finds_10 : cX1_finds.data.toList.drop 235 = dktX1_finds_10 := dk_seg dksX1_finds_9 24 rfl rfl
theorem dksX1_finds_11 : cX1_finds.data.toList.drop 259 = dktX1_finds_11 := dk_seg dksX1_finds_10 24 rfl rfl
theorem dksX1_finds_12 : cX1_finds.data.toList.drop 283 = dktX1_finds_12 := dk_seg dksX1_finds_11 24 rfl rfl
theorem dksX1_finds_13 : cX1_finds.data.toList.drop 306 = dktX1_finds_13 := dk_seg dksX1_finds_12 23 rfl rfl
theorem dX1_finds_0 : decode cX1_finds 0 = .ok (.aload_n 0, 1) := dk_42 (dk_at dksX1_finds_0 0 rfl rfl)
theorem dX1_finds_1 : decode cX1_finds 1 = .ok (.getfield 19, 3) := dk_180 0 19 (dk_at dksX1_finds_0 1 rfl rfl)
theorem dX1_finds_4 : decode cX1_finds 4 = .ok (.iload_n 2, 1) := dk_28 (dk_at dksX1_finds_0 4 rfl rfl)
theorem dX1_finds_5 : decode cX1_finds 5 = .ok (.invokevirtual 240, 3) := dk_182 0 240 (dk_at dksX1_finds_0 5 rfl rfl)
theorem dX1_finds_8 : decode cX1_finds 8 = .ok (.lstore_n 3, 1) := dk_66 (dk_at dksX1_finds_0 8 rfl rfl)
theorem dX1_finds_9 : decode cX1_finds 9 = .ok (.iconst 0, 1) := dk_3 (dk_at dksX1_finds_0 9 rfl rfl)
theorem dX1_finds_10 : decode cX1_finds 10 = .ok (.istore 5, 2) := dk_54 5 (dk_at dksX1_finds_0 10 rfl rfl)
theorem dX1_finds_12 : decode cX1_finds 12 = .ok (.iload 5, 2) := dk_21 5 (dk_at dksX1_finds_0 12 rfl rfl)
theorem dX1_finds_14 : decode cX1_finds 14 = .ok (.aload_n 0, 1) := dk_42 (dk_at dksX1_finds_0 14 rfl rfl)
theorem dX1_finds_15 : decode cX1_finds 15 = .ok (.getfield 19, 3) := dk_180 0 19 (dk_at dksX1_finds_0 15 rfl rfl)
theorem dX1_finds_18 : decode cX1_finds 18 = .ok (.getfield 70, 3) := dk_180 0 70 (dk_at dksX1_finds_0 18 rfl rfl)
theorem dX1_finds_21 : decode cX1_finds 21 = .ok (.if_icmp .ge 33, 3) := dk_162 0 33 (dk_at dksX1_finds_0 21 rfl rfl)
theorem dX1_finds_24 : decode cX1_finds 24 = .ok (.aload_n 0, 1) := dk_42 (dk_at dksX1_finds_1 0 rfl rfl)
theorem dX1_finds_25 : decode cX1_finds 25 = .ok (.getfield 35, 3) := dk_180 0 35 (dk_at dksX1_finds_1 1 rfl rfl)
theorem dX1_finds_28 : decode cX1_finds 28 = .ok (.iload 5, 2) := dk_21 5 (dk_at dksX1_finds_1 4 rfl rfl)
theorem dX1_finds_30 : decode cX1_finds 30 = .ok (.lload_n 3, 1) := dk_33 (dk_at dksX1_finds_1 6 rfl rfl)
theorem dX1_finds_31 : decode cX1_finds 31 = .ok (.iload 5, 2) := dk_21 5 (dk_at dksX1_finds_1 7 rfl rfl)
theorem dX1_finds_33 : decode cX1_finds 33 = .ok (.lshr, 1) := dk_123 (dk_at dksX1_finds_1 9 rfl rfl)
theorem dX1_finds_34 : decode cX1_finds 34 = .ok (.lconst 1, 1) := dk_10 (dk_at dksX1_finds_1 10 rfl rfl)
theorem dX1_finds_35 : decode cX1_finds 35 = .ok (.land, 1) := dk_127 (dk_at dksX1_finds_1 11 rfl rfl)
theorem dX1_finds_36 : decode cX1_finds 36 = .ok (.lconst 1, 1) := dk_10 (dk_at dksX1_finds_1 12 rfl rfl)
theorem dX1_finds_37 : decode cX1_finds 37 = .ok (.lcmp, 1) := dk_148 (dk_at dksX1_finds_1 13 rfl rfl)
theorem dX1_finds_38 : decode cX1_finds 38 = .ok (.ifCond .ne 7, 3) := dk_154 0 7 (dk_at dksX1_finds_1 14 rfl rfl)
theorem dX1_finds_41 : decode cX1_finds 41 = .ok (.iconst 0, 1) := dk_3 (dk_at dksX1_finds_1 17 rfl rfl)
theorem dX1_finds_42 : decode cX1_finds 42 = .ok (.goto 5, 3) := dk_167 0 5 (dk_at dksX1_finds_1 18 rfl rfl)
theorem dX1_finds_45 : decode cX1_finds 45 = .ok (.bipush 40, 2) := dk_16 40 (dk_at dksX1_finds_1 21 rfl rfl)
theorem dX1_finds_47 : decode cX1_finds 47 = .ok (.iastore, 1) := dk_79 (dk_at dksX1_finds_1 23 rfl rfl)
theorem dX1_finds_48 : decode cX1_finds 48 = .ok (.iinc 5 1, 3) := dk_132 5 1 (dk_at dksX1_finds_2 0 rfl rfl)
theorem dX1_finds_51 : decode cX1_finds 51 = .ok (.goto (-39), 3) := dk_167 255 217 (dk_at dksX1_finds_2 3 rfl rfl)
theorem dX1_finds_54 : decode cX1_finds 54 = .ok (.iconst 1, 1) := dk_4 (dk_at dksX1_finds_2 6 rfl rfl)
theorem dX1_finds_55 : decode cX1_finds 55 = .ok (.istore 5, 2) := dk_54 5 (dk_at dksX1_finds_2 7 rfl rfl)
theorem dX1_finds_57 : decode cX1_finds 57 = .ok (.iload 5, 2) := dk_21 5 (dk_at dksX1_finds_2 9 rfl rfl)
theorem dX1_finds_59 : decode cX1_finds 59 = .ok (.ifCond .eq 123, 3) := dk_153 0 123 (dk_at dksX1_finds_2 11 rfl rfl)
theorem dX1_finds_62 : decode cX1_finds 62 = .ok (.iconst 0, 1) := dk_3 (dk_at dksX1_finds_2 14 rfl rfl)
theorem dX1_finds_63 : decode cX1_finds 63 = .ok (.istore 5, 2) := dk_54 5 (dk_at dksX1_finds_2 15 rfl rfl)
theorem dX1_finds_65 : decode cX1_finds 65 = .ok (.iconst 0, 1) := dk_3 (dk_at dksX1_finds_2 17 rfl rfl)
theorem dX1_finds_66 : decode cX1_finds 66 = .ok (.istore 6, 2) := dk_54 6 (dk_at dksX1_finds_2 18 rfl rfl)
theorem dX1_finds_68 : decode cX1_finds 68 = .ok (.iload 6, 2) := dk_21 6 (dk_at dksX1_finds_2 20 rfl rfl)
theorem dX1_finds_70 : decode cX1_finds 70 = .ok (.aload_n 0, 1) := dk_42 (dk_at dksX1_finds_2 22 rfl rfl)
theorem dX1_finds_71 : decode cX1_finds 71 = .ok (.getfield 19, 3) := dk_180 0 19 (dk_at dksX1_finds_3 0 rfl rfl)
theorem dX1_finds_74 : decode cX1_finds 74 = .ok (.getfield 70, 3) := dk_180 0 70 (dk_at dksX1_finds_3 3 rfl rfl)
theorem dX1_finds_77 : decode cX1_finds 77 = .ok (.if_icmp .ge 102, 3) := dk_162 0 102 (dk_at dksX1_finds_3 6 rfl rfl)
theorem dX1_finds_80 : decode cX1_finds 80 = .ok (.aload_n 0, 1) := dk_42 (dk_at dksX1_finds_3 9 rfl rfl)
theorem dX1_finds_81 : decode cX1_finds 81 = .ok (.getfield 19, 3) := dk_180 0 19 (dk_at dksX1_finds_3 10 rfl rfl)
theorem dX1_finds_84 : decode cX1_finds 84 = .ok (.iload 6, 2) := dk_21 6 (dk_at dksX1_finds_3 13 rfl rfl)
theorem dX1_finds_86 : decode cX1_finds 86 = .ok (.aload_n 0, 1) := dk_42 (dk_at dksX1_finds_3 15 rfl rfl)
theorem dX1_finds_87 : decode cX1_finds 87 = .ok (.getfield 19, 3) := dk_180 0 19 (dk_at dksX1_finds_3 16 rfl rfl)
theorem dX1_finds_90 : decode cX1_finds 90 = .ok (.getfield 128, 3) := dk_180 0 128 (dk_at dksX1_finds_3 19 rfl rfl)
theorem dX1_finds_93 : decode cX1_finds 93 = .ok (.iload_n 1, 1) := dk_27 (dk_at dksX1_finds_3 22 rfl rfl)
theorem dX1_finds_94 : decode cX1_finds 94 = .ok (.invokevirtual 244, 3) := dk_182 0 244 (dk_at dksX1_finds_4 0 rfl rfl)
theorem dX1_finds_97 : decode cX1_finds 97 = .ok (.lstore 7, 2) := dk_55 7 (dk_at dksX1_finds_4 3 rfl rfl)
theorem dX1_finds_99 : decode cX1_finds 99 = .ok (.iconst 0, 1) := dk_3 (dk_at dksX1_finds_4 5 rfl rfl)
theorem dX1_finds_100 : decode cX1_finds 100 = .ok (.istore 9, 2) := dk_54 9 (dk_at dksX1_finds_4 6 rfl rfl)
theorem dX1_finds_102 : decode cX1_finds 102 = .ok (.iload 9, 2) := dk_21 9 (dk_at dksX1_finds_4 8 rfl rfl)
theorem dX1_finds_104 : decode cX1_finds 104 = .ok (.aload_n 0, 1) := dk_42 (dk_at dksX1_finds_4 10 rfl rfl)
theorem dX1_finds_105 : decode cX1_finds 105 = .ok (.getfield 19, 3) := dk_180 0 19 (dk_at dksX1_finds_4 11 rfl rfl)
theorem dX1_finds_108 : decode cX1_finds 108 = .ok (.getfield 70, 3) := dk_180 0 70 (dk_at dksX1_finds_4 14 rfl rfl)
theorem dX1_finds_111 : decode cX1_finds 111 = .ok (.if_icmp .ge 62, 3) := dk_162 0 62 (dk_at dksX1_finds_4 17 rfl rfl)
theorem dX1_finds_114 : decode cX1_finds 114 = .ok (.lload 7, 2) := dk_22 7 (dk_at dksX1_finds_4 20 rfl rfl)
theorem dX1_finds_116 : decode cX1_finds 116 = .ok (.iload 9, 2) := dk_21 9 (dk_at dksX1_finds_4 22 rfl rfl)
theorem dX1_finds_118 : decode cX1_finds 118 = .ok (.lshr, 1) := dk_123 (dk_at dksX1_finds_5 0 rfl rfl)
theorem dX1_finds_119 : decode cX1_finds 119 = .ok (.lconst 1, 1) := dk_10 (dk_at dksX1_finds_5 1 rfl rfl)
theorem dX1_finds_120 : decode cX1_finds 120 = .ok (.land, 1) := dk_127 (dk_at dksX1_finds_5 2 rfl rfl)
theorem dX1_finds_121 : decode cX1_finds 121 = .ok (.lconst 0, 1) := dk_9 (dk_at dksX1_finds_5 3 rfl rfl)
theorem dX1_finds_122 : decode cX1_finds 122 = .ok (.lcmp, 1) := dk_148 (dk_at dksX1_finds_5 4 rfl rfl)
theorem dX1_finds_123 : decode cX1_finds 123 = .ok (.ifCond .eq 44, 3) := dk_153 0 44 (dk_at dksX1_finds_5 5 rfl rfl)
theorem dX1_finds_126 : decode cX1_finds 126 = .ok (.aload_n 0, 1) := dk_42 (dk_at dksX1_finds_5 8 rfl rfl)
theorem dX1_finds_127 : decode cX1_finds 127 = .ok (.getfield 35, 3) := dk_180 0 35 (dk_at dksX1_finds_5 9 rfl rfl)
theorem dX1_finds_130 : decode cX1_finds 130 = .ok (.iload 9, 2) := dk_21 9 (dk_at dksX1_finds_5 12 rfl rfl)
theorem dX1_finds_132 : decode cX1_finds 132 = .ok (.iaload, 1) := dk_46 (dk_at dksX1_finds_5 14 rfl rfl)
theorem dX1_finds_133 : decode cX1_finds 133 = .ok (.iconst 1, 1) := dk_4 (dk_at dksX1_finds_5 15 rfl rfl)
theorem dX1_finds_134 : decode cX1_finds 134 = .ok (.iadd, 1) := dk_96 (dk_at dksX1_finds_5 16 rfl rfl)
theorem dX1_finds_135 : decode cX1_finds 135 = .ok (.aload_n 0, 1) := dk_42 (dk_at dksX1_finds_5 17 rfl rfl)
theorem dX1_finds_136 : decode cX1_finds 136 = .ok (.getfield 35, 3) := dk_180 0 35 (dk_at dksX1_finds_5 18 rfl rfl)
theorem dX1_finds_139 : decode cX1_finds 139 = .ok (.iload 6, 2) := dk_21 6 (dk_at dksX1_finds_5 21 rfl rfl)
theorem dX1_finds_141 : decode cX1_finds 141 = .ok (.iaload, 1) := dk_46 (dk_at dksX1_finds_5 23 rfl rfl)
theorem dX1_finds_142 : decode cX1_finds 142 = .ok (.if_icmp .lt 6, 3) := dk_161 0 6 (dk_at dksX1_finds_6 0 rfl rfl)
theorem dX1_finds_145 : decode cX1_finds 145 = .ok (.goto 22, 3) := dk_167 0 22 (dk_at dksX1_finds_6 3 rfl rfl)
theorem dX1_finds_148 : decode cX1_finds 148 = .ok (.aload_n 0, 1) := dk_42 (dk_at dksX1_finds_6 6 rfl rfl)
theorem dX1_finds_149 : decode cX1_finds 149 = .ok (.getfield 35, 3) := dk_180 0 35 (dk_at dksX1_finds_6 7 rfl rfl)
theorem dX1_finds_152 : decode cX1_finds 152 = .ok (.iload 6, 2) := dk_21 6 (dk_at dksX1_finds_6 10 rfl rfl)
theorem dX1_finds_154 : decode cX1_finds 154 = .ok (.aload_n 0, 1) := dk_42 (dk_at dksX1_finds_6 12 rfl rfl)
theorem dX1_finds_155 : decode cX1_finds 155 = .ok (.getfield 35, 3) := dk_180 0 35 (dk_at dksX1_finds_6 13 rfl rfl)
theorem dX1_finds_158 : decode cX1_finds 158 = .ok (.iload 9, 2) := dk_21 9 (dk_at dksX1_finds_6 16 rfl rfl)
theorem dX1_finds_160 : decode cX1_finds 160 = .ok (.iaload, 1) := dk_46 (dk_at dksX1_finds_6 18 rfl rfl)
theorem dX1_finds_161 : decode cX1_finds 161 = .ok (.iconst 1, 1) := dk_4 (dk_at dksX1_finds_6 19 rfl rfl)
theorem dX1_finds_162 : decode cX1_finds 162 = .ok (.iadd, 1) := dk_96 (dk_at dksX1_finds_6 20 rfl rfl)
theorem dX1_finds_163 : decode cX1_finds 163 = .ok (.iastore, 1) := dk_79 (dk_at dksX1_finds_6 21 rfl rfl)
theorem dX1_finds_164 : decode cX1_finds 164 = .ok (.iconst 1, 1) := dk_4 (dk_at dksX1_finds_6 22 rfl rfl)
theorem dX1_finds_165 : decode cX1_finds 165 = .ok (.istore 5, 2) := dk_54 5 (dk_at dksX1_finds_7 0 rfl rfl)
theorem dX1_finds_167 : decode cX1_finds 167 = .ok (.iinc 9 1, 3) := dk_132 9 1 (dk_at dksX1_finds_7 2 rfl rfl)
theorem dX1_finds_170 : decode cX1_finds 170 = .ok (.goto (-68), 3) := dk_167 255 188 (dk_at dksX1_finds_7 5 rfl rfl)
theorem dX1_finds_173 : decode cX1_finds 173 = .ok (.iinc 6 1, 3) := dk_132 6 1 (dk_at dksX1_finds_7 8 rfl rfl)
theorem dX1_finds_176 : decode cX1_finds 176 = .ok (.goto (-108), 3) := dk_167 255 148 (dk_at dksX1_finds_7 11 rfl rfl)
theorem dX1_finds_179 : decode cX1_finds 179 = .ok (.goto (-122), 3) := dk_167 255 134 (dk_at dksX1_finds_7 14 rfl rfl)
theorem dX1_finds_182 : decode cX1_finds 182 = .ok (.aload_n 0, 1) := dk_42 (dk_at dksX1_finds_7 17 rfl rfl)
theorem dX1_finds_183 : decode cX1_finds 183 = .ok (.iconst 0, 1) := dk_3 (dk_at dksX1_finds_7 18 rfl rfl)
theorem dX1_finds_184 : decode cX1_finds 184 = .ok (.putfield 248, 3) := dk_181 0 248 (dk_at dksX1_finds_7 19 rfl rfl)
theorem dX1_finds_187 : decode cX1_finds 187 = .ok (.aload_n 0, 1) := dk_42 (dk_at dksX1_finds_7 22 rfl rfl)
theorem dX1_finds_188 : decode cX1_finds 188 = .ok (.getfield 19, 3) := dk_180 0 19 (dk_at dksX1_finds_8 0 rfl rfl)
theorem dX1_finds_191 : decode cX1_finds 191 = .ok (.getfield 70, 3) := dk_180 0 70 (dk_at dksX1_finds_8 3 rfl rfl)
theorem dX1_finds_194 : decode cX1_finds 194 = .ok (.ifCond .eq 14, 3) := dk_153 0 14 (dk_at dksX1_finds_8 6 rfl rfl)
theorem dX1_finds_197 : decode cX1_finds 197 = .ok (.aload_n 0, 1) := dk_42 (dk_at dksX1_finds_8 9 rfl rfl)
theorem dX1_finds_198 : decode cX1_finds 198 = .ok (.getfield 35, 3) := dk_180 0 35 (dk_at dksX1_finds_8 10 rfl rfl)
theorem dX1_finds_201 : decode cX1_finds 201 = .ok (.iconst 0, 1) := dk_3 (dk_at dksX1_finds_8 13 rfl rfl)
theorem dX1_finds_202 : decode cX1_finds 202 = .ok (.iaload, 1) := dk_46 (dk_at dksX1_finds_8 14 rfl rfl)
theorem dX1_finds_203 : decode cX1_finds 203 = .ok (.bipush 40, 2) := dk_16 40 (dk_at dksX1_finds_8 15 rfl rfl)
theorem dX1_finds_205 : decode cX1_finds 205 = .ok (.if_icmp .ne 5, 3) := dk_160 0 5 (dk_at dksX1_finds_8 17 rfl rfl)
theorem dX1_finds_208 : decode cX1_finds 208 = .ok (.iconst 0, 1) := dk_3 (dk_at dksX1_finds_8 20 rfl rfl)
theorem dX1_finds_209 : decode cX1_finds 209 = .ok (.ireturn, 1) := dk_172 (dk_at dksX1_finds_8 21 rfl rfl)
theorem dX1_finds_210 : decode cX1_finds 210 = .ok (.iconst 0, 1) := dk_3 (dk_at dksX1_finds_8 22 rfl rfl)
theorem dX1_finds_211 : decode cX1_finds 211 = .ok (.istore 6, 2) := dk_54 6 (dk_at dksX1_finds_9 0 rfl rfl)
theorem dX1_finds_213 : decode cX1_finds 213 = .ok (.aload_n 0, 1) := dk_42 (dk_at dksX1_finds_9 2 rfl rfl)
theorem dX1_finds_214 : decode cX1_finds 214 = .ok (.getfield 39, 3) := dk_180 0 39 (dk_at dksX1_finds_9 3 rfl rfl)
theorem dX1_finds_217 : decode cX1_finds 217 = .ok (.iconst 0, 1) := dk_3 (dk_at dksX1_finds_9 6 rfl rfl)
theorem dX1_finds_218 : decode cX1_finds 218 = .ok (.iconst 0, 1) := dk_3 (dk_at dksX1_finds_9 7 rfl rfl)
theorem dX1_finds_219 : decode cX1_finds 219 = .ok (.iastore, 1) := dk_79 (dk_at dksX1_finds_9 8 rfl rfl)
theorem dX1_finds_220 : decode cX1_finds 220 = .ok (.aload_n 0, 1) := dk_42 (dk_at dksX1_finds_9 9 rfl rfl)
theorem dX1_finds_221 : decode cX1_finds 221 = .ok (.iconst 1, 1) := dk_4 (dk_at dksX1_finds_9 10 rfl rfl)
theorem dX1_finds_222 : decode cX1_finds 222 = .ok (.putfield 248, 3) := dk_181 0 248 (dk_at dksX1_finds_9 11 rfl rfl)
theorem dX1_finds_225 : decode cX1_finds 225 = .ok (.aload_n 0, 1) := dk_42 (dk_at dksX1_finds_9 14 rfl rfl)
theorem dX1_finds_226 : decode cX1_finds 226 = .ok (.getfield 35, 3) := dk_180 0 35 (dk_at dksX1_finds_9 15 rfl rfl)
theorem dX1_finds_229 : decode cX1_finds 229 = .ok (.iload 6, 2) := dk_21 6 (dk_at dksX1_finds_9 18 rfl rfl)
theorem dX1_finds_231 : decode cX1_finds 231 = .ok (.iaload, 1) := dk_46 (dk_at dksX1_finds_9 20 rfl rfl)
theorem dX1_finds_232 : decode cX1_finds 232 = .ok (.ifCond .le 90, 3) := dk_158 0 90 (dk_at dksX1_finds_9 21 rfl rfl)
theorem dX1_finds_235 : decode cX1_finds 235 = .ok (.aload_n 0, 1) := dk_42 (dk_at dksX1_finds_10 0 rfl rfl)
theorem dX1_finds_236 : decode cX1_finds 236 = .ok (.getfield 19, 3) := dk_180 0 19 (dk_at dksX1_finds_10 1 rfl rfl)
theorem dX1_finds_239 : decode cX1_finds 239 = .ok (.iload 6, 2) := dk_21 6 (dk_at dksX1_finds_10 4 rfl rfl)
theorem dX1_finds_241 : decode cX1_finds 241 = .ok (.aload_n 0, 1) := dk_42 (dk_at dksX1_finds_10 6 rfl rfl)
theorem dX1_finds_242 : decode cX1_finds 242 = .ok (.getfield 19, 3) := dk_180 0 19 (dk_at dksX1_finds_10 7 rfl rfl)
theorem dX1_finds_245 : decode cX1_finds 245 = .ok (.getfield 128, 3) := dk_180 0 128 (dk_at dksX1_finds_10 10 rfl rfl)
theorem dX1_finds_248 : decode cX1_finds 248 = .ok (.iload_n 1, 1) := dk_27 (dk_at dksX1_finds_10 13 rfl rfl)
theorem dX1_finds_249 : decode cX1_finds 249 = .ok (.invokevirtual 244, 3) := dk_182 0 244 (dk_at dksX1_finds_10 14 rfl rfl)
theorem dX1_finds_252 : decode cX1_finds 252 = .ok (.lstore 7, 2) := dk_55 7 (dk_at dksX1_finds_10 17 rfl rfl)
theorem dX1_finds_254 : decode cX1_finds 254 = .ok (.iconst 0, 1) := dk_3 (dk_at dksX1_finds_10 19 rfl rfl)
theorem dX1_finds_255 : decode cX1_finds 255 = .ok (.istore 9, 2) := dk_54 9 (dk_at dksX1_finds_10 20 rfl rfl)
theorem dX1_finds_257 : decode cX1_finds 257 = .ok (.lload 7, 2) := dk_22 7 (dk_at dksX1_finds_10 22 rfl rfl)
theorem dX1_finds_259 : decode cX1_finds 259 = .ok (.iload 9, 2) := dk_21 9 (dk_at dksX1_finds_11 0 rfl rfl)
theorem dX1_finds_261 : decode cX1_finds 261 = .ok (.lshr, 1) := dk_123 (dk_at dksX1_finds_11 2 rfl rfl)
theorem dX1_finds_262 : decode cX1_finds 262 = .ok (.lconst 1, 1) := dk_10 (dk_at dksX1_finds_11 3 rfl rfl)
theorem dX1_finds_263 : decode cX1_finds 263 = .ok (.land, 1) := dk_127 (dk_at dksX1_finds_11 4 rfl rfl)
theorem dX1_finds_264 : decode cX1_finds 264 = .ok (.lconst 0, 1) := dk_9 (dk_at dksX1_finds_11 5 rfl rfl)
theorem dX1_finds_265 : decode cX1_finds 265 = .ok (.lcmp, 1) := dk_148 (dk_at dksX1_finds_11 6 rfl rfl)
theorem dX1_finds_266 : decode cX1_finds 266 = .ok (.ifCond .eq 22, 3) := dk_153 0 22 (dk_at dksX1_finds_11 7 rfl rfl)
theorem dX1_finds_269 : decode cX1_finds 269 = .ok (.aload_n 0, 1) := dk_42 (dk_at dksX1_finds_11 10 rfl rfl)
theorem dX1_finds_270 : decode cX1_finds 270 = .ok (.getfield 35, 3) := dk_180 0 35 (dk_at dksX1_finds_11 11 rfl rfl)
theorem dX1_finds_273 : decode cX1_finds 273 = .ok (.iload 9, 2) := dk_21 9 (dk_at dksX1_finds_11 14 rfl rfl)
theorem dX1_finds_275 : decode cX1_finds 275 = .ok (.iaload, 1) := dk_46 (dk_at dksX1_finds_11 16 rfl rfl)
theorem dX1_finds_276 : decode cX1_finds 276 = .ok (.aload_n 0, 1) := dk_42 (dk_at dksX1_finds_11 17 rfl rfl)
theorem dX1_finds_277 : decode cX1_finds 277 = .ok (.getfield 35, 3) := dk_180 0 35 (dk_at dksX1_finds_11 18 rfl rfl)
theorem dX1_finds_280 : decode cX1_finds 280 = .ok (.iload 6, 2) := dk_21 6 (dk_at dksX1_finds_11 21 rfl rfl)
theorem dX1_finds_282 : decode cX1_finds 282 = .ok (.iaload, 1) := dk_46 (dk_at dksX1_finds_11 23 rfl rfl)
theorem dX1_finds_283 : decode cX1_finds 283 = .ok (.iconst 1, 1) := dk_4 (dk_at dksX1_finds_12 0 rfl rfl)
theorem dX1_finds_284 : decode cX1_finds 284 = .ok (.isub, 1) := dk_100 (dk_at dksX1_finds_12 1 rfl rfl)
theorem dX1_finds_285 : decode cX1_finds 285 = .ok (.if_icmp .eq 9, 3) := dk_159 0 9 (dk_at dksX1_finds_12 2 rfl rfl)
theorem dX1_finds_288 : decode cX1_finds 288 = .ok (.iinc 9 1, 3) := dk_132 9 1 (dk_at dksX1_finds_12 5 rfl rfl)
theorem dX1_finds_291 : decode cX1_finds 291 = .ok (.goto (-34), 3) := dk_167 255 222 (dk_at dksX1_finds_12 8 rfl rfl)
theorem dX1_finds_294 : decode cX1_finds 294 = .ok (.iload 9, 2) := dk_21 9 (dk_at dksX1_finds_12 11 rfl rfl)
theorem dX1_finds_296 : decode cX1_finds 296 = .ok (.istore 6, 2) := dk_54 6 (dk_at dksX1_finds_12 13 rfl rfl)
theorem dX1_finds_298 : decode cX1_finds 298 = .ok (.aload_n 0, 1) := dk_42 (dk_at dksX1_finds_12 15 rfl rfl)
theorem dX1_finds_299 : decode cX1_finds 299 = .ok (.getfield 39, 3) := dk_180 0 39 (dk_at dksX1_finds_12 16 rfl rfl)
theorem dX1_finds_302 : decode cX1_finds 302 = .ok (.aload_n 0, 1) := dk_42 (dk_at dksX1_finds_12 19 rfl rfl)
theorem dX1_finds_303 : decode cX1_finds 303 = .ok (.getfield 248, 3) := dk_180 0 248 (dk_at dksX1_finds_12 20 rfl rfl)
theorem dX1_finds_306 : decode cX1_finds 306 = .ok (.iload 6, 2) := dk_21 6 (dk_at dksX1_finds_13 0 rfl rfl)
theorem dX1_finds_308 : decode cX1_finds 308 = .ok (.iastore, 1) := dk_79 (dk_at dksX1_finds_13 2 rfl rfl)
theorem dX1_finds_309 : decode cX1_finds 309 = .ok (.aload_n 0, 1) := dk_42 (dk_at dksX1_finds_13 3 rfl rfl)
theorem dX1_finds_310 : decode cX1_finds 310 = .ok (.dup, 1) := dk_89 (dk_at dksX1_finds_13 4 rfl rfl)
theorem dX1_finds_311 : decode cX1_finds 311 = .ok (.getfield 248, 3) := dk_180 0 248 (dk_at dksX1_finds_13 5 rfl rfl)
theorem dX1_finds_314 : decode cX1_finds 314 = .ok (.iconst 1, 1) := dk_4 (dk_at dksX1_finds_13 8 rfl rfl)
theorem dX1_finds_315 : decode cX1_finds 315 = .ok (.iadd, 1) := dk_96 (dk_at dksX1_finds_13 9 rfl rfl)
theorem dX1_finds_316 : decode cX1_finds 316 = .ok (.putfield 248, 3) := dk_181 0 248 (dk_at dksX1_finds_13 10 rfl rfl)
theorem dX1_finds_319 : decode cX1_finds 319 = .ok (.goto (-94), 3) := dk_167 255 162 (dk_at dksX1_finds_13 13 rfl rfl)
theorem dX1_finds_322 : decode cX1_finds 322 = .ok (.iconst 1, 1) := dk_4 (dk_at dksX1_finds_13 16 rfl rfl)
theorem dX1_finds_323 : decode cX1_finds 323 = .ok (.ireturn, 1) := dk_172 (dk_at dksX1_finds_13 17 rfl rfl)
def dkwX1_tried_9 : List UInt8 := [159, 0, 18, 42, 27, 45, 180, 1, 53, 180, 1, 16, 182, 1, 19, 153, 0, 7, 4, 167, 0, 4, 3, 172]
abbrev dktX1_tried_9 : List UInt8 := dkwX1_tried_9 ++ []
def dkwX1_tried_8 : List UInt8 := [42, 180, 0, 248, 4, 100, 46, 50, 192, 1, 51, 78, 45, 180, 1, 53, 42, 180, 0, 31, 182, 1, 2, 28]
abbrev dktX1_tried_8 : List UInt8 := dkwX1_tried_8 ++ dktX1_tried_9
def dkwX1_tried_7 : List UInt8 := [21, 5, 154, 0, 5, 3, 172, 132, 3, 1, 167, 255, 100, 42, 180, 0, 19, 180, 0, 81, 42, 180, 0, 39]
abbrev dktX1_tried_7 : List UInt8 := dkwX1_tried_7 ++ dktX1_tried_8
def dkwX1_tried_6 : List UInt8 := [182, 1, 48, 153, 0, 26, 42, 180, 0, 31, 180, 0, 204, 42, 180, 0, 39, 29, 4, 96, 46, 160, 0, 8]
abbrev dktX1_tried_6 : List UInt8 := dkwX1_tried_6 ++ dktX1_tried_7
def dkwX1_tried_5 : List UInt8 := [100, 46, 42, 180, 0, 39, 29, 4, 96, 46, 160, 0, 7, 4, 167, 0, 4, 3, 54, 5, 42, 180, 0, 31]
abbrev dktX1_tried_5 : List UInt8 := dkwX1_tried_5 ++ dktX1_tried_6
def dkwX1_tried_4 : List UInt8 := [180, 0, 31, 180, 1, 29, 153, 0, 31, 42, 180, 0, 31, 180, 1, 45, 42, 180, 0, 31, 180, 1, 29, 4]
abbrev dktX1_tried_4 : List UInt8 := dkwX1_tried_4 ++ dktX1_tried_5
def dkwX1_tried_3 : List UInt8 := [160, 0, 59, 42, 180, 0, 19, 180, 0, 128, 42, 180, 0, 39, 29, 46, 46, 6, 161, 0, 41, 42]
abbrev dktX1_tried_3 : List UInt8 := dkwX1_tried_3 ++ dktX1_tried_4
def dkwX1_tried_2 : List UInt8 := [180, 0, 39, 29, 46, 42, 180, 0, 39, 29, 4, 96, 46, 182, 1, 41, 25, 4, 182, 0, 134, 16, 7]
abbrev dktX1_tried_2 : List UInt8 := dkwX1_tried_2 ++ dktX1_tried_3
def dkwX1_tried_1 : List UInt8 := [162, 0, 152, 42, 180, 0, 19, 180, 0, 81, 42, 180, 0, 39, 29, 46, 50, 58, 4, 42, 27, 42]
abbrev dktX1_tried_1 : List UInt8 := dkwX1_tried_1 ++ dktX1_tried_2
def dkwX1_tried_0 : List UInt8 := [42, 180, 0, 31, 182, 1, 34, 42, 180, 0, 31, 3, 181, 1, 37, 3, 62, 29, 4, 96, 42, 180, 0, 248]
abbrev dktX1_tried_0 : List UInt8 := dkwX1_tried_0 ++ dktX1_tried_1
theorem dksX1_tried_0 : cX1_tried.data.toList.drop 0 = dktX1_tried_0 := by decide +kernel
theorem dksX1_tried_1 : cX1_tried.data.toList.drop 24 = dktX1_tried_1 := dk_seg dksX1_tried_0 24 rfl rfl
theorem dksX1_tried_2 : cX1_tried.data.toList.drop 46 = dktX1_tried_2 := dk_seg dksX1_tried_1 22 rfl rfl
theorem dksX1_tried_3 : cX1_tried.data.toList.drop 69 = dktX1_tried_3 := dk_seg dksX1_tried_2 23 rfl rfl
theorem dksX1_tried_4 : cX1_tried.data.toList.drop 91 = dktX1_tried_4 := dk_seg dksX1_tried_3 22 rfl rfl
theorem dksX1_tried_5 : cX1_tried.data.toList.drop 115 = dktX1_tried_5 := dk_seg dksX1_tried_4 24 rfl rfl
theorem dksX1_tried_6 : cX1_tried.data.toList.drop 139 = dktX1_tried_6 := dk_seg dksX1_tried_5 24 rfl rfl
theorem dksX1_tried_7 : cX1_tried.data.toList.drop 163 = dktX1_tried_7 := dk_seg dksX1_tried_6 24 rfl rfl
theorem dksX1_tried_8 : cX1_tried.data.toList.drop 187 = dktX1_tried_8 := dk_seg dksX1_tried_7 24 rfl rfl
theorem dksX1_tried_9 : cX1_tried.data.toList.drop 211 = dktX1_tried_9 := dk_seg dksX1_tried_8 24 rfl rfl
theorem dX1_tried_0 : decode cX1_tried 0 = .ok (.aload_n 0, 1) := dk_42 (dk_at dksX1_tried_0 0 rfl rfl)
theorem dX1_tried_1 : decode cX1_tried 1 = .ok (.getfield 31, 3) := dk_180 0 31 (dk_at dksX1_tried_0 1 rfl rfl)
theorem dX1_tried_4 : decode cX1_tried 4 = .ok (.invokevirtual 290, 3) := dk_182 1 34 (dk_at dksX1_tried_0 4 rfl rfl)
theorem dX1_tried_7 : decode cX1_tried 7 = .ok (.aload_n 0, 1) := dk_42 (dk_at dksX1_tried_0 7 rfl rfl)
theorem dX1_tried_8 : decode cX1_tried 8 = .ok (.getfield 31, 3) := dk_180 0 31 (dk_at dksX1_tried_0 8 rfl rfl)
theorem dX1_tried_11 : decode cX1_tried 11 = .ok (.iconst 0, 1) := dk_3 (dk_at dksX1_tried_0 11 rfl rfl)
theorem dX1_tried_12 : decode cX1_tried 12 = .ok (.putfield 293, 3) := dk_181 1 37 (dk_at dksX1_tried_0 12 rfl rfl)
theorem dX1_tried_15 : decode cX1_tried 15 = .ok (.iconst 0, 1) := dk_3 (dk_at dksX1_tried_0 15 rfl rfl)
theorem dX1_tried_16 : decode cX1_tried 16 = .ok (.istore_n 3, 1) := dk_62 (dk_at dksX1_tried_0 16 rfl rfl)
theorem dX1_tried_17 : decode cX1_tried 17 = .ok (.iload_n 3, 1) := dk_29 (dk_at dksX1_tried_0 17 rfl rfl)
theorem dX1_tried_18 : decode cX1_tried 18 = .ok (.iconst 1, 1) := dk_4 (dk_at dksX1_tried_0 18 rfl rfl)
theorem dX1_tried_19 : decode cX1_tried 19 = .ok (.iadd, 1) := dk_96 (dk_at dksX1_tried_0 19 rfl rfl)
theorem dX1_tried_20 : decode cX1_tried 20 = .ok (.aload_n 0, 1) := dk_42 (dk_at dksX1_tried_0 20 rfl rfl)
theorem dX1_tried_21 : decode cX1_tried 21 = .ok (.getfield 248, 3) := dk_180 0 248 (dk_at dksX1_tried_0 21 rfl rfl)
theorem dX1_tried_24 : decode cX1_tried 24 = .ok (.if_icmp .ge 152, 3) := dk_162 0 152 (dk_at dksX1_tried_1 0 rfl rfl)
theorem dX1_tried_27 : decode cX1_tried 27 = .ok (.aload_n 0, 1) := dk_42 (dk_at dksX1_tried_1 3 rfl rfl)
theorem dX1_tried_28 : decode cX1_tried 28 = .ok (.getfield 19, 3) := dk_180 0 19 (dk_at dksX1_tried_1 4 rfl rfl)
theorem dX1_tried_31 : decode cX1_tried 31 = .ok (.getfield 81, 3) := dk_180 0 81 (dk_at dksX1_tried_1 7 rfl rfl)
theorem dX1_tried_34 : decode cX1_tried 34 = .ok (.aload_n 0, 1) := dk_42 (dk_at dksX1_tried_1 10 rfl rfl)
theorem dX1_tried_35 : decode cX1_tried 35 = .ok (.getfield 39, 3) := dk_180 0 39 (dk_at dksX1_tried_1 11 rfl rfl)
theorem dX1_tried_38 : decode cX1_tried 38 = .ok (.iload_n 3, 1) := dk_29 (dk_at dksX1_tried_1 14 rfl rfl)
theorem dX1_tried_39 : decode cX1_tried 39 = .ok (.iaload, 1) := dk_46 (dk_at dksX1_tried_1 15 rfl rfl)
theorem dX1_tried_40 : decode cX1_tried 40 = .ok (.aaload, 1) := dk_50 (dk_at dksX1_tried_1 16 rfl rfl)
theorem dX1_tried_41 : decode cX1_tried 41 = .ok (.astore 4, 2) := dk_58 4 (dk_at dksX1_tried_1 17 rfl rfl)
theorem dX1_tried_43 : decode cX1_tried 43 = .ok (.aload_n 0, 1) := dk_42 (dk_at dksX1_tried_1 19 rfl rfl)
theorem dX1_tried_44 : decode cX1_tried 44 = .ok (.iload_n 1, 1) := dk_27 (dk_at dksX1_tried_1 20 rfl rfl)
theorem dX1_tried_45 : decode cX1_tried 45 = .ok (.aload_n 0, 1) := dk_42 (dk_at dksX1_tried_1 21 rfl rfl)
theorem dX1_tried_46 : decode cX1_tried 46 = .ok (.getfield 39, 3) := dk_180 0 39 (dk_at dksX1_tried_2 0 rfl rfl)
theorem dX1_tried_49 : decode cX1_tried 49 = .ok (.iload_n 3, 1) := dk_29 (dk_at dksX1_tried_2 3 rfl rfl)
theorem dX1_tried_50 : decode cX1_tried 50 = .ok (.iaload, 1) := dk_46 (dk_at dksX1_tried_2 4 rfl rfl)
theorem dX1_tried_51 : decode cX1_tried 51 = .ok (.aload_n 0, 1) := dk_42 (dk_at dksX1_tried_2 5 rfl rfl)
theorem dX1_tried_52 : decode cX1_tried 52 = .ok (.getfield 39, 3) := dk_180 0 39 (dk_at dksX1_tried_2 6 rfl rfl)
theorem dX1_tried_55 : decode cX1_tried 55 = .ok (.iload_n 3, 1) := dk_29 (dk_at dksX1_tried_2 9 rfl rfl)
theorem dX1_tried_56 : decode cX1_tried 56 = .ok (.iconst 1, 1) := dk_4 (dk_at dksX1_tried_2 10 rfl rfl)
theorem dX1_tried_57 : decode cX1_tried 57 = .ok (.iadd, 1) := dk_96 (dk_at dksX1_tried_2 11 rfl rfl)
theorem dX1_tried_58 : decode cX1_tried 58 = .ok (.iaload, 1) := dk_46 (dk_at dksX1_tried_2 12 rfl rfl)
theorem dX1_tried_59 : decode cX1_tried 59 = .ok (.invokevirtual 297, 3) := dk_182 1 41 (dk_at dksX1_tried_2 13 rfl rfl)
theorem dX1_tried_62 : decode cX1_tried 62 = .ok (.aload 4, 2) := dk_25 4 (dk_at dksX1_tried_2 16 rfl rfl)
theorem dX1_tried_64 : decode cX1_tried 64 = .ok (.invokevirtual 134, 3) := dk_182 0 134 (dk_at dksX1_tried_2 18 rfl rfl)
theorem dX1_tried_67 : decode cX1_tried 67 = .ok (.bipush 7, 2) := dk_16 7 (dk_at dksX1_tried_2 21 rfl rfl)
theorem dX1_tried_69 : decode cX1_tried 69 = .ok (.if_icmp .ne 59, 3) := dk_160 0 59 (dk_at dksX1_tried_3 0 rfl rfl)
theorem dX1_tried_72 : decode cX1_tried 72 = .ok (.aload_n 0, 1) := dk_42 (dk_at dksX1_tried_3 3 rfl rfl)
theorem dX1_tried_73 : decode cX1_tried 73 = .ok (.getfield 19, 3) := dk_180 0 19 (dk_at dksX1_tried_3 4 rfl rfl)
theorem dX1_tried_76 : decode cX1_tried 76 = .ok (.getfield 128, 3) := dk_180 0 128 (dk_at dksX1_tried_3 7 rfl rfl)
theorem dX1_tried_79 : decode cX1_tried 79 = .ok (.aload_n 0, 1) := dk_42 (dk_at dksX1_tried_3 10 rfl rfl)
theorem dX1_tried_80 : decode cX1_tried 80 = .ok (.getfield 39, 3) := dk_180 0 39 (dk_at dksX1_tried_3 11 rfl rfl)
theorem dX1_tried_83 : decode cX1_tried 83 = .ok (.iload_n 3, 1) := dk_29 (dk_at dksX1_tried_3 14 rfl rfl)
theorem dX1_tried_84 : decode cX1_tried 84 = .ok (.iaload, 1) := dk_46 (dk_at dksX1_tried_3 15 rfl rfl)
theorem dX1_tried_85 : decode cX1_tried 85 = .ok (.iaload, 1) := dk_46 (dk_at dksX1_tried_3 16 rfl rfl)
theorem dX1_tried_86 : decode cX1_tried 86 = .ok (.iconst 3, 1) := dk_6 (dk_at dksX1_tried_3 17 rfl rfl)
theorem dX1_tried_87 : decode cX1_tried 87 = .ok (.if_icmp .lt 41, 3) := dk_161 0 41 (dk_at dksX1_tried_3 18 rfl rfl)
theorem dX1_tried_90 : decode cX1_tried 90 = .ok (.aload_n 0, 1) := dk_42 (dk_at dksX1_tried_3 21 rfl rfl)
theorem dX1_tried_91 : decode cX1_tried 91 = .ok (.getfield 31, 3) := dk_180 0 31 (dk_at dksX1_tried_4 0 rfl rfl)
theorem dX1_tried_94 : decode cX1_tried 94 = .ok (.getfield 285, 3) := dk_180 1 29 (dk_at dksX1_tried_4 3 rfl rfl)
theorem dX1_tried_97 : decode cX1_tried 97 = .ok (.ifCond .eq 31, 3) := dk_153 0 31 (dk_at dksX1_tried_4 6 rfl rfl)
theorem dX1_tried_100 : decode cX1_tried 100 = .ok (.aload_n 0, 1) := dk_42 (dk_at dksX1_tried_4 9 rfl rfl)
theorem dX1_tried_101 : decode cX1_tried 101 = .ok (.getfield 31, 3) := dk_180 0 31 (dk_at dksX1_tried_4 10 rfl rfl)
theorem dX1_tried_104 : decode cX1_tried 104 = .ok (.getfield 301, 3) := dk_180 1 45 (dk_at dksX1_tried_4 13 rfl rfl)
theorem dX1_tried_107 : decode cX1_tried 107 = .ok (.aload_n 0, 1) := dk_42 (dk_at dksX1_tried_4 16 rfl rfl)
theorem dX1_tried_108 : decode cX1_tried 108 = .ok (.getfield 31, 3) := dk_180 0 31 (dk_at dksX1_tried_4 17 rfl rfl)
theorem dX1_tried_111 : decode cX1_tried 111 = .ok (.getfield 285, 3) := dk_180 1 29 (dk_at dksX1_tried_4 20 rfl rfl)
theorem dX1_tried_114 : decode cX1_tried 114 = .ok (.iconst 1, 1) := dk_4 (dk_at dksX1_tried_4 23 rfl rfl)
theorem dX1_tried_115 : decode cX1_tried 115 = .ok (.isub, 1) := dk_100 (dk_at dksX1_tried_5 0 rfl rfl)
theorem dX1_tried_116 : decode cX1_tried 116 = .ok (.iaload, 1) := dk_46 (dk_at dksX1_tried_5 1 rfl rfl)
theorem dX1_tried_117 : decode cX1_tried 117 = .ok (.aload_n 0, 1) := dk_42 (dk_at dksX1_tried_5 2 rfl rfl)
theorem dX1_tried_118 : decode cX1_tried 118 = .ok (.getfield 39, 3) := dk_180 0 39 (dk_at dksX1_tried_5 3 rfl rfl)
theorem dX1_tried_121 : decode cX1_tried 121 = .ok (.iload_n 3, 1) := dk_29 (dk_at dksX1_tried_5 6 rfl rfl)
theorem dX1_tried_122 : decode cX1_tried 122 = .ok (.iconst 1, 1) := dk_4 (dk_at dksX1_tried_5 7 rfl rfl)
theorem dX1_tried_123 : decode cX1_tried 123 = .ok (.iadd, 1) := dk_96 (dk_at dksX1_tried_5 8 rfl rfl)
theorem dX1_tried_124 : decode cX1_tried 124 = .ok (.iaload, 1) := dk_46 (dk_at dksX1_tried_5 9 rfl rfl)
theorem dX1_tried_125 : decode cX1_tried 125 = .ok (.if_icmp .ne 7, 3) := dk_160 0 7 (dk_at dksX1_tried_5 10 rfl rfl)
theorem dX1_tried_128 : decode cX1_tried 128 = .ok (.iconst 1, 1) := dk_4 (dk_at dksX1_tried_5 13 rfl rfl)
theorem dX1_tried_129 : decode cX1_tried 129 = .ok (.goto 4, 3) := dk_167 0 4 (dk_at dksX1_tried_5 14 rfl rfl)
theorem dX1_tried_132 : decode cX1_tried 132 = .ok (.iconst 0, 1) := dk_3 (dk_at dksX1_tried_5 17 rfl rfl)
theorem dX1_tried_133 : decode cX1_tried 133 = .ok (.istore 5, 2) := dk_54 5 (dk_at dksX1_tried_5 18 rfl rfl)
theorem dX1_tried_135 : decode cX1_tried 135 = .ok (.aload_n 0, 1) := dk_42 (dk_at dksX1_tried_5 20 rfl rfl)
theorem dX1_tried_136 : decode cX1_tried 136 = .ok (.getfield 31, 3) := dk_180 0 31 (dk_at dksX1_tried_5 21 rfl rfl)
theorem dX1_tried_139 : decode cX1_tried 139 = .ok (.invokevirtual 304, 3) := dk_182 1 48 (dk_at dksX1_tried_6 0 rfl rfl)
theorem dX1_tried_142 : decode cX1_tried 142 = .ok (.ifCond .eq 26, 3) := dk_153 0 26 (dk_at dksX1_tried_6 3 rfl rfl)
theorem dX1_tried_145 : decode cX1_tried 145 = .ok (.aload_n 0, 1) := dk_42 (dk_at dksX1_tried_6 6 rfl rfl)
theorem dX1_tried_146 : decode cX1_tried 146 = .ok (.getfield 31, 3) := dk_180 0 31 (dk_at dksX1_tried_6 7 rfl rfl)
theorem dX1_tried_149 : decode cX1_tried 149 = .ok (.getfield 204, 3) := dk_180 0 204 (dk_at dksX1_tried_6 10 rfl rfl)
theorem dX1_tried_152 : decode cX1_tried 152 = .ok (.aload_n 0, 1) := dk_42 (dk_at dksX1_tried_6 13 rfl rfl)
theorem dX1_tried_153 : decode cX1_tried 153 = .ok (.getfield 39, 3) := dk_180 0 39 (dk_at dksX1_tried_6 14 rfl rfl)
theorem dX1_tried_156 : decode cX1_tried 156 = .ok (.iload_n 3, 1) := dk_29 (dk_at dksX1_tried_6 17 rfl rfl)
theorem dX1_tried_157 : decode cX1_tried 157 = .ok (.iconst 1, 1) := dk_4 (dk_at dksX1_tried_6 18 rfl rfl)
theorem dX1_tried_158 : decode cX1_tried 158 = .ok (.iadd, 1) := dk_96 (dk_at dksX1_tried_6 19 rfl rfl)
theorem dX1_tried_159 : decode cX1_tried 159 = .ok (.iaload, 1) := dk_46 (dk_at dksX1_tried_6 20 rfl rfl)
theorem dX1_tried_160 : decode cX1_tried 160 = .ok (.if_icmp .ne 8, 3) := dk_160 0 8 (dk_at dksX1_tried_6 21 rfl rfl)
theorem dX1_tried_163 : decode cX1_tried 163 = .ok (.iload 5, 2) := dk_21 5 (dk_at dksX1_tried_7 0 rfl rfl)
theorem dX1_tried_165 : decode cX1_tried 165 = .ok (.ifCond .ne 5, 3) := dk_154 0 5 (dk_at dksX1_tried_7 2 rfl rfl)
theorem dX1_tried_168 : decode cX1_tried 168 = .ok (.iconst 0, 1) := dk_3 (dk_at dksX1_tried_7 5 rfl rfl)
theorem dX1_tried_169 : decode cX1_tried 169 = .ok (.ireturn, 1) := dk_172 (dk_at dksX1_tried_7 6 rfl rfl)
theorem dX1_tried_170 : decode cX1_tried 170 = .ok (.iinc 3 1, 3) := dk_132 3 1 (dk_at dksX1_tried_7 7 rfl rfl)
theorem dX1_tried_173 : decode cX1_tried 173 = .ok (.goto (-156), 3) := dk_167 255 100 (dk_at dksX1_tried_7 10 rfl rfl)
theorem dX1_tried_176 : decode cX1_tried 176 = .ok (.aload_n 0, 1) := dk_42 (dk_at dksX1_tried_7 13 rfl rfl)
theorem dX1_tried_177 : decode cX1_tried 177 = .ok (.getfield 19, 3) := dk_180 0 19 (dk_at dksX1_tried_7 14 rfl rfl)
theorem dX1_tried_180 : decode cX1_tried 180 = .ok (.getfield 81, 3) := dk_180 0 81 (dk_at dksX1_tried_7 17 rfl rfl)
theorem dX1_tried_183 : decode cX1_tried 183 = .ok (.aload_n 0, 1) := dk_42 (dk_at dksX1_tried_7 20 rfl rfl)
theorem dX1_tried_184 : decode cX1_tried 184 = .ok (.getfield 39, 3) := dk_180 0 39 (dk_at dksX1_tried_7 21 rfl rfl)
theorem dX1_tried_187 : decode cX1_tried 187 = .ok (.aload_n 0, 1) := dk_42 (dk_at dksX1_tried_8 0 rfl rfl)
theorem dX1_tried_188 : decode cX1_tried 188 = .ok (.getfield 248, 3) := dk_180 0 248 (dk_at dksX1_tried_8 1 rfl rfl)
theorem dX1_tried_191 : decode cX1_tried 191 = .ok (.iconst 1, 1) := dk_4 (dk_at dksX1_tried_8 4 rfl rfl)
theorem dX1_tried_192 : decode cX1_tried 192 = .ok (.isub, 1) := dk_100 (dk_at dksX1_tried_8 5 rfl rfl)
theorem dX1_tried_193 : decode cX1_tried 193 = .ok (.iaload, 1) := dk_46 (dk_at dksX1_tried_8 6 rfl rfl)
theorem dX1_tried_194 : decode cX1_tried 194 = .ok (.aaload, 1) := dk_50 (dk_at dksX1_tried_8 7 rfl rfl)
theorem dX1_tried_195 : decode cX1_tried 195 = .ok (.checkcast 307, 3) := dk_192 1 51 (dk_at dksX1_tried_8 8 rfl rfl)
theorem dX1_tried_198 : decode cX1_tried 198 = .ok (.astore_n 3, 1) := dk_78 (dk_at dksX1_tried_8 11 rfl rfl)
theorem dX1_tried_199 : decode cX1_tried 199 = .ok (.aload_n 3, 1) := dk_45 (dk_at dksX1_tried_8 12 rfl rfl)
theorem dX1_tried_200 : decode cX1_tried 200 = .ok (.getfield 309, 3) := dk_180 1 53 (dk_at dksX1_tried_8 13 rfl rfl)
theorem dX1_tried_203 : decode cX1_tried 203 = .ok (.aload_n 0, 1) := dk_42 (dk_at dksX1_tried_8 16 rfl rfl)
theorem dX1_tried_204 : decode cX1_tried 204 = .ok (.getfield 31, 3) := dk_180 0 31 (dk_at dksX1_tried_8 17 rfl rfl)
theorem dX1_tried_207 : decode cX1_tried 207 = .ok (.invokevirtual 258, 3) := dk_182 1 2 (dk_at dksX1_tried_8 20 rfl rfl)
theorem dX1_tried_210 : decode cX1_tried 210 = .ok (.iload_n 2, 1) := dk_28 (dk_at dksX1_tried_8 23 rfl rfl)
theorem dX1_tried_211 : decode cX1_tried 211 = .ok (.if_icmp .eq 18, 3) := dk_159 0 18 (dk_at dksX1_tried_9 0 rfl rfl)
theorem dX1_tried_214 : decode cX1_tried 214 = .ok (.aload_n 0, 1) := dk_42 (dk_at dksX1_tried_9 3 rfl rfl)
theorem dX1_tried_215 : decode cX1_tried 215 = .ok (.iload_n 1, 1) := dk_27 (dk_at dksX1_tried_9 4 rfl rfl)
theorem dX1_tried_216 : decode cX1_tried 216 = .ok (.aload_n 3, 1) := dk_45 (dk_at dksX1_tried_9 5 rfl rfl)
theorem dX1_tried_217 : decode cX1_tried 217 = .ok (.getfield 309, 3) := dk_180 1 53 (dk_at dksX1_tried_9 6 rfl rfl)
theorem dX1_tried_220 : decode cX1_tried 220 = .ok (.getfield 272, 3) := dk_180 1 16 (dk_at dksX1_tried_9 9 rfl rfl)
theorem dX1_tried_223 : decode cX1_tried 223 = .ok (.invokevirtual 275, 3) := dk_182 1 19 (dk_at dksX1_tried_9 12 rfl rfl)
theorem dX1_tried_226 : decode cX1_tried 226 = .ok (.ifCond .eq 7, 3) := dk_153 0 7 (dk_at dksX1_tried_9 15 rfl rfl)
theorem dX1_tried_229 : decode cX1_tried 229 = .ok (.iconst 1, 1) := dk_4 (dk_at dksX1_tried_9 18 rfl rfl)
theorem dX1_tried_230 : decode cX1_tried 230 = .ok (.goto 4, 3) := dk_167 0 4 (dk_at dksX1_tried_9 19 rfl rfl)
theorem dX1_tried_233 : decode cX1_tried 233 = .ok (.iconst 0, 1) := dk_3 (dk_at dksX1_tried_9 22 rfl rfl)
theorem dX1_tried_234 : decode cX1_tried 234 = .ok (.ireturn, 1) := dk_172 (dk_at dksX1_tried_9 23 rfl rfl)
def dkwX1_bends_12 : List UInt8 := [180, 1, 29, 4, 100, 29, 79, 177]
abbrev dktX1_bends_12 : List UInt8 := dkwX1_bends_12 ++ []
def dkwX1_bends_11 : List UInt8 := [180, 0, 19, 180, 0, 233, 27, 51, 153, 0, 21, 42, 180, 0, 31, 180, 1, 32, 42, 180, 0, 31]
abbrev dktX1_bends_11 : List UInt8 := dkwX1_bends_11 ++ dktX1_bends_12
def dkwX1_bends_10 : List UInt8 := [167, 0, 53, 25, 4, 182, 0, 134, 16, 7, 160, 0, 43, 42, 180, 0, 31, 180, 1, 29, 158, 0, 33, 42]
abbrev dktX1_bends_10 : List UInt8 := dkwX1_bends_10 ++ dktX1_bends_11
def dkwX1_bends_9 : List UInt8 := [182, 1, 27, 182, 1, 19, 153, 0, 70, 42, 180, 0, 31, 180, 0, 226, 25, 4, 182, 1, 27, 29, 79]
abbrev dktX1_bends_9 : List UInt8 := dkwX1_bends_9 ++ dktX1_bends_10
def dkwX1_bends_8 : List UInt8 := [21, 7, 182, 1, 23, 79, 167, 0, 92, 25, 4, 182, 1, 27, 2, 159, 0, 33, 42, 27, 25, 4]
abbrev dktX1_bends_8 : List UInt8 := dkwX1_bends_8 ++ dktX1_bends_9
def dkwX1_bends_7 : List UInt8 := [153, 0, 29, 42, 180, 0, 31, 180, 0, 226, 25, 5, 180, 1, 8, 180, 1, 16, 25, 5, 4, 21, 6]
abbrev dktX1_bends_7 : List UInt8 := dkwX1_bends_7 ++ dktX1_bends_8
def dkwX1_bends_6 : List UInt8 := [21, 8, 182, 1, 23, 79, 167, 0, 45, 42, 27, 25, 5, 180, 1, 8, 180, 1, 16, 182, 1, 19]
abbrev dktX1_bends_6 : List UInt8 := dkwX1_bends_6 ++ dktX1_bends_7
def dkwX1_bends_5 : List UInt8 := [153, 0, 32, 42, 180, 0, 31, 180, 0, 226, 25, 5, 180, 0, 254, 180, 1, 16, 25, 5, 3, 21, 6]
abbrev dktX1_bends_5 : List UInt8 := dkwX1_bends_5 ++ dktX1_bends_6
def dkwX1_bends_4 : List UInt8 := [184, 1, 14, 21, 6, 160, 0, 4, 177, 42, 27, 25, 5, 180, 0, 254, 180, 1, 16, 182, 1, 19]
abbrev dktX1_bends_4 : List UInt8 := dkwX1_bends_4 ++ dktX1_bends_5
def dkwX1_bends_3 : List UInt8 := [25, 5, 180, 1, 8, 42, 180, 0, 31, 182, 1, 2, 54, 8, 21, 7, 25, 5, 180, 1, 11, 21, 8]
abbrev dktX1_bends_3 : List UInt8 := dkwX1_bends_3 ++ dktX1_bends_4
def dkwX1_bends_2 : List UInt8 := [160, 0, 7, 4, 167, 0, 4, 3, 54, 6, 25, 5, 180, 0, 254, 42, 180, 0, 31, 182, 1, 2, 54, 7]
abbrev dktX1_bends_2 : List UInt8 := dkwX1_bends_2 ++ dktX1_bends_3
def dkwX1_bends_1 : List UInt8 := [192, 0, 251, 58, 5, 25, 5, 180, 0, 253, 28, 4, 96, 160, 0, 4, 177, 29, 25, 5, 180, 0, 253]
abbrev dktX1_bends_1 : List UInt8 := dkwX1_bends_1 ++ dktX1_bends_2
def dkwX1_bends_0 : List UInt8 := [42, 180, 0, 19, 180, 0, 81, 28, 50, 58, 4, 25, 4, 182, 0, 134, 6, 160, 0, 174, 25, 4]
abbrev dktX1_bends_0 : List UInt8 := dkwX1_bends_0 ++ dktX1_bends_1
theorem dksX1_bends_0 : cX1_bends.data.toList.drop 0 = dktX1_bends_0 := by decide +kernel
theorem dksX1_bends_1 : cX1_bends.data.toList.drop 22 = dktX1_bends_1 := dk_seg dksX1_bends_0 22 rfl rfl
theorem dksX1_bends_2 : cX1_bends.data.toList.drop 45 = dktX1_bends_2 := dk_seg dksX1_bends_1 23 rfl rfl
theorem dksX1_bends_3 : cX1_bends.data.toList.drop 69 = dktX1_bends_3 := dk_seg dksX1_bends_2 24 rfl rfl
theorem dksX1_bends_4 : cX1_bends.data.toList.drop 92 = dktX1_bends_4 := dk_seg dksX1_bends_3 23 rfl rfl
theorem dksX1_bends_5 : cX1_bends.data.toList.drop 114 = dktX1_bends_5 := dk_seg dksX1_bends_4 22 rfl rfl
theorem dksX1_bends_6 : cX1_bends.data.toList.drop 137 = dktX1_bends_6 := dk_seg dksX1_bends_5 23 rfl rfl
theorem dksX1_bends_7 : cX1_bends.data.toList.drop 159 = dktX1_bends_7 := dk_seg dksX1_bends_6 22 rfl rfl
theorem dksX1_bends_8 : cX1_bends.data.toList.drop 182 = dktX1_bends_8 := dk_seg dksX1_bends_7 23 rfl rfl
theorem dksX1_bends_9 : cX1_bends.data.toList.drop 204 = dktX1_bends_9 := dk_seg dksX1_bends_8 22 rfl rfl
theorem dksX1_bends_10 : cX1_bends.data.toList.drop 227 = dktX1_bends_10 := dk_seg dksX1_bends_9 23 rfl rfl
theorem dksX1_bends_11 : cX1_bends.data.toList.drop 251 = dktX1_bends_11 := dk_seg dksX1_bends_10 24 rfl rfl
theorem dksX1_bends_12 : cX1_bends.data.toList.drop 273 = dktX1_bends_12 := dk_seg dksX1_bends_11 22 rfl rfl
theorem dX1_bends_0 : decode cX1_bends 0 = .ok (.aload_n 0, 1) := dk_42 (dk_at dksX1_bends_0 0 rfl rfl)
theorem dX1_bends_1 : decode cX1_bends 1 = .ok (.getfield 19, 3) := dk_180 0 19 (dk_at dksX1_bends_0 1 rfl rfl)
theorem dX1_bends_4 : decode cX1_bends 4 = .ok (.getfield 81, 3) := dk_180 0 81 (dk_at dksX1_bends_0 4 rfl rfl)
theorem dX1_bends_7 : decode cX1_bends 7 = .ok (.iload_n 2, 1) := dk_28 (dk_at dksX1_bends_0 7 rfl rfl)
theorem dX1_bends_8 : decode cX1_bends 8 = .ok (.aaload, 1) := dk_50 (dk_at dksX1_bends_0 8 rfl rfl)
theorem dX1_bends_9 : decode cX1_bends 9 = .ok (.astore 4, 2) := dk_58 4 (dk_at dksX1_bends_0 9 rfl rfl)
theorem dX1_bends_11 : decode cX1_bends 11 = .ok (.aload 4, 2) := dk_25 4 (dk_at dksX1_bends_0 11 rfl rfl)
theorem dX1_bends_13 : decode cX1_bends 13 = .ok (.invokevirtual 134, 3) := dk_182 0 134 (dk_at dksX1_bends_0 13 rfl rfl)
theorem dX1_bends_16 : decode cX1_bends 16 = .ok (.iconst 3, 1) := dk_6 (dk_at dksX1_bends_0 16 rfl rfl)
theorem dX1_bends_17 : decode cX1_bends 17 = .ok (.if_icmp .ne 174, 3) := dk_160 0 174 (dk_at dksX1_bends_0 17 rfl rfl)
theorem dX1_bends_20 : decode cX1_bends 20 = .ok (.aload 4, 2) := dk_25 4 (dk_at dksX1_bends_0 20 rfl rfl)
theorem dX1_bends_22 : decode cX1_bends 22 = .ok (.checkcast 251, 3) := dk_192 0 251 (dk_at dksX1_bends_1 0 rfl rfl)
theorem dX1_bends_25 : decode cX1_bends 25 = .ok (.astore 5, 2) := dk_58 5 (dk_at dksX1_bends_1 3 rfl rfl)
theorem dX1_bends_27 : decode cX1_bends 27 = .ok (.aload 5, 2) := dk_25 5 (dk_at dksX1_bends_1 5 rfl rfl)
theorem dX1_bends_29 : decode cX1_bends 29 = .ok (.getfield 253, 3) := dk_180 0 253 (dk_at dksX1_bends_1 7 rfl rfl)
theorem dX1_bends_32 : decode cX1_bends 32 = .ok (.iload_n 2, 1) := dk_28 (dk_at dksX1_bends_1 10 rfl rfl)
theorem dX1_bends_33 : decode cX1_bends 33 = .ok (.iconst 1, 1) := dk_4 (dk_at dksX1_bends_1 11 rfl rfl)
theorem dX1_bends_34 : decode cX1_bends 34 = .ok (.iadd, 1) := dk_96 (dk_at dksX1_bends_1 12 rfl rfl)
theorem dX1_bends_35 : decode cX1_bends 35 = .ok (.if_icmp .ne 4, 3) := dk_160 0 4 (dk_at dksX1_bends_1 13 rfl rfl)
theorem dX1_bends_38 : decode cX1_bends 38 = .ok (.return_, 1) := dk_177 (dk_at dksX1_bends_1 16 rfl rfl)
theorem dX1_bends_39 : decode cX1_bends 39 = .ok (.iload_n 3, 1) := dk_29 (dk_at dksX1_bends_1 17 rfl rfl)
theorem dX1_bends_40 : decode cX1_bends 40 = .ok (.aload 5, 2) := dk_25 5 (dk_at dksX1_bends_1 18 rfl rfl)
theorem dX1_bends_42 : decode cX1_bends 42 = .ok (.getfield 253, 3) := dk_180 0 253 (dk_at dksX1_bends_1 20 rfl rfl)
theorem dX1_bends_45 : decode cX1_bends 45 = .ok (.if_icmp .ne 7, 3) := dk_160 0 7 (dk_at dksX1_bends_2 0 rfl rfl)
theorem dX1_bends_48 : decode cX1_bends 48 = .ok (.iconst 1, 1) := dk_4 (dk_at dksX1_bends_2 3 rfl rfl)
theorem dX1_bends_49 : decode cX1_bends 49 = .ok (.goto 4, 3) := dk_167 0 4 (dk_at dksX1_bends_2 4 rfl rfl)
theorem dX1_bends_52 : decode cX1_bends 52 = .ok (.iconst 0, 1) := dk_3 (dk_at dksX1_bends_2 7 rfl rfl)
theorem dX1_bends_53 : decode cX1_bends 53 = .ok (.istore 6, 2) := dk_54 6 (dk_at dksX1_bends_2 8 rfl rfl)
theorem dX1_bends_55 : decode cX1_bends 55 = .ok (.aload 5, 2) := dk_25 5 (dk_at dksX1_bends_2 10 rfl rfl)
theorem dX1_bends_57 : decode cX1_bends 57 = .ok (.getfield 254, 3) := dk_180 0 254 (dk_at dksX1_bends_2 12 rfl rfl)
theorem dX1_bends_60 : decode cX1_bends 60 = .ok (.aload_n 0, 1) := dk_42 (dk_at dksX1_bends_2 15 rfl rfl)
theorem dX1_bends_61 : decode cX1_bends 61 = .ok (.getfield 31, 3) := dk_180 0 31 (dk_at dksX1_bends_2 16 rfl rfl)
theorem dX1_bends_64 : decode cX1_bends 64 = .ok (.invokevirtual 258, 3) := dk_182 1 2 (dk_at dksX1_bends_2 19 rfl rfl)
theorem dX1_bends_67 : decode cX1_bends 67 = .ok (.istore 7, 2) := dk_54 7 (dk_at dksX1_bends_2 22 rfl rfl)
theorem dX1_bends_69 : decode cX1_bends 69 = .ok (.aload 5, 2) := dk_25 5 (dk_at dksX1_bends_3 0 rfl rfl)
theorem dX1_bends_71 : decode cX1_bends 71 = .ok (.getfield 264, 3) := dk_180 1 8 (dk_at dksX1_bends_3 2 rfl rfl)
theorem dX1_bends_74 : decode cX1_bends 74 = .ok (.aload_n 0, 1) := dk_42 (dk_at dksX1_bends_3 5 rfl rfl)
theorem dX1_bends_75 : decode cX1_bends 75 = .ok (.getfield 31, 3) := dk_180 0 31 (dk_at dksX1_bends_3 6 rfl rfl)
theorem dX1_bends_78 : decode cX1_bends 78 = .ok (.invokevirtual 258, 3) := dk_182 1 2 (dk_at dksX1_bends_3 9 rfl rfl)
theorem dX1_bends_81 : decode cX1_bends 81 = .ok (.istore 8, 2) := dk_54 8 (dk_at dksX1_bends_3 12 rfl rfl)
theorem dX1_bends_83 : decode cX1_bends 83 = .ok (.iload 7, 2) := dk_21 7 (dk_at dksX1_bends_3 14 rfl rfl)
theorem dX1_bends_85 : decode cX1_bends 85 = .ok (.aload 5, 2) := dk_25 5 (dk_at dksX1_bends_3 16 rfl rfl)
theorem dX1_bends_87 : decode cX1_bends 87 = .ok (.getfield 267, 3) := dk_180 1 11 (dk_at dksX1_bends_3 18 rfl rfl)
theorem dX1_bends_90 : decode cX1_bends 90 = .ok (.iload 8, 2) := dk_21 8 (dk_at dksX1_bends_3 21 rfl rfl)
theorem dX1_bends_92 : decode cX1_bends 92 = .ok (.invokestatic 270, 3) := dk_184 1 14 (dk_at dksX1_bends_4 0 rfl rfl)
theorem dX1_bends_95 : decode cX1_bends 95 = .ok (.iload 6, 2) := dk_21 6 (dk_at dksX1_bends_4 3 rfl rfl)
theorem dX1_bends_97 : decode cX1_bends 97 = .ok (.if_icmp .ne 4, 3) := dk_160 0 4 (dk_at dksX1_bends_4 5 rfl rfl)
theorem dX1_bends_100 : decode cX1_bends 100 = .ok (.return_, 1) := dk_177 (dk_at dksX1_bends_4 8 rfl rfl)
theorem dX1_bends_101 : decode cX1_bends 101 = .ok (.aload_n 0, 1) := dk_42 (dk_at dksX1_bends_4 9 rfl rfl)
theorem dX1_bends_102 : decode cX1_bends 102 = .ok (.iload_n 1, 1) := dk_27 (dk_at dksX1_bends_4 10 rfl rfl)
theorem dX1_bends_103 : decode cX1_bends 103 = .ok (.aload 5, 2) := dk_25 5 (dk_at dksX1_bends_4 11 rfl rfl)
theorem dX1_bends_105 : decode cX1_bends 105 = .ok (.getfield 254, 3) := dk_180 0 254 (dk_at dksX1_bends_4 13 rfl rfl)
theorem dX1_bends_108 : decode cX1_bends 108 = .ok (.getfield 272, 3) := dk_180 1 16 (dk_at dksX1_bends_4 16 rfl rfl)
theorem dX1_bends_111 : decode cX1_bends 111 = .ok (.invokevirtual 275, 3) := dk_182 1 19 (dk_at dksX1_bends_4 19 rfl rfl)
theorem dX1_bends_114 : decode cX1_bends 114 = .ok (.ifCond .eq 32, 3) := dk_153 0 32 (dk_at dksX1_bends_5 0 rfl rfl)
theorem dX1_bends_117 : decode cX1_bends 117 = .ok (.aload_n 0, 1) := dk_42 (dk_at dksX1_bends_5 3 rfl rfl)
theorem dX1_bends_118 : decode cX1_bends 118 = .ok (.getfield 31, 3) := dk_180 0 31 (dk_at dksX1_bends_5 4 rfl rfl)
theorem dX1_bends_121 : decode cX1_bends 121 = .ok (.getfield 226, 3) := dk_180 0 226 (dk_at dksX1_bends_5 7 rfl rfl)
theorem dX1_bends_124 : decode cX1_bends 124 = .ok (.aload 5, 2) := dk_25 5 (dk_at dksX1_bends_5 10 rfl rfl)
theorem dX1_bends_126 : decode cX1_bends 126 = .ok (.getfield 254, 3) := dk_180 0 254 (dk_at dksX1_bends_5 12 rfl rfl)
theorem dX1_bends_129 : decode cX1_bends 129 = .ok (.getfield 272, 3) := dk_180 1 16 (dk_at dksX1_bends_5 15 rfl rfl)
theorem dX1_bends_132 : decode cX1_bends 132 = .ok (.aload 5, 2) := dk_25 5 (dk_at dksX1_bends_5 18 rfl rfl)
theorem dX1_bends_134 : decode cX1_bends 134 = .ok (.iconst 0, 1) := dk_3 (dk_at dksX1_bends_5 20 rfl rfl)
theorem dX1_bends_135 : decode cX1_bends 135 = .ok (.iload 6, 2) := dk_21 6 (dk_at dksX1_bends_5 21 rfl rfl)
theorem dX1_bends_137 : decode cX1_bends 137 = .ok (.iload 8, 2) := dk_21 8 (dk_at dksX1_bends_6 0 rfl rfl)
theorem dX1_bends_139 : decode cX1_bends 139 = .ok (.invokevirtual 279, 3) := dk_182 1 23 (dk_at dksX1_bends_6 2 rfl rfl)
theorem dX1_bends_142 : decode cX1_bends 142 = .ok (.iastore, 1) := dk_79 (dk_at dksX1_bends_6 5 rfl rfl)
theorem dX1_bends_143 : decode cX1_bends 143 = .ok (.goto 45, 3) := dk_167 0 45 (dk_at dksX1_bends_6 6 rfl rfl)
theorem dX1_bends_146 : decode cX1_bends 146 = .ok (.aload_n 0, 1) := dk_42 (dk_at dksX1_bends_6 9 rfl rfl)
theorem dX1_bends_147 : decode cX1_bends 147 = .ok (.iload_n 1, 1) := dk_27 (dk_at dksX1_bends_6 10 rfl rfl)
theorem dX1_bends_148 : decode cX1_bends 148 = .ok (.aload 5, 2) := dk_25 5 (dk_at dksX1_bends_6 11 rfl rfl)
theorem dX1_bends_150 : decode cX1_bends 150 = .ok (.getfield 264, 3) := dk_180 1 8 (dk_at dksX1_bends_6 13 rfl rfl)
theorem dX1_bends_153 : decode cX1_bends 153 = .ok (.getfield 272, 3) := dk_180 1 16 (dk_at dksX1_bends_6 16 rfl rfl)
theorem dX1_bends_156 : decode cX1_bends 156 = .ok (.invokevirtual 275, 3) := dk_182 1 19 (dk_at dksX1_bends_6 19 rfl rfl)
theorem dX1_bends_159 : decode cX1_bends 159 = .ok (.ifCond .eq 29, 3) := dk_153 0 29 (dk_at dksX1_bends_7 0 rfl rfl)
theorem dX1_bends_162 : decode cX1_bends 162 = .ok (.aload_n 0, 1) := dk_42 (dk_at dksX1_bends_7 3 rfl rfl)
theorem dX1_bends_163 : decode cX1_bends 163 = .ok (.getfield 31, 3) := dk_180 0 31 (dk_at dksX1_bends_7 4 rfl rfl)
theorem dX1_bends_166 : decode cX1_bends 166 = .ok (.getfield 226, 3) := dk_180 0 226 (dk_at dksX1_bends_7 7 rfl rfl)
theorem dX1_bends_169 : decode cX1_bends 169 = .ok (.aload 5, 2) := dk_25 5 (dk_at dksX1_bends_7 10 rfl rfl)
theorem dX1_bends_171 : decode cX1_bends 171 = .ok (.getfield 264, 3) := dk_180 1 8 (dk_at dksX1_bends_7 12 rfl rfl)
theorem dX1_bends_174 : decode cX1_bends 174 = .ok (.getfield 272, 3) := dk_180 1 16 (dk_at dksX1_bends_7 15 rfl rfl)
theorem dX1_bends_177 : decode cX1_bends 177 = .ok (.aload 5, 2) := dk_25 5 (dk_at dksX1_bends_7 18 rfl rfl)
theorem dX1_bends_179 : decode cX1_bends 179 = .ok (.iconst 1, 1) := dk_4 (dk_at dksX1_bends_7 20 rfl rfl)
theorem dX1_bends_180 : decode cX1_bends 180 = .ok (.iload 6, 2) := dk_21 6 (dk_at dksX1_bends_7 21 rfl rfl)
theorem dX1_bends_182 : decode cX1_bends 182 = .ok (.iload 7, 2) := dk_21 7 (dk_at dksX1_bends_8 0 rfl rfl)
theorem dX1_bends_184 : decode cX1_bends 184 = .ok (.invokevirtual 279, 3) := dk_182 1 23 (dk_at dksX1_bends_8 2 rfl rfl)
theorem dX1_bends_187 : decode cX1_bends 187 = .ok (.iastore, 1) := dk_79 (dk_at dksX1_bends_8 5 rfl rfl)
theorem dX1_bends_188 : decode cX1_bends 188 = .ok (.goto 92, 3) := dk_167 0 92 (dk_at dksX1_bends_8 6 rfl rfl)
theorem dX1_bends_191 : decode cX1_bends 191 = .ok (.aload 4, 2) := dk_25 4 (dk_at dksX1_bends_8 9 rfl rfl)
theorem dX1_bends_193 : decode cX1_bends 193 = .ok (.invokevirtual 283, 3) := dk_182 1 27 (dk_at dksX1_bends_8 11 rfl rfl)
theorem dX1_bends_196 : decode cX1_bends 196 = .ok (.iconst (-1), 1) := dk_2 (dk_at dksX1_bends_8 14 rfl rfl)
theorem dX1_bends_197 : decode cX1_bends 197 = .ok (.if_icmp .eq 33, 3) := dk_159 0 33 (dk_at dksX1_bends_8 15 rfl rfl)
theorem dX1_bends_200 : decode cX1_bends 200 = .ok (.aload_n 0, 1) := dk_42 (dk_at dksX1_bends_8 18 rfl rfl)
theorem dX1_bends_201 : decode cX1_bends 201 = .ok (.iload_n 1, 1) := dk_27 (dk_at dksX1_bends_8 19 rfl rfl)
theorem dX1_bends_202 : decode cX1_bends 202 = .ok (.aload 4, 2) := dk_25 4 (dk_at dksX1_bends_8 20 rfl rfl)
theorem dX1_bends_204 : decode cX1_bends 204 = .ok (.invokevirtual 283, 3) := dk_182 1 27 (dk_at dksX1_bends_9 0 rfl rfl)
theorem dX1_bends_207 : decode cX1_bends 207 = .ok (.invokevirtual 275, 3) := dk_182 1 19 (dk_at dksX1_bends_9 3 rfl rfl)
theorem dX1_bends_210 : decode cX1_bends 210 = .ok (.ifCond .eq 70, 3) := dk_153 0 70 (dk_at dksX1_bends_9 6 rfl rfl)
theorem dX1_bends_213 : decode cX1_bends 213 = .ok (.aload_n 0, 1) := dk_42 (dk_at dksX1_bends_9 9 rfl rfl)
theorem dX1_bends_214 : decode cX1_bends 214 = .ok (.getfield 31, 3) := dk_180 0 31 (dk_at dksX1_bends_9 10 rfl rfl)
theorem dX1_bends_217 : decode cX1_bends 217 = .ok (.getfield 226, 3) := dk_180 0 226 (dk_at dksX1_bends_9 13 rfl rfl)
theorem dX1_bends_220 : decode cX1_bends 220 = .ok (.aload 4, 2) := dk_25 4 (dk_at dksX1_bends_9 16 rfl rfl)
theorem dX1_bends_222 : decode cX1_bends 222 = .ok (.invokevirtual 283, 3) := dk_182 1 27 (dk_at dksX1_bends_9 18 rfl rfl)
theorem dX1_bends_225 : decode cX1_bends 225 = .ok (.iload_n 3, 1) := dk_29 (dk_at dksX1_bends_9 21 rfl rfl)
theorem dX1_bends_226 : decode cX1_bends 226 = .ok (.iastore, 1) := dk_79 (dk_at dksX1_bends_9 22 rfl rfl)
theorem dX1_bends_227 : decode cX1_bends 227 = .ok (.goto 53, 3) := dk_167 0 53 (dk_at dksX1_bends_10 0 rfl rfl)
theorem dX1_bends_230 : decode cX1_bends 230 = .ok (.aload 4, 2) := dk_25 4 (dk_at dksX1_bends_10 3 rfl rfl)
theorem dX1_bends_232 : decode cX1_bends 232 = .ok (.invokevirtual 134, 3) := dk_182 0 134 (dk_at dksX1_bends_10 5 rfl rfl)
theorem dX1_bends_235 : decode cX1_bends 235 = .ok (.bipush 7, 2) := dk_16 7 (dk_at dksX1_bends_10 8 rfl rfl)
theorem dX1_bends_237 : decode cX1_bends 237 = .ok (.if_icmp .ne 43, 3) := dk_160 0 43 (dk_at dksX1_bends_10 10 rfl rfl)
theorem dX1_bends_240 : decode cX1_bends 240 = .ok (.aload_n 0, 1) := dk_42 (dk_at dksX1_bends_10 13 rfl rfl)
theorem dX1_bends_241 : decode cX1_bends 241 = .ok (.getfield 31, 3) := dk_180 0 31 (dk_at dksX1_bends_10 14 rfl rfl)
theorem dX1_bends_244 : decode cX1_bends 244 = .ok (.getfield 285, 3) := dk_180 1 29 (dk_at dksX1_bends_10 17 rfl rfl)
theorem dX1_bends_247 : decode cX1_bends 247 = .ok (.ifCond .le 33, 3) := dk_158 0 33 (dk_at dksX1_bends_10 20 rfl rfl)
theorem dX1_bends_250 : decode cX1_bends 250 = .ok (.aload_n 0, 1) := dk_42 (dk_at dksX1_bends_10 23 rfl rfl)
theorem dX1_bends_251 : decode cX1_bends 251 = .ok (.getfield 19, 3) := dk_180 0 19 (dk_at dksX1_bends_11 0 rfl rfl)
theorem dX1_bends_254 : decode cX1_bends 254 = .ok (.getfield 233, 3) := dk_180 0 233 (dk_at dksX1_bends_11 3 rfl rfl)
theorem dX1_bends_257 : decode cX1_bends 257 = .ok (.iload_n 1, 1) := dk_27 (dk_at dksX1_bends_11 6 rfl rfl)
theorem dX1_bends_258 : decode cX1_bends 258 = .ok (.baload, 1) := dk_51 (dk_at dksX1_bends_11 7 rfl rfl)
theorem dX1_bends_259 : decode cX1_bends 259 = .ok (.ifCond .eq 21, 3) := dk_153 0 21 (dk_at dksX1_bends_11 8 rfl rfl)
theorem dX1_bends_262 : decode cX1_bends 262 = .ok (.aload_n 0, 1) := dk_42 (dk_at dksX1_bends_11 11 rfl rfl)
theorem dX1_bends_263 : decode cX1_bends 263 = .ok (.getfield 31, 3) := dk_180 0 31 (dk_at dksX1_bends_11 12 rfl rfl)
theorem dX1_bends_266 : decode cX1_bends 266 = .ok (.getfield 288, 3) := dk_180 1 32 (dk_at dksX1_bends_11 15 rfl rfl)
theorem dX1_bends_269 : decode cX1_bends 269 = .ok (.aload_n 0, 1) := dk_42 (dk_at dksX1_bends_11 18 rfl rfl)
theorem dX1_bends_270 : decode cX1_bends 270 = .ok (.getfield 31, 3) := dk_180 0 31 (dk_at dksX1_bends_11 19 rfl rfl)
theorem dX1_bends_273 : decode cX1_bends 273 = .ok (.getfield 285, 3) := dk_180 1 29 (dk_at dksX1_bends_12 0 rfl rfl)
theorem dX1_bends_276 : decode cX1_bends 276 = .ok (.iconst 1, 1) := dk_4 (dk_at dksX1_bends_12 3 rfl rfl)
theorem dX1_bends_277 : decode cX1_bends 277 = .ok (.isub, 1) := dk_100 (dk_at dksX1_bends_12 4 rfl rfl)
theorem dX1_bends_278 : decode cX1_bends 278 = .ok (.iload_n 3, 1) := dk_29 (dk_at dksX1_bends_12 5 rfl rfl)
theorem dX1_bends_279 : decode cX1_bends 279 = .ok (.iastore, 1) := dk_79 (dk_at dksX1_bends_12 6 rfl rfl)
theorem dX1_bends_280 : decode cX1_bends 280 = .ok (.return_, 1) := dk_177 (dk_at dksX1_bends_12 7 rfl rfl)
def dkwX1_can_1 : List UInt8 := [167, 0, 4, 3, 172]
abbrev dktX1_can_1 : List UInt8 := dkwX1_can_1 ++ []
def dkwX1_can_0 : List UInt8 := [28, 2, 159, 0, 24, 42, 180, 0, 19, 180, 0, 230, 27, 46, 28, 122, 4, 126, 4, 160, 0, 7, 4]
abbrev dktX1_can_0 : List UInt8 := dkwX1_can_0 ++ dktX1_can_1
theorem dksX1_can_0 : cX1_can.data.toList.drop 0 = dktX1_can_0 := by decide +kernel
theorem dksX1_can_1 : cX1_can.data.toList.drop 23 = dktX1_can_1 := dk_seg dksX1_can_0 23 rfl rfl
theorem dX1_can_0 : decode cX1_can 0 = .ok (.iload_n 2, 1) := dk_28 (dk_at dksX1_can_0 0 rfl rfl)
theorem dX1_can_1 : decode cX1_can 1 = .ok (.iconst (-1), 1) := dk_2 (dk_at dksX1_can_0 1 rfl rfl)
theorem dX1_can_2 : decode cX1_can 2 = .ok (.if_icmp .eq 24, 3) := dk_159 0 24 (dk_at dksX1_can_0 2 rfl rfl)
theorem dX1_can_5 : decode cX1_can 5 = .ok (.aload_n 0, 1) := dk_42 (dk_at dksX1_can_0 5 rfl rfl)
theorem dX1_can_6 : decode cX1_can 6 = .ok (.getfield 19, 3) := dk_180 0 19 (dk_at dksX1_can_0 6 rfl rfl)
theorem dX1_can_9 : decode cX1_can 9 = .ok (.getfield 230, 3) := dk_180 0 230 (dk_at dksX1_can_0 9 rfl rfl)
theorem dX1_can_12 : decode cX1_can 12 = .ok (.iload_n 1, 1) := dk_27 (dk_at dksX1_can_0 12 rfl rfl)
theorem dX1_can_13 : decode cX1_can 13 = .ok (.iaload, 1) := dk_46 (dk_at dksX1_can_0 13 rfl rfl)
theorem dX1_can_14 : decode cX1_can 14 = .ok (.iload_n 2, 1) := dk_28 (dk_at dksX1_can_0 14 rfl rfl)
theorem dX1_can_15 : decode cX1_can 15 = .ok (.ishr, 1) := dk_122 (dk_at dksX1_can_0 15 rfl rfl)
theorem dX1_can_16 : decode cX1_can 16 = .ok (.iconst 1, 1) := dk_4 (dk_at dksX1_can_0 16 rfl rfl)
theorem dX1_can_17 : decode cX1_can 17 = .ok (.iand, 1) := dk_126 (dk_at dksX1_can_0 17 rfl rfl)
theorem dX1_can_18 : decode cX1_can 18 = .ok (.iconst 1, 1) := dk_4 (dk_at dksX1_can_0 18 rfl rfl)
theorem dX1_can_19 : decode cX1_can 19 = .ok (.if_icmp .ne 7, 3) := dk_160 0 7 (dk_at dksX1_can_0 19 rfl rfl)
theorem dX1_can_22 : decode cX1_can 22 = .ok (.iconst 1, 1) := dk_4 (dk_at dksX1_can_0 22 rfl rfl)
theorem dX1_can_23 : decode cX1_can 23 = .ok (.goto 4, 3) := dk_167 0 4 (dk_at dksX1_can_1 0 rfl rfl)
theorem dX1_can_26 : decode cX1_can 26 = .ok (.iconst 0, 1) := dk_3 (dk_at dksX1_can_1 3 rfl rfl)
theorem dX1_can_27 : decode cX1_can 27 = .ok (.ireturn, 1) := dk_172 (dk_at dksX1_can_1 4 rfl rfl)
def dkwX1_load_6 : List UInt8 := [180, 0, 19, 180, 0, 70, 172]
abbrev dktX1_load_6 : List UInt8 := dkwX1_load_6 ++ []
def dkwX1_load_5 : List UInt8 := [180, 0, 70, 4, 96, 181, 0, 70, 132, 2, 1, 167, 255, 189, 42, 180, 0, 19, 182, 0, 131, 42]
abbrev dktX1_load_5 : List UInt8 := dkwX1_load_5 ++ dktX1_load_6
def dkwX1_load_4 : List UInt8 := [28, 50, 83, 42, 180, 0, 19, 180, 0, 128, 42, 180, 0, 19, 180, 0, 70, 3, 79, 42, 180, 0, 19, 89]
abbrev dktX1_load_4 : List UInt8 := dkwX1_load_4 ++ dktX1_load_5
def dkwX1_load_3 : List UInt8 := [162, 0, 62, 42, 180, 0, 19, 180, 0, 81, 42, 180, 0, 19, 180, 0, 70, 42, 180, 0, 12, 180, 0, 125]
abbrev dktX1_load_3 : List UInt8 := dkwX1_load_3 ++ dktX1_load_4
def dkwX1_load_2 : List UInt8 := [180, 0, 121, 181, 0, 54, 187, 0, 58, 89, 183, 0, 60, 191, 3, 61, 28, 42, 180, 0, 12, 180, 0, 124]
abbrev dktX1_load_2 : List UInt8 := dkwX1_load_2 ++ dktX1_load_3
def dkwX1_load_1 : List UInt8 := [180, 0, 12, 27, 16, 40, 42, 180, 0, 19, 180, 0, 70, 100, 182, 0, 115, 167, 0, 20, 77, 42, 44]
abbrev dktX1_load_1 : List UInt8 := dkwX1_load_1 ++ dktX1_load_2
def dkwX1_load_0 : List UInt8 := [42, 180, 0, 12, 180, 0, 108, 60, 42, 180, 0, 12, 3, 181, 0, 108, 42, 2, 181, 0, 54, 42]
abbrev dktX1_load_0 : List UInt8 := dkwX1_load_0 ++ dktX1_load_1
theorem dksX1_load_0 : cX1_load.data.toList.drop 0 = dktX1_load_0 := by decide +kernel
theorem dksX1_load_1 : cX1_load.data.toList.drop 22 = dktX1_load_1 := dk_seg dksX1_load_0 22 rfl rfl
theorem dksX1_load_2 : cX1_load.data.toList.drop 45 = dktX1_load_2 := dk_seg dksX1_load_1 23 rfl rfl
theorem dksX1_load_3 : cX1_load.data.toList.drop 69 = dktX1_load_3 := dk_seg dksX1_load_2 24 rfl rfl
theorem dksX1_load_4 : cX1_load.data.toList.drop 93 = dktX1_load_4 := dk_seg dksX1_load_3 24 rfl rfl
theorem dksX1_load_5 : cX1_load.data.toList.drop 117 = dktX1_load_5 := dk_seg dksX1_load_4 24 rfl rfl
theorem dksX1_load_6 : cX1_load.data.toList.drop 139 = dktX1_load_6 := dk_seg dksX1_load_5 22 rfl rfl
theorem dX1_load_0 : decode cX1_load 0 = .ok (.aload_n 0, 1) := dk_42 (dk_at dksX1_load_0 0 rfl rfl)
theorem dX1_load_1 : decode cX1_load 1 = .ok (.getfield 12, 3) := dk_180 0 12 (dk_at dksX1_load_0 1 rfl rfl)
theorem dX1_load_4 : decode cX1_load 4 = .ok (.getfield 108, 3) := dk_180 0 108 (dk_at dksX1_load_0 4 rfl rfl)
theorem dX1_load_7 : decode cX1_load 7 = .ok (.istore_n 1, 1) := dk_60 (dk_at dksX1_load_0 7 rfl rfl)
theorem dX1_load_8 : decode cX1_load 8 = .ok (.aload_n 0, 1) := dk_42 (dk_at dksX1_load_0 8 rfl rfl)
theorem dX1_load_9 : decode cX1_load 9 = .ok (.getfield 12, 3) := dk_180 0 12 (dk_at dksX1_load_0 9 rfl rfl)
theorem dX1_load_12 : decode cX1_load 12 = .ok (.iconst 0, 1) := dk_3 (dk_at dksX1_load_0 12 rfl rfl)
theorem dX1_load_13 : decode cX1_load 13 = .ok (.putfield 108, 3) := dk_181 0 108 (dk_at dksX1_load_0 13 rfl rfl)
theorem dX1_load_16 : decode cX1_load 16 = .ok (.aload_n 0, 1) := dk_42 (dk_at dksX1_load_0 16 rfl rfl)
theorem dX1_load_17 : decode cX1_load 17 = .ok (.iconst (-1), 1) := dk_2 (dk_at dksX1_load_0 17 rfl rfl)
theorem dX1_load_18 : decode cX1_load 18 = .ok (.putfield 54, 3) := dk_181 0 54 (dk_at dksX1_load_0 18 rfl rfl)
theorem dX1_load_21 : decode cX1_load 21 = .ok (.aload_n 0, 1) := dk_42 (dk_at dksX1_load_0 21 rfl rfl)
theorem dX1_load_22 : decode cX1_load 22 = .ok (.getfield 12, 3) := dk_180 0 12 (dk_at dksX1_load_1 0 rfl rfl)
theorem dX1_load_25 : decode cX1_load 25 = .ok (.iload_n 1, 1) := dk_27 (dk_at dksX1_load_1 3 rfl rfl)
theorem dX1_load_26 : decode cX1_load 26 = .ok (.bipush 40, 2) := dk_16 40 (dk_at dksX1_load_1 4 rfl rfl)
theorem dX1_load_28 : decode cX1_load 28 = .ok (.aload_n 0, 1) := dk_42 (dk_at dksX1_load_1 6 rfl rfl)
theorem dX1_load_29 : decode cX1_load 29 = .ok (.getfield 19, 3) := dk_180 0 19 (dk_at dksX1_load_1 7 rfl rfl)
theorem dX1_load_32 : decode cX1_load 32 = .ok (.getfield 70, 3) := dk_180 0 70 (dk_at dksX1_load_1 10 rfl rfl)
theorem dX1_load_35 : decode cX1_load 35 = .ok (.isub, 1) := dk_100 (dk_at dksX1_load_1 13 rfl rfl)
theorem dX1_load_36 : decode cX1_load 36 = .ok (.invokevirtual 115, 3) := dk_182 0 115 (dk_at dksX1_load_1 14 rfl rfl)
theorem dX1_load_39 : decode cX1_load 39 = .ok (.goto 20, 3) := dk_167 0 20 (dk_at dksX1_load_1 17 rfl rfl)
theorem dX1_load_42 : decode cX1_load 42 = .ok (.astore_n 2, 1) := dk_77 (dk_at dksX1_load_1 20 rfl rfl)
theorem dX1_load_43 : decode cX1_load 43 = .ok (.aload_n 0, 1) := dk_42 (dk_at dksX1_load_1 21 rfl rfl)
theorem dX1_load_44 : decode cX1_load 44 = .ok (.aload_n 2, 1) := dk_44 (dk_at dksX1_load_1 22 rfl rfl)
theorem dX1_load_45 : decode cX1_load 45 = .ok (.getfield 121, 3) := dk_180 0 121 (dk_at dksX1_load_2 0 rfl rfl)
theorem dX1_load_48 : decode cX1_load 48 = .ok (.putfield 54, 3) := dk_181 0 54 (dk_at dksX1_load_2 3 rfl rfl)
theorem dX1_load_51 : decode cX1_load 51 = .ok (.new 58, 3) := dk_187 0 58 (dk_at dksX1_load_2 6 rfl rfl)
theorem dX1_load_54 : decode cX1_load 54 = .ok (.dup, 1) := dk_89 (dk_at dksX1_load_2 9 rfl rfl)
theorem dX1_load_55 : decode cX1_load 55 = .ok (.invokespecial 60, 3) := dk_183 0 60 (dk_at dksX1_load_2 10 rfl rfl)
theorem dX1_load_58 : decode cX1_load 58 = .ok (.athrow, 1) := dk_191 (dk_at dksX1_load_2 13 rfl rfl)
theorem dX1_load_59 : decode cX1_load 59 = .ok (.iconst 0, 1) := dk_3 (dk_at dksX1_load_2 14 rfl rfl)
theorem dX1_load_60 : decode cX1_load 60 = .ok (.istore_n 2, 1) := dk_61 (dk_at dksX1_load_2 15 rfl rfl)
theorem dX1_load_61 : decode cX1_load 61 = .ok (.iload_n 2, 1) := dk_28 (dk_at dksX1_load_2 16 rfl rfl)
theorem dX1_load_62 : decode cX1_load 62 = .ok (.aload_n 0, 1) := dk_42 (dk_at dksX1_load_2 17 rfl rfl)
theorem dX1_load_63 : decode cX1_load 63 = .ok (.getfield 12, 3) := dk_180 0 12 (dk_at dksX1_load_2 18 rfl rfl)
theorem dX1_load_66 : decode cX1_load 66 = .ok (.getfield 124, 3) := dk_180 0 124 (dk_at dksX1_load_2 21 rfl rfl)
theorem dX1_load_69 : decode cX1_load 69 = .ok (.if_icmp .ge 62, 3) := dk_162 0 62 (dk_at dksX1_load_3 0 rfl rfl)
theorem dX1_load_72 : decode cX1_load 72 = .ok (.aload_n 0, 1) := dk_42 (dk_at dksX1_load_3 3 rfl rfl)
theorem dX1_load_73 : decode cX1_load 73 = .ok (.getfield 19, 3) := dk_180 0 19 (dk_at dksX1_load_3 4 rfl rfl)
theorem dX1_load_76 : decode cX1_load 76 = .ok (.getfield 81, 3) := dk_180 0 81 (dk_at dksX1_load_3 7 rfl rfl)
theorem dX1_load_79 : decode cX1_load 79 = .ok (.aload_n 0, 1) := dk_42 (dk_at dksX1_load_3 10 rfl rfl)
theorem dX1_load_80 : decode cX1_load 80 = .ok (.getfield 19, 3) := dk_180 0 19 (dk_at dksX1_load_3 11 rfl rfl)
theorem dX1_load_83 : decode cX1_load 83 = .ok (.getfield 70, 3) := dk_180 0 70 (dk_at dksX1_load_3 14 rfl rfl)
theorem dX1_load_86 : decode cX1_load 86 = .ok (.aload_n 0, 1) := dk_42 (dk_at dksX1_load_3 17 rfl rfl)
theorem dX1_load_87 : decode cX1_load 87 = .ok (.getfield 12, 3) := dk_180 0 12 (dk_at dksX1_load_3 18 rfl rfl)
theorem dX1_load_90 : decode cX1_load 90 = .ok (.getfield 125, 3) := dk_180 0 125 (dk_at dksX1_load_3 21 rfl rfl)
theorem dX1_load_93 : decode cX1_load 93 = .ok (.iload_n 2, 1) := dk_28 (dk_at dksX1_load_4 0 rfl rfl)
theorem dX1_load_94 : decode cX1_load 94 = .ok (.aaload, 1) := dk_50 (dk_at dksX1_load_4 1 rfl rfl)
theorem dX1_load_95 : decode cX1_load 95 = .ok (.aastore, 1) := dk_83 (dk_at dksX1_load_4 2 rfl rfl)
theorem dX1_load_96 : decode cX1_load 96 = .ok (.aload_n 0, 1) := dk_42 (dk_at dksX1_load_4 3 rfl rfl)
theorem dX1_load_97 : decode cX1_load 97 = .ok (.getfield 19, 3) := dk_180 0 19 (dk_at dksX1_load_4 4 rfl rfl)
theorem dX1_load_100 : decode cX1_load 100 = .ok (.getfield 128, 3) := dk_180 0 128 (dk_at dksX1_load_4 7 rfl rfl)
theorem dX1_load_103 : decode cX1_load 103 = .ok (.aload_n 0, 1) := dk_42 (dk_at dksX1_load_4 10 rfl rfl)
theorem dX1_load_104 : decode cX1_load 104 = .ok (.getfield 19, 3) := dk_180 0 19 (dk_at dksX1_load_4 11 rfl rfl)
theorem dX1_load_107 : decode cX1_load 107 = .ok (.getfield 70, 3) := dk_180 0 70 (dk_at dksX1_load_4 14 rfl rfl)
theorem dX1_load_110 : decode cX1_load 110 = .ok (.iconst 0, 1) := dk_3 (dk_at dksX1_load_4 17 rfl rfl)
theorem dX1_load_111 : decode cX1_load 111 = .ok (.iastore, 1) := dk_79 (dk_at dksX1_load_4 18 rfl rfl)
theorem dX1_load_112 : decode cX1_load 112 = .ok (.aload_n 0, 1) := dk_42 (dk_at dksX1_load_4 19 rfl rfl)
theorem dX1_load_113 : decode cX1_load 113 = .ok (.getfield 19, 3) := dk_180 0 19 (dk_at dksX1_load_4 20 rfl rfl)
theorem dX1_load_116 : decode cX1_load 116 = .ok (.dup, 1) := dk_89 (dk_at dksX1_load_4 23 rfl rfl)
theorem dX1_load_117 : decode cX1_load 117 = .ok (.getfield 70, 3) := dk_180 0 70 (dk_at dksX1_load_5 0 rfl rfl)
theorem dX1_load_120 : decode cX1_load 120 = .ok (.iconst 1, 1) := dk_4 (dk_at dksX1_load_5 3 rfl rfl)
theorem dX1_load_121 : decode cX1_load 121 = .ok (.iadd, 1) := dk_96 (dk_at dksX1_load_5 4 rfl rfl)
theorem dX1_load_122 : decode cX1_load 122 = .ok (.putfield 70, 3) := dk_181 0 70 (dk_at dksX1_load_5 5 rfl rfl)
theorem dX1_load_125 : decode cX1_load 125 = .ok (.iinc 2 1, 3) := dk_132 2 1 (dk_at dksX1_load_5 8 rfl rfl)
theorem dX1_load_128 : decode cX1_load 128 = .ok (.goto (-67), 3) := dk_167 255 189 (dk_at dksX1_load_5 11 rfl rfl)
theorem dX1_load_131 : decode cX1_load 131 = .ok (.aload_n 0, 1) := dk_42 (dk_at dksX1_load_5 14 rfl rfl)
theorem dX1_load_132 : decode cX1_load 132 = .ok (.getfield 19, 3) := dk_180 0 19 (dk_at dksX1_load_5 15 rfl rfl)
theorem dX1_load_135 : decode cX1_load 135 = .ok (.invokevirtual 131, 3) := dk_182 0 131 (dk_at dksX1_load_5 18 rfl rfl)
theorem dX1_load_138 : decode cX1_load 138 = .ok (.aload_n 0, 1) := dk_42 (dk_at dksX1_load_5 21 rfl rfl)
theorem dX1_load_139 : decode cX1_load 139 = .ok (.getfield 19, 3) := dk_180 0 19 (dk_at dksX1_load_6 0 rfl rfl)
theorem dX1_load_142 : decode cX1_load 142 = .ok (.getfield 70, 3) := dk_180 0 70 (dk_at dksX1_load_6 3 rfl rfl)
theorem dX1_load_145 : decode cX1_load 145 = .ok (.ireturn, 1) := dk_172 (dk_at dksX1_load_6 6 rfl rfl)
