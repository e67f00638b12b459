set_option maxRecDepth 100000
def dkwX2_init_4 : List UInt8 := [177]
abbrev dktX2_init_4 : List UInt8 := dkwX2_init_4 ++ []
def dkwX2_init_3 : List UInt8 := [83, 181, 0, 37, 42, 16, 40, 189, 0, 41, 181, 0, 43, 42, 187, 0, 47, 89, 183, 0, 49, 181, 0, 50]
abbrev dktX2_init_3 : List UInt8 := dkwX2_init_3 ++ dktX2_init_4
def dkwX2_init_2 : List UInt8 := [83, 89, 16, 6, 18, 29, 83, 89, 16, 7, 18, 31, 83, 89, 16, 8, 18, 33, 83, 89, 16, 9, 18, 35]
abbrev dktX2_init_2 : List UInt8 := dkwX2_init_2 ++ dktX2_init_3
def dkwX2_init_1 : List UInt8 := [89, 4, 18, 19, 83, 89, 5, 18, 21, 83, 89, 6, 18, 23, 83, 89, 7, 18, 25, 83, 89, 8, 18, 27]
abbrev dktX2_init_1 : List UInt8 := dkwX2_init_1 ++ dktX2_init_2
def dkwX2_init_0 : List UInt8 := [42, 183, 0, 3, 42, 17, 1, 144, 188, 8, 181, 0, 9, 42, 16, 10, 189, 0, 15, 89, 3, 18, 17, 83]
abbrev dktX2_init_0 : List UInt8 := dkwX2_init_0 ++ dktX2_init_1
theorem dksX2_init_0 : cX2_init.data.toList.drop 0 = dktX2_init_0 := by decide +kernel
theorem dksX2_init_1 : cX2_init.data.toList.drop 24 = dktX2_init_1 := dk_seg dksX2_init_0 24 rfl rfl
theorem dksX2_init_2 : cX2_init.data.toList.drop 48 = dktX2_init_2 := dk_seg dksX2_init_1 24 rfl rfl
theorem dksX2_init_3 : cX2_init.data.toList.drop 72 = dktX2_init_3 := dk_seg dksX2_init_2 24 rfl rfl
theorem dksX2_init_4 : cX2_init.data.toList.drop 96 = dktX2_init_4 := dk_seg dksX2_init_3 24 rfl rfl
theorem dX2_init_0 : decode cX2_init 0 = .ok (.aload_n 0, 1) := dk_42 (dk_at dksX2_init_0 0 rfl rfl)
theorem dX2_init_1 : decode cX2_init 1 = .ok (.invokespecial 3, 3) := dk_183 0 3 (dk_at dksX2_init_0 1 rfl rfl)
theorem dX2_init_4 : decode cX2_init 4 = .ok (.aload_n 0, 1) := dk_42 (dk_at dksX2_init_0 4 rfl rfl)
theorem dX2_init_5 : decode cX2_init 5 = .ok (.sipush 400, 3) := dk_17 1 144 (dk_at dksX2_init_0 5 rfl rfl)
theorem dX2_init_8 : decode cX2_init 8 = .ok (.newarray .byte, 2) := dk_188_8 (dk_at dksX2_init_0 8 rfl rfl)
theorem dX2_init_10 : decode cX2_init 10 = .ok (.putfield 9, 3) := dk_181 0 9 (dk_at dksX2_init_0 10 rfl rfl)
theorem dX2_init_13 : decode cX2_init 13 = .ok (.aload_n 0, 1) := dk_42 (dk_at dksX2_init_0 13 rfl rfl)
theorem dX2_init_14 : decode cX2_init 14 = .ok (.bipush 10, 2) := dk_16 10 (dk_at dksX2_init_0 14 rfl rfl)
theorem dX2_init_16 : decode cX2_init 16 = .ok (.anewarray 15, 3) := dk_189 0 15 (dk_at dksX2_init_0 16 rfl rfl)
theorem dX2_init_19 : decode cX2_init 19 = .ok (.dup, 1) := dk_89 (dk_at dksX2_init_0 19 rfl rfl)
theorem dX2_init_20 : decode cX2_init 20 = .ok (.iconst 0, 1) := dk_3 (dk_at dksX2_init_0 20 rfl rfl)
theorem dX2_init_21 : decode cX2_init 21 = .ok (.ldc 17, 2) := dk_18 17 (dk_at dksX2_init_0 21 rfl rfl)
theorem dX2_init_23 : decode cX2_init 23 = .ok (.aastore, 1) := dk_83 (dk_at dksX2_init_0 23 rfl rfl)
theorem dX2_init_24 : decode cX2_init 24 = .ok (.dup, 1) := dk_89 (dk_at dksX2_init_1 0 rfl rfl)
theorem dX2_init_25 : decode cX2_init 25 = .ok (.iconst 1, 1) := dk_4 (dk_at dksX2_init_1 1 rfl rfl)
theorem dX2_init_26 : decode cX2_init 26 = .ok (.ldc 19, 2) := dk_18 19 (dk_at dksX2_init_1 2 rfl rfl)
theorem dX2_init_28 : decode cX2_init 28 = .ok (.aastore, 1) := dk_83 (dk_at dksX2_init_1 4 rfl rfl)
theorem dX2_init_29 : decode cX2_init 29 = .ok (.dup, 1) := dk_89 (dk_at dksX2_init_1 5 rfl rfl)
theorem dX2_init_30 : decode cX2_init 30 = .ok (.iconst 2, 1) := dk_5 (dk_at dksX2_init_1 6 rfl rfl)
theorem dX2_init_31 : decode cX2_init 31 = .ok (.ldc 21, 2) := dk_18 21 (dk_at dksX2_init_1 7 rfl rfl)
theorem dX2_init_33 : decode cX2_init 33 = .ok (.aastore, 1) := dk_83 (dk_at dksX2_init_1 9 rfl rfl)
theorem dX2_init_34 : decode cX2_init 34 = .ok (.dup, 1) := dk_89 (dk_at dksX2_init_1 10 rfl rfl)
theorem dX2_init_35 : decode cX2_init 35 = .ok (.iconst 3, 1) := dk_6 (dk_at dksX2_init_1 11 rfl rfl)
theorem dX2_init_36 : decode cX2_init 36 = .ok (.ldc 23, 2) := dk_18 23 (dk_at dksX2_init_1 12 rfl rfl)
theorem dX2_init_38 : decode cX2_init 38 = .ok (.aastore, 1) := dk_83 (dk_at dksX2_init_1 14 rfl rfl)
theorem dX2_init_39 : decode cX2_init 39 = .ok (.dup, 1) := dk_89 (dk_at dksX2_init_1 15 rfl rfl)
theorem dX2_init_40 : decode cX2_init 40 = .ok (.iconst 4, 1) := dk_7 (dk_at dksX2_init_1 16 rfl rfl)
theorem dX2_init_41 : decode cX2_init 41 = .ok (.ldc 25, 2) := dk_18 25 (dk_at dksX2_init_1 17 rfl rfl)
theorem dX2_init_43 : decode cX2_init 43 = .ok (.aastore, 1) := dk_83 (dk_at dksX2_init_1 19 rfl rfl)
theorem dX2_init_44 : decode cX2_init 44 = .ok (.dup, 1) := dk_89 (dk_at dksX2_init_1 20 rfl rfl)
theorem dX2_init_45 : decode cX2_init 45 = .ok (.iconst 5, 1) := dk_8 (dk_at dksX2_init_1 21 rfl rfl)
theorem dX2_init_46 : decode cX2_init 46 = .ok (.ldc 27, 2) := dk_18 27 (dk_at dksX2_init_1 22 rfl rfl)
theorem dX2_init_48 : decode cX2_init 48 = .ok (.aastore, 1) := dk_83 (dk_at dksX2_init_2 0 rfl rfl)
theorem dX2_init_49 : decode cX2_init 49 = .ok (.dup, 1) := dk_89 (dk_at dksX2_init_2 1 rfl rfl)
theorem dX2_init_50 : decode cX2_init 50 = .ok (.bipush 6, 2) := dk_16 6 (dk_at dksX2_init_2 2 rfl rfl)
theorem dX2_init_52 : decode cX2_init 52 = .ok (.ldc 29, 2) := dk_18 29 (dk_at dksX2_init_2 4 rfl rfl)
theorem dX2_init_54 : decode cX2_init 54 = .ok (.aastore, 1) := dk_83 (dk_at dksX2_init_2 6 rfl rfl)
theorem dX2_init_55 : decode cX2_init 55 = .ok (.dup, 1) := dk_89 (dk_at dksX2_init_2 7 rfl rfl)
theorem dX2_init_56 : decode cX2_init 56 = .ok (.bipush 7, 2) := dk_16 7 (dk_at dksX2_init_2 8 rfl rfl)
theorem dX2_init_58 : decode cX2_init 58 = .ok (.ldc 31, 2) := dk_18 31 (dk_at dksX2_init_2 10 rfl rfl)
theorem dX2_init_60 : decode cX2_init 60 = .ok (.aastore, 1) := dk_83 (dk_at dksX2_init_2 12 rfl rfl)
theorem dX2_init_61 : decode cX2_init 61 = .ok (.dup, 1) := dk_89 (dk_at dksX2_init_2 13 rfl rfl)
theorem dX2_init_62 : decode cX2_init 62 = .ok (.bipush 8, 2) := dk_16 8 (dk_at dksX2_init_2 14 rfl rfl)
theorem dX2_init_64 : decode cX2_init 64 = .ok (.ldc 33, 2) := dk_18 33 (dk_at dksX2_init_2 16 rfl rfl)
theorem dX2_init_66 : decode cX2_init 66 = .ok (.aastore, 1) := dk_83 (dk_at dksX2_init_2 18 rfl rfl)
theorem dX2_init_67 : decode cX2_init 67 = .ok (.dup, 1) := dk_89 (dk_at dksX2_init_2 19 rfl rfl)
theorem dX2_init_68 : decode cX2_init 68 = .ok (.bipush 9, 2) := dk_16 9 (dk_at dksX2_init_2 20 rfl rfl)
theorem dX2_init_70 : decode cX2_init 70 = .ok (.ldc 35, 2) := dk_18 35 (dk_at dksX2_init_2 22 rfl rfl)
theorem dX2_init_72 : decode cX2_init 72 = .ok (.aastore, 1) := dk_83 (dk_at dksX2_init_3 0 rfl rfl)
theorem dX2_init_73 : decode cX2_init 73 = .ok (.putfield 37, 3) := dk_181 0 37 (dk_at dksX2_init_3 1 rfl rfl)
theorem dX2_init_76 : decode cX2_init 76 = .ok (.aload_n 0, 1) := dk_42 (dk_at dksX2_init_3 4 rfl rfl)
theorem dX2_init_77 : decode cX2_init 77 = .ok (.bipush 40, 2) := dk_16 40 (dk_at dksX2_init_3 5 rfl rfl)
theorem dX2_init_79 : decode cX2_init 79 = .ok (.anewarray 41, 3) := dk_189 0 41 (dk_at dksX2_init_3 7 rfl rfl)
theorem dX2_init_82 : decode cX2_init 82 = .ok (.putfield 43, 3) := dk_181 0 43 (dk_at dksX2_init_3 10 rfl rfl)
theorem dX2_init_85 : decode cX2_init 85 = .ok (.aload_n 0, 1) := dk_42 (dk_at dksX2_init_3 13 rfl rfl)
theorem dX2_init_86 : decode cX2_init 86 = .ok (.new 47, 3) := dk_187 0 47 (dk_at dksX2_init_3 14 rfl rfl)
theorem dX2_init_89 : decode cX2_init 89 = .ok (.dup, 1) := dk_89 (dk_at dksX2_init_3 17 rfl rfl)
theorem dX2_init_90 : decode cX2_init 90 = .ok (.invokespecial 49, 3) := dk_183 0 49 (dk_at dksX2_init_3 18 rfl rfl)
theorem dX2_init_93 : decode cX2_init 93 = .ok (.putfield 50, 3) := dk_181 0 50 (dk_at dksX2_init_3 21 rfl rfl)
theorem dX2_init_96 : decode cX2_init 96 = .ok (.return_, 1) := dk_177 (dk_at dksX2_init_4 0 rfl rfl)
def dkwX2_read_6 : List UInt8 := [180, 0, 58, 182, 0, 79, 167, 255, 137, 177]
abbrev dktX2_read_6 : List UInt8 := dkwX2_read_6 ++ []
def dkwX2_read_5 : List UInt8 := [89, 180, 0, 58, 4, 96, 181, 0, 58, 167, 0, 19, 42, 182, 0, 64, 2, 159, 0, 11, 42, 42]
abbrev dktX2_read_5 : List UInt8 := dkwX2_read_5 ++ dktX2_read_6
def dkwX2_read_4 : List UInt8 := [96, 181, 0, 101, 42, 182, 0, 64, 16, 59, 160, 0, 7, 4, 167, 0, 4, 3, 62, 29, 153, 0, 16, 42]
abbrev dktX2_read_4 : List UInt8 := dkwX2_read_4 ++ dktX2_read_5
def dkwX2_read_3 : List UInt8 := [2, 54, 5, 42, 180, 0, 43, 42, 180, 0, 101, 42, 21, 5, 182, 0, 106, 83, 42, 89, 180, 0, 101, 4]
abbrev dktX2_read_3 : List UInt8 := dkwX2_read_3 ++ dktX2_read_4
def dkwX2_read_2 : List UInt8 := [42, 180, 0, 58, 182, 0, 79, 42, 18, 104, 182, 0, 75, 153, 0, 11, 42, 6, 182, 0, 89, 167, 0, 4]
abbrev dktX2_read_2 : List UInt8 := dkwX2_read_2 ++ dktX2_read_3
def dkwX2_read_1 : List UInt8 := [167, 0, 4, 3, 62, 29, 153, 0, 121, 42, 182, 0, 64, 54, 4, 42, 180, 0, 101, 28, 160, 0, 11, 42]
abbrev dktX2_read_1 : List UInt8 := dkwX2_read_1 ++ dktX2_read_2
def dkwX2_read_0 : List UInt8 := [42, 27, 181, 0, 61, 42, 3, 181, 0, 58, 42, 3, 181, 0, 101, 42, 182, 0, 64, 2, 159, 0, 7, 4]
abbrev dktX2_read_0 : List UInt8 := dkwX2_read_0 ++ dktX2_read_1
theorem dksX2_read_0 : cX2_read.data.toList.drop 0 = dktX2_read_0 := by decide +kernel
theorem dksX2_read_1 : cX2_read.data.toList.drop 24 = dktX2_read_1 := dk_seg dksX2_read_0 24 rfl rfl
theorem dksX2_read_2 : cX2_read.data.toList.drop 48 = dktX2_read_2 := dk_seg dksX2_read_1 24 rfl rfl
theorem dksX2_read_3 : cX2_read.data.toList.drop 72 = dktX2_read_3 := dk_seg dksX2_read_2 24 rfl rfl
theorem dksX2_read_4 : cX2_read.data.toList.drop 96 = dktX2_read_4 := dk_seg dksX2_read_3 24 rfl rfl
theorem dksX2_read_5 : cX2_read.data.toList.drop 120 = dktX2_read_5 := dk_seg dksX2_read_4 24 rfl rfl
theorem dksX2_read_6 : cX2_read.data.toList.drop 142 = dktX2_read_6 := dk_seg dksX2_read_5 22 rfl rfl
theorem dX2_read_0 : decode cX2_read 0 = .ok (.aload_n 0, 1) := dk_42 (dk_at dksX2_read_0 0 rfl rfl)
theorem dX2_read_1 : decode cX2_read 1 = .ok (.iload_n 1, 1) := dk_27 (dk_at dksX2_read_0 1 rfl rfl)
theorem dX2_read_2 : decode cX2_read 2 = .ok (.putfield 61, 3) := dk_181 0 61 (dk_at dksX2_read_0 2 rfl rfl)
theorem dX2_read_5 : decode cX2_read 5 = .ok (.aload_n 0, 1) := dk_42 (dk_at dksX2_read_0 5 rfl rfl)
theorem dX2_read_6 : decode cX2_read 6 = .ok (.iconst 0, 1) := dk_3 (dk_at dksX2_read_0 6 rfl rfl)
theorem dX2_read_7 : decode cX2_read 7 = .ok (.putfield 58, 3) := dk_181 0 58 (dk_at dksX2_read_0 7 rfl rfl)
theorem dX2_read_10 : decode cX2_read 10 = .ok (.aload_n 0, 1) := dk_42 (dk_at dksX2_read_0 10 rfl rfl)
theorem dX2_read_11 : decode cX2_read 11 = .ok (.iconst 0, 1) := dk_3 (dk_at dksX2_read_0 11 rfl rfl)
theorem dX2_read_12 : decode cX2_read 12 = .ok (.putfield 101, 3) := dk_181 0 101 (dk_at dksX2_read_0 12 rfl rfl)
theorem dX2_read_15 : decode cX2_read 15 = .ok (.aload_n 0, 1) := dk_42 (dk_at dksX2_read_0 15 rfl rfl)
theorem dX2_read_16 : decode cX2_read 16 = .ok (.invokevirtual 64, 3) := dk_182 0 64 (dk_at dksX2_read_0 16 rfl rfl)
theorem dX2_read_19 : decode cX2_read 19 = .ok (.iconst (-1), 1) := dk_2 (dk_at dksX2_read_0 19 rfl rfl)
theorem dX2_read_20 : decode cX2_read 20 = .ok (.if_icmp .eq 7, 3) := dk_159 0 7 (dk_at dksX2_read_0 20 rfl rfl)
theorem dX2_read_23 : decode cX2_read 23 = .ok (.iconst 1, 1) := dk_4 (dk_at dksX2_read_0 23 rfl rfl)
theorem dX2_read_24 : decode cX2_read 24 = .ok (.goto 4, 3) := dk_167 0 4 (dk_at dksX2_read_1 0 rfl rfl)
theorem dX2_read_27 : decode cX2_read 27 = .ok (.iconst 0, 1) := dk_3 (dk_at dksX2_read_1 3 rfl rfl)
theorem dX2_read_28 : decode cX2_read 28 = .ok (.istore_n 3, 1) := dk_62 (dk_at dksX2_read_1 4 rfl rfl)
theorem dX2_read_29 : decode cX2_read 29 = .ok (.iload_n 3, 1) := dk_29 (dk_at dksX2_read_1 5 rfl rfl)
theorem dX2_read_30 : decode cX2_read 30 = .ok (.ifCond .eq 121, 3) := dk_153 0 121 (dk_at dksX2_read_1 6 rfl rfl)
theorem dX2_read_33 : decode cX2_read 33 = .ok (.aload_n 0, 1) := dk_42 (dk_at dksX2_read_1 9 rfl rfl)
theorem dX2_read_34 : decode cX2_read 34 = .ok (.invokevirtual 64, 3) := dk_182 0 64 (dk_at dksX2_read_1 10 rfl rfl)
theorem dX2_read_37 : decode cX2_read 37 = .ok (.istore 4, 2) := dk_54 4 (dk_at dksX2_read_1 13 rfl rfl)
theorem dX2_read_39 : decode cX2_read 39 = .ok (.aload_n 0, 1) := dk_42 (dk_at dksX2_read_1 15 rfl rfl)
theorem dX2_read_40 : decode cX2_read 40 = .ok (.getfield 101, 3) := dk_180 0 101 (dk_at dksX2_read_1 16 rfl rfl)
theorem dX2_read_43 : decode cX2_read 43 = .ok (.iload_n 2, 1) := dk_28 (dk_at dksX2_read_1 19 rfl rfl)
theorem dX2_read_44 : decode cX2_read 44 = .ok (.if_icmp .ne 11, 3) := dk_160 0 11 (dk_at dksX2_read_1 20 rfl rfl)
theorem dX2_read_47 : decode cX2_read 47 = .ok (.aload_n 0, 1) := dk_42 (dk_at dksX2_read_1 23 rfl rfl)
theorem dX2_read_48 : decode cX2_read 48 = .ok (.aload_n 0, 1) := dk_42 (dk_at dksX2_read_2 0 rfl rfl)
theorem dX2_read_49 : decode cX2_read 49 = .ok (.getfield 58, 3) := dk_180 0 58 (dk_at dksX2_read_2 1 rfl rfl)
theorem dX2_read_52 : decode cX2_read 52 = .ok (.invokevirtual 79, 3) := dk_182 0 79 (dk_at dksX2_read_2 4 rfl rfl)
theorem dX2_read_55 : decode cX2_read 55 = .ok (.aload_n 0, 1) := dk_42 (dk_at dksX2_read_2 7 rfl rfl)
theorem dX2_read_56 : decode cX2_read 56 = .ok (.ldc 104, 2) := dk_18 104 (dk_at dksX2_read_2 8 rfl rfl)
theorem dX2_read_58 : decode cX2_read 58 = .ok (.invokevirtual 75, 3) := dk_182 0 75 (dk_at dksX2_read_2 10 rfl rfl)
theorem dX2_read_61 : decode cX2_read 61 = .ok (.ifCond .eq 11, 3) := dk_153 0 11 (dk_at dksX2_read_2 13 rfl rfl)
theorem dX2_read_64 : decode cX2_read 64 = .ok (.aload_n 0, 1) := dk_42 (dk_at dksX2_read_2 16 rfl rfl)
theorem dX2_read_65 : decode cX2_read 65 = .ok (.iconst 3, 1) := dk_6 (dk_at dksX2_read_2 17 rfl rfl)
theorem dX2_read_66 : decode cX2_read 66 = .ok (.invokevirtual 89, 3) := dk_182 0 89 (dk_at dksX2_read_2 18 rfl rfl)
theorem dX2_read_69 : decode cX2_read 69 = .ok (.goto 4, 3) := dk_167 0 4 (dk_at dksX2_read_2 21 rfl rfl)
theorem dX2_read_72 : decode cX2_read 72 = .ok (.iconst (-1), 1) := dk_2 (dk_at dksX2_read_3 0 rfl rfl)
theorem dX2_read_73 : decode cX2_read 73 = .ok (.istore 5, 2) := dk_54 5 (dk_at dksX2_read_3 1 rfl rfl)
theorem dX2_read_75 : decode cX2_read 75 = .ok (.aload_n 0, 1) := dk_42 (dk_at dksX2_read_3 3 rfl rfl)
theorem dX2_read_76 : decode cX2_read 76 = .ok (.getfield 43, 3) := dk_180 0 43 (dk_at dksX2_read_3 4 rfl rfl)
theorem dX2_read_79 : decode cX2_read 79 = .ok (.aload_n 0, 1) := dk_42 (dk_at dksX2_read_3 7 rfl rfl)
theorem dX2_read_80 : decode cX2_read 80 = .ok (.getfield 101, 3) := dk_180 0 101 (dk_at dksX2_read_3 8 rfl rfl)
theorem dX2_read_83 : decode cX2_read 83 = .ok (.aload_n 0, 1) := dk_42 (dk_at dksX2_read_3 11 rfl rfl)
theorem dX2_read_84 : decode cX2_read 84 = .ok (.iload 5, 2) := dk_21 5 (dk_at dksX2_read_3 12 rfl rfl)
theorem dX2_read_86 : decode cX2_read 86 = .ok (.invokevirtual 106, 3) := dk_182 0 106 (dk_at dksX2_read_3 14 rfl rfl)
theorem dX2_read_89 : decode cX2_read 89 = .ok (.aastore, 1) := dk_83 (dk_at dksX2_read_3 17 rfl rfl)
theorem dX2_read_90 : decode cX2_read 90 = .ok (.aload_n 0, 1) := dk_42 (dk_at dksX2_read_3 18 rfl rfl)
theorem dX2_read_91 : decode cX2_read 91 = .ok (.dup, 1) := dk_89 (dk_at dksX2_read_3 19 rfl rfl)
theorem dX2_read_92 : decode cX2_read 92 = .ok (.getfield 101, 3) := dk_180 0 101 (dk_at dksX2_read_3 20 rfl rfl)
theorem dX2_read_95 : decode cX2_read 95 = .ok (.iconst 1, 1) := dk_4 (dk_at dksX2_read_3 23 rfl rfl)
theorem dX2_read_96 : decode cX2_read 96 = .ok (.iadd, 1) := dk_96 (dk_at dksX2_read_4 0 rfl rfl)
theorem dX2_read_97 : decode cX2_read 97 = .ok (.putfield 101, 3) := dk_181 0 101 (dk_at dksX2_read_4 1 rfl rfl)
theorem dX2_read_100 : decode cX2_read 100 = .ok (.aload_n 0, 1) := dk_42 (dk_at dksX2_read_4 4 rfl rfl)
theorem dX2_read_101 : decode cX2_read 101 = .ok (.invokevirtual 64, 3) := dk_182 0 64 (dk_at dksX2_read_4 5 rfl rfl)
theorem dX2_read_104 : decode cX2_read 104 = .ok (.bipush 59, 2) := dk_16 59 (dk_at dksX2_read_4 8 rfl rfl)
theorem dX2_read_106 : decode cX2_read 106 = .ok (.if_icmp .ne 7, 3) := dk_160 0 7 (dk_at dksX2_read_4 10 rfl rfl)
theorem dX2_read_109 : decode cX2_read 109 = .ok (.iconst 1, 1) := dk_4 (dk_at dksX2_read_4 13 rfl rfl)
theorem dX2_read_110 : decode cX2_read 110 = .ok (.goto 4, 3) := dk_167 0 4 (dk_at dksX2_read_4 14 rfl rfl)
theorem dX2_read_113 : decode cX2_read 113 = .ok (.iconst 0, 1) := dk_3 (dk_at dksX2_read_4 17 rfl rfl)
theorem dX2_read_114 : decode cX2_read 114 = .ok (.istore_n 3, 1) := dk_62 (dk_at dksX2_read_4 18 rfl rfl)
theorem dX2_read_115 : decode cX2_read 115 = .ok (.iload_n 3, 1) := dk_29 (dk_at dksX2_read_4 19 rfl rfl)
theorem dX2_read_116 : decode cX2_read 116 = .ok (.ifCond .eq 16, 3) := dk_153 0 16 (dk_at dksX2_read_4 20 rfl rfl)
theorem dX2_read_119 : decode cX2_read 119 = .ok (.aload_n 0, 1) := dk_42 (dk_at dksX2_read_4 23 rfl rfl)
theorem dX2_read_120 : decode cX2_read 120 = .ok (.dup, 1) := dk_89 (dk_at dksX2_read_5 0 rfl rfl)
theorem dX2_read_121 : decode cX2_read 121 = .ok (.getfield 58, 3) := dk_180 0 58 (dk_at dksX2_read_5 1 rfl rfl)
theorem dX2_read_124 : decode cX2_read 124 = .ok (.iconst 1, 1) := dk_4 (dk_at dksX2_read_5 4 rfl rfl)
theorem dX2_read_125 : decode cX2_read 125 = .ok (.iadd, 1) := dk_96 (dk_at dksX2_read_5 5 rfl rfl)
theorem dX2_read_126 : decode cX2_read 126 = .ok (.putfield 58, 3) := dk_181 0 58 (dk_at dksX2_read_5 6 rfl rfl)
theorem dX2_read_129 : decode cX2_read 129 = .ok (.goto 19, 3) := dk_167 0 19 (dk_at dksX2_read_5 9 rfl rfl)
theorem dX2_read_132 : decode cX2_read 132 = .ok (.aload_n 0, 1) := dk_42 (dk_at dksX2_read_5 12 rfl rfl)
theorem dX2_read_133 : decode cX2_read 133 = .ok (.invokevirtual 64, 3) := dk_182 0 64 (dk_at dksX2_read_5 13 rfl rfl)
theorem dX2_read_136 : decode cX2_read 136 = .ok (.iconst (-1), 1) := dk_2 (dk_at dksX2_read_5 16 rfl rfl)
theorem dX2_read_137 : decode cX2_read 137 = .ok (.if_icmp .eq 11, 3) := dk_159 0 11 (dk_at dksX2_read_5 17 rfl rfl)
theorem dX2_read_140 : decode cX2_read 140 = .ok (.aload_n 0, 1) := dk_42 (dk_at dksX2_read_5 20 rfl rfl)
theorem dX2_read_141 : decode cX2_read 141 = .ok (.aload_n 0, 1) := dk_42 (dk_at dksX2_read_5 21 rfl rfl)
theorem dX2_read_142 : decode cX2_read 142 = .ok (.getfield 58, 3) := dk_180 0 58 (dk_at dksX2_read_6 0 rfl rfl)
theorem dX2_read_145 : decode cX2_read 145 = .ok (.invokevirtual 79, 3) := dk_182 0 79 (dk_at dksX2_read_6 3 rfl rfl)
theorem dX2_read_148 : decode cX2_read 148 = .ok (.goto (-119), 3) := dk_167 255 137 (dk_at dksX2_read_6 6 rfl rfl)
theorem dX2_read_151 : decode cX2_read 151 = .ok (.return_, 1) := dk_177 (dk_at dksX2_read_6 9 rfl rfl)
def dkwX2_sign_2 : List UInt8 := [162, 0, 19, 42, 180, 0, 9, 42, 180, 0, 58, 51, 17, 0, 255, 126, 167, 0, 4, 2, 172]
abbrev dktX2_sign_2 : List UInt8 := dkwX2_sign_2 ++ []
def dkwX2_sign_1 : List UInt8 := [160, 0, 16, 42, 89, 180, 0, 58, 4, 96, 181, 0, 58, 167, 255, 221, 42, 180, 0, 58, 42, 180, 0, 61]
abbrev dktX2_sign_1 : List UInt8 := dkwX2_sign_1 ++ dktX2_sign_2
def dkwX2_sign_0 : List UInt8 := [42, 180, 0, 58, 42, 180, 0, 61, 162, 0, 30, 42, 180, 0, 9, 42, 180, 0, 58, 51, 16, 32]
abbrev dktX2_sign_0 : List UInt8 := dkwX2_sign_0 ++ dktX2_sign_1
theorem dksX2_sign_0 : cX2_sign.data.toList.drop 0 = dktX2_sign_0 := by decide +kernel
theorem dksX2_sign_1 : cX2_sign.data.toList.drop 22 = dktX2_sign_1 := dk_seg dksX2_sign_0 22 rfl rfl
theorem dksX2_sign_2 : cX2_sign.data.toList.drop 46 = dktX2_sign_2 := dk_seg dksX2_sign_1 24 rfl rfl
theorem dX2_sign_0 : decode cX2_sign 0 = .ok (.aload_n 0, 1) := dk_42 (dk_at dksX2_sign_0 0 rfl rfl)
theorem dX2_sign_1 : decode cX2_sign 1 = .ok (.getfield 58, 3) := dk_180 0 58 (dk_at dksX2_sign_0 1 rfl rfl)
theorem dX2_sign_4 : decode cX2_sign 4 = .ok (.aload_n 0, 1) := dk_42 (dk_at dksX2_sign_0 4 rfl rfl)
theorem dX2_sign_5 : decode cX2_sign 5 = .ok (.getfield 61, 3) := dk_180 0 61 (dk_at dksX2_sign_0 5 rfl rfl)
theorem dX2_sign_8 : decode cX2_sign 8 = .ok (.if_icmp .ge 30, 3) := dk_162 0 30 (dk_at dksX2_sign_0 8 rfl rfl)
theorem dX2_sign_11 : decode cX2_sign 11 = .ok (.aload_n 0, 1) := dk_42 (dk_at dksX2_sign_0 11 rfl rfl)
theorem dX2_sign_12 : decode cX2_sign 12 = .ok (.getfield 9, 3) := dk_180 0 9 (dk_at dksX2_sign_0 12 rfl rfl)
theorem dX2_sign_15 : decode cX2_sign 15 = .ok (.aload_n 0, 1) := dk_42 (dk_at dksX2_sign_0 15 rfl rfl)
theorem dX2_sign_16 : decode cX2_sign 16 = .ok (.getfield 58, 3) := dk_180 0 58 (dk_at dksX2_sign_0 16 rfl rfl)
theorem dX2_sign_19 : decode cX2_sign 19 = .ok (.baload, 1) := dk_51 (dk_at dksX2_sign_0 19 rfl rfl)
theorem dX2_sign_20 : decode cX2_sign 20 = .ok (.bipush 32, 2) := dk_16 32 (dk_at dksX2_sign_0 20 rfl rfl)
theorem dX2_sign_22 : decode cX2_sign 22 = .ok (.if_icmp .ne 16, 3) := dk_160 0 16 (dk_at dksX2_sign_1 0 rfl rfl)
theorem dX2_sign_25 : decode cX2_sign 25 = .ok (.aload_n 0, 1) := dk_42 (dk_at dksX2_sign_1 3 rfl rfl)
theorem dX2_sign_26 : decode cX2_sign 26 = .ok (.dup, 1) := dk_89 (dk_at dksX2_sign_1 4 rfl rfl)
theorem dX2_sign_27 : decode cX2_sign 27 = .ok (.getfield 58, 3) := dk_180 0 58 (dk_at dksX2_sign_1 5 rfl rfl)
theorem dX2_sign_30 : decode cX2_sign 30 = .ok (.iconst 1, 1) := dk_4 (dk_at dksX2_sign_1 8 rfl rfl)
theorem dX2_sign_31 : decode cX2_sign 31 = .ok (.iadd, 1) := dk_96 (dk_at dksX2_sign_1 9 rfl rfl)
theorem dX2_sign_32 : decode cX2_sign 32 = .ok (.putfield 58, 3) := dk_181 0 58 (dk_at dksX2_sign_1 10 rfl rfl)
theorem dX2_sign_35 : decode cX2_sign 35 = .ok (.goto (-35), 3) := dk_167 255 221 (dk_at dksX2_sign_1 13 rfl rfl)
theorem dX2_sign_38 : decode cX2_sign 38 = .ok (.aload_n 0, 1) := dk_42 (dk_at dksX2_sign_1 16 rfl rfl)
theorem dX2_sign_39 : decode cX2_sign 39 = .ok (.getfield 58, 3) := dk_180 0 58 (dk_at dksX2_sign_1 17 rfl rfl)
theorem dX2_sign_42 : decode cX2_sign 42 = .ok (.aload_n 0, 1) := dk_42 (dk_at dksX2_sign_1 20 rfl rfl)
theorem dX2_sign_43 : decode cX2_sign 43 = .ok (.getfield 61, 3) := dk_180 0 61 (dk_at dksX2_sign_1 21 rfl rfl)
theorem dX2_sign_46 : decode cX2_sign 46 = .ok (.if_icmp .ge 19, 3) := dk_162 0 19 (dk_at dksX2_sign_2 0 rfl rfl)
theorem dX2_sign_49 : decode cX2_sign 49 = .ok (.aload_n 0, 1) := dk_42 (dk_at dksX2_sign_2 3 rfl rfl)
theorem dX2_sign_50 : decode cX2_sign 50 = .ok (.getfield 9, 3) := dk_180 0 9 (dk_at dksX2_sign_2 4 rfl rfl)
theorem dX2_sign_53 : decode cX2_sign 53 = .ok (.aload_n 0, 1) := dk_42 (dk_at dksX2_sign_2 7 rfl rfl)
theorem dX2_sign_54 : decode cX2_sign 54 = .ok (.getfield 58, 3) := dk_180 0 58 (dk_at dksX2_sign_2 8 rfl rfl)
theorem dX2_sign_57 : decode cX2_sign 57 = .ok (.baload, 1) := dk_51 (dk_at dksX2_sign_2 11 rfl rfl)
theorem dX2_sign_58 : decode cX2_sign 58 = .ok (.sipush 255, 3) := dk_17 0 255 (dk_at dksX2_sign_2 12 rfl rfl)
theorem dX2_sign_61 : decode cX2_sign 61 = .ok (.iand, 1) := dk_126 (dk_at dksX2_sign_2 15 rfl rfl)
theorem dX2_sign_62 : decode cX2_sign 62 = .ok (.goto 4, 3) := dk_167 0 4 (dk_at dksX2_sign_2 16 rfl rfl)
theorem dX2_sign_65 : decode cX2_sign 65 = .ok (.iconst (-1), 1) := dk_2 (dk_at dksX2_sign_2 19 rfl rfl)
theorem dX2_sign_66 : decode cX2_sign 66 = .ok (.ireturn, 1) := dk_172 (dk_at dksX2_sign_2 20 rfl rfl)
def dkwX2_fail_0 : List UInt8 := [42, 180, 0, 50, 27, 181, 0, 54, 42, 180, 0, 50, 191]
abbrev dktX2_fail_0 : List UInt8 := dkwX2_fail_0 ++ []
theorem dksX2_fail_0 : cX2_fail.data.toList.drop 0 = dktX2_fail_0 := by decide +kernel
theorem dX2_fail_0 : decode cX2_fail 0 = .ok (.aload_n 0, 1) := dk_42 (dk_at dksX2_fail_0 0 rfl rfl)
theorem dX2_fail_1 : decode cX2_fail 1 = .ok (.getfield 50, 3) := dk_180 0 50 (dk_at dksX2_fail_0 1 rfl rfl)
theorem dX2_fail_4 : decode cX2_fail 4 = .ok (.iload_n 1, 1) := dk_27 (dk_at dksX2_fail_0 4 rfl rfl)
theorem dX2_fail_5 : decode cX2_fail 5 = .ok (.putfield 54, 3) := dk_181 0 54 (dk_at dksX2_fail_0 5 rfl rfl)
theorem dX2_fail_8 : decode cX2_fail 8 = .ok (.aload_n 0, 1) := dk_42 (dk_at dksX2_fail_0 8 rfl rfl)
theorem dX2_fail_9 : decode cX2_fail 9 = .ok (.getfield 50, 3) := dk_180 0 50 (dk_at dksX2_fail_0 9 rfl rfl)
theorem dX2_fail_12 : decode cX2_fail 12 = .ok (.athrow, 1) := dk_191 (dk_at dksX2_fail_0 12 rfl rfl)
def dkwX2_takes_5 : List UInt8 := [153, 0, 8, 42, 29, 181, 0, 58, 21, 4, 172]
abbrev dktX2_takes_5 : List UInt8 := dkwX2_takes_5 ++ []
def dkwX2_takes_4 : List UInt8 := [21, 5, 182, 0, 71, 160, 0, 7, 4, 167, 0, 4, 3, 54, 4, 132, 5, 1, 167, 255, 211, 21, 4]
abbrev dktX2_takes_4 : List UInt8 := dkwX2_takes_4 ++ dktX2_takes_5
def dkwX2_takes_3 : List UInt8 := [182, 0, 68, 162, 0, 42, 21, 4, 153, 0, 37, 42, 180, 0, 9, 42, 180, 0, 58, 21, 5, 96, 51, 43]
abbrev dktX2_takes_3 : List UInt8 := dkwX2_takes_3 ++ dktX2_takes_4
def dkwX2_takes_2 : List UInt8 := [180, 0, 58, 100, 43, 182, 0, 68, 160, 0, 7, 4, 167, 0, 4, 3, 54, 4, 3, 54, 5, 21, 5, 43]
abbrev dktX2_takes_2 : List UInt8 := dkwX2_takes_2 ++ dktX2_takes_3
def dkwX2_takes_1 : List UInt8 := [16, 97, 161, 0, 20, 42, 180, 0, 9, 29, 51, 16, 122, 163, 0, 9, 132, 3, 1, 167, 255, 223, 29, 42]
abbrev dktX2_takes_1 : List UInt8 := dkwX2_takes_1 ++ dktX2_takes_2
def dkwX2_takes_0 : List UInt8 := [42, 182, 0, 64, 61, 42, 180, 0, 58, 62, 29, 42, 180, 0, 61, 162, 0, 31, 42, 180, 0, 9, 29, 51]
abbrev dktX2_takes_0 : List UInt8 := dkwX2_takes_0 ++ dktX2_takes_1
theorem dksX2_takes_0 : cX2_takes.data.toList.drop 0 = dktX2_takes_0 := by decide +kernel
theorem dksX2_takes_1 : cX2_takes.data.toList.drop 24 = dktX2_takes_1 := dk_seg dksX2_takes_0 24 rfl rfl
theorem dksX2_takes_2 : cX2_takes.data.toList.drop 48 = dktX2_takes_2 := dk_seg dksX2_takes_1 24 rfl rfl
theorem dksX2_takes_3 : cX2_takes.data.toList.drop 72 = dktX2_takes_3 := dk_seg dksX2_takes_2 24 rfl rfl
theorem dksX2_takes_4 : cX2_takes.data.toList.drop 96 = dktX2_takes_4 := dk_seg dksX2_takes_3 24 rfl rfl
theorem dksX2_takes_5 : cX2_takes.data.toList.drop 119 = dktX2_takes_5 := dk_seg dksX2_takes_4 23 rfl rfl
theorem dX2_takes_0 : decode cX2_takes 0 = .ok (.aload_n 0, 1) := dk_42 (dk_at dksX2_takes_0 0 rfl rfl)
theorem dX2_takes_1 : decode cX2_takes 1 = .ok (.invokevirtual 64, 3) := dk_182 0 64 (dk_at dksX2_takes_0 1 rfl rfl)
theorem dX2_takes_4 : decode cX2_takes 4 = .ok (.istore_n 2, 1) := dk_61 (dk_at dksX2_takes_0 4 rfl rfl)
theorem dX2_takes_5 : decode cX2_takes 5 = .ok (.aload_n 0, 1) := dk_42 (dk_at dksX2_takes_0 5 rfl rfl)
theorem dX2_takes_6 : decode cX2_takes 6 = .ok (.getfield 58, 3) := dk_180 0 58 (dk_at dksX2_takes_0 6 rfl rfl)
theorem dX2_takes_9 : decode cX2_takes 9 = .ok (.istore_n 3, 1) := dk_62 (dk_at dksX2_takes_0 9 rfl rfl)
theorem dX2_takes_10 : decode cX2_takes 10 = .ok (.iload_n 3, 1) := dk_29 (dk_at dksX2_takes_0 10 rfl rfl)
theorem dX2_takes_11 : decode cX2_takes 11 = .ok (.aload_n 0, 1) := dk_42 (dk_at dksX2_takes_0 11 rfl rfl)
theorem dX2_takes_12 : decode cX2_takes 12 = .ok (.getfield 61, 3) := dk_180 0 61 (dk_at dksX2_takes_0 12 rfl rfl)
theorem dX2_takes_15 : decode cX2_takes 15 = .ok (.if_icmp .ge 31, 3) := dk_162 0 31 (dk_at dksX2_takes_0 15 rfl rfl)
theorem dX2_takes_18 : decode cX2_takes 18 = .ok (.aload_n 0, 1) := dk_42 (dk_at dksX2_takes_0 18 rfl rfl)
theorem dX2_takes_19 : decode cX2_takes 19 = .ok (.getfield 9, 3) := dk_180 0 9 (dk_at dksX2_takes_0 19 rfl rfl)
theorem dX2_takes_22 : decode cX2_takes 22 = .ok (.iload_n 3, 1) := dk_29 (dk_at dksX2_takes_0 22 rfl rfl)
theorem dX2_takes_23 : decode cX2_takes 23 = .ok (.baload, 1) := dk_51 (dk_at dksX2_takes_0 23 rfl rfl)
theorem dX2_takes_24 : decode cX2_takes 24 = .ok (.bipush 97, 2) := dk_16 97 (dk_at dksX2_takes_1 0 rfl rfl)
theorem dX2_takes_26 : decode cX2_takes 26 = .ok (.if_icmp .lt 20, 3) := dk_161 0 20 (dk_at dksX2_takes_1 2 rfl rfl)
theorem dX2_takes_29 : decode cX2_takes 29 = .ok (.aload_n 0, 1) := dk_42 (dk_at dksX2_takes_1 5 rfl rfl)
theorem dX2_takes_30 : decode cX2_takes 30 = .ok (.getfield 9, 3) := dk_180 0 9 (dk_at dksX2_takes_1 6 rfl rfl)
theorem dX2_takes_33 : decode cX2_takes 33 = .ok (.iload_n 3, 1) := dk_29 (dk_at dksX2_takes_1 9 rfl rfl)
theorem dX2_takes_34 : decode cX2_takes 34 = .ok (.baload, 1) := dk_51 (dk_at dksX2_takes_1 10 rfl rfl)
theorem dX2_takes_35 : decode cX2_takes 35 = .ok (.bipush 122, 2) := dk_16 122 (dk_at dksX2_takes_1 11 rfl rfl)
theorem dX2_takes_37 : decode cX2_takes 37 = .ok (.if_icmp .gt 9, 3) := dk_163 0 9 (dk_at dksX2_takes_1 13 rfl rfl)
theorem dX2_takes_40 : decode cX2_takes 40 = .ok (.iinc 3 1, 3) := dk_132 3 1 (dk_at dksX2_takes_1 16 rfl rfl)
theorem dX2_takes_43 : decode cX2_takes 43 = .ok (.goto (-33), 3) := dk_167 255 223 (dk_at dksX2_takes_1 19 rfl rfl)
theorem dX2_takes_46 : decode cX2_takes 46 = .ok (.iload_n 3, 1) := dk_29 (dk_at dksX2_takes_1 22 rfl rfl)
theorem dX2_takes_47 : decode cX2_takes 47 = .ok (.aload_n 0, 1) := dk_42 (dk_at dksX2_takes_1 23 rfl rfl)
theorem dX2_takes_48 : decode cX2_takes 48 = .ok (.getfield 58, 3) := dk_180 0 58 (dk_at dksX2_takes_2 0 rfl rfl)
theorem dX2_takes_51 : decode cX2_takes 51 = .ok (.isub, 1) := dk_100 (dk_at dksX2_takes_2 3 rfl rfl)
theorem dX2_takes_52 : decode cX2_takes 52 = .ok (.aload_n 1, 1) := dk_43 (dk_at dksX2_takes_2 4 rfl rfl)
theorem dX2_takes_53 : decode cX2_takes 53 = .ok (.invokevirtual 68, 3) := dk_182 0 68 (dk_at dksX2_takes_2 5 rfl rfl)
theorem dX2_takes_56 : decode cX2_takes 56 = .ok (.if_icmp .ne 7, 3) := dk_160 0 7 (dk_at dksX2_takes_2 8 rfl rfl)
theorem dX2_takes_59 : decode cX2_takes 59 = .ok (.iconst 1, 1) := dk_4 (dk_at dksX2_takes_2 11 rfl rfl)
theorem dX2_takes_60 : decode cX2_takes 60 = .ok (.goto 4, 3) := dk_167 0 4 (dk_at dksX2_takes_2 12 rfl rfl)
theorem dX2_takes_63 : decode cX2_takes 63 = .ok (.iconst 0, 1) := dk_3 (dk_at dksX2_takes_2 15 rfl rfl)
theorem dX2_takes_64 : decode cX2_takes 64 = .ok (.istore 4, 2) := dk_54 4 (dk_at dksX2_takes_2 16 rfl rfl)
theorem dX2_takes_66 : decode cX2_takes 66 = .ok (.iconst 0, 1) := dk_3 (dk_at dksX2_takes_2 18 rfl rfl)
theorem dX2_takes_67 : decode cX2_takes 67 = .ok (.istore 5, 2) := dk_54 5 (dk_at dksX2_takes_2 19 rfl rfl)
theorem dX2_takes_69 : decode cX2_takes 69 = .ok (.iload 5, 2) := dk_21 5 (dk_at dksX2_takes_2 21 rfl rfl)
theorem dX2_takes_71 : decode cX2_takes 71 = .ok (.aload_n 1, 1) := dk_43 (dk_at dksX2_takes_2 23 rfl rfl)
theorem dX2_takes_72 : decode cX2_takes 72 = .ok (.invokevirtual 68, 3) := dk_182 0 68 (dk_at dksX2_takes_3 0 rfl rfl)
theorem dX2_takes_75 : decode cX2_takes 75 = .ok (.if_icmp .ge 42, 3) := dk_162 0 42 (dk_at dksX2_takes_3 3 rfl rfl)
theorem dX2_takes_78 : decode cX2_takes 78 = .ok (.iload 4, 2) := dk_21 4 (dk_at dksX2_takes_3 6 rfl rfl)
theorem dX2_takes_80 : decode cX2_takes 80 = .ok (.ifCond .eq 37, 3) := dk_153 0 37 (dk_at dksX2_takes_3 8 rfl rfl)
theorem dX2_takes_83 : decode cX2_takes 83 = .ok (.aload_n 0, 1) := dk_42 (dk_at dksX2_takes_3 11 rfl rfl)
theorem dX2_takes_84 : decode cX2_takes 84 = .ok (.getfield 9, 3) := dk_180 0 9 (dk_at dksX2_takes_3 12 rfl rfl)
theorem dX2_takes_87 : decode cX2_takes 87 = .ok (.aload_n 0, 1) := dk_42 (dk_at dksX2_takes_3 15 rfl rfl)
theorem dX2_takes_88 : decode cX2_takes 88 = .ok (.getfield 58, 3) := dk_180 0 58 (dk_at dksX2_takes_3 16 rfl rfl)
theorem dX2_takes_91 : decode cX2_takes 91 = .ok (.iload 5, 2) := dk_21 5 (dk_at dksX2_takes_3 19 rfl rfl)
theorem dX2_takes_93 : decode cX2_takes 93 = .ok (.iadd, 1) := dk_96 (dk_at dksX2_takes_3 21 rfl rfl)
theorem dX2_takes_94 : decode cX2_takes 94 = .ok (.baload, 1) := dk_51 (dk_at dksX2_takes_3 22 rfl rfl)
theorem dX2_takes_95 : decode cX2_takes 95 = .ok (.aload_n 1, 1) := dk_43 (dk_at dksX2_takes_3 23 rfl rfl)
theorem dX2_takes_96 : decode cX2_takes 96 = .ok (.iload 5, 2) := dk_21 5 (dk_at dksX2_takes_4 0 rfl rfl)
theorem dX2_takes_98 : decode cX2_takes 98 = .ok (.invokevirtual 71, 3) := dk_182 0 71 (dk_at dksX2_takes_4 2 rfl rfl)
theorem dX2_takes_101 : decode cX2_takes 101 = .ok (.if_icmp .ne 7, 3) := dk_160 0 7 (dk_at dksX2_takes_4 5 rfl rfl)
theorem dX2_takes_104 : decode cX2_takes 104 = .ok (.iconst 1, 1) := dk_4 (dk_at dksX2_takes_4 8 rfl rfl)
theorem dX2_takes_105 : decode cX2_takes 105 = .ok (.goto 4, 3) := dk_167 0 4 (dk_at dksX2_takes_4 9 rfl rfl)
theorem dX2_takes_108 : decode cX2_takes 108 = .ok (.iconst 0, 1) := dk_3 (dk_at dksX2_takes_4 12 rfl rfl)
theorem dX2_takes_109 : decode cX2_takes 109 = .ok (.istore 4, 2) := dk_54 4 (dk_at dksX2_takes_4 13 rfl rfl)
theorem dX2_takes_111 : decode cX2_takes 111 = .ok (.iinc 5 1, 3) := dk_132 5 1 (dk_at dksX2_takes_4 15 rfl rfl)
theorem dX2_takes_114 : decode cX2_takes 114 = .ok (.goto (-45), 3) := dk_167 255 211 (dk_at dksX2_takes_4 18 rfl rfl)
theorem dX2_takes_117 : decode cX2_takes 117 = .ok (.iload 4, 2) := dk_21 4 (dk_at dksX2_takes_4 21 rfl rfl)
theorem dX2_takes_119 : decode cX2_takes 119 = .ok (.ifCond .eq 8, 3) := dk_153 0 8 (dk_at dksX2_takes_5 0 rfl rfl)
theorem dX2_takes_122 : decode cX2_takes 122 = .ok (.aload_n 0, 1) := dk_42 (dk_at dksX2_takes_5 3 rfl rfl)
theorem dX2_takes_123 : decode cX2_takes 123 = .ok (.iload_n 3, 1) := dk_29 (dk_at dksX2_takes_5 4 rfl rfl)
theorem dX2_takes_124 : decode cX2_takes 124 = .ok (.putfield 58, 3) := dk_181 0 58 (dk_at dksX2_takes_5 5 rfl rfl)
theorem dX2_takes_127 : decode cX2_takes 127 = .ok (.iload 4, 2) := dk_21 4 (dk_at dksX2_takes_5 8 rfl rfl)
theorem dX2_takes_129 : decode cX2_takes 129 = .ok (.ireturn, 1) := dk_172 (dk_at dksX2_takes_5 10 rfl rfl)
def dkwX2_number_5 : List UInt8 := [182, 0, 79, 21, 4, 172]
abbrev dktX2_number_5 : List UInt8 := dkwX2_number_5 ++ []
def dkwX2_number_4 : List UInt8 := [181, 0, 58, 167, 255, 172, 42, 180, 0, 58, 29, 159, 0, 9, 21, 4, 27, 164, 0, 8, 42, 29]
abbrev dktX2_number_4 : List UInt8 := dkwX2_number_4 ++ dktX2_number_5
def dkwX2_number_3 : List UInt8 := [104, 42, 180, 0, 9, 42, 180, 0, 58, 51, 96, 16, 48, 100, 54, 4, 42, 89, 180, 0, 58, 4, 96]
abbrev dktX2_number_3 : List UInt8 := dkwX2_number_3 ++ dktX2_number_4
def dkwX2_number_2 : List UInt8 := [16, 57, 163, 0, 51, 42, 180, 0, 58, 29, 100, 6, 160, 0, 8, 42, 29, 182, 0, 79, 16, 10, 21, 4]
abbrev dktX2_number_2 : List UInt8 := dkwX2_number_2 ++ dktX2_number_3
def dkwX2_number_1 : List UInt8 := [42, 180, 0, 9, 42, 180, 0, 58, 51, 16, 48, 161, 0, 65, 42, 180, 0, 9, 42, 180, 0, 58, 51]
abbrev dktX2_number_1 : List UInt8 := dkwX2_number_1 ++ dktX2_number_2
def dkwX2_number_0 : List UInt8 := [42, 182, 0, 64, 61, 42, 180, 0, 58, 62, 3, 54, 4, 42, 180, 0, 58, 42, 180, 0, 61, 162, 0, 79]
abbrev dktX2_number_0 : List UInt8 := dkwX2_number_0 ++ dktX2_number_1
theorem dksX2_number_0 : cX2_number.data.toList.drop 0 = dktX2_number_0 := by decide +kernel
theorem dksX2_number_1 : cX2_number.data.toList.drop 24 = dktX2_number_1 := dk_seg dksX2_number_0 24 rfl rfl
theorem dksX2_number_2 : cX2_number.data.toList.drop 47 = dktX2_number_2 := dk_seg dksX2_number_1 23 rfl rfl
theorem dksX2_number_3 : cX2_number.data.toList.drop 71 = dktX2_number_3 := dk_seg dksX2_number_2 24 rfl rfl
theorem dksX2_number_4 : cX2_number.data.toList.drop 94 = dktX2_number_4 := dk_seg dksX2_number_3 23 rfl rfl
theorem dksX2_number_5 : cX2_number.data.toList.drop 116 = dktX2_number_5 := dk_seg dksX2_number_4 22 rfl rfl
theorem dX2_number_0 : decode cX2_number 0 = .ok (.aload_n 0, 1) := dk_42 (dk_at dksX2_number_0 0 rfl rfl)
theorem dX2_number_1 : decode cX2_number 1 = .ok (.invokevirtual 64, 3) := dk_182 0 64 (dk_at dksX2_number_0 1 rfl rfl)
theorem dX2_number_4 : decode cX2_number 4 = .ok (.istore_n 2, 1) := dk_61 (dk_at dksX2_number_0 4 rfl rfl)
theorem dX2_number_5 : decode cX2_number 5 = .ok (.aload_n 0, 1) := dk_42 (dk_at dksX2_number_0 5 rfl rfl)
theorem dX2_number_6 : decode cX2_number 6 = .ok (.getfield 58, 3) := dk_180 0 58 (dk_at dksX2_number_0 6 rfl rfl)
theorem dX2_number_9 : decode cX2_number 9 = .ok (.istore_n 3, 1) := dk_62 (dk_at dksX2_number_0 9 rfl rfl)
theorem dX2_number_10 : decode cX2_number 10 = .ok (.iconst 0, 1) := dk_3 (dk_at dksX2_number_0 10 rfl rfl)
theorem dX2_number_11 : decode cX2_number 11 = .ok (.istore 4, 2) := dk_54 4 (dk_at dksX2_number_0 11 rfl rfl)
theorem dX2_number_13 : decode cX2_number 13 = .ok (.aload_n 0, 1) := dk_42 (dk_at dksX2_number_0 13 rfl rfl)
theorem dX2_number_14 : decode cX2_number 14 = .ok (.getfield 58, 3) := dk_180 0 58 (dk_at dksX2_number_0 14 rfl rfl)
theorem dX2_number_17 : decode cX2_number 17 = .ok (.aload_n 0, 1) := dk_42 (dk_at dksX2_number_0 17 rfl rfl)
theorem dX2_number_18 : decode cX2_number 18 = .ok (.getfield 61, 3) := dk_180 0 61 (dk_at dksX2_number_0 18 rfl rfl)
theorem dX2_number_21 : decode cX2_number 21 = .ok (.if_icmp .ge 79, 3) := dk_162 0 79 (dk_at dksX2_number_0 21 rfl rfl)
theorem dX2_number_24 : decode cX2_number 24 = .ok (.aload_n 0, 1) := dk_42 (dk_at dksX2_number_1 0 rfl rfl)
theorem dX2_number_25 : decode cX2_number 25 = .ok (.getfield 9, 3) := dk_180 0 9 (dk_at dksX2_number_1 1 rfl rfl)
theorem dX2_number_28 : decode cX2_number 28 = .ok (.aload_n 0, 1) := dk_42 (dk_at dksX2_number_1 4 rfl rfl)
theorem dX2_number_29 : decode cX2_number 29 = .ok (.getfield 58, 3) := dk_180 0 58 (dk_at dksX2_number_1 5 rfl rfl)
theorem dX2_number_32 : decode cX2_number 32 = .ok (.baload, 1) := dk_51 (dk_at dksX2_number_1 8 rfl rfl)
theorem dX2_number_33 : decode cX2_number 33 = .ok (.bipush 48, 2) := dk_16 48 (dk_at dksX2_number_1 9 rfl rfl)
theorem dX2_number_35 : decode cX2_number 35 = .ok (.if_icmp .lt 65, 3) := dk_161 0 65 (dk_at dksX2_number_1 11 rfl rfl)
theorem dX2_number_38 : decode cX2_number 38 = .ok (.aload_n 0, 1) := dk_42 (dk_at dksX2_number_1 14 rfl rfl)
theorem dX2_number_39 : decode cX2_number 39 = .ok (.getfield 9, 3) := dk_180 0 9 (dk_at dksX2_number_1 15 rfl rfl)
theorem dX2_number_42 : decode cX2_number 42 = .ok (.aload_n 0, 1) := dk_42 (dk_at dksX2_number_1 18 rfl rfl)
theorem dX2_number_43 : decode cX2_number 43 = .ok (.getfield 58, 3) := dk_180 0 58 (dk_at dksX2_number_1 19 rfl rfl)
theorem dX2_number_46 : decode cX2_number 46 = .ok (.baload, 1) := dk_51 (dk_at dksX2_number_1 22 rfl rfl)
theorem dX2_number_47 : decode cX2_number 47 = .ok (.bipush 57, 2) := dk_16 57 (dk_at dksX2_number_2 0 rfl rfl)
theorem dX2_number_49 : decode cX2_number 49 = .ok (.if_icmp .gt 51, 3) := dk_163 0 51 (dk_at dksX2_number_2 2 rfl rfl)
theorem dX2_number_52 : decode cX2_number 52 = .ok (.aload_n 0, 1) := dk_42 (dk_at dksX2_number_2 5 rfl rfl)
theorem dX2_number_53 : decode cX2_number 53 = .ok (.getfield 58, 3) := dk_180 0 58 (dk_at dksX2_number_2 6 rfl rfl)
theorem dX2_number_56 : decode cX2_number 56 = .ok (.iload_n 3, 1) := dk_29 (dk_at dksX2_number_2 9 rfl rfl)
theorem dX2_number_57 : decode cX2_number 57 = .ok (.isub, 1) := dk_100 (dk_at dksX2_number_2 10 rfl rfl)
theorem dX2_number_58 : decode cX2_number 58 = .ok (.iconst 3, 1) := dk_6 (dk_at dksX2_number_2 11 rfl rfl)
theorem dX2_number_59 : decode cX2_number 59 = .ok (.if_icmp .ne 8, 3) := dk_160 0 8 (dk_at dksX2_number_2 12 rfl rfl)
theorem dX2_number_62 : decode cX2_number 62 = .ok (.aload_n 0, 1) := dk_42 (dk_at dksX2_number_2 15 rfl rfl)
theorem dX2_number_63 : decode cX2_number 63 = .ok (.iload_n 3, 1) := dk_29 (dk_at dksX2_number_2 16 rfl rfl)
theorem dX2_number_64 : decode cX2_number 64 = .ok (.invokevirtual 79, 3) := dk_182 0 79 (dk_at dksX2_number_2 17 rfl rfl)
theorem dX2_number_67 : decode cX2_number 67 = .ok (.bipush 10, 2) := dk_16 10 (dk_at dksX2_number_2 20 rfl rfl)
theorem dX2_number_69 : decode cX2_number 69 = .ok (.iload 4, 2) := dk_21 4 (dk_at dksX2_number_2 22 rfl rfl)
theorem dX2_number_71 : decode cX2_number 71 = .ok (.imul, 1) := dk_104 (dk_at dksX2_number_3 0 rfl rfl)
theorem dX2_number_72 : decode cX2_number 72 = .ok (.aload_n 0, 1) := dk_42 (dk_at dksX2_number_3 1 rfl rfl)
theorem dX2_number_73 : decode cX2_number 73 = .ok (.getfield 9, 3) := dk_180 0 9 (dk_at dksX2_number_3 2 rfl rfl)
theorem dX2_number_76 : decode cX2_number 76 = .ok (.aload_n 0, 1) := dk_42 (dk_at dksX2_number_3 5 rfl rfl)
theorem dX2_number_77 : decode cX2_number 77 = .ok (.getfield 58, 3) := dk_180 0 58 (dk_at dksX2_number_3 6 rfl rfl)
theorem dX2_number_80 : decode cX2_number 80 = .ok (.baload, 1) := dk_51 (dk_at dksX2_number_3 9 rfl rfl)
theorem dX2_number_81 : decode cX2_number 81 = .ok (.iadd, 1) := dk_96 (dk_at dksX2_number_3 10 rfl rfl)
theorem dX2_number_82 : decode cX2_number 82 = .ok (.bipush 48, 2) := dk_16 48 (dk_at dksX2_number_3 11 rfl rfl)
theorem dX2_number_84 : decode cX2_number 84 = .ok (.isub, 1) := dk_100 (dk_at dksX2_number_3 13 rfl rfl)
theorem dX2_number_85 : decode cX2_number 85 = .ok (.istore 4, 2) := dk_54 4 (dk_at dksX2_number_3 14 rfl rfl)
theorem dX2_number_87 : decode cX2_number 87 = .ok (.aload_n 0, 1) := dk_42 (dk_at dksX2_number_3 16 rfl rfl)
theorem dX2_number_88 : decode cX2_number 88 = .ok (.dup, 1) := dk_89 (dk_at dksX2_number_3 17 rfl rfl)
theorem dX2_number_89 : decode cX2_number 89 = .ok (.getfield 58, 3) := dk_180 0 58 (dk_at dksX2_number_3 18 rfl rfl)
theorem dX2_number_92 : decode cX2_number 92 = .ok (.iconst 1, 1) := dk_4 (dk_at dksX2_number_3 21 rfl rfl)
theorem dX2_number_93 : decode cX2_number 93 = .ok (.iadd, 1) := dk_96 (dk_at dksX2_number_3 22 rfl rfl)
theorem dX2_number_94 : decode cX2_number 94 = .ok (.putfield 58, 3) := dk_181 0 58 (dk_at dksX2_number_4 0 rfl rfl)
theorem dX2_number_97 : decode cX2_number 97 = .ok (.goto (-84), 3) := dk_167 255 172 (dk_at dksX2_number_4 3 rfl rfl)
theorem dX2_number_100 : decode cX2_number 100 = .ok (.aload_n 0, 1) := dk_42 (dk_at dksX2_number_4 6 rfl rfl)
theorem dX2_number_101 : decode cX2_number 101 = .ok (.getfield 58, 3) := dk_180 0 58 (dk_at dksX2_number_4 7 rfl rfl)
theorem dX2_number_104 : decode cX2_number 104 = .ok (.iload_n 3, 1) := dk_29 (dk_at dksX2_number_4 10 rfl rfl)
theorem dX2_number_105 : decode cX2_number 105 = .ok (.if_icmp .eq 9, 3) := dk_159 0 9 (dk_at dksX2_number_4 11 rfl rfl)
theorem dX2_number_108 : decode cX2_number 108 = .ok (.iload 4, 2) := dk_21 4 (dk_at dksX2_number_4 14 rfl rfl)
theorem dX2_number_110 : decode cX2_number 110 = .ok (.iload_n 1, 1) := dk_27 (dk_at dksX2_number_4 16 rfl rfl)
theorem dX2_number_111 : decode cX2_number 111 = .ok (.if_icmp .le 8, 3) := dk_164 0 8 (dk_at dksX2_number_4 17 rfl rfl)
theorem dX2_number_114 : decode cX2_number 114 = .ok (.aload_n 0, 1) := dk_42 (dk_at dksX2_number_4 20 rfl rfl)
theorem dX2_number_115 : decode cX2_number 115 = .ok (.iload_n 3, 1) := dk_29 (dk_at dksX2_number_4 21 rfl rfl)
theorem dX2_number_116 : decode cX2_number 116 = .ok (.invokevirtual 79, 3) := dk_182 0 79 (dk_at dksX2_number_5 0 rfl rfl)
theorem dX2_number_119 : decode cX2_number 119 = .ok (.iload 4, 2) := dk_21 4 (dk_at dksX2_number_5 3 rfl rfl)
theorem dX2_number_121 : decode cX2_number 121 = .ok (.ireturn, 1) := dk_172 (dk_at dksX2_number_5 5 rfl rfl)
def dkwX2_order_9 : List UInt8 := [1, 176]
abbrev dktX2_order_9 : List UInt8 := dkwX2_order_9 ++ []
def dkwX2_order_8 : List UInt8 := [182, 0, 145, 183, 0, 149, 176, 187, 0, 152, 89, 27, 183, 0, 154, 176, 42, 42, 180, 0, 58, 182, 0, 79]
abbrev dktX2_order_8 : List UInt8 := dkwX2_order_8 ++ dktX2_order_9
def dkwX2_order_7 : List UInt8 := [42, 182, 0, 129, 183, 0, 138, 176, 187, 0, 139, 89, 27, 183, 0, 141, 176, 187, 0, 143, 89, 27, 42]
abbrev dktX2_order_7 : List UInt8 := dkwX2_order_7 ++ dktX2_order_8
def dkwX2_order_6 : List UInt8 := [187, 0, 133, 89, 27, 42, 182, 0, 116, 183, 0, 135, 176, 42, 182, 0, 98, 62, 187, 0, 136, 89, 27, 29]
abbrev dktX2_order_6 : List UInt8 := dkwX2_order_6 ++ dktX2_order_7
def dkwX2_order_5 : List UInt8 := [182, 0, 124, 176, 42, 182, 0, 98, 62, 187, 0, 127, 89, 27, 29, 42, 182, 0, 129, 183, 0, 132, 176]
abbrev dktX2_order_5 : List UInt8 := dkwX2_order_5 ++ dktX2_order_6
def dkwX2_order_4 : List UInt8 := [182, 0, 116, 183, 0, 118, 176, 187, 0, 121, 89, 27, 42, 182, 0, 116, 183, 0, 123, 176, 42, 27]
abbrev dktX2_order_4 : List UInt8 := dkwX2_order_4 ++ dktX2_order_5
def dkwX2_order_3 : List UInt8 := [42, 27, 182, 0, 110, 176, 42, 182, 0, 98, 62, 42, 18, 113, 182, 0, 85, 187, 0, 114, 89, 27, 29, 42]
abbrev dktX2_order_3 : List UInt8 := dkwX2_order_3 ++ dktX2_order_4
def dkwX2_order_2 : List UInt8 := [170, 0, 0, 0, 185, 0, 0, 0, 0, 0, 0, 0, 9, 0, 0, 0, 53, 0, 0, 0, 59, 0, 0, 0, 84, 0, 0, 0, 97, 0, 0, 0, 103, 0, 0, 0, 122, 0, 0, 0, 135, 0, 0, 0, 154, 0, 0, 0, 163, 0, 0, 0, 176]
abbrev dktX2_order_2 : List UInt8 := dkwX2_order_2 ++ dktX2_order_3
def dkwX2_order_1 : List UInt8 := [132, 2, 1, 167, 255, 231, 28]
abbrev dktX2_order_1 : List UInt8 := dkwX2_order_1 ++ dktX2_order_2
def dkwX2_order_0 : List UInt8 := [3, 61, 28, 42, 180, 0, 37, 190, 162, 0, 22, 42, 42, 180, 0, 37, 28, 50, 182, 0, 75, 154, 0, 9]
abbrev dktX2_order_0 : List UInt8 := dkwX2_order_0 ++ dktX2_order_1
theorem dksX2_order_0 : cX2_order.data.toList.drop 0 = dktX2_order_0 := by decide +kernel
theorem dksX2_order_1 : cX2_order.data.toList.drop 24 = dktX2_order_1 := dk_seg dksX2_order_0 24 rfl rfl
theorem dksX2_order_2 : cX2_order.data.toList.drop 31 = dktX2_order_2 := dk_seg dksX2_order_1 7 rfl rfl
theorem dksX2_order_3 : cX2_order.data.toList.drop 84 = dktX2_order_3 := dk_seg dksX2_order_2 53 rfl rfl
theorem dksX2_order_4 : cX2_order.data.toList.drop 108 = dktX2_order_4 := dk_seg dksX2_order_3 24 rfl rfl
theorem dksX2_order_5 : cX2_order.data.toList.drop 130 = dktX2_order_5 := dk_seg dksX2_order_4 22 rfl rfl
theorem dksX2_order_6 : cX2_order.data.toList.drop 153 = dktX2_order_6 := dk_seg dksX2_order_5 23 rfl rfl
theorem dksX2_order_7 : cX2_order.data.toList.drop 177 = dktX2_order_7 := dk_seg dksX2_order_6 24 rfl rfl
theorem dksX2_order_8 : cX2_order.data.toList.drop 200 = dktX2_order_8 := dk_seg dksX2_order_7 23 rfl rfl
theorem dksX2_order_9 : cX2_order.data.toList.drop 224 = dktX2_order_9 := dk_seg dksX2_order_8 24 rfl rfl
theorem dX2_order_0 : decode cX2_order 0 = .ok (.iconst 0, 1) := dk_3 (dk_at dksX2_order_0 0 rfl rfl)
theorem dX2_order_1 : decode cX2_order 1 = .ok (.istore_n 2, 1) := dk_61 (dk_at dksX2_order_0 1 rfl rfl)
theorem dX2_order_2 : decode cX2_order 2 = .ok (.iload_n 2, 1) := dk_28 (dk_at dksX2_order_0 2 rfl rfl)
theorem dX2_order_3 : decode cX2_order 3 = .ok (.aload_n 0, 1) := dk_42 (dk_at dksX2_order_0 3 rfl rfl)
theorem dX2_order_4 : decode cX2_order 4 = .ok (.getfield 37, 3) := dk_180 0 37 (dk_at dksX2_order_0 4 rfl rfl)
theorem dX2_order_7 : decode cX2_order 7 = .ok (.arraylength, 1) := dk_190 (dk_at dksX2_order_0 7 rfl rfl)
theorem dX2_order_8 : decode cX2_order 8 = .ok (.if_icmp .ge 22, 3) := dk_162 0 22 (dk_at dksX2_order_0 8 rfl rfl)
theorem dX2_order_11 : decode cX2_order 11 = .ok (.aload_n 0, 1) := dk_42 (dk_at dksX2_order_0 11 rfl rfl)
theorem dX2_order_12 : decode cX2_order 12 = .ok (.aload_n 0, 1) := dk_42 (dk_at dksX2_order_0 12 rfl rfl)
theorem dX2_order_13 : decode cX2_order 13 = .ok (.getfield 37, 3) := dk_180 0 37 (dk_at dksX2_order_0 13 rfl rfl)
theorem dX2_order_16 : decode cX2_order 16 = .ok (.iload_n 2, 1) := dk_28 (dk_at dksX2_order_0 16 rfl rfl)
theorem dX2_order_17 : decode cX2_order 17 = .ok (.aaload, 1) := dk_50 (dk_at dksX2_order_0 17 rfl rfl)
theorem dX2_order_18 : decode cX2_order 18 = .ok (.invokevirtual 75, 3) := dk_182 0 75 (dk_at dksX2_order_0 18 rfl rfl)
theorem dX2_order_21 : decode cX2_order 21 = .ok (.ifCond .ne 9, 3) := dk_154 0 9 (dk_at dksX2_order_0 21 rfl rfl)
theorem dX2_order_24 : decode cX2_order 24 = .ok (.iinc 2 1, 3) := dk_132 2 1 (dk_at dksX2_order_1 0 rfl rfl)
theorem dX2_order_27 : decode cX2_order 27 = .ok (.goto (-25), 3) := dk_167 255 231 (dk_at dksX2_order_1 3 rfl rfl)
theorem dX2_order_30 : decode cX2_order 30 = .ok (.iload_n 2, 1) := dk_28 (dk_at dksX2_order_1 6 rfl rfl)
theorem dX2_order_31 : decode cX2_order 31 = .ok (.tableswitch 185 0 9 #[53, 59, 84, 97, 103, 122, 135, 154, 163, 176], 53) := by decide +kernel
theorem dX2_order_84 : decode cX2_order 84 = .ok (.aload_n 0, 1) := dk_42 (dk_at dksX2_order_3 0 rfl rfl)
theorem dX2_order_85 : decode cX2_order 85 = .ok (.iload_n 1, 1) := dk_27 (dk_at dksX2_order_3 1 rfl rfl)
theorem dX2_order_86 : decode cX2_order 86 = .ok (.invokevirtual 110, 3) := dk_182 0 110 (dk_at dksX2_order_3 2 rfl rfl)
theorem dX2_order_89 : decode cX2_order 89 = .ok (.areturn, 1) := dk_176 (dk_at dksX2_order_3 5 rfl rfl)
theorem dX2_order_90 : decode cX2_order 90 = .ok (.aload_n 0, 1) := dk_42 (dk_at dksX2_order_3 6 rfl rfl)
theorem dX2_order_91 : decode cX2_order 91 = .ok (.invokevirtual 98, 3) := dk_182 0 98 (dk_at dksX2_order_3 7 rfl rfl)
theorem dX2_order_94 : decode cX2_order 94 = .ok (.istore_n 3, 1) := dk_62 (dk_at dksX2_order_3 10 rfl rfl)
theorem dX2_order_95 : decode cX2_order 95 = .ok (.aload_n 0, 1) := dk_42 (dk_at dksX2_order_3 11 rfl rfl)
theorem dX2_order_96 : decode cX2_order 96 = .ok (.ldc 113, 2) := dk_18 113 (dk_at dksX2_order_3 12 rfl rfl)
theorem dX2_order_98 : decode cX2_order 98 = .ok (.invokevirtual 85, 3) := dk_182 0 85 (dk_at dksX2_order_3 14 rfl rfl)
theorem dX2_order_101 : decode cX2_order 101 = .ok (.new 114, 3) := dk_187 0 114 (dk_at dksX2_order_3 17 rfl rfl)
theorem dX2_order_104 : decode cX2_order 104 = .ok (.dup, 1) := dk_89 (dk_at dksX2_order_3 20 rfl rfl)
theorem dX2_order_105 : decode cX2_order 105 = .ok (.iload_n 1, 1) := dk_27 (dk_at dksX2_order_3 21 rfl rfl)
theorem dX2_order_106 : decode cX2_order 106 = .ok (.iload_n 3, 1) := dk_29 (dk_at dksX2_order_3 22 rfl rfl)
theorem dX2_order_107 : decode cX2_order 107 = .ok (.aload_n 0, 1) := dk_42 (dk_at dksX2_order_3 23 rfl rfl)
theorem dX2_order_108 : decode cX2_order 108 = .ok (.invokevirtual 116, 3) := dk_182 0 116 (dk_at dksX2_order_4 0 rfl rfl)
theorem dX2_order_111 : decode cX2_order 111 = .ok (.invokespecial 118, 3) := dk_183 0 118 (dk_at dksX2_order_4 3 rfl rfl)
theorem dX2_order_114 : decode cX2_order 114 = .ok (.areturn, 1) := dk_176 (dk_at dksX2_order_4 6 rfl rfl)
theorem dX2_order_115 : decode cX2_order 115 = .ok (.new 121, 3) := dk_187 0 121 (dk_at dksX2_order_4 7 rfl rfl)
theorem dX2_order_118 : decode cX2_order 118 = .ok (.dup, 1) := dk_89 (dk_at dksX2_order_4 10 rfl rfl)
theorem dX2_order_119 : decode cX2_order 119 = .ok (.iload_n 1, 1) := dk_27 (dk_at dksX2_order_4 11 rfl rfl)
theorem dX2_order_120 : decode cX2_order 120 = .ok (.aload_n 0, 1) := dk_42 (dk_at dksX2_order_4 12 rfl rfl)
theorem dX2_order_121 : decode cX2_order 121 = .ok (.invokevirtual 116, 3) := dk_182 0 116 (dk_at dksX2_order_4 13 rfl rfl)
theorem dX2_order_124 : decode cX2_order 124 = .ok (.invokespecial 123, 3) := dk_183 0 123 (dk_at dksX2_order_4 16 rfl rfl)
theorem dX2_order_127 : decode cX2_order 127 = .ok (.areturn, 1) := dk_176 (dk_at dksX2_order_4 19 rfl rfl)
theorem dX2_order_128 : decode cX2_order 128 = .ok (.aload_n 0, 1) := dk_42 (dk_at dksX2_order_4 20 rfl rfl)
theorem dX2_order_129 : decode cX2_order 129 = .ok (.iload_n 1, 1) := dk_27 (dk_at dksX2_order_4 21 rfl rfl)
theorem dX2_order_130 : decode cX2_order 130 = .ok (.invokevirtual 124, 3) := dk_182 0 124 (dk_at dksX2_order_5 0 rfl rfl)
theorem dX2_order_133 : decode cX2_order 133 = .ok (.areturn, 1) := dk_176 (dk_at dksX2_order_5 3 rfl rfl)
theorem dX2_order_134 : decode cX2_order 134 = .ok (.aload_n 0, 1) := dk_42 (dk_at dksX2_order_5 4 rfl rfl)
theorem dX2_order_135 : decode cX2_order 135 = .ok (.invokevirtual 98, 3) := dk_182 0 98 (dk_at dksX2_order_5 5 rfl rfl)
theorem dX2_order_138 : decode cX2_order 138 = .ok (.istore_n 3, 1) := dk_62 (dk_at dksX2_order_5 8 rfl rfl)
theorem dX2_order_139 : decode cX2_order 139 = .ok (.new 127, 3) := dk_187 0 127 (dk_at dksX2_order_5 9 rfl rfl)
theorem dX2_order_142 : decode cX2_order 142 = .ok (.dup, 1) := dk_89 (dk_at dksX2_order_5 12 rfl rfl)
theorem dX2_order_143 : decode cX2_order 143 = .ok (.iload_n 1, 1) := dk_27 (dk_at dksX2_order_5 13 rfl rfl)
theorem dX2_order_144 : decode cX2_order 144 = .ok (.iload_n 3, 1) := dk_29 (dk_at dksX2_order_5 14 rfl rfl)
theorem dX2_order_145 : decode cX2_order 145 = .ok (.aload_n 0, 1) := dk_42 (dk_at dksX2_order_5 15 rfl rfl)
theorem dX2_order_146 : decode cX2_order 146 = .ok (.invokevirtual 129, 3) := dk_182 0 129 (dk_at dksX2_order_5 16 rfl rfl)
theorem dX2_order_149 : decode cX2_order 149 = .ok (.invokespecial 132, 3) := dk_183 0 132 (dk_at dksX2_order_5 19 rfl rfl)
theorem dX2_order_152 : decode cX2_order 152 = .ok (.areturn, 1) := dk_176 (dk_at dksX2_order_5 22 rfl rfl)
theorem dX2_order_153 : decode cX2_order 153 = .ok (.new 133, 3) := dk_187 0 133 (dk_at dksX2_order_6 0 rfl rfl)
theorem dX2_order_156 : decode cX2_order 156 = .ok (.dup, 1) := dk_89 (dk_at dksX2_order_6 3 rfl rfl)
theorem dX2_order_157 : decode cX2_order 157 = .ok (.iload_n 1, 1) := dk_27 (dk_at dksX2_order_6 4 rfl rfl)
theorem dX2_order_158 : decode cX2_order 158 = .ok (.aload_n 0, 1) := dk_42 (dk_at dksX2_order_6 5 rfl rfl)
theorem dX2_order_159 : decode cX2_order 159 = .ok (.invokevirtual 116, 3) := dk_182 0 116 (dk_at dksX2_order_6 6 rfl rfl)
theorem dX2_order_162 : decode cX2_order 162 = .ok (.invokespecial 135, 3) := dk_183 0 135 (dk_at dksX2_order_6 9 rfl rfl)
theorem dX2_order_165 : decode cX2_order 165 = .ok (.areturn, 1) := dk_176 (dk_at dksX2_order_6 12 rfl rfl)
theorem dX2_order_166 : decode cX2_order 166 = .ok (.aload_n 0, 1) := dk_42 (dk_at dksX2_order_6 13 rfl rfl)
theorem dX2_order_167 : decode cX2_order 167 = .ok (.invokevirtual 98, 3) := dk_182 0 98 (dk_at dksX2_order_6 14 rfl rfl)
theorem dX2_order_170 : decode cX2_order 170 = .ok (.istore_n 3, 1) := dk_62 (dk_at dksX2_order_6 17 rfl rfl)
theorem dX2_order_171 : decode cX2_order 171 = .ok (.new 136, 3) := dk_187 0 136 (dk_at dksX2_order_6 18 rfl rfl)
theorem dX2_order_174 : decode cX2_order 174 = .ok (.dup, 1) := dk_89 (dk_at dksX2_order_6 21 rfl rfl)
theorem dX2_order_175 : decode cX2_order 175 = .ok (.iload_n 1, 1) := dk_27 (dk_at dksX2_order_6 22 rfl rfl)
theorem dX2_order_176 : decode cX2_order 176 = .ok (.iload_n 3, 1) := dk_29 (dk_at dksX2_order_6 23 rfl rfl)
theorem dX2_order_177 : decode cX2_order 177 = .ok (.aload_n 0, 1) := dk_42 (dk_at dksX2_order_7 0 rfl rfl)
theorem dX2_order_178 : decode cX2_order 178 = .ok (.invokevirtual 129, 3) := dk_182 0 129 (dk_at dksX2_order_7 1 rfl rfl)
theorem dX2_order_181 : decode cX2_order 181 = .ok (.invokespecial 138, 3) := dk_183 0 138 (dk_at dksX2_order_7 4 rfl rfl)
theorem dX2_order_184 : decode cX2_order 184 = .ok (.areturn, 1) := dk_176 (dk_at dksX2_order_7 7 rfl rfl)
theorem dX2_order_185 : decode cX2_order 185 = .ok (.new 139, 3) := dk_187 0 139 (dk_at dksX2_order_7 8 rfl rfl)
theorem dX2_order_188 : decode cX2_order 188 = .ok (.dup, 1) := dk_89 (dk_at dksX2_order_7 11 rfl rfl)
theorem dX2_order_189 : decode cX2_order 189 = .ok (.iload_n 1, 1) := dk_27 (dk_at dksX2_order_7 12 rfl rfl)
theorem dX2_order_190 : decode cX2_order 190 = .ok (.invokespecial 141, 3) := dk_183 0 141 (dk_at dksX2_order_7 13 rfl rfl)
theorem dX2_order_193 : decode cX2_order 193 = .ok (.areturn, 1) := dk_176 (dk_at dksX2_order_7 16 rfl rfl)
theorem dX2_order_194 : decode cX2_order 194 = .ok (.new 143, 3) := dk_187 0 143 (dk_at dksX2_order_7 17 rfl rfl)
theorem dX2_order_197 : decode cX2_order 197 = .ok (.dup, 1) := dk_89 (dk_at dksX2_order_7 20 rfl rfl)
theorem dX2_order_198 : decode cX2_order 198 = .ok (.iload_n 1, 1) := dk_27 (dk_at dksX2_order_7 21 rfl rfl)
theorem dX2_order_199 : decode cX2_order 199 = .ok (.aload_n 0, 1) := dk_42 (dk_at dksX2_order_7 22 rfl rfl)
theorem dX2_order_200 : decode cX2_order 200 = .ok (.invokevirtual 145, 3) := dk_182 0 145 (dk_at dksX2_order_8 0 rfl rfl)
theorem dX2_order_203 : decode cX2_order 203 = .ok (.invokespecial 149, 3) := dk_183 0 149 (dk_at dksX2_order_8 3 rfl rfl)
theorem dX2_order_206 : decode cX2_order 206 = .ok (.areturn, 1) := dk_176 (dk_at dksX2_order_8 6 rfl rfl)
theorem dX2_order_207 : decode cX2_order 207 = .ok (.new 152, 3) := dk_187 0 152 (dk_at dksX2_order_8 7 rfl rfl)
theorem dX2_order_210 : decode cX2_order 210 = .ok (.dup, 1) := dk_89 (dk_at dksX2_order_8 10 rfl rfl)
theorem dX2_order_211 : decode cX2_order 211 = .ok (.iload_n 1, 1) := dk_27 (dk_at dksX2_order_8 11 rfl rfl)
theorem dX2_order_212 : decode cX2_order 212 = .ok (.invokespecial 154, 3) := dk_183 0 154 (dk_at dksX2_order_8 12 rfl rfl)
theorem dX2_order_215 : decode cX2_order 215 = .ok (.areturn, 1) := dk_176 (dk_at dksX2_order_8 15 rfl rfl)
theorem dX2_order_216 : decode cX2_order 216 = .ok (.aload_n 0, 1) := dk_42 (dk_at dksX2_order_8 16 rfl rfl)
theorem dX2_order_217 : decode cX2_order 217 = .ok (.aload_n 0, 1) := dk_42 (dk_at dksX2_order_8 17 rfl rfl)
theorem dX2_order_218 : decode cX2_order 218 = .ok (.getfield 58, 3) := dk_180 0 58 (dk_at dksX2_order_8 18 rfl rfl)
theorem dX2_order_221 : decode cX2_order 221 = .ok (.invokevirtual 79, 3) := dk_182 0 79 (dk_at dksX2_order_8 21 rfl rfl)
theorem dX2_order_224 : decode cX2_order 224 = .ok (.aconst_null, 1) := dk_1 (dk_at dksX2_order_9 0 rfl rfl)
theorem dX2_order_225 : decode cX2_order 225 = .ok (.areturn, 1) := dk_176 (dk_at dksX2_order_9 1 rfl rfl)
def dkwX2_sets_5 : List UInt8 := [183, 0, 158, 176]
abbrev dktX2_sets_5 : List UInt8 := dkwX2_sets_5 ++ []
def dkwX2_sets_4 : List UInt8 := [153, 0, 8, 21, 4, 167, 0, 4, 3, 21, 5, 153, 0, 10, 42, 182, 0, 145, 167, 0, 4, 1]
abbrev dktX2_sets_4 : List UInt8 := dkwX2_sets_4 ++ dktX2_sets_5
def dkwX2_sets_3 : List UInt8 := [21, 5, 153, 0, 13, 42, 89, 180, 0, 58, 4, 96, 181, 0, 58, 187, 0, 156, 89, 27, 28, 45, 21, 5]
abbrev dktX2_sets_3 : List UInt8 := dkwX2_sets_3 ++ dktX2_sets_4
def dkwX2_sets_2 : List UInt8 := [159, 0, 17, 21, 4, 16, 45, 159, 0, 10, 21, 4, 16, 42, 160, 0, 7, 4, 167, 0, 4, 3, 54, 5]
abbrev dktX2_sets_2 : List UInt8 := dkwX2_sets_2 ++ dktX2_sets_3
def dkwX2_sets_1 : List UInt8 := [180, 0, 58, 4, 96, 181, 0, 58, 42, 182, 0, 145, 78, 42, 182, 0, 64, 54, 4, 21, 4, 16, 43]
abbrev dktX2_sets_1 : List UInt8 := dkwX2_sets_1 ++ dktX2_sets_2
def dkwX2_sets_0 : List UInt8 := [42, 182, 0, 98, 61, 42, 182, 0, 64, 16, 61, 159, 0, 11, 42, 42, 180, 0, 58, 182, 0, 79, 42, 89]
abbrev dktX2_sets_0 : List UInt8 := dkwX2_sets_0 ++ dktX2_sets_1
theorem dksX2_sets_0 : cX2_sets.data.toList.drop 0 = dktX2_sets_0 := by decide +kernel
theorem dksX2_sets_1 : cX2_sets.data.toList.drop 24 = dktX2_sets_1 := dk_seg dksX2_sets_0 24 rfl rfl
theorem dksX2_sets_2 : cX2_sets.data.toList.drop 47 = dktX2_sets_2 := dk_seg dksX2_sets_1 23 rfl rfl
theorem dksX2_sets_3 : cX2_sets.data.toList.drop 71 = dktX2_sets_3 := dk_seg dksX2_sets_2 24 rfl rfl
theorem dksX2_sets_4 : cX2_sets.data.toList.drop 95 = dktX2_sets_4 := dk_seg dksX2_sets_3 24 rfl rfl
theorem dksX2_sets_5 : cX2_sets.data.toList.drop 117 = dktX2_sets_5 := dk_seg dksX2_sets_4 22 rfl rfl
theorem dX2_sets_0 : decode cX2_sets 0 = .ok (.aload_n 0, 1) := dk_42 (dk_at dksX2_sets_0 0 rfl rfl)
theorem dX2_sets_1 : decode cX2_sets 1 = .ok (.invokevirtual 98, 3) := dk_182 0 98 (dk_at dksX2_sets_0 1 rfl rfl)
theorem dX2_sets_4 : decode cX2_sets 4 = .ok (.istore_n 2, 1) := dk_61 (dk_at dksX2_sets_0 4 rfl rfl)
theorem dX2_sets_5 : decode cX2_sets 5 = .ok (.aload_n 0, 1) := dk_42 (dk_at dksX2_sets_0 5 rfl rfl)
theorem dX2_sets_6 : decode cX2_sets 6 = .ok (.invokevirtual 64, 3) := dk_182 0 64 (dk_at dksX2_sets_0 6 rfl rfl)
theorem dX2_sets_9 : decode cX2_sets 9 = .ok (.bipush 61, 2) := dk_16 61 (dk_at dksX2_sets_0 9 rfl rfl)
theorem dX2_sets_11 : decode cX2_sets 11 = .ok (.if_icmp .eq 11, 3) := dk_159 0 11 (dk_at dksX2_sets_0 11 rfl rfl)
theorem dX2_sets_14 : decode cX2_sets 14 = .ok (.aload_n 0, 1) := dk_42 (dk_at dksX2_sets_0 14 rfl rfl)
theorem dX2_sets_15 : decode cX2_sets 15 = .ok (.aload_n 0, 1) := dk_42 (dk_at dksX2_sets_0 15 rfl rfl)
theorem dX2_sets_16 : decode cX2_sets 16 = .ok (.getfield 58, 3) := dk_180 0 58 (dk_at dksX2_sets_0 16 rfl rfl)
theorem dX2_sets_19 : decode cX2_sets 19 = .ok (.invokevirtual 79, 3) := dk_182 0 79 (dk_at dksX2_sets_0 19 rfl rfl)
theorem dX2_sets_22 : decode cX2_sets 22 = .ok (.aload_n 0, 1) := dk_42 (dk_at dksX2_sets_0 22 rfl rfl)
theorem dX2_sets_23 : decode cX2_sets 23 = .ok (.dup, 1) := dk_89 (dk_at dksX2_sets_0 23 rfl rfl)
theorem dX2_sets_24 : decode cX2_sets 24 = .ok (.getfield 58, 3) := dk_180 0 58 (dk_at dksX2_sets_1 0 rfl rfl)
theorem dX2_sets_27 : decode cX2_sets 27 = .ok (.iconst 1, 1) := dk_4 (dk_at dksX2_sets_1 3 rfl rfl)
theorem dX2_sets_28 : decode cX2_sets 28 = .ok (.iadd, 1) := dk_96 (dk_at dksX2_sets_1 4 rfl rfl)
theorem dX2_sets_29 : decode cX2_sets 29 = .ok (.putfield 58, 3) := dk_181 0 58 (dk_at dksX2_sets_1 5 rfl rfl)
theorem dX2_sets_32 : decode cX2_sets 32 = .ok (.aload_n 0, 1) := dk_42 (dk_at dksX2_sets_1 8 rfl rfl)
theorem dX2_sets_33 : decode cX2_sets 33 = .ok (.invokevirtual 145, 3) := dk_182 0 145 (dk_at dksX2_sets_1 9 rfl rfl)
theorem dX2_sets_36 : decode cX2_sets 36 = .ok (.astore_n 3, 1) := dk_78 (dk_at dksX2_sets_1 12 rfl rfl)
theorem dX2_sets_37 : decode cX2_sets 37 = .ok (.aload_n 0, 1) := dk_42 (dk_at dksX2_sets_1 13 rfl rfl)
theorem dX2_sets_38 : decode cX2_sets 38 = .ok (.invokevirtual 64, 3) := dk_182 0 64 (dk_at dksX2_sets_1 14 rfl rfl)
theorem dX2_sets_41 : decode cX2_sets 41 = .ok (.istore 4, 2) := dk_54 4 (dk_at dksX2_sets_1 17 rfl rfl)
theorem dX2_sets_43 : decode cX2_sets 43 = .ok (.iload 4, 2) := dk_21 4 (dk_at dksX2_sets_1 19 rfl rfl)
theorem dX2_sets_45 : decode cX2_sets 45 = .ok (.bipush 43, 2) := dk_16 43 (dk_at dksX2_sets_1 21 rfl rfl)
theorem dX2_sets_47 : decode cX2_sets 47 = .ok (.if_icmp .eq 17, 3) := dk_159 0 17 (dk_at dksX2_sets_2 0 rfl rfl)
theorem dX2_sets_50 : decode cX2_sets 50 = .ok (.iload 4, 2) := dk_21 4 (dk_at dksX2_sets_2 3 rfl rfl)
theorem dX2_sets_52 : decode cX2_sets 52 = .ok (.bipush 45, 2) := dk_16 45 (dk_at dksX2_sets_2 5 rfl rfl)
theorem dX2_sets_54 : decode cX2_sets 54 = .ok (.if_icmp .eq 10, 3) := dk_159 0 10 (dk_at dksX2_sets_2 7 rfl rfl)
theorem dX2_sets_57 : decode cX2_sets 57 = .ok (.iload 4, 2) := dk_21 4 (dk_at dksX2_sets_2 10 rfl rfl)
theorem dX2_sets_59 : decode cX2_sets 59 = .ok (.bipush 42, 2) := dk_16 42 (dk_at dksX2_sets_2 12 rfl rfl)
theorem dX2_sets_61 : decode cX2_sets 61 = .ok (.if_icmp .ne 7, 3) := dk_160 0 7 (dk_at dksX2_sets_2 14 rfl rfl)
theorem dX2_sets_64 : decode cX2_sets 64 = .ok (.iconst 1, 1) := dk_4 (dk_at dksX2_sets_2 17 rfl rfl)
theorem dX2_sets_65 : decode cX2_sets 65 = .ok (.goto 4, 3) := dk_167 0 4 (dk_at dksX2_sets_2 18 rfl rfl)
theorem dX2_sets_68 : decode cX2_sets 68 = .ok (.iconst 0, 1) := dk_3 (dk_at dksX2_sets_2 21 rfl rfl)
theorem dX2_sets_69 : decode cX2_sets 69 = .ok (.istore 5, 2) := dk_54 5 (dk_at dksX2_sets_2 22 rfl rfl)
theorem dX2_sets_71 : decode cX2_sets 71 = .ok (.iload 5, 2) := dk_21 5 (dk_at dksX2_sets_3 0 rfl rfl)
theorem dX2_sets_73 : decode cX2_sets 73 = .ok (.ifCond .eq 13, 3) := dk_153 0 13 (dk_at dksX2_sets_3 2 rfl rfl)
theorem dX2_sets_76 : decode cX2_sets 76 = .ok (.aload_n 0, 1) := dk_42 (dk_at dksX2_sets_3 5 rfl rfl)
theorem dX2_sets_77 : decode cX2_sets 77 = .ok (.dup, 1) := dk_89 (dk_at dksX2_sets_3 6 rfl rfl)
theorem dX2_sets_78 : decode cX2_sets 78 = .ok (.getfield 58, 3) := dk_180 0 58 (dk_at dksX2_sets_3 7 rfl rfl)
theorem dX2_sets_81 : decode cX2_sets 81 = .ok (.iconst 1, 1) := dk_4 (dk_at dksX2_sets_3 10 rfl rfl)
theorem dX2_sets_82 : decode cX2_sets 82 = .ok (.iadd, 1) := dk_96 (dk_at dksX2_sets_3 11 rfl rfl)
theorem dX2_sets_83 : decode cX2_sets 83 = .ok (.putfield 58, 3) := dk_181 0 58 (dk_at dksX2_sets_3 12 rfl rfl)
theorem dX2_sets_86 : decode cX2_sets 86 = .ok (.new 156, 3) := dk_187 0 156 (dk_at dksX2_sets_3 15 rfl rfl)
theorem dX2_sets_89 : decode cX2_sets 89 = .ok (.dup, 1) := dk_89 (dk_at dksX2_sets_3 18 rfl rfl)
theorem dX2_sets_90 : decode cX2_sets 90 = .ok (.iload_n 1, 1) := dk_27 (dk_at dksX2_sets_3 19 rfl rfl)
theorem dX2_sets_91 : decode cX2_sets 91 = .ok (.iload_n 2, 1) := dk_28 (dk_at dksX2_sets_3 20 rfl rfl)
theorem dX2_sets_92 : decode cX2_sets 92 = .ok (.aload_n 3, 1) := dk_45 (dk_at dksX2_sets_3 21 rfl rfl)
theorem dX2_sets_93 : decode cX2_sets 93 = .ok (.iload 5, 2) := dk_21 5 (dk_at dksX2_sets_3 22 rfl rfl)
theorem dX2_sets_95 : decode cX2_sets 95 = .ok (.ifCond .eq 8, 3) := dk_153 0 8 (dk_at dksX2_sets_4 0 rfl rfl)
theorem dX2_sets_98 : decode cX2_sets 98 = .ok (.iload 4, 2) := dk_21 4 (dk_at dksX2_sets_4 3 rfl rfl)
theorem dX2_sets_100 : decode cX2_sets 100 = .ok (.goto 4, 3) := dk_167 0 4 (dk_at dksX2_sets_4 5 rfl rfl)
theorem dX2_sets_103 : decode cX2_sets 103 = .ok (.iconst 0, 1) := dk_3 (dk_at dksX2_sets_4 8 rfl rfl)
theorem dX2_sets_104 : decode cX2_sets 104 = .ok (.iload 5, 2) := dk_21 5 (dk_at dksX2_sets_4 9 rfl rfl)
theorem dX2_sets_106 : decode cX2_sets 106 = .ok (.ifCond .eq 10, 3) := dk_153 0 10 (dk_at dksX2_sets_4 11 rfl rfl)
theorem dX2_sets_109 : decode cX2_sets 109 = .ok (.aload_n 0, 1) := dk_42 (dk_at dksX2_sets_4 14 rfl rfl)
theorem dX2_sets_110 : decode cX2_sets 110 = .ok (.invokevirtual 145, 3) := dk_182 0 145 (dk_at dksX2_sets_4 15 rfl rfl)
theorem dX2_sets_113 : decode cX2_sets 113 = .ok (.goto 4, 3) := dk_167 0 4 (dk_at dksX2_sets_4 18 rfl rfl)
theorem dX2_sets_116 : decode cX2_sets 116 = .ok (.aconst_null, 1) := dk_1 (dk_at dksX2_sets_4 21 rfl rfl)
theorem dX2_sets_117 : decode cX2_sets 117 = .ok (.invokespecial 158, 3) := dk_183 0 158 (dk_at dksX2_sets_5 0 rfl rfl)
theorem dX2_sets_120 : decode cX2_sets 120 = .ok (.areturn, 1) := dk_176 (dk_at dksX2_sets_5 3 rfl rfl)
def dkwX2_cell_0 : List UInt8 := [42, 18, 83, 182, 0, 85, 42, 16, 15, 182, 0, 89, 172]
abbrev dktX2_cell_0 : List UInt8 := dkwX2_cell_0 ++ []
theorem dksX2_cell_0 : cX2_cell.data.toList.drop 0 = dktX2_cell_0 := by decide +kernel
theorem dX2_cell_0 : decode cX2_cell 0 = .ok (.aload_n 0, 1) := dk_42 (dk_at dksX2_cell_0 0 rfl rfl)
theorem dX2_cell_1 : decode cX2_cell 1 = .ok (.ldc 83, 2) := dk_18 83 (dk_at dksX2_cell_0 1 rfl rfl)
theorem dX2_cell_3 : decode cX2_cell 3 = .ok (.invokevirtual 85, 3) := dk_182 0 85 (dk_at dksX2_cell_0 3 rfl rfl)
theorem dX2_cell_6 : decode cX2_cell 6 = .ok (.aload_n 0, 1) := dk_42 (dk_at dksX2_cell_0 6 rfl rfl)
theorem dX2_cell_7 : decode cX2_cell 7 = .ok (.bipush 15, 2) := dk_16 15 (dk_at dksX2_cell_0 7 rfl rfl)
theorem dX2_cell_9 : decode cX2_cell 9 = .ok (.invokevirtual 89, 3) := dk_182 0 89 (dk_at dksX2_cell_0 9 rfl rfl)
theorem dX2_cell_12 : decode cX2_cell 12 = .ok (.ireturn, 1) := dk_172 (dk_at dksX2_cell_0 12 rfl rfl)
def dkwX2_expect_0 : List UInt8 := [42, 43, 182, 0, 75, 154, 0, 11, 42, 42, 180, 0, 58, 182, 0, 79, 177]
abbrev dktX2_expect_0 : List UInt8 := dkwX2_expect_0 ++ []
theorem dksX2_expect_0 : cX2_expect.data.toList.drop 0 = dktX2_expect_0 := by decide +kernel
theorem dX2_expect_0 : decode cX2_expect 0 = .ok (.aload_n 0, 1) := dk_42 (dk_at dksX2_expect_0 0 rfl rfl)
theorem dX2_expect_1 : decode cX2_expect 1 = .ok (.aload_n 1, 1) := dk_43 (dk_at dksX2_expect_0 1 rfl rfl)
theorem dX2_expect_2 : decode cX2_expect 2 = .ok (.invokevirtual 75, 3) := dk_182 0 75 (dk_at dksX2_expect_0 2 rfl rfl)
theorem dX2_expect_5 : decode cX2_expect 5 = .ok (.ifCond .ne 11, 3) := dk_154 0 11 (dk_at dksX2_expect_0 5 rfl rfl)
theorem dX2_expect_8 : decode cX2_expect 8 = .ok (.aload_n 0, 1) := dk_42 (dk_at dksX2_expect_0 8 rfl rfl)
theorem dX2_expect_9 : decode cX2_expect 9 = .ok (.aload_n 0, 1) := dk_42 (dk_at dksX2_expect_0 9 rfl rfl)
theorem dX2_expect_10 : decode cX2_expect 10 = .ok (.getfield 58, 3) := dk_180 0 58 (dk_at dksX2_expect_0 10 rfl rfl)
theorem dX2_expect_13 : decode cX2_expect 13 = .ok (.invokevirtual 79, 3) := dk_182 0 79 (dk_at dksX2_expect_0 13 rfl rfl)
theorem dX2_expect_16 : decode cX2_expect 16 = .ok (.return_, 1) := dk_177 (dk_at dksX2_expect_0 16 rfl rfl)
def dkwX2_atom_2 : List UInt8 := [176]
abbrev dktX2_atom_2 : List UInt8 := dkwX2_atom_2 ++ []
def dkwX2_atom_1 : List UInt8 := [17, 3, 231, 182, 0, 89, 183, 0, 95, 167, 0, 15, 187, 0, 93, 89, 42, 182, 0, 98, 3, 183, 0, 95]
abbrev dktX2_atom_1 : List UInt8 := dkwX2_atom_1 ++ dktX2_atom_2
def dkwX2_atom_0 : List UInt8 := [42, 182, 0, 64, 60, 27, 16, 48, 161, 0, 27, 27, 16, 57, 163, 0, 21, 187, 0, 93, 89, 2, 42]
abbrev dktX2_atom_0 : List UInt8 := dkwX2_atom_0 ++ dktX2_atom_1
theorem dksX2_atom_0 : cX2_atom.data.toList.drop 0 = dktX2_atom_0 := by decide +kernel
theorem dksX2_atom_1 : cX2_atom.data.toList.drop 23 = dktX2_atom_1 := dk_seg dksX2_atom_0 23 rfl rfl
theorem dksX2_atom_2 : cX2_atom.data.toList.drop 47 = dktX2_atom_2 := dk_seg dksX2_atom_1 24 rfl rfl
theorem dX2_atom_0 : decode cX2_atom 0 = .ok (.aload_n 0, 1) := dk_42 (dk_at dksX2_atom_0 0 rfl rfl)
theorem dX2_atom_1 : decode cX2_atom 1 = .ok (.invokevirtual 64, 3) := dk_182 0 64 (dk_at dksX2_atom_0 1 rfl rfl)
theorem dX2_atom_4 : decode cX2_atom 4 = .ok (.istore_n 1, 1) := dk_60 (dk_at dksX2_atom_0 4 rfl rfl)
theorem dX2_atom_5 : decode cX2_atom 5 = .ok (.iload_n 1, 1) := dk_27 (dk_at dksX2_atom_0 5 rfl rfl)
theorem dX2_atom_6 : decode cX2_atom 6 = .ok (.bipush 48, 2) := dk_16 48 (dk_at dksX2_atom_0 6 rfl rfl)
theorem dX2_atom_8 : decode cX2_atom 8 = .ok (.if_icmp .lt 27, 3) := dk_161 0 27 (dk_at dksX2_atom_0 8 rfl rfl)
theorem dX2_atom_11 : decode cX2_atom 11 = .ok (.iload_n 1, 1) := dk_27 (dk_at dksX2_atom_0 11 rfl rfl)
theorem dX2_atom_12 : decode cX2_atom 12 = .ok (.bipush 57, 2) := dk_16 57 (dk_at dksX2_atom_0 12 rfl rfl)
theorem dX2_atom_14 : decode cX2_atom 14 = .ok (.if_icmp .gt 21, 3) := dk_163 0 21 (dk_at dksX2_atom_0 14 rfl rfl)
theorem dX2_atom_17 : decode cX2_atom 17 = .ok (.new 93, 3) := dk_187 0 93 (dk_at dksX2_atom_0 17 rfl rfl)
theorem dX2_atom_20 : decode cX2_atom 20 = .ok (.dup, 1) := dk_89 (dk_at dksX2_atom_0 20 rfl rfl)
theorem dX2_atom_21 : decode cX2_atom 21 = .ok (.iconst (-1), 1) := dk_2 (dk_at dksX2_atom_0 21 rfl rfl)
theorem dX2_atom_22 : decode cX2_atom 22 = .ok (.aload_n 0, 1) := dk_42 (dk_at dksX2_atom_0 22 rfl rfl)
theorem dX2_atom_23 : decode cX2_atom 23 = .ok (.sipush 999, 3) := dk_17 3 231 (dk_at dksX2_atom_1 0 rfl rfl)
theorem dX2_atom_26 : decode cX2_atom 26 = .ok (.invokevirtual 89, 3) := dk_182 0 89 (dk_at dksX2_atom_1 3 rfl rfl)
theorem dX2_atom_29 : decode cX2_atom 29 = .ok (.invokespecial 95, 3) := dk_183 0 95 (dk_at dksX2_atom_1 6 rfl rfl)
theorem dX2_atom_32 : decode cX2_atom 32 = .ok (.goto 15, 3) := dk_167 0 15 (dk_at dksX2_atom_1 9 rfl rfl)
theorem dX2_atom_35 : decode cX2_atom 35 = .ok (.new 93, 3) := dk_187 0 93 (dk_at dksX2_atom_1 12 rfl rfl)
theorem dX2_atom_38 : decode cX2_atom 38 = .ok (.dup, 1) := dk_89 (dk_at dksX2_atom_1 15 rfl rfl)
theorem dX2_atom_39 : decode cX2_atom 39 = .ok (.aload_n 0, 1) := dk_42 (dk_at dksX2_atom_1 16 rfl rfl)
theorem dX2_atom_40 : decode cX2_atom 40 = .ok (.invokevirtual 98, 3) := dk_182 0 98 (dk_at dksX2_atom_1 17 rfl rfl)
theorem dX2_atom_43 : decode cX2_atom 43 = .ok (.iconst 0, 1) := dk_3 (dk_at dksX2_atom_1 20 rfl rfl)
theorem dX2_atom_44 : decode cX2_atom 44 = .ok (.invokespecial 95, 3) := dk_183 0 95 (dk_at dksX2_atom_1 21 rfl rfl)
theorem dX2_atom_47 : decode cX2_atom 47 = .ok (.areturn, 1) := dk_176 (dk_at dksX2_atom_2 0 rfl rfl)
def dkwX2_place_0 : List UInt8 := [42, 16, 39, 182, 0, 89, 172]
abbrev dktX2_place_0 : List UInt8 := dkwX2_place_0 ++ []
theorem dksX2_place_0 : cX2_place.data.toList.drop 0 = dktX2_place_0 := by decide +kernel
theorem dX2_place_0 : decode cX2_place 0 = .ok (.aload_n 0, 1) := dk_42 (dk_at dksX2_place_0 0 rfl rfl)
theorem dX2_place_1 : decode cX2_place 1 = .ok (.bipush 39, 2) := dk_16 39 (dk_at dksX2_place_0 1 rfl rfl)
theorem dX2_place_3 : decode cX2_place 3 = .ok (.invokevirtual 89, 3) := dk_182 0 89 (dk_at dksX2_place_0 3 rfl rfl)
theorem dX2_place_6 : decode cX2_place 6 = .ok (.ireturn, 1) := dk_172 (dk_at dksX2_place_0 6 rfl rfl)
def dkwX2_ifs_3 : List UInt8 := [183, 0, 163, 176]
abbrev dktX2_ifs_3 : List UInt8 := dkwX2_ifs_3 ++ []
def dkwX2_ifs_2 : List UInt8 := [182, 0, 145, 58, 4, 42, 18, 21, 182, 0, 85, 187, 0, 161, 89, 27, 44, 29, 25, 4, 42, 182, 0, 116]
abbrev dktX2_ifs_2 : List UInt8 := dkwX2_ifs_2 ++ dktX2_ifs_3
def dkwX2_ifs_1 : List UInt8 := [16, 61, 159, 0, 11, 42, 42, 180, 0, 58, 182, 0, 79, 42, 89, 180, 0, 58, 4, 96, 181, 0, 58, 42]
abbrev dktX2_ifs_1 : List UInt8 := dkwX2_ifs_1 ++ dktX2_ifs_2
def dkwX2_ifs_0 : List UInt8 := [42, 182, 0, 145, 77, 42, 182, 0, 64, 62, 29, 16, 60, 159, 0, 23, 29, 16, 62, 159, 0, 17, 29]
abbrev dktX2_ifs_0 : List UInt8 := dkwX2_ifs_0 ++ dktX2_ifs_1
theorem dksX2_ifs_0 : cX2_ifs.data.toList.drop 0 = dktX2_ifs_0 := by decide +kernel
theorem dksX2_ifs_1 : cX2_ifs.data.toList.drop 23 = dktX2_ifs_1 := dk_seg dksX2_ifs_0 23 rfl rfl
theorem dksX2_ifs_2 : cX2_ifs.data.toList.drop 47 = dktX2_ifs_2 := dk_seg dksX2_ifs_1 24 rfl rfl
theorem dksX2_ifs_3 : cX2_ifs.data.toList.drop 71 = dktX2_ifs_3 := dk_seg dksX2_ifs_2 24 rfl rfl
theorem dX2_ifs_0 : decode cX2_ifs 0 = .ok (.aload_n 0, 1) := dk_42 (dk_at dksX2_ifs_0 0 rfl rfl)
theorem dX2_ifs_1 : decode cX2_ifs 1 = .ok (.invokevirtual 145, 3) := dk_182 0 145 (dk_at dksX2_ifs_0 1 rfl rfl)
theorem dX2_ifs_4 : decode cX2_ifs 4 = .ok (.astore_n 2, 1) := dk_77 (dk_at dksX2_ifs_0 4 rfl rfl)
theorem dX2_ifs_5 : decode cX2_ifs 5 = .ok (.aload_n 0, 1) := dk_42 (dk_at dksX2_ifs_0 5 rfl rfl)
theorem dX2_ifs_6 : decode cX2_ifs 6 = .ok (.invokevirtual 64, 3) := dk_182 0 64 (dk_at dksX2_ifs_0 6 rfl rfl)
theorem dX2_ifs_9 : decode cX2_ifs 9 = .ok (.istore_n 3, 1) := dk_62 (dk_at dksX2_ifs_0 9 rfl rfl)
theorem dX2_ifs_10 : decode cX2_ifs 10 = .ok (.iload_n 3, 1) := dk_29 (dk_at dksX2_ifs_0 10 rfl rfl)
theorem dX2_ifs_11 : decode cX2_ifs 11 = .ok (.bipush 60, 2) := dk_16 60 (dk_at dksX2_ifs_0 11 rfl rfl)
theorem dX2_ifs_13 : decode cX2_ifs 13 = .ok (.if_icmp .eq 23, 3) := dk_159 0 23 (dk_at dksX2_ifs_0 13 rfl rfl)
theorem dX2_ifs_16 : decode cX2_ifs 16 = .ok (.iload_n 3, 1) := dk_29 (dk_at dksX2_ifs_0 16 rfl rfl)
theorem dX2_ifs_17 : decode cX2_ifs 17 = .ok (.bipush 62, 2) := dk_16 62 (dk_at dksX2_ifs_0 17 rfl rfl)
theorem dX2_ifs_19 : decode cX2_ifs 19 = .ok (.if_icmp .eq 17, 3) := dk_159 0 17 (dk_at dksX2_ifs_0 19 rfl rfl)
theorem dX2_ifs_22 : decode cX2_ifs 22 = .ok (.iload_n 3, 1) := dk_29 (dk_at dksX2_ifs_0 22 rfl rfl)
theorem dX2_ifs_23 : decode cX2_ifs 23 = .ok (.bipush 61, 2) := dk_16 61 (dk_at dksX2_ifs_1 0 rfl rfl)
theorem dX2_ifs_25 : decode cX2_ifs 25 = .ok (.if_icmp .eq 11, 3) := dk_159 0 11 (dk_at dksX2_ifs_1 2 rfl rfl)
theorem dX2_ifs_28 : decode cX2_ifs 28 = .ok (.aload_n 0, 1) := dk_42 (dk_at dksX2_ifs_1 5 rfl rfl)
theorem dX2_ifs_29 : decode cX2_ifs 29 = .ok (.aload_n 0, 1) := dk_42 (dk_at dksX2_ifs_1 6 rfl rfl)
theorem dX2_ifs_30 : decode cX2_ifs 30 = .ok (.getfield 58, 3) := dk_180 0 58 (dk_at dksX2_ifs_1 7 rfl rfl)
theorem dX2_ifs_33 : decode cX2_ifs 33 = .ok (.invokevirtual 79, 3) := dk_182 0 79 (dk_at dksX2_ifs_1 10 rfl rfl)
theorem dX2_ifs_36 : decode cX2_ifs 36 = .ok (.aload_n 0, 1) := dk_42 (dk_at dksX2_ifs_1 13 rfl rfl)
theorem dX2_ifs_37 : decode cX2_ifs 37 = .ok (.dup, 1) := dk_89 (dk_at dksX2_ifs_1 14 rfl rfl)
theorem dX2_ifs_38 : decode cX2_ifs 38 = .ok (.getfield 58, 3) := dk_180 0 58 (dk_at dksX2_ifs_1 15 rfl rfl)
theorem dX2_ifs_41 : decode cX2_ifs 41 = .ok (.iconst 1, 1) := dk_4 (dk_at dksX2_ifs_1 18 rfl rfl)
theorem dX2_ifs_42 : decode cX2_ifs 42 = .ok (.iadd, 1) := dk_96 (dk_at dksX2_ifs_1 19 rfl rfl)
theorem dX2_ifs_43 : decode cX2_ifs 43 = .ok (.putfield 58, 3) := dk_181 0 58 (dk_at dksX2_ifs_1 20 rfl rfl)
theorem dX2_ifs_46 : decode cX2_ifs 46 = .ok (.aload_n 0, 1) := dk_42 (dk_at dksX2_ifs_1 23 rfl rfl)
theorem dX2_ifs_47 : decode cX2_ifs 47 = .ok (.invokevirtual 145, 3) := dk_182 0 145 (dk_at dksX2_ifs_2 0 rfl rfl)
theorem dX2_ifs_50 : decode cX2_ifs 50 = .ok (.astore 4, 2) := dk_58 4 (dk_at dksX2_ifs_2 3 rfl rfl)
theorem dX2_ifs_52 : decode cX2_ifs 52 = .ok (.aload_n 0, 1) := dk_42 (dk_at dksX2_ifs_2 5 rfl rfl)
theorem dX2_ifs_53 : decode cX2_ifs 53 = .ok (.ldc 21, 2) := dk_18 21 (dk_at dksX2_ifs_2 6 rfl rfl)
theorem dX2_ifs_55 : decode cX2_ifs 55 = .ok (.invokevirtual 85, 3) := dk_182 0 85 (dk_at dksX2_ifs_2 8 rfl rfl)
theorem dX2_ifs_58 : decode cX2_ifs 58 = .ok (.new 161, 3) := dk_187 0 161 (dk_at dksX2_ifs_2 11 rfl rfl)
theorem dX2_ifs_61 : decode cX2_ifs 61 = .ok (.dup, 1) := dk_89 (dk_at dksX2_ifs_2 14 rfl rfl)
theorem dX2_ifs_62 : decode cX2_ifs 62 = .ok (.iload_n 1, 1) := dk_27 (dk_at dksX2_ifs_2 15 rfl rfl)
theorem dX2_ifs_63 : decode cX2_ifs 63 = .ok (.aload_n 2, 1) := dk_44 (dk_at dksX2_ifs_2 16 rfl rfl)
theorem dX2_ifs_64 : decode cX2_ifs 64 = .ok (.iload_n 3, 1) := dk_29 (dk_at dksX2_ifs_2 17 rfl rfl)
theorem dX2_ifs_65 : decode cX2_ifs 65 = .ok (.aload 4, 2) := dk_25 4 (dk_at dksX2_ifs_2 18 rfl rfl)
theorem dX2_ifs_67 : decode cX2_ifs 67 = .ok (.aload_n 0, 1) := dk_42 (dk_at dksX2_ifs_2 20 rfl rfl)
theorem dX2_ifs_68 : decode cX2_ifs 68 = .ok (.invokevirtual 116, 3) := dk_182 0 116 (dk_at dksX2_ifs_2 21 rfl rfl)
theorem dX2_ifs_71 : decode cX2_ifs 71 = .ok (.invokespecial 163, 3) := dk_183 0 163 (dk_at dksX2_ifs_3 0 rfl rfl)
theorem dX2_ifs_74 : decode cX2_ifs 74 = .ok (.areturn, 1) := dk_176 (dk_at dksX2_ifs_3 3 rfl rfl)
def dkwX2_kind_0 : List UInt8 := [42, 18, 155, 182, 0, 75, 153, 0, 11, 42, 6, 182, 0, 89, 167, 0, 4, 3, 172]
abbrev dktX2_kind_0 : List UInt8 := dkwX2_kind_0 ++ []
theorem dksX2_kind_0 : cX2_kind.data.toList.drop 0 = dktX2_kind_0 := by decide +kernel
theorem dX2_kind_0 : decode cX2_kind 0 = .ok (.aload_n 0, 1) := dk_42 (dk_at dksX2_kind_0 0 rfl rfl)
theorem dX2_kind_1 : decode cX2_kind 1 = .ok (.ldc 155, 2) := dk_18 155 (dk_at dksX2_kind_0 1 rfl rfl)
theorem dX2_kind_3 : decode cX2_kind 3 = .ok (.invokevirtual 75, 3) := dk_182 0 75 (dk_at dksX2_kind_0 3 rfl rfl)
theorem dX2_kind_6 : decode cX2_kind 6 = .ok (.ifCond .eq 11, 3) := dk_153 0 11 (dk_at dksX2_kind_0 6 rfl rfl)
theorem dX2_kind_9 : decode cX2_kind 9 = .ok (.aload_n 0, 1) := dk_42 (dk_at dksX2_kind_0 9 rfl rfl)
theorem dX2_kind_10 : decode cX2_kind 10 = .ok (.iconst 3, 1) := dk_6 (dk_at dksX2_kind_0 10 rfl rfl)
theorem dX2_kind_11 : decode cX2_kind 11 = .ok (.invokevirtual 89, 3) := dk_182 0 89 (dk_at dksX2_kind_0 11 rfl rfl)
theorem dX2_kind_14 : decode cX2_kind 14 = .ok (.goto 4, 3) := dk_167 0 4 (dk_at dksX2_kind_0 14 rfl rfl)
theorem dX2_kind_17 : decode cX2_kind 17 = .ok (.iconst 0, 1) := dk_3 (dk_at dksX2_kind_0 17 rfl rfl)
theorem dX2_kind_18 : decode cX2_kind 18 = .ok (.ireturn, 1) := dk_172 (dk_at dksX2_kind_0 18 rfl rfl)
def dkwX3_init_0 : List UInt8 := [42, 1, 1, 3, 3, 183, 0, 1, 177]
abbrev dktX3_init_0 : List UInt8 := dkwX3_init_0 ++ []
theorem dksX3_init_0 : cX3_init.data.toList.drop 0 = dktX3_init_0 := by decide +kernel
theorem dX3_init_0 : decode cX3_init 0 = .ok (.aload_n 0, 1) := dk_42 (dk_at dksX3_init_0 0 rfl rfl)
theorem dX3_init_1 : decode cX3_init 1 = .ok (.aconst_null, 1) := dk_1 (dk_at dksX3_init_0 1 rfl rfl)
theorem dX3_init_2 : decode cX3_init 2 = .ok (.aconst_null, 1) := dk_1 (dk_at dksX3_init_0 2 rfl rfl)
theorem dX3_init_3 : decode cX3_init 3 = .ok (.iconst 0, 1) := dk_3 (dk_at dksX3_init_0 3 rfl rfl)
theorem dX3_init_4 : decode cX3_init 4 = .ok (.iconst 0, 1) := dk_3 (dk_at dksX3_init_0 4 rfl rfl)
theorem dX3_init_5 : decode cX3_init 5 = .ok (.invokespecial 1, 3) := dk_183 0 1 (dk_at dksX3_init_0 5 rfl rfl)
theorem dX3_init_8 : decode cX3_init 8 = .ok (.return_, 1) := dk_177 (dk_at dksX3_init_0 8 rfl rfl)
def dkwX4_init_5 : List UInt8 := [188, 11, 181, 0, 53, 177]
abbrev dktX4_init_5 : List UInt8 := dkwX4_init_5 ++ []
def dkwX4_init_4 : List UInt8 := [188, 11, 181, 0, 43, 42, 16, 40, 188, 11, 181, 0, 47, 42, 16, 40, 188, 11, 181, 0, 50, 42, 16, 40]
abbrev dktX4_init_4 : List UInt8 := dkwX4_init_4 ++ dktX4_init_5
def dkwX4_init_3 : List UInt8 := [188, 10, 181, 0, 33, 42, 16, 8, 188, 10, 181, 0, 36, 42, 16, 6, 188, 4, 181, 0, 39, 42, 16, 16]
abbrev dktX4_init_3 : List UInt8 := dkwX4_init_3 ++ dktX4_init_4
def dkwX4_init_2 : List UInt8 := [188, 10, 181, 0, 24, 42, 16, 8, 188, 10, 181, 0, 27, 42, 16, 8, 188, 10, 181, 0, 30, 42, 16, 8]
abbrev dktX4_init_2 : List UInt8 := dkwX4_init_2 ++ dktX4_init_3
def dkwX4_init_1 : List UInt8 := [188, 10, 89, 3, 3, 79, 89, 4, 4, 79, 89, 5, 5, 79, 89, 6, 7, 79, 181, 0, 21, 42, 16, 6]
abbrev dktX4_init_1 : List UInt8 := dkwX4_init_1 ++ dktX4_init_2
def dkwX4_init_0 : List UInt8 := [42, 183, 0, 3, 42, 16, 40, 189, 0, 9, 181, 0, 11, 42, 16, 40, 188, 10, 181, 0, 17, 42, 7]
abbrev dktX4_init_0 : List UInt8 := dkwX4_init_0 ++ dktX4_init_1
theorem dksX4_init_0 : cX4_init.data.toList.drop 0 = dktX4_init_0 := by decide +kernel
theorem dksX4_init_1 : cX4_init.data.toList.drop 23 = dktX4_init_1 := dk_seg dksX4_init_0 23 rfl rfl
theorem dksX4_init_2 : cX4_init.data.toList.drop 47 = dktX4_init_2 := dk_seg dksX4_init_1 24 rfl rfl
theorem dksX4_init_3 : cX4_init.data.toList.drop 71 = dktX4_init_3 := dk_seg dksX4_init_2 24 rfl rfl
theorem dksX4_init_4 : cX4_init.data.toList.drop 95 = dktX4_init_4 := dk_seg dksX4_init_3 24 rfl rfl
theorem dksX4_init_5 : cX4_init.data.toList.drop 119 = dktX4_init_5 := dk_seg dksX4_init_4 24 rfl rfl
theorem dX4_init_0 : decode cX4_init 0 = .ok (.aload_n 0, 1) := dk_42 (dk_at dksX4_init_0 0 rfl rfl)
theorem dX4_init_1 : decode cX4_init 1 = .ok (.invokespecial 3, 3) := dk_183 0 3 (dk_at dksX4_init_0 1 rfl rfl)
theorem dX4_init_4 : decode cX4_init 4 = .ok (.aload_n 0, 1) := dk_42 (dk_at dksX4_init_0 4 rfl rfl)
theorem dX4_init_5 : decode cX4_init 5 = .ok (.bipush 40, 2) := dk_16 40 (dk_at dksX4_init_0 5 rfl rfl)
theorem dX4_init_7 : decode cX4_init 7 = .ok (.anewarray 9, 3) := dk_189 0 9 (dk_at dksX4_init_0 7 rfl rfl)
theorem dX4_init_10 : decode cX4_init 10 = .ok (.putfield 11, 3) := dk_181 0 11 (dk_at dksX4_init_0 10 rfl rfl)
theorem dX4_init_13 : decode cX4_init 13 = .ok (.aload_n 0, 1) := dk_42 (dk_at dksX4_init_0 13 rfl rfl)
theorem dX4_init_14 : decode cX4_init 14 = .ok (.bipush 40, 2) := dk_16 40 (dk_at dksX4_init_0 14 rfl rfl)
theorem dX4_init_16 : decode cX4_init 16 = .ok (.newarray .int, 2) := dk_188_10 (dk_at dksX4_init_0 16 rfl rfl)
theorem dX4_init_18 : decode cX4_init 18 = .ok (.putfield 17, 3) := dk_181 0 17 (dk_at dksX4_init_0 18 rfl rfl)
theorem dX4_init_21 : decode cX4_init 21 = .ok (.aload_n 0, 1) := dk_42 (dk_at dksX4_init_0 21 rfl rfl)
theorem dX4_init_22 : decode cX4_init 22 = .ok (.iconst 4, 1) := dk_7 (dk_at dksX4_init_0 22 rfl rfl)
theorem dX4_init_23 : decode cX4_init 23 = .ok (.newarray .int, 2) := dk_188_10 (dk_at dksX4_init_1 0 rfl rfl)
theorem dX4_init_25 : decode cX4_init 25 = .ok (.dup, 1) := dk_89 (dk_at dksX4_init_1 2 rfl rfl)
theorem dX4_init_26 : decode cX4_init 26 = .ok (.iconst 0, 1) := dk_3 (dk_at dksX4_init_1 3 rfl rfl)
theorem dX4_init_27 : decode cX4_init 27 = .ok (.iconst 0, 1) := dk_3 (dk_at dksX4_init_1 4 rfl rfl)
theorem dX4_init_28 : decode cX4_init 28 = .ok (.iastore, 1) := dk_79 (dk_at dksX4_init_1 5 rfl rfl)
theorem dX4_init_29 : decode cX4_init 29 = .ok (.dup, 1) := dk_89 (dk_at dksX4_init_1 6 rfl rfl)
theorem dX4_init_30 : decode cX4_init 30 = .ok (.iconst 1, 1) := dk_4 (dk_at dksX4_init_1 7 rfl rfl)
theorem dX4_init_31 : decode cX4_init 31 = .ok (.iconst 1, 1) := dk_4 (dk_at dksX4_init_1 8 rfl rfl)
theorem dX4_init_32 : decode cX4_init 32 = .ok (.iastore, 1) := dk_79 (dk_at dksX4_init_1 9 rfl rfl)
theorem dX4_init_33 : decode cX4_init 33 = .ok (.dup, 1) := dk_89 (dk_at dksX4_init_1 10 rfl rfl)
theorem dX4_init_34 : decode cX4_init 34 = .ok (.iconst 2, 1) := dk_5 (dk_at dksX4_init_1 11 rfl rfl)
theorem dX4_init_35 : decode cX4_init 35 = .ok (.iconst 2, 1) := dk_5 (dk_at dksX4_init_1 12 rfl rfl)
theorem dX4_init_36 : decode cX4_init 36 = .ok (.iastore, 1) := dk_79 (dk_at dksX4_init_1 13 rfl rfl)
theorem dX4_init_37 : decode cX4_init 37 = .ok (.dup, 1) := dk_89 (dk_at dksX4_init_1 14 rfl rfl)
theorem dX4_init_38 : decode cX4_init 38 = .ok (.iconst 3, 1) := dk_6 (dk_at dksX4_init_1 15 rfl rfl)
theorem dX4_init_39 : decode cX4_init 39 = .ok (.iconst 4, 1) := dk_7 (dk_at dksX4_init_1 16 rfl rfl)
theorem dX4_init_40 : decode cX4_init 40 = .ok (.iastore, 1) := dk_79 (dk_at dksX4_init_1 17 rfl rfl)
theorem dX4_init_41 : decode cX4_init 41 = .ok (.putfield 21, 3) := dk_181 0 21 (dk_at dksX4_init_1 18 rfl rfl)
theorem dX4_init_44 : decode cX4_init 44 = .ok (.aload_n 0, 1) := dk_42 (dk_at dksX4_init_1 21 rfl rfl)
theorem dX4_init_45 : decode cX4_init 45 = .ok (.bipush 6, 2) := dk_16 6 (dk_at dksX4_init_1 22 rfl rfl)
theorem dX4_init_47 : decode cX4_init 47 = .ok (.newarray .int, 2) := dk_188_10 (dk_at dksX4_init_2 0 rfl rfl)
theorem dX4_init_49 : decode cX4_init 49 = .ok (.putfield 24, 3) := dk_181 0 24 (dk_at dksX4_init_2 2 rfl rfl)
theorem dX4_init_52 : decode cX4_init 52 = .ok (.aload_n 0, 1) := dk_42 (dk_at dksX4_init_2 5 rfl rfl)
theorem dX4_init_53 : decode cX4_init 53 = .ok (.bipush 8, 2) := dk_16 8 (dk_at dksX4_init_2 6 rfl rfl)
theorem dX4_init_55 : decode cX4_init 55 = .ok (.newarray .int, 2) := dk_188_10 (dk_at dksX4_init_2 8 rfl rfl)
theorem dX4_init_57 : decode cX4_init 57 = .ok (.putfield 27, 3) := dk_181 0 27 (dk_at dksX4_init_2 10 rfl rfl)
theorem dX4_init_60 : decode cX4_init 60 = .ok (.aload_n 0, 1) := dk_42 (dk_at dksX4_init_2 13 rfl rfl)
theorem dX4_init_61 : decode cX4_init 61 = .ok (.bipush 8, 2) := dk_16 8 (dk_at dksX4_init_2 14 rfl rfl)
theorem dX4_init_63 : decode cX4_init 63 = .ok (.newarray .int, 2) := dk_188_10 (dk_at dksX4_init_2 16 rfl rfl)
theorem dX4_init_65 : decode cX4_init 65 = .ok (.putfield 30, 3) := dk_181 0 30 (dk_at dksX4_init_2 18 rfl rfl)
theorem dX4_init_68 : decode cX4_init 68 = .ok (.aload_n 0, 1) := dk_42 (dk_at dksX4_init_2 21 rfl rfl)
theorem dX4_init_69 : decode cX4_init 69 = .ok (.bipush 8, 2) := dk_16 8 (dk_at dksX4_init_2 22 rfl rfl)
theorem dX4_init_71 : decode cX4_init 71 = .ok (.newarray .int, 2) := dk_188_10 (dk_at dksX4_init_3 0 rfl rfl)
theorem dX4_init_73 : decode cX4_init 73 = .ok (.putfield 33, 3) := dk_181 0 33 (dk_at dksX4_init_3 2 rfl rfl)
theorem dX4_init_76 : decode cX4_init 76 = .ok (.aload_n 0, 1) := dk_42 (dk_at dksX4_init_3 5 rfl rfl)
theorem dX4_init_77 : decode cX4_init 77 = .ok (.bipush 8, 2) := dk_16 8 (dk_at dksX4_init_3 6 rfl rfl)
theorem dX4_init_79 : decode cX4_init 79 = .ok (.newarray .int, 2) := dk_188_10 (dk_at dksX4_init_3 8 rfl rfl)
theorem dX4_init_81 : decode cX4_init 81 = .ok (.putfield 36, 3) := dk_181 0 36 (dk_at dksX4_init_3 10 rfl rfl)
theorem dX4_init_84 : decode cX4_init 84 = .ok (.aload_n 0, 1) := dk_42 (dk_at dksX4_init_3 13 rfl rfl)
theorem dX4_init_85 : decode cX4_init 85 = .ok (.bipush 6, 2) := dk_16 6 (dk_at dksX4_init_3 14 rfl rfl)
theorem dX4_init_87 : decode cX4_init 87 = .ok (.newarray .boolean, 2) := dk_188_4 (dk_at dksX4_init_3 16 rfl rfl)
theorem dX4_init_89 : decode cX4_init 89 = .ok (.putfield 39, 3) := dk_181 0 39 (dk_at dksX4_init_3 18 rfl rfl)
theorem dX4_init_92 : decode cX4_init 92 = .ok (.aload_n 0, 1) := dk_42 (dk_at dksX4_init_3 21 rfl rfl)
theorem dX4_init_93 : decode cX4_init 93 = .ok (.bipush 16, 2) := dk_16 16 (dk_at dksX4_init_3 22 rfl rfl)
theorem dX4_init_95 : decode cX4_init 95 = .ok (.newarray .long, 2) := dk_188_11 (dk_at dksX4_init_4 0 rfl rfl)
theorem dX4_init_97 : decode cX4_init 97 = .ok (.putfield 43, 3) := dk_181 0 43 (dk_at dksX4_init_4 2 rfl rfl)
theorem dX4_init_100 : decode cX4_init 100 = .ok (.aload_n 0, 1) := dk_42 (dk_at dksX4_init_4 5 rfl rfl)
theorem dX4_init_101 : decode cX4_init 101 = .ok (.bipush 40, 2) := dk_16 40 (dk_at dksX4_init_4 6 rfl rfl)
theorem dX4_init_103 : decode cX4_init 103 = .ok (.newarray .long, 2) := dk_188_11 (dk_at dksX4_init_4 8 rfl rfl)
theorem dX4_init_105 : decode cX4_init 105 = .ok (.putfield 47, 3) := dk_181 0 47 (dk_at dksX4_init_4 10 rfl rfl)
theorem dX4_init_108 : decode cX4_init 108 = .ok (.aload_n 0, 1) := dk_42 (dk_at dksX4_init_4 13 rfl rfl)
theorem dX4_init_109 : decode cX4_init 109 = .ok (.bipush 40, 2) := dk_16 40 (dk_at dksX4_init_4 14 rfl rfl)
theorem dX4_init_111 : decode cX4_init 111 = .ok (.newarray .long, 2) := dk_188_11 (dk_at dksX4_init_4 16 rfl rfl)
theorem dX4_init_113 : decode cX4_init 113 = .ok (.putfield 50, 3) := dk_181 0 50 (dk_at dksX4_init_4 18 rfl rfl)
theorem dX4_init_116 : decode cX4_init 116 = .ok (.aload_n 0, 1) := dk_42 (dk_at dksX4_init_4 21 rfl rfl)
theorem dX4_init_117 : decode cX4_init 117 = .ok (.bipush 40, 2) := dk_16 40 (dk_at dksX4_init_4 22 rfl rfl)
theorem dX4_init_119 : decode cX4_init 119 = .ok (.newarray .long, 2) := dk_188_11 (dk_at dksX4_init_5 0 rfl rfl)
theorem dX4_init_121 : decode cX4_init 121 = .ok (.putfield 53, 3) := dk_181 0 53 (dk_at dksX4_init_5 2 rfl rfl)
theorem dX4_init_124 : decode cX4_init 124 = .ok (.return_, 1) := dk_177 (dk_at dksX4_init_5 5 rfl rfl)
def dkwX4_lets_1 : List UInt8 := [167, 0, 9, 42, 180, 0, 50, 27, 47, 173]
abbrev dktX4_lets_1 : List UInt8 := dkwX4_lets_1 ++ []
def dkwX4_lets_0 : List UInt8 := [28, 154, 0, 10, 42, 182, 0, 93, 167, 0, 23, 28, 4, 160, 0, 12, 42, 180, 0, 47, 27, 47]
abbrev dktX4_lets_0 : List UInt8 := dkwX4_lets_0 ++ dktX4_lets_1
theorem dksX4_lets_0 : cX4_lets.data.toList.drop 0 = dktX4_lets_0 := by decide +kernel
theorem dksX4_lets_1 : cX4_lets.data.toList.drop 22 = dktX4_lets_1 := dk_seg dksX4_lets_0 22 rfl rfl
theorem dX4_lets_0 : decode cX4_lets 0 = .ok (.iload_n 2, 1) := dk_28 (dk_at dksX4_lets_0 0 rfl rfl)
theorem dX4_lets_1 : decode cX4_lets 1 = .ok (.ifCond .ne 10, 3) := dk_154 0 10 (dk_at dksX4_lets_0 1 rfl rfl)
theorem dX4_lets_4 : decode cX4_lets 4 = .ok (.aload_n 0, 1) := dk_42 (dk_at dksX4_lets_0 4 rfl rfl)
theorem dX4_lets_5 : decode cX4_lets 5 = .ok (.invokevirtual 93, 3) := dk_182 0 93 (dk_at dksX4_lets_0 5 rfl rfl)
theorem dX4_lets_8 : decode cX4_lets 8 = .ok (.goto 23, 3) := dk_167 0 23 (dk_at dksX4_lets_0 8 rfl rfl)
theorem dX4_lets_11 : decode cX4_lets 11 = .ok (.iload_n 2, 1) := dk_28 (dk_at dksX4_lets_0 11 rfl rfl)
theorem dX4_lets_12 : decode cX4_lets 12 = .ok (.iconst 1, 1) := dk_4 (dk_at dksX4_lets_0 12 rfl rfl)
theorem dX4_lets_13 : decode cX4_lets 13 = .ok (.if_icmp .ne 12, 3) := dk_160 0 12 (dk_at dksX4_lets_0 13 rfl rfl)
theorem dX4_lets_16 : decode cX4_lets 16 = .ok (.aload_n 0, 1) := dk_42 (dk_at dksX4_lets_0 16 rfl rfl)
theorem dX4_lets_17 : decode cX4_lets 17 = .ok (.getfield 47, 3) := dk_180 0 47 (dk_at dksX4_lets_0 17 rfl rfl)
theorem dX4_lets_20 : decode cX4_lets 20 = .ok (.iload_n 1, 1) := dk_27 (dk_at dksX4_lets_0 20 rfl rfl)
theorem dX4_lets_21 : decode cX4_lets 21 = .ok (.laload, 1) := dk_47 (dk_at dksX4_lets_0 21 rfl rfl)
theorem dX4_lets_22 : decode cX4_lets 22 = .ok (.goto 9, 3) := dk_167 0 9 (dk_at dksX4_lets_1 0 rfl rfl)
theorem dX4_lets_25 : decode cX4_lets 25 = .ok (.aload_n 0, 1) := dk_42 (dk_at dksX4_lets_1 3 rfl rfl)
theorem dX4_lets_26 : decode cX4_lets 26 = .ok (.getfield 50, 3) := dk_180 0 50 (dk_at dksX4_lets_1 4 rfl rfl)
theorem dX4_lets_29 : decode cX4_lets 29 = .ok (.iload_n 1, 1) := dk_27 (dk_at dksX4_lets_1 7 rfl rfl)
theorem dX4_lets_30 : decode cX4_lets 30 = .ok (.laload, 1) := dk_47 (dk_at dksX4_lets_1 8 rfl rfl)
theorem dX4_lets_31 : decode cX4_lets 31 = .ok (.lreturn, 1) := dk_173 (dk_at dksX4_lets_1 9 rfl rfl)
def dkwX4_all_0 : List UInt8 := [10, 42, 180, 0, 62, 121, 10, 101, 173]
abbrev dktX4_all_0 : List UInt8 := dkwX4_all_0 ++ []
theorem dksX4_all_0 : cX4_all.data.toList.drop 0 = dktX4_all_0 := by decide +kernel
theorem dX4_all_0 : decode cX4_all 0 = .ok (.lconst 1, 1) := dk_10 (dk_at dksX4_all_0 0 rfl rfl)
theorem dX4_all_1 : decode cX4_all 1 = .ok (.aload_n 0, 1) := dk_42 (dk_at dksX4_all_0 1 rfl rfl)
theorem dX4_all_2 : decode cX4_all 2 = .ok (.getfield 62, 3) := dk_180 0 62 (dk_at dksX4_all_0 2 rfl rfl)
theorem dX4_all_5 : decode cX4_all 5 = .ok (.lshl, 1) := dk_121 (dk_at dksX4_all_0 5 rfl rfl)
theorem dX4_all_6 : decode cX4_all 6 = .ok (.lconst 1, 1) := dk_10 (dk_at dksX4_all_0 6 rfl rfl)
theorem dX4_all_7 : decode cX4_all 7 = .ok (.lsub, 1) := dk_101 (dk_at dksX4_all_0 7 rfl rfl)
theorem dX4_all_8 : decode cX4_all 8 = .ok (.lreturn, 1) := dk_173 (dk_at dksX4_all_0 8 rfl rfl)
def dkwX4_be_7 : List UInt8 := [182, 0, 75, 177]
abbrev dktX4_be_7 : List UInt8 := dkwX4_be_7 ++ []
def dkwX4_be_6 : List UInt8 := [43, 180, 0, 66, 181, 0, 66, 42, 43, 180, 0, 69, 181, 0, 69, 42, 43, 180, 0, 72, 181, 0, 72, 42]
abbrev dktX4_be_6 : List UInt8 := dkwX4_be_6 ++ dktX4_be_7
def dkwX4_be_5 : List UInt8 := [43, 180, 0, 39, 3, 42, 180, 0, 39, 3, 16, 6, 184, 0, 56, 42, 43, 180, 0, 62, 181, 0, 62, 42]
abbrev dktX4_be_5 : List UInt8 := dkwX4_be_5 ++ dktX4_be_6
def dkwX4_be_4 : List UInt8 := [180, 0, 33, 3, 16, 8, 184, 0, 56, 43, 180, 0, 36, 3, 42, 180, 0, 36, 3, 16, 8, 184, 0, 56]
abbrev dktX4_be_4 : List UInt8 := dkwX4_be_4 ++ dktX4_be_5
def dkwX4_be_3 : List UInt8 := [184, 0, 56, 43, 180, 0, 30, 3, 42, 180, 0, 30, 3, 16, 8, 184, 0, 56, 43, 180, 0, 33, 3, 42]
abbrev dktX4_be_3 : List UInt8 := dkwX4_be_3 ++ dktX4_be_4
def dkwX4_be_2 : List UInt8 := [3, 42, 180, 0, 24, 3, 16, 6, 184, 0, 56, 43, 180, 0, 27, 3, 42, 180, 0, 27, 3, 16, 8]
abbrev dktX4_be_2 : List UInt8 := dkwX4_be_2 ++ dktX4_be_3
def dkwX4_be_1 : List UInt8 := [3, 16, 40, 184, 0, 56, 43, 180, 0, 21, 3, 42, 180, 0, 21, 3, 7, 184, 0, 56, 43, 180, 0, 24]
abbrev dktX4_be_1 : List UInt8 := dkwX4_be_1 ++ dktX4_be_2
def dkwX4_be_0 : List UInt8 := [43, 180, 0, 11, 3, 42, 180, 0, 11, 3, 16, 40, 184, 0, 56, 43, 180, 0, 17, 3, 42, 180, 0, 17]
abbrev dktX4_be_0 : List UInt8 := dkwX4_be_0 ++ dktX4_be_1
theorem dksX4_be_0 : cX4_be.data.toList.drop 0 = dktX4_be_0 := by decide +kernel
theorem dksX4_be_1 : cX4_be.data.toList.drop 24 = dktX4_be_1 := dk_seg dksX4_be_0 24 rfl rfl
theorem dksX4_be_2 : cX4_be.data.toList.drop 48 = dktX4_be_2 := dk_seg dksX4_be_1 24 rfl rfl
theorem dksX4_be_3 : cX4_be.data.toList.drop 71 = dktX4_be_3 := dk_seg dksX4_be_2 23 rfl rfl
theorem dksX4_be_4 : cX4_be.data.toList.drop 95 = dktX4_be_4 := dk_seg dksX4_be_3 24 rfl rfl
theorem dksX4_be_5 : cX4_be.data.toList.drop 119 = dktX4_be_5 := dk_seg dksX4_be_4 24 rfl rfl
theorem dksX4_be_6 : cX4_be.data.toList.drop 143 = dktX4_be_6 := dk_seg dksX4_be_5 24 rfl rfl
theorem dksX4_be_7 : cX4_be.data.toList.drop 167 = dktX4_be_7 := dk_seg dksX4_be_6 24 rfl rfl
theorem dX4_be_0 : decode cX4_be 0 = .ok (.aload_n 1, 1) := dk_43 (dk_at dksX4_be_0 0 rfl rfl)
theorem dX4_be_1 : decode cX4_be 1 = .ok (.getfield 11, 3) := dk_180 0 11 (dk_at dksX4_be_0 1 rfl rfl)
theorem dX4_be_4 : decode cX4_be 4 = .ok (.iconst 0, 1) := dk_3 (dk_at dksX4_be_0 4 rfl rfl)
theorem dX4_be_5 : decode cX4_be 5 = .ok (.aload_n 0, 1) := dk_42 (dk_at dksX4_be_0 5 rfl rfl)
theorem dX4_be_6 : decode cX4_be 6 = .ok (.getfield 11, 3) := dk_180 0 11 (dk_at dksX4_be_0 6 rfl rfl)
theorem dX4_be_9 : decode cX4_be 9 = .ok (.iconst 0, 1) := dk_3 (dk_at dksX4_be_0 9 rfl rfl)
theorem dX4_be_10 : decode cX4_be 10 = .ok (.bipush 40, 2) := dk_16 40 (dk_at dksX4_be_0 10 rfl rfl)
theorem dX4_be_12 : decode cX4_be 12 = .ok (.invokestatic 56, 3) := dk_184 0 56 (dk_at dksX4_be_0 12 rfl rfl)
theorem dX4_be_15 : decode cX4_be 15 = .ok (.aload_n 1, 1) := dk_43 (dk_at dksX4_be_0 15 rfl rfl)
theorem dX4_be_16 : decode cX4_be 16 = .ok (.getfield 17, 3) := dk_180 0 17 (dk_at dksX4_be_0 16 rfl rfl)
theorem dX4_be_19 : decode cX4_be 19 = .ok (.iconst 0, 1) := dk_3 (dk_at dksX4_be_0 19 rfl rfl)
theorem dX4_be_20 : decode cX4_be 20 = .ok (.aload_n 0, 1) := dk_42 (dk_at dksX4_be_0 20 rfl rfl)
theorem dX4_be_21 : decode cX4_be 21 = .ok (.getfield 17, 3) := dk_180 0 17 (dk_at dksX4_be_0 21 rfl rfl)
theorem dX4_be_24 : decode cX4_be 24 = .ok (.iconst 0, 1) := dk_3 (dk_at dksX4_be_1 0 rfl rfl)
theorem dX4_be_25 : decode cX4_be 25 = .ok (.bipush 40, 2) := dk_16 40 (dk_at dksX4_be_1 1 rfl rfl)
theorem dX4_be_27 : decode cX4_be 27 = .ok (.invokestatic 56, 3) := dk_184 0 56 (dk_at dksX4_be_1 3 rfl rfl)
theorem dX4_be_30 : decode cX4_be 30 = .ok (.aload_n 1, 1) := dk_43 (dk_at dksX4_be_1 6 rfl rfl)
theorem dX4_be_31 : decode cX4_be 31 = .ok (.getfield 21, 3) := dk_180 0 21 (dk_at dksX4_be_1 7 rfl rfl)
theorem dX4_be_34 : decode cX4_be 34 = .ok (.iconst 0, 1) := dk_3 (dk_at dksX4_be_1 10 rfl rfl)
theorem dX4_be_35 : decode cX4_be 35 = .ok (.aload_n 0, 1) := dk_42 (dk_at dksX4_be_1 11 rfl rfl)
theorem dX4_be_36 : decode cX4_be 36 = .ok (.getfield 21, 3) := dk_180 0 21 (dk_at dksX4_be_1 12 rfl rfl)
theorem dX4_be_39 : decode cX4_be 39 = .ok (.iconst 0, 1) := dk_3 (dk_at dksX4_be_1 15 rfl rfl)
theorem dX4_be_40 : decode cX4_be 40 = .ok (.iconst 4, 1) := dk_7 (dk_at dksX4_be_1 16 rfl rfl)
theorem dX4_be_41 : decode cX4_be 41 = .ok (.invokestatic 56, 3) := dk_184 0 56 (dk_at dksX4_be_1 17 rfl rfl)
theorem dX4_be_44 : decode cX4_be 44 = .ok (.aload_n 1, 1) := dk_43 (dk_at dksX4_be_1 20 rfl rfl)
theorem dX4_be_45 : decode cX4_be 45 = .ok (.getfield 24, 3) := dk_180 0 24 (dk_at dksX4_be_1 21 rfl rfl)
theorem dX4_be_48 : decode cX4_be 48 = .ok (.iconst 0, 1) := dk_3 (dk_at dksX4_be_2 0 rfl rfl)
theorem dX4_be_49 : decode cX4_be 49 = .ok (.aload_n 0, 1) := dk_42 (dk_at dksX4_be_2 1 rfl rfl)
theorem dX4_be_50 : decode cX4_be 50 = .ok (.getfield 24, 3) := dk_180 0 24 (dk_at dksX4_be_2 2 rfl rfl)
theorem dX4_be_53 : decode cX4_be 53 = .ok (.iconst 0, 1) := dk_3 (dk_at dksX4_be_2 5 rfl rfl)
theorem dX4_be_54 : decode cX4_be 54 = .ok (.bipush 6, 2) := dk_16 6 (dk_at dksX4_be_2 6 rfl rfl)
theorem dX4_be_56 : decode cX4_be 56 = .ok (.invokestatic 56, 3) := dk_184 0 56 (dk_at dksX4_be_2 8 rfl rfl)
theorem dX4_be_59 : decode cX4_be 59 = .ok (.aload_n 1, 1) := dk_43 (dk_at dksX4_be_2 11 rfl rfl)
theorem dX4_be_60 : decode cX4_be 60 = .ok (.getfield 27, 3) := dk_180 0 27 (dk_at dksX4_be_2 12 rfl rfl)
theorem dX4_be_63 : decode cX4_be 63 = .ok (.iconst 0, 1) := dk_3 (dk_at dksX4_be_2 15 rfl rfl)
theorem dX4_be_64 : decode cX4_be 64 = .ok (.aload_n 0, 1) := dk_42 (dk_at dksX4_be_2 16 rfl rfl)
theorem dX4_be_65 : decode cX4_be 65 = .ok (.getfield 27, 3) := dk_180 0 27 (dk_at dksX4_be_2 17 rfl rfl)
theorem dX4_be_68 : decode cX4_be 68 = .ok (.iconst 0, 1) := dk_3 (dk_at dksX4_be_2 20 rfl rfl)
theorem dX4_be_69 : decode cX4_be 69 = .ok (.bipush 8, 2) := dk_16 8 (dk_at dksX4_be_2 21 rfl rfl)
theorem dX4_be_71 : decode cX4_be 71 = .ok (.invokestatic 56, 3) := dk_184 0 56 (dk_at dksX4_be_3 0 rfl rfl)
theorem dX4_be_74 : decode cX4_be 74 = .ok (.aload_n 1, 1) := dk_43 (dk_at dksX4_be_3 3 rfl rfl)
theorem dX4_be_75 : decode cX4_be 75 = .ok (.getfield 30, 3) := dk_180 0 30 (dk_at dksX4_be_3 4 rfl rfl)
theorem dX4_be_78 : decode cX4_be 78 = .ok (.iconst 0, 1) := dk_3 (dk_at dksX4_be_3 7 rfl rfl)
theorem dX4_be_79 : decode cX4_be 79 = .ok (.aload_n 0, 1) := dk_42 (dk_at dksX4_be_3 8 rfl rfl)
theorem dX4_be_80 : decode cX4_be 80 = .ok (.getfield 30, 3) := dk_180 0 30 (dk_at dksX4_be_3 9 rfl rfl)
theorem dX4_be_83 : decode cX4_be 83 = .ok (.iconst 0, 1) := dk_3 (dk_at dksX4_be_3 12 rfl rfl)
theorem dX4_be_84 : decode cX4_be 84 = .ok (.bipush 8, 2) := dk_16 8 (dk_at dksX4_be_3 13 rfl rfl)
theorem dX4_be_86 : decode cX4_be 86 = .ok (.invokestatic 56, 3) := dk_184 0 56 (dk_at dksX4_be_3 15 rfl rfl)
theorem dX4_be_89 : decode cX4_be 89 = .ok (.aload_n 1, 1) := dk_43 (dk_at dksX4_be_3 18 rfl rfl)
theorem dX4_be_90 : decode cX4_be 90 = .ok (.getfield 33, 3) := dk_180 0 33 (dk_at dksX4_be_3 19 rfl rfl)
theorem dX4_be_93 : decode cX4_be 93 = .ok (.iconst 0, 1) := dk_3 (dk_at dksX4_be_3 22 rfl rfl)
theorem dX4_be_94 : decode cX4_be 94 = .ok (.aload_n 0, 1) := dk_42 (dk_at dksX4_be_3 23 rfl rfl)
theorem dX4_be_95 : decode cX4_be 95 = .ok (.getfield 33, 3) := dk_180 0 33 (dk_at dksX4_be_4 0 rfl rfl)
theorem dX4_be_98 : decode cX4_be 98 = .ok (.iconst 0, 1) := dk_3 (dk_at dksX4_be_4 3 rfl rfl)
theorem dX4_be_99 : decode cX4_be 99 = .ok (.bipush 8, 2) := dk_16 8 (dk_at dksX4_be_4 4 rfl rfl)
theorem dX4_be_101 : decode cX4_be 101 = .ok (.invokestatic 56, 3) := dk_184 0 56 (dk_at dksX4_be_4 6 rfl rfl)
theorem dX4_be_104 : decode cX4_be 104 = .ok (.aload_n 1, 1) := dk_43 (dk_at dksX4_be_4 9 rfl rfl)
theorem dX4_be_105 : decode cX4_be 105 = .ok (.getfield 36, 3) := dk_180 0 36 (dk_at dksX4_be_4 10 rfl rfl)
theorem dX4_be_108 : decode cX4_be 108 = .ok (.iconst 0, 1) := dk_3 (dk_at dksX4_be_4 13 rfl rfl)
theorem dX4_be_109 : decode cX4_be 109 = .ok (.aload_n 0, 1) := dk_42 (dk_at dksX4_be_4 14 rfl rfl)
theorem dX4_be_110 : decode cX4_be 110 = .ok (.getfield 36, 3) := dk_180 0 36 (dk_at dksX4_be_4 15 rfl rfl)
theorem dX4_be_113 : decode cX4_be 113 = .ok (.iconst 0, 1) := dk_3 (dk_at dksX4_be_4 18 rfl rfl)
theorem dX4_be_114 : decode cX4_be 114 = .ok (.bipush 8, 2) := dk_16 8 (dk_at dksX4_be_4 19 rfl rfl)
theorem dX4_be_116 : decode cX4_be 116 = .ok (.invokestatic 56, 3) := dk_184 0 56 (dk_at dksX4_be_4 21 rfl rfl)
theorem dX4_be_119 : decode cX4_be 119 = .ok (.aload_n 1, 1) := dk_43 (dk_at dksX4_be_5 0 rfl rfl)
theorem dX4_be_120 : decode cX4_be 120 = .ok (.getfield 39, 3) := dk_180 0 39 (dk_at dksX4_be_5 1 rfl rfl)
theorem dX4_be_123 : decode cX4_be 123 = .ok (.iconst 0, 1) := dk_3 (dk_at dksX4_be_5 4 rfl rfl)
theorem dX4_be_124 : decode cX4_be 124 = .ok (.aload_n 0, 1) := dk_42 (dk_at dksX4_be_5 5 rfl rfl)
theorem dX4_be_125 : decode cX4_be 125 = .ok (.getfield 39, 3) := dk_180 0 39 (dk_at dksX4_be_5 6 rfl rfl)
theorem dX4_be_128 : decode cX4_be 128 = .ok (.iconst 0, 1) := dk_3 (dk_at dksX4_be_5 9 rfl rfl)
theorem dX4_be_129 : decode cX4_be 129 = .ok (.bipush 6, 2) := dk_16 6 (dk_at dksX4_be_5 10 rfl rfl)
theorem dX4_be_131 : decode cX4_be 131 = .ok (.invokestatic 56, 3) := dk_184 0 56 (dk_at dksX4_be_5 12 rfl rfl)
theorem dX4_be_134 : decode cX4_be 134 = .ok (.aload_n 0, 1) := dk_42 (dk_at dksX4_be_5 15 rfl rfl)
theorem dX4_be_135 : decode cX4_be 135 = .ok (.aload_n 1, 1) := dk_43 (dk_at dksX4_be_5 16 rfl rfl)
theorem dX4_be_136 : decode cX4_be 136 = .ok (.getfield 62, 3) := dk_180 0 62 (dk_at dksX4_be_5 17 rfl rfl)
theorem dX4_be_139 : decode cX4_be 139 = .ok (.putfield 62, 3) := dk_181 0 62 (dk_at dksX4_be_5 20 rfl rfl)
theorem dX4_be_142 : decode cX4_be 142 = .ok (.aload_n 0, 1) := dk_42 (dk_at dksX4_be_5 23 rfl rfl)
theorem dX4_be_143 : decode cX4_be 143 = .ok (.aload_n 1, 1) := dk_43 (dk_at dksX4_be_6 0 rfl rfl)
theorem dX4_be_144 : decode cX4_be 144 = .ok (.getfield 66, 3) := dk_180 0 66 (dk_at dksX4_be_6 1 rfl rfl)
theorem dX4_be_147 : decode cX4_be 147 = .ok (.putfield 66, 3) := dk_181 0 66 (dk_at dksX4_be_6 4 rfl rfl)
theorem dX4_be_150 : decode cX4_be 150 = .ok (.aload_n 0, 1) := dk_42 (dk_at dksX4_be_6 7 rfl rfl)
theorem dX4_be_151 : decode cX4_be 151 = .ok (.aload_n 1, 1) := dk_43 (dk_at dksX4_be_6 8 rfl rfl)
theorem dX4_be_152 : decode cX4_be 152 = .ok (.getfield 69, 3) := dk_180 0 69 (dk_at dksX4_be_6 9 rfl rfl)
theorem dX4_be_155 : decode cX4_be 155 = .ok (.putfield 69, 3) := dk_181 0 69 (dk_at dksX4_be_6 12 rfl rfl)
theorem dX4_be_158 : decode cX4_be 158 = .ok (.aload_n 0, 1) := dk_42 (dk_at dksX4_be_6 15 rfl rfl)
theorem dX4_be_159 : decode cX4_be 159 = .ok (.aload_n 1, 1) := dk_43 (dk_at dksX4_be_6 16 rfl rfl)
theorem dX4_be_160 : decode cX4_be 160 = .ok (.getfield 72, 3) := dk_180 0 72 (dk_at dksX4_be_6 17 rfl rfl)
theorem dX4_be_163 : decode cX4_be 163 = .ok (.putfield 72, 3) := dk_181 0 72 (dk_at dksX4_be_6 20 rfl rfl)
theorem dX4_be_166 : decode cX4_be 166 = .ok (.aload_n 0, 1) := dk_42 (dk_at dksX4_be_6 23 rfl rfl)
theorem dX4_be_167 : decode cX4_be 167 = .ok (.invokevirtual 75, 3) := dk_182 0 75 (dk_at dksX4_be_7 0 rfl rfl)
theorem dX4_be_170 : decode cX4_be 170 = .ok (.return_, 1) := dk_177 (dk_at dksX4_be_7 3 rfl rfl)
def dkwX4_learns_13 : List UInt8 := [167, 255, 220, 177]
abbrev dktX4_learns_13 : List UInt8 := dkwX4_learns_13 ++ []
def dkwX4_learns_12 : List UInt8 := [182, 0, 97, 16, 7, 160, 0, 14, 42, 180, 0, 50, 27, 42, 27, 182, 0, 116, 80, 132, 1, 1]
abbrev dktX4_learns_12 : List UInt8 := dkwX4_learns_12 ++ dktX4_learns_13
def dkwX4_learns_11 : List UInt8 := [132, 1, 1, 167, 255, 234, 3, 60, 27, 42, 180, 0, 62, 162, 0, 34, 42, 180, 0, 11, 27, 50]
abbrev dktX4_learns_11 : List UInt8 := dkwX4_learns_11 ++ dktX4_learns_12
def dkwX4_learns_10 : List UInt8 := [167, 255, 79, 3, 60, 27, 42, 180, 0, 62, 162, 0, 20, 42, 180, 0, 53, 27, 42, 27, 182, 0, 113, 80]
abbrev dktX4_learns_10 : List UInt8 := dkwX4_learns_10 ++ dktX4_learns_11
def dkwX4_learns_9 : List UInt8 := [180, 0, 43, 42, 180, 0, 11, 27, 50, 182, 0, 107, 47, 42, 182, 0, 93, 127, 80, 132, 1, 1]
abbrev dktX4_learns_9 : List UInt8 := dkwX4_learns_9 ++ dktX4_learns_10
def dkwX4_learns_8 : List UInt8 := [27, 50, 182, 0, 107, 122, 4, 126, 4, 160, 0, 12, 42, 180, 0, 47, 27, 47, 167, 0, 22, 42]
abbrev dktX4_learns_8 : List UInt8 := dkwX4_learns_8 ++ dktX4_learns_9
def dkwX4_learns_7 : List UInt8 := [50, 182, 0, 107, 2, 160, 0, 6, 167, 0, 57, 42, 180, 0, 50, 27, 42, 180, 0, 110, 42, 180, 0, 11]
abbrev dktX4_learns_7 : List UInt8 := dkwX4_learns_7 ++ dktX4_learns_8
def dkwX4_learns_6 : List UInt8 := [160, 0, 10, 28, 184, 0, 89, 167, 0, 4, 9, 129, 80, 132, 2, 1, 167, 255, 193, 42, 180, 0, 11, 27]
abbrev dktX4_learns_6 : List UInt8 := dkwX4_learns_6 ++ dktX4_learns_7
def dkwX4_learns_5 : List UInt8 := [180, 0, 47, 27, 92, 47, 42, 180, 0, 11, 28, 50, 180, 0, 101, 42, 180, 0, 11, 27, 50, 182, 0, 104]
abbrev dktX4_learns_5 : List UInt8 := dkwX4_learns_5 ++ dktX4_learns_6
def dkwX4_learns_4 : List UInt8 := [61, 28, 42, 180, 0, 62, 162, 0, 61, 42, 180, 0, 11, 27, 50, 182, 0, 97, 16, 7, 159, 0, 47, 42]
abbrev dktX4_learns_4 : List UInt8 := dkwX4_learns_4 ++ dktX4_learns_5
def dkwX4_learns_3 : List UInt8 := [42, 180, 0, 11, 27, 50, 182, 0, 97, 16, 7, 160, 0, 10, 42, 180, 0, 81, 167, 0, 4, 9, 80, 3]
abbrev dktX4_learns_3 : List UInt8 := dkwX4_learns_3 ++ dktX4_learns_4
def dkwX4_learns_2 : List UInt8 := [181, 0, 81, 132, 1, 1, 167, 255, 213, 3, 60, 27, 42, 180, 0, 62, 162, 0, 175, 42, 180, 0, 47, 27]
abbrev dktX4_learns_2 : List UInt8 := dkwX4_learns_2 ++ dktX4_learns_3
def dkwX4_learns_1 : List UInt8 := [50, 182, 0, 85, 153, 0, 23, 42, 89, 180, 0, 81, 27, 4, 96, 184, 0, 89, 42, 182, 0, 93, 127, 129]
abbrev dktX4_learns_1 : List UInt8 := dkwX4_learns_1 ++ dktX4_learns_2
def dkwX4_learns_0 : List UInt8 := [42, 182, 0, 78, 42, 9, 181, 0, 81, 3, 60, 27, 42, 180, 0, 62, 162, 0, 41, 42, 180, 0, 11, 27]
abbrev dktX4_learns_0 : List UInt8 := dkwX4_learns_0 ++ dktX4_learns_1
theorem dksX4_learns_0 : cX4_learns.data.toList.drop 0 = dktX4_learns_0 := by decide +kernel
theorem dksX4_learns_1 : cX4_learns.data.toList.drop 24 = dktX4_learns_1 := dk_seg dksX4_learns_0 24 rfl rfl
theorem dksX4_learns_2 : cX4_learns.data.toList.drop 48 = dktX4_learns_2 := dk_seg dksX4_learns_1 24 rfl rfl
theorem dksX4_learns_3 : cX4_learns.data.toList.drop 72 = dktX4_learns_3 := dk_seg dksX4_learns_2 24 rfl rfl
theorem dksX4_learns_4 : cX4_learns.data.toList.drop 96 = dktX4_learns_4 := dk_seg dksX4_learns_3 24 rfl rfl
theorem dksX4_learns_5 : cX4_learns.data.toList.drop 120 = dktX4_learns_5 := dk_seg dksX4_learns_4 24 rfl rfl
theorem dksX4_learns_6 : cX4_learns.data.toList.drop 144 = dktX4_learns_6 := dk_seg dksX4_learns_5 24 rfl rfl
theorem dksX4_learns_7 : cX4_learns.data.toList.drop 168 = dktX4_learns_7 := dk_seg dksX4_learns_6 24 rfl rfl
theorem dksX4_learns_8 : cX4_learns.data.toList.drop 192 = dktX4_learns_8 := dk_seg dksX4_learns_7 24 rfl rfl
theorem dksX4_learns_9 : cX4_learns.data.toList.drop 214 = dktX4_learns_9 := dk_seg dksX4_learns_8 22 rfl rfl
theorem dksX4_learns_10 : cX4_learns.data.toList.drop 236 = dktX4_learns_10 := dk_seg dksX4_learns_9 22 rfl rfl
theorem dksX4_learns_11 : cX4_learns.data.toList.drop 260 = dktX4_learns_11 := dk_seg dksX4_learns_10 24 rfl rfl
theorem dksX4_learns_12 : cX4_learns.data.toList.drop 282 = dktX4_learns_12 := dk_seg dksX4_learns_11 22 rfl rfl
theorem dksX4_learns_13 : cX4_learns.data.toList.drop 304 = dktX4_learns_13 := dk_seg dksX4_learns_12 22 rfl rfl
theorem dX4_learns_0 : decode cX4_learns 0 = .ok (.aload_n 0, 1) := dk_42 (dk_at dksX4_learns_0 0 rfl rfl)
theorem dX4_learns_1 : decode cX4_learns 1 = .ok (.invokevirtual 78, 3) := dk_182 0 78 (dk_at dksX4_learns_0 1 rfl rfl)
theorem dX4_learns_4 : decode cX4_learns 4 = .ok (.aload_n 0, 1) := dk_42 (dk_at dksX4_learns_0 4 rfl rfl)
theorem dX4_learns_5 : decode cX4_learns 5 = .ok (.lconst 0, 1) := dk_9 (dk_at dksX4_learns_0 5 rfl rfl)
theorem dX4_learns_6 : decode cX4_learns 6 = .ok (.putfield 81, 3) := dk_181 0 81 (dk_at dksX4_learns_0 6 rfl rfl)
theorem dX4_learns_9 : decode cX4_learns 9 = .ok (.iconst 0, 1) := dk_3 (dk_at dksX4_learns_0 9 rfl rfl)
theorem dX4_learns_10 : decode cX4_learns 10 = .ok (.istore_n 1, 1) := dk_60 (dk_at dksX4_learns_0 10 rfl rfl)
theorem dX4_learns_11 : decode cX4_learns 11 = .ok (.iload_n 1, 1) := dk_27 (dk_at dksX4_learns_0 11 rfl rfl)
theorem dX4_learns_12 : decode cX4_learns 12 = .ok (.aload_n 0, 1) := dk_42 (dk_at dksX4_learns_0 12 rfl rfl)
theorem dX4_learns_13 : decode cX4_learns 13 = .ok (.getfield 62, 3) := dk_180 0 62 (dk_at dksX4_learns_0 13 rfl rfl)
theorem dX4_learns_16 : decode cX4_learns 16 = .ok (.if_icmp .ge 41, 3) := dk_162 0 41 (dk_at dksX4_learns_0 16 rfl rfl)
theorem dX4_learns_19 : decode cX4_learns 19 = .ok (.aload_n 0, 1) := dk_42 (dk_at dksX4_learns_0 19 rfl rfl)
theorem dX4_learns_20 : decode cX4_learns 20 = .ok (.getfield 11, 3) := dk_180 0 11 (dk_at dksX4_learns_0 20 rfl rfl)
theorem dX4_learns_23 : decode cX4_learns 23 = .ok (.iload_n 1, 1) := dk_27 (dk_at dksX4_learns_0 23 rfl rfl)
theorem dX4_learns_24 : decode cX4_learns 24 = .ok (.aaload, 1) := dk_50 (dk_at dksX4_learns_1 0 rfl rfl)
theorem dX4_learns_25 : decode cX4_learns 25 = .ok (.invokevirtual 85, 3) := dk_182 0 85 (dk_at dksX4_learns_1 1 rfl rfl)
theorem dX4_learns_28 : decode cX4_learns 28 = .ok (.ifCond .eq 23, 3) := dk_153 0 23 (dk_at dksX4_learns_1 4 rfl rfl)
theorem dX4_learns_31 : decode cX4_learns 31 = .ok (.aload_n 0, 1) := dk_42 (dk_at dksX4_learns_1 7 rfl rfl)
theorem dX4_learns_32 : decode cX4_learns 32 = .ok (.dup, 1) := dk_89 (dk_at dksX4_learns_1 8 rfl rfl)
theorem dX4_learns_33 : decode cX4_learns 33 = .ok (.getfield 81, 3) := dk_180 0 81 (dk_at dksX4_learns_1 9 rfl rfl)
theorem dX4_learns_36 : decode cX4_learns 36 = .ok (.iload_n 1, 1) := dk_27 (dk_at dksX4_learns_1 12 rfl rfl)
theorem dX4_learns_37 : decode cX4_learns 37 = .ok (.iconst 1, 1) := dk_4 (dk_at dksX4_learns_1 13 rfl rfl)
theorem dX4_learns_38 : decode cX4_learns 38 = .ok (.iadd, 1) := dk_96 (dk_at dksX4_learns_1 14 rfl rfl)
theorem dX4_learns_39 : decode cX4_learns 39 = .ok (.invokestatic 89, 3) := dk_184 0 89 (dk_at dksX4_learns_1 15 rfl rfl)
theorem dX4_learns_42 : decode cX4_learns 42 = .ok (.aload_n 0, 1) := dk_42 (dk_at dksX4_learns_1 18 rfl rfl)
theorem dX4_learns_43 : decode cX4_learns 43 = .ok (.invokevirtual 93, 3) := dk_182 0 93 (dk_at dksX4_learns_1 19 rfl rfl)
theorem dX4_learns_46 : decode cX4_learns 46 = .ok (.land, 1) := dk_127 (dk_at dksX4_learns_1 22 rfl rfl)
theorem dX4_learns_47 : decode cX4_learns 47 = .ok (.lor, 1) := dk_129 (dk_at dksX4_learns_1 23 rfl rfl)
theorem dX4_learns_48 : decode cX4_learns 48 = .ok (.putfield 81, 3) := dk_181 0 81 (dk_at dksX4_learns_2 0 rfl rfl)
theorem dX4_learns_51 : decode cX4_learns 51 = .ok (.iinc 1 1, 3) := dk_132 1 1 (dk_at dksX4_learns_2 3 rfl rfl)
theorem dX4_learns_54 : decode cX4_learns 54 = .ok (.goto (-43), 3) := dk_167 255 213 (dk_at dksX4_learns_2 6 rfl rfl)
theorem dX4_learns_57 : decode cX4_learns 57 = .ok (.iconst 0, 1) := dk_3 (dk_at dksX4_learns_2 9 rfl rfl)
theorem dX4_learns_58 : decode cX4_learns 58 = .ok (.istore_n 1, 1) := dk_60 (dk_at dksX4_learns_2 10 rfl rfl)
theorem dX4_learns_59 : decode cX4_learns 59 = .ok (.iload_n 1, 1) := dk_27 (dk_at dksX4_learns_2 11 rfl rfl)
theorem dX4_learns_60 : decode cX4_learns 60 = .ok (.aload_n 0, 1) := dk_42 (dk_at dksX4_learns_2 12 rfl rfl)
theorem dX4_learns_61 : decode cX4_learns 61 = .ok (.getfield 62, 3) := dk_180 0 62 (dk_at dksX4_learns_2 13 rfl rfl)
theorem dX4_learns_64 : decode cX4_learns 64 = .ok (.if_icmp .ge 175, 3) := dk_162 0 175 (dk_at dksX4_learns_2 16 rfl rfl)
theorem dX4_learns_67 : decode cX4_learns 67 = .ok (.aload_n 0, 1) := dk_42 (dk_at dksX4_learns_2 19 rfl rfl)
theorem dX4_learns_68 : decode cX4_learns 68 = .ok (.getfield 47, 3) := dk_180 0 47 (dk_at dksX4_learns_2 20 rfl rfl)
theorem dX4_learns_71 : decode cX4_learns 71 = .ok (.iload_n 1, 1) := dk_27 (dk_at dksX4_learns_2 23 rfl rfl)
theorem dX4_learns_72 : decode cX4_learns 72 = .ok (.aload_n 0, 1) := dk_42 (dk_at dksX4_learns_3 0 rfl rfl)
theorem dX4_learns_73 : decode cX4_learns 73 = .ok (.getfield 11, 3) := dk_180 0 11 (dk_at dksX4_learns_3 1 rfl rfl)
theorem dX4_learns_76 : decode cX4_learns 76 = .ok (.iload_n 1, 1) := dk_27 (dk_at dksX4_learns_3 4 rfl rfl)
theorem dX4_learns_77 : decode cX4_learns 77 = .ok (.aaload, 1) := dk_50 (dk_at dksX4_learns_3 5 rfl rfl)
theorem dX4_learns_78 : decode cX4_learns 78 = .ok (.invokevirtual 97, 3) := dk_182 0 97 (dk_at dksX4_learns_3 6 rfl rfl)
theorem dX4_learns_81 : decode cX4_learns 81 = .ok (.bipush 7, 2) := dk_16 7 (dk_at dksX4_learns_3 9 rfl rfl)
theorem dX4_learns_83 : decode cX4_learns 83 = .ok (.if_icmp .ne 10, 3) := dk_160 0 10 (dk_at dksX4_learns_3 11 rfl rfl)
theorem dX4_learns_86 : decode cX4_learns 86 = .ok (.aload_n 0, 1) := dk_42 (dk_at dksX4_learns_3 14 rfl rfl)
theorem dX4_learns_87 : decode cX4_learns 87 = .ok (.getfield 81, 3) := dk_180 0 81 (dk_at dksX4_learns_3 15 rfl rfl)
theorem dX4_learns_90 : decode cX4_learns 90 = .ok (.goto 4, 3) := dk_167 0 4 (dk_at dksX4_learns_3 18 rfl rfl)
theorem dX4_learns_93 : decode cX4_learns 93 = .ok (.lconst 0, 1) := dk_9 (dk_at dksX4_learns_3 21 rfl rfl)
theorem dX4_learns_94 : decode cX4_learns 94 = .ok (.lastore, 1) := dk_80 (dk_at dksX4_learns_3 22 rfl rfl)
theorem dX4_learns_95 : decode cX4_learns 95 = .ok (.iconst 0, 1) := dk_3 (dk_at dksX4_learns_3 23 rfl rfl)
theorem dX4_learns_96 : decode cX4_learns 96 = .ok (.istore_n 2, 1) := dk_61 (dk_at dksX4_learns_4 0 rfl rfl)
theorem dX4_learns_97 : decode cX4_learns 97 = .ok (.iload_n 2, 1) := dk_28 (dk_at dksX4_learns_4 1 rfl rfl)
theorem dX4_learns_98 : decode cX4_learns 98 = .ok (.aload_n 0, 1) := dk_42 (dk_at dksX4_learns_4 2 rfl rfl)
theorem dX4_learns_99 : decode cX4_learns 99 = .ok (.getfield 62, 3) := dk_180 0 62 (dk_at dksX4_learns_4 3 rfl rfl)
theorem dX4_learns_102 : decode cX4_learns 102 = .ok (.if_icmp .ge 61, 3) := dk_162 0 61 (dk_at dksX4_learns_4 6 rfl rfl)
theorem dX4_learns_105 : decode cX4_learns 105 = .ok (.aload_n 0, 1) := dk_42 (dk_at dksX4_learns_4 9 rfl rfl)
theorem dX4_learns_106 : decode cX4_learns 106 = .ok (.getfield 11, 3) := dk_180 0 11 (dk_at dksX4_learns_4 10 rfl rfl)
theorem dX4_learns_109 : decode cX4_learns 109 = .ok (.iload_n 1, 1) := dk_27 (dk_at dksX4_learns_4 13 rfl rfl)
theorem dX4_learns_110 : decode cX4_learns 110 = .ok (.aaload, 1) := dk_50 (dk_at dksX4_learns_4 14 rfl rfl)
theorem dX4_learns_111 : decode cX4_learns 111 = .ok (.invokevirtual 97, 3) := dk_182 0 97 (dk_at dksX4_learns_4 15 rfl rfl)
theorem dX4_learns_114 : decode cX4_learns 114 = .ok (.bipush 7, 2) := dk_16 7 (dk_at dksX4_learns_4 18 rfl rfl)
theorem dX4_learns_116 : decode cX4_learns 116 = .ok (.if_icmp .eq 47, 3) := dk_159 0 47 (dk_at dksX4_learns_4 20 rfl rfl)
theorem dX4_learns_119 : decode cX4_learns 119 = .ok (.aload_n 0, 1) := dk_42 (dk_at dksX4_learns_4 23 rfl rfl)
theorem dX4_learns_120 : decode cX4_learns 120 = .ok (.getfield 47, 3) := dk_180 0 47 (dk_at dksX4_learns_5 0 rfl rfl)
theorem dX4_learns_123 : decode cX4_learns 123 = .ok (.iload_n 1, 1) := dk_27 (dk_at dksX4_learns_5 3 rfl rfl)
theorem dX4_learns_124 : decode cX4_learns 124 = .ok (.dup2, 1) := dk_92 (dk_at dksX4_learns_5 4 rfl rfl)
theorem dX4_learns_125 : decode cX4_learns 125 = .ok (.laload, 1) := dk_47 (dk_at dksX4_learns_5 5 rfl rfl)
theorem dX4_learns_126 : decode cX4_learns 126 = .ok (.aload_n 0, 1) := dk_42 (dk_at dksX4_learns_5 6 rfl rfl)
theorem dX4_learns_127 : decode cX4_learns 127 = .ok (.getfield 11, 3) := dk_180 0 11 (dk_at dksX4_learns_5 7 rfl rfl)
theorem dX4_learns_130 : decode cX4_learns 130 = .ok (.iload_n 2, 1) := dk_28 (dk_at dksX4_learns_5 10 rfl rfl)
theorem dX4_learns_131 : decode cX4_learns 131 = .ok (.aaload, 1) := dk_50 (dk_at dksX4_learns_5 11 rfl rfl)
theorem dX4_learns_132 : decode cX4_learns 132 = .ok (.getfield 101, 3) := dk_180 0 101 (dk_at dksX4_learns_5 12 rfl rfl)
theorem dX4_learns_135 : decode cX4_learns 135 = .ok (.aload_n 0, 1) := dk_42 (dk_at dksX4_learns_5 15 rfl rfl)
theorem dX4_learns_136 : decode cX4_learns 136 = .ok (.getfield 11, 3) := dk_180 0 11 (dk_at dksX4_learns_5 16 rfl rfl)
theorem dX4_learns_139 : decode cX4_learns 139 = .ok (.iload_n 1, 1) := dk_27 (dk_at dksX4_learns_5 19 rfl rfl)
theorem dX4_learns_140 : decode cX4_learns 140 = .ok (.aaload, 1) := dk_50 (dk_at dksX4_learns_5 20 rfl rfl)
theorem dX4_learns_141 : decode cX4_learns 141 = .ok (.invokevirtual 104, 3) := dk_182 0 104 (dk_at dksX4_learns_5 21 rfl rfl)
theorem dX4_learns_144 : decode cX4_learns 144 = .ok (.if_icmp .ne 10, 3) := dk_160 0 10 (dk_at dksX4_learns_6 0 rfl rfl)
theorem dX4_learns_147 : decode cX4_learns 147 = .ok (.iload_n 2, 1) := dk_28 (dk_at dksX4_learns_6 3 rfl rfl)
theorem dX4_learns_148 : decode cX4_learns 148 = .ok (.invokestatic 89, 3) := dk_184 0 89 (dk_at dksX4_learns_6 4 rfl rfl)
theorem dX4_learns_151 : decode cX4_learns 151 = .ok (.goto 4, 3) := dk_167 0 4 (dk_at dksX4_learns_6 7 rfl rfl)
theorem dX4_learns_154 : decode cX4_learns 154 = .ok (.lconst 0, 1) := dk_9 (dk_at dksX4_learns_6 10 rfl rfl)
theorem dX4_learns_155 : decode cX4_learns 155 = .ok (.lor, 1) := dk_129 (dk_at dksX4_learns_6 11 rfl rfl)
theorem dX4_learns_156 : decode cX4_learns 156 = .ok (.lastore, 1) := dk_80 (dk_at dksX4_learns_6 12 rfl rfl)
theorem dX4_learns_157 : decode cX4_learns 157 = .ok (.iinc 2 1, 3) := dk_132 2 1 (dk_at dksX4_learns_6 13 rfl rfl)
theorem dX4_learns_160 : decode cX4_learns 160 = .ok (.goto (-63), 3) := dk_167 255 193 (dk_at dksX4_learns_6 16 rfl rfl)
theorem dX4_learns_163 : decode cX4_learns 163 = .ok (.aload_n 0, 1) := dk_42 (dk_at dksX4_learns_6 19 rfl rfl)
theorem dX4_learns_164 : decode cX4_learns 164 = .ok (.getfield 11, 3) := dk_180 0 11 (dk_at dksX4_learns_6 20 rfl rfl)
theorem dX4_learns_167 : decode cX4_learns 167 = .ok (.iload_n 1, 1) := dk_27 (dk_at dksX4_learns_6 23 rfl rfl)
theorem dX4_learns_168 : decode cX4_learns 168 = .ok (.aaload, 1) := dk_50 (dk_at dksX4_learns_7 0 rfl rfl)
theorem dX4_learns_169 : decode cX4_learns 169 = .ok (.invokevirtual 107, 3) := dk_182 0 107 (dk_at dksX4_learns_7 1 rfl rfl)
theorem dX4_learns_172 : decode cX4_learns 172 = .ok (.iconst (-1), 1) := dk_2 (dk_at dksX4_learns_7 4 rfl rfl)
theorem dX4_learns_173 : decode cX4_learns 173 = .ok (.if_icmp .ne 6, 3) := dk_160 0 6 (dk_at dksX4_learns_7 5 rfl rfl)
theorem dX4_learns_176 : decode cX4_learns 176 = .ok (.goto 57, 3) := dk_167 0 57 (dk_at dksX4_learns_7 8 rfl rfl)
theorem dX4_learns_179 : decode cX4_learns 179 = .ok (.aload_n 0, 1) := dk_42 (dk_at dksX4_learns_7 11 rfl rfl)
theorem dX4_learns_180 : decode cX4_learns 180 = .ok (.getfield 50, 3) := dk_180 0 50 (dk_at dksX4_learns_7 12 rfl rfl)
theorem dX4_learns_183 : decode cX4_learns 183 = .ok (.iload_n 1, 1) := dk_27 (dk_at dksX4_learns_7 15 rfl rfl)
theorem dX4_learns_184 : decode cX4_learns 184 = .ok (.aload_n 0, 1) := dk_42 (dk_at dksX4_learns_7 16 rfl rfl)
theorem dX4_learns_185 : decode cX4_learns 185 = .ok (.getfield 110, 3) := dk_180 0 110 (dk_at dksX4_learns_7 17 rfl rfl)
theorem dX4_learns_188 : decode cX4_learns 188 = .ok (.aload_n 0, 1) := dk_42 (dk_at dksX4_learns_7 20 rfl rfl)
theorem dX4_learns_189 : decode cX4_learns 189 = .ok (.getfield 11, 3) := dk_180 0 11 (dk_at dksX4_learns_7 21 rfl rfl)
theorem dX4_learns_192 : decode cX4_learns 192 = .ok (.iload_n 1, 1) := dk_27 (dk_at dksX4_learns_8 0 rfl rfl)
theorem dX4_learns_193 : decode cX4_learns 193 = .ok (.aaload, 1) := dk_50 (dk_at dksX4_learns_8 1 rfl rfl)
theorem dX4_learns_194 : decode cX4_learns 194 = .ok (.invokevirtual 107, 3) := dk_182 0 107 (dk_at dksX4_learns_8 2 rfl rfl)
theorem dX4_learns_197 : decode cX4_learns 197 = .ok (.ishr, 1) := dk_122 (dk_at dksX4_learns_8 5 rfl rfl)
theorem dX4_learns_198 : decode cX4_learns 198 = .ok (.iconst 1, 1) := dk_4 (dk_at dksX4_learns_8 6 rfl rfl)
theorem dX4_learns_199 : decode cX4_learns 199 = .ok (.iand, 1) := dk_126 (dk_at dksX4_learns_8 7 rfl rfl)
theorem dX4_learns_200 : decode cX4_learns 200 = .ok (.iconst 1, 1) := dk_4 (dk_at dksX4_learns_8 8 rfl rfl)
theorem dX4_learns_201 : decode cX4_learns 201 = .ok (.if_icmp .ne 12, 3) := dk_160 0 12 (dk_at dksX4_learns_8 9 rfl rfl)
theorem dX4_learns_204 : decode cX4_learns 204 = .ok (.aload_n 0, 1) := dk_42 (dk_at dksX4_learns_8 12 rfl rfl)
theorem dX4_learns_205 : decode cX4_learns 205 = .ok (.getfield 47, 3) := dk_180 0 47 (dk_at dksX4_learns_8 13 rfl rfl)
theorem dX4_learns_208 : decode cX4_learns 208 = .ok (.iload_n 1, 1) := dk_27 (dk_at dksX4_learns_8 16 rfl rfl)
theorem dX4_learns_209 : decode cX4_learns 209 = .ok (.laload, 1) := dk_47 (dk_at dksX4_learns_8 17 rfl rfl)
theorem dX4_learns_210 : decode cX4_learns 210 = .ok (.goto 22, 3) := dk_167 0 22 (dk_at dksX4_learns_8 18 rfl rfl)
theorem dX4_learns_213 : decode cX4_learns 213 = .ok (.aload_n 0, 1) := dk_42 (dk_at dksX4_learns_8 21 rfl rfl)
theorem dX4_learns_214 : decode cX4_learns 214 = .ok (.getfield 43, 3) := dk_180 0 43 (dk_at dksX4_learns_9 0 rfl rfl)
theorem dX4_learns_217 : decode cX4_learns 217 = .ok (.aload_n 0, 1) := dk_42 (dk_at dksX4_learns_9 3 rfl rfl)
theorem dX4_learns_218 : decode cX4_learns 218 = .ok (.getfield 11, 3) := dk_180 0 11 (dk_at dksX4_learns_9 4 rfl rfl)
theorem dX4_learns_221 : decode cX4_learns 221 = .ok (.iload_n 1, 1) := dk_27 (dk_at dksX4_learns_9 7 rfl rfl)
theorem dX4_learns_222 : decode cX4_learns 222 = .ok (.aaload, 1) := dk_50 (dk_at dksX4_learns_9 8 rfl rfl)
theorem dX4_learns_223 : decode cX4_learns 223 = .ok (.invokevirtual 107, 3) := dk_182 0 107 (dk_at dksX4_learns_9 9 rfl rfl)
theorem dX4_learns_226 : decode cX4_learns 226 = .ok (.laload, 1) := dk_47 (dk_at dksX4_learns_9 12 rfl rfl)
theorem dX4_learns_227 : decode cX4_learns 227 = .ok (.aload_n 0, 1) := dk_42 (dk_at dksX4_learns_9 13 rfl rfl)
theorem dX4_learns_228 : decode cX4_learns 228 = .ok (.invokevirtual 93, 3) := dk_182 0 93 (dk_at dksX4_learns_9 14 rfl rfl)
theorem dX4_learns_231 : decode cX4_learns 231 = .ok (.land, 1) := dk_127 (dk_at dksX4_learns_9 17 rfl rfl)
theorem dX4_learns_232 : decode cX4_learns 232 = .ok (.lastore, 1) := dk_80 (dk_at dksX4_learns_9 18 rfl rfl)
theorem dX4_learns_233 : decode cX4_learns 233 = .ok (.iinc 1 1, 3) := dk_132 1 1 (dk_at dksX4_learns_9 19 rfl rfl)
theorem dX4_learns_236 : decode cX4_learns 236 = .ok (.goto (-177), 3) := dk_167 255 79 (dk_at dksX4_learns_10 0 rfl rfl)
theorem dX4_learns_239 : decode cX4_learns 239 = .ok (.iconst 0, 1) := dk_3 (dk_at dksX4_learns_10 3 rfl rfl)
theorem dX4_learns_240 : decode cX4_learns 240 = .ok (.istore_n 1, 1) := dk_60 (dk_at dksX4_learns_10 4 rfl rfl)
theorem dX4_learns_241 : decode cX4_learns 241 = .ok (.iload_n 1, 1) := dk_27 (dk_at dksX4_learns_10 5 rfl rfl)
theorem dX4_learns_242 : decode cX4_learns 242 = .ok (.aload_n 0, 1) := dk_42 (dk_at dksX4_learns_10 6 rfl rfl)
theorem dX4_learns_243 : decode cX4_learns 243 = .ok (.getfield 62, 3) := dk_180 0 62 (dk_at dksX4_learns_10 7 rfl rfl)
theorem dX4_learns_246 : decode cX4_learns 246 = .ok (.if_icmp .ge 20, 3) := dk_162 0 20 (dk_at dksX4_learns_10 10 rfl rfl)
theorem dX4_learns_249 : decode cX4_learns 249 = .ok (.aload_n 0, 1) := dk_42 (dk_at dksX4_learns_10 13 rfl rfl)
theorem dX4_learns_250 : decode cX4_learns 250 = .ok (.getfield 53, 3) := dk_180 0 53 (dk_at dksX4_learns_10 14 rfl rfl)
theorem dX4_learns_253 : decode cX4_learns 253 = .ok (.iload_n 1, 1) := dk_27 (dk_at dksX4_learns_10 17 rfl rfl)
theorem dX4_learns_254 : decode cX4_learns 254 = .ok (.aload_n 0, 1) := dk_42 (dk_at dksX4_learns_10 18 rfl rfl)
theorem dX4_learns_255 : decode cX4_learns 255 = .ok (.iload_n 1, 1) := dk_27 (dk_at dksX4_learns_10 19 rfl rfl)
theorem dX4_learns_256 : decode cX4_learns 256 = .ok (.invokevirtual 113, 3) := dk_182 0 113 (dk_at dksX4_learns_10 20 rfl rfl)
theorem dX4_learns_259 : decode cX4_learns 259 = .ok (.lastore, 1) := dk_80 (dk_at dksX4_learns_10 23 rfl rfl)
theorem dX4_learns_260 : decode cX4_learns 260 = .ok (.iinc 1 1, 3) := dk_132 1 1 (dk_at dksX4_learns_11 0 rfl rfl)
theorem dX4_learns_263 : decode cX4_learns 263 = .ok (.goto (-22), 3) := dk_167 255 234 (dk_at dksX4_learns_11 3 rfl rfl)
theorem dX4_learns_266 : decode cX4_learns 266 = .ok (.iconst 0, 1) := dk_3 (dk_at dksX4_learns_11 6 rfl rfl)
theorem dX4_learns_267 : decode cX4_learns 267 = .ok (.istore_n 1, 1) := dk_60 (dk_at dksX4_learns_11 7 rfl rfl)
theorem dX4_learns_268 : decode cX4_learns 268 = .ok (.iload_n 1, 1) := dk_27 (dk_at dksX4_learns_11 8 rfl rfl)
theorem dX4_learns_269 : decode cX4_learns 269 = .ok (.aload_n 0, 1) := dk_42 (dk_at dksX4_learns_11 9 rfl rfl)
theorem dX4_learns_270 : decode cX4_learns 270 = .ok (.getfield 62, 3) := dk_180 0 62 (dk_at dksX4_learns_11 10 rfl rfl)
theorem dX4_learns_273 : decode cX4_learns 273 = .ok (.if_icmp .ge 34, 3) := dk_162 0 34 (dk_at dksX4_learns_11 13 rfl rfl)
theorem dX4_learns_276 : decode cX4_learns 276 = .ok (.aload_n 0, 1) := dk_42 (dk_at dksX4_learns_11 16 rfl rfl)
theorem dX4_learns_277 : decode cX4_learns 277 = .ok (.getfield 11, 3) := dk_180 0 11 (dk_at dksX4_learns_11 17 rfl rfl)
theorem dX4_learns_280 : decode cX4_learns 280 = .ok (.iload_n 1, 1) := dk_27 (dk_at dksX4_learns_11 20 rfl rfl)
theorem dX4_learns_281 : decode cX4_learns 281 = .ok (.aaload, 1) := dk_50 (dk_at dksX4_learns_11 21 rfl rfl)
theorem dX4_learns_282 : decode cX4_learns 282 = .ok (.invokevirtual 97, 3) := dk_182 0 97 (dk_at dksX4_learns_12 0 rfl rfl)
theorem dX4_learns_285 : decode cX4_learns 285 = .ok (.bipush 7, 2) := dk_16 7 (dk_at dksX4_learns_12 3 rfl rfl)
theorem dX4_learns_287 : decode cX4_learns 287 = .ok (.if_icmp .ne 14, 3) := dk_160 0 14 (dk_at dksX4_learns_12 5 rfl rfl)
theorem dX4_learns_290 : decode cX4_learns 290 = .ok (.aload_n 0, 1) := dk_42 (dk_at dksX4_learns_12 8 rfl rfl)
theorem dX4_learns_291 : decode cX4_learns 291 = .ok (.getfield 50, 3) := dk_180 0 50 (dk_at dksX4_learns_12 9 rfl rfl)
theorem dX4_learns_294 : decode cX4_learns 294 = .ok (.iload_n 1, 1) := dk_27 (dk_at dksX4_learns_12 12 rfl rfl)
theorem dX4_learns_295 : decode cX4_learns 295 = .ok (.aload_n 0, 1) := dk_42 (dk_at dksX4_learns_12 13 rfl rfl)
theorem dX4_learns_296 : decode cX4_learns 296 = .ok (.iload_n 1, 1) := dk_27 (dk_at dksX4_learns_12 14 rfl rfl)
theorem dX4_learns_297 : decode cX4_learns 297 = .ok (.invokevirtual 116, 3) := dk_182 0 116 (dk_at dksX4_learns_12 15 rfl rfl)
theorem dX4_learns_300 : decode cX4_learns 300 = .ok (.lastore, 1) := dk_80 (dk_at dksX4_learns_12 18 rfl rfl)
theorem dX4_learns_301 : decode cX4_learns 301 = .ok (.iinc 1 1, 3) := dk_132 1 1 (dk_at dksX4_learns_12 19 rfl rfl)
theorem dX4_learns_304 : decode cX4_learns 304 = .ok (.goto (-36), 3) := dk_167 255 220 (dk_at dksX4_learns_13 0 rfl rfl)
theorem dX4_learns_307 : decode cX4_learns 307 = .ok (.return_, 1) := dk_177 (dk_at dksX4_learns_13 3 rfl rfl)
def dkwX4_cells_3 : List UInt8 := [167, 255, 222, 167, 255, 211, 177]
abbrev dktX4_cells_3 : List UInt8 := dkwX4_cells_3 ++ []
def dkwX4_cells_2 : List UInt8 := [180, 0, 11, 28, 50, 182, 0, 119, 154, 0, 7, 27, 153, 0, 7, 4, 167, 0, 4, 3, 60, 132, 2, 1]
abbrev dktX4_cells_2 : List UInt8 := dkwX4_cells_2 ++ dktX4_cells_3
def dkwX4_cells_1 : List UInt8 := [167, 255, 240, 4, 60, 27, 153, 0, 47, 3, 60, 3, 61, 28, 42, 180, 0, 62, 162, 0, 32, 42, 42]
abbrev dktX4_cells_1 : List UInt8 := dkwX4_cells_1 ++ dktX4_cells_2
def dkwX4_cells_0 : List UInt8 := [42, 3, 181, 0, 110, 3, 60, 27, 16, 16, 162, 0, 16, 42, 180, 0, 43, 27, 9, 80, 132, 1, 1]
abbrev dktX4_cells_0 : List UInt8 := dkwX4_cells_0 ++ dktX4_cells_1
theorem dksX4_cells_0 : cX4_cells.data.toList.drop 0 = dktX4_cells_0 := by decide +kernel
theorem dksX4_cells_1 : cX4_cells.data.toList.drop 23 = dktX4_cells_1 := dk_seg dksX4_cells_0 23 rfl rfl
theorem dksX4_cells_2 : cX4_cells.data.toList.drop 46 = dktX4_cells_2 := dk_seg dksX4_cells_1 23 rfl rfl
theorem dksX4_cells_3 : cX4_cells.data.toList.drop 70 = dktX4_cells_3 := dk_seg dksX4_cells_2 24 rfl rfl
theorem dX4_cells_0 : decode cX4_cells 0 = .ok (.aload_n 0, 1) := dk_42 (dk_at dksX4_cells_0 0 rfl rfl)
theorem dX4_cells_1 : decode cX4_cells 1 = .ok (.iconst 0, 1) := dk_3 (dk_at dksX4_cells_0 1 rfl rfl)
theorem dX4_cells_2 : decode cX4_cells 2 = .ok (.putfield 110, 3) := dk_181 0 110 (dk_at dksX4_cells_0 2 rfl rfl)
theorem dX4_cells_5 : decode cX4_cells 5 = .ok (.iconst 0, 1) := dk_3 (dk_at dksX4_cells_0 5 rfl rfl)
theorem dX4_cells_6 : decode cX4_cells 6 = .ok (.istore_n 1, 1) := dk_60 (dk_at dksX4_cells_0 6 rfl rfl)
theorem dX4_cells_7 : decode cX4_cells 7 = .ok (.iload_n 1, 1) := dk_27 (dk_at dksX4_cells_0 7 rfl rfl)
theorem dX4_cells_8 : decode cX4_cells 8 = .ok (.bipush 16, 2) := dk_16 16 (dk_at dksX4_cells_0 8 rfl rfl)
theorem dX4_cells_10 : decode cX4_cells 10 = .ok (.if_icmp .ge 16, 3) := dk_162 0 16 (dk_at dksX4_cells_0 10 rfl rfl)
theorem dX4_cells_13 : decode cX4_cells 13 = .ok (.aload_n 0, 1) := dk_42 (dk_at dksX4_cells_0 13 rfl rfl)
theorem dX4_cells_14 : decode cX4_cells 14 = .ok (.getfield 43, 3) := dk_180 0 43 (dk_at dksX4_cells_0 14 rfl rfl)
theorem dX4_cells_17 : decode cX4_cells 17 = .ok (.iload_n 1, 1) := dk_27 (dk_at dksX4_cells_0 17 rfl rfl)
theorem dX4_cells_18 : decode cX4_cells 18 = .ok (.lconst 0, 1) := dk_9 (dk_at dksX4_cells_0 18 rfl rfl)
theorem dX4_cells_19 : decode cX4_cells 19 = .ok (.lastore, 1) := dk_80 (dk_at dksX4_cells_0 19 rfl rfl)
theorem dX4_cells_20 : decode cX4_cells 20 = .ok (.iinc 1 1, 3) := dk_132 1 1 (dk_at dksX4_cells_0 20 rfl rfl)
theorem dX4_cells_23 : decode cX4_cells 23 = .ok (.goto (-16), 3) := dk_167 255 240 (dk_at dksX4_cells_1 0 rfl rfl)
theorem dX4_cells_26 : decode cX4_cells 26 = .ok (.iconst 1, 1) := dk_4 (dk_at dksX4_cells_1 3 rfl rfl)
theorem dX4_cells_27 : decode cX4_cells 27 = .ok (.istore_n 1, 1) := dk_60 (dk_at dksX4_cells_1 4 rfl rfl)
theorem dX4_cells_28 : decode cX4_cells 28 = .ok (.iload_n 1, 1) := dk_27 (dk_at dksX4_cells_1 5 rfl rfl)
theorem dX4_cells_29 : decode cX4_cells 29 = .ok (.ifCond .eq 47, 3) := dk_153 0 47 (dk_at dksX4_cells_1 6 rfl rfl)
theorem dX4_cells_32 : decode cX4_cells 32 = .ok (.iconst 0, 1) := dk_3 (dk_at dksX4_cells_1 9 rfl rfl)
theorem dX4_cells_33 : decode cX4_cells 33 = .ok (.istore_n 1, 1) := dk_60 (dk_at dksX4_cells_1 10 rfl rfl)
theorem dX4_cells_34 : decode cX4_cells 34 = .ok (.iconst 0, 1) := dk_3 (dk_at dksX4_cells_1 11 rfl rfl)
theorem dX4_cells_35 : decode cX4_cells 35 = .ok (.istore_n 2, 1) := dk_61 (dk_at dksX4_cells_1 12 rfl rfl)
theorem dX4_cells_36 : decode cX4_cells 36 = .ok (.iload_n 2, 1) := dk_28 (dk_at dksX4_cells_1 13 rfl rfl)
theorem dX4_cells_37 : decode cX4_cells 37 = .ok (.aload_n 0, 1) := dk_42 (dk_at dksX4_cells_1 14 rfl rfl)
theorem dX4_cells_38 : decode cX4_cells 38 = .ok (.getfield 62, 3) := dk_180 0 62 (dk_at dksX4_cells_1 15 rfl rfl)
theorem dX4_cells_41 : decode cX4_cells 41 = .ok (.if_icmp .ge 32, 3) := dk_162 0 32 (dk_at dksX4_cells_1 18 rfl rfl)
theorem dX4_cells_44 : decode cX4_cells 44 = .ok (.aload_n 0, 1) := dk_42 (dk_at dksX4_cells_1 21 rfl rfl)
theorem dX4_cells_45 : decode cX4_cells 45 = .ok (.aload_n 0, 1) := dk_42 (dk_at dksX4_cells_1 22 rfl rfl)
theorem dX4_cells_46 : decode cX4_cells 46 = .ok (.getfield 11, 3) := dk_180 0 11 (dk_at dksX4_cells_2 0 rfl rfl)
theorem dX4_cells_49 : decode cX4_cells 49 = .ok (.iload_n 2, 1) := dk_28 (dk_at dksX4_cells_2 3 rfl rfl)
theorem dX4_cells_50 : decode cX4_cells 50 = .ok (.aaload, 1) := dk_50 (dk_at dksX4_cells_2 4 rfl rfl)
theorem dX4_cells_51 : decode cX4_cells 51 = .ok (.invokevirtual 119, 3) := dk_182 0 119 (dk_at dksX4_cells_2 5 rfl rfl)
theorem dX4_cells_54 : decode cX4_cells 54 = .ok (.ifCond .ne 7, 3) := dk_154 0 7 (dk_at dksX4_cells_2 8 rfl rfl)
theorem dX4_cells_57 : decode cX4_cells 57 = .ok (.iload_n 1, 1) := dk_27 (dk_at dksX4_cells_2 11 rfl rfl)
theorem dX4_cells_58 : decode cX4_cells 58 = .ok (.ifCond .eq 7, 3) := dk_153 0 7 (dk_at dksX4_cells_2 12 rfl rfl)
theorem dX4_cells_61 : decode cX4_cells 61 = .ok (.iconst 1, 1) := dk_4 (dk_at dksX4_cells_2 15 rfl rfl)
theorem dX4_cells_62 : decode cX4_cells 62 = .ok (.goto 4, 3) := dk_167 0 4 (dk_at dksX4_cells_2 16 rfl rfl)
theorem dX4_cells_65 : decode cX4_cells 65 = .ok (.iconst 0, 1) := dk_3 (dk_at dksX4_cells_2 19 rfl rfl)
theorem dX4_cells_66 : decode cX4_cells 66 = .ok (.istore_n 1, 1) := dk_60 (dk_at dksX4_cells_2 20 rfl rfl)
theorem dX4_cells_67 : decode cX4_cells 67 = .ok (.iinc 2 1, 3) := dk_132 2 1 (dk_at dksX4_cells_2 21 rfl rfl)
theorem dX4_cells_70 : decode cX4_cells 70 = .ok (.goto (-34), 3) := dk_167 255 222 (dk_at dksX4_cells_3 0 rfl rfl)
theorem dX4_cells_73 : decode cX4_cells 73 = .ok (.goto (-45), 3) := dk_167 255 211 (dk_at dksX4_cells_3 3 rfl rfl)
theorem dX4_cells_76 : decode cX4_cells 76 = .ok (.return_, 1) := dk_177 (dk_at dksX4_cells_3 6 rfl rfl)
def dkwX4_moves_8 : List UInt8 := [167, 0, 4, 3, 172]
abbrev dktX4_moves_8 : List UInt8 := dkwX4_moves_8 ++ []
def dkwX4_moves_7 : List UInt8 := [42, 180, 0, 43, 44, 180, 0, 133, 47, 148, 154, 0, 12, 21, 5, 42, 180, 0, 110, 159, 0, 7, 4]
abbrev dktX4_moves_7 : List UInt8 := dkwX4_moves_7 ++ dktX4_moves_8
def dkwX4_moves_6 : List UInt8 := [180, 0, 110, 42, 180, 0, 110, 44, 182, 0, 134, 122, 4, 126, 44, 180, 0, 133, 120, 128, 181, 0, 110, 33]
abbrev dktX4_moves_6 : List UInt8 := dkwX4_moves_6 ++ dktX4_moves_7
def dkwX4_moves_5 : List UInt8 := [180, 0, 43, 44, 180, 0, 133, 92, 47, 42, 180, 0, 43, 44, 182, 0, 134, 47, 129, 80, 42, 89]
abbrev dktX4_moves_5 : List UInt8 := dkwX4_moves_5 ++ dktX4_moves_6
def dkwX4_moves_4 : List UInt8 := [2, 160, 0, 21, 42, 89, 180, 0, 110, 4, 44, 180, 0, 133, 120, 128, 181, 0, 110, 167, 0, 49, 42]
abbrev dktX4_moves_4 : List UInt8 := dkwX4_moves_4 ++ dktX4_moves_5
def dkwX4_moves_3 : List UInt8 := [192, 0, 131, 77, 42, 180, 0, 43, 44, 180, 0, 133, 47, 66, 42, 180, 0, 110, 54, 5, 44, 182, 0, 134]
abbrev dktX4_moves_3 : List UInt8 := dkwX4_moves_3 ++ dktX4_moves_4
def dkwX4_moves_2 : List UInt8 := [180, 0, 125, 47, 148, 153, 0, 7, 4, 167, 0, 4, 3, 172, 43, 182, 0, 97, 153, 0, 5, 3, 172, 43]
abbrev dktX4_moves_2 : List UInt8 := dkwX4_moves_2 ++ dktX4_moves_3
def dkwX4_moves_1 : List UInt8 := [180, 0, 43, 44, 180, 0, 125, 92, 47, 44, 180, 0, 128, 184, 0, 89, 129, 80, 33, 42, 180, 0, 43, 44]
abbrev dktX4_moves_1 : List UInt8 := dkwX4_moves_1 ++ dktX4_moves_2
def dkwX4_moves_0 : List UInt8 := [43, 182, 0, 97, 4, 160, 0, 57, 43, 192, 0, 123, 77, 42, 180, 0, 43, 44, 180, 0, 125, 47, 66, 42]
abbrev dktX4_moves_0 : List UInt8 := dkwX4_moves_0 ++ dktX4_moves_1
theorem dksX4_moves_0 : cX4_moves.data.toList.drop 0 = dktX4_moves_0 := by decide +kernel
theorem dksX4_moves_1 : cX4_moves.data.toList.drop 24 = dktX4_moves_1 := dk_seg dksX4_moves_0 24 rfl rfl
theorem dksX4_moves_2 : cX4_moves.data.toList.drop 48 = dktX4_moves_2 := dk_seg dksX4_moves_1 24 rfl rfl
theorem dksX4_moves_3 : cX4_moves.data.toList.drop 72 = dktX4_moves_3 := dk_seg dksX4_moves_2 24 rfl rfl
theorem dksX4_moves_4 : cX4_moves.data.toList.drop 96 = dktX4_moves_4 := dk_seg dksX4_moves_3 24 rfl rfl
theorem dksX4_moves_5 : cX4_moves.data.toList.drop 119 = dktX4_moves_5 := dk_seg dksX4_moves_4 23 rfl rfl
theorem dksX4_moves_6 : cX4_moves.data.toList.drop 141 = dktX4_moves_6 := dk_seg dksX4_moves_5 22 rfl rfl
theorem dksX4_moves_7 : cX4_moves.data.toList.drop 165 = dktX4_moves_7 := dk_seg dksX4_moves_6 24 rfl rfl
theorem dksX4_moves_8 : cX4_moves.data.toList.drop 188 = dktX4_moves_8 := dk_seg dksX4_moves_7 23 rfl rfl
theorem dX4_moves_0 : decode cX4_moves 0 = .ok (.aload_n 1, 1) := dk_43 (dk_at dksX4_moves_0 0 rfl rfl)
theorem dX4_moves_1 : decode cX4_moves 1 = .ok (.invokevirtual 97, 3) := dk_182 0 97 (dk_at dksX4_moves_0 1 rfl rfl)
theorem dX4_moves_4 : decode cX4_moves 4 = .ok (.iconst 1, 1) := dk_4 (dk_at dksX4_moves_0 4 rfl rfl)
theorem dX4_moves_5 : decode cX4_moves 5 = .ok (.if_icmp .ne 57, 3) := dk_160 0 57 (dk_at dksX4_moves_0 5 rfl rfl)
theorem dX4_moves_8 : decode cX4_moves 8 = .ok (.aload_n 1, 1) := dk_43 (dk_at dksX4_moves_0 8 rfl rfl)
theorem dX4_moves_9 : decode cX4_moves 9 = .ok (.checkcast 123, 3) := dk_192 0 123 (dk_at dksX4_moves_0 9 rfl rfl)
theorem dX4_moves_12 : decode cX4_moves 12 = .ok (.astore_n 2, 1) := dk_77 (dk_at dksX4_moves_0 12 rfl rfl)
theorem dX4_moves_13 : decode cX4_moves 13 = .ok (.aload_n 0, 1) := dk_42 (dk_at dksX4_moves_0 13 rfl rfl)
theorem dX4_moves_14 : decode cX4_moves 14 = .ok (.getfield 43, 3) := dk_180 0 43 (dk_at dksX4_moves_0 14 rfl rfl)
theorem dX4_moves_17 : decode cX4_moves 17 = .ok (.aload_n 2, 1) := dk_44 (dk_at dksX4_moves_0 17 rfl rfl)
theorem dX4_moves_18 : decode cX4_moves 18 = .ok (.getfield 125, 3) := dk_180 0 125 (dk_at dksX4_moves_0 18 rfl rfl)
theorem dX4_moves_21 : decode cX4_moves 21 = .ok (.laload, 1) := dk_47 (dk_at dksX4_moves_0 21 rfl rfl)
theorem dX4_moves_22 : decode cX4_moves 22 = .ok (.lstore_n 3, 1) := dk_66 (dk_at dksX4_moves_0 22 rfl rfl)
theorem dX4_moves_23 : decode cX4_moves 23 = .ok (.aload_n 0, 1) := dk_42 (dk_at dksX4_moves_0 23 rfl rfl)
theorem dX4_moves_24 : decode cX4_moves 24 = .ok (.getfield 43, 3) := dk_180 0 43 (dk_at dksX4_moves_1 0 rfl rfl)
theorem dX4_moves_27 : decode cX4_moves 27 = .ok (.aload_n 2, 1) := dk_44 (dk_at dksX4_moves_1 3 rfl rfl)
theorem dX4_moves_28 : decode cX4_moves 28 = .ok (.getfield 125, 3) := dk_180 0 125 (dk_at dksX4_moves_1 4 rfl rfl)
theorem dX4_moves_31 : decode cX4_moves 31 = .ok (.dup2, 1) := dk_92 (dk_at dksX4_moves_1 7 rfl rfl)
theorem dX4_moves_32 : decode cX4_moves 32 = .ok (.laload, 1) := dk_47 (dk_at dksX4_moves_1 8 rfl rfl)
theorem dX4_moves_33 : decode cX4_moves 33 = .ok (.aload_n 2, 1) := dk_44 (dk_at dksX4_moves_1 9 rfl rfl)
theorem dX4_moves_34 : decode cX4_moves 34 = .ok (.getfield 128, 3) := dk_180 0 128 (dk_at dksX4_moves_1 10 rfl rfl)
theorem dX4_moves_37 : decode cX4_moves 37 = .ok (.invokestatic 89, 3) := dk_184 0 89 (dk_at dksX4_moves_1 13 rfl rfl)
theorem dX4_moves_40 : decode cX4_moves 40 = .ok (.lor, 1) := dk_129 (dk_at dksX4_moves_1 16 rfl rfl)
theorem dX4_moves_41 : decode cX4_moves 41 = .ok (.lastore, 1) := dk_80 (dk_at dksX4_moves_1 17 rfl rfl)
theorem dX4_moves_42 : decode cX4_moves 42 = .ok (.lload_n 3, 1) := dk_33 (dk_at dksX4_moves_1 18 rfl rfl)
theorem dX4_moves_43 : decode cX4_moves 43 = .ok (.aload_n 0, 1) := dk_42 (dk_at dksX4_moves_1 19 rfl rfl)
theorem dX4_moves_44 : decode cX4_moves 44 = .ok (.getfield 43, 3) := dk_180 0 43 (dk_at dksX4_moves_1 20 rfl rfl)
theorem dX4_moves_47 : decode cX4_moves 47 = .ok (.aload_n 2, 1) := dk_44 (dk_at dksX4_moves_1 23 rfl rfl)
theorem dX4_moves_48 : decode cX4_moves 48 = .ok (.getfield 125, 3) := dk_180 0 125 (dk_at dksX4_moves_2 0 rfl rfl)
theorem dX4_moves_51 : decode cX4_moves 51 = .ok (.laload, 1) := dk_47 (dk_at dksX4_moves_2 3 rfl rfl)
theorem dX4_moves_52 : decode cX4_moves 52 = .ok (.lcmp, 1) := dk_148 (dk_at dksX4_moves_2 4 rfl rfl)
theorem dX4_moves_53 : decode cX4_moves 53 = .ok (.ifCond .eq 7, 3) := dk_153 0 7 (dk_at dksX4_moves_2 5 rfl rfl)
theorem dX4_moves_56 : decode cX4_moves 56 = .ok (.iconst 1, 1) := dk_4 (dk_at dksX4_moves_2 8 rfl rfl)
theorem dX4_moves_57 : decode cX4_moves 57 = .ok (.goto 4, 3) := dk_167 0 4 (dk_at dksX4_moves_2 9 rfl rfl)
theorem dX4_moves_60 : decode cX4_moves 60 = .ok (.iconst 0, 1) := dk_3 (dk_at dksX4_moves_2 12 rfl rfl)
theorem dX4_moves_61 : decode cX4_moves 61 = .ok (.ireturn, 1) := dk_172 (dk_at dksX4_moves_2 13 rfl rfl)
theorem dX4_moves_62 : decode cX4_moves 62 = .ok (.aload_n 1, 1) := dk_43 (dk_at dksX4_moves_2 14 rfl rfl)
theorem dX4_moves_63 : decode cX4_moves 63 = .ok (.invokevirtual 97, 3) := dk_182 0 97 (dk_at dksX4_moves_2 15 rfl rfl)
theorem dX4_moves_66 : decode cX4_moves 66 = .ok (.ifCond .eq 5, 3) := dk_153 0 5 (dk_at dksX4_moves_2 18 rfl rfl)
theorem dX4_moves_69 : decode cX4_moves 69 = .ok (.iconst 0, 1) := dk_3 (dk_at dksX4_moves_2 21 rfl rfl)
theorem dX4_moves_70 : decode cX4_moves 70 = .ok (.ireturn, 1) := dk_172 (dk_at dksX4_moves_2 22 rfl rfl)
theorem dX4_moves_71 : decode cX4_moves 71 = .ok (.aload_n 1, 1) := dk_43 (dk_at dksX4_moves_2 23 rfl rfl)
theorem dX4_moves_72 : decode cX4_moves 72 = .ok (.checkcast 131, 3) := dk_192 0 131 (dk_at dksX4_moves_3 0 rfl rfl)
theorem dX4_moves_75 : decode cX4_moves 75 = .ok (.astore_n 2, 1) := dk_77 (dk_at dksX4_moves_3 3 rfl rfl)
theorem dX4_moves_76 : decode cX4_moves 76 = .ok (.aload_n 0, 1) := dk_42 (dk_at dksX4_moves_3 4 rfl rfl)
theorem dX4_moves_77 : decode cX4_moves 77 = .ok (.getfield 43, 3) := dk_180 0 43 (dk_at dksX4_moves_3 5 rfl rfl)
theorem dX4_moves_80 : decode cX4_moves 80 = .ok (.aload_n 2, 1) := dk_44 (dk_at dksX4_moves_3 8 rfl rfl)
theorem dX4_moves_81 : decode cX4_moves 81 = .ok (.getfield 133, 3) := dk_180 0 133 (dk_at dksX4_moves_3 9 rfl rfl)
theorem dX4_moves_84 : decode cX4_moves 84 = .ok (.laload, 1) := dk_47 (dk_at dksX4_moves_3 12 rfl rfl)
theorem dX4_moves_85 : decode cX4_moves 85 = .ok (.lstore_n 3, 1) := dk_66 (dk_at dksX4_moves_3 13 rfl rfl)
theorem dX4_moves_86 : decode cX4_moves 86 = .ok (.aload_n 0, 1) := dk_42 (dk_at dksX4_moves_3 14 rfl rfl)
theorem dX4_moves_87 : decode cX4_moves 87 = .ok (.getfield 110, 3) := dk_180 0 110 (dk_at dksX4_moves_3 15 rfl rfl)
theorem dX4_moves_90 : decode cX4_moves 90 = .ok (.istore 5, 2) := dk_54 5 (dk_at dksX4_moves_3 18 rfl rfl)
theorem dX4_moves_92 : decode cX4_moves 92 = .ok (.aload_n 2, 1) := dk_44 (dk_at dksX4_moves_3 20 rfl rfl)
theorem dX4_moves_93 : decode cX4_moves 93 = .ok (.invokevirtual 134, 3) := dk_182 0 134 (dk_at dksX4_moves_3 21 rfl rfl)
theorem dX4_moves_96 : decode cX4_moves 96 = .ok (.iconst (-1), 1) := dk_2 (dk_at dksX4_moves_4 0 rfl rfl)
theorem dX4_moves_97 : decode cX4_moves 97 = .ok (.if_icmp .ne 21, 3) := dk_160 0 21 (dk_at dksX4_moves_4 1 rfl rfl)
theorem dX4_moves_100 : decode cX4_moves 100 = .ok (.aload_n 0, 1) := dk_42 (dk_at dksX4_moves_4 4 rfl rfl)
theorem dX4_moves_101 : decode cX4_moves 101 = .ok (.dup, 1) := dk_89 (dk_at dksX4_moves_4 5 rfl rfl)
theorem dX4_moves_102 : decode cX4_moves 102 = .ok (.getfield 110, 3) := dk_180 0 110 (dk_at dksX4_moves_4 6 rfl rfl)
theorem dX4_moves_105 : decode cX4_moves 105 = .ok (.iconst 1, 1) := dk_4 (dk_at dksX4_moves_4 9 rfl rfl)
theorem dX4_moves_106 : decode cX4_moves 106 = .ok (.aload_n 2, 1) := dk_44 (dk_at dksX4_moves_4 10 rfl rfl)
theorem dX4_moves_107 : decode cX4_moves 107 = .ok (.getfield 133, 3) := dk_180 0 133 (dk_at dksX4_moves_4 11 rfl rfl)
theorem dX4_moves_110 : decode cX4_moves 110 = .ok (.ishl, 1) := dk_120 (dk_at dksX4_moves_4 14 rfl rfl)
theorem dX4_moves_111 : decode cX4_moves 111 = .ok (.ior, 1) := dk_128 (dk_at dksX4_moves_4 15 rfl rfl)
theorem dX4_moves_112 : decode cX4_moves 112 = .ok (.putfield 110, 3) := dk_181 0 110 (dk_at dksX4_moves_4 16 rfl rfl)
theorem dX4_moves_115 : decode cX4_moves 115 = .ok (.goto 49, 3) := dk_167 0 49 (dk_at dksX4_moves_4 19 rfl rfl)
theorem dX4_moves_118 : decode cX4_moves 118 = .ok (.aload_n 0, 1) := dk_42 (dk_at dksX4_moves_4 22 rfl rfl)
theorem dX4_moves_119 : decode cX4_moves 119 = .ok (.getfield 43, 3) := dk_180 0 43 (dk_at dksX4_moves_5 0 rfl rfl)
theorem dX4_moves_122 : decode cX4_moves 122 = .ok (.aload_n 2, 1) := dk_44 (dk_at dksX4_moves_5 3 rfl rfl)
theorem dX4_moves_123 : decode cX4_moves 123 = .ok (.getfield 133, 3) := dk_180 0 133 (dk_at dksX4_moves_5 4 rfl rfl)
theorem dX4_moves_126 : decode cX4_moves 126 = .ok (.dup2, 1) := dk_92 (dk_at dksX4_moves_5 7 rfl rfl)
theorem dX4_moves_127 : decode cX4_moves 127 = .ok (.laload, 1) := dk_47 (dk_at dksX4_moves_5 8 rfl rfl)
theorem dX4_moves_128 : decode cX4_moves 128 = .ok (.aload_n 0, 1) := dk_42 (dk_at dksX4_moves_5 9 rfl rfl)
theorem dX4_moves_129 : decode cX4_moves 129 = .ok (.getfield 43, 3) := dk_180 0 43 (dk_at dksX4_moves_5 10 rfl rfl)
theorem dX4_moves_132 : decode cX4_moves 132 = .ok (.aload_n 2, 1) := dk_44 (dk_at dksX4_moves_5 13 rfl rfl)
theorem dX4_moves_133 : decode cX4_moves 133 = .ok (.invokevirtual 134, 3) := dk_182 0 134 (dk_at dksX4_moves_5 14 rfl rfl)
theorem dX4_moves_136 : decode cX4_moves 136 = .ok (.laload, 1) := dk_47 (dk_at dksX4_moves_5 17 rfl rfl)
theorem dX4_moves_137 : decode cX4_moves 137 = .ok (.lor, 1) := dk_129 (dk_at dksX4_moves_5 18 rfl rfl)
theorem dX4_moves_138 : decode cX4_moves 138 = .ok (.lastore, 1) := dk_80 (dk_at dksX4_moves_5 19 rfl rfl)
theorem dX4_moves_139 : decode cX4_moves 139 = .ok (.aload_n 0, 1) := dk_42 (dk_at dksX4_moves_5 20 rfl rfl)
theorem dX4_moves_140 : decode cX4_moves 140 = .ok (.dup, 1) := dk_89 (dk_at dksX4_moves_5 21 rfl rfl)
theorem dX4_moves_141 : decode cX4_moves 141 = .ok (.getfield 110, 3) := dk_180 0 110 (dk_at dksX4_moves_6 0 rfl rfl)
theorem dX4_moves_144 : decode cX4_moves 144 = .ok (.aload_n 0, 1) := dk_42 (dk_at dksX4_moves_6 3 rfl rfl)
theorem dX4_moves_145 : decode cX4_moves 145 = .ok (.getfield 110, 3) := dk_180 0 110 (dk_at dksX4_moves_6 4 rfl rfl)
theorem dX4_moves_148 : decode cX4_moves 148 = .ok (.aload_n 2, 1) := dk_44 (dk_at dksX4_moves_6 7 rfl rfl)
theorem dX4_moves_149 : decode cX4_moves 149 = .ok (.invokevirtual 134, 3) := dk_182 0 134 (dk_at dksX4_moves_6 8 rfl rfl)
theorem dX4_moves_152 : decode cX4_moves 152 = .ok (.ishr, 1) := dk_122 (dk_at dksX4_moves_6 11 rfl rfl)
theorem dX4_moves_153 : decode cX4_moves 153 = .ok (.iconst 1, 1) := dk_4 (dk_at dksX4_moves_6 12 rfl rfl)
theorem dX4_moves_154 : decode cX4_moves 154 = .ok (.iand, 1) := dk_126 (dk_at dksX4_moves_6 13 rfl rfl)
theorem dX4_moves_155 : decode cX4_moves 155 = .ok (.aload_n 2, 1) := dk_44 (dk_at dksX4_moves_6 14 rfl rfl)
theorem dX4_moves_156 : decode cX4_moves 156 = .ok (.getfield 133, 3) := dk_180 0 133 (dk_at dksX4_moves_6 15 rfl rfl)
theorem dX4_moves_159 : decode cX4_moves 159 = .ok (.ishl, 1) := dk_120 (dk_at dksX4_moves_6 18 rfl rfl)
theorem dX4_moves_160 : decode cX4_moves 160 = .ok (.ior, 1) := dk_128 (dk_at dksX4_moves_6 19 rfl rfl)
theorem dX4_moves_161 : decode cX4_moves 161 = .ok (.putfield 110, 3) := dk_181 0 110 (dk_at dksX4_moves_6 20 rfl rfl)
theorem dX4_moves_164 : decode cX4_moves 164 = .ok (.lload_n 3, 1) := dk_33 (dk_at dksX4_moves_6 23 rfl rfl)
theorem dX4_moves_165 : decode cX4_moves 165 = .ok (.aload_n 0, 1) := dk_42 (dk_at dksX4_moves_7 0 rfl rfl)
theorem dX4_moves_166 : decode cX4_moves 166 = .ok (.getfield 43, 3) := dk_180 0 43 (dk_at dksX4_moves_7 1 rfl rfl)
theorem dX4_moves_169 : decode cX4_moves 169 = .ok (.aload_n 2, 1) := dk_44 (dk_at dksX4_moves_7 4 rfl rfl)
theorem dX4_moves_170 : decode cX4_moves 170 = .ok (.getfield 133, 3) := dk_180 0 133 (dk_at dksX4_moves_7 5 rfl rfl)
theorem dX4_moves_173 : decode cX4_moves 173 = .ok (.laload, 1) := dk_47 (dk_at dksX4_moves_7 8 rfl rfl)
theorem dX4_moves_174 : decode cX4_moves 174 = .ok (.lcmp, 1) := dk_148 (dk_at dksX4_moves_7 9 rfl rfl)
theorem dX4_moves_175 : decode cX4_moves 175 = .ok (.ifCond .ne 12, 3) := dk_154 0 12 (dk_at dksX4_moves_7 10 rfl rfl)
theorem dX4_moves_178 : decode cX4_moves 178 = .ok (.iload 5, 2) := dk_21 5 (dk_at dksX4_moves_7 13 rfl rfl)
theorem dX4_moves_180 : decode cX4_moves 180 = .ok (.aload_n 0, 1) := dk_42 (dk_at dksX4_moves_7 15 rfl rfl)
theorem dX4_moves_181 : decode cX4_moves 181 = .ok (.getfield 110, 3) := dk_180 0 110 (dk_at dksX4_moves_7 16 rfl rfl)
theorem dX4_moves_184 : decode cX4_moves 184 = .ok (.if_icmp .eq 7, 3) := dk_159 0 7 (dk_at dksX4_moves_7 19 rfl rfl)
theorem dX4_moves_187 : decode cX4_moves 187 = .ok (.iconst 1, 1) := dk_4 (dk_at dksX4_moves_7 22 rfl rfl)
theorem dX4_moves_188 : decode cX4_moves 188 = .ok (.goto 4, 3) := dk_167 0 4 (dk_at dksX4_moves_8 0 rfl rfl)
theorem dX4_moves_191 : decode cX4_moves 191 = .ok (.iconst 0, 1) := dk_3 (dk_at dksX4_moves_8 3 rfl rfl)
theorem dX4_moves_192 : decode cX4_moves 192 = .ok (.ireturn, 1) := dk_172 (dk_at dksX4_moves_8 4 rfl rfl)
def dkwX4_walks_3 : List UInt8 := [167, 255, 195, 32, 173]
abbrev dktX4_walks_3 : List UInt8 := dkwX4_walks_3 ++ []
def dkwX4_walks_2 : List UInt8 := [21, 6, 50, 42, 21, 6, 182, 0, 137, 42, 182, 0, 93, 127, 129, 65, 132, 6, 1, 167, 255, 211]
abbrev dktX4_walks_2 : List UInt8 := dkwX4_walks_2 ++ dktX4_walks_3
def dkwX4_walks_1 : List UInt8 := [180, 0, 62, 162, 0, 42, 22, 4, 21, 6, 123, 10, 127, 10, 148, 154, 0, 24, 32, 42, 180, 0, 11]
abbrev dktX4_walks_1 : List UInt8 := dkwX4_walks_1 ++ dktX4_walks_2
def dkwX4_walks_0 : List UInt8 := [27, 184, 0, 89, 65, 9, 55, 4, 32, 22, 4, 148, 153, 0, 60, 32, 55, 4, 3, 54, 6, 21, 6, 42]
abbrev dktX4_walks_0 : List UInt8 := dkwX4_walks_0 ++ dktX4_walks_1
theorem dksX4_walks_0 : cX4_walks.data.toList.drop 0 = dktX4_walks_0 := by decide +kernel
theorem dksX4_walks_1 : cX4_walks.data.toList.drop 24 = dktX4_walks_1 := dk_seg dksX4_walks_0 24 rfl rfl
theorem dksX4_walks_2 : cX4_walks.data.toList.drop 47 = dktX4_walks_2 := dk_seg dksX4_walks_1 23 rfl rfl
theorem dksX4_walks_3 : cX4_walks.data.toList.drop 69 = dktX4_walks_3 := dk_seg dksX4_walks_2 22 rfl rfl
theorem dX4_walks_0 : decode cX4_walks 0 = .ok (.iload_n 1, 1) := dk_27 (dk_at dksX4_walks_0 0 rfl rfl)
theorem dX4_walks_1 : decode cX4_walks 1 = .ok (.invokestatic 89, 3) := dk_184 0 89 (dk_at dksX4_walks_0 1 rfl rfl)
theorem dX4_walks_4 : decode cX4_walks 4 = .ok (.lstore_n 2, 1) := dk_65 (dk_at dksX4_walks_0 4 rfl rfl)
theorem dX4_walks_5 : decode cX4_walks 5 = .ok (.lconst 0, 1) := dk_9 (dk_at dksX4_walks_0 5 rfl rfl)
theorem dX4_walks_6 : decode cX4_walks 6 = .ok (.lstore 4, 2) := dk_55 4 (dk_at dksX4_walks_0 6 rfl rfl)
theorem dX4_walks_8 : decode cX4_walks 8 = .ok (.lload_n 2, 1) := dk_32 (dk_at dksX4_walks_0 8 rfl rfl)
theorem dX4_walks_9 : decode cX4_walks 9 = .ok (.lload 4, 2) := dk_22 4 (dk_at dksX4_walks_0 9 rfl rfl)
theorem dX4_walks_11 : decode cX4_walks 11 = .ok (.lcmp, 1) := dk_148 (dk_at dksX4_walks_0 11 rfl rfl)
theorem dX4_walks_12 : decode cX4_walks 12 = .ok (.ifCond .eq 60, 3) := dk_153 0 60 (dk_at dksX4_walks_0 12 rfl rfl)
theorem dX4_walks_15 : decode cX4_walks 15 = .ok (.lload_n 2, 1) := dk_32 (dk_at dksX4_walks_0 15 rfl rfl)
theorem dX4_walks_16 : decode cX4_walks 16 = .ok (.lstore 4, 2) := dk_55 4 (dk_at dksX4_walks_0 16 rfl rfl)
theorem dX4_walks_18 : decode cX4_walks 18 = .ok (.iconst 0, 1) := dk_3 (dk_at dksX4_walks_0 18 rfl rfl)
theorem dX4_walks_19 : decode cX4_walks 19 = .ok (.istore 6, 2) := dk_54 6 (dk_at dksX4_walks_0 19 rfl rfl)
theorem dX4_walks_21 : decode cX4_walks 21 = .ok (.iload 6, 2) := dk_21 6 (dk_at dksX4_walks_0 21 rfl rfl)
theorem dX4_walks_23 : decode cX4_walks 23 = .ok (.aload_n 0, 1) := dk_42 (dk_at dksX4_walks_0 23 rfl rfl)
theorem dX4_walks_24 : decode cX4_walks 24 = .ok (.getfield 62, 3) := dk_180 0 62 (dk_at dksX4_walks_1 0 rfl rfl)
theorem dX4_walks_27 : decode cX4_walks 27 = .ok (.if_icmp .ge 42, 3) := dk_162 0 42 (dk_at dksX4_walks_1 3 rfl rfl)
theorem dX4_walks_30 : decode cX4_walks 30 = .ok (.lload 4, 2) := dk_22 4 (dk_at dksX4_walks_1 6 rfl rfl)
theorem dX4_walks_32 : decode cX4_walks 32 = .ok (.iload 6, 2) := dk_21 6 (dk_at dksX4_walks_1 8 rfl rfl)
theorem dX4_walks_34 : decode cX4_walks 34 = .ok (.lshr, 1) := dk_123 (dk_at dksX4_walks_1 10 rfl rfl)
theorem dX4_walks_35 : decode cX4_walks 35 = .ok (.lconst 1, 1) := dk_10 (dk_at dksX4_walks_1 11 rfl rfl)
theorem dX4_walks_36 : decode cX4_walks 36 = .ok (.land, 1) := dk_127 (dk_at dksX4_walks_1 12 rfl rfl)
theorem dX4_walks_37 : decode cX4_walks 37 = .ok (.lconst 1, 1) := dk_10 (dk_at dksX4_walks_1 13 rfl rfl)
theorem dX4_walks_38 : decode cX4_walks 38 = .ok (.lcmp, 1) := dk_148 (dk_at dksX4_walks_1 14 rfl rfl)
theorem dX4_walks_39 : decode cX4_walks 39 = .ok (.ifCond .ne 24, 3) := dk_154 0 24 (dk_at dksX4_walks_1 15 rfl rfl)
theorem dX4_walks_42 : decode cX4_walks 42 = .ok (.lload_n 2, 1) := dk_32 (dk_at dksX4_walks_1 18 rfl rfl)
theorem dX4_walks_43 : decode cX4_walks 43 = .ok (.aload_n 0, 1) := dk_42 (dk_at dksX4_walks_1 19 rfl rfl)
theorem dX4_walks_44 : decode cX4_walks 44 = .ok (.getfield 11, 3) := dk_180 0 11 (dk_at dksX4_walks_1 20 rfl rfl)
theorem dX4_walks_47 : decode cX4_walks 47 = .ok (.iload 6, 2) := dk_21 6 (dk_at dksX4_walks_2 0 rfl rfl)
theorem dX4_walks_49 : decode cX4_walks 49 = .ok (.aaload, 1) := dk_50 (dk_at dksX4_walks_2 2 rfl rfl)
theorem dX4_walks_50 : decode cX4_walks 50 = .ok (.aload_n 0, 1) := dk_42 (dk_at dksX4_walks_2 3 rfl rfl)
theorem dX4_walks_51 : decode cX4_walks 51 = .ok (.iload 6, 2) := dk_21 6 (dk_at dksX4_walks_2 4 rfl rfl)
theorem dX4_walks_53 : decode cX4_walks 53 = .ok (.invokevirtual 137, 3) := dk_182 0 137 (dk_at dksX4_walks_2 6 rfl rfl)
theorem dX4_walks_56 : decode cX4_walks 56 = .ok (.aload_n 0, 1) := dk_42 (dk_at dksX4_walks_2 9 rfl rfl)
theorem dX4_walks_57 : decode cX4_walks 57 = .ok (.invokevirtual 93, 3) := dk_182 0 93 (dk_at dksX4_walks_2 10 rfl rfl)
theorem dX4_walks_60 : decode cX4_walks 60 = .ok (.land, 1) := dk_127 (dk_at dksX4_walks_2 13 rfl rfl)
theorem dX4_walks_61 : decode cX4_walks 61 = .ok (.lor, 1) := dk_129 (dk_at dksX4_walks_2 14 rfl rfl)
theorem dX4_walks_62 : decode cX4_walks 62 = .ok (.lstore_n 2, 1) := dk_65 (dk_at dksX4_walks_2 15 rfl rfl)
theorem dX4_walks_63 : decode cX4_walks 63 = .ok (.iinc 6 1, 3) := dk_132 6 1 (dk_at dksX4_walks_2 16 rfl rfl)
theorem dX4_walks_66 : decode cX4_walks 66 = .ok (.goto (-45), 3) := dk_167 255 211 (dk_at dksX4_walks_2 19 rfl rfl)
theorem dX4_walks_69 : decode cX4_walks 69 = .ok (.goto (-61), 3) := dk_167 255 195 (dk_at dksX4_walks_3 0 rfl rfl)
theorem dX4_walks_72 : decode cX4_walks 72 = .ok (.lload_n 2, 1) := dk_32 (dk_at dksX4_walks_3 3 rfl rfl)
theorem dX4_walks_73 : decode cX4_walks 73 = .ok (.lreturn, 1) := dk_173 (dk_at dksX4_walks_3 4 rfl rfl)
def dkwX4_backs_5 : List UInt8 := [4, 96, 184, 0, 89, 129, 65, 132, 7, 1, 167, 255, 206, 132, 4, 1, 167, 255, 126, 32, 173]
abbrev dktX4_backs_5 : List UInt8 := dkwX4_backs_5 ++ []
def dkwX4_backs_4 : List UInt8 := [10, 148, 154, 0, 29, 42, 180, 0, 53, 21, 7, 47, 27, 123, 10, 127, 10, 148, 154, 0, 13, 32, 21, 4]
abbrev dktX4_backs_4 : List UInt8 := dkwX4_backs_4 ++ dktX4_backs_5
def dkwX4_backs_3 : List UInt8 := [21, 4, 47, 55, 5, 3, 54, 7, 21, 7, 42, 180, 0, 62, 162, 0, 47, 22, 5, 21, 7, 123, 10, 127]
abbrev dktX4_backs_3 : List UInt8 := dkwX4_backs_3 ++ dktX4_backs_4
def dkwX4_backs_2 : List UInt8 := [180, 0, 11, 21, 4, 50, 182, 0, 141, 184, 0, 89, 42, 182, 0, 93, 127, 167, 0, 10, 42, 180, 0, 50]
abbrev dktX4_backs_2 : List UInt8 := dkwX4_backs_2 ++ dktX4_backs_3
def dkwX4_backs_1 : List UInt8 := [182, 0, 85, 154, 0, 6, 167, 0, 103, 42, 180, 0, 11, 21, 4, 50, 182, 0, 97, 8, 160, 0, 24, 42]
abbrev dktX4_backs_1 : List UInt8 := dkwX4_backs_1 ++ dktX4_backs_2
def dkwX4_backs_0 : List UInt8 := [9, 65, 3, 54, 4, 21, 4, 4, 96, 42, 180, 0, 62, 162, 0, 125, 42, 180, 0, 11, 21, 4, 50]
abbrev dktX4_backs_0 : List UInt8 := dkwX4_backs_0 ++ dktX4_backs_1
theorem dksX4_backs_0 : cX4_backs.data.toList.drop 0 = dktX4_backs_0 := by decide +kernel
theorem dksX4_backs_1 : cX4_backs.data.toList.drop 23 = dktX4_backs_1 := dk_seg dksX4_backs_0 23 rfl rfl
theorem dksX4_backs_2 : cX4_backs.data.toList.drop 47 = dktX4_backs_2 := dk_seg dksX4_backs_1 24 rfl rfl
theorem dksX4_backs_3 : cX4_backs.data.toList.drop 71 = dktX4_backs_3 := dk_seg dksX4_backs_2 24 rfl rfl
theorem dksX4_backs_4 : cX4_backs.data.toList.drop 95 = dktX4_backs_4 := dk_seg dksX4_backs_3 24 rfl rfl
theorem dksX4_backs_5 : cX4_backs.data.toList.drop 119 = dktX4_backs_5 := dk_seg dksX4_backs_4 24 rfl rfl
theorem dX4_backs_0 : decode cX4_backs 0 = .ok (.lconst 0, 1) := dk_9 (dk_at dksX4_backs_0 0 rfl rfl)
theorem dX4_backs_1 : decode cX4_backs 1 = .ok (.lstore_n 2, 1) := dk_65 (dk_at dksX4_backs_0 1 rfl rfl)
theorem dX4_backs_2 : decode cX4_backs 2 = .ok (.iconst 0, 1) := dk_3 (dk_at dksX4_backs_0 2 rfl rfl)
theorem dX4_backs_3 : decode cX4_backs 3 = .ok (.istore 4, 2) := dk_54 4 (dk_at dksX4_backs_0 3 rfl rfl)
theorem dX4_backs_5 : decode cX4_backs 5 = .ok (.iload 4, 2) := dk_21 4 (dk_at dksX4_backs_0 5 rfl rfl)
theorem dX4_backs_7 : decode cX4_backs 7 = .ok (.iconst 1, 1) := dk_4 (dk_at dksX4_backs_0 7 rfl rfl)
theorem dX4_backs_8 : decode cX4_backs 8 = .ok (.iadd, 1) := dk_96 (dk_at dksX4_backs_0 8 rfl rfl)
theorem dX4_backs_9 : decode cX4_backs 9 = .ok (.aload_n 0, 1) := dk_42 (dk_at dksX4_backs_0 9 rfl rfl)
theorem dX4_backs_10 : decode cX4_backs 10 = .ok (.getfield 62, 3) := dk_180 0 62 (dk_at dksX4_backs_0 10 rfl rfl)
theorem dX4_backs_13 : decode cX4_backs 13 = .ok (.if_icmp .ge 125, 3) := dk_162 0 125 (dk_at dksX4_backs_0 13 rfl rfl)
theorem dX4_backs_16 : decode cX4_backs 16 = .ok (.aload_n 0, 1) := dk_42 (dk_at dksX4_backs_0 16 rfl rfl)
theorem dX4_backs_17 : decode cX4_backs 17 = .ok (.getfield 11, 3) := dk_180 0 11 (dk_at dksX4_backs_0 17 rfl rfl)
theorem dX4_backs_20 : decode cX4_backs 20 = .ok (.iload 4, 2) := dk_21 4 (dk_at dksX4_backs_0 20 rfl rfl)
theorem dX4_backs_22 : decode cX4_backs 22 = .ok (.aaload, 1) := dk_50 (dk_at dksX4_backs_0 22 rfl rfl)
theorem dX4_backs_23 : decode cX4_backs 23 = .ok (.invokevirtual 85, 3) := dk_182 0 85 (dk_at dksX4_backs_1 0 rfl rfl)
theorem dX4_backs_26 : decode cX4_backs 26 = .ok (.ifCond .ne 6, 3) := dk_154 0 6 (dk_at dksX4_backs_1 3 rfl rfl)
theorem dX4_backs_29 : decode cX4_backs 29 = .ok (.goto 103, 3) := dk_167 0 103 (dk_at dksX4_backs_1 6 rfl rfl)
theorem dX4_backs_32 : decode cX4_backs 32 = .ok (.aload_n 0, 1) := dk_42 (dk_at dksX4_backs_1 9 rfl rfl)
theorem dX4_backs_33 : decode cX4_backs 33 = .ok (.getfield 11, 3) := dk_180 0 11 (dk_at dksX4_backs_1 10 rfl rfl)
theorem dX4_backs_36 : decode cX4_backs 36 = .ok (.iload 4, 2) := dk_21 4 (dk_at dksX4_backs_1 13 rfl rfl)
theorem dX4_backs_38 : decode cX4_backs 38 = .ok (.aaload, 1) := dk_50 (dk_at dksX4_backs_1 15 rfl rfl)
theorem dX4_backs_39 : decode cX4_backs 39 = .ok (.invokevirtual 97, 3) := dk_182 0 97 (dk_at dksX4_backs_1 16 rfl rfl)
theorem dX4_backs_42 : decode cX4_backs 42 = .ok (.iconst 5, 1) := dk_8 (dk_at dksX4_backs_1 19 rfl rfl)
theorem dX4_backs_43 : decode cX4_backs 43 = .ok (.if_icmp .ne 24, 3) := dk_160 0 24 (dk_at dksX4_backs_1 20 rfl rfl)
theorem dX4_backs_46 : decode cX4_backs 46 = .ok (.aload_n 0, 1) := dk_42 (dk_at dksX4_backs_1 23 rfl rfl)
theorem dX4_backs_47 : decode cX4_backs 47 = .ok (.getfield 11, 3) := dk_180 0 11 (dk_at dksX4_backs_2 0 rfl rfl)
theorem dX4_backs_50 : decode cX4_backs 50 = .ok (.iload 4, 2) := dk_21 4 (dk_at dksX4_backs_2 3 rfl rfl)
theorem dX4_backs_52 : decode cX4_backs 52 = .ok (.aaload, 1) := dk_50 (dk_at dksX4_backs_2 5 rfl rfl)
theorem dX4_backs_53 : decode cX4_backs 53 = .ok (.invokevirtual 141, 3) := dk_182 0 141 (dk_at dksX4_backs_2 6 rfl rfl)
theorem dX4_backs_56 : decode cX4_backs 56 = .ok (.invokestatic 89, 3) := dk_184 0 89 (dk_at dksX4_backs_2 9 rfl rfl)
theorem dX4_backs_59 : decode cX4_backs 59 = .ok (.aload_n 0, 1) := dk_42 (dk_at dksX4_backs_2 12 rfl rfl)
theorem dX4_backs_60 : decode cX4_backs 60 = .ok (.invokevirtual 93, 3) := dk_182 0 93 (dk_at dksX4_backs_2 13 rfl rfl)
theorem dX4_backs_63 : decode cX4_backs 63 = .ok (.land, 1) := dk_127 (dk_at dksX4_backs_2 16 rfl rfl)
theorem dX4_backs_64 : decode cX4_backs 64 = .ok (.goto 10, 3) := dk_167 0 10 (dk_at dksX4_backs_2 17 rfl rfl)
theorem dX4_backs_67 : decode cX4_backs 67 = .ok (.aload_n 0, 1) := dk_42 (dk_at dksX4_backs_2 20 rfl rfl)
theorem dX4_backs_68 : decode cX4_backs 68 = .ok (.getfield 50, 3) := dk_180 0 50 (dk_at dksX4_backs_2 21 rfl rfl)
theorem dX4_backs_71 : decode cX4_backs 71 = .ok (.iload 4, 2) := dk_21 4 (dk_at dksX4_backs_3 0 rfl rfl)
theorem dX4_backs_73 : decode cX4_backs 73 = .ok (.laload, 1) := dk_47 (dk_at dksX4_backs_3 2 rfl rfl)
theorem dX4_backs_74 : decode cX4_backs 74 = .ok (.lstore 5, 2) := dk_55 5 (dk_at dksX4_backs_3 3 rfl rfl)
theorem dX4_backs_76 : decode cX4_backs 76 = .ok (.iconst 0, 1) := dk_3 (dk_at dksX4_backs_3 5 rfl rfl)
theorem dX4_backs_77 : decode cX4_backs 77 = .ok (.istore 7, 2) := dk_54 7 (dk_at dksX4_backs_3 6 rfl rfl)
theorem dX4_backs_79 : decode cX4_backs 79 = .ok (.iload 7, 2) := dk_21 7 (dk_at dksX4_backs_3 8 rfl rfl)
theorem dX4_backs_81 : decode cX4_backs 81 = .ok (.aload_n 0, 1) := dk_42 (dk_at dksX4_backs_3 10 rfl rfl)
theorem dX4_backs_82 : decode cX4_backs 82 = .ok (.getfield 62, 3) := dk_180 0 62 (dk_at dksX4_backs_3 11 rfl rfl)
theorem dX4_backs_85 : decode cX4_backs 85 = .ok (.if_icmp .ge 47, 3) := dk_162 0 47 (dk_at dksX4_backs_3 14 rfl rfl)
theorem dX4_backs_88 : decode cX4_backs 88 = .ok (.lload 5, 2) := dk_22 5 (dk_at dksX4_backs_3 17 rfl rfl)
theorem dX4_backs_90 : decode cX4_backs 90 = .ok (.iload 7, 2) := dk_21 7 (dk_at dksX4_backs_3 19 rfl rfl)
theorem dX4_backs_92 : decode cX4_backs 92 = .ok (.lshr, 1) := dk_123 (dk_at dksX4_backs_3 21 rfl rfl)
theorem dX4_backs_93 : decode cX4_backs 93 = .ok (.lconst 1, 1) := dk_10 (dk_at dksX4_backs_3 22 rfl rfl)
theorem dX4_backs_94 : decode cX4_backs 94 = .ok (.land, 1) := dk_127 (dk_at dksX4_backs_3 23 rfl rfl)
theorem dX4_backs_95 : decode cX4_backs 95 = .ok (.lconst 1, 1) := dk_10 (dk_at dksX4_backs_4 0 rfl rfl)
theorem dX4_backs_96 : decode cX4_backs 96 = .ok (.lcmp, 1) := dk_148 (dk_at dksX4_backs_4 1 rfl rfl)
theorem dX4_backs_97 : decode cX4_backs 97 = .ok (.ifCond .ne 29, 3) := dk_154 0 29 (dk_at dksX4_backs_4 2 rfl rfl)
theorem dX4_backs_100 : decode cX4_backs 100 = .ok (.aload_n 0, 1) := dk_42 (dk_at dksX4_backs_4 5 rfl rfl)
theorem dX4_backs_101 : decode cX4_backs 101 = .ok (.getfield 53, 3) := dk_180 0 53 (dk_at dksX4_backs_4 6 rfl rfl)
theorem dX4_backs_104 : decode cX4_backs 104 = .ok (.iload 7, 2) := dk_21 7 (dk_at dksX4_backs_4 9 rfl rfl)
theorem dX4_backs_106 : decode cX4_backs 106 = .ok (.laload, 1) := dk_47 (dk_at dksX4_backs_4 11 rfl rfl)
theorem dX4_backs_107 : decode cX4_backs 107 = .ok (.iload_n 1, 1) := dk_27 (dk_at dksX4_backs_4 12 rfl rfl)
theorem dX4_backs_108 : decode cX4_backs 108 = .ok (.lshr, 1) := dk_123 (dk_at dksX4_backs_4 13 rfl rfl)
theorem dX4_backs_109 : decode cX4_backs 109 = .ok (.lconst 1, 1) := dk_10 (dk_at dksX4_backs_4 14 rfl rfl)
theorem dX4_backs_110 : decode cX4_backs 110 = .ok (.land, 1) := dk_127 (dk_at dksX4_backs_4 15 rfl rfl)
theorem dX4_backs_111 : decode cX4_backs 111 = .ok (.lconst 1, 1) := dk_10 (dk_at dksX4_backs_4 16 rfl rfl)
theorem dX4_backs_112 : decode cX4_backs 112 = .ok (.lcmp, 1) := dk_148 (dk_at dksX4_backs_4 17 rfl rfl)
theorem dX4_backs_113 : decode cX4_backs 113 = .ok (.ifCond .ne 13, 3) := dk_154 0 13 (dk_at dksX4_backs_4 18 rfl rfl)
theorem dX4_backs_116 : decode cX4_backs 116 = .ok (.lload_n 2, 1) := dk_32 (dk_at dksX4_backs_4 21 rfl rfl)
theorem dX4_backs_117 : decode cX4_backs 117 = .ok (.iload 4, 2) := dk_21 4 (dk_at dksX4_backs_4 22 rfl rfl)
theorem dX4_backs_119 : decode cX4_backs 119 = .ok (.iconst 1, 1) := dk_4 (dk_at dksX4_backs_5 0 rfl rfl)
theorem dX4_backs_120 : decode cX4_backs 120 = .ok (.iadd, 1) := dk_96 (dk_at dksX4_backs_5 1 rfl rfl)
theorem dX4_backs_121 : decode cX4_backs 121 = .ok (.invokestatic 89, 3) := dk_184 0 89 (dk_at dksX4_backs_5 2 rfl rfl)
theorem dX4_backs_124 : decode cX4_backs 124 = .ok (.lor, 1) := dk_129 (dk_at dksX4_backs_5 5 rfl rfl)
theorem dX4_backs_125 : decode cX4_backs 125 = .ok (.lstore_n 2, 1) := dk_65 (dk_at dksX4_backs_5 6 rfl rfl)
theorem dX4_backs_126 : decode cX4_backs 126 = .ok (.iinc 7 1, 3) := dk_132 7 1 (dk_at dksX4_backs_5 7 rfl rfl)
theorem dX4_backs_129 : decode cX4_backs 129 = .ok (.goto (-50), 3) := dk_167 255 206 (dk_at dksX4_backs_5 10 rfl rfl)
theorem dX4_backs_132 : decode cX4_backs 132 = .ok (.iinc 4 1, 3) := dk_132 4 1 (dk_at dksX4_backs_5 13 rfl rfl)
theorem dX4_backs_135 : decode cX4_backs 135 = .ok (.goto (-130), 3) := dk_167 255 126 (dk_at dksX4_backs_5 16 rfl rfl)
theorem dX4_backs_138 : decode cX4_backs 138 = .ok (.lload_n 2, 1) := dk_32 (dk_at dksX4_backs_5 19 rfl rfl)
theorem dX4_backs_139 : decode cX4_backs 139 = .ok (.lreturn, 1) := dk_173 (dk_at dksX4_backs_5 20 rfl rfl)
def dkwX4_doors_2 : List UInt8 := [153, 0, 11, 32, 21, 4, 184, 0, 89, 129, 65, 132, 4, 1, 167, 255, 199, 32, 173]
abbrev dktX4_doors_2 : List UInt8 := dkwX4_doors_2 ++ []
def dkwX4_doors_1 : List UInt8 := [16, 8, 160, 0, 33, 42, 180, 0, 11, 21, 4, 50, 192, 0, 150, 42, 180, 0, 27, 27, 46, 182, 0, 152]
abbrev dktX4_doors_1 : List UInt8 := dkwX4_doors_1 ++ dktX4_doors_2
def dkwX4_doors_0 : List UInt8 := [9, 65, 3, 54, 4, 21, 4, 42, 180, 0, 62, 162, 0, 54, 42, 180, 0, 11, 21, 4, 50, 182, 0, 97]
abbrev dktX4_doors_0 : List UInt8 := dkwX4_doors_0 ++ dktX4_doors_1
theorem dksX4_doors_0 : cX4_doors.data.toList.drop 0 = dktX4_doors_0 := by decide +kernel
theorem dksX4_doors_1 : cX4_doors.data.toList.drop 24 = dktX4_doors_1 := dk_seg dksX4_doors_0 24 rfl rfl
theorem dksX4_doors_2 : cX4_doors.data.toList.drop 48 = dktX4_doors_2 := dk_seg dksX4_doors_1 24 rfl rfl
theorem dX4_doors_0 : decode cX4_doors 0 = .ok (.lconst 0, 1) := dk_9 (dk_at dksX4_doors_0 0 rfl rfl)
theorem dX4_doors_1 : decode cX4_doors 1 = .ok (.lstore_n 2, 1) := dk_65 (dk_at dksX4_doors_0 1 rfl rfl)
theorem dX4_doors_2 : decode cX4_doors 2 = .ok (.iconst 0, 1) := dk_3 (dk_at dksX4_doors_0 2 rfl rfl)
theorem dX4_doors_3 : decode cX4_doors 3 = .ok (.istore 4, 2) := dk_54 4 (dk_at dksX4_doors_0 3 rfl rfl)
theorem dX4_doors_5 : decode cX4_doors 5 = .ok (.iload 4, 2) := dk_21 4 (dk_at dksX4_doors_0 5 rfl rfl)
theorem dX4_doors_7 : decode cX4_doors 7 = .ok (.aload_n 0, 1) := dk_42 (dk_at dksX4_doors_0 7 rfl rfl)
theorem dX4_doors_8 : decode cX4_doors 8 = .ok (.getfield 62, 3) := dk_180 0 62 (dk_at dksX4_doors_0 8 rfl rfl)
theorem dX4_doors_11 : decode cX4_doors 11 = .ok (.if_icmp .ge 54, 3) := dk_162 0 54 (dk_at dksX4_doors_0 11 rfl rfl)
theorem dX4_doors_14 : decode cX4_doors 14 = .ok (.aload_n 0, 1) := dk_42 (dk_at dksX4_doors_0 14 rfl rfl)
theorem dX4_doors_15 : decode cX4_doors 15 = .ok (.getfield 11, 3) := dk_180 0 11 (dk_at dksX4_doors_0 15 rfl rfl)
theorem dX4_doors_18 : decode cX4_doors 18 = .ok (.iload 4, 2) := dk_21 4 (dk_at dksX4_doors_0 18 rfl rfl)
theorem dX4_doors_20 : decode cX4_doors 20 = .ok (.aaload, 1) := dk_50 (dk_at dksX4_doors_0 20 rfl rfl)
theorem dX4_doors_21 : decode cX4_doors 21 = .ok (.invokevirtual 97, 3) := dk_182 0 97 (dk_at dksX4_doors_0 21 rfl rfl)
theorem dX4_doors_24 : decode cX4_doors 24 = .ok (.bipush 8, 2) := dk_16 8 (dk_at dksX4_doors_1 0 rfl rfl)
theorem dX4_doors_26 : decode cX4_doors 26 = .ok (.if_icmp .ne 33, 3) := dk_160 0 33 (dk_at dksX4_doors_1 2 rfl rfl)
theorem dX4_doors_29 : decode cX4_doors 29 = .ok (.aload_n 0, 1) := dk_42 (dk_at dksX4_doors_1 5 rfl rfl)
theorem dX4_doors_30 : decode cX4_doors 30 = .ok (.getfield 11, 3) := dk_180 0 11 (dk_at dksX4_doors_1 6 rfl rfl)
theorem dX4_doors_33 : decode cX4_doors 33 = .ok (.iload 4, 2) := dk_21 4 (dk_at dksX4_doors_1 9 rfl rfl)
theorem dX4_doors_35 : decode cX4_doors 35 = .ok (.aaload, 1) := dk_50 (dk_at dksX4_doors_1 11 rfl rfl)
theorem dX4_doors_36 : decode cX4_doors 36 = .ok (.checkcast 150, 3) := dk_192 0 150 (dk_at dksX4_doors_1 12 rfl rfl)
theorem dX4_doors_39 : decode cX4_doors 39 = .ok (.aload_n 0, 1) := dk_42 (dk_at dksX4_doors_1 15 rfl rfl)
theorem dX4_doors_40 : decode cX4_doors 40 = .ok (.getfield 27, 3) := dk_180 0 27 (dk_at dksX4_doors_1 16 rfl rfl)
theorem dX4_doors_43 : decode cX4_doors 43 = .ok (.iload_n 1, 1) := dk_27 (dk_at dksX4_doors_1 19 rfl rfl)
theorem dX4_doors_44 : decode cX4_doors 44 = .ok (.iaload, 1) := dk_46 (dk_at dksX4_doors_1 20 rfl rfl)
theorem dX4_doors_45 : decode cX4_doors 45 = .ok (.invokevirtual 152, 3) := dk_182 0 152 (dk_at dksX4_doors_1 21 rfl rfl)
theorem dX4_doors_48 : decode cX4_doors 48 = .ok (.ifCond .eq 11, 3) := dk_153 0 11 (dk_at dksX4_doors_2 0 rfl rfl)
theorem dX4_doors_51 : decode cX4_doors 51 = .ok (.lload_n 2, 1) := dk_32 (dk_at dksX4_doors_2 3 rfl rfl)
theorem dX4_doors_52 : decode cX4_doors 52 = .ok (.iload 4, 2) := dk_21 4 (dk_at dksX4_doors_2 4 rfl rfl)
theorem dX4_doors_54 : decode cX4_doors 54 = .ok (.invokestatic 89, 3) := dk_184 0 89 (dk_at dksX4_doors_2 6 rfl rfl)
theorem dX4_doors_57 : decode cX4_doors 57 = .ok (.lor, 1) := dk_129 (dk_at dksX4_doors_2 9 rfl rfl)
theorem dX4_doors_58 : decode cX4_doors 58 = .ok (.lstore_n 2, 1) := dk_65 (dk_at dksX4_doors_2 10 rfl rfl)
theorem dX4_doors_59 : decode cX4_doors 59 = .ok (.iinc 4 1, 3) := dk_132 4 1 (dk_at dksX4_doors_2 11 rfl rfl)
theorem dX4_doors_62 : decode cX4_doors 62 = .ok (.goto (-57), 3) := dk_167 255 199 (dk_at dksX4_doors_2 14 rfl rfl)
theorem dX4_doors_65 : decode cX4_doors 65 = .ok (.lload_n 2, 1) := dk_32 (dk_at dksX4_doors_2 17 rfl rfl)
theorem dX4_doors_66 : decode cX4_doors 66 = .ok (.lreturn, 1) := dk_173 (dk_at dksX4_doors_2 18 rfl rfl)
def dkwX4_may_1 : List UInt8 := [42, 182, 0, 93, 127, 173]
abbrev dktX4_may_1 : List UInt8 := dkwX4_may_1 ++ []
def dkwX4_may_0 : List UInt8 := [42, 180, 0, 11, 27, 50, 42, 27, 44, 42, 180, 0, 24, 29, 46, 42, 180, 0, 39, 29, 51, 182, 0, 143]
abbrev dktX4_may_0 : List UInt8 := dkwX4_may_0 ++ dktX4_may_1
theorem dksX4_may_0 : cX4_may.data.toList.drop 0 = dktX4_may_0 := by decide +kernel
theorem dksX4_may_1 : cX4_may.data.toList.drop 24 = dktX4_may_1 := dk_seg dksX4_may_0 24 rfl rfl
theorem dX4_may_0 : decode cX4_may 0 = .ok (.aload_n 0, 1) := dk_42 (dk_at dksX4_may_0 0 rfl rfl)
theorem dX4_may_1 : decode cX4_may 1 = .ok (.getfield 11, 3) := dk_180 0 11 (dk_at dksX4_may_0 1 rfl rfl)
theorem dX4_may_4 : decode cX4_may 4 = .ok (.iload_n 1, 1) := dk_27 (dk_at dksX4_may_0 4 rfl rfl)
theorem dX4_may_5 : decode cX4_may 5 = .ok (.aaload, 1) := dk_50 (dk_at dksX4_may_0 5 rfl rfl)
theorem dX4_may_6 : decode cX4_may 6 = .ok (.aload_n 0, 1) := dk_42 (dk_at dksX4_may_0 6 rfl rfl)
theorem dX4_may_7 : decode cX4_may 7 = .ok (.iload_n 1, 1) := dk_27 (dk_at dksX4_may_0 7 rfl rfl)
theorem dX4_may_8 : decode cX4_may 8 = .ok (.aload_n 2, 1) := dk_44 (dk_at dksX4_may_0 8 rfl rfl)
theorem dX4_may_9 : decode cX4_may 9 = .ok (.aload_n 0, 1) := dk_42 (dk_at dksX4_may_0 9 rfl rfl)
theorem dX4_may_10 : decode cX4_may 10 = .ok (.getfield 24, 3) := dk_180 0 24 (dk_at dksX4_may_0 10 rfl rfl)
theorem dX4_may_13 : decode cX4_may 13 = .ok (.iload_n 3, 1) := dk_29 (dk_at dksX4_may_0 13 rfl rfl)
theorem dX4_may_14 : decode cX4_may 14 = .ok (.iaload, 1) := dk_46 (dk_at dksX4_may_0 14 rfl rfl)
theorem dX4_may_15 : decode cX4_may 15 = .ok (.aload_n 0, 1) := dk_42 (dk_at dksX4_may_0 15 rfl rfl)
theorem dX4_may_16 : decode cX4_may 16 = .ok (.getfield 39, 3) := dk_180 0 39 (dk_at dksX4_may_0 16 rfl rfl)
theorem dX4_may_19 : decode cX4_may 19 = .ok (.iload_n 3, 1) := dk_29 (dk_at dksX4_may_0 19 rfl rfl)
theorem dX4_may_20 : decode cX4_may 20 = .ok (.baload, 1) := dk_51 (dk_at dksX4_may_0 20 rfl rfl)
theorem dX4_may_21 : decode cX4_may 21 = .ok (.invokevirtual 143, 3) := dk_182 0 143 (dk_at dksX4_may_0 21 rfl rfl)
theorem dX4_may_24 : decode cX4_may 24 = .ok (.aload_n 0, 1) := dk_42 (dk_at dksX4_may_1 0 rfl rfl)
theorem dX4_may_25 : decode cX4_may 25 = .ok (.invokevirtual 93, 3) := dk_182 0 93 (dk_at dksX4_may_1 1 rfl rfl)
theorem dX4_may_28 : decode cX4_may 28 = .ok (.land, 1) := dk_127 (dk_at dksX4_may_1 4 rfl rfl)
theorem dX4_may_29 : decode cX4_may 29 = .ok (.lreturn, 1) := dk_173 (dk_at dksX4_may_1 5 rfl rfl)
def dkwX4_closed_3 : List UInt8 := [173]
abbrev dktX4_closed_3 : List UInt8 := dkwX4_closed_3 ++ []
def dkwX4_closed_2 : List UInt8 := [154, 0, 14, 33, 42, 21, 7, 43, 28, 182, 0, 147, 129, 66, 132, 7, 1, 167, 255, 221, 167, 255, 205, 33]
abbrev dktX4_closed_2 : List UInt8 := dkwX4_closed_2 ++ dktX4_closed_3
def dkwX4_closed_1 : List UInt8 := [55, 5, 3, 54, 7, 21, 7, 42, 180, 0, 62, 162, 0, 32, 22, 5, 21, 7, 123, 10, 127, 10, 148]
abbrev dktX4_closed_1 : List UInt8 := dkwX4_closed_1 ++ dktX4_closed_2
def dkwX4_closed_0 : List UInt8 := [42, 180, 0, 62, 154, 0, 7, 9, 167, 0, 4, 10, 66, 9, 55, 5, 33, 22, 5, 148, 153, 0, 50, 33]
abbrev dktX4_closed_0 : List UInt8 := dkwX4_closed_0 ++ dktX4_closed_1
theorem dksX4_closed_0 : cX4_closed.data.toList.drop 0 = dktX4_closed_0 := by decide +kernel
theorem dksX4_closed_1 : cX4_closed.data.toList.drop 24 = dktX4_closed_1 := dk_seg dksX4_closed_0 24 rfl rfl
theorem dksX4_closed_2 : cX4_closed.data.toList.drop 47 = dktX4_closed_2 := dk_seg dksX4_closed_1 23 rfl rfl
theorem dksX4_closed_3 : cX4_closed.data.toList.drop 71 = dktX4_closed_3 := dk_seg dksX4_closed_2 24 rfl rfl
theorem dX4_closed_0 : decode cX4_closed 0 = .ok (.aload_n 0, 1) := dk_42 (dk_at dksX4_closed_0 0 rfl rfl)
theorem dX4_closed_1 : decode cX4_closed 1 = .ok (.getfield 62, 3) := dk_180 0 62 (dk_at dksX4_closed_0 1 rfl rfl)
theorem dX4_closed_4 : decode cX4_closed 4 = .ok (.ifCond .ne 7, 3) := dk_154 0 7 (dk_at dksX4_closed_0 4 rfl rfl)
theorem dX4_closed_7 : decode cX4_closed 7 = .ok (.lconst 0, 1) := dk_9 (dk_at dksX4_closed_0 7 rfl rfl)
theorem dX4_closed_8 : decode cX4_closed 8 = .ok (.goto 4, 3) := dk_167 0 4 (dk_at dksX4_closed_0 8 rfl rfl)
theorem dX4_closed_11 : decode cX4_closed 11 = .ok (.lconst 1, 1) := dk_10 (dk_at dksX4_closed_0 11 rfl rfl)
theorem dX4_closed_12 : decode cX4_closed 12 = .ok (.lstore_n 3, 1) := dk_66 (dk_at dksX4_closed_0 12 rfl rfl)
theorem dX4_closed_13 : decode cX4_closed 13 = .ok (.lconst 0, 1) := dk_9 (dk_at dksX4_closed_0 13 rfl rfl)
theorem dX4_closed_14 : decode cX4_closed 14 = .ok (.lstore 5, 2) := dk_55 5 (dk_at dksX4_closed_0 14 rfl rfl)
theorem dX4_closed_16 : decode cX4_closed 16 = .ok (.lload_n 3, 1) := dk_33 (dk_at dksX4_closed_0 16 rfl rfl)
theorem dX4_closed_17 : decode cX4_closed 17 = .ok (.lload 5, 2) := dk_22 5 (dk_at dksX4_closed_0 17 rfl rfl)
theorem dX4_closed_19 : decode cX4_closed 19 = .ok (.lcmp, 1) := dk_148 (dk_at dksX4_closed_0 19 rfl rfl)
theorem dX4_closed_20 : decode cX4_closed 20 = .ok (.ifCond .eq 50, 3) := dk_153 0 50 (dk_at dksX4_closed_0 20 rfl rfl)
theorem dX4_closed_23 : decode cX4_closed 23 = .ok (.lload_n 3, 1) := dk_33 (dk_at dksX4_closed_0 23 rfl rfl)
theorem dX4_closed_24 : decode cX4_closed 24 = .ok (.lstore 5, 2) := dk_55 5 (dk_at dksX4_closed_1 0 rfl rfl)
theorem dX4_closed_26 : decode cX4_closed 26 = .ok (.iconst 0, 1) := dk_3 (dk_at dksX4_closed_1 2 rfl rfl)
theorem dX4_closed_27 : decode cX4_closed 27 = .ok (.istore 7, 2) := dk_54 7 (dk_at dksX4_closed_1 3 rfl rfl)
theorem dX4_closed_29 : decode cX4_closed 29 = .ok (.iload 7, 2) := dk_21 7 (dk_at dksX4_closed_1 5 rfl rfl)
theorem dX4_closed_31 : decode cX4_closed 31 = .ok (.aload_n 0, 1) := dk_42 (dk_at dksX4_closed_1 7 rfl rfl)
theorem dX4_closed_32 : decode cX4_closed 32 = .ok (.getfield 62, 3) := dk_180 0 62 (dk_at dksX4_closed_1 8 rfl rfl)
theorem dX4_closed_35 : decode cX4_closed 35 = .ok (.if_icmp .ge 32, 3) := dk_162 0 32 (dk_at dksX4_closed_1 11 rfl rfl)
theorem dX4_closed_38 : decode cX4_closed 38 = .ok (.lload 5, 2) := dk_22 5 (dk_at dksX4_closed_1 14 rfl rfl)
theorem dX4_closed_40 : decode cX4_closed 40 = .ok (.iload 7, 2) := dk_21 7 (dk_at dksX4_closed_1 16 rfl rfl)
theorem dX4_closed_42 : decode cX4_closed 42 = .ok (.lshr, 1) := dk_123 (dk_at dksX4_closed_1 18 rfl rfl)
theorem dX4_closed_43 : decode cX4_closed 43 = .ok (.lconst 1, 1) := dk_10 (dk_at dksX4_closed_1 19 rfl rfl)
theorem dX4_closed_44 : decode cX4_closed 44 = .ok (.land, 1) := dk_127 (dk_at dksX4_closed_1 20 rfl rfl)
theorem dX4_closed_45 : decode cX4_closed 45 = .ok (.lconst 1, 1) := dk_10 (dk_at dksX4_closed_1 21 rfl rfl)
theorem dX4_closed_46 : decode cX4_closed 46 = .ok (.lcmp, 1) := dk_148 (dk_at dksX4_closed_1 22 rfl rfl)
theorem dX4_closed_47 : decode cX4_closed 47 = .ok (.ifCond .ne 14, 3) := dk_154 0 14 (dk_at dksX4_closed_2 0 rfl rfl)
theorem dX4_closed_50 : decode cX4_closed 50 = .ok (.lload_n 3, 1) := dk_33 (dk_at dksX4_closed_2 3 rfl rfl)
theorem dX4_closed_51 : decode cX4_closed 51 = .ok (.aload_n 0, 1) := dk_42 (dk_at dksX4_closed_2 4 rfl rfl)
theorem dX4_closed_52 : decode cX4_closed 52 = .ok (.iload 7, 2) := dk_21 7 (dk_at dksX4_closed_2 5 rfl rfl)
theorem dX4_closed_54 : decode cX4_closed 54 = .ok (.aload_n 1, 1) := dk_43 (dk_at dksX4_closed_2 7 rfl rfl)
theorem dX4_closed_55 : decode cX4_closed 55 = .ok (.iload_n 2, 1) := dk_28 (dk_at dksX4_closed_2 8 rfl rfl)
theorem dX4_closed_56 : decode cX4_closed 56 = .ok (.invokevirtual 147, 3) := dk_182 0 147 (dk_at dksX4_closed_2 9 rfl rfl)
theorem dX4_closed_59 : decode cX4_closed 59 = .ok (.lor, 1) := dk_129 (dk_at dksX4_closed_2 12 rfl rfl)
theorem dX4_closed_60 : decode cX4_closed 60 = .ok (.lstore_n 3, 1) := dk_66 (dk_at dksX4_closed_2 13 rfl rfl)
theorem dX4_closed_61 : decode cX4_closed 61 = .ok (.iinc 7 1, 3) := dk_132 7 1 (dk_at dksX4_closed_2 14 rfl rfl)
theorem dX4_closed_64 : decode cX4_closed 64 = .ok (.goto (-35), 3) := dk_167 255 221 (dk_at dksX4_closed_2 17 rfl rfl)
theorem dX4_closed_67 : decode cX4_closed 67 = .ok (.goto (-51), 3) := dk_167 255 205 (dk_at dksX4_closed_2 20 rfl rfl)
theorem dX4_closed_70 : decode cX4_closed 70 = .ok (.lload_n 3, 1) := dk_33 (dk_at dksX4_closed_2 23 rfl rfl)
theorem dX4_closed_71 : decode cX4_closed 71 = .ok (.lreturn, 1) := dk_173 (dk_at dksX4_closed_3 0 rfl rfl)
def dkwX5_init_2 : List UInt8 := [17, 1, 44, 188, 10, 181, 0, 27, 42, 17, 1, 44, 188, 10, 181, 0, 30, 42, 43, 181, 0, 33, 177]
abbrev dktX5_init_2 : List UInt8 := dkwX5_init_2 ++ []
def dkwX5_init_1 : List UInt8 := [188, 10, 181, 0, 18, 42, 16, 8, 188, 10, 181, 0, 21, 42, 16, 8, 188, 10, 181, 0, 24, 42]
abbrev dktX5_init_1 : List UInt8 := dkwX5_init_1 ++ dktX5_init_2
def dkwX5_init_0 : List UInt8 := [42, 183, 0, 3, 42, 16, 16, 188, 10, 181, 0, 9, 42, 16, 16, 188, 10, 181, 0, 15, 42, 16, 8]
abbrev dktX5_init_0 : List UInt8 := dkwX5_init_0 ++ dktX5_init_1
theorem dksX5_init_0 : cX5_init.data.toList.drop 0 = dktX5_init_0 := by decide +kernel
theorem dksX5_init_1 : cX5_init.data.toList.drop 23 = dktX5_init_1 := dk_seg dksX5_init_0 23 rfl rfl
theorem dksX5_init_2 : cX5_init.data.toList.drop 45 = dktX5_init_2 := dk_seg dksX5_init_1 22 rfl rfl
theorem dX5_init_0 : decode cX5_init 0 = .ok (.aload_n 0, 1) := dk_42 (dk_at dksX5_init_0 0 rfl rfl)
theorem dX5_init_1 : decode cX5_init 1 = .ok (.invokespecial 3, 3) := dk_183 0 3 (dk_at dksX5_init_0 1 rfl rfl)
theorem dX5_init_4 : decode cX5_init 4 = .ok (.aload_n 0, 1) := dk_42 (dk_at dksX5_init_0 4 rfl rfl)
theorem dX5_init_5 : decode cX5_init 5 = .ok (.bipush 16, 2) := dk_16 16 (dk_at dksX5_init_0 5 rfl rfl)
theorem dX5_init_7 : decode cX5_init 7 = .ok (.newarray .int, 2) := dk_188_10 (dk_at dksX5_init_0 7 rfl rfl)
theorem dX5_init_9 : decode cX5_init 9 = .ok (.putfield 9, 3) := dk_181 0 9 (dk_at dksX5_init_0 9 rfl rfl)
theorem dX5_init_12 : decode cX5_init 12 = .ok (.aload_n 0, 1) := dk_42 (dk_at dksX5_init_0 12 rfl rfl)
theorem dX5_init_13 : decode cX5_init 13 = .ok (.bipush 16, 2) := dk_16 16 (dk_at dksX5_init_0 13 rfl rfl)
theorem dX5_init_15 : decode cX5_init 15 = .ok (.newarray .int, 2) := dk_188_10 (dk_at dksX5_init_0 15 rfl rfl)
theorem dX5_init_17 : decode cX5_init 17 = .ok (.putfield 15, 3) := dk_181 0 15 (dk_at dksX5_init_0 17 rfl rfl)
theorem dX5_init_20 : decode cX5_init 20 = .ok (.aload_n 0, 1) := dk_42 (dk_at dksX5_init_0 20 rfl rfl)
theorem dX5_init_21 : decode cX5_init 21 = .ok (.bipush 8, 2) := dk_16 8 (dk_at dksX5_init_0 21 rfl rfl)
theorem dX5_init_23 : decode cX5_init 23 = .ok (.newarray .int, 2) := dk_188_10 (dk_at dksX5_init_1 0 rfl rfl)
theorem dX5_init_25 : decode cX5_init 25 = .ok (.putfield 18, 3) := dk_181 0 18 (dk_at dksX5_init_1 2 rfl rfl)
theorem dX5_init_28 : decode cX5_init 28 = .ok (.aload_n 0, 1) := dk_42 (dk_at dksX5_init_1 5 rfl rfl)
theorem dX5_init_29 : decode cX5_init 29 = .ok (.bipush 8, 2) := dk_16 8 (dk_at dksX5_init_1 6 rfl rfl)
theorem dX5_init_31 : decode cX5_init 31 = .ok (.newarray .int, 2) := dk_188_10 (dk_at dksX5_init_1 8 rfl rfl)
theorem dX5_init_33 : decode cX5_init 33 = .ok (.putfield 21, 3) := dk_181 0 21 (dk_at dksX5_init_1 10 rfl rfl)
theorem dX5_init_36 : decode cX5_init 36 = .ok (.aload_n 0, 1) := dk_42 (dk_at dksX5_init_1 13 rfl rfl)
theorem dX5_init_37 : decode cX5_init 37 = .ok (.bipush 8, 2) := dk_16 8 (dk_at dksX5_init_1 14 rfl rfl)
theorem dX5_init_39 : decode cX5_init 39 = .ok (.newarray .int, 2) := dk_188_10 (dk_at dksX5_init_1 16 rfl rfl)
theorem dX5_init_41 : decode cX5_init 41 = .ok (.putfield 24, 3) := dk_181 0 24 (dk_at dksX5_init_1 18 rfl rfl)
theorem dX5_init_44 : decode cX5_init 44 = .ok (.aload_n 0, 1) := dk_42 (dk_at dksX5_init_1 21 rfl rfl)
theorem dX5_init_45 : decode cX5_init 45 = .ok (.sipush 300, 3) := dk_17 1 44 (dk_at dksX5_init_2 0 rfl rfl)
theorem dX5_init_48 : decode cX5_init 48 = .ok (.newarray .int, 2) := dk_188_10 (dk_at dksX5_init_2 3 rfl rfl)
theorem dX5_init_50 : decode cX5_init 50 = .ok (.putfield 27, 3) := dk_181 0 27 (dk_at dksX5_init_2 5 rfl rfl)
theorem dX5_init_53 : decode cX5_init 53 = .ok (.aload_n 0, 1) := dk_42 (dk_at dksX5_init_2 8 rfl rfl)
theorem dX5_init_54 : decode cX5_init 54 = .ok (.sipush 300, 3) := dk_17 1 44 (dk_at dksX5_init_2 9 rfl rfl)
theorem dX5_init_57 : decode cX5_init 57 = .ok (.newarray .int, 2) := dk_188_10 (dk_at dksX5_init_2 12 rfl rfl)
theorem dX5_init_59 : decode cX5_init 59 = .ok (.putfield 30, 3) := dk_181 0 30 (dk_at dksX5_init_2 14 rfl rfl)
theorem dX5_init_62 : decode cX5_init 62 = .ok (.aload_n 0, 1) := dk_42 (dk_at dksX5_init_2 17 rfl rfl)
theorem dX5_init_63 : decode cX5_init 63 = .ok (.aload_n 1, 1) := dk_43 (dk_at dksX5_init_2 18 rfl rfl)
theorem dX5_init_64 : decode cX5_init 64 = .ok (.putfield 33, 3) := dk_181 0 33 (dk_at dksX5_init_2 19 rfl rfl)
theorem dX5_init_67 : decode cX5_init 67 = .ok (.return_, 1) := dk_177 (dk_at dksX5_init_2 22 rfl rfl)
def dkwX5_runs_2 : List UInt8 := [167, 255, 219, 177]
abbrev dktX5_runs_2 : List UInt8 := dkwX5_runs_2 ++ []
def dkwX5_runs_1 : List UInt8 := [180, 0, 44, 17, 1, 44, 160, 0, 13, 42, 5, 181, 0, 56, 3, 62, 167, 255, 227, 42, 182, 0, 128, 62]
abbrev dktX5_runs_1 : List UInt8 := dkwX5_runs_1 ++ dktX5_runs_2
def dkwX5_runs_0 : List UInt8 := [42, 182, 0, 122, 42, 28, 181, 0, 94, 4, 62, 29, 153, 0, 39, 27, 153, 0, 7, 42, 182, 0, 125, 42]
abbrev dktX5_runs_0 : List UInt8 := dkwX5_runs_0 ++ dktX5_runs_1
theorem dksX5_runs_0 : cX5_runs.data.toList.drop 0 = dktX5_runs_0 := by decide +kernel
theorem dksX5_runs_1 : cX5_runs.data.toList.drop 24 = dktX5_runs_1 := dk_seg dksX5_runs_0 24 rfl rfl
theorem dksX5_runs_2 : cX5_runs.data.toList.drop 48 = dktX5_runs_2 := dk_seg dksX5_runs_1 24 rfl rfl
theorem dX5_runs_0 : decode cX5_runs 0 = .ok (.aload_n 0, 1) := dk_42 (dk_at dksX5_runs_0 0 rfl rfl)
theorem dX5_runs_1 : decode cX5_runs 1 = .ok (.invokevirtual 122, 3) := dk_182 0 122 (dk_at dksX5_runs_0 1 rfl rfl)
theorem dX5_runs_4 : decode cX5_runs 4 = .ok (.aload_n 0, 1) := dk_42 (dk_at dksX5_runs_0 4 rfl rfl)
theorem dX5_runs_5 : decode cX5_runs 5 = .ok (.iload_n 2, 1) := dk_28 (dk_at dksX5_runs_0 5 rfl rfl)
theorem dX5_runs_6 : decode cX5_runs 6 = .ok (.putfield 94, 3) := dk_181 0 94 (dk_at dksX5_runs_0 6 rfl rfl)
theorem dX5_runs_9 : decode cX5_runs 9 = .ok (.iconst 1, 1) := dk_4 (dk_at dksX5_runs_0 9 rfl rfl)
theorem dX5_runs_10 : decode cX5_runs 10 = .ok (.istore_n 3, 1) := dk_62 (dk_at dksX5_runs_0 10 rfl rfl)
theorem dX5_runs_11 : decode cX5_runs 11 = .ok (.iload_n 3, 1) := dk_29 (dk_at dksX5_runs_0 11 rfl rfl)
theorem dX5_runs_12 : decode cX5_runs 12 = .ok (.ifCond .eq 39, 3) := dk_153 0 39 (dk_at dksX5_runs_0 12 rfl rfl)
theorem dX5_runs_15 : decode cX5_runs 15 = .ok (.iload_n 1, 1) := dk_27 (dk_at dksX5_runs_0 15 rfl rfl)
theorem dX5_runs_16 : decode cX5_runs 16 = .ok (.ifCond .eq 7, 3) := dk_153 0 7 (dk_at dksX5_runs_0 16 rfl rfl)
theorem dX5_runs_19 : decode cX5_runs 19 = .ok (.aload_n 0, 1) := dk_42 (dk_at dksX5_runs_0 19 rfl rfl)
theorem dX5_runs_20 : decode cX5_runs 20 = .ok (.invokevirtual 125, 3) := dk_182 0 125 (dk_at dksX5_runs_0 20 rfl rfl)
theorem dX5_runs_23 : decode cX5_runs 23 = .ok (.aload_n 0, 1) := dk_42 (dk_at dksX5_runs_0 23 rfl rfl)
theorem dX5_runs_24 : decode cX5_runs 24 = .ok (.getfield 44, 3) := dk_180 0 44 (dk_at dksX5_runs_1 0 rfl rfl)
theorem dX5_runs_27 : decode cX5_runs 27 = .ok (.sipush 300, 3) := dk_17 1 44 (dk_at dksX5_runs_1 3 rfl rfl)
theorem dX5_runs_30 : decode cX5_runs 30 = .ok (.if_icmp .ne 13, 3) := dk_160 0 13 (dk_at dksX5_runs_1 6 rfl rfl)
theorem dX5_runs_33 : decode cX5_runs 33 = .ok (.aload_n 0, 1) := dk_42 (dk_at dksX5_runs_1 9 rfl rfl)
theorem dX5_runs_34 : decode cX5_runs 34 = .ok (.iconst 2, 1) := dk_5 (dk_at dksX5_runs_1 10 rfl rfl)
theorem dX5_runs_35 : decode cX5_runs 35 = .ok (.putfield 56, 3) := dk_181 0 56 (dk_at dksX5_runs_1 11 rfl rfl)
theorem dX5_runs_38 : decode cX5_runs 38 = .ok (.iconst 0, 1) := dk_3 (dk_at dksX5_runs_1 14 rfl rfl)
theorem dX5_runs_39 : decode cX5_runs 39 = .ok (.istore_n 3, 1) := dk_62 (dk_at dksX5_runs_1 15 rfl rfl)
theorem dX5_runs_40 : decode cX5_runs 40 = .ok (.goto (-29), 3) := dk_167 255 227 (dk_at dksX5_runs_1 16 rfl rfl)
theorem dX5_runs_43 : decode cX5_runs 43 = .ok (.aload_n 0, 1) := dk_42 (dk_at dksX5_runs_1 19 rfl rfl)
theorem dX5_runs_44 : decode cX5_runs 44 = .ok (.invokevirtual 128, 3) := dk_182 0 128 (dk_at dksX5_runs_1 20 rfl rfl)
theorem dX5_runs_47 : decode cX5_runs 47 = .ok (.istore_n 3, 1) := dk_62 (dk_at dksX5_runs_1 23 rfl rfl)
theorem dX5_runs_48 : decode cX5_runs 48 = .ok (.goto (-37), 3) := dk_167 255 219 (dk_at dksX5_runs_2 0 rfl rfl)
theorem dX5_runs_51 : decode cX5_runs 51 = .ok (.return_, 1) := dk_177 (dk_at dksX5_runs_2 3 rfl rfl)
def dkwX5_begins_3 : List UInt8 := [2, 181, 0, 62, 42, 2, 181, 0, 65, 177]
abbrev dktX5_begins_3 : List UInt8 := dkwX5_begins_3 ++ []
def dkwX5_begins_2 : List UInt8 := [181, 0, 47, 42, 3, 181, 0, 50, 42, 3, 181, 0, 53, 42, 7, 181, 0, 56, 42, 2, 181, 0, 59, 42]
abbrev dktX5_begins_2 : List UInt8 := dkwX5_begins_2 ++ dktX5_begins_3
def dkwX5_begins_1 : List UInt8 := [132, 1, 1, 167, 255, 233, 42, 3, 181, 0, 37, 42, 3, 181, 0, 41, 42, 3, 181, 0, 44, 42, 3]
abbrev dktX5_begins_1 : List UInt8 := dkwX5_begins_1 ++ dktX5_begins_2
def dkwX5_begins_0 : List UInt8 := [3, 60, 27, 16, 16, 162, 0, 23, 42, 180, 0, 9, 27, 3, 79, 42, 180, 0, 15, 27, 2, 79]
abbrev dktX5_begins_0 : List UInt8 := dkwX5_begins_0 ++ dktX5_begins_1
theorem dksX5_begins_0 : cX5_begins.data.toList.drop 0 = dktX5_begins_0 := by decide +kernel
theorem dksX5_begins_1 : cX5_begins.data.toList.drop 22 = dktX5_begins_1 := dk_seg dksX5_begins_0 22 rfl rfl
theorem dksX5_begins_2 : cX5_begins.data.toList.drop 45 = dktX5_begins_2 := dk_seg dksX5_begins_1 23 rfl rfl
theorem dksX5_begins_3 : cX5_begins.data.toList.drop 69 = dktX5_begins_3 := dk_seg dksX5_begins_2 24 rfl rfl
theorem dX5_begins_0 : decode cX5_begins 0 = .ok (.iconst 0, 1) := dk_3 (dk_at dksX5_begins_0 0 rfl rfl)
theorem dX5_begins_1 : decode cX5_begins 1 = .ok (.istore_n 1, 1) := dk_60 (dk_at dksX5_begins_0 1 rfl rfl)
theorem dX5_begins_2 : decode cX5_begins 2 = .ok (.iload_n 1, 1) := dk_27 (dk_at dksX5_begins_0 2 rfl rfl)
theorem dX5_begins_3 : decode cX5_begins 3 = .ok (.bipush 16, 2) := dk_16 16 (dk_at dksX5_begins_0 3 rfl rfl)
theorem dX5_begins_5 : decode cX5_begins 5 = .ok (.if_icmp .ge 23, 3) := dk_162 0 23 (dk_at dksX5_begins_0 5 rfl rfl)
theorem dX5_begins_8 : decode cX5_begins 8 = .ok (.aload_n 0, 1) := dk_42 (dk_at dksX5_begins_0 8 rfl rfl)
theorem dX5_begins_9 : decode cX5_begins 9 = .ok (.getfield 9, 3) := dk_180 0 9 (dk_at dksX5_begins_0 9 rfl rfl)
theorem dX5_begins_12 : decode cX5_begins 12 = .ok (.iload_n 1, 1) := dk_27 (dk_at dksX5_begins_0 12 rfl rfl)
theorem dX5_begins_13 : decode cX5_begins 13 = .ok (.iconst 0, 1) := dk_3 (dk_at dksX5_begins_0 13 rfl rfl)
theorem dX5_begins_14 : decode cX5_begins 14 = .ok (.iastore, 1) := dk_79 (dk_at dksX5_begins_0 14 rfl rfl)
theorem dX5_begins_15 : decode cX5_begins 15 = .ok (.aload_n 0, 1) := dk_42 (dk_at dksX5_begins_0 15 rfl rfl)
theorem dX5_begins_16 : decode cX5_begins 16 = .ok (.getfield 15, 3) := dk_180 0 15 (dk_at dksX5_begins_0 16 rfl rfl)
theorem dX5_begins_19 : decode cX5_begins 19 = .ok (.iload_n 1, 1) := dk_27 (dk_at dksX5_begins_0 19 rfl rfl)
theorem dX5_begins_20 : decode cX5_begins 20 = .ok (.iconst (-1), 1) := dk_2 (dk_at dksX5_begins_0 20 rfl rfl)
theorem dX5_begins_21 : decode cX5_begins 21 = .ok (.iastore, 1) := dk_79 (dk_at dksX5_begins_0 21 rfl rfl)
theorem dX5_begins_22 : decode cX5_begins 22 = .ok (.iinc 1 1, 3) := dk_132 1 1 (dk_at dksX5_begins_1 0 rfl rfl)
theorem dX5_begins_25 : decode cX5_begins 25 = .ok (.goto (-23), 3) := dk_167 255 233 (dk_at dksX5_begins_1 3 rfl rfl)
theorem dX5_begins_28 : decode cX5_begins 28 = .ok (.aload_n 0, 1) := dk_42 (dk_at dksX5_begins_1 6 rfl rfl)
theorem dX5_begins_29 : decode cX5_begins 29 = .ok (.iconst 0, 1) := dk_3 (dk_at dksX5_begins_1 7 rfl rfl)
theorem dX5_begins_30 : decode cX5_begins 30 = .ok (.putfield 37, 3) := dk_181 0 37 (dk_at dksX5_begins_1 8 rfl rfl)
theorem dX5_begins_33 : decode cX5_begins 33 = .ok (.aload_n 0, 1) := dk_42 (dk_at dksX5_begins_1 11 rfl rfl)
theorem dX5_begins_34 : decode cX5_begins 34 = .ok (.iconst 0, 1) := dk_3 (dk_at dksX5_begins_1 12 rfl rfl)
theorem dX5_begins_35 : decode cX5_begins 35 = .ok (.putfield 41, 3) := dk_181 0 41 (dk_at dksX5_begins_1 13 rfl rfl)
theorem dX5_begins_38 : decode cX5_begins 38 = .ok (.aload_n 0, 1) := dk_42 (dk_at dksX5_begins_1 16 rfl rfl)
theorem dX5_begins_39 : decode cX5_begins 39 = .ok (.iconst 0, 1) := dk_3 (dk_at dksX5_begins_1 17 rfl rfl)
theorem dX5_begins_40 : decode cX5_begins 40 = .ok (.putfield 44, 3) := dk_181 0 44 (dk_at dksX5_begins_1 18 rfl rfl)
theorem dX5_begins_43 : decode cX5_begins 43 = .ok (.aload_n 0, 1) := dk_42 (dk_at dksX5_begins_1 21 rfl rfl)
theorem dX5_begins_44 : decode cX5_begins 44 = .ok (.iconst 0, 1) := dk_3 (dk_at dksX5_begins_1 22 rfl rfl)
theorem dX5_begins_45 : decode cX5_begins 45 = .ok (.putfield 47, 3) := dk_181 0 47 (dk_at dksX5_begins_2 0 rfl rfl)
theorem dX5_begins_48 : decode cX5_begins 48 = .ok (.aload_n 0, 1) := dk_42 (dk_at dksX5_begins_2 3 rfl rfl)
theorem dX5_begins_49 : decode cX5_begins 49 = .ok (.iconst 0, 1) := dk_3 (dk_at dksX5_begins_2 4 rfl rfl)
theorem dX5_begins_50 : decode cX5_begins 50 = .ok (.putfield 50, 3) := dk_181 0 50 (dk_at dksX5_begins_2 5 rfl rfl)
theorem dX5_begins_53 : decode cX5_begins 53 = .ok (.aload_n 0, 1) := dk_42 (dk_at dksX5_begins_2 8 rfl rfl)
theorem dX5_begins_54 : decode cX5_begins 54 = .ok (.iconst 0, 1) := dk_3 (dk_at dksX5_begins_2 9 rfl rfl)
theorem dX5_begins_55 : decode cX5_begins 55 = .ok (.putfield 53, 3) := dk_181 0 53 (dk_at dksX5_begins_2 10 rfl rfl)
theorem dX5_begins_58 : decode cX5_begins 58 = .ok (.aload_n 0, 1) := dk_42 (dk_at dksX5_begins_2 13 rfl rfl)
theorem dX5_begins_59 : decode cX5_begins 59 = .ok (.iconst 4, 1) := dk_7 (dk_at dksX5_begins_2 14 rfl rfl)
theorem dX5_begins_60 : decode cX5_begins 60 = .ok (.putfield 56, 3) := dk_181 0 56 (dk_at dksX5_begins_2 15 rfl rfl)
theorem dX5_begins_63 : decode cX5_begins 63 = .ok (.aload_n 0, 1) := dk_42 (dk_at dksX5_begins_2 18 rfl rfl)
theorem dX5_begins_64 : decode cX5_begins 64 = .ok (.iconst (-1), 1) := dk_2 (dk_at dksX5_begins_2 19 rfl rfl)
theorem dX5_begins_65 : decode cX5_begins 65 = .ok (.putfield 59, 3) := dk_181 0 59 (dk_at dksX5_begins_2 20 rfl rfl)
theorem dX5_begins_68 : decode cX5_begins 68 = .ok (.aload_n 0, 1) := dk_42 (dk_at dksX5_begins_2 23 rfl rfl)
theorem dX5_begins_69 : decode cX5_begins 69 = .ok (.iconst (-1), 1) := dk_2 (dk_at dksX5_begins_3 0 rfl rfl)
theorem dX5_begins_70 : decode cX5_begins 70 = .ok (.putfield 62, 3) := dk_181 0 62 (dk_at dksX5_begins_3 1 rfl rfl)
theorem dX5_begins_73 : decode cX5_begins 73 = .ok (.aload_n 0, 1) := dk_42 (dk_at dksX5_begins_3 4 rfl rfl)
theorem dX5_begins_74 : decode cX5_begins 74 = .ok (.iconst (-1), 1) := dk_2 (dk_at dksX5_begins_3 5 rfl rfl)
theorem dX5_begins_75 : decode cX5_begins 75 = .ok (.putfield 65, 3) := dk_181 0 65 (dk_at dksX5_begins_3 6 rfl rfl)
theorem dX5_begins_78 : decode cX5_begins 78 = .ok (.return_, 1) := dk_177 (dk_at dksX5_begins_3 9 rfl rfl)
def dkwX5_bends_5 : List UInt8 := [42, 180, 0, 37, 4, 100, 27, 79, 132, 1, 1, 167, 255, 129, 177]
abbrev dktX5_bends_5 : List UInt8 := dkwX5_bends_5 ++ []
def dkwX5_bends_4 : List UInt8 := [42, 180, 0, 18, 42, 180, 0, 37, 4, 100, 42, 180, 0, 33, 180, 0, 112, 27, 46, 79, 42, 180, 0, 24]
abbrev dktX5_bends_4 : List UInt8 := dkwX5_bends_4 ++ dktX5_bends_5
def dkwX5_bends_3 : List UInt8 := [180, 0, 15, 42, 180, 0, 33, 180, 0, 109, 27, 46, 27, 79, 167, 0, 42, 42, 180, 0, 37, 158, 0, 35]
abbrev dktX5_bends_3 : List UInt8 := dkwX5_bends_3 ++ dktX5_bends_4
def dkwX5_bends_2 : List UInt8 := [180, 0, 9, 42, 180, 0, 33, 180, 0, 109, 27, 46, 42, 180, 0, 33, 180, 0, 112, 27, 46, 79, 42]
abbrev dktX5_bends_2 : List UInt8 := dkwX5_bends_2 ++ dktX5_bends_3
def dkwX5_bends_1 : List UInt8 := [180, 0, 44, 159, 0, 6, 167, 0, 97, 42, 180, 0, 33, 180, 0, 109, 27, 46, 16, 16, 162, 0, 44, 42]
abbrev dktX5_bends_1 : List UInt8 := dkwX5_bends_1 ++ dktX5_bends_2
def dkwX5_bends_0 : List UInt8 := [3, 60, 27, 42, 180, 0, 33, 180, 0, 103, 162, 0, 122, 42, 180, 0, 33, 180, 0, 106, 27, 46, 42]
abbrev dktX5_bends_0 : List UInt8 := dkwX5_bends_0 ++ dktX5_bends_1
theorem dksX5_bends_0 : cX5_bends.data.toList.drop 0 = dktX5_bends_0 := by decide +kernel
theorem dksX5_bends_1 : cX5_bends.data.toList.drop 23 = dktX5_bends_1 := dk_seg dksX5_bends_0 23 rfl rfl
theorem dksX5_bends_2 : cX5_bends.data.toList.drop 47 = dktX5_bends_2 := dk_seg dksX5_bends_1 24 rfl rfl
theorem dksX5_bends_3 : cX5_bends.data.toList.drop 70 = dktX5_bends_3 := dk_seg dksX5_bends_2 23 rfl rfl
theorem dksX5_bends_4 : cX5_bends.data.toList.drop 94 = dktX5_bends_4 := dk_seg dksX5_bends_3 24 rfl rfl
theorem dksX5_bends_5 : cX5_bends.data.toList.drop 118 = dktX5_bends_5 := dk_seg dksX5_bends_4 24 rfl rfl
theorem dX5_bends_0 : decode cX5_bends 0 = .ok (.iconst 0, 1) := dk_3 (dk_at dksX5_bends_0 0 rfl rfl)
theorem dX5_bends_1 : decode cX5_bends 1 = .ok (.istore_n 1, 1) := dk_60 (dk_at dksX5_bends_0 1 rfl rfl)
theorem dX5_bends_2 : decode cX5_bends 2 = .ok (.iload_n 1, 1) := dk_27 (dk_at dksX5_bends_0 2 rfl rfl)
theorem dX5_bends_3 : decode cX5_bends 3 = .ok (.aload_n 0, 1) := dk_42 (dk_at dksX5_bends_0 3 rfl rfl)
theorem dX5_bends_4 : decode cX5_bends 4 = .ok (.getfield 33, 3) := dk_180 0 33 (dk_at dksX5_bends_0 4 rfl rfl)
theorem dX5_bends_7 : decode cX5_bends 7 = .ok (.getfield 103, 3) := dk_180 0 103 (dk_at dksX5_bends_0 7 rfl rfl)
theorem dX5_bends_10 : decode cX5_bends 10 = .ok (.if_icmp .ge 122, 3) := dk_162 0 122 (dk_at dksX5_bends_0 10 rfl rfl)
theorem dX5_bends_13 : decode cX5_bends 13 = .ok (.aload_n 0, 1) := dk_42 (dk_at dksX5_bends_0 13 rfl rfl)
theorem dX5_bends_14 : decode cX5_bends 14 = .ok (.getfield 33, 3) := dk_180 0 33 (dk_at dksX5_bends_0 14 rfl rfl)
theorem dX5_bends_17 : decode cX5_bends 17 = .ok (.getfield 106, 3) := dk_180 0 106 (dk_at dksX5_bends_0 17 rfl rfl)
theorem dX5_bends_20 : decode cX5_bends 20 = .ok (.iload_n 1, 1) := dk_27 (dk_at dksX5_bends_0 20 rfl rfl)
theorem dX5_bends_21 : decode cX5_bends 21 = .ok (.iaload, 1) := dk_46 (dk_at dksX5_bends_0 21 rfl rfl)
theorem dX5_bends_22 : decode cX5_bends 22 = .ok (.aload_n 0, 1) := dk_42 (dk_at dksX5_bends_0 22 rfl rfl)
theorem dX5_bends_23 : decode cX5_bends 23 = .ok (.getfield 44, 3) := dk_180 0 44 (dk_at dksX5_bends_1 0 rfl rfl)
theorem dX5_bends_26 : decode cX5_bends 26 = .ok (.if_icmp .eq 6, 3) := dk_159 0 6 (dk_at dksX5_bends_1 3 rfl rfl)
theorem dX5_bends_29 : decode cX5_bends 29 = .ok (.goto 97, 3) := dk_167 0 97 (dk_at dksX5_bends_1 6 rfl rfl)
theorem dX5_bends_32 : decode cX5_bends 32 = .ok (.aload_n 0, 1) := dk_42 (dk_at dksX5_bends_1 9 rfl rfl)
theorem dX5_bends_33 : decode cX5_bends 33 = .ok (.getfield 33, 3) := dk_180 0 33 (dk_at dksX5_bends_1 10 rfl rfl)
theorem dX5_bends_36 : decode cX5_bends 36 = .ok (.getfield 109, 3) := dk_180 0 109 (dk_at dksX5_bends_1 13 rfl rfl)
theorem dX5_bends_39 : decode cX5_bends 39 = .ok (.iload_n 1, 1) := dk_27 (dk_at dksX5_bends_1 16 rfl rfl)
theorem dX5_bends_40 : decode cX5_bends 40 = .ok (.iaload, 1) := dk_46 (dk_at dksX5_bends_1 17 rfl rfl)
theorem dX5_bends_41 : decode cX5_bends 41 = .ok (.bipush 16, 2) := dk_16 16 (dk_at dksX5_bends_1 18 rfl rfl)
theorem dX5_bends_43 : decode cX5_bends 43 = .ok (.if_icmp .ge 44, 3) := dk_162 0 44 (dk_at dksX5_bends_1 20 rfl rfl)
theorem dX5_bends_46 : decode cX5_bends 46 = .ok (.aload_n 0, 1) := dk_42 (dk_at dksX5_bends_1 23 rfl rfl)
theorem dX5_bends_47 : decode cX5_bends 47 = .ok (.getfield 9, 3) := dk_180 0 9 (dk_at dksX5_bends_2 0 rfl rfl)
theorem dX5_bends_50 : decode cX5_bends 50 = .ok (.aload_n 0, 1) := dk_42 (dk_at dksX5_bends_2 3 rfl rfl)
theorem dX5_bends_51 : decode cX5_bends 51 = .ok (.getfield 33, 3) := dk_180 0 33 (dk_at dksX5_bends_2 4 rfl rfl)
theorem dX5_bends_54 : decode cX5_bends 54 = .ok (.getfield 109, 3) := dk_180 0 109 (dk_at dksX5_bends_2 7 rfl rfl)
theorem dX5_bends_57 : decode cX5_bends 57 = .ok (.iload_n 1, 1) := dk_27 (dk_at dksX5_bends_2 10 rfl rfl)
theorem dX5_bends_58 : decode cX5_bends 58 = .ok (.iaload, 1) := dk_46 (dk_at dksX5_bends_2 11 rfl rfl)
theorem dX5_bends_59 : decode cX5_bends 59 = .ok (.aload_n 0, 1) := dk_42 (dk_at dksX5_bends_2 12 rfl rfl)
theorem dX5_bends_60 : decode cX5_bends 60 = .ok (.getfield 33, 3) := dk_180 0 33 (dk_at dksX5_bends_2 13 rfl rfl)
theorem dX5_bends_63 : decode cX5_bends 63 = .ok (.getfield 112, 3) := dk_180 0 112 (dk_at dksX5_bends_2 16 rfl rfl)
theorem dX5_bends_66 : decode cX5_bends 66 = .ok (.iload_n 1, 1) := dk_27 (dk_at dksX5_bends_2 19 rfl rfl)
theorem dX5_bends_67 : decode cX5_bends 67 = .ok (.iaload, 1) := dk_46 (dk_at dksX5_bends_2 20 rfl rfl)
theorem dX5_bends_68 : decode cX5_bends 68 = .ok (.iastore, 1) := dk_79 (dk_at dksX5_bends_2 21 rfl rfl)
theorem dX5_bends_69 : decode cX5_bends 69 = .ok (.aload_n 0, 1) := dk_42 (dk_at dksX5_bends_2 22 rfl rfl)
theorem dX5_bends_70 : decode cX5_bends 70 = .ok (.getfield 15, 3) := dk_180 0 15 (dk_at dksX5_bends_3 0 rfl rfl)
theorem dX5_bends_73 : decode cX5_bends 73 = .ok (.aload_n 0, 1) := dk_42 (dk_at dksX5_bends_3 3 rfl rfl)
theorem dX5_bends_74 : decode cX5_bends 74 = .ok (.getfield 33, 3) := dk_180 0 33 (dk_at dksX5_bends_3 4 rfl rfl)
theorem dX5_bends_77 : decode cX5_bends 77 = .ok (.getfield 109, 3) := dk_180 0 109 (dk_at dksX5_bends_3 7 rfl rfl)
theorem dX5_bends_80 : decode cX5_bends 80 = .ok (.iload_n 1, 1) := dk_27 (dk_at dksX5_bends_3 10 rfl rfl)
theorem dX5_bends_81 : decode cX5_bends 81 = .ok (.iaload, 1) := dk_46 (dk_at dksX5_bends_3 11 rfl rfl)
theorem dX5_bends_82 : decode cX5_bends 82 = .ok (.iload_n 1, 1) := dk_27 (dk_at dksX5_bends_3 12 rfl rfl)
theorem dX5_bends_83 : decode cX5_bends 83 = .ok (.iastore, 1) := dk_79 (dk_at dksX5_bends_3 13 rfl rfl)
theorem dX5_bends_84 : decode cX5_bends 84 = .ok (.goto 42, 3) := dk_167 0 42 (dk_at dksX5_bends_3 14 rfl rfl)
theorem dX5_bends_87 : decode cX5_bends 87 = .ok (.aload_n 0, 1) := dk_42 (dk_at dksX5_bends_3 17 rfl rfl)
theorem dX5_bends_88 : decode cX5_bends 88 = .ok (.getfield 37, 3) := dk_180 0 37 (dk_at dksX5_bends_3 18 rfl rfl)
theorem dX5_bends_91 : decode cX5_bends 91 = .ok (.ifCond .le 35, 3) := dk_158 0 35 (dk_at dksX5_bends_3 21 rfl rfl)
theorem dX5_bends_94 : decode cX5_bends 94 = .ok (.aload_n 0, 1) := dk_42 (dk_at dksX5_bends_4 0 rfl rfl)
theorem dX5_bends_95 : decode cX5_bends 95 = .ok (.getfield 18, 3) := dk_180 0 18 (dk_at dksX5_bends_4 1 rfl rfl)
theorem dX5_bends_98 : decode cX5_bends 98 = .ok (.aload_n 0, 1) := dk_42 (dk_at dksX5_bends_4 4 rfl rfl)
theorem dX5_bends_99 : decode cX5_bends 99 = .ok (.getfield 37, 3) := dk_180 0 37 (dk_at dksX5_bends_4 5 rfl rfl)
theorem dX5_bends_102 : decode cX5_bends 102 = .ok (.iconst 1, 1) := dk_4 (dk_at dksX5_bends_4 8 rfl rfl)
theorem dX5_bends_103 : decode cX5_bends 103 = .ok (.isub, 1) := dk_100 (dk_at dksX5_bends_4 9 rfl rfl)
theorem dX5_bends_104 : decode cX5_bends 104 = .ok (.aload_n 0, 1) := dk_42 (dk_at dksX5_bends_4 10 rfl rfl)
theorem dX5_bends_105 : decode cX5_bends 105 = .ok (.getfield 33, 3) := dk_180 0 33 (dk_at dksX5_bends_4 11 rfl rfl)
theorem dX5_bends_108 : decode cX5_bends 108 = .ok (.getfield 112, 3) := dk_180 0 112 (dk_at dksX5_bends_4 14 rfl rfl)
theorem dX5_bends_111 : decode cX5_bends 111 = .ok (.iload_n 1, 1) := dk_27 (dk_at dksX5_bends_4 17 rfl rfl)
theorem dX5_bends_112 : decode cX5_bends 112 = .ok (.iaload, 1) := dk_46 (dk_at dksX5_bends_4 18 rfl rfl)
theorem dX5_bends_113 : decode cX5_bends 113 = .ok (.iastore, 1) := dk_79 (dk_at dksX5_bends_4 19 rfl rfl)
theorem dX5_bends_114 : decode cX5_bends 114 = .ok (.aload_n 0, 1) := dk_42 (dk_at dksX5_bends_4 20 rfl rfl)
theorem dX5_bends_115 : decode cX5_bends 115 = .ok (.getfield 24, 3) := dk_180 0 24 (dk_at dksX5_bends_4 21 rfl rfl)
theorem dX5_bends_118 : decode cX5_bends 118 = .ok (.aload_n 0, 1) := dk_42 (dk_at dksX5_bends_5 0 rfl rfl)
theorem dX5_bends_119 : decode cX5_bends 119 = .ok (.getfield 37, 3) := dk_180 0 37 (dk_at dksX5_bends_5 1 rfl rfl)
theorem dX5_bends_122 : decode cX5_bends 122 = .ok (.iconst 1, 1) := dk_4 (dk_at dksX5_bends_5 4 rfl rfl)
theorem dX5_bends_123 : decode cX5_bends 123 = .ok (.isub, 1) := dk_100 (dk_at dksX5_bends_5 5 rfl rfl)
theorem dX5_bends_124 : decode cX5_bends 124 = .ok (.iload_n 1, 1) := dk_27 (dk_at dksX5_bends_5 6 rfl rfl)
theorem dX5_bends_125 : decode cX5_bends 125 = .ok (.iastore, 1) := dk_79 (dk_at dksX5_bends_5 7 rfl rfl)
theorem dX5_bends_126 : decode cX5_bends 126 = .ok (.iinc 1 1, 3) := dk_132 1 1 (dk_at dksX5_bends_5 8 rfl rfl)
theorem dX5_bends_129 : decode cX5_bends 129 = .ok (.goto (-127), 3) := dk_167 255 129 (dk_at dksX5_bends_5 11 rfl rfl)
theorem dX5_bends_132 : decode cX5_bends 132 = .ok (.return_, 1) := dk_177 (dk_at dksX5_bends_5 14 rfl rfl)
def dkwX5_step_4 : List UInt8 := [7, 160, 0, 7, 4, 167, 0, 4, 3, 172]
abbrev dktX5_step_4 : List UInt8 := dkwX5_step_4 ++ []
def dkwX5_step_3 : List UInt8 := [180, 0, 44, 27, 79, 42, 89, 180, 0, 44, 4, 96, 181, 0, 44, 42, 28, 181, 0, 41, 42, 180, 0, 56]
abbrev dktX5_step_3 : List UInt8 := dkwX5_step_3 ++ dktX5_step_4
def dkwX5_step_2 : List UInt8 := [182, 0, 118, 61, 42, 180, 0, 56, 7, 159, 0, 10, 42, 180, 0, 56, 154, 0, 23, 42, 180, 0, 27, 42]
abbrev dktX5_step_2 : List UInt8 := dkwX5_step_2 ++ dktX5_step_3
def dkwX5_step_1 : List UInt8 := [182, 0, 115, 87, 167, 0, 63, 42, 180, 0, 41, 60, 42, 180, 0, 33, 180, 0, 73, 27, 50, 42, 27]
abbrev dktX5_step_1 : List UInt8 := dkwX5_step_1 ++ dktX5_step_2
def dkwX5_step_0 : List UInt8 := [42, 180, 0, 41, 155, 0, 17, 42, 180, 0, 41, 42, 180, 0, 33, 180, 0, 83, 161, 0, 11, 42]
abbrev dktX5_step_0 : List UInt8 := dkwX5_step_0 ++ dktX5_step_1
theorem dksX5_step_0 : cX5_step.data.toList.drop 0 = dktX5_step_0 := by decide +kernel
theorem dksX5_step_1 : cX5_step.data.toList.drop 22 = dktX5_step_1 := dk_seg dksX5_step_0 22 rfl rfl
theorem dksX5_step_2 : cX5_step.data.toList.drop 45 = dktX5_step_2 := dk_seg dksX5_step_1 23 rfl rfl
theorem dksX5_step_3 : cX5_step.data.toList.drop 69 = dktX5_step_3 := dk_seg dksX5_step_2 24 rfl rfl
theorem dksX5_step_4 : cX5_step.data.toList.drop 93 = dktX5_step_4 := dk_seg dksX5_step_3 24 rfl rfl
theorem dX5_step_0 : decode cX5_step 0 = .ok (.aload_n 0, 1) := dk_42 (dk_at dksX5_step_0 0 rfl rfl)
theorem dX5_step_1 : decode cX5_step 1 = .ok (.getfield 41, 3) := dk_180 0 41 (dk_at dksX5_step_0 1 rfl rfl)
theorem dX5_step_4 : decode cX5_step 4 = .ok (.ifCond .lt 17, 3) := dk_155 0 17 (dk_at dksX5_step_0 4 rfl rfl)
theorem dX5_step_7 : decode cX5_step 7 = .ok (.aload_n 0, 1) := dk_42 (dk_at dksX5_step_0 7 rfl rfl)
theorem dX5_step_8 : decode cX5_step 8 = .ok (.getfield 41, 3) := dk_180 0 41 (dk_at dksX5_step_0 8 rfl rfl)
theorem dX5_step_11 : decode cX5_step 11 = .ok (.aload_n 0, 1) := dk_42 (dk_at dksX5_step_0 11 rfl rfl)
theorem dX5_step_12 : decode cX5_step 12 = .ok (.getfield 33, 3) := dk_180 0 33 (dk_at dksX5_step_0 12 rfl rfl)
theorem dX5_step_15 : decode cX5_step 15 = .ok (.getfield 83, 3) := dk_180 0 83 (dk_at dksX5_step_0 15 rfl rfl)
theorem dX5_step_18 : decode cX5_step 18 = .ok (.if_icmp .lt 11, 3) := dk_161 0 11 (dk_at dksX5_step_0 18 rfl rfl)
theorem dX5_step_21 : decode cX5_step 21 = .ok (.aload_n 0, 1) := dk_42 (dk_at dksX5_step_0 21 rfl rfl)
theorem dX5_step_22 : decode cX5_step 22 = .ok (.invokevirtual 115, 3) := dk_182 0 115 (dk_at dksX5_step_1 0 rfl rfl)
theorem dX5_step_25 : decode cX5_step 25 = .ok (.pop, 1) := dk_87 (dk_at dksX5_step_1 3 rfl rfl)
theorem dX5_step_26 : decode cX5_step 26 = .ok (.goto 63, 3) := dk_167 0 63 (dk_at dksX5_step_1 4 rfl rfl)
theorem dX5_step_29 : decode cX5_step 29 = .ok (.aload_n 0, 1) := dk_42 (dk_at dksX5_step_1 7 rfl rfl)
theorem dX5_step_30 : decode cX5_step 30 = .ok (.getfield 41, 3) := dk_180 0 41 (dk_at dksX5_step_1 8 rfl rfl)
theorem dX5_step_33 : decode cX5_step 33 = .ok (.istore_n 1, 1) := dk_60 (dk_at dksX5_step_1 11 rfl rfl)
theorem dX5_step_34 : decode cX5_step 34 = .ok (.aload_n 0, 1) := dk_42 (dk_at dksX5_step_1 12 rfl rfl)
theorem dX5_step_35 : decode cX5_step 35 = .ok (.getfield 33, 3) := dk_180 0 33 (dk_at dksX5_step_1 13 rfl rfl)
theorem dX5_step_38 : decode cX5_step 38 = .ok (.getfield 73, 3) := dk_180 0 73 (dk_at dksX5_step_1 16 rfl rfl)
theorem dX5_step_41 : decode cX5_step 41 = .ok (.iload_n 1, 1) := dk_27 (dk_at dksX5_step_1 19 rfl rfl)
theorem dX5_step_42 : decode cX5_step 42 = .ok (.aaload, 1) := dk_50 (dk_at dksX5_step_1 20 rfl rfl)
theorem dX5_step_43 : decode cX5_step 43 = .ok (.aload_n 0, 1) := dk_42 (dk_at dksX5_step_1 21 rfl rfl)
theorem dX5_step_44 : decode cX5_step 44 = .ok (.iload_n 1, 1) := dk_27 (dk_at dksX5_step_1 22 rfl rfl)
theorem dX5_step_45 : decode cX5_step 45 = .ok (.invokevirtual 118, 3) := dk_182 0 118 (dk_at dksX5_step_2 0 rfl rfl)
theorem dX5_step_48 : decode cX5_step 48 = .ok (.istore_n 2, 1) := dk_61 (dk_at dksX5_step_2 3 rfl rfl)
theorem dX5_step_49 : decode cX5_step 49 = .ok (.aload_n 0, 1) := dk_42 (dk_at dksX5_step_2 4 rfl rfl)
theorem dX5_step_50 : decode cX5_step 50 = .ok (.getfield 56, 3) := dk_180 0 56 (dk_at dksX5_step_2 5 rfl rfl)
theorem dX5_step_53 : decode cX5_step 53 = .ok (.iconst 4, 1) := dk_7 (dk_at dksX5_step_2 8 rfl rfl)
theorem dX5_step_54 : decode cX5_step 54 = .ok (.if_icmp .eq 10, 3) := dk_159 0 10 (dk_at dksX5_step_2 9 rfl rfl)
theorem dX5_step_57 : decode cX5_step 57 = .ok (.aload_n 0, 1) := dk_42 (dk_at dksX5_step_2 12 rfl rfl)
theorem dX5_step_58 : decode cX5_step 58 = .ok (.getfield 56, 3) := dk_180 0 56 (dk_at dksX5_step_2 13 rfl rfl)
theorem dX5_step_61 : decode cX5_step 61 = .ok (.ifCond .ne 23, 3) := dk_154 0 23 (dk_at dksX5_step_2 16 rfl rfl)
theorem dX5_step_64 : decode cX5_step 64 = .ok (.aload_n 0, 1) := dk_42 (dk_at dksX5_step_2 19 rfl rfl)
theorem dX5_step_65 : decode cX5_step 65 = .ok (.getfield 27, 3) := dk_180 0 27 (dk_at dksX5_step_2 20 rfl rfl)
theorem dX5_step_68 : decode cX5_step 68 = .ok (.aload_n 0, 1) := dk_42 (dk_at dksX5_step_2 23 rfl rfl)
theorem dX5_step_69 : decode cX5_step 69 = .ok (.getfield 44, 3) := dk_180 0 44 (dk_at dksX5_step_3 0 rfl rfl)
theorem dX5_step_72 : decode cX5_step 72 = .ok (.iload_n 1, 1) := dk_27 (dk_at dksX5_step_3 3 rfl rfl)
theorem dX5_step_73 : decode cX5_step 73 = .ok (.iastore, 1) := dk_79 (dk_at dksX5_step_3 4 rfl rfl)
theorem dX5_step_74 : decode cX5_step 74 = .ok (.aload_n 0, 1) := dk_42 (dk_at dksX5_step_3 5 rfl rfl)
theorem dX5_step_75 : decode cX5_step 75 = .ok (.dup, 1) := dk_89 (dk_at dksX5_step_3 6 rfl rfl)
theorem dX5_step_76 : decode cX5_step 76 = .ok (.getfield 44, 3) := dk_180 0 44 (dk_at dksX5_step_3 7 rfl rfl)
theorem dX5_step_79 : decode cX5_step 79 = .ok (.iconst 1, 1) := dk_4 (dk_at dksX5_step_3 10 rfl rfl)
theorem dX5_step_80 : decode cX5_step 80 = .ok (.iadd, 1) := dk_96 (dk_at dksX5_step_3 11 rfl rfl)
theorem dX5_step_81 : decode cX5_step 81 = .ok (.putfield 44, 3) := dk_181 0 44 (dk_at dksX5_step_3 12 rfl rfl)
theorem dX5_step_84 : decode cX5_step 84 = .ok (.aload_n 0, 1) := dk_42 (dk_at dksX5_step_3 15 rfl rfl)
theorem dX5_step_85 : decode cX5_step 85 = .ok (.iload_n 2, 1) := dk_28 (dk_at dksX5_step_3 16 rfl rfl)
theorem dX5_step_86 : decode cX5_step 86 = .ok (.putfield 41, 3) := dk_181 0 41 (dk_at dksX5_step_3 17 rfl rfl)
theorem dX5_step_89 : decode cX5_step 89 = .ok (.aload_n 0, 1) := dk_42 (dk_at dksX5_step_3 20 rfl rfl)
theorem dX5_step_90 : decode cX5_step 90 = .ok (.getfield 56, 3) := dk_180 0 56 (dk_at dksX5_step_3 21 rfl rfl)
theorem dX5_step_93 : decode cX5_step 93 = .ok (.iconst 4, 1) := dk_7 (dk_at dksX5_step_4 0 rfl rfl)
theorem dX5_step_94 : decode cX5_step 94 = .ok (.if_icmp .ne 7, 3) := dk_160 0 7 (dk_at dksX5_step_4 1 rfl rfl)
theorem dX5_step_97 : decode cX5_step 97 = .ok (.iconst 1, 1) := dk_4 (dk_at dksX5_step_4 4 rfl rfl)
theorem dX5_step_98 : decode cX5_step 98 = .ok (.goto 4, 3) := dk_167 0 4 (dk_at dksX5_step_4 5 rfl rfl)
theorem dX5_step_101 : decode cX5_step 101 = .ok (.iconst 0, 1) := dk_3 (dk_at dksX5_step_4 8 rfl rfl)
theorem dX5_step_102 : decode cX5_step 102 = .ok (.ireturn, 1) := dk_172 (dk_at dksX5_step_4 9 rfl rfl)
def dkwX5_trap_0 : List UInt8 := [42, 6, 181, 0, 56, 42, 180, 0, 41, 172]
abbrev dktX5_trap_0 : List UInt8 := dkwX5_trap_0 ++ []
theorem dksX5_trap_0 : cX5_trap.data.toList.drop 0 = dktX5_trap_0 := by decide +kernel
theorem dX5_trap_0 : decode cX5_trap 0 = .ok (.aload_n 0, 1) := dk_42 (dk_at dksX5_trap_0 0 rfl rfl)
theorem dX5_trap_1 : decode cX5_trap 1 = .ok (.iconst 3, 1) := dk_6 (dk_at dksX5_trap_0 1 rfl rfl)
theorem dX5_trap_2 : decode cX5_trap 2 = .ok (.putfield 56, 3) := dk_181 0 56 (dk_at dksX5_trap_0 2 rfl rfl)
theorem dX5_trap_5 : decode cX5_trap 5 = .ok (.aload_n 0, 1) := dk_42 (dk_at dksX5_trap_0 5 rfl rfl)
theorem dX5_trap_6 : decode cX5_trap 6 = .ok (.getfield 41, 3) := dk_180 0 41 (dk_at dksX5_trap_0 6 rfl rfl)
theorem dX5_trap_9 : decode cX5_trap 9 = .ok (.ireturn, 1) := dk_172 (dk_at dksX5_trap_0 9 rfl rfl)
def dkwX5_lands_5 : List UInt8 := [180, 0, 101, 42, 180, 0, 33, 180, 0, 68, 27, 46, 46, 96, 181, 0, 47, 28, 172]
abbrev dktX5_lands_5 : List UInt8 := dkwX5_lands_5 ++ []
def dkwX5_lands_4 : List UInt8 := [181, 0, 65, 42, 89, 180, 0, 53, 4, 96, 181, 0, 53, 42, 89, 180, 0, 47, 42, 180, 0, 33]
abbrev dktX5_lands_4 : List UInt8 := dkwX5_lands_4 ++ dktX5_lands_5
def dkwX5_lands_3 : List UInt8 := [27, 50, 182, 0, 98, 46, 181, 0, 59, 27, 172, 42, 180, 0, 65, 2, 160, 0, 11, 42, 42, 180, 0, 53]
abbrev dktX5_lands_3 : List UInt8 := dkwX5_lands_3 ++ dktX5_lands_4
def dkwX5_lands_2 : List UInt8 := [180, 0, 24, 42, 180, 0, 37, 4, 100, 46, 167, 0, 20, 42, 180, 0, 15, 42, 180, 0, 33, 180, 0, 73]
abbrev dktX5_lands_2 : List UInt8 := dkwX5_lands_2 ++ dktX5_lands_3
def dkwX5_lands_1 : List UInt8 := [181, 0, 62, 42, 42, 180, 0, 33, 180, 0, 73, 27, 50, 182, 0, 77, 16, 7, 160, 0, 17, 42]
abbrev dktX5_lands_1 : List UInt8 := dkwX5_lands_1 ++ dktX5_lands_2
def dkwX5_lands_0 : List UInt8 := [42, 27, 28, 182, 0, 90, 154, 0, 90, 42, 180, 0, 94, 153, 0, 67, 42, 4, 181, 0, 56, 42, 28]
abbrev dktX5_lands_0 : List UInt8 := dkwX5_lands_0 ++ dktX5_lands_1
theorem dksX5_lands_0 : cX5_lands.data.toList.drop 0 = dktX5_lands_0 := by decide +kernel
theorem dksX5_lands_1 : cX5_lands.data.toList.drop 23 = dktX5_lands_1 := dk_seg dksX5_lands_0 23 rfl rfl
theorem dksX5_lands_2 : cX5_lands.data.toList.drop 45 = dktX5_lands_2 := dk_seg dksX5_lands_1 22 rfl rfl
theorem dksX5_lands_3 : cX5_lands.data.toList.drop 69 = dktX5_lands_3 := dk_seg dksX5_lands_2 24 rfl rfl
theorem dksX5_lands_4 : cX5_lands.data.toList.drop 93 = dktX5_lands_4 := dk_seg dksX5_lands_3 24 rfl rfl
theorem dksX5_lands_5 : cX5_lands.data.toList.drop 115 = dktX5_lands_5 := dk_seg dksX5_lands_4 22 rfl rfl
theorem dX5_lands_0 : decode cX5_lands 0 = .ok (.aload_n 0, 1) := dk_42 (dk_at dksX5_lands_0 0 rfl rfl)
theorem dX5_lands_1 : decode cX5_lands 1 = .ok (.iload_n 1, 1) := dk_27 (dk_at dksX5_lands_0 1 rfl rfl)
theorem dX5_lands_2 : decode cX5_lands 2 = .ok (.iload_n 2, 1) := dk_28 (dk_at dksX5_lands_0 2 rfl rfl)
theorem dX5_lands_3 : decode cX5_lands 3 = .ok (.invokevirtual 90, 3) := dk_182 0 90 (dk_at dksX5_lands_0 3 rfl rfl)
theorem dX5_lands_6 : decode cX5_lands 6 = .ok (.ifCond .ne 90, 3) := dk_154 0 90 (dk_at dksX5_lands_0 6 rfl rfl)
theorem dX5_lands_9 : decode cX5_lands 9 = .ok (.aload_n 0, 1) := dk_42 (dk_at dksX5_lands_0 9 rfl rfl)
theorem dX5_lands_10 : decode cX5_lands 10 = .ok (.getfield 94, 3) := dk_180 0 94 (dk_at dksX5_lands_0 10 rfl rfl)
theorem dX5_lands_13 : decode cX5_lands 13 = .ok (.ifCond .eq 67, 3) := dk_153 0 67 (dk_at dksX5_lands_0 13 rfl rfl)
theorem dX5_lands_16 : decode cX5_lands 16 = .ok (.aload_n 0, 1) := dk_42 (dk_at dksX5_lands_0 16 rfl rfl)
theorem dX5_lands_17 : decode cX5_lands 17 = .ok (.iconst 1, 1) := dk_4 (dk_at dksX5_lands_0 17 rfl rfl)
theorem dX5_lands_18 : decode cX5_lands 18 = .ok (.putfield 56, 3) := dk_181 0 56 (dk_at dksX5_lands_0 18 rfl rfl)
theorem dX5_lands_21 : decode cX5_lands 21 = .ok (.aload_n 0, 1) := dk_42 (dk_at dksX5_lands_0 21 rfl rfl)
theorem dX5_lands_22 : decode cX5_lands 22 = .ok (.iload_n 2, 1) := dk_28 (dk_at dksX5_lands_0 22 rfl rfl)
theorem dX5_lands_23 : decode cX5_lands 23 = .ok (.putfield 62, 3) := dk_181 0 62 (dk_at dksX5_lands_1 0 rfl rfl)
theorem dX5_lands_26 : decode cX5_lands 26 = .ok (.aload_n 0, 1) := dk_42 (dk_at dksX5_lands_1 3 rfl rfl)
theorem dX5_lands_27 : decode cX5_lands 27 = .ok (.aload_n 0, 1) := dk_42 (dk_at dksX5_lands_1 4 rfl rfl)
theorem dX5_lands_28 : decode cX5_lands 28 = .ok (.getfield 33, 3) := dk_180 0 33 (dk_at dksX5_lands_1 5 rfl rfl)
theorem dX5_lands_31 : decode cX5_lands 31 = .ok (.getfield 73, 3) := dk_180 0 73 (dk_at dksX5_lands_1 8 rfl rfl)
theorem dX5_lands_34 : decode cX5_lands 34 = .ok (.iload_n 1, 1) := dk_27 (dk_at dksX5_lands_1 11 rfl rfl)
theorem dX5_lands_35 : decode cX5_lands 35 = .ok (.aaload, 1) := dk_50 (dk_at dksX5_lands_1 12 rfl rfl)
theorem dX5_lands_36 : decode cX5_lands 36 = .ok (.invokevirtual 77, 3) := dk_182 0 77 (dk_at dksX5_lands_1 13 rfl rfl)
theorem dX5_lands_39 : decode cX5_lands 39 = .ok (.bipush 7, 2) := dk_16 7 (dk_at dksX5_lands_1 16 rfl rfl)
theorem dX5_lands_41 : decode cX5_lands 41 = .ok (.if_icmp .ne 17, 3) := dk_160 0 17 (dk_at dksX5_lands_1 18 rfl rfl)
theorem dX5_lands_44 : decode cX5_lands 44 = .ok (.aload_n 0, 1) := dk_42 (dk_at dksX5_lands_1 21 rfl rfl)
theorem dX5_lands_45 : decode cX5_lands 45 = .ok (.getfield 24, 3) := dk_180 0 24 (dk_at dksX5_lands_2 0 rfl rfl)
theorem dX5_lands_48 : decode cX5_lands 48 = .ok (.aload_n 0, 1) := dk_42 (dk_at dksX5_lands_2 3 rfl rfl)
theorem dX5_lands_49 : decode cX5_lands 49 = .ok (.getfield 37, 3) := dk_180 0 37 (dk_at dksX5_lands_2 4 rfl rfl)
theorem dX5_lands_52 : decode cX5_lands 52 = .ok (.iconst 1, 1) := dk_4 (dk_at dksX5_lands_2 7 rfl rfl)
theorem dX5_lands_53 : decode cX5_lands 53 = .ok (.isub, 1) := dk_100 (dk_at dksX5_lands_2 8 rfl rfl)
theorem dX5_lands_54 : decode cX5_lands 54 = .ok (.iaload, 1) := dk_46 (dk_at dksX5_lands_2 9 rfl rfl)
theorem dX5_lands_55 : decode cX5_lands 55 = .ok (.goto 20, 3) := dk_167 0 20 (dk_at dksX5_lands_2 10 rfl rfl)
theorem dX5_lands_58 : decode cX5_lands 58 = .ok (.aload_n 0, 1) := dk_42 (dk_at dksX5_lands_2 13 rfl rfl)
theorem dX5_lands_59 : decode cX5_lands 59 = .ok (.getfield 15, 3) := dk_180 0 15 (dk_at dksX5_lands_2 14 rfl rfl)
theorem dX5_lands_62 : decode cX5_lands 62 = .ok (.aload_n 0, 1) := dk_42 (dk_at dksX5_lands_2 17 rfl rfl)
theorem dX5_lands_63 : decode cX5_lands 63 = .ok (.getfield 33, 3) := dk_180 0 33 (dk_at dksX5_lands_2 18 rfl rfl)
theorem dX5_lands_66 : decode cX5_lands 66 = .ok (.getfield 73, 3) := dk_180 0 73 (dk_at dksX5_lands_2 21 rfl rfl)
theorem dX5_lands_69 : decode cX5_lands 69 = .ok (.iload_n 1, 1) := dk_27 (dk_at dksX5_lands_3 0 rfl rfl)
theorem dX5_lands_70 : decode cX5_lands 70 = .ok (.aaload, 1) := dk_50 (dk_at dksX5_lands_3 1 rfl rfl)
theorem dX5_lands_71 : decode cX5_lands 71 = .ok (.invokevirtual 98, 3) := dk_182 0 98 (dk_at dksX5_lands_3 2 rfl rfl)
theorem dX5_lands_74 : decode cX5_lands 74 = .ok (.iaload, 1) := dk_46 (dk_at dksX5_lands_3 5 rfl rfl)
theorem dX5_lands_75 : decode cX5_lands 75 = .ok (.putfield 59, 3) := dk_181 0 59 (dk_at dksX5_lands_3 6 rfl rfl)
theorem dX5_lands_78 : decode cX5_lands 78 = .ok (.iload_n 1, 1) := dk_27 (dk_at dksX5_lands_3 9 rfl rfl)
theorem dX5_lands_79 : decode cX5_lands 79 = .ok (.ireturn, 1) := dk_172 (dk_at dksX5_lands_3 10 rfl rfl)
theorem dX5_lands_80 : decode cX5_lands 80 = .ok (.aload_n 0, 1) := dk_42 (dk_at dksX5_lands_3 11 rfl rfl)
theorem dX5_lands_81 : decode cX5_lands 81 = .ok (.getfield 65, 3) := dk_180 0 65 (dk_at dksX5_lands_3 12 rfl rfl)
theorem dX5_lands_84 : decode cX5_lands 84 = .ok (.iconst (-1), 1) := dk_2 (dk_at dksX5_lands_3 15 rfl rfl)
theorem dX5_lands_85 : decode cX5_lands 85 = .ok (.if_icmp .ne 11, 3) := dk_160 0 11 (dk_at dksX5_lands_3 16 rfl rfl)
theorem dX5_lands_88 : decode cX5_lands 88 = .ok (.aload_n 0, 1) := dk_42 (dk_at dksX5_lands_3 19 rfl rfl)
theorem dX5_lands_89 : decode cX5_lands 89 = .ok (.aload_n 0, 1) := dk_42 (dk_at dksX5_lands_3 20 rfl rfl)
theorem dX5_lands_90 : decode cX5_lands 90 = .ok (.getfield 53, 3) := dk_180 0 53 (dk_at dksX5_lands_3 21 rfl rfl)
theorem dX5_lands_93 : decode cX5_lands 93 = .ok (.putfield 65, 3) := dk_181 0 65 (dk_at dksX5_lands_4 0 rfl rfl)
theorem dX5_lands_96 : decode cX5_lands 96 = .ok (.aload_n 0, 1) := dk_42 (dk_at dksX5_lands_4 3 rfl rfl)
theorem dX5_lands_97 : decode cX5_lands 97 = .ok (.dup, 1) := dk_89 (dk_at dksX5_lands_4 4 rfl rfl)
theorem dX5_lands_98 : decode cX5_lands 98 = .ok (.getfield 53, 3) := dk_180 0 53 (dk_at dksX5_lands_4 5 rfl rfl)
theorem dX5_lands_101 : decode cX5_lands 101 = .ok (.iconst 1, 1) := dk_4 (dk_at dksX5_lands_4 8 rfl rfl)
theorem dX5_lands_102 : decode cX5_lands 102 = .ok (.iadd, 1) := dk_96 (dk_at dksX5_lands_4 9 rfl rfl)
theorem dX5_lands_103 : decode cX5_lands 103 = .ok (.putfield 53, 3) := dk_181 0 53 (dk_at dksX5_lands_4 10 rfl rfl)
theorem dX5_lands_106 : decode cX5_lands 106 = .ok (.aload_n 0, 1) := dk_42 (dk_at dksX5_lands_4 13 rfl rfl)
theorem dX5_lands_107 : decode cX5_lands 107 = .ok (.dup, 1) := dk_89 (dk_at dksX5_lands_4 14 rfl rfl)
theorem dX5_lands_108 : decode cX5_lands 108 = .ok (.getfield 47, 3) := dk_180 0 47 (dk_at dksX5_lands_4 15 rfl rfl)
theorem dX5_lands_111 : decode cX5_lands 111 = .ok (.aload_n 0, 1) := dk_42 (dk_at dksX5_lands_4 18 rfl rfl)
theorem dX5_lands_112 : decode cX5_lands 112 = .ok (.getfield 33, 3) := dk_180 0 33 (dk_at dksX5_lands_4 19 rfl rfl)
theorem dX5_lands_115 : decode cX5_lands 115 = .ok (.getfield 101, 3) := dk_180 0 101 (dk_at dksX5_lands_5 0 rfl rfl)
theorem dX5_lands_118 : decode cX5_lands 118 = .ok (.aload_n 0, 1) := dk_42 (dk_at dksX5_lands_5 3 rfl rfl)
theorem dX5_lands_119 : decode cX5_lands 119 = .ok (.getfield 33, 3) := dk_180 0 33 (dk_at dksX5_lands_5 4 rfl rfl)
theorem dX5_lands_122 : decode cX5_lands 122 = .ok (.getfield 68, 3) := dk_180 0 68 (dk_at dksX5_lands_5 7 rfl rfl)
theorem dX5_lands_125 : decode cX5_lands 125 = .ok (.iload_n 1, 1) := dk_27 (dk_at dksX5_lands_5 10 rfl rfl)
theorem dX5_lands_126 : decode cX5_lands 126 = .ok (.iaload, 1) := dk_46 (dk_at dksX5_lands_5 11 rfl rfl)
theorem dX5_lands_127 : decode cX5_lands 127 = .ok (.iaload, 1) := dk_46 (dk_at dksX5_lands_5 12 rfl rfl)
theorem dX5_lands_128 : decode cX5_lands 128 = .ok (.iadd, 1) := dk_96 (dk_at dksX5_lands_5 13 rfl rfl)
theorem dX5_lands_129 : decode cX5_lands 129 = .ok (.putfield 47, 3) := dk_181 0 47 (dk_at dksX5_lands_5 14 rfl rfl)
theorem dX5_lands_132 : decode cX5_lands 132 = .ok (.iload_n 2, 1) := dk_28 (dk_at dksX5_lands_5 17 rfl rfl)
theorem dX5_lands_133 : decode cX5_lands 133 = .ok (.ireturn, 1) := dk_172 (dk_at dksX5_lands_5 18 rfl rfl)
def dkwX5_isLet_4 : List UInt8 := [182, 0, 86, 28, 123, 10, 127, 10, 148, 154, 0, 7, 4, 167, 0, 4, 3, 172]
abbrev dktX5_isLet_4 : List UInt8 := dkwX5_isLet_4 ++ []
def dkwX5_isLet_3 : List UInt8 := [167, 0, 41, 28, 155, 0, 36, 28, 42, 180, 0, 33, 180, 0, 83, 162, 0, 25, 42, 180, 0, 33, 27, 29]
abbrev dktX5_isLet_3 : List UInt8 := dkwX5_isLet_3 ++ dktX5_isLet_4
def dkwX5_isLet_2 : List UInt8 := [160, 0, 26, 28, 42, 180, 0, 21, 42, 180, 0, 37, 4, 100, 46, 160, 0, 7, 4, 167, 0, 45, 3]
abbrev dktX5_isLet_2 : List UInt8 := dkwX5_isLet_2 ++ dktX5_isLet_3
def dkwX5_isLet_1 : List UInt8 := [50, 182, 0, 77, 16, 7, 160, 0, 7, 4, 167, 0, 4, 3, 54, 4, 21, 4, 153, 0, 31, 29, 6]
abbrev dktX5_isLet_1 : List UInt8 := dkwX5_isLet_1 ++ dktX5_isLet_2
def dkwX5_isLet_0 : List UInt8 := [42, 180, 0, 33, 180, 0, 68, 27, 46, 62, 29, 154, 0, 5, 4, 172, 42, 180, 0, 33, 180, 0, 73, 27]
abbrev dktX5_isLet_0 : List UInt8 := dkwX5_isLet_0 ++ dktX5_isLet_1
theorem dksX5_isLet_0 : cX5_isLet.data.toList.drop 0 = dktX5_isLet_0 := by decide +kernel
theorem dksX5_isLet_1 : cX5_isLet.data.toList.drop 24 = dktX5_isLet_1 := dk_seg dksX5_isLet_0 24 rfl rfl
theorem dksX5_isLet_2 : cX5_isLet.data.toList.drop 47 = dktX5_isLet_2 := dk_seg dksX5_isLet_1 23 rfl rfl
theorem dksX5_isLet_3 : cX5_isLet.data.toList.drop 70 = dktX5_isLet_3 := dk_seg dksX5_isLet_2 23 rfl rfl
theorem dksX5_isLet_4 : cX5_isLet.data.toList.drop 94 = dktX5_isLet_4 := dk_seg dksX5_isLet_3 24 rfl rfl
theorem dX5_isLet_0 : decode cX5_isLet 0 = .ok (.aload_n 0, 1) := dk_42 (dk_at dksX5_isLet_0 0 rfl rfl)
theorem dX5_isLet_1 : decode cX5_isLet 1 = .ok (.getfield 33, 3) := dk_180 0 33 (dk_at dksX5_isLet_0 1 rfl rfl)
theorem dX5_isLet_4 : decode cX5_isLet 4 = .ok (.getfield 68, 3) := dk_180 0 68 (dk_at dksX5_isLet_0 4 rfl rfl)
theorem dX5_isLet_7 : decode cX5_isLet 7 = .ok (.iload_n 1, 1) := dk_27 (dk_at dksX5_isLet_0 7 rfl rfl)
theorem dX5_isLet_8 : decode cX5_isLet 8 = .ok (.iaload, 1) := dk_46 (dk_at dksX5_isLet_0 8 rfl rfl)
theorem dX5_isLet_9 : decode cX5_isLet 9 = .ok (.istore_n 3, 1) := dk_62 (dk_at dksX5_isLet_0 9 rfl rfl)
theorem dX5_isLet_10 : decode cX5_isLet 10 = .ok (.iload_n 3, 1) := dk_29 (dk_at dksX5_isLet_0 10 rfl rfl)
theorem dX5_isLet_11 : decode cX5_isLet 11 = .ok (.ifCond .ne 5, 3) := dk_154 0 5 (dk_at dksX5_isLet_0 11 rfl rfl)
theorem dX5_isLet_14 : decode cX5_isLet 14 = .ok (.iconst 1, 1) := dk_4 (dk_at dksX5_isLet_0 14 rfl rfl)
theorem dX5_isLet_15 : decode cX5_isLet 15 = .ok (.ireturn, 1) := dk_172 (dk_at dksX5_isLet_0 15 rfl rfl)
theorem dX5_isLet_16 : decode cX5_isLet 16 = .ok (.aload_n 0, 1) := dk_42 (dk_at dksX5_isLet_0 16 rfl rfl)
theorem dX5_isLet_17 : decode cX5_isLet 17 = .ok (.getfield 33, 3) := dk_180 0 33 (dk_at dksX5_isLet_0 17 rfl rfl)
theorem dX5_isLet_20 : decode cX5_isLet 20 = .ok (.getfield 73, 3) := dk_180 0 73 (dk_at dksX5_isLet_0 20 rfl rfl)
theorem dX5_isLet_23 : decode cX5_isLet 23 = .ok (.iload_n 1, 1) := dk_27 (dk_at dksX5_isLet_0 23 rfl rfl)
theorem dX5_isLet_24 : decode cX5_isLet 24 = .ok (.aaload, 1) := dk_50 (dk_at dksX5_isLet_1 0 rfl rfl)
theorem dX5_isLet_25 : decode cX5_isLet 25 = .ok (.invokevirtual 77, 3) := dk_182 0 77 (dk_at dksX5_isLet_1 1 rfl rfl)
theorem dX5_isLet_28 : decode cX5_isLet 28 = .ok (.bipush 7, 2) := dk_16 7 (dk_at dksX5_isLet_1 4 rfl rfl)
theorem dX5_isLet_30 : decode cX5_isLet 30 = .ok (.if_icmp .ne 7, 3) := dk_160 0 7 (dk_at dksX5_isLet_1 6 rfl rfl)
theorem dX5_isLet_33 : decode cX5_isLet 33 = .ok (.iconst 1, 1) := dk_4 (dk_at dksX5_isLet_1 9 rfl rfl)
theorem dX5_isLet_34 : decode cX5_isLet 34 = .ok (.goto 4, 3) := dk_167 0 4 (dk_at dksX5_isLet_1 10 rfl rfl)
theorem dX5_isLet_37 : decode cX5_isLet 37 = .ok (.iconst 0, 1) := dk_3 (dk_at dksX5_isLet_1 13 rfl rfl)
theorem dX5_isLet_38 : decode cX5_isLet 38 = .ok (.istore 4, 2) := dk_54 4 (dk_at dksX5_isLet_1 14 rfl rfl)
theorem dX5_isLet_40 : decode cX5_isLet 40 = .ok (.iload 4, 2) := dk_21 4 (dk_at dksX5_isLet_1 16 rfl rfl)
theorem dX5_isLet_42 : decode cX5_isLet 42 = .ok (.ifCond .eq 31, 3) := dk_153 0 31 (dk_at dksX5_isLet_1 18 rfl rfl)
theorem dX5_isLet_45 : decode cX5_isLet 45 = .ok (.iload_n 3, 1) := dk_29 (dk_at dksX5_isLet_1 21 rfl rfl)
theorem dX5_isLet_46 : decode cX5_isLet 46 = .ok (.iconst 3, 1) := dk_6 (dk_at dksX5_isLet_1 22 rfl rfl)
theorem dX5_isLet_47 : decode cX5_isLet 47 = .ok (.if_icmp .ne 26, 3) := dk_160 0 26 (dk_at dksX5_isLet_2 0 rfl rfl)
theorem dX5_isLet_50 : decode cX5_isLet 50 = .ok (.iload_n 2, 1) := dk_28 (dk_at dksX5_isLet_2 3 rfl rfl)
theorem dX5_isLet_51 : decode cX5_isLet 51 = .ok (.aload_n 0, 1) := dk_42 (dk_at dksX5_isLet_2 4 rfl rfl)
theorem dX5_isLet_52 : decode cX5_isLet 52 = .ok (.getfield 21, 3) := dk_180 0 21 (dk_at dksX5_isLet_2 5 rfl rfl)
theorem dX5_isLet_55 : decode cX5_isLet 55 = .ok (.aload_n 0, 1) := dk_42 (dk_at dksX5_isLet_2 8 rfl rfl)
theorem dX5_isLet_56 : decode cX5_isLet 56 = .ok (.getfield 37, 3) := dk_180 0 37 (dk_at dksX5_isLet_2 9 rfl rfl)
theorem dX5_isLet_59 : decode cX5_isLet 59 = .ok (.iconst 1, 1) := dk_4 (dk_at dksX5_isLet_2 12 rfl rfl)
theorem dX5_isLet_60 : decode cX5_isLet 60 = .ok (.isub, 1) := dk_100 (dk_at dksX5_isLet_2 13 rfl rfl)
theorem dX5_isLet_61 : decode cX5_isLet 61 = .ok (.iaload, 1) := dk_46 (dk_at dksX5_isLet_2 14 rfl rfl)
theorem dX5_isLet_62 : decode cX5_isLet 62 = .ok (.if_icmp .ne 7, 3) := dk_160 0 7 (dk_at dksX5_isLet_2 15 rfl rfl)
theorem dX5_isLet_65 : decode cX5_isLet 65 = .ok (.iconst 1, 1) := dk_4 (dk_at dksX5_isLet_2 18 rfl rfl)
theorem dX5_isLet_66 : decode cX5_isLet 66 = .ok (.goto 45, 3) := dk_167 0 45 (dk_at dksX5_isLet_2 19 rfl rfl)
theorem dX5_isLet_69 : decode cX5_isLet 69 = .ok (.iconst 0, 1) := dk_3 (dk_at dksX5_isLet_2 22 rfl rfl)
theorem dX5_isLet_70 : decode cX5_isLet 70 = .ok (.goto 41, 3) := dk_167 0 41 (dk_at dksX5_isLet_3 0 rfl rfl)
theorem dX5_isLet_73 : decode cX5_isLet 73 = .ok (.iload_n 2, 1) := dk_28 (dk_at dksX5_isLet_3 3 rfl rfl)
theorem dX5_isLet_74 : decode cX5_isLet 74 = .ok (.ifCond .lt 36, 3) := dk_155 0 36 (dk_at dksX5_isLet_3 4 rfl rfl)
theorem dX5_isLet_77 : decode cX5_isLet 77 = .ok (.iload_n 2, 1) := dk_28 (dk_at dksX5_isLet_3 7 rfl rfl)
theorem dX5_isLet_78 : decode cX5_isLet 78 = .ok (.aload_n 0, 1) := dk_42 (dk_at dksX5_isLet_3 8 rfl rfl)
theorem dX5_isLet_79 : decode cX5_isLet 79 = .ok (.getfield 33, 3) := dk_180 0 33 (dk_at dksX5_isLet_3 9 rfl rfl)
theorem dX5_isLet_82 : decode cX5_isLet 82 = .ok (.getfield 83, 3) := dk_180 0 83 (dk_at dksX5_isLet_3 12 rfl rfl)
theorem dX5_isLet_85 : decode cX5_isLet 85 = .ok (.if_icmp .ge 25, 3) := dk_162 0 25 (dk_at dksX5_isLet_3 15 rfl rfl)
theorem dX5_isLet_88 : decode cX5_isLet 88 = .ok (.aload_n 0, 1) := dk_42 (dk_at dksX5_isLet_3 18 rfl rfl)
theorem dX5_isLet_89 : decode cX5_isLet 89 = .ok (.getfield 33, 3) := dk_180 0 33 (dk_at dksX5_isLet_3 19 rfl rfl)
theorem dX5_isLet_92 : decode cX5_isLet 92 = .ok (.iload_n 1, 1) := dk_27 (dk_at dksX5_isLet_3 22 rfl rfl)
theorem dX5_isLet_93 : decode cX5_isLet 93 = .ok (.iload_n 3, 1) := dk_29 (dk_at dksX5_isLet_3 23 rfl rfl)
theorem dX5_isLet_94 : decode cX5_isLet 94 = .ok (.invokevirtual 86, 3) := dk_182 0 86 (dk_at dksX5_isLet_4 0 rfl rfl)
theorem dX5_isLet_97 : decode cX5_isLet 97 = .ok (.iload_n 2, 1) := dk_28 (dk_at dksX5_isLet_4 3 rfl rfl)
theorem dX5_isLet_98 : decode cX5_isLet 98 = .ok (.lshr, 1) := dk_123 (dk_at dksX5_isLet_4 4 rfl rfl)
theorem dX5_isLet_99 : decode cX5_isLet 99 = .ok (.lconst 1, 1) := dk_10 (dk_at dksX5_isLet_4 5 rfl rfl)
theorem dX5_isLet_100 : decode cX5_isLet 100 = .ok (.land, 1) := dk_127 (dk_at dksX5_isLet_4 6 rfl rfl)
theorem dX5_isLet_101 : decode cX5_isLet 101 = .ok (.lconst 1, 1) := dk_10 (dk_at dksX5_isLet_4 7 rfl rfl)
theorem dX5_isLet_102 : decode cX5_isLet 102 = .ok (.lcmp, 1) := dk_148 (dk_at dksX5_isLet_4 8 rfl rfl)
theorem dX5_isLet_103 : decode cX5_isLet 103 = .ok (.ifCond .ne 7, 3) := dk_154 0 7 (dk_at dksX5_isLet_4 9 rfl rfl)
theorem dX5_isLet_106 : decode cX5_isLet 106 = .ok (.iconst 1, 1) := dk_4 (dk_at dksX5_isLet_4 12 rfl rfl)
theorem dX5_isLet_107 : decode cX5_isLet 107 = .ok (.goto 4, 3) := dk_167 0 4 (dk_at dksX5_isLet_4 13 rfl rfl)
theorem dX5_isLet_110 : decode cX5_isLet 110 = .ok (.iconst 0, 1) := dk_3 (dk_at dksX5_isLet_4 16 rfl rfl)
theorem dX5_isLet_111 : decode cX5_isLet 111 = .ok (.ireturn, 1) := dk_172 (dk_at dksX5_isLet_4 17 rfl rfl)
def dkwX5_puts_1 : List UInt8 := [42, 180, 0, 37, 2, 79, 42, 89, 180, 0, 37, 4, 96, 181, 0, 37, 177]
abbrev dktX5_puts_1 : List UInt8 := dkwX5_puts_1 ++ []
def dkwX5_puts_0 : List UInt8 := [42, 180, 0, 18, 42, 180, 0, 37, 27, 79, 42, 180, 0, 21, 42, 180, 0, 37, 27, 79, 42, 180, 0, 24]
abbrev dktX5_puts_0 : List UInt8 := dkwX5_puts_0 ++ dktX5_puts_1
theorem dksX5_puts_0 : cX5_puts.data.toList.drop 0 = dktX5_puts_0 := by decide +kernel
theorem dksX5_puts_1 : cX5_puts.data.toList.drop 24 = dktX5_puts_1 := dk_seg dksX5_puts_0 24 rfl rfl
theorem dX5_puts_0 : decode cX5_puts 0 = .ok (.aload_n 0, 1) := dk_42 (dk_at dksX5_puts_0 0 rfl rfl)
theorem dX5_puts_1 : decode cX5_puts 1 = .ok (.getfield 18, 3) := dk_180 0 18 (dk_at dksX5_puts_0 1 rfl rfl)
theorem dX5_puts_4 : decode cX5_puts 4 = .ok (.aload_n 0, 1) := dk_42 (dk_at dksX5_puts_0 4 rfl rfl)
theorem dX5_puts_5 : decode cX5_puts 5 = .ok (.getfield 37, 3) := dk_180 0 37 (dk_at dksX5_puts_0 5 rfl rfl)
theorem dX5_puts_8 : decode cX5_puts 8 = .ok (.iload_n 1, 1) := dk_27 (dk_at dksX5_puts_0 8 rfl rfl)
theorem dX5_puts_9 : decode cX5_puts 9 = .ok (.iastore, 1) := dk_79 (dk_at dksX5_puts_0 9 rfl rfl)
theorem dX5_puts_10 : decode cX5_puts 10 = .ok (.aload_n 0, 1) := dk_42 (dk_at dksX5_puts_0 10 rfl rfl)
theorem dX5_puts_11 : decode cX5_puts 11 = .ok (.getfield 21, 3) := dk_180 0 21 (dk_at dksX5_puts_0 11 rfl rfl)
theorem dX5_puts_14 : decode cX5_puts 14 = .ok (.aload_n 0, 1) := dk_42 (dk_at dksX5_puts_0 14 rfl rfl)
theorem dX5_puts_15 : decode cX5_puts 15 = .ok (.getfield 37, 3) := dk_180 0 37 (dk_at dksX5_puts_0 15 rfl rfl)
theorem dX5_puts_18 : decode cX5_puts 18 = .ok (.iload_n 1, 1) := dk_27 (dk_at dksX5_puts_0 18 rfl rfl)
theorem dX5_puts_19 : decode cX5_puts 19 = .ok (.iastore, 1) := dk_79 (dk_at dksX5_puts_0 19 rfl rfl)
theorem dX5_puts_20 : decode cX5_puts 20 = .ok (.aload_n 0, 1) := dk_42 (dk_at dksX5_puts_0 20 rfl rfl)
theorem dX5_puts_21 : decode cX5_puts 21 = .ok (.getfield 24, 3) := dk_180 0 24 (dk_at dksX5_puts_0 21 rfl rfl)
theorem dX5_puts_24 : decode cX5_puts 24 = .ok (.aload_n 0, 1) := dk_42 (dk_at dksX5_puts_1 0 rfl rfl)
theorem dX5_puts_25 : decode cX5_puts 25 = .ok (.getfield 37, 3) := dk_180 0 37 (dk_at dksX5_puts_1 1 rfl rfl)
theorem dX5_puts_28 : decode cX5_puts 28 = .ok (.iconst (-1), 1) := dk_2 (dk_at dksX5_puts_1 4 rfl rfl)
theorem dX5_puts_29 : decode cX5_puts 29 = .ok (.iastore, 1) := dk_79 (dk_at dksX5_puts_1 5 rfl rfl)
theorem dX5_puts_30 : decode cX5_puts 30 = .ok (.aload_n 0, 1) := dk_42 (dk_at dksX5_puts_1 6 rfl rfl)
theorem dX5_puts_31 : decode cX5_puts 31 = .ok (.dup, 1) := dk_89 (dk_at dksX5_puts_1 7 rfl rfl)
theorem dX5_puts_32 : decode cX5_puts 32 = .ok (.getfield 37, 3) := dk_180 0 37 (dk_at dksX5_puts_1 8 rfl rfl)
theorem dX5_puts_35 : decode cX5_puts 35 = .ok (.iconst 1, 1) := dk_4 (dk_at dksX5_puts_1 11 rfl rfl)
theorem dX5_puts_36 : decode cX5_puts 36 = .ok (.iadd, 1) := dk_96 (dk_at dksX5_puts_1 12 rfl rfl)
theorem dX5_puts_37 : decode cX5_puts 37 = .ok (.putfield 37, 3) := dk_181 0 37 (dk_at dksX5_puts_1 13 rfl rfl)
theorem dX5_puts_40 : decode cX5_puts 40 = .ok (.return_, 1) := dk_177 (dk_at dksX5_puts_1 16 rfl rfl)
def dkwX5_says_0 : List UInt8 := [42, 180, 0, 30, 42, 180, 0, 50, 27, 79, 42, 89, 180, 0, 50, 4, 96, 181, 0, 50, 177]
abbrev dktX5_says_0 : List UInt8 := dkwX5_says_0 ++ []
theorem dksX5_says_0 : cX5_says.data.toList.drop 0 = dktX5_says_0 := by decide +kernel
theorem dX5_says_0 : decode cX5_says 0 = .ok (.aload_n 0, 1) := dk_42 (dk_at dksX5_says_0 0 rfl rfl)
theorem dX5_says_1 : decode cX5_says 1 = .ok (.getfield 30, 3) := dk_180 0 30 (dk_at dksX5_says_0 1 rfl rfl)
theorem dX5_says_4 : decode cX5_says 4 = .ok (.aload_n 0, 1) := dk_42 (dk_at dksX5_says_0 4 rfl rfl)
theorem dX5_says_5 : decode cX5_says 5 = .ok (.getfield 50, 3) := dk_180 0 50 (dk_at dksX5_says_0 5 rfl rfl)
theorem dX5_says_8 : decode cX5_says 8 = .ok (.iload_n 1, 1) := dk_27 (dk_at dksX5_says_0 8 rfl rfl)
theorem dX5_says_9 : decode cX5_says 9 = .ok (.iastore, 1) := dk_79 (dk_at dksX5_says_0 9 rfl rfl)
theorem dX5_says_10 : decode cX5_says 10 = .ok (.aload_n 0, 1) := dk_42 (dk_at dksX5_says_0 10 rfl rfl)
theorem dX5_says_11 : decode cX5_says 11 = .ok (.dup, 1) := dk_89 (dk_at dksX5_says_0 11 rfl rfl)
theorem dX5_says_12 : decode cX5_says 12 = .ok (.getfield 50, 3) := dk_180 0 50 (dk_at dksX5_says_0 12 rfl rfl)
theorem dX5_says_15 : decode cX5_says 15 = .ok (.iconst 1, 1) := dk_4 (dk_at dksX5_says_0 15 rfl rfl)
theorem dX5_says_16 : decode cX5_says 16 = .ok (.iadd, 1) := dk_96 (dk_at dksX5_says_0 16 rfl rfl)
theorem dX5_says_17 : decode cX5_says 17 = .ok (.putfield 50, 3) := dk_181 0 50 (dk_at dksX5_says_0 17 rfl rfl)
theorem dX5_says_20 : decode cX5_says 20 = .ok (.return_, 1) := dk_177 (dk_at dksX5_says_0 20 rfl rfl)
def dkwX5_writes_0 : List UInt8 := [42, 180, 0, 9, 27, 28, 79, 42, 180, 0, 15, 27, 2, 79, 177]
abbrev dktX5_writes_0 : List UInt8 := dkwX5_writes_0 ++ []
theorem dksX5_writes_0 : cX5_writes.data.toList.drop 0 = dktX5_writes_0 := by decide +kernel
theorem dX5_writes_0 : decode cX5_writes 0 = .ok (.aload_n 0, 1) := dk_42 (dk_at dksX5_writes_0 0 rfl rfl)
theorem dX5_writes_1 : decode cX5_writes 1 = .ok (.getfield 9, 3) := dk_180 0 9 (dk_at dksX5_writes_0 1 rfl rfl)
theorem dX5_writes_4 : decode cX5_writes 4 = .ok (.iload_n 1, 1) := dk_27 (dk_at dksX5_writes_0 4 rfl rfl)
theorem dX5_writes_5 : decode cX5_writes 5 = .ok (.iload_n 2, 1) := dk_28 (dk_at dksX5_writes_0 5 rfl rfl)
theorem dX5_writes_6 : decode cX5_writes 6 = .ok (.iastore, 1) := dk_79 (dk_at dksX5_writes_0 6 rfl rfl)
theorem dX5_writes_7 : decode cX5_writes 7 = .ok (.aload_n 0, 1) := dk_42 (dk_at dksX5_writes_0 7 rfl rfl)
theorem dX5_writes_8 : decode cX5_writes 8 = .ok (.getfield 15, 3) := dk_180 0 15 (dk_at dksX5_writes_0 8 rfl rfl)
theorem dX5_writes_11 : decode cX5_writes 11 = .ok (.iload_n 1, 1) := dk_27 (dk_at dksX5_writes_0 11 rfl rfl)
theorem dX5_writes_12 : decode cX5_writes 12 = .ok (.iconst (-1), 1) := dk_2 (dk_at dksX5_writes_0 12 rfl rfl)
theorem dX5_writes_13 : decode cX5_writes 13 = .ok (.iastore, 1) := dk_79 (dk_at dksX5_writes_0 13 rfl rfl)
theorem dX5_writes_14 : decode cX5_writes 14 = .ok (.return_, 1) := dk_177 (dk_at dksX5_writes_0 14 rfl rfl)
def dkwX7_of_1 : List UInt8 := [172]
abbrev dktX7_of_1 : List UInt8 := dkwX7_of_1 ++ []
def dkwX7_of_0 : List UInt8 := [42, 180, 0, 9, 2, 160, 0, 10, 42, 180, 0, 15, 167, 0, 12, 43, 180, 0, 18, 42, 180, 0, 9, 46]
abbrev dktX7_of_0 : List UInt8 := dkwX7_of_0 ++ dktX7_of_1
theorem dksX7_of_0 : cX7_of.data.toList.drop 0 = dktX7_of_0 := by decide +kernel
theorem dksX7_of_1 : cX7_of.data.toList.drop 24 = dktX7_of_1 := dk_seg dksX7_of_0 24 rfl rfl
theorem dX7_of_0 : decode cX7_of 0 = .ok (.aload_n 0, 1) := dk_42 (dk_at dksX7_of_0 0 rfl rfl)
theorem dX7_of_1 : decode cX7_of 1 = .ok (.getfield 9, 3) := dk_180 0 9 (dk_at dksX7_of_0 1 rfl rfl)
theorem dX7_of_4 : decode cX7_of 4 = .ok (.iconst (-1), 1) := dk_2 (dk_at dksX7_of_0 4 rfl rfl)
theorem dX7_of_5 : decode cX7_of 5 = .ok (.if_icmp .ne 10, 3) := dk_160 0 10 (dk_at dksX7_of_0 5 rfl rfl)
theorem dX7_of_8 : decode cX7_of 8 = .ok (.aload_n 0, 1) := dk_42 (dk_at dksX7_of_0 8 rfl rfl)
theorem dX7_of_9 : decode cX7_of 9 = .ok (.getfield 15, 3) := dk_180 0 15 (dk_at dksX7_of_0 9 rfl rfl)
theorem dX7_of_12 : decode cX7_of 12 = .ok (.goto 12, 3) := dk_167 0 12 (dk_at dksX7_of_0 12 rfl rfl)
theorem dX7_of_15 : decode cX7_of 15 = .ok (.aload_n 1, 1) := dk_43 (dk_at dksX7_of_0 15 rfl rfl)
theorem dX7_of_16 : decode cX7_of 16 = .ok (.getfield 18, 3) := dk_180 0 18 (dk_at dksX7_of_0 16 rfl rfl)
theorem dX7_of_19 : decode cX7_of 19 = .ok (.aload_n 0, 1) := dk_42 (dk_at dksX7_of_0 19 rfl rfl)
theorem dX7_of_20 : decode cX7_of 20 = .ok (.getfield 9, 3) := dk_180 0 9 (dk_at dksX7_of_0 20 rfl rfl)
theorem dX7_of_23 : decode cX7_of 23 = .ok (.iaload, 1) := dk_46 (dk_at dksX7_of_0 23 rfl rfl)
theorem dX7_of_24 : decode cX7_of 24 = .ok (.ireturn, 1) := dk_172 (dk_at dksX7_of_1 0 rfl rfl)
def dkwX7_init_0 : List UInt8 := [42, 183, 0, 3, 42, 27, 181, 0, 9, 42, 28, 181, 0, 15, 177]
abbrev dktX7_init_0 : List UInt8 := dkwX7_init_0 ++ []
theorem dksX7_init_0 : cX7_init.data.toList.drop 0 = dktX7_init_0 := by decide +kernel
theorem dX7_init_0 : decode cX7_init 0 = .ok (.aload_n 0, 1) := dk_42 (dk_at dksX7_init_0 0 rfl rfl)
theorem dX7_init_1 : decode cX7_init 1 = .ok (.invokespecial 3, 3) := dk_183 0 3 (dk_at dksX7_init_0 1 rfl rfl)
theorem dX7_init_4 : decode cX7_init 4 = .ok (.aload_n 0, 1) := dk_42 (dk_at dksX7_init_0 4 rfl rfl)
theorem dX7_init_5 : decode cX7_init 5 = .ok (.iload_n 1, 1) := dk_27 (dk_at dksX7_init_0 5 rfl rfl)
theorem dX7_init_6 : decode cX7_init 6 = .ok (.putfield 9, 3) := dk_181 0 9 (dk_at dksX7_init_0 6 rfl rfl)
theorem dX7_init_9 : decode cX7_init 9 = .ok (.aload_n 0, 1) := dk_42 (dk_at dksX7_init_0 9 rfl rfl)
theorem dX7_init_10 : decode cX7_init 10 = .ok (.iload_n 2, 1) := dk_28 (dk_at dksX7_init_0 10 rfl rfl)
theorem dX7_init_11 : decode cX7_init 11 = .ok (.putfield 15, 3) := dk_181 0 15 (dk_at dksX7_init_0 11 rfl rfl)
theorem dX7_init_14 : decode cX7_init 14 = .ok (.return_, 1) := dk_177 (dk_at dksX7_init_0 14 rfl rfl)
theorem dX8_cell_0 : decode cX8_cell 0 = .ok (.iconst (-1), 1) := by decide +kernel
theorem dX8_cell_1 : decode cX8_cell 1 = .ok (.ireturn, 1) := by decide +kernel
theorem dX8_isJump_0 : decode cX8_isJump 0 = .ok (.iconst 0, 1) := by decide +kernel
theorem dX8_isJump_1 : decode cX8_isJump 1 = .ok (.ireturn, 1) := by decide +kernel
theorem dX8_puts_0 : decode cX8_puts 0 = .ok (.iconst 0, 1) := by decide +kernel
theorem dX8_puts_1 : decode cX8_puts 1 = .ok (.ireturn, 1) := by decide +kernel
theorem dX8_kind_0 : decode cX8_kind 0 = .ok (.iconst 0, 1) := by decide +kernel
theorem dX8_kind_1 : decode cX8_kind 1 = .ok (.ireturn, 1) := by decide +kernel
def dkwX8_within_0 : List UInt8 := [28, 4, 96, 184, 0, 15, 173]
abbrev dktX8_within_0 : List UInt8 := dkwX8_within_0 ++ []
theorem dksX8_within_0 : cX8_within.data.toList.drop 0 = dktX8_within_0 := by decide +kernel
theorem dX8_within_0 : decode cX8_within 0 = .ok (.iload_n 2, 1) := dk_28 (dk_at dksX8_within_0 0 rfl rfl)
theorem dX8_within_1 : decode cX8_within 1 = .ok (.iconst 1, 1) := dk_4 (dk_at dksX8_within_0 1 rfl rfl)
theorem dX8_within_2 : decode cX8_within 2 = .ok (.iadd, 1) := dk_96 (dk_at dksX8_within_0 2 rfl rfl)
theorem dX8_within_3 : decode cX8_within 3 = .ok (.invokestatic 15, 3) := dk_184 0 15 (dk_at dksX8_within_0 3 rfl rfl)
theorem dX8_within_6 : decode cX8_within 6 = .ok (.lreturn, 1) := dk_173 (dk_at dksX8_within_0 6 rfl rfl)
theorem dX8_place_0 : decode cX8_place 0 = .ok (.iconst (-1), 1) := by decide +kernel
theorem dX8_place_1 : decode cX8_place 1 = .ok (.ireturn, 1) := by decide +kernel
def dkwX8_may_0 : List UInt8 := [28, 4, 96, 184, 0, 15, 173]
abbrev dktX8_may_0 : List UInt8 := dkwX8_may_0 ++ []
theorem dksX8_may_0 : cX8_may.data.toList.drop 0 = dktX8_may_0 := by decide +kernel
theorem dX8_may_0 : decode cX8_may 0 = .ok (.iload_n 2, 1) := dk_28 (dk_at dksX8_may_0 0 rfl rfl)
theorem dX8_may_1 : decode cX8_may 1 = .ok (.iconst 1, 1) := dk_4 (dk_at dksX8_may_0 1 rfl rfl)
theorem dX8_may_2 : decode cX8_may 2 = .ok (.iadd, 1) := dk_96 (dk_at dksX8_may_0 2 rfl rfl)
theorem dX8_may_3 : decode cX8_may 3 = .ok (.invokestatic 15, 3) := dk_184 0 15 (dk_at dksX8_may_0 3 rfl rfl)
theorem dX8_may_6 : decode cX8_may 6 = .ok (.lreturn, 1) := dk_173 (dk_at dksX8_may_0 6 rfl rfl)
def dkwX8_init_0 : List UInt8 := [42, 183, 0, 3, 42, 27, 181, 0, 9, 177]
abbrev dktX8_init_0 : List UInt8 := dkwX8_init_0 ++ []
theorem dksX8_init_0 : cX8_init.data.toList.drop 0 = dktX8_init_0 := by decide +kernel
theorem dX8_init_0 : decode cX8_init 0 = .ok (.aload_n 0, 1) := dk_42 (dk_at dksX8_init_0 0 rfl rfl)
theorem dX8_init_1 : decode cX8_init 1 = .ok (.invokespecial 3, 3) := dk_183 0 3 (dk_at dksX8_init_0 1 rfl rfl)
theorem dX8_init_4 : decode cX8_init 4 = .ok (.aload_n 0, 1) := dk_42 (dk_at dksX8_init_0 4 rfl rfl)
theorem dX8_init_5 : decode cX8_init 5 = .ok (.iload_n 1, 1) := dk_27 (dk_at dksX8_init_0 5 rfl rfl)
theorem dX8_init_6 : decode cX8_init 6 = .ok (.putfield 9, 3) := dk_181 0 9 (dk_at dksX8_init_0 6 rfl rfl)
theorem dX8_init_9 : decode cX8_init 9 = .ok (.return_, 1) := dk_177 (dk_at dksX8_init_0 9 rfl rfl)
theorem dX9_word_0 : decode cX9_word 0 = .ok (.iconst 0, 1) := by decide +kernel
theorem dX9_word_1 : decode cX9_word 1 = .ok (.ireturn, 1) := by decide +kernel
def dkwX9_does_4 : List UInt8 := [22, 7, 136, 182, 0, 48, 28, 4, 96, 172]
abbrev dktX9_does_4 : List UInt8 := dkwX9_does_4 ++ []
def dkwX9_does_3 : List UInt8 := [55, 7, 22, 7, 184, 0, 34, 20, 0, 40, 148, 158, 0, 8, 43, 182, 0, 42, 172, 43, 42, 180, 0, 9]
abbrev dktX9_does_3 : List UInt8 := dkwX9_does_3 ++ dktX9_does_4
def dkwX9_does_2 : List UInt8 := [167, 0, 23, 42, 180, 0, 19, 16, 42, 160, 0, 10, 33, 22, 5, 105, 167, 0, 7, 33, 22, 5, 97]
abbrev dktX9_does_2 : List UInt8 := dkwX9_does_2 ++ dktX9_does_3
def dkwX9_does_1 : List UInt8 := [180, 0, 22, 43, 182, 0, 30, 133, 55, 5, 42, 180, 0, 19, 16, 45, 160, 0, 10, 33, 22, 5, 101]
abbrev dktX9_does_1 : List UInt8 := dkwX9_does_1 ++ dktX9_does_2
def dkwX9_does_0 : List UInt8 := [42, 180, 0, 15, 43, 182, 0, 30, 133, 66, 42, 180, 0, 19, 154, 0, 7, 9, 167, 0, 12, 42]
abbrev dktX9_does_0 : List UInt8 := dkwX9_does_0 ++ dktX9_does_1
theorem dksX9_does_0 : cX9_does.data.toList.drop 0 = dktX9_does_0 := by decide +kernel
theorem dksX9_does_1 : cX9_does.data.toList.drop 22 = dktX9_does_1 := dk_seg dksX9_does_0 22 rfl rfl
theorem dksX9_does_2 : cX9_does.data.toList.drop 45 = dktX9_does_2 := dk_seg dksX9_does_1 23 rfl rfl
theorem dksX9_does_3 : cX9_does.data.toList.drop 68 = dktX9_does_3 := dk_seg dksX9_does_2 23 rfl rfl
theorem dksX9_does_4 : cX9_does.data.toList.drop 92 = dktX9_does_4 := dk_seg dksX9_does_3 24 rfl rfl
theorem dX9_does_0 : decode cX9_does 0 = .ok (.aload_n 0, 1) := dk_42 (dk_at dksX9_does_0 0 rfl rfl)
theorem dX9_does_1 : decode cX9_does 1 = .ok (.getfield 15, 3) := dk_180 0 15 (dk_at dksX9_does_0 1 rfl rfl)
theorem dX9_does_4 : decode cX9_does 4 = .ok (.aload_n 1, 1) := dk_43 (dk_at dksX9_does_0 4 rfl rfl)
theorem dX9_does_5 : decode cX9_does 5 = .ok (.invokevirtual 30, 3) := dk_182 0 30 (dk_at dksX9_does_0 5 rfl rfl)
theorem dX9_does_8 : decode cX9_does 8 = .ok (.i2l, 1) := dk_133 (dk_at dksX9_does_0 8 rfl rfl)
theorem dX9_does_9 : decode cX9_does 9 = .ok (.lstore_n 3, 1) := dk_66 (dk_at dksX9_does_0 9 rfl rfl)
theorem dX9_does_10 : decode cX9_does 10 = .ok (.aload_n 0, 1) := dk_42 (dk_at dksX9_does_0 10 rfl rfl)
theorem dX9_does_11 : decode cX9_does 11 = .ok (.getfield 19, 3) := dk_180 0 19 (dk_at dksX9_does_0 11 rfl rfl)
theorem dX9_does_14 : decode cX9_does 14 = .ok (.ifCond .ne 7, 3) := dk_154 0 7 (dk_at dksX9_does_0 14 rfl rfl)
theorem dX9_does_17 : decode cX9_does 17 = .ok (.lconst 0, 1) := dk_9 (dk_at dksX9_does_0 17 rfl rfl)
theorem dX9_does_18 : decode cX9_does 18 = .ok (.goto 12, 3) := dk_167 0 12 (dk_at dksX9_does_0 18 rfl rfl)
theorem dX9_does_21 : decode cX9_does 21 = .ok (.aload_n 0, 1) := dk_42 (dk_at dksX9_does_0 21 rfl rfl)
theorem dX9_does_22 : decode cX9_does 22 = .ok (.getfield 22, 3) := dk_180 0 22 (dk_at dksX9_does_1 0 rfl rfl)
theorem dX9_does_25 : decode cX9_does 25 = .ok (.aload_n 1, 1) := dk_43 (dk_at dksX9_does_1 3 rfl rfl)
theorem dX9_does_26 : decode cX9_does 26 = .ok (.invokevirtual 30, 3) := dk_182 0 30 (dk_at dksX9_does_1 4 rfl rfl)
theorem dX9_does_29 : decode cX9_does 29 = .ok (.i2l, 1) := dk_133 (dk_at dksX9_does_1 7 rfl rfl)
theorem dX9_does_30 : decode cX9_does 30 = .ok (.lstore 5, 2) := dk_55 5 (dk_at dksX9_does_1 8 rfl rfl)
theorem dX9_does_32 : decode cX9_does 32 = .ok (.aload_n 0, 1) := dk_42 (dk_at dksX9_does_1 10 rfl rfl)
theorem dX9_does_33 : decode cX9_does 33 = .ok (.getfield 19, 3) := dk_180 0 19 (dk_at dksX9_does_1 11 rfl rfl)
theorem dX9_does_36 : decode cX9_does 36 = .ok (.bipush 45, 2) := dk_16 45 (dk_at dksX9_does_1 14 rfl rfl)
theorem dX9_does_38 : decode cX9_does 38 = .ok (.if_icmp .ne 10, 3) := dk_160 0 10 (dk_at dksX9_does_1 16 rfl rfl)
theorem dX9_does_41 : decode cX9_does 41 = .ok (.lload_n 3, 1) := dk_33 (dk_at dksX9_does_1 19 rfl rfl)
theorem dX9_does_42 : decode cX9_does 42 = .ok (.lload 5, 2) := dk_22 5 (dk_at dksX9_does_1 20 rfl rfl)
theorem dX9_does_44 : decode cX9_does 44 = .ok (.lsub, 1) := dk_101 (dk_at dksX9_does_1 22 rfl rfl)
theorem dX9_does_45 : decode cX9_does 45 = .ok (.goto 23, 3) := dk_167 0 23 (dk_at dksX9_does_2 0 rfl rfl)
theorem dX9_does_48 : decode cX9_does 48 = .ok (.aload_n 0, 1) := dk_42 (dk_at dksX9_does_2 3 rfl rfl)
theorem dX9_does_49 : decode cX9_does 49 = .ok (.getfield 19, 3) := dk_180 0 19 (dk_at dksX9_does_2 4 rfl rfl)
theorem dX9_does_52 : decode cX9_does 52 = .ok (.bipush 42, 2) := dk_16 42 (dk_at dksX9_does_2 7 rfl rfl)
theorem dX9_does_54 : decode cX9_does 54 = .ok (.if_icmp .ne 10, 3) := dk_160 0 10 (dk_at dksX9_does_2 9 rfl rfl)
theorem dX9_does_57 : decode cX9_does 57 = .ok (.lload_n 3, 1) := dk_33 (dk_at dksX9_does_2 12 rfl rfl)
theorem dX9_does_58 : decode cX9_does 58 = .ok (.lload 5, 2) := dk_22 5 (dk_at dksX9_does_2 13 rfl rfl)
theorem dX9_does_60 : decode cX9_does 60 = .ok (.lmul, 1) := dk_105 (dk_at dksX9_does_2 15 rfl rfl)
theorem dX9_does_61 : decode cX9_does 61 = .ok (.goto 7, 3) := dk_167 0 7 (dk_at dksX9_does_2 16 rfl rfl)
theorem dX9_does_64 : decode cX9_does 64 = .ok (.lload_n 3, 1) := dk_33 (dk_at dksX9_does_2 19 rfl rfl)
theorem dX9_does_65 : decode cX9_does 65 = .ok (.lload 5, 2) := dk_22 5 (dk_at dksX9_does_2 20 rfl rfl)
theorem dX9_does_67 : decode cX9_does 67 = .ok (.ladd, 1) := dk_97 (dk_at dksX9_does_2 22 rfl rfl)
theorem dX9_does_68 : decode cX9_does 68 = .ok (.lstore 7, 2) := dk_55 7 (dk_at dksX9_does_3 0 rfl rfl)
theorem dX9_does_70 : decode cX9_does 70 = .ok (.lload 7, 2) := dk_22 7 (dk_at dksX9_does_3 2 rfl rfl)
theorem dX9_does_72 : decode cX9_does 72 = .ok (.invokestatic 34, 3) := dk_184 0 34 (dk_at dksX9_does_3 4 rfl rfl)
theorem dX9_does_75 : decode cX9_does 75 = .ok (.ldc2_w 40, 3) := dk_20 0 40 (dk_at dksX9_does_3 7 rfl rfl)
theorem dX9_does_78 : decode cX9_does 78 = .ok (.lcmp, 1) := dk_148 (dk_at dksX9_does_3 10 rfl rfl)
theorem dX9_does_79 : decode cX9_does 79 = .ok (.ifCond .le 8, 3) := dk_158 0 8 (dk_at dksX9_does_3 11 rfl rfl)
theorem dX9_does_82 : decode cX9_does 82 = .ok (.aload_n 1, 1) := dk_43 (dk_at dksX9_does_3 14 rfl rfl)
theorem dX9_does_83 : decode cX9_does 83 = .ok (.invokevirtual 42, 3) := dk_182 0 42 (dk_at dksX9_does_3 15 rfl rfl)
theorem dX9_does_86 : decode cX9_does 86 = .ok (.ireturn, 1) := dk_172 (dk_at dksX9_does_3 18 rfl rfl)
theorem dX9_does_87 : decode cX9_does 87 = .ok (.aload_n 1, 1) := dk_43 (dk_at dksX9_does_3 19 rfl rfl)
theorem dX9_does_88 : decode cX9_does 88 = .ok (.aload_n 0, 1) := dk_42 (dk_at dksX9_does_3 20 rfl rfl)
theorem dX9_does_89 : decode cX9_does 89 = .ok (.getfield 9, 3) := dk_180 0 9 (dk_at dksX9_does_3 21 rfl rfl)
theorem dX9_does_92 : decode cX9_does 92 = .ok (.lload 7, 2) := dk_22 7 (dk_at dksX9_does_4 0 rfl rfl)
theorem dX9_does_94 : decode cX9_does 94 = .ok (.l2i, 1) := dk_136 (dk_at dksX9_does_4 2 rfl rfl)
theorem dX9_does_95 : decode cX9_does 95 = .ok (.invokevirtual 48, 3) := dk_182 0 48 (dk_at dksX9_does_4 3 rfl rfl)
theorem dX9_does_98 : decode cX9_does 98 = .ok (.iload_n 2, 1) := dk_28 (dk_at dksX9_does_4 6 rfl rfl)
theorem dX9_does_99 : decode cX9_does 99 = .ok (.iconst 1, 1) := dk_4 (dk_at dksX9_does_4 7 rfl rfl)
theorem dX9_does_100 : decode cX9_does 100 = .ok (.iadd, 1) := dk_96 (dk_at dksX9_does_4 8 rfl rfl)
theorem dX9_does_101 : decode cX9_does 101 = .ok (.ireturn, 1) := dk_172 (dk_at dksX9_does_4 9 rfl rfl)
def dkwX9_only_0 : List UInt8 := [42, 180, 0, 19, 154, 0, 13, 42, 180, 0, 15, 180, 0, 25, 167, 0, 4, 2, 172]
abbrev dktX9_only_0 : List UInt8 := dkwX9_only_0 ++ []
theorem dksX9_only_0 : cX9_only.data.toList.drop 0 = dktX9_only_0 := by decide +kernel
theorem dX9_only_0 : decode cX9_only 0 = .ok (.aload_n 0, 1) := dk_42 (dk_at dksX9_only_0 0 rfl rfl)
theorem dX9_only_1 : decode cX9_only 1 = .ok (.getfield 19, 3) := dk_180 0 19 (dk_at dksX9_only_0 1 rfl rfl)
theorem dX9_only_4 : decode cX9_only 4 = .ok (.ifCond .ne 13, 3) := dk_154 0 13 (dk_at dksX9_only_0 4 rfl rfl)
theorem dX9_only_7 : decode cX9_only 7 = .ok (.aload_n 0, 1) := dk_42 (dk_at dksX9_only_0 7 rfl rfl)
theorem dX9_only_8 : decode cX9_only 8 = .ok (.getfield 15, 3) := dk_180 0 15 (dk_at dksX9_only_0 8 rfl rfl)
theorem dX9_only_11 : decode cX9_only 11 = .ok (.getfield 25, 3) := dk_180 0 25 (dk_at dksX9_only_0 11 rfl rfl)
theorem dX9_only_14 : decode cX9_only 14 = .ok (.goto 4, 3) := dk_167 0 4 (dk_at dksX9_only_0 14 rfl rfl)
theorem dX9_only_17 : decode cX9_only 17 = .ok (.iconst (-1), 1) := dk_2 (dk_at dksX9_only_0 17 rfl rfl)
theorem dX9_only_18 : decode cX9_only 18 = .ok (.ireturn, 1) := dk_172 (dk_at dksX9_only_0 18 rfl rfl)
def dkwX9_init_1 : List UInt8 := [181, 0, 22, 177]
abbrev dktX9_init_1 : List UInt8 := dkwX9_init_1 ++ []
def dkwX9_init_0 : List UInt8 := [42, 27, 183, 0, 3, 42, 28, 181, 0, 9, 42, 45, 181, 0, 15, 42, 21, 4, 181, 0, 19, 42, 25, 5]
abbrev dktX9_init_0 : List UInt8 := dkwX9_init_0 ++ dktX9_init_1
theorem dksX9_init_0 : cX9_init.data.toList.drop 0 = dktX9_init_0 := by decide +kernel
theorem dksX9_init_1 : cX9_init.data.toList.drop 24 = dktX9_init_1 := dk_seg dksX9_init_0 24 rfl rfl
theorem dX9_init_0 : decode cX9_init 0 = .ok (.aload_n 0, 1) := dk_42 (dk_at dksX9_init_0 0 rfl rfl)
theorem dX9_init_1 : decode cX9_init 1 = .ok (.iload_n 1, 1) := dk_27 (dk_at dksX9_init_0 1 rfl rfl)
theorem dX9_init_2 : decode cX9_init 2 = .ok (.invokespecial 3, 3) := dk_183 0 3 (dk_at dksX9_init_0 2 rfl rfl)
theorem dX9_init_5 : decode cX9_init 5 = .ok (.aload_n 0, 1) := dk_42 (dk_at dksX9_init_0 5 rfl rfl)
theorem dX9_init_6 : decode cX9_init 6 = .ok (.iload_n 2, 1) := dk_28 (dk_at dksX9_init_0 6 rfl rfl)
theorem dX9_init_7 : decode cX9_init 7 = .ok (.putfield 9, 3) := dk_181 0 9 (dk_at dksX9_init_0 7 rfl rfl)
theorem dX9_init_10 : decode cX9_init 10 = .ok (.aload_n 0, 1) := dk_42 (dk_at dksX9_init_0 10 rfl rfl)
theorem dX9_init_11 : decode cX9_init 11 = .ok (.aload_n 3, 1) := dk_45 (dk_at dksX9_init_0 11 rfl rfl)
theorem dX9_init_12 : decode cX9_init 12 = .ok (.putfield 15, 3) := dk_181 0 15 (dk_at dksX9_init_0 12 rfl rfl)
theorem dX9_init_15 : decode cX9_init 15 = .ok (.aload_n 0, 1) := dk_42 (dk_at dksX9_init_0 15 rfl rfl)
theorem dX9_init_16 : decode cX9_init 16 = .ok (.iload 4, 2) := dk_21 4 (dk_at dksX9_init_0 16 rfl rfl)
theorem dX9_init_18 : decode cX9_init 18 = .ok (.putfield 19, 3) := dk_181 0 19 (dk_at dksX9_init_0 18 rfl rfl)
theorem dX9_init_21 : decode cX9_init 21 = .ok (.aload_n 0, 1) := dk_42 (dk_at dksX9_init_0 21 rfl rfl)
theorem dX9_init_22 : decode cX9_init 22 = .ok (.aload 5, 2) := dk_25 5 (dk_at dksX9_init_0 22 rfl rfl)
theorem dX9_init_24 : decode cX9_init 24 = .ok (.putfield 22, 3) := dk_181 0 22 (dk_at dksX9_init_1 0 rfl rfl)
theorem dX9_init_27 : decode cX9_init 27 = .ok (.return_, 1) := dk_177 (dk_at dksX9_init_1 3 rfl rfl)
theorem dX10_word_0 : decode cX10_word 0 = .ok (.iconst 1, 1) := by decide +kernel
theorem dX10_word_1 : decode cX10_word 1 = .ok (.ireturn, 1) := by decide +kernel
def dkwX10_does_0 : List UInt8 := [43, 42, 180, 0, 9, 42, 180, 0, 15, 182, 0, 18, 28, 4, 96, 172]
abbrev dktX10_does_0 : List UInt8 := dkwX10_does_0 ++ []
theorem dksX10_does_0 : cX10_does.data.toList.drop 0 = dktX10_does_0 := by decide +kernel
theorem dX10_does_0 : decode cX10_does 0 = .ok (.aload_n 1, 1) := dk_43 (dk_at dksX10_does_0 0 rfl rfl)
theorem dX10_does_1 : decode cX10_does 1 = .ok (.aload_n 0, 1) := dk_42 (dk_at dksX10_does_0 1 rfl rfl)
theorem dX10_does_2 : decode cX10_does 2 = .ok (.getfield 9, 3) := dk_180 0 9 (dk_at dksX10_does_0 2 rfl rfl)
theorem dX10_does_5 : decode cX10_does 5 = .ok (.aload_n 0, 1) := dk_42 (dk_at dksX10_does_0 5 rfl rfl)
theorem dX10_does_6 : decode cX10_does 6 = .ok (.getfield 15, 3) := dk_180 0 15 (dk_at dksX10_does_0 6 rfl rfl)
theorem dX10_does_9 : decode cX10_does 9 = .ok (.invokevirtual 18, 3) := dk_182 0 18 (dk_at dksX10_does_0 9 rfl rfl)
theorem dX10_does_12 : decode cX10_does 12 = .ok (.iload_n 2, 1) := dk_28 (dk_at dksX10_does_0 12 rfl rfl)
theorem dX10_does_13 : decode cX10_does 13 = .ok (.iconst 1, 1) := dk_4 (dk_at dksX10_does_0 13 rfl rfl)
theorem dX10_does_14 : decode cX10_does 14 = .ok (.iadd, 1) := dk_96 (dk_at dksX10_does_0 14 rfl rfl)
theorem dX10_does_15 : decode cX10_does 15 = .ok (.ireturn, 1) := dk_172 (dk_at dksX10_does_0 15 rfl rfl)
theorem dX10_place_0 : decode cX10_place 0 = .ok (.aload_n 0, 1) := by decide +kernel
theorem dX10_place_1 : decode cX10_place 1 = .ok (.getfield 15, 3) := by decide +kernel
theorem dX10_place_4 : decode cX10_place 4 = .ok (.ireturn, 1) := by decide +kernel
def dkwX10_init_0 : List UInt8 := [42, 27, 183, 0, 3, 42, 28, 181, 0, 9, 42, 29, 181, 0, 15, 177]
abbrev dktX10_init_0 : List UInt8 := dkwX10_init_0 ++ []
theorem dksX10_init_0 : cX10_init.data.toList.drop 0 = dktX10_init_0 := by decide +kernel
theorem dX10_init_0 : decode cX10_init 0 = .ok (.aload_n 0, 1) := dk_42 (dk_at dksX10_init_0 0 rfl rfl)
theorem dX10_init_1 : decode cX10_init 1 = .ok (.iload_n 1, 1) := dk_27 (dk_at dksX10_init_0 1 rfl rfl)
theorem dX10_init_2 : decode cX10_init 2 = .ok (.invokespecial 3, 3) := dk_183 0 3 (dk_at dksX10_init_0 2 rfl rfl)
theorem dX10_init_5 : decode cX10_init 5 = .ok (.aload_n 0, 1) := dk_42 (dk_at dksX10_init_0 5 rfl rfl)
theorem dX10_init_6 : decode cX10_init 6 = .ok (.iload_n 2, 1) := dk_28 (dk_at dksX10_init_0 6 rfl rfl)
theorem dX10_init_7 : decode cX10_init 7 = .ok (.putfield 9, 3) := dk_181 0 9 (dk_at dksX10_init_0 7 rfl rfl)
theorem dX10_init_10 : decode cX10_init 10 = .ok (.aload_n 0, 1) := dk_42 (dk_at dksX10_init_0 10 rfl rfl)
theorem dX10_init_11 : decode cX10_init 11 = .ok (.iload_n 3, 1) := dk_29 (dk_at dksX10_init_0 11 rfl rfl)
theorem dX10_init_12 : decode cX10_init 12 = .ok (.putfield 15, 3) := dk_181 0 15 (dk_at dksX10_init_0 12 rfl rfl)
theorem dX10_init_15 : decode cX10_init 15 = .ok (.return_, 1) := dk_177 (dk_at dksX10_init_0 15 rfl rfl)
theorem dX11_word_0 : decode cX11_word 0 = .ok (.iconst 2, 1) := by decide +kernel
theorem dX11_word_1 : decode cX11_word 1 = .ok (.ireturn, 1) := by decide +kernel
theorem dX11_does_0 : decode cX11_does 0 = .ok (.aload_n 0, 1) := by decide +kernel
theorem dX11_does_1 : decode cX11_does 1 = .ok (.getfield 9, 3) := by decide +kernel
theorem dX11_does_4 : decode cX11_does 4 = .ok (.ireturn, 1) := by decide +kernel
def dkwX11_within_0 : List UInt8 := [42, 180, 0, 9, 184, 0, 15, 173]
abbrev dktX11_within_0 : List UInt8 := dkwX11_within_0 ++ []
theorem dksX11_within_0 : cX11_within.data.toList.drop 0 = dktX11_within_0 := by decide +kernel
theorem dX11_within_0 : decode cX11_within 0 = .ok (.aload_n 0, 1) := dk_42 (dk_at dksX11_within_0 0 rfl rfl)
theorem dX11_within_1 : decode cX11_within 1 = .ok (.getfield 9, 3) := dk_180 0 9 (dk_at dksX11_within_0 1 rfl rfl)
theorem dX11_within_4 : decode cX11_within 4 = .ok (.invokestatic 15, 3) := dk_184 0 15 (dk_at dksX11_within_0 4 rfl rfl)
theorem dX11_within_7 : decode cX11_within 7 = .ok (.lreturn, 1) := dk_173 (dk_at dksX11_within_0 7 rfl rfl)
theorem dX11_place_0 : decode cX11_place 0 = .ok (.aload_n 0, 1) := by decide +kernel
theorem dX11_place_1 : decode cX11_place 1 = .ok (.getfield 9, 3) := by decide +kernel
theorem dX11_place_4 : decode cX11_place 4 = .ok (.ireturn, 1) := by decide +kernel
def dkwX11_may_0 : List UInt8 := [42, 180, 0, 9, 184, 0, 15, 173]
abbrev dktX11_may_0 : List UInt8 := dkwX11_may_0 ++ []
theorem dksX11_may_0 : cX11_may.data.toList.drop 0 = dktX11_may_0 := by decide +kernel
theorem dX11_may_0 : decode cX11_may 0 = .ok (.aload_n 0, 1) := dk_42 (dk_at dksX11_may_0 0 rfl rfl)
theorem dX11_may_1 : decode cX11_may 1 = .ok (.getfield 9, 3) := dk_180 0 9 (dk_at dksX11_may_0 1 rfl rfl)
theorem dX11_may_4 : decode cX11_may 4 = .ok (.invokestatic 15, 3) := dk_184 0 15 (dk_at dksX11_may_0 4 rfl rfl)
theorem dX11_may_7 : decode cX11_may 7 = .ok (.lreturn, 1) := dk_173 (dk_at dksX11_may_0 7 rfl rfl)
def dkwX11_init_0 : List UInt8 := [42, 27, 183, 0, 3, 42, 28, 181, 0, 9, 177]
abbrev dktX11_init_0 : List UInt8 := dkwX11_init_0 ++ []
theorem dksX11_init_0 : cX11_init.data.toList.drop 0 = dktX11_init_0 := by decide +kernel
theorem dX11_init_0 : decode cX11_init 0 = .ok (.aload_n 0, 1) := dk_42 (dk_at dksX11_init_0 0 rfl rfl)
theorem dX11_init_1 : decode cX11_init 1 = .ok (.iload_n 1, 1) := dk_27 (dk_at dksX11_init_0 1 rfl rfl)
theorem dX11_init_2 : decode cX11_init 2 = .ok (.invokespecial 3, 3) := dk_183 0 3 (dk_at dksX11_init_0 2 rfl rfl)
theorem dX11_init_5 : decode cX11_init 5 = .ok (.aload_n 0, 1) := dk_42 (dk_at dksX11_init_0 5 rfl rfl)
theorem dX11_init_6 : decode cX11_init 6 = .ok (.iload_n 2, 1) := dk_28 (dk_at dksX11_init_0 6 rfl rfl)
theorem dX11_init_7 : decode cX11_init 7 = .ok (.putfield 9, 3) := dk_181 0 9 (dk_at dksX11_init_0 7 rfl rfl)
theorem dX11_init_10 : decode cX11_init 10 = .ok (.return_, 1) := dk_177 (dk_at dksX11_init_0 10 rfl rfl)
theorem dX12_word_0 : decode cX12_word 0 = .ok (.iconst 3, 1) := by decide +kernel
theorem dX12_word_1 : decode cX12_word 1 = .ok (.ireturn, 1) := by decide +kernel
def dkwX12_does_1 : List UInt8 := [153, 0, 10, 42, 180, 0, 22, 167, 0, 6, 28, 4, 96, 172]
abbrev dktX12_does_1 : List UInt8 := dkwX12_does_1 ++ []
def dkwX12_does_0 : List UInt8 := [42, 180, 0, 9, 43, 182, 0, 41, 42, 180, 0, 15, 42, 180, 0, 19, 43, 182, 0, 41, 184, 0, 37]
abbrev dktX12_does_0 : List UInt8 := dkwX12_does_0 ++ dktX12_does_1
theorem dksX12_does_0 : cX12_does.data.toList.drop 0 = dktX12_does_0 := by decide +kernel
theorem dksX12_does_1 : cX12_does.data.toList.drop 23 = dktX12_does_1 := dk_seg dksX12_does_0 23 rfl rfl
theorem dX12_does_0 : decode cX12_does 0 = .ok (.aload_n 0, 1) := dk_42 (dk_at dksX12_does_0 0 rfl rfl)
theorem dX12_does_1 : decode cX12_does 1 = .ok (.getfield 9, 3) := dk_180 0 9 (dk_at dksX12_does_0 1 rfl rfl)
theorem dX12_does_4 : decode cX12_does 4 = .ok (.aload_n 1, 1) := dk_43 (dk_at dksX12_does_0 4 rfl rfl)
theorem dX12_does_5 : decode cX12_does 5 = .ok (.invokevirtual 41, 3) := dk_182 0 41 (dk_at dksX12_does_0 5 rfl rfl)
theorem dX12_does_8 : decode cX12_does 8 = .ok (.aload_n 0, 1) := dk_42 (dk_at dksX12_does_0 8 rfl rfl)
theorem dX12_does_9 : decode cX12_does 9 = .ok (.getfield 15, 3) := dk_180 0 15 (dk_at dksX12_does_0 9 rfl rfl)
theorem dX12_does_12 : decode cX12_does 12 = .ok (.aload_n 0, 1) := dk_42 (dk_at dksX12_does_0 12 rfl rfl)
theorem dX12_does_13 : decode cX12_does 13 = .ok (.getfield 19, 3) := dk_180 0 19 (dk_at dksX12_does_0 13 rfl rfl)
theorem dX12_does_16 : decode cX12_does 16 = .ok (.aload_n 1, 1) := dk_43 (dk_at dksX12_does_0 16 rfl rfl)
theorem dX12_does_17 : decode cX12_does 17 = .ok (.invokevirtual 41, 3) := dk_182 0 41 (dk_at dksX12_does_0 17 rfl rfl)
theorem dX12_does_20 : decode cX12_does 20 = .ok (.invokestatic 37, 3) := dk_184 0 37 (dk_at dksX12_does_0 20 rfl rfl)
theorem dX12_does_23 : decode cX12_does 23 = .ok (.ifCond .eq 10, 3) := dk_153 0 10 (dk_at dksX12_does_1 0 rfl rfl)
theorem dX12_does_26 : decode cX12_does 26 = .ok (.aload_n 0, 1) := dk_42 (dk_at dksX12_does_1 3 rfl rfl)
theorem dX12_does_27 : decode cX12_does 27 = .ok (.getfield 22, 3) := dk_180 0 22 (dk_at dksX12_does_1 4 rfl rfl)
theorem dX12_does_30 : decode cX12_does 30 = .ok (.goto 6, 3) := dk_167 0 6 (dk_at dksX12_does_1 7 rfl rfl)
theorem dX12_does_33 : decode cX12_does 33 = .ok (.iload_n 2, 1) := dk_28 (dk_at dksX12_does_1 10 rfl rfl)
theorem dX12_does_34 : decode cX12_does 34 = .ok (.iconst 1, 1) := dk_4 (dk_at dksX12_does_1 11 rfl rfl)
theorem dX12_does_35 : decode cX12_does 35 = .ok (.iadd, 1) := dk_96 (dk_at dksX12_does_1 12 rfl rfl)
theorem dX12_does_36 : decode cX12_does 36 = .ok (.ireturn, 1) := dk_172 (dk_at dksX12_does_1 13 rfl rfl)
def dkwX12_holds_2 : List UInt8 := [167, 0, 4, 3, 172]
abbrev dktX12_holds_2 : List UInt8 := dkwX12_holds_2 ++ []
def dkwX12_holds_1 : List UInt8 := [160, 0, 16, 26, 28, 164, 0, 7, 4, 167, 0, 17, 3, 167, 0, 13, 26, 28, 160, 0, 7, 4]
abbrev dktX12_holds_1 : List UInt8 := dkwX12_holds_1 ++ dktX12_holds_2
def dkwX12_holds_0 : List UInt8 := [27, 16, 60, 160, 0, 16, 26, 28, 162, 0, 7, 4, 167, 0, 36, 3, 167, 0, 32, 27, 16, 62]
abbrev dktX12_holds_0 : List UInt8 := dkwX12_holds_0 ++ dktX12_holds_1
theorem dksX12_holds_0 : cX12_holds.data.toList.drop 0 = dktX12_holds_0 := by decide +kernel
theorem dksX12_holds_1 : cX12_holds.data.toList.drop 22 = dktX12_holds_1 := dk_seg dksX12_holds_0 22 rfl rfl
theorem dksX12_holds_2 : cX12_holds.data.toList.drop 44 = dktX12_holds_2 := dk_seg dksX12_holds_1 22 rfl rfl
theorem dX12_holds_0 : decode cX12_holds 0 = .ok (.iload_n 1, 1) := dk_27 (dk_at dksX12_holds_0 0 rfl rfl)
theorem dX12_holds_1 : decode cX12_holds 1 = .ok (.bipush 60, 2) := dk_16 60 (dk_at dksX12_holds_0 1 rfl rfl)
theorem dX12_holds_3 : decode cX12_holds 3 = .ok (.if_icmp .ne 16, 3) := dk_160 0 16 (dk_at dksX12_holds_0 3 rfl rfl)
theorem dX12_holds_6 : decode cX12_holds 6 = .ok (.iload_n 0, 1) := dk_26 (dk_at dksX12_holds_0 6 rfl rfl)
theorem dX12_holds_7 : decode cX12_holds 7 = .ok (.iload_n 2, 1) := dk_28 (dk_at dksX12_holds_0 7 rfl rfl)
theorem dX12_holds_8 : decode cX12_holds 8 = .ok (.if_icmp .ge 7, 3) := dk_162 0 7 (dk_at dksX12_holds_0 8 rfl rfl)
theorem dX12_holds_11 : decode cX12_holds 11 = .ok (.iconst 1, 1) := dk_4 (dk_at dksX12_holds_0 11 rfl rfl)
theorem dX12_holds_12 : decode cX12_holds 12 = .ok (.goto 36, 3) := dk_167 0 36 (dk_at dksX12_holds_0 12 rfl rfl)
theorem dX12_holds_15 : decode cX12_holds 15 = .ok (.iconst 0, 1) := dk_3 (dk_at dksX12_holds_0 15 rfl rfl)
theorem dX12_holds_16 : decode cX12_holds 16 = .ok (.goto 32, 3) := dk_167 0 32 (dk_at dksX12_holds_0 16 rfl rfl)
theorem dX12_holds_19 : decode cX12_holds 19 = .ok (.iload_n 1, 1) := dk_27 (dk_at dksX12_holds_0 19 rfl rfl)
theorem dX12_holds_20 : decode cX12_holds 20 = .ok (.bipush 62, 2) := dk_16 62 (dk_at dksX12_holds_0 20 rfl rfl)
theorem dX12_holds_22 : decode cX12_holds 22 = .ok (.if_icmp .ne 16, 3) := dk_160 0 16 (dk_at dksX12_holds_1 0 rfl rfl)
theorem dX12_holds_25 : decode cX12_holds 25 = .ok (.iload_n 0, 1) := dk_26 (dk_at dksX12_holds_1 3 rfl rfl)
theorem dX12_holds_26 : decode cX12_holds 26 = .ok (.iload_n 2, 1) := dk_28 (dk_at dksX12_holds_1 4 rfl rfl)
theorem dX12_holds_27 : decode cX12_holds 27 = .ok (.if_icmp .le 7, 3) := dk_164 0 7 (dk_at dksX12_holds_1 5 rfl rfl)
theorem dX12_holds_30 : decode cX12_holds 30 = .ok (.iconst 1, 1) := dk_4 (dk_at dksX12_holds_1 8 rfl rfl)
theorem dX12_holds_31 : decode cX12_holds 31 = .ok (.goto 17, 3) := dk_167 0 17 (dk_at dksX12_holds_1 9 rfl rfl)
theorem dX12_holds_34 : decode cX12_holds 34 = .ok (.iconst 0, 1) := dk_3 (dk_at dksX12_holds_1 12 rfl rfl)
theorem dX12_holds_35 : decode cX12_holds 35 = .ok (.goto 13, 3) := dk_167 0 13 (dk_at dksX12_holds_1 13 rfl rfl)
theorem dX12_holds_38 : decode cX12_holds 38 = .ok (.iload_n 0, 1) := dk_26 (dk_at dksX12_holds_1 16 rfl rfl)
theorem dX12_holds_39 : decode cX12_holds 39 = .ok (.iload_n 2, 1) := dk_28 (dk_at dksX12_holds_1 17 rfl rfl)
theorem dX12_holds_40 : decode cX12_holds 40 = .ok (.if_icmp .ne 7, 3) := dk_160 0 7 (dk_at dksX12_holds_1 18 rfl rfl)
theorem dX12_holds_43 : decode cX12_holds 43 = .ok (.iconst 1, 1) := dk_4 (dk_at dksX12_holds_1 21 rfl rfl)
theorem dX12_holds_44 : decode cX12_holds 44 = .ok (.goto 4, 3) := dk_167 0 4 (dk_at dksX12_holds_2 0 rfl rfl)
theorem dX12_holds_47 : decode cX12_holds 47 = .ok (.iconst 0, 1) := dk_3 (dk_at dksX12_holds_2 3 rfl rfl)
theorem dX12_holds_48 : decode cX12_holds 48 = .ok (.ireturn, 1) := dk_172 (dk_at dksX12_holds_2 4 rfl rfl)
def dkwX12_within_0 : List UInt8 := [42, 180, 0, 22, 184, 0, 25, 28, 4, 96, 184, 0, 25, 129, 173]
abbrev dktX12_within_0 : List UInt8 := dkwX12_within_0 ++ []
theorem dksX12_within_0 : cX12_within.data.toList.drop 0 = dktX12_within_0 := by decide +kernel
theorem dX12_within_0 : decode cX12_within 0 = .ok (.aload_n 0, 1) := dk_42 (dk_at dksX12_within_0 0 rfl rfl)
theorem dX12_within_1 : decode cX12_within 1 = .ok (.getfield 22, 3) := dk_180 0 22 (dk_at dksX12_within_0 1 rfl rfl)
theorem dX12_within_4 : decode cX12_within 4 = .ok (.invokestatic 25, 3) := dk_184 0 25 (dk_at dksX12_within_0 4 rfl rfl)
theorem dX12_within_7 : decode cX12_within 7 = .ok (.iload_n 2, 1) := dk_28 (dk_at dksX12_within_0 7 rfl rfl)
theorem dX12_within_8 : decode cX12_within 8 = .ok (.iconst 1, 1) := dk_4 (dk_at dksX12_within_0 8 rfl rfl)
theorem dX12_within_9 : decode cX12_within 9 = .ok (.iadd, 1) := dk_96 (dk_at dksX12_within_0 9 rfl rfl)
theorem dX12_within_10 : decode cX12_within 10 = .ok (.invokestatic 25, 3) := dk_184 0 25 (dk_at dksX12_within_0 10 rfl rfl)
theorem dX12_within_13 : decode cX12_within 13 = .ok (.lor, 1) := dk_129 (dk_at dksX12_within_0 13 rfl rfl)
theorem dX12_within_14 : decode cX12_within 14 = .ok (.lreturn, 1) := dk_173 (dk_at dksX12_within_0 14 rfl rfl)
theorem dX12_place_0 : decode cX12_place 0 = .ok (.aload_n 0, 1) := by decide +kernel
theorem dX12_place_1 : decode cX12_place 1 = .ok (.getfield 22, 3) := by decide +kernel
theorem dX12_place_4 : decode cX12_place 4 = .ok (.ireturn, 1) := by decide +kernel
def dkwX12_may_3 : List UInt8 := [167, 0, 9, 28, 4, 96, 184, 0, 25, 173]
abbrev dktX12_may_3 : List UInt8 := dkwX12_may_3 ++ []
def dkwX12_may_2 : List UInt8 := [180, 0, 15, 42, 180, 0, 19, 180, 0, 34, 184, 0, 37, 153, 0, 13, 42, 180, 0, 22, 184, 0, 25]
abbrev dktX12_may_2 : List UInt8 := dkwX12_may_2 ++ dktX12_may_3
def dkwX12_may_1 : List UInt8 := [180, 0, 22, 184, 0, 25, 28, 4, 96, 184, 0, 25, 129, 173, 42, 180, 0, 9, 180, 0, 34, 42]
abbrev dktX12_may_1 : List UInt8 := dkwX12_may_1 ++ dktX12_may_2
def dkwX12_may_0 : List UInt8 := [42, 180, 0, 9, 180, 0, 29, 2, 160, 0, 14, 42, 180, 0, 19, 180, 0, 29, 2, 159, 0, 18, 42]
abbrev dktX12_may_0 : List UInt8 := dkwX12_may_0 ++ dktX12_may_1
theorem dksX12_may_0 : cX12_may.data.toList.drop 0 = dktX12_may_0 := by decide +kernel
theorem dksX12_may_1 : cX12_may.data.toList.drop 23 = dktX12_may_1 := dk_seg dksX12_may_0 23 rfl rfl
theorem dksX12_may_2 : cX12_may.data.toList.drop 45 = dktX12_may_2 := dk_seg dksX12_may_1 22 rfl rfl
theorem dksX12_may_3 : cX12_may.data.toList.drop 68 = dktX12_may_3 := dk_seg dksX12_may_2 23 rfl rfl
theorem dX12_may_0 : decode cX12_may 0 = .ok (.aload_n 0, 1) := dk_42 (dk_at dksX12_may_0 0 rfl rfl)
theorem dX12_may_1 : decode cX12_may 1 = .ok (.getfield 9, 3) := dk_180 0 9 (dk_at dksX12_may_0 1 rfl rfl)
theorem dX12_may_4 : decode cX12_may 4 = .ok (.getfield 29, 3) := dk_180 0 29 (dk_at dksX12_may_0 4 rfl rfl)
theorem dX12_may_7 : decode cX12_may 7 = .ok (.iconst (-1), 1) := dk_2 (dk_at dksX12_may_0 7 rfl rfl)
theorem dX12_may_8 : decode cX12_may 8 = .ok (.if_icmp .ne 14, 3) := dk_160 0 14 (dk_at dksX12_may_0 8 rfl rfl)
theorem dX12_may_11 : decode cX12_may 11 = .ok (.aload_n 0, 1) := dk_42 (dk_at dksX12_may_0 11 rfl rfl)
theorem dX12_may_12 : decode cX12_may 12 = .ok (.getfield 19, 3) := dk_180 0 19 (dk_at dksX12_may_0 12 rfl rfl)
theorem dX12_may_15 : decode cX12_may 15 = .ok (.getfield 29, 3) := dk_180 0 29 (dk_at dksX12_may_0 15 rfl rfl)
theorem dX12_may_18 : decode cX12_may 18 = .ok (.iconst (-1), 1) := dk_2 (dk_at dksX12_may_0 18 rfl rfl)
theorem dX12_may_19 : decode cX12_may 19 = .ok (.if_icmp .eq 18, 3) := dk_159 0 18 (dk_at dksX12_may_0 19 rfl rfl)
theorem dX12_may_22 : decode cX12_may 22 = .ok (.aload_n 0, 1) := dk_42 (dk_at dksX12_may_0 22 rfl rfl)
theorem dX12_may_23 : decode cX12_may 23 = .ok (.getfield 22, 3) := dk_180 0 22 (dk_at dksX12_may_1 0 rfl rfl)
theorem dX12_may_26 : decode cX12_may 26 = .ok (.invokestatic 25, 3) := dk_184 0 25 (dk_at dksX12_may_1 3 rfl rfl)
theorem dX12_may_29 : decode cX12_may 29 = .ok (.iload_n 2, 1) := dk_28 (dk_at dksX12_may_1 6 rfl rfl)
theorem dX12_may_30 : decode cX12_may 30 = .ok (.iconst 1, 1) := dk_4 (dk_at dksX12_may_1 7 rfl rfl)
theorem dX12_may_31 : decode cX12_may 31 = .ok (.iadd, 1) := dk_96 (dk_at dksX12_may_1 8 rfl rfl)
theorem dX12_may_32 : decode cX12_may 32 = .ok (.invokestatic 25, 3) := dk_184 0 25 (dk_at dksX12_may_1 9 rfl rfl)
theorem dX12_may_35 : decode cX12_may 35 = .ok (.lor, 1) := dk_129 (dk_at dksX12_may_1 12 rfl rfl)
theorem dX12_may_36 : decode cX12_may 36 = .ok (.lreturn, 1) := dk_173 (dk_at dksX12_may_1 13 rfl rfl)
theorem dX12_may_37 : decode cX12_may 37 = .ok (.aload_n 0, 1) := dk_42 (dk_at dksX12_may_1 14 rfl rfl)
theorem dX12_may_38 : decode cX12_may 38 = .ok (.getfield 9, 3) := dk_180 0 9 (dk_at dksX12_may_1 15 rfl rfl)
theorem dX12_may_41 : decode cX12_may 41 = .ok (.getfield 34, 3) := dk_180 0 34 (dk_at dksX12_may_1 18 rfl rfl)
theorem dX12_may_44 : decode cX12_may 44 = .ok (.aload_n 0, 1) := dk_42 (dk_at dksX12_may_1 21 rfl rfl)
theorem dX12_may_45 : decode cX12_may 45 = .ok (.getfield 15, 3) := dk_180 0 15 (dk_at dksX12_may_2 0 rfl rfl)
theorem dX12_may_48 : decode cX12_may 48 = .ok (.aload_n 0, 1) := dk_42 (dk_at dksX12_may_2 3 rfl rfl)
theorem dX12_may_49 : decode cX12_may 49 = .ok (.getfield 19, 3) := dk_180 0 19 (dk_at dksX12_may_2 4 rfl rfl)
theorem dX12_may_52 : decode cX12_may 52 = .ok (.getfield 34, 3) := dk_180 0 34 (dk_at dksX12_may_2 7 rfl rfl)
theorem dX12_may_55 : decode cX12_may 55 = .ok (.invokestatic 37, 3) := dk_184 0 37 (dk_at dksX12_may_2 10 rfl rfl)
theorem dX12_may_58 : decode cX12_may 58 = .ok (.ifCond .eq 13, 3) := dk_153 0 13 (dk_at dksX12_may_2 13 rfl rfl)
theorem dX12_may_61 : decode cX12_may 61 = .ok (.aload_n 0, 1) := dk_42 (dk_at dksX12_may_2 16 rfl rfl)
theorem dX12_may_62 : decode cX12_may 62 = .ok (.getfield 22, 3) := dk_180 0 22 (dk_at dksX12_may_2 17 rfl rfl)
theorem dX12_may_65 : decode cX12_may 65 = .ok (.invokestatic 25, 3) := dk_184 0 25 (dk_at dksX12_may_2 20 rfl rfl)
theorem dX12_may_68 : decode cX12_may 68 = .ok (.goto 9, 3) := dk_167 0 9 (dk_at dksX12_may_3 0 rfl rfl)
theorem dX12_may_71 : decode cX12_may 71 = .ok (.iload_n 2, 1) := dk_28 (dk_at dksX12_may_3 3 rfl rfl)
theorem dX12_may_72 : decode cX12_may 72 = .ok (.iconst 1, 1) := dk_4 (dk_at dksX12_may_3 4 rfl rfl)
theorem dX12_may_73 : decode cX12_may 73 = .ok (.iadd, 1) := dk_96 (dk_at dksX12_may_3 5 rfl rfl)
theorem dX12_may_74 : decode cX12_may 74 = .ok (.invokestatic 25, 3) := dk_184 0 25 (dk_at dksX12_may_3 6 rfl rfl)
theorem dX12_may_77 : decode cX12_may 77 = .ok (.lreturn, 1) := dk_173 (dk_at dksX12_may_3 9 rfl rfl)
def dkwX12_needs_3 : List UInt8 := [167, 0, 4, 29, 172]
abbrev dktX12_needs_3 : List UInt8 := dkwX12_needs_3 ++ []
def dkwX12_needs_2 : List UInt8 := [4, 96, 172, 28, 153, 0, 21, 27, 153, 0, 10, 29, 21, 4, 100, 167, 0, 11, 29, 21, 4, 96]
abbrev dktX12_needs_2 : List UInt8 := dkwX12_needs_2 ++ dktX12_needs_3
def dkwX12_needs_1 : List UInt8 := [167, 0, 4, 3, 54, 4, 42, 180, 0, 15, 16, 61, 160, 0, 15, 28, 153, 0, 7, 29, 167, 0, 6, 29]
abbrev dktX12_needs_1 : List UInt8 := dkwX12_needs_1 ++ dktX12_needs_2
def dkwX12_needs_0 : List UInt8 := [42, 180, 0, 15, 16, 60, 160, 0, 7, 2, 167, 0, 17, 42, 180, 0, 15, 16, 62, 160, 0, 7, 4]
abbrev dktX12_needs_0 : List UInt8 := dkwX12_needs_0 ++ dktX12_needs_1
theorem dksX12_needs_0 : cX12_needs.data.toList.drop 0 = dktX12_needs_0 := by decide +kernel
theorem dksX12_needs_1 : cX12_needs.data.toList.drop 23 = dktX12_needs_1 := dk_seg dksX12_needs_0 23 rfl rfl
theorem dksX12_needs_2 : cX12_needs.data.toList.drop 47 = dktX12_needs_2 := dk_seg dksX12_needs_1 24 rfl rfl
theorem dksX12_needs_3 : cX12_needs.data.toList.drop 69 = dktX12_needs_3 := dk_seg dksX12_needs_2 22 rfl rfl
theorem dX12_needs_0 : decode cX12_needs 0 = .ok (.aload_n 0, 1) := dk_42 (dk_at dksX12_needs_0 0 rfl rfl)
theorem dX12_needs_1 : decode cX12_needs 1 = .ok (.getfield 15, 3) := dk_180 0 15 (dk_at dksX12_needs_0 1 rfl rfl)
theorem dX12_needs_4 : decode cX12_needs 4 = .ok (.bipush 60, 2) := dk_16 60 (dk_at dksX12_needs_0 4 rfl rfl)
theorem dX12_needs_6 : decode cX12_needs 6 = .ok (.if_icmp .ne 7, 3) := dk_160 0 7 (dk_at dksX12_needs_0 6 rfl rfl)
theorem dX12_needs_9 : decode cX12_needs 9 = .ok (.iconst (-1), 1) := dk_2 (dk_at dksX12_needs_0 9 rfl rfl)
theorem dX12_needs_10 : decode cX12_needs 10 = .ok (.goto 17, 3) := dk_167 0 17 (dk_at dksX12_needs_0 10 rfl rfl)
theorem dX12_needs_13 : decode cX12_needs 13 = .ok (.aload_n 0, 1) := dk_42 (dk_at dksX12_needs_0 13 rfl rfl)
theorem dX12_needs_14 : decode cX12_needs 14 = .ok (.getfield 15, 3) := dk_180 0 15 (dk_at dksX12_needs_0 14 rfl rfl)
theorem dX12_needs_17 : decode cX12_needs 17 = .ok (.bipush 62, 2) := dk_16 62 (dk_at dksX12_needs_0 17 rfl rfl)
theorem dX12_needs_19 : decode cX12_needs 19 = .ok (.if_icmp .ne 7, 3) := dk_160 0 7 (dk_at dksX12_needs_0 19 rfl rfl)
theorem dX12_needs_22 : decode cX12_needs 22 = .ok (.iconst 1, 1) := dk_4 (dk_at dksX12_needs_0 22 rfl rfl)
theorem dX12_needs_23 : decode cX12_needs 23 = .ok (.goto 4, 3) := dk_167 0 4 (dk_at dksX12_needs_1 0 rfl rfl)
theorem dX12_needs_26 : decode cX12_needs 26 = .ok (.iconst 0, 1) := dk_3 (dk_at dksX12_needs_1 3 rfl rfl)
theorem dX12_needs_27 : decode cX12_needs 27 = .ok (.istore 4, 2) := dk_54 4 (dk_at dksX12_needs_1 4 rfl rfl)
theorem dX12_needs_29 : decode cX12_needs 29 = .ok (.aload_n 0, 1) := dk_42 (dk_at dksX12_needs_1 6 rfl rfl)
theorem dX12_needs_30 : decode cX12_needs 30 = .ok (.getfield 15, 3) := dk_180 0 15 (dk_at dksX12_needs_1 7 rfl rfl)
theorem dX12_needs_33 : decode cX12_needs 33 = .ok (.bipush 61, 2) := dk_16 61 (dk_at dksX12_needs_1 10 rfl rfl)
theorem dX12_needs_35 : decode cX12_needs 35 = .ok (.if_icmp .ne 15, 3) := dk_160 0 15 (dk_at dksX12_needs_1 12 rfl rfl)
theorem dX12_needs_38 : decode cX12_needs 38 = .ok (.iload_n 2, 1) := dk_28 (dk_at dksX12_needs_1 15 rfl rfl)
theorem dX12_needs_39 : decode cX12_needs 39 = .ok (.ifCond .eq 7, 3) := dk_153 0 7 (dk_at dksX12_needs_1 16 rfl rfl)
theorem dX12_needs_42 : decode cX12_needs 42 = .ok (.iload_n 3, 1) := dk_29 (dk_at dksX12_needs_1 19 rfl rfl)
theorem dX12_needs_43 : decode cX12_needs 43 = .ok (.goto 6, 3) := dk_167 0 6 (dk_at dksX12_needs_1 20 rfl rfl)
theorem dX12_needs_46 : decode cX12_needs 46 = .ok (.iload_n 3, 1) := dk_29 (dk_at dksX12_needs_1 23 rfl rfl)
theorem dX12_needs_47 : decode cX12_needs 47 = .ok (.iconst 1, 1) := dk_4 (dk_at dksX12_needs_2 0 rfl rfl)
theorem dX12_needs_48 : decode cX12_needs 48 = .ok (.iadd, 1) := dk_96 (dk_at dksX12_needs_2 1 rfl rfl)
theorem dX12_needs_49 : decode cX12_needs 49 = .ok (.ireturn, 1) := dk_172 (dk_at dksX12_needs_2 2 rfl rfl)
theorem dX12_needs_50 : decode cX12_needs 50 = .ok (.iload_n 2, 1) := dk_28 (dk_at dksX12_needs_2 3 rfl rfl)
theorem dX12_needs_51 : decode cX12_needs 51 = .ok (.ifCond .eq 21, 3) := dk_153 0 21 (dk_at dksX12_needs_2 4 rfl rfl)
theorem dX12_needs_54 : decode cX12_needs 54 = .ok (.iload_n 1, 1) := dk_27 (dk_at dksX12_needs_2 7 rfl rfl)
theorem dX12_needs_55 : decode cX12_needs 55 = .ok (.ifCond .eq 10, 3) := dk_153 0 10 (dk_at dksX12_needs_2 8 rfl rfl)
theorem dX12_needs_58 : decode cX12_needs 58 = .ok (.iload_n 3, 1) := dk_29 (dk_at dksX12_needs_2 11 rfl rfl)
theorem dX12_needs_59 : decode cX12_needs 59 = .ok (.iload 4, 2) := dk_21 4 (dk_at dksX12_needs_2 12 rfl rfl)
theorem dX12_needs_61 : decode cX12_needs 61 = .ok (.isub, 1) := dk_100 (dk_at dksX12_needs_2 14 rfl rfl)
theorem dX12_needs_62 : decode cX12_needs 62 = .ok (.goto 11, 3) := dk_167 0 11 (dk_at dksX12_needs_2 15 rfl rfl)
theorem dX12_needs_65 : decode cX12_needs 65 = .ok (.iload_n 3, 1) := dk_29 (dk_at dksX12_needs_2 18 rfl rfl)
theorem dX12_needs_66 : decode cX12_needs 66 = .ok (.iload 4, 2) := dk_21 4 (dk_at dksX12_needs_2 19 rfl rfl)
theorem dX12_needs_68 : decode cX12_needs 68 = .ok (.iadd, 1) := dk_96 (dk_at dksX12_needs_2 21 rfl rfl)
theorem dX12_needs_69 : decode cX12_needs 69 = .ok (.goto 4, 3) := dk_167 0 4 (dk_at dksX12_needs_3 0 rfl rfl)
theorem dX12_needs_72 : decode cX12_needs 72 = .ok (.iload_n 3, 1) := dk_29 (dk_at dksX12_needs_3 3 rfl rfl)
theorem dX12_needs_73 : decode cX12_needs 73 = .ok (.ireturn, 1) := dk_172 (dk_at dksX12_needs_3 4 rfl rfl)
def dkwX12_init_1 : List UInt8 := [181, 0, 22, 177]
abbrev dktX12_init_1 : List UInt8 := dkwX12_init_1 ++ []
def dkwX12_init_0 : List UInt8 := [42, 27, 183, 0, 3, 42, 44, 181, 0, 9, 42, 29, 181, 0, 15, 42, 25, 4, 181, 0, 19, 42, 21, 5]
abbrev dktX12_init_0 : List UInt8 := dkwX12_init_0 ++ dktX12_init_1
theorem dksX12_init_0 : cX12_init.data.toList.drop 0 = dktX12_init_0 := by decide +kernel
theorem dksX12_init_1 : cX12_init.data.toList.drop 24 = dktX12_init_1 := dk_seg dksX12_init_0 24 rfl rfl
theorem dX12_init_0 : decode cX12_init 0 = .ok (.aload_n 0, 1) := dk_42 (dk_at dksX12_init_0 0 rfl rfl)
theorem dX12_init_1 : decode cX12_init 1 = .ok (.iload_n 1, 1) := dk_27 (dk_at dksX12_init_0 1 rfl rfl)
theorem dX12_init_2 : decode cX12_init 2 = .ok (.invokespecial 3, 3) := dk_183 0 3 (dk_at dksX12_init_0 2 rfl rfl)
theorem dX12_init_5 : decode cX12_init 5 = .ok (.aload_n 0, 1) := dk_42 (dk_at dksX12_init_0 5 rfl rfl)
theorem dX12_init_6 : decode cX12_init 6 = .ok (.aload_n 2, 1) := dk_44 (dk_at dksX12_init_0 6 rfl rfl)
theorem dX12_init_7 : decode cX12_init 7 = .ok (.putfield 9, 3) := dk_181 0 9 (dk_at dksX12_init_0 7 rfl rfl)
theorem dX12_init_10 : decode cX12_init 10 = .ok (.aload_n 0, 1) := dk_42 (dk_at dksX12_init_0 10 rfl rfl)
theorem dX12_init_11 : decode cX12_init 11 = .ok (.iload_n 3, 1) := dk_29 (dk_at dksX12_init_0 11 rfl rfl)
theorem dX12_init_12 : decode cX12_init 12 = .ok (.putfield 15, 3) := dk_181 0 15 (dk_at dksX12_init_0 12 rfl rfl)
theorem dX12_init_15 : decode cX12_init 15 = .ok (.aload_n 0, 1) := dk_42 (dk_at dksX12_init_0 15 rfl rfl)
theorem dX12_init_16 : decode cX12_init 16 = .ok (.aload 4, 2) := dk_25 4 (dk_at dksX12_init_0 16 rfl rfl)
theorem dX12_init_18 : decode cX12_init 18 = .ok (.putfield 19, 3) := dk_181 0 19 (dk_at dksX12_init_0 18 rfl rfl)
theorem dX12_init_21 : decode cX12_init 21 = .ok (.aload_n 0, 1) := dk_42 (dk_at dksX12_init_0 21 rfl rfl)
theorem dX12_init_22 : decode cX12_init 22 = .ok (.iload 5, 2) := dk_21 5 (dk_at dksX12_init_0 22 rfl rfl)
theorem dX12_init_24 : decode cX12_init 24 = .ok (.putfield 22, 3) := dk_181 0 22 (dk_at dksX12_init_1 0 rfl rfl)
theorem dX12_init_27 : decode cX12_init 27 = .ok (.return_, 1) := dk_177 (dk_at dksX12_init_1 3 rfl rfl)
theorem dX13_word_0 : decode cX13_word 0 = .ok (.iconst 4, 1) := by decide +kernel
theorem dX13_word_1 : decode cX13_word 1 = .ok (.ireturn, 1) := by decide +kernel
theorem dX13_cell_0 : decode cX13_cell 0 = .ok (.aload_n 0, 1) := by decide +kernel
theorem dX13_cell_1 : decode cX13_cell 1 = .ok (.getfield 9, 3) := by decide +kernel
theorem dX13_cell_4 : decode cX13_cell 4 = .ok (.ireturn, 1) := by decide +kernel
def dkwX13_does_0 : List UInt8 := [43, 28, 43, 180, 0, 34, 42, 180, 0, 9, 46, 182, 0, 40, 172]
abbrev dktX13_does_0 : List UInt8 := dkwX13_does_0 ++ []
theorem dksX13_does_0 : cX13_does.data.toList.drop 0 = dktX13_does_0 := by decide +kernel
theorem dX13_does_0 : decode cX13_does 0 = .ok (.aload_n 1, 1) := dk_43 (dk_at dksX13_does_0 0 rfl rfl)
theorem dX13_does_1 : decode cX13_does 1 = .ok (.iload_n 2, 1) := dk_28 (dk_at dksX13_does_0 1 rfl rfl)
theorem dX13_does_2 : decode cX13_does 2 = .ok (.aload_n 1, 1) := dk_43 (dk_at dksX13_does_0 2 rfl rfl)
theorem dX13_does_3 : decode cX13_does 3 = .ok (.getfield 34, 3) := dk_180 0 34 (dk_at dksX13_does_0 3 rfl rfl)
theorem dX13_does_6 : decode cX13_does 6 = .ok (.aload_n 0, 1) := dk_42 (dk_at dksX13_does_0 6 rfl rfl)
theorem dX13_does_7 : decode cX13_does 7 = .ok (.getfield 9, 3) := dk_180 0 9 (dk_at dksX13_does_0 7 rfl rfl)
theorem dX13_does_10 : decode cX13_does 10 = .ok (.iaload, 1) := dk_46 (dk_at dksX13_does_0 10 rfl rfl)
theorem dX13_does_11 : decode cX13_does 11 = .ok (.invokevirtual 40, 3) := dk_182 0 40 (dk_at dksX13_does_0 11 rfl rfl)
theorem dX13_does_14 : decode cX13_does 14 = .ok (.ireturn, 1) := dk_172 (dk_at dksX13_does_0 14 rfl rfl)
theorem dX13_isJump_0 : decode cX13_isJump 0 = .ok (.iconst 1, 1) := by decide +kernel
theorem dX13_isJump_1 : decode cX13_isJump 1 = .ok (.ireturn, 1) := by decide +kernel
theorem dX13_kind_0 : decode cX13_kind 0 = .ok (.aload_n 0, 1) := by decide +kernel
theorem dX13_kind_1 : decode cX13_kind 1 = .ok (.getfield 15, 3) := by decide +kernel
theorem dX13_kind_4 : decode cX13_kind 4 = .ok (.ireturn, 1) := by decide +kernel
def dkwX13_within_0 : List UInt8 := [43, 180, 0, 18, 28, 47, 173]
abbrev dktX13_within_0 : List UInt8 := dkwX13_within_0 ++ []
theorem dksX13_within_0 : cX13_within.data.toList.drop 0 = dktX13_within_0 := by decide +kernel
theorem dX13_within_0 : decode cX13_within 0 = .ok (.aload_n 1, 1) := dk_43 (dk_at dksX13_within_0 0 rfl rfl)
theorem dX13_within_1 : decode cX13_within 1 = .ok (.getfield 18, 3) := dk_180 0 18 (dk_at dksX13_within_0 1 rfl rfl)
theorem dX13_within_4 : decode cX13_within 4 = .ok (.iload_n 2, 1) := dk_28 (dk_at dksX13_within_0 4 rfl rfl)
theorem dX13_within_5 : decode cX13_within 5 = .ok (.laload, 1) := dk_47 (dk_at dksX13_within_0 5 rfl rfl)
theorem dX13_within_6 : decode cX13_within 6 = .ok (.lreturn, 1) := dk_173 (dk_at dksX13_within_0 6 rfl rfl)
def dkwX13_may_2 : List UInt8 := [180, 0, 9, 47, 22, 6, 127, 173]
abbrev dktX13_may_2 : List UInt8 := dkwX13_may_2 ++ []
def dkwX13_may_1 : List UInt8 := [180, 0, 28, 42, 180, 0, 9, 122, 4, 126, 4, 160, 0, 8, 22, 6, 167, 0, 15, 43, 180, 0, 31, 42]
abbrev dktX13_may_1 : List UInt8 := dkwX13_may_1 ++ dktX13_may_2
def dkwX13_may_0 : List UInt8 := [43, 28, 45, 28, 46, 182, 0, 24, 55, 6, 21, 4, 42, 180, 0, 9, 122, 4, 126, 4, 159, 0, 18, 43]
abbrev dktX13_may_0 : List UInt8 := dkwX13_may_0 ++ dktX13_may_1
theorem dksX13_may_0 : cX13_may.data.toList.drop 0 = dktX13_may_0 := by decide +kernel
theorem dksX13_may_1 : cX13_may.data.toList.drop 24 = dktX13_may_1 := dk_seg dksX13_may_0 24 rfl rfl
theorem dksX13_may_2 : cX13_may.data.toList.drop 48 = dktX13_may_2 := dk_seg dksX13_may_1 24 rfl rfl
theorem dX13_may_0 : decode cX13_may 0 = .ok (.aload_n 1, 1) := dk_43 (dk_at dksX13_may_0 0 rfl rfl)
theorem dX13_may_1 : decode cX13_may 1 = .ok (.iload_n 2, 1) := dk_28 (dk_at dksX13_may_0 1 rfl rfl)
theorem dX13_may_2 : decode cX13_may 2 = .ok (.aload_n 3, 1) := dk_45 (dk_at dksX13_may_0 2 rfl rfl)
theorem dX13_may_3 : decode cX13_may 3 = .ok (.iload_n 2, 1) := dk_28 (dk_at dksX13_may_0 3 rfl rfl)
theorem dX13_may_4 : decode cX13_may 4 = .ok (.iaload, 1) := dk_46 (dk_at dksX13_may_0 4 rfl rfl)
theorem dX13_may_5 : decode cX13_may 5 = .ok (.invokevirtual 24, 3) := dk_182 0 24 (dk_at dksX13_may_0 5 rfl rfl)
theorem dX13_may_8 : decode cX13_may 8 = .ok (.lstore 6, 2) := dk_55 6 (dk_at dksX13_may_0 8 rfl rfl)
theorem dX13_may_10 : decode cX13_may 10 = .ok (.iload 4, 2) := dk_21 4 (dk_at dksX13_may_0 10 rfl rfl)
theorem dX13_may_12 : decode cX13_may 12 = .ok (.aload_n 0, 1) := dk_42 (dk_at dksX13_may_0 12 rfl rfl)
theorem dX13_may_13 : decode cX13_may 13 = .ok (.getfield 9, 3) := dk_180 0 9 (dk_at dksX13_may_0 13 rfl rfl)
theorem dX13_may_16 : decode cX13_may 16 = .ok (.ishr, 1) := dk_122 (dk_at dksX13_may_0 16 rfl rfl)
theorem dX13_may_17 : decode cX13_may 17 = .ok (.iconst 1, 1) := dk_4 (dk_at dksX13_may_0 17 rfl rfl)
theorem dX13_may_18 : decode cX13_may 18 = .ok (.iand, 1) := dk_126 (dk_at dksX13_may_0 18 rfl rfl)
theorem dX13_may_19 : decode cX13_may 19 = .ok (.iconst 1, 1) := dk_4 (dk_at dksX13_may_0 19 rfl rfl)
theorem dX13_may_20 : decode cX13_may 20 = .ok (.if_icmp .eq 18, 3) := dk_159 0 18 (dk_at dksX13_may_0 20 rfl rfl)
theorem dX13_may_23 : decode cX13_may 23 = .ok (.aload_n 1, 1) := dk_43 (dk_at dksX13_may_0 23 rfl rfl)
theorem dX13_may_24 : decode cX13_may 24 = .ok (.getfield 28, 3) := dk_180 0 28 (dk_at dksX13_may_1 0 rfl rfl)
theorem dX13_may_27 : decode cX13_may 27 = .ok (.aload_n 0, 1) := dk_42 (dk_at dksX13_may_1 3 rfl rfl)
theorem dX13_may_28 : decode cX13_may 28 = .ok (.getfield 9, 3) := dk_180 0 9 (dk_at dksX13_may_1 4 rfl rfl)
theorem dX13_may_31 : decode cX13_may 31 = .ok (.ishr, 1) := dk_122 (dk_at dksX13_may_1 7 rfl rfl)
theorem dX13_may_32 : decode cX13_may 32 = .ok (.iconst 1, 1) := dk_4 (dk_at dksX13_may_1 8 rfl rfl)
theorem dX13_may_33 : decode cX13_may 33 = .ok (.iand, 1) := dk_126 (dk_at dksX13_may_1 9 rfl rfl)
theorem dX13_may_34 : decode cX13_may 34 = .ok (.iconst 1, 1) := dk_4 (dk_at dksX13_may_1 10 rfl rfl)
theorem dX13_may_35 : decode cX13_may 35 = .ok (.if_icmp .ne 8, 3) := dk_160 0 8 (dk_at dksX13_may_1 11 rfl rfl)
theorem dX13_may_38 : decode cX13_may 38 = .ok (.lload 6, 2) := dk_22 6 (dk_at dksX13_may_1 14 rfl rfl)
theorem dX13_may_40 : decode cX13_may 40 = .ok (.goto 15, 3) := dk_167 0 15 (dk_at dksX13_may_1 16 rfl rfl)
theorem dX13_may_43 : decode cX13_may 43 = .ok (.aload_n 1, 1) := dk_43 (dk_at dksX13_may_1 19 rfl rfl)
theorem dX13_may_44 : decode cX13_may 44 = .ok (.getfield 31, 3) := dk_180 0 31 (dk_at dksX13_may_1 20 rfl rfl)
theorem dX13_may_47 : decode cX13_may 47 = .ok (.aload_n 0, 1) := dk_42 (dk_at dksX13_may_1 23 rfl rfl)
theorem dX13_may_48 : decode cX13_may 48 = .ok (.getfield 9, 3) := dk_180 0 9 (dk_at dksX13_may_2 0 rfl rfl)
theorem dX13_may_51 : decode cX13_may 51 = .ok (.laload, 1) := dk_47 (dk_at dksX13_may_2 3 rfl rfl)
theorem dX13_may_52 : decode cX13_may 52 = .ok (.lload 6, 2) := dk_22 6 (dk_at dksX13_may_2 4 rfl rfl)
theorem dX13_may_54 : decode cX13_may 54 = .ok (.land, 1) := dk_127 (dk_at dksX13_may_2 6 rfl rfl)
theorem dX13_may_55 : decode cX13_may 55 = .ok (.lreturn, 1) := dk_173 (dk_at dksX13_may_2 7 rfl rfl)
def dkwX13_init_0 : List UInt8 := [42, 27, 183, 0, 3, 42, 28, 181, 0, 9, 42, 29, 181, 0, 15, 177]
abbrev dktX13_init_0 : List UInt8 := dkwX13_init_0 ++ []
theorem dksX13_init_0 : cX13_init.data.toList.drop 0 = dktX13_init_0 := by decide +kernel
theorem dX13_init_0 : decode cX13_init 0 = .ok (.aload_n 0, 1) := dk_42 (dk_at dksX13_init_0 0 rfl rfl)
theorem dX13_init_1 : decode cX13_init 1 = .ok (.iload_n 1, 1) := dk_27 (dk_at dksX13_init_0 1 rfl rfl)
theorem dX13_init_2 : decode cX13_init 2 = .ok (.invokespecial 3, 3) := dk_183 0 3 (dk_at dksX13_init_0 2 rfl rfl)
theorem dX13_init_5 : decode cX13_init 5 = .ok (.aload_n 0, 1) := dk_42 (dk_at dksX13_init_0 5 rfl rfl)
theorem dX13_init_6 : decode cX13_init 6 = .ok (.iload_n 2, 1) := dk_28 (dk_at dksX13_init_0 6 rfl rfl)
theorem dX13_init_7 : decode cX13_init 7 = .ok (.putfield 9, 3) := dk_181 0 9 (dk_at dksX13_init_0 7 rfl rfl)
theorem dX13_init_10 : decode cX13_init 10 = .ok (.aload_n 0, 1) := dk_42 (dk_at dksX13_init_0 10 rfl rfl)
theorem dX13_init_11 : decode cX13_init 11 = .ok (.iload_n 3, 1) := dk_29 (dk_at dksX13_init_0 11 rfl rfl)
theorem dX13_init_12 : decode cX13_init 12 = .ok (.putfield 15, 3) := dk_181 0 15 (dk_at dksX13_init_0 12 rfl rfl)
theorem dX13_init_15 : decode cX13_init 15 = .ok (.return_, 1) := dk_177 (dk_at dksX13_init_0 15 rfl rfl)
theorem dX14_word_0 : decode cX14_word 0 = .ok (.iconst 5, 1) := by decide +kernel
theorem dX14_word_1 : decode cX14_word 1 = .ok (.ireturn, 1) := by decide +kernel
def dkwX14_does_1 : List UInt8 := [180, 0, 9, 172]
abbrev dktX14_does_1 : List UInt8 := dkwX14_does_1 ++ []
def dkwX14_does_0 : List UInt8 := [43, 180, 0, 19, 16, 8, 160, 0, 8, 43, 182, 0, 24, 172, 43, 28, 4, 96, 182, 0, 28, 42]
abbrev dktX14_does_0 : List UInt8 := dkwX14_does_0 ++ dktX14_does_1
theorem dksX14_does_0 : cX14_does.data.toList.drop 0 = dktX14_does_0 := by decide +kernel
theorem dksX14_does_1 : cX14_does.data.toList.drop 22 = dktX14_does_1 := dk_seg dksX14_does_0 22 rfl rfl
theorem dX14_does_0 : decode cX14_does 0 = .ok (.aload_n 1, 1) := dk_43 (dk_at dksX14_does_0 0 rfl rfl)
theorem dX14_does_1 : decode cX14_does 1 = .ok (.getfield 19, 3) := dk_180 0 19 (dk_at dksX14_does_0 1 rfl rfl)
theorem dX14_does_4 : decode cX14_does 4 = .ok (.bipush 8, 2) := dk_16 8 (dk_at dksX14_does_0 4 rfl rfl)
theorem dX14_does_6 : decode cX14_does 6 = .ok (.if_icmp .ne 8, 3) := dk_160 0 8 (dk_at dksX14_does_0 6 rfl rfl)
theorem dX14_does_9 : decode cX14_does 9 = .ok (.aload_n 1, 1) := dk_43 (dk_at dksX14_does_0 9 rfl rfl)
theorem dX14_does_10 : decode cX14_does 10 = .ok (.invokevirtual 24, 3) := dk_182 0 24 (dk_at dksX14_does_0 10 rfl rfl)
theorem dX14_does_13 : decode cX14_does 13 = .ok (.ireturn, 1) := dk_172 (dk_at dksX14_does_0 13 rfl rfl)
theorem dX14_does_14 : decode cX14_does 14 = .ok (.aload_n 1, 1) := dk_43 (dk_at dksX14_does_0 14 rfl rfl)
theorem dX14_does_15 : decode cX14_does 15 = .ok (.iload_n 2, 1) := dk_28 (dk_at dksX14_does_0 15 rfl rfl)
theorem dX14_does_16 : decode cX14_does 16 = .ok (.iconst 1, 1) := dk_4 (dk_at dksX14_does_0 16 rfl rfl)
theorem dX14_does_17 : decode cX14_does 17 = .ok (.iadd, 1) := dk_96 (dk_at dksX14_does_0 17 rfl rfl)
theorem dX14_does_18 : decode cX14_does 18 = .ok (.invokevirtual 28, 3) := dk_182 0 28 (dk_at dksX14_does_0 18 rfl rfl)
theorem dX14_does_21 : decode cX14_does 21 = .ok (.aload_n 0, 1) := dk_42 (dk_at dksX14_does_0 21 rfl rfl)
theorem dX14_does_22 : decode cX14_does 22 = .ok (.getfield 9, 3) := dk_180 0 9 (dk_at dksX14_does_1 0 rfl rfl)
theorem dX14_does_25 : decode cX14_does 25 = .ok (.ireturn, 1) := dk_172 (dk_at dksX14_does_1 3 rfl rfl)
theorem dX14_puts_0 : decode cX14_puts 0 = .ok (.iconst 1, 1) := by decide +kernel
theorem dX14_puts_1 : decode cX14_puts 1 = .ok (.ireturn, 1) := by decide +kernel
theorem dX14_place_0 : decode cX14_place 0 = .ok (.aload_n 0, 1) := by decide +kernel
theorem dX14_place_1 : decode cX14_place 1 = .ok (.getfield 9, 3) := by decide +kernel
theorem dX14_place_4 : decode cX14_place 4 = .ok (.ireturn, 1) := by decide +kernel
def dkwX14_may_0 : List UInt8 := [42, 180, 0, 9, 184, 0, 15, 173]
abbrev dktX14_may_0 : List UInt8 := dkwX14_may_0 ++ []
theorem dksX14_may_0 : cX14_may.data.toList.drop 0 = dktX14_may_0 := by decide +kernel
theorem dX14_may_0 : decode cX14_may 0 = .ok (.aload_n 0, 1) := dk_42 (dk_at dksX14_may_0 0 rfl rfl)
theorem dX14_may_1 : decode cX14_may 1 = .ok (.getfield 9, 3) := dk_180 0 9 (dk_at dksX14_may_0 1 rfl rfl)
theorem dX14_may_4 : decode cX14_may 4 = .ok (.invokestatic 15, 3) := dk_184 0 15 (dk_at dksX14_may_0 4 rfl rfl)
theorem dX14_may_7 : decode cX14_may 7 = .ok (.lreturn, 1) := dk_173 (dk_at dksX14_may_0 7 rfl rfl)
def dkwX14_init_0 : List UInt8 := [42, 27, 183, 0, 3, 42, 28, 181, 0, 9, 177]
abbrev dktX14_init_0 : List UInt8 := dkwX14_init_0 ++ []
theorem dksX14_init_0 : cX14_init.data.toList.drop 0 = dktX14_init_0 := by decide +kernel
theorem dX14_init_0 : decode cX14_init 0 = .ok (.aload_n 0, 1) := dk_42 (dk_at dksX14_init_0 0 rfl rfl)
theorem dX14_init_1 : decode cX14_init 1 = .ok (.iload_n 1, 1) := dk_27 (dk_at dksX14_init_0 1 rfl rfl)
theorem dX14_init_2 : decode cX14_init 2 = .ok (.invokespecial 3, 3) := dk_183 0 3 (dk_at dksX14_init_0 2 rfl rfl)
theorem dX14_init_5 : decode cX14_init 5 = .ok (.aload_n 0, 1) := dk_42 (dk_at dksX14_init_0 5 rfl rfl)
theorem dX14_init_6 : decode cX14_init 6 = .ok (.iload_n 2, 1) := dk_28 (dk_at dksX14_init_0 6 rfl rfl)
theorem dX14_init_7 : decode cX14_init 7 = .ok (.putfield 9, 3) := dk_181 0 9 (dk_at dksX14_init_0 7 rfl rfl)
theorem dX14_init_10 : decode cX14_init 10 = .ok (.return_, 1) := dk_177 (dk_at dksX14_init_0 10 rfl rfl)
theorem dX15_word_0 : decode cX15_word 0 = .ok (.bipush 6, 2) := by decide +kernel
theorem dX15_word_2 : decode cX15_word 2 = .ok (.ireturn, 1) := by decide +kernel
def dkwX15_does_1 : List UInt8 := [180, 0, 27, 7, 160, 0, 10, 43, 28, 4, 96, 182, 0, 30, 29, 172]
abbrev dktX15_does_1 : List UInt8 := dkwX15_does_1 ++ []
def dkwX15_does_0 : List UInt8 := [43, 180, 0, 13, 16, 8, 160, 0, 8, 43, 182, 0, 19, 172, 42, 43, 28, 183, 0, 23, 62, 43]
abbrev dktX15_does_0 : List UInt8 := dkwX15_does_0 ++ dktX15_does_1
theorem dksX15_does_0 : cX15_does.data.toList.drop 0 = dktX15_does_0 := by decide +kernel
theorem dksX15_does_1 : cX15_does.data.toList.drop 22 = dktX15_does_1 := dk_seg dksX15_does_0 22 rfl rfl
theorem dX15_does_0 : decode cX15_does 0 = .ok (.aload_n 1, 1) := dk_43 (dk_at dksX15_does_0 0 rfl rfl)
theorem dX15_does_1 : decode cX15_does 1 = .ok (.getfield 13, 3) := dk_180 0 13 (dk_at dksX15_does_0 1 rfl rfl)
theorem dX15_does_4 : decode cX15_does 4 = .ok (.bipush 8, 2) := dk_16 8 (dk_at dksX15_does_0 4 rfl rfl)
theorem dX15_does_6 : decode cX15_does 6 = .ok (.if_icmp .ne 8, 3) := dk_160 0 8 (dk_at dksX15_does_0 6 rfl rfl)
theorem dX15_does_9 : decode cX15_does 9 = .ok (.aload_n 1, 1) := dk_43 (dk_at dksX15_does_0 9 rfl rfl)
theorem dX15_does_10 : decode cX15_does 10 = .ok (.invokevirtual 19, 3) := dk_182 0 19 (dk_at dksX15_does_0 10 rfl rfl)
theorem dX15_does_13 : decode cX15_does 13 = .ok (.ireturn, 1) := dk_172 (dk_at dksX15_does_0 13 rfl rfl)
theorem dX15_does_14 : decode cX15_does 14 = .ok (.aload_n 0, 1) := dk_42 (dk_at dksX15_does_0 14 rfl rfl)
theorem dX15_does_15 : decode cX15_does 15 = .ok (.aload_n 1, 1) := dk_43 (dk_at dksX15_does_0 15 rfl rfl)
theorem dX15_does_16 : decode cX15_does 16 = .ok (.iload_n 2, 1) := dk_28 (dk_at dksX15_does_0 16 rfl rfl)
theorem dX15_does_17 : decode cX15_does 17 = .ok (.invokespecial 23, 3) := dk_183 0 23 (dk_at dksX15_does_0 17 rfl rfl)
theorem dX15_does_20 : decode cX15_does 20 = .ok (.istore_n 3, 1) := dk_62 (dk_at dksX15_does_0 20 rfl rfl)
theorem dX15_does_21 : decode cX15_does 21 = .ok (.aload_n 1, 1) := dk_43 (dk_at dksX15_does_0 21 rfl rfl)
theorem dX15_does_22 : decode cX15_does 22 = .ok (.getfield 27, 3) := dk_180 0 27 (dk_at dksX15_does_1 0 rfl rfl)
theorem dX15_does_25 : decode cX15_does 25 = .ok (.iconst 4, 1) := dk_7 (dk_at dksX15_does_1 3 rfl rfl)
theorem dX15_does_26 : decode cX15_does 26 = .ok (.if_icmp .ne 10, 3) := dk_160 0 10 (dk_at dksX15_does_1 4 rfl rfl)
theorem dX15_does_29 : decode cX15_does 29 = .ok (.aload_n 1, 1) := dk_43 (dk_at dksX15_does_1 7 rfl rfl)
theorem dX15_does_30 : decode cX15_does 30 = .ok (.iload_n 2, 1) := dk_28 (dk_at dksX15_does_1 8 rfl rfl)
theorem dX15_does_31 : decode cX15_does 31 = .ok (.iconst 1, 1) := dk_4 (dk_at dksX15_does_1 9 rfl rfl)
theorem dX15_does_32 : decode cX15_does 32 = .ok (.iadd, 1) := dk_96 (dk_at dksX15_does_1 10 rfl rfl)
theorem dX15_does_33 : decode cX15_does 33 = .ok (.invokevirtual 30, 3) := dk_182 0 30 (dk_at dksX15_does_1 11 rfl rfl)
theorem dX15_does_36 : decode cX15_does 36 = .ok (.iload_n 3, 1) := dk_29 (dk_at dksX15_does_1 14 rfl rfl)
theorem dX15_does_37 : decode cX15_does 37 = .ok (.ireturn, 1) := dk_172 (dk_at dksX15_does_1 15 rfl rfl)
theorem dX15_puts_0 : decode cX15_puts 0 = .ok (.iconst 1, 1) := by decide +kernel
theorem dX15_puts_1 : decode cX15_puts 1 = .ok (.ireturn, 1) := by decide +kernel
def dkwX15_within_0 : List UInt8 := [28, 4, 96, 184, 0, 9, 173]
abbrev dktX15_within_0 : List UInt8 := dkwX15_within_0 ++ []
theorem dksX15_within_0 : cX15_within.data.toList.drop 0 = dktX15_within_0 := by decide +kernel
theorem dX15_within_0 : decode cX15_within 0 = .ok (.iload_n 2, 1) := dk_28 (dk_at dksX15_within_0 0 rfl rfl)
theorem dX15_within_1 : decode cX15_within 1 = .ok (.iconst 1, 1) := dk_4 (dk_at dksX15_within_0 1 rfl rfl)
theorem dX15_within_2 : decode cX15_within 2 = .ok (.iadd, 1) := dk_96 (dk_at dksX15_within_0 2 rfl rfl)
theorem dX15_within_3 : decode cX15_within 3 = .ok (.invokestatic 9, 3) := dk_184 0 9 (dk_at dksX15_within_0 3 rfl rfl)
theorem dX15_within_6 : decode cX15_within 6 = .ok (.lreturn, 1) := dk_173 (dk_at dksX15_within_0 6 rfl rfl)
def dkwX15_init_0 : List UInt8 := [42, 27, 28, 29, 183, 0, 3, 177]
abbrev dktX15_init_0 : List UInt8 := dkwX15_init_0 ++ []
theorem dksX15_init_0 : cX15_init.data.toList.drop 0 = dktX15_init_0 := by decide +kernel
theorem dX15_init_0 : decode cX15_init 0 = .ok (.aload_n 0, 1) := dk_42 (dk_at dksX15_init_0 0 rfl rfl)
theorem dX15_init_1 : decode cX15_init 1 = .ok (.iload_n 1, 1) := dk_27 (dk_at dksX15_init_0 1 rfl rfl)
theorem dX15_init_2 : decode cX15_init 2 = .ok (.iload_n 2, 1) := dk_28 (dk_at dksX15_init_0 2 rfl rfl)
theorem dX15_init_3 : decode cX15_init 3 = .ok (.iload_n 3, 1) := dk_29 (dk_at dksX15_init_0 3 rfl rfl)
theorem dX15_init_4 : decode cX15_init 4 = .ok (.invokespecial 3, 3) := dk_183 0 3 (dk_at dksX15_init_0 4 rfl rfl)
theorem dX15_init_7 : decode cX15_init 7 = .ok (.return_, 1) := dk_177 (dk_at dksX15_init_0 7 rfl rfl)
def dkwX16_does_2 : List UInt8 := [172]
abbrev dktX16_does_2 : List UInt8 := dkwX16_does_2 ++ []
def dkwX16_does_1 : List UInt8 := [46, 182, 0, 33, 62, 43, 180, 0, 37, 7, 160, 0, 13, 43, 89, 180, 0, 19, 4, 100, 181, 0, 19, 29]
abbrev dktX16_does_1 : List UInt8 := dkwX16_does_1 ++ dktX16_does_2
def dkwX16_does_0 : List UInt8 := [43, 180, 0, 19, 154, 0, 8, 43, 182, 0, 25, 172, 43, 28, 43, 180, 0, 29, 43, 180, 0, 19, 4, 100]
abbrev dktX16_does_0 : List UInt8 := dkwX16_does_0 ++ dktX16_does_1
theorem dksX16_does_0 : cX16_does.data.toList.drop 0 = dktX16_does_0 := by decide +kernel
theorem dksX16_does_1 : cX16_does.data.toList.drop 24 = dktX16_does_1 := dk_seg dksX16_does_0 24 rfl rfl
theorem dksX16_does_2 : cX16_does.data.toList.drop 48 = dktX16_does_2 := dk_seg dksX16_does_1 24 rfl rfl
theorem dX16_does_0 : decode cX16_does 0 = .ok (.aload_n 1, 1) := dk_43 (dk_at dksX16_does_0 0 rfl rfl)
theorem dX16_does_1 : decode cX16_does 1 = .ok (.getfield 19, 3) := dk_180 0 19 (dk_at dksX16_does_0 1 rfl rfl)
theorem dX16_does_4 : decode cX16_does 4 = .ok (.ifCond .ne 8, 3) := dk_154 0 8 (dk_at dksX16_does_0 4 rfl rfl)
theorem dX16_does_7 : decode cX16_does 7 = .ok (.aload_n 1, 1) := dk_43 (dk_at dksX16_does_0 7 rfl rfl)
theorem dX16_does_8 : decode cX16_does 8 = .ok (.invokevirtual 25, 3) := dk_182 0 25 (dk_at dksX16_does_0 8 rfl rfl)
theorem dX16_does_11 : decode cX16_does 11 = .ok (.ireturn, 1) := dk_172 (dk_at dksX16_does_0 11 rfl rfl)
theorem dX16_does_12 : decode cX16_does 12 = .ok (.aload_n 1, 1) := dk_43 (dk_at dksX16_does_0 12 rfl rfl)
theorem dX16_does_13 : decode cX16_does 13 = .ok (.iload_n 2, 1) := dk_28 (dk_at dksX16_does_0 13 rfl rfl)
theorem dX16_does_14 : decode cX16_does 14 = .ok (.aload_n 1, 1) := dk_43 (dk_at dksX16_does_0 14 rfl rfl)
theorem dX16_does_15 : decode cX16_does 15 = .ok (.getfield 29, 3) := dk_180 0 29 (dk_at dksX16_does_0 15 rfl rfl)
theorem dX16_does_18 : decode cX16_does 18 = .ok (.aload_n 1, 1) := dk_43 (dk_at dksX16_does_0 18 rfl rfl)
theorem dX16_does_19 : decode cX16_does 19 = .ok (.getfield 19, 3) := dk_180 0 19 (dk_at dksX16_does_0 19 rfl rfl)
theorem dX16_does_22 : decode cX16_does 22 = .ok (.iconst 1, 1) := dk_4 (dk_at dksX16_does_0 22 rfl rfl)
theorem dX16_does_23 : decode cX16_does 23 = .ok (.isub, 1) := dk_100 (dk_at dksX16_does_0 23 rfl rfl)
theorem dX16_does_24 : decode cX16_does 24 = .ok (.iaload, 1) := dk_46 (dk_at dksX16_does_1 0 rfl rfl)
theorem dX16_does_25 : decode cX16_does 25 = .ok (.invokevirtual 33, 3) := dk_182 0 33 (dk_at dksX16_does_1 1 rfl rfl)
theorem dX16_does_28 : decode cX16_does 28 = .ok (.istore_n 3, 1) := dk_62 (dk_at dksX16_does_1 4 rfl rfl)
theorem dX16_does_29 : decode cX16_does 29 = .ok (.aload_n 1, 1) := dk_43 (dk_at dksX16_does_1 5 rfl rfl)
theorem dX16_does_30 : decode cX16_does 30 = .ok (.getfield 37, 3) := dk_180 0 37 (dk_at dksX16_does_1 6 rfl rfl)
theorem dX16_does_33 : decode cX16_does 33 = .ok (.iconst 4, 1) := dk_7 (dk_at dksX16_does_1 9 rfl rfl)
theorem dX16_does_34 : decode cX16_does 34 = .ok (.if_icmp .ne 13, 3) := dk_160 0 13 (dk_at dksX16_does_1 10 rfl rfl)
theorem dX16_does_37 : decode cX16_does 37 = .ok (.aload_n 1, 1) := dk_43 (dk_at dksX16_does_1 13 rfl rfl)
theorem dX16_does_38 : decode cX16_does 38 = .ok (.dup, 1) := dk_89 (dk_at dksX16_does_1 14 rfl rfl)
theorem dX16_does_39 : decode cX16_does 39 = .ok (.getfield 19, 3) := dk_180 0 19 (dk_at dksX16_does_1 15 rfl rfl)
theorem dX16_does_42 : decode cX16_does 42 = .ok (.iconst 1, 1) := dk_4 (dk_at dksX16_does_1 18 rfl rfl)
theorem dX16_does_43 : decode cX16_does 43 = .ok (.isub, 1) := dk_100 (dk_at dksX16_does_1 19 rfl rfl)
theorem dX16_does_44 : decode cX16_does 44 = .ok (.putfield 19, 3) := dk_181 0 19 (dk_at dksX16_does_1 20 rfl rfl)
theorem dX16_does_47 : decode cX16_does 47 = .ok (.iload_n 3, 1) := dk_29 (dk_at dksX16_does_1 23 rfl rfl)
theorem dX16_does_48 : decode cX16_does 48 = .ok (.ireturn, 1) := dk_172 (dk_at dksX16_does_2 0 rfl rfl)
theorem dX16_word_0 : decode cX16_word 0 = .ok (.bipush 7, 2) := by decide +kernel
theorem dX16_word_2 : decode cX16_word 2 = .ok (.ireturn, 1) := by decide +kernel
theorem dX16_isJump_0 : decode cX16_isJump 0 = .ok (.iconst 1, 1) := by decide +kernel
theorem dX16_isJump_1 : decode cX16_isJump 1 = .ok (.ireturn, 1) := by decide +kernel
theorem dX16_within_0 : decode cX16_within 0 = .ok (.lconst 0, 1) := by decide +kernel
theorem dX16_within_1 : decode cX16_within 1 = .ok (.lreturn, 1) := by decide +kernel
def dkwX16_may_1 : List UInt8 := [167, 0, 10, 43, 180, 0, 15, 22, 6, 127, 173]
abbrev dktX16_may_1 : List UInt8 := dkwX16_may_1 ++ []
def dkwX16_may_0 : List UInt8 := [43, 28, 45, 28, 46, 182, 0, 9, 55, 6, 21, 5, 153, 0, 15, 45, 28, 46, 6, 162, 0, 8, 22, 6]
abbrev dktX16_may_0 : List UInt8 := dkwX16_may_0 ++ dktX16_may_1
theorem dksX16_may_0 : cX16_may.data.toList.drop 0 = dktX16_may_0 := by decide +kernel
theorem dksX16_may_1 : cX16_may.data.toList.drop 24 = dktX16_may_1 := dk_seg dksX16_may_0 24 rfl rfl
theorem dX16_may_0 : decode cX16_may 0 = .ok (.aload_n 1, 1) := dk_43 (dk_at dksX16_may_0 0 rfl rfl)
theorem dX16_may_1 : decode cX16_may 1 = .ok (.iload_n 2, 1) := dk_28 (dk_at dksX16_may_0 1 rfl rfl)
theorem dX16_may_2 : decode cX16_may 2 = .ok (.aload_n 3, 1) := dk_45 (dk_at dksX16_may_0 2 rfl rfl)
theorem dX16_may_3 : decode cX16_may 3 = .ok (.iload_n 2, 1) := dk_28 (dk_at dksX16_may_0 3 rfl rfl)
theorem dX16_may_4 : decode cX16_may 4 = .ok (.iaload, 1) := dk_46 (dk_at dksX16_may_0 4 rfl rfl)
theorem dX16_may_5 : decode cX16_may 5 = .ok (.invokevirtual 9, 3) := dk_182 0 9 (dk_at dksX16_may_0 5 rfl rfl)
theorem dX16_may_8 : decode cX16_may 8 = .ok (.lstore 6, 2) := dk_55 6 (dk_at dksX16_may_0 8 rfl rfl)
theorem dX16_may_10 : decode cX16_may 10 = .ok (.iload 5, 2) := dk_21 5 (dk_at dksX16_may_0 10 rfl rfl)
theorem dX16_may_12 : decode cX16_may 12 = .ok (.ifCond .eq 15, 3) := dk_153 0 15 (dk_at dksX16_may_0 12 rfl rfl)
theorem dX16_may_15 : decode cX16_may 15 = .ok (.aload_n 3, 1) := dk_45 (dk_at dksX16_may_0 15 rfl rfl)
theorem dX16_may_16 : decode cX16_may 16 = .ok (.iload_n 2, 1) := dk_28 (dk_at dksX16_may_0 16 rfl rfl)
theorem dX16_may_17 : decode cX16_may 17 = .ok (.iaload, 1) := dk_46 (dk_at dksX16_may_0 17 rfl rfl)
theorem dX16_may_18 : decode cX16_may 18 = .ok (.iconst 3, 1) := dk_6 (dk_at dksX16_may_0 18 rfl rfl)
theorem dX16_may_19 : decode cX16_may 19 = .ok (.if_icmp .ge 8, 3) := dk_162 0 8 (dk_at dksX16_may_0 19 rfl rfl)
theorem dX16_may_22 : decode cX16_may 22 = .ok (.lload 6, 2) := dk_22 6 (dk_at dksX16_may_0 22 rfl rfl)
theorem dX16_may_24 : decode cX16_may 24 = .ok (.goto 10, 3) := dk_167 0 10 (dk_at dksX16_may_1 0 rfl rfl)
theorem dX16_may_27 : decode cX16_may 27 = .ok (.aload_n 1, 1) := dk_43 (dk_at dksX16_may_1 3 rfl rfl)
theorem dX16_may_28 : decode cX16_may 28 = .ok (.getfield 15, 3) := dk_180 0 15 (dk_at dksX16_may_1 4 rfl rfl)
theorem dX16_may_31 : decode cX16_may 31 = .ok (.lload 6, 2) := dk_22 6 (dk_at dksX16_may_1 7 rfl rfl)
theorem dX16_may_33 : decode cX16_may 33 = .ok (.land, 1) := dk_127 (dk_at dksX16_may_1 9 rfl rfl)
theorem dX16_may_34 : decode cX16_may 34 = .ok (.lreturn, 1) := dk_173 (dk_at dksX16_may_1 10 rfl rfl)
def dkwX16_init_0 : List UInt8 := [42, 27, 183, 0, 3, 177]
abbrev dktX16_init_0 : List UInt8 := dkwX16_init_0 ++ []
theorem dksX16_init_0 : cX16_init.data.toList.drop 0 = dktX16_init_0 := by decide +kernel
theorem dX16_init_0 : decode cX16_init 0 = .ok (.aload_n 0, 1) := dk_42 (dk_at dksX16_init_0 0 rfl rfl)
theorem dX16_init_1 : decode cX16_init 1 = .ok (.iload_n 1, 1) := dk_27 (dk_at dksX16_init_0 1 rfl rfl)
theorem dX16_init_2 : decode cX16_init 2 = .ok (.invokespecial 3, 3) := dk_183 0 3 (dk_at dksX16_init_0 2 rfl rfl)
theorem dX16_init_5 : decode cX16_init 5 = .ok (.return_, 1) := dk_177 (dk_at dksX16_init_0 5 rfl rfl)
theorem dX17_word_0 : decode cX17_word 0 = .ok (.bipush 8, 2) := by decide +kernel
theorem dX17_word_2 : decode cX17_word 2 = .ok (.ireturn, 1) := by decide +kernel
def dkwX17_does_0 : List UInt8 := [43, 42, 180, 0, 9, 43, 182, 0, 24, 182, 0, 28, 28, 4, 96, 172]
abbrev dktX17_does_0 : List UInt8 := dkwX17_does_0 ++ []
theorem dksX17_does_0 : cX17_does.data.toList.drop 0 = dktX17_does_0 := by decide +kernel
theorem dX17_does_0 : decode cX17_does 0 = .ok (.aload_n 1, 1) := dk_43 (dk_at dksX17_does_0 0 rfl rfl)
theorem dX17_does_1 : decode cX17_does 1 = .ok (.aload_n 0, 1) := dk_42 (dk_at dksX17_does_0 1 rfl rfl)
theorem dX17_does_2 : decode cX17_does 2 = .ok (.getfield 9, 3) := dk_180 0 9 (dk_at dksX17_does_0 2 rfl rfl)
theorem dX17_does_5 : decode cX17_does 5 = .ok (.aload_n 1, 1) := dk_43 (dk_at dksX17_does_0 5 rfl rfl)
theorem dX17_does_6 : decode cX17_does 6 = .ok (.invokevirtual 24, 3) := dk_182 0 24 (dk_at dksX17_does_0 6 rfl rfl)
theorem dX17_does_9 : decode cX17_does 9 = .ok (.invokevirtual 28, 3) := dk_182 0 28 (dk_at dksX17_does_0 9 rfl rfl)
theorem dX17_does_12 : decode cX17_does 12 = .ok (.iload_n 2, 1) := dk_28 (dk_at dksX17_does_0 12 rfl rfl)
theorem dX17_does_13 : decode cX17_does 13 = .ok (.iconst 1, 1) := dk_4 (dk_at dksX17_does_0 13 rfl rfl)
theorem dX17_does_14 : decode cX17_does 14 = .ok (.iadd, 1) := dk_96 (dk_at dksX17_does_0 14 rfl rfl)
theorem dX17_does_15 : decode cX17_does 15 = .ok (.ireturn, 1) := dk_172 (dk_at dksX17_does_0 15 rfl rfl)
def dkwX17_mayDo_1 : List UInt8 := [167, 0, 4, 3, 172]
abbrev dktX17_mayDo_1 : List UInt8 := dkwX17_mayDo_1 ++ []
def dkwX17_mayDo_0 : List UInt8 := [42, 180, 0, 9, 180, 0, 15, 2, 160, 0, 14, 42, 180, 0, 9, 180, 0, 21, 27, 160, 0, 7, 4]
abbrev dktX17_mayDo_0 : List UInt8 := dkwX17_mayDo_0 ++ dktX17_mayDo_1
theorem dksX17_mayDo_0 : cX17_mayDo.data.toList.drop 0 = dktX17_mayDo_0 := by decide +kernel
theorem dksX17_mayDo_1 : cX17_mayDo.data.toList.drop 23 = dktX17_mayDo_1 := dk_seg dksX17_mayDo_0 23 rfl rfl
theorem dX17_mayDo_0 : decode cX17_mayDo 0 = .ok (.aload_n 0, 1) := dk_42 (dk_at dksX17_mayDo_0 0 rfl rfl)
theorem dX17_mayDo_1 : decode cX17_mayDo 1 = .ok (.getfield 9, 3) := dk_180 0 9 (dk_at dksX17_mayDo_0 1 rfl rfl)
theorem dX17_mayDo_4 : decode cX17_mayDo 4 = .ok (.getfield 15, 3) := dk_180 0 15 (dk_at dksX17_mayDo_0 4 rfl rfl)
theorem dX17_mayDo_7 : decode cX17_mayDo 7 = .ok (.iconst (-1), 1) := dk_2 (dk_at dksX17_mayDo_0 7 rfl rfl)
theorem dX17_mayDo_8 : decode cX17_mayDo 8 = .ok (.if_icmp .ne 14, 3) := dk_160 0 14 (dk_at dksX17_mayDo_0 8 rfl rfl)
theorem dX17_mayDo_11 : decode cX17_mayDo 11 = .ok (.aload_n 0, 1) := dk_42 (dk_at dksX17_mayDo_0 11 rfl rfl)
theorem dX17_mayDo_12 : decode cX17_mayDo 12 = .ok (.getfield 9, 3) := dk_180 0 9 (dk_at dksX17_mayDo_0 12 rfl rfl)
theorem dX17_mayDo_15 : decode cX17_mayDo 15 = .ok (.getfield 21, 3) := dk_180 0 21 (dk_at dksX17_mayDo_0 15 rfl rfl)
theorem dX17_mayDo_18 : decode cX17_mayDo 18 = .ok (.iload_n 1, 1) := dk_27 (dk_at dksX17_mayDo_0 18 rfl rfl)
theorem dX17_mayDo_19 : decode cX17_mayDo 19 = .ok (.if_icmp .ne 7, 3) := dk_160 0 7 (dk_at dksX17_mayDo_0 19 rfl rfl)
theorem dX17_mayDo_22 : decode cX17_mayDo 22 = .ok (.iconst 1, 1) := dk_4 (dk_at dksX17_mayDo_0 22 rfl rfl)
theorem dX17_mayDo_23 : decode cX17_mayDo 23 = .ok (.goto 4, 3) := dk_167 0 4 (dk_at dksX17_mayDo_1 0 rfl rfl)
theorem dX17_mayDo_26 : decode cX17_mayDo 26 = .ok (.iconst 0, 1) := dk_3 (dk_at dksX17_mayDo_1 3 rfl rfl)
theorem dX17_mayDo_27 : decode cX17_mayDo 27 = .ok (.ireturn, 1) := dk_172 (dk_at dksX17_mayDo_1 4 rfl rfl)
def dkwX17_init_0 : List UInt8 := [42, 27, 183, 0, 3, 42, 44, 181, 0, 9, 177]
abbrev dktX17_init_0 : List UInt8 := dkwX17_init_0 ++ []
theorem dksX17_init_0 : cX17_init.data.toList.drop 0 = dktX17_init_0 := by decide +kernel
theorem dX17_init_0 : decode cX17_init 0 = .ok (.aload_n 0, 1) := dk_42 (dk_at dksX17_init_0 0 rfl rfl)
theorem dX17_init_1 : decode cX17_init 1 = .ok (.iload_n 1, 1) := dk_27 (dk_at dksX17_init_0 1 rfl rfl)
theorem dX17_init_2 : decode cX17_init 2 = .ok (.invokespecial 3, 3) := dk_183 0 3 (dk_at dksX17_init_0 2 rfl rfl)
theorem dX17_init_5 : decode cX17_init 5 = .ok (.aload_n 0, 1) := dk_42 (dk_at dksX17_init_0 5 rfl rfl)
theorem dX17_init_6 : decode cX17_init 6 = .ok (.aload_n 2, 1) := dk_44 (dk_at dksX17_init_0 6 rfl rfl)
theorem dX17_init_7 : decode cX17_init 7 = .ok (.putfield 9, 3) := dk_181 0 9 (dk_at dksX17_init_0 7 rfl rfl)
theorem dX17_init_10 : decode cX17_init 10 = .ok (.return_, 1) := dk_177 (dk_at dksX17_init_0 10 rfl rfl)
theorem dX18_word_0 : decode cX18_word 0 = .ok (.bipush 9, 2) := by decide +kernel
theorem dX18_word_2 : decode cX18_word 2 = .ok (.ireturn, 1) := by decide +kernel
def dkwX18_does_0 : List UInt8 := [43, 3, 181, 0, 9, 28, 172]
abbrev dktX18_does_0 : List UInt8 := dkwX18_does_0 ++ []
theorem dksX18_does_0 : cX18_does.data.toList.drop 0 = dktX18_does_0 := by decide +kernel
theorem dX18_does_0 : decode cX18_does 0 = .ok (.aload_n 1, 1) := dk_43 (dk_at dksX18_does_0 0 rfl rfl)
theorem dX18_does_1 : decode cX18_does 1 = .ok (.iconst 0, 1) := dk_3 (dk_at dksX18_does_0 1 rfl rfl)
theorem dX18_does_2 : decode cX18_does 2 = .ok (.putfield 9, 3) := dk_181 0 9 (dk_at dksX18_does_0 2 rfl rfl)
theorem dX18_does_5 : decode cX18_does 5 = .ok (.iload_n 2, 1) := dk_28 (dk_at dksX18_does_0 5 rfl rfl)
theorem dX18_does_6 : decode cX18_does 6 = .ok (.ireturn, 1) := dk_172 (dk_at dksX18_does_0 6 rfl rfl)
theorem dX18_within_0 : decode cX18_within 0 = .ok (.lconst 0, 1) := by decide +kernel
theorem dX18_within_1 : decode cX18_within 1 = .ok (.lreturn, 1) := by decide +kernel
theorem dX18_may_0 : decode cX18_may 0 = .ok (.lconst 0, 1) := by decide +kernel
theorem dX18_may_1 : decode cX18_may 1 = .ok (.lreturn, 1) := by decide +kernel
def dkwX18_init_0 : List UInt8 := [42, 27, 183, 0, 3, 177]
abbrev dktX18_init_0 : List UInt8 := dkwX18_init_0 ++ []
theorem dksX18_init_0 : cX18_init.data.toList.drop 0 = dktX18_init_0 := by decide +kernel
theorem dX18_init_0 : decode cX18_init 0 = .ok (.aload_n 0, 1) := dk_42 (dk_at dksX18_init_0 0 rfl rfl)
theorem dX18_init_1 : decode cX18_init 1 = .ok (.iload_n 1, 1) := dk_27 (dk_at dksX18_init_0 1 rfl rfl)
theorem dX18_init_2 : decode cX18_init 2 = .ok (.invokespecial 3, 3) := dk_183 0 3 (dk_at dksX18_init_0 2 rfl rfl)
theorem dX18_init_5 : decode cX18_init 5 = .ok (.return_, 1) := dk_177 (dk_at dksX18_init_0 5 rfl rfl)
