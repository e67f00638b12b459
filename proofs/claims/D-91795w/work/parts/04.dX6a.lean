set_option maxRecDepth 100000
theorem dX6_thrown_0 : decode cX6_thrown 0 = .ok (.aload_n 0, 1) := by decide +kernel
theorem dX6_thrown_1 : decode cX6_thrown 1 = .ok (.getfield 3, 3) := by decide +kernel
theorem dX6_thrown_4 : decode cX6_thrown 4 = .ok (.ireturn, 1) := by decide +kernel
def dkwX6_init_10 : List UInt8 := [180, 0, 13, 8, 4, 79, 42, 180, 0, 13, 16, 6, 5, 79, 42, 180, 0, 13, 16, 7, 7, 79, 177]
abbrev dktX6_init_10 : List UInt8 := dkwX6_init_10 ++ []
def dkwX6_init_9 : List UInt8 := [16, 40, 188, 10, 181, 0, 95, 42, 16, 6, 188, 11, 181, 0, 98, 42, 16, 6, 188, 10, 181, 0, 101, 42]
abbrev dktX6_init_9 : List UInt8 := dkwX6_init_9 ++ dktX6_init_10
def dkwX6_init_8 : List UInt8 := [16, 6, 188, 10, 181, 0, 86, 42, 16, 6, 188, 10, 181, 0, 89, 42, 16, 40, 188, 11, 181, 0, 92, 42]
abbrev dktX6_init_8 : List UInt8 := dkwX6_init_8 ++ dktX6_init_9
def dkwX6_init_7 : List UInt8 := [16, 40, 188, 10, 181, 0, 77, 42, 16, 40, 188, 10, 181, 0, 80, 42, 16, 6, 188, 10, 181, 0, 83, 42]
abbrev dktX6_init_7 : List UInt8 := dkwX6_init_7 ++ dktX6_init_8
def dkwX6_init_6 : List UInt8 := [16, 40, 188, 11, 181, 0, 68, 42, 16, 40, 188, 10, 181, 0, 71, 42, 16, 40, 188, 11, 181, 0, 74, 42]
abbrev dktX6_init_6 : List UInt8 := dkwX6_init_6 ++ dktX6_init_7
def dkwX6_init_5 : List UInt8 := [188, 10, 181, 0, 59, 42, 17, 1, 44, 188, 10, 181, 0, 62, 42, 17, 1, 44, 188, 10, 181, 0, 65, 42]
abbrev dktX6_init_5 : List UInt8 := dkwX6_init_5 ++ dktX6_init_6
def dkwX6_init_4 : List UInt8 := [188, 10, 181, 0, 50, 42, 16, 8, 188, 10, 181, 0, 53, 42, 16, 8, 188, 10, 181, 0, 56, 42, 16, 8]
abbrev dktX6_init_4 : List UInt8 := dkwX6_init_4 ++ dktX6_init_5
def dkwX6_init_3 : List UInt8 := [188, 11, 181, 0, 41, 42, 16, 40, 188, 11, 181, 0, 44, 42, 16, 16, 188, 10, 181, 0, 47, 42, 16, 16]
abbrev dktX6_init_3 : List UInt8 := dkwX6_init_3 ++ dktX6_init_4
def dkwX6_init_2 : List UInt8 := [188, 10, 181, 0, 30, 42, 16, 16, 188, 11, 181, 0, 33, 42, 16, 16, 188, 4, 181, 0, 37, 42, 16, 40]
abbrev dktX6_init_2 : List UInt8 := dkwX6_init_2 ++ dktX6_init_3
def dkwX6_init_1 : List UInt8 := [17, 1, 144, 188, 8, 181, 0, 20, 42, 2, 181, 0, 24, 42, 8, 188, 10, 181, 0, 27, 42, 17, 1, 104]
abbrev dktX6_init_1 : List UInt8 := dkwX6_init_1 ++ dktX6_init_2
def dkwX6_init_0 : List UInt8 := [42, 183, 0, 7, 42, 17, 1, 156, 188, 10, 181, 0, 13, 42, 17, 1, 156, 188, 10, 181, 0, 17, 42]
abbrev dktX6_init_0 : List UInt8 := dkwX6_init_0 ++ dktX6_init_1
theorem dksX6_init_0 : cX6_init.data.toList.drop 0 = dktX6_init_0 := by decide +kernel
theorem dksX6_init_1 : cX6_init.data.toList.drop 23 = dktX6_init_1 := dk_seg dksX6_init_0 23 rfl rfl
theorem dksX6_init_2 : cX6_init.data.toList.drop 47 = dktX6_init_2 := dk_seg dksX6_init_1 24 rfl rfl
theorem dksX6_init_3 : cX6_init.data.toList.drop 71 = dktX6_init_3 := dk_seg dksX6_init_2 24 rfl rfl
theorem dksX6_init_4 : cX6_init.data.toList.drop 95 = dktX6_init_4 := dk_seg dksX6_init_3 24 rfl rfl
theorem dksX6_init_5 : cX6_init.data.toList.drop 119 = dktX6_init_5 := dk_seg dksX6_init_4 24 rfl rfl
theorem dksX6_init_6 : cX6_init.data.toList.drop 143 = dktX6_init_6 := dk_seg dksX6_init_5 24 rfl rfl
theorem dksX6_init_7 : cX6_init.data.toList.drop 167 = dktX6_init_7 := dk_seg dksX6_init_6 24 rfl rfl
theorem dksX6_init_8 : cX6_init.data.toList.drop 191 = dktX6_init_8 := dk_seg dksX6_init_7 24 rfl rfl
theorem dksX6_init_9 : cX6_init.data.toList.drop 215 = dktX6_init_9 := dk_seg dksX6_init_8 24 rfl rfl
theorem dksX6_init_10 : cX6_init.data.toList.drop 239 = dktX6_init_10 := dk_seg dksX6_init_9 24 rfl rfl
theorem dX6_init_0 : decode cX6_init 0 = .ok (.aload_n 0, 1) := dk_42 (dk_at dksX6_init_0 0 rfl rfl)
theorem dX6_init_1 : decode cX6_init 1 = .ok (.invokespecial 7, 3) := dk_183 0 7 (dk_at dksX6_init_0 1 rfl rfl)
theorem dX6_init_4 : decode cX6_init 4 = .ok (.aload_n 0, 1) := dk_42 (dk_at dksX6_init_0 4 rfl rfl)
theorem dX6_init_5 : decode cX6_init 5 = .ok (.sipush 412, 3) := dk_17 1 156 (dk_at dksX6_init_0 5 rfl rfl)
theorem dX6_init_8 : decode cX6_init 8 = .ok (.newarray .int, 2) := dk_188_10 (dk_at dksX6_init_0 8 rfl rfl)
theorem dX6_init_10 : decode cX6_init 10 = .ok (.putfield 13, 3) := dk_181 0 13 (dk_at dksX6_init_0 10 rfl rfl)
theorem dX6_init_13 : decode cX6_init 13 = .ok (.aload_n 0, 1) := dk_42 (dk_at dksX6_init_0 13 rfl rfl)
theorem dX6_init_14 : decode cX6_init 14 = .ok (.sipush 412, 3) := dk_17 1 156 (dk_at dksX6_init_0 14 rfl rfl)
theorem dX6_init_17 : decode cX6_init 17 = .ok (.newarray .int, 2) := dk_188_10 (dk_at dksX6_init_0 17 rfl rfl)
theorem dX6_init_19 : decode cX6_init 19 = .ok (.putfield 17, 3) := dk_181 0 17 (dk_at dksX6_init_0 19 rfl rfl)
theorem dX6_init_22 : decode cX6_init 22 = .ok (.aload_n 0, 1) := dk_42 (dk_at dksX6_init_0 22 rfl rfl)
theorem dX6_init_23 : decode cX6_init 23 = .ok (.sipush 400, 3) := dk_17 1 144 (dk_at dksX6_init_1 0 rfl rfl)
theorem dX6_init_26 : decode cX6_init 26 = .ok (.newarray .byte, 2) := dk_188_8 (dk_at dksX6_init_1 3 rfl rfl)
theorem dX6_init_28 : decode cX6_init 28 = .ok (.putfield 20, 3) := dk_181 0 20 (dk_at dksX6_init_1 5 rfl rfl)
theorem dX6_init_31 : decode cX6_init 31 = .ok (.aload_n 0, 1) := dk_42 (dk_at dksX6_init_1 8 rfl rfl)
theorem dX6_init_32 : decode cX6_init 32 = .ok (.iconst (-1), 1) := dk_2 (dk_at dksX6_init_1 9 rfl rfl)
theorem dX6_init_33 : decode cX6_init 33 = .ok (.putfield 24, 3) := dk_181 0 24 (dk_at dksX6_init_1 10 rfl rfl)
theorem dX6_init_36 : decode cX6_init 36 = .ok (.aload_n 0, 1) := dk_42 (dk_at dksX6_init_1 13 rfl rfl)
theorem dX6_init_37 : decode cX6_init 37 = .ok (.iconst 5, 1) := dk_8 (dk_at dksX6_init_1 14 rfl rfl)
theorem dX6_init_38 : decode cX6_init 38 = .ok (.newarray .int, 2) := dk_188_10 (dk_at dksX6_init_1 15 rfl rfl)
theorem dX6_init_40 : decode cX6_init 40 = .ok (.putfield 27, 3) := dk_181 0 27 (dk_at dksX6_init_1 17 rfl rfl)
theorem dX6_init_43 : decode cX6_init 43 = .ok (.aload_n 0, 1) := dk_42 (dk_at dksX6_init_1 20 rfl rfl)
theorem dX6_init_44 : decode cX6_init 44 = .ok (.sipush 360, 3) := dk_17 1 104 (dk_at dksX6_init_1 21 rfl rfl)
theorem dX6_init_47 : decode cX6_init 47 = .ok (.newarray .int, 2) := dk_188_10 (dk_at dksX6_init_2 0 rfl rfl)
theorem dX6_init_49 : decode cX6_init 49 = .ok (.putfield 30, 3) := dk_181 0 30 (dk_at dksX6_init_2 2 rfl rfl)
theorem dX6_init_52 : decode cX6_init 52 = .ok (.aload_n 0, 1) := dk_42 (dk_at dksX6_init_2 5 rfl rfl)
theorem dX6_init_53 : decode cX6_init 53 = .ok (.bipush 16, 2) := dk_16 16 (dk_at dksX6_init_2 6 rfl rfl)
theorem dX6_init_55 : decode cX6_init 55 = .ok (.newarray .long, 2) := dk_188_11 (dk_at dksX6_init_2 8 rfl rfl)
theorem dX6_init_57 : decode cX6_init 57 = .ok (.putfield 33, 3) := dk_181 0 33 (dk_at dksX6_init_2 10 rfl rfl)
theorem dX6_init_60 : decode cX6_init 60 = .ok (.aload_n 0, 1) := dk_42 (dk_at dksX6_init_2 13 rfl rfl)
theorem dX6_init_61 : decode cX6_init 61 = .ok (.bipush 16, 2) := dk_16 16 (dk_at dksX6_init_2 14 rfl rfl)
theorem dX6_init_63 : decode cX6_init 63 = .ok (.newarray .boolean, 2) := dk_188_4 (dk_at dksX6_init_2 16 rfl rfl)
theorem dX6_init_65 : decode cX6_init 65 = .ok (.putfield 37, 3) := dk_181 0 37 (dk_at dksX6_init_2 18 rfl rfl)
theorem dX6_init_68 : decode cX6_init 68 = .ok (.aload_n 0, 1) := dk_42 (dk_at dksX6_init_2 21 rfl rfl)
theorem dX6_init_69 : decode cX6_init 69 = .ok (.bipush 40, 2) := dk_16 40 (dk_at dksX6_init_2 22 rfl rfl)
theorem dX6_init_71 : decode cX6_init 71 = .ok (.newarray .long, 2) := dk_188_11 (dk_at dksX6_init_3 0 rfl rfl)
theorem dX6_init_73 : decode cX6_init 73 = .ok (.putfield 41, 3) := dk_181 0 41 (dk_at dksX6_init_3 2 rfl rfl)
theorem dX6_init_76 : decode cX6_init 76 = .ok (.aload_n 0, 1) := dk_42 (dk_at dksX6_init_3 5 rfl rfl)
theorem dX6_init_77 : decode cX6_init 77 = .ok (.bipush 40, 2) := dk_16 40 (dk_at dksX6_init_3 6 rfl rfl)
theorem dX6_init_79 : decode cX6_init 79 = .ok (.newarray .long, 2) := dk_188_11 (dk_at dksX6_init_3 8 rfl rfl)
theorem dX6_init_81 : decode cX6_init 81 = .ok (.putfield 44, 3) := dk_181 0 44 (dk_at dksX6_init_3 10 rfl rfl)
theorem dX6_init_84 : decode cX6_init 84 = .ok (.aload_n 0, 1) := dk_42 (dk_at dksX6_init_3 13 rfl rfl)
theorem dX6_init_85 : decode cX6_init 85 = .ok (.bipush 16, 2) := dk_16 16 (dk_at dksX6_init_3 14 rfl rfl)
theorem dX6_init_87 : decode cX6_init 87 = .ok (.newarray .int, 2) := dk_188_10 (dk_at dksX6_init_3 16 rfl rfl)
theorem dX6_init_89 : decode cX6_init 89 = .ok (.putfield 47, 3) := dk_181 0 47 (dk_at dksX6_init_3 18 rfl rfl)
theorem dX6_init_92 : decode cX6_init 92 = .ok (.aload_n 0, 1) := dk_42 (dk_at dksX6_init_3 21 rfl rfl)
theorem dX6_init_93 : decode cX6_init 93 = .ok (.bipush 16, 2) := dk_16 16 (dk_at dksX6_init_3 22 rfl rfl)
theorem dX6_init_95 : decode cX6_init 95 = .ok (.newarray .int, 2) := dk_188_10 (dk_at dksX6_init_4 0 rfl rfl)
theorem dX6_init_97 : decode cX6_init 97 = .ok (.putfield 50, 3) := dk_181 0 50 (dk_at dksX6_init_4 2 rfl rfl)
theorem dX6_init_100 : decode cX6_init 100 = .ok (.aload_n 0, 1) := dk_42 (dk_at dksX6_init_4 5 rfl rfl)
theorem dX6_init_101 : decode cX6_init 101 = .ok (.bipush 8, 2) := dk_16 8 (dk_at dksX6_init_4 6 rfl rfl)
theorem dX6_init_103 : decode cX6_init 103 = .ok (.newarray .int, 2) := dk_188_10 (dk_at dksX6_init_4 8 rfl rfl)
theorem dX6_init_105 : decode cX6_init 105 = .ok (.putfield 53, 3) := dk_181 0 53 (dk_at dksX6_init_4 10 rfl rfl)
theorem dX6_init_108 : decode cX6_init 108 = .ok (.aload_n 0, 1) := dk_42 (dk_at dksX6_init_4 13 rfl rfl)
theorem dX6_init_109 : decode cX6_init 109 = .ok (.bipush 8, 2) := dk_16 8 (dk_at dksX6_init_4 14 rfl rfl)
theorem dX6_init_111 : decode cX6_init 111 = .ok (.newarray .int, 2) := dk_188_10 (dk_at dksX6_init_4 16 rfl rfl)
theorem dX6_init_113 : decode cX6_init 113 = .ok (.putfield 56, 3) := dk_181 0 56 (dk_at dksX6_init_4 18 rfl rfl)
theorem dX6_init_116 : decode cX6_init 116 = .ok (.aload_n 0, 1) := dk_42 (dk_at dksX6_init_4 21 rfl rfl)
theorem dX6_init_117 : decode cX6_init 117 = .ok (.bipush 8, 2) := dk_16 8 (dk_at dksX6_init_4 22 rfl rfl)
theorem dX6_init_119 : decode cX6_init 119 = .ok (.newarray .int, 2) := dk_188_10 (dk_at dksX6_init_5 0 rfl rfl)
theorem dX6_init_121 : decode cX6_init 121 = .ok (.putfield 59, 3) := dk_181 0 59 (dk_at dksX6_init_5 2 rfl rfl)
theorem dX6_init_124 : decode cX6_init 124 = .ok (.aload_n 0, 1) := dk_42 (dk_at dksX6_init_5 5 rfl rfl)
theorem dX6_init_125 : decode cX6_init 125 = .ok (.sipush 300, 3) := dk_17 1 44 (dk_at dksX6_init_5 6 rfl rfl)
theorem dX6_init_128 : decode cX6_init 128 = .ok (.newarray .int, 2) := dk_188_10 (dk_at dksX6_init_5 9 rfl rfl)
theorem dX6_init_130 : decode cX6_init 130 = .ok (.putfield 62, 3) := dk_181 0 62 (dk_at dksX6_init_5 11 rfl rfl)
theorem dX6_init_133 : decode cX6_init 133 = .ok (.aload_n 0, 1) := dk_42 (dk_at dksX6_init_5 14 rfl rfl)
theorem dX6_init_134 : decode cX6_init 134 = .ok (.sipush 300, 3) := dk_17 1 44 (dk_at dksX6_init_5 15 rfl rfl)
theorem dX6_init_137 : decode cX6_init 137 = .ok (.newarray .int, 2) := dk_188_10 (dk_at dksX6_init_5 18 rfl rfl)
theorem dX6_init_139 : decode cX6_init 139 = .ok (.putfield 65, 3) := dk_181 0 65 (dk_at dksX6_init_5 20 rfl rfl)
theorem dX6_init_142 : decode cX6_init 142 = .ok (.aload_n 0, 1) := dk_42 (dk_at dksX6_init_5 23 rfl rfl)
theorem dX6_init_143 : decode cX6_init 143 = .ok (.bipush 40, 2) := dk_16 40 (dk_at dksX6_init_6 0 rfl rfl)
theorem dX6_init_145 : decode cX6_init 145 = .ok (.newarray .long, 2) := dk_188_11 (dk_at dksX6_init_6 2 rfl rfl)
theorem dX6_init_147 : decode cX6_init 147 = .ok (.putfield 68, 3) := dk_181 0 68 (dk_at dksX6_init_6 4 rfl rfl)
theorem dX6_init_150 : decode cX6_init 150 = .ok (.aload_n 0, 1) := dk_42 (dk_at dksX6_init_6 7 rfl rfl)
theorem dX6_init_151 : decode cX6_init 151 = .ok (.bipush 40, 2) := dk_16 40 (dk_at dksX6_init_6 8 rfl rfl)
theorem dX6_init_153 : decode cX6_init 153 = .ok (.newarray .int, 2) := dk_188_10 (dk_at dksX6_init_6 10 rfl rfl)
theorem dX6_init_155 : decode cX6_init 155 = .ok (.putfield 71, 3) := dk_181 0 71 (dk_at dksX6_init_6 12 rfl rfl)
theorem dX6_init_158 : decode cX6_init 158 = .ok (.aload_n 0, 1) := dk_42 (dk_at dksX6_init_6 15 rfl rfl)
theorem dX6_init_159 : decode cX6_init 159 = .ok (.bipush 40, 2) := dk_16 40 (dk_at dksX6_init_6 16 rfl rfl)
theorem dX6_init_161 : decode cX6_init 161 = .ok (.newarray .long, 2) := dk_188_11 (dk_at dksX6_init_6 18 rfl rfl)
theorem dX6_init_163 : decode cX6_init 163 = .ok (.putfield 74, 3) := dk_181 0 74 (dk_at dksX6_init_6 20 rfl rfl)
theorem dX6_init_166 : decode cX6_init 166 = .ok (.aload_n 0, 1) := dk_42 (dk_at dksX6_init_6 23 rfl rfl)
theorem dX6_init_167 : decode cX6_init 167 = .ok (.bipush 40, 2) := dk_16 40 (dk_at dksX6_init_7 0 rfl rfl)
theorem dX6_init_169 : decode cX6_init 169 = .ok (.newarray .int, 2) := dk_188_10 (dk_at dksX6_init_7 2 rfl rfl)
theorem dX6_init_171 : decode cX6_init 171 = .ok (.putfield 77, 3) := dk_181 0 77 (dk_at dksX6_init_7 4 rfl rfl)
theorem dX6_init_174 : decode cX6_init 174 = .ok (.aload_n 0, 1) := dk_42 (dk_at dksX6_init_7 7 rfl rfl)
theorem dX6_init_175 : decode cX6_init 175 = .ok (.bipush 40, 2) := dk_16 40 (dk_at dksX6_init_7 8 rfl rfl)
theorem dX6_init_177 : decode cX6_init 177 = .ok (.newarray .int, 2) := dk_188_10 (dk_at dksX6_init_7 10 rfl rfl)
theorem dX6_init_179 : decode cX6_init 179 = .ok (.putfield 80, 3) := dk_181 0 80 (dk_at dksX6_init_7 12 rfl rfl)
theorem dX6_init_182 : decode cX6_init 182 = .ok (.aload_n 0, 1) := dk_42 (dk_at dksX6_init_7 15 rfl rfl)
theorem dX6_init_183 : decode cX6_init 183 = .ok (.bipush 6, 2) := dk_16 6 (dk_at dksX6_init_7 16 rfl rfl)
theorem dX6_init_185 : decode cX6_init 185 = .ok (.newarray .int, 2) := dk_188_10 (dk_at dksX6_init_7 18 rfl rfl)
theorem dX6_init_187 : decode cX6_init 187 = .ok (.putfield 83, 3) := dk_181 0 83 (dk_at dksX6_init_7 20 rfl rfl)
theorem dX6_init_190 : decode cX6_init 190 = .ok (.aload_n 0, 1) := dk_42 (dk_at dksX6_init_7 23 rfl rfl)
theorem dX6_init_191 : decode cX6_init 191 = .ok (.bipush 6, 2) := dk_16 6 (dk_at dksX6_init_8 0 rfl rfl)
theorem dX6_init_193 : decode cX6_init 193 = .ok (.newarray .int, 2) := dk_188_10 (dk_at dksX6_init_8 2 rfl rfl)
theorem dX6_init_195 : decode cX6_init 195 = .ok (.putfield 86, 3) := dk_181 0 86 (dk_at dksX6_init_8 4 rfl rfl)
theorem dX6_init_198 : decode cX6_init 198 = .ok (.aload_n 0, 1) := dk_42 (dk_at dksX6_init_8 7 rfl rfl)
theorem dX6_init_199 : decode cX6_init 199 = .ok (.bipush 6, 2) := dk_16 6 (dk_at dksX6_init_8 8 rfl rfl)
theorem dX6_init_201 : decode cX6_init 201 = .ok (.newarray .int, 2) := dk_188_10 (dk_at dksX6_init_8 10 rfl rfl)
theorem dX6_init_203 : decode cX6_init 203 = .ok (.putfield 89, 3) := dk_181 0 89 (dk_at dksX6_init_8 12 rfl rfl)
theorem dX6_init_206 : decode cX6_init 206 = .ok (.aload_n 0, 1) := dk_42 (dk_at dksX6_init_8 15 rfl rfl)
theorem dX6_init_207 : decode cX6_init 207 = .ok (.bipush 40, 2) := dk_16 40 (dk_at dksX6_init_8 16 rfl rfl)
theorem dX6_init_209 : decode cX6_init 209 = .ok (.newarray .long, 2) := dk_188_11 (dk_at dksX6_init_8 18 rfl rfl)
theorem dX6_init_211 : decode cX6_init 211 = .ok (.putfield 92, 3) := dk_181 0 92 (dk_at dksX6_init_8 20 rfl rfl)
theorem dX6_init_214 : decode cX6_init 214 = .ok (.aload_n 0, 1) := dk_42 (dk_at dksX6_init_8 23 rfl rfl)
theorem dX6_init_215 : decode cX6_init 215 = .ok (.bipush 40, 2) := dk_16 40 (dk_at dksX6_init_9 0 rfl rfl)
theorem dX6_init_217 : decode cX6_init 217 = .ok (.newarray .int, 2) := dk_188_10 (dk_at dksX6_init_9 2 rfl rfl)
theorem dX6_init_219 : decode cX6_init 219 = .ok (.putfield 95, 3) := dk_181 0 95 (dk_at dksX6_init_9 4 rfl rfl)
theorem dX6_init_222 : decode cX6_init 222 = .ok (.aload_n 0, 1) := dk_42 (dk_at dksX6_init_9 7 rfl rfl)
theorem dX6_init_223 : decode cX6_init 223 = .ok (.bipush 6, 2) := dk_16 6 (dk_at dksX6_init_9 8 rfl rfl)
theorem dX6_init_225 : decode cX6_init 225 = .ok (.newarray .long, 2) := dk_188_11 (dk_at dksX6_init_9 10 rfl rfl)
theorem dX6_init_227 : decode cX6_init 227 = .ok (.putfield 98, 3) := dk_181 0 98 (dk_at dksX6_init_9 12 rfl rfl)
theorem dX6_init_230 : decode cX6_init 230 = .ok (.aload_n 0, 1) := dk_42 (dk_at dksX6_init_9 15 rfl rfl)
theorem dX6_init_231 : decode cX6_init 231 = .ok (.bipush 6, 2) := dk_16 6 (dk_at dksX6_init_9 16 rfl rfl)
theorem dX6_init_233 : decode cX6_init 233 = .ok (.newarray .int, 2) := dk_188_10 (dk_at dksX6_init_9 18 rfl rfl)
theorem dX6_init_235 : decode cX6_init 235 = .ok (.putfield 101, 3) := dk_181 0 101 (dk_at dksX6_init_9 20 rfl rfl)
theorem dX6_init_238 : decode cX6_init 238 = .ok (.aload_n 0, 1) := dk_42 (dk_at dksX6_init_9 23 rfl rfl)
theorem dX6_init_239 : decode cX6_init 239 = .ok (.getfield 13, 3) := dk_180 0 13 (dk_at dksX6_init_10 0 rfl rfl)
theorem dX6_init_242 : decode cX6_init 242 = .ok (.iconst 5, 1) := dk_8 (dk_at dksX6_init_10 3 rfl rfl)
theorem dX6_init_243 : decode cX6_init 243 = .ok (.iconst 1, 1) := dk_4 (dk_at dksX6_init_10 4 rfl rfl)
theorem dX6_init_244 : decode cX6_init 244 = .ok (.iastore, 1) := dk_79 (dk_at dksX6_init_10 5 rfl rfl)
theorem dX6_init_245 : decode cX6_init 245 = .ok (.aload_n 0, 1) := dk_42 (dk_at dksX6_init_10 6 rfl rfl)
theorem dX6_init_246 : decode cX6_init 246 = .ok (.getfield 13, 3) := dk_180 0 13 (dk_at dksX6_init_10 7 rfl rfl)
theorem dX6_init_249 : decode cX6_init 249 = .ok (.bipush 6, 2) := dk_16 6 (dk_at dksX6_init_10 10 rfl rfl)
theorem dX6_init_251 : decode cX6_init 251 = .ok (.iconst 2, 1) := dk_5 (dk_at dksX6_init_10 12 rfl rfl)
theorem dX6_init_252 : decode cX6_init 252 = .ok (.iastore, 1) := dk_79 (dk_at dksX6_init_10 13 rfl rfl)
theorem dX6_init_253 : decode cX6_init 253 = .ok (.aload_n 0, 1) := dk_42 (dk_at dksX6_init_10 14 rfl rfl)
theorem dX6_init_254 : decode cX6_init 254 = .ok (.getfield 13, 3) := dk_180 0 13 (dk_at dksX6_init_10 15 rfl rfl)
theorem dX6_init_257 : decode cX6_init 257 = .ok (.bipush 7, 2) := dk_16 7 (dk_at dksX6_init_10 18 rfl rfl)
theorem dX6_init_259 : decode cX6_init 259 = .ok (.iconst 4, 1) := dk_7 (dk_at dksX6_init_10 20 rfl rfl)
theorem dX6_init_260 : decode cX6_init 260 = .ok (.iastore, 1) := dk_79 (dk_at dksX6_init_10 21 rfl rfl)
theorem dX6_init_261 : decode cX6_init 261 = .ok (.return_, 1) := dk_177 (dk_at dksX6_init_10 22 rfl rfl)
def dkwX6_image_1 : List UInt8 := [46, 79, 132, 1, 1, 167, 255, 234, 42, 4, 181, 0, 104, 177]
abbrev dktX6_image_1 : List UInt8 := dkwX6_image_1 ++ []
def dkwX6_image_0 : List UInt8 := [42, 3, 181, 0, 3, 3, 60, 27, 17, 1, 156, 162, 0, 21, 42, 180, 0, 17, 27, 42, 180, 0, 13, 27]
abbrev dktX6_image_0 : List UInt8 := dkwX6_image_0 ++ dktX6_image_1
theorem dksX6_image_0 : cX6_image.data.toList.drop 0 = dktX6_image_0 := by decide +kernel
theorem dksX6_image_1 : cX6_image.data.toList.drop 24 = dktX6_image_1 := dk_seg dksX6_image_0 24 rfl rfl
theorem dX6_image_0 : decode cX6_image 0 = .ok (.aload_n 0, 1) := dk_42 (dk_at dksX6_image_0 0 rfl rfl)
theorem dX6_image_1 : decode cX6_image 1 = .ok (.iconst 0, 1) := dk_3 (dk_at dksX6_image_0 1 rfl rfl)
theorem dX6_image_2 : decode cX6_image 2 = .ok (.putfield 3, 3) := dk_181 0 3 (dk_at dksX6_image_0 2 rfl rfl)
theorem dX6_image_5 : decode cX6_image 5 = .ok (.iconst 0, 1) := dk_3 (dk_at dksX6_image_0 5 rfl rfl)
theorem dX6_image_6 : decode cX6_image 6 = .ok (.istore_n 1, 1) := dk_60 (dk_at dksX6_image_0 6 rfl rfl)
theorem dX6_image_7 : decode cX6_image 7 = .ok (.iload_n 1, 1) := dk_27 (dk_at dksX6_image_0 7 rfl rfl)
theorem dX6_image_8 : decode cX6_image 8 = .ok (.sipush 412, 3) := dk_17 1 156 (dk_at dksX6_image_0 8 rfl rfl)
theorem dX6_image_11 : decode cX6_image 11 = .ok (.if_icmp .ge 21, 3) := dk_162 0 21 (dk_at dksX6_image_0 11 rfl rfl)
theorem dX6_image_14 : decode cX6_image 14 = .ok (.aload_n 0, 1) := dk_42 (dk_at dksX6_image_0 14 rfl rfl)
theorem dX6_image_15 : decode cX6_image 15 = .ok (.getfield 17, 3) := dk_180 0 17 (dk_at dksX6_image_0 15 rfl rfl)
theorem dX6_image_18 : decode cX6_image 18 = .ok (.iload_n 1, 1) := dk_27 (dk_at dksX6_image_0 18 rfl rfl)
theorem dX6_image_19 : decode cX6_image 19 = .ok (.aload_n 0, 1) := dk_42 (dk_at dksX6_image_0 19 rfl rfl)
theorem dX6_image_20 : decode cX6_image 20 = .ok (.getfield 13, 3) := dk_180 0 13 (dk_at dksX6_image_0 20 rfl rfl)
theorem dX6_image_23 : decode cX6_image 23 = .ok (.iload_n 1, 1) := dk_27 (dk_at dksX6_image_0 23 rfl rfl)
theorem dX6_image_24 : decode cX6_image 24 = .ok (.iaload, 1) := dk_46 (dk_at dksX6_image_1 0 rfl rfl)
theorem dX6_image_25 : decode cX6_image 25 = .ok (.iastore, 1) := dk_79 (dk_at dksX6_image_1 1 rfl rfl)
theorem dX6_image_26 : decode cX6_image 26 = .ok (.iinc 1 1, 3) := dk_132 1 1 (dk_at dksX6_image_1 2 rfl rfl)
theorem dX6_image_29 : decode cX6_image 29 = .ok (.goto (-22), 3) := dk_167 255 234 (dk_at dksX6_image_1 5 rfl rfl)
theorem dX6_image_32 : decode cX6_image 32 = .ok (.aload_n 0, 1) := dk_42 (dk_at dksX6_image_1 8 rfl rfl)
theorem dX6_image_33 : decode cX6_image 33 = .ok (.iconst 1, 1) := dk_4 (dk_at dksX6_image_1 9 rfl rfl)
theorem dX6_image_34 : decode cX6_image 34 = .ok (.putfield 104, 3) := dk_181 0 104 (dk_at dksX6_image_1 10 rfl rfl)
theorem dX6_image_37 : decode cX6_image 37 = .ok (.return_, 1) := dk_177 (dk_at dksX6_image_1 13 rfl rfl)
def dkwX6_back_1 : List UInt8 := [180, 0, 13, 27, 42, 180, 0, 17, 27, 46, 79, 132, 1, 1, 167, 255, 234, 4, 172]
abbrev dktX6_back_1 : List UInt8 := dkwX6_back_1 ++ []
def dkwX6_back_0 : List UInt8 := [42, 3, 181, 0, 3, 42, 180, 0, 104, 154, 0, 5, 3, 172, 3, 60, 27, 17, 1, 156, 162, 0, 21, 42]
abbrev dktX6_back_0 : List UInt8 := dkwX6_back_0 ++ dktX6_back_1
theorem dksX6_back_0 : cX6_back.data.toList.drop 0 = dktX6_back_0 := by decide +kernel
theorem dksX6_back_1 : cX6_back.data.toList.drop 24 = dktX6_back_1 := dk_seg dksX6_back_0 24 rfl rfl
theorem dX6_back_0 : decode cX6_back 0 = .ok (.aload_n 0, 1) := dk_42 (dk_at dksX6_back_0 0 rfl rfl)
theorem dX6_back_1 : decode cX6_back 1 = .ok (.iconst 0, 1) := dk_3 (dk_at dksX6_back_0 1 rfl rfl)
theorem dX6_back_2 : decode cX6_back 2 = .ok (.putfield 3, 3) := dk_181 0 3 (dk_at dksX6_back_0 2 rfl rfl)
theorem dX6_back_5 : decode cX6_back 5 = .ok (.aload_n 0, 1) := dk_42 (dk_at dksX6_back_0 5 rfl rfl)
theorem dX6_back_6 : decode cX6_back 6 = .ok (.getfield 104, 3) := dk_180 0 104 (dk_at dksX6_back_0 6 rfl rfl)
theorem dX6_back_9 : decode cX6_back 9 = .ok (.ifCond .ne 5, 3) := dk_154 0 5 (dk_at dksX6_back_0 9 rfl rfl)
theorem dX6_back_12 : decode cX6_back 12 = .ok (.iconst 0, 1) := dk_3 (dk_at dksX6_back_0 12 rfl rfl)
theorem dX6_back_13 : decode cX6_back 13 = .ok (.ireturn, 1) := dk_172 (dk_at dksX6_back_0 13 rfl rfl)
theorem dX6_back_14 : decode cX6_back 14 = .ok (.iconst 0, 1) := dk_3 (dk_at dksX6_back_0 14 rfl rfl)
theorem dX6_back_15 : decode cX6_back 15 = .ok (.istore_n 1, 1) := dk_60 (dk_at dksX6_back_0 15 rfl rfl)
theorem dX6_back_16 : decode cX6_back 16 = .ok (.iload_n 1, 1) := dk_27 (dk_at dksX6_back_0 16 rfl rfl)
theorem dX6_back_17 : decode cX6_back 17 = .ok (.sipush 412, 3) := dk_17 1 156 (dk_at dksX6_back_0 17 rfl rfl)
theorem dX6_back_20 : decode cX6_back 20 = .ok (.if_icmp .ge 21, 3) := dk_162 0 21 (dk_at dksX6_back_0 20 rfl rfl)
theorem dX6_back_23 : decode cX6_back 23 = .ok (.aload_n 0, 1) := dk_42 (dk_at dksX6_back_0 23 rfl rfl)
theorem dX6_back_24 : decode cX6_back 24 = .ok (.getfield 13, 3) := dk_180 0 13 (dk_at dksX6_back_1 0 rfl rfl)
theorem dX6_back_27 : decode cX6_back 27 = .ok (.iload_n 1, 1) := dk_27 (dk_at dksX6_back_1 3 rfl rfl)
theorem dX6_back_28 : decode cX6_back 28 = .ok (.aload_n 0, 1) := dk_42 (dk_at dksX6_back_1 4 rfl rfl)
theorem dX6_back_29 : decode cX6_back 29 = .ok (.getfield 17, 3) := dk_180 0 17 (dk_at dksX6_back_1 5 rfl rfl)
theorem dX6_back_32 : decode cX6_back 32 = .ok (.iload_n 1, 1) := dk_27 (dk_at dksX6_back_1 8 rfl rfl)
theorem dX6_back_33 : decode cX6_back 33 = .ok (.iaload, 1) := dk_46 (dk_at dksX6_back_1 9 rfl rfl)
theorem dX6_back_34 : decode cX6_back 34 = .ok (.iastore, 1) := dk_79 (dk_at dksX6_back_1 10 rfl rfl)
theorem dX6_back_35 : decode cX6_back 35 = .ok (.iinc 1 1, 3) := dk_132 1 1 (dk_at dksX6_back_1 11 rfl rfl)
theorem dX6_back_38 : decode cX6_back 38 = .ok (.goto (-22), 3) := dk_167 255 234 (dk_at dksX6_back_1 14 rfl rfl)
theorem dX6_back_41 : decode cX6_back 41 = .ok (.iconst 1, 1) := dk_4 (dk_at dksX6_back_1 17 rfl rfl)
theorem dX6_back_42 : decode cX6_back 42 = .ok (.ireturn, 1) := dk_172 (dk_at dksX6_back_1 18 rfl rfl)
def dkwX6_feed_5 : List UInt8 := [180, 0, 124, 172]
abbrev dktX6_feed_5 : List UInt8 := dkwX6_feed_5 ++ []
def dkwX6_feed_4 : List UInt8 := [100, 122, 145, 84, 132, 6, 1, 167, 255, 213, 42, 89, 180, 0, 124, 16, 20, 96, 181, 0, 124, 42]
abbrev dktX6_feed_4 : List UInt8 := dkwX6_feed_4 ++ dktX6_feed_5
def dkwX6_feed_3 : List UInt8 := [180, 0, 124, 21, 6, 96, 42, 180, 0, 27, 21, 6, 7, 108, 46, 16, 24, 16, 8, 21, 6, 7, 112, 104]
abbrev dktX6_feed_3 : List UInt8 := dkwX6_feed_3 ++ dktX6_feed_4
def dkwX6_feed_2 : List UInt8 := [79, 42, 180, 0, 27, 7, 21, 5, 79, 3, 54, 6, 21, 6, 16, 20, 162, 0, 42, 42, 180, 0, 20, 42]
abbrev dktX6_feed_2 : List UInt8 := dkwX6_feed_2 ++ dktX6_feed_3
def dkwX6_feed_1 : List UInt8 := [3, 27, 79, 42, 180, 0, 27, 4, 28, 79, 42, 180, 0, 27, 5, 29, 79, 42, 180, 0, 27, 6, 21, 4]
abbrev dktX6_feed_1 : List UInt8 := dkwX6_feed_1 ++ dktX6_feed_2
def dkwX6_feed_0 : List UInt8 := [42, 3, 181, 0, 3, 42, 180, 0, 124, 16, 20, 96, 17, 1, 144, 164, 0, 5, 2, 172, 42, 180, 0, 27]
abbrev dktX6_feed_0 : List UInt8 := dkwX6_feed_0 ++ dktX6_feed_1
theorem dksX6_feed_0 : cX6_feed.data.toList.drop 0 = dktX6_feed_0 := by decide +kernel
theorem dksX6_feed_1 : cX6_feed.data.toList.drop 24 = dktX6_feed_1 := dk_seg dksX6_feed_0 24 rfl rfl
theorem dksX6_feed_2 : cX6_feed.data.toList.drop 48 = dktX6_feed_2 := dk_seg dksX6_feed_1 24 rfl rfl
theorem dksX6_feed_3 : cX6_feed.data.toList.drop 72 = dktX6_feed_3 := dk_seg dksX6_feed_2 24 rfl rfl
theorem dksX6_feed_4 : cX6_feed.data.toList.drop 96 = dktX6_feed_4 := dk_seg dksX6_feed_3 24 rfl rfl
theorem dksX6_feed_5 : cX6_feed.data.toList.drop 118 = dktX6_feed_5 := dk_seg dksX6_feed_4 22 rfl rfl
theorem dX6_feed_0 : decode cX6_feed 0 = .ok (.aload_n 0, 1) := dk_42 (dk_at dksX6_feed_0 0 rfl rfl)
theorem dX6_feed_1 : decode cX6_feed 1 = .ok (.iconst 0, 1) := dk_3 (dk_at dksX6_feed_0 1 rfl rfl)
theorem dX6_feed_2 : decode cX6_feed 2 = .ok (.putfield 3, 3) := dk_181 0 3 (dk_at dksX6_feed_0 2 rfl rfl)
theorem dX6_feed_5 : decode cX6_feed 5 = .ok (.aload_n 0, 1) := dk_42 (dk_at dksX6_feed_0 5 rfl rfl)
theorem dX6_feed_6 : decode cX6_feed 6 = .ok (.getfield 124, 3) := dk_180 0 124 (dk_at dksX6_feed_0 6 rfl rfl)
theorem dX6_feed_9 : decode cX6_feed 9 = .ok (.bipush 20, 2) := dk_16 20 (dk_at dksX6_feed_0 9 rfl rfl)
theorem dX6_feed_11 : decode cX6_feed 11 = .ok (.iadd, 1) := dk_96 (dk_at dksX6_feed_0 11 rfl rfl)
theorem dX6_feed_12 : decode cX6_feed 12 = .ok (.sipush 400, 3) := dk_17 1 144 (dk_at dksX6_feed_0 12 rfl rfl)
theorem dX6_feed_15 : decode cX6_feed 15 = .ok (.if_icmp .le 5, 3) := dk_164 0 5 (dk_at dksX6_feed_0 15 rfl rfl)
theorem dX6_feed_18 : decode cX6_feed 18 = .ok (.iconst (-1), 1) := dk_2 (dk_at dksX6_feed_0 18 rfl rfl)
theorem dX6_feed_19 : decode cX6_feed 19 = .ok (.ireturn, 1) := dk_172 (dk_at dksX6_feed_0 19 rfl rfl)
theorem dX6_feed_20 : decode cX6_feed 20 = .ok (.aload_n 0, 1) := dk_42 (dk_at dksX6_feed_0 20 rfl rfl)
theorem dX6_feed_21 : decode cX6_feed 21 = .ok (.getfield 27, 3) := dk_180 0 27 (dk_at dksX6_feed_0 21 rfl rfl)
theorem dX6_feed_24 : decode cX6_feed 24 = .ok (.iconst 0, 1) := dk_3 (dk_at dksX6_feed_1 0 rfl rfl)
theorem dX6_feed_25 : decode cX6_feed 25 = .ok (.iload_n 1, 1) := dk_27 (dk_at dksX6_feed_1 1 rfl rfl)
theorem dX6_feed_26 : decode cX6_feed 26 = .ok (.iastore, 1) := dk_79 (dk_at dksX6_feed_1 2 rfl rfl)
theorem dX6_feed_27 : decode cX6_feed 27 = .ok (.aload_n 0, 1) := dk_42 (dk_at dksX6_feed_1 3 rfl rfl)
theorem dX6_feed_28 : decode cX6_feed 28 = .ok (.getfield 27, 3) := dk_180 0 27 (dk_at dksX6_feed_1 4 rfl rfl)
theorem dX6_feed_31 : decode cX6_feed 31 = .ok (.iconst 1, 1) := dk_4 (dk_at dksX6_feed_1 7 rfl rfl)
theorem dX6_feed_32 : decode cX6_feed 32 = .ok (.iload_n 2, 1) := dk_28 (dk_at dksX6_feed_1 8 rfl rfl)
theorem dX6_feed_33 : decode cX6_feed 33 = .ok (.iastore, 1) := dk_79 (dk_at dksX6_feed_1 9 rfl rfl)
theorem dX6_feed_34 : decode cX6_feed 34 = .ok (.aload_n 0, 1) := dk_42 (dk_at dksX6_feed_1 10 rfl rfl)
theorem dX6_feed_35 : decode cX6_feed 35 = .ok (.getfield 27, 3) := dk_180 0 27 (dk_at dksX6_feed_1 11 rfl rfl)
theorem dX6_feed_38 : decode cX6_feed 38 = .ok (.iconst 2, 1) := dk_5 (dk_at dksX6_feed_1 14 rfl rfl)
theorem dX6_feed_39 : decode cX6_feed 39 = .ok (.iload_n 3, 1) := dk_29 (dk_at dksX6_feed_1 15 rfl rfl)
theorem dX6_feed_40 : decode cX6_feed 40 = .ok (.iastore, 1) := dk_79 (dk_at dksX6_feed_1 16 rfl rfl)
theorem dX6_feed_41 : decode cX6_feed 41 = .ok (.aload_n 0, 1) := dk_42 (dk_at dksX6_feed_1 17 rfl rfl)
theorem dX6_feed_42 : decode cX6_feed 42 = .ok (.getfield 27, 3) := dk_180 0 27 (dk_at dksX6_feed_1 18 rfl rfl)
theorem dX6_feed_45 : decode cX6_feed 45 = .ok (.iconst 3, 1) := dk_6 (dk_at dksX6_feed_1 21 rfl rfl)
theorem dX6_feed_46 : decode cX6_feed 46 = .ok (.iload 4, 2) := dk_21 4 (dk_at dksX6_feed_1 22 rfl rfl)
theorem dX6_feed_48 : decode cX6_feed 48 = .ok (.iastore, 1) := dk_79 (dk_at dksX6_feed_2 0 rfl rfl)
theorem dX6_feed_49 : decode cX6_feed 49 = .ok (.aload_n 0, 1) := dk_42 (dk_at dksX6_feed_2 1 rfl rfl)
theorem dX6_feed_50 : decode cX6_feed 50 = .ok (.getfield 27, 3) := dk_180 0 27 (dk_at dksX6_feed_2 2 rfl rfl)
theorem dX6_feed_53 : decode cX6_feed 53 = .ok (.iconst 4, 1) := dk_7 (dk_at dksX6_feed_2 5 rfl rfl)
theorem dX6_feed_54 : decode cX6_feed 54 = .ok (.iload 5, 2) := dk_21 5 (dk_at dksX6_feed_2 6 rfl rfl)
theorem dX6_feed_56 : decode cX6_feed 56 = .ok (.iastore, 1) := dk_79 (dk_at dksX6_feed_2 8 rfl rfl)
theorem dX6_feed_57 : decode cX6_feed 57 = .ok (.iconst 0, 1) := dk_3 (dk_at dksX6_feed_2 9 rfl rfl)
theorem dX6_feed_58 : decode cX6_feed 58 = .ok (.istore 6, 2) := dk_54 6 (dk_at dksX6_feed_2 10 rfl rfl)
theorem dX6_feed_60 : decode cX6_feed 60 = .ok (.iload 6, 2) := dk_21 6 (dk_at dksX6_feed_2 12 rfl rfl)
theorem dX6_feed_62 : decode cX6_feed 62 = .ok (.bipush 20, 2) := dk_16 20 (dk_at dksX6_feed_2 14 rfl rfl)
theorem dX6_feed_64 : decode cX6_feed 64 = .ok (.if_icmp .ge 42, 3) := dk_162 0 42 (dk_at dksX6_feed_2 16 rfl rfl)
theorem dX6_feed_67 : decode cX6_feed 67 = .ok (.aload_n 0, 1) := dk_42 (dk_at dksX6_feed_2 19 rfl rfl)
theorem dX6_feed_68 : decode cX6_feed 68 = .ok (.getfield 20, 3) := dk_180 0 20 (dk_at dksX6_feed_2 20 rfl rfl)
theorem dX6_feed_71 : decode cX6_feed 71 = .ok (.aload_n 0, 1) := dk_42 (dk_at dksX6_feed_2 23 rfl rfl)
theorem dX6_feed_72 : decode cX6_feed 72 = .ok (.getfield 124, 3) := dk_180 0 124 (dk_at dksX6_feed_3 0 rfl rfl)
theorem dX6_feed_75 : decode cX6_feed 75 = .ok (.iload 6, 2) := dk_21 6 (dk_at dksX6_feed_3 3 rfl rfl)
theorem dX6_feed_77 : decode cX6_feed 77 = .ok (.iadd, 1) := dk_96 (dk_at dksX6_feed_3 5 rfl rfl)
theorem dX6_feed_78 : decode cX6_feed 78 = .ok (.aload_n 0, 1) := dk_42 (dk_at dksX6_feed_3 6 rfl rfl)
theorem dX6_feed_79 : decode cX6_feed 79 = .ok (.getfield 27, 3) := dk_180 0 27 (dk_at dksX6_feed_3 7 rfl rfl)
theorem dX6_feed_82 : decode cX6_feed 82 = .ok (.iload 6, 2) := dk_21 6 (dk_at dksX6_feed_3 10 rfl rfl)
theorem dX6_feed_84 : decode cX6_feed 84 = .ok (.iconst 4, 1) := dk_7 (dk_at dksX6_feed_3 12 rfl rfl)
theorem dX6_feed_85 : decode cX6_feed 85 = .ok (.idiv, 1) := dk_108 (dk_at dksX6_feed_3 13 rfl rfl)
theorem dX6_feed_86 : decode cX6_feed 86 = .ok (.iaload, 1) := dk_46 (dk_at dksX6_feed_3 14 rfl rfl)
theorem dX6_feed_87 : decode cX6_feed 87 = .ok (.bipush 24, 2) := dk_16 24 (dk_at dksX6_feed_3 15 rfl rfl)
theorem dX6_feed_89 : decode cX6_feed 89 = .ok (.bipush 8, 2) := dk_16 8 (dk_at dksX6_feed_3 17 rfl rfl)
theorem dX6_feed_91 : decode cX6_feed 91 = .ok (.iload 6, 2) := dk_21 6 (dk_at dksX6_feed_3 19 rfl rfl)
theorem dX6_feed_93 : decode cX6_feed 93 = .ok (.iconst 4, 1) := dk_7 (dk_at dksX6_feed_3 21 rfl rfl)
theorem dX6_feed_94 : decode cX6_feed 94 = .ok (.irem, 1) := dk_112 (dk_at dksX6_feed_3 22 rfl rfl)
theorem dX6_feed_95 : decode cX6_feed 95 = .ok (.imul, 1) := dk_104 (dk_at dksX6_feed_3 23 rfl rfl)
theorem dX6_feed_96 : decode cX6_feed 96 = .ok (.isub, 1) := dk_100 (dk_at dksX6_feed_4 0 rfl rfl)
theorem dX6_feed_97 : decode cX6_feed 97 = .ok (.ishr, 1) := dk_122 (dk_at dksX6_feed_4 1 rfl rfl)
theorem dX6_feed_98 : decode cX6_feed 98 = .ok (.i2b, 1) := dk_145 (dk_at dksX6_feed_4 2 rfl rfl)
theorem dX6_feed_99 : decode cX6_feed 99 = .ok (.bastore, 1) := dk_84 (dk_at dksX6_feed_4 3 rfl rfl)
theorem dX6_feed_100 : decode cX6_feed 100 = .ok (.iinc 6 1, 3) := dk_132 6 1 (dk_at dksX6_feed_4 4 rfl rfl)
theorem dX6_feed_103 : decode cX6_feed 103 = .ok (.goto (-43), 3) := dk_167 255 213 (dk_at dksX6_feed_4 7 rfl rfl)
theorem dX6_feed_106 : decode cX6_feed 106 = .ok (.aload_n 0, 1) := dk_42 (dk_at dksX6_feed_4 10 rfl rfl)
theorem dX6_feed_107 : decode cX6_feed 107 = .ok (.dup, 1) := dk_89 (dk_at dksX6_feed_4 11 rfl rfl)
theorem dX6_feed_108 : decode cX6_feed 108 = .ok (.getfield 124, 3) := dk_180 0 124 (dk_at dksX6_feed_4 12 rfl rfl)
theorem dX6_feed_111 : decode cX6_feed 111 = .ok (.bipush 20, 2) := dk_16 20 (dk_at dksX6_feed_4 15 rfl rfl)
theorem dX6_feed_113 : decode cX6_feed 113 = .ok (.iadd, 1) := dk_96 (dk_at dksX6_feed_4 17 rfl rfl)
theorem dX6_feed_114 : decode cX6_feed 114 = .ok (.putfield 124, 3) := dk_181 0 124 (dk_at dksX6_feed_4 18 rfl rfl)
theorem dX6_feed_117 : decode cX6_feed 117 = .ok (.aload_n 0, 1) := dk_42 (dk_at dksX6_feed_4 21 rfl rfl)
theorem dX6_feed_118 : decode cX6_feed 118 = .ok (.getfield 124, 3) := dk_180 0 124 (dk_at dksX6_feed_5 0 rfl rfl)
theorem dX6_feed_121 : decode cX6_feed 121 = .ok (.ireturn, 1) := dk_172 (dk_at dksX6_feed_5 3 rfl rfl)
def dkwX6_end_1 : List UInt8 := [4, 172]
abbrev dktX6_end_1 : List UInt8 := dkwX6_end_1 ++ []
def dkwX6_end_0 : List UInt8 := [42, 3, 181, 0, 3, 27, 155, 0, 11, 27, 42, 180, 0, 124, 164, 0, 5, 3, 172, 42, 27, 181, 0, 124]
abbrev dktX6_end_0 : List UInt8 := dkwX6_end_0 ++ dktX6_end_1
theorem dksX6_end_0 : cX6_end.data.toList.drop 0 = dktX6_end_0 := by decide +kernel
theorem dksX6_end_1 : cX6_end.data.toList.drop 24 = dktX6_end_1 := dk_seg dksX6_end_0 24 rfl rfl
theorem dX6_end_0 : decode cX6_end 0 = .ok (.aload_n 0, 1) := dk_42 (dk_at dksX6_end_0 0 rfl rfl)
theorem dX6_end_1 : decode cX6_end 1 = .ok (.iconst 0, 1) := dk_3 (dk_at dksX6_end_0 1 rfl rfl)
theorem dX6_end_2 : decode cX6_end 2 = .ok (.putfield 3, 3) := dk_181 0 3 (dk_at dksX6_end_0 2 rfl rfl)
theorem dX6_end_5 : decode cX6_end 5 = .ok (.iload_n 1, 1) := dk_27 (dk_at dksX6_end_0 5 rfl rfl)
theorem dX6_end_6 : decode cX6_end 6 = .ok (.ifCond .lt 11, 3) := dk_155 0 11 (dk_at dksX6_end_0 6 rfl rfl)
theorem dX6_end_9 : decode cX6_end 9 = .ok (.iload_n 1, 1) := dk_27 (dk_at dksX6_end_0 9 rfl rfl)
theorem dX6_end_10 : decode cX6_end 10 = .ok (.aload_n 0, 1) := dk_42 (dk_at dksX6_end_0 10 rfl rfl)
theorem dX6_end_11 : decode cX6_end 11 = .ok (.getfield 124, 3) := dk_180 0 124 (dk_at dksX6_end_0 11 rfl rfl)
theorem dX6_end_14 : decode cX6_end 14 = .ok (.if_icmp .le 5, 3) := dk_164 0 5 (dk_at dksX6_end_0 14 rfl rfl)
theorem dX6_end_17 : decode cX6_end 17 = .ok (.iconst 0, 1) := dk_3 (dk_at dksX6_end_0 17 rfl rfl)
theorem dX6_end_18 : decode cX6_end 18 = .ok (.ireturn, 1) := dk_172 (dk_at dksX6_end_0 18 rfl rfl)
theorem dX6_end_19 : decode cX6_end 19 = .ok (.aload_n 0, 1) := dk_42 (dk_at dksX6_end_0 19 rfl rfl)
theorem dX6_end_20 : decode cX6_end 20 = .ok (.iload_n 1, 1) := dk_27 (dk_at dksX6_end_0 20 rfl rfl)
theorem dX6_end_21 : decode cX6_end 21 = .ok (.putfield 124, 3) := dk_181 0 124 (dk_at dksX6_end_0 21 rfl rfl)
theorem dX6_end_24 : decode cX6_end 24 = .ok (.iconst 1, 1) := dk_4 (dk_at dksX6_end_1 0 rfl rfl)
theorem dX6_end_25 : decode cX6_end 25 = .ok (.ireturn, 1) := dk_172 (dk_at dksX6_end_1 1 rfl rfl)
def dkwX6_fault_0 : List UInt8 := [42, 3, 181, 0, 3, 42, 180, 0, 24, 172]
abbrev dktX6_fault_0 : List UInt8 := dkwX6_fault_0 ++ []
theorem dksX6_fault_0 : cX6_fault.data.toList.drop 0 = dktX6_fault_0 := by decide +kernel
theorem dX6_fault_0 : decode cX6_fault 0 = .ok (.aload_n 0, 1) := dk_42 (dk_at dksX6_fault_0 0 rfl rfl)
theorem dX6_fault_1 : decode cX6_fault 1 = .ok (.iconst 0, 1) := dk_3 (dk_at dksX6_fault_0 1 rfl rfl)
theorem dX6_fault_2 : decode cX6_fault 2 = .ok (.putfield 3, 3) := dk_181 0 3 (dk_at dksX6_fault_0 2 rfl rfl)
theorem dX6_fault_5 : decode cX6_fault 5 = .ok (.aload_n 0, 1) := dk_42 (dk_at dksX6_fault_0 5 rfl rfl)
theorem dX6_fault_6 : decode cX6_fault 6 = .ok (.getfield 24, 3) := dk_180 0 24 (dk_at dksX6_fault_0 6 rfl rfl)
theorem dX6_fault_9 : decode cX6_fault 9 = .ok (.ireturn, 1) := dk_172 (dk_at dksX6_fault_0 9 rfl rfl)
def dkwX6_load_4 : List UInt8 := [182, 0, 112, 172]
abbrev dktX6_load_4 : List UInt8 := dkwX6_load_4 ++ []
def dkwX6_load_3 : List UInt8 := [42, 180, 0, 30, 28, 46, 79, 132, 2, 1, 167, 255, 222, 42, 180, 0, 13, 3, 92, 46, 27, 96, 79, 42]
abbrev dktX6_load_3 : List UInt8 := dkwX6_load_3 ++ dktX6_load_4
def dkwX6_load_2 : List UInt8 := [28, 16, 9, 27, 104, 162, 0, 32, 42, 180, 0, 13, 16, 8, 16, 9, 42, 182, 0, 112, 104, 96, 28, 96]
abbrev dktX6_load_2 : List UInt8 := dkwX6_load_2 ++ dktX6_load_3
def dkwX6_load_1 : List UInt8 := [181, 0, 24, 42, 27, 156, 0, 7, 4, 167, 0, 4, 3, 4, 182, 0, 230, 153, 0, 5, 3, 172, 3, 61]
abbrev dktX6_load_1 : List UInt8 := dkwX6_load_1 ++ dktX6_load_2
def dkwX6_load_0 : List UInt8 := [42, 182, 0, 224, 42, 182, 0, 227, 60, 42, 27, 156, 0, 10, 42, 180, 0, 137, 167, 0, 4, 2]
abbrev dktX6_load_0 : List UInt8 := dkwX6_load_0 ++ dktX6_load_1
theorem dksX6_load_0 : cX6_load.data.toList.drop 0 = dktX6_load_0 := by decide +kernel
theorem dksX6_load_1 : cX6_load.data.toList.drop 22 = dktX6_load_1 := dk_seg dksX6_load_0 22 rfl rfl
theorem dksX6_load_2 : cX6_load.data.toList.drop 46 = dktX6_load_2 := dk_seg dksX6_load_1 24 rfl rfl
theorem dksX6_load_3 : cX6_load.data.toList.drop 70 = dktX6_load_3 := dk_seg dksX6_load_2 24 rfl rfl
theorem dksX6_load_4 : cX6_load.data.toList.drop 94 = dktX6_load_4 := dk_seg dksX6_load_3 24 rfl rfl
theorem dX6_load_0 : decode cX6_load 0 = .ok (.aload_n 0, 1) := dk_42 (dk_at dksX6_load_0 0 rfl rfl)
theorem dX6_load_1 : decode cX6_load 1 = .ok (.invokevirtual 224, 3) := dk_182 0 224 (dk_at dksX6_load_0 1 rfl rfl)
theorem dX6_load_4 : decode cX6_load 4 = .ok (.aload_n 0, 1) := dk_42 (dk_at dksX6_load_0 4 rfl rfl)
theorem dX6_load_5 : decode cX6_load 5 = .ok (.invokevirtual 227, 3) := dk_182 0 227 (dk_at dksX6_load_0 5 rfl rfl)
theorem dX6_load_8 : decode cX6_load 8 = .ok (.istore_n 1, 1) := dk_60 (dk_at dksX6_load_0 8 rfl rfl)
theorem dX6_load_9 : decode cX6_load 9 = .ok (.aload_n 0, 1) := dk_42 (dk_at dksX6_load_0 9 rfl rfl)
theorem dX6_load_10 : decode cX6_load 10 = .ok (.iload_n 1, 1) := dk_27 (dk_at dksX6_load_0 10 rfl rfl)
theorem dX6_load_11 : decode cX6_load 11 = .ok (.ifCond .ge 10, 3) := dk_156 0 10 (dk_at dksX6_load_0 11 rfl rfl)
theorem dX6_load_14 : decode cX6_load 14 = .ok (.aload_n 0, 1) := dk_42 (dk_at dksX6_load_0 14 rfl rfl)
theorem dX6_load_15 : decode cX6_load 15 = .ok (.getfield 137, 3) := dk_180 0 137 (dk_at dksX6_load_0 15 rfl rfl)
theorem dX6_load_18 : decode cX6_load 18 = .ok (.goto 4, 3) := dk_167 0 4 (dk_at dksX6_load_0 18 rfl rfl)
theorem dX6_load_21 : decode cX6_load 21 = .ok (.iconst (-1), 1) := dk_2 (dk_at dksX6_load_0 21 rfl rfl)
theorem dX6_load_22 : decode cX6_load 22 = .ok (.putfield 24, 3) := dk_181 0 24 (dk_at dksX6_load_1 0 rfl rfl)
theorem dX6_load_25 : decode cX6_load 25 = .ok (.aload_n 0, 1) := dk_42 (dk_at dksX6_load_1 3 rfl rfl)
theorem dX6_load_26 : decode cX6_load 26 = .ok (.iload_n 1, 1) := dk_27 (dk_at dksX6_load_1 4 rfl rfl)
theorem dX6_load_27 : decode cX6_load 27 = .ok (.ifCond .ge 7, 3) := dk_156 0 7 (dk_at dksX6_load_1 5 rfl rfl)
theorem dX6_load_30 : decode cX6_load 30 = .ok (.iconst 1, 1) := dk_4 (dk_at dksX6_load_1 8 rfl rfl)
theorem dX6_load_31 : decode cX6_load 31 = .ok (.goto 4, 3) := dk_167 0 4 (dk_at dksX6_load_1 9 rfl rfl)
theorem dX6_load_34 : decode cX6_load 34 = .ok (.iconst 0, 1) := dk_3 (dk_at dksX6_load_1 12 rfl rfl)
theorem dX6_load_35 : decode cX6_load 35 = .ok (.iconst 1, 1) := dk_4 (dk_at dksX6_load_1 13 rfl rfl)
theorem dX6_load_36 : decode cX6_load 36 = .ok (.invokevirtual 230, 3) := dk_182 0 230 (dk_at dksX6_load_1 14 rfl rfl)
theorem dX6_load_39 : decode cX6_load 39 = .ok (.ifCond .eq 5, 3) := dk_153 0 5 (dk_at dksX6_load_1 17 rfl rfl)
theorem dX6_load_42 : decode cX6_load 42 = .ok (.iconst 0, 1) := dk_3 (dk_at dksX6_load_1 20 rfl rfl)
theorem dX6_load_43 : decode cX6_load 43 = .ok (.ireturn, 1) := dk_172 (dk_at dksX6_load_1 21 rfl rfl)
theorem dX6_load_44 : decode cX6_load 44 = .ok (.iconst 0, 1) := dk_3 (dk_at dksX6_load_1 22 rfl rfl)
theorem dX6_load_45 : decode cX6_load 45 = .ok (.istore_n 2, 1) := dk_61 (dk_at dksX6_load_1 23 rfl rfl)
theorem dX6_load_46 : decode cX6_load 46 = .ok (.iload_n 2, 1) := dk_28 (dk_at dksX6_load_2 0 rfl rfl)
theorem dX6_load_47 : decode cX6_load 47 = .ok (.bipush 9, 2) := dk_16 9 (dk_at dksX6_load_2 1 rfl rfl)
theorem dX6_load_49 : decode cX6_load 49 = .ok (.iload_n 1, 1) := dk_27 (dk_at dksX6_load_2 3 rfl rfl)
theorem dX6_load_50 : decode cX6_load 50 = .ok (.imul, 1) := dk_104 (dk_at dksX6_load_2 4 rfl rfl)
theorem dX6_load_51 : decode cX6_load 51 = .ok (.if_icmp .ge 32, 3) := dk_162 0 32 (dk_at dksX6_load_2 5 rfl rfl)
theorem dX6_load_54 : decode cX6_load 54 = .ok (.aload_n 0, 1) := dk_42 (dk_at dksX6_load_2 8 rfl rfl)
theorem dX6_load_55 : decode cX6_load 55 = .ok (.getfield 13, 3) := dk_180 0 13 (dk_at dksX6_load_2 9 rfl rfl)
theorem dX6_load_58 : decode cX6_load 58 = .ok (.bipush 8, 2) := dk_16 8 (dk_at dksX6_load_2 12 rfl rfl)
theorem dX6_load_60 : decode cX6_load 60 = .ok (.bipush 9, 2) := dk_16 9 (dk_at dksX6_load_2 14 rfl rfl)
theorem dX6_load_62 : decode cX6_load 62 = .ok (.aload_n 0, 1) := dk_42 (dk_at dksX6_load_2 16 rfl rfl)
theorem dX6_load_63 : decode cX6_load 63 = .ok (.invokevirtual 112, 3) := dk_182 0 112 (dk_at dksX6_load_2 17 rfl rfl)
theorem dX6_load_66 : decode cX6_load 66 = .ok (.imul, 1) := dk_104 (dk_at dksX6_load_2 20 rfl rfl)
theorem dX6_load_67 : decode cX6_load 67 = .ok (.iadd, 1) := dk_96 (dk_at dksX6_load_2 21 rfl rfl)
theorem dX6_load_68 : decode cX6_load 68 = .ok (.iload_n 2, 1) := dk_28 (dk_at dksX6_load_2 22 rfl rfl)
theorem dX6_load_69 : decode cX6_load 69 = .ok (.iadd, 1) := dk_96 (dk_at dksX6_load_2 23 rfl rfl)
theorem dX6_load_70 : decode cX6_load 70 = .ok (.aload_n 0, 1) := dk_42 (dk_at dksX6_load_3 0 rfl rfl)
theorem dX6_load_71 : decode cX6_load 71 = .ok (.getfield 30, 3) := dk_180 0 30 (dk_at dksX6_load_3 1 rfl rfl)
theorem dX6_load_74 : decode cX6_load 74 = .ok (.iload_n 2, 1) := dk_28 (dk_at dksX6_load_3 4 rfl rfl)
theorem dX6_load_75 : decode cX6_load 75 = .ok (.iaload, 1) := dk_46 (dk_at dksX6_load_3 5 rfl rfl)
theorem dX6_load_76 : decode cX6_load 76 = .ok (.iastore, 1) := dk_79 (dk_at dksX6_load_3 6 rfl rfl)
theorem dX6_load_77 : decode cX6_load 77 = .ok (.iinc 2 1, 3) := dk_132 2 1 (dk_at dksX6_load_3 7 rfl rfl)
theorem dX6_load_80 : decode cX6_load 80 = .ok (.goto (-34), 3) := dk_167 255 222 (dk_at dksX6_load_3 10 rfl rfl)
theorem dX6_load_83 : decode cX6_load 83 = .ok (.aload_n 0, 1) := dk_42 (dk_at dksX6_load_3 13 rfl rfl)
theorem dX6_load_84 : decode cX6_load 84 = .ok (.getfield 13, 3) := dk_180 0 13 (dk_at dksX6_load_3 14 rfl rfl)
theorem dX6_load_87 : decode cX6_load 87 = .ok (.iconst 0, 1) := dk_3 (dk_at dksX6_load_3 17 rfl rfl)
theorem dX6_load_88 : decode cX6_load 88 = .ok (.dup2, 1) := dk_92 (dk_at dksX6_load_3 18 rfl rfl)
theorem dX6_load_89 : decode cX6_load 89 = .ok (.iaload, 1) := dk_46 (dk_at dksX6_load_3 19 rfl rfl)
theorem dX6_load_90 : decode cX6_load 90 = .ok (.iload_n 1, 1) := dk_27 (dk_at dksX6_load_3 20 rfl rfl)
theorem dX6_load_91 : decode cX6_load 91 = .ok (.iadd, 1) := dk_96 (dk_at dksX6_load_3 21 rfl rfl)
theorem dX6_load_92 : decode cX6_load 92 = .ok (.iastore, 1) := dk_79 (dk_at dksX6_load_3 22 rfl rfl)
theorem dX6_load_93 : decode cX6_load 93 = .ok (.aload_n 0, 1) := dk_42 (dk_at dksX6_load_3 23 rfl rfl)
theorem dX6_load_94 : decode cX6_load 94 = .ok (.invokevirtual 112, 3) := dk_182 0 112 (dk_at dksX6_load_4 0 rfl rfl)
theorem dX6_load_97 : decode cX6_load 97 = .ok (.ireturn, 1) := dk_172 (dk_at dksX6_load_4 3 rfl rfl)
def dkwX6_uses_0 : List UInt8 := [42, 3, 181, 0, 3, 42, 42, 180, 0, 124, 181, 0, 127, 42, 3, 181, 0, 124, 42, 3, 181, 0, 130, 177]
abbrev dktX6_uses_0 : List UInt8 := dkwX6_uses_0 ++ []
theorem dksX6_uses_0 : cX6_uses.data.toList.drop 0 = dktX6_uses_0 := by decide +kernel
theorem dX6_uses_0 : decode cX6_uses 0 = .ok (.aload_n 0, 1) := dk_42 (dk_at dksX6_uses_0 0 rfl rfl)
theorem dX6_uses_1 : decode cX6_uses 1 = .ok (.iconst 0, 1) := dk_3 (dk_at dksX6_uses_0 1 rfl rfl)
theorem dX6_uses_2 : decode cX6_uses 2 = .ok (.putfield 3, 3) := dk_181 0 3 (dk_at dksX6_uses_0 2 rfl rfl)
theorem dX6_uses_5 : decode cX6_uses 5 = .ok (.aload_n 0, 1) := dk_42 (dk_at dksX6_uses_0 5 rfl rfl)
theorem dX6_uses_6 : decode cX6_uses 6 = .ok (.aload_n 0, 1) := dk_42 (dk_at dksX6_uses_0 6 rfl rfl)
theorem dX6_uses_7 : decode cX6_uses 7 = .ok (.getfield 124, 3) := dk_180 0 124 (dk_at dksX6_uses_0 7 rfl rfl)
theorem dX6_uses_10 : decode cX6_uses 10 = .ok (.putfield 127, 3) := dk_181 0 127 (dk_at dksX6_uses_0 10 rfl rfl)
theorem dX6_uses_13 : decode cX6_uses 13 = .ok (.aload_n 0, 1) := dk_42 (dk_at dksX6_uses_0 13 rfl rfl)
theorem dX6_uses_14 : decode cX6_uses 14 = .ok (.iconst 0, 1) := dk_3 (dk_at dksX6_uses_0 14 rfl rfl)
theorem dX6_uses_15 : decode cX6_uses 15 = .ok (.putfield 124, 3) := dk_181 0 124 (dk_at dksX6_uses_0 15 rfl rfl)
theorem dX6_uses_18 : decode cX6_uses 18 = .ok (.aload_n 0, 1) := dk_42 (dk_at dksX6_uses_0 18 rfl rfl)
theorem dX6_uses_19 : decode cX6_uses 19 = .ok (.iconst 0, 1) := dk_3 (dk_at dksX6_uses_0 19 rfl rfl)
theorem dX6_uses_20 : decode cX6_uses 20 = .ok (.putfield 130, 3) := dk_181 0 130 (dk_at dksX6_uses_0 20 rfl rfl)
theorem dX6_uses_23 : decode cX6_uses 23 = .ok (.return_, 1) := dk_177 (dk_at dksX6_uses_0 23 rfl rfl)
def dkwX6_readAll_3 : List UInt8 := [132, 1, 1, 167, 255, 201]
abbrev dktX6_readAll_3 : List UInt8 := dkwX6_readAll_3 ++ []
def dkwX6_readAll_2 : List UInt8 := [42, 16, 59, 16, 59, 182, 0, 133, 154, 0, 5, 2, 172, 42, 89, 180, 0, 130, 4, 96, 181, 0, 130]
abbrev dktX6_readAll_2 : List UInt8 := dkwX6_readAll_2 ++ dktX6_readAll_3
def dkwX6_readAll_1 : List UInt8 := [154, 0, 5, 2, 172, 42, 182, 0, 140, 42, 180, 0, 130, 42, 180, 0, 127, 160, 0, 7, 27, 4, 96, 172]
abbrev dktX6_readAll_1 : List UInt8 := dkwX6_readAll_1 ++ dktX6_readAll_2
def dkwX6_readAll_0 : List UInt8 := [42, 182, 0, 140, 42, 180, 0, 130, 42, 180, 0, 127, 160, 0, 5, 3, 172, 3, 60, 42, 27, 182, 0, 221]
abbrev dktX6_readAll_0 : List UInt8 := dkwX6_readAll_0 ++ dktX6_readAll_1
theorem dksX6_readAll_0 : cX6_readAll.data.toList.drop 0 = dktX6_readAll_0 := by decide +kernel
theorem dksX6_readAll_1 : cX6_readAll.data.toList.drop 24 = dktX6_readAll_1 := dk_seg dksX6_readAll_0 24 rfl rfl
theorem dksX6_readAll_2 : cX6_readAll.data.toList.drop 48 = dktX6_readAll_2 := dk_seg dksX6_readAll_1 24 rfl rfl
theorem dksX6_readAll_3 : cX6_readAll.data.toList.drop 71 = dktX6_readAll_3 := dk_seg dksX6_readAll_2 23 rfl rfl
theorem dX6_readAll_0 : decode cX6_readAll 0 = .ok (.aload_n 0, 1) := dk_42 (dk_at dksX6_readAll_0 0 rfl rfl)
theorem dX6_readAll_1 : decode cX6_readAll 1 = .ok (.invokevirtual 140, 3) := dk_182 0 140 (dk_at dksX6_readAll_0 1 rfl rfl)
theorem dX6_readAll_4 : decode cX6_readAll 4 = .ok (.aload_n 0, 1) := dk_42 (dk_at dksX6_readAll_0 4 rfl rfl)
theorem dX6_readAll_5 : decode cX6_readAll 5 = .ok (.getfield 130, 3) := dk_180 0 130 (dk_at dksX6_readAll_0 5 rfl rfl)
theorem dX6_readAll_8 : decode cX6_readAll 8 = .ok (.aload_n 0, 1) := dk_42 (dk_at dksX6_readAll_0 8 rfl rfl)
theorem dX6_readAll_9 : decode cX6_readAll 9 = .ok (.getfield 127, 3) := dk_180 0 127 (dk_at dksX6_readAll_0 9 rfl rfl)
theorem dX6_readAll_12 : decode cX6_readAll 12 = .ok (.if_icmp .ne 5, 3) := dk_160 0 5 (dk_at dksX6_readAll_0 12 rfl rfl)
theorem dX6_readAll_15 : decode cX6_readAll 15 = .ok (.iconst 0, 1) := dk_3 (dk_at dksX6_readAll_0 15 rfl rfl)
theorem dX6_readAll_16 : decode cX6_readAll 16 = .ok (.ireturn, 1) := dk_172 (dk_at dksX6_readAll_0 16 rfl rfl)
theorem dX6_readAll_17 : decode cX6_readAll 17 = .ok (.iconst 0, 1) := dk_3 (dk_at dksX6_readAll_0 17 rfl rfl)
theorem dX6_readAll_18 : decode cX6_readAll 18 = .ok (.istore_n 1, 1) := dk_60 (dk_at dksX6_readAll_0 18 rfl rfl)
theorem dX6_readAll_19 : decode cX6_readAll 19 = .ok (.aload_n 0, 1) := dk_42 (dk_at dksX6_readAll_0 19 rfl rfl)
theorem dX6_readAll_20 : decode cX6_readAll 20 = .ok (.iload_n 1, 1) := dk_27 (dk_at dksX6_readAll_0 20 rfl rfl)
theorem dX6_readAll_21 : decode cX6_readAll 21 = .ok (.invokevirtual 221, 3) := dk_182 0 221 (dk_at dksX6_readAll_0 21 rfl rfl)
theorem dX6_readAll_24 : decode cX6_readAll 24 = .ok (.ifCond .ne 5, 3) := dk_154 0 5 (dk_at dksX6_readAll_1 0 rfl rfl)
theorem dX6_readAll_27 : decode cX6_readAll 27 = .ok (.iconst (-1), 1) := dk_2 (dk_at dksX6_readAll_1 3 rfl rfl)
theorem dX6_readAll_28 : decode cX6_readAll 28 = .ok (.ireturn, 1) := dk_172 (dk_at dksX6_readAll_1 4 rfl rfl)
theorem dX6_readAll_29 : decode cX6_readAll 29 = .ok (.aload_n 0, 1) := dk_42 (dk_at dksX6_readAll_1 5 rfl rfl)
theorem dX6_readAll_30 : decode cX6_readAll 30 = .ok (.invokevirtual 140, 3) := dk_182 0 140 (dk_at dksX6_readAll_1 6 rfl rfl)
theorem dX6_readAll_33 : decode cX6_readAll 33 = .ok (.aload_n 0, 1) := dk_42 (dk_at dksX6_readAll_1 9 rfl rfl)
theorem dX6_readAll_34 : decode cX6_readAll 34 = .ok (.getfield 130, 3) := dk_180 0 130 (dk_at dksX6_readAll_1 10 rfl rfl)
theorem dX6_readAll_37 : decode cX6_readAll 37 = .ok (.aload_n 0, 1) := dk_42 (dk_at dksX6_readAll_1 13 rfl rfl)
theorem dX6_readAll_38 : decode cX6_readAll 38 = .ok (.getfield 127, 3) := dk_180 0 127 (dk_at dksX6_readAll_1 14 rfl rfl)
theorem dX6_readAll_41 : decode cX6_readAll 41 = .ok (.if_icmp .ne 7, 3) := dk_160 0 7 (dk_at dksX6_readAll_1 17 rfl rfl)
theorem dX6_readAll_44 : decode cX6_readAll 44 = .ok (.iload_n 1, 1) := dk_27 (dk_at dksX6_readAll_1 20 rfl rfl)
theorem dX6_readAll_45 : decode cX6_readAll 45 = .ok (.iconst 1, 1) := dk_4 (dk_at dksX6_readAll_1 21 rfl rfl)
theorem dX6_readAll_46 : decode cX6_readAll 46 = .ok (.iadd, 1) := dk_96 (dk_at dksX6_readAll_1 22 rfl rfl)
theorem dX6_readAll_47 : decode cX6_readAll 47 = .ok (.ireturn, 1) := dk_172 (dk_at dksX6_readAll_1 23 rfl rfl)
theorem dX6_readAll_48 : decode cX6_readAll 48 = .ok (.aload_n 0, 1) := dk_42 (dk_at dksX6_readAll_2 0 rfl rfl)
theorem dX6_readAll_49 : decode cX6_readAll 49 = .ok (.bipush 59, 2) := dk_16 59 (dk_at dksX6_readAll_2 1 rfl rfl)
theorem dX6_readAll_51 : decode cX6_readAll 51 = .ok (.bipush 59, 2) := dk_16 59 (dk_at dksX6_readAll_2 3 rfl rfl)
theorem dX6_readAll_53 : decode cX6_readAll 53 = .ok (.invokevirtual 133, 3) := dk_182 0 133 (dk_at dksX6_readAll_2 5 rfl rfl)
theorem dX6_readAll_56 : decode cX6_readAll 56 = .ok (.ifCond .ne 5, 3) := dk_154 0 5 (dk_at dksX6_readAll_2 8 rfl rfl)
theorem dX6_readAll_59 : decode cX6_readAll 59 = .ok (.iconst (-1), 1) := dk_2 (dk_at dksX6_readAll_2 11 rfl rfl)
theorem dX6_readAll_60 : decode cX6_readAll 60 = .ok (.ireturn, 1) := dk_172 (dk_at dksX6_readAll_2 12 rfl rfl)
theorem dX6_readAll_61 : decode cX6_readAll 61 = .ok (.aload_n 0, 1) := dk_42 (dk_at dksX6_readAll_2 13 rfl rfl)
theorem dX6_readAll_62 : decode cX6_readAll 62 = .ok (.dup, 1) := dk_89 (dk_at dksX6_readAll_2 14 rfl rfl)
theorem dX6_readAll_63 : decode cX6_readAll 63 = .ok (.getfield 130, 3) := dk_180 0 130 (dk_at dksX6_readAll_2 15 rfl rfl)
theorem dX6_readAll_66 : decode cX6_readAll 66 = .ok (.iconst 1, 1) := dk_4 (dk_at dksX6_readAll_2 18 rfl rfl)
theorem dX6_readAll_67 : decode cX6_readAll 67 = .ok (.iadd, 1) := dk_96 (dk_at dksX6_readAll_2 19 rfl rfl)
theorem dX6_readAll_68 : decode cX6_readAll 68 = .ok (.putfield 130, 3) := dk_181 0 130 (dk_at dksX6_readAll_2 20 rfl rfl)
theorem dX6_readAll_71 : decode cX6_readAll 71 = .ok (.iinc 1 1, 3) := dk_132 1 1 (dk_at dksX6_readAll_3 0 rfl rfl)
theorem dX6_readAll_74 : decode cX6_readAll 74 = .ok (.goto (-55), 3) := dk_167 255 201 (dk_at dksX6_readAll_3 3 rfl rfl)
def dkwX6_blanks_1 : List UInt8 := [42, 42, 180, 0, 130, 181, 0, 137, 177]
abbrev dktX6_blanks_1 : List UInt8 := dkwX6_blanks_1 ++ []
def dkwX6_blanks_0 : List UInt8 := [42, 16, 32, 16, 32, 182, 0, 133, 153, 0, 16, 42, 89, 180, 0, 130, 4, 96, 181, 0, 130, 167, 255, 235]
abbrev dktX6_blanks_0 : List UInt8 := dkwX6_blanks_0 ++ dktX6_blanks_1
theorem dksX6_blanks_0 : cX6_blanks.data.toList.drop 0 = dktX6_blanks_0 := by decide +kernel
theorem dksX6_blanks_1 : cX6_blanks.data.toList.drop 24 = dktX6_blanks_1 := dk_seg dksX6_blanks_0 24 rfl rfl
theorem dX6_blanks_0 : decode cX6_blanks 0 = .ok (.aload_n 0, 1) := dk_42 (dk_at dksX6_blanks_0 0 rfl rfl)
theorem dX6_blanks_1 : decode cX6_blanks 1 = .ok (.bipush 32, 2) := dk_16 32 (dk_at dksX6_blanks_0 1 rfl rfl)
theorem dX6_blanks_3 : decode cX6_blanks 3 = .ok (.bipush 32, 2) := dk_16 32 (dk_at dksX6_blanks_0 3 rfl rfl)
theorem dX6_blanks_5 : decode cX6_blanks 5 = .ok (.invokevirtual 133, 3) := dk_182 0 133 (dk_at dksX6_blanks_0 5 rfl rfl)
theorem dX6_blanks_8 : decode cX6_blanks 8 = .ok (.ifCond .eq 16, 3) := dk_153 0 16 (dk_at dksX6_blanks_0 8 rfl rfl)
theorem dX6_blanks_11 : decode cX6_blanks 11 = .ok (.aload_n 0, 1) := dk_42 (dk_at dksX6_blanks_0 11 rfl rfl)
theorem dX6_blanks_12 : decode cX6_blanks 12 = .ok (.dup, 1) := dk_89 (dk_at dksX6_blanks_0 12 rfl rfl)
theorem dX6_blanks_13 : decode cX6_blanks 13 = .ok (.getfield 130, 3) := dk_180 0 130 (dk_at dksX6_blanks_0 13 rfl rfl)
theorem dX6_blanks_16 : decode cX6_blanks 16 = .ok (.iconst 1, 1) := dk_4 (dk_at dksX6_blanks_0 16 rfl rfl)
theorem dX6_blanks_17 : decode cX6_blanks 17 = .ok (.iadd, 1) := dk_96 (dk_at dksX6_blanks_0 17 rfl rfl)
theorem dX6_blanks_18 : decode cX6_blanks 18 = .ok (.putfield 130, 3) := dk_181 0 130 (dk_at dksX6_blanks_0 18 rfl rfl)
theorem dX6_blanks_21 : decode cX6_blanks 21 = .ok (.goto (-21), 3) := dk_167 255 235 (dk_at dksX6_blanks_0 21 rfl rfl)
theorem dX6_blanks_24 : decode cX6_blanks 24 = .ok (.aload_n 0, 1) := dk_42 (dk_at dksX6_blanks_1 0 rfl rfl)
theorem dX6_blanks_25 : decode cX6_blanks 25 = .ok (.aload_n 0, 1) := dk_42 (dk_at dksX6_blanks_1 1 rfl rfl)
theorem dX6_blanks_26 : decode cX6_blanks 26 = .ok (.getfield 130, 3) := dk_180 0 130 (dk_at dksX6_blanks_1 2 rfl rfl)
theorem dX6_blanks_29 : decode cX6_blanks 29 = .ok (.putfield 137, 3) := dk_181 0 137 (dk_at dksX6_blanks_1 5 rfl rfl)
theorem dX6_blanks_32 : decode cX6_blanks 32 = .ok (.return_, 1) := dk_177 (dk_at dksX6_blanks_1 8 rfl rfl)
def dkwX6_isAt_1 : List UInt8 := [42, 180, 0, 20, 42, 180, 0, 130, 51, 28, 163, 0, 7, 4, 167, 0, 4, 3, 172]
abbrev dktX6_isAt_1 : List UInt8 := dkwX6_isAt_1 ++ []
def dkwX6_isAt_0 : List UInt8 := [42, 180, 0, 130, 42, 180, 0, 127, 162, 0, 33, 42, 180, 0, 20, 42, 180, 0, 130, 51, 27, 161, 0, 20]
abbrev dktX6_isAt_0 : List UInt8 := dkwX6_isAt_0 ++ dktX6_isAt_1
theorem dksX6_isAt_0 : cX6_isAt.data.toList.drop 0 = dktX6_isAt_0 := by decide +kernel
theorem dksX6_isAt_1 : cX6_isAt.data.toList.drop 24 = dktX6_isAt_1 := dk_seg dksX6_isAt_0 24 rfl rfl
theorem dX6_isAt_0 : decode cX6_isAt 0 = .ok (.aload_n 0, 1) := dk_42 (dk_at dksX6_isAt_0 0 rfl rfl)
theorem dX6_isAt_1 : decode cX6_isAt 1 = .ok (.getfield 130, 3) := dk_180 0 130 (dk_at dksX6_isAt_0 1 rfl rfl)
theorem dX6_isAt_4 : decode cX6_isAt 4 = .ok (.aload_n 0, 1) := dk_42 (dk_at dksX6_isAt_0 4 rfl rfl)
theorem dX6_isAt_5 : decode cX6_isAt 5 = .ok (.getfield 127, 3) := dk_180 0 127 (dk_at dksX6_isAt_0 5 rfl rfl)
theorem dX6_isAt_8 : decode cX6_isAt 8 = .ok (.if_icmp .ge 33, 3) := dk_162 0 33 (dk_at dksX6_isAt_0 8 rfl rfl)
theorem dX6_isAt_11 : decode cX6_isAt 11 = .ok (.aload_n 0, 1) := dk_42 (dk_at dksX6_isAt_0 11 rfl rfl)
theorem dX6_isAt_12 : decode cX6_isAt 12 = .ok (.getfield 20, 3) := dk_180 0 20 (dk_at dksX6_isAt_0 12 rfl rfl)
theorem dX6_isAt_15 : decode cX6_isAt 15 = .ok (.aload_n 0, 1) := dk_42 (dk_at dksX6_isAt_0 15 rfl rfl)
theorem dX6_isAt_16 : decode cX6_isAt 16 = .ok (.getfield 130, 3) := dk_180 0 130 (dk_at dksX6_isAt_0 16 rfl rfl)
theorem dX6_isAt_19 : decode cX6_isAt 19 = .ok (.baload, 1) := dk_51 (dk_at dksX6_isAt_0 19 rfl rfl)
theorem dX6_isAt_20 : decode cX6_isAt 20 = .ok (.iload_n 1, 1) := dk_27 (dk_at dksX6_isAt_0 20 rfl rfl)
theorem dX6_isAt_21 : decode cX6_isAt 21 = .ok (.if_icmp .lt 20, 3) := dk_161 0 20 (dk_at dksX6_isAt_0 21 rfl rfl)
theorem dX6_isAt_24 : decode cX6_isAt 24 = .ok (.aload_n 0, 1) := dk_42 (dk_at dksX6_isAt_1 0 rfl rfl)
theorem dX6_isAt_25 : decode cX6_isAt 25 = .ok (.getfield 20, 3) := dk_180 0 20 (dk_at dksX6_isAt_1 1 rfl rfl)
theorem dX6_isAt_28 : decode cX6_isAt 28 = .ok (.aload_n 0, 1) := dk_42 (dk_at dksX6_isAt_1 4 rfl rfl)
theorem dX6_isAt_29 : decode cX6_isAt 29 = .ok (.getfield 130, 3) := dk_180 0 130 (dk_at dksX6_isAt_1 5 rfl rfl)
theorem dX6_isAt_32 : decode cX6_isAt 32 = .ok (.baload, 1) := dk_51 (dk_at dksX6_isAt_1 8 rfl rfl)
theorem dX6_isAt_33 : decode cX6_isAt 33 = .ok (.iload_n 2, 1) := dk_28 (dk_at dksX6_isAt_1 9 rfl rfl)
theorem dX6_isAt_34 : decode cX6_isAt 34 = .ok (.if_icmp .gt 7, 3) := dk_163 0 7 (dk_at dksX6_isAt_1 10 rfl rfl)
theorem dX6_isAt_37 : decode cX6_isAt 37 = .ok (.iconst 1, 1) := dk_4 (dk_at dksX6_isAt_1 13 rfl rfl)
theorem dX6_isAt_38 : decode cX6_isAt 38 = .ok (.goto 4, 3) := dk_167 0 4 (dk_at dksX6_isAt_1 14 rfl rfl)
theorem dX6_isAt_41 : decode cX6_isAt 41 = .ok (.iconst 0, 1) := dk_3 (dk_at dksX6_isAt_1 17 rfl rfl)
theorem dX6_isAt_42 : decode cX6_isAt 42 = .ok (.ireturn, 1) := dk_172 (dk_at dksX6_isAt_1 18 rfl rfl)
def dkwX6_readOrder_11 : List UInt8 := [153, 0, 18, 42, 28, 6, 96, 42, 6, 182, 0, 164, 182, 0, 174, 153, 0, 7, 4, 167, 0, 4, 3, 172]
abbrev dktX6_readOrder_11 : List UInt8 := dkwX6_readOrder_11 ++ []
def dkwX6_readOrder_10 : List UInt8 := [42, 16, 39, 182, 0, 164, 182, 0, 174, 153, 0, 7, 4, 167, 0, 4, 3, 172, 42, 18, 216, 182, 0, 218]
abbrev dktX6_readOrder_10 : List UInt8 := dkwX6_readOrder_10 ++ dktX6_readOrder_11
def dkwX6_readOrder_9 : List UInt8 := [42, 28, 182, 0, 211, 172, 29, 4, 160, 0, 34, 42, 18, 214, 182, 0, 161, 153, 0, 23, 42, 28, 7, 96]
abbrev dktX6_readOrder_9 : List UInt8 := dkwX6_readOrder_9 ++ dktX6_readOrder_10
def dkwX6_readOrder_8 : List UInt8 := [182, 0, 174, 172, 42, 28, 8, 96, 42, 182, 0, 208, 182, 0, 174, 154, 0, 5, 3, 172, 29, 154, 0, 9]
abbrev dktX6_readOrder_8 : List UInt8 := dkwX6_readOrder_8 ++ dktX6_readOrder_9
def dkwX6_readOrder_7 : List UInt8 := [182, 0, 205, 172, 29, 5, 159, 0, 8, 29, 8, 160, 0, 17, 42, 28, 7, 96, 42, 16, 39, 182, 0, 164]
abbrev dktX6_readOrder_7 : List UInt8 := dkwX6_readOrder_7 ++ dktX6_readOrder_8
def dkwX6_readOrder_6 : List UInt8 := [160, 0, 16, 42, 28, 16, 6, 96, 42, 182, 0, 171, 182, 0, 174, 172, 29, 6, 160, 0, 9, 42, 28]
abbrev dktX6_readOrder_6 : List UInt8 := dkwX6_readOrder_6 ++ dktX6_readOrder_7
def dkwX6_readOrder_5 : List UInt8 := [156, 0, 5, 3, 172, 29, 16, 7, 159, 0, 9, 29, 16, 9, 160, 0, 5, 4, 172, 29, 16, 8]
abbrev dktX6_readOrder_5 : List UInt8 := dkwX6_readOrder_5 ++ dktX6_readOrder_6
def dkwX6_readOrder_4 : List UInt8 := [154, 0, 5, 3, 172, 42, 182, 0, 152, 42, 182, 0, 202, 62, 42, 180, 0, 30, 28, 3, 96, 29, 79, 29]
abbrev dktX6_readOrder_4 : List UInt8 := dkwX6_readOrder_4 ++ dktX6_readOrder_5
def dkwX6_readOrder_3 : List UInt8 := [96, 2, 79, 42, 18, 200, 182, 0, 155, 153, 0, 24, 42, 28, 4, 96, 42, 6, 182, 0, 164, 182, 0, 174]
abbrev dktX6_readOrder_3 : List UInt8 := dkwX6_readOrder_3 ++ dktX6_readOrder_4
def dkwX6_readOrder_2 : List UInt8 := [180, 0, 30, 28, 4, 96, 2, 79, 42, 180, 0, 30, 28, 7, 96, 2, 79, 42, 180, 0, 30, 28, 16, 7]
abbrev dktX6_readOrder_2 : List UInt8 := dkwX6_readOrder_2 ++ dktX6_readOrder_3
def dkwX6_readOrder_1 : List UInt8 := [29, 16, 9, 162, 0, 18, 42, 180, 0, 30, 28, 29, 96, 3, 79, 132, 3, 1, 167, 255, 238, 42]
abbrev dktX6_readOrder_1 : List UInt8 := dkwX6_readOrder_1 ++ dktX6_readOrder_2
def dkwX6_readOrder_0 : List UInt8 := [42, 182, 0, 152, 42, 182, 0, 112, 27, 96, 16, 40, 160, 0, 5, 3, 172, 16, 9, 27, 104, 61, 3, 62]
abbrev dktX6_readOrder_0 : List UInt8 := dkwX6_readOrder_0 ++ dktX6_readOrder_1
theorem dksX6_readOrder_0 : cX6_readOrder.data.toList.drop 0 = dktX6_readOrder_0 := by decide +kernel
theorem dksX6_readOrder_1 : cX6_readOrder.data.toList.drop 24 = dktX6_readOrder_1 := dk_seg dksX6_readOrder_0 24 rfl rfl
theorem dksX6_readOrder_2 : cX6_readOrder.data.toList.drop 46 = dktX6_readOrder_2 := dk_seg dksX6_readOrder_1 22 rfl rfl
theorem dksX6_readOrder_3 : cX6_readOrder.data.toList.drop 70 = dktX6_readOrder_3 := dk_seg dksX6_readOrder_2 24 rfl rfl
theorem dksX6_readOrder_4 : cX6_readOrder.data.toList.drop 94 = dktX6_readOrder_4 := dk_seg dksX6_readOrder_3 24 rfl rfl
theorem dksX6_readOrder_5 : cX6_readOrder.data.toList.drop 118 = dktX6_readOrder_5 := dk_seg dksX6_readOrder_4 24 rfl rfl
theorem dksX6_readOrder_6 : cX6_readOrder.data.toList.drop 140 = dktX6_readOrder_6 := dk_seg dksX6_readOrder_5 22 rfl rfl
theorem dksX6_readOrder_7 : cX6_readOrder.data.toList.drop 163 = dktX6_readOrder_7 := dk_seg dksX6_readOrder_6 23 rfl rfl
theorem dksX6_readOrder_8 : cX6_readOrder.data.toList.drop 187 = dktX6_readOrder_8 := dk_seg dksX6_readOrder_7 24 rfl rfl
theorem dksX6_readOrder_9 : cX6_readOrder.data.toList.drop 211 = dktX6_readOrder_9 := dk_seg dksX6_readOrder_8 24 rfl rfl
theorem dksX6_readOrder_10 : cX6_readOrder.data.toList.drop 235 = dktX6_readOrder_10 := dk_seg dksX6_readOrder_9 24 rfl rfl
theorem dksX6_readOrder_11 : cX6_readOrder.data.toList.drop 259 = dktX6_readOrder_11 := dk_seg dksX6_readOrder_10 24 rfl rfl
theorem dX6_readOrder_0 : decode cX6_readOrder 0 = .ok (.aload_n 0, 1) := dk_42 (dk_at dksX6_readOrder_0 0 rfl rfl)
theorem dX6_readOrder_1 : decode cX6_readOrder 1 = .ok (.invokevirtual 152, 3) := dk_182 0 152 (dk_at dksX6_readOrder_0 1 rfl rfl)
theorem dX6_readOrder_4 : decode cX6_readOrder 4 = .ok (.aload_n 0, 1) := dk_42 (dk_at dksX6_readOrder_0 4 rfl rfl)
theorem dX6_readOrder_5 : decode cX6_readOrder 5 = .ok (.invokevirtual 112, 3) := dk_182 0 112 (dk_at dksX6_readOrder_0 5 rfl rfl)
theorem dX6_readOrder_8 : decode cX6_readOrder 8 = .ok (.iload_n 1, 1) := dk_27 (dk_at dksX6_readOrder_0 8 rfl rfl)
theorem dX6_readOrder_9 : decode cX6_readOrder 9 = .ok (.iadd, 1) := dk_96 (dk_at dksX6_readOrder_0 9 rfl rfl)
theorem dX6_readOrder_10 : decode cX6_readOrder 10 = .ok (.bipush 40, 2) := dk_16 40 (dk_at dksX6_readOrder_0 10 rfl rfl)
theorem dX6_readOrder_12 : decode cX6_readOrder 12 = .ok (.if_icmp .ne 5, 3) := dk_160 0 5 (dk_at dksX6_readOrder_0 12 rfl rfl)
theorem dX6_readOrder_15 : decode cX6_readOrder 15 = .ok (.iconst 0, 1) := dk_3 (dk_at dksX6_readOrder_0 15 rfl rfl)
theorem dX6_readOrder_16 : decode cX6_readOrder 16 = .ok (.ireturn, 1) := dk_172 (dk_at dksX6_readOrder_0 16 rfl rfl)
theorem dX6_readOrder_17 : decode cX6_readOrder 17 = .ok (.bipush 9, 2) := dk_16 9 (dk_at dksX6_readOrder_0 17 rfl rfl)
theorem dX6_readOrder_19 : decode cX6_readOrder 19 = .ok (.iload_n 1, 1) := dk_27 (dk_at dksX6_readOrder_0 19 rfl rfl)
theorem dX6_readOrder_20 : decode cX6_readOrder 20 = .ok (.imul, 1) := dk_104 (dk_at dksX6_readOrder_0 20 rfl rfl)
theorem dX6_readOrder_21 : decode cX6_readOrder 21 = .ok (.istore_n 2, 1) := dk_61 (dk_at dksX6_readOrder_0 21 rfl rfl)
theorem dX6_readOrder_22 : decode cX6_readOrder 22 = .ok (.iconst 0, 1) := dk_3 (dk_at dksX6_readOrder_0 22 rfl rfl)
theorem dX6_readOrder_23 : decode cX6_readOrder 23 = .ok (.istore_n 3, 1) := dk_62 (dk_at dksX6_readOrder_0 23 rfl rfl)
theorem dX6_readOrder_24 : decode cX6_readOrder 24 = .ok (.iload_n 3, 1) := dk_29 (dk_at dksX6_readOrder_1 0 rfl rfl)
theorem dX6_readOrder_25 : decode cX6_readOrder 25 = .ok (.bipush 9, 2) := dk_16 9 (dk_at dksX6_readOrder_1 1 rfl rfl)
theorem dX6_readOrder_27 : decode cX6_readOrder 27 = .ok (.if_icmp .ge 18, 3) := dk_162 0 18 (dk_at dksX6_readOrder_1 3 rfl rfl)
theorem dX6_readOrder_30 : decode cX6_readOrder 30 = .ok (.aload_n 0, 1) := dk_42 (dk_at dksX6_readOrder_1 6 rfl rfl)
theorem dX6_readOrder_31 : decode cX6_readOrder 31 = .ok (.getfield 30, 3) := dk_180 0 30 (dk_at dksX6_readOrder_1 7 rfl rfl)
theorem dX6_readOrder_34 : decode cX6_readOrder 34 = .ok (.iload_n 2, 1) := dk_28 (dk_at dksX6_readOrder_1 10 rfl rfl)
theorem dX6_readOrder_35 : decode cX6_readOrder 35 = .ok (.iload_n 3, 1) := dk_29 (dk_at dksX6_readOrder_1 11 rfl rfl)
theorem dX6_readOrder_36 : decode cX6_readOrder 36 = .ok (.iadd, 1) := dk_96 (dk_at dksX6_readOrder_1 12 rfl rfl)
theorem dX6_readOrder_37 : decode cX6_readOrder 37 = .ok (.iconst 0, 1) := dk_3 (dk_at dksX6_readOrder_1 13 rfl rfl)
theorem dX6_readOrder_38 : decode cX6_readOrder 38 = .ok (.iastore, 1) := dk_79 (dk_at dksX6_readOrder_1 14 rfl rfl)
theorem dX6_readOrder_39 : decode cX6_readOrder 39 = .ok (.iinc 3 1, 3) := dk_132 3 1 (dk_at dksX6_readOrder_1 15 rfl rfl)
theorem dX6_readOrder_42 : decode cX6_readOrder 42 = .ok (.goto (-18), 3) := dk_167 255 238 (dk_at dksX6_readOrder_1 18 rfl rfl)
theorem dX6_readOrder_45 : decode cX6_readOrder 45 = .ok (.aload_n 0, 1) := dk_42 (dk_at dksX6_readOrder_1 21 rfl rfl)
theorem dX6_readOrder_46 : decode cX6_readOrder 46 = .ok (.getfield 30, 3) := dk_180 0 30 (dk_at dksX6_readOrder_2 0 rfl rfl)
theorem dX6_readOrder_49 : decode cX6_readOrder 49 = .ok (.iload_n 2, 1) := dk_28 (dk_at dksX6_readOrder_2 3 rfl rfl)
theorem dX6_readOrder_50 : decode cX6_readOrder 50 = .ok (.iconst 1, 1) := dk_4 (dk_at dksX6_readOrder_2 4 rfl rfl)
theorem dX6_readOrder_51 : decode cX6_readOrder 51 = .ok (.iadd, 1) := dk_96 (dk_at dksX6_readOrder_2 5 rfl rfl)
theorem dX6_readOrder_52 : decode cX6_readOrder 52 = .ok (.iconst (-1), 1) := dk_2 (dk_at dksX6_readOrder_2 6 rfl rfl)
theorem dX6_readOrder_53 : decode cX6_readOrder 53 = .ok (.iastore, 1) := dk_79 (dk_at dksX6_readOrder_2 7 rfl rfl)
theorem dX6_readOrder_54 : decode cX6_readOrder 54 = .ok (.aload_n 0, 1) := dk_42 (dk_at dksX6_readOrder_2 8 rfl rfl)
theorem dX6_readOrder_55 : decode cX6_readOrder 55 = .ok (.getfield 30, 3) := dk_180 0 30 (dk_at dksX6_readOrder_2 9 rfl rfl)
theorem dX6_readOrder_58 : decode cX6_readOrder 58 = .ok (.iload_n 2, 1) := dk_28 (dk_at dksX6_readOrder_2 12 rfl rfl)
theorem dX6_readOrder_59 : decode cX6_readOrder 59 = .ok (.iconst 4, 1) := dk_7 (dk_at dksX6_readOrder_2 13 rfl rfl)
theorem dX6_readOrder_60 : decode cX6_readOrder 60 = .ok (.iadd, 1) := dk_96 (dk_at dksX6_readOrder_2 14 rfl rfl)
theorem dX6_readOrder_61 : decode cX6_readOrder 61 = .ok (.iconst (-1), 1) := dk_2 (dk_at dksX6_readOrder_2 15 rfl rfl)
theorem dX6_readOrder_62 : decode cX6_readOrder 62 = .ok (.iastore, 1) := dk_79 (dk_at dksX6_readOrder_2 16 rfl rfl)
theorem dX6_readOrder_63 : decode cX6_readOrder 63 = .ok (.aload_n 0, 1) := dk_42 (dk_at dksX6_readOrder_2 17 rfl rfl)
theorem dX6_readOrder_64 : decode cX6_readOrder 64 = .ok (.getfield 30, 3) := dk_180 0 30 (dk_at dksX6_readOrder_2 18 rfl rfl)
theorem dX6_readOrder_67 : decode cX6_readOrder 67 = .ok (.iload_n 2, 1) := dk_28 (dk_at dksX6_readOrder_2 21 rfl rfl)
theorem dX6_readOrder_68 : decode cX6_readOrder 68 = .ok (.bipush 7, 2) := dk_16 7 (dk_at dksX6_readOrder_2 22 rfl rfl)
theorem dX6_readOrder_70 : decode cX6_readOrder 70 = .ok (.iadd, 1) := dk_96 (dk_at dksX6_readOrder_3 0 rfl rfl)
theorem dX6_readOrder_71 : decode cX6_readOrder 71 = .ok (.iconst (-1), 1) := dk_2 (dk_at dksX6_readOrder_3 1 rfl rfl)
theorem dX6_readOrder_72 : decode cX6_readOrder 72 = .ok (.iastore, 1) := dk_79 (dk_at dksX6_readOrder_3 2 rfl rfl)
theorem dX6_readOrder_73 : decode cX6_readOrder 73 = .ok (.aload_n 0, 1) := dk_42 (dk_at dksX6_readOrder_3 3 rfl rfl)
theorem dX6_readOrder_74 : decode cX6_readOrder 74 = .ok (.ldc 200, 2) := dk_18 200 (dk_at dksX6_readOrder_3 4 rfl rfl)
theorem dX6_readOrder_76 : decode cX6_readOrder 76 = .ok (.invokevirtual 155, 3) := dk_182 0 155 (dk_at dksX6_readOrder_3 6 rfl rfl)
theorem dX6_readOrder_79 : decode cX6_readOrder 79 = .ok (.ifCond .eq 24, 3) := dk_153 0 24 (dk_at dksX6_readOrder_3 9 rfl rfl)
theorem dX6_readOrder_82 : decode cX6_readOrder 82 = .ok (.aload_n 0, 1) := dk_42 (dk_at dksX6_readOrder_3 12 rfl rfl)
theorem dX6_readOrder_83 : decode cX6_readOrder 83 = .ok (.iload_n 2, 1) := dk_28 (dk_at dksX6_readOrder_3 13 rfl rfl)
theorem dX6_readOrder_84 : decode cX6_readOrder 84 = .ok (.iconst 1, 1) := dk_4 (dk_at dksX6_readOrder_3 14 rfl rfl)
theorem dX6_readOrder_85 : decode cX6_readOrder 85 = .ok (.iadd, 1) := dk_96 (dk_at dksX6_readOrder_3 15 rfl rfl)
theorem dX6_readOrder_86 : decode cX6_readOrder 86 = .ok (.aload_n 0, 1) := dk_42 (dk_at dksX6_readOrder_3 16 rfl rfl)
theorem dX6_readOrder_87 : decode cX6_readOrder 87 = .ok (.iconst 3, 1) := dk_6 (dk_at dksX6_readOrder_3 17 rfl rfl)
theorem dX6_readOrder_88 : decode cX6_readOrder 88 = .ok (.invokevirtual 164, 3) := dk_182 0 164 (dk_at dksX6_readOrder_3 18 rfl rfl)
theorem dX6_readOrder_91 : decode cX6_readOrder 91 = .ok (.invokevirtual 174, 3) := dk_182 0 174 (dk_at dksX6_readOrder_3 21 rfl rfl)
theorem dX6_readOrder_94 : decode cX6_readOrder 94 = .ok (.ifCond .ne 5, 3) := dk_154 0 5 (dk_at dksX6_readOrder_4 0 rfl rfl)
theorem dX6_readOrder_97 : decode cX6_readOrder 97 = .ok (.iconst 0, 1) := dk_3 (dk_at dksX6_readOrder_4 3 rfl rfl)
theorem dX6_readOrder_98 : decode cX6_readOrder 98 = .ok (.ireturn, 1) := dk_172 (dk_at dksX6_readOrder_4 4 rfl rfl)
theorem dX6_readOrder_99 : decode cX6_readOrder 99 = .ok (.aload_n 0, 1) := dk_42 (dk_at dksX6_readOrder_4 5 rfl rfl)
theorem dX6_readOrder_100 : decode cX6_readOrder 100 = .ok (.invokevirtual 152, 3) := dk_182 0 152 (dk_at dksX6_readOrder_4 6 rfl rfl)
theorem dX6_readOrder_103 : decode cX6_readOrder 103 = .ok (.aload_n 0, 1) := dk_42 (dk_at dksX6_readOrder_4 9 rfl rfl)
theorem dX6_readOrder_104 : decode cX6_readOrder 104 = .ok (.invokevirtual 202, 3) := dk_182 0 202 (dk_at dksX6_readOrder_4 10 rfl rfl)
theorem dX6_readOrder_107 : decode cX6_readOrder 107 = .ok (.istore_n 3, 1) := dk_62 (dk_at dksX6_readOrder_4 13 rfl rfl)
theorem dX6_readOrder_108 : decode cX6_readOrder 108 = .ok (.aload_n 0, 1) := dk_42 (dk_at dksX6_readOrder_4 14 rfl rfl)
theorem dX6_readOrder_109 : decode cX6_readOrder 109 = .ok (.getfield 30, 3) := dk_180 0 30 (dk_at dksX6_readOrder_4 15 rfl rfl)
theorem dX6_readOrder_112 : decode cX6_readOrder 112 = .ok (.iload_n 2, 1) := dk_28 (dk_at dksX6_readOrder_4 18 rfl rfl)
theorem dX6_readOrder_113 : decode cX6_readOrder 113 = .ok (.iconst 0, 1) := dk_3 (dk_at dksX6_readOrder_4 19 rfl rfl)
theorem dX6_readOrder_114 : decode cX6_readOrder 114 = .ok (.iadd, 1) := dk_96 (dk_at dksX6_readOrder_4 20 rfl rfl)
theorem dX6_readOrder_115 : decode cX6_readOrder 115 = .ok (.iload_n 3, 1) := dk_29 (dk_at dksX6_readOrder_4 21 rfl rfl)
theorem dX6_readOrder_116 : decode cX6_readOrder 116 = .ok (.iastore, 1) := dk_79 (dk_at dksX6_readOrder_4 22 rfl rfl)
theorem dX6_readOrder_117 : decode cX6_readOrder 117 = .ok (.iload_n 3, 1) := dk_29 (dk_at dksX6_readOrder_4 23 rfl rfl)
theorem dX6_readOrder_118 : decode cX6_readOrder 118 = .ok (.ifCond .ge 5, 3) := dk_156 0 5 (dk_at dksX6_readOrder_5 0 rfl rfl)
theorem dX6_readOrder_121 : decode cX6_readOrder 121 = .ok (.iconst 0, 1) := dk_3 (dk_at dksX6_readOrder_5 3 rfl rfl)
theorem dX6_readOrder_122 : decode cX6_readOrder 122 = .ok (.ireturn, 1) := dk_172 (dk_at dksX6_readOrder_5 4 rfl rfl)
theorem dX6_readOrder_123 : decode cX6_readOrder 123 = .ok (.iload_n 3, 1) := dk_29 (dk_at dksX6_readOrder_5 5 rfl rfl)
theorem dX6_readOrder_124 : decode cX6_readOrder 124 = .ok (.bipush 7, 2) := dk_16 7 (dk_at dksX6_readOrder_5 6 rfl rfl)
theorem dX6_readOrder_126 : decode cX6_readOrder 126 = .ok (.if_icmp .eq 9, 3) := dk_159 0 9 (dk_at dksX6_readOrder_5 8 rfl rfl)
theorem dX6_readOrder_129 : decode cX6_readOrder 129 = .ok (.iload_n 3, 1) := dk_29 (dk_at dksX6_readOrder_5 11 rfl rfl)
theorem dX6_readOrder_130 : decode cX6_readOrder 130 = .ok (.bipush 9, 2) := dk_16 9 (dk_at dksX6_readOrder_5 12 rfl rfl)
theorem dX6_readOrder_132 : decode cX6_readOrder 132 = .ok (.if_icmp .ne 5, 3) := dk_160 0 5 (dk_at dksX6_readOrder_5 14 rfl rfl)
theorem dX6_readOrder_135 : decode cX6_readOrder 135 = .ok (.iconst 1, 1) := dk_4 (dk_at dksX6_readOrder_5 17 rfl rfl)
theorem dX6_readOrder_136 : decode cX6_readOrder 136 = .ok (.ireturn, 1) := dk_172 (dk_at dksX6_readOrder_5 18 rfl rfl)
theorem dX6_readOrder_137 : decode cX6_readOrder 137 = .ok (.iload_n 3, 1) := dk_29 (dk_at dksX6_readOrder_5 19 rfl rfl)
theorem dX6_readOrder_138 : decode cX6_readOrder 138 = .ok (.bipush 8, 2) := dk_16 8 (dk_at dksX6_readOrder_5 20 rfl rfl)
theorem dX6_readOrder_140 : decode cX6_readOrder 140 = .ok (.if_icmp .ne 16, 3) := dk_160 0 16 (dk_at dksX6_readOrder_6 0 rfl rfl)
theorem dX6_readOrder_143 : decode cX6_readOrder 143 = .ok (.aload_n 0, 1) := dk_42 (dk_at dksX6_readOrder_6 3 rfl rfl)
theorem dX6_readOrder_144 : decode cX6_readOrder 144 = .ok (.iload_n 2, 1) := dk_28 (dk_at dksX6_readOrder_6 4 rfl rfl)
theorem dX6_readOrder_145 : decode cX6_readOrder 145 = .ok (.bipush 6, 2) := dk_16 6 (dk_at dksX6_readOrder_6 5 rfl rfl)
theorem dX6_readOrder_147 : decode cX6_readOrder 147 = .ok (.iadd, 1) := dk_96 (dk_at dksX6_readOrder_6 7 rfl rfl)
theorem dX6_readOrder_148 : decode cX6_readOrder 148 = .ok (.aload_n 0, 1) := dk_42 (dk_at dksX6_readOrder_6 8 rfl rfl)
theorem dX6_readOrder_149 : decode cX6_readOrder 149 = .ok (.invokevirtual 171, 3) := dk_182 0 171 (dk_at dksX6_readOrder_6 9 rfl rfl)
theorem dX6_readOrder_152 : decode cX6_readOrder 152 = .ok (.invokevirtual 174, 3) := dk_182 0 174 (dk_at dksX6_readOrder_6 12 rfl rfl)
theorem dX6_readOrder_155 : decode cX6_readOrder 155 = .ok (.ireturn, 1) := dk_172 (dk_at dksX6_readOrder_6 15 rfl rfl)
theorem dX6_readOrder_156 : decode cX6_readOrder 156 = .ok (.iload_n 3, 1) := dk_29 (dk_at dksX6_readOrder_6 16 rfl rfl)
theorem dX6_readOrder_157 : decode cX6_readOrder 157 = .ok (.iconst 3, 1) := dk_6 (dk_at dksX6_readOrder_6 17 rfl rfl)
theorem dX6_readOrder_158 : decode cX6_readOrder 158 = .ok (.if_icmp .ne 9, 3) := dk_160 0 9 (dk_at dksX6_readOrder_6 18 rfl rfl)
theorem dX6_readOrder_161 : decode cX6_readOrder 161 = .ok (.aload_n 0, 1) := dk_42 (dk_at dksX6_readOrder_6 21 rfl rfl)
theorem dX6_readOrder_162 : decode cX6_readOrder 162 = .ok (.iload_n 2, 1) := dk_28 (dk_at dksX6_readOrder_6 22 rfl rfl)
theorem dX6_readOrder_163 : decode cX6_readOrder 163 = .ok (.invokevirtual 205, 3) := dk_182 0 205 (dk_at dksX6_readOrder_7 0 rfl rfl)
theorem dX6_readOrder_166 : decode cX6_readOrder 166 = .ok (.ireturn, 1) := dk_172 (dk_at dksX6_readOrder_7 3 rfl rfl)
theorem dX6_readOrder_167 : decode cX6_readOrder 167 = .ok (.iload_n 3, 1) := dk_29 (dk_at dksX6_readOrder_7 4 rfl rfl)
theorem dX6_readOrder_168 : decode cX6_readOrder 168 = .ok (.iconst 2, 1) := dk_5 (dk_at dksX6_readOrder_7 5 rfl rfl)
theorem dX6_readOrder_169 : decode cX6_readOrder 169 = .ok (.if_icmp .eq 8, 3) := dk_159 0 8 (dk_at dksX6_readOrder_7 6 rfl rfl)
theorem dX6_readOrder_172 : decode cX6_readOrder 172 = .ok (.iload_n 3, 1) := dk_29 (dk_at dksX6_readOrder_7 9 rfl rfl)
theorem dX6_readOrder_173 : decode cX6_readOrder 173 = .ok (.iconst 5, 1) := dk_8 (dk_at dksX6_readOrder_7 10 rfl rfl)
theorem dX6_readOrder_174 : decode cX6_readOrder 174 = .ok (.if_icmp .ne 17, 3) := dk_160 0 17 (dk_at dksX6_readOrder_7 11 rfl rfl)
theorem dX6_readOrder_177 : decode cX6_readOrder 177 = .ok (.aload_n 0, 1) := dk_42 (dk_at dksX6_readOrder_7 14 rfl rfl)
theorem dX6_readOrder_178 : decode cX6_readOrder 178 = .ok (.iload_n 2, 1) := dk_28 (dk_at dksX6_readOrder_7 15 rfl rfl)
theorem dX6_readOrder_179 : decode cX6_readOrder 179 = .ok (.iconst 4, 1) := dk_7 (dk_at dksX6_readOrder_7 16 rfl rfl)
theorem dX6_readOrder_180 : decode cX6_readOrder 180 = .ok (.iadd, 1) := dk_96 (dk_at dksX6_readOrder_7 17 rfl rfl)
theorem dX6_readOrder_181 : decode cX6_readOrder 181 = .ok (.aload_n 0, 1) := dk_42 (dk_at dksX6_readOrder_7 18 rfl rfl)
theorem dX6_readOrder_182 : decode cX6_readOrder 182 = .ok (.bipush 39, 2) := dk_16 39 (dk_at dksX6_readOrder_7 19 rfl rfl)
theorem dX6_readOrder_184 : decode cX6_readOrder 184 = .ok (.invokevirtual 164, 3) := dk_182 0 164 (dk_at dksX6_readOrder_7 21 rfl rfl)
theorem dX6_readOrder_187 : decode cX6_readOrder 187 = .ok (.invokevirtual 174, 3) := dk_182 0 174 (dk_at dksX6_readOrder_8 0 rfl rfl)
theorem dX6_readOrder_190 : decode cX6_readOrder 190 = .ok (.ireturn, 1) := dk_172 (dk_at dksX6_readOrder_8 3 rfl rfl)
theorem dX6_readOrder_191 : decode cX6_readOrder 191 = .ok (.aload_n 0, 1) := dk_42 (dk_at dksX6_readOrder_8 4 rfl rfl)
theorem dX6_readOrder_192 : decode cX6_readOrder 192 = .ok (.iload_n 2, 1) := dk_28 (dk_at dksX6_readOrder_8 5 rfl rfl)
theorem dX6_readOrder_193 : decode cX6_readOrder 193 = .ok (.iconst 5, 1) := dk_8 (dk_at dksX6_readOrder_8 6 rfl rfl)
theorem dX6_readOrder_194 : decode cX6_readOrder 194 = .ok (.iadd, 1) := dk_96 (dk_at dksX6_readOrder_8 7 rfl rfl)
theorem dX6_readOrder_195 : decode cX6_readOrder 195 = .ok (.aload_n 0, 1) := dk_42 (dk_at dksX6_readOrder_8 8 rfl rfl)
theorem dX6_readOrder_196 : decode cX6_readOrder 196 = .ok (.invokevirtual 208, 3) := dk_182 0 208 (dk_at dksX6_readOrder_8 9 rfl rfl)
theorem dX6_readOrder_199 : decode cX6_readOrder 199 = .ok (.invokevirtual 174, 3) := dk_182 0 174 (dk_at dksX6_readOrder_8 12 rfl rfl)
theorem dX6_readOrder_202 : decode cX6_readOrder 202 = .ok (.ifCond .ne 5, 3) := dk_154 0 5 (dk_at dksX6_readOrder_8 15 rfl rfl)
theorem dX6_readOrder_205 : decode cX6_readOrder 205 = .ok (.iconst 0, 1) := dk_3 (dk_at dksX6_readOrder_8 18 rfl rfl)
theorem dX6_readOrder_206 : decode cX6_readOrder 206 = .ok (.ireturn, 1) := dk_172 (dk_at dksX6_readOrder_8 19 rfl rfl)
theorem dX6_readOrder_207 : decode cX6_readOrder 207 = .ok (.iload_n 3, 1) := dk_29 (dk_at dksX6_readOrder_8 20 rfl rfl)
theorem dX6_readOrder_208 : decode cX6_readOrder 208 = .ok (.ifCond .ne 9, 3) := dk_154 0 9 (dk_at dksX6_readOrder_8 21 rfl rfl)
theorem dX6_readOrder_211 : decode cX6_readOrder 211 = .ok (.aload_n 0, 1) := dk_42 (dk_at dksX6_readOrder_9 0 rfl rfl)
theorem dX6_readOrder_212 : decode cX6_readOrder 212 = .ok (.iload_n 2, 1) := dk_28 (dk_at dksX6_readOrder_9 1 rfl rfl)
theorem dX6_readOrder_213 : decode cX6_readOrder 213 = .ok (.invokevirtual 211, 3) := dk_182 0 211 (dk_at dksX6_readOrder_9 2 rfl rfl)
theorem dX6_readOrder_216 : decode cX6_readOrder 216 = .ok (.ireturn, 1) := dk_172 (dk_at dksX6_readOrder_9 5 rfl rfl)
theorem dX6_readOrder_217 : decode cX6_readOrder 217 = .ok (.iload_n 3, 1) := dk_29 (dk_at dksX6_readOrder_9 6 rfl rfl)
theorem dX6_readOrder_218 : decode cX6_readOrder 218 = .ok (.iconst 1, 1) := dk_4 (dk_at dksX6_readOrder_9 7 rfl rfl)
theorem dX6_readOrder_219 : decode cX6_readOrder 219 = .ok (.if_icmp .ne 34, 3) := dk_160 0 34 (dk_at dksX6_readOrder_9 8 rfl rfl)
theorem dX6_readOrder_222 : decode cX6_readOrder 222 = .ok (.aload_n 0, 1) := dk_42 (dk_at dksX6_readOrder_9 11 rfl rfl)
theorem dX6_readOrder_223 : decode cX6_readOrder 223 = .ok (.ldc 214, 2) := dk_18 214 (dk_at dksX6_readOrder_9 12 rfl rfl)
theorem dX6_readOrder_225 : decode cX6_readOrder 225 = .ok (.invokevirtual 161, 3) := dk_182 0 161 (dk_at dksX6_readOrder_9 14 rfl rfl)
theorem dX6_readOrder_228 : decode cX6_readOrder 228 = .ok (.ifCond .eq 23, 3) := dk_153 0 23 (dk_at dksX6_readOrder_9 17 rfl rfl)
theorem dX6_readOrder_231 : decode cX6_readOrder 231 = .ok (.aload_n 0, 1) := dk_42 (dk_at dksX6_readOrder_9 20 rfl rfl)
theorem dX6_readOrder_232 : decode cX6_readOrder 232 = .ok (.iload_n 2, 1) := dk_28 (dk_at dksX6_readOrder_9 21 rfl rfl)
theorem dX6_readOrder_233 : decode cX6_readOrder 233 = .ok (.iconst 4, 1) := dk_7 (dk_at dksX6_readOrder_9 22 rfl rfl)
theorem dX6_readOrder_234 : decode cX6_readOrder 234 = .ok (.iadd, 1) := dk_96 (dk_at dksX6_readOrder_9 23 rfl rfl)
theorem dX6_readOrder_235 : decode cX6_readOrder 235 = .ok (.aload_n 0, 1) := dk_42 (dk_at dksX6_readOrder_10 0 rfl rfl)
theorem dX6_readOrder_236 : decode cX6_readOrder 236 = .ok (.bipush 39, 2) := dk_16 39 (dk_at dksX6_readOrder_10 1 rfl rfl)
theorem dX6_readOrder_238 : decode cX6_readOrder 238 = .ok (.invokevirtual 164, 3) := dk_182 0 164 (dk_at dksX6_readOrder_10 3 rfl rfl)
theorem dX6_readOrder_241 : decode cX6_readOrder 241 = .ok (.invokevirtual 174, 3) := dk_182 0 174 (dk_at dksX6_readOrder_10 6 rfl rfl)
theorem dX6_readOrder_244 : decode cX6_readOrder 244 = .ok (.ifCond .eq 7, 3) := dk_153 0 7 (dk_at dksX6_readOrder_10 9 rfl rfl)
theorem dX6_readOrder_247 : decode cX6_readOrder 247 = .ok (.iconst 1, 1) := dk_4 (dk_at dksX6_readOrder_10 12 rfl rfl)
theorem dX6_readOrder_248 : decode cX6_readOrder 248 = .ok (.goto 4, 3) := dk_167 0 4 (dk_at dksX6_readOrder_10 13 rfl rfl)
theorem dX6_readOrder_251 : decode cX6_readOrder 251 = .ok (.iconst 0, 1) := dk_3 (dk_at dksX6_readOrder_10 16 rfl rfl)
theorem dX6_readOrder_252 : decode cX6_readOrder 252 = .ok (.ireturn, 1) := dk_172 (dk_at dksX6_readOrder_10 17 rfl rfl)
theorem dX6_readOrder_253 : decode cX6_readOrder 253 = .ok (.aload_n 0, 1) := dk_42 (dk_at dksX6_readOrder_10 18 rfl rfl)
theorem dX6_readOrder_254 : decode cX6_readOrder 254 = .ok (.ldc 216, 2) := dk_18 216 (dk_at dksX6_readOrder_10 19 rfl rfl)
theorem dX6_readOrder_256 : decode cX6_readOrder 256 = .ok (.invokevirtual 218, 3) := dk_182 0 218 (dk_at dksX6_readOrder_10 21 rfl rfl)
theorem dX6_readOrder_259 : decode cX6_readOrder 259 = .ok (.ifCond .eq 18, 3) := dk_153 0 18 (dk_at dksX6_readOrder_11 0 rfl rfl)
theorem dX6_readOrder_262 : decode cX6_readOrder 262 = .ok (.aload_n 0, 1) := dk_42 (dk_at dksX6_readOrder_11 3 rfl rfl)
theorem dX6_readOrder_263 : decode cX6_readOrder 263 = .ok (.iload_n 2, 1) := dk_28 (dk_at dksX6_readOrder_11 4 rfl rfl)
theorem dX6_readOrder_264 : decode cX6_readOrder 264 = .ok (.iconst 3, 1) := dk_6 (dk_at dksX6_readOrder_11 5 rfl rfl)
theorem dX6_readOrder_265 : decode cX6_readOrder 265 = .ok (.iadd, 1) := dk_96 (dk_at dksX6_readOrder_11 6 rfl rfl)
theorem dX6_readOrder_266 : decode cX6_readOrder 266 = .ok (.aload_n 0, 1) := dk_42 (dk_at dksX6_readOrder_11 7 rfl rfl)
theorem dX6_readOrder_267 : decode cX6_readOrder 267 = .ok (.iconst 3, 1) := dk_6 (dk_at dksX6_readOrder_11 8 rfl rfl)
theorem dX6_readOrder_268 : decode cX6_readOrder 268 = .ok (.invokevirtual 164, 3) := dk_182 0 164 (dk_at dksX6_readOrder_11 9 rfl rfl)
theorem dX6_readOrder_271 : decode cX6_readOrder 271 = .ok (.invokevirtual 174, 3) := dk_182 0 174 (dk_at dksX6_readOrder_11 12 rfl rfl)
theorem dX6_readOrder_274 : decode cX6_readOrder 274 = .ok (.ifCond .eq 7, 3) := dk_153 0 7 (dk_at dksX6_readOrder_11 15 rfl rfl)
theorem dX6_readOrder_277 : decode cX6_readOrder 277 = .ok (.iconst 1, 1) := dk_4 (dk_at dksX6_readOrder_11 18 rfl rfl)
theorem dX6_readOrder_278 : decode cX6_readOrder 278 = .ok (.goto 4, 3) := dk_167 0 4 (dk_at dksX6_readOrder_11 19 rfl rfl)
theorem dX6_readOrder_281 : decode cX6_readOrder 281 = .ok (.iconst 0, 1) := dk_3 (dk_at dksX6_readOrder_11 22 rfl rfl)
theorem dX6_readOrder_282 : decode cX6_readOrder 282 = .ok (.ireturn, 1) := dk_172 (dk_at dksX6_readOrder_11 23 rfl rfl)
def dkwX6_letters_1 : List UInt8 := [181, 0, 130, 167, 255, 235, 177]
abbrev dktX6_letters_1 : List UInt8 := dkwX6_letters_1 ++ []
def dkwX6_letters_0 : List UInt8 := [42, 182, 0, 140, 42, 16, 97, 16, 122, 182, 0, 133, 153, 0, 16, 42, 89, 180, 0, 130, 4, 96]
abbrev dktX6_letters_0 : List UInt8 := dkwX6_letters_0 ++ dktX6_letters_1
theorem dksX6_letters_0 : cX6_letters.data.toList.drop 0 = dktX6_letters_0 := by decide +kernel
theorem dksX6_letters_1 : cX6_letters.data.toList.drop 22 = dktX6_letters_1 := dk_seg dksX6_letters_0 22 rfl rfl
theorem dX6_letters_0 : decode cX6_letters 0 = .ok (.aload_n 0, 1) := dk_42 (dk_at dksX6_letters_0 0 rfl rfl)
theorem dX6_letters_1 : decode cX6_letters 1 = .ok (.invokevirtual 140, 3) := dk_182 0 140 (dk_at dksX6_letters_0 1 rfl rfl)
theorem dX6_letters_4 : decode cX6_letters 4 = .ok (.aload_n 0, 1) := dk_42 (dk_at dksX6_letters_0 4 rfl rfl)
theorem dX6_letters_5 : decode cX6_letters 5 = .ok (.bipush 97, 2) := dk_16 97 (dk_at dksX6_letters_0 5 rfl rfl)
theorem dX6_letters_7 : decode cX6_letters 7 = .ok (.bipush 122, 2) := dk_16 122 (dk_at dksX6_letters_0 7 rfl rfl)
theorem dX6_letters_9 : decode cX6_letters 9 = .ok (.invokevirtual 133, 3) := dk_182 0 133 (dk_at dksX6_letters_0 9 rfl rfl)
theorem dX6_letters_12 : decode cX6_letters 12 = .ok (.ifCond .eq 16, 3) := dk_153 0 16 (dk_at dksX6_letters_0 12 rfl rfl)
theorem dX6_letters_15 : decode cX6_letters 15 = .ok (.aload_n 0, 1) := dk_42 (dk_at dksX6_letters_0 15 rfl rfl)
theorem dX6_letters_16 : decode cX6_letters 16 = .ok (.dup, 1) := dk_89 (dk_at dksX6_letters_0 16 rfl rfl)
theorem dX6_letters_17 : decode cX6_letters 17 = .ok (.getfield 130, 3) := dk_180 0 130 (dk_at dksX6_letters_0 17 rfl rfl)
theorem dX6_letters_20 : decode cX6_letters 20 = .ok (.iconst 1, 1) := dk_4 (dk_at dksX6_letters_0 20 rfl rfl)
theorem dX6_letters_21 : decode cX6_letters 21 = .ok (.iadd, 1) := dk_96 (dk_at dksX6_letters_0 21 rfl rfl)
theorem dX6_letters_22 : decode cX6_letters 22 = .ok (.putfield 130, 3) := dk_181 0 130 (dk_at dksX6_letters_1 0 rfl rfl)
theorem dX6_letters_25 : decode cX6_letters 25 = .ok (.goto (-21), 3) := dk_167 255 235 (dk_at dksX6_letters_1 3 rfl rfl)
theorem dX6_letters_28 : decode cX6_letters 28 = .ok (.return_, 1) := dk_177 (dk_at dksX6_letters_1 6 rfl rfl)
def dkwX6_orders_0 : List UInt8 := [42, 180, 0, 13, 3, 46, 172]
abbrev dktX6_orders_0 : List UInt8 := dkwX6_orders_0 ++ []
theorem dksX6_orders_0 : cX6_orders.data.toList.drop 0 = dktX6_orders_0 := by decide +kernel
theorem dX6_orders_0 : decode cX6_orders 0 = .ok (.aload_n 0, 1) := dk_42 (dk_at dksX6_orders_0 0 rfl rfl)
theorem dX6_orders_1 : decode cX6_orders 1 = .ok (.getfield 13, 3) := dk_180 0 13 (dk_at dksX6_orders_0 1 rfl rfl)
theorem dX6_orders_4 : decode cX6_orders 4 = .ok (.iconst 0, 1) := dk_3 (dk_at dksX6_orders_0 4 rfl rfl)
theorem dX6_orders_5 : decode cX6_orders 5 = .ok (.iaload, 1) := dk_46 (dk_at dksX6_orders_0 5 rfl rfl)
theorem dX6_orders_6 : decode cX6_orders 6 = .ok (.ireturn, 1) := dk_172 (dk_at dksX6_orders_0 6 rfl rfl)
def dkwX6_isWord_2 : List UInt8 := [29, 182, 0, 148, 160, 0, 7, 4, 167, 0, 4, 3, 61, 132, 3, 1, 167, 255, 216, 28, 172]
abbrev dktX6_isWord_2 : List UInt8 := dkwX6_isWord_2 ++ []
def dkwX6_isWord_1 : List UInt8 := [28, 153, 0, 42, 29, 43, 182, 0, 143, 162, 0, 34, 42, 180, 0, 20, 42, 180, 0, 137, 29, 96, 51, 43]
abbrev dktX6_isWord_1 : List UInt8 := dkwX6_isWord_1 ++ dktX6_isWord_2
def dkwX6_isWord_0 : List UInt8 := [42, 180, 0, 130, 42, 180, 0, 137, 100, 43, 182, 0, 143, 160, 0, 7, 4, 167, 0, 4, 3, 61, 3, 62]
abbrev dktX6_isWord_0 : List UInt8 := dkwX6_isWord_0 ++ dktX6_isWord_1
theorem dksX6_isWord_0 : cX6_isWord.data.toList.drop 0 = dktX6_isWord_0 := by decide +kernel
theorem dksX6_isWord_1 : cX6_isWord.data.toList.drop 24 = dktX6_isWord_1 := dk_seg dksX6_isWord_0 24 rfl rfl
theorem dksX6_isWord_2 : cX6_isWord.data.toList.drop 48 = dktX6_isWord_2 := dk_seg dksX6_isWord_1 24 rfl rfl
theorem dX6_isWord_0 : decode cX6_isWord 0 = .ok (.aload_n 0, 1) := dk_42 (dk_at dksX6_isWord_0 0 rfl rfl)
theorem dX6_isWord_1 : decode cX6_isWord 1 = .ok (.getfield 130, 3) := dk_180 0 130 (dk_at dksX6_isWord_0 1 rfl rfl)
theorem dX6_isWord_4 : decode cX6_isWord 4 = .ok (.aload_n 0, 1) := dk_42 (dk_at dksX6_isWord_0 4 rfl rfl)
theorem dX6_isWord_5 : decode cX6_isWord 5 = .ok (.getfield 137, 3) := dk_180 0 137 (dk_at dksX6_isWord_0 5 rfl rfl)
theorem dX6_isWord_8 : decode cX6_isWord 8 = .ok (.isub, 1) := dk_100 (dk_at dksX6_isWord_0 8 rfl rfl)
theorem dX6_isWord_9 : decode cX6_isWord 9 = .ok (.aload_n 1, 1) := dk_43 (dk_at dksX6_isWord_0 9 rfl rfl)
theorem dX6_isWord_10 : decode cX6_isWord 10 = .ok (.invokevirtual 143, 3) := dk_182 0 143 (dk_at dksX6_isWord_0 10 rfl rfl)
theorem dX6_isWord_13 : decode cX6_isWord 13 = .ok (.if_icmp .ne 7, 3) := dk_160 0 7 (dk_at dksX6_isWord_0 13 rfl rfl)
theorem dX6_isWord_16 : decode cX6_isWord 16 = .ok (.iconst 1, 1) := dk_4 (dk_at dksX6_isWord_0 16 rfl rfl)
theorem dX6_isWord_17 : decode cX6_isWord 17 = .ok (.goto 4, 3) := dk_167 0 4 (dk_at dksX6_isWord_0 17 rfl rfl)
theorem dX6_isWord_20 : decode cX6_isWord 20 = .ok (.iconst 0, 1) := dk_3 (dk_at dksX6_isWord_0 20 rfl rfl)
theorem dX6_isWord_21 : decode cX6_isWord 21 = .ok (.istore_n 2, 1) := dk_61 (dk_at dksX6_isWord_0 21 rfl rfl)
theorem dX6_isWord_22 : decode cX6_isWord 22 = .ok (.iconst 0, 1) := dk_3 (dk_at dksX6_isWord_0 22 rfl rfl)
theorem dX6_isWord_23 : decode cX6_isWord 23 = .ok (.istore_n 3, 1) := dk_62 (dk_at dksX6_isWord_0 23 rfl rfl)
theorem dX6_isWord_24 : decode cX6_isWord 24 = .ok (.iload_n 2, 1) := dk_28 (dk_at dksX6_isWord_1 0 rfl rfl)
theorem dX6_isWord_25 : decode cX6_isWord 25 = .ok (.ifCond .eq 42, 3) := dk_153 0 42 (dk_at dksX6_isWord_1 1 rfl rfl)
theorem dX6_isWord_28 : decode cX6_isWord 28 = .ok (.iload_n 3, 1) := dk_29 (dk_at dksX6_isWord_1 4 rfl rfl)
theorem dX6_isWord_29 : decode cX6_isWord 29 = .ok (.aload_n 1, 1) := dk_43 (dk_at dksX6_isWord_1 5 rfl rfl)
theorem dX6_isWord_30 : decode cX6_isWord 30 = .ok (.invokevirtual 143, 3) := dk_182 0 143 (dk_at dksX6_isWord_1 6 rfl rfl)
theorem dX6_isWord_33 : decode cX6_isWord 33 = .ok (.if_icmp .ge 34, 3) := dk_162 0 34 (dk_at dksX6_isWord_1 9 rfl rfl)
theorem dX6_isWord_36 : decode cX6_isWord 36 = .ok (.aload_n 0, 1) := dk_42 (dk_at dksX6_isWord_1 12 rfl rfl)
theorem dX6_isWord_37 : decode cX6_isWord 37 = .ok (.getfield 20, 3) := dk_180 0 20 (dk_at dksX6_isWord_1 13 rfl rfl)
theorem dX6_isWord_40 : decode cX6_isWord 40 = .ok (.aload_n 0, 1) := dk_42 (dk_at dksX6_isWord_1 16 rfl rfl)
theorem dX6_isWord_41 : decode cX6_isWord 41 = .ok (.getfield 137, 3) := dk_180 0 137 (dk_at dksX6_isWord_1 17 rfl rfl)
theorem dX6_isWord_44 : decode cX6_isWord 44 = .ok (.iload_n 3, 1) := dk_29 (dk_at dksX6_isWord_1 20 rfl rfl)
theorem dX6_isWord_45 : decode cX6_isWord 45 = .ok (.iadd, 1) := dk_96 (dk_at dksX6_isWord_1 21 rfl rfl)
theorem dX6_isWord_46 : decode cX6_isWord 46 = .ok (.baload, 1) := dk_51 (dk_at dksX6_isWord_1 22 rfl rfl)
theorem dX6_isWord_47 : decode cX6_isWord 47 = .ok (.aload_n 1, 1) := dk_43 (dk_at dksX6_isWord_1 23 rfl rfl)
theorem dX6_isWord_48 : decode cX6_isWord 48 = .ok (.iload_n 3, 1) := dk_29 (dk_at dksX6_isWord_2 0 rfl rfl)
theorem dX6_isWord_49 : decode cX6_isWord 49 = .ok (.invokevirtual 148, 3) := dk_182 0 148 (dk_at dksX6_isWord_2 1 rfl rfl)
theorem dX6_isWord_52 : decode cX6_isWord 52 = .ok (.if_icmp .ne 7, 3) := dk_160 0 7 (dk_at dksX6_isWord_2 4 rfl rfl)
theorem dX6_isWord_55 : decode cX6_isWord 55 = .ok (.iconst 1, 1) := dk_4 (dk_at dksX6_isWord_2 7 rfl rfl)
theorem dX6_isWord_56 : decode cX6_isWord 56 = .ok (.goto 4, 3) := dk_167 0 4 (dk_at dksX6_isWord_2 8 rfl rfl)
theorem dX6_isWord_59 : decode cX6_isWord 59 = .ok (.iconst 0, 1) := dk_3 (dk_at dksX6_isWord_2 11 rfl rfl)
theorem dX6_isWord_60 : decode cX6_isWord 60 = .ok (.istore_n 2, 1) := dk_61 (dk_at dksX6_isWord_2 12 rfl rfl)
theorem dX6_isWord_61 : decode cX6_isWord 61 = .ok (.iinc 3 1, 3) := dk_132 3 1 (dk_at dksX6_isWord_2 13 rfl rfl)
theorem dX6_isWord_64 : decode cX6_isWord 64 = .ok (.goto (-40), 3) := dk_167 255 216 (dk_at dksX6_isWord_2 16 rfl rfl)
theorem dX6_isWord_67 : decode cX6_isWord 67 = .ok (.iload_n 2, 1) := dk_28 (dk_at dksX6_isWord_2 19 rfl rfl)
theorem dX6_isWord_68 : decode cX6_isWord 68 = .ok (.ireturn, 1) := dk_172 (dk_at dksX6_isWord_2 20 rfl rfl)
def dkwX6_number_4 : List UInt8 := [2, 167, 0, 4, 28, 172]
abbrev dktX6_number_4 : List UInt8 := dkwX6_number_4 ++ []
def dkwX6_number_3 : List UInt8 := [180, 0, 137, 159, 0, 21, 42, 180, 0, 130, 42, 180, 0, 137, 100, 6, 163, 0, 8, 28, 27, 164, 0, 7]
abbrev dktX6_number_3 : List UInt8 := dkwX6_number_3 ++ dktX6_number_4
def dkwX6_number_2 : List UInt8 := [100, 167, 0, 4, 28, 61, 42, 89, 180, 0, 130, 4, 96, 181, 0, 130, 167, 255, 200, 42, 180, 0, 130, 42]
abbrev dktX6_number_2 : List UInt8 := dkwX6_number_2 ++ dktX6_number_3
def dkwX6_number_1 : List UInt8 := [180, 0, 137, 100, 6, 162, 0, 23, 16, 10, 28, 104, 42, 180, 0, 20, 42, 180, 0, 130, 51, 96, 16, 48]
abbrev dktX6_number_1 : List UInt8 := dkwX6_number_1 ++ dktX6_number_2
def dkwX6_number_0 : List UInt8 := [42, 182, 0, 140, 3, 61, 42, 16, 48, 16, 57, 182, 0, 133, 153, 0, 51, 42, 180, 0, 130, 42]
abbrev dktX6_number_0 : List UInt8 := dkwX6_number_0 ++ dktX6_number_1
theorem dksX6_number_0 : cX6_number.data.toList.drop 0 = dktX6_number_0 := by decide +kernel
theorem dksX6_number_1 : cX6_number.data.toList.drop 22 = dktX6_number_1 := dk_seg dksX6_number_0 22 rfl rfl
theorem dksX6_number_2 : cX6_number.data.toList.drop 46 = dktX6_number_2 := dk_seg dksX6_number_1 24 rfl rfl
theorem dksX6_number_3 : cX6_number.data.toList.drop 70 = dktX6_number_3 := dk_seg dksX6_number_2 24 rfl rfl
theorem dksX6_number_4 : cX6_number.data.toList.drop 94 = dktX6_number_4 := dk_seg dksX6_number_3 24 rfl rfl
theorem dX6_number_0 : decode cX6_number 0 = .ok (.aload_n 0, 1) := dk_42 (dk_at dksX6_number_0 0 rfl rfl)
theorem dX6_number_1 : decode cX6_number 1 = .ok (.invokevirtual 140, 3) := dk_182 0 140 (dk_at dksX6_number_0 1 rfl rfl)
theorem dX6_number_4 : decode cX6_number 4 = .ok (.iconst 0, 1) := dk_3 (dk_at dksX6_number_0 4 rfl rfl)
theorem dX6_number_5 : decode cX6_number 5 = .ok (.istore_n 2, 1) := dk_61 (dk_at dksX6_number_0 5 rfl rfl)
theorem dX6_number_6 : decode cX6_number 6 = .ok (.aload_n 0, 1) := dk_42 (dk_at dksX6_number_0 6 rfl rfl)
theorem dX6_number_7 : decode cX6_number 7 = .ok (.bipush 48, 2) := dk_16 48 (dk_at dksX6_number_0 7 rfl rfl)
theorem dX6_number_9 : decode cX6_number 9 = .ok (.bipush 57, 2) := dk_16 57 (dk_at dksX6_number_0 9 rfl rfl)
theorem dX6_number_11 : decode cX6_number 11 = .ok (.invokevirtual 133, 3) := dk_182 0 133 (dk_at dksX6_number_0 11 rfl rfl)
theorem dX6_number_14 : decode cX6_number 14 = .ok (.ifCond .eq 51, 3) := dk_153 0 51 (dk_at dksX6_number_0 14 rfl rfl)
theorem dX6_number_17 : decode cX6_number 17 = .ok (.aload_n 0, 1) := dk_42 (dk_at dksX6_number_0 17 rfl rfl)
theorem dX6_number_18 : decode cX6_number 18 = .ok (.getfield 130, 3) := dk_180 0 130 (dk_at dksX6_number_0 18 rfl rfl)
theorem dX6_number_21 : decode cX6_number 21 = .ok (.aload_n 0, 1) := dk_42 (dk_at dksX6_number_0 21 rfl rfl)
theorem dX6_number_22 : decode cX6_number 22 = .ok (.getfield 137, 3) := dk_180 0 137 (dk_at dksX6_number_1 0 rfl rfl)
theorem dX6_number_25 : decode cX6_number 25 = .ok (.isub, 1) := dk_100 (dk_at dksX6_number_1 3 rfl rfl)
theorem dX6_number_26 : decode cX6_number 26 = .ok (.iconst 3, 1) := dk_6 (dk_at dksX6_number_1 4 rfl rfl)
theorem dX6_number_27 : decode cX6_number 27 = .ok (.if_icmp .ge 23, 3) := dk_162 0 23 (dk_at dksX6_number_1 5 rfl rfl)
theorem dX6_number_30 : decode cX6_number 30 = .ok (.bipush 10, 2) := dk_16 10 (dk_at dksX6_number_1 8 rfl rfl)
theorem dX6_number_32 : decode cX6_number 32 = .ok (.iload_n 2, 1) := dk_28 (dk_at dksX6_number_1 10 rfl rfl)
theorem dX6_number_33 : decode cX6_number 33 = .ok (.imul, 1) := dk_104 (dk_at dksX6_number_1 11 rfl rfl)
theorem dX6_number_34 : decode cX6_number 34 = .ok (.aload_n 0, 1) := dk_42 (dk_at dksX6_number_1 12 rfl rfl)
theorem dX6_number_35 : decode cX6_number 35 = .ok (.getfield 20, 3) := dk_180 0 20 (dk_at dksX6_number_1 13 rfl rfl)
theorem dX6_number_38 : decode cX6_number 38 = .ok (.aload_n 0, 1) := dk_42 (dk_at dksX6_number_1 16 rfl rfl)
theorem dX6_number_39 : decode cX6_number 39 = .ok (.getfield 130, 3) := dk_180 0 130 (dk_at dksX6_number_1 17 rfl rfl)
theorem dX6_number_42 : decode cX6_number 42 = .ok (.baload, 1) := dk_51 (dk_at dksX6_number_1 20 rfl rfl)
theorem dX6_number_43 : decode cX6_number 43 = .ok (.iadd, 1) := dk_96 (dk_at dksX6_number_1 21 rfl rfl)
theorem dX6_number_44 : decode cX6_number 44 = .ok (.bipush 48, 2) := dk_16 48 (dk_at dksX6_number_1 22 rfl rfl)
theorem dX6_number_46 : decode cX6_number 46 = .ok (.isub, 1) := dk_100 (dk_at dksX6_number_2 0 rfl rfl)
theorem dX6_number_47 : decode cX6_number 47 = .ok (.goto 4, 3) := dk_167 0 4 (dk_at dksX6_number_2 1 rfl rfl)
theorem dX6_number_50 : decode cX6_number 50 = .ok (.iload_n 2, 1) := dk_28 (dk_at dksX6_number_2 4 rfl rfl)
theorem dX6_number_51 : decode cX6_number 51 = .ok (.istore_n 2, 1) := dk_61 (dk_at dksX6_number_2 5 rfl rfl)
theorem dX6_number_52 : decode cX6_number 52 = .ok (.aload_n 0, 1) := dk_42 (dk_at dksX6_number_2 6 rfl rfl)
theorem dX6_number_53 : decode cX6_number 53 = .ok (.dup, 1) := dk_89 (dk_at dksX6_number_2 7 rfl rfl)
theorem dX6_number_54 : decode cX6_number 54 = .ok (.getfield 130, 3) := dk_180 0 130 (dk_at dksX6_number_2 8 rfl rfl)
theorem dX6_number_57 : decode cX6_number 57 = .ok (.iconst 1, 1) := dk_4 (dk_at dksX6_number_2 11 rfl rfl)
theorem dX6_number_58 : decode cX6_number 58 = .ok (.iadd, 1) := dk_96 (dk_at dksX6_number_2 12 rfl rfl)
theorem dX6_number_59 : decode cX6_number 59 = .ok (.putfield 130, 3) := dk_181 0 130 (dk_at dksX6_number_2 13 rfl rfl)
theorem dX6_number_62 : decode cX6_number 62 = .ok (.goto (-56), 3) := dk_167 255 200 (dk_at dksX6_number_2 16 rfl rfl)
theorem dX6_number_65 : decode cX6_number 65 = .ok (.aload_n 0, 1) := dk_42 (dk_at dksX6_number_2 19 rfl rfl)
theorem dX6_number_66 : decode cX6_number 66 = .ok (.getfield 130, 3) := dk_180 0 130 (dk_at dksX6_number_2 20 rfl rfl)
theorem dX6_number_69 : decode cX6_number 69 = .ok (.aload_n 0, 1) := dk_42 (dk_at dksX6_number_2 23 rfl rfl)
theorem dX6_number_70 : decode cX6_number 70 = .ok (.getfield 137, 3) := dk_180 0 137 (dk_at dksX6_number_3 0 rfl rfl)
theorem dX6_number_73 : decode cX6_number 73 = .ok (.if_icmp .eq 21, 3) := dk_159 0 21 (dk_at dksX6_number_3 3 rfl rfl)
theorem dX6_number_76 : decode cX6_number 76 = .ok (.aload_n 0, 1) := dk_42 (dk_at dksX6_number_3 6 rfl rfl)
theorem dX6_number_77 : decode cX6_number 77 = .ok (.getfield 130, 3) := dk_180 0 130 (dk_at dksX6_number_3 7 rfl rfl)
theorem dX6_number_80 : decode cX6_number 80 = .ok (.aload_n 0, 1) := dk_42 (dk_at dksX6_number_3 10 rfl rfl)
theorem dX6_number_81 : decode cX6_number 81 = .ok (.getfield 137, 3) := dk_180 0 137 (dk_at dksX6_number_3 11 rfl rfl)
theorem dX6_number_84 : decode cX6_number 84 = .ok (.isub, 1) := dk_100 (dk_at dksX6_number_3 14 rfl rfl)
theorem dX6_number_85 : decode cX6_number 85 = .ok (.iconst 3, 1) := dk_6 (dk_at dksX6_number_3 15 rfl rfl)
theorem dX6_number_86 : decode cX6_number 86 = .ok (.if_icmp .gt 8, 3) := dk_163 0 8 (dk_at dksX6_number_3 16 rfl rfl)
theorem dX6_number_89 : decode cX6_number 89 = .ok (.iload_n 2, 1) := dk_28 (dk_at dksX6_number_3 19 rfl rfl)
theorem dX6_number_90 : decode cX6_number 90 = .ok (.iload_n 1, 1) := dk_27 (dk_at dksX6_number_3 20 rfl rfl)
theorem dX6_number_91 : decode cX6_number 91 = .ok (.if_icmp .le 7, 3) := dk_164 0 7 (dk_at dksX6_number_3 21 rfl rfl)
theorem dX6_number_94 : decode cX6_number 94 = .ok (.iconst (-1), 1) := dk_2 (dk_at dksX6_number_4 0 rfl rfl)
theorem dX6_number_95 : decode cX6_number 95 = .ok (.goto 4, 3) := dk_167 0 4 (dk_at dksX6_number_4 1 rfl rfl)
theorem dX6_number_98 : decode cX6_number 98 = .ok (.iload_n 2, 1) := dk_28 (dk_at dksX6_number_4 4 rfl rfl)
theorem dX6_number_99 : decode cX6_number 99 = .ok (.ireturn, 1) := dk_172 (dk_at dksX6_number_4 5 rfl rfl)
def dkwX6_tells_0 : List UInt8 := [42, 180, 0, 30, 27, 28, 79, 28, 155, 0, 7, 4, 167, 0, 4, 3, 172]
abbrev dktX6_tells_0 : List UInt8 := dkwX6_tells_0 ++ []
theorem dksX6_tells_0 : cX6_tells.data.toList.drop 0 = dktX6_tells_0 := by decide +kernel
theorem dX6_tells_0 : decode cX6_tells 0 = .ok (.aload_n 0, 1) := dk_42 (dk_at dksX6_tells_0 0 rfl rfl)
theorem dX6_tells_1 : decode cX6_tells 1 = .ok (.getfield 30, 3) := dk_180 0 30 (dk_at dksX6_tells_0 1 rfl rfl)
theorem dX6_tells_4 : decode cX6_tells 4 = .ok (.iload_n 1, 1) := dk_27 (dk_at dksX6_tells_0 4 rfl rfl)
theorem dX6_tells_5 : decode cX6_tells 5 = .ok (.iload_n 2, 1) := dk_28 (dk_at dksX6_tells_0 5 rfl rfl)
theorem dX6_tells_6 : decode cX6_tells 6 = .ok (.iastore, 1) := dk_79 (dk_at dksX6_tells_0 6 rfl rfl)
theorem dX6_tells_7 : decode cX6_tells 7 = .ok (.iload_n 2, 1) := dk_28 (dk_at dksX6_tells_0 7 rfl rfl)
theorem dX6_tells_8 : decode cX6_tells 8 = .ok (.ifCond .lt 7, 3) := dk_155 0 7 (dk_at dksX6_tells_0 8 rfl rfl)
theorem dX6_tells_11 : decode cX6_tells 11 = .ok (.iconst 1, 1) := dk_4 (dk_at dksX6_tells_0 11 rfl rfl)
theorem dX6_tells_12 : decode cX6_tells 12 = .ok (.goto 4, 3) := dk_167 0 4 (dk_at dksX6_tells_0 12 rfl rfl)
theorem dX6_tells_15 : decode cX6_tells 15 = .ok (.iconst 0, 1) := dk_3 (dk_at dksX6_tells_0 15 rfl rfl)
theorem dX6_tells_16 : decode cX6_tells 16 = .ok (.ireturn, 1) := dk_172 (dk_at dksX6_tells_0 16 rfl rfl)
def dkwX6_wordAt_5 : List UInt8 := [16, 8, 167, 0, 18, 42, 18, 198, 182, 0, 155, 153, 0, 8, 16, 9, 167, 0, 4, 2, 172]
abbrev dktX6_wordAt_5 : List UInt8 := dkwX6_wordAt_5 ++ []
def dkwX6_wordAt_4 : List UInt8 := [42, 18, 194, 182, 0, 155, 153, 0, 8, 16, 7, 167, 0, 32, 42, 18, 196, 182, 0, 155, 153, 0, 8]
abbrev dktX6_wordAt_4 : List UInt8 := dkwX6_wordAt_4 ++ dktX6_wordAt_5
def dkwX6_wordAt_3 : List UInt8 := [182, 0, 155, 153, 0, 7, 8, 167, 0, 60, 42, 18, 192, 182, 0, 155, 153, 0, 8, 16, 6, 167, 0, 46]
abbrev dktX6_wordAt_3 : List UInt8 := dkwX6_wordAt_3 ++ dktX6_wordAt_4
def dkwX6_wordAt_2 : List UInt8 := [153, 0, 7, 6, 167, 0, 86, 42, 18, 188, 182, 0, 155, 153, 0, 7, 7, 167, 0, 73, 42, 18, 190]
abbrev dktX6_wordAt_2 : List UInt8 := dkwX6_wordAt_2 ++ dktX6_wordAt_3
def dkwX6_wordAt_1 : List UInt8 := [167, 0, 112, 42, 18, 181, 182, 0, 155, 153, 0, 7, 5, 167, 0, 99, 42, 18, 186, 182, 0, 155]
abbrev dktX6_wordAt_1 : List UInt8 := dkwX6_wordAt_1 ++ dktX6_wordAt_2
def dkwX6_wordAt_0 : List UInt8 := [42, 18, 183, 182, 0, 155, 153, 0, 7, 3, 167, 0, 125, 42, 18, 185, 182, 0, 155, 153, 0, 7, 4]
abbrev dktX6_wordAt_0 : List UInt8 := dkwX6_wordAt_0 ++ dktX6_wordAt_1
theorem dksX6_wordAt_0 : cX6_wordAt.data.toList.drop 0 = dktX6_wordAt_0 := by decide +kernel
theorem dksX6_wordAt_1 : cX6_wordAt.data.toList.drop 23 = dktX6_wordAt_1 := dk_seg dksX6_wordAt_0 23 rfl rfl
theorem dksX6_wordAt_2 : cX6_wordAt.data.toList.drop 45 = dktX6_wordAt_2 := dk_seg dksX6_wordAt_1 22 rfl rfl
theorem dksX6_wordAt_3 : cX6_wordAt.data.toList.drop 68 = dktX6_wordAt_3 := dk_seg dksX6_wordAt_2 23 rfl rfl
theorem dksX6_wordAt_4 : cX6_wordAt.data.toList.drop 92 = dktX6_wordAt_4 := dk_seg dksX6_wordAt_3 24 rfl rfl
theorem dksX6_wordAt_5 : cX6_wordAt.data.toList.drop 115 = dktX6_wordAt_5 := dk_seg dksX6_wordAt_4 23 rfl rfl
theorem dX6_wordAt_0 : decode cX6_wordAt 0 = .ok (.aload_n 0, 1) := dk_42 (dk_at dksX6_wordAt_0 0 rfl rfl)
theorem dX6_wordAt_1 : decode cX6_wordAt 1 = .ok (.ldc 183, 2) := dk_18 183 (dk_at dksX6_wordAt_0 1 rfl rfl)
theorem dX6_wordAt_3 : decode cX6_wordAt 3 = .ok (.invokevirtual 155, 3) := dk_182 0 155 (dk_at dksX6_wordAt_0 3 rfl rfl)
theorem dX6_wordAt_6 : decode cX6_wordAt 6 = .ok (.ifCond .eq 7, 3) := dk_153 0 7 (dk_at dksX6_wordAt_0 6 rfl rfl)
theorem dX6_wordAt_9 : decode cX6_wordAt 9 = .ok (.iconst 0, 1) := dk_3 (dk_at dksX6_wordAt_0 9 rfl rfl)
theorem dX6_wordAt_10 : decode cX6_wordAt 10 = .ok (.goto 125, 3) := dk_167 0 125 (dk_at dksX6_wordAt_0 10 rfl rfl)
theorem dX6_wordAt_13 : decode cX6_wordAt 13 = .ok (.aload_n 0, 1) := dk_42 (dk_at dksX6_wordAt_0 13 rfl rfl)
theorem dX6_wordAt_14 : decode cX6_wordAt 14 = .ok (.ldc 185, 2) := dk_18 185 (dk_at dksX6_wordAt_0 14 rfl rfl)
theorem dX6_wordAt_16 : decode cX6_wordAt 16 = .ok (.invokevirtual 155, 3) := dk_182 0 155 (dk_at dksX6_wordAt_0 16 rfl rfl)
theorem dX6_wordAt_19 : decode cX6_wordAt 19 = .ok (.ifCond .eq 7, 3) := dk_153 0 7 (dk_at dksX6_wordAt_0 19 rfl rfl)
theorem dX6_wordAt_22 : decode cX6_wordAt 22 = .ok (.iconst 1, 1) := dk_4 (dk_at dksX6_wordAt_0 22 rfl rfl)
theorem dX6_wordAt_23 : decode cX6_wordAt 23 = .ok (.goto 112, 3) := dk_167 0 112 (dk_at dksX6_wordAt_1 0 rfl rfl)
theorem dX6_wordAt_26 : decode cX6_wordAt 26 = .ok (.aload_n 0, 1) := dk_42 (dk_at dksX6_wordAt_1 3 rfl rfl)
theorem dX6_wordAt_27 : decode cX6_wordAt 27 = .ok (.ldc 181, 2) := dk_18 181 (dk_at dksX6_wordAt_1 4 rfl rfl)
theorem dX6_wordAt_29 : decode cX6_wordAt 29 = .ok (.invokevirtual 155, 3) := dk_182 0 155 (dk_at dksX6_wordAt_1 6 rfl rfl)
theorem dX6_wordAt_32 : decode cX6_wordAt 32 = .ok (.ifCond .eq 7, 3) := dk_153 0 7 (dk_at dksX6_wordAt_1 9 rfl rfl)
theorem dX6_wordAt_35 : decode cX6_wordAt 35 = .ok (.iconst 2, 1) := dk_5 (dk_at dksX6_wordAt_1 12 rfl rfl)
theorem dX6_wordAt_36 : decode cX6_wordAt 36 = .ok (.goto 99, 3) := dk_167 0 99 (dk_at dksX6_wordAt_1 13 rfl rfl)
theorem dX6_wordAt_39 : decode cX6_wordAt 39 = .ok (.aload_n 0, 1) := dk_42 (dk_at dksX6_wordAt_1 16 rfl rfl)
theorem dX6_wordAt_40 : decode cX6_wordAt 40 = .ok (.ldc 186, 2) := dk_18 186 (dk_at dksX6_wordAt_1 17 rfl rfl)
theorem dX6_wordAt_42 : decode cX6_wordAt 42 = .ok (.invokevirtual 155, 3) := dk_182 0 155 (dk_at dksX6_wordAt_1 19 rfl rfl)
theorem dX6_wordAt_45 : decode cX6_wordAt 45 = .ok (.ifCond .eq 7, 3) := dk_153 0 7 (dk_at dksX6_wordAt_2 0 rfl rfl)
theorem dX6_wordAt_48 : decode cX6_wordAt 48 = .ok (.iconst 3, 1) := dk_6 (dk_at dksX6_wordAt_2 3 rfl rfl)
theorem dX6_wordAt_49 : decode cX6_wordAt 49 = .ok (.goto 86, 3) := dk_167 0 86 (dk_at dksX6_wordAt_2 4 rfl rfl)
theorem dX6_wordAt_52 : decode cX6_wordAt 52 = .ok (.aload_n 0, 1) := dk_42 (dk_at dksX6_wordAt_2 7 rfl rfl)
theorem dX6_wordAt_53 : decode cX6_wordAt 53 = .ok (.ldc 188, 2) := dk_18 188 (dk_at dksX6_wordAt_2 8 rfl rfl)
theorem dX6_wordAt_55 : decode cX6_wordAt 55 = .ok (.invokevirtual 155, 3) := dk_182 0 155 (dk_at dksX6_wordAt_2 10 rfl rfl)
theorem dX6_wordAt_58 : decode cX6_wordAt 58 = .ok (.ifCond .eq 7, 3) := dk_153 0 7 (dk_at dksX6_wordAt_2 13 rfl rfl)
theorem dX6_wordAt_61 : decode cX6_wordAt 61 = .ok (.iconst 4, 1) := dk_7 (dk_at dksX6_wordAt_2 16 rfl rfl)
theorem dX6_wordAt_62 : decode cX6_wordAt 62 = .ok (.goto 73, 3) := dk_167 0 73 (dk_at dksX6_wordAt_2 17 rfl rfl)
theorem dX6_wordAt_65 : decode cX6_wordAt 65 = .ok (.aload_n 0, 1) := dk_42 (dk_at dksX6_wordAt_2 20 rfl rfl)
theorem dX6_wordAt_66 : decode cX6_wordAt 66 = .ok (.ldc 190, 2) := dk_18 190 (dk_at dksX6_wordAt_2 21 rfl rfl)
theorem dX6_wordAt_68 : decode cX6_wordAt 68 = .ok (.invokevirtual 155, 3) := dk_182 0 155 (dk_at dksX6_wordAt_3 0 rfl rfl)
theorem dX6_wordAt_71 : decode cX6_wordAt 71 = .ok (.ifCond .eq 7, 3) := dk_153 0 7 (dk_at dksX6_wordAt_3 3 rfl rfl)
theorem dX6_wordAt_74 : decode cX6_wordAt 74 = .ok (.iconst 5, 1) := dk_8 (dk_at dksX6_wordAt_3 6 rfl rfl)
theorem dX6_wordAt_75 : decode cX6_wordAt 75 = .ok (.goto 60, 3) := dk_167 0 60 (dk_at dksX6_wordAt_3 7 rfl rfl)
theorem dX6_wordAt_78 : decode cX6_wordAt 78 = .ok (.aload_n 0, 1) := dk_42 (dk_at dksX6_wordAt_3 10 rfl rfl)
theorem dX6_wordAt_79 : decode cX6_wordAt 79 = .ok (.ldc 192, 2) := dk_18 192 (dk_at dksX6_wordAt_3 11 rfl rfl)
theorem dX6_wordAt_81 : decode cX6_wordAt 81 = .ok (.invokevirtual 155, 3) := dk_182 0 155 (dk_at dksX6_wordAt_3 13 rfl rfl)
theorem dX6_wordAt_84 : decode cX6_wordAt 84 = .ok (.ifCond .eq 8, 3) := dk_153 0 8 (dk_at dksX6_wordAt_3 16 rfl rfl)
theorem dX6_wordAt_87 : decode cX6_wordAt 87 = .ok (.bipush 6, 2) := dk_16 6 (dk_at dksX6_wordAt_3 19 rfl rfl)
theorem dX6_wordAt_89 : decode cX6_wordAt 89 = .ok (.goto 46, 3) := dk_167 0 46 (dk_at dksX6_wordAt_3 21 rfl rfl)
theorem dX6_wordAt_92 : decode cX6_wordAt 92 = .ok (.aload_n 0, 1) := dk_42 (dk_at dksX6_wordAt_4 0 rfl rfl)
theorem dX6_wordAt_93 : decode cX6_wordAt 93 = .ok (.ldc 194, 2) := dk_18 194 (dk_at dksX6_wordAt_4 1 rfl rfl)
theorem dX6_wordAt_95 : decode cX6_wordAt 95 = .ok (.invokevirtual 155, 3) := dk_182 0 155 (dk_at dksX6_wordAt_4 3 rfl rfl)
theorem dX6_wordAt_98 : decode cX6_wordAt 98 = .ok (.ifCond .eq 8, 3) := dk_153 0 8 (dk_at dksX6_wordAt_4 6 rfl rfl)
theorem dX6_wordAt_101 : decode cX6_wordAt 101 = .ok (.bipush 7, 2) := dk_16 7 (dk_at dksX6_wordAt_4 9 rfl rfl)
theorem dX6_wordAt_103 : decode cX6_wordAt 103 = .ok (.goto 32, 3) := dk_167 0 32 (dk_at dksX6_wordAt_4 11 rfl rfl)
theorem dX6_wordAt_106 : decode cX6_wordAt 106 = .ok (.aload_n 0, 1) := dk_42 (dk_at dksX6_wordAt_4 14 rfl rfl)
theorem dX6_wordAt_107 : decode cX6_wordAt 107 = .ok (.ldc 196, 2) := dk_18 196 (dk_at dksX6_wordAt_4 15 rfl rfl)
theorem dX6_wordAt_109 : decode cX6_wordAt 109 = .ok (.invokevirtual 155, 3) := dk_182 0 155 (dk_at dksX6_wordAt_4 17 rfl rfl)
theorem dX6_wordAt_112 : decode cX6_wordAt 112 = .ok (.ifCond .eq 8, 3) := dk_153 0 8 (dk_at dksX6_wordAt_4 20 rfl rfl)
theorem dX6_wordAt_115 : decode cX6_wordAt 115 = .ok (.bipush 8, 2) := dk_16 8 (dk_at dksX6_wordAt_5 0 rfl rfl)
theorem dX6_wordAt_117 : decode cX6_wordAt 117 = .ok (.goto 18, 3) := dk_167 0 18 (dk_at dksX6_wordAt_5 2 rfl rfl)
theorem dX6_wordAt_120 : decode cX6_wordAt 120 = .ok (.aload_n 0, 1) := dk_42 (dk_at dksX6_wordAt_5 5 rfl rfl)
theorem dX6_wordAt_121 : decode cX6_wordAt 121 = .ok (.ldc 198, 2) := dk_18 198 (dk_at dksX6_wordAt_5 6 rfl rfl)
theorem dX6_wordAt_123 : decode cX6_wordAt 123 = .ok (.invokevirtual 155, 3) := dk_182 0 155 (dk_at dksX6_wordAt_5 8 rfl rfl)
theorem dX6_wordAt_126 : decode cX6_wordAt 126 = .ok (.ifCond .eq 8, 3) := dk_153 0 8 (dk_at dksX6_wordAt_5 11 rfl rfl)
theorem dX6_wordAt_129 : decode cX6_wordAt 129 = .ok (.bipush 9, 2) := dk_16 9 (dk_at dksX6_wordAt_5 14 rfl rfl)
theorem dX6_wordAt_131 : decode cX6_wordAt 131 = .ok (.goto 4, 3) := dk_167 0 4 (dk_at dksX6_wordAt_5 16 rfl rfl)
theorem dX6_wordAt_134 : decode cX6_wordAt 134 = .ok (.iconst (-1), 1) := dk_2 (dk_at dksX6_wordAt_5 19 rfl rfl)
theorem dX6_wordAt_135 : decode cX6_wordAt 135 = .ok (.ireturn, 1) := dk_172 (dk_at dksX6_wordAt_5 20 rfl rfl)
def dkwX6_readAtom_2 : List UInt8 := [167, 0, 8, 17, 3, 232, 27, 96, 172]
abbrev dktX6_readAtom_2 : List UInt8 := dkwX6_readAtom_2 ++ []
def dkwX6_readAtom_1 : List UInt8 := [18, 159, 182, 0, 155, 153, 0, 12, 42, 16, 15, 182, 0, 164, 167, 0, 4, 2, 60, 27, 156, 0, 7, 2]
abbrev dktX6_readAtom_1 : List UInt8 := dkwX6_readAtom_1 ++ dktX6_readAtom_2
def dkwX6_readAtom_0 : List UInt8 := [42, 182, 0, 152, 42, 180, 0, 130, 42, 180, 0, 137, 160, 0, 11, 42, 17, 3, 231, 182, 0, 164, 172, 42]
abbrev dktX6_readAtom_0 : List UInt8 := dkwX6_readAtom_0 ++ dktX6_readAtom_1
theorem dksX6_readAtom_0 : cX6_readAtom.data.toList.drop 0 = dktX6_readAtom_0 := by decide +kernel
theorem dksX6_readAtom_1 : cX6_readAtom.data.toList.drop 24 = dktX6_readAtom_1 := dk_seg dksX6_readAtom_0 24 rfl rfl
theorem dksX6_readAtom_2 : cX6_readAtom.data.toList.drop 48 = dktX6_readAtom_2 := dk_seg dksX6_readAtom_1 24 rfl rfl
theorem dX6_readAtom_0 : decode cX6_readAtom 0 = .ok (.aload_n 0, 1) := dk_42 (dk_at dksX6_readAtom_0 0 rfl rfl)
theorem dX6_readAtom_1 : decode cX6_readAtom 1 = .ok (.invokevirtual 152, 3) := dk_182 0 152 (dk_at dksX6_readAtom_0 1 rfl rfl)
theorem dX6_readAtom_4 : decode cX6_readAtom 4 = .ok (.aload_n 0, 1) := dk_42 (dk_at dksX6_readAtom_0 4 rfl rfl)
theorem dX6_readAtom_5 : decode cX6_readAtom 5 = .ok (.getfield 130, 3) := dk_180 0 130 (dk_at dksX6_readAtom_0 5 rfl rfl)
theorem dX6_readAtom_8 : decode cX6_readAtom 8 = .ok (.aload_n 0, 1) := dk_42 (dk_at dksX6_readAtom_0 8 rfl rfl)
theorem dX6_readAtom_9 : decode cX6_readAtom 9 = .ok (.getfield 137, 3) := dk_180 0 137 (dk_at dksX6_readAtom_0 9 rfl rfl)
theorem dX6_readAtom_12 : decode cX6_readAtom 12 = .ok (.if_icmp .ne 11, 3) := dk_160 0 11 (dk_at dksX6_readAtom_0 12 rfl rfl)
theorem dX6_readAtom_15 : decode cX6_readAtom 15 = .ok (.aload_n 0, 1) := dk_42 (dk_at dksX6_readAtom_0 15 rfl rfl)
theorem dX6_readAtom_16 : decode cX6_readAtom 16 = .ok (.sipush 999, 3) := dk_17 3 231 (dk_at dksX6_readAtom_0 16 rfl rfl)
theorem dX6_readAtom_19 : decode cX6_readAtom 19 = .ok (.invokevirtual 164, 3) := dk_182 0 164 (dk_at dksX6_readAtom_0 19 rfl rfl)
theorem dX6_readAtom_22 : decode cX6_readAtom 22 = .ok (.ireturn, 1) := dk_172 (dk_at dksX6_readAtom_0 22 rfl rfl)
theorem dX6_readAtom_23 : decode cX6_readAtom 23 = .ok (.aload_n 0, 1) := dk_42 (dk_at dksX6_readAtom_0 23 rfl rfl)
theorem dX6_readAtom_24 : decode cX6_readAtom 24 = .ok (.ldc 159, 2) := dk_18 159 (dk_at dksX6_readAtom_1 0 rfl rfl)
theorem dX6_readAtom_26 : decode cX6_readAtom 26 = .ok (.invokevirtual 155, 3) := dk_182 0 155 (dk_at dksX6_readAtom_1 2 rfl rfl)
theorem dX6_readAtom_29 : decode cX6_readAtom 29 = .ok (.ifCond .eq 12, 3) := dk_153 0 12 (dk_at dksX6_readAtom_1 5 rfl rfl)
theorem dX6_readAtom_32 : decode cX6_readAtom 32 = .ok (.aload_n 0, 1) := dk_42 (dk_at dksX6_readAtom_1 8 rfl rfl)
theorem dX6_readAtom_33 : decode cX6_readAtom 33 = .ok (.bipush 15, 2) := dk_16 15 (dk_at dksX6_readAtom_1 9 rfl rfl)
theorem dX6_readAtom_35 : decode cX6_readAtom 35 = .ok (.invokevirtual 164, 3) := dk_182 0 164 (dk_at dksX6_readAtom_1 11 rfl rfl)
theorem dX6_readAtom_38 : decode cX6_readAtom 38 = .ok (.goto 4, 3) := dk_167 0 4 (dk_at dksX6_readAtom_1 14 rfl rfl)
theorem dX6_readAtom_41 : decode cX6_readAtom 41 = .ok (.iconst (-1), 1) := dk_2 (dk_at dksX6_readAtom_1 17 rfl rfl)
theorem dX6_readAtom_42 : decode cX6_readAtom 42 = .ok (.istore_n 1, 1) := dk_60 (dk_at dksX6_readAtom_1 18 rfl rfl)
theorem dX6_readAtom_43 : decode cX6_readAtom 43 = .ok (.iload_n 1, 1) := dk_27 (dk_at dksX6_readAtom_1 19 rfl rfl)
theorem dX6_readAtom_44 : decode cX6_readAtom 44 = .ok (.ifCond .ge 7, 3) := dk_156 0 7 (dk_at dksX6_readAtom_1 20 rfl rfl)
theorem dX6_readAtom_47 : decode cX6_readAtom 47 = .ok (.iconst (-1), 1) := dk_2 (dk_at dksX6_readAtom_1 23 rfl rfl)
theorem dX6_readAtom_48 : decode cX6_readAtom 48 = .ok (.goto 8, 3) := dk_167 0 8 (dk_at dksX6_readAtom_2 0 rfl rfl)
theorem dX6_readAtom_51 : decode cX6_readAtom 51 = .ok (.sipush 1000, 3) := dk_17 3 232 (dk_at dksX6_readAtom_2 3 rfl rfl)
theorem dX6_readAtom_54 : decode cX6_readAtom 54 = .ok (.iload_n 1, 1) := dk_27 (dk_at dksX6_readAtom_2 6 rfl rfl)
theorem dX6_readAtom_55 : decode cX6_readAtom 55 = .ok (.iadd, 1) := dk_96 (dk_at dksX6_readAtom_2 7 rfl rfl)
theorem dX6_readAtom_56 : decode cX6_readAtom 56 = .ok (.ireturn, 1) := dk_172 (dk_at dksX6_readAtom_2 8 rfl rfl)
def dkwX6_readIf_3 : List UInt8 := [153, 0, 7, 4, 167, 0, 4, 3, 172]
abbrev dktX6_readIf_3 : List UInt8 := dkwX6_readIf_3 ++ []
def dkwX6_readIf_2 : List UInt8 := [42, 18, 181, 182, 0, 161, 153, 0, 23, 42, 27, 7, 96, 42, 16, 39, 182, 0, 164, 182, 0, 174]
abbrev dktX6_readIf_2 : List UInt8 := dkwX6_readIf_2 ++ dktX6_readIf_3
def dkwX6_readIf_1 : List UInt8 := [182, 0, 177, 182, 0, 174, 153, 0, 47, 42, 27, 16, 7, 96, 42, 182, 0, 171, 182, 0, 174, 153, 0, 32]
abbrev dktX6_readIf_1 : List UInt8 := dkwX6_readIf_1 ++ dktX6_readIf_2
def dkwX6_readIf_0 : List UInt8 := [42, 27, 16, 6, 96, 42, 182, 0, 171, 182, 0, 174, 153, 0, 63, 42, 27, 16, 8, 96, 42, 4]
abbrev dktX6_readIf_0 : List UInt8 := dkwX6_readIf_0 ++ dktX6_readIf_1
theorem dksX6_readIf_0 : cX6_readIf.data.toList.drop 0 = dktX6_readIf_0 := by decide +kernel
theorem dksX6_readIf_1 : cX6_readIf.data.toList.drop 22 = dktX6_readIf_1 := dk_seg dksX6_readIf_0 22 rfl rfl
theorem dksX6_readIf_2 : cX6_readIf.data.toList.drop 46 = dktX6_readIf_2 := dk_seg dksX6_readIf_1 24 rfl rfl
theorem dksX6_readIf_3 : cX6_readIf.data.toList.drop 68 = dktX6_readIf_3 := dk_seg dksX6_readIf_2 22 rfl rfl
theorem dX6_readIf_0 : decode cX6_readIf 0 = .ok (.aload_n 0, 1) := dk_42 (dk_at dksX6_readIf_0 0 rfl rfl)
theorem dX6_readIf_1 : decode cX6_readIf 1 = .ok (.iload_n 1, 1) := dk_27 (dk_at dksX6_readIf_0 1 rfl rfl)
theorem dX6_readIf_2 : decode cX6_readIf 2 = .ok (.bipush 6, 2) := dk_16 6 (dk_at dksX6_readIf_0 2 rfl rfl)
theorem dX6_readIf_4 : decode cX6_readIf 4 = .ok (.iadd, 1) := dk_96 (dk_at dksX6_readIf_0 4 rfl rfl)
theorem dX6_readIf_5 : decode cX6_readIf 5 = .ok (.aload_n 0, 1) := dk_42 (dk_at dksX6_readIf_0 5 rfl rfl)
theorem dX6_readIf_6 : decode cX6_readIf 6 = .ok (.invokevirtual 171, 3) := dk_182 0 171 (dk_at dksX6_readIf_0 6 rfl rfl)
theorem dX6_readIf_9 : decode cX6_readIf 9 = .ok (.invokevirtual 174, 3) := dk_182 0 174 (dk_at dksX6_readIf_0 9 rfl rfl)
theorem dX6_readIf_12 : decode cX6_readIf 12 = .ok (.ifCond .eq 63, 3) := dk_153 0 63 (dk_at dksX6_readIf_0 12 rfl rfl)
theorem dX6_readIf_15 : decode cX6_readIf 15 = .ok (.aload_n 0, 1) := dk_42 (dk_at dksX6_readIf_0 15 rfl rfl)
theorem dX6_readIf_16 : decode cX6_readIf 16 = .ok (.iload_n 1, 1) := dk_27 (dk_at dksX6_readIf_0 16 rfl rfl)
theorem dX6_readIf_17 : decode cX6_readIf 17 = .ok (.bipush 8, 2) := dk_16 8 (dk_at dksX6_readIf_0 17 rfl rfl)
theorem dX6_readIf_19 : decode cX6_readIf 19 = .ok (.iadd, 1) := dk_96 (dk_at dksX6_readIf_0 19 rfl rfl)
theorem dX6_readIf_20 : decode cX6_readIf 20 = .ok (.aload_n 0, 1) := dk_42 (dk_at dksX6_readIf_0 20 rfl rfl)
theorem dX6_readIf_21 : decode cX6_readIf 21 = .ok (.iconst 1, 1) := dk_4 (dk_at dksX6_readIf_0 21 rfl rfl)
theorem dX6_readIf_22 : decode cX6_readIf 22 = .ok (.invokevirtual 177, 3) := dk_182 0 177 (dk_at dksX6_readIf_1 0 rfl rfl)
theorem dX6_readIf_25 : decode cX6_readIf 25 = .ok (.invokevirtual 174, 3) := dk_182 0 174 (dk_at dksX6_readIf_1 3 rfl rfl)
theorem dX6_readIf_28 : decode cX6_readIf 28 = .ok (.ifCond .eq 47, 3) := dk_153 0 47 (dk_at dksX6_readIf_1 6 rfl rfl)
theorem dX6_readIf_31 : decode cX6_readIf 31 = .ok (.aload_n 0, 1) := dk_42 (dk_at dksX6_readIf_1 9 rfl rfl)
theorem dX6_readIf_32 : decode cX6_readIf 32 = .ok (.iload_n 1, 1) := dk_27 (dk_at dksX6_readIf_1 10 rfl rfl)
theorem dX6_readIf_33 : decode cX6_readIf 33 = .ok (.bipush 7, 2) := dk_16 7 (dk_at dksX6_readIf_1 11 rfl rfl)
theorem dX6_readIf_35 : decode cX6_readIf 35 = .ok (.iadd, 1) := dk_96 (dk_at dksX6_readIf_1 13 rfl rfl)
theorem dX6_readIf_36 : decode cX6_readIf 36 = .ok (.aload_n 0, 1) := dk_42 (dk_at dksX6_readIf_1 14 rfl rfl)
theorem dX6_readIf_37 : decode cX6_readIf 37 = .ok (.invokevirtual 171, 3) := dk_182 0 171 (dk_at dksX6_readIf_1 15 rfl rfl)
theorem dX6_readIf_40 : decode cX6_readIf 40 = .ok (.invokevirtual 174, 3) := dk_182 0 174 (dk_at dksX6_readIf_1 18 rfl rfl)
theorem dX6_readIf_43 : decode cX6_readIf 43 = .ok (.ifCond .eq 32, 3) := dk_153 0 32 (dk_at dksX6_readIf_1 21 rfl rfl)
theorem dX6_readIf_46 : decode cX6_readIf 46 = .ok (.aload_n 0, 1) := dk_42 (dk_at dksX6_readIf_2 0 rfl rfl)
theorem dX6_readIf_47 : decode cX6_readIf 47 = .ok (.ldc 181, 2) := dk_18 181 (dk_at dksX6_readIf_2 1 rfl rfl)
theorem dX6_readIf_49 : decode cX6_readIf 49 = .ok (.invokevirtual 161, 3) := dk_182 0 161 (dk_at dksX6_readIf_2 3 rfl rfl)
theorem dX6_readIf_52 : decode cX6_readIf 52 = .ok (.ifCond .eq 23, 3) := dk_153 0 23 (dk_at dksX6_readIf_2 6 rfl rfl)
theorem dX6_readIf_55 : decode cX6_readIf 55 = .ok (.aload_n 0, 1) := dk_42 (dk_at dksX6_readIf_2 9 rfl rfl)
theorem dX6_readIf_56 : decode cX6_readIf 56 = .ok (.iload_n 1, 1) := dk_27 (dk_at dksX6_readIf_2 10 rfl rfl)
theorem dX6_readIf_57 : decode cX6_readIf 57 = .ok (.iconst 4, 1) := dk_7 (dk_at dksX6_readIf_2 11 rfl rfl)
theorem dX6_readIf_58 : decode cX6_readIf 58 = .ok (.iadd, 1) := dk_96 (dk_at dksX6_readIf_2 12 rfl rfl)
theorem dX6_readIf_59 : decode cX6_readIf 59 = .ok (.aload_n 0, 1) := dk_42 (dk_at dksX6_readIf_2 13 rfl rfl)
theorem dX6_readIf_60 : decode cX6_readIf 60 = .ok (.bipush 39, 2) := dk_16 39 (dk_at dksX6_readIf_2 14 rfl rfl)
theorem dX6_readIf_62 : decode cX6_readIf 62 = .ok (.invokevirtual 164, 3) := dk_182 0 164 (dk_at dksX6_readIf_2 16 rfl rfl)
theorem dX6_readIf_65 : decode cX6_readIf 65 = .ok (.invokevirtual 174, 3) := dk_182 0 174 (dk_at dksX6_readIf_2 19 rfl rfl)
theorem dX6_readIf_68 : decode cX6_readIf 68 = .ok (.ifCond .eq 7, 3) := dk_153 0 7 (dk_at dksX6_readIf_3 0 rfl rfl)
theorem dX6_readIf_71 : decode cX6_readIf 71 = .ok (.iconst 1, 1) := dk_4 (dk_at dksX6_readIf_3 3 rfl rfl)
theorem dX6_readIf_72 : decode cX6_readIf 72 = .ok (.goto 4, 3) := dk_167 0 4 (dk_at dksX6_readIf_3 4 rfl rfl)
theorem dX6_readIf_75 : decode cX6_readIf 75 = .ok (.iconst 0, 1) := dk_3 (dk_at dksX6_readIf_3 7 rfl rfl)
theorem dX6_readIf_76 : decode cX6_readIf 76 = .ok (.ireturn, 1) := dk_172 (dk_at dksX6_readIf_3 8 rfl rfl)
def dkwX6_readSign_3 : List UInt8 := [16, 45, 167, 0, 18, 42, 16, 42, 182, 0, 167, 153, 0, 8, 16, 42, 167, 0, 4, 3, 172]
abbrev dktX6_readSign_3 : List UInt8 := dkwX6_readSign_3 ++ []
def dkwX6_readSign_2 : List UInt8 := [42, 16, 43, 182, 0, 167, 153, 0, 8, 16, 43, 167, 0, 32, 42, 16, 45, 182, 0, 167, 153, 0, 8]
abbrev dktX6_readSign_2 : List UInt8 := dkwX6_readSign_2 ++ dktX6_readSign_3
def dkwX6_readSign_1 : List UInt8 := [153, 0, 8, 16, 62, 167, 0, 18, 42, 16, 61, 182, 0, 167, 153, 0, 8, 16, 61, 167, 0, 4, 2, 172]
abbrev dktX6_readSign_1 : List UInt8 := dkwX6_readSign_1 ++ dktX6_readSign_2
def dkwX6_readSign_0 : List UInt8 := [27, 153, 0, 47, 42, 16, 60, 182, 0, 167, 153, 0, 8, 16, 60, 167, 0, 32, 42, 16, 62, 182, 0, 167]
abbrev dktX6_readSign_0 : List UInt8 := dkwX6_readSign_0 ++ dktX6_readSign_1
theorem dksX6_readSign_0 : cX6_readSign.data.toList.drop 0 = dktX6_readSign_0 := by decide +kernel
theorem dksX6_readSign_1 : cX6_readSign.data.toList.drop 24 = dktX6_readSign_1 := dk_seg dksX6_readSign_0 24 rfl rfl
theorem dksX6_readSign_2 : cX6_readSign.data.toList.drop 48 = dktX6_readSign_2 := dk_seg dksX6_readSign_1 24 rfl rfl
theorem dksX6_readSign_3 : cX6_readSign.data.toList.drop 71 = dktX6_readSign_3 := dk_seg dksX6_readSign_2 23 rfl rfl
theorem dX6_readSign_0 : decode cX6_readSign 0 = .ok (.iload_n 1, 1) := dk_27 (dk_at dksX6_readSign_0 0 rfl rfl)
theorem dX6_readSign_1 : decode cX6_readSign 1 = .ok (.ifCond .eq 47, 3) := dk_153 0 47 (dk_at dksX6_readSign_0 1 rfl rfl)
theorem dX6_readSign_4 : decode cX6_readSign 4 = .ok (.aload_n 0, 1) := dk_42 (dk_at dksX6_readSign_0 4 rfl rfl)
theorem dX6_readSign_5 : decode cX6_readSign 5 = .ok (.bipush 60, 2) := dk_16 60 (dk_at dksX6_readSign_0 5 rfl rfl)
theorem dX6_readSign_7 : decode cX6_readSign 7 = .ok (.invokevirtual 167, 3) := dk_182 0 167 (dk_at dksX6_readSign_0 7 rfl rfl)
theorem dX6_readSign_10 : decode cX6_readSign 10 = .ok (.ifCond .eq 8, 3) := dk_153 0 8 (dk_at dksX6_readSign_0 10 rfl rfl)
theorem dX6_readSign_13 : decode cX6_readSign 13 = .ok (.bipush 60, 2) := dk_16 60 (dk_at dksX6_readSign_0 13 rfl rfl)
theorem dX6_readSign_15 : decode cX6_readSign 15 = .ok (.goto 32, 3) := dk_167 0 32 (dk_at dksX6_readSign_0 15 rfl rfl)
theorem dX6_readSign_18 : decode cX6_readSign 18 = .ok (.aload_n 0, 1) := dk_42 (dk_at dksX6_readSign_0 18 rfl rfl)
theorem dX6_readSign_19 : decode cX6_readSign 19 = .ok (.bipush 62, 2) := dk_16 62 (dk_at dksX6_readSign_0 19 rfl rfl)
theorem dX6_readSign_21 : decode cX6_readSign 21 = .ok (.invokevirtual 167, 3) := dk_182 0 167 (dk_at dksX6_readSign_0 21 rfl rfl)
theorem dX6_readSign_24 : decode cX6_readSign 24 = .ok (.ifCond .eq 8, 3) := dk_153 0 8 (dk_at dksX6_readSign_1 0 rfl rfl)
theorem dX6_readSign_27 : decode cX6_readSign 27 = .ok (.bipush 62, 2) := dk_16 62 (dk_at dksX6_readSign_1 3 rfl rfl)
theorem dX6_readSign_29 : decode cX6_readSign 29 = .ok (.goto 18, 3) := dk_167 0 18 (dk_at dksX6_readSign_1 5 rfl rfl)
theorem dX6_readSign_32 : decode cX6_readSign 32 = .ok (.aload_n 0, 1) := dk_42 (dk_at dksX6_readSign_1 8 rfl rfl)
theorem dX6_readSign_33 : decode cX6_readSign 33 = .ok (.bipush 61, 2) := dk_16 61 (dk_at dksX6_readSign_1 9 rfl rfl)
theorem dX6_readSign_35 : decode cX6_readSign 35 = .ok (.invokevirtual 167, 3) := dk_182 0 167 (dk_at dksX6_readSign_1 11 rfl rfl)
theorem dX6_readSign_38 : decode cX6_readSign 38 = .ok (.ifCond .eq 8, 3) := dk_153 0 8 (dk_at dksX6_readSign_1 14 rfl rfl)
theorem dX6_readSign_41 : decode cX6_readSign 41 = .ok (.bipush 61, 2) := dk_16 61 (dk_at dksX6_readSign_1 17 rfl rfl)
theorem dX6_readSign_43 : decode cX6_readSign 43 = .ok (.goto 4, 3) := dk_167 0 4 (dk_at dksX6_readSign_1 19 rfl rfl)
theorem dX6_readSign_46 : decode cX6_readSign 46 = .ok (.iconst (-1), 1) := dk_2 (dk_at dksX6_readSign_1 22 rfl rfl)
theorem dX6_readSign_47 : decode cX6_readSign 47 = .ok (.ireturn, 1) := dk_172 (dk_at dksX6_readSign_1 23 rfl rfl)
theorem dX6_readSign_48 : decode cX6_readSign 48 = .ok (.aload_n 0, 1) := dk_42 (dk_at dksX6_readSign_2 0 rfl rfl)
theorem dX6_readSign_49 : decode cX6_readSign 49 = .ok (.bipush 43, 2) := dk_16 43 (dk_at dksX6_readSign_2 1 rfl rfl)
theorem dX6_readSign_51 : decode cX6_readSign 51 = .ok (.invokevirtual 167, 3) := dk_182 0 167 (dk_at dksX6_readSign_2 3 rfl rfl)
theorem dX6_readSign_54 : decode cX6_readSign 54 = .ok (.ifCond .eq 8, 3) := dk_153 0 8 (dk_at dksX6_readSign_2 6 rfl rfl)
theorem dX6_readSign_57 : decode cX6_readSign 57 = .ok (.bipush 43, 2) := dk_16 43 (dk_at dksX6_readSign_2 9 rfl rfl)
theorem dX6_readSign_59 : decode cX6_readSign 59 = .ok (.goto 32, 3) := dk_167 0 32 (dk_at dksX6_readSign_2 11 rfl rfl)
theorem dX6_readSign_62 : decode cX6_readSign 62 = .ok (.aload_n 0, 1) := dk_42 (dk_at dksX6_readSign_2 14 rfl rfl)
theorem dX6_readSign_63 : decode cX6_readSign 63 = .ok (.bipush 45, 2) := dk_16 45 (dk_at dksX6_readSign_2 15 rfl rfl)
theorem dX6_readSign_65 : decode cX6_readSign 65 = .ok (.invokevirtual 167, 3) := dk_182 0 167 (dk_at dksX6_readSign_2 17 rfl rfl)
theorem dX6_readSign_68 : decode cX6_readSign 68 = .ok (.ifCond .eq 8, 3) := dk_153 0 8 (dk_at dksX6_readSign_2 20 rfl rfl)
theorem dX6_readSign_71 : decode cX6_readSign 71 = .ok (.bipush 45, 2) := dk_16 45 (dk_at dksX6_readSign_3 0 rfl rfl)
theorem dX6_readSign_73 : decode cX6_readSign 73 = .ok (.goto 18, 3) := dk_167 0 18 (dk_at dksX6_readSign_3 2 rfl rfl)
theorem dX6_readSign_76 : decode cX6_readSign 76 = .ok (.aload_n 0, 1) := dk_42 (dk_at dksX6_readSign_3 5 rfl rfl)
theorem dX6_readSign_77 : decode cX6_readSign 77 = .ok (.bipush 42, 2) := dk_16 42 (dk_at dksX6_readSign_3 6 rfl rfl)
theorem dX6_readSign_79 : decode cX6_readSign 79 = .ok (.invokevirtual 167, 3) := dk_182 0 167 (dk_at dksX6_readSign_3 8 rfl rfl)
theorem dX6_readSign_82 : decode cX6_readSign 82 = .ok (.ifCond .eq 8, 3) := dk_153 0 8 (dk_at dksX6_readSign_3 11 rfl rfl)
theorem dX6_readSign_85 : decode cX6_readSign 85 = .ok (.bipush 42, 2) := dk_16 42 (dk_at dksX6_readSign_3 14 rfl rfl)
theorem dX6_readSign_87 : decode cX6_readSign 87 = .ok (.goto 4, 3) := dk_167 0 4 (dk_at dksX6_readSign_3 16 rfl rfl)
theorem dX6_readSign_90 : decode cX6_readSign 90 = .ok (.iconst 0, 1) := dk_3 (dk_at dksX6_readSign_3 19 rfl rfl)
theorem dX6_readSign_91 : decode cX6_readSign 91 = .ok (.ireturn, 1) := dk_172 (dk_at dksX6_readSign_3 20 rfl rfl)
def dkwX6_sign_1 : List UInt8 := [181, 0, 130, 4, 172]
abbrev dktX6_sign_1 : List UInt8 := dkwX6_sign_1 ++ []
def dkwX6_sign_0 : List UInt8 := [42, 182, 0, 140, 42, 27, 27, 182, 0, 133, 154, 0, 5, 3, 172, 42, 89, 180, 0, 130, 4, 96]
abbrev dktX6_sign_0 : List UInt8 := dkwX6_sign_0 ++ dktX6_sign_1
theorem dksX6_sign_0 : cX6_sign.data.toList.drop 0 = dktX6_sign_0 := by decide +kernel
theorem dksX6_sign_1 : cX6_sign.data.toList.drop 22 = dktX6_sign_1 := dk_seg dksX6_sign_0 22 rfl rfl
theorem dX6_sign_0 : decode cX6_sign 0 = .ok (.aload_n 0, 1) := dk_42 (dk_at dksX6_sign_0 0 rfl rfl)
theorem dX6_sign_1 : decode cX6_sign 1 = .ok (.invokevirtual 140, 3) := dk_182 0 140 (dk_at dksX6_sign_0 1 rfl rfl)
theorem dX6_sign_4 : decode cX6_sign 4 = .ok (.aload_n 0, 1) := dk_42 (dk_at dksX6_sign_0 4 rfl rfl)
theorem dX6_sign_5 : decode cX6_sign 5 = .ok (.iload_n 1, 1) := dk_27 (dk_at dksX6_sign_0 5 rfl rfl)
theorem dX6_sign_6 : decode cX6_sign 6 = .ok (.iload_n 1, 1) := dk_27 (dk_at dksX6_sign_0 6 rfl rfl)
theorem dX6_sign_7 : decode cX6_sign 7 = .ok (.invokevirtual 133, 3) := dk_182 0 133 (dk_at dksX6_sign_0 7 rfl rfl)
theorem dX6_sign_10 : decode cX6_sign 10 = .ok (.ifCond .ne 5, 3) := dk_154 0 5 (dk_at dksX6_sign_0 10 rfl rfl)
theorem dX6_sign_13 : decode cX6_sign 13 = .ok (.iconst 0, 1) := dk_3 (dk_at dksX6_sign_0 13 rfl rfl)
theorem dX6_sign_14 : decode cX6_sign 14 = .ok (.ireturn, 1) := dk_172 (dk_at dksX6_sign_0 14 rfl rfl)
theorem dX6_sign_15 : decode cX6_sign 15 = .ok (.aload_n 0, 1) := dk_42 (dk_at dksX6_sign_0 15 rfl rfl)
theorem dX6_sign_16 : decode cX6_sign 16 = .ok (.dup, 1) := dk_89 (dk_at dksX6_sign_0 16 rfl rfl)
theorem dX6_sign_17 : decode cX6_sign 17 = .ok (.getfield 130, 3) := dk_180 0 130 (dk_at dksX6_sign_0 17 rfl rfl)
theorem dX6_sign_20 : decode cX6_sign 20 = .ok (.iconst 1, 1) := dk_4 (dk_at dksX6_sign_0 20 rfl rfl)
theorem dX6_sign_21 : decode cX6_sign 21 = .ok (.iadd, 1) := dk_96 (dk_at dksX6_sign_0 21 rfl rfl)
theorem dX6_sign_22 : decode cX6_sign 22 = .ok (.putfield 130, 3) := dk_181 0 130 (dk_at dksX6_sign_1 0 rfl rfl)
theorem dX6_sign_25 : decode cX6_sign 25 = .ok (.iconst 1, 1) := dk_4 (dk_at dksX6_sign_1 3 rfl rfl)
theorem dX6_sign_26 : decode cX6_sign 26 = .ok (.ireturn, 1) := dk_172 (dk_at dksX6_sign_1 4 rfl rfl)
def dkwX6_needs_0 : List UInt8 := [42, 182, 0, 152, 42, 43, 182, 0, 155, 172]
abbrev dktX6_needs_0 : List UInt8 := dkwX6_needs_0 ++ []
theorem dksX6_needs_0 : cX6_needs.data.toList.drop 0 = dktX6_needs_0 := by decide +kernel
theorem dX6_needs_0 : decode cX6_needs 0 = .ok (.aload_n 0, 1) := dk_42 (dk_at dksX6_needs_0 0 rfl rfl)
theorem dX6_needs_1 : decode cX6_needs 1 = .ok (.invokevirtual 152, 3) := dk_182 0 152 (dk_at dksX6_needs_0 1 rfl rfl)
theorem dX6_needs_4 : decode cX6_needs 4 = .ok (.aload_n 0, 1) := dk_42 (dk_at dksX6_needs_0 4 rfl rfl)
theorem dX6_needs_5 : decode cX6_needs 5 = .ok (.aload_n 1, 1) := dk_43 (dk_at dksX6_needs_0 5 rfl rfl)
theorem dX6_needs_6 : decode cX6_needs 6 = .ok (.invokevirtual 155, 3) := dk_182 0 155 (dk_at dksX6_needs_0 6 rfl rfl)
theorem dX6_needs_9 : decode cX6_needs 9 = .ok (.ireturn, 1) := dk_172 (dk_at dksX6_needs_0 9 rfl rfl)
def dkwX6_readCell_0 : List UInt8 := [42, 18, 159, 182, 0, 161, 153, 0, 12, 42, 16, 15, 182, 0, 164, 167, 0, 4, 2, 172]
abbrev dktX6_readCell_0 : List UInt8 := dkwX6_readCell_0 ++ []
theorem dksX6_readCell_0 : cX6_readCell.data.toList.drop 0 = dktX6_readCell_0 := by decide +kernel
theorem dX6_readCell_0 : decode cX6_readCell 0 = .ok (.aload_n 0, 1) := dk_42 (dk_at dksX6_readCell_0 0 rfl rfl)
theorem dX6_readCell_1 : decode cX6_readCell 1 = .ok (.ldc 159, 2) := dk_18 159 (dk_at dksX6_readCell_0 1 rfl rfl)
theorem dX6_readCell_3 : decode cX6_readCell 3 = .ok (.invokevirtual 161, 3) := dk_182 0 161 (dk_at dksX6_readCell_0 3 rfl rfl)
theorem dX6_readCell_6 : decode cX6_readCell 6 = .ok (.ifCond .eq 12, 3) := dk_153 0 12 (dk_at dksX6_readCell_0 6 rfl rfl)
theorem dX6_readCell_9 : decode cX6_readCell 9 = .ok (.aload_n 0, 1) := dk_42 (dk_at dksX6_readCell_0 9 rfl rfl)
theorem dX6_readCell_10 : decode cX6_readCell 10 = .ok (.bipush 15, 2) := dk_16 15 (dk_at dksX6_readCell_0 10 rfl rfl)
theorem dX6_readCell_12 : decode cX6_readCell 12 = .ok (.invokevirtual 164, 3) := dk_182 0 164 (dk_at dksX6_readCell_0 12 rfl rfl)
theorem dX6_readCell_15 : decode cX6_readCell 15 = .ok (.goto 4, 3) := dk_167 0 4 (dk_at dksX6_readCell_0 15 rfl rfl)
theorem dX6_readCell_18 : decode cX6_readCell 18 = .ok (.iconst (-1), 1) := dk_2 (dk_at dksX6_readCell_0 18 rfl rfl)
theorem dX6_readCell_19 : decode cX6_readCell 19 = .ok (.ireturn, 1) := dk_172 (dk_at dksX6_readCell_0 19 rfl rfl)
def dkwX6_readSum_3 : List UInt8 := [172]
abbrev dktX6_readSum_3 : List UInt8 := dkwX6_readSum_3 ++ []
def dkwX6_readSum_2 : List UInt8 := [46, 153, 0, 18, 42, 27, 16, 7, 96, 42, 182, 0, 171, 182, 0, 174, 153, 0, 7, 4, 167, 0, 4, 3]
abbrev dktX6_readSum_2 : List UInt8 := dkwX6_readSum_2 ++ dktX6_readSum_3
def dkwX6_readSum_1 : List UInt8 := [3, 172, 42, 180, 0, 30, 27, 16, 8, 96, 42, 3, 182, 0, 177, 79, 42, 180, 0, 30, 27, 16, 8, 96]
abbrev dktX6_readSum_1 : List UInt8 := dkwX6_readSum_1 ++ dktX6_readSum_2
def dkwX6_readSum_0 : List UInt8 := [42, 16, 61, 182, 0, 167, 153, 0, 18, 42, 27, 16, 6, 96, 42, 182, 0, 171, 182, 0, 174, 154, 0, 5]
abbrev dktX6_readSum_0 : List UInt8 := dkwX6_readSum_0 ++ dktX6_readSum_1
theorem dksX6_readSum_0 : cX6_readSum.data.toList.drop 0 = dktX6_readSum_0 := by decide +kernel
theorem dksX6_readSum_1 : cX6_readSum.data.toList.drop 24 = dktX6_readSum_1 := dk_seg dksX6_readSum_0 24 rfl rfl
theorem dksX6_readSum_2 : cX6_readSum.data.toList.drop 48 = dktX6_readSum_2 := dk_seg dksX6_readSum_1 24 rfl rfl
theorem dksX6_readSum_3 : cX6_readSum.data.toList.drop 72 = dktX6_readSum_3 := dk_seg dksX6_readSum_2 24 rfl rfl
theorem dX6_readSum_0 : decode cX6_readSum 0 = .ok (.aload_n 0, 1) := dk_42 (dk_at dksX6_readSum_0 0 rfl rfl)
theorem dX6_readSum_1 : decode cX6_readSum 1 = .ok (.bipush 61, 2) := dk_16 61 (dk_at dksX6_readSum_0 1 rfl rfl)
theorem dX6_readSum_3 : decode cX6_readSum 3 = .ok (.invokevirtual 167, 3) := dk_182 0 167 (dk_at dksX6_readSum_0 3 rfl rfl)
theorem dX6_readSum_6 : decode cX6_readSum 6 = .ok (.ifCond .eq 18, 3) := dk_153 0 18 (dk_at dksX6_readSum_0 6 rfl rfl)
theorem dX6_readSum_9 : decode cX6_readSum 9 = .ok (.aload_n 0, 1) := dk_42 (dk_at dksX6_readSum_0 9 rfl rfl)
theorem dX6_readSum_10 : decode cX6_readSum 10 = .ok (.iload_n 1, 1) := dk_27 (dk_at dksX6_readSum_0 10 rfl rfl)
theorem dX6_readSum_11 : decode cX6_readSum 11 = .ok (.bipush 6, 2) := dk_16 6 (dk_at dksX6_readSum_0 11 rfl rfl)
theorem dX6_readSum_13 : decode cX6_readSum 13 = .ok (.iadd, 1) := dk_96 (dk_at dksX6_readSum_0 13 rfl rfl)
theorem dX6_readSum_14 : decode cX6_readSum 14 = .ok (.aload_n 0, 1) := dk_42 (dk_at dksX6_readSum_0 14 rfl rfl)
theorem dX6_readSum_15 : decode cX6_readSum 15 = .ok (.invokevirtual 171, 3) := dk_182 0 171 (dk_at dksX6_readSum_0 15 rfl rfl)
theorem dX6_readSum_18 : decode cX6_readSum 18 = .ok (.invokevirtual 174, 3) := dk_182 0 174 (dk_at dksX6_readSum_0 18 rfl rfl)
theorem dX6_readSum_21 : decode cX6_readSum 21 = .ok (.ifCond .ne 5, 3) := dk_154 0 5 (dk_at dksX6_readSum_0 21 rfl rfl)
theorem dX6_readSum_24 : decode cX6_readSum 24 = .ok (.iconst 0, 1) := dk_3 (dk_at dksX6_readSum_1 0 rfl rfl)
theorem dX6_readSum_25 : decode cX6_readSum 25 = .ok (.ireturn, 1) := dk_172 (dk_at dksX6_readSum_1 1 rfl rfl)
theorem dX6_readSum_26 : decode cX6_readSum 26 = .ok (.aload_n 0, 1) := dk_42 (dk_at dksX6_readSum_1 2 rfl rfl)
theorem dX6_readSum_27 : decode cX6_readSum 27 = .ok (.getfield 30, 3) := dk_180 0 30 (dk_at dksX6_readSum_1 3 rfl rfl)
theorem dX6_readSum_30 : decode cX6_readSum 30 = .ok (.iload_n 1, 1) := dk_27 (dk_at dksX6_readSum_1 6 rfl rfl)
theorem dX6_readSum_31 : decode cX6_readSum 31 = .ok (.bipush 8, 2) := dk_16 8 (dk_at dksX6_readSum_1 7 rfl rfl)
theorem dX6_readSum_33 : decode cX6_readSum 33 = .ok (.iadd, 1) := dk_96 (dk_at dksX6_readSum_1 9 rfl rfl)
theorem dX6_readSum_34 : decode cX6_readSum 34 = .ok (.aload_n 0, 1) := dk_42 (dk_at dksX6_readSum_1 10 rfl rfl)
theorem dX6_readSum_35 : decode cX6_readSum 35 = .ok (.iconst 0, 1) := dk_3 (dk_at dksX6_readSum_1 11 rfl rfl)
theorem dX6_readSum_36 : decode cX6_readSum 36 = .ok (.invokevirtual 177, 3) := dk_182 0 177 (dk_at dksX6_readSum_1 12 rfl rfl)
theorem dX6_readSum_39 : decode cX6_readSum 39 = .ok (.iastore, 1) := dk_79 (dk_at dksX6_readSum_1 15 rfl rfl)
theorem dX6_readSum_40 : decode cX6_readSum 40 = .ok (.aload_n 0, 1) := dk_42 (dk_at dksX6_readSum_1 16 rfl rfl)
theorem dX6_readSum_41 : decode cX6_readSum 41 = .ok (.getfield 30, 3) := dk_180 0 30 (dk_at dksX6_readSum_1 17 rfl rfl)
theorem dX6_readSum_44 : decode cX6_readSum 44 = .ok (.iload_n 1, 1) := dk_27 (dk_at dksX6_readSum_1 20 rfl rfl)
theorem dX6_readSum_45 : decode cX6_readSum 45 = .ok (.bipush 8, 2) := dk_16 8 (dk_at dksX6_readSum_1 21 rfl rfl)
theorem dX6_readSum_47 : decode cX6_readSum 47 = .ok (.iadd, 1) := dk_96 (dk_at dksX6_readSum_1 23 rfl rfl)
theorem dX6_readSum_48 : decode cX6_readSum 48 = .ok (.iaload, 1) := dk_46 (dk_at dksX6_readSum_2 0 rfl rfl)
theorem dX6_readSum_49 : decode cX6_readSum 49 = .ok (.ifCond .eq 18, 3) := dk_153 0 18 (dk_at dksX6_readSum_2 1 rfl rfl)
theorem dX6_readSum_52 : decode cX6_readSum 52 = .ok (.aload_n 0, 1) := dk_42 (dk_at dksX6_readSum_2 4 rfl rfl)
theorem dX6_readSum_53 : decode cX6_readSum 53 = .ok (.iload_n 1, 1) := dk_27 (dk_at dksX6_readSum_2 5 rfl rfl)
theorem dX6_readSum_54 : decode cX6_readSum 54 = .ok (.bipush 7, 2) := dk_16 7 (dk_at dksX6_readSum_2 6 rfl rfl)
theorem dX6_readSum_56 : decode cX6_readSum 56 = .ok (.iadd, 1) := dk_96 (dk_at dksX6_readSum_2 8 rfl rfl)
theorem dX6_readSum_57 : decode cX6_readSum 57 = .ok (.aload_n 0, 1) := dk_42 (dk_at dksX6_readSum_2 9 rfl rfl)
theorem dX6_readSum_58 : decode cX6_readSum 58 = .ok (.invokevirtual 171, 3) := dk_182 0 171 (dk_at dksX6_readSum_2 10 rfl rfl)
theorem dX6_readSum_61 : decode cX6_readSum 61 = .ok (.invokevirtual 174, 3) := dk_182 0 174 (dk_at dksX6_readSum_2 13 rfl rfl)
theorem dX6_readSum_64 : decode cX6_readSum 64 = .ok (.ifCond .eq 7, 3) := dk_153 0 7 (dk_at dksX6_readSum_2 16 rfl rfl)
theorem dX6_readSum_67 : decode cX6_readSum 67 = .ok (.iconst 1, 1) := dk_4 (dk_at dksX6_readSum_2 19 rfl rfl)
theorem dX6_readSum_68 : decode cX6_readSum 68 = .ok (.goto 4, 3) := dk_167 0 4 (dk_at dksX6_readSum_2 20 rfl rfl)
theorem dX6_readSum_71 : decode cX6_readSum 71 = .ok (.iconst 0, 1) := dk_3 (dk_at dksX6_readSum_2 23 rfl rfl)
theorem dX6_readSum_72 : decode cX6_readSum 72 = .ok (.ireturn, 1) := dk_172 (dk_at dksX6_readSum_3 0 rfl rfl)
def dkwX6_passes_0 : List UInt8 := [42, 182, 0, 152, 42, 43, 182, 0, 155, 153, 0, 5, 4, 172, 42, 42, 180, 0, 137, 181, 0, 130, 3, 172]
abbrev dktX6_passes_0 : List UInt8 := dkwX6_passes_0 ++ []
theorem dksX6_passes_0 : cX6_passes.data.toList.drop 0 = dktX6_passes_0 := by decide +kernel
theorem dX6_passes_0 : decode cX6_passes 0 = .ok (.aload_n 0, 1) := dk_42 (dk_at dksX6_passes_0 0 rfl rfl)
theorem dX6_passes_1 : decode cX6_passes 1 = .ok (.invokevirtual 152, 3) := dk_182 0 152 (dk_at dksX6_passes_0 1 rfl rfl)
theorem dX6_passes_4 : decode cX6_passes 4 = .ok (.aload_n 0, 1) := dk_42 (dk_at dksX6_passes_0 4 rfl rfl)
theorem dX6_passes_5 : decode cX6_passes 5 = .ok (.aload_n 1, 1) := dk_43 (dk_at dksX6_passes_0 5 rfl rfl)
theorem dX6_passes_6 : decode cX6_passes 6 = .ok (.invokevirtual 155, 3) := dk_182 0 155 (dk_at dksX6_passes_0 6 rfl rfl)
theorem dX6_passes_9 : decode cX6_passes 9 = .ok (.ifCond .eq 5, 3) := dk_153 0 5 (dk_at dksX6_passes_0 9 rfl rfl)
theorem dX6_passes_12 : decode cX6_passes 12 = .ok (.iconst 1, 1) := dk_4 (dk_at dksX6_passes_0 12 rfl rfl)
theorem dX6_passes_13 : decode cX6_passes 13 = .ok (.ireturn, 1) := dk_172 (dk_at dksX6_passes_0 13 rfl rfl)
theorem dX6_passes_14 : decode cX6_passes 14 = .ok (.aload_n 0, 1) := dk_42 (dk_at dksX6_passes_0 14 rfl rfl)
theorem dX6_passes_15 : decode cX6_passes 15 = .ok (.aload_n 0, 1) := dk_42 (dk_at dksX6_passes_0 15 rfl rfl)
theorem dX6_passes_16 : decode cX6_passes 16 = .ok (.getfield 137, 3) := dk_180 0 137 (dk_at dksX6_passes_0 16 rfl rfl)
theorem dX6_passes_19 : decode cX6_passes 19 = .ok (.putfield 130, 3) := dk_181 0 130 (dk_at dksX6_passes_0 19 rfl rfl)
theorem dX6_passes_22 : decode cX6_passes 22 = .ok (.iconst 0, 1) := dk_3 (dk_at dksX6_passes_0 22 rfl rfl)
theorem dX6_passes_23 : decode cX6_passes 23 = .ok (.ireturn, 1) := dk_172 (dk_at dksX6_passes_0 23 rfl rfl)
def dkwX6_throwsIf_0 : List UInt8 := [27, 153, 0, 8, 42, 28, 181, 0, 3, 27, 172]
abbrev dktX6_throwsIf_0 : List UInt8 := dkwX6_throwsIf_0 ++ []
theorem dksX6_throwsIf_0 : cX6_throwsIf.data.toList.drop 0 = dktX6_throwsIf_0 := by decide +kernel
theorem dX6_throwsIf_0 : decode cX6_throwsIf 0 = .ok (.iload_n 1, 1) := dk_27 (dk_at dksX6_throwsIf_0 0 rfl rfl)
theorem dX6_throwsIf_1 : decode cX6_throwsIf 1 = .ok (.ifCond .eq 8, 3) := dk_153 0 8 (dk_at dksX6_throwsIf_0 1 rfl rfl)
theorem dX6_throwsIf_4 : decode cX6_throwsIf 4 = .ok (.aload_n 0, 1) := dk_42 (dk_at dksX6_throwsIf_0 4 rfl rfl)
theorem dX6_throwsIf_5 : decode cX6_throwsIf 5 = .ok (.iload_n 2, 1) := dk_28 (dk_at dksX6_throwsIf_0 5 rfl rfl)
theorem dX6_throwsIf_6 : decode cX6_throwsIf 6 = .ok (.putfield 3, 3) := dk_181 0 3 (dk_at dksX6_throwsIf_0 6 rfl rfl)
theorem dX6_throwsIf_9 : decode cX6_throwsIf 9 = .ok (.iload_n 1, 1) := dk_27 (dk_at dksX6_throwsIf_0 9 rfl rfl)
theorem dX6_throwsIf_10 : decode cX6_throwsIf 10 = .ok (.ireturn, 1) := dk_172 (dk_at dksX6_throwsIf_0 10 rfl rfl)
def dkwX6_order_2 : List UInt8 := [182, 0, 108, 172]
abbrev dktX6_order_2 : List UInt8 := dkwX6_order_2 ++ []
def dkwX6_order_1 : List UInt8 := [184, 0, 116, 154, 0, 7, 4, 167, 0, 4, 3, 5, 182, 0, 230, 153, 0, 5, 3, 172, 42, 27, 28]
abbrev dktX6_order_1 : List UInt8 := dkwX6_order_1 ++ dktX6_order_2
def dkwX6_order_0 : List UInt8 := [42, 3, 181, 0, 3, 42, 42, 27, 182, 0, 234, 4, 182, 0, 230, 154, 0, 25, 42, 28, 3, 7]
abbrev dktX6_order_0 : List UInt8 := dkwX6_order_0 ++ dktX6_order_1
theorem dksX6_order_0 : cX6_order.data.toList.drop 0 = dktX6_order_0 := by decide +kernel
theorem dksX6_order_1 : cX6_order.data.toList.drop 22 = dktX6_order_1 := dk_seg dksX6_order_0 22 rfl rfl
theorem dksX6_order_2 : cX6_order.data.toList.drop 45 = dktX6_order_2 := dk_seg dksX6_order_1 23 rfl rfl
theorem dX6_order_0 : decode cX6_order 0 = .ok (.aload_n 0, 1) := dk_42 (dk_at dksX6_order_0 0 rfl rfl)
theorem dX6_order_1 : decode cX6_order 1 = .ok (.iconst 0, 1) := dk_3 (dk_at dksX6_order_0 1 rfl rfl)
theorem dX6_order_2 : decode cX6_order 2 = .ok (.putfield 3, 3) := dk_181 0 3 (dk_at dksX6_order_0 2 rfl rfl)
theorem dX6_order_5 : decode cX6_order 5 = .ok (.aload_n 0, 1) := dk_42 (dk_at dksX6_order_0 5 rfl rfl)
theorem dX6_order_6 : decode cX6_order 6 = .ok (.aload_n 0, 1) := dk_42 (dk_at dksX6_order_0 6 rfl rfl)
theorem dX6_order_7 : decode cX6_order 7 = .ok (.iload_n 1, 1) := dk_27 (dk_at dksX6_order_0 7 rfl rfl)
theorem dX6_order_8 : decode cX6_order 8 = .ok (.invokevirtual 234, 3) := dk_182 0 234 (dk_at dksX6_order_0 8 rfl rfl)
theorem dX6_order_11 : decode cX6_order 11 = .ok (.iconst 1, 1) := dk_4 (dk_at dksX6_order_0 11 rfl rfl)
theorem dX6_order_12 : decode cX6_order 12 = .ok (.invokevirtual 230, 3) := dk_182 0 230 (dk_at dksX6_order_0 12 rfl rfl)
theorem dX6_order_15 : decode cX6_order 15 = .ok (.ifCond .ne 25, 3) := dk_154 0 25 (dk_at dksX6_order_0 15 rfl rfl)
theorem dX6_order_18 : decode cX6_order 18 = .ok (.aload_n 0, 1) := dk_42 (dk_at dksX6_order_0 18 rfl rfl)
theorem dX6_order_19 : decode cX6_order 19 = .ok (.iload_n 2, 1) := dk_28 (dk_at dksX6_order_0 19 rfl rfl)
theorem dX6_order_20 : decode cX6_order 20 = .ok (.iconst 0, 1) := dk_3 (dk_at dksX6_order_0 20 rfl rfl)
theorem dX6_order_21 : decode cX6_order 21 = .ok (.iconst 4, 1) := dk_7 (dk_at dksX6_order_0 21 rfl rfl)
theorem dX6_order_22 : decode cX6_order 22 = .ok (.invokestatic 116, 3) := dk_184 0 116 (dk_at dksX6_order_1 0 rfl rfl)
theorem dX6_order_25 : decode cX6_order 25 = .ok (.ifCond .ne 7, 3) := dk_154 0 7 (dk_at dksX6_order_1 3 rfl rfl)
theorem dX6_order_28 : decode cX6_order 28 = .ok (.iconst 1, 1) := dk_4 (dk_at dksX6_order_1 6 rfl rfl)
theorem dX6_order_29 : decode cX6_order 29 = .ok (.goto 4, 3) := dk_167 0 4 (dk_at dksX6_order_1 7 rfl rfl)
theorem dX6_order_32 : decode cX6_order 32 = .ok (.iconst 0, 1) := dk_3 (dk_at dksX6_order_1 10 rfl rfl)
theorem dX6_order_33 : decode cX6_order 33 = .ok (.iconst 2, 1) := dk_5 (dk_at dksX6_order_1 11 rfl rfl)
theorem dX6_order_34 : decode cX6_order 34 = .ok (.invokevirtual 230, 3) := dk_182 0 230 (dk_at dksX6_order_1 12 rfl rfl)
theorem dX6_order_37 : decode cX6_order 37 = .ok (.ifCond .eq 5, 3) := dk_153 0 5 (dk_at dksX6_order_1 15 rfl rfl)
theorem dX6_order_40 : decode cX6_order 40 = .ok (.iconst 0, 1) := dk_3 (dk_at dksX6_order_1 18 rfl rfl)
theorem dX6_order_41 : decode cX6_order 41 = .ok (.ireturn, 1) := dk_172 (dk_at dksX6_order_1 19 rfl rfl)
theorem dX6_order_42 : decode cX6_order 42 = .ok (.aload_n 0, 1) := dk_42 (dk_at dksX6_order_1 20 rfl rfl)
theorem dX6_order_43 : decode cX6_order 43 = .ok (.iload_n 1, 1) := dk_27 (dk_at dksX6_order_1 21 rfl rfl)
theorem dX6_order_44 : decode cX6_order 44 = .ok (.iload_n 2, 1) := dk_28 (dk_at dksX6_order_1 22 rfl rfl)
theorem dX6_order_45 : decode cX6_order 45 = .ok (.invokevirtual 108, 3) := dk_182 0 108 (dk_at dksX6_order_2 0 rfl rfl)
theorem dX6_order_48 : decode cX6_order 48 = .ok (.ireturn, 1) := dk_172 (dk_at dksX6_order_2 3 rfl rfl)
def dkwX6_noOrder_0 : List UInt8 := [27, 3, 42, 182, 0, 112, 4, 100, 184, 0, 116, 154, 0, 7, 4, 167, 0, 4, 3, 172]
abbrev dktX6_noOrder_0 : List UInt8 := dkwX6_noOrder_0 ++ []
theorem dksX6_noOrder_0 : cX6_noOrder.data.toList.drop 0 = dktX6_noOrder_0 := by decide +kernel
theorem dX6_noOrder_0 : decode cX6_noOrder 0 = .ok (.iload_n 1, 1) := dk_27 (dk_at dksX6_noOrder_0 0 rfl rfl)
theorem dX6_noOrder_1 : decode cX6_noOrder 1 = .ok (.iconst 0, 1) := dk_3 (dk_at dksX6_noOrder_0 1 rfl rfl)
theorem dX6_noOrder_2 : decode cX6_noOrder 2 = .ok (.aload_n 0, 1) := dk_42 (dk_at dksX6_noOrder_0 2 rfl rfl)
theorem dX6_noOrder_3 : decode cX6_noOrder 3 = .ok (.invokevirtual 112, 3) := dk_182 0 112 (dk_at dksX6_noOrder_0 3 rfl rfl)
theorem dX6_noOrder_6 : decode cX6_noOrder 6 = .ok (.iconst 1, 1) := dk_4 (dk_at dksX6_noOrder_0 6 rfl rfl)
theorem dX6_noOrder_7 : decode cX6_noOrder 7 = .ok (.isub, 1) := dk_100 (dk_at dksX6_noOrder_0 7 rfl rfl)
theorem dX6_noOrder_8 : decode cX6_noOrder 8 = .ok (.invokestatic 116, 3) := dk_184 0 116 (dk_at dksX6_noOrder_0 8 rfl rfl)
theorem dX6_noOrder_11 : decode cX6_noOrder 11 = .ok (.ifCond .ne 7, 3) := dk_154 0 7 (dk_at dksX6_noOrder_0 11 rfl rfl)
theorem dX6_noOrder_14 : decode cX6_noOrder 14 = .ok (.iconst 1, 1) := dk_4 (dk_at dksX6_noOrder_0 14 rfl rfl)
theorem dX6_noOrder_15 : decode cX6_noOrder 15 = .ok (.goto 4, 3) := dk_167 0 4 (dk_at dksX6_noOrder_0 15 rfl rfl)
theorem dX6_noOrder_18 : decode cX6_noOrder 18 = .ok (.iconst 0, 1) := dk_3 (dk_at dksX6_noOrder_0 18 rfl rfl)
theorem dX6_noOrder_19 : decode cX6_noOrder 19 = .ok (.ireturn, 1) := dk_172 (dk_at dksX6_noOrder_0 19 rfl rfl)
def dkwX6_in_0 : List UInt8 := [26, 27, 161, 0, 12, 26, 28, 163, 0, 7, 4, 167, 0, 4, 3, 172]
abbrev dktX6_in_0 : List UInt8 := dkwX6_in_0 ++ []
theorem dksX6_in_0 : cX6_in.data.toList.drop 0 = dktX6_in_0 := by decide +kernel
theorem dX6_in_0 : decode cX6_in 0 = .ok (.iload_n 0, 1) := dk_26 (dk_at dksX6_in_0 0 rfl rfl)
theorem dX6_in_1 : decode cX6_in 1 = .ok (.iload_n 1, 1) := dk_27 (dk_at dksX6_in_0 1 rfl rfl)
theorem dX6_in_2 : decode cX6_in 2 = .ok (.if_icmp .lt 12, 3) := dk_161 0 12 (dk_at dksX6_in_0 2 rfl rfl)
theorem dX6_in_5 : decode cX6_in 5 = .ok (.iload_n 0, 1) := dk_26 (dk_at dksX6_in_0 5 rfl rfl)
theorem dX6_in_6 : decode cX6_in 6 = .ok (.iload_n 2, 1) := dk_28 (dk_at dksX6_in_0 6 rfl rfl)
theorem dX6_in_7 : decode cX6_in 7 = .ok (.if_icmp .gt 7, 3) := dk_163 0 7 (dk_at dksX6_in_0 7 rfl rfl)
theorem dX6_in_10 : decode cX6_in 10 = .ok (.iconst 1, 1) := dk_4 (dk_at dksX6_in_0 10 rfl rfl)
theorem dX6_in_11 : decode cX6_in 11 = .ok (.goto 4, 3) := dk_167 0 4 (dk_at dksX6_in_0 11 rfl rfl)
theorem dX6_in_14 : decode cX6_in 14 = .ok (.iconst 0, 1) := dk_3 (dk_at dksX6_in_0 14 rfl rfl)
theorem dX6_in_15 : decode cX6_in 15 = .ok (.ireturn, 1) := dk_172 (dk_at dksX6_in_0 15 rfl rfl)
def dkwX6_of_0 : List UInt8 := [42, 180, 0, 13, 16, 8, 16, 9, 27, 104, 96, 28, 96, 46, 172]
abbrev dktX6_of_0 : List UInt8 := dkwX6_of_0 ++ []
theorem dksX6_of_0 : cX6_of.data.toList.drop 0 = dktX6_of_0 := by decide +kernel
theorem dX6_of_0 : decode cX6_of 0 = .ok (.aload_n 0, 1) := dk_42 (dk_at dksX6_of_0 0 rfl rfl)
theorem dX6_of_1 : decode cX6_of 1 = .ok (.getfield 13, 3) := dk_180 0 13 (dk_at dksX6_of_0 1 rfl rfl)
theorem dX6_of_4 : decode cX6_of 4 = .ok (.bipush 8, 2) := dk_16 8 (dk_at dksX6_of_0 4 rfl rfl)
theorem dX6_of_6 : decode cX6_of 6 = .ok (.bipush 9, 2) := dk_16 9 (dk_at dksX6_of_0 6 rfl rfl)
theorem dX6_of_8 : decode cX6_of 8 = .ok (.iload_n 1, 1) := dk_27 (dk_at dksX6_of_0 8 rfl rfl)
theorem dX6_of_9 : decode cX6_of 9 = .ok (.imul, 1) := dk_104 (dk_at dksX6_of_0 9 rfl rfl)
theorem dX6_of_10 : decode cX6_of 10 = .ok (.iadd, 1) := dk_96 (dk_at dksX6_of_0 10 rfl rfl)
theorem dX6_of_11 : decode cX6_of 11 = .ok (.iload_n 2, 1) := dk_28 (dk_at dksX6_of_0 11 rfl rfl)
theorem dX6_of_12 : decode cX6_of 12 = .ok (.iadd, 1) := dk_96 (dk_at dksX6_of_0 12 rfl rfl)
theorem dX6_of_13 : decode cX6_of 13 = .ok (.iaload, 1) := dk_46 (dk_at dksX6_of_0 13 rfl rfl)
theorem dX6_of_14 : decode cX6_of 14 = .ok (.ireturn, 1) := dk_172 (dk_at dksX6_of_0 14 rfl rfl)
def dkwX6_grade_3 : List UInt8 := [160, 0, 5, 3, 172, 42, 180, 0, 13, 16, 8, 16, 9, 27, 104, 96, 5, 96, 28, 79, 4, 172]
abbrev dktX6_grade_3 : List UInt8 := dkwX6_grade_3 ++ []
def dkwX6_grade_2 : List UInt8 := [154, 0, 7, 4, 167, 0, 4, 3, 6, 182, 0, 230, 153, 0, 5, 3, 172, 42, 27, 5, 182, 0, 108, 28]
abbrev dktX6_grade_2 : List UInt8 := dkwX6_grade_2 ++ dktX6_grade_3
def dkwX6_grade_1 : List UInt8 := [154, 0, 7, 4, 167, 0, 4, 3, 5, 182, 0, 230, 154, 0, 25, 42, 28, 3, 6, 184, 0, 116]
abbrev dktX6_grade_1 : List UInt8 := dkwX6_grade_1 ++ dktX6_grade_2
def dkwX6_grade_0 : List UInt8 := [42, 3, 181, 0, 3, 42, 42, 27, 182, 0, 234, 4, 182, 0, 230, 154, 0, 46, 42, 42, 27, 182, 0, 237]
abbrev dktX6_grade_0 : List UInt8 := dkwX6_grade_0 ++ dktX6_grade_1
theorem dksX6_grade_0 : cX6_grade.data.toList.drop 0 = dktX6_grade_0 := by decide +kernel
theorem dksX6_grade_1 : cX6_grade.data.toList.drop 24 = dktX6_grade_1 := dk_seg dksX6_grade_0 24 rfl rfl
theorem dksX6_grade_2 : cX6_grade.data.toList.drop 46 = dktX6_grade_2 := dk_seg dksX6_grade_1 22 rfl rfl
theorem dksX6_grade_3 : cX6_grade.data.toList.drop 70 = dktX6_grade_3 := dk_seg dksX6_grade_2 24 rfl rfl
theorem dX6_grade_0 : decode cX6_grade 0 = .ok (.aload_n 0, 1) := dk_42 (dk_at dksX6_grade_0 0 rfl rfl)
theorem dX6_grade_1 : decode cX6_grade 1 = .ok (.iconst 0, 1) := dk_3 (dk_at dksX6_grade_0 1 rfl rfl)
theorem dX6_grade_2 : decode cX6_grade 2 = .ok (.putfield 3, 3) := dk_181 0 3 (dk_at dksX6_grade_0 2 rfl rfl)
theorem dX6_grade_5 : decode cX6_grade 5 = .ok (.aload_n 0, 1) := dk_42 (dk_at dksX6_grade_0 5 rfl rfl)
theorem dX6_grade_6 : decode cX6_grade 6 = .ok (.aload_n 0, 1) := dk_42 (dk_at dksX6_grade_0 6 rfl rfl)
theorem dX6_grade_7 : decode cX6_grade 7 = .ok (.iload_n 1, 1) := dk_27 (dk_at dksX6_grade_0 7 rfl rfl)
theorem dX6_grade_8 : decode cX6_grade 8 = .ok (.invokevirtual 234, 3) := dk_182 0 234 (dk_at dksX6_grade_0 8 rfl rfl)
theorem dX6_grade_11 : decode cX6_grade 11 = .ok (.iconst 1, 1) := dk_4 (dk_at dksX6_grade_0 11 rfl rfl)
theorem dX6_grade_12 : decode cX6_grade 12 = .ok (.invokevirtual 230, 3) := dk_182 0 230 (dk_at dksX6_grade_0 12 rfl rfl)
theorem dX6_grade_15 : decode cX6_grade 15 = .ok (.ifCond .ne 46, 3) := dk_154 0 46 (dk_at dksX6_grade_0 15 rfl rfl)
theorem dX6_grade_18 : decode cX6_grade 18 = .ok (.aload_n 0, 1) := dk_42 (dk_at dksX6_grade_0 18 rfl rfl)
theorem dX6_grade_19 : decode cX6_grade 19 = .ok (.aload_n 0, 1) := dk_42 (dk_at dksX6_grade_0 19 rfl rfl)
theorem dX6_grade_20 : decode cX6_grade 20 = .ok (.iload_n 1, 1) := dk_27 (dk_at dksX6_grade_0 20 rfl rfl)
theorem dX6_grade_21 : decode cX6_grade 21 = .ok (.invokevirtual 237, 3) := dk_182 0 237 (dk_at dksX6_grade_0 21 rfl rfl)
theorem dX6_grade_24 : decode cX6_grade 24 = .ok (.ifCond .ne 7, 3) := dk_154 0 7 (dk_at dksX6_grade_1 0 rfl rfl)
theorem dX6_grade_27 : decode cX6_grade 27 = .ok (.iconst 1, 1) := dk_4 (dk_at dksX6_grade_1 3 rfl rfl)
theorem dX6_grade_28 : decode cX6_grade 28 = .ok (.goto 4, 3) := dk_167 0 4 (dk_at dksX6_grade_1 4 rfl rfl)
theorem dX6_grade_31 : decode cX6_grade 31 = .ok (.iconst 0, 1) := dk_3 (dk_at dksX6_grade_1 7 rfl rfl)
theorem dX6_grade_32 : decode cX6_grade 32 = .ok (.iconst 2, 1) := dk_5 (dk_at dksX6_grade_1 8 rfl rfl)
theorem dX6_grade_33 : decode cX6_grade 33 = .ok (.invokevirtual 230, 3) := dk_182 0 230 (dk_at dksX6_grade_1 9 rfl rfl)
theorem dX6_grade_36 : decode cX6_grade 36 = .ok (.ifCond .ne 25, 3) := dk_154 0 25 (dk_at dksX6_grade_1 12 rfl rfl)
theorem dX6_grade_39 : decode cX6_grade 39 = .ok (.aload_n 0, 1) := dk_42 (dk_at dksX6_grade_1 15 rfl rfl)
theorem dX6_grade_40 : decode cX6_grade 40 = .ok (.iload_n 2, 1) := dk_28 (dk_at dksX6_grade_1 16 rfl rfl)
theorem dX6_grade_41 : decode cX6_grade 41 = .ok (.iconst 0, 1) := dk_3 (dk_at dksX6_grade_1 17 rfl rfl)
theorem dX6_grade_42 : decode cX6_grade 42 = .ok (.iconst 3, 1) := dk_6 (dk_at dksX6_grade_1 18 rfl rfl)
theorem dX6_grade_43 : decode cX6_grade 43 = .ok (.invokestatic 116, 3) := dk_184 0 116 (dk_at dksX6_grade_1 19 rfl rfl)
theorem dX6_grade_46 : decode cX6_grade 46 = .ok (.ifCond .ne 7, 3) := dk_154 0 7 (dk_at dksX6_grade_2 0 rfl rfl)
theorem dX6_grade_49 : decode cX6_grade 49 = .ok (.iconst 1, 1) := dk_4 (dk_at dksX6_grade_2 3 rfl rfl)
theorem dX6_grade_50 : decode cX6_grade 50 = .ok (.goto 4, 3) := dk_167 0 4 (dk_at dksX6_grade_2 4 rfl rfl)
theorem dX6_grade_53 : decode cX6_grade 53 = .ok (.iconst 0, 1) := dk_3 (dk_at dksX6_grade_2 7 rfl rfl)
theorem dX6_grade_54 : decode cX6_grade 54 = .ok (.iconst 3, 1) := dk_6 (dk_at dksX6_grade_2 8 rfl rfl)
theorem dX6_grade_55 : decode cX6_grade 55 = .ok (.invokevirtual 230, 3) := dk_182 0 230 (dk_at dksX6_grade_2 9 rfl rfl)
theorem dX6_grade_58 : decode cX6_grade 58 = .ok (.ifCond .eq 5, 3) := dk_153 0 5 (dk_at dksX6_grade_2 12 rfl rfl)
theorem dX6_grade_61 : decode cX6_grade 61 = .ok (.iconst 0, 1) := dk_3 (dk_at dksX6_grade_2 15 rfl rfl)
theorem dX6_grade_62 : decode cX6_grade 62 = .ok (.ireturn, 1) := dk_172 (dk_at dksX6_grade_2 16 rfl rfl)
theorem dX6_grade_63 : decode cX6_grade 63 = .ok (.aload_n 0, 1) := dk_42 (dk_at dksX6_grade_2 17 rfl rfl)
theorem dX6_grade_64 : decode cX6_grade 64 = .ok (.iload_n 1, 1) := dk_27 (dk_at dksX6_grade_2 18 rfl rfl)
theorem dX6_grade_65 : decode cX6_grade 65 = .ok (.iconst 2, 1) := dk_5 (dk_at dksX6_grade_2 19 rfl rfl)
theorem dX6_grade_66 : decode cX6_grade 66 = .ok (.invokevirtual 108, 3) := dk_182 0 108 (dk_at dksX6_grade_2 20 rfl rfl)
theorem dX6_grade_69 : decode cX6_grade 69 = .ok (.iload_n 2, 1) := dk_28 (dk_at dksX6_grade_2 23 rfl rfl)
theorem dX6_grade_70 : decode cX6_grade 70 = .ok (.if_icmp .ne 5, 3) := dk_160 0 5 (dk_at dksX6_grade_3 0 rfl rfl)
theorem dX6_grade_73 : decode cX6_grade 73 = .ok (.iconst 0, 1) := dk_3 (dk_at dksX6_grade_3 3 rfl rfl)
theorem dX6_grade_74 : decode cX6_grade 74 = .ok (.ireturn, 1) := dk_172 (dk_at dksX6_grade_3 4 rfl rfl)
theorem dX6_grade_75 : decode cX6_grade 75 = .ok (.aload_n 0, 1) := dk_42 (dk_at dksX6_grade_3 5 rfl rfl)
theorem dX6_grade_76 : decode cX6_grade 76 = .ok (.getfield 13, 3) := dk_180 0 13 (dk_at dksX6_grade_3 6 rfl rfl)
theorem dX6_grade_79 : decode cX6_grade 79 = .ok (.bipush 8, 2) := dk_16 8 (dk_at dksX6_grade_3 9 rfl rfl)
theorem dX6_grade_81 : decode cX6_grade 81 = .ok (.bipush 9, 2) := dk_16 9 (dk_at dksX6_grade_3 11 rfl rfl)
theorem dX6_grade_83 : decode cX6_grade 83 = .ok (.iload_n 1, 1) := dk_27 (dk_at dksX6_grade_3 13 rfl rfl)
theorem dX6_grade_84 : decode cX6_grade 84 = .ok (.imul, 1) := dk_104 (dk_at dksX6_grade_3 14 rfl rfl)
theorem dX6_grade_85 : decode cX6_grade 85 = .ok (.iadd, 1) := dk_96 (dk_at dksX6_grade_3 15 rfl rfl)
theorem dX6_grade_86 : decode cX6_grade 86 = .ok (.iconst 2, 1) := dk_5 (dk_at dksX6_grade_3 16 rfl rfl)
theorem dX6_grade_87 : decode cX6_grade 87 = .ok (.iadd, 1) := dk_96 (dk_at dksX6_grade_3 17 rfl rfl)
theorem dX6_grade_88 : decode cX6_grade 88 = .ok (.iload_n 2, 1) := dk_28 (dk_at dksX6_grade_3 18 rfl rfl)
theorem dX6_grade_89 : decode cX6_grade 89 = .ok (.iastore, 1) := dk_79 (dk_at dksX6_grade_3 19 rfl rfl)
theorem dX6_grade_90 : decode cX6_grade 90 = .ok (.iconst 1, 1) := dk_4 (dk_at dksX6_grade_3 20 rfl rfl)
theorem dX6_grade_91 : decode cX6_grade 91 = .ok (.ireturn, 1) := dk_172 (dk_at dksX6_grade_3 21 rfl rfl)
def dkwX6_isJump_1 : List UInt8 := [16, 7, 160, 0, 7, 4, 167, 0, 4, 3, 172]
abbrev dktX6_isJump_1 : List UInt8 := dkwX6_isJump_1 ++ []
def dkwX6_isJump_0 : List UInt8 := [42, 27, 182, 0, 120, 7, 159, 0, 23, 42, 27, 182, 0, 120, 16, 6, 159, 0, 13, 42, 27, 182, 0, 120]
abbrev dktX6_isJump_0 : List UInt8 := dkwX6_isJump_0 ++ dktX6_isJump_1
theorem dksX6_isJump_0 : cX6_isJump.data.toList.drop 0 = dktX6_isJump_0 := by decide +kernel
theorem dksX6_isJump_1 : cX6_isJump.data.toList.drop 24 = dktX6_isJump_1 := dk_seg dksX6_isJump_0 24 rfl rfl
theorem dX6_isJump_0 : decode cX6_isJump 0 = .ok (.aload_n 0, 1) := dk_42 (dk_at dksX6_isJump_0 0 rfl rfl)
theorem dX6_isJump_1 : decode cX6_isJump 1 = .ok (.iload_n 1, 1) := dk_27 (dk_at dksX6_isJump_0 1 rfl rfl)
theorem dX6_isJump_2 : decode cX6_isJump 2 = .ok (.invokevirtual 120, 3) := dk_182 0 120 (dk_at dksX6_isJump_0 2 rfl rfl)
theorem dX6_isJump_5 : decode cX6_isJump 5 = .ok (.iconst 4, 1) := dk_7 (dk_at dksX6_isJump_0 5 rfl rfl)
theorem dX6_isJump_6 : decode cX6_isJump 6 = .ok (.if_icmp .eq 23, 3) := dk_159 0 23 (dk_at dksX6_isJump_0 6 rfl rfl)
theorem dX6_isJump_9 : decode cX6_isJump 9 = .ok (.aload_n 0, 1) := dk_42 (dk_at dksX6_isJump_0 9 rfl rfl)
theorem dX6_isJump_10 : decode cX6_isJump 10 = .ok (.iload_n 1, 1) := dk_27 (dk_at dksX6_isJump_0 10 rfl rfl)
theorem dX6_isJump_11 : decode cX6_isJump 11 = .ok (.invokevirtual 120, 3) := dk_182 0 120 (dk_at dksX6_isJump_0 11 rfl rfl)
theorem dX6_isJump_14 : decode cX6_isJump 14 = .ok (.bipush 6, 2) := dk_16 6 (dk_at dksX6_isJump_0 14 rfl rfl)
theorem dX6_isJump_16 : decode cX6_isJump 16 = .ok (.if_icmp .eq 13, 3) := dk_159 0 13 (dk_at dksX6_isJump_0 16 rfl rfl)
theorem dX6_isJump_19 : decode cX6_isJump 19 = .ok (.aload_n 0, 1) := dk_42 (dk_at dksX6_isJump_0 19 rfl rfl)
theorem dX6_isJump_20 : decode cX6_isJump 20 = .ok (.iload_n 1, 1) := dk_27 (dk_at dksX6_isJump_0 20 rfl rfl)
theorem dX6_isJump_21 : decode cX6_isJump 21 = .ok (.invokevirtual 120, 3) := dk_182 0 120 (dk_at dksX6_isJump_0 21 rfl rfl)
theorem dX6_isJump_24 : decode cX6_isJump 24 = .ok (.bipush 7, 2) := dk_16 7 (dk_at dksX6_isJump_1 0 rfl rfl)
theorem dX6_isJump_26 : decode cX6_isJump 26 = .ok (.if_icmp .ne 7, 3) := dk_160 0 7 (dk_at dksX6_isJump_1 2 rfl rfl)
theorem dX6_isJump_29 : decode cX6_isJump 29 = .ok (.iconst 1, 1) := dk_4 (dk_at dksX6_isJump_1 5 rfl rfl)
theorem dX6_isJump_30 : decode cX6_isJump 30 = .ok (.goto 4, 3) := dk_167 0 4 (dk_at dksX6_isJump_1 6 rfl rfl)
theorem dX6_isJump_33 : decode cX6_isJump 33 = .ok (.iconst 0, 1) := dk_3 (dk_at dksX6_isJump_1 9 rfl rfl)
theorem dX6_isJump_34 : decode cX6_isJump 34 = .ok (.ireturn, 1) := dk_172 (dk_at dksX6_isJump_1 10 rfl rfl)
def dkwX6_wordOf_0 : List UInt8 := [42, 27, 3, 182, 0, 108, 172]
abbrev dktX6_wordOf_0 : List UInt8 := dkwX6_wordOf_0 ++ []
theorem dksX6_wordOf_0 : cX6_wordOf.data.toList.drop 0 = dktX6_wordOf_0 := by decide +kernel
theorem dX6_wordOf_0 : decode cX6_wordOf 0 = .ok (.aload_n 0, 1) := dk_42 (dk_at dksX6_wordOf_0 0 rfl rfl)
theorem dX6_wordOf_1 : decode cX6_wordOf 1 = .ok (.iload_n 1, 1) := dk_27 (dk_at dksX6_wordOf_0 1 rfl rfl)
theorem dX6_wordOf_2 : decode cX6_wordOf 2 = .ok (.iconst 0, 1) := dk_3 (dk_at dksX6_wordOf_0 2 rfl rfl)
theorem dX6_wordOf_3 : decode cX6_wordOf 3 = .ok (.invokevirtual 108, 3) := dk_182 0 108 (dk_at dksX6_wordOf_0 3 rfl rfl)
theorem dX6_wordOf_6 : decode cX6_wordOf 6 = .ok (.ireturn, 1) := dk_172 (dk_at dksX6_wordOf_0 6 rfl rfl)
def dkwX6_ticks_2 : List UInt8 := [79, 177]
abbrev dktX6_ticks_2 : List UInt8 := dkwX6_ticks_2 ++ []
def dkwX6_ticks_1 : List UInt8 := [154, 0, 7, 4, 167, 0, 4, 3, 4, 182, 0, 230, 153, 0, 4, 177, 42, 180, 0, 13, 7, 27, 96, 28]
abbrev dktX6_ticks_1 : List UInt8 := dkwX6_ticks_1 ++ dktX6_ticks_2
def dkwX6_ticks_0 : List UInt8 := [42, 3, 181, 0, 3, 42, 27, 4, 6, 184, 0, 116, 153, 0, 13, 28, 4, 16, 99, 184, 0, 116]
abbrev dktX6_ticks_0 : List UInt8 := dkwX6_ticks_0 ++ dktX6_ticks_1
theorem dksX6_ticks_0 : cX6_ticks.data.toList.drop 0 = dktX6_ticks_0 := by decide +kernel
theorem dksX6_ticks_1 : cX6_ticks.data.toList.drop 22 = dktX6_ticks_1 := dk_seg dksX6_ticks_0 22 rfl rfl
theorem dksX6_ticks_2 : cX6_ticks.data.toList.drop 46 = dktX6_ticks_2 := dk_seg dksX6_ticks_1 24 rfl rfl
theorem dX6_ticks_0 : decode cX6_ticks 0 = .ok (.aload_n 0, 1) := dk_42 (dk_at dksX6_ticks_0 0 rfl rfl)
theorem dX6_ticks_1 : decode cX6_ticks 1 = .ok (.iconst 0, 1) := dk_3 (dk_at dksX6_ticks_0 1 rfl rfl)
theorem dX6_ticks_2 : decode cX6_ticks 2 = .ok (.putfield 3, 3) := dk_181 0 3 (dk_at dksX6_ticks_0 2 rfl rfl)
theorem dX6_ticks_5 : decode cX6_ticks 5 = .ok (.aload_n 0, 1) := dk_42 (dk_at dksX6_ticks_0 5 rfl rfl)
theorem dX6_ticks_6 : decode cX6_ticks 6 = .ok (.iload_n 1, 1) := dk_27 (dk_at dksX6_ticks_0 6 rfl rfl)
theorem dX6_ticks_7 : decode cX6_ticks 7 = .ok (.iconst 1, 1) := dk_4 (dk_at dksX6_ticks_0 7 rfl rfl)
theorem dX6_ticks_8 : decode cX6_ticks 8 = .ok (.iconst 3, 1) := dk_6 (dk_at dksX6_ticks_0 8 rfl rfl)
theorem dX6_ticks_9 : decode cX6_ticks 9 = .ok (.invokestatic 116, 3) := dk_184 0 116 (dk_at dksX6_ticks_0 9 rfl rfl)
theorem dX6_ticks_12 : decode cX6_ticks 12 = .ok (.ifCond .eq 13, 3) := dk_153 0 13 (dk_at dksX6_ticks_0 12 rfl rfl)
theorem dX6_ticks_15 : decode cX6_ticks 15 = .ok (.iload_n 2, 1) := dk_28 (dk_at dksX6_ticks_0 15 rfl rfl)
theorem dX6_ticks_16 : decode cX6_ticks 16 = .ok (.iconst 1, 1) := dk_4 (dk_at dksX6_ticks_0 16 rfl rfl)
theorem dX6_ticks_17 : decode cX6_ticks 17 = .ok (.bipush 99, 2) := dk_16 99 (dk_at dksX6_ticks_0 17 rfl rfl)
theorem dX6_ticks_19 : decode cX6_ticks 19 = .ok (.invokestatic 116, 3) := dk_184 0 116 (dk_at dksX6_ticks_0 19 rfl rfl)
theorem dX6_ticks_22 : decode cX6_ticks 22 = .ok (.ifCond .ne 7, 3) := dk_154 0 7 (dk_at dksX6_ticks_1 0 rfl rfl)
theorem dX6_ticks_25 : decode cX6_ticks 25 = .ok (.iconst 1, 1) := dk_4 (dk_at dksX6_ticks_1 3 rfl rfl)
theorem dX6_ticks_26 : decode cX6_ticks 26 = .ok (.goto 4, 3) := dk_167 0 4 (dk_at dksX6_ticks_1 4 rfl rfl)
theorem dX6_ticks_29 : decode cX6_ticks 29 = .ok (.iconst 0, 1) := dk_3 (dk_at dksX6_ticks_1 7 rfl rfl)
theorem dX6_ticks_30 : decode cX6_ticks 30 = .ok (.iconst 1, 1) := dk_4 (dk_at dksX6_ticks_1 8 rfl rfl)
theorem dX6_ticks_31 : decode cX6_ticks 31 = .ok (.invokevirtual 230, 3) := dk_182 0 230 (dk_at dksX6_ticks_1 9 rfl rfl)
theorem dX6_ticks_34 : decode cX6_ticks 34 = .ok (.ifCond .eq 4, 3) := dk_153 0 4 (dk_at dksX6_ticks_1 12 rfl rfl)
theorem dX6_ticks_37 : decode cX6_ticks 37 = .ok (.return_, 1) := dk_177 (dk_at dksX6_ticks_1 15 rfl rfl)
theorem dX6_ticks_38 : decode cX6_ticks 38 = .ok (.aload_n 0, 1) := dk_42 (dk_at dksX6_ticks_1 16 rfl rfl)
theorem dX6_ticks_39 : decode cX6_ticks 39 = .ok (.getfield 13, 3) := dk_180 0 13 (dk_at dksX6_ticks_1 17 rfl rfl)
theorem dX6_ticks_42 : decode cX6_ticks 42 = .ok (.iconst 4, 1) := dk_7 (dk_at dksX6_ticks_1 20 rfl rfl)
theorem dX6_ticks_43 : decode cX6_ticks 43 = .ok (.iload_n 1, 1) := dk_27 (dk_at dksX6_ticks_1 21 rfl rfl)
theorem dX6_ticks_44 : decode cX6_ticks 44 = .ok (.iadd, 1) := dk_96 (dk_at dksX6_ticks_1 22 rfl rfl)
theorem dX6_ticks_45 : decode cX6_ticks 45 = .ok (.iload_n 2, 1) := dk_28 (dk_at dksX6_ticks_1 23 rfl rfl)
theorem dX6_ticks_46 : decode cX6_ticks 46 = .ok (.iastore, 1) := dk_79 (dk_at dksX6_ticks_2 0 rfl rfl)
theorem dX6_ticks_47 : decode cX6_ticks 47 = .ok (.return_, 1) := dk_177 (dk_at dksX6_ticks_2 1 rfl rfl)
def dkwX6_landings_1 : List UInt8 := [180, 0, 44, 27, 47, 167, 0, 9, 42, 180, 0, 41, 27, 47, 173]
abbrev dktX6_landings_1 : List UInt8 := dkwX6_landings_1 ++ []
def dkwX6_landings_0 : List UInt8 := [42, 3, 181, 0, 3, 42, 27, 182, 1, 10, 153, 0, 5, 9, 173, 42, 182, 1, 13, 28, 153, 0, 12, 42]
abbrev dktX6_landings_0 : List UInt8 := dkwX6_landings_0 ++ dktX6_landings_1
theorem dksX6_landings_0 : cX6_landings.data.toList.drop 0 = dktX6_landings_0 := by decide +kernel
theorem dksX6_landings_1 : cX6_landings.data.toList.drop 24 = dktX6_landings_1 := dk_seg dksX6_landings_0 24 rfl rfl
theorem dX6_landings_0 : decode cX6_landings 0 = .ok (.aload_n 0, 1) := dk_42 (dk_at dksX6_landings_0 0 rfl rfl)
theorem dX6_landings_1 : decode cX6_landings 1 = .ok (.iconst 0, 1) := dk_3 (dk_at dksX6_landings_0 1 rfl rfl)
theorem dX6_landings_2 : decode cX6_landings 2 = .ok (.putfield 3, 3) := dk_181 0 3 (dk_at dksX6_landings_0 2 rfl rfl)
theorem dX6_landings_5 : decode cX6_landings 5 = .ok (.aload_n 0, 1) := dk_42 (dk_at dksX6_landings_0 5 rfl rfl)
theorem dX6_landings_6 : decode cX6_landings 6 = .ok (.iload_n 1, 1) := dk_27 (dk_at dksX6_landings_0 6 rfl rfl)
theorem dX6_landings_7 : decode cX6_landings 7 = .ok (.invokevirtual 266, 3) := dk_182 1 10 (dk_at dksX6_landings_0 7 rfl rfl)
theorem dX6_landings_10 : decode cX6_landings 10 = .ok (.ifCond .eq 5, 3) := dk_153 0 5 (dk_at dksX6_landings_0 10 rfl rfl)
theorem dX6_landings_13 : decode cX6_landings 13 = .ok (.lconst 0, 1) := dk_9 (dk_at dksX6_landings_0 13 rfl rfl)
theorem dX6_landings_14 : decode cX6_landings 14 = .ok (.lreturn, 1) := dk_173 (dk_at dksX6_landings_0 14 rfl rfl)
theorem dX6_landings_15 : decode cX6_landings 15 = .ok (.aload_n 0, 1) := dk_42 (dk_at dksX6_landings_0 15 rfl rfl)
theorem dX6_landings_16 : decode cX6_landings 16 = .ok (.invokevirtual 269, 3) := dk_182 1 13 (dk_at dksX6_landings_0 16 rfl rfl)
theorem dX6_landings_19 : decode cX6_landings 19 = .ok (.iload_n 2, 1) := dk_28 (dk_at dksX6_landings_0 19 rfl rfl)
theorem dX6_landings_20 : decode cX6_landings 20 = .ok (.ifCond .eq 12, 3) := dk_153 0 12 (dk_at dksX6_landings_0 20 rfl rfl)
theorem dX6_landings_23 : decode cX6_landings 23 = .ok (.aload_n 0, 1) := dk_42 (dk_at dksX6_landings_0 23 rfl rfl)
theorem dX6_landings_24 : decode cX6_landings 24 = .ok (.getfield 44, 3) := dk_180 0 44 (dk_at dksX6_landings_1 0 rfl rfl)
theorem dX6_landings_27 : decode cX6_landings 27 = .ok (.iload_n 1, 1) := dk_27 (dk_at dksX6_landings_1 3 rfl rfl)
theorem dX6_landings_28 : decode cX6_landings 28 = .ok (.laload, 1) := dk_47 (dk_at dksX6_landings_1 4 rfl rfl)
theorem dX6_landings_29 : decode cX6_landings 29 = .ok (.goto 9, 3) := dk_167 0 9 (dk_at dksX6_landings_1 5 rfl rfl)
theorem dX6_landings_32 : decode cX6_landings 32 = .ok (.aload_n 0, 1) := dk_42 (dk_at dksX6_landings_1 8 rfl rfl)
theorem dX6_landings_33 : decode cX6_landings 33 = .ok (.getfield 41, 3) := dk_180 0 41 (dk_at dksX6_landings_1 9 rfl rfl)
theorem dX6_landings_36 : decode cX6_landings 36 = .ok (.iload_n 1, 1) := dk_27 (dk_at dksX6_landings_1 12 rfl rfl)
theorem dX6_landings_37 : decode cX6_landings 37 = .ok (.laload, 1) := dk_47 (dk_at dksX6_landings_1 13 rfl rfl)
theorem dX6_landings_38 : decode cX6_landings 38 = .ok (.lreturn, 1) := dk_173 (dk_at dksX6_landings_1 14 rfl rfl)
def dkwX6_noJump_1 : List UInt8 := [167, 0, 4, 3, 5, 182, 0, 230, 153, 0, 7, 4, 167, 0, 4, 3, 172]
abbrev dktX6_noJump_1 : List UInt8 := dkwX6_noJump_1 ++ []
def dkwX6_noJump_0 : List UInt8 := [42, 42, 27, 182, 0, 234, 4, 182, 0, 230, 154, 0, 24, 42, 42, 27, 182, 0, 237, 154, 0, 7, 4]
abbrev dktX6_noJump_0 : List UInt8 := dkwX6_noJump_0 ++ dktX6_noJump_1
theorem dksX6_noJump_0 : cX6_noJump.data.toList.drop 0 = dktX6_noJump_0 := by decide +kernel
theorem dksX6_noJump_1 : cX6_noJump.data.toList.drop 23 = dktX6_noJump_1 := dk_seg dksX6_noJump_0 23 rfl rfl
theorem dX6_noJump_0 : decode cX6_noJump 0 = .ok (.aload_n 0, 1) := dk_42 (dk_at dksX6_noJump_0 0 rfl rfl)
theorem dX6_noJump_1 : decode cX6_noJump 1 = .ok (.aload_n 0, 1) := dk_42 (dk_at dksX6_noJump_0 1 rfl rfl)
theorem dX6_noJump_2 : decode cX6_noJump 2 = .ok (.iload_n 1, 1) := dk_27 (dk_at dksX6_noJump_0 2 rfl rfl)
theorem dX6_noJump_3 : decode cX6_noJump 3 = .ok (.invokevirtual 234, 3) := dk_182 0 234 (dk_at dksX6_noJump_0 3 rfl rfl)
theorem dX6_noJump_6 : decode cX6_noJump 6 = .ok (.iconst 1, 1) := dk_4 (dk_at dksX6_noJump_0 6 rfl rfl)
theorem dX6_noJump_7 : decode cX6_noJump 7 = .ok (.invokevirtual 230, 3) := dk_182 0 230 (dk_at dksX6_noJump_0 7 rfl rfl)
theorem dX6_noJump_10 : decode cX6_noJump 10 = .ok (.ifCond .ne 24, 3) := dk_154 0 24 (dk_at dksX6_noJump_0 10 rfl rfl)
theorem dX6_noJump_13 : decode cX6_noJump 13 = .ok (.aload_n 0, 1) := dk_42 (dk_at dksX6_noJump_0 13 rfl rfl)
theorem dX6_noJump_14 : decode cX6_noJump 14 = .ok (.aload_n 0, 1) := dk_42 (dk_at dksX6_noJump_0 14 rfl rfl)
theorem dX6_noJump_15 : decode cX6_noJump 15 = .ok (.iload_n 1, 1) := dk_27 (dk_at dksX6_noJump_0 15 rfl rfl)
theorem dX6_noJump_16 : decode cX6_noJump 16 = .ok (.invokevirtual 237, 3) := dk_182 0 237 (dk_at dksX6_noJump_0 16 rfl rfl)
theorem dX6_noJump_19 : decode cX6_noJump 19 = .ok (.ifCond .ne 7, 3) := dk_154 0 7 (dk_at dksX6_noJump_0 19 rfl rfl)
theorem dX6_noJump_22 : decode cX6_noJump 22 = .ok (.iconst 1, 1) := dk_4 (dk_at dksX6_noJump_0 22 rfl rfl)
theorem dX6_noJump_23 : decode cX6_noJump 23 = .ok (.goto 4, 3) := dk_167 0 4 (dk_at dksX6_noJump_1 0 rfl rfl)
theorem dX6_noJump_26 : decode cX6_noJump 26 = .ok (.iconst 0, 1) := dk_3 (dk_at dksX6_noJump_1 3 rfl rfl)
theorem dX6_noJump_27 : decode cX6_noJump 27 = .ok (.iconst 2, 1) := dk_5 (dk_at dksX6_noJump_1 4 rfl rfl)
theorem dX6_noJump_28 : decode cX6_noJump 28 = .ok (.invokevirtual 230, 3) := dk_182 0 230 (dk_at dksX6_noJump_1 5 rfl rfl)
theorem dX6_noJump_31 : decode cX6_noJump 31 = .ok (.ifCond .eq 7, 3) := dk_153 0 7 (dk_at dksX6_noJump_1 8 rfl rfl)
theorem dX6_noJump_34 : decode cX6_noJump 34 = .ok (.iconst 1, 1) := dk_4 (dk_at dksX6_noJump_1 11 rfl rfl)
theorem dX6_noJump_35 : decode cX6_noJump 35 = .ok (.goto 4, 3) := dk_167 0 4 (dk_at dksX6_noJump_1 12 rfl rfl)
theorem dX6_noJump_38 : decode cX6_noJump 38 = .ok (.iconst 0, 1) := dk_3 (dk_at dksX6_noJump_1 15 rfl rfl)
theorem dX6_noJump_39 : decode cX6_noJump 39 = .ok (.ireturn, 1) := dk_172 (dk_at dksX6_noJump_1 16 rfl rfl)
def dkwX6_flows_10 : List UInt8 := [182, 0, 244, 167, 0, 4, 9, 80, 132, 1, 1, 167, 255, 199, 177]
abbrev dktX6_flows_10 : List UInt8 := dkwX6_flows_10 ++ []
def dkwX6_flows_9 : List UInt8 := [182, 0, 240, 167, 0, 4, 9, 80, 42, 180, 0, 44, 27, 42, 27, 182, 0, 237, 153, 0, 11, 42, 27]
abbrev dktX6_flows_9 : List UInt8 := dkwX6_flows_9 ++ dktX6_flows_10
def dkwX6_flows_8 : List UInt8 := [42, 182, 0, 112, 162, 0, 55, 42, 180, 0, 41, 27, 42, 27, 182, 0, 237, 153, 0, 11, 42, 27]
abbrev dktX6_flows_8 : List UInt8 := dkwX6_flows_8 ++ dktX6_flows_9
def dkwX6_flows_7 : List UInt8 := [153, 0, 7, 4, 167, 0, 4, 3, 84, 132, 2, 1, 167, 255, 117, 132, 1, 1, 167, 255, 103, 3, 60, 27]
abbrev dktX6_flows_7 : List UInt8 := dkwX6_flows_7 ++ dktX6_flows_8
def dkwX6_flows_6 : List UInt8 := [129, 80, 42, 180, 0, 37, 29, 42, 180, 0, 37, 29, 51, 154, 0, 13, 42, 180, 0, 37, 21, 4, 51]
abbrev dktX6_flows_6 : List UInt8 := dkwX6_flows_6 ++ dktX6_flows_7
def dkwX6_flows_5 : List UInt8 := [42, 180, 0, 37, 29, 4, 84, 167, 0, 49, 42, 180, 0, 33, 29, 92, 47, 42, 180, 0, 33, 21, 4, 47]
abbrev dktX6_flows_5 : List UInt8 := dkwX6_flows_5 ++ dktX6_flows_6
def dkwX6_flows_4 : List UInt8 := [182, 0, 108, 17, 3, 232, 100, 54, 4, 42, 28, 16, 8, 182, 0, 108, 154, 0, 8, 21, 4, 156, 0, 13]
abbrev dktX6_flows_4 : List UInt8 := dkwX6_flows_4 ++ dktX6_flows_5
def dkwX6_flows_3 : List UInt8 := [42, 28, 7, 182, 0, 108, 121, 129, 80, 42, 28, 182, 0, 120, 153, 0, 6, 167, 0, 87, 42, 28, 16, 6]
abbrev dktX6_flows_3 : List UInt8 := dkwX6_flows_3 ++ dktX6_flows_4
def dkwX6_flows_2 : List UInt8 := [42, 28, 8, 182, 0, 108, 62, 42, 28, 182, 0, 120, 4, 160, 0, 20, 42, 180, 0, 33, 29, 92, 47, 10]
abbrev dktX6_flows_2 : List UInt8 := dkwX6_flows_2 ++ dktX6_flows_3
def dkwX6_flows_1 : List UInt8 := [132, 1, 1, 167, 255, 233, 3, 60, 27, 16, 16, 163, 0, 153, 3, 61, 28, 42, 182, 0, 112, 162, 0, 137]
abbrev dktX6_flows_1 : List UInt8 := dkwX6_flows_1 ++ dktX6_flows_2
def dkwX6_flows_0 : List UInt8 := [3, 60, 27, 16, 16, 162, 0, 23, 42, 180, 0, 33, 27, 9, 80, 42, 180, 0, 37, 27, 3, 84]
abbrev dktX6_flows_0 : List UInt8 := dkwX6_flows_0 ++ dktX6_flows_1
theorem dksX6_flows_0 : cX6_flows.data.toList.drop 0 = dktX6_flows_0 := by decide +kernel
theorem dksX6_flows_1 : cX6_flows.data.toList.drop 22 = dktX6_flows_1 := dk_seg dksX6_flows_0 22 rfl rfl
theorem dksX6_flows_2 : cX6_flows.data.toList.drop 46 = dktX6_flows_2 := dk_seg dksX6_flows_1 24 rfl rfl
theorem dksX6_flows_3 : cX6_flows.data.toList.drop 70 = dktX6_flows_3 := dk_seg dksX6_flows_2 24 rfl rfl
theorem dksX6_flows_4 : cX6_flows.data.toList.drop 94 = dktX6_flows_4 := dk_seg dksX6_flows_3 24 rfl rfl
theorem dksX6_flows_5 : cX6_flows.data.toList.drop 118 = dktX6_flows_5 := dk_seg dksX6_flows_4 24 rfl rfl
theorem dksX6_flows_6 : cX6_flows.data.toList.drop 142 = dktX6_flows_6 := dk_seg dksX6_flows_5 24 rfl rfl
theorem dksX6_flows_7 : cX6_flows.data.toList.drop 165 = dktX6_flows_7 := dk_seg dksX6_flows_6 23 rfl rfl
theorem dksX6_flows_8 : cX6_flows.data.toList.drop 189 = dktX6_flows_8 := dk_seg dksX6_flows_7 24 rfl rfl
theorem dksX6_flows_9 : cX6_flows.data.toList.drop 211 = dktX6_flows_9 := dk_seg dksX6_flows_8 22 rfl rfl
theorem dksX6_flows_10 : cX6_flows.data.toList.drop 234 = dktX6_flows_10 := dk_seg dksX6_flows_9 23 rfl rfl
theorem dX6_flows_0 : decode cX6_flows 0 = .ok (.iconst 0, 1) := dk_3 (dk_at dksX6_flows_0 0 rfl rfl)
theorem dX6_flows_1 : decode cX6_flows 1 = .ok (.istore_n 1, 1) := dk_60 (dk_at dksX6_flows_0 1 rfl rfl)
theorem dX6_flows_2 : decode cX6_flows 2 = .ok (.iload_n 1, 1) := dk_27 (dk_at dksX6_flows_0 2 rfl rfl)
theorem dX6_flows_3 : decode cX6_flows 3 = .ok (.bipush 16, 2) := dk_16 16 (dk_at dksX6_flows_0 3 rfl rfl)
theorem dX6_flows_5 : decode cX6_flows 5 = .ok (.if_icmp .ge 23, 3) := dk_162 0 23 (dk_at dksX6_flows_0 5 rfl rfl)
theorem dX6_flows_8 : decode cX6_flows 8 = .ok (.aload_n 0, 1) := dk_42 (dk_at dksX6_flows_0 8 rfl rfl)
theorem dX6_flows_9 : decode cX6_flows 9 = .ok (.getfield 33, 3) := dk_180 0 33 (dk_at dksX6_flows_0 9 rfl rfl)
theorem dX6_flows_12 : decode cX6_flows 12 = .ok (.iload_n 1, 1) := dk_27 (dk_at dksX6_flows_0 12 rfl rfl)
theorem dX6_flows_13 : decode cX6_flows 13 = .ok (.lconst 0, 1) := dk_9 (dk_at dksX6_flows_0 13 rfl rfl)
theorem dX6_flows_14 : decode cX6_flows 14 = .ok (.lastore, 1) := dk_80 (dk_at dksX6_flows_0 14 rfl rfl)
theorem dX6_flows_15 : decode cX6_flows 15 = .ok (.aload_n 0, 1) := dk_42 (dk_at dksX6_flows_0 15 rfl rfl)
theorem dX6_flows_16 : decode cX6_flows 16 = .ok (.getfield 37, 3) := dk_180 0 37 (dk_at dksX6_flows_0 16 rfl rfl)
theorem dX6_flows_19 : decode cX6_flows 19 = .ok (.iload_n 1, 1) := dk_27 (dk_at dksX6_flows_0 19 rfl rfl)
theorem dX6_flows_20 : decode cX6_flows 20 = .ok (.iconst 0, 1) := dk_3 (dk_at dksX6_flows_0 20 rfl rfl)
theorem dX6_flows_21 : decode cX6_flows 21 = .ok (.bastore, 1) := dk_84 (dk_at dksX6_flows_0 21 rfl rfl)
theorem dX6_flows_22 : decode cX6_flows 22 = .ok (.iinc 1 1, 3) := dk_132 1 1 (dk_at dksX6_flows_1 0 rfl rfl)
theorem dX6_flows_25 : decode cX6_flows 25 = .ok (.goto (-23), 3) := dk_167 255 233 (dk_at dksX6_flows_1 3 rfl rfl)
theorem dX6_flows_28 : decode cX6_flows 28 = .ok (.iconst 0, 1) := dk_3 (dk_at dksX6_flows_1 6 rfl rfl)
theorem dX6_flows_29 : decode cX6_flows 29 = .ok (.istore_n 1, 1) := dk_60 (dk_at dksX6_flows_1 7 rfl rfl)
theorem dX6_flows_30 : decode cX6_flows 30 = .ok (.iload_n 1, 1) := dk_27 (dk_at dksX6_flows_1 8 rfl rfl)
theorem dX6_flows_31 : decode cX6_flows 31 = .ok (.bipush 16, 2) := dk_16 16 (dk_at dksX6_flows_1 9 rfl rfl)
theorem dX6_flows_33 : decode cX6_flows 33 = .ok (.if_icmp .gt 153, 3) := dk_163 0 153 (dk_at dksX6_flows_1 11 rfl rfl)
theorem dX6_flows_36 : decode cX6_flows 36 = .ok (.iconst 0, 1) := dk_3 (dk_at dksX6_flows_1 14 rfl rfl)
theorem dX6_flows_37 : decode cX6_flows 37 = .ok (.istore_n 2, 1) := dk_61 (dk_at dksX6_flows_1 15 rfl rfl)
theorem dX6_flows_38 : decode cX6_flows 38 = .ok (.iload_n 2, 1) := dk_28 (dk_at dksX6_flows_1 16 rfl rfl)
theorem dX6_flows_39 : decode cX6_flows 39 = .ok (.aload_n 0, 1) := dk_42 (dk_at dksX6_flows_1 17 rfl rfl)
theorem dX6_flows_40 : decode cX6_flows 40 = .ok (.invokevirtual 112, 3) := dk_182 0 112 (dk_at dksX6_flows_1 18 rfl rfl)
theorem dX6_flows_43 : decode cX6_flows 43 = .ok (.if_icmp .ge 137, 3) := dk_162 0 137 (dk_at dksX6_flows_1 21 rfl rfl)
theorem dX6_flows_46 : decode cX6_flows 46 = .ok (.aload_n 0, 1) := dk_42 (dk_at dksX6_flows_2 0 rfl rfl)
theorem dX6_flows_47 : decode cX6_flows 47 = .ok (.iload_n 2, 1) := dk_28 (dk_at dksX6_flows_2 1 rfl rfl)
theorem dX6_flows_48 : decode cX6_flows 48 = .ok (.iconst 5, 1) := dk_8 (dk_at dksX6_flows_2 2 rfl rfl)
theorem dX6_flows_49 : decode cX6_flows 49 = .ok (.invokevirtual 108, 3) := dk_182 0 108 (dk_at dksX6_flows_2 3 rfl rfl)
theorem dX6_flows_52 : decode cX6_flows 52 = .ok (.istore_n 3, 1) := dk_62 (dk_at dksX6_flows_2 6 rfl rfl)
theorem dX6_flows_53 : decode cX6_flows 53 = .ok (.aload_n 0, 1) := dk_42 (dk_at dksX6_flows_2 7 rfl rfl)
theorem dX6_flows_54 : decode cX6_flows 54 = .ok (.iload_n 2, 1) := dk_28 (dk_at dksX6_flows_2 8 rfl rfl)
theorem dX6_flows_55 : decode cX6_flows 55 = .ok (.invokevirtual 120, 3) := dk_182 0 120 (dk_at dksX6_flows_2 9 rfl rfl)
theorem dX6_flows_58 : decode cX6_flows 58 = .ok (.iconst 1, 1) := dk_4 (dk_at dksX6_flows_2 12 rfl rfl)
theorem dX6_flows_59 : decode cX6_flows 59 = .ok (.if_icmp .ne 20, 3) := dk_160 0 20 (dk_at dksX6_flows_2 13 rfl rfl)
theorem dX6_flows_62 : decode cX6_flows 62 = .ok (.aload_n 0, 1) := dk_42 (dk_at dksX6_flows_2 16 rfl rfl)
theorem dX6_flows_63 : decode cX6_flows 63 = .ok (.getfield 33, 3) := dk_180 0 33 (dk_at dksX6_flows_2 17 rfl rfl)
theorem dX6_flows_66 : decode cX6_flows 66 = .ok (.iload_n 3, 1) := dk_29 (dk_at dksX6_flows_2 20 rfl rfl)
theorem dX6_flows_67 : decode cX6_flows 67 = .ok (.dup2, 1) := dk_92 (dk_at dksX6_flows_2 21 rfl rfl)
theorem dX6_flows_68 : decode cX6_flows 68 = .ok (.laload, 1) := dk_47 (dk_at dksX6_flows_2 22 rfl rfl)
theorem dX6_flows_69 : decode cX6_flows 69 = .ok (.lconst 1, 1) := dk_10 (dk_at dksX6_flows_2 23 rfl rfl)
theorem dX6_flows_70 : decode cX6_flows 70 = .ok (.aload_n 0, 1) := dk_42 (dk_at dksX6_flows_3 0 rfl rfl)
theorem dX6_flows_71 : decode cX6_flows 71 = .ok (.iload_n 2, 1) := dk_28 (dk_at dksX6_flows_3 1 rfl rfl)
theorem dX6_flows_72 : decode cX6_flows 72 = .ok (.iconst 4, 1) := dk_7 (dk_at dksX6_flows_3 2 rfl rfl)
theorem dX6_flows_73 : decode cX6_flows 73 = .ok (.invokevirtual 108, 3) := dk_182 0 108 (dk_at dksX6_flows_3 3 rfl rfl)
theorem dX6_flows_76 : decode cX6_flows 76 = .ok (.lshl, 1) := dk_121 (dk_at dksX6_flows_3 6 rfl rfl)
theorem dX6_flows_77 : decode cX6_flows 77 = .ok (.lor, 1) := dk_129 (dk_at dksX6_flows_3 7 rfl rfl)
theorem dX6_flows_78 : decode cX6_flows 78 = .ok (.lastore, 1) := dk_80 (dk_at dksX6_flows_3 8 rfl rfl)
theorem dX6_flows_79 : decode cX6_flows 79 = .ok (.aload_n 0, 1) := dk_42 (dk_at dksX6_flows_3 9 rfl rfl)
theorem dX6_flows_80 : decode cX6_flows 80 = .ok (.iload_n 2, 1) := dk_28 (dk_at dksX6_flows_3 10 rfl rfl)
theorem dX6_flows_81 : decode cX6_flows 81 = .ok (.invokevirtual 120, 3) := dk_182 0 120 (dk_at dksX6_flows_3 11 rfl rfl)
theorem dX6_flows_84 : decode cX6_flows 84 = .ok (.ifCond .eq 6, 3) := dk_153 0 6 (dk_at dksX6_flows_3 14 rfl rfl)
theorem dX6_flows_87 : decode cX6_flows 87 = .ok (.goto 87, 3) := dk_167 0 87 (dk_at dksX6_flows_3 17 rfl rfl)
theorem dX6_flows_90 : decode cX6_flows 90 = .ok (.aload_n 0, 1) := dk_42 (dk_at dksX6_flows_3 20 rfl rfl)
theorem dX6_flows_91 : decode cX6_flows 91 = .ok (.iload_n 2, 1) := dk_28 (dk_at dksX6_flows_3 21 rfl rfl)
theorem dX6_flows_92 : decode cX6_flows 92 = .ok (.bipush 6, 2) := dk_16 6 (dk_at dksX6_flows_3 22 rfl rfl)
theorem dX6_flows_94 : decode cX6_flows 94 = .ok (.invokevirtual 108, 3) := dk_182 0 108 (dk_at dksX6_flows_4 0 rfl rfl)
theorem dX6_flows_97 : decode cX6_flows 97 = .ok (.sipush 1000, 3) := dk_17 3 232 (dk_at dksX6_flows_4 3 rfl rfl)
theorem dX6_flows_100 : decode cX6_flows 100 = .ok (.isub, 1) := dk_100 (dk_at dksX6_flows_4 6 rfl rfl)
theorem dX6_flows_101 : decode cX6_flows 101 = .ok (.istore 4, 2) := dk_54 4 (dk_at dksX6_flows_4 7 rfl rfl)
theorem dX6_flows_103 : decode cX6_flows 103 = .ok (.aload_n 0, 1) := dk_42 (dk_at dksX6_flows_4 9 rfl rfl)
theorem dX6_flows_104 : decode cX6_flows 104 = .ok (.iload_n 2, 1) := dk_28 (dk_at dksX6_flows_4 10 rfl rfl)
theorem dX6_flows_105 : decode cX6_flows 105 = .ok (.bipush 8, 2) := dk_16 8 (dk_at dksX6_flows_4 11 rfl rfl)
theorem dX6_flows_107 : decode cX6_flows 107 = .ok (.invokevirtual 108, 3) := dk_182 0 108 (dk_at dksX6_flows_4 13 rfl rfl)
theorem dX6_flows_110 : decode cX6_flows 110 = .ok (.ifCond .ne 8, 3) := dk_154 0 8 (dk_at dksX6_flows_4 16 rfl rfl)
theorem dX6_flows_113 : decode cX6_flows 113 = .ok (.iload 4, 2) := dk_21 4 (dk_at dksX6_flows_4 19 rfl rfl)
theorem dX6_flows_115 : decode cX6_flows 115 = .ok (.ifCond .ge 13, 3) := dk_156 0 13 (dk_at dksX6_flows_4 21 rfl rfl)
theorem dX6_flows_118 : decode cX6_flows 118 = .ok (.aload_n 0, 1) := dk_42 (dk_at dksX6_flows_5 0 rfl rfl)
theorem dX6_flows_119 : decode cX6_flows 119 = .ok (.getfield 37, 3) := dk_180 0 37 (dk_at dksX6_flows_5 1 rfl rfl)
theorem dX6_flows_122 : decode cX6_flows 122 = .ok (.iload_n 3, 1) := dk_29 (dk_at dksX6_flows_5 4 rfl rfl)
theorem dX6_flows_123 : decode cX6_flows 123 = .ok (.iconst 1, 1) := dk_4 (dk_at dksX6_flows_5 5 rfl rfl)
theorem dX6_flows_124 : decode cX6_flows 124 = .ok (.bastore, 1) := dk_84 (dk_at dksX6_flows_5 6 rfl rfl)
theorem dX6_flows_125 : decode cX6_flows 125 = .ok (.goto 49, 3) := dk_167 0 49 (dk_at dksX6_flows_5 7 rfl rfl)
theorem dX6_flows_128 : decode cX6_flows 128 = .ok (.aload_n 0, 1) := dk_42 (dk_at dksX6_flows_5 10 rfl rfl)
theorem dX6_flows_129 : decode cX6_flows 129 = .ok (.getfield 33, 3) := dk_180 0 33 (dk_at dksX6_flows_5 11 rfl rfl)
theorem dX6_flows_132 : decode cX6_flows 132 = .ok (.iload_n 3, 1) := dk_29 (dk_at dksX6_flows_5 14 rfl rfl)
theorem dX6_flows_133 : decode cX6_flows 133 = .ok (.dup2, 1) := dk_92 (dk_at dksX6_flows_5 15 rfl rfl)
theorem dX6_flows_134 : decode cX6_flows 134 = .ok (.laload, 1) := dk_47 (dk_at dksX6_flows_5 16 rfl rfl)
theorem dX6_flows_135 : decode cX6_flows 135 = .ok (.aload_n 0, 1) := dk_42 (dk_at dksX6_flows_5 17 rfl rfl)
theorem dX6_flows_136 : decode cX6_flows 136 = .ok (.getfield 33, 3) := dk_180 0 33 (dk_at dksX6_flows_5 18 rfl rfl)
theorem dX6_flows_139 : decode cX6_flows 139 = .ok (.iload 4, 2) := dk_21 4 (dk_at dksX6_flows_5 21 rfl rfl)
theorem dX6_flows_141 : decode cX6_flows 141 = .ok (.laload, 1) := dk_47 (dk_at dksX6_flows_5 23 rfl rfl)
theorem dX6_flows_142 : decode cX6_flows 142 = .ok (.lor, 1) := dk_129 (dk_at dksX6_flows_6 0 rfl rfl)
theorem dX6_flows_143 : decode cX6_flows 143 = .ok (.lastore, 1) := dk_80 (dk_at dksX6_flows_6 1 rfl rfl)
theorem dX6_flows_144 : decode cX6_flows 144 = .ok (.aload_n 0, 1) := dk_42 (dk_at dksX6_flows_6 2 rfl rfl)
theorem dX6_flows_145 : decode cX6_flows 145 = .ok (.getfield 37, 3) := dk_180 0 37 (dk_at dksX6_flows_6 3 rfl rfl)
theorem dX6_flows_148 : decode cX6_flows 148 = .ok (.iload_n 3, 1) := dk_29 (dk_at dksX6_flows_6 6 rfl rfl)
theorem dX6_flows_149 : decode cX6_flows 149 = .ok (.aload_n 0, 1) := dk_42 (dk_at dksX6_flows_6 7 rfl rfl)
theorem dX6_flows_150 : decode cX6_flows 150 = .ok (.getfield 37, 3) := dk_180 0 37 (dk_at dksX6_flows_6 8 rfl rfl)
theorem dX6_flows_153 : decode cX6_flows 153 = .ok (.iload_n 3, 1) := dk_29 (dk_at dksX6_flows_6 11 rfl rfl)
theorem dX6_flows_154 : decode cX6_flows 154 = .ok (.baload, 1) := dk_51 (dk_at dksX6_flows_6 12 rfl rfl)
theorem dX6_flows_155 : decode cX6_flows 155 = .ok (.ifCond .ne 13, 3) := dk_154 0 13 (dk_at dksX6_flows_6 13 rfl rfl)
theorem dX6_flows_158 : decode cX6_flows 158 = .ok (.aload_n 0, 1) := dk_42 (dk_at dksX6_flows_6 16 rfl rfl)
theorem dX6_flows_159 : decode cX6_flows 159 = .ok (.getfield 37, 3) := dk_180 0 37 (dk_at dksX6_flows_6 17 rfl rfl)
theorem dX6_flows_162 : decode cX6_flows 162 = .ok (.iload 4, 2) := dk_21 4 (dk_at dksX6_flows_6 20 rfl rfl)
theorem dX6_flows_164 : decode cX6_flows 164 = .ok (.baload, 1) := dk_51 (dk_at dksX6_flows_6 22 rfl rfl)
theorem dX6_flows_165 : decode cX6_flows 165 = .ok (.ifCond .eq 7, 3) := dk_153 0 7 (dk_at dksX6_flows_7 0 rfl rfl)
theorem dX6_flows_168 : decode cX6_flows 168 = .ok (.iconst 1, 1) := dk_4 (dk_at dksX6_flows_7 3 rfl rfl)
theorem dX6_flows_169 : decode cX6_flows 169 = .ok (.goto 4, 3) := dk_167 0 4 (dk_at dksX6_flows_7 4 rfl rfl)
theorem dX6_flows_172 : decode cX6_flows 172 = .ok (.iconst 0, 1) := dk_3 (dk_at dksX6_flows_7 7 rfl rfl)
theorem dX6_flows_173 : decode cX6_flows 173 = .ok (.bastore, 1) := dk_84 (dk_at dksX6_flows_7 8 rfl rfl)
theorem dX6_flows_174 : decode cX6_flows 174 = .ok (.iinc 2 1, 3) := dk_132 2 1 (dk_at dksX6_flows_7 9 rfl rfl)
theorem dX6_flows_177 : decode cX6_flows 177 = .ok (.goto (-139), 3) := dk_167 255 117 (dk_at dksX6_flows_7 12 rfl rfl)
theorem dX6_flows_180 : decode cX6_flows 180 = .ok (.iinc 1 1, 3) := dk_132 1 1 (dk_at dksX6_flows_7 15 rfl rfl)
theorem dX6_flows_183 : decode cX6_flows 183 = .ok (.goto (-153), 3) := dk_167 255 103 (dk_at dksX6_flows_7 18 rfl rfl)
theorem dX6_flows_186 : decode cX6_flows 186 = .ok (.iconst 0, 1) := dk_3 (dk_at dksX6_flows_7 21 rfl rfl)
theorem dX6_flows_187 : decode cX6_flows 187 = .ok (.istore_n 1, 1) := dk_60 (dk_at dksX6_flows_7 22 rfl rfl)
theorem dX6_flows_188 : decode cX6_flows 188 = .ok (.iload_n 1, 1) := dk_27 (dk_at dksX6_flows_7 23 rfl rfl)
theorem dX6_flows_189 : decode cX6_flows 189 = .ok (.aload_n 0, 1) := dk_42 (dk_at dksX6_flows_8 0 rfl rfl)
theorem dX6_flows_190 : decode cX6_flows 190 = .ok (.invokevirtual 112, 3) := dk_182 0 112 (dk_at dksX6_flows_8 1 rfl rfl)
theorem dX6_flows_193 : decode cX6_flows 193 = .ok (.if_icmp .ge 55, 3) := dk_162 0 55 (dk_at dksX6_flows_8 4 rfl rfl)
theorem dX6_flows_196 : decode cX6_flows 196 = .ok (.aload_n 0, 1) := dk_42 (dk_at dksX6_flows_8 7 rfl rfl)
theorem dX6_flows_197 : decode cX6_flows 197 = .ok (.getfield 41, 3) := dk_180 0 41 (dk_at dksX6_flows_8 8 rfl rfl)
theorem dX6_flows_200 : decode cX6_flows 200 = .ok (.iload_n 1, 1) := dk_27 (dk_at dksX6_flows_8 11 rfl rfl)
theorem dX6_flows_201 : decode cX6_flows 201 = .ok (.aload_n 0, 1) := dk_42 (dk_at dksX6_flows_8 12 rfl rfl)
theorem dX6_flows_202 : decode cX6_flows 202 = .ok (.iload_n 1, 1) := dk_27 (dk_at dksX6_flows_8 13 rfl rfl)
theorem dX6_flows_203 : decode cX6_flows 203 = .ok (.invokevirtual 237, 3) := dk_182 0 237 (dk_at dksX6_flows_8 14 rfl rfl)
theorem dX6_flows_206 : decode cX6_flows 206 = .ok (.ifCond .eq 11, 3) := dk_153 0 11 (dk_at dksX6_flows_8 17 rfl rfl)
theorem dX6_flows_209 : decode cX6_flows 209 = .ok (.aload_n 0, 1) := dk_42 (dk_at dksX6_flows_8 20 rfl rfl)
theorem dX6_flows_210 : decode cX6_flows 210 = .ok (.iload_n 1, 1) := dk_27 (dk_at dksX6_flows_8 21 rfl rfl)
theorem dX6_flows_211 : decode cX6_flows 211 = .ok (.invokevirtual 240, 3) := dk_182 0 240 (dk_at dksX6_flows_9 0 rfl rfl)
theorem dX6_flows_214 : decode cX6_flows 214 = .ok (.goto 4, 3) := dk_167 0 4 (dk_at dksX6_flows_9 3 rfl rfl)
theorem dX6_flows_217 : decode cX6_flows 217 = .ok (.lconst 0, 1) := dk_9 (dk_at dksX6_flows_9 6 rfl rfl)
theorem dX6_flows_218 : decode cX6_flows 218 = .ok (.lastore, 1) := dk_80 (dk_at dksX6_flows_9 7 rfl rfl)
theorem dX6_flows_219 : decode cX6_flows 219 = .ok (.aload_n 0, 1) := dk_42 (dk_at dksX6_flows_9 8 rfl rfl)
theorem dX6_flows_220 : decode cX6_flows 220 = .ok (.getfield 44, 3) := dk_180 0 44 (dk_at dksX6_flows_9 9 rfl rfl)
theorem dX6_flows_223 : decode cX6_flows 223 = .ok (.iload_n 1, 1) := dk_27 (dk_at dksX6_flows_9 12 rfl rfl)
theorem dX6_flows_224 : decode cX6_flows 224 = .ok (.aload_n 0, 1) := dk_42 (dk_at dksX6_flows_9 13 rfl rfl)
theorem dX6_flows_225 : decode cX6_flows 225 = .ok (.iload_n 1, 1) := dk_27 (dk_at dksX6_flows_9 14 rfl rfl)
theorem dX6_flows_226 : decode cX6_flows 226 = .ok (.invokevirtual 237, 3) := dk_182 0 237 (dk_at dksX6_flows_9 15 rfl rfl)
theorem dX6_flows_229 : decode cX6_flows 229 = .ok (.ifCond .eq 11, 3) := dk_153 0 11 (dk_at dksX6_flows_9 18 rfl rfl)
theorem dX6_flows_232 : decode cX6_flows 232 = .ok (.aload_n 0, 1) := dk_42 (dk_at dksX6_flows_9 21 rfl rfl)
theorem dX6_flows_233 : decode cX6_flows 233 = .ok (.iload_n 1, 1) := dk_27 (dk_at dksX6_flows_9 22 rfl rfl)
theorem dX6_flows_234 : decode cX6_flows 234 = .ok (.invokevirtual 244, 3) := dk_182 0 244 (dk_at dksX6_flows_10 0 rfl rfl)
theorem dX6_flows_237 : decode cX6_flows 237 = .ok (.goto 4, 3) := dk_167 0 4 (dk_at dksX6_flows_10 3 rfl rfl)
theorem dX6_flows_240 : decode cX6_flows 240 = .ok (.lconst 0, 1) := dk_9 (dk_at dksX6_flows_10 6 rfl rfl)
theorem dX6_flows_241 : decode cX6_flows 241 = .ok (.lastore, 1) := dk_80 (dk_at dksX6_flows_10 7 rfl rfl)
theorem dX6_flows_242 : decode cX6_flows 242 = .ok (.iinc 1 1, 3) := dk_132 1 1 (dk_at dksX6_flows_10 8 rfl rfl)
theorem dX6_flows_245 : decode cX6_flows 245 = .ok (.goto (-57), 3) := dk_167 255 199 (dk_at dksX6_flows_10 11 rfl rfl)
theorem dX6_flows_248 : decode cX6_flows 248 = .ok (.return_, 1) := dk_177 (dk_at dksX6_flows_10 14 rfl rfl)
def dkwX6_byKind_1 : List UInt8 := [182, 0, 254, 173]
abbrev dktX6_byKind_1 : List UInt8 := dkwX6_byKind_1 ++ []
def dkwX6_byKind_0 : List UInt8 := [42, 27, 182, 0, 120, 16, 7, 160, 0, 10, 42, 182, 0, 250, 167, 0, 13, 42, 42, 27, 6, 182, 0, 108]
abbrev dktX6_byKind_0 : List UInt8 := dkwX6_byKind_0 ++ dktX6_byKind_1
theorem dksX6_byKind_0 : cX6_byKind.data.toList.drop 0 = dktX6_byKind_0 := by decide +kernel
theorem dksX6_byKind_1 : cX6_byKind.data.toList.drop 24 = dktX6_byKind_1 := dk_seg dksX6_byKind_0 24 rfl rfl
theorem dX6_byKind_0 : decode cX6_byKind 0 = .ok (.aload_n 0, 1) := dk_42 (dk_at dksX6_byKind_0 0 rfl rfl)
theorem dX6_byKind_1 : decode cX6_byKind 1 = .ok (.iload_n 1, 1) := dk_27 (dk_at dksX6_byKind_0 1 rfl rfl)
theorem dX6_byKind_2 : decode cX6_byKind 2 = .ok (.invokevirtual 120, 3) := dk_182 0 120 (dk_at dksX6_byKind_0 2 rfl rfl)
theorem dX6_byKind_5 : decode cX6_byKind 5 = .ok (.bipush 7, 2) := dk_16 7 (dk_at dksX6_byKind_0 5 rfl rfl)
theorem dX6_byKind_7 : decode cX6_byKind 7 = .ok (.if_icmp .ne 10, 3) := dk_160 0 10 (dk_at dksX6_byKind_0 7 rfl rfl)
theorem dX6_byKind_10 : decode cX6_byKind 10 = .ok (.aload_n 0, 1) := dk_42 (dk_at dksX6_byKind_0 10 rfl rfl)
theorem dX6_byKind_11 : decode cX6_byKind 11 = .ok (.invokevirtual 250, 3) := dk_182 0 250 (dk_at dksX6_byKind_0 11 rfl rfl)
theorem dX6_byKind_14 : decode cX6_byKind 14 = .ok (.goto 13, 3) := dk_167 0 13 (dk_at dksX6_byKind_0 14 rfl rfl)
theorem dX6_byKind_17 : decode cX6_byKind 17 = .ok (.aload_n 0, 1) := dk_42 (dk_at dksX6_byKind_0 17 rfl rfl)
theorem dX6_byKind_18 : decode cX6_byKind 18 = .ok (.aload_n 0, 1) := dk_42 (dk_at dksX6_byKind_0 18 rfl rfl)
theorem dX6_byKind_19 : decode cX6_byKind 19 = .ok (.iload_n 1, 1) := dk_27 (dk_at dksX6_byKind_0 19 rfl rfl)
theorem dX6_byKind_20 : decode cX6_byKind 20 = .ok (.iconst 3, 1) := dk_6 (dk_at dksX6_byKind_0 20 rfl rfl)
theorem dX6_byKind_21 : decode cX6_byKind 21 = .ok (.invokevirtual 108, 3) := dk_182 0 108 (dk_at dksX6_byKind_0 21 rfl rfl)
theorem dX6_byKind_24 : decode cX6_byKind 24 = .ok (.invokevirtual 254, 3) := dk_182 0 254 (dk_at dksX6_byKind_1 0 rfl rfl)
theorem dX6_byKind_27 : decode cX6_byKind 27 = .ok (.lreturn, 1) := dk_173 (dk_at dksX6_byKind_1 3 rfl rfl)
def dkwX6_behind_1 : List UInt8 := [29, 4, 96, 121, 167, 0, 4, 9, 129, 64, 132, 3, 1, 167, 255, 223, 31, 173]
abbrev dktX6_behind_1 : List UInt8 := dkwX6_behind_1 ++ []
def dkwX6_behind_0 : List UInt8 := [9, 64, 3, 62, 29, 4, 96, 42, 182, 0, 112, 162, 0, 29, 31, 42, 29, 182, 0, 247, 153, 0, 11, 10]
abbrev dktX6_behind_0 : List UInt8 := dkwX6_behind_0 ++ dktX6_behind_1
theorem dksX6_behind_0 : cX6_behind.data.toList.drop 0 = dktX6_behind_0 := by decide +kernel
theorem dksX6_behind_1 : cX6_behind.data.toList.drop 24 = dktX6_behind_1 := dk_seg dksX6_behind_0 24 rfl rfl
theorem dX6_behind_0 : decode cX6_behind 0 = .ok (.lconst 0, 1) := dk_9 (dk_at dksX6_behind_0 0 rfl rfl)
theorem dX6_behind_1 : decode cX6_behind 1 = .ok (.lstore_n 1, 1) := dk_64 (dk_at dksX6_behind_0 1 rfl rfl)
theorem dX6_behind_2 : decode cX6_behind 2 = .ok (.iconst 0, 1) := dk_3 (dk_at dksX6_behind_0 2 rfl rfl)
theorem dX6_behind_3 : decode cX6_behind 3 = .ok (.istore_n 3, 1) := dk_62 (dk_at dksX6_behind_0 3 rfl rfl)
theorem dX6_behind_4 : decode cX6_behind 4 = .ok (.iload_n 3, 1) := dk_29 (dk_at dksX6_behind_0 4 rfl rfl)
theorem dX6_behind_5 : decode cX6_behind 5 = .ok (.iconst 1, 1) := dk_4 (dk_at dksX6_behind_0 5 rfl rfl)
theorem dX6_behind_6 : decode cX6_behind 6 = .ok (.iadd, 1) := dk_96 (dk_at dksX6_behind_0 6 rfl rfl)
theorem dX6_behind_7 : decode cX6_behind 7 = .ok (.aload_n 0, 1) := dk_42 (dk_at dksX6_behind_0 7 rfl rfl)
theorem dX6_behind_8 : decode cX6_behind 8 = .ok (.invokevirtual 112, 3) := dk_182 0 112 (dk_at dksX6_behind_0 8 rfl rfl)
theorem dX6_behind_11 : decode cX6_behind 11 = .ok (.if_icmp .ge 29, 3) := dk_162 0 29 (dk_at dksX6_behind_0 11 rfl rfl)
theorem dX6_behind_14 : decode cX6_behind 14 = .ok (.lload_n 1, 1) := dk_31 (dk_at dksX6_behind_0 14 rfl rfl)
theorem dX6_behind_15 : decode cX6_behind 15 = .ok (.aload_n 0, 1) := dk_42 (dk_at dksX6_behind_0 15 rfl rfl)
theorem dX6_behind_16 : decode cX6_behind 16 = .ok (.iload_n 3, 1) := dk_29 (dk_at dksX6_behind_0 16 rfl rfl)
theorem dX6_behind_17 : decode cX6_behind 17 = .ok (.invokevirtual 247, 3) := dk_182 0 247 (dk_at dksX6_behind_0 17 rfl rfl)
theorem dX6_behind_20 : decode cX6_behind 20 = .ok (.ifCond .eq 11, 3) := dk_153 0 11 (dk_at dksX6_behind_0 20 rfl rfl)
theorem dX6_behind_23 : decode cX6_behind 23 = .ok (.lconst 1, 1) := dk_10 (dk_at dksX6_behind_0 23 rfl rfl)
theorem dX6_behind_24 : decode cX6_behind 24 = .ok (.iload_n 3, 1) := dk_29 (dk_at dksX6_behind_1 0 rfl rfl)
theorem dX6_behind_25 : decode cX6_behind 25 = .ok (.iconst 1, 1) := dk_4 (dk_at dksX6_behind_1 1 rfl rfl)
theorem dX6_behind_26 : decode cX6_behind 26 = .ok (.iadd, 1) := dk_96 (dk_at dksX6_behind_1 2 rfl rfl)
theorem dX6_behind_27 : decode cX6_behind 27 = .ok (.lshl, 1) := dk_121 (dk_at dksX6_behind_1 3 rfl rfl)
theorem dX6_behind_28 : decode cX6_behind 28 = .ok (.goto 4, 3) := dk_167 0 4 (dk_at dksX6_behind_1 4 rfl rfl)
theorem dX6_behind_31 : decode cX6_behind 31 = .ok (.lconst 0, 1) := dk_9 (dk_at dksX6_behind_1 7 rfl rfl)
theorem dX6_behind_32 : decode cX6_behind 32 = .ok (.lor, 1) := dk_129 (dk_at dksX6_behind_1 8 rfl rfl)
theorem dX6_behind_33 : decode cX6_behind 33 = .ok (.lstore_n 1, 1) := dk_64 (dk_at dksX6_behind_1 9 rfl rfl)
theorem dX6_behind_34 : decode cX6_behind 34 = .ok (.iinc 3 1, 3) := dk_132 3 1 (dk_at dksX6_behind_1 10 rfl rfl)
theorem dX6_behind_37 : decode cX6_behind 37 = .ok (.goto (-33), 3) := dk_167 255 223 (dk_at dksX6_behind_1 13 rfl rfl)
theorem dX6_behind_40 : decode cX6_behind 40 = .ok (.lload_n 1, 1) := dk_31 (dk_at dksX6_behind_1 16 rfl rfl)
theorem dX6_behind_41 : decode cX6_behind 41 = .ok (.lreturn, 1) := dk_173 (dk_at dksX6_behind_1 17 rfl rfl)
def dkwX6_isCall_1 : List UInt8 := [172]
abbrev dktX6_isCall_1 : List UInt8 := dkwX6_isCall_1 ++ []
def dkwX6_isCall_0 : List UInt8 := [42, 27, 182, 0, 120, 8, 159, 0, 13, 42, 27, 182, 0, 120, 16, 6, 160, 0, 7, 4, 167, 0, 4, 3]
abbrev dktX6_isCall_0 : List UInt8 := dkwX6_isCall_0 ++ dktX6_isCall_1
theorem dksX6_isCall_0 : cX6_isCall.data.toList.drop 0 = dktX6_isCall_0 := by decide +kernel
theorem dksX6_isCall_1 : cX6_isCall.data.toList.drop 24 = dktX6_isCall_1 := dk_seg dksX6_isCall_0 24 rfl rfl
theorem dX6_isCall_0 : decode cX6_isCall 0 = .ok (.aload_n 0, 1) := dk_42 (dk_at dksX6_isCall_0 0 rfl rfl)
theorem dX6_isCall_1 : decode cX6_isCall 1 = .ok (.iload_n 1, 1) := dk_27 (dk_at dksX6_isCall_0 1 rfl rfl)
theorem dX6_isCall_2 : decode cX6_isCall 2 = .ok (.invokevirtual 120, 3) := dk_182 0 120 (dk_at dksX6_isCall_0 2 rfl rfl)
theorem dX6_isCall_5 : decode cX6_isCall 5 = .ok (.iconst 5, 1) := dk_8 (dk_at dksX6_isCall_0 5 rfl rfl)
theorem dX6_isCall_6 : decode cX6_isCall 6 = .ok (.if_icmp .eq 13, 3) := dk_159 0 13 (dk_at dksX6_isCall_0 6 rfl rfl)
theorem dX6_isCall_9 : decode cX6_isCall 9 = .ok (.aload_n 0, 1) := dk_42 (dk_at dksX6_isCall_0 9 rfl rfl)
theorem dX6_isCall_10 : decode cX6_isCall 10 = .ok (.iload_n 1, 1) := dk_27 (dk_at dksX6_isCall_0 10 rfl rfl)
theorem dX6_isCall_11 : decode cX6_isCall 11 = .ok (.invokevirtual 120, 3) := dk_182 0 120 (dk_at dksX6_isCall_0 11 rfl rfl)
theorem dX6_isCall_14 : decode cX6_isCall 14 = .ok (.bipush 6, 2) := dk_16 6 (dk_at dksX6_isCall_0 14 rfl rfl)
theorem dX6_isCall_16 : decode cX6_isCall 16 = .ok (.if_icmp .ne 7, 3) := dk_160 0 7 (dk_at dksX6_isCall_0 16 rfl rfl)
theorem dX6_isCall_19 : decode cX6_isCall 19 = .ok (.iconst 1, 1) := dk_4 (dk_at dksX6_isCall_0 19 rfl rfl)
theorem dX6_isCall_20 : decode cX6_isCall 20 = .ok (.goto 4, 3) := dk_167 0 4 (dk_at dksX6_isCall_0 20 rfl rfl)
theorem dX6_isCall_23 : decode cX6_isCall 23 = .ok (.iconst 0, 1) := dk_3 (dk_at dksX6_isCall_0 23 rfl rfl)
theorem dX6_isCall_24 : decode cX6_isCall 24 = .ok (.ireturn, 1) := dk_172 (dk_at dksX6_isCall_1 0 rfl rfl)
def dkwX6_ofKind_1 : List UInt8 := [160, 0, 10, 10, 21, 4, 121, 167, 0, 4, 9, 129, 65, 132, 4, 1, 167, 255, 222, 32, 173]
abbrev dktX6_ofKind_1 : List UInt8 := dkwX6_ofKind_1 ++ []
def dkwX6_ofKind_0 : List UInt8 := [9, 65, 3, 54, 4, 21, 4, 42, 182, 0, 112, 162, 0, 31, 32, 42, 21, 4, 4, 182, 0, 108, 27]
abbrev dktX6_ofKind_0 : List UInt8 := dkwX6_ofKind_0 ++ dktX6_ofKind_1
theorem dksX6_ofKind_0 : cX6_ofKind.data.toList.drop 0 = dktX6_ofKind_0 := by decide +kernel
theorem dksX6_ofKind_1 : cX6_ofKind.data.toList.drop 23 = dktX6_ofKind_1 := dk_seg dksX6_ofKind_0 23 rfl rfl
theorem dX6_ofKind_0 : decode cX6_ofKind 0 = .ok (.lconst 0, 1) := dk_9 (dk_at dksX6_ofKind_0 0 rfl rfl)
theorem dX6_ofKind_1 : decode cX6_ofKind 1 = .ok (.lstore_n 2, 1) := dk_65 (dk_at dksX6_ofKind_0 1 rfl rfl)
theorem dX6_ofKind_2 : decode cX6_ofKind 2 = .ok (.iconst 0, 1) := dk_3 (dk_at dksX6_ofKind_0 2 rfl rfl)
theorem dX6_ofKind_3 : decode cX6_ofKind 3 = .ok (.istore 4, 2) := dk_54 4 (dk_at dksX6_ofKind_0 3 rfl rfl)
theorem dX6_ofKind_5 : decode cX6_ofKind 5 = .ok (.iload 4, 2) := dk_21 4 (dk_at dksX6_ofKind_0 5 rfl rfl)
theorem dX6_ofKind_7 : decode cX6_ofKind 7 = .ok (.aload_n 0, 1) := dk_42 (dk_at dksX6_ofKind_0 7 rfl rfl)
theorem dX6_ofKind_8 : decode cX6_ofKind 8 = .ok (.invokevirtual 112, 3) := dk_182 0 112 (dk_at dksX6_ofKind_0 8 rfl rfl)
theorem dX6_ofKind_11 : decode cX6_ofKind 11 = .ok (.if_icmp .ge 31, 3) := dk_162 0 31 (dk_at dksX6_ofKind_0 11 rfl rfl)
theorem dX6_ofKind_14 : decode cX6_ofKind 14 = .ok (.lload_n 2, 1) := dk_32 (dk_at dksX6_ofKind_0 14 rfl rfl)
theorem dX6_ofKind_15 : decode cX6_ofKind 15 = .ok (.aload_n 0, 1) := dk_42 (dk_at dksX6_ofKind_0 15 rfl rfl)
theorem dX6_ofKind_16 : decode cX6_ofKind 16 = .ok (.iload 4, 2) := dk_21 4 (dk_at dksX6_ofKind_0 16 rfl rfl)
theorem dX6_ofKind_18 : decode cX6_ofKind 18 = .ok (.iconst 1, 1) := dk_4 (dk_at dksX6_ofKind_0 18 rfl rfl)
theorem dX6_ofKind_19 : decode cX6_ofKind 19 = .ok (.invokevirtual 108, 3) := dk_182 0 108 (dk_at dksX6_ofKind_0 19 rfl rfl)
theorem dX6_ofKind_22 : decode cX6_ofKind 22 = .ok (.iload_n 1, 1) := dk_27 (dk_at dksX6_ofKind_0 22 rfl rfl)
theorem dX6_ofKind_23 : decode cX6_ofKind 23 = .ok (.if_icmp .ne 10, 3) := dk_160 0 10 (dk_at dksX6_ofKind_1 0 rfl rfl)
theorem dX6_ofKind_26 : decode cX6_ofKind 26 = .ok (.lconst 1, 1) := dk_10 (dk_at dksX6_ofKind_1 3 rfl rfl)
theorem dX6_ofKind_27 : decode cX6_ofKind 27 = .ok (.iload 4, 2) := dk_21 4 (dk_at dksX6_ofKind_1 4 rfl rfl)
theorem dX6_ofKind_29 : decode cX6_ofKind 29 = .ok (.lshl, 1) := dk_121 (dk_at dksX6_ofKind_1 6 rfl rfl)
theorem dX6_ofKind_30 : decode cX6_ofKind 30 = .ok (.goto 4, 3) := dk_167 0 4 (dk_at dksX6_ofKind_1 7 rfl rfl)
theorem dX6_ofKind_33 : decode cX6_ofKind 33 = .ok (.lconst 0, 1) := dk_9 (dk_at dksX6_ofKind_1 10 rfl rfl)
theorem dX6_ofKind_34 : decode cX6_ofKind 34 = .ok (.lor, 1) := dk_129 (dk_at dksX6_ofKind_1 11 rfl rfl)
theorem dX6_ofKind_35 : decode cX6_ofKind 35 = .ok (.lstore_n 2, 1) := dk_65 (dk_at dksX6_ofKind_1 12 rfl rfl)
theorem dX6_ofKind_36 : decode cX6_ofKind 36 = .ok (.iinc 4 1, 3) := dk_132 4 1 (dk_at dksX6_ofKind_1 13 rfl rfl)
theorem dX6_ofKind_39 : decode cX6_ofKind 39 = .ok (.goto (-34), 3) := dk_167 255 222 (dk_at dksX6_ofKind_1 16 rfl rfl)
theorem dX6_ofKind_42 : decode cX6_ofKind 42 = .ok (.lload_n 2, 1) := dk_32 (dk_at dksX6_ofKind_1 19 rfl rfl)
theorem dX6_ofKind_43 : decode cX6_ofKind 43 = .ok (.lreturn, 1) := dk_173 (dk_at dksX6_ofKind_1 20 rfl rfl)
