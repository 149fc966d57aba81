set_option maxRecDepth 100000
def dkwX6_init_8 : List UInt8 := [42, 180, 0, 31, 4, 4, 184, 0, 86, 177]
abbrev dktX6_init_8 : List UInt8 := dkwX6_init_8 ++ []
def dkwX6_init_7 : List UInt8 := [42, 16, 46, 188, 10, 181, 0, 76, 42, 16, 24, 188, 4, 181, 0, 79, 42, 16, 12, 188, 10, 181, 0, 83]
abbrev dktX6_init_7 : List UInt8 := dkwX6_init_7 ++ dktX6_init_8
def dkwX6_init_6 : List UInt8 := [42, 16, 35, 188, 11, 181, 0, 67, 42, 16, 35, 188, 11, 181, 0, 70, 42, 16, 35, 188, 10, 181, 0, 73]
abbrev dktX6_init_6 : List UInt8 := dkwX6_init_6 ++ dktX6_init_7
def dkwX6_init_5 : List UInt8 := [42, 16, 12, 188, 11, 181, 0, 58, 42, 16, 12, 188, 10, 181, 0, 61, 42, 16, 35, 188, 11, 181, 0, 64]
abbrev dktX6_init_5 : List UInt8 := dkwX6_init_5 ++ dktX6_init_6
def dkwX6_init_4 : List UInt8 := [17, 0, 156, 188, 11, 181, 0, 48, 42, 16, 12, 188, 10, 181, 0, 52, 42, 16, 12, 188, 11, 181, 0, 55]
abbrev dktX6_init_4 : List UInt8 := dkwX6_init_4 ++ dktX6_init_5
def dkwX6_init_3 : List UInt8 := [42, 5, 188, 10, 181, 0, 38, 42, 17, 1, 244, 188, 10, 181, 0, 41, 42, 2, 181, 0, 44, 42]
abbrev dktX6_init_3 : List UInt8 := dkwX6_init_3 ++ dktX6_init_4
def dkwX6_init_2 : List UInt8 := [16, 7, 18, 23, 83, 181, 0, 25, 42, 16, 46, 188, 10, 181, 0, 31, 42, 16, 46, 188, 10, 181, 0, 35]
abbrev dktX6_init_2 : List UInt8 := dkwX6_init_2 ++ dktX6_init_3
def dkwX6_init_1 : List UInt8 := [83, 89, 6, 18, 15, 83, 89, 7, 18, 17, 83, 89, 8, 18, 19, 83, 89, 16, 6, 18, 21, 83, 89]
abbrev dktX6_init_1 : List UInt8 := dkwX6_init_1 ++ dktX6_init_2
def dkwX6_init_0 : List UInt8 := [42, 183, 0, 1, 42, 16, 8, 189, 0, 7, 89, 3, 18, 9, 83, 89, 4, 18, 11, 83, 89, 5, 18, 13]
abbrev dktX6_init_0 : List UInt8 := dkwX6_init_0 ++ dktX6_init_1
theorem dksX6_init_0 : cX6_init.data.toList.drop 0 = dktX6_init_0 := by decide +kernel
theorem dksX6_init_1 : cX6_init.data.toList.drop 24 = dktX6_init_1 := dk_seg dksX6_init_0 24 rfl rfl
theorem dksX6_init_2 : cX6_init.data.toList.drop 47 = dktX6_init_2 := dk_seg dksX6_init_1 23 rfl rfl
theorem dksX6_init_3 : cX6_init.data.toList.drop 71 = dktX6_init_3 := dk_seg dksX6_init_2 24 rfl rfl
theorem dksX6_init_4 : cX6_init.data.toList.drop 93 = dktX6_init_4 := dk_seg dksX6_init_3 22 rfl rfl
theorem dksX6_init_5 : cX6_init.data.toList.drop 117 = dktX6_init_5 := dk_seg dksX6_init_4 24 rfl rfl
theorem dksX6_init_6 : cX6_init.data.toList.drop 141 = dktX6_init_6 := dk_seg dksX6_init_5 24 rfl rfl
theorem dksX6_init_7 : cX6_init.data.toList.drop 165 = dktX6_init_7 := dk_seg dksX6_init_6 24 rfl rfl
theorem dksX6_init_8 : cX6_init.data.toList.drop 189 = dktX6_init_8 := dk_seg dksX6_init_7 24 rfl rfl
theorem dX6_init_0 : decode cX6_init 0 = .ok (.aload_n 0, 1) := dk_42 (dk_at dksX6_init_0 0 rfl rfl)
theorem dX6_init_1 : decode cX6_init 1 = .ok (.invokespecial 1, 3) := dk_183 0 1 (dk_at dksX6_init_0 1 rfl rfl)
theorem dX6_init_4 : decode cX6_init 4 = .ok (.aload_n 0, 1) := dk_42 (dk_at dksX6_init_0 4 rfl rfl)
theorem dX6_init_5 : decode cX6_init 5 = .ok (.bipush 8, 2) := dk_16 8 (dk_at dksX6_init_0 5 rfl rfl)
theorem dX6_init_7 : decode cX6_init 7 = .ok (.anewarray 7, 3) := dk_189 0 7 (dk_at dksX6_init_0 7 rfl rfl)
theorem dX6_init_10 : decode cX6_init 10 = .ok (.dup, 1) := dk_89 (dk_at dksX6_init_0 10 rfl rfl)
theorem dX6_init_11 : decode cX6_init 11 = .ok (.iconst 0, 1) := dk_3 (dk_at dksX6_init_0 11 rfl rfl)
theorem dX6_init_12 : decode cX6_init 12 = .ok (.ldc 9, 2) := dk_18 9 (dk_at dksX6_init_0 12 rfl rfl)
theorem dX6_init_14 : decode cX6_init 14 = .ok (.aastore, 1) := dk_83 (dk_at dksX6_init_0 14 rfl rfl)
theorem dX6_init_15 : decode cX6_init 15 = .ok (.dup, 1) := dk_89 (dk_at dksX6_init_0 15 rfl rfl)
theorem dX6_init_16 : decode cX6_init 16 = .ok (.iconst 1, 1) := dk_4 (dk_at dksX6_init_0 16 rfl rfl)
theorem dX6_init_17 : decode cX6_init 17 = .ok (.ldc 11, 2) := dk_18 11 (dk_at dksX6_init_0 17 rfl rfl)
theorem dX6_init_19 : decode cX6_init 19 = .ok (.aastore, 1) := dk_83 (dk_at dksX6_init_0 19 rfl rfl)
theorem dX6_init_20 : decode cX6_init 20 = .ok (.dup, 1) := dk_89 (dk_at dksX6_init_0 20 rfl rfl)
theorem dX6_init_21 : decode cX6_init 21 = .ok (.iconst 2, 1) := dk_5 (dk_at dksX6_init_0 21 rfl rfl)
theorem dX6_init_22 : decode cX6_init 22 = .ok (.ldc 13, 2) := dk_18 13 (dk_at dksX6_init_0 22 rfl rfl)
theorem dX6_init_24 : decode cX6_init 24 = .ok (.aastore, 1) := dk_83 (dk_at dksX6_init_1 0 rfl rfl)
theorem dX6_init_25 : decode cX6_init 25 = .ok (.dup, 1) := dk_89 (dk_at dksX6_init_1 1 rfl rfl)
theorem dX6_init_26 : decode cX6_init 26 = .ok (.iconst 3, 1) := dk_6 (dk_at dksX6_init_1 2 rfl rfl)
theorem dX6_init_27 : decode cX6_init 27 = .ok (.ldc 15, 2) := dk_18 15 (dk_at dksX6_init_1 3 rfl rfl)
theorem dX6_init_29 : decode cX6_init 29 = .ok (.aastore, 1) := dk_83 (dk_at dksX6_init_1 5 rfl rfl)
theorem dX6_init_30 : decode cX6_init 30 = .ok (.dup, 1) := dk_89 (dk_at dksX6_init_1 6 rfl rfl)
theorem dX6_init_31 : decode cX6_init 31 = .ok (.iconst 4, 1) := dk_7 (dk_at dksX6_init_1 7 rfl rfl)
theorem dX6_init_32 : decode cX6_init 32 = .ok (.ldc 17, 2) := dk_18 17 (dk_at dksX6_init_1 8 rfl rfl)
theorem dX6_init_34 : decode cX6_init 34 = .ok (.aastore, 1) := dk_83 (dk_at dksX6_init_1 10 rfl rfl)
theorem dX6_init_35 : decode cX6_init 35 = .ok (.dup, 1) := dk_89 (dk_at dksX6_init_1 11 rfl rfl)
theorem dX6_init_36 : decode cX6_init 36 = .ok (.iconst 5, 1) := dk_8 (dk_at dksX6_init_1 12 rfl rfl)
theorem dX6_init_37 : decode cX6_init 37 = .ok (.ldc 19, 2) := dk_18 19 (dk_at dksX6_init_1 13 rfl rfl)
theorem dX6_init_39 : decode cX6_init 39 = .ok (.aastore, 1) := dk_83 (dk_at dksX6_init_1 15 rfl rfl)
theorem dX6_init_40 : decode cX6_init 40 = .ok (.dup, 1) := dk_89 (dk_at dksX6_init_1 16 rfl rfl)
theorem dX6_init_41 : decode cX6_init 41 = .ok (.bipush 6, 2) := dk_16 6 (dk_at dksX6_init_1 17 rfl rfl)
theorem dX6_init_43 : decode cX6_init 43 = .ok (.ldc 21, 2) := dk_18 21 (dk_at dksX6_init_1 19 rfl rfl)
theorem dX6_init_45 : decode cX6_init 45 = .ok (.aastore, 1) := dk_83 (dk_at dksX6_init_1 21 rfl rfl)
theorem dX6_init_46 : decode cX6_init 46 = .ok (.dup, 1) := dk_89 (dk_at dksX6_init_1 22 rfl rfl)
theorem dX6_init_47 : decode cX6_init 47 = .ok (.bipush 7, 2) := dk_16 7 (dk_at dksX6_init_2 0 rfl rfl)
theorem dX6_init_49 : decode cX6_init 49 = .ok (.ldc 23, 2) := dk_18 23 (dk_at dksX6_init_2 2 rfl rfl)
theorem dX6_init_51 : decode cX6_init 51 = .ok (.aastore, 1) := dk_83 (dk_at dksX6_init_2 4 rfl rfl)
theorem dX6_init_52 : decode cX6_init 52 = .ok (.putfield 25, 3) := dk_181 0 25 (dk_at dksX6_init_2 5 rfl rfl)
theorem dX6_init_55 : decode cX6_init 55 = .ok (.aload_n 0, 1) := dk_42 (dk_at dksX6_init_2 8 rfl rfl)
theorem dX6_init_56 : decode cX6_init 56 = .ok (.bipush 46, 2) := dk_16 46 (dk_at dksX6_init_2 9 rfl rfl)
theorem dX6_init_58 : decode cX6_init 58 = .ok (.newarray .int, 2) := dk_188_10 (dk_at dksX6_init_2 11 rfl rfl)
theorem dX6_init_60 : decode cX6_init 60 = .ok (.putfield 31, 3) := dk_181 0 31 (dk_at dksX6_init_2 13 rfl rfl)
theorem dX6_init_63 : decode cX6_init 63 = .ok (.aload_n 0, 1) := dk_42 (dk_at dksX6_init_2 16 rfl rfl)
theorem dX6_init_64 : decode cX6_init 64 = .ok (.bipush 46, 2) := dk_16 46 (dk_at dksX6_init_2 17 rfl rfl)
theorem dX6_init_66 : decode cX6_init 66 = .ok (.newarray .int, 2) := dk_188_10 (dk_at dksX6_init_2 19 rfl rfl)
theorem dX6_init_68 : decode cX6_init 68 = .ok (.putfield 35, 3) := dk_181 0 35 (dk_at dksX6_init_2 21 rfl rfl)
theorem dX6_init_71 : decode cX6_init 71 = .ok (.aload_n 0, 1) := dk_42 (dk_at dksX6_init_3 0 rfl rfl)
theorem dX6_init_72 : decode cX6_init 72 = .ok (.iconst 2, 1) := dk_5 (dk_at dksX6_init_3 1 rfl rfl)
theorem dX6_init_73 : decode cX6_init 73 = .ok (.newarray .int, 2) := dk_188_10 (dk_at dksX6_init_3 2 rfl rfl)
theorem dX6_init_75 : decode cX6_init 75 = .ok (.putfield 38, 3) := dk_181 0 38 (dk_at dksX6_init_3 4 rfl rfl)
theorem dX6_init_78 : decode cX6_init 78 = .ok (.aload_n 0, 1) := dk_42 (dk_at dksX6_init_3 7 rfl rfl)
theorem dX6_init_79 : decode cX6_init 79 = .ok (.sipush 500, 3) := dk_17 1 244 (dk_at dksX6_init_3 8 rfl rfl)
theorem dX6_init_82 : decode cX6_init 82 = .ok (.newarray .int, 2) := dk_188_10 (dk_at dksX6_init_3 11 rfl rfl)
theorem dX6_init_84 : decode cX6_init 84 = .ok (.putfield 41, 3) := dk_181 0 41 (dk_at dksX6_init_3 13 rfl rfl)
theorem dX6_init_87 : decode cX6_init 87 = .ok (.aload_n 0, 1) := dk_42 (dk_at dksX6_init_3 16 rfl rfl)
theorem dX6_init_88 : decode cX6_init 88 = .ok (.iconst (-1), 1) := dk_2 (dk_at dksX6_init_3 17 rfl rfl)
theorem dX6_init_89 : decode cX6_init 89 = .ok (.putfield 44, 3) := dk_181 0 44 (dk_at dksX6_init_3 18 rfl rfl)
theorem dX6_init_92 : decode cX6_init 92 = .ok (.aload_n 0, 1) := dk_42 (dk_at dksX6_init_3 21 rfl rfl)
theorem dX6_init_93 : decode cX6_init 93 = .ok (.sipush 156, 3) := dk_17 0 156 (dk_at dksX6_init_4 0 rfl rfl)
theorem dX6_init_96 : decode cX6_init 96 = .ok (.newarray .long, 2) := dk_188_11 (dk_at dksX6_init_4 3 rfl rfl)
theorem dX6_init_98 : decode cX6_init 98 = .ok (.putfield 48, 3) := dk_181 0 48 (dk_at dksX6_init_4 5 rfl rfl)
theorem dX6_init_101 : decode cX6_init 101 = .ok (.aload_n 0, 1) := dk_42 (dk_at dksX6_init_4 8 rfl rfl)
theorem dX6_init_102 : decode cX6_init 102 = .ok (.bipush 12, 2) := dk_16 12 (dk_at dksX6_init_4 9 rfl rfl)
theorem dX6_init_104 : decode cX6_init 104 = .ok (.newarray .int, 2) := dk_188_10 (dk_at dksX6_init_4 11 rfl rfl)
theorem dX6_init_106 : decode cX6_init 106 = .ok (.putfield 52, 3) := dk_181 0 52 (dk_at dksX6_init_4 13 rfl rfl)
theorem dX6_init_109 : decode cX6_init 109 = .ok (.aload_n 0, 1) := dk_42 (dk_at dksX6_init_4 16 rfl rfl)
theorem dX6_init_110 : decode cX6_init 110 = .ok (.bipush 12, 2) := dk_16 12 (dk_at dksX6_init_4 17 rfl rfl)
theorem dX6_init_112 : decode cX6_init 112 = .ok (.newarray .long, 2) := dk_188_11 (dk_at dksX6_init_4 19 rfl rfl)
theorem dX6_init_114 : decode cX6_init 114 = .ok (.putfield 55, 3) := dk_181 0 55 (dk_at dksX6_init_4 21 rfl rfl)
theorem dX6_init_117 : decode cX6_init 117 = .ok (.aload_n 0, 1) := dk_42 (dk_at dksX6_init_5 0 rfl rfl)
theorem dX6_init_118 : decode cX6_init 118 = .ok (.bipush 12, 2) := dk_16 12 (dk_at dksX6_init_5 1 rfl rfl)
theorem dX6_init_120 : decode cX6_init 120 = .ok (.newarray .long, 2) := dk_188_11 (dk_at dksX6_init_5 3 rfl rfl)
theorem dX6_init_122 : decode cX6_init 122 = .ok (.putfield 58, 3) := dk_181 0 58 (dk_at dksX6_init_5 5 rfl rfl)
theorem dX6_init_125 : decode cX6_init 125 = .ok (.aload_n 0, 1) := dk_42 (dk_at dksX6_init_5 8 rfl rfl)
theorem dX6_init_126 : decode cX6_init 126 = .ok (.bipush 12, 2) := dk_16 12 (dk_at dksX6_init_5 9 rfl rfl)
theorem dX6_init_128 : decode cX6_init 128 = .ok (.newarray .int, 2) := dk_188_10 (dk_at dksX6_init_5 11 rfl rfl)
theorem dX6_init_130 : decode cX6_init 130 = .ok (.putfield 61, 3) := dk_181 0 61 (dk_at dksX6_init_5 13 rfl rfl)
theorem dX6_init_133 : decode cX6_init 133 = .ok (.aload_n 0, 1) := dk_42 (dk_at dksX6_init_5 16 rfl rfl)
theorem dX6_init_134 : decode cX6_init 134 = .ok (.bipush 35, 2) := dk_16 35 (dk_at dksX6_init_5 17 rfl rfl)
theorem dX6_init_136 : decode cX6_init 136 = .ok (.newarray .long, 2) := dk_188_11 (dk_at dksX6_init_5 19 rfl rfl)
theorem dX6_init_138 : decode cX6_init 138 = .ok (.putfield 64, 3) := dk_181 0 64 (dk_at dksX6_init_5 21 rfl rfl)
theorem dX6_init_141 : decode cX6_init 141 = .ok (.aload_n 0, 1) := dk_42 (dk_at dksX6_init_6 0 rfl rfl)
theorem dX6_init_142 : decode cX6_init 142 = .ok (.bipush 35, 2) := dk_16 35 (dk_at dksX6_init_6 1 rfl rfl)
theorem dX6_init_144 : decode cX6_init 144 = .ok (.newarray .long, 2) := dk_188_11 (dk_at dksX6_init_6 3 rfl rfl)
theorem dX6_init_146 : decode cX6_init 146 = .ok (.putfield 67, 3) := dk_181 0 67 (dk_at dksX6_init_6 5 rfl rfl)
theorem dX6_init_149 : decode cX6_init 149 = .ok (.aload_n 0, 1) := dk_42 (dk_at dksX6_init_6 8 rfl rfl)
theorem dX6_init_150 : decode cX6_init 150 = .ok (.bipush 35, 2) := dk_16 35 (dk_at dksX6_init_6 9 rfl rfl)
theorem dX6_init_152 : decode cX6_init 152 = .ok (.newarray .long, 2) := dk_188_11 (dk_at dksX6_init_6 11 rfl rfl)
theorem dX6_init_154 : decode cX6_init 154 = .ok (.putfield 70, 3) := dk_181 0 70 (dk_at dksX6_init_6 13 rfl rfl)
theorem dX6_init_157 : decode cX6_init 157 = .ok (.aload_n 0, 1) := dk_42 (dk_at dksX6_init_6 16 rfl rfl)
theorem dX6_init_158 : decode cX6_init 158 = .ok (.bipush 35, 2) := dk_16 35 (dk_at dksX6_init_6 17 rfl rfl)
theorem dX6_init_160 : decode cX6_init 160 = .ok (.newarray .int, 2) := dk_188_10 (dk_at dksX6_init_6 19 rfl rfl)
theorem dX6_init_162 : decode cX6_init 162 = .ok (.putfield 73, 3) := dk_181 0 73 (dk_at dksX6_init_6 21 rfl rfl)
theorem dX6_init_165 : decode cX6_init 165 = .ok (.aload_n 0, 1) := dk_42 (dk_at dksX6_init_7 0 rfl rfl)
theorem dX6_init_166 : decode cX6_init 166 = .ok (.bipush 46, 2) := dk_16 46 (dk_at dksX6_init_7 1 rfl rfl)
theorem dX6_init_168 : decode cX6_init 168 = .ok (.newarray .int, 2) := dk_188_10 (dk_at dksX6_init_7 3 rfl rfl)
theorem dX6_init_170 : decode cX6_init 170 = .ok (.putfield 76, 3) := dk_181 0 76 (dk_at dksX6_init_7 5 rfl rfl)
theorem dX6_init_173 : decode cX6_init 173 = .ok (.aload_n 0, 1) := dk_42 (dk_at dksX6_init_7 8 rfl rfl)
theorem dX6_init_174 : decode cX6_init 174 = .ok (.bipush 24, 2) := dk_16 24 (dk_at dksX6_init_7 9 rfl rfl)
theorem dX6_init_176 : decode cX6_init 176 = .ok (.newarray .boolean, 2) := dk_188_4 (dk_at dksX6_init_7 11 rfl rfl)
theorem dX6_init_178 : decode cX6_init 178 = .ok (.putfield 79, 3) := dk_181 0 79 (dk_at dksX6_init_7 13 rfl rfl)
theorem dX6_init_181 : decode cX6_init 181 = .ok (.aload_n 0, 1) := dk_42 (dk_at dksX6_init_7 16 rfl rfl)
theorem dX6_init_182 : decode cX6_init 182 = .ok (.bipush 12, 2) := dk_16 12 (dk_at dksX6_init_7 17 rfl rfl)
theorem dX6_init_184 : decode cX6_init 184 = .ok (.newarray .int, 2) := dk_188_10 (dk_at dksX6_init_7 19 rfl rfl)
theorem dX6_init_186 : decode cX6_init 186 = .ok (.putfield 83, 3) := dk_181 0 83 (dk_at dksX6_init_7 21 rfl rfl)
theorem dX6_init_189 : decode cX6_init 189 = .ok (.aload_n 0, 1) := dk_42 (dk_at dksX6_init_8 0 rfl rfl)
theorem dX6_init_190 : decode cX6_init 190 = .ok (.getfield 31, 3) := dk_180 0 31 (dk_at dksX6_init_8 1 rfl rfl)
theorem dX6_init_193 : decode cX6_init 193 = .ok (.iconst 1, 1) := dk_4 (dk_at dksX6_init_8 4 rfl rfl)
theorem dX6_init_194 : decode cX6_init 194 = .ok (.iconst 1, 1) := dk_4 (dk_at dksX6_init_8 5 rfl rfl)
theorem dX6_init_195 : decode cX6_init 195 = .ok (.invokestatic 86, 3) := dk_184 0 86 (dk_at dksX6_init_8 6 rfl rfl)
theorem dX6_init_198 : decode cX6_init 198 = .ok (.return_, 1) := dk_177 (dk_at dksX6_init_8 9 rfl rfl)
def dkwX6_empties_2 : List UInt8 := [42, 16, 7, 4, 79, 42, 16, 8, 4, 79, 42, 16, 9, 16, 99, 79, 177]
abbrev dktX6_empties_2 : List UInt8 := dkwX6_empties_2 ++ []
def dkwX6_empties_1 : List UInt8 := [28, 79, 42, 6, 4, 79, 42, 7, 16, 10, 79, 42, 8, 17, 39, 15, 79, 42, 16, 6, 17, 39, 15, 79]
abbrev dktX6_empties_1 : List UInt8 := dkwX6_empties_1 ++ dktX6_empties_2
def dkwX6_empties_0 : List UInt8 := [3, 62, 29, 16, 46, 162, 0, 13, 42, 29, 3, 79, 132, 3, 1, 167, 255, 243, 42, 3, 27, 79, 42, 4]
abbrev dktX6_empties_0 : List UInt8 := dkwX6_empties_0 ++ dktX6_empties_1
theorem dksX6_empties_0 : cX6_empties.data.toList.drop 0 = dktX6_empties_0 := by decide +kernel
theorem dksX6_empties_1 : cX6_empties.data.toList.drop 24 = dktX6_empties_1 := dk_seg dksX6_empties_0 24 rfl rfl
theorem dksX6_empties_2 : cX6_empties.data.toList.drop 48 = dktX6_empties_2 := dk_seg dksX6_empties_1 24 rfl rfl
theorem dX6_empties_0 : decode cX6_empties 0 = .ok (.iconst 0, 1) := dk_3 (dk_at dksX6_empties_0 0 rfl rfl)
theorem dX6_empties_1 : decode cX6_empties 1 = .ok (.istore_n 3, 1) := dk_62 (dk_at dksX6_empties_0 1 rfl rfl)
theorem dX6_empties_2 : decode cX6_empties 2 = .ok (.iload_n 3, 1) := dk_29 (dk_at dksX6_empties_0 2 rfl rfl)
theorem dX6_empties_3 : decode cX6_empties 3 = .ok (.bipush 46, 2) := dk_16 46 (dk_at dksX6_empties_0 3 rfl rfl)
theorem dX6_empties_5 : decode cX6_empties 5 = .ok (.if_icmp .ge 13, 3) := dk_162 0 13 (dk_at dksX6_empties_0 5 rfl rfl)
theorem dX6_empties_8 : decode cX6_empties 8 = .ok (.aload_n 0, 1) := dk_42 (dk_at dksX6_empties_0 8 rfl rfl)
theorem dX6_empties_9 : decode cX6_empties 9 = .ok (.iload_n 3, 1) := dk_29 (dk_at dksX6_empties_0 9 rfl rfl)
theorem dX6_empties_10 : decode cX6_empties 10 = .ok (.iconst 0, 1) := dk_3 (dk_at dksX6_empties_0 10 rfl rfl)
theorem dX6_empties_11 : decode cX6_empties 11 = .ok (.iastore, 1) := dk_79 (dk_at dksX6_empties_0 11 rfl rfl)
theorem dX6_empties_12 : decode cX6_empties 12 = .ok (.iinc 3 1, 3) := dk_132 3 1 (dk_at dksX6_empties_0 12 rfl rfl)
theorem dX6_empties_15 : decode cX6_empties 15 = .ok (.goto (-13), 3) := dk_167 255 243 (dk_at dksX6_empties_0 15 rfl rfl)
theorem dX6_empties_18 : decode cX6_empties 18 = .ok (.aload_n 0, 1) := dk_42 (dk_at dksX6_empties_0 18 rfl rfl)
theorem dX6_empties_19 : decode cX6_empties 19 = .ok (.iconst 0, 1) := dk_3 (dk_at dksX6_empties_0 19 rfl rfl)
theorem dX6_empties_20 : decode cX6_empties 20 = .ok (.iload_n 1, 1) := dk_27 (dk_at dksX6_empties_0 20 rfl rfl)
theorem dX6_empties_21 : decode cX6_empties 21 = .ok (.iastore, 1) := dk_79 (dk_at dksX6_empties_0 21 rfl rfl)
theorem dX6_empties_22 : decode cX6_empties 22 = .ok (.aload_n 0, 1) := dk_42 (dk_at dksX6_empties_0 22 rfl rfl)
theorem dX6_empties_23 : decode cX6_empties 23 = .ok (.iconst 1, 1) := dk_4 (dk_at dksX6_empties_0 23 rfl rfl)
theorem dX6_empties_24 : decode cX6_empties 24 = .ok (.iload_n 2, 1) := dk_28 (dk_at dksX6_empties_1 0 rfl rfl)
theorem dX6_empties_25 : decode cX6_empties 25 = .ok (.iastore, 1) := dk_79 (dk_at dksX6_empties_1 1 rfl rfl)
theorem dX6_empties_26 : decode cX6_empties 26 = .ok (.aload_n 0, 1) := dk_42 (dk_at dksX6_empties_1 2 rfl rfl)
theorem dX6_empties_27 : decode cX6_empties 27 = .ok (.iconst 3, 1) := dk_6 (dk_at dksX6_empties_1 3 rfl rfl)
theorem dX6_empties_28 : decode cX6_empties 28 = .ok (.iconst 1, 1) := dk_4 (dk_at dksX6_empties_1 4 rfl rfl)
theorem dX6_empties_29 : decode cX6_empties 29 = .ok (.iastore, 1) := dk_79 (dk_at dksX6_empties_1 5 rfl rfl)
theorem dX6_empties_30 : decode cX6_empties 30 = .ok (.aload_n 0, 1) := dk_42 (dk_at dksX6_empties_1 6 rfl rfl)
theorem dX6_empties_31 : decode cX6_empties 31 = .ok (.iconst 4, 1) := dk_7 (dk_at dksX6_empties_1 7 rfl rfl)
theorem dX6_empties_32 : decode cX6_empties 32 = .ok (.bipush 10, 2) := dk_16 10 (dk_at dksX6_empties_1 8 rfl rfl)
theorem dX6_empties_34 : decode cX6_empties 34 = .ok (.iastore, 1) := dk_79 (dk_at dksX6_empties_1 10 rfl rfl)
theorem dX6_empties_35 : decode cX6_empties 35 = .ok (.aload_n 0, 1) := dk_42 (dk_at dksX6_empties_1 11 rfl rfl)
theorem dX6_empties_36 : decode cX6_empties 36 = .ok (.iconst 5, 1) := dk_8 (dk_at dksX6_empties_1 12 rfl rfl)
theorem dX6_empties_37 : decode cX6_empties 37 = .ok (.sipush 9999, 3) := dk_17 39 15 (dk_at dksX6_empties_1 13 rfl rfl)
theorem dX6_empties_40 : decode cX6_empties 40 = .ok (.iastore, 1) := dk_79 (dk_at dksX6_empties_1 16 rfl rfl)
theorem dX6_empties_41 : decode cX6_empties 41 = .ok (.aload_n 0, 1) := dk_42 (dk_at dksX6_empties_1 17 rfl rfl)
theorem dX6_empties_42 : decode cX6_empties 42 = .ok (.bipush 6, 2) := dk_16 6 (dk_at dksX6_empties_1 18 rfl rfl)
theorem dX6_empties_44 : decode cX6_empties 44 = .ok (.sipush 9999, 3) := dk_17 39 15 (dk_at dksX6_empties_1 20 rfl rfl)
theorem dX6_empties_47 : decode cX6_empties 47 = .ok (.iastore, 1) := dk_79 (dk_at dksX6_empties_1 23 rfl rfl)
theorem dX6_empties_48 : decode cX6_empties 48 = .ok (.aload_n 0, 1) := dk_42 (dk_at dksX6_empties_2 0 rfl rfl)
theorem dX6_empties_49 : decode cX6_empties 49 = .ok (.bipush 7, 2) := dk_16 7 (dk_at dksX6_empties_2 1 rfl rfl)
theorem dX6_empties_51 : decode cX6_empties 51 = .ok (.iconst 1, 1) := dk_4 (dk_at dksX6_empties_2 3 rfl rfl)
theorem dX6_empties_52 : decode cX6_empties 52 = .ok (.iastore, 1) := dk_79 (dk_at dksX6_empties_2 4 rfl rfl)
theorem dX6_empties_53 : decode cX6_empties 53 = .ok (.aload_n 0, 1) := dk_42 (dk_at dksX6_empties_2 5 rfl rfl)
theorem dX6_empties_54 : decode cX6_empties 54 = .ok (.bipush 8, 2) := dk_16 8 (dk_at dksX6_empties_2 6 rfl rfl)
theorem dX6_empties_56 : decode cX6_empties 56 = .ok (.iconst 1, 1) := dk_4 (dk_at dksX6_empties_2 8 rfl rfl)
theorem dX6_empties_57 : decode cX6_empties 57 = .ok (.iastore, 1) := dk_79 (dk_at dksX6_empties_2 9 rfl rfl)
theorem dX6_empties_58 : decode cX6_empties 58 = .ok (.aload_n 0, 1) := dk_42 (dk_at dksX6_empties_2 10 rfl rfl)
theorem dX6_empties_59 : decode cX6_empties 59 = .ok (.bipush 9, 2) := dk_16 9 (dk_at dksX6_empties_2 11 rfl rfl)
theorem dX6_empties_61 : decode cX6_empties 61 = .ok (.bipush 99, 2) := dk_16 99 (dk_at dksX6_empties_2 13 rfl rfl)
theorem dX6_empties_63 : decode cX6_empties 63 = .ok (.iastore, 1) := dk_79 (dk_at dksX6_empties_2 15 rfl rfl)
theorem dX6_empties_64 : decode cX6_empties 64 = .ok (.return_, 1) := dk_177 (dk_at dksX6_empties_2 16 rfl rfl)
theorem dX6_thrown_0 : decode cX6_thrown 0 = .ok (.aload_n 0, 1) := by decide +kernel
theorem dX6_thrown_1 : decode cX6_thrown 1 = .ok (.getfield 90, 3) := by decide +kernel
theorem dX6_thrown_4 : decode cX6_thrown 4 = .ok (.ireturn, 1) := by decide +kernel
def dkwX6_feed_5 : List UInt8 := [132, 6, 1, 167, 255, 162, 42, 180, 0, 93, 172]
abbrev dktX6_feed_5 : List UInt8 := dkwX6_feed_5 ++ []
def dkwX6_feed_4 : List UInt8 := [16, 8, 21, 6, 7, 112, 104, 100, 122, 17, 0, 255, 126, 79, 42, 89, 180, 0, 93, 4, 96, 181, 0, 93]
abbrev dktX6_feed_4 : List UInt8 := dkwX6_feed_4 ++ dktX6_feed_5
def dkwX6_feed_3 : List UInt8 := [162, 0, 8, 21, 4, 167, 0, 5, 21, 5, 54, 7, 42, 180, 0, 41, 42, 180, 0, 93, 21, 7, 16, 24]
abbrev dktX6_feed_3 : List UInt8 := dkwX6_feed_3 ++ dktX6_feed_4
def dkwX6_feed_2 : List UInt8 := [162, 0, 7, 28, 167, 0, 28, 21, 6, 16, 12, 162, 0, 7, 29, 167, 0, 17, 21, 6, 16, 16]
abbrev dktX6_feed_2 : List UInt8 := dkwX6_feed_2 ++ dktX6_feed_3
def dkwX6_feed_1 : List UInt8 := [54, 6, 21, 6, 16, 20, 162, 0, 93, 21, 6, 7, 162, 0, 7, 27, 167, 0, 39, 21, 6, 16, 8]
abbrev dktX6_feed_1 : List UInt8 := dkwX6_feed_1 ++ dktX6_feed_2
def dkwX6_feed_0 : List UInt8 := [42, 3, 181, 0, 90, 42, 180, 0, 93, 16, 20, 96, 17, 1, 244, 164, 0, 8, 42, 182, 0, 96, 172, 3]
abbrev dktX6_feed_0 : List UInt8 := dkwX6_feed_0 ++ dktX6_feed_1
theorem dksX6_feed_0 : cX6_feed.data.toList.drop 0 = dktX6_feed_0 := by decide +kernel
theorem dksX6_feed_1 : cX6_feed.data.toList.drop 24 = dktX6_feed_1 := dk_seg dksX6_feed_0 24 rfl rfl
theorem dksX6_feed_2 : cX6_feed.data.toList.drop 47 = dktX6_feed_2 := dk_seg dksX6_feed_1 23 rfl rfl
theorem dksX6_feed_3 : cX6_feed.data.toList.drop 69 = dktX6_feed_3 := dk_seg dksX6_feed_2 22 rfl rfl
theorem dksX6_feed_4 : cX6_feed.data.toList.drop 93 = dktX6_feed_4 := dk_seg dksX6_feed_3 24 rfl rfl
theorem dksX6_feed_5 : cX6_feed.data.toList.drop 117 = dktX6_feed_5 := dk_seg dksX6_feed_4 24 rfl rfl
theorem dX6_feed_0 : decode cX6_feed 0 = .ok (.aload_n 0, 1) := dk_42 (dk_at dksX6_feed_0 0 rfl rfl)
theorem dX6_feed_1 : decode cX6_feed 1 = .ok (.iconst 0, 1) := dk_3 (dk_at dksX6_feed_0 1 rfl rfl)
theorem dX6_feed_2 : decode cX6_feed 2 = .ok (.putfield 90, 3) := dk_181 0 90 (dk_at dksX6_feed_0 2 rfl rfl)
theorem dX6_feed_5 : decode cX6_feed 5 = .ok (.aload_n 0, 1) := dk_42 (dk_at dksX6_feed_0 5 rfl rfl)
theorem dX6_feed_6 : decode cX6_feed 6 = .ok (.getfield 93, 3) := dk_180 0 93 (dk_at dksX6_feed_0 6 rfl rfl)
theorem dX6_feed_9 : decode cX6_feed 9 = .ok (.bipush 20, 2) := dk_16 20 (dk_at dksX6_feed_0 9 rfl rfl)
theorem dX6_feed_11 : decode cX6_feed 11 = .ok (.iadd, 1) := dk_96 (dk_at dksX6_feed_0 11 rfl rfl)
theorem dX6_feed_12 : decode cX6_feed 12 = .ok (.sipush 500, 3) := dk_17 1 244 (dk_at dksX6_feed_0 12 rfl rfl)
theorem dX6_feed_15 : decode cX6_feed 15 = .ok (.if_icmp .le 8, 3) := dk_164 0 8 (dk_at dksX6_feed_0 15 rfl rfl)
theorem dX6_feed_18 : decode cX6_feed 18 = .ok (.aload_n 0, 1) := dk_42 (dk_at dksX6_feed_0 18 rfl rfl)
theorem dX6_feed_19 : decode cX6_feed 19 = .ok (.invokevirtual 96, 3) := dk_182 0 96 (dk_at dksX6_feed_0 19 rfl rfl)
theorem dX6_feed_22 : decode cX6_feed 22 = .ok (.ireturn, 1) := dk_172 (dk_at dksX6_feed_0 22 rfl rfl)
theorem dX6_feed_23 : decode cX6_feed 23 = .ok (.iconst 0, 1) := dk_3 (dk_at dksX6_feed_0 23 rfl rfl)
theorem dX6_feed_24 : decode cX6_feed 24 = .ok (.istore 6, 2) := dk_54 6 (dk_at dksX6_feed_1 0 rfl rfl)
theorem dX6_feed_26 : decode cX6_feed 26 = .ok (.iload 6, 2) := dk_21 6 (dk_at dksX6_feed_1 2 rfl rfl)
theorem dX6_feed_28 : decode cX6_feed 28 = .ok (.bipush 20, 2) := dk_16 20 (dk_at dksX6_feed_1 4 rfl rfl)
theorem dX6_feed_30 : decode cX6_feed 30 = .ok (.if_icmp .ge 93, 3) := dk_162 0 93 (dk_at dksX6_feed_1 6 rfl rfl)
theorem dX6_feed_33 : decode cX6_feed 33 = .ok (.iload 6, 2) := dk_21 6 (dk_at dksX6_feed_1 9 rfl rfl)
theorem dX6_feed_35 : decode cX6_feed 35 = .ok (.iconst 4, 1) := dk_7 (dk_at dksX6_feed_1 11 rfl rfl)
theorem dX6_feed_36 : decode cX6_feed 36 = .ok (.if_icmp .ge 7, 3) := dk_162 0 7 (dk_at dksX6_feed_1 12 rfl rfl)
theorem dX6_feed_39 : decode cX6_feed 39 = .ok (.iload_n 1, 1) := dk_27 (dk_at dksX6_feed_1 15 rfl rfl)
theorem dX6_feed_40 : decode cX6_feed 40 = .ok (.goto 39, 3) := dk_167 0 39 (dk_at dksX6_feed_1 16 rfl rfl)
theorem dX6_feed_43 : decode cX6_feed 43 = .ok (.iload 6, 2) := dk_21 6 (dk_at dksX6_feed_1 19 rfl rfl)
theorem dX6_feed_45 : decode cX6_feed 45 = .ok (.bipush 8, 2) := dk_16 8 (dk_at dksX6_feed_1 21 rfl rfl)
theorem dX6_feed_47 : decode cX6_feed 47 = .ok (.if_icmp .ge 7, 3) := dk_162 0 7 (dk_at dksX6_feed_2 0 rfl rfl)
theorem dX6_feed_50 : decode cX6_feed 50 = .ok (.iload_n 2, 1) := dk_28 (dk_at dksX6_feed_2 3 rfl rfl)
theorem dX6_feed_51 : decode cX6_feed 51 = .ok (.goto 28, 3) := dk_167 0 28 (dk_at dksX6_feed_2 4 rfl rfl)
theorem dX6_feed_54 : decode cX6_feed 54 = .ok (.iload 6, 2) := dk_21 6 (dk_at dksX6_feed_2 7 rfl rfl)
theorem dX6_feed_56 : decode cX6_feed 56 = .ok (.bipush 12, 2) := dk_16 12 (dk_at dksX6_feed_2 9 rfl rfl)
theorem dX6_feed_58 : decode cX6_feed 58 = .ok (.if_icmp .ge 7, 3) := dk_162 0 7 (dk_at dksX6_feed_2 11 rfl rfl)
theorem dX6_feed_61 : decode cX6_feed 61 = .ok (.iload_n 3, 1) := dk_29 (dk_at dksX6_feed_2 14 rfl rfl)
theorem dX6_feed_62 : decode cX6_feed 62 = .ok (.goto 17, 3) := dk_167 0 17 (dk_at dksX6_feed_2 15 rfl rfl)
theorem dX6_feed_65 : decode cX6_feed 65 = .ok (.iload 6, 2) := dk_21 6 (dk_at dksX6_feed_2 18 rfl rfl)
theorem dX6_feed_67 : decode cX6_feed 67 = .ok (.bipush 16, 2) := dk_16 16 (dk_at dksX6_feed_2 20 rfl rfl)
theorem dX6_feed_69 : decode cX6_feed 69 = .ok (.if_icmp .ge 8, 3) := dk_162 0 8 (dk_at dksX6_feed_3 0 rfl rfl)
theorem dX6_feed_72 : decode cX6_feed 72 = .ok (.iload 4, 2) := dk_21 4 (dk_at dksX6_feed_3 3 rfl rfl)
theorem dX6_feed_74 : decode cX6_feed 74 = .ok (.goto 5, 3) := dk_167 0 5 (dk_at dksX6_feed_3 5 rfl rfl)
theorem dX6_feed_77 : decode cX6_feed 77 = .ok (.iload 5, 2) := dk_21 5 (dk_at dksX6_feed_3 8 rfl rfl)
theorem dX6_feed_79 : decode cX6_feed 79 = .ok (.istore 7, 2) := dk_54 7 (dk_at dksX6_feed_3 10 rfl rfl)
theorem dX6_feed_81 : decode cX6_feed 81 = .ok (.aload_n 0, 1) := dk_42 (dk_at dksX6_feed_3 12 rfl rfl)
theorem dX6_feed_82 : decode cX6_feed 82 = .ok (.getfield 41, 3) := dk_180 0 41 (dk_at dksX6_feed_3 13 rfl rfl)
theorem dX6_feed_85 : decode cX6_feed 85 = .ok (.aload_n 0, 1) := dk_42 (dk_at dksX6_feed_3 16 rfl rfl)
theorem dX6_feed_86 : decode cX6_feed 86 = .ok (.getfield 93, 3) := dk_180 0 93 (dk_at dksX6_feed_3 17 rfl rfl)
theorem dX6_feed_89 : decode cX6_feed 89 = .ok (.iload 7, 2) := dk_21 7 (dk_at dksX6_feed_3 20 rfl rfl)
theorem dX6_feed_91 : decode cX6_feed 91 = .ok (.bipush 24, 2) := dk_16 24 (dk_at dksX6_feed_3 22 rfl rfl)
theorem dX6_feed_93 : decode cX6_feed 93 = .ok (.bipush 8, 2) := dk_16 8 (dk_at dksX6_feed_4 0 rfl rfl)
theorem dX6_feed_95 : decode cX6_feed 95 = .ok (.iload 6, 2) := dk_21 6 (dk_at dksX6_feed_4 2 rfl rfl)
theorem dX6_feed_97 : decode cX6_feed 97 = .ok (.iconst 4, 1) := dk_7 (dk_at dksX6_feed_4 4 rfl rfl)
theorem dX6_feed_98 : decode cX6_feed 98 = .ok (.irem, 1) := dk_112 (dk_at dksX6_feed_4 5 rfl rfl)
theorem dX6_feed_99 : decode cX6_feed 99 = .ok (.imul, 1) := dk_104 (dk_at dksX6_feed_4 6 rfl rfl)
theorem dX6_feed_100 : decode cX6_feed 100 = .ok (.isub, 1) := dk_100 (dk_at dksX6_feed_4 7 rfl rfl)
theorem dX6_feed_101 : decode cX6_feed 101 = .ok (.ishr, 1) := dk_122 (dk_at dksX6_feed_4 8 rfl rfl)
theorem dX6_feed_102 : decode cX6_feed 102 = .ok (.sipush 255, 3) := dk_17 0 255 (dk_at dksX6_feed_4 9 rfl rfl)
theorem dX6_feed_105 : decode cX6_feed 105 = .ok (.iand, 1) := dk_126 (dk_at dksX6_feed_4 12 rfl rfl)
theorem dX6_feed_106 : decode cX6_feed 106 = .ok (.iastore, 1) := dk_79 (dk_at dksX6_feed_4 13 rfl rfl)
theorem dX6_feed_107 : decode cX6_feed 107 = .ok (.aload_n 0, 1) := dk_42 (dk_at dksX6_feed_4 14 rfl rfl)
theorem dX6_feed_108 : decode cX6_feed 108 = .ok (.dup, 1) := dk_89 (dk_at dksX6_feed_4 15 rfl rfl)
theorem dX6_feed_109 : decode cX6_feed 109 = .ok (.getfield 93, 3) := dk_180 0 93 (dk_at dksX6_feed_4 16 rfl rfl)
theorem dX6_feed_112 : decode cX6_feed 112 = .ok (.iconst 1, 1) := dk_4 (dk_at dksX6_feed_4 19 rfl rfl)
theorem dX6_feed_113 : decode cX6_feed 113 = .ok (.iadd, 1) := dk_96 (dk_at dksX6_feed_4 20 rfl rfl)
theorem dX6_feed_114 : decode cX6_feed 114 = .ok (.putfield 93, 3) := dk_181 0 93 (dk_at dksX6_feed_4 21 rfl rfl)
theorem dX6_feed_117 : decode cX6_feed 117 = .ok (.iinc 6 1, 3) := dk_132 6 1 (dk_at dksX6_feed_5 0 rfl rfl)
theorem dX6_feed_120 : decode cX6_feed 120 = .ok (.goto (-94), 3) := dk_167 255 162 (dk_at dksX6_feed_5 3 rfl rfl)
theorem dX6_feed_123 : decode cX6_feed 123 = .ok (.aload_n 0, 1) := dk_42 (dk_at dksX6_feed_5 6 rfl rfl)
theorem dX6_feed_124 : decode cX6_feed 124 = .ok (.getfield 93, 3) := dk_180 0 93 (dk_at dksX6_feed_5 7 rfl rfl)
theorem dX6_feed_127 : decode cX6_feed 127 = .ok (.ireturn, 1) := dk_172 (dk_at dksX6_feed_5 10 rfl rfl)
def dkwX6_refuse_0 : List UInt8 := [42, 180, 0, 38, 4, 92, 46, 4, 96, 79, 2, 172]
abbrev dktX6_refuse_0 : List UInt8 := dkwX6_refuse_0 ++ []
theorem dksX6_refuse_0 : cX6_refuse.data.toList.drop 0 = dktX6_refuse_0 := by decide +kernel
theorem dX6_refuse_0 : decode cX6_refuse 0 = .ok (.aload_n 0, 1) := dk_42 (dk_at dksX6_refuse_0 0 rfl rfl)
theorem dX6_refuse_1 : decode cX6_refuse 1 = .ok (.getfield 38, 3) := dk_180 0 38 (dk_at dksX6_refuse_0 1 rfl rfl)
theorem dX6_refuse_4 : decode cX6_refuse 4 = .ok (.iconst 1, 1) := dk_4 (dk_at dksX6_refuse_0 4 rfl rfl)
theorem dX6_refuse_5 : decode cX6_refuse 5 = .ok (.dup2, 1) := dk_92 (dk_at dksX6_refuse_0 5 rfl rfl)
theorem dX6_refuse_6 : decode cX6_refuse 6 = .ok (.iaload, 1) := dk_46 (dk_at dksX6_refuse_0 6 rfl rfl)
theorem dX6_refuse_7 : decode cX6_refuse 7 = .ok (.iconst 1, 1) := dk_4 (dk_at dksX6_refuse_0 7 rfl rfl)
theorem dX6_refuse_8 : decode cX6_refuse 8 = .ok (.iadd, 1) := dk_96 (dk_at dksX6_refuse_0 8 rfl rfl)
theorem dX6_refuse_9 : decode cX6_refuse 9 = .ok (.iastore, 1) := dk_79 (dk_at dksX6_refuse_0 9 rfl rfl)
theorem dX6_refuse_10 : decode cX6_refuse 10 = .ok (.iconst (-1), 1) := dk_2 (dk_at dksX6_refuse_0 10 rfl rfl)
theorem dX6_refuse_11 : decode cX6_refuse 11 = .ok (.ireturn, 1) := dk_172 (dk_at dksX6_refuse_0 11 rfl rfl)
def dkwX6_mesh_7 : List UInt8 := [180, 0, 35, 21, 4, 46, 79, 132, 4, 1, 167, 255, 232, 3, 172]
abbrev dktX6_mesh_7 : List UInt8 := dkwX6_mesh_7 ++ []
def dkwX6_mesh_6 : List UInt8 := [79, 42, 180, 0, 136, 172, 3, 54, 4, 21, 4, 16, 46, 162, 0, 23, 42, 180, 0, 31, 21, 4, 42]
abbrev dktX6_mesh_6 : List UInt8 := dkwX6_mesh_6 ++ dktX6_mesh_7
def dkwX6_mesh_5 : List UInt8 := [42, 180, 0, 136, 153, 0, 26, 42, 42, 180, 0, 139, 181, 0, 44, 42, 180, 0, 38, 3, 92, 46, 4, 96]
abbrev dktX6_mesh_5 : List UInt8 := dkwX6_mesh_5 ++ dktX6_mesh_6
def dkwX6_mesh_4 : List UInt8 := [182, 0, 179, 42, 180, 0, 136, 154, 0, 17, 42, 180, 0, 113, 153, 0, 10, 42, 182, 0, 187, 167, 255, 238]
abbrev dktX6_mesh_4 : List UInt8 := dkwX6_mesh_4 ++ dktX6_mesh_5
def dkwX6_mesh_3 : List UInt8 := [7, 182, 0, 176, 61, 42, 4, 6, 182, 0, 176, 62, 42, 180, 0, 35, 28, 29, 184, 0, 86, 42]
abbrev dktX6_mesh_3 : List UInt8 := dkwX6_mesh_3 ++ dktX6_mesh_4
def dkwX6_mesh_2 : List UInt8 := [42, 182, 0, 153, 42, 18, 185, 182, 0, 149, 154, 0, 8, 42, 4, 182, 0, 156, 42, 182, 0, 163, 42, 4]
abbrev dktX6_mesh_2 : List UInt8 := dkwX6_mesh_2 ++ dktX6_mesh_3
def dkwX6_mesh_1 : List UInt8 := [3, 181, 0, 93, 42, 27, 181, 0, 100, 42, 3, 181, 0, 103, 42, 3, 181, 0, 136, 42, 2, 181, 0, 44]
abbrev dktX6_mesh_1 : List UInt8 := dkwX6_mesh_1 ++ dktX6_mesh_2
def dkwX6_mesh_0 : List UInt8 := [42, 3, 181, 0, 90, 27, 155, 0, 11, 27, 42, 180, 0, 93, 164, 0, 9, 42, 4, 182, 0, 182, 172, 42]
abbrev dktX6_mesh_0 : List UInt8 := dkwX6_mesh_0 ++ dktX6_mesh_1
theorem dksX6_mesh_0 : cX6_mesh.data.toList.drop 0 = dktX6_mesh_0 := by decide +kernel
theorem dksX6_mesh_1 : cX6_mesh.data.toList.drop 24 = dktX6_mesh_1 := dk_seg dksX6_mesh_0 24 rfl rfl
theorem dksX6_mesh_2 : cX6_mesh.data.toList.drop 48 = dktX6_mesh_2 := dk_seg dksX6_mesh_1 24 rfl rfl
theorem dksX6_mesh_3 : cX6_mesh.data.toList.drop 72 = dktX6_mesh_3 := dk_seg dksX6_mesh_2 24 rfl rfl
theorem dksX6_mesh_4 : cX6_mesh.data.toList.drop 94 = dktX6_mesh_4 := dk_seg dksX6_mesh_3 22 rfl rfl
theorem dksX6_mesh_5 : cX6_mesh.data.toList.drop 118 = dktX6_mesh_5 := dk_seg dksX6_mesh_4 24 rfl rfl
theorem dksX6_mesh_6 : cX6_mesh.data.toList.drop 142 = dktX6_mesh_6 := dk_seg dksX6_mesh_5 24 rfl rfl
theorem dksX6_mesh_7 : cX6_mesh.data.toList.drop 165 = dktX6_mesh_7 := dk_seg dksX6_mesh_6 23 rfl rfl
theorem dX6_mesh_0 : decode cX6_mesh 0 = .ok (.aload_n 0, 1) := dk_42 (dk_at dksX6_mesh_0 0 rfl rfl)
theorem dX6_mesh_1 : decode cX6_mesh 1 = .ok (.iconst 0, 1) := dk_3 (dk_at dksX6_mesh_0 1 rfl rfl)
theorem dX6_mesh_2 : decode cX6_mesh 2 = .ok (.putfield 90, 3) := dk_181 0 90 (dk_at dksX6_mesh_0 2 rfl rfl)
theorem dX6_mesh_5 : decode cX6_mesh 5 = .ok (.iload_n 1, 1) := dk_27 (dk_at dksX6_mesh_0 5 rfl rfl)
theorem dX6_mesh_6 : decode cX6_mesh 6 = .ok (.ifCond .lt 11, 3) := dk_155 0 11 (dk_at dksX6_mesh_0 6 rfl rfl)
theorem dX6_mesh_9 : decode cX6_mesh 9 = .ok (.iload_n 1, 1) := dk_27 (dk_at dksX6_mesh_0 9 rfl rfl)
theorem dX6_mesh_10 : decode cX6_mesh 10 = .ok (.aload_n 0, 1) := dk_42 (dk_at dksX6_mesh_0 10 rfl rfl)
theorem dX6_mesh_11 : decode cX6_mesh 11 = .ok (.getfield 93, 3) := dk_180 0 93 (dk_at dksX6_mesh_0 11 rfl rfl)
theorem dX6_mesh_14 : decode cX6_mesh 14 = .ok (.if_icmp .le 9, 3) := dk_164 0 9 (dk_at dksX6_mesh_0 14 rfl rfl)
theorem dX6_mesh_17 : decode cX6_mesh 17 = .ok (.aload_n 0, 1) := dk_42 (dk_at dksX6_mesh_0 17 rfl rfl)
theorem dX6_mesh_18 : decode cX6_mesh 18 = .ok (.iconst 1, 1) := dk_4 (dk_at dksX6_mesh_0 18 rfl rfl)
theorem dX6_mesh_19 : decode cX6_mesh 19 = .ok (.invokevirtual 182, 3) := dk_182 0 182 (dk_at dksX6_mesh_0 19 rfl rfl)
theorem dX6_mesh_22 : decode cX6_mesh 22 = .ok (.ireturn, 1) := dk_172 (dk_at dksX6_mesh_0 22 rfl rfl)
theorem dX6_mesh_23 : decode cX6_mesh 23 = .ok (.aload_n 0, 1) := dk_42 (dk_at dksX6_mesh_0 23 rfl rfl)
theorem dX6_mesh_24 : decode cX6_mesh 24 = .ok (.iconst 0, 1) := dk_3 (dk_at dksX6_mesh_1 0 rfl rfl)
theorem dX6_mesh_25 : decode cX6_mesh 25 = .ok (.putfield 93, 3) := dk_181 0 93 (dk_at dksX6_mesh_1 1 rfl rfl)
theorem dX6_mesh_28 : decode cX6_mesh 28 = .ok (.aload_n 0, 1) := dk_42 (dk_at dksX6_mesh_1 4 rfl rfl)
theorem dX6_mesh_29 : decode cX6_mesh 29 = .ok (.iload_n 1, 1) := dk_27 (dk_at dksX6_mesh_1 5 rfl rfl)
theorem dX6_mesh_30 : decode cX6_mesh 30 = .ok (.putfield 100, 3) := dk_181 0 100 (dk_at dksX6_mesh_1 6 rfl rfl)
theorem dX6_mesh_33 : decode cX6_mesh 33 = .ok (.aload_n 0, 1) := dk_42 (dk_at dksX6_mesh_1 9 rfl rfl)
theorem dX6_mesh_34 : decode cX6_mesh 34 = .ok (.iconst 0, 1) := dk_3 (dk_at dksX6_mesh_1 10 rfl rfl)
theorem dX6_mesh_35 : decode cX6_mesh 35 = .ok (.putfield 103, 3) := dk_181 0 103 (dk_at dksX6_mesh_1 11 rfl rfl)
theorem dX6_mesh_38 : decode cX6_mesh 38 = .ok (.aload_n 0, 1) := dk_42 (dk_at dksX6_mesh_1 14 rfl rfl)
theorem dX6_mesh_39 : decode cX6_mesh 39 = .ok (.iconst 0, 1) := dk_3 (dk_at dksX6_mesh_1 15 rfl rfl)
theorem dX6_mesh_40 : decode cX6_mesh 40 = .ok (.putfield 136, 3) := dk_181 0 136 (dk_at dksX6_mesh_1 16 rfl rfl)
theorem dX6_mesh_43 : decode cX6_mesh 43 = .ok (.aload_n 0, 1) := dk_42 (dk_at dksX6_mesh_1 19 rfl rfl)
theorem dX6_mesh_44 : decode cX6_mesh 44 = .ok (.iconst (-1), 1) := dk_2 (dk_at dksX6_mesh_1 20 rfl rfl)
theorem dX6_mesh_45 : decode cX6_mesh 45 = .ok (.putfield 44, 3) := dk_181 0 44 (dk_at dksX6_mesh_1 21 rfl rfl)
theorem dX6_mesh_48 : decode cX6_mesh 48 = .ok (.aload_n 0, 1) := dk_42 (dk_at dksX6_mesh_2 0 rfl rfl)
theorem dX6_mesh_49 : decode cX6_mesh 49 = .ok (.invokevirtual 153, 3) := dk_182 0 153 (dk_at dksX6_mesh_2 1 rfl rfl)
theorem dX6_mesh_52 : decode cX6_mesh 52 = .ok (.aload_n 0, 1) := dk_42 (dk_at dksX6_mesh_2 4 rfl rfl)
theorem dX6_mesh_53 : decode cX6_mesh 53 = .ok (.ldc 185, 2) := dk_18 185 (dk_at dksX6_mesh_2 5 rfl rfl)
theorem dX6_mesh_55 : decode cX6_mesh 55 = .ok (.invokevirtual 149, 3) := dk_182 0 149 (dk_at dksX6_mesh_2 7 rfl rfl)
theorem dX6_mesh_58 : decode cX6_mesh 58 = .ok (.ifCond .ne 8, 3) := dk_154 0 8 (dk_at dksX6_mesh_2 10 rfl rfl)
theorem dX6_mesh_61 : decode cX6_mesh 61 = .ok (.aload_n 0, 1) := dk_42 (dk_at dksX6_mesh_2 13 rfl rfl)
theorem dX6_mesh_62 : decode cX6_mesh 62 = .ok (.iconst 1, 1) := dk_4 (dk_at dksX6_mesh_2 14 rfl rfl)
theorem dX6_mesh_63 : decode cX6_mesh 63 = .ok (.invokevirtual 156, 3) := dk_182 0 156 (dk_at dksX6_mesh_2 15 rfl rfl)
theorem dX6_mesh_66 : decode cX6_mesh 66 = .ok (.aload_n 0, 1) := dk_42 (dk_at dksX6_mesh_2 18 rfl rfl)
theorem dX6_mesh_67 : decode cX6_mesh 67 = .ok (.invokevirtual 163, 3) := dk_182 0 163 (dk_at dksX6_mesh_2 19 rfl rfl)
theorem dX6_mesh_70 : decode cX6_mesh 70 = .ok (.aload_n 0, 1) := dk_42 (dk_at dksX6_mesh_2 22 rfl rfl)
theorem dX6_mesh_71 : decode cX6_mesh 71 = .ok (.iconst 1, 1) := dk_4 (dk_at dksX6_mesh_2 23 rfl rfl)
theorem dX6_mesh_72 : decode cX6_mesh 72 = .ok (.iconst 4, 1) := dk_7 (dk_at dksX6_mesh_3 0 rfl rfl)
theorem dX6_mesh_73 : decode cX6_mesh 73 = .ok (.invokevirtual 176, 3) := dk_182 0 176 (dk_at dksX6_mesh_3 1 rfl rfl)
theorem dX6_mesh_76 : decode cX6_mesh 76 = .ok (.istore_n 2, 1) := dk_61 (dk_at dksX6_mesh_3 4 rfl rfl)
theorem dX6_mesh_77 : decode cX6_mesh 77 = .ok (.aload_n 0, 1) := dk_42 (dk_at dksX6_mesh_3 5 rfl rfl)
theorem dX6_mesh_78 : decode cX6_mesh 78 = .ok (.iconst 1, 1) := dk_4 (dk_at dksX6_mesh_3 6 rfl rfl)
theorem dX6_mesh_79 : decode cX6_mesh 79 = .ok (.iconst 3, 1) := dk_6 (dk_at dksX6_mesh_3 7 rfl rfl)
theorem dX6_mesh_80 : decode cX6_mesh 80 = .ok (.invokevirtual 176, 3) := dk_182 0 176 (dk_at dksX6_mesh_3 8 rfl rfl)
theorem dX6_mesh_83 : decode cX6_mesh 83 = .ok (.istore_n 3, 1) := dk_62 (dk_at dksX6_mesh_3 11 rfl rfl)
theorem dX6_mesh_84 : decode cX6_mesh 84 = .ok (.aload_n 0, 1) := dk_42 (dk_at dksX6_mesh_3 12 rfl rfl)
theorem dX6_mesh_85 : decode cX6_mesh 85 = .ok (.getfield 35, 3) := dk_180 0 35 (dk_at dksX6_mesh_3 13 rfl rfl)
theorem dX6_mesh_88 : decode cX6_mesh 88 = .ok (.iload_n 2, 1) := dk_28 (dk_at dksX6_mesh_3 16 rfl rfl)
theorem dX6_mesh_89 : decode cX6_mesh 89 = .ok (.iload_n 3, 1) := dk_29 (dk_at dksX6_mesh_3 17 rfl rfl)
theorem dX6_mesh_90 : decode cX6_mesh 90 = .ok (.invokestatic 86, 3) := dk_184 0 86 (dk_at dksX6_mesh_3 18 rfl rfl)
theorem dX6_mesh_93 : decode cX6_mesh 93 = .ok (.aload_n 0, 1) := dk_42 (dk_at dksX6_mesh_3 21 rfl rfl)
theorem dX6_mesh_94 : decode cX6_mesh 94 = .ok (.invokevirtual 179, 3) := dk_182 0 179 (dk_at dksX6_mesh_4 0 rfl rfl)
theorem dX6_mesh_97 : decode cX6_mesh 97 = .ok (.aload_n 0, 1) := dk_42 (dk_at dksX6_mesh_4 3 rfl rfl)
theorem dX6_mesh_98 : decode cX6_mesh 98 = .ok (.getfield 136, 3) := dk_180 0 136 (dk_at dksX6_mesh_4 4 rfl rfl)
theorem dX6_mesh_101 : decode cX6_mesh 101 = .ok (.ifCond .ne 17, 3) := dk_154 0 17 (dk_at dksX6_mesh_4 7 rfl rfl)
theorem dX6_mesh_104 : decode cX6_mesh 104 = .ok (.aload_n 0, 1) := dk_42 (dk_at dksX6_mesh_4 10 rfl rfl)
theorem dX6_mesh_105 : decode cX6_mesh 105 = .ok (.getfield 113, 3) := dk_180 0 113 (dk_at dksX6_mesh_4 11 rfl rfl)
theorem dX6_mesh_108 : decode cX6_mesh 108 = .ok (.ifCond .eq 10, 3) := dk_153 0 10 (dk_at dksX6_mesh_4 14 rfl rfl)
theorem dX6_mesh_111 : decode cX6_mesh 111 = .ok (.aload_n 0, 1) := dk_42 (dk_at dksX6_mesh_4 17 rfl rfl)
theorem dX6_mesh_112 : decode cX6_mesh 112 = .ok (.invokevirtual 187, 3) := dk_182 0 187 (dk_at dksX6_mesh_4 18 rfl rfl)
theorem dX6_mesh_115 : decode cX6_mesh 115 = .ok (.goto (-18), 3) := dk_167 255 238 (dk_at dksX6_mesh_4 21 rfl rfl)
theorem dX6_mesh_118 : decode cX6_mesh 118 = .ok (.aload_n 0, 1) := dk_42 (dk_at dksX6_mesh_5 0 rfl rfl)
theorem dX6_mesh_119 : decode cX6_mesh 119 = .ok (.getfield 136, 3) := dk_180 0 136 (dk_at dksX6_mesh_5 1 rfl rfl)
theorem dX6_mesh_122 : decode cX6_mesh 122 = .ok (.ifCond .eq 26, 3) := dk_153 0 26 (dk_at dksX6_mesh_5 4 rfl rfl)
theorem dX6_mesh_125 : decode cX6_mesh 125 = .ok (.aload_n 0, 1) := dk_42 (dk_at dksX6_mesh_5 7 rfl rfl)
theorem dX6_mesh_126 : decode cX6_mesh 126 = .ok (.aload_n 0, 1) := dk_42 (dk_at dksX6_mesh_5 8 rfl rfl)
theorem dX6_mesh_127 : decode cX6_mesh 127 = .ok (.getfield 139, 3) := dk_180 0 139 (dk_at dksX6_mesh_5 9 rfl rfl)
theorem dX6_mesh_130 : decode cX6_mesh 130 = .ok (.putfield 44, 3) := dk_181 0 44 (dk_at dksX6_mesh_5 12 rfl rfl)
theorem dX6_mesh_133 : decode cX6_mesh 133 = .ok (.aload_n 0, 1) := dk_42 (dk_at dksX6_mesh_5 15 rfl rfl)
theorem dX6_mesh_134 : decode cX6_mesh 134 = .ok (.getfield 38, 3) := dk_180 0 38 (dk_at dksX6_mesh_5 16 rfl rfl)
theorem dX6_mesh_137 : decode cX6_mesh 137 = .ok (.iconst 0, 1) := dk_3 (dk_at dksX6_mesh_5 19 rfl rfl)
theorem dX6_mesh_138 : decode cX6_mesh 138 = .ok (.dup2, 1) := dk_92 (dk_at dksX6_mesh_5 20 rfl rfl)
theorem dX6_mesh_139 : decode cX6_mesh 139 = .ok (.iaload, 1) := dk_46 (dk_at dksX6_mesh_5 21 rfl rfl)
theorem dX6_mesh_140 : decode cX6_mesh 140 = .ok (.iconst 1, 1) := dk_4 (dk_at dksX6_mesh_5 22 rfl rfl)
theorem dX6_mesh_141 : decode cX6_mesh 141 = .ok (.iadd, 1) := dk_96 (dk_at dksX6_mesh_5 23 rfl rfl)
theorem dX6_mesh_142 : decode cX6_mesh 142 = .ok (.iastore, 1) := dk_79 (dk_at dksX6_mesh_6 0 rfl rfl)
theorem dX6_mesh_143 : decode cX6_mesh 143 = .ok (.aload_n 0, 1) := dk_42 (dk_at dksX6_mesh_6 1 rfl rfl)
theorem dX6_mesh_144 : decode cX6_mesh 144 = .ok (.getfield 136, 3) := dk_180 0 136 (dk_at dksX6_mesh_6 2 rfl rfl)
theorem dX6_mesh_147 : decode cX6_mesh 147 = .ok (.ireturn, 1) := dk_172 (dk_at dksX6_mesh_6 5 rfl rfl)
theorem dX6_mesh_148 : decode cX6_mesh 148 = .ok (.iconst 0, 1) := dk_3 (dk_at dksX6_mesh_6 6 rfl rfl)
theorem dX6_mesh_149 : decode cX6_mesh 149 = .ok (.istore 4, 2) := dk_54 4 (dk_at dksX6_mesh_6 7 rfl rfl)
theorem dX6_mesh_151 : decode cX6_mesh 151 = .ok (.iload 4, 2) := dk_21 4 (dk_at dksX6_mesh_6 9 rfl rfl)
theorem dX6_mesh_153 : decode cX6_mesh 153 = .ok (.bipush 46, 2) := dk_16 46 (dk_at dksX6_mesh_6 11 rfl rfl)
theorem dX6_mesh_155 : decode cX6_mesh 155 = .ok (.if_icmp .ge 23, 3) := dk_162 0 23 (dk_at dksX6_mesh_6 13 rfl rfl)
theorem dX6_mesh_158 : decode cX6_mesh 158 = .ok (.aload_n 0, 1) := dk_42 (dk_at dksX6_mesh_6 16 rfl rfl)
theorem dX6_mesh_159 : decode cX6_mesh 159 = .ok (.getfield 31, 3) := dk_180 0 31 (dk_at dksX6_mesh_6 17 rfl rfl)
theorem dX6_mesh_162 : decode cX6_mesh 162 = .ok (.iload 4, 2) := dk_21 4 (dk_at dksX6_mesh_6 20 rfl rfl)
theorem dX6_mesh_164 : decode cX6_mesh 164 = .ok (.aload_n 0, 1) := dk_42 (dk_at dksX6_mesh_6 22 rfl rfl)
theorem dX6_mesh_165 : decode cX6_mesh 165 = .ok (.getfield 35, 3) := dk_180 0 35 (dk_at dksX6_mesh_7 0 rfl rfl)
theorem dX6_mesh_168 : decode cX6_mesh 168 = .ok (.iload 4, 2) := dk_21 4 (dk_at dksX6_mesh_7 3 rfl rfl)
theorem dX6_mesh_170 : decode cX6_mesh 170 = .ok (.iaload, 1) := dk_46 (dk_at dksX6_mesh_7 5 rfl rfl)
theorem dX6_mesh_171 : decode cX6_mesh 171 = .ok (.iastore, 1) := dk_79 (dk_at dksX6_mesh_7 6 rfl rfl)
theorem dX6_mesh_172 : decode cX6_mesh 172 = .ok (.iinc 4 1, 3) := dk_132 4 1 (dk_at dksX6_mesh_7 7 rfl rfl)
theorem dX6_mesh_175 : decode cX6_mesh 175 = .ok (.goto (-24), 3) := dk_167 255 232 (dk_at dksX6_mesh_7 10 rfl rfl)
theorem dX6_mesh_178 : decode cX6_mesh 178 = .ok (.iconst 0, 1) := dk_3 (dk_at dksX6_mesh_7 13 rfl rfl)
theorem dX6_mesh_179 : decode cX6_mesh 179 = .ok (.ireturn, 1) := dk_172 (dk_at dksX6_mesh_7 14 rfl rfl)
def dkwX6_fail_0 : List UInt8 := [42, 27, 181, 0, 90, 3, 172]
abbrev dktX6_fail_0 : List UInt8 := dkwX6_fail_0 ++ []
theorem dksX6_fail_0 : cX6_fail.data.toList.drop 0 = dktX6_fail_0 := by decide +kernel
theorem dX6_fail_0 : decode cX6_fail 0 = .ok (.aload_n 0, 1) := dk_42 (dk_at dksX6_fail_0 0 rfl rfl)
theorem dX6_fail_1 : decode cX6_fail 1 = .ok (.iload_n 1, 1) := dk_27 (dk_at dksX6_fail_0 1 rfl rfl)
theorem dX6_fail_2 : decode cX6_fail 2 = .ok (.putfield 90, 3) := dk_181 0 90 (dk_at dksX6_fail_0 2 rfl rfl)
theorem dX6_fail_5 : decode cX6_fail 5 = .ok (.iconst 0, 1) := dk_3 (dk_at dksX6_fail_0 5 rfl rfl)
theorem dX6_fail_6 : decode cX6_fail 6 = .ok (.ireturn, 1) := dk_172 (dk_at dksX6_fail_0 6 rfl rfl)
def dkwX6_stepOn_9 : List UInt8 := [181, 0, 113, 42, 42, 180, 0, 103, 181, 0, 133, 177]
abbrev dktX6_stepOn_9 : List UInt8 := dkwX6_stepOn_9 ++ []
def dkwX6_stepOn_8 : List UInt8 := [42, 89, 180, 0, 103, 4, 96, 181, 0, 103, 42, 27, 16, 59, 160, 0, 7, 6, 167, 0, 4, 7]
abbrev dktX6_stepOn_8 : List UInt8 := dkwX6_stepOn_8 ++ dktX6_stepOn_9
def dkwX6_stepOn_7 : List UInt8 := [181, 0, 123, 42, 89, 180, 0, 103, 4, 96, 181, 0, 103, 167, 255, 204, 42, 5, 181, 0, 113, 167, 0, 28]
abbrev dktX6_stepOn_7 : List UInt8 := dkwX6_stepOn_7 ++ dktX6_stepOn_8
def dkwX6_stepOn_6 : List UInt8 := [18, 126, 16, 10, 42, 180, 0, 123, 104, 42, 42, 180, 0, 103, 182, 0, 106, 96, 16, 48, 100, 184, 0, 127]
abbrev dktX6_stepOn_6 : List UInt8 := dkwX6_stepOn_6 ++ dktX6_stepOn_7
def dkwX6_stepOn_5 : List UInt8 := [153, 0, 71, 42, 3, 181, 0, 123, 42, 42, 180, 0, 103, 182, 0, 106, 184, 0, 120, 153, 0, 44, 42]
abbrev dktX6_stepOn_5 : List UInt8 := dkwX6_stepOn_5 ++ dktX6_stepOn_6
def dkwX6_stepOn_4 : List UInt8 := [180, 0, 103, 4, 96, 181, 0, 103, 167, 255, 232, 42, 4, 181, 0, 113, 167, 0, 103, 27, 184, 0, 120]
abbrev dktX6_stepOn_4 : List UInt8 := dkwX6_stepOn_4 ++ dktX6_stepOn_5
def dkwX6_stepOn_3 : List UInt8 := [184, 0, 116, 153, 0, 38, 42, 42, 180, 0, 103, 182, 0, 106, 184, 0, 116, 153, 0, 16, 42, 89]
abbrev dktX6_stepOn_3 : List UInt8 := dkwX6_stepOn_3 ++ dktX6_stepOn_4
def dkwX6_stepOn_2 : List UInt8 := [42, 42, 180, 0, 103, 182, 0, 106, 60, 27, 2, 160, 0, 11, 42, 3, 181, 0, 113, 167, 0, 145, 27]
abbrev dktX6_stepOn_2 : List UInt8 := dkwX6_stepOn_2 ++ dktX6_stepOn_3
def dkwX6_stepOn_1 : List UInt8 := [160, 0, 16, 42, 89, 180, 0, 103, 4, 96, 181, 0, 103, 167, 255, 220, 42, 42, 180, 0, 103, 181, 0, 110]
abbrev dktX6_stepOn_1 : List UInt8 := dkwX6_stepOn_1 ++ dktX6_stepOn_2
def dkwX6_stepOn_0 : List UInt8 := [42, 42, 180, 0, 103, 182, 0, 106, 16, 32, 159, 0, 16, 42, 42, 180, 0, 103, 182, 0, 106, 16, 10]
abbrev dktX6_stepOn_0 : List UInt8 := dkwX6_stepOn_0 ++ dktX6_stepOn_1
theorem dksX6_stepOn_0 : cX6_stepOn.data.toList.drop 0 = dktX6_stepOn_0 := by decide +kernel
theorem dksX6_stepOn_1 : cX6_stepOn.data.toList.drop 23 = dktX6_stepOn_1 := dk_seg dksX6_stepOn_0 23 rfl rfl
theorem dksX6_stepOn_2 : cX6_stepOn.data.toList.drop 47 = dktX6_stepOn_2 := dk_seg dksX6_stepOn_1 24 rfl rfl
theorem dksX6_stepOn_3 : cX6_stepOn.data.toList.drop 70 = dktX6_stepOn_3 := dk_seg dksX6_stepOn_2 23 rfl rfl
theorem dksX6_stepOn_4 : cX6_stepOn.data.toList.drop 92 = dktX6_stepOn_4 := dk_seg dksX6_stepOn_3 22 rfl rfl
theorem dksX6_stepOn_5 : cX6_stepOn.data.toList.drop 115 = dktX6_stepOn_5 := dk_seg dksX6_stepOn_4 23 rfl rfl
theorem dksX6_stepOn_6 : cX6_stepOn.data.toList.drop 138 = dktX6_stepOn_6 := dk_seg dksX6_stepOn_5 23 rfl rfl
theorem dksX6_stepOn_7 : cX6_stepOn.data.toList.drop 162 = dktX6_stepOn_7 := dk_seg dksX6_stepOn_6 24 rfl rfl
theorem dksX6_stepOn_8 : cX6_stepOn.data.toList.drop 186 = dktX6_stepOn_8 := dk_seg dksX6_stepOn_7 24 rfl rfl
theorem dksX6_stepOn_9 : cX6_stepOn.data.toList.drop 208 = dktX6_stepOn_9 := dk_seg dksX6_stepOn_8 22 rfl rfl
theorem dX6_stepOn_0 : decode cX6_stepOn 0 = .ok (.aload_n 0, 1) := dk_42 (dk_at dksX6_stepOn_0 0 rfl rfl)
theorem dX6_stepOn_1 : decode cX6_stepOn 1 = .ok (.aload_n 0, 1) := dk_42 (dk_at dksX6_stepOn_0 1 rfl rfl)
theorem dX6_stepOn_2 : decode cX6_stepOn 2 = .ok (.getfield 103, 3) := dk_180 0 103 (dk_at dksX6_stepOn_0 2 rfl rfl)
theorem dX6_stepOn_5 : decode cX6_stepOn 5 = .ok (.invokevirtual 106, 3) := dk_182 0 106 (dk_at dksX6_stepOn_0 5 rfl rfl)
theorem dX6_stepOn_8 : decode cX6_stepOn 8 = .ok (.bipush 32, 2) := dk_16 32 (dk_at dksX6_stepOn_0 8 rfl rfl)
theorem dX6_stepOn_10 : decode cX6_stepOn 10 = .ok (.if_icmp .eq 16, 3) := dk_159 0 16 (dk_at dksX6_stepOn_0 10 rfl rfl)
theorem dX6_stepOn_13 : decode cX6_stepOn 13 = .ok (.aload_n 0, 1) := dk_42 (dk_at dksX6_stepOn_0 13 rfl rfl)
theorem dX6_stepOn_14 : decode cX6_stepOn 14 = .ok (.aload_n 0, 1) := dk_42 (dk_at dksX6_stepOn_0 14 rfl rfl)
theorem dX6_stepOn_15 : decode cX6_stepOn 15 = .ok (.getfield 103, 3) := dk_180 0 103 (dk_at dksX6_stepOn_0 15 rfl rfl)
theorem dX6_stepOn_18 : decode cX6_stepOn 18 = .ok (.invokevirtual 106, 3) := dk_182 0 106 (dk_at dksX6_stepOn_0 18 rfl rfl)
theorem dX6_stepOn_21 : decode cX6_stepOn 21 = .ok (.bipush 10, 2) := dk_16 10 (dk_at dksX6_stepOn_0 21 rfl rfl)
theorem dX6_stepOn_23 : decode cX6_stepOn 23 = .ok (.if_icmp .ne 16, 3) := dk_160 0 16 (dk_at dksX6_stepOn_1 0 rfl rfl)
theorem dX6_stepOn_26 : decode cX6_stepOn 26 = .ok (.aload_n 0, 1) := dk_42 (dk_at dksX6_stepOn_1 3 rfl rfl)
theorem dX6_stepOn_27 : decode cX6_stepOn 27 = .ok (.dup, 1) := dk_89 (dk_at dksX6_stepOn_1 4 rfl rfl)
theorem dX6_stepOn_28 : decode cX6_stepOn 28 = .ok (.getfield 103, 3) := dk_180 0 103 (dk_at dksX6_stepOn_1 5 rfl rfl)
theorem dX6_stepOn_31 : decode cX6_stepOn 31 = .ok (.iconst 1, 1) := dk_4 (dk_at dksX6_stepOn_1 8 rfl rfl)
theorem dX6_stepOn_32 : decode cX6_stepOn 32 = .ok (.iadd, 1) := dk_96 (dk_at dksX6_stepOn_1 9 rfl rfl)
theorem dX6_stepOn_33 : decode cX6_stepOn 33 = .ok (.putfield 103, 3) := dk_181 0 103 (dk_at dksX6_stepOn_1 10 rfl rfl)
theorem dX6_stepOn_36 : decode cX6_stepOn 36 = .ok (.goto (-36), 3) := dk_167 255 220 (dk_at dksX6_stepOn_1 13 rfl rfl)
theorem dX6_stepOn_39 : decode cX6_stepOn 39 = .ok (.aload_n 0, 1) := dk_42 (dk_at dksX6_stepOn_1 16 rfl rfl)
theorem dX6_stepOn_40 : decode cX6_stepOn 40 = .ok (.aload_n 0, 1) := dk_42 (dk_at dksX6_stepOn_1 17 rfl rfl)
theorem dX6_stepOn_41 : decode cX6_stepOn 41 = .ok (.getfield 103, 3) := dk_180 0 103 (dk_at dksX6_stepOn_1 18 rfl rfl)
theorem dX6_stepOn_44 : decode cX6_stepOn 44 = .ok (.putfield 110, 3) := dk_181 0 110 (dk_at dksX6_stepOn_1 21 rfl rfl)
theorem dX6_stepOn_47 : decode cX6_stepOn 47 = .ok (.aload_n 0, 1) := dk_42 (dk_at dksX6_stepOn_2 0 rfl rfl)
theorem dX6_stepOn_48 : decode cX6_stepOn 48 = .ok (.aload_n 0, 1) := dk_42 (dk_at dksX6_stepOn_2 1 rfl rfl)
theorem dX6_stepOn_49 : decode cX6_stepOn 49 = .ok (.getfield 103, 3) := dk_180 0 103 (dk_at dksX6_stepOn_2 2 rfl rfl)
theorem dX6_stepOn_52 : decode cX6_stepOn 52 = .ok (.invokevirtual 106, 3) := dk_182 0 106 (dk_at dksX6_stepOn_2 5 rfl rfl)
theorem dX6_stepOn_55 : decode cX6_stepOn 55 = .ok (.istore_n 1, 1) := dk_60 (dk_at dksX6_stepOn_2 8 rfl rfl)
theorem dX6_stepOn_56 : decode cX6_stepOn 56 = .ok (.iload_n 1, 1) := dk_27 (dk_at dksX6_stepOn_2 9 rfl rfl)
theorem dX6_stepOn_57 : decode cX6_stepOn 57 = .ok (.iconst (-1), 1) := dk_2 (dk_at dksX6_stepOn_2 10 rfl rfl)
theorem dX6_stepOn_58 : decode cX6_stepOn 58 = .ok (.if_icmp .ne 11, 3) := dk_160 0 11 (dk_at dksX6_stepOn_2 11 rfl rfl)
theorem dX6_stepOn_61 : decode cX6_stepOn 61 = .ok (.aload_n 0, 1) := dk_42 (dk_at dksX6_stepOn_2 14 rfl rfl)
theorem dX6_stepOn_62 : decode cX6_stepOn 62 = .ok (.iconst 0, 1) := dk_3 (dk_at dksX6_stepOn_2 15 rfl rfl)
theorem dX6_stepOn_63 : decode cX6_stepOn 63 = .ok (.putfield 113, 3) := dk_181 0 113 (dk_at dksX6_stepOn_2 16 rfl rfl)
theorem dX6_stepOn_66 : decode cX6_stepOn 66 = .ok (.goto 145, 3) := dk_167 0 145 (dk_at dksX6_stepOn_2 19 rfl rfl)
theorem dX6_stepOn_69 : decode cX6_stepOn 69 = .ok (.iload_n 1, 1) := dk_27 (dk_at dksX6_stepOn_2 22 rfl rfl)
theorem dX6_stepOn_70 : decode cX6_stepOn 70 = .ok (.invokestatic 116, 3) := dk_184 0 116 (dk_at dksX6_stepOn_3 0 rfl rfl)
theorem dX6_stepOn_73 : decode cX6_stepOn 73 = .ok (.ifCond .eq 38, 3) := dk_153 0 38 (dk_at dksX6_stepOn_3 3 rfl rfl)
theorem dX6_stepOn_76 : decode cX6_stepOn 76 = .ok (.aload_n 0, 1) := dk_42 (dk_at dksX6_stepOn_3 6 rfl rfl)
theorem dX6_stepOn_77 : decode cX6_stepOn 77 = .ok (.aload_n 0, 1) := dk_42 (dk_at dksX6_stepOn_3 7 rfl rfl)
theorem dX6_stepOn_78 : decode cX6_stepOn 78 = .ok (.getfield 103, 3) := dk_180 0 103 (dk_at dksX6_stepOn_3 8 rfl rfl)
theorem dX6_stepOn_81 : decode cX6_stepOn 81 = .ok (.invokevirtual 106, 3) := dk_182 0 106 (dk_at dksX6_stepOn_3 11 rfl rfl)
theorem dX6_stepOn_84 : decode cX6_stepOn 84 = .ok (.invokestatic 116, 3) := dk_184 0 116 (dk_at dksX6_stepOn_3 14 rfl rfl)
theorem dX6_stepOn_87 : decode cX6_stepOn 87 = .ok (.ifCond .eq 16, 3) := dk_153 0 16 (dk_at dksX6_stepOn_3 17 rfl rfl)
theorem dX6_stepOn_90 : decode cX6_stepOn 90 = .ok (.aload_n 0, 1) := dk_42 (dk_at dksX6_stepOn_3 20 rfl rfl)
theorem dX6_stepOn_91 : decode cX6_stepOn 91 = .ok (.dup, 1) := dk_89 (dk_at dksX6_stepOn_3 21 rfl rfl)
theorem dX6_stepOn_92 : decode cX6_stepOn 92 = .ok (.getfield 103, 3) := dk_180 0 103 (dk_at dksX6_stepOn_4 0 rfl rfl)
theorem dX6_stepOn_95 : decode cX6_stepOn 95 = .ok (.iconst 1, 1) := dk_4 (dk_at dksX6_stepOn_4 3 rfl rfl)
theorem dX6_stepOn_96 : decode cX6_stepOn 96 = .ok (.iadd, 1) := dk_96 (dk_at dksX6_stepOn_4 4 rfl rfl)
theorem dX6_stepOn_97 : decode cX6_stepOn 97 = .ok (.putfield 103, 3) := dk_181 0 103 (dk_at dksX6_stepOn_4 5 rfl rfl)
theorem dX6_stepOn_100 : decode cX6_stepOn 100 = .ok (.goto (-24), 3) := dk_167 255 232 (dk_at dksX6_stepOn_4 8 rfl rfl)
theorem dX6_stepOn_103 : decode cX6_stepOn 103 = .ok (.aload_n 0, 1) := dk_42 (dk_at dksX6_stepOn_4 11 rfl rfl)
theorem dX6_stepOn_104 : decode cX6_stepOn 104 = .ok (.iconst 1, 1) := dk_4 (dk_at dksX6_stepOn_4 12 rfl rfl)
theorem dX6_stepOn_105 : decode cX6_stepOn 105 = .ok (.putfield 113, 3) := dk_181 0 113 (dk_at dksX6_stepOn_4 13 rfl rfl)
theorem dX6_stepOn_108 : decode cX6_stepOn 108 = .ok (.goto 103, 3) := dk_167 0 103 (dk_at dksX6_stepOn_4 16 rfl rfl)
theorem dX6_stepOn_111 : decode cX6_stepOn 111 = .ok (.iload_n 1, 1) := dk_27 (dk_at dksX6_stepOn_4 19 rfl rfl)
theorem dX6_stepOn_112 : decode cX6_stepOn 112 = .ok (.invokestatic 120, 3) := dk_184 0 120 (dk_at dksX6_stepOn_4 20 rfl rfl)
theorem dX6_stepOn_115 : decode cX6_stepOn 115 = .ok (.ifCond .eq 71, 3) := dk_153 0 71 (dk_at dksX6_stepOn_5 0 rfl rfl)
theorem dX6_stepOn_118 : decode cX6_stepOn 118 = .ok (.aload_n 0, 1) := dk_42 (dk_at dksX6_stepOn_5 3 rfl rfl)
theorem dX6_stepOn_119 : decode cX6_stepOn 119 = .ok (.iconst 0, 1) := dk_3 (dk_at dksX6_stepOn_5 4 rfl rfl)
theorem dX6_stepOn_120 : decode cX6_stepOn 120 = .ok (.putfield 123, 3) := dk_181 0 123 (dk_at dksX6_stepOn_5 5 rfl rfl)
theorem dX6_stepOn_123 : decode cX6_stepOn 123 = .ok (.aload_n 0, 1) := dk_42 (dk_at dksX6_stepOn_5 8 rfl rfl)
theorem dX6_stepOn_124 : decode cX6_stepOn 124 = .ok (.aload_n 0, 1) := dk_42 (dk_at dksX6_stepOn_5 9 rfl rfl)
theorem dX6_stepOn_125 : decode cX6_stepOn 125 = .ok (.getfield 103, 3) := dk_180 0 103 (dk_at dksX6_stepOn_5 10 rfl rfl)
theorem dX6_stepOn_128 : decode cX6_stepOn 128 = .ok (.invokevirtual 106, 3) := dk_182 0 106 (dk_at dksX6_stepOn_5 13 rfl rfl)
theorem dX6_stepOn_131 : decode cX6_stepOn 131 = .ok (.invokestatic 120, 3) := dk_184 0 120 (dk_at dksX6_stepOn_5 16 rfl rfl)
theorem dX6_stepOn_134 : decode cX6_stepOn 134 = .ok (.ifCond .eq 44, 3) := dk_153 0 44 (dk_at dksX6_stepOn_5 19 rfl rfl)
theorem dX6_stepOn_137 : decode cX6_stepOn 137 = .ok (.aload_n 0, 1) := dk_42 (dk_at dksX6_stepOn_5 22 rfl rfl)
theorem dX6_stepOn_138 : decode cX6_stepOn 138 = .ok (.ldc 126, 2) := dk_18 126 (dk_at dksX6_stepOn_6 0 rfl rfl)
theorem dX6_stepOn_140 : decode cX6_stepOn 140 = .ok (.bipush 10, 2) := dk_16 10 (dk_at dksX6_stepOn_6 2 rfl rfl)
theorem dX6_stepOn_142 : decode cX6_stepOn 142 = .ok (.aload_n 0, 1) := dk_42 (dk_at dksX6_stepOn_6 4 rfl rfl)
theorem dX6_stepOn_143 : decode cX6_stepOn 143 = .ok (.getfield 123, 3) := dk_180 0 123 (dk_at dksX6_stepOn_6 5 rfl rfl)
theorem dX6_stepOn_146 : decode cX6_stepOn 146 = .ok (.imul, 1) := dk_104 (dk_at dksX6_stepOn_6 8 rfl rfl)
theorem dX6_stepOn_147 : decode cX6_stepOn 147 = .ok (.aload_n 0, 1) := dk_42 (dk_at dksX6_stepOn_6 9 rfl rfl)
theorem dX6_stepOn_148 : decode cX6_stepOn 148 = .ok (.aload_n 0, 1) := dk_42 (dk_at dksX6_stepOn_6 10 rfl rfl)
theorem dX6_stepOn_149 : decode cX6_stepOn 149 = .ok (.getfield 103, 3) := dk_180 0 103 (dk_at dksX6_stepOn_6 11 rfl rfl)
theorem dX6_stepOn_152 : decode cX6_stepOn 152 = .ok (.invokevirtual 106, 3) := dk_182 0 106 (dk_at dksX6_stepOn_6 14 rfl rfl)
theorem dX6_stepOn_155 : decode cX6_stepOn 155 = .ok (.iadd, 1) := dk_96 (dk_at dksX6_stepOn_6 17 rfl rfl)
theorem dX6_stepOn_156 : decode cX6_stepOn 156 = .ok (.bipush 48, 2) := dk_16 48 (dk_at dksX6_stepOn_6 18 rfl rfl)
theorem dX6_stepOn_158 : decode cX6_stepOn 158 = .ok (.isub, 1) := dk_100 (dk_at dksX6_stepOn_6 20 rfl rfl)
theorem dX6_stepOn_159 : decode cX6_stepOn 159 = .ok (.invokestatic 127, 3) := dk_184 0 127 (dk_at dksX6_stepOn_6 21 rfl rfl)
theorem dX6_stepOn_162 : decode cX6_stepOn 162 = .ok (.putfield 123, 3) := dk_181 0 123 (dk_at dksX6_stepOn_7 0 rfl rfl)
theorem dX6_stepOn_165 : decode cX6_stepOn 165 = .ok (.aload_n 0, 1) := dk_42 (dk_at dksX6_stepOn_7 3 rfl rfl)
theorem dX6_stepOn_166 : decode cX6_stepOn 166 = .ok (.dup, 1) := dk_89 (dk_at dksX6_stepOn_7 4 rfl rfl)
theorem dX6_stepOn_167 : decode cX6_stepOn 167 = .ok (.getfield 103, 3) := dk_180 0 103 (dk_at dksX6_stepOn_7 5 rfl rfl)
theorem dX6_stepOn_170 : decode cX6_stepOn 170 = .ok (.iconst 1, 1) := dk_4 (dk_at dksX6_stepOn_7 8 rfl rfl)
theorem dX6_stepOn_171 : decode cX6_stepOn 171 = .ok (.iadd, 1) := dk_96 (dk_at dksX6_stepOn_7 9 rfl rfl)
theorem dX6_stepOn_172 : decode cX6_stepOn 172 = .ok (.putfield 103, 3) := dk_181 0 103 (dk_at dksX6_stepOn_7 10 rfl rfl)
theorem dX6_stepOn_175 : decode cX6_stepOn 175 = .ok (.goto (-52), 3) := dk_167 255 204 (dk_at dksX6_stepOn_7 13 rfl rfl)
theorem dX6_stepOn_178 : decode cX6_stepOn 178 = .ok (.aload_n 0, 1) := dk_42 (dk_at dksX6_stepOn_7 16 rfl rfl)
theorem dX6_stepOn_179 : decode cX6_stepOn 179 = .ok (.iconst 2, 1) := dk_5 (dk_at dksX6_stepOn_7 17 rfl rfl)
theorem dX6_stepOn_180 : decode cX6_stepOn 180 = .ok (.putfield 113, 3) := dk_181 0 113 (dk_at dksX6_stepOn_7 18 rfl rfl)
theorem dX6_stepOn_183 : decode cX6_stepOn 183 = .ok (.goto 28, 3) := dk_167 0 28 (dk_at dksX6_stepOn_7 21 rfl rfl)
theorem dX6_stepOn_186 : decode cX6_stepOn 186 = .ok (.aload_n 0, 1) := dk_42 (dk_at dksX6_stepOn_8 0 rfl rfl)
theorem dX6_stepOn_187 : decode cX6_stepOn 187 = .ok (.dup, 1) := dk_89 (dk_at dksX6_stepOn_8 1 rfl rfl)
theorem dX6_stepOn_188 : decode cX6_stepOn 188 = .ok (.getfield 103, 3) := dk_180 0 103 (dk_at dksX6_stepOn_8 2 rfl rfl)
theorem dX6_stepOn_191 : decode cX6_stepOn 191 = .ok (.iconst 1, 1) := dk_4 (dk_at dksX6_stepOn_8 5 rfl rfl)
theorem dX6_stepOn_192 : decode cX6_stepOn 192 = .ok (.iadd, 1) := dk_96 (dk_at dksX6_stepOn_8 6 rfl rfl)
theorem dX6_stepOn_193 : decode cX6_stepOn 193 = .ok (.putfield 103, 3) := dk_181 0 103 (dk_at dksX6_stepOn_8 7 rfl rfl)
theorem dX6_stepOn_196 : decode cX6_stepOn 196 = .ok (.aload_n 0, 1) := dk_42 (dk_at dksX6_stepOn_8 10 rfl rfl)
theorem dX6_stepOn_197 : decode cX6_stepOn 197 = .ok (.iload_n 1, 1) := dk_27 (dk_at dksX6_stepOn_8 11 rfl rfl)
theorem dX6_stepOn_198 : decode cX6_stepOn 198 = .ok (.bipush 59, 2) := dk_16 59 (dk_at dksX6_stepOn_8 12 rfl rfl)
theorem dX6_stepOn_200 : decode cX6_stepOn 200 = .ok (.if_icmp .ne 7, 3) := dk_160 0 7 (dk_at dksX6_stepOn_8 14 rfl rfl)
theorem dX6_stepOn_203 : decode cX6_stepOn 203 = .ok (.iconst 3, 1) := dk_6 (dk_at dksX6_stepOn_8 17 rfl rfl)
theorem dX6_stepOn_204 : decode cX6_stepOn 204 = .ok (.goto 4, 3) := dk_167 0 4 (dk_at dksX6_stepOn_8 18 rfl rfl)
theorem dX6_stepOn_207 : decode cX6_stepOn 207 = .ok (.iconst 4, 1) := dk_7 (dk_at dksX6_stepOn_8 21 rfl rfl)
theorem dX6_stepOn_208 : decode cX6_stepOn 208 = .ok (.putfield 113, 3) := dk_181 0 113 (dk_at dksX6_stepOn_9 0 rfl rfl)
theorem dX6_stepOn_211 : decode cX6_stepOn 211 = .ok (.aload_n 0, 1) := dk_42 (dk_at dksX6_stepOn_9 3 rfl rfl)
theorem dX6_stepOn_212 : decode cX6_stepOn 212 = .ok (.aload_n 0, 1) := dk_42 (dk_at dksX6_stepOn_9 4 rfl rfl)
theorem dX6_stepOn_213 : decode cX6_stepOn 213 = .ok (.getfield 103, 3) := dk_180 0 103 (dk_at dksX6_stepOn_9 5 rfl rfl)
theorem dX6_stepOn_216 : decode cX6_stepOn 216 = .ok (.putfield 133, 3) := dk_181 0 133 (dk_at dksX6_stepOn_9 8 rfl rfl)
theorem dX6_stepOn_219 : decode cX6_stepOn 219 = .ok (.return_, 1) := dk_177 (dk_at dksX6_stepOn_9 11 rfl rfl)
def dkwX6_byteAt_0 : List UInt8 := [27, 42, 180, 0, 100, 162, 0, 12, 42, 180, 0, 41, 27, 46, 167, 0, 4, 2, 172]
abbrev dktX6_byteAt_0 : List UInt8 := dkwX6_byteAt_0 ++ []
theorem dksX6_byteAt_0 : cX6_byteAt.data.toList.drop 0 = dktX6_byteAt_0 := by decide +kernel
theorem dX6_byteAt_0 : decode cX6_byteAt 0 = .ok (.iload_n 1, 1) := dk_27 (dk_at dksX6_byteAt_0 0 rfl rfl)
theorem dX6_byteAt_1 : decode cX6_byteAt 1 = .ok (.aload_n 0, 1) := dk_42 (dk_at dksX6_byteAt_0 1 rfl rfl)
theorem dX6_byteAt_2 : decode cX6_byteAt 2 = .ok (.getfield 100, 3) := dk_180 0 100 (dk_at dksX6_byteAt_0 2 rfl rfl)
theorem dX6_byteAt_5 : decode cX6_byteAt 5 = .ok (.if_icmp .ge 12, 3) := dk_162 0 12 (dk_at dksX6_byteAt_0 5 rfl rfl)
theorem dX6_byteAt_8 : decode cX6_byteAt 8 = .ok (.aload_n 0, 1) := dk_42 (dk_at dksX6_byteAt_0 8 rfl rfl)
theorem dX6_byteAt_9 : decode cX6_byteAt 9 = .ok (.getfield 41, 3) := dk_180 0 41 (dk_at dksX6_byteAt_0 9 rfl rfl)
theorem dX6_byteAt_12 : decode cX6_byteAt 12 = .ok (.iload_n 1, 1) := dk_27 (dk_at dksX6_byteAt_0 12 rfl rfl)
theorem dX6_byteAt_13 : decode cX6_byteAt 13 = .ok (.iaload, 1) := dk_46 (dk_at dksX6_byteAt_0 13 rfl rfl)
theorem dX6_byteAt_14 : decode cX6_byteAt 14 = .ok (.goto 4, 3) := dk_167 0 4 (dk_at dksX6_byteAt_0 14 rfl rfl)
theorem dX6_byteAt_17 : decode cX6_byteAt 17 = .ok (.iconst (-1), 1) := dk_2 (dk_at dksX6_byteAt_0 17 rfl rfl)
theorem dX6_byteAt_18 : decode cX6_byteAt 18 = .ok (.ireturn, 1) := dk_172 (dk_at dksX6_byteAt_0 18 rfl rfl)
def dkwX6_isLetter_0 : List UInt8 := [26, 16, 97, 161, 0, 13, 26, 16, 122, 163, 0, 7, 4, 167, 0, 4, 3, 172]
abbrev dktX6_isLetter_0 : List UInt8 := dkwX6_isLetter_0 ++ []
theorem dksX6_isLetter_0 : cX6_isLetter.data.toList.drop 0 = dktX6_isLetter_0 := by decide +kernel
theorem dX6_isLetter_0 : decode cX6_isLetter 0 = .ok (.iload_n 0, 1) := dk_26 (dk_at dksX6_isLetter_0 0 rfl rfl)
theorem dX6_isLetter_1 : decode cX6_isLetter 1 = .ok (.bipush 97, 2) := dk_16 97 (dk_at dksX6_isLetter_0 1 rfl rfl)
theorem dX6_isLetter_3 : decode cX6_isLetter 3 = .ok (.if_icmp .lt 13, 3) := dk_161 0 13 (dk_at dksX6_isLetter_0 3 rfl rfl)
theorem dX6_isLetter_6 : decode cX6_isLetter 6 = .ok (.iload_n 0, 1) := dk_26 (dk_at dksX6_isLetter_0 6 rfl rfl)
theorem dX6_isLetter_7 : decode cX6_isLetter 7 = .ok (.bipush 122, 2) := dk_16 122 (dk_at dksX6_isLetter_0 7 rfl rfl)
theorem dX6_isLetter_9 : decode cX6_isLetter 9 = .ok (.if_icmp .gt 7, 3) := dk_163 0 7 (dk_at dksX6_isLetter_0 9 rfl rfl)
theorem dX6_isLetter_12 : decode cX6_isLetter 12 = .ok (.iconst 1, 1) := dk_4 (dk_at dksX6_isLetter_0 12 rfl rfl)
theorem dX6_isLetter_13 : decode cX6_isLetter 13 = .ok (.goto 4, 3) := dk_167 0 4 (dk_at dksX6_isLetter_0 13 rfl rfl)
theorem dX6_isLetter_16 : decode cX6_isLetter 16 = .ok (.iconst 0, 1) := dk_3 (dk_at dksX6_isLetter_0 16 rfl rfl)
theorem dX6_isLetter_17 : decode cX6_isLetter 17 = .ok (.ireturn, 1) := dk_172 (dk_at dksX6_isLetter_0 17 rfl rfl)
def dkwX6_isDigit_0 : List UInt8 := [26, 16, 48, 161, 0, 13, 26, 16, 57, 163, 0, 7, 4, 167, 0, 4, 3, 172]
abbrev dktX6_isDigit_0 : List UInt8 := dkwX6_isDigit_0 ++ []
theorem dksX6_isDigit_0 : cX6_isDigit.data.toList.drop 0 = dktX6_isDigit_0 := by decide +kernel
theorem dX6_isDigit_0 : decode cX6_isDigit 0 = .ok (.iload_n 0, 1) := dk_26 (dk_at dksX6_isDigit_0 0 rfl rfl)
theorem dX6_isDigit_1 : decode cX6_isDigit 1 = .ok (.bipush 48, 2) := dk_16 48 (dk_at dksX6_isDigit_0 1 rfl rfl)
theorem dX6_isDigit_3 : decode cX6_isDigit 3 = .ok (.if_icmp .lt 13, 3) := dk_161 0 13 (dk_at dksX6_isDigit_0 3 rfl rfl)
theorem dX6_isDigit_6 : decode cX6_isDigit 6 = .ok (.iload_n 0, 1) := dk_26 (dk_at dksX6_isDigit_0 6 rfl rfl)
theorem dX6_isDigit_7 : decode cX6_isDigit 7 = .ok (.bipush 57, 2) := dk_16 57 (dk_at dksX6_isDigit_0 7 rfl rfl)
theorem dX6_isDigit_9 : decode cX6_isDigit 9 = .ok (.if_icmp .gt 7, 3) := dk_163 0 7 (dk_at dksX6_isDigit_0 9 rfl rfl)
theorem dX6_isDigit_12 : decode cX6_isDigit 12 = .ok (.iconst 1, 1) := dk_4 (dk_at dksX6_isDigit_0 12 rfl rfl)
theorem dX6_isDigit_13 : decode cX6_isDigit 13 = .ok (.goto 4, 3) := dk_167 0 4 (dk_at dksX6_isDigit_0 13 rfl rfl)
theorem dX6_isDigit_16 : decode cX6_isDigit 16 = .ok (.iconst 0, 1) := dk_3 (dk_at dksX6_isDigit_0 16 rfl rfl)
theorem dX6_isDigit_17 : decode cX6_isDigit 17 = .ok (.ireturn, 1) := dk_172 (dk_at dksX6_isDigit_0 17 rfl rfl)
def dkwX6_is_3 : List UInt8 := [167, 0, 4, 3, 61, 132, 3, 1, 167, 255, 216, 28, 172]
abbrev dktX6_is_3 : List UInt8 := dkwX6_is_3 ++ []
def dkwX6_is_2 : List UInt8 := [162, 0, 34, 43, 29, 182, 0, 145, 42, 180, 0, 41, 42, 180, 0, 110, 29, 96, 46, 160, 0, 7, 4]
abbrev dktX6_is_2 : List UInt8 := dkwX6_is_2 ++ dktX6_is_3
def dkwX6_is_1 : List UInt8 := [180, 0, 110, 100, 160, 0, 7, 4, 167, 0, 4, 3, 61, 3, 62, 28, 153, 0, 42, 29, 43, 182, 0, 142]
abbrev dktX6_is_1 : List UInt8 := dkwX6_is_1 ++ dktX6_is_2
def dkwX6_is_0 : List UInt8 := [42, 180, 0, 136, 154, 0, 31, 42, 180, 0, 113, 4, 160, 0, 23, 43, 182, 0, 142, 42, 180, 0, 133, 42]
abbrev dktX6_is_0 : List UInt8 := dkwX6_is_0 ++ dktX6_is_1
theorem dksX6_is_0 : cX6_is.data.toList.drop 0 = dktX6_is_0 := by decide +kernel
theorem dksX6_is_1 : cX6_is.data.toList.drop 24 = dktX6_is_1 := dk_seg dksX6_is_0 24 rfl rfl
theorem dksX6_is_2 : cX6_is.data.toList.drop 48 = dktX6_is_2 := dk_seg dksX6_is_1 24 rfl rfl
theorem dksX6_is_3 : cX6_is.data.toList.drop 71 = dktX6_is_3 := dk_seg dksX6_is_2 23 rfl rfl
theorem dX6_is_0 : decode cX6_is 0 = .ok (.aload_n 0, 1) := dk_42 (dk_at dksX6_is_0 0 rfl rfl)
theorem dX6_is_1 : decode cX6_is 1 = .ok (.getfield 136, 3) := dk_180 0 136 (dk_at dksX6_is_0 1 rfl rfl)
theorem dX6_is_4 : decode cX6_is 4 = .ok (.ifCond .ne 31, 3) := dk_154 0 31 (dk_at dksX6_is_0 4 rfl rfl)
theorem dX6_is_7 : decode cX6_is 7 = .ok (.aload_n 0, 1) := dk_42 (dk_at dksX6_is_0 7 rfl rfl)
theorem dX6_is_8 : decode cX6_is 8 = .ok (.getfield 113, 3) := dk_180 0 113 (dk_at dksX6_is_0 8 rfl rfl)
theorem dX6_is_11 : decode cX6_is 11 = .ok (.iconst 1, 1) := dk_4 (dk_at dksX6_is_0 11 rfl rfl)
theorem dX6_is_12 : decode cX6_is 12 = .ok (.if_icmp .ne 23, 3) := dk_160 0 23 (dk_at dksX6_is_0 12 rfl rfl)
theorem dX6_is_15 : decode cX6_is 15 = .ok (.aload_n 1, 1) := dk_43 (dk_at dksX6_is_0 15 rfl rfl)
theorem dX6_is_16 : decode cX6_is 16 = .ok (.invokevirtual 142, 3) := dk_182 0 142 (dk_at dksX6_is_0 16 rfl rfl)
theorem dX6_is_19 : decode cX6_is 19 = .ok (.aload_n 0, 1) := dk_42 (dk_at dksX6_is_0 19 rfl rfl)
theorem dX6_is_20 : decode cX6_is 20 = .ok (.getfield 133, 3) := dk_180 0 133 (dk_at dksX6_is_0 20 rfl rfl)
theorem dX6_is_23 : decode cX6_is 23 = .ok (.aload_n 0, 1) := dk_42 (dk_at dksX6_is_0 23 rfl rfl)
theorem dX6_is_24 : decode cX6_is 24 = .ok (.getfield 110, 3) := dk_180 0 110 (dk_at dksX6_is_1 0 rfl rfl)
theorem dX6_is_27 : decode cX6_is 27 = .ok (.isub, 1) := dk_100 (dk_at dksX6_is_1 3 rfl rfl)
theorem dX6_is_28 : decode cX6_is 28 = .ok (.if_icmp .ne 7, 3) := dk_160 0 7 (dk_at dksX6_is_1 4 rfl rfl)
theorem dX6_is_31 : decode cX6_is 31 = .ok (.iconst 1, 1) := dk_4 (dk_at dksX6_is_1 7 rfl rfl)
theorem dX6_is_32 : decode cX6_is 32 = .ok (.goto 4, 3) := dk_167 0 4 (dk_at dksX6_is_1 8 rfl rfl)
theorem dX6_is_35 : decode cX6_is 35 = .ok (.iconst 0, 1) := dk_3 (dk_at dksX6_is_1 11 rfl rfl)
theorem dX6_is_36 : decode cX6_is 36 = .ok (.istore_n 2, 1) := dk_61 (dk_at dksX6_is_1 12 rfl rfl)
theorem dX6_is_37 : decode cX6_is 37 = .ok (.iconst 0, 1) := dk_3 (dk_at dksX6_is_1 13 rfl rfl)
theorem dX6_is_38 : decode cX6_is 38 = .ok (.istore_n 3, 1) := dk_62 (dk_at dksX6_is_1 14 rfl rfl)
theorem dX6_is_39 : decode cX6_is 39 = .ok (.iload_n 2, 1) := dk_28 (dk_at dksX6_is_1 15 rfl rfl)
theorem dX6_is_40 : decode cX6_is 40 = .ok (.ifCond .eq 42, 3) := dk_153 0 42 (dk_at dksX6_is_1 16 rfl rfl)
theorem dX6_is_43 : decode cX6_is 43 = .ok (.iload_n 3, 1) := dk_29 (dk_at dksX6_is_1 19 rfl rfl)
theorem dX6_is_44 : decode cX6_is 44 = .ok (.aload_n 1, 1) := dk_43 (dk_at dksX6_is_1 20 rfl rfl)
theorem dX6_is_45 : decode cX6_is 45 = .ok (.invokevirtual 142, 3) := dk_182 0 142 (dk_at dksX6_is_1 21 rfl rfl)
theorem dX6_is_48 : decode cX6_is 48 = .ok (.if_icmp .ge 34, 3) := dk_162 0 34 (dk_at dksX6_is_2 0 rfl rfl)
theorem dX6_is_51 : decode cX6_is 51 = .ok (.aload_n 1, 1) := dk_43 (dk_at dksX6_is_2 3 rfl rfl)
theorem dX6_is_52 : decode cX6_is 52 = .ok (.iload_n 3, 1) := dk_29 (dk_at dksX6_is_2 4 rfl rfl)
theorem dX6_is_53 : decode cX6_is 53 = .ok (.invokevirtual 145, 3) := dk_182 0 145 (dk_at dksX6_is_2 5 rfl rfl)
theorem dX6_is_56 : decode cX6_is 56 = .ok (.aload_n 0, 1) := dk_42 (dk_at dksX6_is_2 8 rfl rfl)
theorem dX6_is_57 : decode cX6_is 57 = .ok (.getfield 41, 3) := dk_180 0 41 (dk_at dksX6_is_2 9 rfl rfl)
theorem dX6_is_60 : decode cX6_is 60 = .ok (.aload_n 0, 1) := dk_42 (dk_at dksX6_is_2 12 rfl rfl)
theorem dX6_is_61 : decode cX6_is 61 = .ok (.getfield 110, 3) := dk_180 0 110 (dk_at dksX6_is_2 13 rfl rfl)
theorem dX6_is_64 : decode cX6_is 64 = .ok (.iload_n 3, 1) := dk_29 (dk_at dksX6_is_2 16 rfl rfl)
theorem dX6_is_65 : decode cX6_is 65 = .ok (.iadd, 1) := dk_96 (dk_at dksX6_is_2 17 rfl rfl)
theorem dX6_is_66 : decode cX6_is 66 = .ok (.iaload, 1) := dk_46 (dk_at dksX6_is_2 18 rfl rfl)
theorem dX6_is_67 : decode cX6_is 67 = .ok (.if_icmp .ne 7, 3) := dk_160 0 7 (dk_at dksX6_is_2 19 rfl rfl)
theorem dX6_is_70 : decode cX6_is 70 = .ok (.iconst 1, 1) := dk_4 (dk_at dksX6_is_2 22 rfl rfl)
theorem dX6_is_71 : decode cX6_is 71 = .ok (.goto 4, 3) := dk_167 0 4 (dk_at dksX6_is_3 0 rfl rfl)
theorem dX6_is_74 : decode cX6_is 74 = .ok (.iconst 0, 1) := dk_3 (dk_at dksX6_is_3 3 rfl rfl)
theorem dX6_is_75 : decode cX6_is 75 = .ok (.istore_n 2, 1) := dk_61 (dk_at dksX6_is_3 4 rfl rfl)
theorem dX6_is_76 : decode cX6_is 76 = .ok (.iinc 3 1, 3) := dk_132 3 1 (dk_at dksX6_is_3 5 rfl rfl)
theorem dX6_is_79 : decode cX6_is 79 = .ok (.goto (-40), 3) := dk_167 255 216 (dk_at dksX6_is_3 8 rfl rfl)
theorem dX6_is_82 : decode cX6_is 82 = .ok (.iload_n 2, 1) := dk_28 (dk_at dksX6_is_3 11 rfl rfl)
theorem dX6_is_83 : decode cX6_is 83 = .ok (.ireturn, 1) := dk_172 (dk_at dksX6_is_3 12 rfl rfl)
def dkwX6_wrong_0 : List UInt8 := [42, 180, 0, 136, 153, 0, 4, 177, 42, 27, 181, 0, 136, 42, 42, 180, 0, 110, 181, 0, 139, 177]
abbrev dktX6_wrong_0 : List UInt8 := dkwX6_wrong_0 ++ []
theorem dksX6_wrong_0 : cX6_wrong.data.toList.drop 0 = dktX6_wrong_0 := by decide +kernel
theorem dX6_wrong_0 : decode cX6_wrong 0 = .ok (.aload_n 0, 1) := dk_42 (dk_at dksX6_wrong_0 0 rfl rfl)
theorem dX6_wrong_1 : decode cX6_wrong 1 = .ok (.getfield 136, 3) := dk_180 0 136 (dk_at dksX6_wrong_0 1 rfl rfl)
theorem dX6_wrong_4 : decode cX6_wrong 4 = .ok (.ifCond .eq 4, 3) := dk_153 0 4 (dk_at dksX6_wrong_0 4 rfl rfl)
theorem dX6_wrong_7 : decode cX6_wrong 7 = .ok (.return_, 1) := dk_177 (dk_at dksX6_wrong_0 7 rfl rfl)
theorem dX6_wrong_8 : decode cX6_wrong 8 = .ok (.aload_n 0, 1) := dk_42 (dk_at dksX6_wrong_0 8 rfl rfl)
theorem dX6_wrong_9 : decode cX6_wrong 9 = .ok (.iload_n 1, 1) := dk_27 (dk_at dksX6_wrong_0 9 rfl rfl)
theorem dX6_wrong_10 : decode cX6_wrong 10 = .ok (.putfield 136, 3) := dk_181 0 136 (dk_at dksX6_wrong_0 10 rfl rfl)
theorem dX6_wrong_13 : decode cX6_wrong 13 = .ok (.aload_n 0, 1) := dk_42 (dk_at dksX6_wrong_0 13 rfl rfl)
theorem dX6_wrong_14 : decode cX6_wrong 14 = .ok (.aload_n 0, 1) := dk_42 (dk_at dksX6_wrong_0 14 rfl rfl)
theorem dX6_wrong_15 : decode cX6_wrong 15 = .ok (.getfield 110, 3) := dk_180 0 110 (dk_at dksX6_wrong_0 15 rfl rfl)
theorem dX6_wrong_18 : decode cX6_wrong 18 = .ok (.putfield 139, 3) := dk_181 0 139 (dk_at dksX6_wrong_0 18 rfl rfl)
theorem dX6_wrong_21 : decode cX6_wrong 21 = .ok (.return_, 1) := dk_177 (dk_at dksX6_wrong_0 21 rfl rfl)
def dkwX6_pass_0 : List UInt8 := [42, 180, 0, 136, 154, 0, 7, 42, 182, 0, 153, 177]
abbrev dktX6_pass_0 : List UInt8 := dkwX6_pass_0 ++ []
theorem dksX6_pass_0 : cX6_pass.data.toList.drop 0 = dktX6_pass_0 := by decide +kernel
theorem dX6_pass_0 : decode cX6_pass 0 = .ok (.aload_n 0, 1) := dk_42 (dk_at dksX6_pass_0 0 rfl rfl)
theorem dX6_pass_1 : decode cX6_pass 1 = .ok (.getfield 136, 3) := dk_180 0 136 (dk_at dksX6_pass_0 1 rfl rfl)
theorem dX6_pass_4 : decode cX6_pass 4 = .ok (.ifCond .ne 7, 3) := dk_154 0 7 (dk_at dksX6_pass_0 4 rfl rfl)
theorem dX6_pass_7 : decode cX6_pass 7 = .ok (.aload_n 0, 1) := dk_42 (dk_at dksX6_pass_0 7 rfl rfl)
theorem dX6_pass_8 : decode cX6_pass 8 = .ok (.invokevirtual 153, 3) := dk_182 0 153 (dk_at dksX6_pass_0 8 rfl rfl)
theorem dX6_pass_11 : decode cX6_pass 11 = .ok (.return_, 1) := dk_177 (dk_at dksX6_pass_0 11 rfl rfl)
def dkwX6_readNumber_0 : List UInt8 := [42, 27, 28, 182, 0, 160, 62, 42, 182, 0, 163, 29, 172]
abbrev dktX6_readNumber_0 : List UInt8 := dkwX6_readNumber_0 ++ []
theorem dksX6_readNumber_0 : cX6_readNumber.data.toList.drop 0 = dktX6_readNumber_0 := by decide +kernel
theorem dX6_readNumber_0 : decode cX6_readNumber 0 = .ok (.aload_n 0, 1) := dk_42 (dk_at dksX6_readNumber_0 0 rfl rfl)
theorem dX6_readNumber_1 : decode cX6_readNumber 1 = .ok (.iload_n 1, 1) := dk_27 (dk_at dksX6_readNumber_0 1 rfl rfl)
theorem dX6_readNumber_2 : decode cX6_readNumber 2 = .ok (.iload_n 2, 1) := dk_28 (dk_at dksX6_readNumber_0 2 rfl rfl)
theorem dX6_readNumber_3 : decode cX6_readNumber 3 = .ok (.invokevirtual 160, 3) := dk_182 0 160 (dk_at dksX6_readNumber_0 3 rfl rfl)
theorem dX6_readNumber_6 : decode cX6_readNumber 6 = .ok (.istore_n 3, 1) := dk_62 (dk_at dksX6_readNumber_0 6 rfl rfl)
theorem dX6_readNumber_7 : decode cX6_readNumber 7 = .ok (.aload_n 0, 1) := dk_42 (dk_at dksX6_readNumber_0 7 rfl rfl)
theorem dX6_readNumber_8 : decode cX6_readNumber 8 = .ok (.invokevirtual 163, 3) := dk_182 0 163 (dk_at dksX6_readNumber_0 8 rfl rfl)
theorem dX6_readNumber_11 : decode cX6_readNumber 11 = .ok (.iload_n 3, 1) := dk_29 (dk_at dksX6_readNumber_0 11 rfl rfl)
theorem dX6_readNumber_12 : decode cX6_readNumber 12 = .ok (.ireturn, 1) := dk_172 (dk_at dksX6_readNumber_0 12 rfl rfl)
def dkwX6_numberNow_3 : List UInt8 := [167, 0, 4, 27, 172]
abbrev dktX6_numberNow_3 : List UInt8 := dkwX6_numberNow_3 ++ []
def dkwX6_numberNow_2 : List UInt8 := [42, 180, 0, 123, 28, 164, 0, 8, 42, 5, 182, 0, 156, 42, 180, 0, 136, 154, 0, 10, 42, 180, 0, 123]
abbrev dktX6_numberNow_2 : List UInt8 := dkwX6_numberNow_2 ++ dktX6_numberNow_3
def dkwX6_numberNow_1 : List UInt8 := [167, 0, 37, 42, 180, 0, 133, 42, 180, 0, 110, 100, 7, 163, 0, 19, 42, 180, 0, 123, 27, 161, 0, 11]
abbrev dktX6_numberNow_1 : List UInt8 := dkwX6_numberNow_1 ++ dktX6_numberNow_2
def dkwX6_numberNow_0 : List UInt8 := [42, 180, 0, 136, 153, 0, 5, 27, 172, 42, 180, 0, 113, 5, 159, 0, 11, 42, 4, 182, 0, 156]
abbrev dktX6_numberNow_0 : List UInt8 := dkwX6_numberNow_0 ++ dktX6_numberNow_1
theorem dksX6_numberNow_0 : cX6_numberNow.data.toList.drop 0 = dktX6_numberNow_0 := by decide +kernel
theorem dksX6_numberNow_1 : cX6_numberNow.data.toList.drop 22 = dktX6_numberNow_1 := dk_seg dksX6_numberNow_0 22 rfl rfl
theorem dksX6_numberNow_2 : cX6_numberNow.data.toList.drop 46 = dktX6_numberNow_2 := dk_seg dksX6_numberNow_1 24 rfl rfl
theorem dksX6_numberNow_3 : cX6_numberNow.data.toList.drop 70 = dktX6_numberNow_3 := dk_seg dksX6_numberNow_2 24 rfl rfl
theorem dX6_numberNow_0 : decode cX6_numberNow 0 = .ok (.aload_n 0, 1) := dk_42 (dk_at dksX6_numberNow_0 0 rfl rfl)
theorem dX6_numberNow_1 : decode cX6_numberNow 1 = .ok (.getfield 136, 3) := dk_180 0 136 (dk_at dksX6_numberNow_0 1 rfl rfl)
theorem dX6_numberNow_4 : decode cX6_numberNow 4 = .ok (.ifCond .eq 5, 3) := dk_153 0 5 (dk_at dksX6_numberNow_0 4 rfl rfl)
theorem dX6_numberNow_7 : decode cX6_numberNow 7 = .ok (.iload_n 1, 1) := dk_27 (dk_at dksX6_numberNow_0 7 rfl rfl)
theorem dX6_numberNow_8 : decode cX6_numberNow 8 = .ok (.ireturn, 1) := dk_172 (dk_at dksX6_numberNow_0 8 rfl rfl)
theorem dX6_numberNow_9 : decode cX6_numberNow 9 = .ok (.aload_n 0, 1) := dk_42 (dk_at dksX6_numberNow_0 9 rfl rfl)
theorem dX6_numberNow_10 : decode cX6_numberNow 10 = .ok (.getfield 113, 3) := dk_180 0 113 (dk_at dksX6_numberNow_0 10 rfl rfl)
theorem dX6_numberNow_13 : decode cX6_numberNow 13 = .ok (.iconst 2, 1) := dk_5 (dk_at dksX6_numberNow_0 13 rfl rfl)
theorem dX6_numberNow_14 : decode cX6_numberNow 14 = .ok (.if_icmp .eq 11, 3) := dk_159 0 11 (dk_at dksX6_numberNow_0 14 rfl rfl)
theorem dX6_numberNow_17 : decode cX6_numberNow 17 = .ok (.aload_n 0, 1) := dk_42 (dk_at dksX6_numberNow_0 17 rfl rfl)
theorem dX6_numberNow_18 : decode cX6_numberNow 18 = .ok (.iconst 1, 1) := dk_4 (dk_at dksX6_numberNow_0 18 rfl rfl)
theorem dX6_numberNow_19 : decode cX6_numberNow 19 = .ok (.invokevirtual 156, 3) := dk_182 0 156 (dk_at dksX6_numberNow_0 19 rfl rfl)
theorem dX6_numberNow_22 : decode cX6_numberNow 22 = .ok (.goto 37, 3) := dk_167 0 37 (dk_at dksX6_numberNow_1 0 rfl rfl)
theorem dX6_numberNow_25 : decode cX6_numberNow 25 = .ok (.aload_n 0, 1) := dk_42 (dk_at dksX6_numberNow_1 3 rfl rfl)
theorem dX6_numberNow_26 : decode cX6_numberNow 26 = .ok (.getfield 133, 3) := dk_180 0 133 (dk_at dksX6_numberNow_1 4 rfl rfl)
theorem dX6_numberNow_29 : decode cX6_numberNow 29 = .ok (.aload_n 0, 1) := dk_42 (dk_at dksX6_numberNow_1 7 rfl rfl)
theorem dX6_numberNow_30 : decode cX6_numberNow 30 = .ok (.getfield 110, 3) := dk_180 0 110 (dk_at dksX6_numberNow_1 8 rfl rfl)
theorem dX6_numberNow_33 : decode cX6_numberNow 33 = .ok (.isub, 1) := dk_100 (dk_at dksX6_numberNow_1 11 rfl rfl)
theorem dX6_numberNow_34 : decode cX6_numberNow 34 = .ok (.iconst 4, 1) := dk_7 (dk_at dksX6_numberNow_1 12 rfl rfl)
theorem dX6_numberNow_35 : decode cX6_numberNow 35 = .ok (.if_icmp .gt 19, 3) := dk_163 0 19 (dk_at dksX6_numberNow_1 13 rfl rfl)
theorem dX6_numberNow_38 : decode cX6_numberNow 38 = .ok (.aload_n 0, 1) := dk_42 (dk_at dksX6_numberNow_1 16 rfl rfl)
theorem dX6_numberNow_39 : decode cX6_numberNow 39 = .ok (.getfield 123, 3) := dk_180 0 123 (dk_at dksX6_numberNow_1 17 rfl rfl)
theorem dX6_numberNow_42 : decode cX6_numberNow 42 = .ok (.iload_n 1, 1) := dk_27 (dk_at dksX6_numberNow_1 20 rfl rfl)
theorem dX6_numberNow_43 : decode cX6_numberNow 43 = .ok (.if_icmp .lt 11, 3) := dk_161 0 11 (dk_at dksX6_numberNow_1 21 rfl rfl)
theorem dX6_numberNow_46 : decode cX6_numberNow 46 = .ok (.aload_n 0, 1) := dk_42 (dk_at dksX6_numberNow_2 0 rfl rfl)
theorem dX6_numberNow_47 : decode cX6_numberNow 47 = .ok (.getfield 123, 3) := dk_180 0 123 (dk_at dksX6_numberNow_2 1 rfl rfl)
theorem dX6_numberNow_50 : decode cX6_numberNow 50 = .ok (.iload_n 2, 1) := dk_28 (dk_at dksX6_numberNow_2 4 rfl rfl)
theorem dX6_numberNow_51 : decode cX6_numberNow 51 = .ok (.if_icmp .le 8, 3) := dk_164 0 8 (dk_at dksX6_numberNow_2 5 rfl rfl)
theorem dX6_numberNow_54 : decode cX6_numberNow 54 = .ok (.aload_n 0, 1) := dk_42 (dk_at dksX6_numberNow_2 8 rfl rfl)
theorem dX6_numberNow_55 : decode cX6_numberNow 55 = .ok (.iconst 2, 1) := dk_5 (dk_at dksX6_numberNow_2 9 rfl rfl)
theorem dX6_numberNow_56 : decode cX6_numberNow 56 = .ok (.invokevirtual 156, 3) := dk_182 0 156 (dk_at dksX6_numberNow_2 10 rfl rfl)
theorem dX6_numberNow_59 : decode cX6_numberNow 59 = .ok (.aload_n 0, 1) := dk_42 (dk_at dksX6_numberNow_2 13 rfl rfl)
theorem dX6_numberNow_60 : decode cX6_numberNow 60 = .ok (.getfield 136, 3) := dk_180 0 136 (dk_at dksX6_numberNow_2 14 rfl rfl)
theorem dX6_numberNow_63 : decode cX6_numberNow 63 = .ok (.ifCond .ne 10, 3) := dk_154 0 10 (dk_at dksX6_numberNow_2 17 rfl rfl)
theorem dX6_numberNow_66 : decode cX6_numberNow 66 = .ok (.aload_n 0, 1) := dk_42 (dk_at dksX6_numberNow_2 20 rfl rfl)
theorem dX6_numberNow_67 : decode cX6_numberNow 67 = .ok (.getfield 123, 3) := dk_180 0 123 (dk_at dksX6_numberNow_2 21 rfl rfl)
theorem dX6_numberNow_70 : decode cX6_numberNow 70 = .ok (.goto 4, 3) := dk_167 0 4 (dk_at dksX6_numberNow_3 0 rfl rfl)
theorem dX6_numberNow_73 : decode cX6_numberNow 73 = .ok (.iload_n 1, 1) := dk_27 (dk_at dksX6_numberNow_3 3 rfl rfl)
theorem dX6_numberNow_74 : decode cX6_numberNow 74 = .ok (.ireturn, 1) := dk_172 (dk_at dksX6_numberNow_3 4 rfl rfl)
def dkwX6_readEnd_1 : List UInt8 := [177]
abbrev dktX6_readEnd_1 : List UInt8 := dkwX6_readEnd_1 ++ []
def dkwX6_readEnd_0 : List UInt8 := [42, 180, 0, 136, 154, 0, 16, 42, 180, 0, 113, 6, 159, 0, 8, 42, 4, 182, 0, 156, 42, 182, 0, 163]
abbrev dktX6_readEnd_0 : List UInt8 := dkwX6_readEnd_0 ++ dktX6_readEnd_1
theorem dksX6_readEnd_0 : cX6_readEnd.data.toList.drop 0 = dktX6_readEnd_0 := by decide +kernel
theorem dksX6_readEnd_1 : cX6_readEnd.data.toList.drop 24 = dktX6_readEnd_1 := dk_seg dksX6_readEnd_0 24 rfl rfl
theorem dX6_readEnd_0 : decode cX6_readEnd 0 = .ok (.aload_n 0, 1) := dk_42 (dk_at dksX6_readEnd_0 0 rfl rfl)
theorem dX6_readEnd_1 : decode cX6_readEnd 1 = .ok (.getfield 136, 3) := dk_180 0 136 (dk_at dksX6_readEnd_0 1 rfl rfl)
theorem dX6_readEnd_4 : decode cX6_readEnd 4 = .ok (.ifCond .ne 16, 3) := dk_154 0 16 (dk_at dksX6_readEnd_0 4 rfl rfl)
theorem dX6_readEnd_7 : decode cX6_readEnd 7 = .ok (.aload_n 0, 1) := dk_42 (dk_at dksX6_readEnd_0 7 rfl rfl)
theorem dX6_readEnd_8 : decode cX6_readEnd 8 = .ok (.getfield 113, 3) := dk_180 0 113 (dk_at dksX6_readEnd_0 8 rfl rfl)
theorem dX6_readEnd_11 : decode cX6_readEnd 11 = .ok (.iconst 3, 1) := dk_6 (dk_at dksX6_readEnd_0 11 rfl rfl)
theorem dX6_readEnd_12 : decode cX6_readEnd 12 = .ok (.if_icmp .eq 8, 3) := dk_159 0 8 (dk_at dksX6_readEnd_0 12 rfl rfl)
theorem dX6_readEnd_15 : decode cX6_readEnd 15 = .ok (.aload_n 0, 1) := dk_42 (dk_at dksX6_readEnd_0 15 rfl rfl)
theorem dX6_readEnd_16 : decode cX6_readEnd 16 = .ok (.iconst 1, 1) := dk_4 (dk_at dksX6_readEnd_0 16 rfl rfl)
theorem dX6_readEnd_17 : decode cX6_readEnd 17 = .ok (.invokevirtual 156, 3) := dk_182 0 156 (dk_at dksX6_readEnd_0 17 rfl rfl)
theorem dX6_readEnd_20 : decode cX6_readEnd 20 = .ok (.aload_n 0, 1) := dk_42 (dk_at dksX6_readEnd_0 20 rfl rfl)
theorem dX6_readEnd_21 : decode cX6_readEnd 21 = .ok (.invokevirtual 163, 3) := dk_182 0 163 (dk_at dksX6_readEnd_0 21 rfl rfl)
theorem dX6_readEnd_24 : decode cX6_readEnd 24 = .ok (.return_, 1) := dk_177 (dk_at dksX6_readEnd_1 0 rfl rfl)
def dkwX6_readClause_9 : List UInt8 := [42, 4, 16, 99, 182, 0, 176, 79, 42, 182, 0, 179, 177]
abbrev dktX6_readClause_9 : List UInt8 := dkwX6_readClause_9 ++ []
def dkwX6_readClause_8 : List UInt8 := [79, 42, 180, 0, 35, 16, 8, 42, 3, 16, 99, 182, 0, 176, 79, 167, 0, 17, 42, 180, 0, 35, 16, 9]
abbrev dktX6_readClause_8 : List UInt8 := dkwX6_readClause_8 ++ dktX6_readClause_9
def dkwX6_readClause_7 : List UInt8 := [3, 17, 39, 15, 182, 0, 176, 79, 167, 0, 48, 42, 180, 0, 35, 16, 7, 42, 3, 16, 99, 182, 0, 176]
abbrev dktX6_readClause_7 : List UInt8 := dkwX6_readClause_7 ++ dktX6_readClause_8
def dkwX6_readClause_6 : List UInt8 := [167, 0, 80, 42, 180, 0, 35, 8, 42, 3, 17, 39, 15, 182, 0, 176, 79, 42, 180, 0, 35, 16, 6, 42]
abbrev dktX6_readClause_6 : List UInt8 := dkwX6_readClause_6 ++ dktX6_readClause_7
def dkwX6_readClause_5 : List UInt8 := [4, 16, 99, 182, 0, 176, 79, 167, 0, 96, 42, 180, 0, 35, 7, 42, 4, 16, 10, 182, 0, 176, 79]
abbrev dktX6_readClause_5 : List UInt8 := dkwX6_readClause_5 ++ dktX6_readClause_6
def dkwX6_readClause_4 : List UInt8 := [182, 0, 176, 79, 167, 0, 123, 42, 180, 0, 35, 5, 42, 5, 182, 0, 173, 79, 42, 180, 0, 35, 6, 42]
abbrev dktX6_readClause_4 : List UInt8 := dkwX6_readClause_4 ++ dktX6_readClause_5
def dkwX6_readClause_3 : List UInt8 := [42, 27, 182, 0, 173, 61, 42, 180, 0, 35, 16, 10, 16, 12, 27, 104, 96, 28, 96, 42, 4, 6]
abbrev dktX6_readClause_3 : List UInt8 := dkwX6_readClause_3 ++ dktX6_readClause_4
def dkwX6_readClause_2 : List UInt8 := [170, 0, 0, 0, 0, 0, 0, 179, 0, 0, 0, 0, 0, 0, 0, 6, 0, 0, 0, 44, 0, 0, 0, 44, 0, 0, 0, 44, 0, 0, 0, 73, 0, 0, 0, 100, 0, 0, 0, 116, 0, 0, 0, 148]
abbrev dktX6_readClause_2 : List UInt8 := dkwX6_readClause_2 ++ dktX6_readClause_3
def dkwX6_readClause_1 : List UInt8 := [153, 0, 4, 177, 27]
abbrev dktX6_readClause_1 : List UInt8 := dkwX6_readClause_1 ++ dktX6_readClause_2
def dkwX6_readClause_0 : List UInt8 := [42, 182, 0, 170, 60, 27, 2, 160, 0, 8, 42, 4, 182, 0, 156, 42, 182, 0, 163, 42, 180, 0, 136]
abbrev dktX6_readClause_0 : List UInt8 := dkwX6_readClause_0 ++ dktX6_readClause_1
theorem dksX6_readClause_0 : cX6_readClause.data.toList.drop 0 = dktX6_readClause_0 := by decide +kernel
theorem dksX6_readClause_1 : cX6_readClause.data.toList.drop 23 = dktX6_readClause_1 := dk_seg dksX6_readClause_0 23 rfl rfl
theorem dksX6_readClause_2 : cX6_readClause.data.toList.drop 28 = dktX6_readClause_2 := dk_seg dksX6_readClause_1 5 rfl rfl
theorem dksX6_readClause_3 : cX6_readClause.data.toList.drop 72 = dktX6_readClause_3 := dk_seg dksX6_readClause_2 44 rfl rfl
theorem dksX6_readClause_4 : cX6_readClause.data.toList.drop 94 = dktX6_readClause_4 := dk_seg dksX6_readClause_3 22 rfl rfl
theorem dksX6_readClause_5 : cX6_readClause.data.toList.drop 118 = dktX6_readClause_5 := dk_seg dksX6_readClause_4 24 rfl rfl
theorem dksX6_readClause_6 : cX6_readClause.data.toList.drop 141 = dktX6_readClause_6 := dk_seg dksX6_readClause_5 23 rfl rfl
theorem dksX6_readClause_7 : cX6_readClause.data.toList.drop 165 = dktX6_readClause_7 := dk_seg dksX6_readClause_6 24 rfl rfl
theorem dksX6_readClause_8 : cX6_readClause.data.toList.drop 189 = dktX6_readClause_8 := dk_seg dksX6_readClause_7 24 rfl rfl
theorem dksX6_readClause_9 : cX6_readClause.data.toList.drop 213 = dktX6_readClause_9 := dk_seg dksX6_readClause_8 24 rfl rfl
theorem dX6_readClause_0 : decode cX6_readClause 0 = .ok (.aload_n 0, 1) := dk_42 (dk_at dksX6_readClause_0 0 rfl rfl)
theorem dX6_readClause_1 : decode cX6_readClause 1 = .ok (.invokevirtual 170, 3) := dk_182 0 170 (dk_at dksX6_readClause_0 1 rfl rfl)
theorem dX6_readClause_4 : decode cX6_readClause 4 = .ok (.istore_n 1, 1) := dk_60 (dk_at dksX6_readClause_0 4 rfl rfl)
theorem dX6_readClause_5 : decode cX6_readClause 5 = .ok (.iload_n 1, 1) := dk_27 (dk_at dksX6_readClause_0 5 rfl rfl)
theorem dX6_readClause_6 : decode cX6_readClause 6 = .ok (.iconst (-1), 1) := dk_2 (dk_at dksX6_readClause_0 6 rfl rfl)
theorem dX6_readClause_7 : decode cX6_readClause 7 = .ok (.if_icmp .ne 8, 3) := dk_160 0 8 (dk_at dksX6_readClause_0 7 rfl rfl)
theorem dX6_readClause_10 : decode cX6_readClause 10 = .ok (.aload_n 0, 1) := dk_42 (dk_at dksX6_readClause_0 10 rfl rfl)
theorem dX6_readClause_11 : decode cX6_readClause 11 = .ok (.iconst 1, 1) := dk_4 (dk_at dksX6_readClause_0 11 rfl rfl)
theorem dX6_readClause_12 : decode cX6_readClause 12 = .ok (.invokevirtual 156, 3) := dk_182 0 156 (dk_at dksX6_readClause_0 12 rfl rfl)
theorem dX6_readClause_15 : decode cX6_readClause 15 = .ok (.aload_n 0, 1) := dk_42 (dk_at dksX6_readClause_0 15 rfl rfl)
theorem dX6_readClause_16 : decode cX6_readClause 16 = .ok (.invokevirtual 163, 3) := dk_182 0 163 (dk_at dksX6_readClause_0 16 rfl rfl)
theorem dX6_readClause_19 : decode cX6_readClause 19 = .ok (.aload_n 0, 1) := dk_42 (dk_at dksX6_readClause_0 19 rfl rfl)
theorem dX6_readClause_20 : decode cX6_readClause 20 = .ok (.getfield 136, 3) := dk_180 0 136 (dk_at dksX6_readClause_0 20 rfl rfl)
theorem dX6_readClause_23 : decode cX6_readClause 23 = .ok (.ifCond .eq 4, 3) := dk_153 0 4 (dk_at dksX6_readClause_1 0 rfl rfl)
theorem dX6_readClause_26 : decode cX6_readClause 26 = .ok (.return_, 1) := dk_177 (dk_at dksX6_readClause_1 3 rfl rfl)
theorem dX6_readClause_27 : decode cX6_readClause 27 = .ok (.iload_n 1, 1) := dk_27 (dk_at dksX6_readClause_1 4 rfl rfl)
theorem dX6_readClause_28 : decode cX6_readClause 28 = .ok (.tableswitch 179 0 6 #[44, 44, 44, 73, 100, 116, 148], 44) := by decide +kernel
theorem dX6_readClause_72 : decode cX6_readClause 72 = .ok (.aload_n 0, 1) := dk_42 (dk_at dksX6_readClause_3 0 rfl rfl)
theorem dX6_readClause_73 : decode cX6_readClause 73 = .ok (.iload_n 1, 1) := dk_27 (dk_at dksX6_readClause_3 1 rfl rfl)
theorem dX6_readClause_74 : decode cX6_readClause 74 = .ok (.invokevirtual 173, 3) := dk_182 0 173 (dk_at dksX6_readClause_3 2 rfl rfl)
theorem dX6_readClause_77 : decode cX6_readClause 77 = .ok (.istore_n 2, 1) := dk_61 (dk_at dksX6_readClause_3 5 rfl rfl)
theorem dX6_readClause_78 : decode cX6_readClause 78 = .ok (.aload_n 0, 1) := dk_42 (dk_at dksX6_readClause_3 6 rfl rfl)
theorem dX6_readClause_79 : decode cX6_readClause 79 = .ok (.getfield 35, 3) := dk_180 0 35 (dk_at dksX6_readClause_3 7 rfl rfl)
theorem dX6_readClause_82 : decode cX6_readClause 82 = .ok (.bipush 10, 2) := dk_16 10 (dk_at dksX6_readClause_3 10 rfl rfl)
theorem dX6_readClause_84 : decode cX6_readClause 84 = .ok (.bipush 12, 2) := dk_16 12 (dk_at dksX6_readClause_3 12 rfl rfl)
theorem dX6_readClause_86 : decode cX6_readClause 86 = .ok (.iload_n 1, 1) := dk_27 (dk_at dksX6_readClause_3 14 rfl rfl)
theorem dX6_readClause_87 : decode cX6_readClause 87 = .ok (.imul, 1) := dk_104 (dk_at dksX6_readClause_3 15 rfl rfl)
theorem dX6_readClause_88 : decode cX6_readClause 88 = .ok (.iadd, 1) := dk_96 (dk_at dksX6_readClause_3 16 rfl rfl)
theorem dX6_readClause_89 : decode cX6_readClause 89 = .ok (.iload_n 2, 1) := dk_28 (dk_at dksX6_readClause_3 17 rfl rfl)
theorem dX6_readClause_90 : decode cX6_readClause 90 = .ok (.iadd, 1) := dk_96 (dk_at dksX6_readClause_3 18 rfl rfl)
theorem dX6_readClause_91 : decode cX6_readClause 91 = .ok (.aload_n 0, 1) := dk_42 (dk_at dksX6_readClause_3 19 rfl rfl)
theorem dX6_readClause_92 : decode cX6_readClause 92 = .ok (.iconst 1, 1) := dk_4 (dk_at dksX6_readClause_3 20 rfl rfl)
theorem dX6_readClause_93 : decode cX6_readClause 93 = .ok (.iconst 3, 1) := dk_6 (dk_at dksX6_readClause_3 21 rfl rfl)
theorem dX6_readClause_94 : decode cX6_readClause 94 = .ok (.invokevirtual 176, 3) := dk_182 0 176 (dk_at dksX6_readClause_4 0 rfl rfl)
theorem dX6_readClause_97 : decode cX6_readClause 97 = .ok (.iastore, 1) := dk_79 (dk_at dksX6_readClause_4 3 rfl rfl)
theorem dX6_readClause_98 : decode cX6_readClause 98 = .ok (.goto 123, 3) := dk_167 0 123 (dk_at dksX6_readClause_4 4 rfl rfl)
theorem dX6_readClause_101 : decode cX6_readClause 101 = .ok (.aload_n 0, 1) := dk_42 (dk_at dksX6_readClause_4 7 rfl rfl)
theorem dX6_readClause_102 : decode cX6_readClause 102 = .ok (.getfield 35, 3) := dk_180 0 35 (dk_at dksX6_readClause_4 8 rfl rfl)
theorem dX6_readClause_105 : decode cX6_readClause 105 = .ok (.iconst 2, 1) := dk_5 (dk_at dksX6_readClause_4 11 rfl rfl)
theorem dX6_readClause_106 : decode cX6_readClause 106 = .ok (.aload_n 0, 1) := dk_42 (dk_at dksX6_readClause_4 12 rfl rfl)
theorem dX6_readClause_107 : decode cX6_readClause 107 = .ok (.iconst 2, 1) := dk_5 (dk_at dksX6_readClause_4 13 rfl rfl)
theorem dX6_readClause_108 : decode cX6_readClause 108 = .ok (.invokevirtual 173, 3) := dk_182 0 173 (dk_at dksX6_readClause_4 14 rfl rfl)
theorem dX6_readClause_111 : decode cX6_readClause 111 = .ok (.iastore, 1) := dk_79 (dk_at dksX6_readClause_4 17 rfl rfl)
theorem dX6_readClause_112 : decode cX6_readClause 112 = .ok (.aload_n 0, 1) := dk_42 (dk_at dksX6_readClause_4 18 rfl rfl)
theorem dX6_readClause_113 : decode cX6_readClause 113 = .ok (.getfield 35, 3) := dk_180 0 35 (dk_at dksX6_readClause_4 19 rfl rfl)
theorem dX6_readClause_116 : decode cX6_readClause 116 = .ok (.iconst 3, 1) := dk_6 (dk_at dksX6_readClause_4 22 rfl rfl)
theorem dX6_readClause_117 : decode cX6_readClause 117 = .ok (.aload_n 0, 1) := dk_42 (dk_at dksX6_readClause_4 23 rfl rfl)
theorem dX6_readClause_118 : decode cX6_readClause 118 = .ok (.iconst 1, 1) := dk_4 (dk_at dksX6_readClause_5 0 rfl rfl)
theorem dX6_readClause_119 : decode cX6_readClause 119 = .ok (.bipush 99, 2) := dk_16 99 (dk_at dksX6_readClause_5 1 rfl rfl)
theorem dX6_readClause_121 : decode cX6_readClause 121 = .ok (.invokevirtual 176, 3) := dk_182 0 176 (dk_at dksX6_readClause_5 3 rfl rfl)
theorem dX6_readClause_124 : decode cX6_readClause 124 = .ok (.iastore, 1) := dk_79 (dk_at dksX6_readClause_5 6 rfl rfl)
theorem dX6_readClause_125 : decode cX6_readClause 125 = .ok (.goto 96, 3) := dk_167 0 96 (dk_at dksX6_readClause_5 7 rfl rfl)
theorem dX6_readClause_128 : decode cX6_readClause 128 = .ok (.aload_n 0, 1) := dk_42 (dk_at dksX6_readClause_5 10 rfl rfl)
theorem dX6_readClause_129 : decode cX6_readClause 129 = .ok (.getfield 35, 3) := dk_180 0 35 (dk_at dksX6_readClause_5 11 rfl rfl)
theorem dX6_readClause_132 : decode cX6_readClause 132 = .ok (.iconst 4, 1) := dk_7 (dk_at dksX6_readClause_5 14 rfl rfl)
theorem dX6_readClause_133 : decode cX6_readClause 133 = .ok (.aload_n 0, 1) := dk_42 (dk_at dksX6_readClause_5 15 rfl rfl)
theorem dX6_readClause_134 : decode cX6_readClause 134 = .ok (.iconst 1, 1) := dk_4 (dk_at dksX6_readClause_5 16 rfl rfl)
theorem dX6_readClause_135 : decode cX6_readClause 135 = .ok (.bipush 10, 2) := dk_16 10 (dk_at dksX6_readClause_5 17 rfl rfl)
theorem dX6_readClause_137 : decode cX6_readClause 137 = .ok (.invokevirtual 176, 3) := dk_182 0 176 (dk_at dksX6_readClause_5 19 rfl rfl)
theorem dX6_readClause_140 : decode cX6_readClause 140 = .ok (.iastore, 1) := dk_79 (dk_at dksX6_readClause_5 22 rfl rfl)
theorem dX6_readClause_141 : decode cX6_readClause 141 = .ok (.goto 80, 3) := dk_167 0 80 (dk_at dksX6_readClause_6 0 rfl rfl)
theorem dX6_readClause_144 : decode cX6_readClause 144 = .ok (.aload_n 0, 1) := dk_42 (dk_at dksX6_readClause_6 3 rfl rfl)
theorem dX6_readClause_145 : decode cX6_readClause 145 = .ok (.getfield 35, 3) := dk_180 0 35 (dk_at dksX6_readClause_6 4 rfl rfl)
theorem dX6_readClause_148 : decode cX6_readClause 148 = .ok (.iconst 5, 1) := dk_8 (dk_at dksX6_readClause_6 7 rfl rfl)
theorem dX6_readClause_149 : decode cX6_readClause 149 = .ok (.aload_n 0, 1) := dk_42 (dk_at dksX6_readClause_6 8 rfl rfl)
theorem dX6_readClause_150 : decode cX6_readClause 150 = .ok (.iconst 0, 1) := dk_3 (dk_at dksX6_readClause_6 9 rfl rfl)
theorem dX6_readClause_151 : decode cX6_readClause 151 = .ok (.sipush 9999, 3) := dk_17 39 15 (dk_at dksX6_readClause_6 10 rfl rfl)
theorem dX6_readClause_154 : decode cX6_readClause 154 = .ok (.invokevirtual 176, 3) := dk_182 0 176 (dk_at dksX6_readClause_6 13 rfl rfl)
theorem dX6_readClause_157 : decode cX6_readClause 157 = .ok (.iastore, 1) := dk_79 (dk_at dksX6_readClause_6 16 rfl rfl)
theorem dX6_readClause_158 : decode cX6_readClause 158 = .ok (.aload_n 0, 1) := dk_42 (dk_at dksX6_readClause_6 17 rfl rfl)
theorem dX6_readClause_159 : decode cX6_readClause 159 = .ok (.getfield 35, 3) := dk_180 0 35 (dk_at dksX6_readClause_6 18 rfl rfl)
theorem dX6_readClause_162 : decode cX6_readClause 162 = .ok (.bipush 6, 2) := dk_16 6 (dk_at dksX6_readClause_6 21 rfl rfl)
theorem dX6_readClause_164 : decode cX6_readClause 164 = .ok (.aload_n 0, 1) := dk_42 (dk_at dksX6_readClause_6 23 rfl rfl)
theorem dX6_readClause_165 : decode cX6_readClause 165 = .ok (.iconst 0, 1) := dk_3 (dk_at dksX6_readClause_7 0 rfl rfl)
theorem dX6_readClause_166 : decode cX6_readClause 166 = .ok (.sipush 9999, 3) := dk_17 39 15 (dk_at dksX6_readClause_7 1 rfl rfl)
theorem dX6_readClause_169 : decode cX6_readClause 169 = .ok (.invokevirtual 176, 3) := dk_182 0 176 (dk_at dksX6_readClause_7 4 rfl rfl)
theorem dX6_readClause_172 : decode cX6_readClause 172 = .ok (.iastore, 1) := dk_79 (dk_at dksX6_readClause_7 7 rfl rfl)
theorem dX6_readClause_173 : decode cX6_readClause 173 = .ok (.goto 48, 3) := dk_167 0 48 (dk_at dksX6_readClause_7 8 rfl rfl)
theorem dX6_readClause_176 : decode cX6_readClause 176 = .ok (.aload_n 0, 1) := dk_42 (dk_at dksX6_readClause_7 11 rfl rfl)
theorem dX6_readClause_177 : decode cX6_readClause 177 = .ok (.getfield 35, 3) := dk_180 0 35 (dk_at dksX6_readClause_7 12 rfl rfl)
theorem dX6_readClause_180 : decode cX6_readClause 180 = .ok (.bipush 7, 2) := dk_16 7 (dk_at dksX6_readClause_7 15 rfl rfl)
theorem dX6_readClause_182 : decode cX6_readClause 182 = .ok (.aload_n 0, 1) := dk_42 (dk_at dksX6_readClause_7 17 rfl rfl)
theorem dX6_readClause_183 : decode cX6_readClause 183 = .ok (.iconst 0, 1) := dk_3 (dk_at dksX6_readClause_7 18 rfl rfl)
theorem dX6_readClause_184 : decode cX6_readClause 184 = .ok (.bipush 99, 2) := dk_16 99 (dk_at dksX6_readClause_7 19 rfl rfl)
theorem dX6_readClause_186 : decode cX6_readClause 186 = .ok (.invokevirtual 176, 3) := dk_182 0 176 (dk_at dksX6_readClause_7 21 rfl rfl)
theorem dX6_readClause_189 : decode cX6_readClause 189 = .ok (.iastore, 1) := dk_79 (dk_at dksX6_readClause_8 0 rfl rfl)
theorem dX6_readClause_190 : decode cX6_readClause 190 = .ok (.aload_n 0, 1) := dk_42 (dk_at dksX6_readClause_8 1 rfl rfl)
theorem dX6_readClause_191 : decode cX6_readClause 191 = .ok (.getfield 35, 3) := dk_180 0 35 (dk_at dksX6_readClause_8 2 rfl rfl)
theorem dX6_readClause_194 : decode cX6_readClause 194 = .ok (.bipush 8, 2) := dk_16 8 (dk_at dksX6_readClause_8 5 rfl rfl)
theorem dX6_readClause_196 : decode cX6_readClause 196 = .ok (.aload_n 0, 1) := dk_42 (dk_at dksX6_readClause_8 7 rfl rfl)
theorem dX6_readClause_197 : decode cX6_readClause 197 = .ok (.iconst 0, 1) := dk_3 (dk_at dksX6_readClause_8 8 rfl rfl)
theorem dX6_readClause_198 : decode cX6_readClause 198 = .ok (.bipush 99, 2) := dk_16 99 (dk_at dksX6_readClause_8 9 rfl rfl)
theorem dX6_readClause_200 : decode cX6_readClause 200 = .ok (.invokevirtual 176, 3) := dk_182 0 176 (dk_at dksX6_readClause_8 11 rfl rfl)
theorem dX6_readClause_203 : decode cX6_readClause 203 = .ok (.iastore, 1) := dk_79 (dk_at dksX6_readClause_8 14 rfl rfl)
theorem dX6_readClause_204 : decode cX6_readClause 204 = .ok (.goto 17, 3) := dk_167 0 17 (dk_at dksX6_readClause_8 15 rfl rfl)
theorem dX6_readClause_207 : decode cX6_readClause 207 = .ok (.aload_n 0, 1) := dk_42 (dk_at dksX6_readClause_8 18 rfl rfl)
theorem dX6_readClause_208 : decode cX6_readClause 208 = .ok (.getfield 35, 3) := dk_180 0 35 (dk_at dksX6_readClause_8 19 rfl rfl)
theorem dX6_readClause_211 : decode cX6_readClause 211 = .ok (.bipush 9, 2) := dk_16 9 (dk_at dksX6_readClause_8 22 rfl rfl)
theorem dX6_readClause_213 : decode cX6_readClause 213 = .ok (.aload_n 0, 1) := dk_42 (dk_at dksX6_readClause_9 0 rfl rfl)
theorem dX6_readClause_214 : decode cX6_readClause 214 = .ok (.iconst 1, 1) := dk_4 (dk_at dksX6_readClause_9 1 rfl rfl)
theorem dX6_readClause_215 : decode cX6_readClause 215 = .ok (.bipush 99, 2) := dk_16 99 (dk_at dksX6_readClause_9 2 rfl rfl)
theorem dX6_readClause_217 : decode cX6_readClause 217 = .ok (.invokevirtual 176, 3) := dk_182 0 176 (dk_at dksX6_readClause_9 4 rfl rfl)
theorem dX6_readClause_220 : decode cX6_readClause 220 = .ok (.iastore, 1) := dk_79 (dk_at dksX6_readClause_9 7 rfl rfl)
theorem dX6_readClause_221 : decode cX6_readClause 221 = .ok (.aload_n 0, 1) := dk_42 (dk_at dksX6_readClause_9 8 rfl rfl)
theorem dX6_readClause_222 : decode cX6_readClause 222 = .ok (.invokevirtual 179, 3) := dk_182 0 179 (dk_at dksX6_readClause_9 9 rfl rfl)
theorem dX6_readClause_225 : decode cX6_readClause 225 = .ok (.return_, 1) := dk_177 (dk_at dksX6_readClause_9 12 rfl rfl)
def dkwX6_which_1 : List UInt8 := [27, 172, 132, 1, 1, 167, 255, 229, 2, 172]
abbrev dktX6_which_1 : List UInt8 := dkwX6_which_1 ++ []
def dkwX6_which_0 : List UInt8 := [3, 60, 27, 42, 180, 0, 25, 190, 162, 0, 24, 42, 42, 180, 0, 25, 27, 50, 182, 0, 149, 153, 0, 5]
abbrev dktX6_which_0 : List UInt8 := dkwX6_which_0 ++ dktX6_which_1
theorem dksX6_which_0 : cX6_which.data.toList.drop 0 = dktX6_which_0 := by decide +kernel
theorem dksX6_which_1 : cX6_which.data.toList.drop 24 = dktX6_which_1 := dk_seg dksX6_which_0 24 rfl rfl
theorem dX6_which_0 : decode cX6_which 0 = .ok (.iconst 0, 1) := dk_3 (dk_at dksX6_which_0 0 rfl rfl)
theorem dX6_which_1 : decode cX6_which 1 = .ok (.istore_n 1, 1) := dk_60 (dk_at dksX6_which_0 1 rfl rfl)
theorem dX6_which_2 : decode cX6_which 2 = .ok (.iload_n 1, 1) := dk_27 (dk_at dksX6_which_0 2 rfl rfl)
theorem dX6_which_3 : decode cX6_which 3 = .ok (.aload_n 0, 1) := dk_42 (dk_at dksX6_which_0 3 rfl rfl)
theorem dX6_which_4 : decode cX6_which 4 = .ok (.getfield 25, 3) := dk_180 0 25 (dk_at dksX6_which_0 4 rfl rfl)
theorem dX6_which_7 : decode cX6_which 7 = .ok (.arraylength, 1) := dk_190 (dk_at dksX6_which_0 7 rfl rfl)
theorem dX6_which_8 : decode cX6_which 8 = .ok (.if_icmp .ge 24, 3) := dk_162 0 24 (dk_at dksX6_which_0 8 rfl rfl)
theorem dX6_which_11 : decode cX6_which 11 = .ok (.aload_n 0, 1) := dk_42 (dk_at dksX6_which_0 11 rfl rfl)
theorem dX6_which_12 : decode cX6_which 12 = .ok (.aload_n 0, 1) := dk_42 (dk_at dksX6_which_0 12 rfl rfl)
theorem dX6_which_13 : decode cX6_which 13 = .ok (.getfield 25, 3) := dk_180 0 25 (dk_at dksX6_which_0 13 rfl rfl)
theorem dX6_which_16 : decode cX6_which 16 = .ok (.iload_n 1, 1) := dk_27 (dk_at dksX6_which_0 16 rfl rfl)
theorem dX6_which_17 : decode cX6_which 17 = .ok (.aaload, 1) := dk_50 (dk_at dksX6_which_0 17 rfl rfl)
theorem dX6_which_18 : decode cX6_which 18 = .ok (.invokevirtual 149, 3) := dk_182 0 149 (dk_at dksX6_which_0 18 rfl rfl)
theorem dX6_which_21 : decode cX6_which 21 = .ok (.ifCond .eq 5, 3) := dk_153 0 5 (dk_at dksX6_which_0 21 rfl rfl)
theorem dX6_which_24 : decode cX6_which 24 = .ok (.iload_n 1, 1) := dk_27 (dk_at dksX6_which_1 0 rfl rfl)
theorem dX6_which_25 : decode cX6_which 25 = .ok (.ireturn, 1) := dk_172 (dk_at dksX6_which_1 1 rfl rfl)
theorem dX6_which_26 : decode cX6_which 26 = .ok (.iinc 1 1, 3) := dk_132 1 1 (dk_at dksX6_which_1 2 rfl rfl)
theorem dX6_which_29 : decode cX6_which 29 = .ok (.goto (-27), 3) := dk_167 255 229 (dk_at dksX6_which_1 5 rfl rfl)
theorem dX6_which_32 : decode cX6_which 32 = .ok (.iconst (-1), 1) := dk_2 (dk_at dksX6_which_1 8 rfl rfl)
theorem dX6_which_33 : decode cX6_which 33 = .ok (.ireturn, 1) := dk_172 (dk_at dksX6_which_1 9 rfl rfl)
def dkwX6_readNode_2 : List UInt8 := [180, 0, 35, 28, 27, 184, 0, 166, 154, 0, 8, 42, 7, 182, 0, 156, 42, 182, 0, 163, 28, 172]
abbrev dktX6_readNode_2 : List UInt8 := dkwX6_readNode_2 ++ []
def dkwX6_readNode_1 : List UInt8 := [180, 0, 35, 4, 46, 104, 161, 0, 8, 42, 6, 182, 0, 156, 42, 180, 0, 136, 154, 0, 20, 42]
abbrev dktX6_readNode_1 : List UInt8 := dkwX6_readNode_1 ++ dktX6_readNode_2
def dkwX6_readNode_0 : List UInt8 := [42, 3, 16, 11, 182, 0, 160, 61, 42, 180, 0, 136, 154, 0, 25, 28, 42, 180, 0, 35, 3, 46, 42]
abbrev dktX6_readNode_0 : List UInt8 := dkwX6_readNode_0 ++ dktX6_readNode_1
theorem dksX6_readNode_0 : cX6_readNode.data.toList.drop 0 = dktX6_readNode_0 := by decide +kernel
theorem dksX6_readNode_1 : cX6_readNode.data.toList.drop 23 = dktX6_readNode_1 := dk_seg dksX6_readNode_0 23 rfl rfl
theorem dksX6_readNode_2 : cX6_readNode.data.toList.drop 45 = dktX6_readNode_2 := dk_seg dksX6_readNode_1 22 rfl rfl
theorem dX6_readNode_0 : decode cX6_readNode 0 = .ok (.aload_n 0, 1) := dk_42 (dk_at dksX6_readNode_0 0 rfl rfl)
theorem dX6_readNode_1 : decode cX6_readNode 1 = .ok (.iconst 0, 1) := dk_3 (dk_at dksX6_readNode_0 1 rfl rfl)
theorem dX6_readNode_2 : decode cX6_readNode 2 = .ok (.bipush 11, 2) := dk_16 11 (dk_at dksX6_readNode_0 2 rfl rfl)
theorem dX6_readNode_4 : decode cX6_readNode 4 = .ok (.invokevirtual 160, 3) := dk_182 0 160 (dk_at dksX6_readNode_0 4 rfl rfl)
theorem dX6_readNode_7 : decode cX6_readNode 7 = .ok (.istore_n 2, 1) := dk_61 (dk_at dksX6_readNode_0 7 rfl rfl)
theorem dX6_readNode_8 : decode cX6_readNode 8 = .ok (.aload_n 0, 1) := dk_42 (dk_at dksX6_readNode_0 8 rfl rfl)
theorem dX6_readNode_9 : decode cX6_readNode 9 = .ok (.getfield 136, 3) := dk_180 0 136 (dk_at dksX6_readNode_0 9 rfl rfl)
theorem dX6_readNode_12 : decode cX6_readNode 12 = .ok (.ifCond .ne 25, 3) := dk_154 0 25 (dk_at dksX6_readNode_0 12 rfl rfl)
theorem dX6_readNode_15 : decode cX6_readNode 15 = .ok (.iload_n 2, 1) := dk_28 (dk_at dksX6_readNode_0 15 rfl rfl)
theorem dX6_readNode_16 : decode cX6_readNode 16 = .ok (.aload_n 0, 1) := dk_42 (dk_at dksX6_readNode_0 16 rfl rfl)
theorem dX6_readNode_17 : decode cX6_readNode 17 = .ok (.getfield 35, 3) := dk_180 0 35 (dk_at dksX6_readNode_0 17 rfl rfl)
theorem dX6_readNode_20 : decode cX6_readNode 20 = .ok (.iconst 0, 1) := dk_3 (dk_at dksX6_readNode_0 20 rfl rfl)
theorem dX6_readNode_21 : decode cX6_readNode 21 = .ok (.iaload, 1) := dk_46 (dk_at dksX6_readNode_0 21 rfl rfl)
theorem dX6_readNode_22 : decode cX6_readNode 22 = .ok (.aload_n 0, 1) := dk_42 (dk_at dksX6_readNode_0 22 rfl rfl)
theorem dX6_readNode_23 : decode cX6_readNode 23 = .ok (.getfield 35, 3) := dk_180 0 35 (dk_at dksX6_readNode_1 0 rfl rfl)
theorem dX6_readNode_26 : decode cX6_readNode 26 = .ok (.iconst 1, 1) := dk_4 (dk_at dksX6_readNode_1 3 rfl rfl)
theorem dX6_readNode_27 : decode cX6_readNode 27 = .ok (.iaload, 1) := dk_46 (dk_at dksX6_readNode_1 4 rfl rfl)
theorem dX6_readNode_28 : decode cX6_readNode 28 = .ok (.imul, 1) := dk_104 (dk_at dksX6_readNode_1 5 rfl rfl)
theorem dX6_readNode_29 : decode cX6_readNode 29 = .ok (.if_icmp .lt 8, 3) := dk_161 0 8 (dk_at dksX6_readNode_1 6 rfl rfl)
theorem dX6_readNode_32 : decode cX6_readNode 32 = .ok (.aload_n 0, 1) := dk_42 (dk_at dksX6_readNode_1 9 rfl rfl)
theorem dX6_readNode_33 : decode cX6_readNode 33 = .ok (.iconst 3, 1) := dk_6 (dk_at dksX6_readNode_1 10 rfl rfl)
theorem dX6_readNode_34 : decode cX6_readNode 34 = .ok (.invokevirtual 156, 3) := dk_182 0 156 (dk_at dksX6_readNode_1 11 rfl rfl)
theorem dX6_readNode_37 : decode cX6_readNode 37 = .ok (.aload_n 0, 1) := dk_42 (dk_at dksX6_readNode_1 14 rfl rfl)
theorem dX6_readNode_38 : decode cX6_readNode 38 = .ok (.getfield 136, 3) := dk_180 0 136 (dk_at dksX6_readNode_1 15 rfl rfl)
theorem dX6_readNode_41 : decode cX6_readNode 41 = .ok (.ifCond .ne 20, 3) := dk_154 0 20 (dk_at dksX6_readNode_1 18 rfl rfl)
theorem dX6_readNode_44 : decode cX6_readNode 44 = .ok (.aload_n 0, 1) := dk_42 (dk_at dksX6_readNode_1 21 rfl rfl)
theorem dX6_readNode_45 : decode cX6_readNode 45 = .ok (.getfield 35, 3) := dk_180 0 35 (dk_at dksX6_readNode_2 0 rfl rfl)
theorem dX6_readNode_48 : decode cX6_readNode 48 = .ok (.iload_n 2, 1) := dk_28 (dk_at dksX6_readNode_2 3 rfl rfl)
theorem dX6_readNode_49 : decode cX6_readNode 49 = .ok (.iload_n 1, 1) := dk_27 (dk_at dksX6_readNode_2 4 rfl rfl)
theorem dX6_readNode_50 : decode cX6_readNode 50 = .ok (.invokestatic 166, 3) := dk_184 0 166 (dk_at dksX6_readNode_2 5 rfl rfl)
theorem dX6_readNode_53 : decode cX6_readNode 53 = .ok (.ifCond .ne 8, 3) := dk_154 0 8 (dk_at dksX6_readNode_2 8 rfl rfl)
theorem dX6_readNode_56 : decode cX6_readNode 56 = .ok (.aload_n 0, 1) := dk_42 (dk_at dksX6_readNode_2 11 rfl rfl)
theorem dX6_readNode_57 : decode cX6_readNode 57 = .ok (.iconst 4, 1) := dk_7 (dk_at dksX6_readNode_2 12 rfl rfl)
theorem dX6_readNode_58 : decode cX6_readNode 58 = .ok (.invokevirtual 156, 3) := dk_182 0 156 (dk_at dksX6_readNode_2 13 rfl rfl)
theorem dX6_readNode_61 : decode cX6_readNode 61 = .ok (.aload_n 0, 1) := dk_42 (dk_at dksX6_readNode_2 16 rfl rfl)
theorem dX6_readNode_62 : decode cX6_readNode 62 = .ok (.invokevirtual 163, 3) := dk_182 0 163 (dk_at dksX6_readNode_2 17 rfl rfl)
theorem dX6_readNode_65 : decode cX6_readNode 65 = .ok (.iload_n 2, 1) := dk_28 (dk_at dksX6_readNode_2 20 rfl rfl)
theorem dX6_readNode_66 : decode cX6_readNode 66 = .ok (.ireturn, 1) := dk_172 (dk_at dksX6_readNode_2 21 rfl rfl)
def dkwX6_mayBe_1 : List UInt8 := [167, 0, 16, 27, 42, 3, 46, 108, 4, 96, 42, 4, 46, 162, 0, 7, 4, 167, 0, 4, 3, 172]
abbrev dktX6_mayBe_1 : List UInt8 := dkwX6_mayBe_1 ++ []
def dkwX6_mayBe_0 : List UInt8 := [28, 5, 159, 0, 36, 28, 154, 0, 19, 27, 42, 3, 46, 112, 4, 96, 42, 3, 46, 162, 0, 23]
abbrev dktX6_mayBe_0 : List UInt8 := dkwX6_mayBe_0 ++ dktX6_mayBe_1
theorem dksX6_mayBe_0 : cX6_mayBe.data.toList.drop 0 = dktX6_mayBe_0 := by decide +kernel
theorem dksX6_mayBe_1 : cX6_mayBe.data.toList.drop 22 = dktX6_mayBe_1 := dk_seg dksX6_mayBe_0 22 rfl rfl
theorem dX6_mayBe_0 : decode cX6_mayBe 0 = .ok (.iload_n 2, 1) := dk_28 (dk_at dksX6_mayBe_0 0 rfl rfl)
theorem dX6_mayBe_1 : decode cX6_mayBe 1 = .ok (.iconst 2, 1) := dk_5 (dk_at dksX6_mayBe_0 1 rfl rfl)
theorem dX6_mayBe_2 : decode cX6_mayBe 2 = .ok (.if_icmp .eq 36, 3) := dk_159 0 36 (dk_at dksX6_mayBe_0 2 rfl rfl)
theorem dX6_mayBe_5 : decode cX6_mayBe 5 = .ok (.iload_n 2, 1) := dk_28 (dk_at dksX6_mayBe_0 5 rfl rfl)
theorem dX6_mayBe_6 : decode cX6_mayBe 6 = .ok (.ifCond .ne 19, 3) := dk_154 0 19 (dk_at dksX6_mayBe_0 6 rfl rfl)
theorem dX6_mayBe_9 : decode cX6_mayBe 9 = .ok (.iload_n 1, 1) := dk_27 (dk_at dksX6_mayBe_0 9 rfl rfl)
theorem dX6_mayBe_10 : decode cX6_mayBe 10 = .ok (.aload_n 0, 1) := dk_42 (dk_at dksX6_mayBe_0 10 rfl rfl)
theorem dX6_mayBe_11 : decode cX6_mayBe 11 = .ok (.iconst 0, 1) := dk_3 (dk_at dksX6_mayBe_0 11 rfl rfl)
theorem dX6_mayBe_12 : decode cX6_mayBe 12 = .ok (.iaload, 1) := dk_46 (dk_at dksX6_mayBe_0 12 rfl rfl)
theorem dX6_mayBe_13 : decode cX6_mayBe 13 = .ok (.irem, 1) := dk_112 (dk_at dksX6_mayBe_0 13 rfl rfl)
theorem dX6_mayBe_14 : decode cX6_mayBe 14 = .ok (.iconst 1, 1) := dk_4 (dk_at dksX6_mayBe_0 14 rfl rfl)
theorem dX6_mayBe_15 : decode cX6_mayBe 15 = .ok (.iadd, 1) := dk_96 (dk_at dksX6_mayBe_0 15 rfl rfl)
theorem dX6_mayBe_16 : decode cX6_mayBe 16 = .ok (.aload_n 0, 1) := dk_42 (dk_at dksX6_mayBe_0 16 rfl rfl)
theorem dX6_mayBe_17 : decode cX6_mayBe 17 = .ok (.iconst 0, 1) := dk_3 (dk_at dksX6_mayBe_0 17 rfl rfl)
theorem dX6_mayBe_18 : decode cX6_mayBe 18 = .ok (.iaload, 1) := dk_46 (dk_at dksX6_mayBe_0 18 rfl rfl)
theorem dX6_mayBe_19 : decode cX6_mayBe 19 = .ok (.if_icmp .ge 23, 3) := dk_162 0 23 (dk_at dksX6_mayBe_0 19 rfl rfl)
theorem dX6_mayBe_22 : decode cX6_mayBe 22 = .ok (.goto 16, 3) := dk_167 0 16 (dk_at dksX6_mayBe_1 0 rfl rfl)
theorem dX6_mayBe_25 : decode cX6_mayBe 25 = .ok (.iload_n 1, 1) := dk_27 (dk_at dksX6_mayBe_1 3 rfl rfl)
theorem dX6_mayBe_26 : decode cX6_mayBe 26 = .ok (.aload_n 0, 1) := dk_42 (dk_at dksX6_mayBe_1 4 rfl rfl)
theorem dX6_mayBe_27 : decode cX6_mayBe 27 = .ok (.iconst 0, 1) := dk_3 (dk_at dksX6_mayBe_1 5 rfl rfl)
theorem dX6_mayBe_28 : decode cX6_mayBe 28 = .ok (.iaload, 1) := dk_46 (dk_at dksX6_mayBe_1 6 rfl rfl)
theorem dX6_mayBe_29 : decode cX6_mayBe 29 = .ok (.idiv, 1) := dk_108 (dk_at dksX6_mayBe_1 7 rfl rfl)
theorem dX6_mayBe_30 : decode cX6_mayBe 30 = .ok (.iconst 1, 1) := dk_4 (dk_at dksX6_mayBe_1 8 rfl rfl)
theorem dX6_mayBe_31 : decode cX6_mayBe 31 = .ok (.iadd, 1) := dk_96 (dk_at dksX6_mayBe_1 9 rfl rfl)
theorem dX6_mayBe_32 : decode cX6_mayBe 32 = .ok (.aload_n 0, 1) := dk_42 (dk_at dksX6_mayBe_1 10 rfl rfl)
theorem dX6_mayBe_33 : decode cX6_mayBe 33 = .ok (.iconst 1, 1) := dk_4 (dk_at dksX6_mayBe_1 11 rfl rfl)
theorem dX6_mayBe_34 : decode cX6_mayBe 34 = .ok (.iaload, 1) := dk_46 (dk_at dksX6_mayBe_1 12 rfl rfl)
theorem dX6_mayBe_35 : decode cX6_mayBe 35 = .ok (.if_icmp .ge 7, 3) := dk_162 0 7 (dk_at dksX6_mayBe_1 13 rfl rfl)
theorem dX6_mayBe_38 : decode cX6_mayBe 38 = .ok (.iconst 1, 1) := dk_4 (dk_at dksX6_mayBe_1 16 rfl rfl)
theorem dX6_mayBe_39 : decode cX6_mayBe 39 = .ok (.goto 4, 3) := dk_167 0 4 (dk_at dksX6_mayBe_1 17 rfl rfl)
theorem dX6_mayBe_42 : decode cX6_mayBe 42 = .ok (.iconst 0, 1) := dk_3 (dk_at dksX6_mayBe_1 20 rfl rfl)
theorem dX6_mayBe_43 : decode cX6_mayBe 43 = .ok (.ireturn, 1) := dk_172 (dk_at dksX6_mayBe_1 21 rfl rfl)
def dkwX6_fault_0 : List UInt8 := [42, 3, 181, 0, 90, 42, 180, 0, 44, 172]
abbrev dktX6_fault_0 : List UInt8 := dkwX6_fault_0 ++ []
theorem dksX6_fault_0 : cX6_fault.data.toList.drop 0 = dktX6_fault_0 := by decide +kernel
theorem dX6_fault_0 : decode cX6_fault 0 = .ok (.aload_n 0, 1) := dk_42 (dk_at dksX6_fault_0 0 rfl rfl)
theorem dX6_fault_1 : decode cX6_fault 1 = .ok (.iconst 0, 1) := dk_3 (dk_at dksX6_fault_0 1 rfl rfl)
theorem dX6_fault_2 : decode cX6_fault 2 = .ok (.putfield 90, 3) := dk_181 0 90 (dk_at dksX6_fault_0 2 rfl rfl)
theorem dX6_fault_5 : decode cX6_fault 5 = .ok (.aload_n 0, 1) := dk_42 (dk_at dksX6_fault_0 5 rfl rfl)
theorem dX6_fault_6 : decode cX6_fault 6 = .ok (.getfield 44, 3) := dk_180 0 44 (dk_at dksX6_fault_0 6 rfl rfl)
theorem dX6_fault_9 : decode cX6_fault 9 = .ok (.ireturn, 1) := dk_172 (dk_at dksX6_fault_0 9 rfl rfl)
def dkwX6_count_9 : List UInt8 := [172, 42, 4, 182, 0, 182, 172]
abbrev dktX6_count_9 : List UInt8 := dkwX6_count_9 ++ []
def dkwX6_count_8 : List UInt8 := [182, 1, 35, 172, 42, 182, 1, 38, 172, 42, 27, 16, 24, 160, 0, 7, 4, 167, 0, 4, 3, 182, 1, 41]
abbrev dktX6_count_8 : List UInt8 := dkwX6_count_8 ++ dktX6_count_9
def dkwX6_count_7 : List UInt8 := [182, 1, 31, 172, 42, 3, 182, 1, 31, 172, 42, 3, 182, 1, 35, 42, 4, 182, 1, 35, 96, 172, 42, 5]
abbrev dktX6_count_7 : List UInt8 := dkwX6_count_7 ++ dktX6_count_8
def dkwX6_count_6 : List UInt8 := [180, 0, 38, 27, 16, 14, 100, 46, 172, 42, 180, 0, 31, 16, 9, 46, 172, 42, 182, 1, 28, 172, 42, 4]
abbrev dktX6_count_6 : List UInt8 := dkwX6_count_6 ++ dktX6_count_7
def dkwX6_count_5 : List UInt8 := [182, 1, 22, 153, 0, 7, 4, 167, 0, 4, 3, 172, 42, 182, 1, 25, 172, 42, 180, 0, 93, 172, 42]
abbrev dktX6_count_5 : List UInt8 := dkwX6_count_5 ++ dktX6_count_6
def dkwX6_count_4 : List UInt8 := [180, 0, 31, 5, 46, 182, 0, 245, 172, 42, 182, 1, 18, 153, 0, 7, 3, 167, 0, 4, 4, 172, 42]
abbrev dktX6_count_4 : List UInt8 := dkwX6_count_4 ++ dktX6_count_5
def dkwX6_count_3 : List UInt8 := [180, 0, 31, 6, 46, 172, 42, 180, 0, 31, 7, 46, 172, 42, 180, 0, 31, 27, 46, 172, 42, 42]
abbrev dktX6_count_3 : List UInt8 := dkwX6_count_3 ++ dktX6_count_4
def dkwX6_count_2 : List UInt8 := [42, 180, 0, 31, 3, 46, 172, 42, 180, 0, 31, 4, 46, 172, 42, 180, 0, 31, 5, 46, 172, 42]
abbrev dktX6_count_2 : List UInt8 := dkwX6_count_2 ++ dktX6_count_3
def dkwX6_count_1 : List UInt8 := [170, 0, 0, 0, 1, 21, 0, 0, 0, 0, 0, 0, 0, 24, 0, 0, 0, 114, 0, 0, 0, 121, 0, 0, 0, 128, 0, 0, 0, 135, 0, 0, 0, 142, 0, 0, 0, 149, 0, 0, 0, 149, 0, 0, 0, 149, 0, 0, 0, 149, 0, 0, 0, 156, 0, 0, 0, 167, 0, 0, 0, 180, 0, 0, 0, 193, 0, 0, 0, 198, 0, 0, 0, 203, 0, 0, 0, 203, 0, 0, 0, 213, 0, 0, 0, 221, 0, 0, 0, 226, 0, 0, 0, 232, 0, 0, 0, 238, 0, 0, 0, 250, 0, 0, 1, 0, 0, 0, 1, 5, 0, 0, 1, 5]
abbrev dktX6_count_1 : List UInt8 := dkwX6_count_1 ++ dktX6_count_2
def dkwX6_count_0 : List UInt8 := [42, 3, 181, 0, 90, 27]
abbrev dktX6_count_0 : List UInt8 := dkwX6_count_0 ++ dktX6_count_1
theorem dksX6_count_0 : cX6_count.data.toList.drop 0 = dktX6_count_0 := by decide +kernel
theorem dksX6_count_1 : cX6_count.data.toList.drop 6 = dktX6_count_1 := dk_seg dksX6_count_0 6 rfl rfl
theorem dksX6_count_2 : cX6_count.data.toList.drop 120 = dktX6_count_2 := dk_seg dksX6_count_1 114 rfl rfl
theorem dksX6_count_3 : cX6_count.data.toList.drop 142 = dktX6_count_3 := dk_seg dksX6_count_2 22 rfl rfl
theorem dksX6_count_4 : cX6_count.data.toList.drop 164 = dktX6_count_4 := dk_seg dksX6_count_3 22 rfl rfl
theorem dksX6_count_5 : cX6_count.data.toList.drop 187 = dktX6_count_5 := dk_seg dksX6_count_4 23 rfl rfl
theorem dksX6_count_6 : cX6_count.data.toList.drop 210 = dktX6_count_6 := dk_seg dksX6_count_5 23 rfl rfl
theorem dksX6_count_7 : cX6_count.data.toList.drop 234 = dktX6_count_7 := dk_seg dksX6_count_6 24 rfl rfl
theorem dksX6_count_8 : cX6_count.data.toList.drop 258 = dktX6_count_8 := dk_seg dksX6_count_7 24 rfl rfl
theorem dksX6_count_9 : cX6_count.data.toList.drop 282 = dktX6_count_9 := dk_seg dksX6_count_8 24 rfl rfl
theorem dX6_count_0 : decode cX6_count 0 = .ok (.aload_n 0, 1) := dk_42 (dk_at dksX6_count_0 0 rfl rfl)
theorem dX6_count_1 : decode cX6_count 1 = .ok (.iconst 0, 1) := dk_3 (dk_at dksX6_count_0 1 rfl rfl)
theorem dX6_count_2 : decode cX6_count 2 = .ok (.putfield 90, 3) := dk_181 0 90 (dk_at dksX6_count_0 2 rfl rfl)
theorem dX6_count_5 : decode cX6_count 5 = .ok (.iload_n 1, 1) := dk_27 (dk_at dksX6_count_0 5 rfl rfl)
theorem dX6_count_6 : decode cX6_count 6 = .ok (.tableswitch 277 0 24 #[114, 121, 128, 135, 142, 149, 149, 149, 149, 156, 167, 180, 193, 198, 203, 203, 213, 221, 226, 232, 238, 250, 256, 261, 261], 114) := by decide +kernel
theorem dX6_count_120 : decode cX6_count 120 = .ok (.aload_n 0, 1) := dk_42 (dk_at dksX6_count_2 0 rfl rfl)
theorem dX6_count_121 : decode cX6_count 121 = .ok (.getfield 31, 3) := dk_180 0 31 (dk_at dksX6_count_2 1 rfl rfl)
theorem dX6_count_124 : decode cX6_count 124 = .ok (.iconst 0, 1) := dk_3 (dk_at dksX6_count_2 4 rfl rfl)
theorem dX6_count_125 : decode cX6_count 125 = .ok (.iaload, 1) := dk_46 (dk_at dksX6_count_2 5 rfl rfl)
theorem dX6_count_126 : decode cX6_count 126 = .ok (.ireturn, 1) := dk_172 (dk_at dksX6_count_2 6 rfl rfl)
theorem dX6_count_127 : decode cX6_count 127 = .ok (.aload_n 0, 1) := dk_42 (dk_at dksX6_count_2 7 rfl rfl)
theorem dX6_count_128 : decode cX6_count 128 = .ok (.getfield 31, 3) := dk_180 0 31 (dk_at dksX6_count_2 8 rfl rfl)
theorem dX6_count_131 : decode cX6_count 131 = .ok (.iconst 1, 1) := dk_4 (dk_at dksX6_count_2 11 rfl rfl)
theorem dX6_count_132 : decode cX6_count 132 = .ok (.iaload, 1) := dk_46 (dk_at dksX6_count_2 12 rfl rfl)
theorem dX6_count_133 : decode cX6_count 133 = .ok (.ireturn, 1) := dk_172 (dk_at dksX6_count_2 13 rfl rfl)
theorem dX6_count_134 : decode cX6_count 134 = .ok (.aload_n 0, 1) := dk_42 (dk_at dksX6_count_2 14 rfl rfl)
theorem dX6_count_135 : decode cX6_count 135 = .ok (.getfield 31, 3) := dk_180 0 31 (dk_at dksX6_count_2 15 rfl rfl)
theorem dX6_count_138 : decode cX6_count 138 = .ok (.iconst 2, 1) := dk_5 (dk_at dksX6_count_2 18 rfl rfl)
theorem dX6_count_139 : decode cX6_count 139 = .ok (.iaload, 1) := dk_46 (dk_at dksX6_count_2 19 rfl rfl)
theorem dX6_count_140 : decode cX6_count 140 = .ok (.ireturn, 1) := dk_172 (dk_at dksX6_count_2 20 rfl rfl)
theorem dX6_count_141 : decode cX6_count 141 = .ok (.aload_n 0, 1) := dk_42 (dk_at dksX6_count_2 21 rfl rfl)
theorem dX6_count_142 : decode cX6_count 142 = .ok (.getfield 31, 3) := dk_180 0 31 (dk_at dksX6_count_3 0 rfl rfl)
theorem dX6_count_145 : decode cX6_count 145 = .ok (.iconst 3, 1) := dk_6 (dk_at dksX6_count_3 3 rfl rfl)
theorem dX6_count_146 : decode cX6_count 146 = .ok (.iaload, 1) := dk_46 (dk_at dksX6_count_3 4 rfl rfl)
theorem dX6_count_147 : decode cX6_count 147 = .ok (.ireturn, 1) := dk_172 (dk_at dksX6_count_3 5 rfl rfl)
theorem dX6_count_148 : decode cX6_count 148 = .ok (.aload_n 0, 1) := dk_42 (dk_at dksX6_count_3 6 rfl rfl)
theorem dX6_count_149 : decode cX6_count 149 = .ok (.getfield 31, 3) := dk_180 0 31 (dk_at dksX6_count_3 7 rfl rfl)
theorem dX6_count_152 : decode cX6_count 152 = .ok (.iconst 4, 1) := dk_7 (dk_at dksX6_count_3 10 rfl rfl)
theorem dX6_count_153 : decode cX6_count 153 = .ok (.iaload, 1) := dk_46 (dk_at dksX6_count_3 11 rfl rfl)
theorem dX6_count_154 : decode cX6_count 154 = .ok (.ireturn, 1) := dk_172 (dk_at dksX6_count_3 12 rfl rfl)
theorem dX6_count_155 : decode cX6_count 155 = .ok (.aload_n 0, 1) := dk_42 (dk_at dksX6_count_3 13 rfl rfl)
theorem dX6_count_156 : decode cX6_count 156 = .ok (.getfield 31, 3) := dk_180 0 31 (dk_at dksX6_count_3 14 rfl rfl)
theorem dX6_count_159 : decode cX6_count 159 = .ok (.iload_n 1, 1) := dk_27 (dk_at dksX6_count_3 17 rfl rfl)
theorem dX6_count_160 : decode cX6_count 160 = .ok (.iaload, 1) := dk_46 (dk_at dksX6_count_3 18 rfl rfl)
theorem dX6_count_161 : decode cX6_count 161 = .ok (.ireturn, 1) := dk_172 (dk_at dksX6_count_3 19 rfl rfl)
theorem dX6_count_162 : decode cX6_count 162 = .ok (.aload_n 0, 1) := dk_42 (dk_at dksX6_count_3 20 rfl rfl)
theorem dX6_count_163 : decode cX6_count 163 = .ok (.aload_n 0, 1) := dk_42 (dk_at dksX6_count_3 21 rfl rfl)
theorem dX6_count_164 : decode cX6_count 164 = .ok (.getfield 31, 3) := dk_180 0 31 (dk_at dksX6_count_4 0 rfl rfl)
theorem dX6_count_167 : decode cX6_count 167 = .ok (.iconst 2, 1) := dk_5 (dk_at dksX6_count_4 3 rfl rfl)
theorem dX6_count_168 : decode cX6_count 168 = .ok (.iaload, 1) := dk_46 (dk_at dksX6_count_4 4 rfl rfl)
theorem dX6_count_169 : decode cX6_count 169 = .ok (.invokevirtual 245, 3) := dk_182 0 245 (dk_at dksX6_count_4 5 rfl rfl)
theorem dX6_count_172 : decode cX6_count 172 = .ok (.ireturn, 1) := dk_172 (dk_at dksX6_count_4 8 rfl rfl)
theorem dX6_count_173 : decode cX6_count 173 = .ok (.aload_n 0, 1) := dk_42 (dk_at dksX6_count_4 9 rfl rfl)
theorem dX6_count_174 : decode cX6_count 174 = .ok (.invokevirtual 274, 3) := dk_182 1 18 (dk_at dksX6_count_4 10 rfl rfl)
theorem dX6_count_177 : decode cX6_count 177 = .ok (.ifCond .eq 7, 3) := dk_153 0 7 (dk_at dksX6_count_4 13 rfl rfl)
theorem dX6_count_180 : decode cX6_count 180 = .ok (.iconst 0, 1) := dk_3 (dk_at dksX6_count_4 16 rfl rfl)
theorem dX6_count_181 : decode cX6_count 181 = .ok (.goto 4, 3) := dk_167 0 4 (dk_at dksX6_count_4 17 rfl rfl)
theorem dX6_count_184 : decode cX6_count 184 = .ok (.iconst 1, 1) := dk_4 (dk_at dksX6_count_4 20 rfl rfl)
theorem dX6_count_185 : decode cX6_count 185 = .ok (.ireturn, 1) := dk_172 (dk_at dksX6_count_4 21 rfl rfl)
theorem dX6_count_186 : decode cX6_count 186 = .ok (.aload_n 0, 1) := dk_42 (dk_at dksX6_count_4 22 rfl rfl)
theorem dX6_count_187 : decode cX6_count 187 = .ok (.invokevirtual 278, 3) := dk_182 1 22 (dk_at dksX6_count_5 0 rfl rfl)
theorem dX6_count_190 : decode cX6_count 190 = .ok (.ifCond .eq 7, 3) := dk_153 0 7 (dk_at dksX6_count_5 3 rfl rfl)
theorem dX6_count_193 : decode cX6_count 193 = .ok (.iconst 1, 1) := dk_4 (dk_at dksX6_count_5 6 rfl rfl)
theorem dX6_count_194 : decode cX6_count 194 = .ok (.goto 4, 3) := dk_167 0 4 (dk_at dksX6_count_5 7 rfl rfl)
theorem dX6_count_197 : decode cX6_count 197 = .ok (.iconst 0, 1) := dk_3 (dk_at dksX6_count_5 10 rfl rfl)
theorem dX6_count_198 : decode cX6_count 198 = .ok (.ireturn, 1) := dk_172 (dk_at dksX6_count_5 11 rfl rfl)
theorem dX6_count_199 : decode cX6_count 199 = .ok (.aload_n 0, 1) := dk_42 (dk_at dksX6_count_5 12 rfl rfl)
theorem dX6_count_200 : decode cX6_count 200 = .ok (.invokevirtual 281, 3) := dk_182 1 25 (dk_at dksX6_count_5 13 rfl rfl)
theorem dX6_count_203 : decode cX6_count 203 = .ok (.ireturn, 1) := dk_172 (dk_at dksX6_count_5 16 rfl rfl)
theorem dX6_count_204 : decode cX6_count 204 = .ok (.aload_n 0, 1) := dk_42 (dk_at dksX6_count_5 17 rfl rfl)
theorem dX6_count_205 : decode cX6_count 205 = .ok (.getfield 93, 3) := dk_180 0 93 (dk_at dksX6_count_5 18 rfl rfl)
theorem dX6_count_208 : decode cX6_count 208 = .ok (.ireturn, 1) := dk_172 (dk_at dksX6_count_5 21 rfl rfl)
theorem dX6_count_209 : decode cX6_count 209 = .ok (.aload_n 0, 1) := dk_42 (dk_at dksX6_count_5 22 rfl rfl)
theorem dX6_count_210 : decode cX6_count 210 = .ok (.getfield 38, 3) := dk_180 0 38 (dk_at dksX6_count_6 0 rfl rfl)
theorem dX6_count_213 : decode cX6_count 213 = .ok (.iload_n 1, 1) := dk_27 (dk_at dksX6_count_6 3 rfl rfl)
theorem dX6_count_214 : decode cX6_count 214 = .ok (.bipush 14, 2) := dk_16 14 (dk_at dksX6_count_6 4 rfl rfl)
theorem dX6_count_216 : decode cX6_count 216 = .ok (.isub, 1) := dk_100 (dk_at dksX6_count_6 6 rfl rfl)
theorem dX6_count_217 : decode cX6_count 217 = .ok (.iaload, 1) := dk_46 (dk_at dksX6_count_6 7 rfl rfl)
theorem dX6_count_218 : decode cX6_count 218 = .ok (.ireturn, 1) := dk_172 (dk_at dksX6_count_6 8 rfl rfl)
theorem dX6_count_219 : decode cX6_count 219 = .ok (.aload_n 0, 1) := dk_42 (dk_at dksX6_count_6 9 rfl rfl)
theorem dX6_count_220 : decode cX6_count 220 = .ok (.getfield 31, 3) := dk_180 0 31 (dk_at dksX6_count_6 10 rfl rfl)
theorem dX6_count_223 : decode cX6_count 223 = .ok (.bipush 9, 2) := dk_16 9 (dk_at dksX6_count_6 13 rfl rfl)
theorem dX6_count_225 : decode cX6_count 225 = .ok (.iaload, 1) := dk_46 (dk_at dksX6_count_6 15 rfl rfl)
theorem dX6_count_226 : decode cX6_count 226 = .ok (.ireturn, 1) := dk_172 (dk_at dksX6_count_6 16 rfl rfl)
theorem dX6_count_227 : decode cX6_count 227 = .ok (.aload_n 0, 1) := dk_42 (dk_at dksX6_count_6 17 rfl rfl)
theorem dX6_count_228 : decode cX6_count 228 = .ok (.invokevirtual 284, 3) := dk_182 1 28 (dk_at dksX6_count_6 18 rfl rfl)
theorem dX6_count_231 : decode cX6_count 231 = .ok (.ireturn, 1) := dk_172 (dk_at dksX6_count_6 21 rfl rfl)
theorem dX6_count_232 : decode cX6_count 232 = .ok (.aload_n 0, 1) := dk_42 (dk_at dksX6_count_6 22 rfl rfl)
theorem dX6_count_233 : decode cX6_count 233 = .ok (.iconst 1, 1) := dk_4 (dk_at dksX6_count_6 23 rfl rfl)
theorem dX6_count_234 : decode cX6_count 234 = .ok (.invokevirtual 287, 3) := dk_182 1 31 (dk_at dksX6_count_7 0 rfl rfl)
theorem dX6_count_237 : decode cX6_count 237 = .ok (.ireturn, 1) := dk_172 (dk_at dksX6_count_7 3 rfl rfl)
theorem dX6_count_238 : decode cX6_count 238 = .ok (.aload_n 0, 1) := dk_42 (dk_at dksX6_count_7 4 rfl rfl)
theorem dX6_count_239 : decode cX6_count 239 = .ok (.iconst 0, 1) := dk_3 (dk_at dksX6_count_7 5 rfl rfl)
theorem dX6_count_240 : decode cX6_count 240 = .ok (.invokevirtual 287, 3) := dk_182 1 31 (dk_at dksX6_count_7 6 rfl rfl)
theorem dX6_count_243 : decode cX6_count 243 = .ok (.ireturn, 1) := dk_172 (dk_at dksX6_count_7 9 rfl rfl)
theorem dX6_count_244 : decode cX6_count 244 = .ok (.aload_n 0, 1) := dk_42 (dk_at dksX6_count_7 10 rfl rfl)
theorem dX6_count_245 : decode cX6_count 245 = .ok (.iconst 0, 1) := dk_3 (dk_at dksX6_count_7 11 rfl rfl)
theorem dX6_count_246 : decode cX6_count 246 = .ok (.invokevirtual 291, 3) := dk_182 1 35 (dk_at dksX6_count_7 12 rfl rfl)
theorem dX6_count_249 : decode cX6_count 249 = .ok (.aload_n 0, 1) := dk_42 (dk_at dksX6_count_7 15 rfl rfl)
theorem dX6_count_250 : decode cX6_count 250 = .ok (.iconst 1, 1) := dk_4 (dk_at dksX6_count_7 16 rfl rfl)
theorem dX6_count_251 : decode cX6_count 251 = .ok (.invokevirtual 291, 3) := dk_182 1 35 (dk_at dksX6_count_7 17 rfl rfl)
theorem dX6_count_254 : decode cX6_count 254 = .ok (.iadd, 1) := dk_96 (dk_at dksX6_count_7 20 rfl rfl)
theorem dX6_count_255 : decode cX6_count 255 = .ok (.ireturn, 1) := dk_172 (dk_at dksX6_count_7 21 rfl rfl)
theorem dX6_count_256 : decode cX6_count 256 = .ok (.aload_n 0, 1) := dk_42 (dk_at dksX6_count_7 22 rfl rfl)
theorem dX6_count_257 : decode cX6_count 257 = .ok (.iconst 2, 1) := dk_5 (dk_at dksX6_count_7 23 rfl rfl)
theorem dX6_count_258 : decode cX6_count 258 = .ok (.invokevirtual 291, 3) := dk_182 1 35 (dk_at dksX6_count_8 0 rfl rfl)
theorem dX6_count_261 : decode cX6_count 261 = .ok (.ireturn, 1) := dk_172 (dk_at dksX6_count_8 3 rfl rfl)
theorem dX6_count_262 : decode cX6_count 262 = .ok (.aload_n 0, 1) := dk_42 (dk_at dksX6_count_8 4 rfl rfl)
theorem dX6_count_263 : decode cX6_count 263 = .ok (.invokevirtual 294, 3) := dk_182 1 38 (dk_at dksX6_count_8 5 rfl rfl)
theorem dX6_count_266 : decode cX6_count 266 = .ok (.ireturn, 1) := dk_172 (dk_at dksX6_count_8 8 rfl rfl)
theorem dX6_count_267 : decode cX6_count 267 = .ok (.aload_n 0, 1) := dk_42 (dk_at dksX6_count_8 9 rfl rfl)
theorem dX6_count_268 : decode cX6_count 268 = .ok (.iload_n 1, 1) := dk_27 (dk_at dksX6_count_8 10 rfl rfl)
theorem dX6_count_269 : decode cX6_count 269 = .ok (.bipush 24, 2) := dk_16 24 (dk_at dksX6_count_8 11 rfl rfl)
theorem dX6_count_271 : decode cX6_count 271 = .ok (.if_icmp .ne 7, 3) := dk_160 0 7 (dk_at dksX6_count_8 13 rfl rfl)
theorem dX6_count_274 : decode cX6_count 274 = .ok (.iconst 1, 1) := dk_4 (dk_at dksX6_count_8 16 rfl rfl)
theorem dX6_count_275 : decode cX6_count 275 = .ok (.goto 4, 3) := dk_167 0 4 (dk_at dksX6_count_8 17 rfl rfl)
theorem dX6_count_278 : decode cX6_count 278 = .ok (.iconst 0, 1) := dk_3 (dk_at dksX6_count_8 20 rfl rfl)
theorem dX6_count_279 : decode cX6_count 279 = .ok (.invokevirtual 297, 3) := dk_182 1 41 (dk_at dksX6_count_8 21 rfl rfl)
theorem dX6_count_282 : decode cX6_count 282 = .ok (.ireturn, 1) := dk_172 (dk_at dksX6_count_9 0 rfl rfl)
theorem dX6_count_283 : decode cX6_count 283 = .ok (.aload_n 0, 1) := dk_42 (dk_at dksX6_count_9 1 rfl rfl)
theorem dX6_count_284 : decode cX6_count 284 = .ok (.iconst 1, 1) := dk_4 (dk_at dksX6_count_9 2 rfl rfl)
theorem dX6_count_285 : decode cX6_count 285 = .ok (.invokevirtual 182, 3) := dk_182 0 182 (dk_at dksX6_count_9 3 rfl rfl)
theorem dX6_count_288 : decode cX6_count 288 = .ok (.ireturn, 1) := dk_172 (dk_at dksX6_count_9 6 rfl rfl)
def dkwX6_joinedTo_4 : List UInt8 := [132, 5, 1, 167, 255, 190, 132, 4, 1, 167, 255, 169, 167, 255, 157, 28, 172]
abbrev dktX6_joinedTo_4 : List UInt8 := dkwX6_joinedTo_4 ++ []
def dkwX6_joinedTo_3 : List UInt8 := [153, 0, 22, 28, 21, 6, 126, 21, 6, 160, 0, 6, 167, 0, 10, 28, 21, 6, 128, 61, 4, 62]
abbrev dktX6_joinedTo_3 : List UInt8 := dkwX6_joinedTo_3 ++ dktX6_joinedTo_4
def dkwX6_joinedTo_2 : List UInt8 := [167, 0, 46, 4, 21, 4, 120, 4, 42, 21, 4, 21, 5, 182, 0, 197, 120, 128, 54, 6, 28, 21, 6, 126]
abbrev dktX6_joinedTo_2 : List UInt8 := dkwX6_joinedTo_2 ++ dktX6_joinedTo_3
def dkwX6_joinedTo_1 : List UInt8 := [162, 0, 81, 3, 54, 5, 21, 5, 5, 162, 0, 66, 42, 21, 4, 21, 5, 182, 0, 194, 154, 0, 6]
abbrev dktX6_joinedTo_1 : List UInt8 := dkwX6_joinedTo_1 ++ dktX6_joinedTo_2
def dkwX6_joinedTo_0 : List UInt8 := [4, 27, 120, 61, 4, 62, 29, 153, 0, 101, 3, 62, 3, 54, 4, 21, 4, 42, 180, 0, 31, 184, 0, 190]
abbrev dktX6_joinedTo_0 : List UInt8 := dkwX6_joinedTo_0 ++ dktX6_joinedTo_1
theorem dksX6_joinedTo_0 : cX6_joinedTo.data.toList.drop 0 = dktX6_joinedTo_0 := by decide +kernel
theorem dksX6_joinedTo_1 : cX6_joinedTo.data.toList.drop 24 = dktX6_joinedTo_1 := dk_seg dksX6_joinedTo_0 24 rfl rfl
theorem dksX6_joinedTo_2 : cX6_joinedTo.data.toList.drop 47 = dktX6_joinedTo_2 := dk_seg dksX6_joinedTo_1 23 rfl rfl
theorem dksX6_joinedTo_3 : cX6_joinedTo.data.toList.drop 71 = dktX6_joinedTo_3 := dk_seg dksX6_joinedTo_2 24 rfl rfl
theorem dksX6_joinedTo_4 : cX6_joinedTo.data.toList.drop 93 = dktX6_joinedTo_4 := dk_seg dksX6_joinedTo_3 22 rfl rfl
theorem dX6_joinedTo_0 : decode cX6_joinedTo 0 = .ok (.iconst 1, 1) := dk_4 (dk_at dksX6_joinedTo_0 0 rfl rfl)
theorem dX6_joinedTo_1 : decode cX6_joinedTo 1 = .ok (.iload_n 1, 1) := dk_27 (dk_at dksX6_joinedTo_0 1 rfl rfl)
theorem dX6_joinedTo_2 : decode cX6_joinedTo 2 = .ok (.ishl, 1) := dk_120 (dk_at dksX6_joinedTo_0 2 rfl rfl)
theorem dX6_joinedTo_3 : decode cX6_joinedTo 3 = .ok (.istore_n 2, 1) := dk_61 (dk_at dksX6_joinedTo_0 3 rfl rfl)
theorem dX6_joinedTo_4 : decode cX6_joinedTo 4 = .ok (.iconst 1, 1) := dk_4 (dk_at dksX6_joinedTo_0 4 rfl rfl)
theorem dX6_joinedTo_5 : decode cX6_joinedTo 5 = .ok (.istore_n 3, 1) := dk_62 (dk_at dksX6_joinedTo_0 5 rfl rfl)
theorem dX6_joinedTo_6 : decode cX6_joinedTo 6 = .ok (.iload_n 3, 1) := dk_29 (dk_at dksX6_joinedTo_0 6 rfl rfl)
theorem dX6_joinedTo_7 : decode cX6_joinedTo 7 = .ok (.ifCond .eq 101, 3) := dk_153 0 101 (dk_at dksX6_joinedTo_0 7 rfl rfl)
theorem dX6_joinedTo_10 : decode cX6_joinedTo 10 = .ok (.iconst 0, 1) := dk_3 (dk_at dksX6_joinedTo_0 10 rfl rfl)
theorem dX6_joinedTo_11 : decode cX6_joinedTo 11 = .ok (.istore_n 3, 1) := dk_62 (dk_at dksX6_joinedTo_0 11 rfl rfl)
theorem dX6_joinedTo_12 : decode cX6_joinedTo 12 = .ok (.iconst 0, 1) := dk_3 (dk_at dksX6_joinedTo_0 12 rfl rfl)
theorem dX6_joinedTo_13 : decode cX6_joinedTo 13 = .ok (.istore 4, 2) := dk_54 4 (dk_at dksX6_joinedTo_0 13 rfl rfl)
theorem dX6_joinedTo_15 : decode cX6_joinedTo 15 = .ok (.iload 4, 2) := dk_21 4 (dk_at dksX6_joinedTo_0 15 rfl rfl)
theorem dX6_joinedTo_17 : decode cX6_joinedTo 17 = .ok (.aload_n 0, 1) := dk_42 (dk_at dksX6_joinedTo_0 17 rfl rfl)
theorem dX6_joinedTo_18 : decode cX6_joinedTo 18 = .ok (.getfield 31, 3) := dk_180 0 31 (dk_at dksX6_joinedTo_0 18 rfl rfl)
theorem dX6_joinedTo_21 : decode cX6_joinedTo 21 = .ok (.invokestatic 190, 3) := dk_184 0 190 (dk_at dksX6_joinedTo_0 21 rfl rfl)
theorem dX6_joinedTo_24 : decode cX6_joinedTo 24 = .ok (.if_icmp .ge 81, 3) := dk_162 0 81 (dk_at dksX6_joinedTo_1 0 rfl rfl)
theorem dX6_joinedTo_27 : decode cX6_joinedTo 27 = .ok (.iconst 0, 1) := dk_3 (dk_at dksX6_joinedTo_1 3 rfl rfl)
theorem dX6_joinedTo_28 : decode cX6_joinedTo 28 = .ok (.istore 5, 2) := dk_54 5 (dk_at dksX6_joinedTo_1 4 rfl rfl)
theorem dX6_joinedTo_30 : decode cX6_joinedTo 30 = .ok (.iload 5, 2) := dk_21 5 (dk_at dksX6_joinedTo_1 6 rfl rfl)
theorem dX6_joinedTo_32 : decode cX6_joinedTo 32 = .ok (.iconst 2, 1) := dk_5 (dk_at dksX6_joinedTo_1 8 rfl rfl)
theorem dX6_joinedTo_33 : decode cX6_joinedTo 33 = .ok (.if_icmp .ge 66, 3) := dk_162 0 66 (dk_at dksX6_joinedTo_1 9 rfl rfl)
theorem dX6_joinedTo_36 : decode cX6_joinedTo 36 = .ok (.aload_n 0, 1) := dk_42 (dk_at dksX6_joinedTo_1 12 rfl rfl)
theorem dX6_joinedTo_37 : decode cX6_joinedTo 37 = .ok (.iload 4, 2) := dk_21 4 (dk_at dksX6_joinedTo_1 13 rfl rfl)
theorem dX6_joinedTo_39 : decode cX6_joinedTo 39 = .ok (.iload 5, 2) := dk_21 5 (dk_at dksX6_joinedTo_1 15 rfl rfl)
theorem dX6_joinedTo_41 : decode cX6_joinedTo 41 = .ok (.invokevirtual 194, 3) := dk_182 0 194 (dk_at dksX6_joinedTo_1 17 rfl rfl)
theorem dX6_joinedTo_44 : decode cX6_joinedTo 44 = .ok (.ifCond .ne 6, 3) := dk_154 0 6 (dk_at dksX6_joinedTo_1 20 rfl rfl)
theorem dX6_joinedTo_47 : decode cX6_joinedTo 47 = .ok (.goto 46, 3) := dk_167 0 46 (dk_at dksX6_joinedTo_2 0 rfl rfl)
theorem dX6_joinedTo_50 : decode cX6_joinedTo 50 = .ok (.iconst 1, 1) := dk_4 (dk_at dksX6_joinedTo_2 3 rfl rfl)
theorem dX6_joinedTo_51 : decode cX6_joinedTo 51 = .ok (.iload 4, 2) := dk_21 4 (dk_at dksX6_joinedTo_2 4 rfl rfl)
theorem dX6_joinedTo_53 : decode cX6_joinedTo 53 = .ok (.ishl, 1) := dk_120 (dk_at dksX6_joinedTo_2 6 rfl rfl)
theorem dX6_joinedTo_54 : decode cX6_joinedTo 54 = .ok (.iconst 1, 1) := dk_4 (dk_at dksX6_joinedTo_2 7 rfl rfl)
theorem dX6_joinedTo_55 : decode cX6_joinedTo 55 = .ok (.aload_n 0, 1) := dk_42 (dk_at dksX6_joinedTo_2 8 rfl rfl)
theorem dX6_joinedTo_56 : decode cX6_joinedTo 56 = .ok (.iload 4, 2) := dk_21 4 (dk_at dksX6_joinedTo_2 9 rfl rfl)
theorem dX6_joinedTo_58 : decode cX6_joinedTo 58 = .ok (.iload 5, 2) := dk_21 5 (dk_at dksX6_joinedTo_2 11 rfl rfl)
theorem dX6_joinedTo_60 : decode cX6_joinedTo 60 = .ok (.invokevirtual 197, 3) := dk_182 0 197 (dk_at dksX6_joinedTo_2 13 rfl rfl)
theorem dX6_joinedTo_63 : decode cX6_joinedTo 63 = .ok (.ishl, 1) := dk_120 (dk_at dksX6_joinedTo_2 16 rfl rfl)
theorem dX6_joinedTo_64 : decode cX6_joinedTo 64 = .ok (.ior, 1) := dk_128 (dk_at dksX6_joinedTo_2 17 rfl rfl)
theorem dX6_joinedTo_65 : decode cX6_joinedTo 65 = .ok (.istore 6, 2) := dk_54 6 (dk_at dksX6_joinedTo_2 18 rfl rfl)
theorem dX6_joinedTo_67 : decode cX6_joinedTo 67 = .ok (.iload_n 2, 1) := dk_28 (dk_at dksX6_joinedTo_2 20 rfl rfl)
theorem dX6_joinedTo_68 : decode cX6_joinedTo 68 = .ok (.iload 6, 2) := dk_21 6 (dk_at dksX6_joinedTo_2 21 rfl rfl)
theorem dX6_joinedTo_70 : decode cX6_joinedTo 70 = .ok (.iand, 1) := dk_126 (dk_at dksX6_joinedTo_2 23 rfl rfl)
theorem dX6_joinedTo_71 : decode cX6_joinedTo 71 = .ok (.ifCond .eq 22, 3) := dk_153 0 22 (dk_at dksX6_joinedTo_3 0 rfl rfl)
theorem dX6_joinedTo_74 : decode cX6_joinedTo 74 = .ok (.iload_n 2, 1) := dk_28 (dk_at dksX6_joinedTo_3 3 rfl rfl)
theorem dX6_joinedTo_75 : decode cX6_joinedTo 75 = .ok (.iload 6, 2) := dk_21 6 (dk_at dksX6_joinedTo_3 4 rfl rfl)
theorem dX6_joinedTo_77 : decode cX6_joinedTo 77 = .ok (.iand, 1) := dk_126 (dk_at dksX6_joinedTo_3 6 rfl rfl)
theorem dX6_joinedTo_78 : decode cX6_joinedTo 78 = .ok (.iload 6, 2) := dk_21 6 (dk_at dksX6_joinedTo_3 7 rfl rfl)
theorem dX6_joinedTo_80 : decode cX6_joinedTo 80 = .ok (.if_icmp .ne 6, 3) := dk_160 0 6 (dk_at dksX6_joinedTo_3 9 rfl rfl)
theorem dX6_joinedTo_83 : decode cX6_joinedTo 83 = .ok (.goto 10, 3) := dk_167 0 10 (dk_at dksX6_joinedTo_3 12 rfl rfl)
theorem dX6_joinedTo_86 : decode cX6_joinedTo 86 = .ok (.iload_n 2, 1) := dk_28 (dk_at dksX6_joinedTo_3 15 rfl rfl)
theorem dX6_joinedTo_87 : decode cX6_joinedTo 87 = .ok (.iload 6, 2) := dk_21 6 (dk_at dksX6_joinedTo_3 16 rfl rfl)
theorem dX6_joinedTo_89 : decode cX6_joinedTo 89 = .ok (.ior, 1) := dk_128 (dk_at dksX6_joinedTo_3 18 rfl rfl)
theorem dX6_joinedTo_90 : decode cX6_joinedTo 90 = .ok (.istore_n 2, 1) := dk_61 (dk_at dksX6_joinedTo_3 19 rfl rfl)
theorem dX6_joinedTo_91 : decode cX6_joinedTo 91 = .ok (.iconst 1, 1) := dk_4 (dk_at dksX6_joinedTo_3 20 rfl rfl)
theorem dX6_joinedTo_92 : decode cX6_joinedTo 92 = .ok (.istore_n 3, 1) := dk_62 (dk_at dksX6_joinedTo_3 21 rfl rfl)
theorem dX6_joinedTo_93 : decode cX6_joinedTo 93 = .ok (.iinc 5 1, 3) := dk_132 5 1 (dk_at dksX6_joinedTo_4 0 rfl rfl)
theorem dX6_joinedTo_96 : decode cX6_joinedTo 96 = .ok (.goto (-66), 3) := dk_167 255 190 (dk_at dksX6_joinedTo_4 3 rfl rfl)
theorem dX6_joinedTo_99 : decode cX6_joinedTo 99 = .ok (.iinc 4 1, 3) := dk_132 4 1 (dk_at dksX6_joinedTo_4 6 rfl rfl)
theorem dX6_joinedTo_102 : decode cX6_joinedTo 102 = .ok (.goto (-87), 3) := dk_167 255 169 (dk_at dksX6_joinedTo_4 9 rfl rfl)
theorem dX6_joinedTo_105 : decode cX6_joinedTo 105 = .ok (.goto (-99), 3) := dk_167 255 157 (dk_at dksX6_joinedTo_4 12 rfl rfl)
theorem dX6_joinedTo_108 : decode cX6_joinedTo 108 = .ok (.iload_n 2, 1) := dk_28 (dk_at dksX6_joinedTo_4 15 rfl rfl)
theorem dX6_joinedTo_109 : decode cX6_joinedTo 109 = .ok (.ireturn, 1) := dk_172 (dk_at dksX6_joinedTo_4 16 rfl rfl)
def dkwX6_nodes_0 : List UInt8 := [42, 3, 46, 42, 4, 46, 104, 172]
abbrev dktX6_nodes_0 : List UInt8 := dkwX6_nodes_0 ++ []
theorem dksX6_nodes_0 : cX6_nodes.data.toList.drop 0 = dktX6_nodes_0 := by decide +kernel
theorem dX6_nodes_0 : decode cX6_nodes 0 = .ok (.aload_n 0, 1) := dk_42 (dk_at dksX6_nodes_0 0 rfl rfl)
theorem dX6_nodes_1 : decode cX6_nodes 1 = .ok (.iconst 0, 1) := dk_3 (dk_at dksX6_nodes_0 1 rfl rfl)
theorem dX6_nodes_2 : decode cX6_nodes 2 = .ok (.iaload, 1) := dk_46 (dk_at dksX6_nodes_0 2 rfl rfl)
theorem dX6_nodes_3 : decode cX6_nodes 3 = .ok (.aload_n 0, 1) := dk_42 (dk_at dksX6_nodes_0 3 rfl rfl)
theorem dX6_nodes_4 : decode cX6_nodes 4 = .ok (.iconst 1, 1) := dk_4 (dk_at dksX6_nodes_0 4 rfl rfl)
theorem dX6_nodes_5 : decode cX6_nodes 5 = .ok (.iaload, 1) := dk_46 (dk_at dksX6_nodes_0 5 rfl rfl)
theorem dX6_nodes_6 : decode cX6_nodes 6 = .ok (.imul, 1) := dk_104 (dk_at dksX6_nodes_0 6 rfl rfl)
theorem dX6_nodes_7 : decode cX6_nodes 7 = .ok (.ireturn, 1) := dk_172 (dk_at dksX6_nodes_0 7 rfl rfl)
def dkwX6_part_0 : List UInt8 := [42, 180, 0, 31, 16, 10, 16, 12, 28, 104, 96, 27, 96, 46, 172]
abbrev dktX6_part_0 : List UInt8 := dkwX6_part_0 ++ []
theorem dksX6_part_0 : cX6_part.data.toList.drop 0 = dktX6_part_0 := by decide +kernel
theorem dX6_part_0 : decode cX6_part 0 = .ok (.aload_n 0, 1) := dk_42 (dk_at dksX6_part_0 0 rfl rfl)
theorem dX6_part_1 : decode cX6_part 1 = .ok (.getfield 31, 3) := dk_180 0 31 (dk_at dksX6_part_0 1 rfl rfl)
theorem dX6_part_4 : decode cX6_part 4 = .ok (.bipush 10, 2) := dk_16 10 (dk_at dksX6_part_0 4 rfl rfl)
theorem dX6_part_6 : decode cX6_part 6 = .ok (.bipush 12, 2) := dk_16 12 (dk_at dksX6_part_0 6 rfl rfl)
theorem dX6_part_8 : decode cX6_part 8 = .ok (.iload_n 2, 1) := dk_28 (dk_at dksX6_part_0 8 rfl rfl)
theorem dX6_part_9 : decode cX6_part 9 = .ok (.imul, 1) := dk_104 (dk_at dksX6_part_0 9 rfl rfl)
theorem dX6_part_10 : decode cX6_part 10 = .ok (.iadd, 1) := dk_96 (dk_at dksX6_part_0 10 rfl rfl)
theorem dX6_part_11 : decode cX6_part 11 = .ok (.iload_n 1, 1) := dk_27 (dk_at dksX6_part_0 11 rfl rfl)
theorem dX6_part_12 : decode cX6_part 12 = .ok (.iadd, 1) := dk_96 (dk_at dksX6_part_0 12 rfl rfl)
theorem dX6_part_13 : decode cX6_part 13 = .ok (.iaload, 1) := dk_46 (dk_at dksX6_part_0 13 rfl rfl)
theorem dX6_part_14 : decode cX6_part 14 = .ok (.ireturn, 1) := dk_172 (dk_at dksX6_part_0 14 rfl rfl)
def dkwX6_end_0 : List UInt8 := [28, 154, 0, 9, 27, 4, 96, 167, 0, 11, 27, 42, 180, 0, 31, 3, 46, 96, 172]
abbrev dktX6_end_0 : List UInt8 := dkwX6_end_0 ++ []
theorem dksX6_end_0 : cX6_end.data.toList.drop 0 = dktX6_end_0 := by decide +kernel
theorem dX6_end_0 : decode cX6_end 0 = .ok (.iload_n 2, 1) := dk_28 (dk_at dksX6_end_0 0 rfl rfl)
theorem dX6_end_1 : decode cX6_end 1 = .ok (.ifCond .ne 9, 3) := dk_154 0 9 (dk_at dksX6_end_0 1 rfl rfl)
theorem dX6_end_4 : decode cX6_end 4 = .ok (.iload_n 1, 1) := dk_27 (dk_at dksX6_end_0 4 rfl rfl)
theorem dX6_end_5 : decode cX6_end 5 = .ok (.iconst 1, 1) := dk_4 (dk_at dksX6_end_0 5 rfl rfl)
theorem dX6_end_6 : decode cX6_end 6 = .ok (.iadd, 1) := dk_96 (dk_at dksX6_end_0 6 rfl rfl)
theorem dX6_end_7 : decode cX6_end 7 = .ok (.goto 11, 3) := dk_167 0 11 (dk_at dksX6_end_0 7 rfl rfl)
theorem dX6_end_10 : decode cX6_end 10 = .ok (.iload_n 1, 1) := dk_27 (dk_at dksX6_end_0 10 rfl rfl)
theorem dX6_end_11 : decode cX6_end 11 = .ok (.aload_n 0, 1) := dk_42 (dk_at dksX6_end_0 11 rfl rfl)
theorem dX6_end_12 : decode cX6_end 12 = .ok (.getfield 31, 3) := dk_180 0 31 (dk_at dksX6_end_0 12 rfl rfl)
theorem dX6_end_15 : decode cX6_end 15 = .ok (.iconst 0, 1) := dk_3 (dk_at dksX6_end_0 15 rfl rfl)
theorem dX6_end_16 : decode cX6_end 16 = .ok (.iaload, 1) := dk_46 (dk_at dksX6_end_0 16 rfl rfl)
theorem dX6_end_17 : decode cX6_end 17 = .ok (.iadd, 1) := dk_96 (dk_at dksX6_end_0 17 rfl rfl)
theorem dX6_end_18 : decode cX6_end 18 = .ok (.ireturn, 1) := dk_172 (dk_at dksX6_end_0 18 rfl rfl)
def dkwX6_solvesNow_0 : List UInt8 := [42, 42, 180, 0, 31, 5, 46, 2, 182, 1, 11, 172]
abbrev dktX6_solvesNow_0 : List UInt8 := dkwX6_solvesNow_0 ++ []
theorem dksX6_solvesNow_0 : cX6_solvesNow.data.toList.drop 0 = dktX6_solvesNow_0 := by decide +kernel
theorem dX6_solvesNow_0 : decode cX6_solvesNow 0 = .ok (.aload_n 0, 1) := dk_42 (dk_at dksX6_solvesNow_0 0 rfl rfl)
theorem dX6_solvesNow_1 : decode cX6_solvesNow 1 = .ok (.aload_n 0, 1) := dk_42 (dk_at dksX6_solvesNow_0 1 rfl rfl)
theorem dX6_solvesNow_2 : decode cX6_solvesNow 2 = .ok (.getfield 31, 3) := dk_180 0 31 (dk_at dksX6_solvesNow_0 2 rfl rfl)
theorem dX6_solvesNow_5 : decode cX6_solvesNow 5 = .ok (.iconst 2, 1) := dk_5 (dk_at dksX6_solvesNow_0 5 rfl rfl)
theorem dX6_solvesNow_6 : decode cX6_solvesNow 6 = .ok (.iaload, 1) := dk_46 (dk_at dksX6_solvesNow_0 6 rfl rfl)
theorem dX6_solvesNow_7 : decode cX6_solvesNow 7 = .ok (.iconst (-1), 1) := dk_2 (dk_at dksX6_solvesNow_0 7 rfl rfl)
theorem dX6_solvesNow_8 : decode cX6_solvesNow 8 = .ok (.invokevirtual 267, 3) := dk_182 1 11 (dk_at dksX6_solvesNow_0 8 rfl rfl)
theorem dX6_solvesNow_11 : decode cX6_solvesNow 11 = .ok (.ireturn, 1) := dk_172 (dk_at dksX6_solvesNow_0 11 rfl rfl)
def dkwX6_solves_5 : List UInt8 := [180, 0, 52, 29, 46, 42, 29, 16, 12, 182, 0, 237, 80, 132, 3, 1, 167, 255, 227, 4, 172]
abbrev dktX6_solves_5 : List UInt8 := dkwX6_solves_5 ++ []
def dkwX6_solves_4 : List UInt8 := [182, 1, 7, 132, 3, 1, 167, 255, 239, 3, 62, 29, 42, 180, 0, 223, 162, 0, 27, 42, 180, 0, 55, 42]
abbrev dktX6_solves_4 : List UInt8 := dkwX6_solves_4 ++ dktX6_solves_5
def dkwX6_solves_3 : List UInt8 := [182, 1, 2, 16, 12, 20, 1, 5, 182, 0, 229, 3, 62, 29, 42, 180, 0, 223, 162, 0, 15, 42, 29, 4]
abbrev dktX6_solves_3 : List UInt8 := dkwX6_solves_3 ++ dktX6_solves_4
def dkwX6_solves_2 : List UInt8 := [3, 182, 0, 254, 42, 42, 27, 182, 1, 2, 16, 12, 10, 182, 0, 229, 28, 2, 159, 0, 17, 42, 42, 28]
abbrev dktX6_solves_2 : List UInt8 := dkwX6_solves_2 ++ dktX6_solves_3
def dkwX6_solves_1 : List UInt8 := [132, 3, 1, 167, 255, 240, 42, 42, 180, 0, 248, 182, 0, 251, 154, 0, 5, 3, 172, 42, 42, 180, 0, 248]
abbrev dktX6_solves_1 : List UInt8 := dkwX6_solves_1 ++ dktX6_solves_2
def dkwX6_solves_0 : List UInt8 := [42, 42, 27, 182, 0, 245, 181, 0, 248, 3, 62, 29, 16, 12, 162, 0, 16, 42, 180, 0, 55, 29, 9, 80]
abbrev dktX6_solves_0 : List UInt8 := dkwX6_solves_0 ++ dktX6_solves_1
theorem dksX6_solves_0 : cX6_solves.data.toList.drop 0 = dktX6_solves_0 := by decide +kernel
theorem dksX6_solves_1 : cX6_solves.data.toList.drop 24 = dktX6_solves_1 := dk_seg dksX6_solves_0 24 rfl rfl
theorem dksX6_solves_2 : cX6_solves.data.toList.drop 48 = dktX6_solves_2 := dk_seg dksX6_solves_1 24 rfl rfl
theorem dksX6_solves_3 : cX6_solves.data.toList.drop 72 = dktX6_solves_3 := dk_seg dksX6_solves_2 24 rfl rfl
theorem dksX6_solves_4 : cX6_solves.data.toList.drop 96 = dktX6_solves_4 := dk_seg dksX6_solves_3 24 rfl rfl
theorem dksX6_solves_5 : cX6_solves.data.toList.drop 120 = dktX6_solves_5 := dk_seg dksX6_solves_4 24 rfl rfl
theorem dX6_solves_0 : decode cX6_solves 0 = .ok (.aload_n 0, 1) := dk_42 (dk_at dksX6_solves_0 0 rfl rfl)
theorem dX6_solves_1 : decode cX6_solves 1 = .ok (.aload_n 0, 1) := dk_42 (dk_at dksX6_solves_0 1 rfl rfl)
theorem dX6_solves_2 : decode cX6_solves 2 = .ok (.iload_n 1, 1) := dk_27 (dk_at dksX6_solves_0 2 rfl rfl)
theorem dX6_solves_3 : decode cX6_solves 3 = .ok (.invokevirtual 245, 3) := dk_182 0 245 (dk_at dksX6_solves_0 3 rfl rfl)
theorem dX6_solves_6 : decode cX6_solves 6 = .ok (.putfield 248, 3) := dk_181 0 248 (dk_at dksX6_solves_0 6 rfl rfl)
theorem dX6_solves_9 : decode cX6_solves 9 = .ok (.iconst 0, 1) := dk_3 (dk_at dksX6_solves_0 9 rfl rfl)
theorem dX6_solves_10 : decode cX6_solves 10 = .ok (.istore_n 3, 1) := dk_62 (dk_at dksX6_solves_0 10 rfl rfl)
theorem dX6_solves_11 : decode cX6_solves 11 = .ok (.iload_n 3, 1) := dk_29 (dk_at dksX6_solves_0 11 rfl rfl)
theorem dX6_solves_12 : decode cX6_solves 12 = .ok (.bipush 12, 2) := dk_16 12 (dk_at dksX6_solves_0 12 rfl rfl)
theorem dX6_solves_14 : decode cX6_solves 14 = .ok (.if_icmp .ge 16, 3) := dk_162 0 16 (dk_at dksX6_solves_0 14 rfl rfl)
theorem dX6_solves_17 : decode cX6_solves 17 = .ok (.aload_n 0, 1) := dk_42 (dk_at dksX6_solves_0 17 rfl rfl)
theorem dX6_solves_18 : decode cX6_solves 18 = .ok (.getfield 55, 3) := dk_180 0 55 (dk_at dksX6_solves_0 18 rfl rfl)
theorem dX6_solves_21 : decode cX6_solves 21 = .ok (.iload_n 3, 1) := dk_29 (dk_at dksX6_solves_0 21 rfl rfl)
theorem dX6_solves_22 : decode cX6_solves 22 = .ok (.lconst 0, 1) := dk_9 (dk_at dksX6_solves_0 22 rfl rfl)
theorem dX6_solves_23 : decode cX6_solves 23 = .ok (.lastore, 1) := dk_80 (dk_at dksX6_solves_0 23 rfl rfl)
theorem dX6_solves_24 : decode cX6_solves 24 = .ok (.iinc 3 1, 3) := dk_132 3 1 (dk_at dksX6_solves_1 0 rfl rfl)
theorem dX6_solves_27 : decode cX6_solves 27 = .ok (.goto (-16), 3) := dk_167 255 240 (dk_at dksX6_solves_1 3 rfl rfl)
theorem dX6_solves_30 : decode cX6_solves 30 = .ok (.aload_n 0, 1) := dk_42 (dk_at dksX6_solves_1 6 rfl rfl)
theorem dX6_solves_31 : decode cX6_solves 31 = .ok (.aload_n 0, 1) := dk_42 (dk_at dksX6_solves_1 7 rfl rfl)
theorem dX6_solves_32 : decode cX6_solves 32 = .ok (.getfield 248, 3) := dk_180 0 248 (dk_at dksX6_solves_1 8 rfl rfl)
theorem dX6_solves_35 : decode cX6_solves 35 = .ok (.invokevirtual 251, 3) := dk_182 0 251 (dk_at dksX6_solves_1 11 rfl rfl)
theorem dX6_solves_38 : decode cX6_solves 38 = .ok (.ifCond .ne 5, 3) := dk_154 0 5 (dk_at dksX6_solves_1 14 rfl rfl)
theorem dX6_solves_41 : decode cX6_solves 41 = .ok (.iconst 0, 1) := dk_3 (dk_at dksX6_solves_1 17 rfl rfl)
theorem dX6_solves_42 : decode cX6_solves 42 = .ok (.ireturn, 1) := dk_172 (dk_at dksX6_solves_1 18 rfl rfl)
theorem dX6_solves_43 : decode cX6_solves 43 = .ok (.aload_n 0, 1) := dk_42 (dk_at dksX6_solves_1 19 rfl rfl)
theorem dX6_solves_44 : decode cX6_solves 44 = .ok (.aload_n 0, 1) := dk_42 (dk_at dksX6_solves_1 20 rfl rfl)
theorem dX6_solves_45 : decode cX6_solves 45 = .ok (.getfield 248, 3) := dk_180 0 248 (dk_at dksX6_solves_1 21 rfl rfl)
theorem dX6_solves_48 : decode cX6_solves 48 = .ok (.iconst 0, 1) := dk_3 (dk_at dksX6_solves_2 0 rfl rfl)
theorem dX6_solves_49 : decode cX6_solves 49 = .ok (.invokevirtual 254, 3) := dk_182 0 254 (dk_at dksX6_solves_2 1 rfl rfl)
theorem dX6_solves_52 : decode cX6_solves 52 = .ok (.aload_n 0, 1) := dk_42 (dk_at dksX6_solves_2 4 rfl rfl)
theorem dX6_solves_53 : decode cX6_solves 53 = .ok (.aload_n 0, 1) := dk_42 (dk_at dksX6_solves_2 5 rfl rfl)
theorem dX6_solves_54 : decode cX6_solves 54 = .ok (.iload_n 1, 1) := dk_27 (dk_at dksX6_solves_2 6 rfl rfl)
theorem dX6_solves_55 : decode cX6_solves 55 = .ok (.invokevirtual 258, 3) := dk_182 1 2 (dk_at dksX6_solves_2 7 rfl rfl)
theorem dX6_solves_58 : decode cX6_solves 58 = .ok (.bipush 12, 2) := dk_16 12 (dk_at dksX6_solves_2 10 rfl rfl)
theorem dX6_solves_60 : decode cX6_solves 60 = .ok (.lconst 1, 1) := dk_10 (dk_at dksX6_solves_2 12 rfl rfl)
theorem dX6_solves_61 : decode cX6_solves 61 = .ok (.invokevirtual 229, 3) := dk_182 0 229 (dk_at dksX6_solves_2 13 rfl rfl)
theorem dX6_solves_64 : decode cX6_solves 64 = .ok (.iload_n 2, 1) := dk_28 (dk_at dksX6_solves_2 16 rfl rfl)
theorem dX6_solves_65 : decode cX6_solves 65 = .ok (.iconst (-1), 1) := dk_2 (dk_at dksX6_solves_2 17 rfl rfl)
theorem dX6_solves_66 : decode cX6_solves 66 = .ok (.if_icmp .eq 17, 3) := dk_159 0 17 (dk_at dksX6_solves_2 18 rfl rfl)
theorem dX6_solves_69 : decode cX6_solves 69 = .ok (.aload_n 0, 1) := dk_42 (dk_at dksX6_solves_2 21 rfl rfl)
theorem dX6_solves_70 : decode cX6_solves 70 = .ok (.aload_n 0, 1) := dk_42 (dk_at dksX6_solves_2 22 rfl rfl)
theorem dX6_solves_71 : decode cX6_solves 71 = .ok (.iload_n 2, 1) := dk_28 (dk_at dksX6_solves_2 23 rfl rfl)
theorem dX6_solves_72 : decode cX6_solves 72 = .ok (.invokevirtual 258, 3) := dk_182 1 2 (dk_at dksX6_solves_3 0 rfl rfl)
theorem dX6_solves_75 : decode cX6_solves 75 = .ok (.bipush 12, 2) := dk_16 12 (dk_at dksX6_solves_3 3 rfl rfl)
theorem dX6_solves_77 : decode cX6_solves 77 = .ok (.ldc2_w 261, 3) := dk_20 1 5 (dk_at dksX6_solves_3 5 rfl rfl)
theorem dX6_solves_80 : decode cX6_solves 80 = .ok (.invokevirtual 229, 3) := dk_182 0 229 (dk_at dksX6_solves_3 8 rfl rfl)
theorem dX6_solves_83 : decode cX6_solves 83 = .ok (.iconst 0, 1) := dk_3 (dk_at dksX6_solves_3 11 rfl rfl)
theorem dX6_solves_84 : decode cX6_solves 84 = .ok (.istore_n 3, 1) := dk_62 (dk_at dksX6_solves_3 12 rfl rfl)
theorem dX6_solves_85 : decode cX6_solves 85 = .ok (.iload_n 3, 1) := dk_29 (dk_at dksX6_solves_3 13 rfl rfl)
theorem dX6_solves_86 : decode cX6_solves 86 = .ok (.aload_n 0, 1) := dk_42 (dk_at dksX6_solves_3 14 rfl rfl)
theorem dX6_solves_87 : decode cX6_solves 87 = .ok (.getfield 223, 3) := dk_180 0 223 (dk_at dksX6_solves_3 15 rfl rfl)
theorem dX6_solves_90 : decode cX6_solves 90 = .ok (.if_icmp .ge 15, 3) := dk_162 0 15 (dk_at dksX6_solves_3 18 rfl rfl)
theorem dX6_solves_93 : decode cX6_solves 93 = .ok (.aload_n 0, 1) := dk_42 (dk_at dksX6_solves_3 21 rfl rfl)
theorem dX6_solves_94 : decode cX6_solves 94 = .ok (.iload_n 3, 1) := dk_29 (dk_at dksX6_solves_3 22 rfl rfl)
theorem dX6_solves_95 : decode cX6_solves 95 = .ok (.iconst 1, 1) := dk_4 (dk_at dksX6_solves_3 23 rfl rfl)
theorem dX6_solves_96 : decode cX6_solves 96 = .ok (.invokevirtual 263, 3) := dk_182 1 7 (dk_at dksX6_solves_4 0 rfl rfl)
theorem dX6_solves_99 : decode cX6_solves 99 = .ok (.iinc 3 1, 3) := dk_132 3 1 (dk_at dksX6_solves_4 3 rfl rfl)
theorem dX6_solves_102 : decode cX6_solves 102 = .ok (.goto (-17), 3) := dk_167 255 239 (dk_at dksX6_solves_4 6 rfl rfl)
theorem dX6_solves_105 : decode cX6_solves 105 = .ok (.iconst 0, 1) := dk_3 (dk_at dksX6_solves_4 9 rfl rfl)
theorem dX6_solves_106 : decode cX6_solves 106 = .ok (.istore_n 3, 1) := dk_62 (dk_at dksX6_solves_4 10 rfl rfl)
theorem dX6_solves_107 : decode cX6_solves 107 = .ok (.iload_n 3, 1) := dk_29 (dk_at dksX6_solves_4 11 rfl rfl)
theorem dX6_solves_108 : decode cX6_solves 108 = .ok (.aload_n 0, 1) := dk_42 (dk_at dksX6_solves_4 12 rfl rfl)
theorem dX6_solves_109 : decode cX6_solves 109 = .ok (.getfield 223, 3) := dk_180 0 223 (dk_at dksX6_solves_4 13 rfl rfl)
theorem dX6_solves_112 : decode cX6_solves 112 = .ok (.if_icmp .ge 27, 3) := dk_162 0 27 (dk_at dksX6_solves_4 16 rfl rfl)
theorem dX6_solves_115 : decode cX6_solves 115 = .ok (.aload_n 0, 1) := dk_42 (dk_at dksX6_solves_4 19 rfl rfl)
theorem dX6_solves_116 : decode cX6_solves 116 = .ok (.getfield 55, 3) := dk_180 0 55 (dk_at dksX6_solves_4 20 rfl rfl)
theorem dX6_solves_119 : decode cX6_solves 119 = .ok (.aload_n 0, 1) := dk_42 (dk_at dksX6_solves_4 23 rfl rfl)
theorem dX6_solves_120 : decode cX6_solves 120 = .ok (.getfield 52, 3) := dk_180 0 52 (dk_at dksX6_solves_5 0 rfl rfl)
theorem dX6_solves_123 : decode cX6_solves 123 = .ok (.iload_n 3, 1) := dk_29 (dk_at dksX6_solves_5 3 rfl rfl)
theorem dX6_solves_124 : decode cX6_solves 124 = .ok (.iaload, 1) := dk_46 (dk_at dksX6_solves_5 4 rfl rfl)
theorem dX6_solves_125 : decode cX6_solves 125 = .ok (.aload_n 0, 1) := dk_42 (dk_at dksX6_solves_5 5 rfl rfl)
theorem dX6_solves_126 : decode cX6_solves 126 = .ok (.iload_n 3, 1) := dk_29 (dk_at dksX6_solves_5 6 rfl rfl)
theorem dX6_solves_127 : decode cX6_solves 127 = .ok (.bipush 12, 2) := dk_16 12 (dk_at dksX6_solves_5 7 rfl rfl)
theorem dX6_solves_129 : decode cX6_solves 129 = .ok (.invokevirtual 237, 3) := dk_182 0 237 (dk_at dksX6_solves_5 9 rfl rfl)
theorem dX6_solves_132 : decode cX6_solves 132 = .ok (.lastore, 1) := dk_80 (dk_at dksX6_solves_5 12 rfl rfl)
theorem dX6_solves_133 : decode cX6_solves 133 = .ok (.iinc 3 1, 3) := dk_132 3 1 (dk_at dksX6_solves_5 13 rfl rfl)
theorem dX6_solves_136 : decode cX6_solves 136 = .ok (.goto (-29), 3) := dk_167 255 227 (dk_at dksX6_solves_5 16 rfl rfl)
theorem dX6_solves_139 : decode cX6_solves 139 = .ok (.iconst 1, 1) := dk_4 (dk_at dksX6_solves_5 19 rfl rfl)
theorem dX6_solves_140 : decode cX6_solves 140 = .ok (.ireturn, 1) := dk_172 (dk_at dksX6_solves_5 20 rfl rfl)
def dkwX6_leaks_2 : List UInt8 := [167, 255, 214, 28, 172]
abbrev dktX6_leaks_2 : List UInt8 := dkwX6_leaks_2 ++ []
def dkwX6_leaks_1 : List UInt8 := [4, 160, 0, 16, 42, 29, 5, 182, 0, 194, 158, 0, 7, 4, 167, 0, 4, 3, 61, 132, 3, 1]
abbrev dktX6_leaks_1 : List UInt8 := dkwX6_leaks_1 ++ dktX6_leaks_2
def dkwX6_leaks_0 : List UInt8 := [3, 61, 3, 62, 29, 42, 180, 0, 31, 184, 0, 190, 162, 0, 37, 28, 154, 0, 21, 27, 29, 122, 4, 126]
abbrev dktX6_leaks_0 : List UInt8 := dkwX6_leaks_0 ++ dktX6_leaks_1
theorem dksX6_leaks_0 : cX6_leaks.data.toList.drop 0 = dktX6_leaks_0 := by decide +kernel
theorem dksX6_leaks_1 : cX6_leaks.data.toList.drop 24 = dktX6_leaks_1 := dk_seg dksX6_leaks_0 24 rfl rfl
theorem dksX6_leaks_2 : cX6_leaks.data.toList.drop 46 = dktX6_leaks_2 := dk_seg dksX6_leaks_1 22 rfl rfl
theorem dX6_leaks_0 : decode cX6_leaks 0 = .ok (.iconst 0, 1) := dk_3 (dk_at dksX6_leaks_0 0 rfl rfl)
theorem dX6_leaks_1 : decode cX6_leaks 1 = .ok (.istore_n 2, 1) := dk_61 (dk_at dksX6_leaks_0 1 rfl rfl)
theorem dX6_leaks_2 : decode cX6_leaks 2 = .ok (.iconst 0, 1) := dk_3 (dk_at dksX6_leaks_0 2 rfl rfl)
theorem dX6_leaks_3 : decode cX6_leaks 3 = .ok (.istore_n 3, 1) := dk_62 (dk_at dksX6_leaks_0 3 rfl rfl)
theorem dX6_leaks_4 : decode cX6_leaks 4 = .ok (.iload_n 3, 1) := dk_29 (dk_at dksX6_leaks_0 4 rfl rfl)
theorem dX6_leaks_5 : decode cX6_leaks 5 = .ok (.aload_n 0, 1) := dk_42 (dk_at dksX6_leaks_0 5 rfl rfl)
theorem dX6_leaks_6 : decode cX6_leaks 6 = .ok (.getfield 31, 3) := dk_180 0 31 (dk_at dksX6_leaks_0 6 rfl rfl)
theorem dX6_leaks_9 : decode cX6_leaks 9 = .ok (.invokestatic 190, 3) := dk_184 0 190 (dk_at dksX6_leaks_0 9 rfl rfl)
theorem dX6_leaks_12 : decode cX6_leaks 12 = .ok (.if_icmp .ge 37, 3) := dk_162 0 37 (dk_at dksX6_leaks_0 12 rfl rfl)
theorem dX6_leaks_15 : decode cX6_leaks 15 = .ok (.iload_n 2, 1) := dk_28 (dk_at dksX6_leaks_0 15 rfl rfl)
theorem dX6_leaks_16 : decode cX6_leaks 16 = .ok (.ifCond .ne 21, 3) := dk_154 0 21 (dk_at dksX6_leaks_0 16 rfl rfl)
theorem dX6_leaks_19 : decode cX6_leaks 19 = .ok (.iload_n 1, 1) := dk_27 (dk_at dksX6_leaks_0 19 rfl rfl)
theorem dX6_leaks_20 : decode cX6_leaks 20 = .ok (.iload_n 3, 1) := dk_29 (dk_at dksX6_leaks_0 20 rfl rfl)
theorem dX6_leaks_21 : decode cX6_leaks 21 = .ok (.ishr, 1) := dk_122 (dk_at dksX6_leaks_0 21 rfl rfl)
theorem dX6_leaks_22 : decode cX6_leaks 22 = .ok (.iconst 1, 1) := dk_4 (dk_at dksX6_leaks_0 22 rfl rfl)
theorem dX6_leaks_23 : decode cX6_leaks 23 = .ok (.iand, 1) := dk_126 (dk_at dksX6_leaks_0 23 rfl rfl)
theorem dX6_leaks_24 : decode cX6_leaks 24 = .ok (.iconst 1, 1) := dk_4 (dk_at dksX6_leaks_1 0 rfl rfl)
theorem dX6_leaks_25 : decode cX6_leaks 25 = .ok (.if_icmp .ne 16, 3) := dk_160 0 16 (dk_at dksX6_leaks_1 1 rfl rfl)
theorem dX6_leaks_28 : decode cX6_leaks 28 = .ok (.aload_n 0, 1) := dk_42 (dk_at dksX6_leaks_1 4 rfl rfl)
theorem dX6_leaks_29 : decode cX6_leaks 29 = .ok (.iload_n 3, 1) := dk_29 (dk_at dksX6_leaks_1 5 rfl rfl)
theorem dX6_leaks_30 : decode cX6_leaks 30 = .ok (.iconst 2, 1) := dk_5 (dk_at dksX6_leaks_1 6 rfl rfl)
theorem dX6_leaks_31 : decode cX6_leaks 31 = .ok (.invokevirtual 194, 3) := dk_182 0 194 (dk_at dksX6_leaks_1 7 rfl rfl)
theorem dX6_leaks_34 : decode cX6_leaks 34 = .ok (.ifCond .le 7, 3) := dk_158 0 7 (dk_at dksX6_leaks_1 10 rfl rfl)
theorem dX6_leaks_37 : decode cX6_leaks 37 = .ok (.iconst 1, 1) := dk_4 (dk_at dksX6_leaks_1 13 rfl rfl)
theorem dX6_leaks_38 : decode cX6_leaks 38 = .ok (.goto 4, 3) := dk_167 0 4 (dk_at dksX6_leaks_1 14 rfl rfl)
theorem dX6_leaks_41 : decode cX6_leaks 41 = .ok (.iconst 0, 1) := dk_3 (dk_at dksX6_leaks_1 17 rfl rfl)
theorem dX6_leaks_42 : decode cX6_leaks 42 = .ok (.istore_n 2, 1) := dk_61 (dk_at dksX6_leaks_1 18 rfl rfl)
theorem dX6_leaks_43 : decode cX6_leaks 43 = .ok (.iinc 3 1, 3) := dk_132 3 1 (dk_at dksX6_leaks_1 19 rfl rfl)
theorem dX6_leaks_46 : decode cX6_leaks 46 = .ok (.goto (-42), 3) := dk_167 255 214 (dk_at dksX6_leaks_2 0 rfl rfl)
theorem dX6_leaks_49 : decode cX6_leaks 49 = .ok (.iload_n 2, 1) := dk_28 (dk_at dksX6_leaks_2 3 rfl rfl)
theorem dX6_leaks_50 : decode cX6_leaks 50 = .ok (.ireturn, 1) := dk_172 (dk_at dksX6_leaks_2 4 rfl rfl)
def dkwX6_layRows_10 : List UInt8 := [167, 255, 157, 42, 10, 181, 0, 233, 177]
abbrev dktX6_layRows_10 : List UInt8 := dkwX6_layRows_10 ++ []
def dkwX6_layRows_9 : List UInt8 := [21, 7, 116, 133, 182, 0, 229, 132, 6, 1, 167, 255, 196, 42, 29, 29, 22, 4, 182, 0, 229, 132, 3, 1]
abbrev dktX6_layRows_9 : List UInt8 := dkwX6_layRows_9 ++ dktX6_layRows_10
def dkwX6_layRows_8 : List UInt8 := [180, 0, 52, 21, 6, 46, 182, 0, 226, 54, 7, 22, 4, 21, 7, 133, 97, 55, 4, 42, 29, 21, 6]
abbrev dktX6_layRows_8 : List UInt8 := dkwX6_layRows_8 ++ dktX6_layRows_9
def dkwX6_layRows_7 : List UInt8 := [180, 0, 223, 162, 0, 57, 29, 21, 6, 160, 0, 7, 3, 167, 0, 20, 42, 42, 180, 0, 52, 29, 46, 42]
abbrev dktX6_layRows_7 : List UInt8 := dkwX6_layRows_7 ++ dktX6_layRows_8
def dkwX6_layRows_6 : List UInt8 := [162, 0, 97, 42, 42, 180, 0, 52, 29, 46, 5, 182, 0, 194, 133, 55, 4, 3, 54, 6, 21, 6, 42]
abbrev dktX6_layRows_6 : List UInt8 := dkwX6_layRows_6 ++ dktX6_layRows_7
def dkwX6_layRows_5 : List UInt8 := [190, 162, 0, 16, 42, 180, 0, 48, 29, 9, 80, 132, 3, 1, 167, 255, 237, 3, 62, 29, 42, 180, 0, 223]
abbrev dktX6_layRows_5 : List UInt8 := dkwX6_layRows_5 ++ dktX6_layRows_6
def dkwX6_layRows_4 : List UInt8 := [4, 96, 181, 0, 223, 132, 4, 1, 167, 255, 168, 132, 3, 1, 167, 255, 154, 3, 62, 29, 42, 180, 0, 48]
abbrev dktX6_layRows_4 : List UInt8 := dkwX6_layRows_4 ++ dktX6_layRows_5
def dkwX6_layRows_3 : List UInt8 := [21, 5, 154, 0, 6, 167, 0, 24, 42, 180, 0, 52, 42, 180, 0, 223, 21, 4, 79, 42, 89, 180, 0, 223]
abbrev dktX6_layRows_3 : List UInt8 := dkwX6_layRows_3 ++ dktX6_layRows_4
def dkwX6_layRows_2 : List UInt8 := [167, 0, 4, 3, 29, 154, 0, 7, 4, 167, 0, 4, 3, 160, 0, 7, 4, 167, 0, 4, 3, 54, 5]
abbrev dktX6_layRows_2 : List UInt8 := dkwX6_layRows_2 ++ dktX6_layRows_3
def dkwX6_layRows_1 : List UInt8 := [162, 0, 82, 27, 21, 4, 122, 4, 126, 4, 160, 0, 34, 28, 21, 4, 122, 4, 126, 4, 160, 0, 7, 4]
abbrev dktX6_layRows_1 : List UInt8 := dkwX6_layRows_1 ++ dktX6_layRows_2
def dkwX6_layRows_0 : List UInt8 := [42, 3, 181, 0, 223, 3, 62, 29, 5, 162, 0, 103, 3, 54, 4, 21, 4, 42, 180, 0, 31, 184, 0, 190]
abbrev dktX6_layRows_0 : List UInt8 := dkwX6_layRows_0 ++ dktX6_layRows_1
theorem dksX6_layRows_0 : cX6_layRows.data.toList.drop 0 = dktX6_layRows_0 := by decide +kernel
theorem dksX6_layRows_1 : cX6_layRows.data.toList.drop 24 = dktX6_layRows_1 := dk_seg dksX6_layRows_0 24 rfl rfl
theorem dksX6_layRows_2 : cX6_layRows.data.toList.drop 48 = dktX6_layRows_2 := dk_seg dksX6_layRows_1 24 rfl rfl
theorem dksX6_layRows_3 : cX6_layRows.data.toList.drop 71 = dktX6_layRows_3 := dk_seg dksX6_layRows_2 23 rfl rfl
theorem dksX6_layRows_4 : cX6_layRows.data.toList.drop 95 = dktX6_layRows_4 := dk_seg dksX6_layRows_3 24 rfl rfl
theorem dksX6_layRows_5 : cX6_layRows.data.toList.drop 119 = dktX6_layRows_5 := dk_seg dksX6_layRows_4 24 rfl rfl
theorem dksX6_layRows_6 : cX6_layRows.data.toList.drop 143 = dktX6_layRows_6 := dk_seg dksX6_layRows_5 24 rfl rfl
theorem dksX6_layRows_7 : cX6_layRows.data.toList.drop 166 = dktX6_layRows_7 := dk_seg dksX6_layRows_6 23 rfl rfl
theorem dksX6_layRows_8 : cX6_layRows.data.toList.drop 190 = dktX6_layRows_8 := dk_seg dksX6_layRows_7 24 rfl rfl
theorem dksX6_layRows_9 : cX6_layRows.data.toList.drop 213 = dktX6_layRows_9 := dk_seg dksX6_layRows_8 23 rfl rfl
theorem dksX6_layRows_10 : cX6_layRows.data.toList.drop 237 = dktX6_layRows_10 := dk_seg dksX6_layRows_9 24 rfl rfl
theorem dX6_layRows_0 : decode cX6_layRows 0 = .ok (.aload_n 0, 1) := dk_42 (dk_at dksX6_layRows_0 0 rfl rfl)
theorem dX6_layRows_1 : decode cX6_layRows 1 = .ok (.iconst 0, 1) := dk_3 (dk_at dksX6_layRows_0 1 rfl rfl)
theorem dX6_layRows_2 : decode cX6_layRows 2 = .ok (.putfield 223, 3) := dk_181 0 223 (dk_at dksX6_layRows_0 2 rfl rfl)
theorem dX6_layRows_5 : decode cX6_layRows 5 = .ok (.iconst 0, 1) := dk_3 (dk_at dksX6_layRows_0 5 rfl rfl)
theorem dX6_layRows_6 : decode cX6_layRows 6 = .ok (.istore_n 3, 1) := dk_62 (dk_at dksX6_layRows_0 6 rfl rfl)
theorem dX6_layRows_7 : decode cX6_layRows 7 = .ok (.iload_n 3, 1) := dk_29 (dk_at dksX6_layRows_0 7 rfl rfl)
theorem dX6_layRows_8 : decode cX6_layRows 8 = .ok (.iconst 2, 1) := dk_5 (dk_at dksX6_layRows_0 8 rfl rfl)
theorem dX6_layRows_9 : decode cX6_layRows 9 = .ok (.if_icmp .ge 103, 3) := dk_162 0 103 (dk_at dksX6_layRows_0 9 rfl rfl)
theorem dX6_layRows_12 : decode cX6_layRows 12 = .ok (.iconst 0, 1) := dk_3 (dk_at dksX6_layRows_0 12 rfl rfl)
theorem dX6_layRows_13 : decode cX6_layRows 13 = .ok (.istore 4, 2) := dk_54 4 (dk_at dksX6_layRows_0 13 rfl rfl)
theorem dX6_layRows_15 : decode cX6_layRows 15 = .ok (.iload 4, 2) := dk_21 4 (dk_at dksX6_layRows_0 15 rfl rfl)
theorem dX6_layRows_17 : decode cX6_layRows 17 = .ok (.aload_n 0, 1) := dk_42 (dk_at dksX6_layRows_0 17 rfl rfl)
theorem dX6_layRows_18 : decode cX6_layRows 18 = .ok (.getfield 31, 3) := dk_180 0 31 (dk_at dksX6_layRows_0 18 rfl rfl)
theorem dX6_layRows_21 : decode cX6_layRows 21 = .ok (.invokestatic 190, 3) := dk_184 0 190 (dk_at dksX6_layRows_0 21 rfl rfl)
theorem dX6_layRows_24 : decode cX6_layRows 24 = .ok (.if_icmp .ge 82, 3) := dk_162 0 82 (dk_at dksX6_layRows_1 0 rfl rfl)
theorem dX6_layRows_27 : decode cX6_layRows 27 = .ok (.iload_n 1, 1) := dk_27 (dk_at dksX6_layRows_1 3 rfl rfl)
theorem dX6_layRows_28 : decode cX6_layRows 28 = .ok (.iload 4, 2) := dk_21 4 (dk_at dksX6_layRows_1 4 rfl rfl)
theorem dX6_layRows_30 : decode cX6_layRows 30 = .ok (.ishr, 1) := dk_122 (dk_at dksX6_layRows_1 6 rfl rfl)
theorem dX6_layRows_31 : decode cX6_layRows 31 = .ok (.iconst 1, 1) := dk_4 (dk_at dksX6_layRows_1 7 rfl rfl)
theorem dX6_layRows_32 : decode cX6_layRows 32 = .ok (.iand, 1) := dk_126 (dk_at dksX6_layRows_1 8 rfl rfl)
theorem dX6_layRows_33 : decode cX6_layRows 33 = .ok (.iconst 1, 1) := dk_4 (dk_at dksX6_layRows_1 9 rfl rfl)
theorem dX6_layRows_34 : decode cX6_layRows 34 = .ok (.if_icmp .ne 34, 3) := dk_160 0 34 (dk_at dksX6_layRows_1 10 rfl rfl)
theorem dX6_layRows_37 : decode cX6_layRows 37 = .ok (.iload_n 2, 1) := dk_28 (dk_at dksX6_layRows_1 13 rfl rfl)
theorem dX6_layRows_38 : decode cX6_layRows 38 = .ok (.iload 4, 2) := dk_21 4 (dk_at dksX6_layRows_1 14 rfl rfl)
theorem dX6_layRows_40 : decode cX6_layRows 40 = .ok (.ishr, 1) := dk_122 (dk_at dksX6_layRows_1 16 rfl rfl)
theorem dX6_layRows_41 : decode cX6_layRows 41 = .ok (.iconst 1, 1) := dk_4 (dk_at dksX6_layRows_1 17 rfl rfl)
theorem dX6_layRows_42 : decode cX6_layRows 42 = .ok (.iand, 1) := dk_126 (dk_at dksX6_layRows_1 18 rfl rfl)
theorem dX6_layRows_43 : decode cX6_layRows 43 = .ok (.iconst 1, 1) := dk_4 (dk_at dksX6_layRows_1 19 rfl rfl)
theorem dX6_layRows_44 : decode cX6_layRows 44 = .ok (.if_icmp .ne 7, 3) := dk_160 0 7 (dk_at dksX6_layRows_1 20 rfl rfl)
theorem dX6_layRows_47 : decode cX6_layRows 47 = .ok (.iconst 1, 1) := dk_4 (dk_at dksX6_layRows_1 23 rfl rfl)
theorem dX6_layRows_48 : decode cX6_layRows 48 = .ok (.goto 4, 3) := dk_167 0 4 (dk_at dksX6_layRows_2 0 rfl rfl)
theorem dX6_layRows_51 : decode cX6_layRows 51 = .ok (.iconst 0, 1) := dk_3 (dk_at dksX6_layRows_2 3 rfl rfl)
theorem dX6_layRows_52 : decode cX6_layRows 52 = .ok (.iload_n 3, 1) := dk_29 (dk_at dksX6_layRows_2 4 rfl rfl)
theorem dX6_layRows_53 : decode cX6_layRows 53 = .ok (.ifCond .ne 7, 3) := dk_154 0 7 (dk_at dksX6_layRows_2 5 rfl rfl)
theorem dX6_layRows_56 : decode cX6_layRows 56 = .ok (.iconst 1, 1) := dk_4 (dk_at dksX6_layRows_2 8 rfl rfl)
theorem dX6_layRows_57 : decode cX6_layRows 57 = .ok (.goto 4, 3) := dk_167 0 4 (dk_at dksX6_layRows_2 9 rfl rfl)
theorem dX6_layRows_60 : decode cX6_layRows 60 = .ok (.iconst 0, 1) := dk_3 (dk_at dksX6_layRows_2 12 rfl rfl)
theorem dX6_layRows_61 : decode cX6_layRows 61 = .ok (.if_icmp .ne 7, 3) := dk_160 0 7 (dk_at dksX6_layRows_2 13 rfl rfl)
theorem dX6_layRows_64 : decode cX6_layRows 64 = .ok (.iconst 1, 1) := dk_4 (dk_at dksX6_layRows_2 16 rfl rfl)
theorem dX6_layRows_65 : decode cX6_layRows 65 = .ok (.goto 4, 3) := dk_167 0 4 (dk_at dksX6_layRows_2 17 rfl rfl)
theorem dX6_layRows_68 : decode cX6_layRows 68 = .ok (.iconst 0, 1) := dk_3 (dk_at dksX6_layRows_2 20 rfl rfl)
theorem dX6_layRows_69 : decode cX6_layRows 69 = .ok (.istore 5, 2) := dk_54 5 (dk_at dksX6_layRows_2 21 rfl rfl)
theorem dX6_layRows_71 : decode cX6_layRows 71 = .ok (.iload 5, 2) := dk_21 5 (dk_at dksX6_layRows_3 0 rfl rfl)
theorem dX6_layRows_73 : decode cX6_layRows 73 = .ok (.ifCond .ne 6, 3) := dk_154 0 6 (dk_at dksX6_layRows_3 2 rfl rfl)
theorem dX6_layRows_76 : decode cX6_layRows 76 = .ok (.goto 24, 3) := dk_167 0 24 (dk_at dksX6_layRows_3 5 rfl rfl)
theorem dX6_layRows_79 : decode cX6_layRows 79 = .ok (.aload_n 0, 1) := dk_42 (dk_at dksX6_layRows_3 8 rfl rfl)
theorem dX6_layRows_80 : decode cX6_layRows 80 = .ok (.getfield 52, 3) := dk_180 0 52 (dk_at dksX6_layRows_3 9 rfl rfl)
theorem dX6_layRows_83 : decode cX6_layRows 83 = .ok (.aload_n 0, 1) := dk_42 (dk_at dksX6_layRows_3 12 rfl rfl)
theorem dX6_layRows_84 : decode cX6_layRows 84 = .ok (.getfield 223, 3) := dk_180 0 223 (dk_at dksX6_layRows_3 13 rfl rfl)
theorem dX6_layRows_87 : decode cX6_layRows 87 = .ok (.iload 4, 2) := dk_21 4 (dk_at dksX6_layRows_3 16 rfl rfl)
theorem dX6_layRows_89 : decode cX6_layRows 89 = .ok (.iastore, 1) := dk_79 (dk_at dksX6_layRows_3 18 rfl rfl)
theorem dX6_layRows_90 : decode cX6_layRows 90 = .ok (.aload_n 0, 1) := dk_42 (dk_at dksX6_layRows_3 19 rfl rfl)
theorem dX6_layRows_91 : decode cX6_layRows 91 = .ok (.dup, 1) := dk_89 (dk_at dksX6_layRows_3 20 rfl rfl)
theorem dX6_layRows_92 : decode cX6_layRows 92 = .ok (.getfield 223, 3) := dk_180 0 223 (dk_at dksX6_layRows_3 21 rfl rfl)
theorem dX6_layRows_95 : decode cX6_layRows 95 = .ok (.iconst 1, 1) := dk_4 (dk_at dksX6_layRows_4 0 rfl rfl)
theorem dX6_layRows_96 : decode cX6_layRows 96 = .ok (.iadd, 1) := dk_96 (dk_at dksX6_layRows_4 1 rfl rfl)
theorem dX6_layRows_97 : decode cX6_layRows 97 = .ok (.putfield 223, 3) := dk_181 0 223 (dk_at dksX6_layRows_4 2 rfl rfl)
theorem dX6_layRows_100 : decode cX6_layRows 100 = .ok (.iinc 4 1, 3) := dk_132 4 1 (dk_at dksX6_layRows_4 5 rfl rfl)
theorem dX6_layRows_103 : decode cX6_layRows 103 = .ok (.goto (-88), 3) := dk_167 255 168 (dk_at dksX6_layRows_4 8 rfl rfl)
theorem dX6_layRows_106 : decode cX6_layRows 106 = .ok (.iinc 3 1, 3) := dk_132 3 1 (dk_at dksX6_layRows_4 11 rfl rfl)
theorem dX6_layRows_109 : decode cX6_layRows 109 = .ok (.goto (-102), 3) := dk_167 255 154 (dk_at dksX6_layRows_4 14 rfl rfl)
theorem dX6_layRows_112 : decode cX6_layRows 112 = .ok (.iconst 0, 1) := dk_3 (dk_at dksX6_layRows_4 17 rfl rfl)
theorem dX6_layRows_113 : decode cX6_layRows 113 = .ok (.istore_n 3, 1) := dk_62 (dk_at dksX6_layRows_4 18 rfl rfl)
theorem dX6_layRows_114 : decode cX6_layRows 114 = .ok (.iload_n 3, 1) := dk_29 (dk_at dksX6_layRows_4 19 rfl rfl)
theorem dX6_layRows_115 : decode cX6_layRows 115 = .ok (.aload_n 0, 1) := dk_42 (dk_at dksX6_layRows_4 20 rfl rfl)
theorem dX6_layRows_116 : decode cX6_layRows 116 = .ok (.getfield 48, 3) := dk_180 0 48 (dk_at dksX6_layRows_4 21 rfl rfl)
theorem dX6_layRows_119 : decode cX6_layRows 119 = .ok (.arraylength, 1) := dk_190 (dk_at dksX6_layRows_5 0 rfl rfl)
theorem dX6_layRows_120 : decode cX6_layRows 120 = .ok (.if_icmp .ge 16, 3) := dk_162 0 16 (dk_at dksX6_layRows_5 1 rfl rfl)
theorem dX6_layRows_123 : decode cX6_layRows 123 = .ok (.aload_n 0, 1) := dk_42 (dk_at dksX6_layRows_5 4 rfl rfl)
theorem dX6_layRows_124 : decode cX6_layRows 124 = .ok (.getfield 48, 3) := dk_180 0 48 (dk_at dksX6_layRows_5 5 rfl rfl)
theorem dX6_layRows_127 : decode cX6_layRows 127 = .ok (.iload_n 3, 1) := dk_29 (dk_at dksX6_layRows_5 8 rfl rfl)
theorem dX6_layRows_128 : decode cX6_layRows 128 = .ok (.lconst 0, 1) := dk_9 (dk_at dksX6_layRows_5 9 rfl rfl)
theorem dX6_layRows_129 : decode cX6_layRows 129 = .ok (.lastore, 1) := dk_80 (dk_at dksX6_layRows_5 10 rfl rfl)
theorem dX6_layRows_130 : decode cX6_layRows 130 = .ok (.iinc 3 1, 3) := dk_132 3 1 (dk_at dksX6_layRows_5 11 rfl rfl)
theorem dX6_layRows_133 : decode cX6_layRows 133 = .ok (.goto (-19), 3) := dk_167 255 237 (dk_at dksX6_layRows_5 14 rfl rfl)
theorem dX6_layRows_136 : decode cX6_layRows 136 = .ok (.iconst 0, 1) := dk_3 (dk_at dksX6_layRows_5 17 rfl rfl)
theorem dX6_layRows_137 : decode cX6_layRows 137 = .ok (.istore_n 3, 1) := dk_62 (dk_at dksX6_layRows_5 18 rfl rfl)
theorem dX6_layRows_138 : decode cX6_layRows 138 = .ok (.iload_n 3, 1) := dk_29 (dk_at dksX6_layRows_5 19 rfl rfl)
theorem dX6_layRows_139 : decode cX6_layRows 139 = .ok (.aload_n 0, 1) := dk_42 (dk_at dksX6_layRows_5 20 rfl rfl)
theorem dX6_layRows_140 : decode cX6_layRows 140 = .ok (.getfield 223, 3) := dk_180 0 223 (dk_at dksX6_layRows_5 21 rfl rfl)
theorem dX6_layRows_143 : decode cX6_layRows 143 = .ok (.if_icmp .ge 97, 3) := dk_162 0 97 (dk_at dksX6_layRows_6 0 rfl rfl)
theorem dX6_layRows_146 : decode cX6_layRows 146 = .ok (.aload_n 0, 1) := dk_42 (dk_at dksX6_layRows_6 3 rfl rfl)
theorem dX6_layRows_147 : decode cX6_layRows 147 = .ok (.aload_n 0, 1) := dk_42 (dk_at dksX6_layRows_6 4 rfl rfl)
theorem dX6_layRows_148 : decode cX6_layRows 148 = .ok (.getfield 52, 3) := dk_180 0 52 (dk_at dksX6_layRows_6 5 rfl rfl)
theorem dX6_layRows_151 : decode cX6_layRows 151 = .ok (.iload_n 3, 1) := dk_29 (dk_at dksX6_layRows_6 8 rfl rfl)
theorem dX6_layRows_152 : decode cX6_layRows 152 = .ok (.iaload, 1) := dk_46 (dk_at dksX6_layRows_6 9 rfl rfl)
theorem dX6_layRows_153 : decode cX6_layRows 153 = .ok (.iconst 2, 1) := dk_5 (dk_at dksX6_layRows_6 10 rfl rfl)
theorem dX6_layRows_154 : decode cX6_layRows 154 = .ok (.invokevirtual 194, 3) := dk_182 0 194 (dk_at dksX6_layRows_6 11 rfl rfl)
theorem dX6_layRows_157 : decode cX6_layRows 157 = .ok (.i2l, 1) := dk_133 (dk_at dksX6_layRows_6 14 rfl rfl)
theorem dX6_layRows_158 : decode cX6_layRows 158 = .ok (.lstore 4, 2) := dk_55 4 (dk_at dksX6_layRows_6 15 rfl rfl)
theorem dX6_layRows_160 : decode cX6_layRows 160 = .ok (.iconst 0, 1) := dk_3 (dk_at dksX6_layRows_6 17 rfl rfl)
theorem dX6_layRows_161 : decode cX6_layRows 161 = .ok (.istore 6, 2) := dk_54 6 (dk_at dksX6_layRows_6 18 rfl rfl)
theorem dX6_layRows_163 : decode cX6_layRows 163 = .ok (.iload 6, 2) := dk_21 6 (dk_at dksX6_layRows_6 20 rfl rfl)
theorem dX6_layRows_165 : decode cX6_layRows 165 = .ok (.aload_n 0, 1) := dk_42 (dk_at dksX6_layRows_6 22 rfl rfl)
theorem dX6_layRows_166 : decode cX6_layRows 166 = .ok (.getfield 223, 3) := dk_180 0 223 (dk_at dksX6_layRows_7 0 rfl rfl)
theorem dX6_layRows_169 : decode cX6_layRows 169 = .ok (.if_icmp .ge 57, 3) := dk_162 0 57 (dk_at dksX6_layRows_7 3 rfl rfl)
theorem dX6_layRows_172 : decode cX6_layRows 172 = .ok (.iload_n 3, 1) := dk_29 (dk_at dksX6_layRows_7 6 rfl rfl)
theorem dX6_layRows_173 : decode cX6_layRows 173 = .ok (.iload 6, 2) := dk_21 6 (dk_at dksX6_layRows_7 7 rfl rfl)
theorem dX6_layRows_175 : decode cX6_layRows 175 = .ok (.if_icmp .ne 7, 3) := dk_160 0 7 (dk_at dksX6_layRows_7 9 rfl rfl)
theorem dX6_layRows_178 : decode cX6_layRows 178 = .ok (.iconst 0, 1) := dk_3 (dk_at dksX6_layRows_7 12 rfl rfl)
theorem dX6_layRows_179 : decode cX6_layRows 179 = .ok (.goto 20, 3) := dk_167 0 20 (dk_at dksX6_layRows_7 13 rfl rfl)
theorem dX6_layRows_182 : decode cX6_layRows 182 = .ok (.aload_n 0, 1) := dk_42 (dk_at dksX6_layRows_7 16 rfl rfl)
theorem dX6_layRows_183 : decode cX6_layRows 183 = .ok (.aload_n 0, 1) := dk_42 (dk_at dksX6_layRows_7 17 rfl rfl)
theorem dX6_layRows_184 : decode cX6_layRows 184 = .ok (.getfield 52, 3) := dk_180 0 52 (dk_at dksX6_layRows_7 18 rfl rfl)
theorem dX6_layRows_187 : decode cX6_layRows 187 = .ok (.iload_n 3, 1) := dk_29 (dk_at dksX6_layRows_7 21 rfl rfl)
theorem dX6_layRows_188 : decode cX6_layRows 188 = .ok (.iaload, 1) := dk_46 (dk_at dksX6_layRows_7 22 rfl rfl)
theorem dX6_layRows_189 : decode cX6_layRows 189 = .ok (.aload_n 0, 1) := dk_42 (dk_at dksX6_layRows_7 23 rfl rfl)
theorem dX6_layRows_190 : decode cX6_layRows 190 = .ok (.getfield 52, 3) := dk_180 0 52 (dk_at dksX6_layRows_8 0 rfl rfl)
theorem dX6_layRows_193 : decode cX6_layRows 193 = .ok (.iload 6, 2) := dk_21 6 (dk_at dksX6_layRows_8 3 rfl rfl)
theorem dX6_layRows_195 : decode cX6_layRows 195 = .ok (.iaload, 1) := dk_46 (dk_at dksX6_layRows_8 5 rfl rfl)
theorem dX6_layRows_196 : decode cX6_layRows 196 = .ok (.invokevirtual 226, 3) := dk_182 0 226 (dk_at dksX6_layRows_8 6 rfl rfl)
theorem dX6_layRows_199 : decode cX6_layRows 199 = .ok (.istore 7, 2) := dk_54 7 (dk_at dksX6_layRows_8 9 rfl rfl)
theorem dX6_layRows_201 : decode cX6_layRows 201 = .ok (.lload 4, 2) := dk_22 4 (dk_at dksX6_layRows_8 11 rfl rfl)
theorem dX6_layRows_203 : decode cX6_layRows 203 = .ok (.iload 7, 2) := dk_21 7 (dk_at dksX6_layRows_8 13 rfl rfl)
theorem dX6_layRows_205 : decode cX6_layRows 205 = .ok (.i2l, 1) := dk_133 (dk_at dksX6_layRows_8 15 rfl rfl)
theorem dX6_layRows_206 : decode cX6_layRows 206 = .ok (.ladd, 1) := dk_97 (dk_at dksX6_layRows_8 16 rfl rfl)
theorem dX6_layRows_207 : decode cX6_layRows 207 = .ok (.lstore 4, 2) := dk_55 4 (dk_at dksX6_layRows_8 17 rfl rfl)
theorem dX6_layRows_209 : decode cX6_layRows 209 = .ok (.aload_n 0, 1) := dk_42 (dk_at dksX6_layRows_8 19 rfl rfl)
theorem dX6_layRows_210 : decode cX6_layRows 210 = .ok (.iload_n 3, 1) := dk_29 (dk_at dksX6_layRows_8 20 rfl rfl)
theorem dX6_layRows_211 : decode cX6_layRows 211 = .ok (.iload 6, 2) := dk_21 6 (dk_at dksX6_layRows_8 21 rfl rfl)
theorem dX6_layRows_213 : decode cX6_layRows 213 = .ok (.iload 7, 2) := dk_21 7 (dk_at dksX6_layRows_9 0 rfl rfl)
theorem dX6_layRows_215 : decode cX6_layRows 215 = .ok (.ineg, 1) := dk_116 (dk_at dksX6_layRows_9 2 rfl rfl)
theorem dX6_layRows_216 : decode cX6_layRows 216 = .ok (.i2l, 1) := dk_133 (dk_at dksX6_layRows_9 3 rfl rfl)
theorem dX6_layRows_217 : decode cX6_layRows 217 = .ok (.invokevirtual 229, 3) := dk_182 0 229 (dk_at dksX6_layRows_9 4 rfl rfl)
theorem dX6_layRows_220 : decode cX6_layRows 220 = .ok (.iinc 6 1, 3) := dk_132 6 1 (dk_at dksX6_layRows_9 7 rfl rfl)
theorem dX6_layRows_223 : decode cX6_layRows 223 = .ok (.goto (-60), 3) := dk_167 255 196 (dk_at dksX6_layRows_9 10 rfl rfl)
theorem dX6_layRows_226 : decode cX6_layRows 226 = .ok (.aload_n 0, 1) := dk_42 (dk_at dksX6_layRows_9 13 rfl rfl)
theorem dX6_layRows_227 : decode cX6_layRows 227 = .ok (.iload_n 3, 1) := dk_29 (dk_at dksX6_layRows_9 14 rfl rfl)
theorem dX6_layRows_228 : decode cX6_layRows 228 = .ok (.iload_n 3, 1) := dk_29 (dk_at dksX6_layRows_9 15 rfl rfl)
theorem dX6_layRows_229 : decode cX6_layRows 229 = .ok (.lload 4, 2) := dk_22 4 (dk_at dksX6_layRows_9 16 rfl rfl)
theorem dX6_layRows_231 : decode cX6_layRows 231 = .ok (.invokevirtual 229, 3) := dk_182 0 229 (dk_at dksX6_layRows_9 18 rfl rfl)
theorem dX6_layRows_234 : decode cX6_layRows 234 = .ok (.iinc 3 1, 3) := dk_132 3 1 (dk_at dksX6_layRows_9 21 rfl rfl)
theorem dX6_layRows_237 : decode cX6_layRows 237 = .ok (.goto (-99), 3) := dk_167 255 157 (dk_at dksX6_layRows_10 0 rfl rfl)
theorem dX6_layRows_240 : decode cX6_layRows 240 = .ok (.aload_n 0, 1) := dk_42 (dk_at dksX6_layRows_10 3 rfl rfl)
theorem dX6_layRows_241 : decode cX6_layRows 241 = .ok (.lconst 1, 1) := dk_10 (dk_at dksX6_layRows_10 4 rfl rfl)
theorem dX6_layRows_242 : decode cX6_layRows 242 = .ok (.putfield 233, 3) := dk_181 0 233 (dk_at dksX6_layRows_10 5 rfl rfl)
theorem dX6_layRows_245 : decode cX6_layRows 245 = .ok (.return_, 1) := dk_177 (dk_at dksX6_layRows_10 8 rfl rfl)
def dkwX6_gOf_3 : List UInt8 := [182, 0, 194, 167, 0, 4, 3, 172]
abbrev dktX6_gOf_3 : List UInt8 := dkwX6_gOf_3 ++ []
def dkwX6_gOf_2 : List UInt8 := [184, 0, 166, 153, 0, 25, 21, 4, 29, 42, 180, 0, 31, 3, 46, 96, 160, 0, 12, 42, 29, 4]
abbrev dktX6_gOf_2 : List UInt8 := dkwX6_gOf_2 ++ dktX6_gOf_3
def dkwX6_gOf_1 : List UInt8 := [153, 0, 18, 21, 4, 29, 4, 96, 160, 0, 10, 42, 29, 3, 182, 0, 194, 172, 42, 180, 0, 31, 29, 4]
abbrev dktX6_gOf_1 : List UInt8 := dkwX6_gOf_1 ++ dktX6_gOf_2
def dkwX6_gOf_0 : List UInt8 := [27, 28, 184, 0, 127, 62, 27, 28, 184, 0, 220, 54, 4, 42, 180, 0, 31, 29, 3, 184, 0, 166]
abbrev dktX6_gOf_0 : List UInt8 := dkwX6_gOf_0 ++ dktX6_gOf_1
theorem dksX6_gOf_0 : cX6_gOf.data.toList.drop 0 = dktX6_gOf_0 := by decide +kernel
theorem dksX6_gOf_1 : cX6_gOf.data.toList.drop 22 = dktX6_gOf_1 := dk_seg dksX6_gOf_0 22 rfl rfl
theorem dksX6_gOf_2 : cX6_gOf.data.toList.drop 46 = dktX6_gOf_2 := dk_seg dksX6_gOf_1 24 rfl rfl
theorem dksX6_gOf_3 : cX6_gOf.data.toList.drop 68 = dktX6_gOf_3 := dk_seg dksX6_gOf_2 22 rfl rfl
theorem dX6_gOf_0 : decode cX6_gOf 0 = .ok (.iload_n 1, 1) := dk_27 (dk_at dksX6_gOf_0 0 rfl rfl)
theorem dX6_gOf_1 : decode cX6_gOf 1 = .ok (.iload_n 2, 1) := dk_28 (dk_at dksX6_gOf_0 1 rfl rfl)
theorem dX6_gOf_2 : decode cX6_gOf 2 = .ok (.invokestatic 127, 3) := dk_184 0 127 (dk_at dksX6_gOf_0 2 rfl rfl)
theorem dX6_gOf_5 : decode cX6_gOf 5 = .ok (.istore_n 3, 1) := dk_62 (dk_at dksX6_gOf_0 5 rfl rfl)
theorem dX6_gOf_6 : decode cX6_gOf 6 = .ok (.iload_n 1, 1) := dk_27 (dk_at dksX6_gOf_0 6 rfl rfl)
theorem dX6_gOf_7 : decode cX6_gOf 7 = .ok (.iload_n 2, 1) := dk_28 (dk_at dksX6_gOf_0 7 rfl rfl)
theorem dX6_gOf_8 : decode cX6_gOf 8 = .ok (.invokestatic 220, 3) := dk_184 0 220 (dk_at dksX6_gOf_0 8 rfl rfl)
theorem dX6_gOf_11 : decode cX6_gOf 11 = .ok (.istore 4, 2) := dk_54 4 (dk_at dksX6_gOf_0 11 rfl rfl)
theorem dX6_gOf_13 : decode cX6_gOf 13 = .ok (.aload_n 0, 1) := dk_42 (dk_at dksX6_gOf_0 13 rfl rfl)
theorem dX6_gOf_14 : decode cX6_gOf 14 = .ok (.getfield 31, 3) := dk_180 0 31 (dk_at dksX6_gOf_0 14 rfl rfl)
theorem dX6_gOf_17 : decode cX6_gOf 17 = .ok (.iload_n 3, 1) := dk_29 (dk_at dksX6_gOf_0 17 rfl rfl)
theorem dX6_gOf_18 : decode cX6_gOf 18 = .ok (.iconst 0, 1) := dk_3 (dk_at dksX6_gOf_0 18 rfl rfl)
theorem dX6_gOf_19 : decode cX6_gOf 19 = .ok (.invokestatic 166, 3) := dk_184 0 166 (dk_at dksX6_gOf_0 19 rfl rfl)
theorem dX6_gOf_22 : decode cX6_gOf 22 = .ok (.ifCond .eq 18, 3) := dk_153 0 18 (dk_at dksX6_gOf_1 0 rfl rfl)
theorem dX6_gOf_25 : decode cX6_gOf 25 = .ok (.iload 4, 2) := dk_21 4 (dk_at dksX6_gOf_1 3 rfl rfl)
theorem dX6_gOf_27 : decode cX6_gOf 27 = .ok (.iload_n 3, 1) := dk_29 (dk_at dksX6_gOf_1 5 rfl rfl)
theorem dX6_gOf_28 : decode cX6_gOf 28 = .ok (.iconst 1, 1) := dk_4 (dk_at dksX6_gOf_1 6 rfl rfl)
theorem dX6_gOf_29 : decode cX6_gOf 29 = .ok (.iadd, 1) := dk_96 (dk_at dksX6_gOf_1 7 rfl rfl)
theorem dX6_gOf_30 : decode cX6_gOf 30 = .ok (.if_icmp .ne 10, 3) := dk_160 0 10 (dk_at dksX6_gOf_1 8 rfl rfl)
theorem dX6_gOf_33 : decode cX6_gOf 33 = .ok (.aload_n 0, 1) := dk_42 (dk_at dksX6_gOf_1 11 rfl rfl)
theorem dX6_gOf_34 : decode cX6_gOf 34 = .ok (.iload_n 3, 1) := dk_29 (dk_at dksX6_gOf_1 12 rfl rfl)
theorem dX6_gOf_35 : decode cX6_gOf 35 = .ok (.iconst 0, 1) := dk_3 (dk_at dksX6_gOf_1 13 rfl rfl)
theorem dX6_gOf_36 : decode cX6_gOf 36 = .ok (.invokevirtual 194, 3) := dk_182 0 194 (dk_at dksX6_gOf_1 14 rfl rfl)
theorem dX6_gOf_39 : decode cX6_gOf 39 = .ok (.ireturn, 1) := dk_172 (dk_at dksX6_gOf_1 17 rfl rfl)
theorem dX6_gOf_40 : decode cX6_gOf 40 = .ok (.aload_n 0, 1) := dk_42 (dk_at dksX6_gOf_1 18 rfl rfl)
theorem dX6_gOf_41 : decode cX6_gOf 41 = .ok (.getfield 31, 3) := dk_180 0 31 (dk_at dksX6_gOf_1 19 rfl rfl)
theorem dX6_gOf_44 : decode cX6_gOf 44 = .ok (.iload_n 3, 1) := dk_29 (dk_at dksX6_gOf_1 22 rfl rfl)
theorem dX6_gOf_45 : decode cX6_gOf 45 = .ok (.iconst 1, 1) := dk_4 (dk_at dksX6_gOf_1 23 rfl rfl)
theorem dX6_gOf_46 : decode cX6_gOf 46 = .ok (.invokestatic 166, 3) := dk_184 0 166 (dk_at dksX6_gOf_2 0 rfl rfl)
theorem dX6_gOf_49 : decode cX6_gOf 49 = .ok (.ifCond .eq 25, 3) := dk_153 0 25 (dk_at dksX6_gOf_2 3 rfl rfl)
theorem dX6_gOf_52 : decode cX6_gOf 52 = .ok (.iload 4, 2) := dk_21 4 (dk_at dksX6_gOf_2 6 rfl rfl)
theorem dX6_gOf_54 : decode cX6_gOf 54 = .ok (.iload_n 3, 1) := dk_29 (dk_at dksX6_gOf_2 8 rfl rfl)
theorem dX6_gOf_55 : decode cX6_gOf 55 = .ok (.aload_n 0, 1) := dk_42 (dk_at dksX6_gOf_2 9 rfl rfl)
theorem dX6_gOf_56 : decode cX6_gOf 56 = .ok (.getfield 31, 3) := dk_180 0 31 (dk_at dksX6_gOf_2 10 rfl rfl)
theorem dX6_gOf_59 : decode cX6_gOf 59 = .ok (.iconst 0, 1) := dk_3 (dk_at dksX6_gOf_2 13 rfl rfl)
theorem dX6_gOf_60 : decode cX6_gOf 60 = .ok (.iaload, 1) := dk_46 (dk_at dksX6_gOf_2 14 rfl rfl)
theorem dX6_gOf_61 : decode cX6_gOf 61 = .ok (.iadd, 1) := dk_96 (dk_at dksX6_gOf_2 15 rfl rfl)
theorem dX6_gOf_62 : decode cX6_gOf 62 = .ok (.if_icmp .ne 12, 3) := dk_160 0 12 (dk_at dksX6_gOf_2 16 rfl rfl)
theorem dX6_gOf_65 : decode cX6_gOf 65 = .ok (.aload_n 0, 1) := dk_42 (dk_at dksX6_gOf_2 19 rfl rfl)
theorem dX6_gOf_66 : decode cX6_gOf 66 = .ok (.iload_n 3, 1) := dk_29 (dk_at dksX6_gOf_2 20 rfl rfl)
theorem dX6_gOf_67 : decode cX6_gOf 67 = .ok (.iconst 1, 1) := dk_4 (dk_at dksX6_gOf_2 21 rfl rfl)
theorem dX6_gOf_68 : decode cX6_gOf 68 = .ok (.invokevirtual 194, 3) := dk_182 0 194 (dk_at dksX6_gOf_3 0 rfl rfl)
theorem dX6_gOf_71 : decode cX6_gOf 71 = .ok (.goto 4, 3) := dk_167 0 4 (dk_at dksX6_gOf_3 3 rfl rfl)
theorem dX6_gOf_74 : decode cX6_gOf 74 = .ok (.iconst 0, 1) := dk_3 (dk_at dksX6_gOf_3 6 rfl rfl)
theorem dX6_gOf_75 : decode cX6_gOf 75 = .ok (.ireturn, 1) := dk_172 (dk_at dksX6_gOf_3 7 rfl rfl)
def dkwX6_lay_0 : List UInt8 := [42, 180, 0, 48, 16, 13, 27, 104, 28, 96, 33, 80, 177]
abbrev dktX6_lay_0 : List UInt8 := dkwX6_lay_0 ++ []
theorem dksX6_lay_0 : cX6_lay.data.toList.drop 0 = dktX6_lay_0 := by decide +kernel
theorem dX6_lay_0 : decode cX6_lay 0 = .ok (.aload_n 0, 1) := dk_42 (dk_at dksX6_lay_0 0 rfl rfl)
theorem dX6_lay_1 : decode cX6_lay 1 = .ok (.getfield 48, 3) := dk_180 0 48 (dk_at dksX6_lay_0 1 rfl rfl)
theorem dX6_lay_4 : decode cX6_lay 4 = .ok (.bipush 13, 2) := dk_16 13 (dk_at dksX6_lay_0 4 rfl rfl)
theorem dX6_lay_6 : decode cX6_lay 6 = .ok (.iload_n 1, 1) := dk_27 (dk_at dksX6_lay_0 6 rfl rfl)
theorem dX6_lay_7 : decode cX6_lay 7 = .ok (.imul, 1) := dk_104 (dk_at dksX6_lay_0 7 rfl rfl)
theorem dX6_lay_8 : decode cX6_lay 8 = .ok (.iload_n 2, 1) := dk_28 (dk_at dksX6_lay_0 8 rfl rfl)
theorem dX6_lay_9 : decode cX6_lay 9 = .ok (.iadd, 1) := dk_96 (dk_at dksX6_lay_0 9 rfl rfl)
theorem dX6_lay_10 : decode cX6_lay 10 = .ok (.lload_n 3, 1) := dk_33 (dk_at dksX6_lay_0 10 rfl rfl)
theorem dX6_lay_11 : decode cX6_lay 11 = .ok (.lastore, 1) := dk_80 (dk_at dksX6_lay_0 11 rfl rfl)
theorem dX6_lay_12 : decode cX6_lay 12 = .ok (.return_, 1) := dk_177 (dk_at dksX6_lay_0 12 rfl rfl)
def dkwX6_placeOf_1 : List UInt8 := [132, 2, 1, 167, 255, 233, 2, 172]
abbrev dktX6_placeOf_1 : List UInt8 := dkwX6_placeOf_1 ++ []
def dkwX6_placeOf_0 : List UInt8 := [3, 61, 28, 42, 180, 0, 223, 162, 0, 21, 42, 180, 0, 52, 28, 46, 27, 160, 0, 5, 28, 172]
abbrev dktX6_placeOf_0 : List UInt8 := dkwX6_placeOf_0 ++ dktX6_placeOf_1
theorem dksX6_placeOf_0 : cX6_placeOf.data.toList.drop 0 = dktX6_placeOf_0 := by decide +kernel
theorem dksX6_placeOf_1 : cX6_placeOf.data.toList.drop 22 = dktX6_placeOf_1 := dk_seg dksX6_placeOf_0 22 rfl rfl
theorem dX6_placeOf_0 : decode cX6_placeOf 0 = .ok (.iconst 0, 1) := dk_3 (dk_at dksX6_placeOf_0 0 rfl rfl)
theorem dX6_placeOf_1 : decode cX6_placeOf 1 = .ok (.istore_n 2, 1) := dk_61 (dk_at dksX6_placeOf_0 1 rfl rfl)
theorem dX6_placeOf_2 : decode cX6_placeOf 2 = .ok (.iload_n 2, 1) := dk_28 (dk_at dksX6_placeOf_0 2 rfl rfl)
theorem dX6_placeOf_3 : decode cX6_placeOf 3 = .ok (.aload_n 0, 1) := dk_42 (dk_at dksX6_placeOf_0 3 rfl rfl)
theorem dX6_placeOf_4 : decode cX6_placeOf 4 = .ok (.getfield 223, 3) := dk_180 0 223 (dk_at dksX6_placeOf_0 4 rfl rfl)
theorem dX6_placeOf_7 : decode cX6_placeOf 7 = .ok (.if_icmp .ge 21, 3) := dk_162 0 21 (dk_at dksX6_placeOf_0 7 rfl rfl)
theorem dX6_placeOf_10 : decode cX6_placeOf 10 = .ok (.aload_n 0, 1) := dk_42 (dk_at dksX6_placeOf_0 10 rfl rfl)
theorem dX6_placeOf_11 : decode cX6_placeOf 11 = .ok (.getfield 52, 3) := dk_180 0 52 (dk_at dksX6_placeOf_0 11 rfl rfl)
theorem dX6_placeOf_14 : decode cX6_placeOf 14 = .ok (.iload_n 2, 1) := dk_28 (dk_at dksX6_placeOf_0 14 rfl rfl)
theorem dX6_placeOf_15 : decode cX6_placeOf 15 = .ok (.iaload, 1) := dk_46 (dk_at dksX6_placeOf_0 15 rfl rfl)
theorem dX6_placeOf_16 : decode cX6_placeOf 16 = .ok (.iload_n 1, 1) := dk_27 (dk_at dksX6_placeOf_0 16 rfl rfl)
theorem dX6_placeOf_17 : decode cX6_placeOf 17 = .ok (.if_icmp .ne 5, 3) := dk_160 0 5 (dk_at dksX6_placeOf_0 17 rfl rfl)
theorem dX6_placeOf_20 : decode cX6_placeOf 20 = .ok (.iload_n 2, 1) := dk_28 (dk_at dksX6_placeOf_0 20 rfl rfl)
theorem dX6_placeOf_21 : decode cX6_placeOf 21 = .ok (.ireturn, 1) := dk_172 (dk_at dksX6_placeOf_0 21 rfl rfl)
theorem dX6_placeOf_22 : decode cX6_placeOf 22 = .ok (.iinc 2 1, 3) := dk_132 2 1 (dk_at dksX6_placeOf_1 0 rfl rfl)
theorem dX6_placeOf_25 : decode cX6_placeOf 25 = .ok (.goto (-23), 3) := dk_167 255 233 (dk_at dksX6_placeOf_1 3 rfl rfl)
theorem dX6_placeOf_28 : decode cX6_placeOf 28 = .ok (.iconst (-1), 1) := dk_2 (dk_at dksX6_placeOf_1 6 rfl rfl)
theorem dX6_placeOf_29 : decode cX6_placeOf 29 = .ok (.ireturn, 1) := dk_172 (dk_at dksX6_placeOf_1 7 rfl rfl)
def dkwX6_clears_5 : List UInt8 := [181, 0, 233, 177]
abbrev dktX6_clears_5 : List UInt8 := dkwX6_clears_5 ++ []
def dkwX6_clears_4 : List UInt8 := [132, 8, 1, 167, 255, 213, 42, 21, 5, 27, 9, 182, 0, 229, 132, 5, 1, 167, 255, 167, 42, 33]
abbrev dktX6_clears_4 : List UInt8 := dkwX6_clears_4 ++ dktX6_clears_5
def dkwX6_clears_3 : List UInt8 := [182, 0, 237, 22, 6, 42, 27, 21, 8, 182, 0, 237, 42, 180, 0, 233, 184, 0, 241, 182, 0, 229]
abbrev dktX6_clears_3 : List UInt8 := dkwX6_clears_3 ++ dktX6_clears_4
def dkwX6_clears_2 : List UInt8 := [27, 4, 96, 54, 8, 21, 8, 16, 12, 163, 0, 42, 42, 21, 5, 21, 8, 33, 42, 21, 5, 21, 8]
abbrev dktX6_clears_2 : List UInt8 := dkwX6_clears_2 ++ dktX6_clears_3
def dkwX6_clears_1 : List UInt8 := [180, 0, 223, 162, 0, 86, 21, 5, 27, 160, 0, 6, 167, 0, 71, 42, 21, 5, 27, 182, 0, 237, 55, 6]
abbrev dktX6_clears_1 : List UInt8 := dkwX6_clears_1 ++ dktX6_clears_2
def dkwX6_clears_0 : List UInt8 := [42, 27, 27, 182, 0, 237, 66, 28, 153, 0, 7, 3, 167, 0, 6, 27, 4, 96, 54, 5, 21, 5, 42]
abbrev dktX6_clears_0 : List UInt8 := dkwX6_clears_0 ++ dktX6_clears_1
theorem dksX6_clears_0 : cX6_clears.data.toList.drop 0 = dktX6_clears_0 := by decide +kernel
theorem dksX6_clears_1 : cX6_clears.data.toList.drop 23 = dktX6_clears_1 := dk_seg dksX6_clears_0 23 rfl rfl
theorem dksX6_clears_2 : cX6_clears.data.toList.drop 47 = dktX6_clears_2 := dk_seg dksX6_clears_1 24 rfl rfl
theorem dksX6_clears_3 : cX6_clears.data.toList.drop 70 = dktX6_clears_3 := dk_seg dksX6_clears_2 23 rfl rfl
theorem dksX6_clears_4 : cX6_clears.data.toList.drop 92 = dktX6_clears_4 := dk_seg dksX6_clears_3 22 rfl rfl
theorem dksX6_clears_5 : cX6_clears.data.toList.drop 114 = dktX6_clears_5 := dk_seg dksX6_clears_4 22 rfl rfl
theorem dX6_clears_0 : decode cX6_clears 0 = .ok (.aload_n 0, 1) := dk_42 (dk_at dksX6_clears_0 0 rfl rfl)
theorem dX6_clears_1 : decode cX6_clears 1 = .ok (.iload_n 1, 1) := dk_27 (dk_at dksX6_clears_0 1 rfl rfl)
theorem dX6_clears_2 : decode cX6_clears 2 = .ok (.iload_n 1, 1) := dk_27 (dk_at dksX6_clears_0 2 rfl rfl)
theorem dX6_clears_3 : decode cX6_clears 3 = .ok (.invokevirtual 237, 3) := dk_182 0 237 (dk_at dksX6_clears_0 3 rfl rfl)
theorem dX6_clears_6 : decode cX6_clears 6 = .ok (.lstore_n 3, 1) := dk_66 (dk_at dksX6_clears_0 6 rfl rfl)
theorem dX6_clears_7 : decode cX6_clears 7 = .ok (.iload_n 2, 1) := dk_28 (dk_at dksX6_clears_0 7 rfl rfl)
theorem dX6_clears_8 : decode cX6_clears 8 = .ok (.ifCond .eq 7, 3) := dk_153 0 7 (dk_at dksX6_clears_0 8 rfl rfl)
theorem dX6_clears_11 : decode cX6_clears 11 = .ok (.iconst 0, 1) := dk_3 (dk_at dksX6_clears_0 11 rfl rfl)
theorem dX6_clears_12 : decode cX6_clears 12 = .ok (.goto 6, 3) := dk_167 0 6 (dk_at dksX6_clears_0 12 rfl rfl)
theorem dX6_clears_15 : decode cX6_clears 15 = .ok (.iload_n 1, 1) := dk_27 (dk_at dksX6_clears_0 15 rfl rfl)
theorem dX6_clears_16 : decode cX6_clears 16 = .ok (.iconst 1, 1) := dk_4 (dk_at dksX6_clears_0 16 rfl rfl)
theorem dX6_clears_17 : decode cX6_clears 17 = .ok (.iadd, 1) := dk_96 (dk_at dksX6_clears_0 17 rfl rfl)
theorem dX6_clears_18 : decode cX6_clears 18 = .ok (.istore 5, 2) := dk_54 5 (dk_at dksX6_clears_0 18 rfl rfl)
theorem dX6_clears_20 : decode cX6_clears 20 = .ok (.iload 5, 2) := dk_21 5 (dk_at dksX6_clears_0 20 rfl rfl)
theorem dX6_clears_22 : decode cX6_clears 22 = .ok (.aload_n 0, 1) := dk_42 (dk_at dksX6_clears_0 22 rfl rfl)
theorem dX6_clears_23 : decode cX6_clears 23 = .ok (.getfield 223, 3) := dk_180 0 223 (dk_at dksX6_clears_1 0 rfl rfl)
theorem dX6_clears_26 : decode cX6_clears 26 = .ok (.if_icmp .ge 86, 3) := dk_162 0 86 (dk_at dksX6_clears_1 3 rfl rfl)
theorem dX6_clears_29 : decode cX6_clears 29 = .ok (.iload 5, 2) := dk_21 5 (dk_at dksX6_clears_1 6 rfl rfl)
theorem dX6_clears_31 : decode cX6_clears 31 = .ok (.iload_n 1, 1) := dk_27 (dk_at dksX6_clears_1 8 rfl rfl)
theorem dX6_clears_32 : decode cX6_clears 32 = .ok (.if_icmp .ne 6, 3) := dk_160 0 6 (dk_at dksX6_clears_1 9 rfl rfl)
theorem dX6_clears_35 : decode cX6_clears 35 = .ok (.goto 71, 3) := dk_167 0 71 (dk_at dksX6_clears_1 12 rfl rfl)
theorem dX6_clears_38 : decode cX6_clears 38 = .ok (.aload_n 0, 1) := dk_42 (dk_at dksX6_clears_1 15 rfl rfl)
theorem dX6_clears_39 : decode cX6_clears 39 = .ok (.iload 5, 2) := dk_21 5 (dk_at dksX6_clears_1 16 rfl rfl)
theorem dX6_clears_41 : decode cX6_clears 41 = .ok (.iload_n 1, 1) := dk_27 (dk_at dksX6_clears_1 18 rfl rfl)
theorem dX6_clears_42 : decode cX6_clears 42 = .ok (.invokevirtual 237, 3) := dk_182 0 237 (dk_at dksX6_clears_1 19 rfl rfl)
theorem dX6_clears_45 : decode cX6_clears 45 = .ok (.lstore 6, 2) := dk_55 6 (dk_at dksX6_clears_1 22 rfl rfl)
theorem dX6_clears_47 : decode cX6_clears 47 = .ok (.iload_n 1, 1) := dk_27 (dk_at dksX6_clears_2 0 rfl rfl)
theorem dX6_clears_48 : decode cX6_clears 48 = .ok (.iconst 1, 1) := dk_4 (dk_at dksX6_clears_2 1 rfl rfl)
theorem dX6_clears_49 : decode cX6_clears 49 = .ok (.iadd, 1) := dk_96 (dk_at dksX6_clears_2 2 rfl rfl)
theorem dX6_clears_50 : decode cX6_clears 50 = .ok (.istore 8, 2) := dk_54 8 (dk_at dksX6_clears_2 3 rfl rfl)
theorem dX6_clears_52 : decode cX6_clears 52 = .ok (.iload 8, 2) := dk_21 8 (dk_at dksX6_clears_2 5 rfl rfl)
theorem dX6_clears_54 : decode cX6_clears 54 = .ok (.bipush 12, 2) := dk_16 12 (dk_at dksX6_clears_2 7 rfl rfl)
theorem dX6_clears_56 : decode cX6_clears 56 = .ok (.if_icmp .gt 42, 3) := dk_163 0 42 (dk_at dksX6_clears_2 9 rfl rfl)
theorem dX6_clears_59 : decode cX6_clears 59 = .ok (.aload_n 0, 1) := dk_42 (dk_at dksX6_clears_2 12 rfl rfl)
theorem dX6_clears_60 : decode cX6_clears 60 = .ok (.iload 5, 2) := dk_21 5 (dk_at dksX6_clears_2 13 rfl rfl)
theorem dX6_clears_62 : decode cX6_clears 62 = .ok (.iload 8, 2) := dk_21 8 (dk_at dksX6_clears_2 15 rfl rfl)
theorem dX6_clears_64 : decode cX6_clears 64 = .ok (.lload_n 3, 1) := dk_33 (dk_at dksX6_clears_2 17 rfl rfl)
theorem dX6_clears_65 : decode cX6_clears 65 = .ok (.aload_n 0, 1) := dk_42 (dk_at dksX6_clears_2 18 rfl rfl)
theorem dX6_clears_66 : decode cX6_clears 66 = .ok (.iload 5, 2) := dk_21 5 (dk_at dksX6_clears_2 19 rfl rfl)
theorem dX6_clears_68 : decode cX6_clears 68 = .ok (.iload 8, 2) := dk_21 8 (dk_at dksX6_clears_2 21 rfl rfl)
theorem dX6_clears_70 : decode cX6_clears 70 = .ok (.invokevirtual 237, 3) := dk_182 0 237 (dk_at dksX6_clears_3 0 rfl rfl)
theorem dX6_clears_73 : decode cX6_clears 73 = .ok (.lload 6, 2) := dk_22 6 (dk_at dksX6_clears_3 3 rfl rfl)
theorem dX6_clears_75 : decode cX6_clears 75 = .ok (.aload_n 0, 1) := dk_42 (dk_at dksX6_clears_3 5 rfl rfl)
theorem dX6_clears_76 : decode cX6_clears 76 = .ok (.iload_n 1, 1) := dk_27 (dk_at dksX6_clears_3 6 rfl rfl)
theorem dX6_clears_77 : decode cX6_clears 77 = .ok (.iload 8, 2) := dk_21 8 (dk_at dksX6_clears_3 7 rfl rfl)
theorem dX6_clears_79 : decode cX6_clears 79 = .ok (.invokevirtual 237, 3) := dk_182 0 237 (dk_at dksX6_clears_3 9 rfl rfl)
theorem dX6_clears_82 : decode cX6_clears 82 = .ok (.aload_n 0, 1) := dk_42 (dk_at dksX6_clears_3 12 rfl rfl)
theorem dX6_clears_83 : decode cX6_clears 83 = .ok (.getfield 233, 3) := dk_180 0 233 (dk_at dksX6_clears_3 13 rfl rfl)
theorem dX6_clears_86 : decode cX6_clears 86 = .ok (.invokestatic 241, 3) := dk_184 0 241 (dk_at dksX6_clears_3 16 rfl rfl)
theorem dX6_clears_89 : decode cX6_clears 89 = .ok (.invokevirtual 229, 3) := dk_182 0 229 (dk_at dksX6_clears_3 19 rfl rfl)
theorem dX6_clears_92 : decode cX6_clears 92 = .ok (.iinc 8 1, 3) := dk_132 8 1 (dk_at dksX6_clears_4 0 rfl rfl)
theorem dX6_clears_95 : decode cX6_clears 95 = .ok (.goto (-43), 3) := dk_167 255 213 (dk_at dksX6_clears_4 3 rfl rfl)
theorem dX6_clears_98 : decode cX6_clears 98 = .ok (.aload_n 0, 1) := dk_42 (dk_at dksX6_clears_4 6 rfl rfl)
theorem dX6_clears_99 : decode cX6_clears 99 = .ok (.iload 5, 2) := dk_21 5 (dk_at dksX6_clears_4 7 rfl rfl)
theorem dX6_clears_101 : decode cX6_clears 101 = .ok (.iload_n 1, 1) := dk_27 (dk_at dksX6_clears_4 9 rfl rfl)
theorem dX6_clears_102 : decode cX6_clears 102 = .ok (.lconst 0, 1) := dk_9 (dk_at dksX6_clears_4 10 rfl rfl)
theorem dX6_clears_103 : decode cX6_clears 103 = .ok (.invokevirtual 229, 3) := dk_182 0 229 (dk_at dksX6_clears_4 11 rfl rfl)
theorem dX6_clears_106 : decode cX6_clears 106 = .ok (.iinc 5 1, 3) := dk_132 5 1 (dk_at dksX6_clears_4 14 rfl rfl)
theorem dX6_clears_109 : decode cX6_clears 109 = .ok (.goto (-89), 3) := dk_167 255 167 (dk_at dksX6_clears_4 17 rfl rfl)
theorem dX6_clears_112 : decode cX6_clears 112 = .ok (.aload_n 0, 1) := dk_42 (dk_at dksX6_clears_4 20 rfl rfl)
theorem dX6_clears_113 : decode cX6_clears 113 = .ok (.lload_n 3, 1) := dk_33 (dk_at dksX6_clears_4 21 rfl rfl)
theorem dX6_clears_114 : decode cX6_clears 114 = .ok (.putfield 233, 3) := dk_181 0 233 (dk_at dksX6_clears_5 0 rfl rfl)
theorem dX6_clears_117 : decode cX6_clears 117 = .ok (.return_, 1) := dk_177 (dk_at dksX6_clears_5 3 rfl rfl)
def dkwX6_cell_0 : List UInt8 := [42, 180, 0, 48, 16, 13, 27, 104, 28, 96, 47, 173]
abbrev dktX6_cell_0 : List UInt8 := dkwX6_cell_0 ++ []
theorem dksX6_cell_0 : cX6_cell.data.toList.drop 0 = dktX6_cell_0 := by decide +kernel
theorem dX6_cell_0 : decode cX6_cell 0 = .ok (.aload_n 0, 1) := dk_42 (dk_at dksX6_cell_0 0 rfl rfl)
theorem dX6_cell_1 : decode cX6_cell 1 = .ok (.getfield 48, 3) := dk_180 0 48 (dk_at dksX6_cell_0 1 rfl rfl)
theorem dX6_cell_4 : decode cX6_cell 4 = .ok (.bipush 13, 2) := dk_16 13 (dk_at dksX6_cell_0 4 rfl rfl)
theorem dX6_cell_6 : decode cX6_cell 6 = .ok (.iload_n 1, 1) := dk_27 (dk_at dksX6_cell_0 6 rfl rfl)
theorem dX6_cell_7 : decode cX6_cell 7 = .ok (.imul, 1) := dk_104 (dk_at dksX6_cell_0 7 rfl rfl)
theorem dX6_cell_8 : decode cX6_cell 8 = .ok (.iload_n 2, 1) := dk_28 (dk_at dksX6_cell_0 8 rfl rfl)
theorem dX6_cell_9 : decode cX6_cell 9 = .ok (.iadd, 1) := dk_96 (dk_at dksX6_cell_0 9 rfl rfl)
theorem dX6_cell_10 : decode cX6_cell 10 = .ok (.laload, 1) := dk_47 (dk_at dksX6_cell_0 10 rfl rfl)
theorem dX6_cell_11 : decode cX6_cell 11 = .ok (.lreturn, 1) := dk_173 (dk_at dksX6_cell_0 11 rfl rfl)
def dkwX6_exactly_4 : List UInt8 := [22, 21, 22, 8, 21, 20, 123, 184, 0, 216, 105, 173]
abbrev dktX6_exactly_4 : List UInt8 := dkwX6_exactly_4 ++ []
def dkwX6_exactly_3 : List UInt8 := [154, 0, 8, 22, 14, 167, 0, 17, 22, 14, 21, 20, 125, 22, 18, 16, 64, 21, 20, 100, 121, 129, 55, 21]
abbrev dktX6_exactly_3 : List UInt8 := dkwX6_exactly_3 ++ dktX6_exactly_4
def dkwX6_exactly_2 : List UInt8 := [22, 4, 22, 6, 184, 0, 208, 101, 22, 16, 101, 55, 18, 22, 8, 184, 0, 212, 54, 20, 21, 20]
abbrev dktX6_exactly_2 : List UInt8 := dkwX6_exactly_2 ++ dktX6_exactly_3
def dkwX6_exactly_1 : List UInt8 := [131, 22, 12, 20, 0, 206, 131, 148, 156, 0, 7, 10, 167, 0, 4, 9, 55, 16, 30, 32, 184, 0, 208]
abbrev dktX6_exactly_1 : List UInt8 := dkwX6_exactly_1 ++ dktX6_exactly_2
def dkwX6_exactly_0 : List UInt8 := [30, 32, 105, 55, 10, 22, 4, 22, 6, 105, 55, 12, 22, 10, 22, 12, 101, 55, 14, 22, 10, 20, 0, 206]
abbrev dktX6_exactly_0 : List UInt8 := dkwX6_exactly_0 ++ dktX6_exactly_1
theorem dksX6_exactly_0 : cX6_exactly.data.toList.drop 0 = dktX6_exactly_0 := by decide +kernel
theorem dksX6_exactly_1 : cX6_exactly.data.toList.drop 24 = dktX6_exactly_1 := dk_seg dksX6_exactly_0 24 rfl rfl
theorem dksX6_exactly_2 : cX6_exactly.data.toList.drop 47 = dktX6_exactly_2 := dk_seg dksX6_exactly_1 23 rfl rfl
theorem dksX6_exactly_3 : cX6_exactly.data.toList.drop 69 = dktX6_exactly_3 := dk_seg dksX6_exactly_2 22 rfl rfl
theorem dksX6_exactly_4 : cX6_exactly.data.toList.drop 93 = dktX6_exactly_4 := dk_seg dksX6_exactly_3 24 rfl rfl
theorem dX6_exactly_0 : decode cX6_exactly 0 = .ok (.lload_n 0, 1) := dk_30 (dk_at dksX6_exactly_0 0 rfl rfl)
theorem dX6_exactly_1 : decode cX6_exactly 1 = .ok (.lload_n 2, 1) := dk_32 (dk_at dksX6_exactly_0 1 rfl rfl)
theorem dX6_exactly_2 : decode cX6_exactly 2 = .ok (.lmul, 1) := dk_105 (dk_at dksX6_exactly_0 2 rfl rfl)
theorem dX6_exactly_3 : decode cX6_exactly 3 = .ok (.lstore 10, 2) := dk_55 10 (dk_at dksX6_exactly_0 3 rfl rfl)
theorem dX6_exactly_5 : decode cX6_exactly 5 = .ok (.lload 4, 2) := dk_22 4 (dk_at dksX6_exactly_0 5 rfl rfl)
theorem dX6_exactly_7 : decode cX6_exactly 7 = .ok (.lload 6, 2) := dk_22 6 (dk_at dksX6_exactly_0 7 rfl rfl)
theorem dX6_exactly_9 : decode cX6_exactly 9 = .ok (.lmul, 1) := dk_105 (dk_at dksX6_exactly_0 9 rfl rfl)
theorem dX6_exactly_10 : decode cX6_exactly 10 = .ok (.lstore 12, 2) := dk_55 12 (dk_at dksX6_exactly_0 10 rfl rfl)
theorem dX6_exactly_12 : decode cX6_exactly 12 = .ok (.lload 10, 2) := dk_22 10 (dk_at dksX6_exactly_0 12 rfl rfl)
theorem dX6_exactly_14 : decode cX6_exactly 14 = .ok (.lload 12, 2) := dk_22 12 (dk_at dksX6_exactly_0 14 rfl rfl)
theorem dX6_exactly_16 : decode cX6_exactly 16 = .ok (.lsub, 1) := dk_101 (dk_at dksX6_exactly_0 16 rfl rfl)
theorem dX6_exactly_17 : decode cX6_exactly 17 = .ok (.lstore 14, 2) := dk_55 14 (dk_at dksX6_exactly_0 17 rfl rfl)
theorem dX6_exactly_19 : decode cX6_exactly 19 = .ok (.lload 10, 2) := dk_22 10 (dk_at dksX6_exactly_0 19 rfl rfl)
theorem dX6_exactly_21 : decode cX6_exactly 21 = .ok (.ldc2_w 206, 3) := dk_20 0 206 (dk_at dksX6_exactly_0 21 rfl rfl)
theorem dX6_exactly_24 : decode cX6_exactly 24 = .ok (.lxor, 1) := dk_131 (dk_at dksX6_exactly_1 0 rfl rfl)
theorem dX6_exactly_25 : decode cX6_exactly 25 = .ok (.lload 12, 2) := dk_22 12 (dk_at dksX6_exactly_1 1 rfl rfl)
theorem dX6_exactly_27 : decode cX6_exactly 27 = .ok (.ldc2_w 206, 3) := dk_20 0 206 (dk_at dksX6_exactly_1 3 rfl rfl)
theorem dX6_exactly_30 : decode cX6_exactly 30 = .ok (.lxor, 1) := dk_131 (dk_at dksX6_exactly_1 6 rfl rfl)
theorem dX6_exactly_31 : decode cX6_exactly 31 = .ok (.lcmp, 1) := dk_148 (dk_at dksX6_exactly_1 7 rfl rfl)
theorem dX6_exactly_32 : decode cX6_exactly 32 = .ok (.ifCond .ge 7, 3) := dk_156 0 7 (dk_at dksX6_exactly_1 8 rfl rfl)
theorem dX6_exactly_35 : decode cX6_exactly 35 = .ok (.lconst 1, 1) := dk_10 (dk_at dksX6_exactly_1 11 rfl rfl)
theorem dX6_exactly_36 : decode cX6_exactly 36 = .ok (.goto 4, 3) := dk_167 0 4 (dk_at dksX6_exactly_1 12 rfl rfl)
theorem dX6_exactly_39 : decode cX6_exactly 39 = .ok (.lconst 0, 1) := dk_9 (dk_at dksX6_exactly_1 15 rfl rfl)
theorem dX6_exactly_40 : decode cX6_exactly 40 = .ok (.lstore 16, 2) := dk_55 16 (dk_at dksX6_exactly_1 16 rfl rfl)
theorem dX6_exactly_42 : decode cX6_exactly 42 = .ok (.lload_n 0, 1) := dk_30 (dk_at dksX6_exactly_1 18 rfl rfl)
theorem dX6_exactly_43 : decode cX6_exactly 43 = .ok (.lload_n 2, 1) := dk_32 (dk_at dksX6_exactly_1 19 rfl rfl)
theorem dX6_exactly_44 : decode cX6_exactly 44 = .ok (.invokestatic 208, 3) := dk_184 0 208 (dk_at dksX6_exactly_1 20 rfl rfl)
theorem dX6_exactly_47 : decode cX6_exactly 47 = .ok (.lload 4, 2) := dk_22 4 (dk_at dksX6_exactly_2 0 rfl rfl)
theorem dX6_exactly_49 : decode cX6_exactly 49 = .ok (.lload 6, 2) := dk_22 6 (dk_at dksX6_exactly_2 2 rfl rfl)
theorem dX6_exactly_51 : decode cX6_exactly 51 = .ok (.invokestatic 208, 3) := dk_184 0 208 (dk_at dksX6_exactly_2 4 rfl rfl)
theorem dX6_exactly_54 : decode cX6_exactly 54 = .ok (.lsub, 1) := dk_101 (dk_at dksX6_exactly_2 7 rfl rfl)
theorem dX6_exactly_55 : decode cX6_exactly 55 = .ok (.lload 16, 2) := dk_22 16 (dk_at dksX6_exactly_2 8 rfl rfl)
theorem dX6_exactly_57 : decode cX6_exactly 57 = .ok (.lsub, 1) := dk_101 (dk_at dksX6_exactly_2 10 rfl rfl)
theorem dX6_exactly_58 : decode cX6_exactly 58 = .ok (.lstore 18, 2) := dk_55 18 (dk_at dksX6_exactly_2 11 rfl rfl)
theorem dX6_exactly_60 : decode cX6_exactly 60 = .ok (.lload 8, 2) := dk_22 8 (dk_at dksX6_exactly_2 13 rfl rfl)
theorem dX6_exactly_62 : decode cX6_exactly 62 = .ok (.invokestatic 212, 3) := dk_184 0 212 (dk_at dksX6_exactly_2 15 rfl rfl)
theorem dX6_exactly_65 : decode cX6_exactly 65 = .ok (.istore 20, 2) := dk_54 20 (dk_at dksX6_exactly_2 18 rfl rfl)
theorem dX6_exactly_67 : decode cX6_exactly 67 = .ok (.iload 20, 2) := dk_21 20 (dk_at dksX6_exactly_2 20 rfl rfl)
theorem dX6_exactly_69 : decode cX6_exactly 69 = .ok (.ifCond .ne 8, 3) := dk_154 0 8 (dk_at dksX6_exactly_3 0 rfl rfl)
theorem dX6_exactly_72 : decode cX6_exactly 72 = .ok (.lload 14, 2) := dk_22 14 (dk_at dksX6_exactly_3 3 rfl rfl)
theorem dX6_exactly_74 : decode cX6_exactly 74 = .ok (.goto 17, 3) := dk_167 0 17 (dk_at dksX6_exactly_3 5 rfl rfl)
theorem dX6_exactly_77 : decode cX6_exactly 77 = .ok (.lload 14, 2) := dk_22 14 (dk_at dksX6_exactly_3 8 rfl rfl)
theorem dX6_exactly_79 : decode cX6_exactly 79 = .ok (.iload 20, 2) := dk_21 20 (dk_at dksX6_exactly_3 10 rfl rfl)
theorem dX6_exactly_81 : decode cX6_exactly 81 = .ok (.lushr, 1) := dk_125 (dk_at dksX6_exactly_3 12 rfl rfl)
theorem dX6_exactly_82 : decode cX6_exactly 82 = .ok (.lload 18, 2) := dk_22 18 (dk_at dksX6_exactly_3 13 rfl rfl)
theorem dX6_exactly_84 : decode cX6_exactly 84 = .ok (.bipush 64, 2) := dk_16 64 (dk_at dksX6_exactly_3 15 rfl rfl)
theorem dX6_exactly_86 : decode cX6_exactly 86 = .ok (.iload 20, 2) := dk_21 20 (dk_at dksX6_exactly_3 17 rfl rfl)
theorem dX6_exactly_88 : decode cX6_exactly 88 = .ok (.isub, 1) := dk_100 (dk_at dksX6_exactly_3 19 rfl rfl)
theorem dX6_exactly_89 : decode cX6_exactly 89 = .ok (.lshl, 1) := dk_121 (dk_at dksX6_exactly_3 20 rfl rfl)
theorem dX6_exactly_90 : decode cX6_exactly 90 = .ok (.lor, 1) := dk_129 (dk_at dksX6_exactly_3 21 rfl rfl)
theorem dX6_exactly_91 : decode cX6_exactly 91 = .ok (.lstore 21, 2) := dk_55 21 (dk_at dksX6_exactly_3 22 rfl rfl)
theorem dX6_exactly_93 : decode cX6_exactly 93 = .ok (.lload 21, 2) := dk_22 21 (dk_at dksX6_exactly_4 0 rfl rfl)
theorem dX6_exactly_95 : decode cX6_exactly 95 = .ok (.lload 8, 2) := dk_22 8 (dk_at dksX6_exactly_4 2 rfl rfl)
theorem dX6_exactly_97 : decode cX6_exactly 97 = .ok (.iload 20, 2) := dk_21 20 (dk_at dksX6_exactly_4 4 rfl rfl)
theorem dX6_exactly_99 : decode cX6_exactly 99 = .ok (.lshr, 1) := dk_123 (dk_at dksX6_exactly_4 6 rfl rfl)
theorem dX6_exactly_100 : decode cX6_exactly 100 = .ok (.invokestatic 216, 3) := dk_184 0 216 (dk_at dksX6_exactly_4 7 rfl rfl)
theorem dX6_exactly_103 : decode cX6_exactly 103 = .ok (.lmul, 1) := dk_105 (dk_at dksX6_exactly_4 10 rfl rfl)
theorem dX6_exactly_104 : decode cX6_exactly 104 = .ok (.lreturn, 1) := dk_173 (dk_at dksX6_exactly_4 11 rfl rfl)
def dkwX6_highOf_2 : List UInt8 := [22, 12, 16, 32, 123, 97, 22, 4, 22, 10, 105, 22, 12, 20, 0, 200, 127, 97, 16, 32, 123, 97, 173]
abbrev dktX6_highOf_2 : List UInt8 := dkwX6_highOf_2 ++ []
def dkwX6_highOf_1 : List UInt8 := [55, 10, 22, 6, 22, 8, 105, 22, 4, 22, 8, 105, 16, 32, 125, 97, 55, 12, 22, 6, 22, 10, 105]
abbrev dktX6_highOf_1 : List UInt8 := dkwX6_highOf_1 ++ dktX6_highOf_2
def dkwX6_highOf_0 : List UInt8 := [30, 20, 0, 200, 127, 55, 4, 30, 16, 32, 123, 55, 6, 32, 20, 0, 200, 127, 55, 8, 32, 16, 32, 123]
abbrev dktX6_highOf_0 : List UInt8 := dkwX6_highOf_0 ++ dktX6_highOf_1
theorem dksX6_highOf_0 : cX6_highOf.data.toList.drop 0 = dktX6_highOf_0 := by decide +kernel
theorem dksX6_highOf_1 : cX6_highOf.data.toList.drop 24 = dktX6_highOf_1 := dk_seg dksX6_highOf_0 24 rfl rfl
theorem dksX6_highOf_2 : cX6_highOf.data.toList.drop 47 = dktX6_highOf_2 := dk_seg dksX6_highOf_1 23 rfl rfl
theorem dX6_highOf_0 : decode cX6_highOf 0 = .ok (.lload_n 0, 1) := dk_30 (dk_at dksX6_highOf_0 0 rfl rfl)
theorem dX6_highOf_1 : decode cX6_highOf 1 = .ok (.ldc2_w 200, 3) := dk_20 0 200 (dk_at dksX6_highOf_0 1 rfl rfl)
theorem dX6_highOf_4 : decode cX6_highOf 4 = .ok (.land, 1) := dk_127 (dk_at dksX6_highOf_0 4 rfl rfl)
theorem dX6_highOf_5 : decode cX6_highOf 5 = .ok (.lstore 4, 2) := dk_55 4 (dk_at dksX6_highOf_0 5 rfl rfl)
theorem dX6_highOf_7 : decode cX6_highOf 7 = .ok (.lload_n 0, 1) := dk_30 (dk_at dksX6_highOf_0 7 rfl rfl)
theorem dX6_highOf_8 : decode cX6_highOf 8 = .ok (.bipush 32, 2) := dk_16 32 (dk_at dksX6_highOf_0 8 rfl rfl)
theorem dX6_highOf_10 : decode cX6_highOf 10 = .ok (.lshr, 1) := dk_123 (dk_at dksX6_highOf_0 10 rfl rfl)
theorem dX6_highOf_11 : decode cX6_highOf 11 = .ok (.lstore 6, 2) := dk_55 6 (dk_at dksX6_highOf_0 11 rfl rfl)
theorem dX6_highOf_13 : decode cX6_highOf 13 = .ok (.lload_n 2, 1) := dk_32 (dk_at dksX6_highOf_0 13 rfl rfl)
theorem dX6_highOf_14 : decode cX6_highOf 14 = .ok (.ldc2_w 200, 3) := dk_20 0 200 (dk_at dksX6_highOf_0 14 rfl rfl)
theorem dX6_highOf_17 : decode cX6_highOf 17 = .ok (.land, 1) := dk_127 (dk_at dksX6_highOf_0 17 rfl rfl)
theorem dX6_highOf_18 : decode cX6_highOf 18 = .ok (.lstore 8, 2) := dk_55 8 (dk_at dksX6_highOf_0 18 rfl rfl)
theorem dX6_highOf_20 : decode cX6_highOf 20 = .ok (.lload_n 2, 1) := dk_32 (dk_at dksX6_highOf_0 20 rfl rfl)
theorem dX6_highOf_21 : decode cX6_highOf 21 = .ok (.bipush 32, 2) := dk_16 32 (dk_at dksX6_highOf_0 21 rfl rfl)
theorem dX6_highOf_23 : decode cX6_highOf 23 = .ok (.lshr, 1) := dk_123 (dk_at dksX6_highOf_0 23 rfl rfl)
theorem dX6_highOf_24 : decode cX6_highOf 24 = .ok (.lstore 10, 2) := dk_55 10 (dk_at dksX6_highOf_1 0 rfl rfl)
theorem dX6_highOf_26 : decode cX6_highOf 26 = .ok (.lload 6, 2) := dk_22 6 (dk_at dksX6_highOf_1 2 rfl rfl)
theorem dX6_highOf_28 : decode cX6_highOf 28 = .ok (.lload 8, 2) := dk_22 8 (dk_at dksX6_highOf_1 4 rfl rfl)
theorem dX6_highOf_30 : decode cX6_highOf 30 = .ok (.lmul, 1) := dk_105 (dk_at dksX6_highOf_1 6 rfl rfl)
theorem dX6_highOf_31 : decode cX6_highOf 31 = .ok (.lload 4, 2) := dk_22 4 (dk_at dksX6_highOf_1 7 rfl rfl)
theorem dX6_highOf_33 : decode cX6_highOf 33 = .ok (.lload 8, 2) := dk_22 8 (dk_at dksX6_highOf_1 9 rfl rfl)
theorem dX6_highOf_35 : decode cX6_highOf 35 = .ok (.lmul, 1) := dk_105 (dk_at dksX6_highOf_1 11 rfl rfl)
theorem dX6_highOf_36 : decode cX6_highOf 36 = .ok (.bipush 32, 2) := dk_16 32 (dk_at dksX6_highOf_1 12 rfl rfl)
theorem dX6_highOf_38 : decode cX6_highOf 38 = .ok (.lushr, 1) := dk_125 (dk_at dksX6_highOf_1 14 rfl rfl)
theorem dX6_highOf_39 : decode cX6_highOf 39 = .ok (.ladd, 1) := dk_97 (dk_at dksX6_highOf_1 15 rfl rfl)
theorem dX6_highOf_40 : decode cX6_highOf 40 = .ok (.lstore 12, 2) := dk_55 12 (dk_at dksX6_highOf_1 16 rfl rfl)
theorem dX6_highOf_42 : decode cX6_highOf 42 = .ok (.lload 6, 2) := dk_22 6 (dk_at dksX6_highOf_1 18 rfl rfl)
theorem dX6_highOf_44 : decode cX6_highOf 44 = .ok (.lload 10, 2) := dk_22 10 (dk_at dksX6_highOf_1 20 rfl rfl)
theorem dX6_highOf_46 : decode cX6_highOf 46 = .ok (.lmul, 1) := dk_105 (dk_at dksX6_highOf_1 22 rfl rfl)
theorem dX6_highOf_47 : decode cX6_highOf 47 = .ok (.lload 12, 2) := dk_22 12 (dk_at dksX6_highOf_2 0 rfl rfl)
theorem dX6_highOf_49 : decode cX6_highOf 49 = .ok (.bipush 32, 2) := dk_16 32 (dk_at dksX6_highOf_2 2 rfl rfl)
theorem dX6_highOf_51 : decode cX6_highOf 51 = .ok (.lshr, 1) := dk_123 (dk_at dksX6_highOf_2 4 rfl rfl)
theorem dX6_highOf_52 : decode cX6_highOf 52 = .ok (.ladd, 1) := dk_97 (dk_at dksX6_highOf_2 5 rfl rfl)
theorem dX6_highOf_53 : decode cX6_highOf 53 = .ok (.lload 4, 2) := dk_22 4 (dk_at dksX6_highOf_2 6 rfl rfl)
theorem dX6_highOf_55 : decode cX6_highOf 55 = .ok (.lload 10, 2) := dk_22 10 (dk_at dksX6_highOf_2 8 rfl rfl)
theorem dX6_highOf_57 : decode cX6_highOf 57 = .ok (.lmul, 1) := dk_105 (dk_at dksX6_highOf_2 10 rfl rfl)
theorem dX6_highOf_58 : decode cX6_highOf 58 = .ok (.lload 12, 2) := dk_22 12 (dk_at dksX6_highOf_2 11 rfl rfl)
theorem dX6_highOf_60 : decode cX6_highOf 60 = .ok (.ldc2_w 200, 3) := dk_20 0 200 (dk_at dksX6_highOf_2 13 rfl rfl)
theorem dX6_highOf_63 : decode cX6_highOf 63 = .ok (.land, 1) := dk_127 (dk_at dksX6_highOf_2 16 rfl rfl)
theorem dX6_highOf_64 : decode cX6_highOf 64 = .ok (.ladd, 1) := dk_97 (dk_at dksX6_highOf_2 17 rfl rfl)
theorem dX6_highOf_65 : decode cX6_highOf 65 = .ok (.bipush 32, 2) := dk_16 32 (dk_at dksX6_highOf_2 18 rfl rfl)
theorem dX6_highOf_67 : decode cX6_highOf 67 = .ok (.lshr, 1) := dk_123 (dk_at dksX6_highOf_2 20 rfl rfl)
theorem dX6_highOf_68 : decode cX6_highOf 68 = .ok (.ladd, 1) := dk_97 (dk_at dksX6_highOf_2 21 rfl rfl)
theorem dX6_highOf_69 : decode cX6_highOf 69 = .ok (.lreturn, 1) := dk_173 (dk_at dksX6_highOf_2 22 rfl rfl)
def dkwX6_inverse_1 : List UInt8 := [167, 255, 237, 32, 173]
abbrev dktX6_inverse_1 : List UInt8 := dkwX6_inverse_1 ++ []
def dkwX6_inverse_0 : List UInt8 := [30, 65, 3, 54, 4, 21, 4, 8, 162, 0, 19, 32, 20, 0, 202, 30, 32, 105, 101, 105, 65, 132, 4, 1]
abbrev dktX6_inverse_0 : List UInt8 := dkwX6_inverse_0 ++ dktX6_inverse_1
theorem dksX6_inverse_0 : cX6_inverse.data.toList.drop 0 = dktX6_inverse_0 := by decide +kernel
theorem dksX6_inverse_1 : cX6_inverse.data.toList.drop 24 = dktX6_inverse_1 := dk_seg dksX6_inverse_0 24 rfl rfl
theorem dX6_inverse_0 : decode cX6_inverse 0 = .ok (.lload_n 0, 1) := dk_30 (dk_at dksX6_inverse_0 0 rfl rfl)
theorem dX6_inverse_1 : decode cX6_inverse 1 = .ok (.lstore_n 2, 1) := dk_65 (dk_at dksX6_inverse_0 1 rfl rfl)
theorem dX6_inverse_2 : decode cX6_inverse 2 = .ok (.iconst 0, 1) := dk_3 (dk_at dksX6_inverse_0 2 rfl rfl)
theorem dX6_inverse_3 : decode cX6_inverse 3 = .ok (.istore 4, 2) := dk_54 4 (dk_at dksX6_inverse_0 3 rfl rfl)
theorem dX6_inverse_5 : decode cX6_inverse 5 = .ok (.iload 4, 2) := dk_21 4 (dk_at dksX6_inverse_0 5 rfl rfl)
theorem dX6_inverse_7 : decode cX6_inverse 7 = .ok (.iconst 5, 1) := dk_8 (dk_at dksX6_inverse_0 7 rfl rfl)
theorem dX6_inverse_8 : decode cX6_inverse 8 = .ok (.if_icmp .ge 19, 3) := dk_162 0 19 (dk_at dksX6_inverse_0 8 rfl rfl)
theorem dX6_inverse_11 : decode cX6_inverse 11 = .ok (.lload_n 2, 1) := dk_32 (dk_at dksX6_inverse_0 11 rfl rfl)
theorem dX6_inverse_12 : decode cX6_inverse 12 = .ok (.ldc2_w 202, 3) := dk_20 0 202 (dk_at dksX6_inverse_0 12 rfl rfl)
theorem dX6_inverse_15 : decode cX6_inverse 15 = .ok (.lload_n 0, 1) := dk_30 (dk_at dksX6_inverse_0 15 rfl rfl)
theorem dX6_inverse_16 : decode cX6_inverse 16 = .ok (.lload_n 2, 1) := dk_32 (dk_at dksX6_inverse_0 16 rfl rfl)
theorem dX6_inverse_17 : decode cX6_inverse 17 = .ok (.lmul, 1) := dk_105 (dk_at dksX6_inverse_0 17 rfl rfl)
theorem dX6_inverse_18 : decode cX6_inverse 18 = .ok (.lsub, 1) := dk_101 (dk_at dksX6_inverse_0 18 rfl rfl)
theorem dX6_inverse_19 : decode cX6_inverse 19 = .ok (.lmul, 1) := dk_105 (dk_at dksX6_inverse_0 19 rfl rfl)
theorem dX6_inverse_20 : decode cX6_inverse 20 = .ok (.lstore_n 2, 1) := dk_65 (dk_at dksX6_inverse_0 20 rfl rfl)
theorem dX6_inverse_21 : decode cX6_inverse 21 = .ok (.iinc 4 1, 3) := dk_132 4 1 (dk_at dksX6_inverse_0 21 rfl rfl)
theorem dX6_inverse_24 : decode cX6_inverse 24 = .ok (.goto (-19), 3) := dk_167 255 237 (dk_at dksX6_inverse_1 0 rfl rfl)
theorem dX6_inverse_27 : decode cX6_inverse 27 = .ok (.lload_n 2, 1) := dk_32 (dk_at dksX6_inverse_1 3 rfl rfl)
theorem dX6_inverse_28 : decode cX6_inverse 28 = .ok (.lreturn, 1) := dk_173 (dk_at dksX6_inverse_1 4 rfl rfl)
def dkwX6_isSafe_5 : List UInt8 := [132, 3, 1, 167, 255, 202, 132, 2, 1, 167, 255, 149, 27, 172]
abbrev dktX6_isSafe_5 : List UInt8 := dkwX6_isSafe_5 ++ []
def dkwX6_isSafe_4 : List UInt8 := [180, 0, 31, 8, 46, 133, 105, 42, 180, 0, 233, 105, 148, 157, 0, 7, 4, 167, 0, 4, 3, 60]
abbrev dktX6_isSafe_4 : List UInt8 := dkwX6_isSafe_4 ++ dktX6_isSafe_5
def dkwX6_isSafe_3 : List UInt8 := [153, 0, 51, 42, 28, 29, 182, 1, 82, 2, 159, 0, 29, 42, 28, 29, 182, 1, 91, 20, 1, 100, 42]
abbrev dktX6_isSafe_3 : List UInt8 := dkwX6_isSafe_3 ++ dktX6_isSafe_4
def dkwX6_isSafe_2 : List UInt8 := [180, 0, 233, 105, 148, 157, 0, 7, 4, 167, 0, 4, 3, 60, 3, 62, 29, 4, 163, 0, 55, 27]
abbrev dktX6_isSafe_2 : List UInt8 := dkwX6_isSafe_2 ++ dktX6_isSafe_3
def dkwX6_isSafe_1 : List UInt8 := [153, 0, 101, 42, 180, 0, 67, 28, 47, 20, 1, 100, 42, 180, 0, 31, 16, 6, 46, 133, 105, 42]
abbrev dktX6_isSafe_1 : List UInt8 := dkwX6_isSafe_1 ++ dktX6_isSafe_2
def dkwX6_isSafe_0 : List UInt8 := [42, 182, 1, 88, 154, 0, 5, 3, 172, 4, 60, 3, 61, 28, 42, 182, 1, 76, 162, 0, 105, 27]
abbrev dktX6_isSafe_0 : List UInt8 := dkwX6_isSafe_0 ++ dktX6_isSafe_1
theorem dksX6_isSafe_0 : cX6_isSafe.data.toList.drop 0 = dktX6_isSafe_0 := by decide +kernel
theorem dksX6_isSafe_1 : cX6_isSafe.data.toList.drop 22 = dktX6_isSafe_1 := dk_seg dksX6_isSafe_0 22 rfl rfl
theorem dksX6_isSafe_2 : cX6_isSafe.data.toList.drop 44 = dktX6_isSafe_2 := dk_seg dksX6_isSafe_1 22 rfl rfl
theorem dksX6_isSafe_3 : cX6_isSafe.data.toList.drop 66 = dktX6_isSafe_3 := dk_seg dksX6_isSafe_2 22 rfl rfl
theorem dksX6_isSafe_4 : cX6_isSafe.data.toList.drop 89 = dktX6_isSafe_4 := dk_seg dksX6_isSafe_3 23 rfl rfl
theorem dksX6_isSafe_5 : cX6_isSafe.data.toList.drop 111 = dktX6_isSafe_5 := dk_seg dksX6_isSafe_4 22 rfl rfl
theorem dX6_isSafe_0 : decode cX6_isSafe 0 = .ok (.aload_n 0, 1) := dk_42 (dk_at dksX6_isSafe_0 0 rfl rfl)
theorem dX6_isSafe_1 : decode cX6_isSafe 1 = .ok (.invokevirtual 344, 3) := dk_182 1 88 (dk_at dksX6_isSafe_0 1 rfl rfl)
theorem dX6_isSafe_4 : decode cX6_isSafe 4 = .ok (.ifCond .ne 5, 3) := dk_154 0 5 (dk_at dksX6_isSafe_0 4 rfl rfl)
theorem dX6_isSafe_7 : decode cX6_isSafe 7 = .ok (.iconst 0, 1) := dk_3 (dk_at dksX6_isSafe_0 7 rfl rfl)
theorem dX6_isSafe_8 : decode cX6_isSafe 8 = .ok (.ireturn, 1) := dk_172 (dk_at dksX6_isSafe_0 8 rfl rfl)
theorem dX6_isSafe_9 : decode cX6_isSafe 9 = .ok (.iconst 1, 1) := dk_4 (dk_at dksX6_isSafe_0 9 rfl rfl)
theorem dX6_isSafe_10 : decode cX6_isSafe 10 = .ok (.istore_n 1, 1) := dk_60 (dk_at dksX6_isSafe_0 10 rfl rfl)
theorem dX6_isSafe_11 : decode cX6_isSafe 11 = .ok (.iconst 0, 1) := dk_3 (dk_at dksX6_isSafe_0 11 rfl rfl)
theorem dX6_isSafe_12 : decode cX6_isSafe 12 = .ok (.istore_n 2, 1) := dk_61 (dk_at dksX6_isSafe_0 12 rfl rfl)
theorem dX6_isSafe_13 : decode cX6_isSafe 13 = .ok (.iload_n 2, 1) := dk_28 (dk_at dksX6_isSafe_0 13 rfl rfl)
theorem dX6_isSafe_14 : decode cX6_isSafe 14 = .ok (.aload_n 0, 1) := dk_42 (dk_at dksX6_isSafe_0 14 rfl rfl)
theorem dX6_isSafe_15 : decode cX6_isSafe 15 = .ok (.invokevirtual 332, 3) := dk_182 1 76 (dk_at dksX6_isSafe_0 15 rfl rfl)
theorem dX6_isSafe_18 : decode cX6_isSafe 18 = .ok (.if_icmp .ge 105, 3) := dk_162 0 105 (dk_at dksX6_isSafe_0 18 rfl rfl)
theorem dX6_isSafe_21 : decode cX6_isSafe 21 = .ok (.iload_n 1, 1) := dk_27 (dk_at dksX6_isSafe_0 21 rfl rfl)
theorem dX6_isSafe_22 : decode cX6_isSafe 22 = .ok (.ifCond .eq 101, 3) := dk_153 0 101 (dk_at dksX6_isSafe_1 0 rfl rfl)
theorem dX6_isSafe_25 : decode cX6_isSafe 25 = .ok (.aload_n 0, 1) := dk_42 (dk_at dksX6_isSafe_1 3 rfl rfl)
theorem dX6_isSafe_26 : decode cX6_isSafe 26 = .ok (.getfield 67, 3) := dk_180 0 67 (dk_at dksX6_isSafe_1 4 rfl rfl)
theorem dX6_isSafe_29 : decode cX6_isSafe 29 = .ok (.iload_n 2, 1) := dk_28 (dk_at dksX6_isSafe_1 7 rfl rfl)
theorem dX6_isSafe_30 : decode cX6_isSafe 30 = .ok (.laload, 1) := dk_47 (dk_at dksX6_isSafe_1 8 rfl rfl)
theorem dX6_isSafe_31 : decode cX6_isSafe 31 = .ok (.ldc2_w 356, 3) := dk_20 1 100 (dk_at dksX6_isSafe_1 9 rfl rfl)
theorem dX6_isSafe_34 : decode cX6_isSafe 34 = .ok (.aload_n 0, 1) := dk_42 (dk_at dksX6_isSafe_1 12 rfl rfl)
theorem dX6_isSafe_35 : decode cX6_isSafe 35 = .ok (.getfield 31, 3) := dk_180 0 31 (dk_at dksX6_isSafe_1 13 rfl rfl)
theorem dX6_isSafe_38 : decode cX6_isSafe 38 = .ok (.bipush 6, 2) := dk_16 6 (dk_at dksX6_isSafe_1 16 rfl rfl)
theorem dX6_isSafe_40 : decode cX6_isSafe 40 = .ok (.iaload, 1) := dk_46 (dk_at dksX6_isSafe_1 18 rfl rfl)
theorem dX6_isSafe_41 : decode cX6_isSafe 41 = .ok (.i2l, 1) := dk_133 (dk_at dksX6_isSafe_1 19 rfl rfl)
theorem dX6_isSafe_42 : decode cX6_isSafe 42 = .ok (.lmul, 1) := dk_105 (dk_at dksX6_isSafe_1 20 rfl rfl)
theorem dX6_isSafe_43 : decode cX6_isSafe 43 = .ok (.aload_n 0, 1) := dk_42 (dk_at dksX6_isSafe_1 21 rfl rfl)
theorem dX6_isSafe_44 : decode cX6_isSafe 44 = .ok (.getfield 233, 3) := dk_180 0 233 (dk_at dksX6_isSafe_2 0 rfl rfl)
theorem dX6_isSafe_47 : decode cX6_isSafe 47 = .ok (.lmul, 1) := dk_105 (dk_at dksX6_isSafe_2 3 rfl rfl)
theorem dX6_isSafe_48 : decode cX6_isSafe 48 = .ok (.lcmp, 1) := dk_148 (dk_at dksX6_isSafe_2 4 rfl rfl)
theorem dX6_isSafe_49 : decode cX6_isSafe 49 = .ok (.ifCond .gt 7, 3) := dk_157 0 7 (dk_at dksX6_isSafe_2 5 rfl rfl)
theorem dX6_isSafe_52 : decode cX6_isSafe 52 = .ok (.iconst 1, 1) := dk_4 (dk_at dksX6_isSafe_2 8 rfl rfl)
theorem dX6_isSafe_53 : decode cX6_isSafe 53 = .ok (.goto 4, 3) := dk_167 0 4 (dk_at dksX6_isSafe_2 9 rfl rfl)
theorem dX6_isSafe_56 : decode cX6_isSafe 56 = .ok (.iconst 0, 1) := dk_3 (dk_at dksX6_isSafe_2 12 rfl rfl)
theorem dX6_isSafe_57 : decode cX6_isSafe 57 = .ok (.istore_n 1, 1) := dk_60 (dk_at dksX6_isSafe_2 13 rfl rfl)
theorem dX6_isSafe_58 : decode cX6_isSafe 58 = .ok (.iconst 0, 1) := dk_3 (dk_at dksX6_isSafe_2 14 rfl rfl)
theorem dX6_isSafe_59 : decode cX6_isSafe 59 = .ok (.istore_n 3, 1) := dk_62 (dk_at dksX6_isSafe_2 15 rfl rfl)
theorem dX6_isSafe_60 : decode cX6_isSafe 60 = .ok (.iload_n 3, 1) := dk_29 (dk_at dksX6_isSafe_2 16 rfl rfl)
theorem dX6_isSafe_61 : decode cX6_isSafe 61 = .ok (.iconst 1, 1) := dk_4 (dk_at dksX6_isSafe_2 17 rfl rfl)
theorem dX6_isSafe_62 : decode cX6_isSafe 62 = .ok (.if_icmp .gt 55, 3) := dk_163 0 55 (dk_at dksX6_isSafe_2 18 rfl rfl)
theorem dX6_isSafe_65 : decode cX6_isSafe 65 = .ok (.iload_n 1, 1) := dk_27 (dk_at dksX6_isSafe_2 21 rfl rfl)
theorem dX6_isSafe_66 : decode cX6_isSafe 66 = .ok (.ifCond .eq 51, 3) := dk_153 0 51 (dk_at dksX6_isSafe_3 0 rfl rfl)
theorem dX6_isSafe_69 : decode cX6_isSafe 69 = .ok (.aload_n 0, 1) := dk_42 (dk_at dksX6_isSafe_3 3 rfl rfl)
theorem dX6_isSafe_70 : decode cX6_isSafe 70 = .ok (.iload_n 2, 1) := dk_28 (dk_at dksX6_isSafe_3 4 rfl rfl)
theorem dX6_isSafe_71 : decode cX6_isSafe 71 = .ok (.iload_n 3, 1) := dk_29 (dk_at dksX6_isSafe_3 5 rfl rfl)
theorem dX6_isSafe_72 : decode cX6_isSafe 72 = .ok (.invokevirtual 338, 3) := dk_182 1 82 (dk_at dksX6_isSafe_3 6 rfl rfl)
theorem dX6_isSafe_75 : decode cX6_isSafe 75 = .ok (.iconst (-1), 1) := dk_2 (dk_at dksX6_isSafe_3 9 rfl rfl)
theorem dX6_isSafe_76 : decode cX6_isSafe 76 = .ok (.if_icmp .eq 29, 3) := dk_159 0 29 (dk_at dksX6_isSafe_3 10 rfl rfl)
theorem dX6_isSafe_79 : decode cX6_isSafe 79 = .ok (.aload_n 0, 1) := dk_42 (dk_at dksX6_isSafe_3 13 rfl rfl)
theorem dX6_isSafe_80 : decode cX6_isSafe 80 = .ok (.iload_n 2, 1) := dk_28 (dk_at dksX6_isSafe_3 14 rfl rfl)
theorem dX6_isSafe_81 : decode cX6_isSafe 81 = .ok (.iload_n 3, 1) := dk_29 (dk_at dksX6_isSafe_3 15 rfl rfl)
theorem dX6_isSafe_82 : decode cX6_isSafe 82 = .ok (.invokevirtual 347, 3) := dk_182 1 91 (dk_at dksX6_isSafe_3 16 rfl rfl)
theorem dX6_isSafe_85 : decode cX6_isSafe 85 = .ok (.ldc2_w 356, 3) := dk_20 1 100 (dk_at dksX6_isSafe_3 19 rfl rfl)
theorem dX6_isSafe_88 : decode cX6_isSafe 88 = .ok (.aload_n 0, 1) := dk_42 (dk_at dksX6_isSafe_3 22 rfl rfl)
theorem dX6_isSafe_89 : decode cX6_isSafe 89 = .ok (.getfield 31, 3) := dk_180 0 31 (dk_at dksX6_isSafe_4 0 rfl rfl)
theorem dX6_isSafe_92 : decode cX6_isSafe 92 = .ok (.iconst 5, 1) := dk_8 (dk_at dksX6_isSafe_4 3 rfl rfl)
theorem dX6_isSafe_93 : decode cX6_isSafe 93 = .ok (.iaload, 1) := dk_46 (dk_at dksX6_isSafe_4 4 rfl rfl)
theorem dX6_isSafe_94 : decode cX6_isSafe 94 = .ok (.i2l, 1) := dk_133 (dk_at dksX6_isSafe_4 5 rfl rfl)
theorem dX6_isSafe_95 : decode cX6_isSafe 95 = .ok (.lmul, 1) := dk_105 (dk_at dksX6_isSafe_4 6 rfl rfl)
theorem dX6_isSafe_96 : decode cX6_isSafe 96 = .ok (.aload_n 0, 1) := dk_42 (dk_at dksX6_isSafe_4 7 rfl rfl)
theorem dX6_isSafe_97 : decode cX6_isSafe 97 = .ok (.getfield 233, 3) := dk_180 0 233 (dk_at dksX6_isSafe_4 8 rfl rfl)
theorem dX6_isSafe_100 : decode cX6_isSafe 100 = .ok (.lmul, 1) := dk_105 (dk_at dksX6_isSafe_4 11 rfl rfl)
theorem dX6_isSafe_101 : decode cX6_isSafe 101 = .ok (.lcmp, 1) := dk_148 (dk_at dksX6_isSafe_4 12 rfl rfl)
theorem dX6_isSafe_102 : decode cX6_isSafe 102 = .ok (.ifCond .gt 7, 3) := dk_157 0 7 (dk_at dksX6_isSafe_4 13 rfl rfl)
theorem dX6_isSafe_105 : decode cX6_isSafe 105 = .ok (.iconst 1, 1) := dk_4 (dk_at dksX6_isSafe_4 16 rfl rfl)
theorem dX6_isSafe_106 : decode cX6_isSafe 106 = .ok (.goto 4, 3) := dk_167 0 4 (dk_at dksX6_isSafe_4 17 rfl rfl)
theorem dX6_isSafe_109 : decode cX6_isSafe 109 = .ok (.iconst 0, 1) := dk_3 (dk_at dksX6_isSafe_4 20 rfl rfl)
theorem dX6_isSafe_110 : decode cX6_isSafe 110 = .ok (.istore_n 1, 1) := dk_60 (dk_at dksX6_isSafe_4 21 rfl rfl)
theorem dX6_isSafe_111 : decode cX6_isSafe 111 = .ok (.iinc 3 1, 3) := dk_132 3 1 (dk_at dksX6_isSafe_5 0 rfl rfl)
theorem dX6_isSafe_114 : decode cX6_isSafe 114 = .ok (.goto (-54), 3) := dk_167 255 202 (dk_at dksX6_isSafe_5 3 rfl rfl)
theorem dX6_isSafe_117 : decode cX6_isSafe 117 = .ok (.iinc 2 1, 3) := dk_132 2 1 (dk_at dksX6_isSafe_5 6 rfl rfl)
theorem dX6_isSafe_120 : decode cX6_isSafe 120 = .ok (.goto (-107), 3) := dk_167 255 149 (dk_at dksX6_isSafe_5 9 rfl rfl)
theorem dX6_isSafe_123 : decode cX6_isSafe 123 = .ok (.iload_n 1, 1) := dk_27 (dk_at dksX6_isSafe_5 12 rfl rfl)
theorem dX6_isSafe_124 : decode cX6_isSafe 124 = .ok (.ireturn, 1) := dk_172 (dk_at dksX6_isSafe_5 13 rfl rfl)
