set_option maxRecDepth 100000
def dkwX1_init_6 : List UInt8 := [187, 0, 184, 89, 4, 183, 0, 186, 181, 0, 193, 177]
abbrev dktX1_init_6 : List UInt8 := dkwX1_init_6 ++ []
def dkwX1_init_5 : List UInt8 := [181, 0, 178, 42, 7, 188, 10, 181, 0, 181, 42, 187, 0, 184, 89, 3, 183, 0, 186, 181, 0, 189, 42]
abbrev dktX1_init_5 : List UInt8 := dkwX1_init_5 ++ dktX1_init_6
def dkwX1_init_4 : List UInt8 := [181, 0, 168, 42, 16, 12, 188, 11, 181, 0, 172, 42, 16, 12, 188, 10, 181, 0, 175, 42, 6, 188, 10]
abbrev dktX1_init_4 : List UInt8 := dkwX1_init_4 ++ dktX1_init_5
def dkwX1_init_3 : List UInt8 := [188, 10, 181, 0, 158, 42, 2, 181, 0, 162, 42, 16, 35, 188, 11, 181, 0, 165, 42, 16, 35, 188, 4]
abbrev dktX1_init_3 : List UInt8 := dkwX1_init_3 ++ dktX1_init_4
def dkwX1_init_2 : List UInt8 := [83, 89, 4, 42, 186, 0, 153, 0, 0, 83, 181, 0, 118, 42, 17, 1, 244, 188, 8, 181, 0, 154, 42, 5]
abbrev dktX1_init_2 : List UInt8 := dkwX1_init_2 ++ dktX1_init_3
def dkwX1_init_1 : List UInt8 := [181, 0, 30, 42, 16, 12, 188, 11, 181, 0, 47, 42, 5, 189, 0, 126, 89, 3, 42, 186, 0, 150, 0, 0]
abbrev dktX1_init_1 : List UInt8 := dkwX1_init_1 ++ dktX1_init_2
def dkwX1_init_0 : List UInt8 := [42, 183, 0, 143, 42, 187, 0, 8, 89, 183, 0, 146, 181, 0, 1, 42, 187, 0, 35, 89, 42, 183, 0, 147]
abbrev dktX1_init_0 : List UInt8 := dkwX1_init_0 ++ dktX1_init_1
theorem dksX1_init_0 : cX1_init.data.toList.drop 0 = dktX1_init_0 := by decide +kernel
theorem dksX1_init_1 : cX1_init.data.toList.drop 24 = dktX1_init_1 := dk_seg dksX1_init_0 24 rfl rfl
theorem dksX1_init_2 : cX1_init.data.toList.drop 48 = dktX1_init_2 := dk_seg dksX1_init_1 24 rfl rfl
theorem dksX1_init_3 : cX1_init.data.toList.drop 72 = dktX1_init_3 := dk_seg dksX1_init_2 24 rfl rfl
theorem dksX1_init_4 : cX1_init.data.toList.drop 95 = dktX1_init_4 := dk_seg dksX1_init_3 23 rfl rfl
theorem dksX1_init_5 : cX1_init.data.toList.drop 118 = dktX1_init_5 := dk_seg dksX1_init_4 23 rfl rfl
theorem dksX1_init_6 : cX1_init.data.toList.drop 141 = dktX1_init_6 := dk_seg dksX1_init_5 23 rfl rfl
theorem dX1_init_0 : decode cX1_init 0 = .ok (.aload_n 0, 1) := dk_42 (dk_at dksX1_init_0 0 rfl rfl)
theorem dX1_init_1 : decode cX1_init 1 = .ok (.invokespecial 143, 3) := dk_183 0 143 (dk_at dksX1_init_0 1 rfl rfl)
theorem dX1_init_4 : decode cX1_init 4 = .ok (.aload_n 0, 1) := dk_42 (dk_at dksX1_init_0 4 rfl rfl)
theorem dX1_init_5 : decode cX1_init 5 = .ok (.new 8, 3) := dk_187 0 8 (dk_at dksX1_init_0 5 rfl rfl)
theorem dX1_init_8 : decode cX1_init 8 = .ok (.dup, 1) := dk_89 (dk_at dksX1_init_0 8 rfl rfl)
theorem dX1_init_9 : decode cX1_init 9 = .ok (.invokespecial 146, 3) := dk_183 0 146 (dk_at dksX1_init_0 9 rfl rfl)
theorem dX1_init_12 : decode cX1_init 12 = .ok (.putfield 1, 3) := dk_181 0 1 (dk_at dksX1_init_0 12 rfl rfl)
theorem dX1_init_15 : decode cX1_init 15 = .ok (.aload_n 0, 1) := dk_42 (dk_at dksX1_init_0 15 rfl rfl)
theorem dX1_init_16 : decode cX1_init 16 = .ok (.new 35, 3) := dk_187 0 35 (dk_at dksX1_init_0 16 rfl rfl)
theorem dX1_init_19 : decode cX1_init 19 = .ok (.dup, 1) := dk_89 (dk_at dksX1_init_0 19 rfl rfl)
theorem dX1_init_20 : decode cX1_init 20 = .ok (.aload_n 0, 1) := dk_42 (dk_at dksX1_init_0 20 rfl rfl)
theorem dX1_init_21 : decode cX1_init 21 = .ok (.invokespecial 147, 3) := dk_183 0 147 (dk_at dksX1_init_0 21 rfl rfl)
theorem dX1_init_24 : decode cX1_init 24 = .ok (.putfield 30, 3) := dk_181 0 30 (dk_at dksX1_init_1 0 rfl rfl)
theorem dX1_init_27 : decode cX1_init 27 = .ok (.aload_n 0, 1) := dk_42 (dk_at dksX1_init_1 3 rfl rfl)
theorem dX1_init_28 : decode cX1_init 28 = .ok (.bipush 12, 2) := dk_16 12 (dk_at dksX1_init_1 4 rfl rfl)
theorem dX1_init_30 : decode cX1_init 30 = .ok (.newarray .long, 2) := dk_188_11 (dk_at dksX1_init_1 6 rfl rfl)
theorem dX1_init_32 : decode cX1_init 32 = .ok (.putfield 47, 3) := dk_181 0 47 (dk_at dksX1_init_1 8 rfl rfl)
theorem dX1_init_35 : decode cX1_init 35 = .ok (.aload_n 0, 1) := dk_42 (dk_at dksX1_init_1 11 rfl rfl)
theorem dX1_init_36 : decode cX1_init 36 = .ok (.iconst 2, 1) := dk_5 (dk_at dksX1_init_1 12 rfl rfl)
theorem dX1_init_37 : decode cX1_init 37 = .ok (.anewarray 126, 3) := dk_189 0 126 (dk_at dksX1_init_1 13 rfl rfl)
theorem dX1_init_40 : decode cX1_init 40 = .ok (.dup, 1) := dk_89 (dk_at dksX1_init_1 16 rfl rfl)
theorem dX1_init_41 : decode cX1_init 41 = .ok (.iconst 0, 1) := dk_3 (dk_at dksX1_init_1 17 rfl rfl)
theorem dX1_init_42 : decode cX1_init 42 = .ok (.aload_n 0, 1) := dk_42 (dk_at dksX1_init_1 18 rfl rfl)
theorem dX1_init_43 : decode cX1_init 43 = .ok (.invokedynamic 150, 5) := by decide +kernel
theorem dX1_init_48 : decode cX1_init 48 = .ok (.aastore, 1) := dk_83 (dk_at dksX1_init_2 0 rfl rfl)
theorem dX1_init_49 : decode cX1_init 49 = .ok (.dup, 1) := dk_89 (dk_at dksX1_init_2 1 rfl rfl)
theorem dX1_init_50 : decode cX1_init 50 = .ok (.iconst 1, 1) := dk_4 (dk_at dksX1_init_2 2 rfl rfl)
theorem dX1_init_51 : decode cX1_init 51 = .ok (.aload_n 0, 1) := dk_42 (dk_at dksX1_init_2 3 rfl rfl)
theorem dX1_init_52 : decode cX1_init 52 = .ok (.invokedynamic 153, 5) := by decide +kernel
theorem dX1_init_57 : decode cX1_init 57 = .ok (.aastore, 1) := dk_83 (dk_at dksX1_init_2 9 rfl rfl)
theorem dX1_init_58 : decode cX1_init 58 = .ok (.putfield 118, 3) := dk_181 0 118 (dk_at dksX1_init_2 10 rfl rfl)
theorem dX1_init_61 : decode cX1_init 61 = .ok (.aload_n 0, 1) := dk_42 (dk_at dksX1_init_2 13 rfl rfl)
theorem dX1_init_62 : decode cX1_init 62 = .ok (.sipush 500, 3) := dk_17 1 244 (dk_at dksX1_init_2 14 rfl rfl)
theorem dX1_init_65 : decode cX1_init 65 = .ok (.newarray .byte, 2) := dk_188_8 (dk_at dksX1_init_2 17 rfl rfl)
theorem dX1_init_67 : decode cX1_init 67 = .ok (.putfield 154, 3) := dk_181 0 154 (dk_at dksX1_init_2 19 rfl rfl)
theorem dX1_init_70 : decode cX1_init 70 = .ok (.aload_n 0, 1) := dk_42 (dk_at dksX1_init_2 22 rfl rfl)
theorem dX1_init_71 : decode cX1_init 71 = .ok (.iconst 2, 1) := dk_5 (dk_at dksX1_init_2 23 rfl rfl)
theorem dX1_init_72 : decode cX1_init 72 = .ok (.newarray .int, 2) := dk_188_10 (dk_at dksX1_init_3 0 rfl rfl)
theorem dX1_init_74 : decode cX1_init 74 = .ok (.putfield 158, 3) := dk_181 0 158 (dk_at dksX1_init_3 2 rfl rfl)
theorem dX1_init_77 : decode cX1_init 77 = .ok (.aload_n 0, 1) := dk_42 (dk_at dksX1_init_3 5 rfl rfl)
theorem dX1_init_78 : decode cX1_init 78 = .ok (.iconst (-1), 1) := dk_2 (dk_at dksX1_init_3 6 rfl rfl)
theorem dX1_init_79 : decode cX1_init 79 = .ok (.putfield 162, 3) := dk_181 0 162 (dk_at dksX1_init_3 7 rfl rfl)
theorem dX1_init_82 : decode cX1_init 82 = .ok (.aload_n 0, 1) := dk_42 (dk_at dksX1_init_3 10 rfl rfl)
theorem dX1_init_83 : decode cX1_init 83 = .ok (.bipush 35, 2) := dk_16 35 (dk_at dksX1_init_3 11 rfl rfl)
theorem dX1_init_85 : decode cX1_init 85 = .ok (.newarray .long, 2) := dk_188_11 (dk_at dksX1_init_3 13 rfl rfl)
theorem dX1_init_87 : decode cX1_init 87 = .ok (.putfield 165, 3) := dk_181 0 165 (dk_at dksX1_init_3 15 rfl rfl)
theorem dX1_init_90 : decode cX1_init 90 = .ok (.aload_n 0, 1) := dk_42 (dk_at dksX1_init_3 18 rfl rfl)
theorem dX1_init_91 : decode cX1_init 91 = .ok (.bipush 35, 2) := dk_16 35 (dk_at dksX1_init_3 19 rfl rfl)
theorem dX1_init_93 : decode cX1_init 93 = .ok (.newarray .boolean, 2) := dk_188_4 (dk_at dksX1_init_3 21 rfl rfl)
theorem dX1_init_95 : decode cX1_init 95 = .ok (.putfield 168, 3) := dk_181 0 168 (dk_at dksX1_init_4 0 rfl rfl)
theorem dX1_init_98 : decode cX1_init 98 = .ok (.aload_n 0, 1) := dk_42 (dk_at dksX1_init_4 3 rfl rfl)
theorem dX1_init_99 : decode cX1_init 99 = .ok (.bipush 12, 2) := dk_16 12 (dk_at dksX1_init_4 4 rfl rfl)
theorem dX1_init_101 : decode cX1_init 101 = .ok (.newarray .long, 2) := dk_188_11 (dk_at dksX1_init_4 6 rfl rfl)
theorem dX1_init_103 : decode cX1_init 103 = .ok (.putfield 172, 3) := dk_181 0 172 (dk_at dksX1_init_4 8 rfl rfl)
theorem dX1_init_106 : decode cX1_init 106 = .ok (.aload_n 0, 1) := dk_42 (dk_at dksX1_init_4 11 rfl rfl)
theorem dX1_init_107 : decode cX1_init 107 = .ok (.bipush 12, 2) := dk_16 12 (dk_at dksX1_init_4 12 rfl rfl)
theorem dX1_init_109 : decode cX1_init 109 = .ok (.newarray .int, 2) := dk_188_10 (dk_at dksX1_init_4 14 rfl rfl)
theorem dX1_init_111 : decode cX1_init 111 = .ok (.putfield 175, 3) := dk_181 0 175 (dk_at dksX1_init_4 16 rfl rfl)
theorem dX1_init_114 : decode cX1_init 114 = .ok (.aload_n 0, 1) := dk_42 (dk_at dksX1_init_4 19 rfl rfl)
theorem dX1_init_115 : decode cX1_init 115 = .ok (.iconst 3, 1) := dk_6 (dk_at dksX1_init_4 20 rfl rfl)
theorem dX1_init_116 : decode cX1_init 116 = .ok (.newarray .int, 2) := dk_188_10 (dk_at dksX1_init_4 21 rfl rfl)
theorem dX1_init_118 : decode cX1_init 118 = .ok (.putfield 178, 3) := dk_181 0 178 (dk_at dksX1_init_5 0 rfl rfl)
theorem dX1_init_121 : decode cX1_init 121 = .ok (.aload_n 0, 1) := dk_42 (dk_at dksX1_init_5 3 rfl rfl)
theorem dX1_init_122 : decode cX1_init 122 = .ok (.iconst 4, 1) := dk_7 (dk_at dksX1_init_5 4 rfl rfl)
theorem dX1_init_123 : decode cX1_init 123 = .ok (.newarray .int, 2) := dk_188_10 (dk_at dksX1_init_5 5 rfl rfl)
theorem dX1_init_125 : decode cX1_init 125 = .ok (.putfield 181, 3) := dk_181 0 181 (dk_at dksX1_init_5 7 rfl rfl)
theorem dX1_init_128 : decode cX1_init 128 = .ok (.aload_n 0, 1) := dk_42 (dk_at dksX1_init_5 10 rfl rfl)
theorem dX1_init_129 : decode cX1_init 129 = .ok (.new 184, 3) := dk_187 0 184 (dk_at dksX1_init_5 11 rfl rfl)
theorem dX1_init_132 : decode cX1_init 132 = .ok (.dup, 1) := dk_89 (dk_at dksX1_init_5 14 rfl rfl)
theorem dX1_init_133 : decode cX1_init 133 = .ok (.iconst 0, 1) := dk_3 (dk_at dksX1_init_5 15 rfl rfl)
theorem dX1_init_134 : decode cX1_init 134 = .ok (.invokespecial 186, 3) := dk_183 0 186 (dk_at dksX1_init_5 16 rfl rfl)
theorem dX1_init_137 : decode cX1_init 137 = .ok (.putfield 189, 3) := dk_181 0 189 (dk_at dksX1_init_5 19 rfl rfl)
theorem dX1_init_140 : decode cX1_init 140 = .ok (.aload_n 0, 1) := dk_42 (dk_at dksX1_init_5 22 rfl rfl)
theorem dX1_init_141 : decode cX1_init 141 = .ok (.new 184, 3) := dk_187 0 184 (dk_at dksX1_init_6 0 rfl rfl)
theorem dX1_init_144 : decode cX1_init 144 = .ok (.dup, 1) := dk_89 (dk_at dksX1_init_6 3 rfl rfl)
theorem dX1_init_145 : decode cX1_init 145 = .ok (.iconst 1, 1) := dk_4 (dk_at dksX1_init_6 4 rfl rfl)
theorem dX1_init_146 : decode cX1_init 146 = .ok (.invokespecial 186, 3) := dk_183 0 186 (dk_at dksX1_init_6 5 rfl rfl)
theorem dX1_init_149 : decode cX1_init 149 = .ok (.putfield 193, 3) := dk_181 0 193 (dk_at dksX1_init_6 8 rfl rfl)
theorem dX1_init_152 : decode cX1_init 152 = .ok (.return_, 1) := dk_177 (dk_at dksX1_init_6 11 rfl rfl)
def dkwX1_lambda_new_0_0 : List UInt8 := [42, 27, 16, 10, 108, 27, 16, 10, 112, 182, 1, 70, 173]
abbrev dktX1_lambda_new_0_0 : List UInt8 := dkwX1_lambda_new_0_0 ++ []
theorem dksX1_lambda_new_0_0 : cX1_lambda_new_0.data.toList.drop 0 = dktX1_lambda_new_0_0 := by decide +kernel
theorem dX1_lambda_new_0_0 : decode cX1_lambda_new_0 0 = .ok (.aload_n 0, 1) := dk_42 (dk_at dksX1_lambda_new_0_0 0 rfl rfl)
theorem dX1_lambda_new_0_1 : decode cX1_lambda_new_0 1 = .ok (.iload_n 1, 1) := dk_27 (dk_at dksX1_lambda_new_0_0 1 rfl rfl)
theorem dX1_lambda_new_0_2 : decode cX1_lambda_new_0 2 = .ok (.bipush 10, 2) := dk_16 10 (dk_at dksX1_lambda_new_0_0 2 rfl rfl)
theorem dX1_lambda_new_0_4 : decode cX1_lambda_new_0 4 = .ok (.idiv, 1) := dk_108 (dk_at dksX1_lambda_new_0_0 4 rfl rfl)
theorem dX1_lambda_new_0_5 : decode cX1_lambda_new_0 5 = .ok (.iload_n 1, 1) := dk_27 (dk_at dksX1_lambda_new_0_0 5 rfl rfl)
theorem dX1_lambda_new_0_6 : decode cX1_lambda_new_0 6 = .ok (.bipush 10, 2) := dk_16 10 (dk_at dksX1_lambda_new_0_0 6 rfl rfl)
theorem dX1_lambda_new_0_8 : decode cX1_lambda_new_0 8 = .ok (.irem, 1) := dk_112 (dk_at dksX1_lambda_new_0_0 8 rfl rfl)
theorem dX1_lambda_new_0_9 : decode cX1_lambda_new_0 9 = .ok (.invokevirtual 326, 3) := dk_182 1 70 (dk_at dksX1_lambda_new_0_0 9 rfl rfl)
theorem dX1_lambda_new_0_12 : decode cX1_lambda_new_0 12 = .ok (.lreturn, 1) := dk_173 (dk_at dksX1_lambda_new_0_0 12 rfl rfl)
def dkwX1_step_1 : List UInt8 := [101, 184, 0, 112, 167, 0, 6, 20, 0, 116, 173]
abbrev dktX1_step_1 : List UInt8 := dkwX1_step_1 ++ []
def dkwX1_step_0 : List UInt8 := [42, 27, 28, 182, 0, 105, 153, 0, 25, 42, 42, 27, 28, 182, 0, 109, 182, 0, 101, 42, 27, 182, 0, 101]
abbrev dktX1_step_0 : List UInt8 := dkwX1_step_0 ++ dktX1_step_1
theorem dksX1_step_0 : cX1_step.data.toList.drop 0 = dktX1_step_0 := by decide +kernel
theorem dksX1_step_1 : cX1_step.data.toList.drop 24 = dktX1_step_1 := dk_seg dksX1_step_0 24 rfl rfl
theorem dX1_step_0 : decode cX1_step 0 = .ok (.aload_n 0, 1) := dk_42 (dk_at dksX1_step_0 0 rfl rfl)
theorem dX1_step_1 : decode cX1_step 1 = .ok (.iload_n 1, 1) := dk_27 (dk_at dksX1_step_0 1 rfl rfl)
theorem dX1_step_2 : decode cX1_step 2 = .ok (.iload_n 2, 1) := dk_28 (dk_at dksX1_step_0 2 rfl rfl)
theorem dX1_step_3 : decode cX1_step 3 = .ok (.invokevirtual 105, 3) := dk_182 0 105 (dk_at dksX1_step_0 3 rfl rfl)
theorem dX1_step_6 : decode cX1_step 6 = .ok (.ifCond .eq 25, 3) := dk_153 0 25 (dk_at dksX1_step_0 6 rfl rfl)
theorem dX1_step_9 : decode cX1_step 9 = .ok (.aload_n 0, 1) := dk_42 (dk_at dksX1_step_0 9 rfl rfl)
theorem dX1_step_10 : decode cX1_step 10 = .ok (.aload_n 0, 1) := dk_42 (dk_at dksX1_step_0 10 rfl rfl)
theorem dX1_step_11 : decode cX1_step 11 = .ok (.iload_n 1, 1) := dk_27 (dk_at dksX1_step_0 11 rfl rfl)
theorem dX1_step_12 : decode cX1_step 12 = .ok (.iload_n 2, 1) := dk_28 (dk_at dksX1_step_0 12 rfl rfl)
theorem dX1_step_13 : decode cX1_step 13 = .ok (.invokevirtual 109, 3) := dk_182 0 109 (dk_at dksX1_step_0 13 rfl rfl)
theorem dX1_step_16 : decode cX1_step 16 = .ok (.invokevirtual 101, 3) := dk_182 0 101 (dk_at dksX1_step_0 16 rfl rfl)
theorem dX1_step_19 : decode cX1_step 19 = .ok (.aload_n 0, 1) := dk_42 (dk_at dksX1_step_0 19 rfl rfl)
theorem dX1_step_20 : decode cX1_step 20 = .ok (.iload_n 1, 1) := dk_27 (dk_at dksX1_step_0 20 rfl rfl)
theorem dX1_step_21 : decode cX1_step 21 = .ok (.invokevirtual 101, 3) := dk_182 0 101 (dk_at dksX1_step_0 21 rfl rfl)
theorem dX1_step_24 : decode cX1_step 24 = .ok (.lsub, 1) := dk_101 (dk_at dksX1_step_1 0 rfl rfl)
theorem dX1_step_25 : decode cX1_step 25 = .ok (.invokestatic 112, 3) := dk_184 0 112 (dk_at dksX1_step_1 1 rfl rfl)
theorem dX1_step_28 : decode cX1_step 28 = .ok (.goto 6, 3) := dk_167 0 6 (dk_at dksX1_step_1 4 rfl rfl)
theorem dX1_step_31 : decode cX1_step 31 = .ok (.ldc2_w 116, 3) := dk_20 0 116 (dk_at dksX1_step_1 7 rfl rfl)
theorem dX1_step_34 : decode cX1_step 34 = .ok (.lreturn, 1) := dk_173 (dk_at dksX1_step_1 10 rfl rfl)
def dkwX1_hasNext_2 : List UInt8 := [167, 0, 4, 3, 172]
abbrev dktX1_hasNext_2 : List UInt8 := dkwX1_hasNext_2 ++ []
def dkwX1_hasNext_1 : List UInt8 := [167, 0, 28, 27, 42, 182, 0, 80, 108, 5, 42, 180, 0, 1, 180, 0, 83, 104, 5, 100, 162, 0, 7, 4]
abbrev dktX1_hasNext_1 : List UInt8 := dkwX1_hasNext_1 ++ dktX1_hasNext_2
def dkwX1_hasNext_0 : List UInt8 := [28, 154, 0, 26, 27, 42, 182, 0, 80, 112, 42, 182, 0, 80, 4, 100, 162, 0, 7, 4, 167, 0, 32, 3]
abbrev dktX1_hasNext_0 : List UInt8 := dkwX1_hasNext_0 ++ dktX1_hasNext_1
theorem dksX1_hasNext_0 : cX1_hasNext.data.toList.drop 0 = dktX1_hasNext_0 := by decide +kernel
theorem dksX1_hasNext_1 : cX1_hasNext.data.toList.drop 24 = dktX1_hasNext_1 := dk_seg dksX1_hasNext_0 24 rfl rfl
theorem dksX1_hasNext_2 : cX1_hasNext.data.toList.drop 48 = dktX1_hasNext_2 := dk_seg dksX1_hasNext_1 24 rfl rfl
theorem dX1_hasNext_0 : decode cX1_hasNext 0 = .ok (.iload_n 2, 1) := dk_28 (dk_at dksX1_hasNext_0 0 rfl rfl)
theorem dX1_hasNext_1 : decode cX1_hasNext 1 = .ok (.ifCond .ne 26, 3) := dk_154 0 26 (dk_at dksX1_hasNext_0 1 rfl rfl)
theorem dX1_hasNext_4 : decode cX1_hasNext 4 = .ok (.iload_n 1, 1) := dk_27 (dk_at dksX1_hasNext_0 4 rfl rfl)
theorem dX1_hasNext_5 : decode cX1_hasNext 5 = .ok (.aload_n 0, 1) := dk_42 (dk_at dksX1_hasNext_0 5 rfl rfl)
theorem dX1_hasNext_6 : decode cX1_hasNext 6 = .ok (.invokevirtual 80, 3) := dk_182 0 80 (dk_at dksX1_hasNext_0 6 rfl rfl)
theorem dX1_hasNext_9 : decode cX1_hasNext 9 = .ok (.irem, 1) := dk_112 (dk_at dksX1_hasNext_0 9 rfl rfl)
theorem dX1_hasNext_10 : decode cX1_hasNext 10 = .ok (.aload_n 0, 1) := dk_42 (dk_at dksX1_hasNext_0 10 rfl rfl)
theorem dX1_hasNext_11 : decode cX1_hasNext 11 = .ok (.invokevirtual 80, 3) := dk_182 0 80 (dk_at dksX1_hasNext_0 11 rfl rfl)
theorem dX1_hasNext_14 : decode cX1_hasNext 14 = .ok (.iconst 1, 1) := dk_4 (dk_at dksX1_hasNext_0 14 rfl rfl)
theorem dX1_hasNext_15 : decode cX1_hasNext 15 = .ok (.isub, 1) := dk_100 (dk_at dksX1_hasNext_0 15 rfl rfl)
theorem dX1_hasNext_16 : decode cX1_hasNext 16 = .ok (.if_icmp .ge 7, 3) := dk_162 0 7 (dk_at dksX1_hasNext_0 16 rfl rfl)
theorem dX1_hasNext_19 : decode cX1_hasNext 19 = .ok (.iconst 1, 1) := dk_4 (dk_at dksX1_hasNext_0 19 rfl rfl)
theorem dX1_hasNext_20 : decode cX1_hasNext 20 = .ok (.goto 32, 3) := dk_167 0 32 (dk_at dksX1_hasNext_0 20 rfl rfl)
theorem dX1_hasNext_23 : decode cX1_hasNext 23 = .ok (.iconst 0, 1) := dk_3 (dk_at dksX1_hasNext_0 23 rfl rfl)
theorem dX1_hasNext_24 : decode cX1_hasNext 24 = .ok (.goto 28, 3) := dk_167 0 28 (dk_at dksX1_hasNext_1 0 rfl rfl)
theorem dX1_hasNext_27 : decode cX1_hasNext 27 = .ok (.iload_n 1, 1) := dk_27 (dk_at dksX1_hasNext_1 3 rfl rfl)
theorem dX1_hasNext_28 : decode cX1_hasNext 28 = .ok (.aload_n 0, 1) := dk_42 (dk_at dksX1_hasNext_1 4 rfl rfl)
theorem dX1_hasNext_29 : decode cX1_hasNext 29 = .ok (.invokevirtual 80, 3) := dk_182 0 80 (dk_at dksX1_hasNext_1 5 rfl rfl)
theorem dX1_hasNext_32 : decode cX1_hasNext 32 = .ok (.idiv, 1) := dk_108 (dk_at dksX1_hasNext_1 8 rfl rfl)
theorem dX1_hasNext_33 : decode cX1_hasNext 33 = .ok (.iconst 2, 1) := dk_5 (dk_at dksX1_hasNext_1 9 rfl rfl)
theorem dX1_hasNext_34 : decode cX1_hasNext 34 = .ok (.aload_n 0, 1) := dk_42 (dk_at dksX1_hasNext_1 10 rfl rfl)
theorem dX1_hasNext_35 : decode cX1_hasNext 35 = .ok (.getfield 1, 3) := dk_180 0 1 (dk_at dksX1_hasNext_1 11 rfl rfl)
theorem dX1_hasNext_38 : decode cX1_hasNext 38 = .ok (.getfield 83, 3) := dk_180 0 83 (dk_at dksX1_hasNext_1 14 rfl rfl)
theorem dX1_hasNext_41 : decode cX1_hasNext 41 = .ok (.imul, 1) := dk_104 (dk_at dksX1_hasNext_1 17 rfl rfl)
theorem dX1_hasNext_42 : decode cX1_hasNext 42 = .ok (.iconst 2, 1) := dk_5 (dk_at dksX1_hasNext_1 18 rfl rfl)
theorem dX1_hasNext_43 : decode cX1_hasNext 43 = .ok (.isub, 1) := dk_100 (dk_at dksX1_hasNext_1 19 rfl rfl)
theorem dX1_hasNext_44 : decode cX1_hasNext 44 = .ok (.if_icmp .ge 7, 3) := dk_162 0 7 (dk_at dksX1_hasNext_1 20 rfl rfl)
theorem dX1_hasNext_47 : decode cX1_hasNext 47 = .ok (.iconst 1, 1) := dk_4 (dk_at dksX1_hasNext_1 23 rfl rfl)
theorem dX1_hasNext_48 : decode cX1_hasNext 48 = .ok (.goto 4, 3) := dk_167 0 4 (dk_at dksX1_hasNext_2 0 rfl rfl)
theorem dX1_hasNext_51 : decode cX1_hasNext 51 = .ok (.iconst 0, 1) := dk_3 (dk_at dksX1_hasNext_2 3 rfl rfl)
theorem dX1_hasNext_52 : decode cX1_hasNext 52 = .ok (.ireturn, 1) := dk_172 (dk_at dksX1_hasNext_2 4 rfl rfl)
def dkwX1_pointColumns_0 : List UInt8 := [5, 42, 180, 0, 1, 180, 0, 77, 104, 4, 100, 172]
abbrev dktX1_pointColumns_0 : List UInt8 := dkwX1_pointColumns_0 ++ []
theorem dksX1_pointColumns_0 : cX1_pointColumns.data.toList.drop 0 = dktX1_pointColumns_0 := by decide +kernel
theorem dX1_pointColumns_0 : decode cX1_pointColumns 0 = .ok (.iconst 2, 1) := dk_5 (dk_at dksX1_pointColumns_0 0 rfl rfl)
theorem dX1_pointColumns_1 : decode cX1_pointColumns 1 = .ok (.aload_n 0, 1) := dk_42 (dk_at dksX1_pointColumns_0 1 rfl rfl)
theorem dX1_pointColumns_2 : decode cX1_pointColumns 2 = .ok (.getfield 1, 3) := dk_180 0 1 (dk_at dksX1_pointColumns_0 2 rfl rfl)
theorem dX1_pointColumns_5 : decode cX1_pointColumns 5 = .ok (.getfield 77, 3) := dk_180 0 77 (dk_at dksX1_pointColumns_0 5 rfl rfl)
theorem dX1_pointColumns_8 : decode cX1_pointColumns 8 = .ok (.imul, 1) := dk_104 (dk_at dksX1_pointColumns_0 8 rfl rfl)
theorem dX1_pointColumns_9 : decode cX1_pointColumns 9 = .ok (.iconst 1, 1) := dk_4 (dk_at dksX1_pointColumns_0 9 rfl rfl)
theorem dX1_pointColumns_10 : decode cX1_pointColumns 10 = .ok (.isub, 1) := dk_100 (dk_at dksX1_pointColumns_0 10 rfl rfl)
theorem dX1_pointColumns_11 : decode cX1_pointColumns 11 = .ok (.ireturn, 1) := dk_172 (dk_at dksX1_pointColumns_0 11 rfl rfl)
def dkwX1_nextPoint_0 : List UInt8 := [28, 154, 0, 9, 27, 4, 96, 167, 0, 9, 27, 42, 182, 0, 80, 96, 172]
abbrev dktX1_nextPoint_0 : List UInt8 := dkwX1_nextPoint_0 ++ []
theorem dksX1_nextPoint_0 : cX1_nextPoint.data.toList.drop 0 = dktX1_nextPoint_0 := by decide +kernel
theorem dX1_nextPoint_0 : decode cX1_nextPoint 0 = .ok (.iload_n 2, 1) := dk_28 (dk_at dksX1_nextPoint_0 0 rfl rfl)
theorem dX1_nextPoint_1 : decode cX1_nextPoint 1 = .ok (.ifCond .ne 9, 3) := dk_154 0 9 (dk_at dksX1_nextPoint_0 1 rfl rfl)
theorem dX1_nextPoint_4 : decode cX1_nextPoint 4 = .ok (.iload_n 1, 1) := dk_27 (dk_at dksX1_nextPoint_0 4 rfl rfl)
theorem dX1_nextPoint_5 : decode cX1_nextPoint 5 = .ok (.iconst 1, 1) := dk_4 (dk_at dksX1_nextPoint_0 5 rfl rfl)
theorem dX1_nextPoint_6 : decode cX1_nextPoint 6 = .ok (.iadd, 1) := dk_96 (dk_at dksX1_nextPoint_0 6 rfl rfl)
theorem dX1_nextPoint_7 : decode cX1_nextPoint 7 = .ok (.goto 9, 3) := dk_167 0 9 (dk_at dksX1_nextPoint_0 7 rfl rfl)
theorem dX1_nextPoint_10 : decode cX1_nextPoint 10 = .ok (.iload_n 1, 1) := dk_27 (dk_at dksX1_nextPoint_0 10 rfl rfl)
theorem dX1_nextPoint_11 : decode cX1_nextPoint 11 = .ok (.aload_n 0, 1) := dk_42 (dk_at dksX1_nextPoint_0 11 rfl rfl)
theorem dX1_nextPoint_12 : decode cX1_nextPoint 12 = .ok (.invokevirtual 80, 3) := dk_182 0 80 (dk_at dksX1_nextPoint_0 12 rfl rfl)
theorem dX1_nextPoint_15 : decode cX1_nextPoint 15 = .ok (.iadd, 1) := dk_96 (dk_at dksX1_nextPoint_0 15 rfl rfl)
theorem dX1_nextPoint_16 : decode cX1_nextPoint 16 = .ok (.ireturn, 1) := dk_172 (dk_at dksX1_nextPoint_0 16 rfl rfl)
def dkwX1_ground_1 : List UInt8 := [97, 65, 132, 4, 1, 167, 255, 232, 32, 42, 180, 0, 1, 180, 0, 90, 133, 105, 173]
abbrev dktX1_ground_1 : List UInt8 := dkwX1_ground_1 ++ []
def dkwX1_ground_0 : List UInt8 := [9, 65, 3, 54, 4, 21, 4, 7, 162, 0, 24, 32, 42, 180, 0, 47, 42, 27, 21, 4, 182, 0, 86, 47]
abbrev dktX1_ground_0 : List UInt8 := dkwX1_ground_0 ++ dktX1_ground_1
theorem dksX1_ground_0 : cX1_ground.data.toList.drop 0 = dktX1_ground_0 := by decide +kernel
theorem dksX1_ground_1 : cX1_ground.data.toList.drop 24 = dktX1_ground_1 := dk_seg dksX1_ground_0 24 rfl rfl
theorem dX1_ground_0 : decode cX1_ground 0 = .ok (.lconst 0, 1) := dk_9 (dk_at dksX1_ground_0 0 rfl rfl)
theorem dX1_ground_1 : decode cX1_ground 1 = .ok (.lstore_n 2, 1) := dk_65 (dk_at dksX1_ground_0 1 rfl rfl)
theorem dX1_ground_2 : decode cX1_ground 2 = .ok (.iconst 0, 1) := dk_3 (dk_at dksX1_ground_0 2 rfl rfl)
theorem dX1_ground_3 : decode cX1_ground 3 = .ok (.istore 4, 2) := dk_54 4 (dk_at dksX1_ground_0 3 rfl rfl)
theorem dX1_ground_5 : decode cX1_ground 5 = .ok (.iload 4, 2) := dk_21 4 (dk_at dksX1_ground_0 5 rfl rfl)
theorem dX1_ground_7 : decode cX1_ground 7 = .ok (.iconst 4, 1) := dk_7 (dk_at dksX1_ground_0 7 rfl rfl)
theorem dX1_ground_8 : decode cX1_ground 8 = .ok (.if_icmp .ge 24, 3) := dk_162 0 24 (dk_at dksX1_ground_0 8 rfl rfl)
theorem dX1_ground_11 : decode cX1_ground 11 = .ok (.lload_n 2, 1) := dk_32 (dk_at dksX1_ground_0 11 rfl rfl)
theorem dX1_ground_12 : decode cX1_ground 12 = .ok (.aload_n 0, 1) := dk_42 (dk_at dksX1_ground_0 12 rfl rfl)
theorem dX1_ground_13 : decode cX1_ground 13 = .ok (.getfield 47, 3) := dk_180 0 47 (dk_at dksX1_ground_0 13 rfl rfl)
theorem dX1_ground_16 : decode cX1_ground 16 = .ok (.aload_n 0, 1) := dk_42 (dk_at dksX1_ground_0 16 rfl rfl)
theorem dX1_ground_17 : decode cX1_ground 17 = .ok (.iload_n 1, 1) := dk_27 (dk_at dksX1_ground_0 17 rfl rfl)
theorem dX1_ground_18 : decode cX1_ground 18 = .ok (.iload 4, 2) := dk_21 4 (dk_at dksX1_ground_0 18 rfl rfl)
theorem dX1_ground_20 : decode cX1_ground 20 = .ok (.invokevirtual 86, 3) := dk_182 0 86 (dk_at dksX1_ground_0 20 rfl rfl)
theorem dX1_ground_23 : decode cX1_ground 23 = .ok (.laload, 1) := dk_47 (dk_at dksX1_ground_0 23 rfl rfl)
theorem dX1_ground_24 : decode cX1_ground 24 = .ok (.ladd, 1) := dk_97 (dk_at dksX1_ground_1 0 rfl rfl)
theorem dX1_ground_25 : decode cX1_ground 25 = .ok (.lstore_n 2, 1) := dk_65 (dk_at dksX1_ground_1 1 rfl rfl)
theorem dX1_ground_26 : decode cX1_ground 26 = .ok (.iinc 4 1, 3) := dk_132 4 1 (dk_at dksX1_ground_1 2 rfl rfl)
theorem dX1_ground_29 : decode cX1_ground 29 = .ok (.goto (-24), 3) := dk_167 255 232 (dk_at dksX1_ground_1 5 rfl rfl)
theorem dX1_ground_32 : decode cX1_ground 32 = .ok (.lload_n 2, 1) := dk_32 (dk_at dksX1_ground_1 8 rfl rfl)
theorem dX1_ground_33 : decode cX1_ground 33 = .ok (.aload_n 0, 1) := dk_42 (dk_at dksX1_ground_1 9 rfl rfl)
theorem dX1_ground_34 : decode cX1_ground 34 = .ok (.getfield 1, 3) := dk_180 0 1 (dk_at dksX1_ground_1 10 rfl rfl)
theorem dX1_ground_37 : decode cX1_ground 37 = .ok (.getfield 90, 3) := dk_180 0 90 (dk_at dksX1_ground_1 13 rfl rfl)
theorem dX1_ground_40 : decode cX1_ground 40 = .ok (.i2l, 1) := dk_133 (dk_at dksX1_ground_1 16 rfl rfl)
theorem dX1_ground_41 : decode cX1_ground 41 = .ok (.lmul, 1) := dk_105 (dk_at dksX1_ground_1 17 rfl rfl)
theorem dX1_ground_42 : decode cX1_ground 42 = .ok (.lreturn, 1) := dk_173 (dk_at dksX1_ground_1 18 rfl rfl)
def dkwX1_nearest_1 : List UInt8 := [180, 0, 1, 180, 0, 77, 104, 29, 28, 5, 112, 96, 5, 108, 96, 172]
abbrev dktX1_nearest_1 : List UInt8 := dkwX1_nearest_1 ++ []
def dkwX1_nearest_0 : List UInt8 := [27, 42, 182, 0, 80, 112, 62, 27, 42, 182, 0, 80, 108, 54, 4, 21, 4, 28, 5, 108, 96, 5, 108, 42]
abbrev dktX1_nearest_0 : List UInt8 := dkwX1_nearest_0 ++ dktX1_nearest_1
theorem dksX1_nearest_0 : cX1_nearest.data.toList.drop 0 = dktX1_nearest_0 := by decide +kernel
theorem dksX1_nearest_1 : cX1_nearest.data.toList.drop 24 = dktX1_nearest_1 := dk_seg dksX1_nearest_0 24 rfl rfl
theorem dX1_nearest_0 : decode cX1_nearest 0 = .ok (.iload_n 1, 1) := dk_27 (dk_at dksX1_nearest_0 0 rfl rfl)
theorem dX1_nearest_1 : decode cX1_nearest 1 = .ok (.aload_n 0, 1) := dk_42 (dk_at dksX1_nearest_0 1 rfl rfl)
theorem dX1_nearest_2 : decode cX1_nearest 2 = .ok (.invokevirtual 80, 3) := dk_182 0 80 (dk_at dksX1_nearest_0 2 rfl rfl)
theorem dX1_nearest_5 : decode cX1_nearest 5 = .ok (.irem, 1) := dk_112 (dk_at dksX1_nearest_0 5 rfl rfl)
theorem dX1_nearest_6 : decode cX1_nearest 6 = .ok (.istore_n 3, 1) := dk_62 (dk_at dksX1_nearest_0 6 rfl rfl)
theorem dX1_nearest_7 : decode cX1_nearest 7 = .ok (.iload_n 1, 1) := dk_27 (dk_at dksX1_nearest_0 7 rfl rfl)
theorem dX1_nearest_8 : decode cX1_nearest 8 = .ok (.aload_n 0, 1) := dk_42 (dk_at dksX1_nearest_0 8 rfl rfl)
theorem dX1_nearest_9 : decode cX1_nearest 9 = .ok (.invokevirtual 80, 3) := dk_182 0 80 (dk_at dksX1_nearest_0 9 rfl rfl)
theorem dX1_nearest_12 : decode cX1_nearest 12 = .ok (.idiv, 1) := dk_108 (dk_at dksX1_nearest_0 12 rfl rfl)
theorem dX1_nearest_13 : decode cX1_nearest 13 = .ok (.istore 4, 2) := dk_54 4 (dk_at dksX1_nearest_0 13 rfl rfl)
theorem dX1_nearest_15 : decode cX1_nearest 15 = .ok (.iload 4, 2) := dk_21 4 (dk_at dksX1_nearest_0 15 rfl rfl)
theorem dX1_nearest_17 : decode cX1_nearest 17 = .ok (.iload_n 2, 1) := dk_28 (dk_at dksX1_nearest_0 17 rfl rfl)
theorem dX1_nearest_18 : decode cX1_nearest 18 = .ok (.iconst 2, 1) := dk_5 (dk_at dksX1_nearest_0 18 rfl rfl)
theorem dX1_nearest_19 : decode cX1_nearest 19 = .ok (.idiv, 1) := dk_108 (dk_at dksX1_nearest_0 19 rfl rfl)
theorem dX1_nearest_20 : decode cX1_nearest 20 = .ok (.iadd, 1) := dk_96 (dk_at dksX1_nearest_0 20 rfl rfl)
theorem dX1_nearest_21 : decode cX1_nearest 21 = .ok (.iconst 2, 1) := dk_5 (dk_at dksX1_nearest_0 21 rfl rfl)
theorem dX1_nearest_22 : decode cX1_nearest 22 = .ok (.idiv, 1) := dk_108 (dk_at dksX1_nearest_0 22 rfl rfl)
theorem dX1_nearest_23 : decode cX1_nearest 23 = .ok (.aload_n 0, 1) := dk_42 (dk_at dksX1_nearest_0 23 rfl rfl)
theorem dX1_nearest_24 : decode cX1_nearest 24 = .ok (.getfield 1, 3) := dk_180 0 1 (dk_at dksX1_nearest_1 0 rfl rfl)
theorem dX1_nearest_27 : decode cX1_nearest 27 = .ok (.getfield 77, 3) := dk_180 0 77 (dk_at dksX1_nearest_1 3 rfl rfl)
theorem dX1_nearest_30 : decode cX1_nearest 30 = .ok (.imul, 1) := dk_104 (dk_at dksX1_nearest_1 6 rfl rfl)
theorem dX1_nearest_31 : decode cX1_nearest 31 = .ok (.iload_n 3, 1) := dk_29 (dk_at dksX1_nearest_1 7 rfl rfl)
theorem dX1_nearest_32 : decode cX1_nearest 32 = .ok (.iload_n 2, 1) := dk_28 (dk_at dksX1_nearest_1 8 rfl rfl)
theorem dX1_nearest_33 : decode cX1_nearest 33 = .ok (.iconst 2, 1) := dk_5 (dk_at dksX1_nearest_1 9 rfl rfl)
theorem dX1_nearest_34 : decode cX1_nearest 34 = .ok (.irem, 1) := dk_112 (dk_at dksX1_nearest_1 10 rfl rfl)
theorem dX1_nearest_35 : decode cX1_nearest 35 = .ok (.iadd, 1) := dk_96 (dk_at dksX1_nearest_1 11 rfl rfl)
theorem dX1_nearest_36 : decode cX1_nearest 36 = .ok (.iconst 2, 1) := dk_5 (dk_at dksX1_nearest_1 12 rfl rfl)
theorem dX1_nearest_37 : decode cX1_nearest 37 = .ok (.idiv, 1) := dk_108 (dk_at dksX1_nearest_1 13 rfl rfl)
theorem dX1_nearest_38 : decode cX1_nearest 38 = .ok (.iadd, 1) := dk_96 (dk_at dksX1_nearest_1 14 rfl rfl)
theorem dX1_nearest_39 : decode cX1_nearest 39 = .ok (.ireturn, 1) := dk_172 (dk_at dksX1_nearest_1 15 rfl rfl)
def dkwX1_touch_1 : List UInt8 := [184, 0, 93, 65, 132, 4, 1, 167, 255, 230, 20, 0, 99, 32, 105, 42, 27, 182, 0, 101, 101, 173]
abbrev dktX1_touch_1 : List UInt8 := dkwX1_touch_1 ++ []
def dkwX1_touch_0 : List UInt8 := [9, 65, 3, 54, 4, 21, 4, 7, 162, 0, 26, 32, 42, 180, 0, 47, 42, 27, 21, 4, 182, 0, 86, 47]
abbrev dktX1_touch_0 : List UInt8 := dkwX1_touch_0 ++ dktX1_touch_1
theorem dksX1_touch_0 : cX1_touch.data.toList.drop 0 = dktX1_touch_0 := by decide +kernel
theorem dksX1_touch_1 : cX1_touch.data.toList.drop 24 = dktX1_touch_1 := dk_seg dksX1_touch_0 24 rfl rfl
theorem dX1_touch_0 : decode cX1_touch 0 = .ok (.lconst 0, 1) := dk_9 (dk_at dksX1_touch_0 0 rfl rfl)
theorem dX1_touch_1 : decode cX1_touch 1 = .ok (.lstore_n 2, 1) := dk_65 (dk_at dksX1_touch_0 1 rfl rfl)
theorem dX1_touch_2 : decode cX1_touch 2 = .ok (.iconst 0, 1) := dk_3 (dk_at dksX1_touch_0 2 rfl rfl)
theorem dX1_touch_3 : decode cX1_touch 3 = .ok (.istore 4, 2) := dk_54 4 (dk_at dksX1_touch_0 3 rfl rfl)
theorem dX1_touch_5 : decode cX1_touch 5 = .ok (.iload 4, 2) := dk_21 4 (dk_at dksX1_touch_0 5 rfl rfl)
theorem dX1_touch_7 : decode cX1_touch 7 = .ok (.iconst 4, 1) := dk_7 (dk_at dksX1_touch_0 7 rfl rfl)
theorem dX1_touch_8 : decode cX1_touch 8 = .ok (.if_icmp .ge 26, 3) := dk_162 0 26 (dk_at dksX1_touch_0 8 rfl rfl)
theorem dX1_touch_11 : decode cX1_touch 11 = .ok (.lload_n 2, 1) := dk_32 (dk_at dksX1_touch_0 11 rfl rfl)
theorem dX1_touch_12 : decode cX1_touch 12 = .ok (.aload_n 0, 1) := dk_42 (dk_at dksX1_touch_0 12 rfl rfl)
theorem dX1_touch_13 : decode cX1_touch 13 = .ok (.getfield 47, 3) := dk_180 0 47 (dk_at dksX1_touch_0 13 rfl rfl)
theorem dX1_touch_16 : decode cX1_touch 16 = .ok (.aload_n 0, 1) := dk_42 (dk_at dksX1_touch_0 16 rfl rfl)
theorem dX1_touch_17 : decode cX1_touch 17 = .ok (.iload_n 1, 1) := dk_27 (dk_at dksX1_touch_0 17 rfl rfl)
theorem dX1_touch_18 : decode cX1_touch 18 = .ok (.iload 4, 2) := dk_21 4 (dk_at dksX1_touch_0 18 rfl rfl)
theorem dX1_touch_20 : decode cX1_touch 20 = .ok (.invokevirtual 86, 3) := dk_182 0 86 (dk_at dksX1_touch_0 20 rfl rfl)
theorem dX1_touch_23 : decode cX1_touch 23 = .ok (.laload, 1) := dk_47 (dk_at dksX1_touch_0 23 rfl rfl)
theorem dX1_touch_24 : decode cX1_touch 24 = .ok (.invokestatic 93, 3) := dk_184 0 93 (dk_at dksX1_touch_1 0 rfl rfl)
theorem dX1_touch_27 : decode cX1_touch 27 = .ok (.lstore_n 2, 1) := dk_65 (dk_at dksX1_touch_1 3 rfl rfl)
theorem dX1_touch_28 : decode cX1_touch 28 = .ok (.iinc 4 1, 3) := dk_132 4 1 (dk_at dksX1_touch_1 4 rfl rfl)
theorem dX1_touch_31 : decode cX1_touch 31 = .ok (.goto (-26), 3) := dk_167 255 230 (dk_at dksX1_touch_1 7 rfl rfl)
theorem dX1_touch_34 : decode cX1_touch 34 = .ok (.ldc2_w 99, 3) := dk_20 0 99 (dk_at dksX1_touch_1 10 rfl rfl)
theorem dX1_touch_37 : decode cX1_touch 37 = .ok (.lload_n 2, 1) := dk_32 (dk_at dksX1_touch_1 13 rfl rfl)
theorem dX1_touch_38 : decode cX1_touch 38 = .ok (.lmul, 1) := dk_105 (dk_at dksX1_touch_1 14 rfl rfl)
theorem dX1_touch_39 : decode cX1_touch 39 = .ok (.aload_n 0, 1) := dk_42 (dk_at dksX1_touch_1 15 rfl rfl)
theorem dX1_touch_40 : decode cX1_touch 40 = .ok (.iload_n 1, 1) := dk_27 (dk_at dksX1_touch_1 16 rfl rfl)
theorem dX1_touch_41 : decode cX1_touch 41 = .ok (.invokevirtual 101, 3) := dk_182 0 101 (dk_at dksX1_touch_1 17 rfl rfl)
theorem dX1_touch_44 : decode cX1_touch 44 = .ok (.lsub, 1) := dk_101 (dk_at dksX1_touch_1 20 rfl rfl)
theorem dX1_touch_45 : decode cX1_touch 45 = .ok (.lreturn, 1) := dk_173 (dk_at dksX1_touch_1 21 rfl rfl)
def dkwX1_feed_2 : List UInt8 := [180, 0, 202, 172]
abbrev dktX1_feed_2 : List UInt8 := dkwX1_feed_2 ++ []
def dkwX1_feed_1 : List UInt8 := [42, 28, 182, 0, 208, 42, 29, 182, 0, 208, 42, 21, 4, 182, 0, 208, 42, 21, 5, 182, 0, 208, 42]
abbrev dktX1_feed_1 : List UInt8 := dkwX1_feed_1 ++ dktX1_feed_2
def dkwX1_feed_0 : List UInt8 := [42, 180, 0, 202, 16, 20, 96, 17, 1, 244, 164, 0, 9, 42, 2, 182, 0, 205, 172, 42, 27, 182, 0, 208]
abbrev dktX1_feed_0 : List UInt8 := dkwX1_feed_0 ++ dktX1_feed_1
theorem dksX1_feed_0 : cX1_feed.data.toList.drop 0 = dktX1_feed_0 := by decide +kernel
theorem dksX1_feed_1 : cX1_feed.data.toList.drop 24 = dktX1_feed_1 := dk_seg dksX1_feed_0 24 rfl rfl
theorem dksX1_feed_2 : cX1_feed.data.toList.drop 47 = dktX1_feed_2 := dk_seg dksX1_feed_1 23 rfl rfl
theorem dX1_feed_0 : decode cX1_feed 0 = .ok (.aload_n 0, 1) := dk_42 (dk_at dksX1_feed_0 0 rfl rfl)
theorem dX1_feed_1 : decode cX1_feed 1 = .ok (.getfield 202, 3) := dk_180 0 202 (dk_at dksX1_feed_0 1 rfl rfl)
theorem dX1_feed_4 : decode cX1_feed 4 = .ok (.bipush 20, 2) := dk_16 20 (dk_at dksX1_feed_0 4 rfl rfl)
theorem dX1_feed_6 : decode cX1_feed 6 = .ok (.iadd, 1) := dk_96 (dk_at dksX1_feed_0 6 rfl rfl)
theorem dX1_feed_7 : decode cX1_feed 7 = .ok (.sipush 500, 3) := dk_17 1 244 (dk_at dksX1_feed_0 7 rfl rfl)
theorem dX1_feed_10 : decode cX1_feed 10 = .ok (.if_icmp .le 9, 3) := dk_164 0 9 (dk_at dksX1_feed_0 10 rfl rfl)
theorem dX1_feed_13 : decode cX1_feed 13 = .ok (.aload_n 0, 1) := dk_42 (dk_at dksX1_feed_0 13 rfl rfl)
theorem dX1_feed_14 : decode cX1_feed 14 = .ok (.iconst (-1), 1) := dk_2 (dk_at dksX1_feed_0 14 rfl rfl)
theorem dX1_feed_15 : decode cX1_feed 15 = .ok (.invokevirtual 205, 3) := dk_182 0 205 (dk_at dksX1_feed_0 15 rfl rfl)
theorem dX1_feed_18 : decode cX1_feed 18 = .ok (.ireturn, 1) := dk_172 (dk_at dksX1_feed_0 18 rfl rfl)
theorem dX1_feed_19 : decode cX1_feed 19 = .ok (.aload_n 0, 1) := dk_42 (dk_at dksX1_feed_0 19 rfl rfl)
theorem dX1_feed_20 : decode cX1_feed 20 = .ok (.iload_n 1, 1) := dk_27 (dk_at dksX1_feed_0 20 rfl rfl)
theorem dX1_feed_21 : decode cX1_feed 21 = .ok (.invokevirtual 208, 3) := dk_182 0 208 (dk_at dksX1_feed_0 21 rfl rfl)
theorem dX1_feed_24 : decode cX1_feed 24 = .ok (.aload_n 0, 1) := dk_42 (dk_at dksX1_feed_1 0 rfl rfl)
theorem dX1_feed_25 : decode cX1_feed 25 = .ok (.iload_n 2, 1) := dk_28 (dk_at dksX1_feed_1 1 rfl rfl)
theorem dX1_feed_26 : decode cX1_feed 26 = .ok (.invokevirtual 208, 3) := dk_182 0 208 (dk_at dksX1_feed_1 2 rfl rfl)
theorem dX1_feed_29 : decode cX1_feed 29 = .ok (.aload_n 0, 1) := dk_42 (dk_at dksX1_feed_1 5 rfl rfl)
theorem dX1_feed_30 : decode cX1_feed 30 = .ok (.iload_n 3, 1) := dk_29 (dk_at dksX1_feed_1 6 rfl rfl)
theorem dX1_feed_31 : decode cX1_feed 31 = .ok (.invokevirtual 208, 3) := dk_182 0 208 (dk_at dksX1_feed_1 7 rfl rfl)
theorem dX1_feed_34 : decode cX1_feed 34 = .ok (.aload_n 0, 1) := dk_42 (dk_at dksX1_feed_1 10 rfl rfl)
theorem dX1_feed_35 : decode cX1_feed 35 = .ok (.iload 4, 2) := dk_21 4 (dk_at dksX1_feed_1 11 rfl rfl)
theorem dX1_feed_37 : decode cX1_feed 37 = .ok (.invokevirtual 208, 3) := dk_182 0 208 (dk_at dksX1_feed_1 13 rfl rfl)
theorem dX1_feed_40 : decode cX1_feed 40 = .ok (.aload_n 0, 1) := dk_42 (dk_at dksX1_feed_1 16 rfl rfl)
theorem dX1_feed_41 : decode cX1_feed 41 = .ok (.iload 5, 2) := dk_21 5 (dk_at dksX1_feed_1 17 rfl rfl)
theorem dX1_feed_43 : decode cX1_feed 43 = .ok (.invokevirtual 208, 3) := dk_182 0 208 (dk_at dksX1_feed_1 19 rfl rfl)
theorem dX1_feed_46 : decode cX1_feed 46 = .ok (.aload_n 0, 1) := dk_42 (dk_at dksX1_feed_1 22 rfl rfl)
theorem dX1_feed_47 : decode cX1_feed 47 = .ok (.getfield 202, 3) := dk_180 0 202 (dk_at dksX1_feed_2 0 rfl rfl)
theorem dX1_feed_50 : decode cX1_feed 50 = .ok (.ireturn, 1) := dk_172 (dk_at dksX1_feed_2 3 rfl rfl)
def dkwX1_refuses_0 : List UInt8 := [42, 180, 0, 158, 4, 92, 46, 4, 96, 79, 27, 172]
abbrev dktX1_refuses_0 : List UInt8 := dkwX1_refuses_0 ++ []
theorem dksX1_refuses_0 : cX1_refuses.data.toList.drop 0 = dktX1_refuses_0 := by decide +kernel
theorem dX1_refuses_0 : decode cX1_refuses 0 = .ok (.aload_n 0, 1) := dk_42 (dk_at dksX1_refuses_0 0 rfl rfl)
theorem dX1_refuses_1 : decode cX1_refuses 1 = .ok (.getfield 158, 3) := dk_180 0 158 (dk_at dksX1_refuses_0 1 rfl rfl)
theorem dX1_refuses_4 : decode cX1_refuses 4 = .ok (.iconst 1, 1) := dk_4 (dk_at dksX1_refuses_0 4 rfl rfl)
theorem dX1_refuses_5 : decode cX1_refuses 5 = .ok (.dup2, 1) := dk_92 (dk_at dksX1_refuses_0 5 rfl rfl)
theorem dX1_refuses_6 : decode cX1_refuses 6 = .ok (.iaload, 1) := dk_46 (dk_at dksX1_refuses_0 6 rfl rfl)
theorem dX1_refuses_7 : decode cX1_refuses 7 = .ok (.iconst 1, 1) := dk_4 (dk_at dksX1_refuses_0 7 rfl rfl)
theorem dX1_refuses_8 : decode cX1_refuses 8 = .ok (.iadd, 1) := dk_96 (dk_at dksX1_refuses_0 8 rfl rfl)
theorem dX1_refuses_9 : decode cX1_refuses 9 = .ok (.iastore, 1) := dk_79 (dk_at dksX1_refuses_0 9 rfl rfl)
theorem dX1_refuses_10 : decode cX1_refuses 10 = .ok (.iload_n 1, 1) := dk_27 (dk_at dksX1_refuses_0 10 rfl rfl)
theorem dX1_refuses_11 : decode cX1_refuses 11 = .ok (.ireturn, 1) := dk_172 (dk_at dksX1_refuses_0 11 rfl rfl)
def dkwX1_lay_1 : List UInt8 := [180, 0, 202, 4, 96, 181, 0, 202, 132, 2, 248, 167, 255, 226, 177]
abbrev dktX1_lay_1 : List UInt8 := dkwX1_lay_1 ++ []
def dkwX1_lay_0 : List UInt8 := [16, 24, 61, 28, 155, 0, 32, 42, 180, 0, 154, 42, 180, 0, 202, 27, 28, 122, 145, 84, 42, 89]
abbrev dktX1_lay_0 : List UInt8 := dkwX1_lay_0 ++ dktX1_lay_1
theorem dksX1_lay_0 : cX1_lay.data.toList.drop 0 = dktX1_lay_0 := by decide +kernel
theorem dksX1_lay_1 : cX1_lay.data.toList.drop 22 = dktX1_lay_1 := dk_seg dksX1_lay_0 22 rfl rfl
theorem dX1_lay_0 : decode cX1_lay 0 = .ok (.bipush 24, 2) := dk_16 24 (dk_at dksX1_lay_0 0 rfl rfl)
theorem dX1_lay_2 : decode cX1_lay 2 = .ok (.istore_n 2, 1) := dk_61 (dk_at dksX1_lay_0 2 rfl rfl)
theorem dX1_lay_3 : decode cX1_lay 3 = .ok (.iload_n 2, 1) := dk_28 (dk_at dksX1_lay_0 3 rfl rfl)
theorem dX1_lay_4 : decode cX1_lay 4 = .ok (.ifCond .lt 32, 3) := dk_155 0 32 (dk_at dksX1_lay_0 4 rfl rfl)
theorem dX1_lay_7 : decode cX1_lay 7 = .ok (.aload_n 0, 1) := dk_42 (dk_at dksX1_lay_0 7 rfl rfl)
theorem dX1_lay_8 : decode cX1_lay 8 = .ok (.getfield 154, 3) := dk_180 0 154 (dk_at dksX1_lay_0 8 rfl rfl)
theorem dX1_lay_11 : decode cX1_lay 11 = .ok (.aload_n 0, 1) := dk_42 (dk_at dksX1_lay_0 11 rfl rfl)
theorem dX1_lay_12 : decode cX1_lay 12 = .ok (.getfield 202, 3) := dk_180 0 202 (dk_at dksX1_lay_0 12 rfl rfl)
theorem dX1_lay_15 : decode cX1_lay 15 = .ok (.iload_n 1, 1) := dk_27 (dk_at dksX1_lay_0 15 rfl rfl)
theorem dX1_lay_16 : decode cX1_lay 16 = .ok (.iload_n 2, 1) := dk_28 (dk_at dksX1_lay_0 16 rfl rfl)
theorem dX1_lay_17 : decode cX1_lay 17 = .ok (.ishr, 1) := dk_122 (dk_at dksX1_lay_0 17 rfl rfl)
theorem dX1_lay_18 : decode cX1_lay 18 = .ok (.i2b, 1) := dk_145 (dk_at dksX1_lay_0 18 rfl rfl)
theorem dX1_lay_19 : decode cX1_lay 19 = .ok (.bastore, 1) := dk_84 (dk_at dksX1_lay_0 19 rfl rfl)
theorem dX1_lay_20 : decode cX1_lay 20 = .ok (.aload_n 0, 1) := dk_42 (dk_at dksX1_lay_0 20 rfl rfl)
theorem dX1_lay_21 : decode cX1_lay 21 = .ok (.dup, 1) := dk_89 (dk_at dksX1_lay_0 21 rfl rfl)
theorem dX1_lay_22 : decode cX1_lay 22 = .ok (.getfield 202, 3) := dk_180 0 202 (dk_at dksX1_lay_1 0 rfl rfl)
theorem dX1_lay_25 : decode cX1_lay 25 = .ok (.iconst 1, 1) := dk_4 (dk_at dksX1_lay_1 3 rfl rfl)
theorem dX1_lay_26 : decode cX1_lay 26 = .ok (.iadd, 1) := dk_96 (dk_at dksX1_lay_1 4 rfl rfl)
theorem dX1_lay_27 : decode cX1_lay 27 = .ok (.putfield 202, 3) := dk_181 0 202 (dk_at dksX1_lay_1 5 rfl rfl)
theorem dX1_lay_30 : decode cX1_lay 30 = .ok (.iinc 2 (-8), 3) := dk_132 2 248 (dk_at dksX1_lay_1 8 rfl rfl)
theorem dX1_lay_33 : decode cX1_lay 33 = .ok (.goto (-30), 3) := dk_167 255 226 (dk_at dksX1_lay_1 11 rfl rfl)
theorem dX1_lay_36 : decode cX1_lay 36 = .ok (.return_, 1) := dk_177 (dk_at dksX1_lay_1 14 rfl rfl)
theorem dX1_fault_0 : decode cX1_fault 0 = .ok (.aload_n 0, 1) := by decide +kernel
theorem dX1_fault_1 : decode cX1_fault 1 = .ok (.getfield 162, 3) := by decide +kernel
theorem dX1_fault_4 : decode cX1_fault 4 = .ok (.ireturn, 1) := by decide +kernel
def dkwX1_tell_3 : List UInt8 := [54, 4, 42, 180, 0, 1, 180, 0, 238, 28, 50, 27, 29, 79, 21, 4, 172]
abbrev dktX1_tell_3 : List UInt8 := dkwX1_tell_3 ++ []
def dkwX1_tell_2 : List UInt8 := [27, 46, 29, 160, 0, 9, 42, 2, 182, 0, 205, 172, 42, 180, 0, 1, 180, 0, 238, 28, 50, 27, 46]
abbrev dktX1_tell_2 : List UInt8 := dkwX1_tell_2 ++ dktX1_tell_3
def dkwX1_tell_1 : List UInt8 := [182, 1, 166, 153, 0, 27, 29, 3, 6, 184, 0, 253, 153, 0, 18, 42, 180, 0, 1, 180, 0, 238, 28, 50]
abbrev dktX1_tell_1 : List UInt8 := dkwX1_tell_1 ++ dktX1_tell_2
def dkwX1_tell_0 : List UInt8 := [42, 27, 182, 1, 37, 153, 0, 48, 28, 3, 5, 184, 0, 253, 153, 0, 39, 42, 180, 0, 1, 27, 28]
abbrev dktX1_tell_0 : List UInt8 := dkwX1_tell_0 ++ dktX1_tell_1
theorem dksX1_tell_0 : cX1_tell.data.toList.drop 0 = dktX1_tell_0 := by decide +kernel
theorem dksX1_tell_1 : cX1_tell.data.toList.drop 23 = dktX1_tell_1 := dk_seg dksX1_tell_0 23 rfl rfl
theorem dksX1_tell_2 : cX1_tell.data.toList.drop 47 = dktX1_tell_2 := dk_seg dksX1_tell_1 24 rfl rfl
theorem dksX1_tell_3 : cX1_tell.data.toList.drop 70 = dktX1_tell_3 := dk_seg dksX1_tell_2 23 rfl rfl
theorem dX1_tell_0 : decode cX1_tell 0 = .ok (.aload_n 0, 1) := dk_42 (dk_at dksX1_tell_0 0 rfl rfl)
theorem dX1_tell_1 : decode cX1_tell 1 = .ok (.iload_n 1, 1) := dk_27 (dk_at dksX1_tell_0 1 rfl rfl)
theorem dX1_tell_2 : decode cX1_tell 2 = .ok (.invokevirtual 293, 3) := dk_182 1 37 (dk_at dksX1_tell_0 2 rfl rfl)
theorem dX1_tell_5 : decode cX1_tell 5 = .ok (.ifCond .eq 48, 3) := dk_153 0 48 (dk_at dksX1_tell_0 5 rfl rfl)
theorem dX1_tell_8 : decode cX1_tell 8 = .ok (.iload_n 2, 1) := dk_28 (dk_at dksX1_tell_0 8 rfl rfl)
theorem dX1_tell_9 : decode cX1_tell 9 = .ok (.iconst 0, 1) := dk_3 (dk_at dksX1_tell_0 9 rfl rfl)
theorem dX1_tell_10 : decode cX1_tell 10 = .ok (.iconst 2, 1) := dk_5 (dk_at dksX1_tell_0 10 rfl rfl)
theorem dX1_tell_11 : decode cX1_tell 11 = .ok (.invokestatic 253, 3) := dk_184 0 253 (dk_at dksX1_tell_0 11 rfl rfl)
theorem dX1_tell_14 : decode cX1_tell 14 = .ok (.ifCond .eq 39, 3) := dk_153 0 39 (dk_at dksX1_tell_0 14 rfl rfl)
theorem dX1_tell_17 : decode cX1_tell 17 = .ok (.aload_n 0, 1) := dk_42 (dk_at dksX1_tell_0 17 rfl rfl)
theorem dX1_tell_18 : decode cX1_tell 18 = .ok (.getfield 1, 3) := dk_180 0 1 (dk_at dksX1_tell_0 18 rfl rfl)
theorem dX1_tell_21 : decode cX1_tell 21 = .ok (.iload_n 1, 1) := dk_27 (dk_at dksX1_tell_0 21 rfl rfl)
theorem dX1_tell_22 : decode cX1_tell 22 = .ok (.iload_n 2, 1) := dk_28 (dk_at dksX1_tell_0 22 rfl rfl)
theorem dX1_tell_23 : decode cX1_tell 23 = .ok (.invokevirtual 422, 3) := dk_182 1 166 (dk_at dksX1_tell_1 0 rfl rfl)
theorem dX1_tell_26 : decode cX1_tell 26 = .ok (.ifCond .eq 27, 3) := dk_153 0 27 (dk_at dksX1_tell_1 3 rfl rfl)
theorem dX1_tell_29 : decode cX1_tell 29 = .ok (.iload_n 3, 1) := dk_29 (dk_at dksX1_tell_1 6 rfl rfl)
theorem dX1_tell_30 : decode cX1_tell 30 = .ok (.iconst 0, 1) := dk_3 (dk_at dksX1_tell_1 7 rfl rfl)
theorem dX1_tell_31 : decode cX1_tell 31 = .ok (.iconst 3, 1) := dk_6 (dk_at dksX1_tell_1 8 rfl rfl)
theorem dX1_tell_32 : decode cX1_tell 32 = .ok (.invokestatic 253, 3) := dk_184 0 253 (dk_at dksX1_tell_1 9 rfl rfl)
theorem dX1_tell_35 : decode cX1_tell 35 = .ok (.ifCond .eq 18, 3) := dk_153 0 18 (dk_at dksX1_tell_1 12 rfl rfl)
theorem dX1_tell_38 : decode cX1_tell 38 = .ok (.aload_n 0, 1) := dk_42 (dk_at dksX1_tell_1 15 rfl rfl)
theorem dX1_tell_39 : decode cX1_tell 39 = .ok (.getfield 1, 3) := dk_180 0 1 (dk_at dksX1_tell_1 16 rfl rfl)
theorem dX1_tell_42 : decode cX1_tell 42 = .ok (.getfield 238, 3) := dk_180 0 238 (dk_at dksX1_tell_1 19 rfl rfl)
theorem dX1_tell_45 : decode cX1_tell 45 = .ok (.iload_n 2, 1) := dk_28 (dk_at dksX1_tell_1 22 rfl rfl)
theorem dX1_tell_46 : decode cX1_tell 46 = .ok (.aaload, 1) := dk_50 (dk_at dksX1_tell_1 23 rfl rfl)
theorem dX1_tell_47 : decode cX1_tell 47 = .ok (.iload_n 1, 1) := dk_27 (dk_at dksX1_tell_2 0 rfl rfl)
theorem dX1_tell_48 : decode cX1_tell 48 = .ok (.iaload, 1) := dk_46 (dk_at dksX1_tell_2 1 rfl rfl)
theorem dX1_tell_49 : decode cX1_tell 49 = .ok (.iload_n 3, 1) := dk_29 (dk_at dksX1_tell_2 2 rfl rfl)
theorem dX1_tell_50 : decode cX1_tell 50 = .ok (.if_icmp .ne 9, 3) := dk_160 0 9 (dk_at dksX1_tell_2 3 rfl rfl)
theorem dX1_tell_53 : decode cX1_tell 53 = .ok (.aload_n 0, 1) := dk_42 (dk_at dksX1_tell_2 6 rfl rfl)
theorem dX1_tell_54 : decode cX1_tell 54 = .ok (.iconst (-1), 1) := dk_2 (dk_at dksX1_tell_2 7 rfl rfl)
theorem dX1_tell_55 : decode cX1_tell 55 = .ok (.invokevirtual 205, 3) := dk_182 0 205 (dk_at dksX1_tell_2 8 rfl rfl)
theorem dX1_tell_58 : decode cX1_tell 58 = .ok (.ireturn, 1) := dk_172 (dk_at dksX1_tell_2 11 rfl rfl)
theorem dX1_tell_59 : decode cX1_tell 59 = .ok (.aload_n 0, 1) := dk_42 (dk_at dksX1_tell_2 12 rfl rfl)
theorem dX1_tell_60 : decode cX1_tell 60 = .ok (.getfield 1, 3) := dk_180 0 1 (dk_at dksX1_tell_2 13 rfl rfl)
theorem dX1_tell_63 : decode cX1_tell 63 = .ok (.getfield 238, 3) := dk_180 0 238 (dk_at dksX1_tell_2 16 rfl rfl)
theorem dX1_tell_66 : decode cX1_tell 66 = .ok (.iload_n 2, 1) := dk_28 (dk_at dksX1_tell_2 19 rfl rfl)
theorem dX1_tell_67 : decode cX1_tell 67 = .ok (.aaload, 1) := dk_50 (dk_at dksX1_tell_2 20 rfl rfl)
theorem dX1_tell_68 : decode cX1_tell 68 = .ok (.iload_n 1, 1) := dk_27 (dk_at dksX1_tell_2 21 rfl rfl)
theorem dX1_tell_69 : decode cX1_tell 69 = .ok (.iaload, 1) := dk_46 (dk_at dksX1_tell_2 22 rfl rfl)
theorem dX1_tell_70 : decode cX1_tell 70 = .ok (.istore 4, 2) := dk_54 4 (dk_at dksX1_tell_3 0 rfl rfl)
theorem dX1_tell_72 : decode cX1_tell 72 = .ok (.aload_n 0, 1) := dk_42 (dk_at dksX1_tell_3 2 rfl rfl)
theorem dX1_tell_73 : decode cX1_tell 73 = .ok (.getfield 1, 3) := dk_180 0 1 (dk_at dksX1_tell_3 3 rfl rfl)
theorem dX1_tell_76 : decode cX1_tell 76 = .ok (.getfield 238, 3) := dk_180 0 238 (dk_at dksX1_tell_3 6 rfl rfl)
theorem dX1_tell_79 : decode cX1_tell 79 = .ok (.iload_n 2, 1) := dk_28 (dk_at dksX1_tell_3 9 rfl rfl)
theorem dX1_tell_80 : decode cX1_tell 80 = .ok (.aaload, 1) := dk_50 (dk_at dksX1_tell_3 10 rfl rfl)
theorem dX1_tell_81 : decode cX1_tell 81 = .ok (.iload_n 1, 1) := dk_27 (dk_at dksX1_tell_3 11 rfl rfl)
theorem dX1_tell_82 : decode cX1_tell 82 = .ok (.iload_n 3, 1) := dk_29 (dk_at dksX1_tell_3 12 rfl rfl)
theorem dX1_tell_83 : decode cX1_tell 83 = .ok (.iastore, 1) := dk_79 (dk_at dksX1_tell_3 13 rfl rfl)
theorem dX1_tell_84 : decode cX1_tell 84 = .ok (.iload 4, 2) := dk_21 4 (dk_at dksX1_tell_3 14 rfl rfl)
theorem dX1_tell_86 : decode cX1_tell 86 = .ok (.ireturn, 1) := dk_172 (dk_at dksX1_tell_3 16 rfl rfl)
def dkwX1_isNode_0 : List UInt8 := [27, 155, 0, 18, 27, 42, 180, 0, 1, 182, 0, 55, 162, 0, 7, 4, 167, 0, 4, 3, 172]
abbrev dktX1_isNode_0 : List UInt8 := dkwX1_isNode_0 ++ []
theorem dksX1_isNode_0 : cX1_isNode.data.toList.drop 0 = dktX1_isNode_0 := by decide +kernel
theorem dX1_isNode_0 : decode cX1_isNode 0 = .ok (.iload_n 1, 1) := dk_27 (dk_at dksX1_isNode_0 0 rfl rfl)
theorem dX1_isNode_1 : decode cX1_isNode 1 = .ok (.ifCond .lt 18, 3) := dk_155 0 18 (dk_at dksX1_isNode_0 1 rfl rfl)
theorem dX1_isNode_4 : decode cX1_isNode 4 = .ok (.iload_n 1, 1) := dk_27 (dk_at dksX1_isNode_0 4 rfl rfl)
theorem dX1_isNode_5 : decode cX1_isNode 5 = .ok (.aload_n 0, 1) := dk_42 (dk_at dksX1_isNode_0 5 rfl rfl)
theorem dX1_isNode_6 : decode cX1_isNode 6 = .ok (.getfield 1, 3) := dk_180 0 1 (dk_at dksX1_isNode_0 6 rfl rfl)
theorem dX1_isNode_9 : decode cX1_isNode 9 = .ok (.invokevirtual 55, 3) := dk_182 0 55 (dk_at dksX1_isNode_0 9 rfl rfl)
theorem dX1_isNode_12 : decode cX1_isNode 12 = .ok (.if_icmp .ge 7, 3) := dk_162 0 7 (dk_at dksX1_isNode_0 12 rfl rfl)
theorem dX1_isNode_15 : decode cX1_isNode 15 = .ok (.iconst 1, 1) := dk_4 (dk_at dksX1_isNode_0 15 rfl rfl)
theorem dX1_isNode_16 : decode cX1_isNode 16 = .ok (.goto 4, 3) := dk_167 0 4 (dk_at dksX1_isNode_0 16 rfl rfl)
theorem dX1_isNode_19 : decode cX1_isNode 19 = .ok (.iconst 0, 1) := dk_3 (dk_at dksX1_isNode_0 19 rfl rfl)
theorem dX1_isNode_20 : decode cX1_isNode 20 = .ok (.ireturn, 1) := dk_172 (dk_at dksX1_isNode_0 20 rfl rfl)
def dkwX1_within_0 : List UInt8 := [26, 27, 161, 0, 12, 26, 28, 163, 0, 7, 4, 167, 0, 4, 3, 172]
abbrev dktX1_within_0 : List UInt8 := dkwX1_within_0 ++ []
theorem dksX1_within_0 : cX1_within.data.toList.drop 0 = dktX1_within_0 := by decide +kernel
theorem dX1_within_0 : decode cX1_within 0 = .ok (.iload_n 0, 1) := dk_26 (dk_at dksX1_within_0 0 rfl rfl)
theorem dX1_within_1 : decode cX1_within 1 = .ok (.iload_n 1, 1) := dk_27 (dk_at dksX1_within_0 1 rfl rfl)
theorem dX1_within_2 : decode cX1_within 2 = .ok (.if_icmp .lt 12, 3) := dk_161 0 12 (dk_at dksX1_within_0 2 rfl rfl)
theorem dX1_within_5 : decode cX1_within 5 = .ok (.iload_n 0, 1) := dk_26 (dk_at dksX1_within_0 5 rfl rfl)
theorem dX1_within_6 : decode cX1_within 6 = .ok (.iload_n 2, 1) := dk_28 (dk_at dksX1_within_0 6 rfl rfl)
theorem dX1_within_7 : decode cX1_within 7 = .ok (.if_icmp .gt 7, 3) := dk_163 0 7 (dk_at dksX1_within_0 7 rfl rfl)
theorem dX1_within_10 : decode cX1_within 10 = .ok (.iconst 1, 1) := dk_4 (dk_at dksX1_within_0 10 rfl rfl)
theorem dX1_within_11 : decode cX1_within 11 = .ok (.goto 4, 3) := dk_167 0 4 (dk_at dksX1_within_0 11 rfl rfl)
theorem dX1_within_14 : decode cX1_within 14 = .ok (.iconst 0, 1) := dk_3 (dk_at dksX1_within_0 14 rfl rfl)
theorem dX1_within_15 : decode cX1_within 15 = .ok (.ireturn, 1) := dk_172 (dk_at dksX1_within_0 15 rfl rfl)
def dkwX1_comes_3 : List UInt8 := [29, 172]
abbrev dktX1_comes_3 : List UInt8 := dkwX1_comes_3 ++ []
def dkwX1_comes_2 : List UInt8 := [42, 180, 0, 1, 180, 0, 7, 62, 42, 180, 0, 1, 27, 181, 0, 7, 42, 180, 0, 1, 28, 181, 0, 59]
abbrev dktX1_comes_2 : List UInt8 := dkwX1_comes_2 ++ dktX1_comes_3
def dkwX1_comes_1 : List UInt8 := [180, 0, 7, 27, 160, 0, 20, 42, 180, 0, 1, 180, 0, 59, 28, 160, 0, 9, 42, 2, 182, 0, 205, 172]
abbrev dktX1_comes_1 : List UInt8 := dkwX1_comes_1 ++ dktX1_comes_2
def dkwX1_comes_0 : List UInt8 := [42, 27, 182, 1, 37, 153, 0, 35, 28, 4, 16, 99, 184, 0, 253, 153, 0, 25, 42, 180, 0, 1]
abbrev dktX1_comes_0 : List UInt8 := dkwX1_comes_0 ++ dktX1_comes_1
theorem dksX1_comes_0 : cX1_comes.data.toList.drop 0 = dktX1_comes_0 := by decide +kernel
theorem dksX1_comes_1 : cX1_comes.data.toList.drop 22 = dktX1_comes_1 := dk_seg dksX1_comes_0 22 rfl rfl
theorem dksX1_comes_2 : cX1_comes.data.toList.drop 46 = dktX1_comes_2 := dk_seg dksX1_comes_1 24 rfl rfl
theorem dksX1_comes_3 : cX1_comes.data.toList.drop 70 = dktX1_comes_3 := dk_seg dksX1_comes_2 24 rfl rfl
theorem dX1_comes_0 : decode cX1_comes 0 = .ok (.aload_n 0, 1) := dk_42 (dk_at dksX1_comes_0 0 rfl rfl)
theorem dX1_comes_1 : decode cX1_comes 1 = .ok (.iload_n 1, 1) := dk_27 (dk_at dksX1_comes_0 1 rfl rfl)
theorem dX1_comes_2 : decode cX1_comes 2 = .ok (.invokevirtual 293, 3) := dk_182 1 37 (dk_at dksX1_comes_0 2 rfl rfl)
theorem dX1_comes_5 : decode cX1_comes 5 = .ok (.ifCond .eq 35, 3) := dk_153 0 35 (dk_at dksX1_comes_0 5 rfl rfl)
theorem dX1_comes_8 : decode cX1_comes 8 = .ok (.iload_n 2, 1) := dk_28 (dk_at dksX1_comes_0 8 rfl rfl)
theorem dX1_comes_9 : decode cX1_comes 9 = .ok (.iconst 1, 1) := dk_4 (dk_at dksX1_comes_0 9 rfl rfl)
theorem dX1_comes_10 : decode cX1_comes 10 = .ok (.bipush 99, 2) := dk_16 99 (dk_at dksX1_comes_0 10 rfl rfl)
theorem dX1_comes_12 : decode cX1_comes 12 = .ok (.invokestatic 253, 3) := dk_184 0 253 (dk_at dksX1_comes_0 12 rfl rfl)
theorem dX1_comes_15 : decode cX1_comes 15 = .ok (.ifCond .eq 25, 3) := dk_153 0 25 (dk_at dksX1_comes_0 15 rfl rfl)
theorem dX1_comes_18 : decode cX1_comes 18 = .ok (.aload_n 0, 1) := dk_42 (dk_at dksX1_comes_0 18 rfl rfl)
theorem dX1_comes_19 : decode cX1_comes 19 = .ok (.getfield 1, 3) := dk_180 0 1 (dk_at dksX1_comes_0 19 rfl rfl)
theorem dX1_comes_22 : decode cX1_comes 22 = .ok (.getfield 7, 3) := dk_180 0 7 (dk_at dksX1_comes_1 0 rfl rfl)
theorem dX1_comes_25 : decode cX1_comes 25 = .ok (.iload_n 1, 1) := dk_27 (dk_at dksX1_comes_1 3 rfl rfl)
theorem dX1_comes_26 : decode cX1_comes 26 = .ok (.if_icmp .ne 20, 3) := dk_160 0 20 (dk_at dksX1_comes_1 4 rfl rfl)
theorem dX1_comes_29 : decode cX1_comes 29 = .ok (.aload_n 0, 1) := dk_42 (dk_at dksX1_comes_1 7 rfl rfl)
theorem dX1_comes_30 : decode cX1_comes 30 = .ok (.getfield 1, 3) := dk_180 0 1 (dk_at dksX1_comes_1 8 rfl rfl)
theorem dX1_comes_33 : decode cX1_comes 33 = .ok (.getfield 59, 3) := dk_180 0 59 (dk_at dksX1_comes_1 11 rfl rfl)
theorem dX1_comes_36 : decode cX1_comes 36 = .ok (.iload_n 2, 1) := dk_28 (dk_at dksX1_comes_1 14 rfl rfl)
theorem dX1_comes_37 : decode cX1_comes 37 = .ok (.if_icmp .ne 9, 3) := dk_160 0 9 (dk_at dksX1_comes_1 15 rfl rfl)
theorem dX1_comes_40 : decode cX1_comes 40 = .ok (.aload_n 0, 1) := dk_42 (dk_at dksX1_comes_1 18 rfl rfl)
theorem dX1_comes_41 : decode cX1_comes 41 = .ok (.iconst (-1), 1) := dk_2 (dk_at dksX1_comes_1 19 rfl rfl)
theorem dX1_comes_42 : decode cX1_comes 42 = .ok (.invokevirtual 205, 3) := dk_182 0 205 (dk_at dksX1_comes_1 20 rfl rfl)
theorem dX1_comes_45 : decode cX1_comes 45 = .ok (.ireturn, 1) := dk_172 (dk_at dksX1_comes_1 23 rfl rfl)
theorem dX1_comes_46 : decode cX1_comes 46 = .ok (.aload_n 0, 1) := dk_42 (dk_at dksX1_comes_2 0 rfl rfl)
theorem dX1_comes_47 : decode cX1_comes 47 = .ok (.getfield 1, 3) := dk_180 0 1 (dk_at dksX1_comes_2 1 rfl rfl)
theorem dX1_comes_50 : decode cX1_comes 50 = .ok (.getfield 7, 3) := dk_180 0 7 (dk_at dksX1_comes_2 4 rfl rfl)
theorem dX1_comes_53 : decode cX1_comes 53 = .ok (.istore_n 3, 1) := dk_62 (dk_at dksX1_comes_2 7 rfl rfl)
theorem dX1_comes_54 : decode cX1_comes 54 = .ok (.aload_n 0, 1) := dk_42 (dk_at dksX1_comes_2 8 rfl rfl)
theorem dX1_comes_55 : decode cX1_comes 55 = .ok (.getfield 1, 3) := dk_180 0 1 (dk_at dksX1_comes_2 9 rfl rfl)
theorem dX1_comes_58 : decode cX1_comes 58 = .ok (.iload_n 1, 1) := dk_27 (dk_at dksX1_comes_2 12 rfl rfl)
theorem dX1_comes_59 : decode cX1_comes 59 = .ok (.putfield 7, 3) := dk_181 0 7 (dk_at dksX1_comes_2 13 rfl rfl)
theorem dX1_comes_62 : decode cX1_comes 62 = .ok (.aload_n 0, 1) := dk_42 (dk_at dksX1_comes_2 16 rfl rfl)
theorem dX1_comes_63 : decode cX1_comes 63 = .ok (.getfield 1, 3) := dk_180 0 1 (dk_at dksX1_comes_2 17 rfl rfl)
theorem dX1_comes_66 : decode cX1_comes 66 = .ok (.iload_n 2, 1) := dk_28 (dk_at dksX1_comes_2 20 rfl rfl)
theorem dX1_comes_67 : decode cX1_comes 67 = .ok (.putfield 59, 3) := dk_181 0 59 (dk_at dksX1_comes_2 21 rfl rfl)
theorem dX1_comes_70 : decode cX1_comes 70 = .ok (.iload_n 3, 1) := dk_29 (dk_at dksX1_comes_3 0 rfl rfl)
theorem dX1_comes_71 : decode cX1_comes 71 = .ok (.ireturn, 1) := dk_172 (dk_at dksX1_comes_3 1 rfl rfl)
def dkwX1_put_4 : List UInt8 := [182, 0, 205, 172]
abbrev dktX1_put_4 : List UInt8 := dkwX1_put_4 ++ []
def dkwX1_put_3 : List UInt8 := [42, 27, 182, 1, 187, 21, 4, 25, 5, 182, 1, 201, 153, 0, 8, 21, 4, 167, 0, 9, 42, 16, 254]
abbrev dktX1_put_3 : List UInt8 := dkwX1_put_3 ++ dktX1_put_4
def dkwX1_put_2 : List UInt8 := [187, 1, 194, 89, 29, 183, 1, 196, 58, 5, 28, 153, 0, 13, 187, 1, 198, 89, 29, 183, 1, 200, 58, 5]
abbrev dktX1_put_2 : List UInt8 := dkwX1_put_2 ++ dktX1_put_3
def dkwX1_put_1 : List UInt8 := [182, 1, 191, 2, 160, 0, 9, 42, 2, 182, 0, 205, 172, 42, 27, 182, 1, 187, 182, 1, 191, 54, 4]
abbrev dktX1_put_1 : List UInt8 := dkwX1_put_1 ++ dktX1_put_2
def dkwX1_put_0 : List UInt8 := [27, 3, 4, 184, 0, 253, 153, 0, 24, 29, 4, 6, 184, 0, 253, 153, 0, 15, 42, 27, 182, 1, 187]
abbrev dktX1_put_0 : List UInt8 := dkwX1_put_0 ++ dktX1_put_1
theorem dksX1_put_0 : cX1_put.data.toList.drop 0 = dktX1_put_0 := by decide +kernel
theorem dksX1_put_1 : cX1_put.data.toList.drop 23 = dktX1_put_1 := dk_seg dksX1_put_0 23 rfl rfl
theorem dksX1_put_2 : cX1_put.data.toList.drop 46 = dktX1_put_2 := dk_seg dksX1_put_1 23 rfl rfl
theorem dksX1_put_3 : cX1_put.data.toList.drop 70 = dktX1_put_3 := dk_seg dksX1_put_2 24 rfl rfl
theorem dksX1_put_4 : cX1_put.data.toList.drop 93 = dktX1_put_4 := dk_seg dksX1_put_3 23 rfl rfl
theorem dX1_put_0 : decode cX1_put 0 = .ok (.iload_n 1, 1) := dk_27 (dk_at dksX1_put_0 0 rfl rfl)
theorem dX1_put_1 : decode cX1_put 1 = .ok (.iconst 0, 1) := dk_3 (dk_at dksX1_put_0 1 rfl rfl)
theorem dX1_put_2 : decode cX1_put 2 = .ok (.iconst 1, 1) := dk_4 (dk_at dksX1_put_0 2 rfl rfl)
theorem dX1_put_3 : decode cX1_put 3 = .ok (.invokestatic 253, 3) := dk_184 0 253 (dk_at dksX1_put_0 3 rfl rfl)
theorem dX1_put_6 : decode cX1_put 6 = .ok (.ifCond .eq 24, 3) := dk_153 0 24 (dk_at dksX1_put_0 6 rfl rfl)
theorem dX1_put_9 : decode cX1_put 9 = .ok (.iload_n 3, 1) := dk_29 (dk_at dksX1_put_0 9 rfl rfl)
theorem dX1_put_10 : decode cX1_put 10 = .ok (.iconst 1, 1) := dk_4 (dk_at dksX1_put_0 10 rfl rfl)
theorem dX1_put_11 : decode cX1_put 11 = .ok (.iconst 3, 1) := dk_6 (dk_at dksX1_put_0 11 rfl rfl)
theorem dX1_put_12 : decode cX1_put 12 = .ok (.invokestatic 253, 3) := dk_184 0 253 (dk_at dksX1_put_0 12 rfl rfl)
theorem dX1_put_15 : decode cX1_put 15 = .ok (.ifCond .eq 15, 3) := dk_153 0 15 (dk_at dksX1_put_0 15 rfl rfl)
theorem dX1_put_18 : decode cX1_put 18 = .ok (.aload_n 0, 1) := dk_42 (dk_at dksX1_put_0 18 rfl rfl)
theorem dX1_put_19 : decode cX1_put 19 = .ok (.iload_n 1, 1) := dk_27 (dk_at dksX1_put_0 19 rfl rfl)
theorem dX1_put_20 : decode cX1_put 20 = .ok (.invokevirtual 443, 3) := dk_182 1 187 (dk_at dksX1_put_0 20 rfl rfl)
theorem dX1_put_23 : decode cX1_put 23 = .ok (.invokevirtual 447, 3) := dk_182 1 191 (dk_at dksX1_put_1 0 rfl rfl)
theorem dX1_put_26 : decode cX1_put 26 = .ok (.iconst (-1), 1) := dk_2 (dk_at dksX1_put_1 3 rfl rfl)
theorem dX1_put_27 : decode cX1_put 27 = .ok (.if_icmp .ne 9, 3) := dk_160 0 9 (dk_at dksX1_put_1 4 rfl rfl)
theorem dX1_put_30 : decode cX1_put 30 = .ok (.aload_n 0, 1) := dk_42 (dk_at dksX1_put_1 7 rfl rfl)
theorem dX1_put_31 : decode cX1_put 31 = .ok (.iconst (-1), 1) := dk_2 (dk_at dksX1_put_1 8 rfl rfl)
theorem dX1_put_32 : decode cX1_put 32 = .ok (.invokevirtual 205, 3) := dk_182 0 205 (dk_at dksX1_put_1 9 rfl rfl)
theorem dX1_put_35 : decode cX1_put 35 = .ok (.ireturn, 1) := dk_172 (dk_at dksX1_put_1 12 rfl rfl)
theorem dX1_put_36 : decode cX1_put 36 = .ok (.aload_n 0, 1) := dk_42 (dk_at dksX1_put_1 13 rfl rfl)
theorem dX1_put_37 : decode cX1_put 37 = .ok (.iload_n 1, 1) := dk_27 (dk_at dksX1_put_1 14 rfl rfl)
theorem dX1_put_38 : decode cX1_put 38 = .ok (.invokevirtual 443, 3) := dk_182 1 187 (dk_at dksX1_put_1 15 rfl rfl)
theorem dX1_put_41 : decode cX1_put 41 = .ok (.invokevirtual 447, 3) := dk_182 1 191 (dk_at dksX1_put_1 18 rfl rfl)
theorem dX1_put_44 : decode cX1_put 44 = .ok (.istore 4, 2) := dk_54 4 (dk_at dksX1_put_1 21 rfl rfl)
theorem dX1_put_46 : decode cX1_put 46 = .ok (.new 450, 3) := dk_187 1 194 (dk_at dksX1_put_2 0 rfl rfl)
theorem dX1_put_49 : decode cX1_put 49 = .ok (.dup, 1) := dk_89 (dk_at dksX1_put_2 3 rfl rfl)
theorem dX1_put_50 : decode cX1_put 50 = .ok (.iload_n 3, 1) := dk_29 (dk_at dksX1_put_2 4 rfl rfl)
theorem dX1_put_51 : decode cX1_put 51 = .ok (.invokespecial 452, 3) := dk_183 1 196 (dk_at dksX1_put_2 5 rfl rfl)
theorem dX1_put_54 : decode cX1_put 54 = .ok (.astore 5, 2) := dk_58 5 (dk_at dksX1_put_2 8 rfl rfl)
theorem dX1_put_56 : decode cX1_put 56 = .ok (.iload_n 2, 1) := dk_28 (dk_at dksX1_put_2 10 rfl rfl)
theorem dX1_put_57 : decode cX1_put 57 = .ok (.ifCond .eq 13, 3) := dk_153 0 13 (dk_at dksX1_put_2 11 rfl rfl)
theorem dX1_put_60 : decode cX1_put 60 = .ok (.new 454, 3) := dk_187 1 198 (dk_at dksX1_put_2 14 rfl rfl)
theorem dX1_put_63 : decode cX1_put 63 = .ok (.dup, 1) := dk_89 (dk_at dksX1_put_2 17 rfl rfl)
theorem dX1_put_64 : decode cX1_put 64 = .ok (.iload_n 3, 1) := dk_29 (dk_at dksX1_put_2 18 rfl rfl)
theorem dX1_put_65 : decode cX1_put 65 = .ok (.invokespecial 456, 3) := dk_183 1 200 (dk_at dksX1_put_2 19 rfl rfl)
theorem dX1_put_68 : decode cX1_put 68 = .ok (.astore 5, 2) := dk_58 5 (dk_at dksX1_put_2 22 rfl rfl)
theorem dX1_put_70 : decode cX1_put 70 = .ok (.aload_n 0, 1) := dk_42 (dk_at dksX1_put_3 0 rfl rfl)
theorem dX1_put_71 : decode cX1_put 71 = .ok (.iload_n 1, 1) := dk_27 (dk_at dksX1_put_3 1 rfl rfl)
theorem dX1_put_72 : decode cX1_put 72 = .ok (.invokevirtual 443, 3) := dk_182 1 187 (dk_at dksX1_put_3 2 rfl rfl)
theorem dX1_put_75 : decode cX1_put 75 = .ok (.iload 4, 2) := dk_21 4 (dk_at dksX1_put_3 5 rfl rfl)
theorem dX1_put_77 : decode cX1_put 77 = .ok (.aload 5, 2) := dk_25 5 (dk_at dksX1_put_3 7 rfl rfl)
theorem dX1_put_79 : decode cX1_put 79 = .ok (.invokevirtual 457, 3) := dk_182 1 201 (dk_at dksX1_put_3 9 rfl rfl)
theorem dX1_put_82 : decode cX1_put 82 = .ok (.ifCond .eq 8, 3) := dk_153 0 8 (dk_at dksX1_put_3 12 rfl rfl)
theorem dX1_put_85 : decode cX1_put 85 = .ok (.iload 4, 2) := dk_21 4 (dk_at dksX1_put_3 15 rfl rfl)
theorem dX1_put_87 : decode cX1_put 87 = .ok (.goto 9, 3) := dk_167 0 9 (dk_at dksX1_put_3 17 rfl rfl)
theorem dX1_put_90 : decode cX1_put 90 = .ok (.aload_n 0, 1) := dk_42 (dk_at dksX1_put_3 20 rfl rfl)
theorem dX1_put_91 : decode cX1_put 91 = .ok (.bipush (-2), 2) := dk_16 254 (dk_at dksX1_put_3 21 rfl rfl)
theorem dX1_put_93 : decode cX1_put 93 = .ok (.invokevirtual 205, 3) := dk_182 0 205 (dk_at dksX1_put_4 0 rfl rfl)
theorem dX1_put_96 : decode cX1_put 96 = .ok (.ireturn, 1) := dk_172 (dk_at dksX1_put_4 3 rfl rfl)
def dkwX1_bin_0 : List UInt8 := [27, 154, 0, 10, 42, 180, 0, 189, 167, 0, 7, 42, 180, 0, 193, 176]
abbrev dktX1_bin_0 : List UInt8 := dkwX1_bin_0 ++ []
theorem dksX1_bin_0 : cX1_bin.data.toList.drop 0 = dktX1_bin_0 := by decide +kernel
theorem dX1_bin_0 : decode cX1_bin 0 = .ok (.iload_n 1, 1) := dk_27 (dk_at dksX1_bin_0 0 rfl rfl)
theorem dX1_bin_1 : decode cX1_bin 1 = .ok (.ifCond .ne 10, 3) := dk_154 0 10 (dk_at dksX1_bin_0 1 rfl rfl)
theorem dX1_bin_4 : decode cX1_bin 4 = .ok (.aload_n 0, 1) := dk_42 (dk_at dksX1_bin_0 4 rfl rfl)
theorem dX1_bin_5 : decode cX1_bin 5 = .ok (.getfield 189, 3) := dk_180 0 189 (dk_at dksX1_bin_0 5 rfl rfl)
theorem dX1_bin_8 : decode cX1_bin 8 = .ok (.goto 7, 3) := dk_167 0 7 (dk_at dksX1_bin_0 8 rfl rfl)
theorem dX1_bin_11 : decode cX1_bin 11 = .ok (.aload_n 0, 1) := dk_42 (dk_at dksX1_bin_0 11 rfl rfl)
theorem dX1_bin_12 : decode cX1_bin 12 = .ok (.getfield 193, 3) := dk_180 0 193 (dk_at dksX1_bin_0 12 rfl rfl)
theorem dX1_bin_15 : decode cX1_bin 15 = .ok (.areturn, 1) := dk_176 (dk_at dksX1_bin_0 15 rfl rfl)
def dkwX1_build_6 : List UInt8 := [42, 180, 0, 1, 180, 0, 238, 21, 5, 50, 29, 46, 172]
abbrev dktX1_build_6 : List UInt8 := dkwX1_build_6 ++ []
def dkwX1_build_5 : List UInt8 := [182, 1, 187, 28, 182, 1, 208, 42, 180, 0, 1, 180, 0, 238, 21, 5, 50, 29, 92, 46, 21, 6, 96, 79]
abbrev dktX1_build_5 : List UInt8 := dkwX1_build_5 ++ dktX1_build_6
def dkwX1_build_4 : List UInt8 := [180, 0, 238, 21, 5, 50, 29, 46, 21, 6, 96, 6, 164, 0, 9, 42, 2, 182, 0, 205, 172, 42, 27]
abbrev dktX1_build_4 : List UInt8 := dkwX1_build_4 ++ dktX1_build_5
def dkwX1_build_3 : List UInt8 := [28, 182, 1, 205, 54, 6, 42, 180, 0, 1, 29, 21, 5, 182, 1, 166, 153, 0, 22, 42, 180, 0, 1]
abbrev dktX1_build_3 : List UInt8 := dkwX1_build_3 ++ dktX1_build_4
def dkwX1_build_2 : List UInt8 := [160, 0, 7, 5, 167, 0, 13, 21, 4, 153, 0, 7, 4, 167, 0, 4, 3, 54, 5, 42, 27, 182, 1, 187]
abbrev dktX1_build_2 : List UInt8 := dkwX1_build_2 ++ dktX1_build_3
def dkwX1_build_1 : List UInt8 := [182, 1, 205, 153, 0, 11, 42, 29, 182, 1, 37, 154, 0, 9, 42, 2, 182, 0, 205, 172, 27, 4]
abbrev dktX1_build_1 : List UInt8 := dkwX1_build_1 ++ dktX1_build_2
def dkwX1_build_0 : List UInt8 := [27, 3, 4, 184, 0, 253, 153, 0, 32, 28, 3, 8, 184, 0, 253, 153, 0, 23, 42, 27, 182, 1, 187, 28]
abbrev dktX1_build_0 : List UInt8 := dkwX1_build_0 ++ dktX1_build_1
theorem dksX1_build_0 : cX1_build.data.toList.drop 0 = dktX1_build_0 := by decide +kernel
theorem dksX1_build_1 : cX1_build.data.toList.drop 24 = dktX1_build_1 := dk_seg dksX1_build_0 24 rfl rfl
theorem dksX1_build_2 : cX1_build.data.toList.drop 46 = dktX1_build_2 := dk_seg dksX1_build_1 22 rfl rfl
theorem dksX1_build_3 : cX1_build.data.toList.drop 70 = dktX1_build_3 := dk_seg dksX1_build_2 24 rfl rfl
theorem dksX1_build_4 : cX1_build.data.toList.drop 93 = dktX1_build_4 := dk_seg dksX1_build_3 23 rfl rfl
theorem dksX1_build_5 : cX1_build.data.toList.drop 116 = dktX1_build_5 := dk_seg dksX1_build_4 23 rfl rfl
theorem dksX1_build_6 : cX1_build.data.toList.drop 140 = dktX1_build_6 := dk_seg dksX1_build_5 24 rfl rfl
theorem dX1_build_0 : decode cX1_build 0 = .ok (.iload_n 1, 1) := dk_27 (dk_at dksX1_build_0 0 rfl rfl)
theorem dX1_build_1 : decode cX1_build 1 = .ok (.iconst 0, 1) := dk_3 (dk_at dksX1_build_0 1 rfl rfl)
theorem dX1_build_2 : decode cX1_build 2 = .ok (.iconst 1, 1) := dk_4 (dk_at dksX1_build_0 2 rfl rfl)
theorem dX1_build_3 : decode cX1_build 3 = .ok (.invokestatic 253, 3) := dk_184 0 253 (dk_at dksX1_build_0 3 rfl rfl)
theorem dX1_build_6 : decode cX1_build 6 = .ok (.ifCond .eq 32, 3) := dk_153 0 32 (dk_at dksX1_build_0 6 rfl rfl)
theorem dX1_build_9 : decode cX1_build 9 = .ok (.iload_n 2, 1) := dk_28 (dk_at dksX1_build_0 9 rfl rfl)
theorem dX1_build_10 : decode cX1_build 10 = .ok (.iconst 0, 1) := dk_3 (dk_at dksX1_build_0 10 rfl rfl)
theorem dX1_build_11 : decode cX1_build 11 = .ok (.iconst 5, 1) := dk_8 (dk_at dksX1_build_0 11 rfl rfl)
theorem dX1_build_12 : decode cX1_build 12 = .ok (.invokestatic 253, 3) := dk_184 0 253 (dk_at dksX1_build_0 12 rfl rfl)
theorem dX1_build_15 : decode cX1_build 15 = .ok (.ifCond .eq 23, 3) := dk_153 0 23 (dk_at dksX1_build_0 15 rfl rfl)
theorem dX1_build_18 : decode cX1_build 18 = .ok (.aload_n 0, 1) := dk_42 (dk_at dksX1_build_0 18 rfl rfl)
theorem dX1_build_19 : decode cX1_build 19 = .ok (.iload_n 1, 1) := dk_27 (dk_at dksX1_build_0 19 rfl rfl)
theorem dX1_build_20 : decode cX1_build 20 = .ok (.invokevirtual 443, 3) := dk_182 1 187 (dk_at dksX1_build_0 20 rfl rfl)
theorem dX1_build_23 : decode cX1_build 23 = .ok (.iload_n 2, 1) := dk_28 (dk_at dksX1_build_0 23 rfl rfl)
theorem dX1_build_24 : decode cX1_build 24 = .ok (.invokevirtual 461, 3) := dk_182 1 205 (dk_at dksX1_build_1 0 rfl rfl)
theorem dX1_build_27 : decode cX1_build 27 = .ok (.ifCond .eq 11, 3) := dk_153 0 11 (dk_at dksX1_build_1 3 rfl rfl)
theorem dX1_build_30 : decode cX1_build 30 = .ok (.aload_n 0, 1) := dk_42 (dk_at dksX1_build_1 6 rfl rfl)
theorem dX1_build_31 : decode cX1_build 31 = .ok (.iload_n 3, 1) := dk_29 (dk_at dksX1_build_1 7 rfl rfl)
theorem dX1_build_32 : decode cX1_build 32 = .ok (.invokevirtual 293, 3) := dk_182 1 37 (dk_at dksX1_build_1 8 rfl rfl)
theorem dX1_build_35 : decode cX1_build 35 = .ok (.ifCond .ne 9, 3) := dk_154 0 9 (dk_at dksX1_build_1 11 rfl rfl)
theorem dX1_build_38 : decode cX1_build 38 = .ok (.aload_n 0, 1) := dk_42 (dk_at dksX1_build_1 14 rfl rfl)
theorem dX1_build_39 : decode cX1_build 39 = .ok (.iconst (-1), 1) := dk_2 (dk_at dksX1_build_1 15 rfl rfl)
theorem dX1_build_40 : decode cX1_build 40 = .ok (.invokevirtual 205, 3) := dk_182 0 205 (dk_at dksX1_build_1 16 rfl rfl)
theorem dX1_build_43 : decode cX1_build 43 = .ok (.ireturn, 1) := dk_172 (dk_at dksX1_build_1 19 rfl rfl)
theorem dX1_build_44 : decode cX1_build 44 = .ok (.iload_n 1, 1) := dk_27 (dk_at dksX1_build_1 20 rfl rfl)
theorem dX1_build_45 : decode cX1_build 45 = .ok (.iconst 1, 1) := dk_4 (dk_at dksX1_build_1 21 rfl rfl)
theorem dX1_build_46 : decode cX1_build 46 = .ok (.if_icmp .ne 7, 3) := dk_160 0 7 (dk_at dksX1_build_2 0 rfl rfl)
theorem dX1_build_49 : decode cX1_build 49 = .ok (.iconst 2, 1) := dk_5 (dk_at dksX1_build_2 3 rfl rfl)
theorem dX1_build_50 : decode cX1_build 50 = .ok (.goto 13, 3) := dk_167 0 13 (dk_at dksX1_build_2 4 rfl rfl)
theorem dX1_build_53 : decode cX1_build 53 = .ok (.iload 4, 2) := dk_21 4 (dk_at dksX1_build_2 7 rfl rfl)
theorem dX1_build_55 : decode cX1_build 55 = .ok (.ifCond .eq 7, 3) := dk_153 0 7 (dk_at dksX1_build_2 9 rfl rfl)
theorem dX1_build_58 : decode cX1_build 58 = .ok (.iconst 1, 1) := dk_4 (dk_at dksX1_build_2 12 rfl rfl)
theorem dX1_build_59 : decode cX1_build 59 = .ok (.goto 4, 3) := dk_167 0 4 (dk_at dksX1_build_2 13 rfl rfl)
theorem dX1_build_62 : decode cX1_build 62 = .ok (.iconst 0, 1) := dk_3 (dk_at dksX1_build_2 16 rfl rfl)
theorem dX1_build_63 : decode cX1_build 63 = .ok (.istore 5, 2) := dk_54 5 (dk_at dksX1_build_2 17 rfl rfl)
theorem dX1_build_65 : decode cX1_build 65 = .ok (.aload_n 0, 1) := dk_42 (dk_at dksX1_build_2 19 rfl rfl)
theorem dX1_build_66 : decode cX1_build 66 = .ok (.iload_n 1, 1) := dk_27 (dk_at dksX1_build_2 20 rfl rfl)
theorem dX1_build_67 : decode cX1_build 67 = .ok (.invokevirtual 443, 3) := dk_182 1 187 (dk_at dksX1_build_2 21 rfl rfl)
theorem dX1_build_70 : decode cX1_build 70 = .ok (.iload_n 2, 1) := dk_28 (dk_at dksX1_build_3 0 rfl rfl)
theorem dX1_build_71 : decode cX1_build 71 = .ok (.invokevirtual 461, 3) := dk_182 1 205 (dk_at dksX1_build_3 1 rfl rfl)
theorem dX1_build_74 : decode cX1_build 74 = .ok (.istore 6, 2) := dk_54 6 (dk_at dksX1_build_3 4 rfl rfl)
theorem dX1_build_76 : decode cX1_build 76 = .ok (.aload_n 0, 1) := dk_42 (dk_at dksX1_build_3 6 rfl rfl)
theorem dX1_build_77 : decode cX1_build 77 = .ok (.getfield 1, 3) := dk_180 0 1 (dk_at dksX1_build_3 7 rfl rfl)
theorem dX1_build_80 : decode cX1_build 80 = .ok (.iload_n 3, 1) := dk_29 (dk_at dksX1_build_3 10 rfl rfl)
theorem dX1_build_81 : decode cX1_build 81 = .ok (.iload 5, 2) := dk_21 5 (dk_at dksX1_build_3 11 rfl rfl)
theorem dX1_build_83 : decode cX1_build 83 = .ok (.invokevirtual 422, 3) := dk_182 1 166 (dk_at dksX1_build_3 13 rfl rfl)
theorem dX1_build_86 : decode cX1_build 86 = .ok (.ifCond .eq 22, 3) := dk_153 0 22 (dk_at dksX1_build_3 16 rfl rfl)
theorem dX1_build_89 : decode cX1_build 89 = .ok (.aload_n 0, 1) := dk_42 (dk_at dksX1_build_3 19 rfl rfl)
theorem dX1_build_90 : decode cX1_build 90 = .ok (.getfield 1, 3) := dk_180 0 1 (dk_at dksX1_build_3 20 rfl rfl)
theorem dX1_build_93 : decode cX1_build 93 = .ok (.getfield 238, 3) := dk_180 0 238 (dk_at dksX1_build_4 0 rfl rfl)
theorem dX1_build_96 : decode cX1_build 96 = .ok (.iload 5, 2) := dk_21 5 (dk_at dksX1_build_4 3 rfl rfl)
theorem dX1_build_98 : decode cX1_build 98 = .ok (.aaload, 1) := dk_50 (dk_at dksX1_build_4 5 rfl rfl)
theorem dX1_build_99 : decode cX1_build 99 = .ok (.iload_n 3, 1) := dk_29 (dk_at dksX1_build_4 6 rfl rfl)
theorem dX1_build_100 : decode cX1_build 100 = .ok (.iaload, 1) := dk_46 (dk_at dksX1_build_4 7 rfl rfl)
theorem dX1_build_101 : decode cX1_build 101 = .ok (.iload 6, 2) := dk_21 6 (dk_at dksX1_build_4 8 rfl rfl)
theorem dX1_build_103 : decode cX1_build 103 = .ok (.iadd, 1) := dk_96 (dk_at dksX1_build_4 10 rfl rfl)
theorem dX1_build_104 : decode cX1_build 104 = .ok (.iconst 3, 1) := dk_6 (dk_at dksX1_build_4 11 rfl rfl)
theorem dX1_build_105 : decode cX1_build 105 = .ok (.if_icmp .le 9, 3) := dk_164 0 9 (dk_at dksX1_build_4 12 rfl rfl)
theorem dX1_build_108 : decode cX1_build 108 = .ok (.aload_n 0, 1) := dk_42 (dk_at dksX1_build_4 15 rfl rfl)
theorem dX1_build_109 : decode cX1_build 109 = .ok (.iconst (-1), 1) := dk_2 (dk_at dksX1_build_4 16 rfl rfl)
theorem dX1_build_110 : decode cX1_build 110 = .ok (.invokevirtual 205, 3) := dk_182 0 205 (dk_at dksX1_build_4 17 rfl rfl)
theorem dX1_build_113 : decode cX1_build 113 = .ok (.ireturn, 1) := dk_172 (dk_at dksX1_build_4 20 rfl rfl)
theorem dX1_build_114 : decode cX1_build 114 = .ok (.aload_n 0, 1) := dk_42 (dk_at dksX1_build_4 21 rfl rfl)
theorem dX1_build_115 : decode cX1_build 115 = .ok (.iload_n 1, 1) := dk_27 (dk_at dksX1_build_4 22 rfl rfl)
theorem dX1_build_116 : decode cX1_build 116 = .ok (.invokevirtual 443, 3) := dk_182 1 187 (dk_at dksX1_build_5 0 rfl rfl)
theorem dX1_build_119 : decode cX1_build 119 = .ok (.iload_n 2, 1) := dk_28 (dk_at dksX1_build_5 3 rfl rfl)
theorem dX1_build_120 : decode cX1_build 120 = .ok (.invokevirtual 464, 3) := dk_182 1 208 (dk_at dksX1_build_5 4 rfl rfl)
theorem dX1_build_123 : decode cX1_build 123 = .ok (.aload_n 0, 1) := dk_42 (dk_at dksX1_build_5 7 rfl rfl)
theorem dX1_build_124 : decode cX1_build 124 = .ok (.getfield 1, 3) := dk_180 0 1 (dk_at dksX1_build_5 8 rfl rfl)
theorem dX1_build_127 : decode cX1_build 127 = .ok (.getfield 238, 3) := dk_180 0 238 (dk_at dksX1_build_5 11 rfl rfl)
theorem dX1_build_130 : decode cX1_build 130 = .ok (.iload 5, 2) := dk_21 5 (dk_at dksX1_build_5 14 rfl rfl)
theorem dX1_build_132 : decode cX1_build 132 = .ok (.aaload, 1) := dk_50 (dk_at dksX1_build_5 16 rfl rfl)
theorem dX1_build_133 : decode cX1_build 133 = .ok (.iload_n 3, 1) := dk_29 (dk_at dksX1_build_5 17 rfl rfl)
theorem dX1_build_134 : decode cX1_build 134 = .ok (.dup2, 1) := dk_92 (dk_at dksX1_build_5 18 rfl rfl)
theorem dX1_build_135 : decode cX1_build 135 = .ok (.iaload, 1) := dk_46 (dk_at dksX1_build_5 19 rfl rfl)
theorem dX1_build_136 : decode cX1_build 136 = .ok (.iload 6, 2) := dk_21 6 (dk_at dksX1_build_5 20 rfl rfl)
theorem dX1_build_138 : decode cX1_build 138 = .ok (.iadd, 1) := dk_96 (dk_at dksX1_build_5 22 rfl rfl)
theorem dX1_build_139 : decode cX1_build 139 = .ok (.iastore, 1) := dk_79 (dk_at dksX1_build_5 23 rfl rfl)
theorem dX1_build_140 : decode cX1_build 140 = .ok (.aload_n 0, 1) := dk_42 (dk_at dksX1_build_6 0 rfl rfl)
theorem dX1_build_141 : decode cX1_build 141 = .ok (.getfield 1, 3) := dk_180 0 1 (dk_at dksX1_build_6 1 rfl rfl)
theorem dX1_build_144 : decode cX1_build 144 = .ok (.getfield 238, 3) := dk_180 0 238 (dk_at dksX1_build_6 4 rfl rfl)
theorem dX1_build_147 : decode cX1_build 147 = .ok (.iload 5, 2) := dk_21 5 (dk_at dksX1_build_6 7 rfl rfl)
theorem dX1_build_149 : decode cX1_build 149 = .ok (.aaload, 1) := dk_50 (dk_at dksX1_build_6 9 rfl rfl)
theorem dX1_build_150 : decode cX1_build 150 = .ok (.iload_n 3, 1) := dk_29 (dk_at dksX1_build_6 10 rfl rfl)
theorem dX1_build_151 : decode cX1_build 151 = .ok (.iaload, 1) := dk_46 (dk_at dksX1_build_6 11 rfl rfl)
theorem dX1_build_152 : decode cX1_build 152 = .ok (.ireturn, 1) := dk_172 (dk_at dksX1_build_6 12 rfl rfl)
def dkwX1_mesh_3 : List UInt8 := [180, 0, 227, 172]
abbrev dktX1_mesh_3 : List UInt8 := dkwX1_mesh_3 ++ []
def dkwX1_mesh_2 : List UInt8 := [3, 172, 77, 42, 44, 180, 0, 224, 181, 0, 162, 42, 180, 0, 158, 3, 92, 46, 4, 96, 79, 44]
abbrev dktX1_mesh_2 : List UInt8 := dkwX1_mesh_2 ++ dktX1_mesh_3
def dkwX1_mesh_1 : List UInt8 := [181, 0, 202, 42, 2, 181, 0, 162, 42, 187, 0, 214, 89, 42, 27, 183, 0, 216, 182, 0, 219, 181, 0, 1]
abbrev dktX1_mesh_1 : List UInt8 := dkwX1_mesh_1 ++ dktX1_mesh_2
def dkwX1_mesh_0 : List UInt8 := [27, 155, 0, 15, 27, 42, 180, 0, 202, 163, 0, 7, 4, 167, 0, 4, 3, 184, 0, 211, 42, 3]
abbrev dktX1_mesh_0 : List UInt8 := dkwX1_mesh_0 ++ dktX1_mesh_1
theorem dksX1_mesh_0 : cX1_mesh.data.toList.drop 0 = dktX1_mesh_0 := by decide +kernel
theorem dksX1_mesh_1 : cX1_mesh.data.toList.drop 22 = dktX1_mesh_1 := dk_seg dksX1_mesh_0 22 rfl rfl
theorem dksX1_mesh_2 : cX1_mesh.data.toList.drop 46 = dktX1_mesh_2 := dk_seg dksX1_mesh_1 24 rfl rfl
theorem dksX1_mesh_3 : cX1_mesh.data.toList.drop 68 = dktX1_mesh_3 := dk_seg dksX1_mesh_2 22 rfl rfl
theorem dX1_mesh_0 : decode cX1_mesh 0 = .ok (.iload_n 1, 1) := dk_27 (dk_at dksX1_mesh_0 0 rfl rfl)
theorem dX1_mesh_1 : decode cX1_mesh 1 = .ok (.ifCond .lt 15, 3) := dk_155 0 15 (dk_at dksX1_mesh_0 1 rfl rfl)
theorem dX1_mesh_4 : decode cX1_mesh 4 = .ok (.iload_n 1, 1) := dk_27 (dk_at dksX1_mesh_0 4 rfl rfl)
theorem dX1_mesh_5 : decode cX1_mesh 5 = .ok (.aload_n 0, 1) := dk_42 (dk_at dksX1_mesh_0 5 rfl rfl)
theorem dX1_mesh_6 : decode cX1_mesh 6 = .ok (.getfield 202, 3) := dk_180 0 202 (dk_at dksX1_mesh_0 6 rfl rfl)
theorem dX1_mesh_9 : decode cX1_mesh 9 = .ok (.if_icmp .gt 7, 3) := dk_163 0 7 (dk_at dksX1_mesh_0 9 rfl rfl)
theorem dX1_mesh_12 : decode cX1_mesh 12 = .ok (.iconst 1, 1) := dk_4 (dk_at dksX1_mesh_0 12 rfl rfl)
theorem dX1_mesh_13 : decode cX1_mesh 13 = .ok (.goto 4, 3) := dk_167 0 4 (dk_at dksX1_mesh_0 13 rfl rfl)
theorem dX1_mesh_16 : decode cX1_mesh 16 = .ok (.iconst 0, 1) := dk_3 (dk_at dksX1_mesh_0 16 rfl rfl)
theorem dX1_mesh_17 : decode cX1_mesh 17 = .ok (.invokestatic 211, 3) := dk_184 0 211 (dk_at dksX1_mesh_0 17 rfl rfl)
theorem dX1_mesh_20 : decode cX1_mesh 20 = .ok (.aload_n 0, 1) := dk_42 (dk_at dksX1_mesh_0 20 rfl rfl)
theorem dX1_mesh_21 : decode cX1_mesh 21 = .ok (.iconst 0, 1) := dk_3 (dk_at dksX1_mesh_0 21 rfl rfl)
theorem dX1_mesh_22 : decode cX1_mesh 22 = .ok (.putfield 202, 3) := dk_181 0 202 (dk_at dksX1_mesh_1 0 rfl rfl)
theorem dX1_mesh_25 : decode cX1_mesh 25 = .ok (.aload_n 0, 1) := dk_42 (dk_at dksX1_mesh_1 3 rfl rfl)
theorem dX1_mesh_26 : decode cX1_mesh 26 = .ok (.iconst (-1), 1) := dk_2 (dk_at dksX1_mesh_1 4 rfl rfl)
theorem dX1_mesh_27 : decode cX1_mesh 27 = .ok (.putfield 162, 3) := dk_181 0 162 (dk_at dksX1_mesh_1 5 rfl rfl)
theorem dX1_mesh_30 : decode cX1_mesh 30 = .ok (.aload_n 0, 1) := dk_42 (dk_at dksX1_mesh_1 8 rfl rfl)
theorem dX1_mesh_31 : decode cX1_mesh 31 = .ok (.new 214, 3) := dk_187 0 214 (dk_at dksX1_mesh_1 9 rfl rfl)
theorem dX1_mesh_34 : decode cX1_mesh 34 = .ok (.dup, 1) := dk_89 (dk_at dksX1_mesh_1 12 rfl rfl)
theorem dX1_mesh_35 : decode cX1_mesh 35 = .ok (.aload_n 0, 1) := dk_42 (dk_at dksX1_mesh_1 13 rfl rfl)
theorem dX1_mesh_36 : decode cX1_mesh 36 = .ok (.iload_n 1, 1) := dk_27 (dk_at dksX1_mesh_1 14 rfl rfl)
theorem dX1_mesh_37 : decode cX1_mesh 37 = .ok (.invokespecial 216, 3) := dk_183 0 216 (dk_at dksX1_mesh_1 15 rfl rfl)
theorem dX1_mesh_40 : decode cX1_mesh 40 = .ok (.invokevirtual 219, 3) := dk_182 0 219 (dk_at dksX1_mesh_1 18 rfl rfl)
theorem dX1_mesh_43 : decode cX1_mesh 43 = .ok (.putfield 1, 3) := dk_181 0 1 (dk_at dksX1_mesh_1 21 rfl rfl)
theorem dX1_mesh_46 : decode cX1_mesh 46 = .ok (.iconst 0, 1) := dk_3 (dk_at dksX1_mesh_2 0 rfl rfl)
theorem dX1_mesh_47 : decode cX1_mesh 47 = .ok (.ireturn, 1) := dk_172 (dk_at dksX1_mesh_2 1 rfl rfl)
theorem dX1_mesh_48 : decode cX1_mesh 48 = .ok (.astore_n 2, 1) := dk_77 (dk_at dksX1_mesh_2 2 rfl rfl)
theorem dX1_mesh_49 : decode cX1_mesh 49 = .ok (.aload_n 0, 1) := dk_42 (dk_at dksX1_mesh_2 3 rfl rfl)
theorem dX1_mesh_50 : decode cX1_mesh 50 = .ok (.aload_n 2, 1) := dk_44 (dk_at dksX1_mesh_2 4 rfl rfl)
theorem dX1_mesh_51 : decode cX1_mesh 51 = .ok (.getfield 224, 3) := dk_180 0 224 (dk_at dksX1_mesh_2 5 rfl rfl)
theorem dX1_mesh_54 : decode cX1_mesh 54 = .ok (.putfield 162, 3) := dk_181 0 162 (dk_at dksX1_mesh_2 8 rfl rfl)
theorem dX1_mesh_57 : decode cX1_mesh 57 = .ok (.aload_n 0, 1) := dk_42 (dk_at dksX1_mesh_2 11 rfl rfl)
theorem dX1_mesh_58 : decode cX1_mesh 58 = .ok (.getfield 158, 3) := dk_180 0 158 (dk_at dksX1_mesh_2 12 rfl rfl)
theorem dX1_mesh_61 : decode cX1_mesh 61 = .ok (.iconst 0, 1) := dk_3 (dk_at dksX1_mesh_2 15 rfl rfl)
theorem dX1_mesh_62 : decode cX1_mesh 62 = .ok (.dup2, 1) := dk_92 (dk_at dksX1_mesh_2 16 rfl rfl)
theorem dX1_mesh_63 : decode cX1_mesh 63 = .ok (.iaload, 1) := dk_46 (dk_at dksX1_mesh_2 17 rfl rfl)
theorem dX1_mesh_64 : decode cX1_mesh 64 = .ok (.iconst 1, 1) := dk_4 (dk_at dksX1_mesh_2 18 rfl rfl)
theorem dX1_mesh_65 : decode cX1_mesh 65 = .ok (.iadd, 1) := dk_96 (dk_at dksX1_mesh_2 19 rfl rfl)
theorem dX1_mesh_66 : decode cX1_mesh 66 = .ok (.iastore, 1) := dk_79 (dk_at dksX1_mesh_2 20 rfl rfl)
theorem dX1_mesh_67 : decode cX1_mesh 67 = .ok (.aload_n 2, 1) := dk_44 (dk_at dksX1_mesh_2 21 rfl rfl)
theorem dX1_mesh_68 : decode cX1_mesh 68 = .ok (.getfield 227, 3) := dk_180 0 227 (dk_at dksX1_mesh_3 0 rfl rfl)
theorem dX1_mesh_71 : decode cX1_mesh 71 = .ok (.ireturn, 1) := dk_172 (dk_at dksX1_mesh_3 3 rfl rfl)
def dkwX1_right_0 : List UInt8 := [26, 154, 0, 11, 187, 0, 196, 89, 183, 0, 198, 191, 177]
abbrev dktX1_right_0 : List UInt8 := dkwX1_right_0 ++ []
theorem dksX1_right_0 : cX1_right.data.toList.drop 0 = dktX1_right_0 := by decide +kernel
theorem dX1_right_0 : decode cX1_right 0 = .ok (.iload_n 0, 1) := dk_26 (dk_at dksX1_right_0 0 rfl rfl)
theorem dX1_right_1 : decode cX1_right 1 = .ok (.ifCond .ne 11, 3) := dk_154 0 11 (dk_at dksX1_right_0 1 rfl rfl)
theorem dX1_right_4 : decode cX1_right 4 = .ok (.new 196, 3) := dk_187 0 196 (dk_at dksX1_right_0 4 rfl rfl)
theorem dX1_right_7 : decode cX1_right 7 = .ok (.dup, 1) := dk_89 (dk_at dksX1_right_0 7 rfl rfl)
theorem dX1_right_8 : decode cX1_right 8 = .ok (.invokespecial 198, 3) := dk_183 0 198 (dk_at dksX1_right_0 8 rfl rfl)
theorem dX1_right_11 : decode cX1_right 11 = .ok (.athrow, 1) := dk_191 (dk_at dksX1_right_0 11 rfl rfl)
theorem dX1_right_12 : decode cX1_right 12 = .ok (.return_, 1) := dk_177 (dk_at dksX1_right_0 12 rfl rfl)
def dkwX1_count_12 : List UInt8 := [3, 182, 1, 34, 167, 0, 12, 42, 180, 0, 158, 27, 16, 14, 100, 46, 172]
abbrev dktX1_count_12 : List UInt8 := dkwX1_count_12 ++ []
def dkwX1_count_11 : List UInt8 := [182, 1, 29, 167, 0, 37, 42, 182, 1, 31, 167, 0, 30, 42, 27, 16, 24, 160, 0, 7, 4, 167, 0, 4]
abbrev dktX1_count_11 : List UInt8 := dkwX1_count_11 ++ dktX1_count_12
def dkwX1_count_10 : List UInt8 := [160, 0, 7, 4, 167, 0, 4, 3, 182, 1, 23, 167, 0, 51, 42, 182, 1, 27, 167, 0, 44, 42]
abbrev dktX1_count_10 : List UInt8 := dkwX1_count_10 ++ dktX1_count_11
def dkwX1_count_9 : List UInt8 := [167, 0, 86, 42, 180, 0, 1, 180, 1, 17, 167, 0, 76, 42, 182, 1, 20, 167, 0, 69, 42, 27, 16, 19]
abbrev dktX1_count_9 : List UInt8 := dkwX1_count_9 ++ dktX1_count_10
def dkwX1_count_8 : List UInt8 := [153, 0, 7, 4, 167, 0, 104, 3, 167, 0, 100, 42, 182, 1, 14, 167, 0, 93, 42, 180, 0, 202]
abbrev dktX1_count_8 : List UInt8 := dkwX1_count_8 ++ dktX1_count_9
def dkwX1_count_7 : List UInt8 := [180, 0, 7, 182, 0, 13, 182, 0, 20, 153, 0, 7, 4, 167, 0, 119, 3, 167, 0, 115, 42, 182, 1, 10]
abbrev dktX1_count_7 : List UInt8 := dkwX1_count_7 ++ dktX1_count_8
def dkwX1_count_6 : List UInt8 := [180, 0, 1, 180, 0, 7, 182, 0, 13, 167, 0, 147, 42, 180, 0, 1, 42, 180, 0, 1, 42, 180, 0, 1]
abbrev dktX1_count_6 : List UInt8 := dkwX1_count_6 ++ dktX1_count_7
def dkwX1_count_5 : List UInt8 := [180, 0, 1, 180, 1, 4, 167, 0, 174, 42, 180, 0, 1, 180, 1, 7, 167, 0, 164, 42, 180, 0, 1, 42]
abbrev dktX1_count_5 : List UInt8 := dkwX1_count_5 ++ dktX1_count_6
def dkwX1_count_4 : List UInt8 := [167, 0, 204, 42, 180, 0, 1, 180, 0, 134, 167, 0, 194, 42, 180, 0, 1, 180, 0, 140, 167, 0, 184, 42]
abbrev dktX1_count_4 : List UInt8 := dkwX1_count_4 ++ dktX1_count_5
def dkwX1_count_3 : List UInt8 := [180, 0, 7, 167, 0, 224, 42, 180, 0, 1, 180, 0, 59, 167, 0, 214, 42, 180, 0, 1, 180, 0, 90]
abbrev dktX1_count_3 : List UInt8 := dkwX1_count_3 ++ dktX1_count_4
def dkwX1_count_2 : List UInt8 := [42, 180, 0, 1, 180, 0, 77, 167, 0, 244, 42, 180, 0, 1, 180, 0, 83, 167, 0, 234, 42, 180, 0, 1]
abbrev dktX1_count_2 : List UInt8 := dkwX1_count_2 ++ dktX1_count_3
def dkwX1_count_1 : List UInt8 := [170, 0, 0, 1, 99, 0, 0, 0, 0, 0, 0, 0, 24, 0, 0, 0, 113, 0, 0, 0, 123, 0, 0, 0, 133, 0, 0, 0, 143, 0, 0, 0, 153, 0, 0, 0, 163, 0, 0, 0, 173, 0, 0, 0, 183, 0, 0, 0, 193, 0, 0, 0, 203, 0, 0, 0, 220, 0, 0, 0, 252, 0, 0, 1, 11, 0, 0, 1, 18, 0, 0, 1, 99, 0, 0, 1, 99, 0, 0, 1, 25, 0, 0, 1, 35, 0, 0, 1, 42, 0, 0, 1, 42, 0, 0, 1, 60, 0, 0, 1, 67, 0, 0, 1, 74, 0, 0, 1, 81, 0, 0, 1, 81]
abbrev dktX1_count_1 : List UInt8 := dkwX1_count_1 ++ dktX1_count_2
def dkwX1_count_0 : List UInt8 := [27, 3, 16, 24, 184, 0, 253, 184, 1, 1, 27]
abbrev dktX1_count_0 : List UInt8 := dkwX1_count_0 ++ dktX1_count_1
theorem dksX1_count_0 : cX1_count.data.toList.drop 0 = dktX1_count_0 := by decide +kernel
theorem dksX1_count_1 : cX1_count.data.toList.drop 11 = dktX1_count_1 := dk_seg dksX1_count_0 11 rfl rfl
theorem dksX1_count_2 : cX1_count.data.toList.drop 124 = dktX1_count_2 := dk_seg dksX1_count_1 113 rfl rfl
theorem dksX1_count_3 : cX1_count.data.toList.drop 148 = dktX1_count_3 := dk_seg dksX1_count_2 24 rfl rfl
theorem dksX1_count_4 : cX1_count.data.toList.drop 171 = dktX1_count_4 := dk_seg dksX1_count_3 23 rfl rfl
theorem dksX1_count_5 : cX1_count.data.toList.drop 195 = dktX1_count_5 := dk_seg dksX1_count_4 24 rfl rfl
theorem dksX1_count_6 : cX1_count.data.toList.drop 219 = dktX1_count_6 := dk_seg dksX1_count_5 24 rfl rfl
theorem dksX1_count_7 : cX1_count.data.toList.drop 243 = dktX1_count_7 := dk_seg dksX1_count_6 24 rfl rfl
theorem dksX1_count_8 : cX1_count.data.toList.drop 267 = dktX1_count_8 := dk_seg dksX1_count_7 24 rfl rfl
theorem dksX1_count_9 : cX1_count.data.toList.drop 289 = dktX1_count_9 := dk_seg dksX1_count_8 22 rfl rfl
theorem dksX1_count_10 : cX1_count.data.toList.drop 313 = dktX1_count_10 := dk_seg dksX1_count_9 24 rfl rfl
theorem dksX1_count_11 : cX1_count.data.toList.drop 335 = dktX1_count_11 := dk_seg dksX1_count_10 22 rfl rfl
theorem dksX1_count_12 : cX1_count.data.toList.drop 359 = dktX1_count_12 := dk_seg dksX1_count_11 24 rfl rfl
theorem dX1_count_0 : decode cX1_count 0 = .ok (.iload_n 1, 1) := dk_27 (dk_at dksX1_count_0 0 rfl rfl)
theorem dX1_count_1 : decode cX1_count 1 = .ok (.iconst 0, 1) := dk_3 (dk_at dksX1_count_0 1 rfl rfl)
theorem dX1_count_2 : decode cX1_count 2 = .ok (.bipush 24, 2) := dk_16 24 (dk_at dksX1_count_0 2 rfl rfl)
theorem dX1_count_4 : decode cX1_count 4 = .ok (.invokestatic 253, 3) := dk_184 0 253 (dk_at dksX1_count_0 4 rfl rfl)
theorem dX1_count_7 : decode cX1_count 7 = .ok (.invokestatic 257, 3) := dk_184 1 1 (dk_at dksX1_count_0 7 rfl rfl)
theorem dX1_count_10 : decode cX1_count 10 = .ok (.iload_n 1, 1) := dk_27 (dk_at dksX1_count_0 10 rfl rfl)
theorem dX1_count_11 : decode cX1_count 11 = .ok (.tableswitch 355 0 24 #[113, 123, 133, 143, 153, 163, 173, 183, 193, 203, 220, 252, 267, 274, 355, 355, 281, 291, 298, 298, 316, 323, 330, 337, 337], 113) := by decide +kernel
theorem dX1_count_124 : decode cX1_count 124 = .ok (.aload_n 0, 1) := dk_42 (dk_at dksX1_count_2 0 rfl rfl)
theorem dX1_count_125 : decode cX1_count 125 = .ok (.getfield 1, 3) := dk_180 0 1 (dk_at dksX1_count_2 1 rfl rfl)
theorem dX1_count_128 : decode cX1_count 128 = .ok (.getfield 77, 3) := dk_180 0 77 (dk_at dksX1_count_2 4 rfl rfl)
theorem dX1_count_131 : decode cX1_count 131 = .ok (.goto 244, 3) := dk_167 0 244 (dk_at dksX1_count_2 7 rfl rfl)
theorem dX1_count_134 : decode cX1_count 134 = .ok (.aload_n 0, 1) := dk_42 (dk_at dksX1_count_2 10 rfl rfl)
theorem dX1_count_135 : decode cX1_count 135 = .ok (.getfield 1, 3) := dk_180 0 1 (dk_at dksX1_count_2 11 rfl rfl)
theorem dX1_count_138 : decode cX1_count 138 = .ok (.getfield 83, 3) := dk_180 0 83 (dk_at dksX1_count_2 14 rfl rfl)
theorem dX1_count_141 : decode cX1_count 141 = .ok (.goto 234, 3) := dk_167 0 234 (dk_at dksX1_count_2 17 rfl rfl)
theorem dX1_count_144 : decode cX1_count 144 = .ok (.aload_n 0, 1) := dk_42 (dk_at dksX1_count_2 20 rfl rfl)
theorem dX1_count_145 : decode cX1_count 145 = .ok (.getfield 1, 3) := dk_180 0 1 (dk_at dksX1_count_2 21 rfl rfl)
theorem dX1_count_148 : decode cX1_count 148 = .ok (.getfield 7, 3) := dk_180 0 7 (dk_at dksX1_count_3 0 rfl rfl)
theorem dX1_count_151 : decode cX1_count 151 = .ok (.goto 224, 3) := dk_167 0 224 (dk_at dksX1_count_3 3 rfl rfl)
theorem dX1_count_154 : decode cX1_count 154 = .ok (.aload_n 0, 1) := dk_42 (dk_at dksX1_count_3 6 rfl rfl)
theorem dX1_count_155 : decode cX1_count 155 = .ok (.getfield 1, 3) := dk_180 0 1 (dk_at dksX1_count_3 7 rfl rfl)
theorem dX1_count_158 : decode cX1_count 158 = .ok (.getfield 59, 3) := dk_180 0 59 (dk_at dksX1_count_3 10 rfl rfl)
theorem dX1_count_161 : decode cX1_count 161 = .ok (.goto 214, 3) := dk_167 0 214 (dk_at dksX1_count_3 13 rfl rfl)
theorem dX1_count_164 : decode cX1_count 164 = .ok (.aload_n 0, 1) := dk_42 (dk_at dksX1_count_3 16 rfl rfl)
theorem dX1_count_165 : decode cX1_count 165 = .ok (.getfield 1, 3) := dk_180 0 1 (dk_at dksX1_count_3 17 rfl rfl)
theorem dX1_count_168 : decode cX1_count 168 = .ok (.getfield 90, 3) := dk_180 0 90 (dk_at dksX1_count_3 20 rfl rfl)
theorem dX1_count_171 : decode cX1_count 171 = .ok (.goto 204, 3) := dk_167 0 204 (dk_at dksX1_count_4 0 rfl rfl)
theorem dX1_count_174 : decode cX1_count 174 = .ok (.aload_n 0, 1) := dk_42 (dk_at dksX1_count_4 3 rfl rfl)
theorem dX1_count_175 : decode cX1_count 175 = .ok (.getfield 1, 3) := dk_180 0 1 (dk_at dksX1_count_4 4 rfl rfl)
theorem dX1_count_178 : decode cX1_count 178 = .ok (.getfield 134, 3) := dk_180 0 134 (dk_at dksX1_count_4 7 rfl rfl)
theorem dX1_count_181 : decode cX1_count 181 = .ok (.goto 194, 3) := dk_167 0 194 (dk_at dksX1_count_4 10 rfl rfl)
theorem dX1_count_184 : decode cX1_count 184 = .ok (.aload_n 0, 1) := dk_42 (dk_at dksX1_count_4 13 rfl rfl)
theorem dX1_count_185 : decode cX1_count 185 = .ok (.getfield 1, 3) := dk_180 0 1 (dk_at dksX1_count_4 14 rfl rfl)
theorem dX1_count_188 : decode cX1_count 188 = .ok (.getfield 140, 3) := dk_180 0 140 (dk_at dksX1_count_4 17 rfl rfl)
theorem dX1_count_191 : decode cX1_count 191 = .ok (.goto 184, 3) := dk_167 0 184 (dk_at dksX1_count_4 20 rfl rfl)
theorem dX1_count_194 : decode cX1_count 194 = .ok (.aload_n 0, 1) := dk_42 (dk_at dksX1_count_4 23 rfl rfl)
theorem dX1_count_195 : decode cX1_count 195 = .ok (.getfield 1, 3) := dk_180 0 1 (dk_at dksX1_count_5 0 rfl rfl)
theorem dX1_count_198 : decode cX1_count 198 = .ok (.getfield 260, 3) := dk_180 1 4 (dk_at dksX1_count_5 3 rfl rfl)
theorem dX1_count_201 : decode cX1_count 201 = .ok (.goto 174, 3) := dk_167 0 174 (dk_at dksX1_count_5 6 rfl rfl)
theorem dX1_count_204 : decode cX1_count 204 = .ok (.aload_n 0, 1) := dk_42 (dk_at dksX1_count_5 9 rfl rfl)
theorem dX1_count_205 : decode cX1_count 205 = .ok (.getfield 1, 3) := dk_180 0 1 (dk_at dksX1_count_5 10 rfl rfl)
theorem dX1_count_208 : decode cX1_count 208 = .ok (.getfield 263, 3) := dk_180 1 7 (dk_at dksX1_count_5 13 rfl rfl)
theorem dX1_count_211 : decode cX1_count 211 = .ok (.goto 164, 3) := dk_167 0 164 (dk_at dksX1_count_5 16 rfl rfl)
theorem dX1_count_214 : decode cX1_count 214 = .ok (.aload_n 0, 1) := dk_42 (dk_at dksX1_count_5 19 rfl rfl)
theorem dX1_count_215 : decode cX1_count 215 = .ok (.getfield 1, 3) := dk_180 0 1 (dk_at dksX1_count_5 20 rfl rfl)
theorem dX1_count_218 : decode cX1_count 218 = .ok (.aload_n 0, 1) := dk_42 (dk_at dksX1_count_5 23 rfl rfl)
theorem dX1_count_219 : decode cX1_count 219 = .ok (.getfield 1, 3) := dk_180 0 1 (dk_at dksX1_count_6 0 rfl rfl)
theorem dX1_count_222 : decode cX1_count 222 = .ok (.getfield 7, 3) := dk_180 0 7 (dk_at dksX1_count_6 3 rfl rfl)
theorem dX1_count_225 : decode cX1_count 225 = .ok (.invokevirtual 13, 3) := dk_182 0 13 (dk_at dksX1_count_6 6 rfl rfl)
theorem dX1_count_228 : decode cX1_count 228 = .ok (.goto 147, 3) := dk_167 0 147 (dk_at dksX1_count_6 9 rfl rfl)
theorem dX1_count_231 : decode cX1_count 231 = .ok (.aload_n 0, 1) := dk_42 (dk_at dksX1_count_6 12 rfl rfl)
theorem dX1_count_232 : decode cX1_count 232 = .ok (.getfield 1, 3) := dk_180 0 1 (dk_at dksX1_count_6 13 rfl rfl)
theorem dX1_count_235 : decode cX1_count 235 = .ok (.aload_n 0, 1) := dk_42 (dk_at dksX1_count_6 16 rfl rfl)
theorem dX1_count_236 : decode cX1_count 236 = .ok (.getfield 1, 3) := dk_180 0 1 (dk_at dksX1_count_6 17 rfl rfl)
theorem dX1_count_239 : decode cX1_count 239 = .ok (.aload_n 0, 1) := dk_42 (dk_at dksX1_count_6 20 rfl rfl)
theorem dX1_count_240 : decode cX1_count 240 = .ok (.getfield 1, 3) := dk_180 0 1 (dk_at dksX1_count_6 21 rfl rfl)
theorem dX1_count_243 : decode cX1_count 243 = .ok (.getfield 7, 3) := dk_180 0 7 (dk_at dksX1_count_7 0 rfl rfl)
theorem dX1_count_246 : decode cX1_count 246 = .ok (.invokevirtual 13, 3) := dk_182 0 13 (dk_at dksX1_count_7 3 rfl rfl)
theorem dX1_count_249 : decode cX1_count 249 = .ok (.invokevirtual 20, 3) := dk_182 0 20 (dk_at dksX1_count_7 6 rfl rfl)
theorem dX1_count_252 : decode cX1_count 252 = .ok (.ifCond .eq 7, 3) := dk_153 0 7 (dk_at dksX1_count_7 9 rfl rfl)
theorem dX1_count_255 : decode cX1_count 255 = .ok (.iconst 1, 1) := dk_4 (dk_at dksX1_count_7 12 rfl rfl)
theorem dX1_count_256 : decode cX1_count 256 = .ok (.goto 119, 3) := dk_167 0 119 (dk_at dksX1_count_7 13 rfl rfl)
theorem dX1_count_259 : decode cX1_count 259 = .ok (.iconst 0, 1) := dk_3 (dk_at dksX1_count_7 16 rfl rfl)
theorem dX1_count_260 : decode cX1_count 260 = .ok (.goto 115, 3) := dk_167 0 115 (dk_at dksX1_count_7 17 rfl rfl)
theorem dX1_count_263 : decode cX1_count 263 = .ok (.aload_n 0, 1) := dk_42 (dk_at dksX1_count_7 20 rfl rfl)
theorem dX1_count_264 : decode cX1_count 264 = .ok (.invokevirtual 266, 3) := dk_182 1 10 (dk_at dksX1_count_7 21 rfl rfl)
theorem dX1_count_267 : decode cX1_count 267 = .ok (.ifCond .eq 7, 3) := dk_153 0 7 (dk_at dksX1_count_8 0 rfl rfl)
theorem dX1_count_270 : decode cX1_count 270 = .ok (.iconst 1, 1) := dk_4 (dk_at dksX1_count_8 3 rfl rfl)
theorem dX1_count_271 : decode cX1_count 271 = .ok (.goto 104, 3) := dk_167 0 104 (dk_at dksX1_count_8 4 rfl rfl)
theorem dX1_count_274 : decode cX1_count 274 = .ok (.iconst 0, 1) := dk_3 (dk_at dksX1_count_8 7 rfl rfl)
theorem dX1_count_275 : decode cX1_count 275 = .ok (.goto 100, 3) := dk_167 0 100 (dk_at dksX1_count_8 8 rfl rfl)
theorem dX1_count_278 : decode cX1_count 278 = .ok (.aload_n 0, 1) := dk_42 (dk_at dksX1_count_8 11 rfl rfl)
theorem dX1_count_279 : decode cX1_count 279 = .ok (.invokevirtual 270, 3) := dk_182 1 14 (dk_at dksX1_count_8 12 rfl rfl)
theorem dX1_count_282 : decode cX1_count 282 = .ok (.goto 93, 3) := dk_167 0 93 (dk_at dksX1_count_8 15 rfl rfl)
theorem dX1_count_285 : decode cX1_count 285 = .ok (.aload_n 0, 1) := dk_42 (dk_at dksX1_count_8 18 rfl rfl)
theorem dX1_count_286 : decode cX1_count 286 = .ok (.getfield 202, 3) := dk_180 0 202 (dk_at dksX1_count_8 19 rfl rfl)
theorem dX1_count_289 : decode cX1_count 289 = .ok (.goto 86, 3) := dk_167 0 86 (dk_at dksX1_count_9 0 rfl rfl)
theorem dX1_count_292 : decode cX1_count 292 = .ok (.aload_n 0, 1) := dk_42 (dk_at dksX1_count_9 3 rfl rfl)
theorem dX1_count_293 : decode cX1_count 293 = .ok (.getfield 1, 3) := dk_180 0 1 (dk_at dksX1_count_9 4 rfl rfl)
theorem dX1_count_296 : decode cX1_count 296 = .ok (.getfield 273, 3) := dk_180 1 17 (dk_at dksX1_count_9 7 rfl rfl)
theorem dX1_count_299 : decode cX1_count 299 = .ok (.goto 76, 3) := dk_167 0 76 (dk_at dksX1_count_9 10 rfl rfl)
theorem dX1_count_302 : decode cX1_count 302 = .ok (.aload_n 0, 1) := dk_42 (dk_at dksX1_count_9 13 rfl rfl)
theorem dX1_count_303 : decode cX1_count 303 = .ok (.invokevirtual 276, 3) := dk_182 1 20 (dk_at dksX1_count_9 14 rfl rfl)
theorem dX1_count_306 : decode cX1_count 306 = .ok (.goto 69, 3) := dk_167 0 69 (dk_at dksX1_count_9 17 rfl rfl)
theorem dX1_count_309 : decode cX1_count 309 = .ok (.aload_n 0, 1) := dk_42 (dk_at dksX1_count_9 20 rfl rfl)
theorem dX1_count_310 : decode cX1_count 310 = .ok (.iload_n 1, 1) := dk_27 (dk_at dksX1_count_9 21 rfl rfl)
theorem dX1_count_311 : decode cX1_count 311 = .ok (.bipush 19, 2) := dk_16 19 (dk_at dksX1_count_9 22 rfl rfl)
theorem dX1_count_313 : decode cX1_count 313 = .ok (.if_icmp .ne 7, 3) := dk_160 0 7 (dk_at dksX1_count_10 0 rfl rfl)
theorem dX1_count_316 : decode cX1_count 316 = .ok (.iconst 1, 1) := dk_4 (dk_at dksX1_count_10 3 rfl rfl)
theorem dX1_count_317 : decode cX1_count 317 = .ok (.goto 4, 3) := dk_167 0 4 (dk_at dksX1_count_10 4 rfl rfl)
theorem dX1_count_320 : decode cX1_count 320 = .ok (.iconst 0, 1) := dk_3 (dk_at dksX1_count_10 7 rfl rfl)
theorem dX1_count_321 : decode cX1_count 321 = .ok (.invokevirtual 279, 3) := dk_182 1 23 (dk_at dksX1_count_10 8 rfl rfl)
theorem dX1_count_324 : decode cX1_count 324 = .ok (.goto 51, 3) := dk_167 0 51 (dk_at dksX1_count_10 11 rfl rfl)
theorem dX1_count_327 : decode cX1_count 327 = .ok (.aload_n 0, 1) := dk_42 (dk_at dksX1_count_10 14 rfl rfl)
theorem dX1_count_328 : decode cX1_count 328 = .ok (.invokevirtual 283, 3) := dk_182 1 27 (dk_at dksX1_count_10 15 rfl rfl)
theorem dX1_count_331 : decode cX1_count 331 = .ok (.goto 44, 3) := dk_167 0 44 (dk_at dksX1_count_10 18 rfl rfl)
theorem dX1_count_334 : decode cX1_count 334 = .ok (.aload_n 0, 1) := dk_42 (dk_at dksX1_count_10 21 rfl rfl)
theorem dX1_count_335 : decode cX1_count 335 = .ok (.invokevirtual 285, 3) := dk_182 1 29 (dk_at dksX1_count_11 0 rfl rfl)
theorem dX1_count_338 : decode cX1_count 338 = .ok (.goto 37, 3) := dk_167 0 37 (dk_at dksX1_count_11 3 rfl rfl)
theorem dX1_count_341 : decode cX1_count 341 = .ok (.aload_n 0, 1) := dk_42 (dk_at dksX1_count_11 6 rfl rfl)
theorem dX1_count_342 : decode cX1_count 342 = .ok (.invokevirtual 287, 3) := dk_182 1 31 (dk_at dksX1_count_11 7 rfl rfl)
theorem dX1_count_345 : decode cX1_count 345 = .ok (.goto 30, 3) := dk_167 0 30 (dk_at dksX1_count_11 10 rfl rfl)
theorem dX1_count_348 : decode cX1_count 348 = .ok (.aload_n 0, 1) := dk_42 (dk_at dksX1_count_11 13 rfl rfl)
theorem dX1_count_349 : decode cX1_count 349 = .ok (.iload_n 1, 1) := dk_27 (dk_at dksX1_count_11 14 rfl rfl)
theorem dX1_count_350 : decode cX1_count 350 = .ok (.bipush 24, 2) := dk_16 24 (dk_at dksX1_count_11 15 rfl rfl)
theorem dX1_count_352 : decode cX1_count 352 = .ok (.if_icmp .ne 7, 3) := dk_160 0 7 (dk_at dksX1_count_11 17 rfl rfl)
theorem dX1_count_355 : decode cX1_count 355 = .ok (.iconst 1, 1) := dk_4 (dk_at dksX1_count_11 20 rfl rfl)
theorem dX1_count_356 : decode cX1_count 356 = .ok (.goto 4, 3) := dk_167 0 4 (dk_at dksX1_count_11 21 rfl rfl)
theorem dX1_count_359 : decode cX1_count 359 = .ok (.iconst 0, 1) := dk_3 (dk_at dksX1_count_12 0 rfl rfl)
theorem dX1_count_360 : decode cX1_count 360 = .ok (.invokevirtual 290, 3) := dk_182 1 34 (dk_at dksX1_count_12 1 rfl rfl)
theorem dX1_count_363 : decode cX1_count 363 = .ok (.goto 12, 3) := dk_167 0 12 (dk_at dksX1_count_12 4 rfl rfl)
theorem dX1_count_366 : decode cX1_count 366 = .ok (.aload_n 0, 1) := dk_42 (dk_at dksX1_count_12 7 rfl rfl)
theorem dX1_count_367 : decode cX1_count 367 = .ok (.getfield 158, 3) := dk_180 0 158 (dk_at dksX1_count_12 8 rfl rfl)
theorem dX1_count_370 : decode cX1_count 370 = .ok (.iload_n 1, 1) := dk_27 (dk_at dksX1_count_12 11 rfl rfl)
theorem dX1_count_371 : decode cX1_count 371 = .ok (.bipush 14, 2) := dk_16 14 (dk_at dksX1_count_12 12 rfl rfl)
theorem dX1_count_373 : decode cX1_count 373 = .ok (.isub, 1) := dk_100 (dk_at dksX1_count_12 14 rfl rfl)
theorem dX1_count_374 : decode cX1_count 374 = .ok (.iaload, 1) := dk_46 (dk_at dksX1_count_12 15 rfl rfl)
theorem dX1_count_375 : decode cX1_count 375 = .ok (.ireturn, 1) := dk_172 (dk_at dksX1_count_12 16 rfl rfl)
def dkwX1_there_0 : List UInt8 := [26, 154, 0, 11, 187, 0, 199, 89, 183, 0, 201, 191, 177]
abbrev dktX1_there_0 : List UInt8 := dkwX1_there_0 ++ []
theorem dksX1_there_0 : cX1_there.data.toList.drop 0 = dktX1_there_0 := by decide +kernel
theorem dX1_there_0 : decode cX1_there 0 = .ok (.iload_n 0, 1) := dk_26 (dk_at dksX1_there_0 0 rfl rfl)
theorem dX1_there_1 : decode cX1_there 1 = .ok (.ifCond .ne 11, 3) := dk_154 0 11 (dk_at dksX1_there_0 1 rfl rfl)
theorem dX1_there_4 : decode cX1_there 4 = .ok (.new 199, 3) := dk_187 0 199 (dk_at dksX1_there_0 4 rfl rfl)
theorem dX1_there_7 : decode cX1_there 7 = .ok (.dup, 1) := dk_89 (dk_at dksX1_there_0 7 rfl rfl)
theorem dX1_there_8 : decode cX1_there 8 = .ok (.invokespecial 201, 3) := dk_183 0 201 (dk_at dksX1_there_0 8 rfl rfl)
theorem dX1_there_11 : decode cX1_there 11 = .ok (.athrow, 1) := dk_191 (dk_at dksX1_there_0 11 rfl rfl)
theorem dX1_there_12 : decode cX1_there 12 = .ok (.return_, 1) := dk_177 (dk_at dksX1_there_0 12 rfl rfl)
def dkwX1_isSafe_1 : List UInt8 := [180, 0, 1, 180, 0, 140, 182, 0, 137, 153, 0, 7, 4, 167, 0, 4, 3, 172, 76, 3, 172]
abbrev dktX1_isSafe_1 : List UInt8 := dkwX1_isSafe_1 ++ []
def dkwX1_isSafe_0 : List UInt8 := [42, 182, 0, 62, 42, 3, 42, 180, 0, 1, 180, 0, 134, 182, 0, 137, 153, 0, 22, 42, 4, 42]
abbrev dktX1_isSafe_0 : List UInt8 := dkwX1_isSafe_0 ++ dktX1_isSafe_1
theorem dksX1_isSafe_0 : cX1_isSafe.data.toList.drop 0 = dktX1_isSafe_0 := by decide +kernel
theorem dksX1_isSafe_1 : cX1_isSafe.data.toList.drop 22 = dktX1_isSafe_1 := dk_seg dksX1_isSafe_0 22 rfl rfl
theorem dX1_isSafe_0 : decode cX1_isSafe 0 = .ok (.aload_n 0, 1) := dk_42 (dk_at dksX1_isSafe_0 0 rfl rfl)
theorem dX1_isSafe_1 : decode cX1_isSafe 1 = .ok (.invokevirtual 62, 3) := dk_182 0 62 (dk_at dksX1_isSafe_0 1 rfl rfl)
theorem dX1_isSafe_4 : decode cX1_isSafe 4 = .ok (.aload_n 0, 1) := dk_42 (dk_at dksX1_isSafe_0 4 rfl rfl)
theorem dX1_isSafe_5 : decode cX1_isSafe 5 = .ok (.iconst 0, 1) := dk_3 (dk_at dksX1_isSafe_0 5 rfl rfl)
theorem dX1_isSafe_6 : decode cX1_isSafe 6 = .ok (.aload_n 0, 1) := dk_42 (dk_at dksX1_isSafe_0 6 rfl rfl)
theorem dX1_isSafe_7 : decode cX1_isSafe 7 = .ok (.getfield 1, 3) := dk_180 0 1 (dk_at dksX1_isSafe_0 7 rfl rfl)
theorem dX1_isSafe_10 : decode cX1_isSafe 10 = .ok (.getfield 134, 3) := dk_180 0 134 (dk_at dksX1_isSafe_0 10 rfl rfl)
theorem dX1_isSafe_13 : decode cX1_isSafe 13 = .ok (.invokevirtual 137, 3) := dk_182 0 137 (dk_at dksX1_isSafe_0 13 rfl rfl)
theorem dX1_isSafe_16 : decode cX1_isSafe 16 = .ok (.ifCond .eq 22, 3) := dk_153 0 22 (dk_at dksX1_isSafe_0 16 rfl rfl)
theorem dX1_isSafe_19 : decode cX1_isSafe 19 = .ok (.aload_n 0, 1) := dk_42 (dk_at dksX1_isSafe_0 19 rfl rfl)
theorem dX1_isSafe_20 : decode cX1_isSafe 20 = .ok (.iconst 1, 1) := dk_4 (dk_at dksX1_isSafe_0 20 rfl rfl)
theorem dX1_isSafe_21 : decode cX1_isSafe 21 = .ok (.aload_n 0, 1) := dk_42 (dk_at dksX1_isSafe_0 21 rfl rfl)
theorem dX1_isSafe_22 : decode cX1_isSafe 22 = .ok (.getfield 1, 3) := dk_180 0 1 (dk_at dksX1_isSafe_1 0 rfl rfl)
theorem dX1_isSafe_25 : decode cX1_isSafe 25 = .ok (.getfield 140, 3) := dk_180 0 140 (dk_at dksX1_isSafe_1 3 rfl rfl)
theorem dX1_isSafe_28 : decode cX1_isSafe 28 = .ok (.invokevirtual 137, 3) := dk_182 0 137 (dk_at dksX1_isSafe_1 6 rfl rfl)
theorem dX1_isSafe_31 : decode cX1_isSafe 31 = .ok (.ifCond .eq 7, 3) := dk_153 0 7 (dk_at dksX1_isSafe_1 9 rfl rfl)
theorem dX1_isSafe_34 : decode cX1_isSafe 34 = .ok (.iconst 1, 1) := dk_4 (dk_at dksX1_isSafe_1 12 rfl rfl)
theorem dX1_isSafe_35 : decode cX1_isSafe 35 = .ok (.goto 4, 3) := dk_167 0 4 (dk_at dksX1_isSafe_1 13 rfl rfl)
theorem dX1_isSafe_38 : decode cX1_isSafe 38 = .ok (.iconst 0, 1) := dk_3 (dk_at dksX1_isSafe_1 16 rfl rfl)
theorem dX1_isSafe_39 : decode cX1_isSafe 39 = .ok (.ireturn, 1) := dk_172 (dk_at dksX1_isSafe_1 17 rfl rfl)
theorem dX1_isSafe_40 : decode cX1_isSafe 40 = .ok (.astore_n 1, 1) := dk_76 (dk_at dksX1_isSafe_1 18 rfl rfl)
theorem dX1_isSafe_41 : decode cX1_isSafe 41 = .ok (.iconst 0, 1) := dk_3 (dk_at dksX1_isSafe_1 19 rfl rfl)
theorem dX1_isSafe_42 : decode cX1_isSafe 42 = .ok (.ireturn, 1) := dk_172 (dk_at dksX1_isSafe_1 20 rfl rfl)
def dkwX1_solves_5 : List UInt8 := [167, 255, 225, 177]
abbrev dktX1_solves_5 : List UInt8 := dkwX1_solves_5 ++ []
def dkwX1_solves_4 : List UInt8 := [162, 0, 26, 42, 180, 0, 47, 27, 92, 47, 42, 180, 0, 1, 180, 0, 59, 133, 105, 80, 132, 1, 1]
abbrev dktX1_solves_4 : List UInt8 := dkwX1_solves_4 ++ dktX1_solves_5
def dkwX1_solves_3 : List UInt8 := [180, 0, 1, 180, 0, 7, 42, 180, 0, 47, 182, 0, 51, 3, 60, 27, 42, 180, 0, 1, 182, 0, 55]
abbrev dktX1_solves_3 : List UInt8 := dkwX1_solves_3 ++ dktX1_solves_4
def dkwX1_solves_2 : List UInt8 := [180, 0, 17, 182, 0, 34, 42, 42, 180, 0, 30, 180, 0, 40, 181, 0, 44, 42, 180, 0, 30, 42]
abbrev dktX1_solves_2 : List UInt8 := dkwX1_solves_2 ++ dktX1_solves_3
def dkwX1_solves_1 : List UInt8 := [180, 0, 17, 182, 0, 20, 153, 0, 11, 187, 0, 24, 89, 183, 0, 26, 191, 42, 180, 0, 30, 42]
abbrev dktX1_solves_1 : List UInt8 := dkwX1_solves_1 ++ dktX1_solves_2
def dkwX1_solves_0 : List UInt8 := [42, 42, 180, 0, 1, 42, 180, 0, 1, 180, 0, 7, 182, 0, 13, 181, 0, 17, 42, 180, 0, 1, 42]
abbrev dktX1_solves_0 : List UInt8 := dkwX1_solves_0 ++ dktX1_solves_1
theorem dksX1_solves_0 : cX1_solves.data.toList.drop 0 = dktX1_solves_0 := by decide +kernel
theorem dksX1_solves_1 : cX1_solves.data.toList.drop 23 = dktX1_solves_1 := dk_seg dksX1_solves_0 23 rfl rfl
theorem dksX1_solves_2 : cX1_solves.data.toList.drop 45 = dktX1_solves_2 := dk_seg dksX1_solves_1 22 rfl rfl
theorem dksX1_solves_3 : cX1_solves.data.toList.drop 67 = dktX1_solves_3 := dk_seg dksX1_solves_2 22 rfl rfl
theorem dksX1_solves_4 : cX1_solves.data.toList.drop 90 = dktX1_solves_4 := dk_seg dksX1_solves_3 23 rfl rfl
theorem dksX1_solves_5 : cX1_solves.data.toList.drop 113 = dktX1_solves_5 := dk_seg dksX1_solves_4 23 rfl rfl
theorem dX1_solves_0 : decode cX1_solves 0 = .ok (.aload_n 0, 1) := dk_42 (dk_at dksX1_solves_0 0 rfl rfl)
theorem dX1_solves_1 : decode cX1_solves 1 = .ok (.aload_n 0, 1) := dk_42 (dk_at dksX1_solves_0 1 rfl rfl)
theorem dX1_solves_2 : decode cX1_solves 2 = .ok (.getfield 1, 3) := dk_180 0 1 (dk_at dksX1_solves_0 2 rfl rfl)
theorem dX1_solves_5 : decode cX1_solves 5 = .ok (.aload_n 0, 1) := dk_42 (dk_at dksX1_solves_0 5 rfl rfl)
theorem dX1_solves_6 : decode cX1_solves 6 = .ok (.getfield 1, 3) := dk_180 0 1 (dk_at dksX1_solves_0 6 rfl rfl)
theorem dX1_solves_9 : decode cX1_solves 9 = .ok (.getfield 7, 3) := dk_180 0 7 (dk_at dksX1_solves_0 9 rfl rfl)
theorem dX1_solves_12 : decode cX1_solves 12 = .ok (.invokevirtual 13, 3) := dk_182 0 13 (dk_at dksX1_solves_0 12 rfl rfl)
theorem dX1_solves_15 : decode cX1_solves 15 = .ok (.putfield 17, 3) := dk_181 0 17 (dk_at dksX1_solves_0 15 rfl rfl)
theorem dX1_solves_18 : decode cX1_solves 18 = .ok (.aload_n 0, 1) := dk_42 (dk_at dksX1_solves_0 18 rfl rfl)
theorem dX1_solves_19 : decode cX1_solves 19 = .ok (.getfield 1, 3) := dk_180 0 1 (dk_at dksX1_solves_0 19 rfl rfl)
theorem dX1_solves_22 : decode cX1_solves 22 = .ok (.aload_n 0, 1) := dk_42 (dk_at dksX1_solves_0 22 rfl rfl)
theorem dX1_solves_23 : decode cX1_solves 23 = .ok (.getfield 17, 3) := dk_180 0 17 (dk_at dksX1_solves_1 0 rfl rfl)
theorem dX1_solves_26 : decode cX1_solves 26 = .ok (.invokevirtual 20, 3) := dk_182 0 20 (dk_at dksX1_solves_1 3 rfl rfl)
theorem dX1_solves_29 : decode cX1_solves 29 = .ok (.ifCond .eq 11, 3) := dk_153 0 11 (dk_at dksX1_solves_1 6 rfl rfl)
theorem dX1_solves_32 : decode cX1_solves 32 = .ok (.new 24, 3) := dk_187 0 24 (dk_at dksX1_solves_1 9 rfl rfl)
theorem dX1_solves_35 : decode cX1_solves 35 = .ok (.dup, 1) := dk_89 (dk_at dksX1_solves_1 12 rfl rfl)
theorem dX1_solves_36 : decode cX1_solves 36 = .ok (.invokespecial 26, 3) := dk_183 0 26 (dk_at dksX1_solves_1 13 rfl rfl)
theorem dX1_solves_39 : decode cX1_solves 39 = .ok (.athrow, 1) := dk_191 (dk_at dksX1_solves_1 16 rfl rfl)
theorem dX1_solves_40 : decode cX1_solves 40 = .ok (.aload_n 0, 1) := dk_42 (dk_at dksX1_solves_1 17 rfl rfl)
theorem dX1_solves_41 : decode cX1_solves 41 = .ok (.getfield 30, 3) := dk_180 0 30 (dk_at dksX1_solves_1 18 rfl rfl)
theorem dX1_solves_44 : decode cX1_solves 44 = .ok (.aload_n 0, 1) := dk_42 (dk_at dksX1_solves_1 21 rfl rfl)
theorem dX1_solves_45 : decode cX1_solves 45 = .ok (.getfield 17, 3) := dk_180 0 17 (dk_at dksX1_solves_2 0 rfl rfl)
theorem dX1_solves_48 : decode cX1_solves 48 = .ok (.invokevirtual 34, 3) := dk_182 0 34 (dk_at dksX1_solves_2 3 rfl rfl)
theorem dX1_solves_51 : decode cX1_solves 51 = .ok (.aload_n 0, 1) := dk_42 (dk_at dksX1_solves_2 6 rfl rfl)
theorem dX1_solves_52 : decode cX1_solves 52 = .ok (.aload_n 0, 1) := dk_42 (dk_at dksX1_solves_2 7 rfl rfl)
theorem dX1_solves_53 : decode cX1_solves 53 = .ok (.getfield 30, 3) := dk_180 0 30 (dk_at dksX1_solves_2 8 rfl rfl)
theorem dX1_solves_56 : decode cX1_solves 56 = .ok (.getfield 40, 3) := dk_180 0 40 (dk_at dksX1_solves_2 11 rfl rfl)
theorem dX1_solves_59 : decode cX1_solves 59 = .ok (.putfield 44, 3) := dk_181 0 44 (dk_at dksX1_solves_2 14 rfl rfl)
theorem dX1_solves_62 : decode cX1_solves 62 = .ok (.aload_n 0, 1) := dk_42 (dk_at dksX1_solves_2 17 rfl rfl)
theorem dX1_solves_63 : decode cX1_solves 63 = .ok (.getfield 30, 3) := dk_180 0 30 (dk_at dksX1_solves_2 18 rfl rfl)
theorem dX1_solves_66 : decode cX1_solves 66 = .ok (.aload_n 0, 1) := dk_42 (dk_at dksX1_solves_2 21 rfl rfl)
theorem dX1_solves_67 : decode cX1_solves 67 = .ok (.getfield 1, 3) := dk_180 0 1 (dk_at dksX1_solves_3 0 rfl rfl)
theorem dX1_solves_70 : decode cX1_solves 70 = .ok (.getfield 7, 3) := dk_180 0 7 (dk_at dksX1_solves_3 3 rfl rfl)
theorem dX1_solves_73 : decode cX1_solves 73 = .ok (.aload_n 0, 1) := dk_42 (dk_at dksX1_solves_3 6 rfl rfl)
theorem dX1_solves_74 : decode cX1_solves 74 = .ok (.getfield 47, 3) := dk_180 0 47 (dk_at dksX1_solves_3 7 rfl rfl)
theorem dX1_solves_77 : decode cX1_solves 77 = .ok (.invokevirtual 51, 3) := dk_182 0 51 (dk_at dksX1_solves_3 10 rfl rfl)
theorem dX1_solves_80 : decode cX1_solves 80 = .ok (.iconst 0, 1) := dk_3 (dk_at dksX1_solves_3 13 rfl rfl)
theorem dX1_solves_81 : decode cX1_solves 81 = .ok (.istore_n 1, 1) := dk_60 (dk_at dksX1_solves_3 14 rfl rfl)
theorem dX1_solves_82 : decode cX1_solves 82 = .ok (.iload_n 1, 1) := dk_27 (dk_at dksX1_solves_3 15 rfl rfl)
theorem dX1_solves_83 : decode cX1_solves 83 = .ok (.aload_n 0, 1) := dk_42 (dk_at dksX1_solves_3 16 rfl rfl)
theorem dX1_solves_84 : decode cX1_solves 84 = .ok (.getfield 1, 3) := dk_180 0 1 (dk_at dksX1_solves_3 17 rfl rfl)
theorem dX1_solves_87 : decode cX1_solves 87 = .ok (.invokevirtual 55, 3) := dk_182 0 55 (dk_at dksX1_solves_3 20 rfl rfl)
theorem dX1_solves_90 : decode cX1_solves 90 = .ok (.if_icmp .ge 26, 3) := dk_162 0 26 (dk_at dksX1_solves_4 0 rfl rfl)
theorem dX1_solves_93 : decode cX1_solves 93 = .ok (.aload_n 0, 1) := dk_42 (dk_at dksX1_solves_4 3 rfl rfl)
theorem dX1_solves_94 : decode cX1_solves 94 = .ok (.getfield 47, 3) := dk_180 0 47 (dk_at dksX1_solves_4 4 rfl rfl)
theorem dX1_solves_97 : decode cX1_solves 97 = .ok (.iload_n 1, 1) := dk_27 (dk_at dksX1_solves_4 7 rfl rfl)
theorem dX1_solves_98 : decode cX1_solves 98 = .ok (.dup2, 1) := dk_92 (dk_at dksX1_solves_4 8 rfl rfl)
theorem dX1_solves_99 : decode cX1_solves 99 = .ok (.laload, 1) := dk_47 (dk_at dksX1_solves_4 9 rfl rfl)
theorem dX1_solves_100 : decode cX1_solves 100 = .ok (.aload_n 0, 1) := dk_42 (dk_at dksX1_solves_4 10 rfl rfl)
theorem dX1_solves_101 : decode cX1_solves 101 = .ok (.getfield 1, 3) := dk_180 0 1 (dk_at dksX1_solves_4 11 rfl rfl)
theorem dX1_solves_104 : decode cX1_solves 104 = .ok (.getfield 59, 3) := dk_180 0 59 (dk_at dksX1_solves_4 14 rfl rfl)
theorem dX1_solves_107 : decode cX1_solves 107 = .ok (.i2l, 1) := dk_133 (dk_at dksX1_solves_4 17 rfl rfl)
theorem dX1_solves_108 : decode cX1_solves 108 = .ok (.lmul, 1) := dk_105 (dk_at dksX1_solves_4 18 rfl rfl)
theorem dX1_solves_109 : decode cX1_solves 109 = .ok (.lastore, 1) := dk_80 (dk_at dksX1_solves_4 19 rfl rfl)
theorem dX1_solves_110 : decode cX1_solves 110 = .ok (.iinc 1 1, 3) := dk_132 1 1 (dk_at dksX1_solves_4 20 rfl rfl)
theorem dX1_solves_113 : decode cX1_solves 113 = .ok (.goto (-31), 3) := dk_167 255 225 (dk_at dksX1_solves_5 0 rfl rfl)
theorem dX1_solves_116 : decode cX1_solves 116 = .ok (.return_, 1) := dk_177 (dk_at dksX1_solves_5 3 rfl rfl)
def dkwX1_isWithin_1 : List UInt8 := [20, 0, 132, 28, 133, 105, 42, 180, 0, 44, 105, 148, 157, 0, 7, 4, 167, 0, 4, 3, 172]
abbrev dktX1_isWithin_1 : List UInt8 := dkwX1_isWithin_1 ++ []
def dkwX1_isWithin_0 : List UInt8 := [42, 27, 182, 0, 129, 62, 29, 2, 159, 0, 30, 42, 180, 0, 118, 27, 50, 29, 185, 0, 125, 2, 0]
abbrev dktX1_isWithin_0 : List UInt8 := dkwX1_isWithin_0 ++ dktX1_isWithin_1
theorem dksX1_isWithin_0 : cX1_isWithin.data.toList.drop 0 = dktX1_isWithin_0 := by decide +kernel
theorem dksX1_isWithin_1 : cX1_isWithin.data.toList.drop 23 = dktX1_isWithin_1 := dk_seg dksX1_isWithin_0 23 rfl rfl
theorem dX1_isWithin_0 : decode cX1_isWithin 0 = .ok (.aload_n 0, 1) := dk_42 (dk_at dksX1_isWithin_0 0 rfl rfl)
theorem dX1_isWithin_1 : decode cX1_isWithin 1 = .ok (.iload_n 1, 1) := dk_27 (dk_at dksX1_isWithin_0 1 rfl rfl)
theorem dX1_isWithin_2 : decode cX1_isWithin 2 = .ok (.invokevirtual 129, 3) := dk_182 0 129 (dk_at dksX1_isWithin_0 2 rfl rfl)
theorem dX1_isWithin_5 : decode cX1_isWithin 5 = .ok (.istore_n 3, 1) := dk_62 (dk_at dksX1_isWithin_0 5 rfl rfl)
theorem dX1_isWithin_6 : decode cX1_isWithin 6 = .ok (.iload_n 3, 1) := dk_29 (dk_at dksX1_isWithin_0 6 rfl rfl)
theorem dX1_isWithin_7 : decode cX1_isWithin 7 = .ok (.iconst (-1), 1) := dk_2 (dk_at dksX1_isWithin_0 7 rfl rfl)
theorem dX1_isWithin_8 : decode cX1_isWithin 8 = .ok (.if_icmp .eq 30, 3) := dk_159 0 30 (dk_at dksX1_isWithin_0 8 rfl rfl)
theorem dX1_isWithin_11 : decode cX1_isWithin 11 = .ok (.aload_n 0, 1) := dk_42 (dk_at dksX1_isWithin_0 11 rfl rfl)
theorem dX1_isWithin_12 : decode cX1_isWithin 12 = .ok (.getfield 118, 3) := dk_180 0 118 (dk_at dksX1_isWithin_0 12 rfl rfl)
theorem dX1_isWithin_15 : decode cX1_isWithin 15 = .ok (.iload_n 1, 1) := dk_27 (dk_at dksX1_isWithin_0 15 rfl rfl)
theorem dX1_isWithin_16 : decode cX1_isWithin 16 = .ok (.aaload, 1) := dk_50 (dk_at dksX1_isWithin_0 16 rfl rfl)
theorem dX1_isWithin_17 : decode cX1_isWithin 17 = .ok (.iload_n 3, 1) := dk_29 (dk_at dksX1_isWithin_0 17 rfl rfl)
theorem dX1_isWithin_18 : decode cX1_isWithin 18 = .ok (.invokeinterface 125 2, 5) := by decide +kernel
theorem dX1_isWithin_23 : decode cX1_isWithin 23 = .ok (.ldc2_w 132, 3) := dk_20 0 132 (dk_at dksX1_isWithin_1 0 rfl rfl)
theorem dX1_isWithin_26 : decode cX1_isWithin 26 = .ok (.iload_n 2, 1) := dk_28 (dk_at dksX1_isWithin_1 3 rfl rfl)
theorem dX1_isWithin_27 : decode cX1_isWithin 27 = .ok (.i2l, 1) := dk_133 (dk_at dksX1_isWithin_1 4 rfl rfl)
theorem dX1_isWithin_28 : decode cX1_isWithin 28 = .ok (.lmul, 1) := dk_105 (dk_at dksX1_isWithin_1 5 rfl rfl)
theorem dX1_isWithin_29 : decode cX1_isWithin 29 = .ok (.aload_n 0, 1) := dk_42 (dk_at dksX1_isWithin_1 6 rfl rfl)
theorem dX1_isWithin_30 : decode cX1_isWithin 30 = .ok (.getfield 44, 3) := dk_180 0 44 (dk_at dksX1_isWithin_1 7 rfl rfl)
theorem dX1_isWithin_33 : decode cX1_isWithin 33 = .ok (.lmul, 1) := dk_105 (dk_at dksX1_isWithin_1 10 rfl rfl)
theorem dX1_isWithin_34 : decode cX1_isWithin 34 = .ok (.lcmp, 1) := dk_148 (dk_at dksX1_isWithin_1 11 rfl rfl)
theorem dX1_isWithin_35 : decode cX1_isWithin 35 = .ok (.ifCond .gt 7, 3) := dk_157 0 7 (dk_at dksX1_isWithin_1 12 rfl rfl)
theorem dX1_isWithin_38 : decode cX1_isWithin 38 = .ok (.iconst 1, 1) := dk_4 (dk_at dksX1_isWithin_1 15 rfl rfl)
theorem dX1_isWithin_39 : decode cX1_isWithin 39 = .ok (.goto 4, 3) := dk_167 0 4 (dk_at dksX1_isWithin_1 16 rfl rfl)
theorem dX1_isWithin_42 : decode cX1_isWithin 42 = .ok (.iconst 0, 1) := dk_3 (dk_at dksX1_isWithin_1 19 rfl rfl)
theorem dX1_isWithin_43 : decode cX1_isWithin 43 = .ok (.ireturn, 1) := dk_172 (dk_at dksX1_isWithin_1 20 rfl rfl)
def dkwX1_most_4 : List UInt8 := [167, 255, 180, 29, 172]
abbrev dktX1_most_4 : List UInt8 := dkwX1_most_4 ++ []
def dkwX1_most_3 : List UInt8 := [148, 157, 0, 6, 167, 0, 10, 21, 8, 62, 22, 9, 55, 4, 132, 7, 1, 167, 255, 198, 132, 6, 1]
abbrev dktX1_most_3 : List UInt8 := dkwX1_most_3 ++ dktX1_most_4
def dkwX1_most_2 : List UInt8 := [21, 7, 96, 167, 0, 5, 21, 6, 54, 8, 44, 21, 8, 185, 0, 125, 2, 0, 55, 9, 22, 9, 22, 4]
abbrev dktX1_most_2 : List UInt8 := dkwX1_most_2 ++ dktX1_most_3
def dkwX1_most_1 : List UInt8 := [162, 0, 73, 3, 54, 7, 21, 7, 5, 27, 100, 162, 0, 56, 27, 154, 0, 14, 16, 10, 21, 6, 104]
abbrev dktX1_most_1 : List UInt8 := dkwX1_most_1 ++ dktX1_most_2
def dkwX1_most_0 : List UInt8 := [42, 180, 0, 118, 27, 50, 77, 2, 62, 20, 0, 116, 55, 4, 3, 54, 6, 21, 6, 42, 182, 0, 122]
abbrev dktX1_most_0 : List UInt8 := dkwX1_most_0 ++ dktX1_most_1
theorem dksX1_most_0 : cX1_most.data.toList.drop 0 = dktX1_most_0 := by decide +kernel
theorem dksX1_most_1 : cX1_most.data.toList.drop 23 = dktX1_most_1 := dk_seg dksX1_most_0 23 rfl rfl
theorem dksX1_most_2 : cX1_most.data.toList.drop 46 = dktX1_most_2 := dk_seg dksX1_most_1 23 rfl rfl
theorem dksX1_most_3 : cX1_most.data.toList.drop 70 = dktX1_most_3 := dk_seg dksX1_most_2 24 rfl rfl
theorem dksX1_most_4 : cX1_most.data.toList.drop 93 = dktX1_most_4 := dk_seg dksX1_most_3 23 rfl rfl
theorem dX1_most_0 : decode cX1_most 0 = .ok (.aload_n 0, 1) := dk_42 (dk_at dksX1_most_0 0 rfl rfl)
theorem dX1_most_1 : decode cX1_most 1 = .ok (.getfield 118, 3) := dk_180 0 118 (dk_at dksX1_most_0 1 rfl rfl)
theorem dX1_most_4 : decode cX1_most 4 = .ok (.iload_n 1, 1) := dk_27 (dk_at dksX1_most_0 4 rfl rfl)
theorem dX1_most_5 : decode cX1_most 5 = .ok (.aaload, 1) := dk_50 (dk_at dksX1_most_0 5 rfl rfl)
theorem dX1_most_6 : decode cX1_most 6 = .ok (.astore_n 2, 1) := dk_77 (dk_at dksX1_most_0 6 rfl rfl)
theorem dX1_most_7 : decode cX1_most 7 = .ok (.iconst (-1), 1) := dk_2 (dk_at dksX1_most_0 7 rfl rfl)
theorem dX1_most_8 : decode cX1_most 8 = .ok (.istore_n 3, 1) := dk_62 (dk_at dksX1_most_0 8 rfl rfl)
theorem dX1_most_9 : decode cX1_most 9 = .ok (.ldc2_w 116, 3) := dk_20 0 116 (dk_at dksX1_most_0 9 rfl rfl)
theorem dX1_most_12 : decode cX1_most 12 = .ok (.lstore 4, 2) := dk_55 4 (dk_at dksX1_most_0 12 rfl rfl)
theorem dX1_most_14 : decode cX1_most 14 = .ok (.iconst 0, 1) := dk_3 (dk_at dksX1_most_0 14 rfl rfl)
theorem dX1_most_15 : decode cX1_most 15 = .ok (.istore 6, 2) := dk_54 6 (dk_at dksX1_most_0 15 rfl rfl)
theorem dX1_most_17 : decode cX1_most 17 = .ok (.iload 6, 2) := dk_21 6 (dk_at dksX1_most_0 17 rfl rfl)
theorem dX1_most_19 : decode cX1_most 19 = .ok (.aload_n 0, 1) := dk_42 (dk_at dksX1_most_0 19 rfl rfl)
theorem dX1_most_20 : decode cX1_most 20 = .ok (.invokevirtual 122, 3) := dk_182 0 122 (dk_at dksX1_most_0 20 rfl rfl)
theorem dX1_most_23 : decode cX1_most 23 = .ok (.if_icmp .ge 73, 3) := dk_162 0 73 (dk_at dksX1_most_1 0 rfl rfl)
theorem dX1_most_26 : decode cX1_most 26 = .ok (.iconst 0, 1) := dk_3 (dk_at dksX1_most_1 3 rfl rfl)
theorem dX1_most_27 : decode cX1_most 27 = .ok (.istore 7, 2) := dk_54 7 (dk_at dksX1_most_1 4 rfl rfl)
theorem dX1_most_29 : decode cX1_most 29 = .ok (.iload 7, 2) := dk_21 7 (dk_at dksX1_most_1 6 rfl rfl)
theorem dX1_most_31 : decode cX1_most 31 = .ok (.iconst 2, 1) := dk_5 (dk_at dksX1_most_1 8 rfl rfl)
theorem dX1_most_32 : decode cX1_most 32 = .ok (.iload_n 1, 1) := dk_27 (dk_at dksX1_most_1 9 rfl rfl)
theorem dX1_most_33 : decode cX1_most 33 = .ok (.isub, 1) := dk_100 (dk_at dksX1_most_1 10 rfl rfl)
theorem dX1_most_34 : decode cX1_most 34 = .ok (.if_icmp .ge 56, 3) := dk_162 0 56 (dk_at dksX1_most_1 11 rfl rfl)
theorem dX1_most_37 : decode cX1_most 37 = .ok (.iload_n 1, 1) := dk_27 (dk_at dksX1_most_1 14 rfl rfl)
theorem dX1_most_38 : decode cX1_most 38 = .ok (.ifCond .ne 14, 3) := dk_154 0 14 (dk_at dksX1_most_1 15 rfl rfl)
theorem dX1_most_41 : decode cX1_most 41 = .ok (.bipush 10, 2) := dk_16 10 (dk_at dksX1_most_1 18 rfl rfl)
theorem dX1_most_43 : decode cX1_most 43 = .ok (.iload 6, 2) := dk_21 6 (dk_at dksX1_most_1 20 rfl rfl)
theorem dX1_most_45 : decode cX1_most 45 = .ok (.imul, 1) := dk_104 (dk_at dksX1_most_1 22 rfl rfl)
theorem dX1_most_46 : decode cX1_most 46 = .ok (.iload 7, 2) := dk_21 7 (dk_at dksX1_most_2 0 rfl rfl)
theorem dX1_most_48 : decode cX1_most 48 = .ok (.iadd, 1) := dk_96 (dk_at dksX1_most_2 2 rfl rfl)
theorem dX1_most_49 : decode cX1_most 49 = .ok (.goto 5, 3) := dk_167 0 5 (dk_at dksX1_most_2 3 rfl rfl)
theorem dX1_most_52 : decode cX1_most 52 = .ok (.iload 6, 2) := dk_21 6 (dk_at dksX1_most_2 6 rfl rfl)
theorem dX1_most_54 : decode cX1_most 54 = .ok (.istore 8, 2) := dk_54 8 (dk_at dksX1_most_2 8 rfl rfl)
theorem dX1_most_56 : decode cX1_most 56 = .ok (.aload_n 2, 1) := dk_44 (dk_at dksX1_most_2 10 rfl rfl)
theorem dX1_most_57 : decode cX1_most 57 = .ok (.iload 8, 2) := dk_21 8 (dk_at dksX1_most_2 11 rfl rfl)
theorem dX1_most_59 : decode cX1_most 59 = .ok (.invokeinterface 125 2, 5) := by decide +kernel
theorem dX1_most_64 : decode cX1_most 64 = .ok (.lstore 9, 2) := dk_55 9 (dk_at dksX1_most_2 18 rfl rfl)
theorem dX1_most_66 : decode cX1_most 66 = .ok (.lload 9, 2) := dk_22 9 (dk_at dksX1_most_2 20 rfl rfl)
theorem dX1_most_68 : decode cX1_most 68 = .ok (.lload 4, 2) := dk_22 4 (dk_at dksX1_most_2 22 rfl rfl)
theorem dX1_most_70 : decode cX1_most 70 = .ok (.lcmp, 1) := dk_148 (dk_at dksX1_most_3 0 rfl rfl)
theorem dX1_most_71 : decode cX1_most 71 = .ok (.ifCond .gt 6, 3) := dk_157 0 6 (dk_at dksX1_most_3 1 rfl rfl)
theorem dX1_most_74 : decode cX1_most 74 = .ok (.goto 10, 3) := dk_167 0 10 (dk_at dksX1_most_3 4 rfl rfl)
theorem dX1_most_77 : decode cX1_most 77 = .ok (.iload 8, 2) := dk_21 8 (dk_at dksX1_most_3 7 rfl rfl)
theorem dX1_most_79 : decode cX1_most 79 = .ok (.istore_n 3, 1) := dk_62 (dk_at dksX1_most_3 9 rfl rfl)
theorem dX1_most_80 : decode cX1_most 80 = .ok (.lload 9, 2) := dk_22 9 (dk_at dksX1_most_3 10 rfl rfl)
theorem dX1_most_82 : decode cX1_most 82 = .ok (.lstore 4, 2) := dk_55 4 (dk_at dksX1_most_3 12 rfl rfl)
theorem dX1_most_84 : decode cX1_most 84 = .ok (.iinc 7 1, 3) := dk_132 7 1 (dk_at dksX1_most_3 14 rfl rfl)
theorem dX1_most_87 : decode cX1_most 87 = .ok (.goto (-58), 3) := dk_167 255 198 (dk_at dksX1_most_3 17 rfl rfl)
theorem dX1_most_90 : decode cX1_most 90 = .ok (.iinc 6 1, 3) := dk_132 6 1 (dk_at dksX1_most_3 20 rfl rfl)
theorem dX1_most_93 : decode cX1_most 93 = .ok (.goto (-76), 3) := dk_167 255 180 (dk_at dksX1_most_4 0 rfl rfl)
theorem dX1_most_96 : decode cX1_most 96 = .ok (.iload_n 3, 1) := dk_29 (dk_at dksX1_most_4 3 rfl rfl)
theorem dX1_most_97 : decode cX1_most 97 = .ok (.ireturn, 1) := dk_172 (dk_at dksX1_most_4 4 rfl rfl)
def dkwX1_points_0 : List UInt8 := [42, 182, 0, 80, 5, 42, 180, 0, 1, 180, 0, 83, 104, 4, 100, 104, 172]
abbrev dktX1_points_0 : List UInt8 := dkwX1_points_0 ++ []
theorem dksX1_points_0 : cX1_points.data.toList.drop 0 = dktX1_points_0 := by decide +kernel
theorem dX1_points_0 : decode cX1_points 0 = .ok (.aload_n 0, 1) := dk_42 (dk_at dksX1_points_0 0 rfl rfl)
theorem dX1_points_1 : decode cX1_points 1 = .ok (.invokevirtual 80, 3) := dk_182 0 80 (dk_at dksX1_points_0 1 rfl rfl)
theorem dX1_points_4 : decode cX1_points 4 = .ok (.iconst 2, 1) := dk_5 (dk_at dksX1_points_0 4 rfl rfl)
theorem dX1_points_5 : decode cX1_points 5 = .ok (.aload_n 0, 1) := dk_42 (dk_at dksX1_points_0 5 rfl rfl)
theorem dX1_points_6 : decode cX1_points 6 = .ok (.getfield 1, 3) := dk_180 0 1 (dk_at dksX1_points_0 6 rfl rfl)
theorem dX1_points_9 : decode cX1_points 9 = .ok (.getfield 83, 3) := dk_180 0 83 (dk_at dksX1_points_0 9 rfl rfl)
theorem dX1_points_12 : decode cX1_points 12 = .ok (.imul, 1) := dk_104 (dk_at dksX1_points_0 12 rfl rfl)
theorem dX1_points_13 : decode cX1_points 13 = .ok (.iconst 1, 1) := dk_4 (dk_at dksX1_points_0 13 rfl rfl)
theorem dX1_points_14 : decode cX1_points 14 = .ok (.isub, 1) := dk_100 (dk_at dksX1_points_0 14 rfl rfl)
theorem dX1_points_15 : decode cX1_points 15 = .ok (.imul, 1) := dk_104 (dk_at dksX1_points_0 15 rfl rfl)
theorem dX1_points_16 : decode cX1_points 16 = .ok (.ireturn, 1) := dk_172 (dk_at dksX1_points_0 16 rfl rfl)
def dkwX1_missed_4 : List UInt8 := [172]
abbrev dktX1_missed_4 : List UInt8 := dkwX1_missed_4 ++ []
def dkwX1_missed_3 : List UInt8 := [16, 100, 29, 104, 21, 4, 96, 60, 25, 5, 77, 132, 4, 1, 167, 255, 186, 132, 3, 1, 167, 255, 172, 27]
abbrev dktX1_missed_3 : List UInt8 := dkwX1_missed_3 ++ dktX1_missed_4
def dkwX1_missed_2 : List UInt8 := [21, 4, 182, 0, 246, 58, 5, 27, 2, 159, 0, 15, 25, 5, 44, 184, 0, 250, 154, 0, 6, 167, 0, 14]
abbrev dktX1_missed_2 : List UInt8 := dkwX1_missed_2 ++ dktX1_missed_3
def dkwX1_missed_1 : List UInt8 := [162, 0, 64, 42, 180, 0, 1, 180, 0, 238, 29, 50, 21, 4, 46, 154, 0, 6, 167, 0, 40, 42, 29]
abbrev dktX1_missed_1 : List UInt8 := dkwX1_missed_1 ++ dktX1_missed_2
def dkwX1_missed_0 : List UInt8 := [2, 60, 1, 77, 3, 62, 29, 4, 163, 0, 85, 3, 54, 4, 21, 4, 42, 180, 0, 1, 182, 0, 55]
abbrev dktX1_missed_0 : List UInt8 := dkwX1_missed_0 ++ dktX1_missed_1
theorem dksX1_missed_0 : cX1_missed.data.toList.drop 0 = dktX1_missed_0 := by decide +kernel
theorem dksX1_missed_1 : cX1_missed.data.toList.drop 23 = dktX1_missed_1 := dk_seg dksX1_missed_0 23 rfl rfl
theorem dksX1_missed_2 : cX1_missed.data.toList.drop 46 = dktX1_missed_2 := dk_seg dksX1_missed_1 23 rfl rfl
theorem dksX1_missed_3 : cX1_missed.data.toList.drop 70 = dktX1_missed_3 := dk_seg dksX1_missed_2 24 rfl rfl
theorem dksX1_missed_4 : cX1_missed.data.toList.drop 94 = dktX1_missed_4 := dk_seg dksX1_missed_3 24 rfl rfl
theorem dX1_missed_0 : decode cX1_missed 0 = .ok (.iconst (-1), 1) := dk_2 (dk_at dksX1_missed_0 0 rfl rfl)
theorem dX1_missed_1 : decode cX1_missed 1 = .ok (.istore_n 1, 1) := dk_60 (dk_at dksX1_missed_0 1 rfl rfl)
theorem dX1_missed_2 : decode cX1_missed 2 = .ok (.aconst_null, 1) := dk_1 (dk_at dksX1_missed_0 2 rfl rfl)
theorem dX1_missed_3 : decode cX1_missed 3 = .ok (.astore_n 2, 1) := dk_77 (dk_at dksX1_missed_0 3 rfl rfl)
theorem dX1_missed_4 : decode cX1_missed 4 = .ok (.iconst 0, 1) := dk_3 (dk_at dksX1_missed_0 4 rfl rfl)
theorem dX1_missed_5 : decode cX1_missed 5 = .ok (.istore_n 3, 1) := dk_62 (dk_at dksX1_missed_0 5 rfl rfl)
theorem dX1_missed_6 : decode cX1_missed 6 = .ok (.iload_n 3, 1) := dk_29 (dk_at dksX1_missed_0 6 rfl rfl)
theorem dX1_missed_7 : decode cX1_missed 7 = .ok (.iconst 1, 1) := dk_4 (dk_at dksX1_missed_0 7 rfl rfl)
theorem dX1_missed_8 : decode cX1_missed 8 = .ok (.if_icmp .gt 85, 3) := dk_163 0 85 (dk_at dksX1_missed_0 8 rfl rfl)
theorem dX1_missed_11 : decode cX1_missed 11 = .ok (.iconst 0, 1) := dk_3 (dk_at dksX1_missed_0 11 rfl rfl)
theorem dX1_missed_12 : decode cX1_missed 12 = .ok (.istore 4, 2) := dk_54 4 (dk_at dksX1_missed_0 12 rfl rfl)
theorem dX1_missed_14 : decode cX1_missed 14 = .ok (.iload 4, 2) := dk_21 4 (dk_at dksX1_missed_0 14 rfl rfl)
theorem dX1_missed_16 : decode cX1_missed 16 = .ok (.aload_n 0, 1) := dk_42 (dk_at dksX1_missed_0 16 rfl rfl)
theorem dX1_missed_17 : decode cX1_missed 17 = .ok (.getfield 1, 3) := dk_180 0 1 (dk_at dksX1_missed_0 17 rfl rfl)
theorem dX1_missed_20 : decode cX1_missed 20 = .ok (.invokevirtual 55, 3) := dk_182 0 55 (dk_at dksX1_missed_0 20 rfl rfl)
theorem dX1_missed_23 : decode cX1_missed 23 = .ok (.if_icmp .ge 64, 3) := dk_162 0 64 (dk_at dksX1_missed_1 0 rfl rfl)
theorem dX1_missed_26 : decode cX1_missed 26 = .ok (.aload_n 0, 1) := dk_42 (dk_at dksX1_missed_1 3 rfl rfl)
theorem dX1_missed_27 : decode cX1_missed 27 = .ok (.getfield 1, 3) := dk_180 0 1 (dk_at dksX1_missed_1 4 rfl rfl)
theorem dX1_missed_30 : decode cX1_missed 30 = .ok (.getfield 238, 3) := dk_180 0 238 (dk_at dksX1_missed_1 7 rfl rfl)
theorem dX1_missed_33 : decode cX1_missed 33 = .ok (.iload_n 3, 1) := dk_29 (dk_at dksX1_missed_1 10 rfl rfl)
theorem dX1_missed_34 : decode cX1_missed 34 = .ok (.aaload, 1) := dk_50 (dk_at dksX1_missed_1 11 rfl rfl)
theorem dX1_missed_35 : decode cX1_missed 35 = .ok (.iload 4, 2) := dk_21 4 (dk_at dksX1_missed_1 12 rfl rfl)
theorem dX1_missed_37 : decode cX1_missed 37 = .ok (.iaload, 1) := dk_46 (dk_at dksX1_missed_1 14 rfl rfl)
theorem dX1_missed_38 : decode cX1_missed 38 = .ok (.ifCond .ne 6, 3) := dk_154 0 6 (dk_at dksX1_missed_1 15 rfl rfl)
theorem dX1_missed_41 : decode cX1_missed 41 = .ok (.goto 40, 3) := dk_167 0 40 (dk_at dksX1_missed_1 18 rfl rfl)
theorem dX1_missed_44 : decode cX1_missed 44 = .ok (.aload_n 0, 1) := dk_42 (dk_at dksX1_missed_1 21 rfl rfl)
theorem dX1_missed_45 : decode cX1_missed 45 = .ok (.iload_n 3, 1) := dk_29 (dk_at dksX1_missed_1 22 rfl rfl)
theorem dX1_missed_46 : decode cX1_missed 46 = .ok (.iload 4, 2) := dk_21 4 (dk_at dksX1_missed_2 0 rfl rfl)
theorem dX1_missed_48 : decode cX1_missed 48 = .ok (.invokevirtual 246, 3) := dk_182 0 246 (dk_at dksX1_missed_2 2 rfl rfl)
theorem dX1_missed_51 : decode cX1_missed 51 = .ok (.astore 5, 2) := dk_58 5 (dk_at dksX1_missed_2 5 rfl rfl)
theorem dX1_missed_53 : decode cX1_missed 53 = .ok (.iload_n 1, 1) := dk_27 (dk_at dksX1_missed_2 7 rfl rfl)
theorem dX1_missed_54 : decode cX1_missed 54 = .ok (.iconst (-1), 1) := dk_2 (dk_at dksX1_missed_2 8 rfl rfl)
theorem dX1_missed_55 : decode cX1_missed 55 = .ok (.if_icmp .eq 15, 3) := dk_159 0 15 (dk_at dksX1_missed_2 9 rfl rfl)
theorem dX1_missed_58 : decode cX1_missed 58 = .ok (.aload 5, 2) := dk_25 5 (dk_at dksX1_missed_2 12 rfl rfl)
theorem dX1_missed_60 : decode cX1_missed 60 = .ok (.aload_n 2, 1) := dk_44 (dk_at dksX1_missed_2 14 rfl rfl)
theorem dX1_missed_61 : decode cX1_missed 61 = .ok (.invokestatic 250, 3) := dk_184 0 250 (dk_at dksX1_missed_2 15 rfl rfl)
theorem dX1_missed_64 : decode cX1_missed 64 = .ok (.ifCond .ne 6, 3) := dk_154 0 6 (dk_at dksX1_missed_2 18 rfl rfl)
theorem dX1_missed_67 : decode cX1_missed 67 = .ok (.goto 14, 3) := dk_167 0 14 (dk_at dksX1_missed_2 21 rfl rfl)
theorem dX1_missed_70 : decode cX1_missed 70 = .ok (.bipush 100, 2) := dk_16 100 (dk_at dksX1_missed_3 0 rfl rfl)
theorem dX1_missed_72 : decode cX1_missed 72 = .ok (.iload_n 3, 1) := dk_29 (dk_at dksX1_missed_3 2 rfl rfl)
theorem dX1_missed_73 : decode cX1_missed 73 = .ok (.imul, 1) := dk_104 (dk_at dksX1_missed_3 3 rfl rfl)
theorem dX1_missed_74 : decode cX1_missed 74 = .ok (.iload 4, 2) := dk_21 4 (dk_at dksX1_missed_3 4 rfl rfl)
theorem dX1_missed_76 : decode cX1_missed 76 = .ok (.iadd, 1) := dk_96 (dk_at dksX1_missed_3 6 rfl rfl)
theorem dX1_missed_77 : decode cX1_missed 77 = .ok (.istore_n 1, 1) := dk_60 (dk_at dksX1_missed_3 7 rfl rfl)
theorem dX1_missed_78 : decode cX1_missed 78 = .ok (.aload 5, 2) := dk_25 5 (dk_at dksX1_missed_3 8 rfl rfl)
theorem dX1_missed_80 : decode cX1_missed 80 = .ok (.astore_n 2, 1) := dk_77 (dk_at dksX1_missed_3 10 rfl rfl)
theorem dX1_missed_81 : decode cX1_missed 81 = .ok (.iinc 4 1, 3) := dk_132 4 1 (dk_at dksX1_missed_3 11 rfl rfl)
theorem dX1_missed_84 : decode cX1_missed 84 = .ok (.goto (-70), 3) := dk_167 255 186 (dk_at dksX1_missed_3 14 rfl rfl)
theorem dX1_missed_87 : decode cX1_missed 87 = .ok (.iinc 3 1, 3) := dk_132 3 1 (dk_at dksX1_missed_3 17 rfl rfl)
theorem dX1_missed_90 : decode cX1_missed 90 = .ok (.goto (-84), 3) := dk_167 255 172 (dk_at dksX1_missed_3 20 rfl rfl)
theorem dX1_missed_93 : decode cX1_missed 93 = .ok (.iload_n 1, 1) := dk_27 (dk_at dksX1_missed_3 23 rfl rfl)
theorem dX1_missed_94 : decode cX1_missed 94 = .ok (.ireturn, 1) := dk_172 (dk_at dksX1_missed_4 0 rfl rfl)
def dkwX1_resistsWithout_1 : List UInt8 := [42, 182, 0, 242, 58, 4, 42, 180, 0, 1, 180, 0, 238, 27, 50, 28, 29, 79, 25, 4, 176]
abbrev dktX1_resistsWithout_1 : List UInt8 := dkwX1_resistsWithout_1 ++ []
def dkwX1_resistsWithout_0 : List UInt8 := [42, 180, 0, 1, 180, 0, 238, 27, 50, 28, 46, 62, 42, 180, 0, 1, 180, 0, 238, 27, 50, 28, 3, 79]
abbrev dktX1_resistsWithout_0 : List UInt8 := dkwX1_resistsWithout_0 ++ dktX1_resistsWithout_1
theorem dksX1_resistsWithout_0 : cX1_resistsWithout.data.toList.drop 0 = dktX1_resistsWithout_0 := by decide +kernel
theorem dksX1_resistsWithout_1 : cX1_resistsWithout.data.toList.drop 24 = dktX1_resistsWithout_1 := dk_seg dksX1_resistsWithout_0 24 rfl rfl
theorem dX1_resistsWithout_0 : decode cX1_resistsWithout 0 = .ok (.aload_n 0, 1) := dk_42 (dk_at dksX1_resistsWithout_0 0 rfl rfl)
theorem dX1_resistsWithout_1 : decode cX1_resistsWithout 1 = .ok (.getfield 1, 3) := dk_180 0 1 (dk_at dksX1_resistsWithout_0 1 rfl rfl)
theorem dX1_resistsWithout_4 : decode cX1_resistsWithout 4 = .ok (.getfield 238, 3) := dk_180 0 238 (dk_at dksX1_resistsWithout_0 4 rfl rfl)
theorem dX1_resistsWithout_7 : decode cX1_resistsWithout 7 = .ok (.iload_n 1, 1) := dk_27 (dk_at dksX1_resistsWithout_0 7 rfl rfl)
theorem dX1_resistsWithout_8 : decode cX1_resistsWithout 8 = .ok (.aaload, 1) := dk_50 (dk_at dksX1_resistsWithout_0 8 rfl rfl)
theorem dX1_resistsWithout_9 : decode cX1_resistsWithout 9 = .ok (.iload_n 2, 1) := dk_28 (dk_at dksX1_resistsWithout_0 9 rfl rfl)
theorem dX1_resistsWithout_10 : decode cX1_resistsWithout 10 = .ok (.iaload, 1) := dk_46 (dk_at dksX1_resistsWithout_0 10 rfl rfl)
theorem dX1_resistsWithout_11 : decode cX1_resistsWithout 11 = .ok (.istore_n 3, 1) := dk_62 (dk_at dksX1_resistsWithout_0 11 rfl rfl)
theorem dX1_resistsWithout_12 : decode cX1_resistsWithout 12 = .ok (.aload_n 0, 1) := dk_42 (dk_at dksX1_resistsWithout_0 12 rfl rfl)
theorem dX1_resistsWithout_13 : decode cX1_resistsWithout 13 = .ok (.getfield 1, 3) := dk_180 0 1 (dk_at dksX1_resistsWithout_0 13 rfl rfl)
theorem dX1_resistsWithout_16 : decode cX1_resistsWithout 16 = .ok (.getfield 238, 3) := dk_180 0 238 (dk_at dksX1_resistsWithout_0 16 rfl rfl)
theorem dX1_resistsWithout_19 : decode cX1_resistsWithout 19 = .ok (.iload_n 1, 1) := dk_27 (dk_at dksX1_resistsWithout_0 19 rfl rfl)
theorem dX1_resistsWithout_20 : decode cX1_resistsWithout 20 = .ok (.aaload, 1) := dk_50 (dk_at dksX1_resistsWithout_0 20 rfl rfl)
theorem dX1_resistsWithout_21 : decode cX1_resistsWithout 21 = .ok (.iload_n 2, 1) := dk_28 (dk_at dksX1_resistsWithout_0 21 rfl rfl)
theorem dX1_resistsWithout_22 : decode cX1_resistsWithout 22 = .ok (.iconst 0, 1) := dk_3 (dk_at dksX1_resistsWithout_0 22 rfl rfl)
theorem dX1_resistsWithout_23 : decode cX1_resistsWithout 23 = .ok (.iastore, 1) := dk_79 (dk_at dksX1_resistsWithout_0 23 rfl rfl)
theorem dX1_resistsWithout_24 : decode cX1_resistsWithout 24 = .ok (.aload_n 0, 1) := dk_42 (dk_at dksX1_resistsWithout_1 0 rfl rfl)
theorem dX1_resistsWithout_25 : decode cX1_resistsWithout 25 = .ok (.invokevirtual 242, 3) := dk_182 0 242 (dk_at dksX1_resistsWithout_1 1 rfl rfl)
theorem dX1_resistsWithout_28 : decode cX1_resistsWithout 28 = .ok (.astore 4, 2) := dk_58 4 (dk_at dksX1_resistsWithout_1 4 rfl rfl)
theorem dX1_resistsWithout_30 : decode cX1_resistsWithout 30 = .ok (.aload_n 0, 1) := dk_42 (dk_at dksX1_resistsWithout_1 6 rfl rfl)
theorem dX1_resistsWithout_31 : decode cX1_resistsWithout 31 = .ok (.getfield 1, 3) := dk_180 0 1 (dk_at dksX1_resistsWithout_1 7 rfl rfl)
theorem dX1_resistsWithout_34 : decode cX1_resistsWithout 34 = .ok (.getfield 238, 3) := dk_180 0 238 (dk_at dksX1_resistsWithout_1 10 rfl rfl)
theorem dX1_resistsWithout_37 : decode cX1_resistsWithout 37 = .ok (.iload_n 1, 1) := dk_27 (dk_at dksX1_resistsWithout_1 13 rfl rfl)
theorem dX1_resistsWithout_38 : decode cX1_resistsWithout 38 = .ok (.aaload, 1) := dk_50 (dk_at dksX1_resistsWithout_1 14 rfl rfl)
theorem dX1_resistsWithout_39 : decode cX1_resistsWithout 39 = .ok (.iload_n 2, 1) := dk_28 (dk_at dksX1_resistsWithout_1 15 rfl rfl)
theorem dX1_resistsWithout_40 : decode cX1_resistsWithout 40 = .ok (.iload_n 3, 1) := dk_29 (dk_at dksX1_resistsWithout_1 16 rfl rfl)
theorem dX1_resistsWithout_41 : decode cX1_resistsWithout 41 = .ok (.iastore, 1) := dk_79 (dk_at dksX1_resistsWithout_1 17 rfl rfl)
theorem dX1_resistsWithout_42 : decode cX1_resistsWithout 42 = .ok (.aload 4, 2) := dk_25 4 (dk_at dksX1_resistsWithout_1 18 rfl rfl)
theorem dX1_resistsWithout_44 : decode cX1_resistsWithout 44 = .ok (.areturn, 1) := dk_176 (dk_at dksX1_resistsWithout_1 20 rfl rfl)
def dkwX1_resistsNow_0 : List UInt8 := [42, 42, 180, 0, 1, 180, 0, 7, 182, 0, 234, 176, 76, 1, 176]
abbrev dktX1_resistsNow_0 : List UInt8 := dkwX1_resistsNow_0 ++ []
theorem dksX1_resistsNow_0 : cX1_resistsNow.data.toList.drop 0 = dktX1_resistsNow_0 := by decide +kernel
theorem dX1_resistsNow_0 : decode cX1_resistsNow 0 = .ok (.aload_n 0, 1) := dk_42 (dk_at dksX1_resistsNow_0 0 rfl rfl)
theorem dX1_resistsNow_1 : decode cX1_resistsNow 1 = .ok (.aload_n 0, 1) := dk_42 (dk_at dksX1_resistsNow_0 1 rfl rfl)
theorem dX1_resistsNow_2 : decode cX1_resistsNow 2 = .ok (.getfield 1, 3) := dk_180 0 1 (dk_at dksX1_resistsNow_0 2 rfl rfl)
theorem dX1_resistsNow_5 : decode cX1_resistsNow 5 = .ok (.getfield 7, 3) := dk_180 0 7 (dk_at dksX1_resistsNow_0 5 rfl rfl)
theorem dX1_resistsNow_8 : decode cX1_resistsNow 8 = .ok (.invokevirtual 234, 3) := dk_182 0 234 (dk_at dksX1_resistsNow_0 8 rfl rfl)
theorem dX1_resistsNow_11 : decode cX1_resistsNow 11 = .ok (.areturn, 1) := dk_176 (dk_at dksX1_resistsNow_0 11 rfl rfl)
theorem dX1_resistsNow_12 : decode cX1_resistsNow 12 = .ok (.astore_n 1, 1) := dk_76 (dk_at dksX1_resistsNow_0 12 rfl rfl)
theorem dX1_resistsNow_13 : decode cX1_resistsNow 13 = .ok (.aconst_null, 1) := dk_1 (dk_at dksX1_resistsNow_0 13 rfl rfl)
theorem dX1_resistsNow_14 : decode cX1_resistsNow 14 = .ok (.areturn, 1) := dk_176 (dk_at dksX1_resistsNow_0 14 rfl rfl)
def dkwX1_resists_2 : List UInt8 := [182, 0, 70, 42, 180, 0, 30, 180, 0, 40, 183, 0, 74, 176]
abbrev dktX1_resists_2 : List UInt8 := dkwX1_resists_2 ++ []
def dkwX1_resists_1 : List UInt8 := [183, 0, 26, 191, 42, 180, 0, 30, 28, 182, 0, 34, 187, 0, 68, 89, 42, 180, 0, 30, 27, 27]
abbrev dktX1_resists_1 : List UInt8 := dkwX1_resists_1 ++ dktX1_resists_2
def dkwX1_resists_0 : List UInt8 := [42, 180, 0, 1, 27, 182, 0, 13, 61, 42, 180, 0, 1, 28, 182, 0, 20, 153, 0, 11, 187, 0, 24, 89]
abbrev dktX1_resists_0 : List UInt8 := dkwX1_resists_0 ++ dktX1_resists_1
theorem dksX1_resists_0 : cX1_resists.data.toList.drop 0 = dktX1_resists_0 := by decide +kernel
theorem dksX1_resists_1 : cX1_resists.data.toList.drop 24 = dktX1_resists_1 := dk_seg dksX1_resists_0 24 rfl rfl
theorem dksX1_resists_2 : cX1_resists.data.toList.drop 46 = dktX1_resists_2 := dk_seg dksX1_resists_1 22 rfl rfl
theorem dX1_resists_0 : decode cX1_resists 0 = .ok (.aload_n 0, 1) := dk_42 (dk_at dksX1_resists_0 0 rfl rfl)
theorem dX1_resists_1 : decode cX1_resists 1 = .ok (.getfield 1, 3) := dk_180 0 1 (dk_at dksX1_resists_0 1 rfl rfl)
theorem dX1_resists_4 : decode cX1_resists 4 = .ok (.iload_n 1, 1) := dk_27 (dk_at dksX1_resists_0 4 rfl rfl)
theorem dX1_resists_5 : decode cX1_resists 5 = .ok (.invokevirtual 13, 3) := dk_182 0 13 (dk_at dksX1_resists_0 5 rfl rfl)
theorem dX1_resists_8 : decode cX1_resists 8 = .ok (.istore_n 2, 1) := dk_61 (dk_at dksX1_resists_0 8 rfl rfl)
theorem dX1_resists_9 : decode cX1_resists 9 = .ok (.aload_n 0, 1) := dk_42 (dk_at dksX1_resists_0 9 rfl rfl)
theorem dX1_resists_10 : decode cX1_resists 10 = .ok (.getfield 1, 3) := dk_180 0 1 (dk_at dksX1_resists_0 10 rfl rfl)
theorem dX1_resists_13 : decode cX1_resists 13 = .ok (.iload_n 2, 1) := dk_28 (dk_at dksX1_resists_0 13 rfl rfl)
theorem dX1_resists_14 : decode cX1_resists 14 = .ok (.invokevirtual 20, 3) := dk_182 0 20 (dk_at dksX1_resists_0 14 rfl rfl)
theorem dX1_resists_17 : decode cX1_resists 17 = .ok (.ifCond .eq 11, 3) := dk_153 0 11 (dk_at dksX1_resists_0 17 rfl rfl)
theorem dX1_resists_20 : decode cX1_resists 20 = .ok (.new 24, 3) := dk_187 0 24 (dk_at dksX1_resists_0 20 rfl rfl)
theorem dX1_resists_23 : decode cX1_resists 23 = .ok (.dup, 1) := dk_89 (dk_at dksX1_resists_0 23 rfl rfl)
theorem dX1_resists_24 : decode cX1_resists 24 = .ok (.invokespecial 26, 3) := dk_183 0 26 (dk_at dksX1_resists_1 0 rfl rfl)
theorem dX1_resists_27 : decode cX1_resists 27 = .ok (.athrow, 1) := dk_191 (dk_at dksX1_resists_1 3 rfl rfl)
theorem dX1_resists_28 : decode cX1_resists 28 = .ok (.aload_n 0, 1) := dk_42 (dk_at dksX1_resists_1 4 rfl rfl)
theorem dX1_resists_29 : decode cX1_resists 29 = .ok (.getfield 30, 3) := dk_180 0 30 (dk_at dksX1_resists_1 5 rfl rfl)
theorem dX1_resists_32 : decode cX1_resists 32 = .ok (.iload_n 2, 1) := dk_28 (dk_at dksX1_resists_1 8 rfl rfl)
theorem dX1_resists_33 : decode cX1_resists 33 = .ok (.invokevirtual 34, 3) := dk_182 0 34 (dk_at dksX1_resists_1 9 rfl rfl)
theorem dX1_resists_36 : decode cX1_resists 36 = .ok (.new 68, 3) := dk_187 0 68 (dk_at dksX1_resists_1 12 rfl rfl)
theorem dX1_resists_39 : decode cX1_resists 39 = .ok (.dup, 1) := dk_89 (dk_at dksX1_resists_1 15 rfl rfl)
theorem dX1_resists_40 : decode cX1_resists 40 = .ok (.aload_n 0, 1) := dk_42 (dk_at dksX1_resists_1 16 rfl rfl)
theorem dX1_resists_41 : decode cX1_resists 41 = .ok (.getfield 30, 3) := dk_180 0 30 (dk_at dksX1_resists_1 17 rfl rfl)
theorem dX1_resists_44 : decode cX1_resists 44 = .ok (.iload_n 1, 1) := dk_27 (dk_at dksX1_resists_1 20 rfl rfl)
theorem dX1_resists_45 : decode cX1_resists 45 = .ok (.iload_n 1, 1) := dk_27 (dk_at dksX1_resists_1 21 rfl rfl)
theorem dX1_resists_46 : decode cX1_resists 46 = .ok (.invokevirtual 70, 3) := dk_182 0 70 (dk_at dksX1_resists_2 0 rfl rfl)
theorem dX1_resists_49 : decode cX1_resists 49 = .ok (.aload_n 0, 1) := dk_42 (dk_at dksX1_resists_2 3 rfl rfl)
theorem dX1_resists_50 : decode cX1_resists 50 = .ok (.getfield 30, 3) := dk_180 0 30 (dk_at dksX1_resists_2 4 rfl rfl)
theorem dX1_resists_53 : decode cX1_resists 53 = .ok (.getfield 40, 3) := dk_180 0 40 (dk_at dksX1_resists_2 7 rfl rfl)
theorem dX1_resists_56 : decode cX1_resists 56 = .ok (.invokespecial 74, 3) := dk_183 0 74 (dk_at dksX1_resists_2 10 rfl rfl)
theorem dX1_resists_59 : decode cX1_resists 59 = .ok (.areturn, 1) := dk_176 (dk_at dksX1_resists_2 13 rfl rfl)
def dkwX1_isMore_1 : List UInt8 := [182, 0, 230, 172]
abbrev dktX1_isMore_1 : List UInt8 := dkwX1_isMore_1 ++ []
def dkwX1_isMore_0 : List UInt8 := [42, 198, 0, 7, 43, 199, 0, 17, 42, 199, 0, 11, 43, 198, 0, 7, 4, 167, 0, 4, 3, 172, 42, 43]
abbrev dktX1_isMore_0 : List UInt8 := dkwX1_isMore_0 ++ dktX1_isMore_1
theorem dksX1_isMore_0 : cX1_isMore.data.toList.drop 0 = dktX1_isMore_0 := by decide +kernel
theorem dksX1_isMore_1 : cX1_isMore.data.toList.drop 24 = dktX1_isMore_1 := dk_seg dksX1_isMore_0 24 rfl rfl
theorem dX1_isMore_0 : decode cX1_isMore 0 = .ok (.aload_n 0, 1) := dk_42 (dk_at dksX1_isMore_0 0 rfl rfl)
theorem dX1_isMore_1 : decode cX1_isMore 1 = .ok (.ifnull 7, 3) := dk_198 0 7 (dk_at dksX1_isMore_0 1 rfl rfl)
theorem dX1_isMore_4 : decode cX1_isMore 4 = .ok (.aload_n 1, 1) := dk_43 (dk_at dksX1_isMore_0 4 rfl rfl)
theorem dX1_isMore_5 : decode cX1_isMore 5 = .ok (.ifnonnull 17, 3) := dk_199 0 17 (dk_at dksX1_isMore_0 5 rfl rfl)
theorem dX1_isMore_8 : decode cX1_isMore 8 = .ok (.aload_n 0, 1) := dk_42 (dk_at dksX1_isMore_0 8 rfl rfl)
theorem dX1_isMore_9 : decode cX1_isMore 9 = .ok (.ifnonnull 11, 3) := dk_199 0 11 (dk_at dksX1_isMore_0 9 rfl rfl)
theorem dX1_isMore_12 : decode cX1_isMore 12 = .ok (.aload_n 1, 1) := dk_43 (dk_at dksX1_isMore_0 12 rfl rfl)
theorem dX1_isMore_13 : decode cX1_isMore 13 = .ok (.ifnull 7, 3) := dk_198 0 7 (dk_at dksX1_isMore_0 13 rfl rfl)
theorem dX1_isMore_16 : decode cX1_isMore 16 = .ok (.iconst 1, 1) := dk_4 (dk_at dksX1_isMore_0 16 rfl rfl)
theorem dX1_isMore_17 : decode cX1_isMore 17 = .ok (.goto 4, 3) := dk_167 0 4 (dk_at dksX1_isMore_0 17 rfl rfl)
theorem dX1_isMore_20 : decode cX1_isMore 20 = .ok (.iconst 0, 1) := dk_3 (dk_at dksX1_isMore_0 20 rfl rfl)
theorem dX1_isMore_21 : decode cX1_isMore 21 = .ok (.ireturn, 1) := dk_172 (dk_at dksX1_isMore_0 21 rfl rfl)
theorem dX1_isMore_22 : decode cX1_isMore 22 = .ok (.aload_n 0, 1) := dk_42 (dk_at dksX1_isMore_0 22 rfl rfl)
theorem dX1_isMore_23 : decode cX1_isMore 23 = .ok (.aload_n 1, 1) := dk_43 (dk_at dksX1_isMore_0 23 rfl rfl)
theorem dX1_isMore_24 : decode cX1_isMore 24 = .ok (.invokevirtual 230, 3) := dk_182 0 230 (dk_at dksX1_isMore_1 0 rfl rfl)
theorem dX1_isMore_27 : decode cX1_isMore 27 = .ok (.ireturn, 1) := dk_172 (dk_at dksX1_isMore_1 3 rfl rfl)
def dkwX1_best_5 : List UInt8 := [132, 3, 1, 167, 255, 142, 27, 172]
abbrev dktX1_best_5 : List UInt8 := dkwX1_best_5 ++ []
def dkwX1_best_4 : List UInt8 := [2, 159, 0, 15, 44, 25, 4, 184, 0, 250, 154, 0, 6, 167, 0, 11, 29, 184, 1, 179, 60, 25, 4, 77]
abbrev dktX1_best_4 : List UInt8 := dkwX1_best_4 ++ dktX1_best_5
def dkwX1_best_3 : List UInt8 := [58, 4, 42, 180, 0, 1, 180, 0, 238, 29, 16, 12, 108, 50, 29, 16, 12, 112, 92, 46, 4, 100, 79, 27]
abbrev dktX1_best_3 : List UInt8 := dkwX1_best_3 ++ dktX1_best_4
def dkwX1_best_2 : List UInt8 := [180, 0, 1, 180, 0, 238, 29, 16, 12, 108, 50, 29, 16, 12, 112, 92, 46, 4, 96, 79, 42, 182, 0, 242]
abbrev dktX1_best_2 : List UInt8 := dkwX1_best_2 ++ dktX1_best_3
def dkwX1_best_1 : List UInt8 := [162, 0, 94, 42, 29, 16, 12, 108, 29, 16, 12, 112, 182, 1, 173, 154, 0, 6, 167, 0, 76, 42]
abbrev dktX1_best_1 : List UInt8 := dkwX1_best_1 ++ dktX1_best_2
def dkwX1_best_0 : List UInt8 := [2, 60, 1, 77, 3, 62, 29, 16, 36, 162, 0, 114, 29, 16, 12, 112, 42, 180, 0, 1, 182, 0, 55]
abbrev dktX1_best_0 : List UInt8 := dkwX1_best_0 ++ dktX1_best_1
theorem dksX1_best_0 : cX1_best.data.toList.drop 0 = dktX1_best_0 := by decide +kernel
theorem dksX1_best_1 : cX1_best.data.toList.drop 23 = dktX1_best_1 := dk_seg dksX1_best_0 23 rfl rfl
theorem dksX1_best_2 : cX1_best.data.toList.drop 45 = dktX1_best_2 := dk_seg dksX1_best_1 22 rfl rfl
theorem dksX1_best_3 : cX1_best.data.toList.drop 69 = dktX1_best_3 := dk_seg dksX1_best_2 24 rfl rfl
theorem dksX1_best_4 : cX1_best.data.toList.drop 93 = dktX1_best_4 := dk_seg dksX1_best_3 24 rfl rfl
theorem dksX1_best_5 : cX1_best.data.toList.drop 117 = dktX1_best_5 := dk_seg dksX1_best_4 24 rfl rfl
theorem dX1_best_0 : decode cX1_best 0 = .ok (.iconst (-1), 1) := dk_2 (dk_at dksX1_best_0 0 rfl rfl)
theorem dX1_best_1 : decode cX1_best 1 = .ok (.istore_n 1, 1) := dk_60 (dk_at dksX1_best_0 1 rfl rfl)
theorem dX1_best_2 : decode cX1_best 2 = .ok (.aconst_null, 1) := dk_1 (dk_at dksX1_best_0 2 rfl rfl)
theorem dX1_best_3 : decode cX1_best 3 = .ok (.astore_n 2, 1) := dk_77 (dk_at dksX1_best_0 3 rfl rfl)
theorem dX1_best_4 : decode cX1_best 4 = .ok (.iconst 0, 1) := dk_3 (dk_at dksX1_best_0 4 rfl rfl)
theorem dX1_best_5 : decode cX1_best 5 = .ok (.istore_n 3, 1) := dk_62 (dk_at dksX1_best_0 5 rfl rfl)
theorem dX1_best_6 : decode cX1_best 6 = .ok (.iload_n 3, 1) := dk_29 (dk_at dksX1_best_0 6 rfl rfl)
theorem dX1_best_7 : decode cX1_best 7 = .ok (.bipush 36, 2) := dk_16 36 (dk_at dksX1_best_0 7 rfl rfl)
theorem dX1_best_9 : decode cX1_best 9 = .ok (.if_icmp .ge 114, 3) := dk_162 0 114 (dk_at dksX1_best_0 9 rfl rfl)
theorem dX1_best_12 : decode cX1_best 12 = .ok (.iload_n 3, 1) := dk_29 (dk_at dksX1_best_0 12 rfl rfl)
theorem dX1_best_13 : decode cX1_best 13 = .ok (.bipush 12, 2) := dk_16 12 (dk_at dksX1_best_0 13 rfl rfl)
theorem dX1_best_15 : decode cX1_best 15 = .ok (.irem, 1) := dk_112 (dk_at dksX1_best_0 15 rfl rfl)
theorem dX1_best_16 : decode cX1_best 16 = .ok (.aload_n 0, 1) := dk_42 (dk_at dksX1_best_0 16 rfl rfl)
theorem dX1_best_17 : decode cX1_best 17 = .ok (.getfield 1, 3) := dk_180 0 1 (dk_at dksX1_best_0 17 rfl rfl)
theorem dX1_best_20 : decode cX1_best 20 = .ok (.invokevirtual 55, 3) := dk_182 0 55 (dk_at dksX1_best_0 20 rfl rfl)
theorem dX1_best_23 : decode cX1_best 23 = .ok (.if_icmp .ge 94, 3) := dk_162 0 94 (dk_at dksX1_best_1 0 rfl rfl)
theorem dX1_best_26 : decode cX1_best 26 = .ok (.aload_n 0, 1) := dk_42 (dk_at dksX1_best_1 3 rfl rfl)
theorem dX1_best_27 : decode cX1_best 27 = .ok (.iload_n 3, 1) := dk_29 (dk_at dksX1_best_1 4 rfl rfl)
theorem dX1_best_28 : decode cX1_best 28 = .ok (.bipush 12, 2) := dk_16 12 (dk_at dksX1_best_1 5 rfl rfl)
theorem dX1_best_30 : decode cX1_best 30 = .ok (.idiv, 1) := dk_108 (dk_at dksX1_best_1 7 rfl rfl)
theorem dX1_best_31 : decode cX1_best 31 = .ok (.iload_n 3, 1) := dk_29 (dk_at dksX1_best_1 8 rfl rfl)
theorem dX1_best_32 : decode cX1_best 32 = .ok (.bipush 12, 2) := dk_16 12 (dk_at dksX1_best_1 9 rfl rfl)
theorem dX1_best_34 : decode cX1_best 34 = .ok (.irem, 1) := dk_112 (dk_at dksX1_best_1 11 rfl rfl)
theorem dX1_best_35 : decode cX1_best 35 = .ok (.invokevirtual 429, 3) := dk_182 1 173 (dk_at dksX1_best_1 12 rfl rfl)
theorem dX1_best_38 : decode cX1_best 38 = .ok (.ifCond .ne 6, 3) := dk_154 0 6 (dk_at dksX1_best_1 15 rfl rfl)
theorem dX1_best_41 : decode cX1_best 41 = .ok (.goto 76, 3) := dk_167 0 76 (dk_at dksX1_best_1 18 rfl rfl)
theorem dX1_best_44 : decode cX1_best 44 = .ok (.aload_n 0, 1) := dk_42 (dk_at dksX1_best_1 21 rfl rfl)
theorem dX1_best_45 : decode cX1_best 45 = .ok (.getfield 1, 3) := dk_180 0 1 (dk_at dksX1_best_2 0 rfl rfl)
theorem dX1_best_48 : decode cX1_best 48 = .ok (.getfield 238, 3) := dk_180 0 238 (dk_at dksX1_best_2 3 rfl rfl)
theorem dX1_best_51 : decode cX1_best 51 = .ok (.iload_n 3, 1) := dk_29 (dk_at dksX1_best_2 6 rfl rfl)
theorem dX1_best_52 : decode cX1_best 52 = .ok (.bipush 12, 2) := dk_16 12 (dk_at dksX1_best_2 7 rfl rfl)
theorem dX1_best_54 : decode cX1_best 54 = .ok (.idiv, 1) := dk_108 (dk_at dksX1_best_2 9 rfl rfl)
theorem dX1_best_55 : decode cX1_best 55 = .ok (.aaload, 1) := dk_50 (dk_at dksX1_best_2 10 rfl rfl)
theorem dX1_best_56 : decode cX1_best 56 = .ok (.iload_n 3, 1) := dk_29 (dk_at dksX1_best_2 11 rfl rfl)
theorem dX1_best_57 : decode cX1_best 57 = .ok (.bipush 12, 2) := dk_16 12 (dk_at dksX1_best_2 12 rfl rfl)
theorem dX1_best_59 : decode cX1_best 59 = .ok (.irem, 1) := dk_112 (dk_at dksX1_best_2 14 rfl rfl)
theorem dX1_best_60 : decode cX1_best 60 = .ok (.dup2, 1) := dk_92 (dk_at dksX1_best_2 15 rfl rfl)
theorem dX1_best_61 : decode cX1_best 61 = .ok (.iaload, 1) := dk_46 (dk_at dksX1_best_2 16 rfl rfl)
theorem dX1_best_62 : decode cX1_best 62 = .ok (.iconst 1, 1) := dk_4 (dk_at dksX1_best_2 17 rfl rfl)
theorem dX1_best_63 : decode cX1_best 63 = .ok (.iadd, 1) := dk_96 (dk_at dksX1_best_2 18 rfl rfl)
theorem dX1_best_64 : decode cX1_best 64 = .ok (.iastore, 1) := dk_79 (dk_at dksX1_best_2 19 rfl rfl)
theorem dX1_best_65 : decode cX1_best 65 = .ok (.aload_n 0, 1) := dk_42 (dk_at dksX1_best_2 20 rfl rfl)
theorem dX1_best_66 : decode cX1_best 66 = .ok (.invokevirtual 242, 3) := dk_182 0 242 (dk_at dksX1_best_2 21 rfl rfl)
theorem dX1_best_69 : decode cX1_best 69 = .ok (.astore 4, 2) := dk_58 4 (dk_at dksX1_best_3 0 rfl rfl)
theorem dX1_best_71 : decode cX1_best 71 = .ok (.aload_n 0, 1) := dk_42 (dk_at dksX1_best_3 2 rfl rfl)
theorem dX1_best_72 : decode cX1_best 72 = .ok (.getfield 1, 3) := dk_180 0 1 (dk_at dksX1_best_3 3 rfl rfl)
theorem dX1_best_75 : decode cX1_best 75 = .ok (.getfield 238, 3) := dk_180 0 238 (dk_at dksX1_best_3 6 rfl rfl)
theorem dX1_best_78 : decode cX1_best 78 = .ok (.iload_n 3, 1) := dk_29 (dk_at dksX1_best_3 9 rfl rfl)
theorem dX1_best_79 : decode cX1_best 79 = .ok (.bipush 12, 2) := dk_16 12 (dk_at dksX1_best_3 10 rfl rfl)
theorem dX1_best_81 : decode cX1_best 81 = .ok (.idiv, 1) := dk_108 (dk_at dksX1_best_3 12 rfl rfl)
theorem dX1_best_82 : decode cX1_best 82 = .ok (.aaload, 1) := dk_50 (dk_at dksX1_best_3 13 rfl rfl)
theorem dX1_best_83 : decode cX1_best 83 = .ok (.iload_n 3, 1) := dk_29 (dk_at dksX1_best_3 14 rfl rfl)
theorem dX1_best_84 : decode cX1_best 84 = .ok (.bipush 12, 2) := dk_16 12 (dk_at dksX1_best_3 15 rfl rfl)
theorem dX1_best_86 : decode cX1_best 86 = .ok (.irem, 1) := dk_112 (dk_at dksX1_best_3 17 rfl rfl)
theorem dX1_best_87 : decode cX1_best 87 = .ok (.dup2, 1) := dk_92 (dk_at dksX1_best_3 18 rfl rfl)
theorem dX1_best_88 : decode cX1_best 88 = .ok (.iaload, 1) := dk_46 (dk_at dksX1_best_3 19 rfl rfl)
theorem dX1_best_89 : decode cX1_best 89 = .ok (.iconst 1, 1) := dk_4 (dk_at dksX1_best_3 20 rfl rfl)
theorem dX1_best_90 : decode cX1_best 90 = .ok (.isub, 1) := dk_100 (dk_at dksX1_best_3 21 rfl rfl)
theorem dX1_best_91 : decode cX1_best 91 = .ok (.iastore, 1) := dk_79 (dk_at dksX1_best_3 22 rfl rfl)
theorem dX1_best_92 : decode cX1_best 92 = .ok (.iload_n 1, 1) := dk_27 (dk_at dksX1_best_3 23 rfl rfl)
theorem dX1_best_93 : decode cX1_best 93 = .ok (.iconst (-1), 1) := dk_2 (dk_at dksX1_best_4 0 rfl rfl)
theorem dX1_best_94 : decode cX1_best 94 = .ok (.if_icmp .eq 15, 3) := dk_159 0 15 (dk_at dksX1_best_4 1 rfl rfl)
theorem dX1_best_97 : decode cX1_best 97 = .ok (.aload_n 2, 1) := dk_44 (dk_at dksX1_best_4 4 rfl rfl)
theorem dX1_best_98 : decode cX1_best 98 = .ok (.aload 4, 2) := dk_25 4 (dk_at dksX1_best_4 5 rfl rfl)
theorem dX1_best_100 : decode cX1_best 100 = .ok (.invokestatic 250, 3) := dk_184 0 250 (dk_at dksX1_best_4 7 rfl rfl)
theorem dX1_best_103 : decode cX1_best 103 = .ok (.ifCond .ne 6, 3) := dk_154 0 6 (dk_at dksX1_best_4 10 rfl rfl)
theorem dX1_best_106 : decode cX1_best 106 = .ok (.goto 11, 3) := dk_167 0 11 (dk_at dksX1_best_4 13 rfl rfl)
theorem dX1_best_109 : decode cX1_best 109 = .ok (.iload_n 3, 1) := dk_29 (dk_at dksX1_best_4 16 rfl rfl)
theorem dX1_best_110 : decode cX1_best 110 = .ok (.invokestatic 435, 3) := dk_184 1 179 (dk_at dksX1_best_4 17 rfl rfl)
theorem dX1_best_113 : decode cX1_best 113 = .ok (.istore_n 1, 1) := dk_60 (dk_at dksX1_best_4 20 rfl rfl)
theorem dX1_best_114 : decode cX1_best 114 = .ok (.aload 4, 2) := dk_25 4 (dk_at dksX1_best_4 21 rfl rfl)
theorem dX1_best_116 : decode cX1_best 116 = .ok (.astore_n 2, 1) := dk_77 (dk_at dksX1_best_4 23 rfl rfl)
theorem dX1_best_117 : decode cX1_best 117 = .ok (.iinc 3 1, 3) := dk_132 3 1 (dk_at dksX1_best_5 0 rfl rfl)
theorem dX1_best_120 : decode cX1_best 120 = .ok (.goto (-114), 3) := dk_167 255 142 (dk_at dksX1_best_5 3 rfl rfl)
theorem dX1_best_123 : decode cX1_best 123 = .ok (.iload_n 1, 1) := dk_27 (dk_at dksX1_best_5 6 rfl rfl)
theorem dX1_best_124 : decode cX1_best 124 = .ok (.ireturn, 1) := dk_172 (dk_at dksX1_best_5 7 rfl rfl)
def dkwX1_canAdd_1 : List UInt8 := [162, 0, 7, 4, 167, 0, 4, 3, 172]
abbrev dktX1_canAdd_1 : List UInt8 := dkwX1_canAdd_1 ++ []
def dkwX1_canAdd_0 : List UInt8 := [42, 180, 0, 1, 28, 27, 182, 1, 166, 153, 0, 22, 42, 180, 0, 1, 180, 0, 238, 27, 50, 28, 46, 6]
abbrev dktX1_canAdd_0 : List UInt8 := dkwX1_canAdd_0 ++ dktX1_canAdd_1
theorem dksX1_canAdd_0 : cX1_canAdd.data.toList.drop 0 = dktX1_canAdd_0 := by decide +kernel
theorem dksX1_canAdd_1 : cX1_canAdd.data.toList.drop 24 = dktX1_canAdd_1 := dk_seg dksX1_canAdd_0 24 rfl rfl
theorem dX1_canAdd_0 : decode cX1_canAdd 0 = .ok (.aload_n 0, 1) := dk_42 (dk_at dksX1_canAdd_0 0 rfl rfl)
theorem dX1_canAdd_1 : decode cX1_canAdd 1 = .ok (.getfield 1, 3) := dk_180 0 1 (dk_at dksX1_canAdd_0 1 rfl rfl)
theorem dX1_canAdd_4 : decode cX1_canAdd 4 = .ok (.iload_n 2, 1) := dk_28 (dk_at dksX1_canAdd_0 4 rfl rfl)
theorem dX1_canAdd_5 : decode cX1_canAdd 5 = .ok (.iload_n 1, 1) := dk_27 (dk_at dksX1_canAdd_0 5 rfl rfl)
theorem dX1_canAdd_6 : decode cX1_canAdd 6 = .ok (.invokevirtual 422, 3) := dk_182 1 166 (dk_at dksX1_canAdd_0 6 rfl rfl)
theorem dX1_canAdd_9 : decode cX1_canAdd 9 = .ok (.ifCond .eq 22, 3) := dk_153 0 22 (dk_at dksX1_canAdd_0 9 rfl rfl)
theorem dX1_canAdd_12 : decode cX1_canAdd 12 = .ok (.aload_n 0, 1) := dk_42 (dk_at dksX1_canAdd_0 12 rfl rfl)
theorem dX1_canAdd_13 : decode cX1_canAdd 13 = .ok (.getfield 1, 3) := dk_180 0 1 (dk_at dksX1_canAdd_0 13 rfl rfl)
theorem dX1_canAdd_16 : decode cX1_canAdd 16 = .ok (.getfield 238, 3) := dk_180 0 238 (dk_at dksX1_canAdd_0 16 rfl rfl)
theorem dX1_canAdd_19 : decode cX1_canAdd 19 = .ok (.iload_n 1, 1) := dk_27 (dk_at dksX1_canAdd_0 19 rfl rfl)
theorem dX1_canAdd_20 : decode cX1_canAdd 20 = .ok (.aaload, 1) := dk_50 (dk_at dksX1_canAdd_0 20 rfl rfl)
theorem dX1_canAdd_21 : decode cX1_canAdd 21 = .ok (.iload_n 2, 1) := dk_28 (dk_at dksX1_canAdd_0 21 rfl rfl)
theorem dX1_canAdd_22 : decode cX1_canAdd 22 = .ok (.iaload, 1) := dk_46 (dk_at dksX1_canAdd_0 22 rfl rfl)
theorem dX1_canAdd_23 : decode cX1_canAdd 23 = .ok (.iconst 3, 1) := dk_6 (dk_at dksX1_canAdd_0 23 rfl rfl)
theorem dX1_canAdd_24 : decode cX1_canAdd 24 = .ok (.if_icmp .ge 7, 3) := dk_162 0 7 (dk_at dksX1_canAdd_1 0 rfl rfl)
theorem dX1_canAdd_27 : decode cX1_canAdd 27 = .ok (.iconst 1, 1) := dk_4 (dk_at dksX1_canAdd_1 3 rfl rfl)
theorem dX1_canAdd_28 : decode cX1_canAdd 28 = .ok (.goto 4, 3) := dk_167 0 4 (dk_at dksX1_canAdd_1 4 rfl rfl)
theorem dX1_canAdd_31 : decode cX1_canAdd 31 = .ok (.iconst 0, 1) := dk_3 (dk_at dksX1_canAdd_1 7 rfl rfl)
theorem dX1_canAdd_32 : decode cX1_canAdd 32 = .ok (.ireturn, 1) := dk_172 (dk_at dksX1_canAdd_1 8 rfl rfl)
def dkwX1_told_0 : List UInt8 := [16, 100, 26, 16, 12, 108, 4, 96, 104, 26, 16, 12, 112, 96, 172]
abbrev dktX1_told_0 : List UInt8 := dkwX1_told_0 ++ []
theorem dksX1_told_0 : cX1_told.data.toList.drop 0 = dktX1_told_0 := by decide +kernel
theorem dX1_told_0 : decode cX1_told 0 = .ok (.bipush 100, 2) := dk_16 100 (dk_at dksX1_told_0 0 rfl rfl)
theorem dX1_told_2 : decode cX1_told 2 = .ok (.iload_n 0, 1) := dk_26 (dk_at dksX1_told_0 2 rfl rfl)
theorem dX1_told_3 : decode cX1_told 3 = .ok (.bipush 12, 2) := dk_16 12 (dk_at dksX1_told_0 3 rfl rfl)
theorem dX1_told_5 : decode cX1_told 5 = .ok (.idiv, 1) := dk_108 (dk_at dksX1_told_0 5 rfl rfl)
theorem dX1_told_6 : decode cX1_told 6 = .ok (.iconst 1, 1) := dk_4 (dk_at dksX1_told_0 6 rfl rfl)
theorem dX1_told_7 : decode cX1_told 7 = .ok (.iadd, 1) := dk_96 (dk_at dksX1_told_0 7 rfl rfl)
theorem dX1_told_8 : decode cX1_told 8 = .ok (.imul, 1) := dk_104 (dk_at dksX1_told_0 8 rfl rfl)
theorem dX1_told_9 : decode cX1_told 9 = .ok (.iload_n 0, 1) := dk_26 (dk_at dksX1_told_0 9 rfl rfl)
theorem dX1_told_10 : decode cX1_told 10 = .ok (.bipush 12, 2) := dk_16 12 (dk_at dksX1_told_0 10 rfl rfl)
theorem dX1_told_12 : decode cX1_told 12 = .ok (.irem, 1) := dk_112 (dk_at dksX1_told_0 12 rfl rfl)
theorem dX1_told_13 : decode cX1_told 13 = .ok (.iadd, 1) := dk_96 (dk_at dksX1_told_0 13 rfl rfl)
theorem dX1_told_14 : decode cX1_told 14 = .ok (.ireturn, 1) := dk_172 (dk_at dksX1_told_0 14 rfl rfl)
def dkwX1_needed_4 : List UInt8 := [3, 96, 61, 132, 3, 1, 167, 255, 158, 27, 153, 0, 7, 2, 167, 0, 4, 28, 172]
abbrev dktX1_needed_4 : List UInt8 := dkwX1_needed_4 ++ []
def dkwX1_needed_3 : List UInt8 := [21, 6, 153, 0, 12, 27, 153, 0, 8, 29, 184, 1, 179, 172, 28, 21, 6, 153, 0, 7, 4, 167, 0, 4]
abbrev dktX1_needed_3 : List UInt8 := dkwX1_needed_3 ++ dktX1_needed_4
def dkwX1_needed_2 : List UInt8 := [79, 42, 182, 1, 10, 154, 0, 7, 4, 167, 0, 4, 3, 54, 6, 25, 4, 29, 16, 12, 112, 21, 5, 79]
abbrev dktX1_needed_2 : List UInt8 := dkwX1_needed_2 ++ dktX1_needed_3
def dkwX1_needed_1 : List UInt8 := [25, 4, 29, 16, 12, 112, 46, 54, 5, 21, 5, 154, 0, 6, 167, 0, 61, 25, 4, 29, 16, 12, 112, 3]
abbrev dktX1_needed_1 : List UInt8 := dkwX1_needed_1 ++ dktX1_needed_2
def dkwX1_needed_0 : List UInt8 := [3, 61, 3, 62, 29, 16, 36, 162, 0, 98, 42, 180, 0, 1, 180, 0, 238, 29, 16, 12, 108, 50, 58, 4]
abbrev dktX1_needed_0 : List UInt8 := dkwX1_needed_0 ++ dktX1_needed_1
theorem dksX1_needed_0 : cX1_needed.data.toList.drop 0 = dktX1_needed_0 := by decide +kernel
theorem dksX1_needed_1 : cX1_needed.data.toList.drop 24 = dktX1_needed_1 := dk_seg dksX1_needed_0 24 rfl rfl
theorem dksX1_needed_2 : cX1_needed.data.toList.drop 48 = dktX1_needed_2 := dk_seg dksX1_needed_1 24 rfl rfl
theorem dksX1_needed_3 : cX1_needed.data.toList.drop 72 = dktX1_needed_3 := dk_seg dksX1_needed_2 24 rfl rfl
theorem dksX1_needed_4 : cX1_needed.data.toList.drop 96 = dktX1_needed_4 := dk_seg dksX1_needed_3 24 rfl rfl
theorem dX1_needed_0 : decode cX1_needed 0 = .ok (.iconst 0, 1) := dk_3 (dk_at dksX1_needed_0 0 rfl rfl)
theorem dX1_needed_1 : decode cX1_needed 1 = .ok (.istore_n 2, 1) := dk_61 (dk_at dksX1_needed_0 1 rfl rfl)
theorem dX1_needed_2 : decode cX1_needed 2 = .ok (.iconst 0, 1) := dk_3 (dk_at dksX1_needed_0 2 rfl rfl)
theorem dX1_needed_3 : decode cX1_needed 3 = .ok (.istore_n 3, 1) := dk_62 (dk_at dksX1_needed_0 3 rfl rfl)
theorem dX1_needed_4 : decode cX1_needed 4 = .ok (.iload_n 3, 1) := dk_29 (dk_at dksX1_needed_0 4 rfl rfl)
theorem dX1_needed_5 : decode cX1_needed 5 = .ok (.bipush 36, 2) := dk_16 36 (dk_at dksX1_needed_0 5 rfl rfl)
theorem dX1_needed_7 : decode cX1_needed 7 = .ok (.if_icmp .ge 98, 3) := dk_162 0 98 (dk_at dksX1_needed_0 7 rfl rfl)
theorem dX1_needed_10 : decode cX1_needed 10 = .ok (.aload_n 0, 1) := dk_42 (dk_at dksX1_needed_0 10 rfl rfl)
theorem dX1_needed_11 : decode cX1_needed 11 = .ok (.getfield 1, 3) := dk_180 0 1 (dk_at dksX1_needed_0 11 rfl rfl)
theorem dX1_needed_14 : decode cX1_needed 14 = .ok (.getfield 238, 3) := dk_180 0 238 (dk_at dksX1_needed_0 14 rfl rfl)
theorem dX1_needed_17 : decode cX1_needed 17 = .ok (.iload_n 3, 1) := dk_29 (dk_at dksX1_needed_0 17 rfl rfl)
theorem dX1_needed_18 : decode cX1_needed 18 = .ok (.bipush 12, 2) := dk_16 12 (dk_at dksX1_needed_0 18 rfl rfl)
theorem dX1_needed_20 : decode cX1_needed 20 = .ok (.idiv, 1) := dk_108 (dk_at dksX1_needed_0 20 rfl rfl)
theorem dX1_needed_21 : decode cX1_needed 21 = .ok (.aaload, 1) := dk_50 (dk_at dksX1_needed_0 21 rfl rfl)
theorem dX1_needed_22 : decode cX1_needed 22 = .ok (.astore 4, 2) := dk_58 4 (dk_at dksX1_needed_0 22 rfl rfl)
theorem dX1_needed_24 : decode cX1_needed 24 = .ok (.aload 4, 2) := dk_25 4 (dk_at dksX1_needed_1 0 rfl rfl)
theorem dX1_needed_26 : decode cX1_needed 26 = .ok (.iload_n 3, 1) := dk_29 (dk_at dksX1_needed_1 2 rfl rfl)
theorem dX1_needed_27 : decode cX1_needed 27 = .ok (.bipush 12, 2) := dk_16 12 (dk_at dksX1_needed_1 3 rfl rfl)
theorem dX1_needed_29 : decode cX1_needed 29 = .ok (.irem, 1) := dk_112 (dk_at dksX1_needed_1 5 rfl rfl)
theorem dX1_needed_30 : decode cX1_needed 30 = .ok (.iaload, 1) := dk_46 (dk_at dksX1_needed_1 6 rfl rfl)
theorem dX1_needed_31 : decode cX1_needed 31 = .ok (.istore 5, 2) := dk_54 5 (dk_at dksX1_needed_1 7 rfl rfl)
theorem dX1_needed_33 : decode cX1_needed 33 = .ok (.iload 5, 2) := dk_21 5 (dk_at dksX1_needed_1 9 rfl rfl)
theorem dX1_needed_35 : decode cX1_needed 35 = .ok (.ifCond .ne 6, 3) := dk_154 0 6 (dk_at dksX1_needed_1 11 rfl rfl)
theorem dX1_needed_38 : decode cX1_needed 38 = .ok (.goto 61, 3) := dk_167 0 61 (dk_at dksX1_needed_1 14 rfl rfl)
theorem dX1_needed_41 : decode cX1_needed 41 = .ok (.aload 4, 2) := dk_25 4 (dk_at dksX1_needed_1 17 rfl rfl)
theorem dX1_needed_43 : decode cX1_needed 43 = .ok (.iload_n 3, 1) := dk_29 (dk_at dksX1_needed_1 19 rfl rfl)
theorem dX1_needed_44 : decode cX1_needed 44 = .ok (.bipush 12, 2) := dk_16 12 (dk_at dksX1_needed_1 20 rfl rfl)
theorem dX1_needed_46 : decode cX1_needed 46 = .ok (.irem, 1) := dk_112 (dk_at dksX1_needed_1 22 rfl rfl)
theorem dX1_needed_47 : decode cX1_needed 47 = .ok (.iconst 0, 1) := dk_3 (dk_at dksX1_needed_1 23 rfl rfl)
theorem dX1_needed_48 : decode cX1_needed 48 = .ok (.iastore, 1) := dk_79 (dk_at dksX1_needed_2 0 rfl rfl)
theorem dX1_needed_49 : decode cX1_needed 49 = .ok (.aload_n 0, 1) := dk_42 (dk_at dksX1_needed_2 1 rfl rfl)
theorem dX1_needed_50 : decode cX1_needed 50 = .ok (.invokevirtual 266, 3) := dk_182 1 10 (dk_at dksX1_needed_2 2 rfl rfl)
theorem dX1_needed_53 : decode cX1_needed 53 = .ok (.ifCond .ne 7, 3) := dk_154 0 7 (dk_at dksX1_needed_2 5 rfl rfl)
theorem dX1_needed_56 : decode cX1_needed 56 = .ok (.iconst 1, 1) := dk_4 (dk_at dksX1_needed_2 8 rfl rfl)
theorem dX1_needed_57 : decode cX1_needed 57 = .ok (.goto 4, 3) := dk_167 0 4 (dk_at dksX1_needed_2 9 rfl rfl)
theorem dX1_needed_60 : decode cX1_needed 60 = .ok (.iconst 0, 1) := dk_3 (dk_at dksX1_needed_2 12 rfl rfl)
theorem dX1_needed_61 : decode cX1_needed 61 = .ok (.istore 6, 2) := dk_54 6 (dk_at dksX1_needed_2 13 rfl rfl)
theorem dX1_needed_63 : decode cX1_needed 63 = .ok (.aload 4, 2) := dk_25 4 (dk_at dksX1_needed_2 15 rfl rfl)
theorem dX1_needed_65 : decode cX1_needed 65 = .ok (.iload_n 3, 1) := dk_29 (dk_at dksX1_needed_2 17 rfl rfl)
theorem dX1_needed_66 : decode cX1_needed 66 = .ok (.bipush 12, 2) := dk_16 12 (dk_at dksX1_needed_2 18 rfl rfl)
theorem dX1_needed_68 : decode cX1_needed 68 = .ok (.irem, 1) := dk_112 (dk_at dksX1_needed_2 20 rfl rfl)
theorem dX1_needed_69 : decode cX1_needed 69 = .ok (.iload 5, 2) := dk_21 5 (dk_at dksX1_needed_2 21 rfl rfl)
theorem dX1_needed_71 : decode cX1_needed 71 = .ok (.iastore, 1) := dk_79 (dk_at dksX1_needed_2 23 rfl rfl)
theorem dX1_needed_72 : decode cX1_needed 72 = .ok (.iload 6, 2) := dk_21 6 (dk_at dksX1_needed_3 0 rfl rfl)
theorem dX1_needed_74 : decode cX1_needed 74 = .ok (.ifCond .eq 12, 3) := dk_153 0 12 (dk_at dksX1_needed_3 2 rfl rfl)
theorem dX1_needed_77 : decode cX1_needed 77 = .ok (.iload_n 1, 1) := dk_27 (dk_at dksX1_needed_3 5 rfl rfl)
theorem dX1_needed_78 : decode cX1_needed 78 = .ok (.ifCond .eq 8, 3) := dk_153 0 8 (dk_at dksX1_needed_3 6 rfl rfl)
theorem dX1_needed_81 : decode cX1_needed 81 = .ok (.iload_n 3, 1) := dk_29 (dk_at dksX1_needed_3 9 rfl rfl)
theorem dX1_needed_82 : decode cX1_needed 82 = .ok (.invokestatic 435, 3) := dk_184 1 179 (dk_at dksX1_needed_3 10 rfl rfl)
theorem dX1_needed_85 : decode cX1_needed 85 = .ok (.ireturn, 1) := dk_172 (dk_at dksX1_needed_3 13 rfl rfl)
theorem dX1_needed_86 : decode cX1_needed 86 = .ok (.iload_n 2, 1) := dk_28 (dk_at dksX1_needed_3 14 rfl rfl)
theorem dX1_needed_87 : decode cX1_needed 87 = .ok (.iload 6, 2) := dk_21 6 (dk_at dksX1_needed_3 15 rfl rfl)
theorem dX1_needed_89 : decode cX1_needed 89 = .ok (.ifCond .eq 7, 3) := dk_153 0 7 (dk_at dksX1_needed_3 17 rfl rfl)
theorem dX1_needed_92 : decode cX1_needed 92 = .ok (.iconst 1, 1) := dk_4 (dk_at dksX1_needed_3 20 rfl rfl)
theorem dX1_needed_93 : decode cX1_needed 93 = .ok (.goto 4, 3) := dk_167 0 4 (dk_at dksX1_needed_3 21 rfl rfl)
theorem dX1_needed_96 : decode cX1_needed 96 = .ok (.iconst 0, 1) := dk_3 (dk_at dksX1_needed_4 0 rfl rfl)
theorem dX1_needed_97 : decode cX1_needed 97 = .ok (.iadd, 1) := dk_96 (dk_at dksX1_needed_4 1 rfl rfl)
theorem dX1_needed_98 : decode cX1_needed 98 = .ok (.istore_n 2, 1) := dk_61 (dk_at dksX1_needed_4 2 rfl rfl)
theorem dX1_needed_99 : decode cX1_needed 99 = .ok (.iinc 3 1, 3) := dk_132 3 1 (dk_at dksX1_needed_4 3 rfl rfl)
theorem dX1_needed_102 : decode cX1_needed 102 = .ok (.goto (-98), 3) := dk_167 255 158 (dk_at dksX1_needed_4 6 rfl rfl)
theorem dX1_needed_105 : decode cX1_needed 105 = .ok (.iload_n 1, 1) := dk_27 (dk_at dksX1_needed_4 9 rfl rfl)
theorem dX1_needed_106 : decode cX1_needed 106 = .ok (.ifCond .eq 7, 3) := dk_153 0 7 (dk_at dksX1_needed_4 10 rfl rfl)
theorem dX1_needed_109 : decode cX1_needed 109 = .ok (.iconst (-1), 1) := dk_2 (dk_at dksX1_needed_4 13 rfl rfl)
theorem dX1_needed_110 : decode cX1_needed 110 = .ok (.goto 4, 3) := dk_167 0 4 (dk_at dksX1_needed_4 14 rfl rfl)
theorem dX1_needed_113 : decode cX1_needed 113 = .ok (.iload_n 2, 1) := dk_28 (dk_at dksX1_needed_4 17 rfl rfl)
theorem dX1_needed_114 : decode cX1_needed 114 = .ok (.ireturn, 1) := dk_172 (dk_at dksX1_needed_4 18 rfl rfl)
def dkwX1_bars_2 : List UInt8 := [158, 0, 7, 4, 167, 0, 4, 3, 96, 96, 60, 132, 2, 1, 167, 255, 200, 27, 172]
abbrev dktX1_bars_2 : List UInt8 := dkwX1_bars_2 ++ []
def dkwX1_bars_1 : List UInt8 := [50, 28, 46, 158, 0, 7, 4, 167, 0, 4, 3, 42, 180, 0, 1, 180, 0, 238, 4, 50, 28, 46]
abbrev dktX1_bars_1 : List UInt8 := dkwX1_bars_1 ++ dktX1_bars_2
def dkwX1_bars_0 : List UInt8 := [3, 60, 3, 61, 28, 42, 180, 0, 1, 182, 0, 55, 162, 0, 51, 27, 42, 180, 0, 1, 180, 0, 238, 3]
abbrev dktX1_bars_0 : List UInt8 := dkwX1_bars_0 ++ dktX1_bars_1
theorem dksX1_bars_0 : cX1_bars.data.toList.drop 0 = dktX1_bars_0 := by decide +kernel
theorem dksX1_bars_1 : cX1_bars.data.toList.drop 24 = dktX1_bars_1 := dk_seg dksX1_bars_0 24 rfl rfl
theorem dksX1_bars_2 : cX1_bars.data.toList.drop 46 = dktX1_bars_2 := dk_seg dksX1_bars_1 22 rfl rfl
theorem dX1_bars_0 : decode cX1_bars 0 = .ok (.iconst 0, 1) := dk_3 (dk_at dksX1_bars_0 0 rfl rfl)
theorem dX1_bars_1 : decode cX1_bars 1 = .ok (.istore_n 1, 1) := dk_60 (dk_at dksX1_bars_0 1 rfl rfl)
theorem dX1_bars_2 : decode cX1_bars 2 = .ok (.iconst 0, 1) := dk_3 (dk_at dksX1_bars_0 2 rfl rfl)
theorem dX1_bars_3 : decode cX1_bars 3 = .ok (.istore_n 2, 1) := dk_61 (dk_at dksX1_bars_0 3 rfl rfl)
theorem dX1_bars_4 : decode cX1_bars 4 = .ok (.iload_n 2, 1) := dk_28 (dk_at dksX1_bars_0 4 rfl rfl)
theorem dX1_bars_5 : decode cX1_bars 5 = .ok (.aload_n 0, 1) := dk_42 (dk_at dksX1_bars_0 5 rfl rfl)
theorem dX1_bars_6 : decode cX1_bars 6 = .ok (.getfield 1, 3) := dk_180 0 1 (dk_at dksX1_bars_0 6 rfl rfl)
theorem dX1_bars_9 : decode cX1_bars 9 = .ok (.invokevirtual 55, 3) := dk_182 0 55 (dk_at dksX1_bars_0 9 rfl rfl)
theorem dX1_bars_12 : decode cX1_bars 12 = .ok (.if_icmp .ge 51, 3) := dk_162 0 51 (dk_at dksX1_bars_0 12 rfl rfl)
theorem dX1_bars_15 : decode cX1_bars 15 = .ok (.iload_n 1, 1) := dk_27 (dk_at dksX1_bars_0 15 rfl rfl)
theorem dX1_bars_16 : decode cX1_bars 16 = .ok (.aload_n 0, 1) := dk_42 (dk_at dksX1_bars_0 16 rfl rfl)
theorem dX1_bars_17 : decode cX1_bars 17 = .ok (.getfield 1, 3) := dk_180 0 1 (dk_at dksX1_bars_0 17 rfl rfl)
theorem dX1_bars_20 : decode cX1_bars 20 = .ok (.getfield 238, 3) := dk_180 0 238 (dk_at dksX1_bars_0 20 rfl rfl)
theorem dX1_bars_23 : decode cX1_bars 23 = .ok (.iconst 0, 1) := dk_3 (dk_at dksX1_bars_0 23 rfl rfl)
theorem dX1_bars_24 : decode cX1_bars 24 = .ok (.aaload, 1) := dk_50 (dk_at dksX1_bars_1 0 rfl rfl)
theorem dX1_bars_25 : decode cX1_bars 25 = .ok (.iload_n 2, 1) := dk_28 (dk_at dksX1_bars_1 1 rfl rfl)
theorem dX1_bars_26 : decode cX1_bars 26 = .ok (.iaload, 1) := dk_46 (dk_at dksX1_bars_1 2 rfl rfl)
theorem dX1_bars_27 : decode cX1_bars 27 = .ok (.ifCond .le 7, 3) := dk_158 0 7 (dk_at dksX1_bars_1 3 rfl rfl)
theorem dX1_bars_30 : decode cX1_bars 30 = .ok (.iconst 1, 1) := dk_4 (dk_at dksX1_bars_1 6 rfl rfl)
theorem dX1_bars_31 : decode cX1_bars 31 = .ok (.goto 4, 3) := dk_167 0 4 (dk_at dksX1_bars_1 7 rfl rfl)
theorem dX1_bars_34 : decode cX1_bars 34 = .ok (.iconst 0, 1) := dk_3 (dk_at dksX1_bars_1 10 rfl rfl)
theorem dX1_bars_35 : decode cX1_bars 35 = .ok (.aload_n 0, 1) := dk_42 (dk_at dksX1_bars_1 11 rfl rfl)
theorem dX1_bars_36 : decode cX1_bars 36 = .ok (.getfield 1, 3) := dk_180 0 1 (dk_at dksX1_bars_1 12 rfl rfl)
theorem dX1_bars_39 : decode cX1_bars 39 = .ok (.getfield 238, 3) := dk_180 0 238 (dk_at dksX1_bars_1 15 rfl rfl)
theorem dX1_bars_42 : decode cX1_bars 42 = .ok (.iconst 1, 1) := dk_4 (dk_at dksX1_bars_1 18 rfl rfl)
theorem dX1_bars_43 : decode cX1_bars 43 = .ok (.aaload, 1) := dk_50 (dk_at dksX1_bars_1 19 rfl rfl)
theorem dX1_bars_44 : decode cX1_bars 44 = .ok (.iload_n 2, 1) := dk_28 (dk_at dksX1_bars_1 20 rfl rfl)
theorem dX1_bars_45 : decode cX1_bars 45 = .ok (.iaload, 1) := dk_46 (dk_at dksX1_bars_1 21 rfl rfl)
theorem dX1_bars_46 : decode cX1_bars 46 = .ok (.ifCond .le 7, 3) := dk_158 0 7 (dk_at dksX1_bars_2 0 rfl rfl)
theorem dX1_bars_49 : decode cX1_bars 49 = .ok (.iconst 1, 1) := dk_4 (dk_at dksX1_bars_2 3 rfl rfl)
theorem dX1_bars_50 : decode cX1_bars 50 = .ok (.goto 4, 3) := dk_167 0 4 (dk_at dksX1_bars_2 4 rfl rfl)
theorem dX1_bars_53 : decode cX1_bars 53 = .ok (.iconst 0, 1) := dk_3 (dk_at dksX1_bars_2 7 rfl rfl)
theorem dX1_bars_54 : decode cX1_bars 54 = .ok (.iadd, 1) := dk_96 (dk_at dksX1_bars_2 8 rfl rfl)
theorem dX1_bars_55 : decode cX1_bars 55 = .ok (.iadd, 1) := dk_96 (dk_at dksX1_bars_2 9 rfl rfl)
theorem dX1_bars_56 : decode cX1_bars 56 = .ok (.istore_n 1, 1) := dk_60 (dk_at dksX1_bars_2 10 rfl rfl)
theorem dX1_bars_57 : decode cX1_bars 57 = .ok (.iinc 2 1, 3) := dk_132 2 1 (dk_at dksX1_bars_2 11 rfl rfl)
theorem dX1_bars_60 : decode cX1_bars 60 = .ok (.goto (-56), 3) := dk_167 255 200 (dk_at dksX1_bars_2 14 rfl rfl)
theorem dX1_bars_63 : decode cX1_bars 63 = .ok (.iload_n 1, 1) := dk_27 (dk_at dksX1_bars_2 17 rfl rfl)
theorem dX1_bars_64 : decode cX1_bars 64 = .ok (.ireturn, 1) := dk_172 (dk_at dksX1_bars_2 18 rfl rfl)
def dkwX1_rods_1 : List UInt8 := [50, 28, 46, 158, 0, 7, 4, 167, 0, 4, 3, 96, 60, 132, 2, 1, 167, 255, 220, 27, 172]
abbrev dktX1_rods_1 : List UInt8 := dkwX1_rods_1 ++ []
def dkwX1_rods_0 : List UInt8 := [3, 60, 3, 61, 28, 42, 180, 0, 1, 182, 0, 55, 162, 0, 31, 27, 42, 180, 0, 1, 180, 0, 238, 5]
abbrev dktX1_rods_0 : List UInt8 := dkwX1_rods_0 ++ dktX1_rods_1
theorem dksX1_rods_0 : cX1_rods.data.toList.drop 0 = dktX1_rods_0 := by decide +kernel
theorem dksX1_rods_1 : cX1_rods.data.toList.drop 24 = dktX1_rods_1 := dk_seg dksX1_rods_0 24 rfl rfl
theorem dX1_rods_0 : decode cX1_rods 0 = .ok (.iconst 0, 1) := dk_3 (dk_at dksX1_rods_0 0 rfl rfl)
theorem dX1_rods_1 : decode cX1_rods 1 = .ok (.istore_n 1, 1) := dk_60 (dk_at dksX1_rods_0 1 rfl rfl)
theorem dX1_rods_2 : decode cX1_rods 2 = .ok (.iconst 0, 1) := dk_3 (dk_at dksX1_rods_0 2 rfl rfl)
theorem dX1_rods_3 : decode cX1_rods 3 = .ok (.istore_n 2, 1) := dk_61 (dk_at dksX1_rods_0 3 rfl rfl)
theorem dX1_rods_4 : decode cX1_rods 4 = .ok (.iload_n 2, 1) := dk_28 (dk_at dksX1_rods_0 4 rfl rfl)
theorem dX1_rods_5 : decode cX1_rods 5 = .ok (.aload_n 0, 1) := dk_42 (dk_at dksX1_rods_0 5 rfl rfl)
theorem dX1_rods_6 : decode cX1_rods 6 = .ok (.getfield 1, 3) := dk_180 0 1 (dk_at dksX1_rods_0 6 rfl rfl)
theorem dX1_rods_9 : decode cX1_rods 9 = .ok (.invokevirtual 55, 3) := dk_182 0 55 (dk_at dksX1_rods_0 9 rfl rfl)
theorem dX1_rods_12 : decode cX1_rods 12 = .ok (.if_icmp .ge 31, 3) := dk_162 0 31 (dk_at dksX1_rods_0 12 rfl rfl)
theorem dX1_rods_15 : decode cX1_rods 15 = .ok (.iload_n 1, 1) := dk_27 (dk_at dksX1_rods_0 15 rfl rfl)
theorem dX1_rods_16 : decode cX1_rods 16 = .ok (.aload_n 0, 1) := dk_42 (dk_at dksX1_rods_0 16 rfl rfl)
theorem dX1_rods_17 : decode cX1_rods 17 = .ok (.getfield 1, 3) := dk_180 0 1 (dk_at dksX1_rods_0 17 rfl rfl)
theorem dX1_rods_20 : decode cX1_rods 20 = .ok (.getfield 238, 3) := dk_180 0 238 (dk_at dksX1_rods_0 20 rfl rfl)
theorem dX1_rods_23 : decode cX1_rods 23 = .ok (.iconst 2, 1) := dk_5 (dk_at dksX1_rods_0 23 rfl rfl)
theorem dX1_rods_24 : decode cX1_rods 24 = .ok (.aaload, 1) := dk_50 (dk_at dksX1_rods_1 0 rfl rfl)
theorem dX1_rods_25 : decode cX1_rods 25 = .ok (.iload_n 2, 1) := dk_28 (dk_at dksX1_rods_1 1 rfl rfl)
theorem dX1_rods_26 : decode cX1_rods 26 = .ok (.iaload, 1) := dk_46 (dk_at dksX1_rods_1 2 rfl rfl)
theorem dX1_rods_27 : decode cX1_rods 27 = .ok (.ifCond .le 7, 3) := dk_158 0 7 (dk_at dksX1_rods_1 3 rfl rfl)
theorem dX1_rods_30 : decode cX1_rods 30 = .ok (.iconst 1, 1) := dk_4 (dk_at dksX1_rods_1 6 rfl rfl)
theorem dX1_rods_31 : decode cX1_rods 31 = .ok (.goto 4, 3) := dk_167 0 4 (dk_at dksX1_rods_1 7 rfl rfl)
theorem dX1_rods_34 : decode cX1_rods 34 = .ok (.iconst 0, 1) := dk_3 (dk_at dksX1_rods_1 10 rfl rfl)
theorem dX1_rods_35 : decode cX1_rods 35 = .ok (.iadd, 1) := dk_96 (dk_at dksX1_rods_1 11 rfl rfl)
theorem dX1_rods_36 : decode cX1_rods 36 = .ok (.istore_n 1, 1) := dk_60 (dk_at dksX1_rods_1 12 rfl rfl)
theorem dX1_rods_37 : decode cX1_rods 37 = .ok (.iinc 2 1, 3) := dk_132 2 1 (dk_at dksX1_rods_1 13 rfl rfl)
theorem dX1_rods_40 : decode cX1_rods 40 = .ok (.goto (-36), 3) := dk_167 255 220 (dk_at dksX1_rods_1 16 rfl rfl)
theorem dX1_rods_43 : decode cX1_rods 43 = .ok (.iload_n 1, 1) := dk_27 (dk_at dksX1_rods_1 19 rfl rfl)
theorem dX1_rods_44 : decode cX1_rods 44 = .ok (.ireturn, 1) := dk_172 (dk_at dksX1_rods_1 20 rfl rfl)
def dkwX1_limit_2 : List UInt8 := [167, 255, 226, 42, 180, 0, 1, 180, 0, 59, 61, 42, 180, 0, 1, 27, 181, 0, 59, 28, 172]
abbrev dktX1_limit_2 : List UInt8 := dkwX1_limit_2 ++ []
def dkwX1_limit_1 : List UInt8 := [158, 0, 26, 42, 182, 1, 10, 154, 0, 19, 42, 180, 0, 1, 89, 180, 0, 59, 4, 100, 181, 0, 59]
abbrev dktX1_limit_1 : List UInt8 := dkwX1_limit_1 ++ dktX1_limit_2
def dkwX1_limit_0 : List UInt8 := [42, 180, 0, 1, 180, 0, 59, 60, 42, 180, 0, 1, 16, 99, 181, 0, 59, 42, 180, 0, 1, 180, 0, 59]
abbrev dktX1_limit_0 : List UInt8 := dkwX1_limit_0 ++ dktX1_limit_1
theorem dksX1_limit_0 : cX1_limit.data.toList.drop 0 = dktX1_limit_0 := by decide +kernel
theorem dksX1_limit_1 : cX1_limit.data.toList.drop 24 = dktX1_limit_1 := dk_seg dksX1_limit_0 24 rfl rfl
theorem dksX1_limit_2 : cX1_limit.data.toList.drop 47 = dktX1_limit_2 := dk_seg dksX1_limit_1 23 rfl rfl
theorem dX1_limit_0 : decode cX1_limit 0 = .ok (.aload_n 0, 1) := dk_42 (dk_at dksX1_limit_0 0 rfl rfl)
theorem dX1_limit_1 : decode cX1_limit 1 = .ok (.getfield 1, 3) := dk_180 0 1 (dk_at dksX1_limit_0 1 rfl rfl)
theorem dX1_limit_4 : decode cX1_limit 4 = .ok (.getfield 59, 3) := dk_180 0 59 (dk_at dksX1_limit_0 4 rfl rfl)
theorem dX1_limit_7 : decode cX1_limit 7 = .ok (.istore_n 1, 1) := dk_60 (dk_at dksX1_limit_0 7 rfl rfl)
theorem dX1_limit_8 : decode cX1_limit 8 = .ok (.aload_n 0, 1) := dk_42 (dk_at dksX1_limit_0 8 rfl rfl)
theorem dX1_limit_9 : decode cX1_limit 9 = .ok (.getfield 1, 3) := dk_180 0 1 (dk_at dksX1_limit_0 9 rfl rfl)
theorem dX1_limit_12 : decode cX1_limit 12 = .ok (.bipush 99, 2) := dk_16 99 (dk_at dksX1_limit_0 12 rfl rfl)
theorem dX1_limit_14 : decode cX1_limit 14 = .ok (.putfield 59, 3) := dk_181 0 59 (dk_at dksX1_limit_0 14 rfl rfl)
theorem dX1_limit_17 : decode cX1_limit 17 = .ok (.aload_n 0, 1) := dk_42 (dk_at dksX1_limit_0 17 rfl rfl)
theorem dX1_limit_18 : decode cX1_limit 18 = .ok (.getfield 1, 3) := dk_180 0 1 (dk_at dksX1_limit_0 18 rfl rfl)
theorem dX1_limit_21 : decode cX1_limit 21 = .ok (.getfield 59, 3) := dk_180 0 59 (dk_at dksX1_limit_0 21 rfl rfl)
theorem dX1_limit_24 : decode cX1_limit 24 = .ok (.ifCond .le 26, 3) := dk_158 0 26 (dk_at dksX1_limit_1 0 rfl rfl)
theorem dX1_limit_27 : decode cX1_limit 27 = .ok (.aload_n 0, 1) := dk_42 (dk_at dksX1_limit_1 3 rfl rfl)
theorem dX1_limit_28 : decode cX1_limit 28 = .ok (.invokevirtual 266, 3) := dk_182 1 10 (dk_at dksX1_limit_1 4 rfl rfl)
theorem dX1_limit_31 : decode cX1_limit 31 = .ok (.ifCond .ne 19, 3) := dk_154 0 19 (dk_at dksX1_limit_1 7 rfl rfl)
theorem dX1_limit_34 : decode cX1_limit 34 = .ok (.aload_n 0, 1) := dk_42 (dk_at dksX1_limit_1 10 rfl rfl)
theorem dX1_limit_35 : decode cX1_limit 35 = .ok (.getfield 1, 3) := dk_180 0 1 (dk_at dksX1_limit_1 11 rfl rfl)
theorem dX1_limit_38 : decode cX1_limit 38 = .ok (.dup, 1) := dk_89 (dk_at dksX1_limit_1 14 rfl rfl)
theorem dX1_limit_39 : decode cX1_limit 39 = .ok (.getfield 59, 3) := dk_180 0 59 (dk_at dksX1_limit_1 15 rfl rfl)
theorem dX1_limit_42 : decode cX1_limit 42 = .ok (.iconst 1, 1) := dk_4 (dk_at dksX1_limit_1 18 rfl rfl)
theorem dX1_limit_43 : decode cX1_limit 43 = .ok (.isub, 1) := dk_100 (dk_at dksX1_limit_1 19 rfl rfl)
theorem dX1_limit_44 : decode cX1_limit 44 = .ok (.putfield 59, 3) := dk_181 0 59 (dk_at dksX1_limit_1 20 rfl rfl)
theorem dX1_limit_47 : decode cX1_limit 47 = .ok (.goto (-30), 3) := dk_167 255 226 (dk_at dksX1_limit_2 0 rfl rfl)
theorem dX1_limit_50 : decode cX1_limit 50 = .ok (.aload_n 0, 1) := dk_42 (dk_at dksX1_limit_2 3 rfl rfl)
theorem dX1_limit_51 : decode cX1_limit 51 = .ok (.getfield 1, 3) := dk_180 0 1 (dk_at dksX1_limit_2 4 rfl rfl)
theorem dX1_limit_54 : decode cX1_limit 54 = .ok (.getfield 59, 3) := dk_180 0 59 (dk_at dksX1_limit_2 7 rfl rfl)
theorem dX1_limit_57 : decode cX1_limit 57 = .ok (.istore_n 2, 1) := dk_61 (dk_at dksX1_limit_2 10 rfl rfl)
theorem dX1_limit_58 : decode cX1_limit 58 = .ok (.aload_n 0, 1) := dk_42 (dk_at dksX1_limit_2 11 rfl rfl)
theorem dX1_limit_59 : decode cX1_limit 59 = .ok (.getfield 1, 3) := dk_180 0 1 (dk_at dksX1_limit_2 12 rfl rfl)
theorem dX1_limit_62 : decode cX1_limit 62 = .ok (.iload_n 1, 1) := dk_27 (dk_at dksX1_limit_2 15 rfl rfl)
theorem dX1_limit_63 : decode cX1_limit 63 = .ok (.putfield 59, 3) := dk_181 0 59 (dk_at dksX1_limit_2 16 rfl rfl)
theorem dX1_limit_66 : decode cX1_limit 66 = .ok (.iload_n 2, 1) := dk_28 (dk_at dksX1_limit_2 19 rfl rfl)
theorem dX1_limit_67 : decode cX1_limit 67 = .ok (.ireturn, 1) := dk_172 (dk_at dksX1_limit_2 20 rfl rfl)
def dkwX1_thinned_6 : List UInt8 := [172]
abbrev dktX1_thinned_6 : List UInt8 := dkwX1_thinned_6 ++ []
def dkwX1_thinned_5 : List UInt8 := [132, 5, 1, 167, 255, 148, 42, 180, 0, 1, 44, 181, 0, 238, 27, 153, 0, 8, 21, 4, 167, 0, 4, 29]
abbrev dktX1_thinned_5 : List UInt8 := dkwX1_thinned_5 ++ dktX1_thinned_6
def dkwX1_thinned_4 : List UInt8 := [167, 0, 24, 42, 180, 0, 1, 180, 0, 238, 21, 5, 16, 12, 108, 50, 21, 5, 16, 12, 112, 21, 6, 79]
abbrev dktX1_thinned_4 : List UInt8 := dkwX1_thinned_4 ++ dktX1_thinned_5
def dkwX1_thinned_3 : List UInt8 := [182, 1, 10, 153, 0, 24, 132, 3, 1, 21, 4, 21, 6, 42, 180, 0, 1, 180, 1, 4, 104, 96, 54, 4]
abbrev dktX1_thinned_3 : List UInt8 := dkwX1_thinned_3 ++ dktX1_thinned_4
def dkwX1_thinned_2 : List UInt8 := [167, 0, 72, 42, 180, 0, 1, 180, 0, 238, 21, 5, 16, 12, 108, 50, 21, 5, 16, 12, 112, 3, 79, 42]
abbrev dktX1_thinned_2 : List UInt8 := dkwX1_thinned_2 ++ dktX1_thinned_3
def dkwX1_thinned_1 : List UInt8 := [180, 0, 238, 21, 5, 16, 12, 108, 50, 21, 5, 16, 12, 112, 46, 54, 6, 21, 6, 154, 0, 6]
abbrev dktX1_thinned_1 : List UInt8 := dkwX1_thinned_1 ++ dktX1_thinned_2
def dkwX1_thinned_0 : List UInt8 := [42, 182, 1, 136, 77, 3, 62, 3, 54, 4, 3, 54, 5, 21, 5, 16, 24, 162, 0, 107, 42, 180, 0, 1]
abbrev dktX1_thinned_0 : List UInt8 := dkwX1_thinned_0 ++ dktX1_thinned_1
theorem dksX1_thinned_0 : cX1_thinned.data.toList.drop 0 = dktX1_thinned_0 := by decide +kernel
theorem dksX1_thinned_1 : cX1_thinned.data.toList.drop 24 = dktX1_thinned_1 := dk_seg dksX1_thinned_0 24 rfl rfl
theorem dksX1_thinned_2 : cX1_thinned.data.toList.drop 46 = dktX1_thinned_2 := dk_seg dksX1_thinned_1 22 rfl rfl
theorem dksX1_thinned_3 : cX1_thinned.data.toList.drop 70 = dktX1_thinned_3 := dk_seg dksX1_thinned_2 24 rfl rfl
theorem dksX1_thinned_4 : cX1_thinned.data.toList.drop 94 = dktX1_thinned_4 := dk_seg dksX1_thinned_3 24 rfl rfl
theorem dksX1_thinned_5 : cX1_thinned.data.toList.drop 118 = dktX1_thinned_5 := dk_seg dksX1_thinned_4 24 rfl rfl
theorem dksX1_thinned_6 : cX1_thinned.data.toList.drop 142 = dktX1_thinned_6 := dk_seg dksX1_thinned_5 24 rfl rfl
theorem dX1_thinned_0 : decode cX1_thinned 0 = .ok (.aload_n 0, 1) := dk_42 (dk_at dksX1_thinned_0 0 rfl rfl)
theorem dX1_thinned_1 : decode cX1_thinned 1 = .ok (.invokevirtual 392, 3) := dk_182 1 136 (dk_at dksX1_thinned_0 1 rfl rfl)
theorem dX1_thinned_4 : decode cX1_thinned 4 = .ok (.astore_n 2, 1) := dk_77 (dk_at dksX1_thinned_0 4 rfl rfl)
theorem dX1_thinned_5 : decode cX1_thinned 5 = .ok (.iconst 0, 1) := dk_3 (dk_at dksX1_thinned_0 5 rfl rfl)
theorem dX1_thinned_6 : decode cX1_thinned 6 = .ok (.istore_n 3, 1) := dk_62 (dk_at dksX1_thinned_0 6 rfl rfl)
theorem dX1_thinned_7 : decode cX1_thinned 7 = .ok (.iconst 0, 1) := dk_3 (dk_at dksX1_thinned_0 7 rfl rfl)
theorem dX1_thinned_8 : decode cX1_thinned 8 = .ok (.istore 4, 2) := dk_54 4 (dk_at dksX1_thinned_0 8 rfl rfl)
theorem dX1_thinned_10 : decode cX1_thinned 10 = .ok (.iconst 0, 1) := dk_3 (dk_at dksX1_thinned_0 10 rfl rfl)
theorem dX1_thinned_11 : decode cX1_thinned 11 = .ok (.istore 5, 2) := dk_54 5 (dk_at dksX1_thinned_0 11 rfl rfl)
theorem dX1_thinned_13 : decode cX1_thinned 13 = .ok (.iload 5, 2) := dk_21 5 (dk_at dksX1_thinned_0 13 rfl rfl)
theorem dX1_thinned_15 : decode cX1_thinned 15 = .ok (.bipush 24, 2) := dk_16 24 (dk_at dksX1_thinned_0 15 rfl rfl)
theorem dX1_thinned_17 : decode cX1_thinned 17 = .ok (.if_icmp .ge 107, 3) := dk_162 0 107 (dk_at dksX1_thinned_0 17 rfl rfl)
theorem dX1_thinned_20 : decode cX1_thinned 20 = .ok (.aload_n 0, 1) := dk_42 (dk_at dksX1_thinned_0 20 rfl rfl)
theorem dX1_thinned_21 : decode cX1_thinned 21 = .ok (.getfield 1, 3) := dk_180 0 1 (dk_at dksX1_thinned_0 21 rfl rfl)
theorem dX1_thinned_24 : decode cX1_thinned 24 = .ok (.getfield 238, 3) := dk_180 0 238 (dk_at dksX1_thinned_1 0 rfl rfl)
theorem dX1_thinned_27 : decode cX1_thinned 27 = .ok (.iload 5, 2) := dk_21 5 (dk_at dksX1_thinned_1 3 rfl rfl)
theorem dX1_thinned_29 : decode cX1_thinned 29 = .ok (.bipush 12, 2) := dk_16 12 (dk_at dksX1_thinned_1 5 rfl rfl)
theorem dX1_thinned_31 : decode cX1_thinned 31 = .ok (.idiv, 1) := dk_108 (dk_at dksX1_thinned_1 7 rfl rfl)
theorem dX1_thinned_32 : decode cX1_thinned 32 = .ok (.aaload, 1) := dk_50 (dk_at dksX1_thinned_1 8 rfl rfl)
theorem dX1_thinned_33 : decode cX1_thinned 33 = .ok (.iload 5, 2) := dk_21 5 (dk_at dksX1_thinned_1 9 rfl rfl)
theorem dX1_thinned_35 : decode cX1_thinned 35 = .ok (.bipush 12, 2) := dk_16 12 (dk_at dksX1_thinned_1 11 rfl rfl)
theorem dX1_thinned_37 : decode cX1_thinned 37 = .ok (.irem, 1) := dk_112 (dk_at dksX1_thinned_1 13 rfl rfl)
theorem dX1_thinned_38 : decode cX1_thinned 38 = .ok (.iaload, 1) := dk_46 (dk_at dksX1_thinned_1 14 rfl rfl)
theorem dX1_thinned_39 : decode cX1_thinned 39 = .ok (.istore 6, 2) := dk_54 6 (dk_at dksX1_thinned_1 15 rfl rfl)
theorem dX1_thinned_41 : decode cX1_thinned 41 = .ok (.iload 6, 2) := dk_21 6 (dk_at dksX1_thinned_1 17 rfl rfl)
theorem dX1_thinned_43 : decode cX1_thinned 43 = .ok (.ifCond .ne 6, 3) := dk_154 0 6 (dk_at dksX1_thinned_1 19 rfl rfl)
theorem dX1_thinned_46 : decode cX1_thinned 46 = .ok (.goto 72, 3) := dk_167 0 72 (dk_at dksX1_thinned_2 0 rfl rfl)
theorem dX1_thinned_49 : decode cX1_thinned 49 = .ok (.aload_n 0, 1) := dk_42 (dk_at dksX1_thinned_2 3 rfl rfl)
theorem dX1_thinned_50 : decode cX1_thinned 50 = .ok (.getfield 1, 3) := dk_180 0 1 (dk_at dksX1_thinned_2 4 rfl rfl)
theorem dX1_thinned_53 : decode cX1_thinned 53 = .ok (.getfield 238, 3) := dk_180 0 238 (dk_at dksX1_thinned_2 7 rfl rfl)
theorem dX1_thinned_56 : decode cX1_thinned 56 = .ok (.iload 5, 2) := dk_21 5 (dk_at dksX1_thinned_2 10 rfl rfl)
theorem dX1_thinned_58 : decode cX1_thinned 58 = .ok (.bipush 12, 2) := dk_16 12 (dk_at dksX1_thinned_2 12 rfl rfl)
theorem dX1_thinned_60 : decode cX1_thinned 60 = .ok (.idiv, 1) := dk_108 (dk_at dksX1_thinned_2 14 rfl rfl)
theorem dX1_thinned_61 : decode cX1_thinned 61 = .ok (.aaload, 1) := dk_50 (dk_at dksX1_thinned_2 15 rfl rfl)
theorem dX1_thinned_62 : decode cX1_thinned 62 = .ok (.iload 5, 2) := dk_21 5 (dk_at dksX1_thinned_2 16 rfl rfl)
theorem dX1_thinned_64 : decode cX1_thinned 64 = .ok (.bipush 12, 2) := dk_16 12 (dk_at dksX1_thinned_2 18 rfl rfl)
theorem dX1_thinned_66 : decode cX1_thinned 66 = .ok (.irem, 1) := dk_112 (dk_at dksX1_thinned_2 20 rfl rfl)
theorem dX1_thinned_67 : decode cX1_thinned 67 = .ok (.iconst 0, 1) := dk_3 (dk_at dksX1_thinned_2 21 rfl rfl)
theorem dX1_thinned_68 : decode cX1_thinned 68 = .ok (.iastore, 1) := dk_79 (dk_at dksX1_thinned_2 22 rfl rfl)
theorem dX1_thinned_69 : decode cX1_thinned 69 = .ok (.aload_n 0, 1) := dk_42 (dk_at dksX1_thinned_2 23 rfl rfl)
theorem dX1_thinned_70 : decode cX1_thinned 70 = .ok (.invokevirtual 266, 3) := dk_182 1 10 (dk_at dksX1_thinned_3 0 rfl rfl)
theorem dX1_thinned_73 : decode cX1_thinned 73 = .ok (.ifCond .eq 24, 3) := dk_153 0 24 (dk_at dksX1_thinned_3 3 rfl rfl)
theorem dX1_thinned_76 : decode cX1_thinned 76 = .ok (.iinc 3 1, 3) := dk_132 3 1 (dk_at dksX1_thinned_3 6 rfl rfl)
theorem dX1_thinned_79 : decode cX1_thinned 79 = .ok (.iload 4, 2) := dk_21 4 (dk_at dksX1_thinned_3 9 rfl rfl)
theorem dX1_thinned_81 : decode cX1_thinned 81 = .ok (.iload 6, 2) := dk_21 6 (dk_at dksX1_thinned_3 11 rfl rfl)
theorem dX1_thinned_83 : decode cX1_thinned 83 = .ok (.aload_n 0, 1) := dk_42 (dk_at dksX1_thinned_3 13 rfl rfl)
theorem dX1_thinned_84 : decode cX1_thinned 84 = .ok (.getfield 1, 3) := dk_180 0 1 (dk_at dksX1_thinned_3 14 rfl rfl)
theorem dX1_thinned_87 : decode cX1_thinned 87 = .ok (.getfield 260, 3) := dk_180 1 4 (dk_at dksX1_thinned_3 17 rfl rfl)
theorem dX1_thinned_90 : decode cX1_thinned 90 = .ok (.imul, 1) := dk_104 (dk_at dksX1_thinned_3 20 rfl rfl)
theorem dX1_thinned_91 : decode cX1_thinned 91 = .ok (.iadd, 1) := dk_96 (dk_at dksX1_thinned_3 21 rfl rfl)
theorem dX1_thinned_92 : decode cX1_thinned 92 = .ok (.istore 4, 2) := dk_54 4 (dk_at dksX1_thinned_3 22 rfl rfl)
theorem dX1_thinned_94 : decode cX1_thinned 94 = .ok (.goto 24, 3) := dk_167 0 24 (dk_at dksX1_thinned_4 0 rfl rfl)
theorem dX1_thinned_97 : decode cX1_thinned 97 = .ok (.aload_n 0, 1) := dk_42 (dk_at dksX1_thinned_4 3 rfl rfl)
theorem dX1_thinned_98 : decode cX1_thinned 98 = .ok (.getfield 1, 3) := dk_180 0 1 (dk_at dksX1_thinned_4 4 rfl rfl)
theorem dX1_thinned_101 : decode cX1_thinned 101 = .ok (.getfield 238, 3) := dk_180 0 238 (dk_at dksX1_thinned_4 7 rfl rfl)
theorem dX1_thinned_104 : decode cX1_thinned 104 = .ok (.iload 5, 2) := dk_21 5 (dk_at dksX1_thinned_4 10 rfl rfl)
theorem dX1_thinned_106 : decode cX1_thinned 106 = .ok (.bipush 12, 2) := dk_16 12 (dk_at dksX1_thinned_4 12 rfl rfl)
theorem dX1_thinned_108 : decode cX1_thinned 108 = .ok (.idiv, 1) := dk_108 (dk_at dksX1_thinned_4 14 rfl rfl)
theorem dX1_thinned_109 : decode cX1_thinned 109 = .ok (.aaload, 1) := dk_50 (dk_at dksX1_thinned_4 15 rfl rfl)
theorem dX1_thinned_110 : decode cX1_thinned 110 = .ok (.iload 5, 2) := dk_21 5 (dk_at dksX1_thinned_4 16 rfl rfl)
theorem dX1_thinned_112 : decode cX1_thinned 112 = .ok (.bipush 12, 2) := dk_16 12 (dk_at dksX1_thinned_4 18 rfl rfl)
theorem dX1_thinned_114 : decode cX1_thinned 114 = .ok (.irem, 1) := dk_112 (dk_at dksX1_thinned_4 20 rfl rfl)
theorem dX1_thinned_115 : decode cX1_thinned 115 = .ok (.iload 6, 2) := dk_21 6 (dk_at dksX1_thinned_4 21 rfl rfl)
theorem dX1_thinned_117 : decode cX1_thinned 117 = .ok (.iastore, 1) := dk_79 (dk_at dksX1_thinned_4 23 rfl rfl)
theorem dX1_thinned_118 : decode cX1_thinned 118 = .ok (.iinc 5 1, 3) := dk_132 5 1 (dk_at dksX1_thinned_5 0 rfl rfl)
theorem dX1_thinned_121 : decode cX1_thinned 121 = .ok (.goto (-108), 3) := dk_167 255 148 (dk_at dksX1_thinned_5 3 rfl rfl)
theorem dX1_thinned_124 : decode cX1_thinned 124 = .ok (.aload_n 0, 1) := dk_42 (dk_at dksX1_thinned_5 6 rfl rfl)
theorem dX1_thinned_125 : decode cX1_thinned 125 = .ok (.getfield 1, 3) := dk_180 0 1 (dk_at dksX1_thinned_5 7 rfl rfl)
theorem dX1_thinned_128 : decode cX1_thinned 128 = .ok (.aload_n 2, 1) := dk_44 (dk_at dksX1_thinned_5 10 rfl rfl)
theorem dX1_thinned_129 : decode cX1_thinned 129 = .ok (.putfield 238, 3) := dk_181 0 238 (dk_at dksX1_thinned_5 11 rfl rfl)
theorem dX1_thinned_132 : decode cX1_thinned 132 = .ok (.iload_n 1, 1) := dk_27 (dk_at dksX1_thinned_5 14 rfl rfl)
theorem dX1_thinned_133 : decode cX1_thinned 133 = .ok (.ifCond .eq 8, 3) := dk_153 0 8 (dk_at dksX1_thinned_5 15 rfl rfl)
theorem dX1_thinned_136 : decode cX1_thinned 136 = .ok (.iload 4, 2) := dk_21 4 (dk_at dksX1_thinned_5 18 rfl rfl)
theorem dX1_thinned_138 : decode cX1_thinned 138 = .ok (.goto 4, 3) := dk_167 0 4 (dk_at dksX1_thinned_5 20 rfl rfl)
theorem dX1_thinned_141 : decode cX1_thinned 141 = .ok (.iload_n 3, 1) := dk_29 (dk_at dksX1_thinned_5 23 rfl rfl)
theorem dX1_thinned_142 : decode cX1_thinned 142 = .ok (.ireturn, 1) := dk_172 (dk_at dksX1_thinned_6 0 rfl rfl)
def dkwX1_rows_1 : List UInt8 := [182, 1, 150, 192, 1, 149, 83, 132, 2, 1, 167, 255, 230, 43, 176]
abbrev dktX1_rows_1 : List UInt8 := dkwX1_rows_1 ++ []
def dkwX1_rows_0 : List UInt8 := [6, 189, 1, 149, 76, 3, 61, 28, 5, 163, 0, 27, 43, 28, 42, 180, 0, 1, 180, 0, 238, 28, 50]
abbrev dktX1_rows_0 : List UInt8 := dkwX1_rows_0 ++ dktX1_rows_1
theorem dksX1_rows_0 : cX1_rows.data.toList.drop 0 = dktX1_rows_0 := by decide +kernel
theorem dksX1_rows_1 : cX1_rows.data.toList.drop 23 = dktX1_rows_1 := dk_seg dksX1_rows_0 23 rfl rfl
theorem dX1_rows_0 : decode cX1_rows 0 = .ok (.iconst 3, 1) := dk_6 (dk_at dksX1_rows_0 0 rfl rfl)
theorem dX1_rows_1 : decode cX1_rows 1 = .ok (.anewarray 405, 3) := dk_189 1 149 (dk_at dksX1_rows_0 1 rfl rfl)
theorem dX1_rows_4 : decode cX1_rows 4 = .ok (.astore_n 1, 1) := dk_76 (dk_at dksX1_rows_0 4 rfl rfl)
theorem dX1_rows_5 : decode cX1_rows 5 = .ok (.iconst 0, 1) := dk_3 (dk_at dksX1_rows_0 5 rfl rfl)
theorem dX1_rows_6 : decode cX1_rows 6 = .ok (.istore_n 2, 1) := dk_61 (dk_at dksX1_rows_0 6 rfl rfl)
theorem dX1_rows_7 : decode cX1_rows 7 = .ok (.iload_n 2, 1) := dk_28 (dk_at dksX1_rows_0 7 rfl rfl)
theorem dX1_rows_8 : decode cX1_rows 8 = .ok (.iconst 2, 1) := dk_5 (dk_at dksX1_rows_0 8 rfl rfl)
theorem dX1_rows_9 : decode cX1_rows 9 = .ok (.if_icmp .gt 27, 3) := dk_163 0 27 (dk_at dksX1_rows_0 9 rfl rfl)
theorem dX1_rows_12 : decode cX1_rows 12 = .ok (.aload_n 1, 1) := dk_43 (dk_at dksX1_rows_0 12 rfl rfl)
theorem dX1_rows_13 : decode cX1_rows 13 = .ok (.iload_n 2, 1) := dk_28 (dk_at dksX1_rows_0 13 rfl rfl)
theorem dX1_rows_14 : decode cX1_rows 14 = .ok (.aload_n 0, 1) := dk_42 (dk_at dksX1_rows_0 14 rfl rfl)
theorem dX1_rows_15 : decode cX1_rows 15 = .ok (.getfield 1, 3) := dk_180 0 1 (dk_at dksX1_rows_0 15 rfl rfl)
theorem dX1_rows_18 : decode cX1_rows 18 = .ok (.getfield 238, 3) := dk_180 0 238 (dk_at dksX1_rows_0 18 rfl rfl)
theorem dX1_rows_21 : decode cX1_rows 21 = .ok (.iload_n 2, 1) := dk_28 (dk_at dksX1_rows_0 21 rfl rfl)
theorem dX1_rows_22 : decode cX1_rows 22 = .ok (.aaload, 1) := dk_50 (dk_at dksX1_rows_0 22 rfl rfl)
theorem dX1_rows_23 : decode cX1_rows 23 = .ok (.invokevirtual 406, 3) := dk_182 1 150 (dk_at dksX1_rows_1 0 rfl rfl)
theorem dX1_rows_26 : decode cX1_rows 26 = .ok (.checkcast 405, 3) := dk_192 1 149 (dk_at dksX1_rows_1 3 rfl rfl)
theorem dX1_rows_29 : decode cX1_rows 29 = .ok (.aastore, 1) := dk_83 (dk_at dksX1_rows_1 6 rfl rfl)
theorem dX1_rows_30 : decode cX1_rows 30 = .ok (.iinc 2 1, 3) := dk_132 2 1 (dk_at dksX1_rows_1 7 rfl rfl)
theorem dX1_rows_33 : decode cX1_rows 33 = .ok (.goto (-26), 3) := dk_167 255 230 (dk_at dksX1_rows_1 10 rfl rfl)
theorem dX1_rows_36 : decode cX1_rows 36 = .ok (.aload_n 1, 1) := dk_43 (dk_at dksX1_rows_1 13 rfl rfl)
theorem dX1_rows_37 : decode cX1_rows 37 = .ok (.areturn, 1) := dk_176 (dk_at dksX1_rows_1 14 rfl rfl)
def dkwX1_node_1 : List UInt8 := [184, 1, 1, 42, 180, 0, 1, 180, 0, 238, 28, 50, 27, 46, 172]
abbrev dktX1_node_1 : List UInt8 := dkwX1_node_1 ++ []
def dkwX1_node_0 : List UInt8 := [42, 27, 182, 1, 37, 153, 0, 16, 28, 3, 5, 184, 0, 253, 153, 0, 7, 4, 167, 0, 4, 3]
abbrev dktX1_node_0 : List UInt8 := dkwX1_node_0 ++ dktX1_node_1
theorem dksX1_node_0 : cX1_node.data.toList.drop 0 = dktX1_node_0 := by decide +kernel
theorem dksX1_node_1 : cX1_node.data.toList.drop 22 = dktX1_node_1 := dk_seg dksX1_node_0 22 rfl rfl
theorem dX1_node_0 : decode cX1_node 0 = .ok (.aload_n 0, 1) := dk_42 (dk_at dksX1_node_0 0 rfl rfl)
theorem dX1_node_1 : decode cX1_node 1 = .ok (.iload_n 1, 1) := dk_27 (dk_at dksX1_node_0 1 rfl rfl)
theorem dX1_node_2 : decode cX1_node 2 = .ok (.invokevirtual 293, 3) := dk_182 1 37 (dk_at dksX1_node_0 2 rfl rfl)
theorem dX1_node_5 : decode cX1_node 5 = .ok (.ifCond .eq 16, 3) := dk_153 0 16 (dk_at dksX1_node_0 5 rfl rfl)
theorem dX1_node_8 : decode cX1_node 8 = .ok (.iload_n 2, 1) := dk_28 (dk_at dksX1_node_0 8 rfl rfl)
theorem dX1_node_9 : decode cX1_node 9 = .ok (.iconst 0, 1) := dk_3 (dk_at dksX1_node_0 9 rfl rfl)
theorem dX1_node_10 : decode cX1_node 10 = .ok (.iconst 2, 1) := dk_5 (dk_at dksX1_node_0 10 rfl rfl)
theorem dX1_node_11 : decode cX1_node 11 = .ok (.invokestatic 253, 3) := dk_184 0 253 (dk_at dksX1_node_0 11 rfl rfl)
theorem dX1_node_14 : decode cX1_node 14 = .ok (.ifCond .eq 7, 3) := dk_153 0 7 (dk_at dksX1_node_0 14 rfl rfl)
theorem dX1_node_17 : decode cX1_node 17 = .ok (.iconst 1, 1) := dk_4 (dk_at dksX1_node_0 17 rfl rfl)
theorem dX1_node_18 : decode cX1_node 18 = .ok (.goto 4, 3) := dk_167 0 4 (dk_at dksX1_node_0 18 rfl rfl)
theorem dX1_node_21 : decode cX1_node 21 = .ok (.iconst 0, 1) := dk_3 (dk_at dksX1_node_0 21 rfl rfl)
theorem dX1_node_22 : decode cX1_node 22 = .ok (.invokestatic 257, 3) := dk_184 1 1 (dk_at dksX1_node_1 0 rfl rfl)
theorem dX1_node_25 : decode cX1_node 25 = .ok (.aload_n 0, 1) := dk_42 (dk_at dksX1_node_1 3 rfl rfl)
theorem dX1_node_26 : decode cX1_node 26 = .ok (.getfield 1, 3) := dk_180 0 1 (dk_at dksX1_node_1 4 rfl rfl)
theorem dX1_node_29 : decode cX1_node 29 = .ok (.getfield 238, 3) := dk_180 0 238 (dk_at dksX1_node_1 7 rfl rfl)
theorem dX1_node_32 : decode cX1_node 32 = .ok (.iload_n 2, 1) := dk_28 (dk_at dksX1_node_1 10 rfl rfl)
theorem dX1_node_33 : decode cX1_node 33 = .ok (.aaload, 1) := dk_50 (dk_at dksX1_node_1 11 rfl rfl)
theorem dX1_node_34 : decode cX1_node 34 = .ok (.iload_n 1, 1) := dk_27 (dk_at dksX1_node_1 12 rfl rfl)
theorem dX1_node_35 : decode cX1_node 35 = .ok (.iaload, 1) := dk_46 (dk_at dksX1_node_1 13 rfl rfl)
theorem dX1_node_36 : decode cX1_node 36 = .ok (.ireturn, 1) := dk_172 (dk_at dksX1_node_1 14 rfl rfl)
def dkwX1_at_5 : List UInt8 := [180, 0, 44, 183, 0, 74, 29, 182, 1, 46, 173]
abbrev dktX1_at_5 : List UInt8 := dkwX1_at_5 ++ []
def dkwX1_at_4 : List UInt8 := [180, 0, 238, 5, 50, 27, 46, 133, 42, 180, 0, 47, 27, 47, 105, 55, 4, 187, 0, 68, 89, 22, 4, 42]
abbrev dktX1_at_4 : List UInt8 := dkwX1_at_4 ++ dktX1_at_5
def dkwX1_at_3 : List UInt8 := [42, 180, 0, 47, 27, 47, 167, 0, 33, 42, 27, 28, 4, 100, 182, 1, 53, 167, 0, 22, 42, 180, 0, 1]
abbrev dktX1_at_3 : List UInt8 := dkwX1_at_3 ++ dktX1_at_4
def dkwX1_at_2 : List UInt8 := [170, 0, 0, 0, 0, 0, 47, 0, 0, 0, 0, 0, 0, 0, 2, 0, 0, 0, 27, 0, 0, 0, 36, 0, 0, 0, 36]
abbrev dktX1_at_2 : List UInt8 := dkwX1_at_2 ++ dktX1_at_3
def dkwX1_at_1 : List UInt8 := [184, 1, 1, 28, 7, 160, 0, 13, 42, 27, 182, 1, 43, 29, 182, 1, 46, 173, 42, 182, 1, 50, 28]
abbrev dktX1_at_1 : List UInt8 := dkwX1_at_1 ++ dktX1_at_2
def dkwX1_at_0 : List UInt8 := [42, 27, 182, 1, 37, 153, 0, 16, 28, 3, 7, 184, 0, 253, 153, 0, 7, 4, 167, 0, 4, 3]
abbrev dktX1_at_0 : List UInt8 := dkwX1_at_0 ++ dktX1_at_1
theorem dksX1_at_0 : cX1_at.data.toList.drop 0 = dktX1_at_0 := by decide +kernel
theorem dksX1_at_1 : cX1_at.data.toList.drop 22 = dktX1_at_1 := dk_seg dksX1_at_0 22 rfl rfl
theorem dksX1_at_2 : cX1_at.data.toList.drop 45 = dktX1_at_2 := dk_seg dksX1_at_1 23 rfl rfl
theorem dksX1_at_3 : cX1_at.data.toList.drop 72 = dktX1_at_3 := dk_seg dksX1_at_2 27 rfl rfl
theorem dksX1_at_4 : cX1_at.data.toList.drop 96 = dktX1_at_4 := dk_seg dksX1_at_3 24 rfl rfl
theorem dksX1_at_5 : cX1_at.data.toList.drop 120 = dktX1_at_5 := dk_seg dksX1_at_4 24 rfl rfl
theorem dX1_at_0 : decode cX1_at 0 = .ok (.aload_n 0, 1) := dk_42 (dk_at dksX1_at_0 0 rfl rfl)
theorem dX1_at_1 : decode cX1_at 1 = .ok (.iload_n 1, 1) := dk_27 (dk_at dksX1_at_0 1 rfl rfl)
theorem dX1_at_2 : decode cX1_at 2 = .ok (.invokevirtual 293, 3) := dk_182 1 37 (dk_at dksX1_at_0 2 rfl rfl)
theorem dX1_at_5 : decode cX1_at 5 = .ok (.ifCond .eq 16, 3) := dk_153 0 16 (dk_at dksX1_at_0 5 rfl rfl)
theorem dX1_at_8 : decode cX1_at 8 = .ok (.iload_n 2, 1) := dk_28 (dk_at dksX1_at_0 8 rfl rfl)
theorem dX1_at_9 : decode cX1_at 9 = .ok (.iconst 0, 1) := dk_3 (dk_at dksX1_at_0 9 rfl rfl)
theorem dX1_at_10 : decode cX1_at 10 = .ok (.iconst 4, 1) := dk_7 (dk_at dksX1_at_0 10 rfl rfl)
theorem dX1_at_11 : decode cX1_at 11 = .ok (.invokestatic 253, 3) := dk_184 0 253 (dk_at dksX1_at_0 11 rfl rfl)
theorem dX1_at_14 : decode cX1_at 14 = .ok (.ifCond .eq 7, 3) := dk_153 0 7 (dk_at dksX1_at_0 14 rfl rfl)
theorem dX1_at_17 : decode cX1_at 17 = .ok (.iconst 1, 1) := dk_4 (dk_at dksX1_at_0 17 rfl rfl)
theorem dX1_at_18 : decode cX1_at 18 = .ok (.goto 4, 3) := dk_167 0 4 (dk_at dksX1_at_0 18 rfl rfl)
theorem dX1_at_21 : decode cX1_at 21 = .ok (.iconst 0, 1) := dk_3 (dk_at dksX1_at_0 21 rfl rfl)
theorem dX1_at_22 : decode cX1_at 22 = .ok (.invokestatic 257, 3) := dk_184 1 1 (dk_at dksX1_at_1 0 rfl rfl)
theorem dX1_at_25 : decode cX1_at 25 = .ok (.iload_n 2, 1) := dk_28 (dk_at dksX1_at_1 3 rfl rfl)
theorem dX1_at_26 : decode cX1_at 26 = .ok (.iconst 4, 1) := dk_7 (dk_at dksX1_at_1 4 rfl rfl)
theorem dX1_at_27 : decode cX1_at 27 = .ok (.if_icmp .ne 13, 3) := dk_160 0 13 (dk_at dksX1_at_1 5 rfl rfl)
theorem dX1_at_30 : decode cX1_at 30 = .ok (.aload_n 0, 1) := dk_42 (dk_at dksX1_at_1 8 rfl rfl)
theorem dX1_at_31 : decode cX1_at 31 = .ok (.iload_n 1, 1) := dk_27 (dk_at dksX1_at_1 9 rfl rfl)
theorem dX1_at_32 : decode cX1_at 32 = .ok (.invokevirtual 299, 3) := dk_182 1 43 (dk_at dksX1_at_1 10 rfl rfl)
theorem dX1_at_35 : decode cX1_at 35 = .ok (.iload_n 3, 1) := dk_29 (dk_at dksX1_at_1 13 rfl rfl)
theorem dX1_at_36 : decode cX1_at 36 = .ok (.invokevirtual 302, 3) := dk_182 1 46 (dk_at dksX1_at_1 14 rfl rfl)
theorem dX1_at_39 : decode cX1_at 39 = .ok (.lreturn, 1) := dk_173 (dk_at dksX1_at_1 17 rfl rfl)
theorem dX1_at_40 : decode cX1_at 40 = .ok (.aload_n 0, 1) := dk_42 (dk_at dksX1_at_1 18 rfl rfl)
theorem dX1_at_41 : decode cX1_at 41 = .ok (.invokevirtual 306, 3) := dk_182 1 50 (dk_at dksX1_at_1 19 rfl rfl)
theorem dX1_at_44 : decode cX1_at 44 = .ok (.iload_n 2, 1) := dk_28 (dk_at dksX1_at_1 22 rfl rfl)
theorem dX1_at_45 : decode cX1_at 45 = .ok (.tableswitch 47 0 2 #[27, 36, 36], 27) := by decide +kernel
theorem dX1_at_72 : decode cX1_at 72 = .ok (.aload_n 0, 1) := dk_42 (dk_at dksX1_at_3 0 rfl rfl)
theorem dX1_at_73 : decode cX1_at 73 = .ok (.getfield 47, 3) := dk_180 0 47 (dk_at dksX1_at_3 1 rfl rfl)
theorem dX1_at_76 : decode cX1_at 76 = .ok (.iload_n 1, 1) := dk_27 (dk_at dksX1_at_3 4 rfl rfl)
theorem dX1_at_77 : decode cX1_at 77 = .ok (.laload, 1) := dk_47 (dk_at dksX1_at_3 5 rfl rfl)
theorem dX1_at_78 : decode cX1_at 78 = .ok (.goto 33, 3) := dk_167 0 33 (dk_at dksX1_at_3 6 rfl rfl)
theorem dX1_at_81 : decode cX1_at 81 = .ok (.aload_n 0, 1) := dk_42 (dk_at dksX1_at_3 9 rfl rfl)
theorem dX1_at_82 : decode cX1_at 82 = .ok (.iload_n 1, 1) := dk_27 (dk_at dksX1_at_3 10 rfl rfl)
theorem dX1_at_83 : decode cX1_at 83 = .ok (.iload_n 2, 1) := dk_28 (dk_at dksX1_at_3 11 rfl rfl)
theorem dX1_at_84 : decode cX1_at 84 = .ok (.iconst 1, 1) := dk_4 (dk_at dksX1_at_3 12 rfl rfl)
theorem dX1_at_85 : decode cX1_at 85 = .ok (.isub, 1) := dk_100 (dk_at dksX1_at_3 13 rfl rfl)
theorem dX1_at_86 : decode cX1_at 86 = .ok (.invokevirtual 309, 3) := dk_182 1 53 (dk_at dksX1_at_3 14 rfl rfl)
theorem dX1_at_89 : decode cX1_at 89 = .ok (.goto 22, 3) := dk_167 0 22 (dk_at dksX1_at_3 17 rfl rfl)
theorem dX1_at_92 : decode cX1_at 92 = .ok (.aload_n 0, 1) := dk_42 (dk_at dksX1_at_3 20 rfl rfl)
theorem dX1_at_93 : decode cX1_at 93 = .ok (.getfield 1, 3) := dk_180 0 1 (dk_at dksX1_at_3 21 rfl rfl)
theorem dX1_at_96 : decode cX1_at 96 = .ok (.getfield 238, 3) := dk_180 0 238 (dk_at dksX1_at_4 0 rfl rfl)
theorem dX1_at_99 : decode cX1_at 99 = .ok (.iconst 2, 1) := dk_5 (dk_at dksX1_at_4 3 rfl rfl)
theorem dX1_at_100 : decode cX1_at 100 = .ok (.aaload, 1) := dk_50 (dk_at dksX1_at_4 4 rfl rfl)
theorem dX1_at_101 : decode cX1_at 101 = .ok (.iload_n 1, 1) := dk_27 (dk_at dksX1_at_4 5 rfl rfl)
theorem dX1_at_102 : decode cX1_at 102 = .ok (.iaload, 1) := dk_46 (dk_at dksX1_at_4 6 rfl rfl)
theorem dX1_at_103 : decode cX1_at 103 = .ok (.i2l, 1) := dk_133 (dk_at dksX1_at_4 7 rfl rfl)
theorem dX1_at_104 : decode cX1_at 104 = .ok (.aload_n 0, 1) := dk_42 (dk_at dksX1_at_4 8 rfl rfl)
theorem dX1_at_105 : decode cX1_at 105 = .ok (.getfield 47, 3) := dk_180 0 47 (dk_at dksX1_at_4 9 rfl rfl)
theorem dX1_at_108 : decode cX1_at 108 = .ok (.iload_n 1, 1) := dk_27 (dk_at dksX1_at_4 12 rfl rfl)
theorem dX1_at_109 : decode cX1_at 109 = .ok (.laload, 1) := dk_47 (dk_at dksX1_at_4 13 rfl rfl)
theorem dX1_at_110 : decode cX1_at 110 = .ok (.lmul, 1) := dk_105 (dk_at dksX1_at_4 14 rfl rfl)
theorem dX1_at_111 : decode cX1_at 111 = .ok (.lstore 4, 2) := dk_55 4 (dk_at dksX1_at_4 15 rfl rfl)
theorem dX1_at_113 : decode cX1_at 113 = .ok (.new 68, 3) := dk_187 0 68 (dk_at dksX1_at_4 17 rfl rfl)
theorem dX1_at_116 : decode cX1_at 116 = .ok (.dup, 1) := dk_89 (dk_at dksX1_at_4 20 rfl rfl)
theorem dX1_at_117 : decode cX1_at 117 = .ok (.lload 4, 2) := dk_22 4 (dk_at dksX1_at_4 21 rfl rfl)
theorem dX1_at_119 : decode cX1_at 119 = .ok (.aload_n 0, 1) := dk_42 (dk_at dksX1_at_4 23 rfl rfl)
theorem dX1_at_120 : decode cX1_at 120 = .ok (.getfield 44, 3) := dk_180 0 44 (dk_at dksX1_at_5 0 rfl rfl)
theorem dX1_at_123 : decode cX1_at 123 = .ok (.invokespecial 74, 3) := dk_183 0 74 (dk_at dksX1_at_5 3 rfl rfl)
theorem dX1_at_126 : decode cX1_at 126 = .ok (.iload_n 3, 1) := dk_29 (dk_at dksX1_at_5 6 rfl rfl)
theorem dX1_at_127 : decode cX1_at 127 = .ok (.invokevirtual 302, 3) := dk_182 1 46 (dk_at dksX1_at_5 7 rfl rfl)
theorem dX1_at_130 : decode cX1_at 130 = .ok (.lreturn, 1) := dk_173 (dk_at dksX1_at_5 10 rfl rfl)
def dkwX1_resistsTold_0 : List UInt8 := [42, 27, 182, 0, 234, 176, 77, 187, 0, 65, 89, 183, 0, 67, 191]
abbrev dktX1_resistsTold_0 : List UInt8 := dkwX1_resistsTold_0 ++ []
theorem dksX1_resistsTold_0 : cX1_resistsTold.data.toList.drop 0 = dktX1_resistsTold_0 := by decide +kernel
theorem dX1_resistsTold_0 : decode cX1_resistsTold 0 = .ok (.aload_n 0, 1) := dk_42 (dk_at dksX1_resistsTold_0 0 rfl rfl)
theorem dX1_resistsTold_1 : decode cX1_resistsTold 1 = .ok (.iload_n 1, 1) := dk_27 (dk_at dksX1_resistsTold_0 1 rfl rfl)
theorem dX1_resistsTold_2 : decode cX1_resistsTold 2 = .ok (.invokevirtual 234, 3) := dk_182 0 234 (dk_at dksX1_resistsTold_0 2 rfl rfl)
theorem dX1_resistsTold_5 : decode cX1_resistsTold 5 = .ok (.areturn, 1) := dk_176 (dk_at dksX1_resistsTold_0 5 rfl rfl)
theorem dX1_resistsTold_6 : decode cX1_resistsTold 6 = .ok (.astore_n 2, 1) := dk_77 (dk_at dksX1_resistsTold_0 6 rfl rfl)
theorem dX1_resistsTold_7 : decode cX1_resistsTold 7 = .ok (.new 65, 3) := dk_187 0 65 (dk_at dksX1_resistsTold_0 7 rfl rfl)
theorem dX1_resistsTold_10 : decode cX1_resistsTold 10 = .ok (.dup, 1) := dk_89 (dk_at dksX1_resistsTold_0 10 rfl rfl)
theorem dX1_resistsTold_11 : decode cX1_resistsTold 11 = .ok (.invokespecial 67, 3) := dk_183 0 67 (dk_at dksX1_resistsTold_0 11 rfl rfl)
theorem dX1_resistsTold_14 : decode cX1_resistsTold 14 = .ok (.athrow, 1) := dk_191 (dk_at dksX1_resistsTold_0 14 rfl rfl)
def dkwX1_mustSolve_0 : List UInt8 := [42, 182, 0, 62, 167, 0, 12, 76, 187, 0, 65, 89, 183, 0, 67, 191, 177]
abbrev dktX1_mustSolve_0 : List UInt8 := dkwX1_mustSolve_0 ++ []
theorem dksX1_mustSolve_0 : cX1_mustSolve.data.toList.drop 0 = dktX1_mustSolve_0 := by decide +kernel
theorem dX1_mustSolve_0 : decode cX1_mustSolve 0 = .ok (.aload_n 0, 1) := dk_42 (dk_at dksX1_mustSolve_0 0 rfl rfl)
theorem dX1_mustSolve_1 : decode cX1_mustSolve 1 = .ok (.invokevirtual 62, 3) := dk_182 0 62 (dk_at dksX1_mustSolve_0 1 rfl rfl)
theorem dX1_mustSolve_4 : decode cX1_mustSolve 4 = .ok (.goto 12, 3) := dk_167 0 12 (dk_at dksX1_mustSolve_0 4 rfl rfl)
theorem dX1_mustSolve_7 : decode cX1_mustSolve 7 = .ok (.astore_n 1, 1) := dk_76 (dk_at dksX1_mustSolve_0 7 rfl rfl)
theorem dX1_mustSolve_8 : decode cX1_mustSolve 8 = .ok (.new 65, 3) := dk_187 0 65 (dk_at dksX1_mustSolve_0 8 rfl rfl)
theorem dX1_mustSolve_11 : decode cX1_mustSolve 11 = .ok (.dup, 1) := dk_89 (dk_at dksX1_mustSolve_0 11 rfl rfl)
theorem dX1_mustSolve_12 : decode cX1_mustSolve 12 = .ok (.invokespecial 67, 3) := dk_183 0 67 (dk_at dksX1_mustSolve_0 12 rfl rfl)
theorem dX1_mustSolve_15 : decode cX1_mustSolve 15 = .ok (.athrow, 1) := dk_191 (dk_at dksX1_mustSolve_0 15 rfl rfl)
theorem dX1_mustSolve_16 : decode cX1_mustSolve 16 = .ok (.return_, 1) := dk_177 (dk_at dksX1_mustSolve_0 16 rfl rfl)
def dkwX1_flow_2 : List UInt8 := [101, 105, 173]
abbrev dktX1_flow_2 : List UInt8 := dkwX1_flow_2 ++ []
def dkwX1_flow_1 : List UInt8 := [50, 27, 46, 133, 42, 180, 0, 47, 27, 47, 42, 180, 0, 47, 42, 180, 0, 1, 27, 28, 182, 1, 40, 47]
abbrev dktX1_flow_1 : List UInt8 := dkwX1_flow_1 ++ dktX1_flow_2
def dkwX1_flow_0 : List UInt8 := [42, 180, 0, 1, 180, 0, 238, 28, 50, 27, 46, 154, 0, 5, 9, 173, 42, 180, 0, 1, 180, 0, 238, 28]
abbrev dktX1_flow_0 : List UInt8 := dkwX1_flow_0 ++ dktX1_flow_1
theorem dksX1_flow_0 : cX1_flow.data.toList.drop 0 = dktX1_flow_0 := by decide +kernel
theorem dksX1_flow_1 : cX1_flow.data.toList.drop 24 = dktX1_flow_1 := dk_seg dksX1_flow_0 24 rfl rfl
theorem dksX1_flow_2 : cX1_flow.data.toList.drop 48 = dktX1_flow_2 := dk_seg dksX1_flow_1 24 rfl rfl
theorem dX1_flow_0 : decode cX1_flow 0 = .ok (.aload_n 0, 1) := dk_42 (dk_at dksX1_flow_0 0 rfl rfl)
theorem dX1_flow_1 : decode cX1_flow 1 = .ok (.getfield 1, 3) := dk_180 0 1 (dk_at dksX1_flow_0 1 rfl rfl)
theorem dX1_flow_4 : decode cX1_flow 4 = .ok (.getfield 238, 3) := dk_180 0 238 (dk_at dksX1_flow_0 4 rfl rfl)
theorem dX1_flow_7 : decode cX1_flow 7 = .ok (.iload_n 2, 1) := dk_28 (dk_at dksX1_flow_0 7 rfl rfl)
theorem dX1_flow_8 : decode cX1_flow 8 = .ok (.aaload, 1) := dk_50 (dk_at dksX1_flow_0 8 rfl rfl)
theorem dX1_flow_9 : decode cX1_flow 9 = .ok (.iload_n 1, 1) := dk_27 (dk_at dksX1_flow_0 9 rfl rfl)
theorem dX1_flow_10 : decode cX1_flow 10 = .ok (.iaload, 1) := dk_46 (dk_at dksX1_flow_0 10 rfl rfl)
theorem dX1_flow_11 : decode cX1_flow 11 = .ok (.ifCond .ne 5, 3) := dk_154 0 5 (dk_at dksX1_flow_0 11 rfl rfl)
theorem dX1_flow_14 : decode cX1_flow 14 = .ok (.lconst 0, 1) := dk_9 (dk_at dksX1_flow_0 14 rfl rfl)
theorem dX1_flow_15 : decode cX1_flow 15 = .ok (.lreturn, 1) := dk_173 (dk_at dksX1_flow_0 15 rfl rfl)
theorem dX1_flow_16 : decode cX1_flow 16 = .ok (.aload_n 0, 1) := dk_42 (dk_at dksX1_flow_0 16 rfl rfl)
theorem dX1_flow_17 : decode cX1_flow 17 = .ok (.getfield 1, 3) := dk_180 0 1 (dk_at dksX1_flow_0 17 rfl rfl)
theorem dX1_flow_20 : decode cX1_flow 20 = .ok (.getfield 238, 3) := dk_180 0 238 (dk_at dksX1_flow_0 20 rfl rfl)
theorem dX1_flow_23 : decode cX1_flow 23 = .ok (.iload_n 2, 1) := dk_28 (dk_at dksX1_flow_0 23 rfl rfl)
theorem dX1_flow_24 : decode cX1_flow 24 = .ok (.aaload, 1) := dk_50 (dk_at dksX1_flow_1 0 rfl rfl)
theorem dX1_flow_25 : decode cX1_flow 25 = .ok (.iload_n 1, 1) := dk_27 (dk_at dksX1_flow_1 1 rfl rfl)
theorem dX1_flow_26 : decode cX1_flow 26 = .ok (.iaload, 1) := dk_46 (dk_at dksX1_flow_1 2 rfl rfl)
theorem dX1_flow_27 : decode cX1_flow 27 = .ok (.i2l, 1) := dk_133 (dk_at dksX1_flow_1 3 rfl rfl)
theorem dX1_flow_28 : decode cX1_flow 28 = .ok (.aload_n 0, 1) := dk_42 (dk_at dksX1_flow_1 4 rfl rfl)
theorem dX1_flow_29 : decode cX1_flow 29 = .ok (.getfield 47, 3) := dk_180 0 47 (dk_at dksX1_flow_1 5 rfl rfl)
theorem dX1_flow_32 : decode cX1_flow 32 = .ok (.iload_n 1, 1) := dk_27 (dk_at dksX1_flow_1 8 rfl rfl)
theorem dX1_flow_33 : decode cX1_flow 33 = .ok (.laload, 1) := dk_47 (dk_at dksX1_flow_1 9 rfl rfl)
theorem dX1_flow_34 : decode cX1_flow 34 = .ok (.aload_n 0, 1) := dk_42 (dk_at dksX1_flow_1 10 rfl rfl)
theorem dX1_flow_35 : decode cX1_flow 35 = .ok (.getfield 47, 3) := dk_180 0 47 (dk_at dksX1_flow_1 11 rfl rfl)
theorem dX1_flow_38 : decode cX1_flow 38 = .ok (.aload_n 0, 1) := dk_42 (dk_at dksX1_flow_1 14 rfl rfl)
theorem dX1_flow_39 : decode cX1_flow 39 = .ok (.getfield 1, 3) := dk_180 0 1 (dk_at dksX1_flow_1 15 rfl rfl)
theorem dX1_flow_42 : decode cX1_flow 42 = .ok (.iload_n 1, 1) := dk_27 (dk_at dksX1_flow_1 18 rfl rfl)
theorem dX1_flow_43 : decode cX1_flow 43 = .ok (.iload_n 2, 1) := dk_28 (dk_at dksX1_flow_1 19 rfl rfl)
theorem dX1_flow_44 : decode cX1_flow 44 = .ok (.invokevirtual 296, 3) := dk_182 1 40 (dk_at dksX1_flow_1 20 rfl rfl)
theorem dX1_flow_47 : decode cX1_flow 47 = .ok (.laload, 1) := dk_47 (dk_at dksX1_flow_1 23 rfl rfl)
theorem dX1_flow_48 : decode cX1_flow 48 = .ok (.lsub, 1) := dk_101 (dk_at dksX1_flow_2 0 rfl rfl)
theorem dX1_flow_49 : decode cX1_flow 49 = .ok (.lmul, 1) := dk_105 (dk_at dksX1_flow_2 1 rfl rfl)
theorem dX1_flow_50 : decode cX1_flow 50 = .ok (.lreturn, 1) := dk_173 (dk_at dksX1_flow_2 2 rfl rfl)
def dkwX1_bits_1 : List UInt8 := [111, 74, 28, 153, 0, 10, 41, 184, 1, 56, 167, 0, 9, 41, 144, 184, 1, 62, 133, 173]
abbrev dktX1_bits_1 : List UInt8 := dkwX1_bits_1 ++ []
def dkwX1_bits_0 : List UInt8 := [42, 27, 182, 1, 37, 184, 1, 1, 42, 182, 1, 50, 42, 180, 0, 47, 27, 47, 138, 42, 180, 0, 44, 138]
abbrev dktX1_bits_0 : List UInt8 := dkwX1_bits_0 ++ dktX1_bits_1
theorem dksX1_bits_0 : cX1_bits.data.toList.drop 0 = dktX1_bits_0 := by decide +kernel
theorem dksX1_bits_1 : cX1_bits.data.toList.drop 24 = dktX1_bits_1 := dk_seg dksX1_bits_0 24 rfl rfl
theorem dX1_bits_0 : decode cX1_bits 0 = .ok (.aload_n 0, 1) := dk_42 (dk_at dksX1_bits_0 0 rfl rfl)
theorem dX1_bits_1 : decode cX1_bits 1 = .ok (.iload_n 1, 1) := dk_27 (dk_at dksX1_bits_0 1 rfl rfl)
theorem dX1_bits_2 : decode cX1_bits 2 = .ok (.invokevirtual 293, 3) := dk_182 1 37 (dk_at dksX1_bits_0 2 rfl rfl)
theorem dX1_bits_5 : decode cX1_bits 5 = .ok (.invokestatic 257, 3) := dk_184 1 1 (dk_at dksX1_bits_0 5 rfl rfl)
theorem dX1_bits_8 : decode cX1_bits 8 = .ok (.aload_n 0, 1) := dk_42 (dk_at dksX1_bits_0 8 rfl rfl)
theorem dX1_bits_9 : decode cX1_bits 9 = .ok (.invokevirtual 306, 3) := dk_182 1 50 (dk_at dksX1_bits_0 9 rfl rfl)
theorem dX1_bits_12 : decode cX1_bits 12 = .ok (.aload_n 0, 1) := dk_42 (dk_at dksX1_bits_0 12 rfl rfl)
theorem dX1_bits_13 : decode cX1_bits 13 = .ok (.getfield 47, 3) := dk_180 0 47 (dk_at dksX1_bits_0 13 rfl rfl)
theorem dX1_bits_16 : decode cX1_bits 16 = .ok (.iload_n 1, 1) := dk_27 (dk_at dksX1_bits_0 16 rfl rfl)
theorem dX1_bits_17 : decode cX1_bits 17 = .ok (.laload, 1) := dk_47 (dk_at dksX1_bits_0 17 rfl rfl)
theorem dX1_bits_18 : decode cX1_bits 18 = .ok (.l2d, 1) := dk_138 (dk_at dksX1_bits_0 18 rfl rfl)
theorem dX1_bits_19 : decode cX1_bits 19 = .ok (.aload_n 0, 1) := dk_42 (dk_at dksX1_bits_0 19 rfl rfl)
theorem dX1_bits_20 : decode cX1_bits 20 = .ok (.getfield 44, 3) := dk_180 0 44 (dk_at dksX1_bits_0 20 rfl rfl)
theorem dX1_bits_23 : decode cX1_bits 23 = .ok (.l2d, 1) := dk_138 (dk_at dksX1_bits_0 23 rfl rfl)
theorem dX1_bits_24 : decode cX1_bits 24 = .ok (.ddiv, 1) := dk_111 (dk_at dksX1_bits_1 0 rfl rfl)
theorem dX1_bits_25 : decode cX1_bits 25 = .ok (.dstore_n 3, 1) := dk_74 (dk_at dksX1_bits_1 1 rfl rfl)
theorem dX1_bits_26 : decode cX1_bits 26 = .ok (.iload_n 2, 1) := dk_28 (dk_at dksX1_bits_1 2 rfl rfl)
theorem dX1_bits_27 : decode cX1_bits 27 = .ok (.ifCond .eq 10, 3) := dk_153 0 10 (dk_at dksX1_bits_1 3 rfl rfl)
theorem dX1_bits_30 : decode cX1_bits 30 = .ok (.dload_n 3, 1) := dk_41 (dk_at dksX1_bits_1 6 rfl rfl)
theorem dX1_bits_31 : decode cX1_bits 31 = .ok (.invokestatic 312, 3) := dk_184 1 56 (dk_at dksX1_bits_1 7 rfl rfl)
theorem dX1_bits_34 : decode cX1_bits 34 = .ok (.goto 9, 3) := dk_167 0 9 (dk_at dksX1_bits_1 10 rfl rfl)
theorem dX1_bits_37 : decode cX1_bits 37 = .ok (.dload_n 3, 1) := dk_41 (dk_at dksX1_bits_1 13 rfl rfl)
theorem dX1_bits_38 : decode cX1_bits 38 = .ok (.d2f, 1) := dk_144 (dk_at dksX1_bits_1 14 rfl rfl)
theorem dX1_bits_39 : decode cX1_bits 39 = .ok (.invokestatic 318, 3) := dk_184 1 62 (dk_at dksX1_bits_1 15 rfl rfl)
theorem dX1_bits_42 : decode cX1_bits 42 = .ok (.i2l, 1) := dk_133 (dk_at dksX1_bits_1 18 rfl rfl)
theorem dX1_bits_43 : decode cX1_bits 43 = .ok (.lreturn, 1) := dk_173 (dk_at dksX1_bits_1 19 rfl rfl)
def dkwX1_ground_2_5 : List UInt8 := [42, 180, 0, 44, 105, 183, 0, 74, 29, 182, 1, 46, 173]
abbrev dktX1_ground_2_5 : List UInt8 := dkwX1_ground_2_5 ++ []
def dkwX1_ground_2_4 : List UInt8 := [55, 4, 187, 0, 68, 89, 28, 4, 164, 0, 11, 22, 4, 184, 0, 112, 167, 0, 5, 22, 4, 20, 0, 99]
abbrev dktX1_ground_2_4 : List UInt8 := dkwX1_ground_2_4 ++ dktX1_ground_2_5
def dkwX1_ground_2_3 : List UInt8 := [182, 1, 68, 167, 0, 21, 42, 27, 182, 0, 101, 42, 42, 27, 28, 5, 100, 182, 0, 109, 182, 0, 101, 101]
abbrev dktX1_ground_2_3 : List UInt8 := dkwX1_ground_2_3 ++ dktX1_ground_2_4
def dkwX1_ground_2_2 : List UInt8 := [182, 1, 50, 28, 154, 0, 11, 42, 27, 182, 0, 101, 167, 0, 34, 28, 4, 160, 0, 11, 42, 27]
abbrev dktX1_ground_2_2 : List UInt8 := dkwX1_ground_2_2 ++ dktX1_ground_2_3
def dkwX1_ground_2_1 : List UInt8 := [161, 0, 14, 42, 27, 28, 5, 100, 182, 0, 105, 153, 0, 7, 4, 167, 0, 4, 3, 184, 1, 1, 42]
abbrev dktX1_ground_2_1 : List UInt8 := dkwX1_ground_2_1 ++ dktX1_ground_2_2
def dkwX1_ground_2_0 : List UInt8 := [27, 155, 0, 40, 27, 42, 182, 0, 122, 162, 0, 32, 28, 3, 6, 184, 0, 253, 153, 0, 23, 28, 5]
abbrev dktX1_ground_2_0 : List UInt8 := dkwX1_ground_2_0 ++ dktX1_ground_2_1
theorem dksX1_ground_2_0 : cX1_ground_2.data.toList.drop 0 = dktX1_ground_2_0 := by decide +kernel
theorem dksX1_ground_2_1 : cX1_ground_2.data.toList.drop 23 = dktX1_ground_2_1 := dk_seg dksX1_ground_2_0 23 rfl rfl
theorem dksX1_ground_2_2 : cX1_ground_2.data.toList.drop 46 = dktX1_ground_2_2 := dk_seg dksX1_ground_2_1 23 rfl rfl
theorem dksX1_ground_2_3 : cX1_ground_2.data.toList.drop 68 = dktX1_ground_2_3 := dk_seg dksX1_ground_2_2 22 rfl rfl
theorem dksX1_ground_2_4 : cX1_ground_2.data.toList.drop 92 = dktX1_ground_2_4 := dk_seg dksX1_ground_2_3 24 rfl rfl
theorem dksX1_ground_2_5 : cX1_ground_2.data.toList.drop 116 = dktX1_ground_2_5 := dk_seg dksX1_ground_2_4 24 rfl rfl
theorem dX1_ground_2_0 : decode cX1_ground_2 0 = .ok (.iload_n 1, 1) := dk_27 (dk_at dksX1_ground_2_0 0 rfl rfl)
theorem dX1_ground_2_1 : decode cX1_ground_2 1 = .ok (.ifCond .lt 40, 3) := dk_155 0 40 (dk_at dksX1_ground_2_0 1 rfl rfl)
theorem dX1_ground_2_4 : decode cX1_ground_2 4 = .ok (.iload_n 1, 1) := dk_27 (dk_at dksX1_ground_2_0 4 rfl rfl)
theorem dX1_ground_2_5 : decode cX1_ground_2 5 = .ok (.aload_n 0, 1) := dk_42 (dk_at dksX1_ground_2_0 5 rfl rfl)
theorem dX1_ground_2_6 : decode cX1_ground_2 6 = .ok (.invokevirtual 122, 3) := dk_182 0 122 (dk_at dksX1_ground_2_0 6 rfl rfl)
theorem dX1_ground_2_9 : decode cX1_ground_2 9 = .ok (.if_icmp .ge 32, 3) := dk_162 0 32 (dk_at dksX1_ground_2_0 9 rfl rfl)
theorem dX1_ground_2_12 : decode cX1_ground_2 12 = .ok (.iload_n 2, 1) := dk_28 (dk_at dksX1_ground_2_0 12 rfl rfl)
theorem dX1_ground_2_13 : decode cX1_ground_2 13 = .ok (.iconst 0, 1) := dk_3 (dk_at dksX1_ground_2_0 13 rfl rfl)
theorem dX1_ground_2_14 : decode cX1_ground_2 14 = .ok (.iconst 3, 1) := dk_6 (dk_at dksX1_ground_2_0 14 rfl rfl)
theorem dX1_ground_2_15 : decode cX1_ground_2 15 = .ok (.invokestatic 253, 3) := dk_184 0 253 (dk_at dksX1_ground_2_0 15 rfl rfl)
theorem dX1_ground_2_18 : decode cX1_ground_2 18 = .ok (.ifCond .eq 23, 3) := dk_153 0 23 (dk_at dksX1_ground_2_0 18 rfl rfl)
theorem dX1_ground_2_21 : decode cX1_ground_2 21 = .ok (.iload_n 2, 1) := dk_28 (dk_at dksX1_ground_2_0 21 rfl rfl)
theorem dX1_ground_2_22 : decode cX1_ground_2 22 = .ok (.iconst 2, 1) := dk_5 (dk_at dksX1_ground_2_0 22 rfl rfl)
theorem dX1_ground_2_23 : decode cX1_ground_2 23 = .ok (.if_icmp .lt 14, 3) := dk_161 0 14 (dk_at dksX1_ground_2_1 0 rfl rfl)
theorem dX1_ground_2_26 : decode cX1_ground_2 26 = .ok (.aload_n 0, 1) := dk_42 (dk_at dksX1_ground_2_1 3 rfl rfl)
theorem dX1_ground_2_27 : decode cX1_ground_2 27 = .ok (.iload_n 1, 1) := dk_27 (dk_at dksX1_ground_2_1 4 rfl rfl)
theorem dX1_ground_2_28 : decode cX1_ground_2 28 = .ok (.iload_n 2, 1) := dk_28 (dk_at dksX1_ground_2_1 5 rfl rfl)
theorem dX1_ground_2_29 : decode cX1_ground_2 29 = .ok (.iconst 2, 1) := dk_5 (dk_at dksX1_ground_2_1 6 rfl rfl)
theorem dX1_ground_2_30 : decode cX1_ground_2 30 = .ok (.isub, 1) := dk_100 (dk_at dksX1_ground_2_1 7 rfl rfl)
theorem dX1_ground_2_31 : decode cX1_ground_2 31 = .ok (.invokevirtual 105, 3) := dk_182 0 105 (dk_at dksX1_ground_2_1 8 rfl rfl)
theorem dX1_ground_2_34 : decode cX1_ground_2 34 = .ok (.ifCond .eq 7, 3) := dk_153 0 7 (dk_at dksX1_ground_2_1 11 rfl rfl)
theorem dX1_ground_2_37 : decode cX1_ground_2 37 = .ok (.iconst 1, 1) := dk_4 (dk_at dksX1_ground_2_1 14 rfl rfl)
theorem dX1_ground_2_38 : decode cX1_ground_2 38 = .ok (.goto 4, 3) := dk_167 0 4 (dk_at dksX1_ground_2_1 15 rfl rfl)
theorem dX1_ground_2_41 : decode cX1_ground_2 41 = .ok (.iconst 0, 1) := dk_3 (dk_at dksX1_ground_2_1 18 rfl rfl)
theorem dX1_ground_2_42 : decode cX1_ground_2 42 = .ok (.invokestatic 257, 3) := dk_184 1 1 (dk_at dksX1_ground_2_1 19 rfl rfl)
theorem dX1_ground_2_45 : decode cX1_ground_2 45 = .ok (.aload_n 0, 1) := dk_42 (dk_at dksX1_ground_2_1 22 rfl rfl)
theorem dX1_ground_2_46 : decode cX1_ground_2 46 = .ok (.invokevirtual 306, 3) := dk_182 1 50 (dk_at dksX1_ground_2_2 0 rfl rfl)
theorem dX1_ground_2_49 : decode cX1_ground_2 49 = .ok (.iload_n 2, 1) := dk_28 (dk_at dksX1_ground_2_2 3 rfl rfl)
theorem dX1_ground_2_50 : decode cX1_ground_2 50 = .ok (.ifCond .ne 11, 3) := dk_154 0 11 (dk_at dksX1_ground_2_2 4 rfl rfl)
theorem dX1_ground_2_53 : decode cX1_ground_2 53 = .ok (.aload_n 0, 1) := dk_42 (dk_at dksX1_ground_2_2 7 rfl rfl)
theorem dX1_ground_2_54 : decode cX1_ground_2 54 = .ok (.iload_n 1, 1) := dk_27 (dk_at dksX1_ground_2_2 8 rfl rfl)
theorem dX1_ground_2_55 : decode cX1_ground_2 55 = .ok (.invokevirtual 101, 3) := dk_182 0 101 (dk_at dksX1_ground_2_2 9 rfl rfl)
theorem dX1_ground_2_58 : decode cX1_ground_2 58 = .ok (.goto 34, 3) := dk_167 0 34 (dk_at dksX1_ground_2_2 12 rfl rfl)
theorem dX1_ground_2_61 : decode cX1_ground_2 61 = .ok (.iload_n 2, 1) := dk_28 (dk_at dksX1_ground_2_2 15 rfl rfl)
theorem dX1_ground_2_62 : decode cX1_ground_2 62 = .ok (.iconst 1, 1) := dk_4 (dk_at dksX1_ground_2_2 16 rfl rfl)
theorem dX1_ground_2_63 : decode cX1_ground_2 63 = .ok (.if_icmp .ne 11, 3) := dk_160 0 11 (dk_at dksX1_ground_2_2 17 rfl rfl)
theorem dX1_ground_2_66 : decode cX1_ground_2 66 = .ok (.aload_n 0, 1) := dk_42 (dk_at dksX1_ground_2_2 20 rfl rfl)
theorem dX1_ground_2_67 : decode cX1_ground_2 67 = .ok (.iload_n 1, 1) := dk_27 (dk_at dksX1_ground_2_2 21 rfl rfl)
theorem dX1_ground_2_68 : decode cX1_ground_2 68 = .ok (.invokevirtual 324, 3) := dk_182 1 68 (dk_at dksX1_ground_2_3 0 rfl rfl)
theorem dX1_ground_2_71 : decode cX1_ground_2 71 = .ok (.goto 21, 3) := dk_167 0 21 (dk_at dksX1_ground_2_3 3 rfl rfl)
theorem dX1_ground_2_74 : decode cX1_ground_2 74 = .ok (.aload_n 0, 1) := dk_42 (dk_at dksX1_ground_2_3 6 rfl rfl)
theorem dX1_ground_2_75 : decode cX1_ground_2 75 = .ok (.iload_n 1, 1) := dk_27 (dk_at dksX1_ground_2_3 7 rfl rfl)
theorem dX1_ground_2_76 : decode cX1_ground_2 76 = .ok (.invokevirtual 101, 3) := dk_182 0 101 (dk_at dksX1_ground_2_3 8 rfl rfl)
theorem dX1_ground_2_79 : decode cX1_ground_2 79 = .ok (.aload_n 0, 1) := dk_42 (dk_at dksX1_ground_2_3 11 rfl rfl)
theorem dX1_ground_2_80 : decode cX1_ground_2 80 = .ok (.aload_n 0, 1) := dk_42 (dk_at dksX1_ground_2_3 12 rfl rfl)
theorem dX1_ground_2_81 : decode cX1_ground_2 81 = .ok (.iload_n 1, 1) := dk_27 (dk_at dksX1_ground_2_3 13 rfl rfl)
theorem dX1_ground_2_82 : decode cX1_ground_2 82 = .ok (.iload_n 2, 1) := dk_28 (dk_at dksX1_ground_2_3 14 rfl rfl)
theorem dX1_ground_2_83 : decode cX1_ground_2 83 = .ok (.iconst 2, 1) := dk_5 (dk_at dksX1_ground_2_3 15 rfl rfl)
theorem dX1_ground_2_84 : decode cX1_ground_2 84 = .ok (.isub, 1) := dk_100 (dk_at dksX1_ground_2_3 16 rfl rfl)
theorem dX1_ground_2_85 : decode cX1_ground_2 85 = .ok (.invokevirtual 109, 3) := dk_182 0 109 (dk_at dksX1_ground_2_3 17 rfl rfl)
theorem dX1_ground_2_88 : decode cX1_ground_2 88 = .ok (.invokevirtual 101, 3) := dk_182 0 101 (dk_at dksX1_ground_2_3 20 rfl rfl)
theorem dX1_ground_2_91 : decode cX1_ground_2 91 = .ok (.lsub, 1) := dk_101 (dk_at dksX1_ground_2_3 23 rfl rfl)
theorem dX1_ground_2_92 : decode cX1_ground_2 92 = .ok (.lstore 4, 2) := dk_55 4 (dk_at dksX1_ground_2_4 0 rfl rfl)
theorem dX1_ground_2_94 : decode cX1_ground_2 94 = .ok (.new 68, 3) := dk_187 0 68 (dk_at dksX1_ground_2_4 2 rfl rfl)
theorem dX1_ground_2_97 : decode cX1_ground_2 97 = .ok (.dup, 1) := dk_89 (dk_at dksX1_ground_2_4 5 rfl rfl)
theorem dX1_ground_2_98 : decode cX1_ground_2 98 = .ok (.iload_n 2, 1) := dk_28 (dk_at dksX1_ground_2_4 6 rfl rfl)
theorem dX1_ground_2_99 : decode cX1_ground_2 99 = .ok (.iconst 1, 1) := dk_4 (dk_at dksX1_ground_2_4 7 rfl rfl)
theorem dX1_ground_2_100 : decode cX1_ground_2 100 = .ok (.if_icmp .le 11, 3) := dk_164 0 11 (dk_at dksX1_ground_2_4 8 rfl rfl)
theorem dX1_ground_2_103 : decode cX1_ground_2 103 = .ok (.lload 4, 2) := dk_22 4 (dk_at dksX1_ground_2_4 11 rfl rfl)
theorem dX1_ground_2_105 : decode cX1_ground_2 105 = .ok (.invokestatic 112, 3) := dk_184 0 112 (dk_at dksX1_ground_2_4 13 rfl rfl)
theorem dX1_ground_2_108 : decode cX1_ground_2 108 = .ok (.goto 5, 3) := dk_167 0 5 (dk_at dksX1_ground_2_4 16 rfl rfl)
theorem dX1_ground_2_111 : decode cX1_ground_2 111 = .ok (.lload 4, 2) := dk_22 4 (dk_at dksX1_ground_2_4 19 rfl rfl)
theorem dX1_ground_2_113 : decode cX1_ground_2 113 = .ok (.ldc2_w 99, 3) := dk_20 0 99 (dk_at dksX1_ground_2_4 21 rfl rfl)
theorem dX1_ground_2_116 : decode cX1_ground_2 116 = .ok (.aload_n 0, 1) := dk_42 (dk_at dksX1_ground_2_5 0 rfl rfl)
theorem dX1_ground_2_117 : decode cX1_ground_2 117 = .ok (.getfield 44, 3) := dk_180 0 44 (dk_at dksX1_ground_2_5 1 rfl rfl)
theorem dX1_ground_2_120 : decode cX1_ground_2 120 = .ok (.lmul, 1) := dk_105 (dk_at dksX1_ground_2_5 4 rfl rfl)
theorem dX1_ground_2_121 : decode cX1_ground_2 121 = .ok (.invokespecial 74, 3) := dk_183 0 74 (dk_at dksX1_ground_2_5 5 rfl rfl)
theorem dX1_ground_2_124 : decode cX1_ground_2 124 = .ok (.iload_n 3, 1) := dk_29 (dk_at dksX1_ground_2_5 8 rfl rfl)
theorem dX1_ground_2_125 : decode cX1_ground_2 125 = .ok (.invokevirtual 302, 3) := dk_182 1 46 (dk_at dksX1_ground_2_5 9 rfl rfl)
theorem dX1_ground_2_128 : decode cX1_ground_2 128 = .ok (.lreturn, 1) := dk_173 (dk_at dksX1_ground_2_5 12 rfl rfl)
