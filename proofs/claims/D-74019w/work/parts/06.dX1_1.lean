set_option maxRecDepth 100000
def dkwX1_worst_0 : List UInt8 := [27, 3, 4, 184, 0, 253, 184, 1, 1, 42, 182, 1, 50, 42, 27, 182, 0, 129, 172]
abbrev dktX1_worst_0 : List UInt8 := dkwX1_worst_0 ++ []
theorem dksX1_worst_0 : cX1_worst.data.toList.drop 0 = dktX1_worst_0 := by decide +kernel
theorem dX1_worst_0 : decode cX1_worst 0 = .ok (.iload_n 1, 1) := dk_27 (dk_at dksX1_worst_0 0 rfl rfl)
theorem dX1_worst_1 : decode cX1_worst 1 = .ok (.iconst 0, 1) := dk_3 (dk_at dksX1_worst_0 1 rfl rfl)
theorem dX1_worst_2 : decode cX1_worst 2 = .ok (.iconst 1, 1) := dk_4 (dk_at dksX1_worst_0 2 rfl rfl)
theorem dX1_worst_3 : decode cX1_worst 3 = .ok (.invokestatic 253, 3) := dk_184 0 253 (dk_at dksX1_worst_0 3 rfl rfl)
theorem dX1_worst_6 : decode cX1_worst 6 = .ok (.invokestatic 257, 3) := dk_184 1 1 (dk_at dksX1_worst_0 6 rfl rfl)
theorem dX1_worst_9 : decode cX1_worst 9 = .ok (.aload_n 0, 1) := dk_42 (dk_at dksX1_worst_0 9 rfl rfl)
theorem dX1_worst_10 : decode cX1_worst 10 = .ok (.invokevirtual 306, 3) := dk_182 1 50 (dk_at dksX1_worst_0 10 rfl rfl)
theorem dX1_worst_13 : decode cX1_worst 13 = .ok (.aload_n 0, 1) := dk_42 (dk_at dksX1_worst_0 13 rfl rfl)
theorem dX1_worst_14 : decode cX1_worst 14 = .ok (.iload_n 1, 1) := dk_27 (dk_at dksX1_worst_0 14 rfl rfl)
theorem dX1_worst_15 : decode cX1_worst 15 = .ok (.invokevirtual 129, 3) := dk_182 0 129 (dk_at dksX1_worst_0 15 rfl rfl)
theorem dX1_worst_18 : decode cX1_worst 18 = .ok (.ireturn, 1) := dk_172 (dk_at dksX1_worst_0 18 rfl rfl)
def dkwX1_box_1 : List UInt8 := [42, 27, 182, 1, 85, 78, 45, 5, 46, 2, 160, 0, 7, 2, 167, 0, 6, 45, 28, 46, 172]
abbrev dktX1_box_1 : List UInt8 := dkwX1_box_1 ++ []
def dkwX1_box_0 : List UInt8 := [28, 3, 6, 184, 0, 253, 184, 1, 1, 27, 3, 17, 39, 15, 184, 0, 253, 184, 0, 211, 42, 182, 1, 50]
abbrev dktX1_box_0 : List UInt8 := dkwX1_box_0 ++ dktX1_box_1
theorem dksX1_box_0 : cX1_box.data.toList.drop 0 = dktX1_box_0 := by decide +kernel
theorem dksX1_box_1 : cX1_box.data.toList.drop 24 = dktX1_box_1 := dk_seg dksX1_box_0 24 rfl rfl
theorem dX1_box_0 : decode cX1_box 0 = .ok (.iload_n 2, 1) := dk_28 (dk_at dksX1_box_0 0 rfl rfl)
theorem dX1_box_1 : decode cX1_box 1 = .ok (.iconst 0, 1) := dk_3 (dk_at dksX1_box_0 1 rfl rfl)
theorem dX1_box_2 : decode cX1_box 2 = .ok (.iconst 3, 1) := dk_6 (dk_at dksX1_box_0 2 rfl rfl)
theorem dX1_box_3 : decode cX1_box 3 = .ok (.invokestatic 253, 3) := dk_184 0 253 (dk_at dksX1_box_0 3 rfl rfl)
theorem dX1_box_6 : decode cX1_box 6 = .ok (.invokestatic 257, 3) := dk_184 1 1 (dk_at dksX1_box_0 6 rfl rfl)
theorem dX1_box_9 : decode cX1_box 9 = .ok (.iload_n 1, 1) := dk_27 (dk_at dksX1_box_0 9 rfl rfl)
theorem dX1_box_10 : decode cX1_box 10 = .ok (.iconst 0, 1) := dk_3 (dk_at dksX1_box_0 10 rfl rfl)
theorem dX1_box_11 : decode cX1_box 11 = .ok (.sipush 9999, 3) := dk_17 39 15 (dk_at dksX1_box_0 11 rfl rfl)
theorem dX1_box_14 : decode cX1_box 14 = .ok (.invokestatic 253, 3) := dk_184 0 253 (dk_at dksX1_box_0 14 rfl rfl)
theorem dX1_box_17 : decode cX1_box 17 = .ok (.invokestatic 211, 3) := dk_184 0 211 (dk_at dksX1_box_0 17 rfl rfl)
theorem dX1_box_20 : decode cX1_box 20 = .ok (.aload_n 0, 1) := dk_42 (dk_at dksX1_box_0 20 rfl rfl)
theorem dX1_box_21 : decode cX1_box 21 = .ok (.invokevirtual 306, 3) := dk_182 1 50 (dk_at dksX1_box_0 21 rfl rfl)
theorem dX1_box_24 : decode cX1_box 24 = .ok (.aload_n 0, 1) := dk_42 (dk_at dksX1_box_1 0 rfl rfl)
theorem dX1_box_25 : decode cX1_box 25 = .ok (.iload_n 1, 1) := dk_27 (dk_at dksX1_box_1 1 rfl rfl)
theorem dX1_box_26 : decode cX1_box 26 = .ok (.invokevirtual 341, 3) := dk_182 1 85 (dk_at dksX1_box_1 2 rfl rfl)
theorem dX1_box_29 : decode cX1_box 29 = .ok (.astore_n 3, 1) := dk_78 (dk_at dksX1_box_1 5 rfl rfl)
theorem dX1_box_30 : decode cX1_box 30 = .ok (.aload_n 3, 1) := dk_45 (dk_at dksX1_box_1 6 rfl rfl)
theorem dX1_box_31 : decode cX1_box 31 = .ok (.iconst 2, 1) := dk_5 (dk_at dksX1_box_1 7 rfl rfl)
theorem dX1_box_32 : decode cX1_box 32 = .ok (.iaload, 1) := dk_46 (dk_at dksX1_box_1 8 rfl rfl)
theorem dX1_box_33 : decode cX1_box 33 = .ok (.iconst (-1), 1) := dk_2 (dk_at dksX1_box_1 9 rfl rfl)
theorem dX1_box_34 : decode cX1_box 34 = .ok (.if_icmp .ne 7, 3) := dk_160 0 7 (dk_at dksX1_box_1 10 rfl rfl)
theorem dX1_box_37 : decode cX1_box 37 = .ok (.iconst (-1), 1) := dk_2 (dk_at dksX1_box_1 13 rfl rfl)
theorem dX1_box_38 : decode cX1_box 38 = .ok (.goto 6, 3) := dk_167 0 6 (dk_at dksX1_box_1 14 rfl rfl)
theorem dX1_box_41 : decode cX1_box 41 = .ok (.aload_n 3, 1) := dk_45 (dk_at dksX1_box_1 17 rfl rfl)
theorem dX1_box_42 : decode cX1_box 42 = .ok (.iload_n 2, 1) := dk_28 (dk_at dksX1_box_1 18 rfl rfl)
theorem dX1_box_43 : decode cX1_box 43 = .ok (.iaload, 1) := dk_46 (dk_at dksX1_box_1 19 rfl rfl)
theorem dX1_box_44 : decode cX1_box 44 = .ok (.ireturn, 1) := dk_172 (dk_at dksX1_box_1 20 rfl rfl)
def dkwX1_boxOf_3 : List UInt8 := [182, 1, 76, 132, 4, 1, 167, 255, 215, 132, 3, 1, 167, 255, 198, 44, 176]
abbrev dktX1_boxOf_3 : List UInt8 := dkwX1_boxOf_3 ++ []
def dkwX1_boxOf_2 : List UInt8 := [182, 1, 73, 154, 0, 6, 167, 0, 21, 42, 44, 29, 182, 1, 76, 42, 44, 42, 29, 21, 4, 182, 0, 109]
abbrev dktX1_boxOf_2 : List UInt8 := dkwX1_boxOf_2 ++ dktX1_boxOf_3
def dkwX1_boxOf_1 : List UInt8 := [3, 62, 29, 42, 182, 0, 122, 162, 0, 56, 3, 54, 4, 21, 4, 5, 162, 0, 41, 42, 29, 21, 4, 27]
abbrev dktX1_boxOf_1 : List UInt8 := dkwX1_boxOf_1 ++ dktX1_boxOf_2
def dkwX1_boxOf_0 : List UInt8 := [7, 188, 10, 89, 3, 19, 1, 72, 79, 89, 4, 19, 1, 72, 79, 89, 5, 2, 79, 89, 6, 2, 79, 77]
abbrev dktX1_boxOf_0 : List UInt8 := dkwX1_boxOf_0 ++ dktX1_boxOf_1
theorem dksX1_boxOf_0 : cX1_boxOf.data.toList.drop 0 = dktX1_boxOf_0 := by decide +kernel
theorem dksX1_boxOf_1 : cX1_boxOf.data.toList.drop 24 = dktX1_boxOf_1 := dk_seg dksX1_boxOf_0 24 rfl rfl
theorem dksX1_boxOf_2 : cX1_boxOf.data.toList.drop 48 = dktX1_boxOf_2 := dk_seg dksX1_boxOf_1 24 rfl rfl
theorem dksX1_boxOf_3 : cX1_boxOf.data.toList.drop 72 = dktX1_boxOf_3 := dk_seg dksX1_boxOf_2 24 rfl rfl
theorem dX1_boxOf_0 : decode cX1_boxOf 0 = .ok (.iconst 4, 1) := dk_7 (dk_at dksX1_boxOf_0 0 rfl rfl)
theorem dX1_boxOf_1 : decode cX1_boxOf 1 = .ok (.newarray .int, 2) := dk_188_10 (dk_at dksX1_boxOf_0 1 rfl rfl)
theorem dX1_boxOf_3 : decode cX1_boxOf 3 = .ok (.dup, 1) := dk_89 (dk_at dksX1_boxOf_0 3 rfl rfl)
theorem dX1_boxOf_4 : decode cX1_boxOf 4 = .ok (.iconst 0, 1) := dk_3 (dk_at dksX1_boxOf_0 4 rfl rfl)
theorem dX1_boxOf_5 : decode cX1_boxOf 5 = .ok (.ldc_w 328, 3) := dk_19 1 72 (dk_at dksX1_boxOf_0 5 rfl rfl)
theorem dX1_boxOf_8 : decode cX1_boxOf 8 = .ok (.iastore, 1) := dk_79 (dk_at dksX1_boxOf_0 8 rfl rfl)
theorem dX1_boxOf_9 : decode cX1_boxOf 9 = .ok (.dup, 1) := dk_89 (dk_at dksX1_boxOf_0 9 rfl rfl)
theorem dX1_boxOf_10 : decode cX1_boxOf 10 = .ok (.iconst 1, 1) := dk_4 (dk_at dksX1_boxOf_0 10 rfl rfl)
theorem dX1_boxOf_11 : decode cX1_boxOf 11 = .ok (.ldc_w 328, 3) := dk_19 1 72 (dk_at dksX1_boxOf_0 11 rfl rfl)
theorem dX1_boxOf_14 : decode cX1_boxOf 14 = .ok (.iastore, 1) := dk_79 (dk_at dksX1_boxOf_0 14 rfl rfl)
theorem dX1_boxOf_15 : decode cX1_boxOf 15 = .ok (.dup, 1) := dk_89 (dk_at dksX1_boxOf_0 15 rfl rfl)
theorem dX1_boxOf_16 : decode cX1_boxOf 16 = .ok (.iconst 2, 1) := dk_5 (dk_at dksX1_boxOf_0 16 rfl rfl)
theorem dX1_boxOf_17 : decode cX1_boxOf 17 = .ok (.iconst (-1), 1) := dk_2 (dk_at dksX1_boxOf_0 17 rfl rfl)
theorem dX1_boxOf_18 : decode cX1_boxOf 18 = .ok (.iastore, 1) := dk_79 (dk_at dksX1_boxOf_0 18 rfl rfl)
theorem dX1_boxOf_19 : decode cX1_boxOf 19 = .ok (.dup, 1) := dk_89 (dk_at dksX1_boxOf_0 19 rfl rfl)
theorem dX1_boxOf_20 : decode cX1_boxOf 20 = .ok (.iconst 3, 1) := dk_6 (dk_at dksX1_boxOf_0 20 rfl rfl)
theorem dX1_boxOf_21 : decode cX1_boxOf 21 = .ok (.iconst (-1), 1) := dk_2 (dk_at dksX1_boxOf_0 21 rfl rfl)
theorem dX1_boxOf_22 : decode cX1_boxOf 22 = .ok (.iastore, 1) := dk_79 (dk_at dksX1_boxOf_0 22 rfl rfl)
theorem dX1_boxOf_23 : decode cX1_boxOf 23 = .ok (.astore_n 2, 1) := dk_77 (dk_at dksX1_boxOf_0 23 rfl rfl)
theorem dX1_boxOf_24 : decode cX1_boxOf 24 = .ok (.iconst 0, 1) := dk_3 (dk_at dksX1_boxOf_1 0 rfl rfl)
theorem dX1_boxOf_25 : decode cX1_boxOf 25 = .ok (.istore_n 3, 1) := dk_62 (dk_at dksX1_boxOf_1 1 rfl rfl)
theorem dX1_boxOf_26 : decode cX1_boxOf 26 = .ok (.iload_n 3, 1) := dk_29 (dk_at dksX1_boxOf_1 2 rfl rfl)
theorem dX1_boxOf_27 : decode cX1_boxOf 27 = .ok (.aload_n 0, 1) := dk_42 (dk_at dksX1_boxOf_1 3 rfl rfl)
theorem dX1_boxOf_28 : decode cX1_boxOf 28 = .ok (.invokevirtual 122, 3) := dk_182 0 122 (dk_at dksX1_boxOf_1 4 rfl rfl)
theorem dX1_boxOf_31 : decode cX1_boxOf 31 = .ok (.if_icmp .ge 56, 3) := dk_162 0 56 (dk_at dksX1_boxOf_1 7 rfl rfl)
theorem dX1_boxOf_34 : decode cX1_boxOf 34 = .ok (.iconst 0, 1) := dk_3 (dk_at dksX1_boxOf_1 10 rfl rfl)
theorem dX1_boxOf_35 : decode cX1_boxOf 35 = .ok (.istore 4, 2) := dk_54 4 (dk_at dksX1_boxOf_1 11 rfl rfl)
theorem dX1_boxOf_37 : decode cX1_boxOf 37 = .ok (.iload 4, 2) := dk_21 4 (dk_at dksX1_boxOf_1 13 rfl rfl)
theorem dX1_boxOf_39 : decode cX1_boxOf 39 = .ok (.iconst 2, 1) := dk_5 (dk_at dksX1_boxOf_1 15 rfl rfl)
theorem dX1_boxOf_40 : decode cX1_boxOf 40 = .ok (.if_icmp .ge 41, 3) := dk_162 0 41 (dk_at dksX1_boxOf_1 16 rfl rfl)
theorem dX1_boxOf_43 : decode cX1_boxOf 43 = .ok (.aload_n 0, 1) := dk_42 (dk_at dksX1_boxOf_1 19 rfl rfl)
theorem dX1_boxOf_44 : decode cX1_boxOf 44 = .ok (.iload_n 3, 1) := dk_29 (dk_at dksX1_boxOf_1 20 rfl rfl)
theorem dX1_boxOf_45 : decode cX1_boxOf 45 = .ok (.iload 4, 2) := dk_21 4 (dk_at dksX1_boxOf_1 21 rfl rfl)
theorem dX1_boxOf_47 : decode cX1_boxOf 47 = .ok (.iload_n 1, 1) := dk_27 (dk_at dksX1_boxOf_1 23 rfl rfl)
theorem dX1_boxOf_48 : decode cX1_boxOf 48 = .ok (.invokevirtual 329, 3) := dk_182 1 73 (dk_at dksX1_boxOf_2 0 rfl rfl)
theorem dX1_boxOf_51 : decode cX1_boxOf 51 = .ok (.ifCond .ne 6, 3) := dk_154 0 6 (dk_at dksX1_boxOf_2 3 rfl rfl)
theorem dX1_boxOf_54 : decode cX1_boxOf 54 = .ok (.goto 21, 3) := dk_167 0 21 (dk_at dksX1_boxOf_2 6 rfl rfl)
theorem dX1_boxOf_57 : decode cX1_boxOf 57 = .ok (.aload_n 0, 1) := dk_42 (dk_at dksX1_boxOf_2 9 rfl rfl)
theorem dX1_boxOf_58 : decode cX1_boxOf 58 = .ok (.aload_n 2, 1) := dk_44 (dk_at dksX1_boxOf_2 10 rfl rfl)
theorem dX1_boxOf_59 : decode cX1_boxOf 59 = .ok (.iload_n 3, 1) := dk_29 (dk_at dksX1_boxOf_2 11 rfl rfl)
theorem dX1_boxOf_60 : decode cX1_boxOf 60 = .ok (.invokevirtual 332, 3) := dk_182 1 76 (dk_at dksX1_boxOf_2 12 rfl rfl)
theorem dX1_boxOf_63 : decode cX1_boxOf 63 = .ok (.aload_n 0, 1) := dk_42 (dk_at dksX1_boxOf_2 15 rfl rfl)
theorem dX1_boxOf_64 : decode cX1_boxOf 64 = .ok (.aload_n 2, 1) := dk_44 (dk_at dksX1_boxOf_2 16 rfl rfl)
theorem dX1_boxOf_65 : decode cX1_boxOf 65 = .ok (.aload_n 0, 1) := dk_42 (dk_at dksX1_boxOf_2 17 rfl rfl)
theorem dX1_boxOf_66 : decode cX1_boxOf 66 = .ok (.iload_n 3, 1) := dk_29 (dk_at dksX1_boxOf_2 18 rfl rfl)
theorem dX1_boxOf_67 : decode cX1_boxOf 67 = .ok (.iload 4, 2) := dk_21 4 (dk_at dksX1_boxOf_2 19 rfl rfl)
theorem dX1_boxOf_69 : decode cX1_boxOf 69 = .ok (.invokevirtual 109, 3) := dk_182 0 109 (dk_at dksX1_boxOf_2 21 rfl rfl)
theorem dX1_boxOf_72 : decode cX1_boxOf 72 = .ok (.invokevirtual 332, 3) := dk_182 1 76 (dk_at dksX1_boxOf_3 0 rfl rfl)
theorem dX1_boxOf_75 : decode cX1_boxOf 75 = .ok (.iinc 4 1, 3) := dk_132 4 1 (dk_at dksX1_boxOf_3 3 rfl rfl)
theorem dX1_boxOf_78 : decode cX1_boxOf 78 = .ok (.goto (-41), 3) := dk_167 255 215 (dk_at dksX1_boxOf_3 6 rfl rfl)
theorem dX1_boxOf_81 : decode cX1_boxOf 81 = .ok (.iinc 3 1, 3) := dk_132 3 1 (dk_at dksX1_boxOf_3 9 rfl rfl)
theorem dX1_boxOf_84 : decode cX1_boxOf 84 = .ok (.goto (-58), 3) := dk_167 255 198 (dk_at dksX1_boxOf_3 12 rfl rfl)
theorem dX1_boxOf_87 : decode cX1_boxOf 87 = .ok (.aload_n 2, 1) := dk_44 (dk_at dksX1_boxOf_3 15 rfl rfl)
theorem dX1_boxOf_88 : decode cX1_boxOf 88 = .ok (.areturn, 1) := dk_176 (dk_at dksX1_boxOf_3 16 rfl rfl)
def dkwX1_isAbove_1 : List UInt8 := [167, 0, 4, 3, 172]
abbrev dktX1_isAbove_1 : List UInt8 := dkwX1_isAbove_1 ++ []
def dkwX1_isAbove_0 : List UInt8 := [42, 27, 28, 182, 1, 70, 20, 0, 132, 29, 133, 105, 42, 180, 0, 44, 105, 148, 158, 0, 7, 4]
abbrev dktX1_isAbove_0 : List UInt8 := dkwX1_isAbove_0 ++ dktX1_isAbove_1
theorem dksX1_isAbove_0 : cX1_isAbove.data.toList.drop 0 = dktX1_isAbove_0 := by decide +kernel
theorem dksX1_isAbove_1 : cX1_isAbove.data.toList.drop 22 = dktX1_isAbove_1 := dk_seg dksX1_isAbove_0 22 rfl rfl
theorem dX1_isAbove_0 : decode cX1_isAbove 0 = .ok (.aload_n 0, 1) := dk_42 (dk_at dksX1_isAbove_0 0 rfl rfl)
theorem dX1_isAbove_1 : decode cX1_isAbove 1 = .ok (.iload_n 1, 1) := dk_27 (dk_at dksX1_isAbove_0 1 rfl rfl)
theorem dX1_isAbove_2 : decode cX1_isAbove 2 = .ok (.iload_n 2, 1) := dk_28 (dk_at dksX1_isAbove_0 2 rfl rfl)
theorem dX1_isAbove_3 : decode cX1_isAbove 3 = .ok (.invokevirtual 326, 3) := dk_182 1 70 (dk_at dksX1_isAbove_0 3 rfl rfl)
theorem dX1_isAbove_6 : decode cX1_isAbove 6 = .ok (.ldc2_w 132, 3) := dk_20 0 132 (dk_at dksX1_isAbove_0 6 rfl rfl)
theorem dX1_isAbove_9 : decode cX1_isAbove 9 = .ok (.iload_n 3, 1) := dk_29 (dk_at dksX1_isAbove_0 9 rfl rfl)
theorem dX1_isAbove_10 : decode cX1_isAbove 10 = .ok (.i2l, 1) := dk_133 (dk_at dksX1_isAbove_0 10 rfl rfl)
theorem dX1_isAbove_11 : decode cX1_isAbove 11 = .ok (.lmul, 1) := dk_105 (dk_at dksX1_isAbove_0 11 rfl rfl)
theorem dX1_isAbove_12 : decode cX1_isAbove 12 = .ok (.aload_n 0, 1) := dk_42 (dk_at dksX1_isAbove_0 12 rfl rfl)
theorem dX1_isAbove_13 : decode cX1_isAbove 13 = .ok (.getfield 44, 3) := dk_180 0 44 (dk_at dksX1_isAbove_0 13 rfl rfl)
theorem dX1_isAbove_16 : decode cX1_isAbove 16 = .ok (.lmul, 1) := dk_105 (dk_at dksX1_isAbove_0 16 rfl rfl)
theorem dX1_isAbove_17 : decode cX1_isAbove 17 = .ok (.lcmp, 1) := dk_148 (dk_at dksX1_isAbove_0 17 rfl rfl)
theorem dX1_isAbove_18 : decode cX1_isAbove 18 = .ok (.ifCond .le 7, 3) := dk_158 0 7 (dk_at dksX1_isAbove_0 18 rfl rfl)
theorem dX1_isAbove_21 : decode cX1_isAbove 21 = .ok (.iconst 1, 1) := dk_4 (dk_at dksX1_isAbove_0 21 rfl rfl)
theorem dX1_isAbove_22 : decode cX1_isAbove 22 = .ok (.goto 4, 3) := dk_167 0 4 (dk_at dksX1_isAbove_1 0 rfl rfl)
theorem dX1_isAbove_25 : decode cX1_isAbove 25 = .ok (.iconst 0, 1) := dk_3 (dk_at dksX1_isAbove_1 3 rfl rfl)
theorem dX1_isAbove_26 : decode cX1_isAbove 26 = .ok (.ireturn, 1) := dk_172 (dk_at dksX1_isAbove_1 4 rfl rfl)
def dkwX1_holds_2 : List UInt8 := [43, 6, 46, 21, 4, 184, 1, 83, 79, 177]
abbrev dktX1_holds_2 : List UInt8 := dkwX1_holds_2 ++ []
def dkwX1_holds_1 : List UInt8 := [79, 43, 4, 43, 4, 46, 21, 4, 184, 1, 80, 79, 43, 5, 43, 5, 46, 29, 184, 1, 83, 79, 43, 6]
abbrev dktX1_holds_1 : List UInt8 := dkwX1_holds_1 ++ dktX1_holds_2
def dkwX1_holds_0 : List UInt8 := [28, 42, 182, 0, 80, 112, 62, 28, 42, 182, 0, 80, 108, 54, 4, 43, 3, 43, 3, 46, 29, 184, 1, 80]
abbrev dktX1_holds_0 : List UInt8 := dkwX1_holds_0 ++ dktX1_holds_1
theorem dksX1_holds_0 : cX1_holds.data.toList.drop 0 = dktX1_holds_0 := by decide +kernel
theorem dksX1_holds_1 : cX1_holds.data.toList.drop 24 = dktX1_holds_1 := dk_seg dksX1_holds_0 24 rfl rfl
theorem dksX1_holds_2 : cX1_holds.data.toList.drop 48 = dktX1_holds_2 := dk_seg dksX1_holds_1 24 rfl rfl
theorem dX1_holds_0 : decode cX1_holds 0 = .ok (.iload_n 2, 1) := dk_28 (dk_at dksX1_holds_0 0 rfl rfl)
theorem dX1_holds_1 : decode cX1_holds 1 = .ok (.aload_n 0, 1) := dk_42 (dk_at dksX1_holds_0 1 rfl rfl)
theorem dX1_holds_2 : decode cX1_holds 2 = .ok (.invokevirtual 80, 3) := dk_182 0 80 (dk_at dksX1_holds_0 2 rfl rfl)
theorem dX1_holds_5 : decode cX1_holds 5 = .ok (.irem, 1) := dk_112 (dk_at dksX1_holds_0 5 rfl rfl)
theorem dX1_holds_6 : decode cX1_holds 6 = .ok (.istore_n 3, 1) := dk_62 (dk_at dksX1_holds_0 6 rfl rfl)
theorem dX1_holds_7 : decode cX1_holds 7 = .ok (.iload_n 2, 1) := dk_28 (dk_at dksX1_holds_0 7 rfl rfl)
theorem dX1_holds_8 : decode cX1_holds 8 = .ok (.aload_n 0, 1) := dk_42 (dk_at dksX1_holds_0 8 rfl rfl)
theorem dX1_holds_9 : decode cX1_holds 9 = .ok (.invokevirtual 80, 3) := dk_182 0 80 (dk_at dksX1_holds_0 9 rfl rfl)
theorem dX1_holds_12 : decode cX1_holds 12 = .ok (.idiv, 1) := dk_108 (dk_at dksX1_holds_0 12 rfl rfl)
theorem dX1_holds_13 : decode cX1_holds 13 = .ok (.istore 4, 2) := dk_54 4 (dk_at dksX1_holds_0 13 rfl rfl)
theorem dX1_holds_15 : decode cX1_holds 15 = .ok (.aload_n 1, 1) := dk_43 (dk_at dksX1_holds_0 15 rfl rfl)
theorem dX1_holds_16 : decode cX1_holds 16 = .ok (.iconst 0, 1) := dk_3 (dk_at dksX1_holds_0 16 rfl rfl)
theorem dX1_holds_17 : decode cX1_holds 17 = .ok (.aload_n 1, 1) := dk_43 (dk_at dksX1_holds_0 17 rfl rfl)
theorem dX1_holds_18 : decode cX1_holds 18 = .ok (.iconst 0, 1) := dk_3 (dk_at dksX1_holds_0 18 rfl rfl)
theorem dX1_holds_19 : decode cX1_holds 19 = .ok (.iaload, 1) := dk_46 (dk_at dksX1_holds_0 19 rfl rfl)
theorem dX1_holds_20 : decode cX1_holds 20 = .ok (.iload_n 3, 1) := dk_29 (dk_at dksX1_holds_0 20 rfl rfl)
theorem dX1_holds_21 : decode cX1_holds 21 = .ok (.invokestatic 336, 3) := dk_184 1 80 (dk_at dksX1_holds_0 21 rfl rfl)
theorem dX1_holds_24 : decode cX1_holds 24 = .ok (.iastore, 1) := dk_79 (dk_at dksX1_holds_1 0 rfl rfl)
theorem dX1_holds_25 : decode cX1_holds 25 = .ok (.aload_n 1, 1) := dk_43 (dk_at dksX1_holds_1 1 rfl rfl)
theorem dX1_holds_26 : decode cX1_holds 26 = .ok (.iconst 1, 1) := dk_4 (dk_at dksX1_holds_1 2 rfl rfl)
theorem dX1_holds_27 : decode cX1_holds 27 = .ok (.aload_n 1, 1) := dk_43 (dk_at dksX1_holds_1 3 rfl rfl)
theorem dX1_holds_28 : decode cX1_holds 28 = .ok (.iconst 1, 1) := dk_4 (dk_at dksX1_holds_1 4 rfl rfl)
theorem dX1_holds_29 : decode cX1_holds 29 = .ok (.iaload, 1) := dk_46 (dk_at dksX1_holds_1 5 rfl rfl)
theorem dX1_holds_30 : decode cX1_holds 30 = .ok (.iload 4, 2) := dk_21 4 (dk_at dksX1_holds_1 6 rfl rfl)
theorem dX1_holds_32 : decode cX1_holds 32 = .ok (.invokestatic 336, 3) := dk_184 1 80 (dk_at dksX1_holds_1 8 rfl rfl)
theorem dX1_holds_35 : decode cX1_holds 35 = .ok (.iastore, 1) := dk_79 (dk_at dksX1_holds_1 11 rfl rfl)
theorem dX1_holds_36 : decode cX1_holds 36 = .ok (.aload_n 1, 1) := dk_43 (dk_at dksX1_holds_1 12 rfl rfl)
theorem dX1_holds_37 : decode cX1_holds 37 = .ok (.iconst 2, 1) := dk_5 (dk_at dksX1_holds_1 13 rfl rfl)
theorem dX1_holds_38 : decode cX1_holds 38 = .ok (.aload_n 1, 1) := dk_43 (dk_at dksX1_holds_1 14 rfl rfl)
theorem dX1_holds_39 : decode cX1_holds 39 = .ok (.iconst 2, 1) := dk_5 (dk_at dksX1_holds_1 15 rfl rfl)
theorem dX1_holds_40 : decode cX1_holds 40 = .ok (.iaload, 1) := dk_46 (dk_at dksX1_holds_1 16 rfl rfl)
theorem dX1_holds_41 : decode cX1_holds 41 = .ok (.iload_n 3, 1) := dk_29 (dk_at dksX1_holds_1 17 rfl rfl)
theorem dX1_holds_42 : decode cX1_holds 42 = .ok (.invokestatic 339, 3) := dk_184 1 83 (dk_at dksX1_holds_1 18 rfl rfl)
theorem dX1_holds_45 : decode cX1_holds 45 = .ok (.iastore, 1) := dk_79 (dk_at dksX1_holds_1 21 rfl rfl)
theorem dX1_holds_46 : decode cX1_holds 46 = .ok (.aload_n 1, 1) := dk_43 (dk_at dksX1_holds_1 22 rfl rfl)
theorem dX1_holds_47 : decode cX1_holds 47 = .ok (.iconst 3, 1) := dk_6 (dk_at dksX1_holds_1 23 rfl rfl)
theorem dX1_holds_48 : decode cX1_holds 48 = .ok (.aload_n 1, 1) := dk_43 (dk_at dksX1_holds_2 0 rfl rfl)
theorem dX1_holds_49 : decode cX1_holds 49 = .ok (.iconst 3, 1) := dk_6 (dk_at dksX1_holds_2 1 rfl rfl)
theorem dX1_holds_50 : decode cX1_holds 50 = .ok (.iaload, 1) := dk_46 (dk_at dksX1_holds_2 2 rfl rfl)
theorem dX1_holds_51 : decode cX1_holds 51 = .ok (.iload 4, 2) := dk_21 4 (dk_at dksX1_holds_2 3 rfl rfl)
theorem dX1_holds_53 : decode cX1_holds 53 = .ok (.invokestatic 339, 3) := dk_184 1 83 (dk_at dksX1_holds_2 5 rfl rfl)
theorem dX1_holds_56 : decode cX1_holds 56 = .ok (.iastore, 1) := dk_79 (dk_at dksX1_holds_2 8 rfl rfl)
theorem dX1_holds_57 : decode cX1_holds 57 = .ok (.return_, 1) := dk_177 (dk_at dksX1_holds_2 9 rfl rfl)
def dkwX1_reach_2 : List UInt8 := [132, 2, 1, 132, 3, 1, 167, 255, 222, 28, 172]
abbrev dktX1_reach_2 : List UInt8 := dkwX1_reach_2 ++ []
def dkwX1_reach_1 : List UInt8 := [162, 0, 32, 42, 29, 182, 0, 101, 20, 0, 132, 27, 133, 105, 42, 180, 0, 44, 105, 148, 158, 0, 6]
abbrev dktX1_reach_1 : List UInt8 := dkwX1_reach_1 ++ dktX1_reach_2
def dkwX1_reach_0 : List UInt8 := [27, 3, 17, 39, 15, 184, 0, 253, 184, 0, 211, 42, 182, 1, 50, 3, 61, 3, 62, 29, 42, 182, 0, 122]
abbrev dktX1_reach_0 : List UInt8 := dkwX1_reach_0 ++ dktX1_reach_1
theorem dksX1_reach_0 : cX1_reach.data.toList.drop 0 = dktX1_reach_0 := by decide +kernel
theorem dksX1_reach_1 : cX1_reach.data.toList.drop 24 = dktX1_reach_1 := dk_seg dksX1_reach_0 24 rfl rfl
theorem dksX1_reach_2 : cX1_reach.data.toList.drop 47 = dktX1_reach_2 := dk_seg dksX1_reach_1 23 rfl rfl
theorem dX1_reach_0 : decode cX1_reach 0 = .ok (.iload_n 1, 1) := dk_27 (dk_at dksX1_reach_0 0 rfl rfl)
theorem dX1_reach_1 : decode cX1_reach 1 = .ok (.iconst 0, 1) := dk_3 (dk_at dksX1_reach_0 1 rfl rfl)
theorem dX1_reach_2 : decode cX1_reach 2 = .ok (.sipush 9999, 3) := dk_17 39 15 (dk_at dksX1_reach_0 2 rfl rfl)
theorem dX1_reach_5 : decode cX1_reach 5 = .ok (.invokestatic 253, 3) := dk_184 0 253 (dk_at dksX1_reach_0 5 rfl rfl)
theorem dX1_reach_8 : decode cX1_reach 8 = .ok (.invokestatic 211, 3) := dk_184 0 211 (dk_at dksX1_reach_0 8 rfl rfl)
theorem dX1_reach_11 : decode cX1_reach 11 = .ok (.aload_n 0, 1) := dk_42 (dk_at dksX1_reach_0 11 rfl rfl)
theorem dX1_reach_12 : decode cX1_reach 12 = .ok (.invokevirtual 306, 3) := dk_182 1 50 (dk_at dksX1_reach_0 12 rfl rfl)
theorem dX1_reach_15 : decode cX1_reach 15 = .ok (.iconst 0, 1) := dk_3 (dk_at dksX1_reach_0 15 rfl rfl)
theorem dX1_reach_16 : decode cX1_reach 16 = .ok (.istore_n 2, 1) := dk_61 (dk_at dksX1_reach_0 16 rfl rfl)
theorem dX1_reach_17 : decode cX1_reach 17 = .ok (.iconst 0, 1) := dk_3 (dk_at dksX1_reach_0 17 rfl rfl)
theorem dX1_reach_18 : decode cX1_reach 18 = .ok (.istore_n 3, 1) := dk_62 (dk_at dksX1_reach_0 18 rfl rfl)
theorem dX1_reach_19 : decode cX1_reach 19 = .ok (.iload_n 3, 1) := dk_29 (dk_at dksX1_reach_0 19 rfl rfl)
theorem dX1_reach_20 : decode cX1_reach 20 = .ok (.aload_n 0, 1) := dk_42 (dk_at dksX1_reach_0 20 rfl rfl)
theorem dX1_reach_21 : decode cX1_reach 21 = .ok (.invokevirtual 122, 3) := dk_182 0 122 (dk_at dksX1_reach_0 21 rfl rfl)
theorem dX1_reach_24 : decode cX1_reach 24 = .ok (.if_icmp .ge 32, 3) := dk_162 0 32 (dk_at dksX1_reach_1 0 rfl rfl)
theorem dX1_reach_27 : decode cX1_reach 27 = .ok (.aload_n 0, 1) := dk_42 (dk_at dksX1_reach_1 3 rfl rfl)
theorem dX1_reach_28 : decode cX1_reach 28 = .ok (.iload_n 3, 1) := dk_29 (dk_at dksX1_reach_1 4 rfl rfl)
theorem dX1_reach_29 : decode cX1_reach 29 = .ok (.invokevirtual 101, 3) := dk_182 0 101 (dk_at dksX1_reach_1 5 rfl rfl)
theorem dX1_reach_32 : decode cX1_reach 32 = .ok (.ldc2_w 132, 3) := dk_20 0 132 (dk_at dksX1_reach_1 8 rfl rfl)
theorem dX1_reach_35 : decode cX1_reach 35 = .ok (.iload_n 1, 1) := dk_27 (dk_at dksX1_reach_1 11 rfl rfl)
theorem dX1_reach_36 : decode cX1_reach 36 = .ok (.i2l, 1) := dk_133 (dk_at dksX1_reach_1 12 rfl rfl)
theorem dX1_reach_37 : decode cX1_reach 37 = .ok (.lmul, 1) := dk_105 (dk_at dksX1_reach_1 13 rfl rfl)
theorem dX1_reach_38 : decode cX1_reach 38 = .ok (.aload_n 0, 1) := dk_42 (dk_at dksX1_reach_1 14 rfl rfl)
theorem dX1_reach_39 : decode cX1_reach 39 = .ok (.getfield 44, 3) := dk_180 0 44 (dk_at dksX1_reach_1 15 rfl rfl)
theorem dX1_reach_42 : decode cX1_reach 42 = .ok (.lmul, 1) := dk_105 (dk_at dksX1_reach_1 18 rfl rfl)
theorem dX1_reach_43 : decode cX1_reach 43 = .ok (.lcmp, 1) := dk_148 (dk_at dksX1_reach_1 19 rfl rfl)
theorem dX1_reach_44 : decode cX1_reach 44 = .ok (.ifCond .le 6, 3) := dk_158 0 6 (dk_at dksX1_reach_1 20 rfl rfl)
theorem dX1_reach_47 : decode cX1_reach 47 = .ok (.iinc 2 1, 3) := dk_132 2 1 (dk_at dksX1_reach_2 0 rfl rfl)
theorem dX1_reach_50 : decode cX1_reach 50 = .ok (.iinc 3 1, 3) := dk_132 3 1 (dk_at dksX1_reach_2 3 rfl rfl)
theorem dX1_reach_53 : decode cX1_reach 53 = .ok (.goto (-34), 3) := dk_167 255 222 (dk_at dksX1_reach_2 6 rfl rfl)
theorem dX1_reach_56 : decode cX1_reach 56 = .ok (.iload_n 2, 1) := dk_28 (dk_at dksX1_reach_2 9 rfl rfl)
theorem dX1_reach_57 : decode cX1_reach 57 = .ok (.ireturn, 1) := dk_172 (dk_at dksX1_reach_2 10 rfl rfl)
def dkwX1_walk_1 : List UInt8 := [180, 0, 44, 105, 183, 0, 74, 29, 182, 1, 46, 173]
abbrev dktX1_walk_1 : List UInt8 := dkwX1_walk_1 ++ []
def dkwX1_walk_0 : List UInt8 := [42, 27, 28, 182, 1, 115, 42, 182, 1, 50, 187, 0, 68, 89, 42, 27, 28, 182, 1, 119, 20, 0, 99, 42]
abbrev dktX1_walk_0 : List UInt8 := dkwX1_walk_0 ++ dktX1_walk_1
theorem dksX1_walk_0 : cX1_walk.data.toList.drop 0 = dktX1_walk_0 := by decide +kernel
theorem dksX1_walk_1 : cX1_walk.data.toList.drop 24 = dktX1_walk_1 := dk_seg dksX1_walk_0 24 rfl rfl
theorem dX1_walk_0 : decode cX1_walk 0 = .ok (.aload_n 0, 1) := dk_42 (dk_at dksX1_walk_0 0 rfl rfl)
theorem dX1_walk_1 : decode cX1_walk 1 = .ok (.iload_n 1, 1) := dk_27 (dk_at dksX1_walk_0 1 rfl rfl)
theorem dX1_walk_2 : decode cX1_walk 2 = .ok (.iload_n 2, 1) := dk_28 (dk_at dksX1_walk_0 2 rfl rfl)
theorem dX1_walk_3 : decode cX1_walk 3 = .ok (.invokevirtual 371, 3) := dk_182 1 115 (dk_at dksX1_walk_0 3 rfl rfl)
theorem dX1_walk_6 : decode cX1_walk 6 = .ok (.aload_n 0, 1) := dk_42 (dk_at dksX1_walk_0 6 rfl rfl)
theorem dX1_walk_7 : decode cX1_walk 7 = .ok (.invokevirtual 306, 3) := dk_182 1 50 (dk_at dksX1_walk_0 7 rfl rfl)
theorem dX1_walk_10 : decode cX1_walk 10 = .ok (.new 68, 3) := dk_187 0 68 (dk_at dksX1_walk_0 10 rfl rfl)
theorem dX1_walk_13 : decode cX1_walk 13 = .ok (.dup, 1) := dk_89 (dk_at dksX1_walk_0 13 rfl rfl)
theorem dX1_walk_14 : decode cX1_walk 14 = .ok (.aload_n 0, 1) := dk_42 (dk_at dksX1_walk_0 14 rfl rfl)
theorem dX1_walk_15 : decode cX1_walk 15 = .ok (.iload_n 1, 1) := dk_27 (dk_at dksX1_walk_0 15 rfl rfl)
theorem dX1_walk_16 : decode cX1_walk 16 = .ok (.iload_n 2, 1) := dk_28 (dk_at dksX1_walk_0 16 rfl rfl)
theorem dX1_walk_17 : decode cX1_walk 17 = .ok (.invokevirtual 375, 3) := dk_182 1 119 (dk_at dksX1_walk_0 17 rfl rfl)
theorem dX1_walk_20 : decode cX1_walk 20 = .ok (.ldc2_w 99, 3) := dk_20 0 99 (dk_at dksX1_walk_0 20 rfl rfl)
theorem dX1_walk_23 : decode cX1_walk 23 = .ok (.aload_n 0, 1) := dk_42 (dk_at dksX1_walk_0 23 rfl rfl)
theorem dX1_walk_24 : decode cX1_walk 24 = .ok (.getfield 44, 3) := dk_180 0 44 (dk_at dksX1_walk_1 0 rfl rfl)
theorem dX1_walk_27 : decode cX1_walk 27 = .ok (.lmul, 1) := dk_105 (dk_at dksX1_walk_1 3 rfl rfl)
theorem dX1_walk_28 : decode cX1_walk 28 = .ok (.invokespecial 74, 3) := dk_183 0 74 (dk_at dksX1_walk_1 4 rfl rfl)
theorem dX1_walk_31 : decode cX1_walk 31 = .ok (.iload_n 3, 1) := dk_29 (dk_at dksX1_walk_1 7 rfl rfl)
theorem dX1_walk_32 : decode cX1_walk 32 = .ok (.invokevirtual 302, 3) := dk_182 1 46 (dk_at dksX1_walk_1 8 rfl rfl)
theorem dX1_walk_35 : decode cX1_walk 35 = .ok (.lreturn, 1) := dk_173 (dk_at dksX1_walk_1 11 rfl rfl)
def dkwX1_pointsThere_1 : List UInt8 := [184, 0, 253, 153, 0, 7, 4, 167, 0, 4, 3, 184, 1, 1, 177]
abbrev dktX1_pointsThere_1 : List UInt8 := dkwX1_pointsThere_1 ++ []
def dkwX1_pointsThere_0 : List UInt8 := [27, 3, 42, 182, 0, 122, 4, 100, 184, 0, 253, 153, 0, 21, 28, 3, 42, 182, 0, 122, 4, 100]
abbrev dktX1_pointsThere_0 : List UInt8 := dkwX1_pointsThere_0 ++ dktX1_pointsThere_1
theorem dksX1_pointsThere_0 : cX1_pointsThere.data.toList.drop 0 = dktX1_pointsThere_0 := by decide +kernel
theorem dksX1_pointsThere_1 : cX1_pointsThere.data.toList.drop 22 = dktX1_pointsThere_1 := dk_seg dksX1_pointsThere_0 22 rfl rfl
theorem dX1_pointsThere_0 : decode cX1_pointsThere 0 = .ok (.iload_n 1, 1) := dk_27 (dk_at dksX1_pointsThere_0 0 rfl rfl)
theorem dX1_pointsThere_1 : decode cX1_pointsThere 1 = .ok (.iconst 0, 1) := dk_3 (dk_at dksX1_pointsThere_0 1 rfl rfl)
theorem dX1_pointsThere_2 : decode cX1_pointsThere 2 = .ok (.aload_n 0, 1) := dk_42 (dk_at dksX1_pointsThere_0 2 rfl rfl)
theorem dX1_pointsThere_3 : decode cX1_pointsThere 3 = .ok (.invokevirtual 122, 3) := dk_182 0 122 (dk_at dksX1_pointsThere_0 3 rfl rfl)
theorem dX1_pointsThere_6 : decode cX1_pointsThere 6 = .ok (.iconst 1, 1) := dk_4 (dk_at dksX1_pointsThere_0 6 rfl rfl)
theorem dX1_pointsThere_7 : decode cX1_pointsThere 7 = .ok (.isub, 1) := dk_100 (dk_at dksX1_pointsThere_0 7 rfl rfl)
theorem dX1_pointsThere_8 : decode cX1_pointsThere 8 = .ok (.invokestatic 253, 3) := dk_184 0 253 (dk_at dksX1_pointsThere_0 8 rfl rfl)
theorem dX1_pointsThere_11 : decode cX1_pointsThere 11 = .ok (.ifCond .eq 21, 3) := dk_153 0 21 (dk_at dksX1_pointsThere_0 11 rfl rfl)
theorem dX1_pointsThere_14 : decode cX1_pointsThere 14 = .ok (.iload_n 2, 1) := dk_28 (dk_at dksX1_pointsThere_0 14 rfl rfl)
theorem dX1_pointsThere_15 : decode cX1_pointsThere 15 = .ok (.iconst 0, 1) := dk_3 (dk_at dksX1_pointsThere_0 15 rfl rfl)
theorem dX1_pointsThere_16 : decode cX1_pointsThere 16 = .ok (.aload_n 0, 1) := dk_42 (dk_at dksX1_pointsThere_0 16 rfl rfl)
theorem dX1_pointsThere_17 : decode cX1_pointsThere 17 = .ok (.invokevirtual 122, 3) := dk_182 0 122 (dk_at dksX1_pointsThere_0 17 rfl rfl)
theorem dX1_pointsThere_20 : decode cX1_pointsThere 20 = .ok (.iconst 1, 1) := dk_4 (dk_at dksX1_pointsThere_0 20 rfl rfl)
theorem dX1_pointsThere_21 : decode cX1_pointsThere 21 = .ok (.isub, 1) := dk_100 (dk_at dksX1_pointsThere_0 21 rfl rfl)
theorem dX1_pointsThere_22 : decode cX1_pointsThere 22 = .ok (.invokestatic 253, 3) := dk_184 0 253 (dk_at dksX1_pointsThere_1 0 rfl rfl)
theorem dX1_pointsThere_25 : decode cX1_pointsThere 25 = .ok (.ifCond .eq 7, 3) := dk_153 0 7 (dk_at dksX1_pointsThere_1 3 rfl rfl)
theorem dX1_pointsThere_28 : decode cX1_pointsThere 28 = .ok (.iconst 1, 1) := dk_4 (dk_at dksX1_pointsThere_1 6 rfl rfl)
theorem dX1_pointsThere_29 : decode cX1_pointsThere 29 = .ok (.goto 4, 3) := dk_167 0 4 (dk_at dksX1_pointsThere_1 7 rfl rfl)
theorem dX1_pointsThere_32 : decode cX1_pointsThere 32 = .ok (.iconst 0, 1) := dk_3 (dk_at dksX1_pointsThere_1 10 rfl rfl)
theorem dX1_pointsThere_33 : decode cX1_pointsThere 33 = .ok (.invokestatic 257, 3) := dk_184 1 1 (dk_at dksX1_pointsThere_1 11 rfl rfl)
theorem dX1_pointsThere_36 : decode cX1_pointsThere 36 = .ok (.return_, 1) := dk_177 (dk_at dksX1_pointsThere_1 14 rfl rfl)
def dkwX1_leastToll_0 : List UInt8 := [42, 27, 20, 1, 91, 186, 1, 108, 0, 0, 182, 1, 111, 42, 180, 0, 165, 28, 47, 173]
abbrev dktX1_leastToll_0 : List UInt8 := dkwX1_leastToll_0 ++ []
theorem dksX1_leastToll_0 : cX1_leastToll.data.toList.drop 0 = dktX1_leastToll_0 := by decide +kernel
theorem dX1_leastToll_0 : decode cX1_leastToll 0 = .ok (.aload_n 0, 1) := dk_42 (dk_at dksX1_leastToll_0 0 rfl rfl)
theorem dX1_leastToll_1 : decode cX1_leastToll 1 = .ok (.iload_n 1, 1) := dk_27 (dk_at dksX1_leastToll_0 1 rfl rfl)
theorem dX1_leastToll_2 : decode cX1_leastToll 2 = .ok (.ldc2_w 347, 3) := dk_20 1 91 (dk_at dksX1_leastToll_0 2 rfl rfl)
theorem dX1_leastToll_5 : decode cX1_leastToll 5 = .ok (.invokedynamic 364, 5) := by decide +kernel
theorem dX1_leastToll_10 : decode cX1_leastToll 10 = .ok (.invokevirtual 367, 3) := dk_182 1 111 (dk_at dksX1_leastToll_0 10 rfl rfl)
theorem dX1_leastToll_13 : decode cX1_leastToll 13 = .ok (.aload_n 0, 1) := dk_42 (dk_at dksX1_leastToll_0 13 rfl rfl)
theorem dX1_leastToll_14 : decode cX1_leastToll 14 = .ok (.getfield 165, 3) := dk_180 0 165 (dk_at dksX1_leastToll_0 14 rfl rfl)
theorem dX1_leastToll_17 : decode cX1_leastToll 17 = .ok (.iload_n 2, 1) := dk_28 (dk_at dksX1_leastToll_0 17 rfl rfl)
theorem dX1_leastToll_18 : decode cX1_leastToll 18 = .ok (.laload, 1) := dk_47 (dk_at dksX1_leastToll_0 18 rfl rfl)
theorem dX1_leastToll_19 : decode cX1_leastToll 19 = .ok (.lreturn, 1) := dk_173 (dk_at dksX1_leastToll_0 19 rfl rfl)
def dkwX1_lambda_leastToll_1_0 : List UInt8 := [30, 32, 184, 0, 93, 173]
abbrev dktX1_lambda_leastToll_1_0 : List UInt8 := dkwX1_lambda_leastToll_1_0 ++ []
theorem dksX1_lambda_leastToll_1_0 : cX1_lambda_leastToll_1.data.toList.drop 0 = dktX1_lambda_leastToll_1_0 := by decide +kernel
theorem dX1_lambda_leastToll_1_0 : decode cX1_lambda_leastToll_1 0 = .ok (.lload_n 0, 1) := dk_30 (dk_at dksX1_lambda_leastToll_1_0 0 rfl rfl)
theorem dX1_lambda_leastToll_1_1 : decode cX1_lambda_leastToll_1 1 = .ok (.lload_n 2, 1) := dk_32 (dk_at dksX1_lambda_leastToll_1_0 1 rfl rfl)
theorem dX1_lambda_leastToll_1_2 : decode cX1_lambda_leastToll_1 2 = .ok (.invokestatic 93, 3) := dk_184 0 93 (dk_at dksX1_lambda_leastToll_1_0 2 rfl rfl)
theorem dX1_lambda_leastToll_1_5 : decode cX1_lambda_leastToll_1 5 = .ok (.lreturn, 1) := dk_173 (dk_at dksX1_lambda_leastToll_1_0 5 rfl rfl)
def dkwX1_goes_4 : List UInt8 := [167, 255, 187, 42, 182, 1, 105, 54, 5, 167, 255, 161, 177]
abbrev dktX1_goes_4 : List UInt8 := dkwX1_goes_4 ++ []
def dkwX1_goes_3 : List UInt8 := [25, 4, 42, 180, 0, 165, 21, 5, 47, 22, 7, 185, 1, 99, 5, 0, 184, 1, 103, 80, 132, 6, 1]
abbrev dktX1_goes_3 : List UInt8 := dkwX1_goes_3 ++ dktX1_goes_4
def dkwX1_goes_2 : List UInt8 := [148, 155, 0, 43, 22, 7, 32, 148, 157, 0, 36, 42, 180, 0, 165, 21, 6, 42, 180, 0, 165, 21, 6, 47]
abbrev dktX1_goes_2 : List UInt8 := dkwX1_goes_2 ++ dktX1_goes_3
def dkwX1_goes_1 : List UInt8 := [54, 6, 21, 6, 42, 182, 0, 122, 162, 0, 66, 42, 21, 5, 21, 6, 182, 1, 96, 55, 7, 22, 7, 9]
abbrev dktX1_goes_1 : List UInt8 := dkwX1_goes_1 ++ dktX1_goes_2
def dkwX1_goes_0 : List UInt8 := [42, 27, 182, 1, 93, 27, 54, 5, 21, 5, 2, 159, 0, 95, 42, 180, 0, 168, 21, 5, 4, 84, 3]
abbrev dktX1_goes_0 : List UInt8 := dkwX1_goes_0 ++ dktX1_goes_1
theorem dksX1_goes_0 : cX1_goes.data.toList.drop 0 = dktX1_goes_0 := by decide +kernel
theorem dksX1_goes_1 : cX1_goes.data.toList.drop 23 = dktX1_goes_1 := dk_seg dksX1_goes_0 23 rfl rfl
theorem dksX1_goes_2 : cX1_goes.data.toList.drop 47 = dktX1_goes_2 := dk_seg dksX1_goes_1 24 rfl rfl
theorem dksX1_goes_3 : cX1_goes.data.toList.drop 71 = dktX1_goes_3 := dk_seg dksX1_goes_2 24 rfl rfl
theorem dksX1_goes_4 : cX1_goes.data.toList.drop 94 = dktX1_goes_4 := dk_seg dksX1_goes_3 23 rfl rfl
theorem dX1_goes_0 : decode cX1_goes 0 = .ok (.aload_n 0, 1) := dk_42 (dk_at dksX1_goes_0 0 rfl rfl)
theorem dX1_goes_1 : decode cX1_goes 1 = .ok (.iload_n 1, 1) := dk_27 (dk_at dksX1_goes_0 1 rfl rfl)
theorem dX1_goes_2 : decode cX1_goes 2 = .ok (.invokevirtual 349, 3) := dk_182 1 93 (dk_at dksX1_goes_0 2 rfl rfl)
theorem dX1_goes_5 : decode cX1_goes 5 = .ok (.iload_n 1, 1) := dk_27 (dk_at dksX1_goes_0 5 rfl rfl)
theorem dX1_goes_6 : decode cX1_goes 6 = .ok (.istore 5, 2) := dk_54 5 (dk_at dksX1_goes_0 6 rfl rfl)
theorem dX1_goes_8 : decode cX1_goes 8 = .ok (.iload 5, 2) := dk_21 5 (dk_at dksX1_goes_0 8 rfl rfl)
theorem dX1_goes_10 : decode cX1_goes 10 = .ok (.iconst (-1), 1) := dk_2 (dk_at dksX1_goes_0 10 rfl rfl)
theorem dX1_goes_11 : decode cX1_goes 11 = .ok (.if_icmp .eq 95, 3) := dk_159 0 95 (dk_at dksX1_goes_0 11 rfl rfl)
theorem dX1_goes_14 : decode cX1_goes 14 = .ok (.aload_n 0, 1) := dk_42 (dk_at dksX1_goes_0 14 rfl rfl)
theorem dX1_goes_15 : decode cX1_goes 15 = .ok (.getfield 168, 3) := dk_180 0 168 (dk_at dksX1_goes_0 15 rfl rfl)
theorem dX1_goes_18 : decode cX1_goes 18 = .ok (.iload 5, 2) := dk_21 5 (dk_at dksX1_goes_0 18 rfl rfl)
theorem dX1_goes_20 : decode cX1_goes 20 = .ok (.iconst 1, 1) := dk_4 (dk_at dksX1_goes_0 20 rfl rfl)
theorem dX1_goes_21 : decode cX1_goes 21 = .ok (.bastore, 1) := dk_84 (dk_at dksX1_goes_0 21 rfl rfl)
theorem dX1_goes_22 : decode cX1_goes 22 = .ok (.iconst 0, 1) := dk_3 (dk_at dksX1_goes_0 22 rfl rfl)
theorem dX1_goes_23 : decode cX1_goes 23 = .ok (.istore 6, 2) := dk_54 6 (dk_at dksX1_goes_1 0 rfl rfl)
theorem dX1_goes_25 : decode cX1_goes 25 = .ok (.iload 6, 2) := dk_21 6 (dk_at dksX1_goes_1 2 rfl rfl)
theorem dX1_goes_27 : decode cX1_goes 27 = .ok (.aload_n 0, 1) := dk_42 (dk_at dksX1_goes_1 4 rfl rfl)
theorem dX1_goes_28 : decode cX1_goes 28 = .ok (.invokevirtual 122, 3) := dk_182 0 122 (dk_at dksX1_goes_1 5 rfl rfl)
theorem dX1_goes_31 : decode cX1_goes 31 = .ok (.if_icmp .ge 66, 3) := dk_162 0 66 (dk_at dksX1_goes_1 8 rfl rfl)
theorem dX1_goes_34 : decode cX1_goes 34 = .ok (.aload_n 0, 1) := dk_42 (dk_at dksX1_goes_1 11 rfl rfl)
theorem dX1_goes_35 : decode cX1_goes 35 = .ok (.iload 5, 2) := dk_21 5 (dk_at dksX1_goes_1 12 rfl rfl)
theorem dX1_goes_37 : decode cX1_goes 37 = .ok (.iload 6, 2) := dk_21 6 (dk_at dksX1_goes_1 14 rfl rfl)
theorem dX1_goes_39 : decode cX1_goes 39 = .ok (.invokevirtual 352, 3) := dk_182 1 96 (dk_at dksX1_goes_1 16 rfl rfl)
theorem dX1_goes_42 : decode cX1_goes 42 = .ok (.lstore 7, 2) := dk_55 7 (dk_at dksX1_goes_1 19 rfl rfl)
theorem dX1_goes_44 : decode cX1_goes 44 = .ok (.lload 7, 2) := dk_22 7 (dk_at dksX1_goes_1 21 rfl rfl)
theorem dX1_goes_46 : decode cX1_goes 46 = .ok (.lconst 0, 1) := dk_9 (dk_at dksX1_goes_1 23 rfl rfl)
theorem dX1_goes_47 : decode cX1_goes 47 = .ok (.lcmp, 1) := dk_148 (dk_at dksX1_goes_2 0 rfl rfl)
theorem dX1_goes_48 : decode cX1_goes 48 = .ok (.ifCond .lt 43, 3) := dk_155 0 43 (dk_at dksX1_goes_2 1 rfl rfl)
theorem dX1_goes_51 : decode cX1_goes 51 = .ok (.lload 7, 2) := dk_22 7 (dk_at dksX1_goes_2 4 rfl rfl)
theorem dX1_goes_53 : decode cX1_goes 53 = .ok (.lload_n 2, 1) := dk_32 (dk_at dksX1_goes_2 6 rfl rfl)
theorem dX1_goes_54 : decode cX1_goes 54 = .ok (.lcmp, 1) := dk_148 (dk_at dksX1_goes_2 7 rfl rfl)
theorem dX1_goes_55 : decode cX1_goes 55 = .ok (.ifCond .gt 36, 3) := dk_157 0 36 (dk_at dksX1_goes_2 8 rfl rfl)
theorem dX1_goes_58 : decode cX1_goes 58 = .ok (.aload_n 0, 1) := dk_42 (dk_at dksX1_goes_2 11 rfl rfl)
theorem dX1_goes_59 : decode cX1_goes 59 = .ok (.getfield 165, 3) := dk_180 0 165 (dk_at dksX1_goes_2 12 rfl rfl)
theorem dX1_goes_62 : decode cX1_goes 62 = .ok (.iload 6, 2) := dk_21 6 (dk_at dksX1_goes_2 15 rfl rfl)
theorem dX1_goes_64 : decode cX1_goes 64 = .ok (.aload_n 0, 1) := dk_42 (dk_at dksX1_goes_2 17 rfl rfl)
theorem dX1_goes_65 : decode cX1_goes 65 = .ok (.getfield 165, 3) := dk_180 0 165 (dk_at dksX1_goes_2 18 rfl rfl)
theorem dX1_goes_68 : decode cX1_goes 68 = .ok (.iload 6, 2) := dk_21 6 (dk_at dksX1_goes_2 21 rfl rfl)
theorem dX1_goes_70 : decode cX1_goes 70 = .ok (.laload, 1) := dk_47 (dk_at dksX1_goes_2 23 rfl rfl)
theorem dX1_goes_71 : decode cX1_goes 71 = .ok (.aload 4, 2) := dk_25 4 (dk_at dksX1_goes_3 0 rfl rfl)
theorem dX1_goes_73 : decode cX1_goes 73 = .ok (.aload_n 0, 1) := dk_42 (dk_at dksX1_goes_3 2 rfl rfl)
theorem dX1_goes_74 : decode cX1_goes 74 = .ok (.getfield 165, 3) := dk_180 0 165 (dk_at dksX1_goes_3 3 rfl rfl)
theorem dX1_goes_77 : decode cX1_goes 77 = .ok (.iload 5, 2) := dk_21 5 (dk_at dksX1_goes_3 6 rfl rfl)
theorem dX1_goes_79 : decode cX1_goes 79 = .ok (.laload, 1) := dk_47 (dk_at dksX1_goes_3 8 rfl rfl)
theorem dX1_goes_80 : decode cX1_goes 80 = .ok (.lload 7, 2) := dk_22 7 (dk_at dksX1_goes_3 9 rfl rfl)
theorem dX1_goes_82 : decode cX1_goes 82 = .ok (.invokeinterface 355 5, 5) := by decide +kernel
theorem dX1_goes_87 : decode cX1_goes 87 = .ok (.invokestatic 359, 3) := dk_184 1 103 (dk_at dksX1_goes_3 16 rfl rfl)
theorem dX1_goes_90 : decode cX1_goes 90 = .ok (.lastore, 1) := dk_80 (dk_at dksX1_goes_3 19 rfl rfl)
theorem dX1_goes_91 : decode cX1_goes 91 = .ok (.iinc 6 1, 3) := dk_132 6 1 (dk_at dksX1_goes_3 20 rfl rfl)
theorem dX1_goes_94 : decode cX1_goes 94 = .ok (.goto (-69), 3) := dk_167 255 187 (dk_at dksX1_goes_4 0 rfl rfl)
theorem dX1_goes_97 : decode cX1_goes 97 = .ok (.aload_n 0, 1) := dk_42 (dk_at dksX1_goes_4 3 rfl rfl)
theorem dX1_goes_98 : decode cX1_goes 98 = .ok (.invokevirtual 361, 3) := dk_182 1 105 (dk_at dksX1_goes_4 4 rfl rfl)
theorem dX1_goes_101 : decode cX1_goes 101 = .ok (.istore 5, 2) := dk_54 5 (dk_at dksX1_goes_4 7 rfl rfl)
theorem dX1_goes_103 : decode cX1_goes 103 = .ok (.goto (-95), 3) := dk_167 255 161 (dk_at dksX1_goes_4 9 rfl rfl)
theorem dX1_goes_106 : decode cX1_goes 106 = .ok (.return_, 1) := dk_177 (dk_at dksX1_goes_4 12 rfl rfl)
def dkwX1_begins_1 : List UInt8 := [20, 1, 91, 80, 42, 180, 0, 168, 28, 3, 84, 132, 2, 1, 167, 255, 220, 177]
abbrev dktX1_begins_1 : List UInt8 := dkwX1_begins_1 ++ []
def dkwX1_begins_0 : List UInt8 := [3, 61, 28, 42, 182, 0, 122, 162, 0, 34, 42, 180, 0, 165, 28, 28, 27, 160, 0, 7, 9, 167, 0, 6]
abbrev dktX1_begins_0 : List UInt8 := dkwX1_begins_0 ++ dktX1_begins_1
theorem dksX1_begins_0 : cX1_begins.data.toList.drop 0 = dktX1_begins_0 := by decide +kernel
theorem dksX1_begins_1 : cX1_begins.data.toList.drop 24 = dktX1_begins_1 := dk_seg dksX1_begins_0 24 rfl rfl
theorem dX1_begins_0 : decode cX1_begins 0 = .ok (.iconst 0, 1) := dk_3 (dk_at dksX1_begins_0 0 rfl rfl)
theorem dX1_begins_1 : decode cX1_begins 1 = .ok (.istore_n 2, 1) := dk_61 (dk_at dksX1_begins_0 1 rfl rfl)
theorem dX1_begins_2 : decode cX1_begins 2 = .ok (.iload_n 2, 1) := dk_28 (dk_at dksX1_begins_0 2 rfl rfl)
theorem dX1_begins_3 : decode cX1_begins 3 = .ok (.aload_n 0, 1) := dk_42 (dk_at dksX1_begins_0 3 rfl rfl)
theorem dX1_begins_4 : decode cX1_begins 4 = .ok (.invokevirtual 122, 3) := dk_182 0 122 (dk_at dksX1_begins_0 4 rfl rfl)
theorem dX1_begins_7 : decode cX1_begins 7 = .ok (.if_icmp .ge 34, 3) := dk_162 0 34 (dk_at dksX1_begins_0 7 rfl rfl)
theorem dX1_begins_10 : decode cX1_begins 10 = .ok (.aload_n 0, 1) := dk_42 (dk_at dksX1_begins_0 10 rfl rfl)
theorem dX1_begins_11 : decode cX1_begins 11 = .ok (.getfield 165, 3) := dk_180 0 165 (dk_at dksX1_begins_0 11 rfl rfl)
theorem dX1_begins_14 : decode cX1_begins 14 = .ok (.iload_n 2, 1) := dk_28 (dk_at dksX1_begins_0 14 rfl rfl)
theorem dX1_begins_15 : decode cX1_begins 15 = .ok (.iload_n 2, 1) := dk_28 (dk_at dksX1_begins_0 15 rfl rfl)
theorem dX1_begins_16 : decode cX1_begins 16 = .ok (.iload_n 1, 1) := dk_27 (dk_at dksX1_begins_0 16 rfl rfl)
theorem dX1_begins_17 : decode cX1_begins 17 = .ok (.if_icmp .ne 7, 3) := dk_160 0 7 (dk_at dksX1_begins_0 17 rfl rfl)
theorem dX1_begins_20 : decode cX1_begins 20 = .ok (.lconst 0, 1) := dk_9 (dk_at dksX1_begins_0 20 rfl rfl)
theorem dX1_begins_21 : decode cX1_begins 21 = .ok (.goto 6, 3) := dk_167 0 6 (dk_at dksX1_begins_0 21 rfl rfl)
theorem dX1_begins_24 : decode cX1_begins 24 = .ok (.ldc2_w 347, 3) := dk_20 1 91 (dk_at dksX1_begins_1 0 rfl rfl)
theorem dX1_begins_27 : decode cX1_begins 27 = .ok (.lastore, 1) := dk_80 (dk_at dksX1_begins_1 3 rfl rfl)
theorem dX1_begins_28 : decode cX1_begins 28 = .ok (.aload_n 0, 1) := dk_42 (dk_at dksX1_begins_1 4 rfl rfl)
theorem dX1_begins_29 : decode cX1_begins 29 = .ok (.getfield 168, 3) := dk_180 0 168 (dk_at dksX1_begins_1 5 rfl rfl)
theorem dX1_begins_32 : decode cX1_begins 32 = .ok (.iload_n 2, 1) := dk_28 (dk_at dksX1_begins_1 8 rfl rfl)
theorem dX1_begins_33 : decode cX1_begins 33 = .ok (.iconst 0, 1) := dk_3 (dk_at dksX1_begins_1 9 rfl rfl)
theorem dX1_begins_34 : decode cX1_begins 34 = .ok (.bastore, 1) := dk_84 (dk_at dksX1_begins_1 10 rfl rfl)
theorem dX1_begins_35 : decode cX1_begins 35 = .ok (.iinc 2 1, 3) := dk_132 2 1 (dk_at dksX1_begins_1 11 rfl rfl)
theorem dX1_begins_38 : decode cX1_begins 38 = .ok (.goto (-36), 3) := dk_167 255 220 (dk_at dksX1_begins_1 14 rfl rfl)
theorem dX1_begins_41 : decode cX1_begins 41 = .ok (.return_, 1) := dk_177 (dk_at dksX1_begins_1 17 rfl rfl)
def dkwX1_stepBetween_2 : List UInt8 := [182, 1, 70, 173, 132, 4, 1, 167, 255, 214, 20, 0, 116, 173]
abbrev dktX1_stepBetween_2 : List UInt8 := dkwX1_stepBetween_2 ++ []
def dkwX1_stepBetween_1 : List UInt8 := [153, 0, 26, 42, 29, 21, 4, 182, 0, 109, 27, 28, 184, 1, 83, 160, 0, 11, 42, 29, 21, 4]
abbrev dktX1_stepBetween_1 : List UInt8 := dkwX1_stepBetween_1 ++ dktX1_stepBetween_2
def dkwX1_stepBetween_0 : List UInt8 := [27, 28, 184, 1, 80, 62, 3, 54, 4, 21, 4, 5, 162, 0, 42, 42, 29, 21, 4, 182, 0, 105]
abbrev dktX1_stepBetween_0 : List UInt8 := dkwX1_stepBetween_0 ++ dktX1_stepBetween_1
theorem dksX1_stepBetween_0 : cX1_stepBetween.data.toList.drop 0 = dktX1_stepBetween_0 := by decide +kernel
theorem dksX1_stepBetween_1 : cX1_stepBetween.data.toList.drop 22 = dktX1_stepBetween_1 := dk_seg dksX1_stepBetween_0 22 rfl rfl
theorem dksX1_stepBetween_2 : cX1_stepBetween.data.toList.drop 44 = dktX1_stepBetween_2 := dk_seg dksX1_stepBetween_1 22 rfl rfl
theorem dX1_stepBetween_0 : decode cX1_stepBetween 0 = .ok (.iload_n 1, 1) := dk_27 (dk_at dksX1_stepBetween_0 0 rfl rfl)
theorem dX1_stepBetween_1 : decode cX1_stepBetween 1 = .ok (.iload_n 2, 1) := dk_28 (dk_at dksX1_stepBetween_0 1 rfl rfl)
theorem dX1_stepBetween_2 : decode cX1_stepBetween 2 = .ok (.invokestatic 336, 3) := dk_184 1 80 (dk_at dksX1_stepBetween_0 2 rfl rfl)
theorem dX1_stepBetween_5 : decode cX1_stepBetween 5 = .ok (.istore_n 3, 1) := dk_62 (dk_at dksX1_stepBetween_0 5 rfl rfl)
theorem dX1_stepBetween_6 : decode cX1_stepBetween 6 = .ok (.iconst 0, 1) := dk_3 (dk_at dksX1_stepBetween_0 6 rfl rfl)
theorem dX1_stepBetween_7 : decode cX1_stepBetween 7 = .ok (.istore 4, 2) := dk_54 4 (dk_at dksX1_stepBetween_0 7 rfl rfl)
theorem dX1_stepBetween_9 : decode cX1_stepBetween 9 = .ok (.iload 4, 2) := dk_21 4 (dk_at dksX1_stepBetween_0 9 rfl rfl)
theorem dX1_stepBetween_11 : decode cX1_stepBetween 11 = .ok (.iconst 2, 1) := dk_5 (dk_at dksX1_stepBetween_0 11 rfl rfl)
theorem dX1_stepBetween_12 : decode cX1_stepBetween 12 = .ok (.if_icmp .ge 42, 3) := dk_162 0 42 (dk_at dksX1_stepBetween_0 12 rfl rfl)
theorem dX1_stepBetween_15 : decode cX1_stepBetween 15 = .ok (.aload_n 0, 1) := dk_42 (dk_at dksX1_stepBetween_0 15 rfl rfl)
theorem dX1_stepBetween_16 : decode cX1_stepBetween 16 = .ok (.iload_n 3, 1) := dk_29 (dk_at dksX1_stepBetween_0 16 rfl rfl)
theorem dX1_stepBetween_17 : decode cX1_stepBetween 17 = .ok (.iload 4, 2) := dk_21 4 (dk_at dksX1_stepBetween_0 17 rfl rfl)
theorem dX1_stepBetween_19 : decode cX1_stepBetween 19 = .ok (.invokevirtual 105, 3) := dk_182 0 105 (dk_at dksX1_stepBetween_0 19 rfl rfl)
theorem dX1_stepBetween_22 : decode cX1_stepBetween 22 = .ok (.ifCond .eq 26, 3) := dk_153 0 26 (dk_at dksX1_stepBetween_1 0 rfl rfl)
theorem dX1_stepBetween_25 : decode cX1_stepBetween 25 = .ok (.aload_n 0, 1) := dk_42 (dk_at dksX1_stepBetween_1 3 rfl rfl)
theorem dX1_stepBetween_26 : decode cX1_stepBetween 26 = .ok (.iload_n 3, 1) := dk_29 (dk_at dksX1_stepBetween_1 4 rfl rfl)
theorem dX1_stepBetween_27 : decode cX1_stepBetween 27 = .ok (.iload 4, 2) := dk_21 4 (dk_at dksX1_stepBetween_1 5 rfl rfl)
theorem dX1_stepBetween_29 : decode cX1_stepBetween 29 = .ok (.invokevirtual 109, 3) := dk_182 0 109 (dk_at dksX1_stepBetween_1 7 rfl rfl)
theorem dX1_stepBetween_32 : decode cX1_stepBetween 32 = .ok (.iload_n 1, 1) := dk_27 (dk_at dksX1_stepBetween_1 10 rfl rfl)
theorem dX1_stepBetween_33 : decode cX1_stepBetween 33 = .ok (.iload_n 2, 1) := dk_28 (dk_at dksX1_stepBetween_1 11 rfl rfl)
theorem dX1_stepBetween_34 : decode cX1_stepBetween 34 = .ok (.invokestatic 339, 3) := dk_184 1 83 (dk_at dksX1_stepBetween_1 12 rfl rfl)
theorem dX1_stepBetween_37 : decode cX1_stepBetween 37 = .ok (.if_icmp .ne 11, 3) := dk_160 0 11 (dk_at dksX1_stepBetween_1 15 rfl rfl)
theorem dX1_stepBetween_40 : decode cX1_stepBetween 40 = .ok (.aload_n 0, 1) := dk_42 (dk_at dksX1_stepBetween_1 18 rfl rfl)
theorem dX1_stepBetween_41 : decode cX1_stepBetween 41 = .ok (.iload_n 3, 1) := dk_29 (dk_at dksX1_stepBetween_1 19 rfl rfl)
theorem dX1_stepBetween_42 : decode cX1_stepBetween 42 = .ok (.iload 4, 2) := dk_21 4 (dk_at dksX1_stepBetween_1 20 rfl rfl)
theorem dX1_stepBetween_44 : decode cX1_stepBetween 44 = .ok (.invokevirtual 326, 3) := dk_182 1 70 (dk_at dksX1_stepBetween_2 0 rfl rfl)
theorem dX1_stepBetween_47 : decode cX1_stepBetween 47 = .ok (.lreturn, 1) := dk_173 (dk_at dksX1_stepBetween_2 3 rfl rfl)
theorem dX1_stepBetween_48 : decode cX1_stepBetween 48 = .ok (.iinc 4 1, 3) := dk_132 4 1 (dk_at dksX1_stepBetween_2 4 rfl rfl)
theorem dX1_stepBetween_51 : decode cX1_stepBetween 51 = .ok (.goto (-42), 3) := dk_167 255 214 (dk_at dksX1_stepBetween_2 7 rfl rfl)
theorem dX1_stepBetween_54 : decode cX1_stepBetween 54 = .ok (.ldc2_w 116, 3) := dk_20 0 116 (dk_at dksX1_stepBetween_2 10 rfl rfl)
theorem dX1_stepBetween_57 : decode cX1_stepBetween 57 = .ok (.lreturn, 1) := dk_173 (dk_at dksX1_stepBetween_2 13 rfl rfl)
def dkwX1_nearestLeft_2 : List UInt8 := [180, 0, 165, 27, 47, 148, 156, 0, 5, 28, 60, 132, 2, 1, 167, 255, 200, 27, 172]
abbrev dktX1_nearestLeft_2 : List UInt8 := dkwX1_nearestLeft_2 ++ []
def dkwX1_nearestLeft_1 : List UInt8 := [180, 0, 165, 28, 47, 20, 1, 91, 148, 156, 0, 26, 27, 2, 159, 0, 19, 42, 180, 0, 165, 28, 47, 42]
abbrev dktX1_nearestLeft_1 : List UInt8 := dkwX1_nearestLeft_1 ++ dktX1_nearestLeft_2
def dkwX1_nearestLeft_0 : List UInt8 := [2, 60, 3, 61, 28, 42, 182, 0, 122, 162, 0, 54, 42, 180, 0, 168, 28, 51, 154, 0, 39, 42]
abbrev dktX1_nearestLeft_0 : List UInt8 := dkwX1_nearestLeft_0 ++ dktX1_nearestLeft_1
theorem dksX1_nearestLeft_0 : cX1_nearestLeft.data.toList.drop 0 = dktX1_nearestLeft_0 := by decide +kernel
theorem dksX1_nearestLeft_1 : cX1_nearestLeft.data.toList.drop 22 = dktX1_nearestLeft_1 := dk_seg dksX1_nearestLeft_0 22 rfl rfl
theorem dksX1_nearestLeft_2 : cX1_nearestLeft.data.toList.drop 46 = dktX1_nearestLeft_2 := dk_seg dksX1_nearestLeft_1 24 rfl rfl
theorem dX1_nearestLeft_0 : decode cX1_nearestLeft 0 = .ok (.iconst (-1), 1) := dk_2 (dk_at dksX1_nearestLeft_0 0 rfl rfl)
theorem dX1_nearestLeft_1 : decode cX1_nearestLeft 1 = .ok (.istore_n 1, 1) := dk_60 (dk_at dksX1_nearestLeft_0 1 rfl rfl)
theorem dX1_nearestLeft_2 : decode cX1_nearestLeft 2 = .ok (.iconst 0, 1) := dk_3 (dk_at dksX1_nearestLeft_0 2 rfl rfl)
theorem dX1_nearestLeft_3 : decode cX1_nearestLeft 3 = .ok (.istore_n 2, 1) := dk_61 (dk_at dksX1_nearestLeft_0 3 rfl rfl)
theorem dX1_nearestLeft_4 : decode cX1_nearestLeft 4 = .ok (.iload_n 2, 1) := dk_28 (dk_at dksX1_nearestLeft_0 4 rfl rfl)
theorem dX1_nearestLeft_5 : decode cX1_nearestLeft 5 = .ok (.aload_n 0, 1) := dk_42 (dk_at dksX1_nearestLeft_0 5 rfl rfl)
theorem dX1_nearestLeft_6 : decode cX1_nearestLeft 6 = .ok (.invokevirtual 122, 3) := dk_182 0 122 (dk_at dksX1_nearestLeft_0 6 rfl rfl)
theorem dX1_nearestLeft_9 : decode cX1_nearestLeft 9 = .ok (.if_icmp .ge 54, 3) := dk_162 0 54 (dk_at dksX1_nearestLeft_0 9 rfl rfl)
theorem dX1_nearestLeft_12 : decode cX1_nearestLeft 12 = .ok (.aload_n 0, 1) := dk_42 (dk_at dksX1_nearestLeft_0 12 rfl rfl)
theorem dX1_nearestLeft_13 : decode cX1_nearestLeft 13 = .ok (.getfield 168, 3) := dk_180 0 168 (dk_at dksX1_nearestLeft_0 13 rfl rfl)
theorem dX1_nearestLeft_16 : decode cX1_nearestLeft 16 = .ok (.iload_n 2, 1) := dk_28 (dk_at dksX1_nearestLeft_0 16 rfl rfl)
theorem dX1_nearestLeft_17 : decode cX1_nearestLeft 17 = .ok (.baload, 1) := dk_51 (dk_at dksX1_nearestLeft_0 17 rfl rfl)
theorem dX1_nearestLeft_18 : decode cX1_nearestLeft 18 = .ok (.ifCond .ne 39, 3) := dk_154 0 39 (dk_at dksX1_nearestLeft_0 18 rfl rfl)
theorem dX1_nearestLeft_21 : decode cX1_nearestLeft 21 = .ok (.aload_n 0, 1) := dk_42 (dk_at dksX1_nearestLeft_0 21 rfl rfl)
theorem dX1_nearestLeft_22 : decode cX1_nearestLeft 22 = .ok (.getfield 165, 3) := dk_180 0 165 (dk_at dksX1_nearestLeft_1 0 rfl rfl)
theorem dX1_nearestLeft_25 : decode cX1_nearestLeft 25 = .ok (.iload_n 2, 1) := dk_28 (dk_at dksX1_nearestLeft_1 3 rfl rfl)
theorem dX1_nearestLeft_26 : decode cX1_nearestLeft 26 = .ok (.laload, 1) := dk_47 (dk_at dksX1_nearestLeft_1 4 rfl rfl)
theorem dX1_nearestLeft_27 : decode cX1_nearestLeft 27 = .ok (.ldc2_w 347, 3) := dk_20 1 91 (dk_at dksX1_nearestLeft_1 5 rfl rfl)
theorem dX1_nearestLeft_30 : decode cX1_nearestLeft 30 = .ok (.lcmp, 1) := dk_148 (dk_at dksX1_nearestLeft_1 8 rfl rfl)
theorem dX1_nearestLeft_31 : decode cX1_nearestLeft 31 = .ok (.ifCond .ge 26, 3) := dk_156 0 26 (dk_at dksX1_nearestLeft_1 9 rfl rfl)
theorem dX1_nearestLeft_34 : decode cX1_nearestLeft 34 = .ok (.iload_n 1, 1) := dk_27 (dk_at dksX1_nearestLeft_1 12 rfl rfl)
theorem dX1_nearestLeft_35 : decode cX1_nearestLeft 35 = .ok (.iconst (-1), 1) := dk_2 (dk_at dksX1_nearestLeft_1 13 rfl rfl)
theorem dX1_nearestLeft_36 : decode cX1_nearestLeft 36 = .ok (.if_icmp .eq 19, 3) := dk_159 0 19 (dk_at dksX1_nearestLeft_1 14 rfl rfl)
theorem dX1_nearestLeft_39 : decode cX1_nearestLeft 39 = .ok (.aload_n 0, 1) := dk_42 (dk_at dksX1_nearestLeft_1 17 rfl rfl)
theorem dX1_nearestLeft_40 : decode cX1_nearestLeft 40 = .ok (.getfield 165, 3) := dk_180 0 165 (dk_at dksX1_nearestLeft_1 18 rfl rfl)
theorem dX1_nearestLeft_43 : decode cX1_nearestLeft 43 = .ok (.iload_n 2, 1) := dk_28 (dk_at dksX1_nearestLeft_1 21 rfl rfl)
theorem dX1_nearestLeft_44 : decode cX1_nearestLeft 44 = .ok (.laload, 1) := dk_47 (dk_at dksX1_nearestLeft_1 22 rfl rfl)
theorem dX1_nearestLeft_45 : decode cX1_nearestLeft 45 = .ok (.aload_n 0, 1) := dk_42 (dk_at dksX1_nearestLeft_1 23 rfl rfl)
theorem dX1_nearestLeft_46 : decode cX1_nearestLeft 46 = .ok (.getfield 165, 3) := dk_180 0 165 (dk_at dksX1_nearestLeft_2 0 rfl rfl)
theorem dX1_nearestLeft_49 : decode cX1_nearestLeft 49 = .ok (.iload_n 1, 1) := dk_27 (dk_at dksX1_nearestLeft_2 3 rfl rfl)
theorem dX1_nearestLeft_50 : decode cX1_nearestLeft 50 = .ok (.laload, 1) := dk_47 (dk_at dksX1_nearestLeft_2 4 rfl rfl)
theorem dX1_nearestLeft_51 : decode cX1_nearestLeft 51 = .ok (.lcmp, 1) := dk_148 (dk_at dksX1_nearestLeft_2 5 rfl rfl)
theorem dX1_nearestLeft_52 : decode cX1_nearestLeft 52 = .ok (.ifCond .ge 5, 3) := dk_156 0 5 (dk_at dksX1_nearestLeft_2 6 rfl rfl)
theorem dX1_nearestLeft_55 : decode cX1_nearestLeft 55 = .ok (.iload_n 2, 1) := dk_28 (dk_at dksX1_nearestLeft_2 9 rfl rfl)
theorem dX1_nearestLeft_56 : decode cX1_nearestLeft 56 = .ok (.istore_n 1, 1) := dk_60 (dk_at dksX1_nearestLeft_2 10 rfl rfl)
theorem dX1_nearestLeft_57 : decode cX1_nearestLeft 57 = .ok (.iinc 2 1, 3) := dk_132 2 1 (dk_at dksX1_nearestLeft_2 11 rfl rfl)
theorem dX1_nearestLeft_60 : decode cX1_nearestLeft 60 = .ok (.goto (-56), 3) := dk_167 255 200 (dk_at dksX1_nearestLeft_2 14 rfl rfl)
theorem dX1_nearestLeft_63 : decode cX1_nearestLeft 63 = .ok (.iload_n 1, 1) := dk_27 (dk_at dksX1_nearestLeft_2 17 rfl rfl)
theorem dX1_nearestLeft_64 : decode cX1_nearestLeft 64 = .ok (.ireturn, 1) := dk_172 (dk_at dksX1_nearestLeft_2 18 rfl rfl)
def dkwX1_walked_1 : List UInt8 := [182, 1, 111, 42, 180, 0, 165, 28, 47, 136, 172]
abbrev dktX1_walked_1 : List UInt8 := dkwX1_walked_1 ++ []
def dkwX1_walked_0 : List UInt8 := [42, 27, 28, 182, 1, 115, 42, 182, 1, 50, 42, 27, 42, 27, 28, 182, 1, 119, 186, 1, 122, 0, 0]
abbrev dktX1_walked_0 : List UInt8 := dkwX1_walked_0 ++ dktX1_walked_1
theorem dksX1_walked_0 : cX1_walked.data.toList.drop 0 = dktX1_walked_0 := by decide +kernel
theorem dksX1_walked_1 : cX1_walked.data.toList.drop 23 = dktX1_walked_1 := dk_seg dksX1_walked_0 23 rfl rfl
theorem dX1_walked_0 : decode cX1_walked 0 = .ok (.aload_n 0, 1) := dk_42 (dk_at dksX1_walked_0 0 rfl rfl)
theorem dX1_walked_1 : decode cX1_walked 1 = .ok (.iload_n 1, 1) := dk_27 (dk_at dksX1_walked_0 1 rfl rfl)
theorem dX1_walked_2 : decode cX1_walked 2 = .ok (.iload_n 2, 1) := dk_28 (dk_at dksX1_walked_0 2 rfl rfl)
theorem dX1_walked_3 : decode cX1_walked 3 = .ok (.invokevirtual 371, 3) := dk_182 1 115 (dk_at dksX1_walked_0 3 rfl rfl)
theorem dX1_walked_6 : decode cX1_walked 6 = .ok (.aload_n 0, 1) := dk_42 (dk_at dksX1_walked_0 6 rfl rfl)
theorem dX1_walked_7 : decode cX1_walked 7 = .ok (.invokevirtual 306, 3) := dk_182 1 50 (dk_at dksX1_walked_0 7 rfl rfl)
theorem dX1_walked_10 : decode cX1_walked 10 = .ok (.aload_n 0, 1) := dk_42 (dk_at dksX1_walked_0 10 rfl rfl)
theorem dX1_walked_11 : decode cX1_walked 11 = .ok (.iload_n 1, 1) := dk_27 (dk_at dksX1_walked_0 11 rfl rfl)
theorem dX1_walked_12 : decode cX1_walked 12 = .ok (.aload_n 0, 1) := dk_42 (dk_at dksX1_walked_0 12 rfl rfl)
theorem dX1_walked_13 : decode cX1_walked 13 = .ok (.iload_n 1, 1) := dk_27 (dk_at dksX1_walked_0 13 rfl rfl)
theorem dX1_walked_14 : decode cX1_walked 14 = .ok (.iload_n 2, 1) := dk_28 (dk_at dksX1_walked_0 14 rfl rfl)
theorem dX1_walked_15 : decode cX1_walked 15 = .ok (.invokevirtual 375, 3) := dk_182 1 119 (dk_at dksX1_walked_0 15 rfl rfl)
theorem dX1_walked_18 : decode cX1_walked 18 = .ok (.invokedynamic 378, 5) := by decide +kernel
theorem dX1_walked_23 : decode cX1_walked 23 = .ok (.invokevirtual 367, 3) := dk_182 1 111 (dk_at dksX1_walked_1 0 rfl rfl)
theorem dX1_walked_26 : decode cX1_walked 26 = .ok (.aload_n 0, 1) := dk_42 (dk_at dksX1_walked_1 3 rfl rfl)
theorem dX1_walked_27 : decode cX1_walked 27 = .ok (.getfield 165, 3) := dk_180 0 165 (dk_at dksX1_walked_1 4 rfl rfl)
theorem dX1_walked_30 : decode cX1_walked 30 = .ok (.iload_n 2, 1) := dk_28 (dk_at dksX1_walked_1 7 rfl rfl)
theorem dX1_walked_31 : decode cX1_walked 31 = .ok (.laload, 1) := dk_47 (dk_at dksX1_walked_1 8 rfl rfl)
theorem dX1_walked_32 : decode cX1_walked 32 = .ok (.l2i, 1) := dk_136 (dk_at dksX1_walked_1 9 rfl rfl)
theorem dX1_walked_33 : decode cX1_walked 33 = .ok (.ireturn, 1) := dk_172 (dk_at dksX1_walked_1 10 rfl rfl)
def dkwX1_lambda_walked_2_0 : List UInt8 := [30, 10, 97, 173]
abbrev dktX1_lambda_walked_2_0 : List UInt8 := dkwX1_lambda_walked_2_0 ++ []
theorem dksX1_lambda_walked_2_0 : cX1_lambda_walked_2.data.toList.drop 0 = dktX1_lambda_walked_2_0 := by decide +kernel
theorem dX1_lambda_walked_2_0 : decode cX1_lambda_walked_2 0 = .ok (.lload_n 0, 1) := dk_30 (dk_at dksX1_lambda_walked_2_0 0 rfl rfl)
theorem dX1_lambda_walked_2_1 : decode cX1_lambda_walked_2 1 = .ok (.lconst 1, 1) := dk_10 (dk_at dksX1_lambda_walked_2_0 1 rfl rfl)
theorem dX1_lambda_walked_2_2 : decode cX1_lambda_walked_2 2 = .ok (.ladd, 1) := dk_97 (dk_at dksX1_lambda_walked_2_0 2 rfl rfl)
theorem dX1_lambda_walked_2_3 : decode cX1_lambda_walked_2 3 = .ok (.lreturn, 1) := dk_173 (dk_at dksX1_lambda_walked_2_0 3 rfl rfl)
def dkwX1_share_0 : List UInt8 := [42, 27, 182, 1, 37, 184, 1, 1, 42, 182, 1, 50, 42, 182, 1, 140, 42, 180, 0, 175, 27, 46, 172]
abbrev dktX1_share_0 : List UInt8 := dkwX1_share_0 ++ []
theorem dksX1_share_0 : cX1_share.data.toList.drop 0 = dktX1_share_0 := by decide +kernel
theorem dX1_share_0 : decode cX1_share 0 = .ok (.aload_n 0, 1) := dk_42 (dk_at dksX1_share_0 0 rfl rfl)
theorem dX1_share_1 : decode cX1_share 1 = .ok (.iload_n 1, 1) := dk_27 (dk_at dksX1_share_0 1 rfl rfl)
theorem dX1_share_2 : decode cX1_share 2 = .ok (.invokevirtual 293, 3) := dk_182 1 37 (dk_at dksX1_share_0 2 rfl rfl)
theorem dX1_share_5 : decode cX1_share 5 = .ok (.invokestatic 257, 3) := dk_184 1 1 (dk_at dksX1_share_0 5 rfl rfl)
theorem dX1_share_8 : decode cX1_share 8 = .ok (.aload_n 0, 1) := dk_42 (dk_at dksX1_share_0 8 rfl rfl)
theorem dX1_share_9 : decode cX1_share 9 = .ok (.invokevirtual 306, 3) := dk_182 1 50 (dk_at dksX1_share_0 9 rfl rfl)
theorem dX1_share_12 : decode cX1_share 12 = .ok (.aload_n 0, 1) := dk_42 (dk_at dksX1_share_0 12 rfl rfl)
theorem dX1_share_13 : decode cX1_share 13 = .ok (.invokevirtual 396, 3) := dk_182 1 140 (dk_at dksX1_share_0 13 rfl rfl)
theorem dX1_share_16 : decode cX1_share 16 = .ok (.aload_n 0, 1) := dk_42 (dk_at dksX1_share_0 16 rfl rfl)
theorem dX1_share_17 : decode cX1_share 17 = .ok (.getfield 175, 3) := dk_180 0 175 (dk_at dksX1_share_0 17 rfl rfl)
theorem dX1_share_20 : decode cX1_share 20 = .ok (.iload_n 1, 1) := dk_27 (dk_at dksX1_share_0 20 rfl rfl)
theorem dX1_share_21 : decode cX1_share 21 = .ok (.iaload, 1) := dk_46 (dk_at dksX1_share_0 21 rfl rfl)
theorem dX1_share_22 : decode cX1_share 22 = .ok (.ireturn, 1) := dk_172 (dk_at dksX1_share_0 22 rfl rfl)
def dkwX1_laysShares_7 : List UInt8 := [132, 1, 255, 167, 255, 191, 177]
abbrev dktX1_laysShares_7 : List UInt8 := dkwX1_laysShares_7 ++ []
def dkwX1_laysShares_6 : List UInt8 := [167, 255, 224, 42, 180, 0, 175, 28, 92, 46, 4, 96, 79, 42, 180, 0, 172, 28, 20, 0, 116, 80]
abbrev dktX1_laysShares_6 : List UInt8 := dkwX1_laysShares_6 ++ dktX1_laysShares_7
def dkwX1_laysShares_5 : List UInt8 := [162, 0, 27, 42, 180, 0, 172, 29, 47, 42, 180, 0, 172, 28, 47, 148, 158, 0, 5, 29, 61, 132, 3, 1]
abbrev dktX1_laysShares_5 : List UInt8 := dkwX1_laysShares_5 ++ dktX1_laysShares_6
def dkwX1_laysShares_4 : List UInt8 := [132, 2, 1, 167, 255, 167, 27, 158, 0, 67, 3, 61, 4, 62, 29, 42, 180, 0, 1, 182, 0, 55]
abbrev dktX1_laysShares_4 : List UInt8 := dkwX1_laysShares_4 ++ dktX1_laysShares_5
def dkwX1_laysShares_3 : List UInt8 := [180, 0, 1, 180, 0, 59, 133, 42, 180, 0, 44, 105, 113, 80, 27, 42, 180, 0, 175, 28, 46, 100, 60]
abbrev dktX1_laysShares_3 : List UInt8 := dkwX1_laysShares_3 ++ dktX1_laysShares_4
def dkwX1_laysShares_2 : List UInt8 := [180, 0, 1, 180, 0, 59, 133, 42, 180, 0, 44, 105, 109, 136, 79, 42, 180, 0, 172, 28, 33, 42]
abbrev dktX1_laysShares_2 : List UInt8 := dkwX1_laysShares_2 ++ dktX1_laysShares_3
def dkwX1_laysShares_1 : List UInt8 := [180, 0, 238, 5, 50, 28, 46, 104, 133, 42, 180, 0, 47, 28, 47, 105, 66, 42, 180, 0, 175, 28, 33, 42]
abbrev dktX1_laysShares_1 : List UInt8 := dkwX1_laysShares_1 ++ dktX1_laysShares_2
def dkwX1_laysShares_0 : List UInt8 := [16, 100, 60, 3, 61, 28, 42, 180, 0, 1, 182, 0, 55, 162, 0, 84, 16, 100, 42, 180, 0, 1]
abbrev dktX1_laysShares_0 : List UInt8 := dkwX1_laysShares_0 ++ dktX1_laysShares_1
theorem dksX1_laysShares_0 : cX1_laysShares.data.toList.drop 0 = dktX1_laysShares_0 := by decide +kernel
theorem dksX1_laysShares_1 : cX1_laysShares.data.toList.drop 22 = dktX1_laysShares_1 := dk_seg dksX1_laysShares_0 22 rfl rfl
theorem dksX1_laysShares_2 : cX1_laysShares.data.toList.drop 46 = dktX1_laysShares_2 := dk_seg dksX1_laysShares_1 24 rfl rfl
theorem dksX1_laysShares_3 : cX1_laysShares.data.toList.drop 68 = dktX1_laysShares_3 := dk_seg dksX1_laysShares_2 22 rfl rfl
theorem dksX1_laysShares_4 : cX1_laysShares.data.toList.drop 91 = dktX1_laysShares_4 := dk_seg dksX1_laysShares_3 23 rfl rfl
theorem dksX1_laysShares_5 : cX1_laysShares.data.toList.drop 113 = dktX1_laysShares_5 := dk_seg dksX1_laysShares_4 22 rfl rfl
theorem dksX1_laysShares_6 : cX1_laysShares.data.toList.drop 137 = dktX1_laysShares_6 := dk_seg dksX1_laysShares_5 24 rfl rfl
theorem dksX1_laysShares_7 : cX1_laysShares.data.toList.drop 159 = dktX1_laysShares_7 := dk_seg dksX1_laysShares_6 22 rfl rfl
theorem dX1_laysShares_0 : decode cX1_laysShares 0 = .ok (.bipush 100, 2) := dk_16 100 (dk_at dksX1_laysShares_0 0 rfl rfl)
theorem dX1_laysShares_2 : decode cX1_laysShares 2 = .ok (.istore_n 1, 1) := dk_60 (dk_at dksX1_laysShares_0 2 rfl rfl)
theorem dX1_laysShares_3 : decode cX1_laysShares 3 = .ok (.iconst 0, 1) := dk_3 (dk_at dksX1_laysShares_0 3 rfl rfl)
theorem dX1_laysShares_4 : decode cX1_laysShares 4 = .ok (.istore_n 2, 1) := dk_61 (dk_at dksX1_laysShares_0 4 rfl rfl)
theorem dX1_laysShares_5 : decode cX1_laysShares 5 = .ok (.iload_n 2, 1) := dk_28 (dk_at dksX1_laysShares_0 5 rfl rfl)
theorem dX1_laysShares_6 : decode cX1_laysShares 6 = .ok (.aload_n 0, 1) := dk_42 (dk_at dksX1_laysShares_0 6 rfl rfl)
theorem dX1_laysShares_7 : decode cX1_laysShares 7 = .ok (.getfield 1, 3) := dk_180 0 1 (dk_at dksX1_laysShares_0 7 rfl rfl)
theorem dX1_laysShares_10 : decode cX1_laysShares 10 = .ok (.invokevirtual 55, 3) := dk_182 0 55 (dk_at dksX1_laysShares_0 10 rfl rfl)
theorem dX1_laysShares_13 : decode cX1_laysShares 13 = .ok (.if_icmp .ge 84, 3) := dk_162 0 84 (dk_at dksX1_laysShares_0 13 rfl rfl)
theorem dX1_laysShares_16 : decode cX1_laysShares 16 = .ok (.bipush 100, 2) := dk_16 100 (dk_at dksX1_laysShares_0 16 rfl rfl)
theorem dX1_laysShares_18 : decode cX1_laysShares 18 = .ok (.aload_n 0, 1) := dk_42 (dk_at dksX1_laysShares_0 18 rfl rfl)
theorem dX1_laysShares_19 : decode cX1_laysShares 19 = .ok (.getfield 1, 3) := dk_180 0 1 (dk_at dksX1_laysShares_0 19 rfl rfl)
theorem dX1_laysShares_22 : decode cX1_laysShares 22 = .ok (.getfield 238, 3) := dk_180 0 238 (dk_at dksX1_laysShares_1 0 rfl rfl)
theorem dX1_laysShares_25 : decode cX1_laysShares 25 = .ok (.iconst 2, 1) := dk_5 (dk_at dksX1_laysShares_1 3 rfl rfl)
theorem dX1_laysShares_26 : decode cX1_laysShares 26 = .ok (.aaload, 1) := dk_50 (dk_at dksX1_laysShares_1 4 rfl rfl)
theorem dX1_laysShares_27 : decode cX1_laysShares 27 = .ok (.iload_n 2, 1) := dk_28 (dk_at dksX1_laysShares_1 5 rfl rfl)
theorem dX1_laysShares_28 : decode cX1_laysShares 28 = .ok (.iaload, 1) := dk_46 (dk_at dksX1_laysShares_1 6 rfl rfl)
theorem dX1_laysShares_29 : decode cX1_laysShares 29 = .ok (.imul, 1) := dk_104 (dk_at dksX1_laysShares_1 7 rfl rfl)
theorem dX1_laysShares_30 : decode cX1_laysShares 30 = .ok (.i2l, 1) := dk_133 (dk_at dksX1_laysShares_1 8 rfl rfl)
theorem dX1_laysShares_31 : decode cX1_laysShares 31 = .ok (.aload_n 0, 1) := dk_42 (dk_at dksX1_laysShares_1 9 rfl rfl)
theorem dX1_laysShares_32 : decode cX1_laysShares 32 = .ok (.getfield 47, 3) := dk_180 0 47 (dk_at dksX1_laysShares_1 10 rfl rfl)
theorem dX1_laysShares_35 : decode cX1_laysShares 35 = .ok (.iload_n 2, 1) := dk_28 (dk_at dksX1_laysShares_1 13 rfl rfl)
theorem dX1_laysShares_36 : decode cX1_laysShares 36 = .ok (.laload, 1) := dk_47 (dk_at dksX1_laysShares_1 14 rfl rfl)
theorem dX1_laysShares_37 : decode cX1_laysShares 37 = .ok (.lmul, 1) := dk_105 (dk_at dksX1_laysShares_1 15 rfl rfl)
theorem dX1_laysShares_38 : decode cX1_laysShares 38 = .ok (.lstore_n 3, 1) := dk_66 (dk_at dksX1_laysShares_1 16 rfl rfl)
theorem dX1_laysShares_39 : decode cX1_laysShares 39 = .ok (.aload_n 0, 1) := dk_42 (dk_at dksX1_laysShares_1 17 rfl rfl)
theorem dX1_laysShares_40 : decode cX1_laysShares 40 = .ok (.getfield 175, 3) := dk_180 0 175 (dk_at dksX1_laysShares_1 18 rfl rfl)
theorem dX1_laysShares_43 : decode cX1_laysShares 43 = .ok (.iload_n 2, 1) := dk_28 (dk_at dksX1_laysShares_1 21 rfl rfl)
theorem dX1_laysShares_44 : decode cX1_laysShares 44 = .ok (.lload_n 3, 1) := dk_33 (dk_at dksX1_laysShares_1 22 rfl rfl)
theorem dX1_laysShares_45 : decode cX1_laysShares 45 = .ok (.aload_n 0, 1) := dk_42 (dk_at dksX1_laysShares_1 23 rfl rfl)
theorem dX1_laysShares_46 : decode cX1_laysShares 46 = .ok (.getfield 1, 3) := dk_180 0 1 (dk_at dksX1_laysShares_2 0 rfl rfl)
theorem dX1_laysShares_49 : decode cX1_laysShares 49 = .ok (.getfield 59, 3) := dk_180 0 59 (dk_at dksX1_laysShares_2 3 rfl rfl)
theorem dX1_laysShares_52 : decode cX1_laysShares 52 = .ok (.i2l, 1) := dk_133 (dk_at dksX1_laysShares_2 6 rfl rfl)
theorem dX1_laysShares_53 : decode cX1_laysShares 53 = .ok (.aload_n 0, 1) := dk_42 (dk_at dksX1_laysShares_2 7 rfl rfl)
theorem dX1_laysShares_54 : decode cX1_laysShares 54 = .ok (.getfield 44, 3) := dk_180 0 44 (dk_at dksX1_laysShares_2 8 rfl rfl)
theorem dX1_laysShares_57 : decode cX1_laysShares 57 = .ok (.lmul, 1) := dk_105 (dk_at dksX1_laysShares_2 11 rfl rfl)
theorem dX1_laysShares_58 : decode cX1_laysShares 58 = .ok (.ldiv, 1) := dk_109 (dk_at dksX1_laysShares_2 12 rfl rfl)
theorem dX1_laysShares_59 : decode cX1_laysShares 59 = .ok (.l2i, 1) := dk_136 (dk_at dksX1_laysShares_2 13 rfl rfl)
theorem dX1_laysShares_60 : decode cX1_laysShares 60 = .ok (.iastore, 1) := dk_79 (dk_at dksX1_laysShares_2 14 rfl rfl)
theorem dX1_laysShares_61 : decode cX1_laysShares 61 = .ok (.aload_n 0, 1) := dk_42 (dk_at dksX1_laysShares_2 15 rfl rfl)
theorem dX1_laysShares_62 : decode cX1_laysShares 62 = .ok (.getfield 172, 3) := dk_180 0 172 (dk_at dksX1_laysShares_2 16 rfl rfl)
theorem dX1_laysShares_65 : decode cX1_laysShares 65 = .ok (.iload_n 2, 1) := dk_28 (dk_at dksX1_laysShares_2 19 rfl rfl)
theorem dX1_laysShares_66 : decode cX1_laysShares 66 = .ok (.lload_n 3, 1) := dk_33 (dk_at dksX1_laysShares_2 20 rfl rfl)
theorem dX1_laysShares_67 : decode cX1_laysShares 67 = .ok (.aload_n 0, 1) := dk_42 (dk_at dksX1_laysShares_2 21 rfl rfl)
theorem dX1_laysShares_68 : decode cX1_laysShares 68 = .ok (.getfield 1, 3) := dk_180 0 1 (dk_at dksX1_laysShares_3 0 rfl rfl)
theorem dX1_laysShares_71 : decode cX1_laysShares 71 = .ok (.getfield 59, 3) := dk_180 0 59 (dk_at dksX1_laysShares_3 3 rfl rfl)
theorem dX1_laysShares_74 : decode cX1_laysShares 74 = .ok (.i2l, 1) := dk_133 (dk_at dksX1_laysShares_3 6 rfl rfl)
theorem dX1_laysShares_75 : decode cX1_laysShares 75 = .ok (.aload_n 0, 1) := dk_42 (dk_at dksX1_laysShares_3 7 rfl rfl)
theorem dX1_laysShares_76 : decode cX1_laysShares 76 = .ok (.getfield 44, 3) := dk_180 0 44 (dk_at dksX1_laysShares_3 8 rfl rfl)
theorem dX1_laysShares_79 : decode cX1_laysShares 79 = .ok (.lmul, 1) := dk_105 (dk_at dksX1_laysShares_3 11 rfl rfl)
theorem dX1_laysShares_80 : decode cX1_laysShares 80 = .ok (.lrem, 1) := dk_113 (dk_at dksX1_laysShares_3 12 rfl rfl)
theorem dX1_laysShares_81 : decode cX1_laysShares 81 = .ok (.lastore, 1) := dk_80 (dk_at dksX1_laysShares_3 13 rfl rfl)
theorem dX1_laysShares_82 : decode cX1_laysShares 82 = .ok (.iload_n 1, 1) := dk_27 (dk_at dksX1_laysShares_3 14 rfl rfl)
theorem dX1_laysShares_83 : decode cX1_laysShares 83 = .ok (.aload_n 0, 1) := dk_42 (dk_at dksX1_laysShares_3 15 rfl rfl)
theorem dX1_laysShares_84 : decode cX1_laysShares 84 = .ok (.getfield 175, 3) := dk_180 0 175 (dk_at dksX1_laysShares_3 16 rfl rfl)
theorem dX1_laysShares_87 : decode cX1_laysShares 87 = .ok (.iload_n 2, 1) := dk_28 (dk_at dksX1_laysShares_3 19 rfl rfl)
theorem dX1_laysShares_88 : decode cX1_laysShares 88 = .ok (.iaload, 1) := dk_46 (dk_at dksX1_laysShares_3 20 rfl rfl)
theorem dX1_laysShares_89 : decode cX1_laysShares 89 = .ok (.isub, 1) := dk_100 (dk_at dksX1_laysShares_3 21 rfl rfl)
theorem dX1_laysShares_90 : decode cX1_laysShares 90 = .ok (.istore_n 1, 1) := dk_60 (dk_at dksX1_laysShares_3 22 rfl rfl)
theorem dX1_laysShares_91 : decode cX1_laysShares 91 = .ok (.iinc 2 1, 3) := dk_132 2 1 (dk_at dksX1_laysShares_4 0 rfl rfl)
theorem dX1_laysShares_94 : decode cX1_laysShares 94 = .ok (.goto (-89), 3) := dk_167 255 167 (dk_at dksX1_laysShares_4 3 rfl rfl)
theorem dX1_laysShares_97 : decode cX1_laysShares 97 = .ok (.iload_n 1, 1) := dk_27 (dk_at dksX1_laysShares_4 6 rfl rfl)
theorem dX1_laysShares_98 : decode cX1_laysShares 98 = .ok (.ifCond .le 67, 3) := dk_158 0 67 (dk_at dksX1_laysShares_4 7 rfl rfl)
theorem dX1_laysShares_101 : decode cX1_laysShares 101 = .ok (.iconst 0, 1) := dk_3 (dk_at dksX1_laysShares_4 10 rfl rfl)
theorem dX1_laysShares_102 : decode cX1_laysShares 102 = .ok (.istore_n 2, 1) := dk_61 (dk_at dksX1_laysShares_4 11 rfl rfl)
theorem dX1_laysShares_103 : decode cX1_laysShares 103 = .ok (.iconst 1, 1) := dk_4 (dk_at dksX1_laysShares_4 12 rfl rfl)
theorem dX1_laysShares_104 : decode cX1_laysShares 104 = .ok (.istore_n 3, 1) := dk_62 (dk_at dksX1_laysShares_4 13 rfl rfl)
theorem dX1_laysShares_105 : decode cX1_laysShares 105 = .ok (.iload_n 3, 1) := dk_29 (dk_at dksX1_laysShares_4 14 rfl rfl)
theorem dX1_laysShares_106 : decode cX1_laysShares 106 = .ok (.aload_n 0, 1) := dk_42 (dk_at dksX1_laysShares_4 15 rfl rfl)
theorem dX1_laysShares_107 : decode cX1_laysShares 107 = .ok (.getfield 1, 3) := dk_180 0 1 (dk_at dksX1_laysShares_4 16 rfl rfl)
theorem dX1_laysShares_110 : decode cX1_laysShares 110 = .ok (.invokevirtual 55, 3) := dk_182 0 55 (dk_at dksX1_laysShares_4 19 rfl rfl)
theorem dX1_laysShares_113 : decode cX1_laysShares 113 = .ok (.if_icmp .ge 27, 3) := dk_162 0 27 (dk_at dksX1_laysShares_5 0 rfl rfl)
theorem dX1_laysShares_116 : decode cX1_laysShares 116 = .ok (.aload_n 0, 1) := dk_42 (dk_at dksX1_laysShares_5 3 rfl rfl)
theorem dX1_laysShares_117 : decode cX1_laysShares 117 = .ok (.getfield 172, 3) := dk_180 0 172 (dk_at dksX1_laysShares_5 4 rfl rfl)
theorem dX1_laysShares_120 : decode cX1_laysShares 120 = .ok (.iload_n 3, 1) := dk_29 (dk_at dksX1_laysShares_5 7 rfl rfl)
theorem dX1_laysShares_121 : decode cX1_laysShares 121 = .ok (.laload, 1) := dk_47 (dk_at dksX1_laysShares_5 8 rfl rfl)
theorem dX1_laysShares_122 : decode cX1_laysShares 122 = .ok (.aload_n 0, 1) := dk_42 (dk_at dksX1_laysShares_5 9 rfl rfl)
theorem dX1_laysShares_123 : decode cX1_laysShares 123 = .ok (.getfield 172, 3) := dk_180 0 172 (dk_at dksX1_laysShares_5 10 rfl rfl)
theorem dX1_laysShares_126 : decode cX1_laysShares 126 = .ok (.iload_n 2, 1) := dk_28 (dk_at dksX1_laysShares_5 13 rfl rfl)
theorem dX1_laysShares_127 : decode cX1_laysShares 127 = .ok (.laload, 1) := dk_47 (dk_at dksX1_laysShares_5 14 rfl rfl)
theorem dX1_laysShares_128 : decode cX1_laysShares 128 = .ok (.lcmp, 1) := dk_148 (dk_at dksX1_laysShares_5 15 rfl rfl)
theorem dX1_laysShares_129 : decode cX1_laysShares 129 = .ok (.ifCond .le 5, 3) := dk_158 0 5 (dk_at dksX1_laysShares_5 16 rfl rfl)
theorem dX1_laysShares_132 : decode cX1_laysShares 132 = .ok (.iload_n 3, 1) := dk_29 (dk_at dksX1_laysShares_5 19 rfl rfl)
theorem dX1_laysShares_133 : decode cX1_laysShares 133 = .ok (.istore_n 2, 1) := dk_61 (dk_at dksX1_laysShares_5 20 rfl rfl)
theorem dX1_laysShares_134 : decode cX1_laysShares 134 = .ok (.iinc 3 1, 3) := dk_132 3 1 (dk_at dksX1_laysShares_5 21 rfl rfl)
theorem dX1_laysShares_137 : decode cX1_laysShares 137 = .ok (.goto (-32), 3) := dk_167 255 224 (dk_at dksX1_laysShares_6 0 rfl rfl)
theorem dX1_laysShares_140 : decode cX1_laysShares 140 = .ok (.aload_n 0, 1) := dk_42 (dk_at dksX1_laysShares_6 3 rfl rfl)
theorem dX1_laysShares_141 : decode cX1_laysShares 141 = .ok (.getfield 175, 3) := dk_180 0 175 (dk_at dksX1_laysShares_6 4 rfl rfl)
theorem dX1_laysShares_144 : decode cX1_laysShares 144 = .ok (.iload_n 2, 1) := dk_28 (dk_at dksX1_laysShares_6 7 rfl rfl)
theorem dX1_laysShares_145 : decode cX1_laysShares 145 = .ok (.dup2, 1) := dk_92 (dk_at dksX1_laysShares_6 8 rfl rfl)
theorem dX1_laysShares_146 : decode cX1_laysShares 146 = .ok (.iaload, 1) := dk_46 (dk_at dksX1_laysShares_6 9 rfl rfl)
theorem dX1_laysShares_147 : decode cX1_laysShares 147 = .ok (.iconst 1, 1) := dk_4 (dk_at dksX1_laysShares_6 10 rfl rfl)
theorem dX1_laysShares_148 : decode cX1_laysShares 148 = .ok (.iadd, 1) := dk_96 (dk_at dksX1_laysShares_6 11 rfl rfl)
theorem dX1_laysShares_149 : decode cX1_laysShares 149 = .ok (.iastore, 1) := dk_79 (dk_at dksX1_laysShares_6 12 rfl rfl)
theorem dX1_laysShares_150 : decode cX1_laysShares 150 = .ok (.aload_n 0, 1) := dk_42 (dk_at dksX1_laysShares_6 13 rfl rfl)
theorem dX1_laysShares_151 : decode cX1_laysShares 151 = .ok (.getfield 172, 3) := dk_180 0 172 (dk_at dksX1_laysShares_6 14 rfl rfl)
theorem dX1_laysShares_154 : decode cX1_laysShares 154 = .ok (.iload_n 2, 1) := dk_28 (dk_at dksX1_laysShares_6 17 rfl rfl)
theorem dX1_laysShares_155 : decode cX1_laysShares 155 = .ok (.ldc2_w 116, 3) := dk_20 0 116 (dk_at dksX1_laysShares_6 18 rfl rfl)
theorem dX1_laysShares_158 : decode cX1_laysShares 158 = .ok (.lastore, 1) := dk_80 (dk_at dksX1_laysShares_6 21 rfl rfl)
theorem dX1_laysShares_159 : decode cX1_laysShares 159 = .ok (.iinc 1 (-1), 3) := dk_132 1 255 (dk_at dksX1_laysShares_7 0 rfl rfl)
theorem dX1_laysShares_162 : decode cX1_laysShares 162 = .ok (.goto (-65), 3) := dk_167 255 191 (dk_at dksX1_laysShares_7 3 rfl rfl)
theorem dX1_laysShares_165 : decode cX1_laysShares 165 = .ok (.return_, 1) := dk_177 (dk_at dksX1_laysShares_7 6 rfl rfl)
def dkwX1_cascade_1 : List UInt8 := [181, 0, 238, 42, 180, 0, 178, 27, 46, 172]
abbrev dktX1_cascade_1 : List UInt8 := dkwX1_cascade_1 ++ []
def dkwX1_cascade_0 : List UInt8 := [27, 3, 5, 184, 0, 253, 184, 1, 1, 42, 182, 1, 136, 77, 42, 182, 1, 154, 42, 180, 0, 1, 44]
abbrev dktX1_cascade_0 : List UInt8 := dkwX1_cascade_0 ++ dktX1_cascade_1
theorem dksX1_cascade_0 : cX1_cascade.data.toList.drop 0 = dktX1_cascade_0 := by decide +kernel
theorem dksX1_cascade_1 : cX1_cascade.data.toList.drop 23 = dktX1_cascade_1 := dk_seg dksX1_cascade_0 23 rfl rfl
theorem dX1_cascade_0 : decode cX1_cascade 0 = .ok (.iload_n 1, 1) := dk_27 (dk_at dksX1_cascade_0 0 rfl rfl)
theorem dX1_cascade_1 : decode cX1_cascade 1 = .ok (.iconst 0, 1) := dk_3 (dk_at dksX1_cascade_0 1 rfl rfl)
theorem dX1_cascade_2 : decode cX1_cascade 2 = .ok (.iconst 2, 1) := dk_5 (dk_at dksX1_cascade_0 2 rfl rfl)
theorem dX1_cascade_3 : decode cX1_cascade 3 = .ok (.invokestatic 253, 3) := dk_184 0 253 (dk_at dksX1_cascade_0 3 rfl rfl)
theorem dX1_cascade_6 : decode cX1_cascade 6 = .ok (.invokestatic 257, 3) := dk_184 1 1 (dk_at dksX1_cascade_0 6 rfl rfl)
theorem dX1_cascade_9 : decode cX1_cascade 9 = .ok (.aload_n 0, 1) := dk_42 (dk_at dksX1_cascade_0 9 rfl rfl)
theorem dX1_cascade_10 : decode cX1_cascade 10 = .ok (.invokevirtual 392, 3) := dk_182 1 136 (dk_at dksX1_cascade_0 10 rfl rfl)
theorem dX1_cascade_13 : decode cX1_cascade 13 = .ok (.astore_n 2, 1) := dk_77 (dk_at dksX1_cascade_0 13 rfl rfl)
theorem dX1_cascade_14 : decode cX1_cascade 14 = .ok (.aload_n 0, 1) := dk_42 (dk_at dksX1_cascade_0 14 rfl rfl)
theorem dX1_cascade_15 : decode cX1_cascade 15 = .ok (.invokevirtual 410, 3) := dk_182 1 154 (dk_at dksX1_cascade_0 15 rfl rfl)
theorem dX1_cascade_18 : decode cX1_cascade 18 = .ok (.aload_n 0, 1) := dk_42 (dk_at dksX1_cascade_0 18 rfl rfl)
theorem dX1_cascade_19 : decode cX1_cascade 19 = .ok (.getfield 1, 3) := dk_180 0 1 (dk_at dksX1_cascade_0 19 rfl rfl)
theorem dX1_cascade_22 : decode cX1_cascade 22 = .ok (.aload_n 2, 1) := dk_44 (dk_at dksX1_cascade_0 22 rfl rfl)
theorem dX1_cascade_23 : decode cX1_cascade 23 = .ok (.putfield 238, 3) := dk_181 0 238 (dk_at dksX1_cascade_1 0 rfl rfl)
theorem dX1_cascade_26 : decode cX1_cascade 26 = .ok (.aload_n 0, 1) := dk_42 (dk_at dksX1_cascade_1 3 rfl rfl)
theorem dX1_cascade_27 : decode cX1_cascade 27 = .ok (.getfield 178, 3) := dk_180 0 178 (dk_at dksX1_cascade_1 4 rfl rfl)
theorem dX1_cascade_30 : decode cX1_cascade 30 = .ok (.iload_n 1, 1) := dk_27 (dk_at dksX1_cascade_1 7 rfl rfl)
theorem dX1_cascade_31 : decode cX1_cascade 31 = .ok (.iaload, 1) := dk_46 (dk_at dksX1_cascade_1 8 rfl rfl)
theorem dX1_cascade_32 : decode cX1_cascade 32 = .ok (.ireturn, 1) := dk_172 (dk_at dksX1_cascade_1 9 rfl rfl)
def dkwX1_falls_3 : List UInt8 := [182, 1, 27, 79, 167, 0, 16, 77, 42, 180, 0, 178, 4, 42, 182, 1, 27, 79, 44, 191, 177]
abbrev dktX1_falls_3 : List UInt8 := dkwX1_falls_3 ++ []
def dkwX1_falls_2 : List UInt8 := [4, 42, 182, 1, 27, 79, 167, 0, 37, 76, 42, 180, 0, 178, 5, 4, 79, 42, 180, 0, 178, 4, 42]
abbrev dktX1_falls_2 : List UInt8 := dkwX1_falls_2 ++ dktX1_falls_3
def dkwX1_falls_1 : List UInt8 := [153, 0, 20, 42, 180, 0, 178, 3, 92, 46, 4, 96, 79, 42, 182, 0, 62, 167, 255, 235, 42, 180, 0, 178]
abbrev dktX1_falls_1 : List UInt8 := dkwX1_falls_1 ++ dktX1_falls_2
def dkwX1_falls_0 : List UInt8 := [42, 180, 0, 178, 3, 3, 79, 42, 180, 0, 178, 5, 3, 79, 42, 182, 0, 62, 42, 182, 1, 146]
abbrev dktX1_falls_0 : List UInt8 := dkwX1_falls_0 ++ dktX1_falls_1
theorem dksX1_falls_0 : cX1_falls.data.toList.drop 0 = dktX1_falls_0 := by decide +kernel
theorem dksX1_falls_1 : cX1_falls.data.toList.drop 22 = dktX1_falls_1 := dk_seg dksX1_falls_0 22 rfl rfl
theorem dksX1_falls_2 : cX1_falls.data.toList.drop 46 = dktX1_falls_2 := dk_seg dksX1_falls_1 24 rfl rfl
theorem dksX1_falls_3 : cX1_falls.data.toList.drop 69 = dktX1_falls_3 := dk_seg dksX1_falls_2 23 rfl rfl
theorem dX1_falls_0 : decode cX1_falls 0 = .ok (.aload_n 0, 1) := dk_42 (dk_at dksX1_falls_0 0 rfl rfl)
theorem dX1_falls_1 : decode cX1_falls 1 = .ok (.getfield 178, 3) := dk_180 0 178 (dk_at dksX1_falls_0 1 rfl rfl)
theorem dX1_falls_4 : decode cX1_falls 4 = .ok (.iconst 0, 1) := dk_3 (dk_at dksX1_falls_0 4 rfl rfl)
theorem dX1_falls_5 : decode cX1_falls 5 = .ok (.iconst 0, 1) := dk_3 (dk_at dksX1_falls_0 5 rfl rfl)
theorem dX1_falls_6 : decode cX1_falls 6 = .ok (.iastore, 1) := dk_79 (dk_at dksX1_falls_0 6 rfl rfl)
theorem dX1_falls_7 : decode cX1_falls 7 = .ok (.aload_n 0, 1) := dk_42 (dk_at dksX1_falls_0 7 rfl rfl)
theorem dX1_falls_8 : decode cX1_falls 8 = .ok (.getfield 178, 3) := dk_180 0 178 (dk_at dksX1_falls_0 8 rfl rfl)
theorem dX1_falls_11 : decode cX1_falls 11 = .ok (.iconst 2, 1) := dk_5 (dk_at dksX1_falls_0 11 rfl rfl)
theorem dX1_falls_12 : decode cX1_falls 12 = .ok (.iconst 0, 1) := dk_3 (dk_at dksX1_falls_0 12 rfl rfl)
theorem dX1_falls_13 : decode cX1_falls 13 = .ok (.iastore, 1) := dk_79 (dk_at dksX1_falls_0 13 rfl rfl)
theorem dX1_falls_14 : decode cX1_falls 14 = .ok (.aload_n 0, 1) := dk_42 (dk_at dksX1_falls_0 14 rfl rfl)
theorem dX1_falls_15 : decode cX1_falls 15 = .ok (.invokevirtual 62, 3) := dk_182 0 62 (dk_at dksX1_falls_0 15 rfl rfl)
theorem dX1_falls_18 : decode cX1_falls 18 = .ok (.aload_n 0, 1) := dk_42 (dk_at dksX1_falls_0 18 rfl rfl)
theorem dX1_falls_19 : decode cX1_falls 19 = .ok (.invokevirtual 402, 3) := dk_182 1 146 (dk_at dksX1_falls_0 19 rfl rfl)
theorem dX1_falls_22 : decode cX1_falls 22 = .ok (.ifCond .eq 20, 3) := dk_153 0 20 (dk_at dksX1_falls_1 0 rfl rfl)
theorem dX1_falls_25 : decode cX1_falls 25 = .ok (.aload_n 0, 1) := dk_42 (dk_at dksX1_falls_1 3 rfl rfl)
theorem dX1_falls_26 : decode cX1_falls 26 = .ok (.getfield 178, 3) := dk_180 0 178 (dk_at dksX1_falls_1 4 rfl rfl)
theorem dX1_falls_29 : decode cX1_falls 29 = .ok (.iconst 0, 1) := dk_3 (dk_at dksX1_falls_1 7 rfl rfl)
theorem dX1_falls_30 : decode cX1_falls 30 = .ok (.dup2, 1) := dk_92 (dk_at dksX1_falls_1 8 rfl rfl)
theorem dX1_falls_31 : decode cX1_falls 31 = .ok (.iaload, 1) := dk_46 (dk_at dksX1_falls_1 9 rfl rfl)
theorem dX1_falls_32 : decode cX1_falls 32 = .ok (.iconst 1, 1) := dk_4 (dk_at dksX1_falls_1 10 rfl rfl)
theorem dX1_falls_33 : decode cX1_falls 33 = .ok (.iadd, 1) := dk_96 (dk_at dksX1_falls_1 11 rfl rfl)
theorem dX1_falls_34 : decode cX1_falls 34 = .ok (.iastore, 1) := dk_79 (dk_at dksX1_falls_1 12 rfl rfl)
theorem dX1_falls_35 : decode cX1_falls 35 = .ok (.aload_n 0, 1) := dk_42 (dk_at dksX1_falls_1 13 rfl rfl)
theorem dX1_falls_36 : decode cX1_falls 36 = .ok (.invokevirtual 62, 3) := dk_182 0 62 (dk_at dksX1_falls_1 14 rfl rfl)
theorem dX1_falls_39 : decode cX1_falls 39 = .ok (.goto (-21), 3) := dk_167 255 235 (dk_at dksX1_falls_1 17 rfl rfl)
theorem dX1_falls_42 : decode cX1_falls 42 = .ok (.aload_n 0, 1) := dk_42 (dk_at dksX1_falls_1 20 rfl rfl)
theorem dX1_falls_43 : decode cX1_falls 43 = .ok (.getfield 178, 3) := dk_180 0 178 (dk_at dksX1_falls_1 21 rfl rfl)
theorem dX1_falls_46 : decode cX1_falls 46 = .ok (.iconst 1, 1) := dk_4 (dk_at dksX1_falls_2 0 rfl rfl)
theorem dX1_falls_47 : decode cX1_falls 47 = .ok (.aload_n 0, 1) := dk_42 (dk_at dksX1_falls_2 1 rfl rfl)
theorem dX1_falls_48 : decode cX1_falls 48 = .ok (.invokevirtual 283, 3) := dk_182 1 27 (dk_at dksX1_falls_2 2 rfl rfl)
theorem dX1_falls_51 : decode cX1_falls 51 = .ok (.iastore, 1) := dk_79 (dk_at dksX1_falls_2 5 rfl rfl)
theorem dX1_falls_52 : decode cX1_falls 52 = .ok (.goto 37, 3) := dk_167 0 37 (dk_at dksX1_falls_2 6 rfl rfl)
theorem dX1_falls_55 : decode cX1_falls 55 = .ok (.astore_n 1, 1) := dk_76 (dk_at dksX1_falls_2 9 rfl rfl)
theorem dX1_falls_56 : decode cX1_falls 56 = .ok (.aload_n 0, 1) := dk_42 (dk_at dksX1_falls_2 10 rfl rfl)
theorem dX1_falls_57 : decode cX1_falls 57 = .ok (.getfield 178, 3) := dk_180 0 178 (dk_at dksX1_falls_2 11 rfl rfl)
theorem dX1_falls_60 : decode cX1_falls 60 = .ok (.iconst 2, 1) := dk_5 (dk_at dksX1_falls_2 14 rfl rfl)
theorem dX1_falls_61 : decode cX1_falls 61 = .ok (.iconst 1, 1) := dk_4 (dk_at dksX1_falls_2 15 rfl rfl)
theorem dX1_falls_62 : decode cX1_falls 62 = .ok (.iastore, 1) := dk_79 (dk_at dksX1_falls_2 16 rfl rfl)
theorem dX1_falls_63 : decode cX1_falls 63 = .ok (.aload_n 0, 1) := dk_42 (dk_at dksX1_falls_2 17 rfl rfl)
theorem dX1_falls_64 : decode cX1_falls 64 = .ok (.getfield 178, 3) := dk_180 0 178 (dk_at dksX1_falls_2 18 rfl rfl)
theorem dX1_falls_67 : decode cX1_falls 67 = .ok (.iconst 1, 1) := dk_4 (dk_at dksX1_falls_2 21 rfl rfl)
theorem dX1_falls_68 : decode cX1_falls 68 = .ok (.aload_n 0, 1) := dk_42 (dk_at dksX1_falls_2 22 rfl rfl)
theorem dX1_falls_69 : decode cX1_falls 69 = .ok (.invokevirtual 283, 3) := dk_182 1 27 (dk_at dksX1_falls_3 0 rfl rfl)
theorem dX1_falls_72 : decode cX1_falls 72 = .ok (.iastore, 1) := dk_79 (dk_at dksX1_falls_3 3 rfl rfl)
theorem dX1_falls_73 : decode cX1_falls 73 = .ok (.goto 16, 3) := dk_167 0 16 (dk_at dksX1_falls_3 4 rfl rfl)
theorem dX1_falls_76 : decode cX1_falls 76 = .ok (.astore_n 2, 1) := dk_77 (dk_at dksX1_falls_3 7 rfl rfl)
theorem dX1_falls_77 : decode cX1_falls 77 = .ok (.aload_n 0, 1) := dk_42 (dk_at dksX1_falls_3 8 rfl rfl)
theorem dX1_falls_78 : decode cX1_falls 78 = .ok (.getfield 178, 3) := dk_180 0 178 (dk_at dksX1_falls_3 9 rfl rfl)
theorem dX1_falls_81 : decode cX1_falls 81 = .ok (.iconst 1, 1) := dk_4 (dk_at dksX1_falls_3 12 rfl rfl)
theorem dX1_falls_82 : decode cX1_falls 82 = .ok (.aload_n 0, 1) := dk_42 (dk_at dksX1_falls_3 13 rfl rfl)
theorem dX1_falls_83 : decode cX1_falls 83 = .ok (.invokevirtual 283, 3) := dk_182 1 27 (dk_at dksX1_falls_3 14 rfl rfl)
theorem dX1_falls_86 : decode cX1_falls 86 = .ok (.iastore, 1) := dk_79 (dk_at dksX1_falls_3 17 rfl rfl)
theorem dX1_falls_87 : decode cX1_falls 87 = .ok (.aload_n 2, 1) := dk_44 (dk_at dksX1_falls_3 18 rfl rfl)
theorem dX1_falls_88 : decode cX1_falls 88 = .ok (.athrow, 1) := dk_191 (dk_at dksX1_falls_3 19 rfl rfl)
theorem dX1_falls_89 : decode cX1_falls 89 = .ok (.return_, 1) := dk_177 (dk_at dksX1_falls_3 20 rfl rfl)
def dkwX1_melts_2 : List UInt8 := [132, 3, 1, 167, 255, 216, 132, 2, 1, 167, 255, 203, 27, 172]
abbrev dktX1_melts_2 : List UInt8 := dkwX1_melts_2 ++ []
def dkwX1_melts_1 : List UInt8 := [28, 182, 1, 143, 154, 0, 6, 167, 0, 17, 42, 180, 0, 1, 180, 0, 238, 28, 50, 29, 3, 79, 4, 60]
abbrev dktX1_melts_1 : List UInt8 := dkwX1_melts_1 ++ dktX1_melts_2
def dkwX1_melts_0 : List UInt8 := [3, 60, 3, 61, 28, 4, 163, 0, 54, 3, 62, 29, 42, 180, 0, 1, 182, 0, 55, 162, 0, 35, 42, 29]
abbrev dktX1_melts_0 : List UInt8 := dkwX1_melts_0 ++ dktX1_melts_1
theorem dksX1_melts_0 : cX1_melts.data.toList.drop 0 = dktX1_melts_0 := by decide +kernel
theorem dksX1_melts_1 : cX1_melts.data.toList.drop 24 = dktX1_melts_1 := dk_seg dksX1_melts_0 24 rfl rfl
theorem dksX1_melts_2 : cX1_melts.data.toList.drop 48 = dktX1_melts_2 := dk_seg dksX1_melts_1 24 rfl rfl
theorem dX1_melts_0 : decode cX1_melts 0 = .ok (.iconst 0, 1) := dk_3 (dk_at dksX1_melts_0 0 rfl rfl)
theorem dX1_melts_1 : decode cX1_melts 1 = .ok (.istore_n 1, 1) := dk_60 (dk_at dksX1_melts_0 1 rfl rfl)
theorem dX1_melts_2 : decode cX1_melts 2 = .ok (.iconst 0, 1) := dk_3 (dk_at dksX1_melts_0 2 rfl rfl)
theorem dX1_melts_3 : decode cX1_melts 3 = .ok (.istore_n 2, 1) := dk_61 (dk_at dksX1_melts_0 3 rfl rfl)
theorem dX1_melts_4 : decode cX1_melts 4 = .ok (.iload_n 2, 1) := dk_28 (dk_at dksX1_melts_0 4 rfl rfl)
theorem dX1_melts_5 : decode cX1_melts 5 = .ok (.iconst 1, 1) := dk_4 (dk_at dksX1_melts_0 5 rfl rfl)
theorem dX1_melts_6 : decode cX1_melts 6 = .ok (.if_icmp .gt 54, 3) := dk_163 0 54 (dk_at dksX1_melts_0 6 rfl rfl)
theorem dX1_melts_9 : decode cX1_melts 9 = .ok (.iconst 0, 1) := dk_3 (dk_at dksX1_melts_0 9 rfl rfl)
theorem dX1_melts_10 : decode cX1_melts 10 = .ok (.istore_n 3, 1) := dk_62 (dk_at dksX1_melts_0 10 rfl rfl)
theorem dX1_melts_11 : decode cX1_melts 11 = .ok (.iload_n 3, 1) := dk_29 (dk_at dksX1_melts_0 11 rfl rfl)
theorem dX1_melts_12 : decode cX1_melts 12 = .ok (.aload_n 0, 1) := dk_42 (dk_at dksX1_melts_0 12 rfl rfl)
theorem dX1_melts_13 : decode cX1_melts 13 = .ok (.getfield 1, 3) := dk_180 0 1 (dk_at dksX1_melts_0 13 rfl rfl)
theorem dX1_melts_16 : decode cX1_melts 16 = .ok (.invokevirtual 55, 3) := dk_182 0 55 (dk_at dksX1_melts_0 16 rfl rfl)
theorem dX1_melts_19 : decode cX1_melts 19 = .ok (.if_icmp .ge 35, 3) := dk_162 0 35 (dk_at dksX1_melts_0 19 rfl rfl)
theorem dX1_melts_22 : decode cX1_melts 22 = .ok (.aload_n 0, 1) := dk_42 (dk_at dksX1_melts_0 22 rfl rfl)
theorem dX1_melts_23 : decode cX1_melts 23 = .ok (.iload_n 3, 1) := dk_29 (dk_at dksX1_melts_0 23 rfl rfl)
theorem dX1_melts_24 : decode cX1_melts 24 = .ok (.iload_n 2, 1) := dk_28 (dk_at dksX1_melts_1 0 rfl rfl)
theorem dX1_melts_25 : decode cX1_melts 25 = .ok (.invokevirtual 399, 3) := dk_182 1 143 (dk_at dksX1_melts_1 1 rfl rfl)
theorem dX1_melts_28 : decode cX1_melts 28 = .ok (.ifCond .ne 6, 3) := dk_154 0 6 (dk_at dksX1_melts_1 4 rfl rfl)
theorem dX1_melts_31 : decode cX1_melts 31 = .ok (.goto 17, 3) := dk_167 0 17 (dk_at dksX1_melts_1 7 rfl rfl)
theorem dX1_melts_34 : decode cX1_melts 34 = .ok (.aload_n 0, 1) := dk_42 (dk_at dksX1_melts_1 10 rfl rfl)
theorem dX1_melts_35 : decode cX1_melts 35 = .ok (.getfield 1, 3) := dk_180 0 1 (dk_at dksX1_melts_1 11 rfl rfl)
theorem dX1_melts_38 : decode cX1_melts 38 = .ok (.getfield 238, 3) := dk_180 0 238 (dk_at dksX1_melts_1 14 rfl rfl)
theorem dX1_melts_41 : decode cX1_melts 41 = .ok (.iload_n 2, 1) := dk_28 (dk_at dksX1_melts_1 17 rfl rfl)
theorem dX1_melts_42 : decode cX1_melts 42 = .ok (.aaload, 1) := dk_50 (dk_at dksX1_melts_1 18 rfl rfl)
theorem dX1_melts_43 : decode cX1_melts 43 = .ok (.iload_n 3, 1) := dk_29 (dk_at dksX1_melts_1 19 rfl rfl)
theorem dX1_melts_44 : decode cX1_melts 44 = .ok (.iconst 0, 1) := dk_3 (dk_at dksX1_melts_1 20 rfl rfl)
theorem dX1_melts_45 : decode cX1_melts 45 = .ok (.iastore, 1) := dk_79 (dk_at dksX1_melts_1 21 rfl rfl)
theorem dX1_melts_46 : decode cX1_melts 46 = .ok (.iconst 1, 1) := dk_4 (dk_at dksX1_melts_1 22 rfl rfl)
theorem dX1_melts_47 : decode cX1_melts 47 = .ok (.istore_n 1, 1) := dk_60 (dk_at dksX1_melts_1 23 rfl rfl)
theorem dX1_melts_48 : decode cX1_melts 48 = .ok (.iinc 3 1, 3) := dk_132 3 1 (dk_at dksX1_melts_2 0 rfl rfl)
theorem dX1_melts_51 : decode cX1_melts 51 = .ok (.goto (-40), 3) := dk_167 255 216 (dk_at dksX1_melts_2 3 rfl rfl)
theorem dX1_melts_54 : decode cX1_melts 54 = .ok (.iinc 2 1, 3) := dk_132 2 1 (dk_at dksX1_melts_2 6 rfl rfl)
theorem dX1_melts_57 : decode cX1_melts 57 = .ok (.goto (-53), 3) := dk_167 255 203 (dk_at dksX1_melts_2 9 rfl rfl)
theorem dX1_melts_60 : decode cX1_melts 60 = .ok (.iload_n 1, 1) := dk_27 (dk_at dksX1_melts_2 12 rfl rfl)
theorem dX1_melts_61 : decode cX1_melts 61 = .ok (.ireturn, 1) := dk_172 (dk_at dksX1_melts_2 13 rfl rfl)
def dkwX1_isTooMuch_2 : List UInt8 := [180, 0, 44, 105, 148, 158, 0, 7, 4, 167, 0, 4, 3, 172]
abbrev dktX1_isTooMuch_2 : List UInt8 := dkwX1_isTooMuch_2 ++ []
def dkwX1_isTooMuch_1 : List UInt8 := [42, 180, 0, 1, 27, 28, 182, 1, 40, 47, 101, 184, 0, 112, 42, 180, 0, 1, 180, 1, 17, 133, 42]
abbrev dktX1_isTooMuch_1 : List UInt8 := dkwX1_isTooMuch_1 ++ dktX1_isTooMuch_2
def dkwX1_isTooMuch_0 : List UInt8 := [42, 180, 0, 1, 180, 0, 238, 28, 50, 27, 46, 158, 0, 48, 42, 180, 0, 47, 27, 47, 42, 180, 0, 47]
abbrev dktX1_isTooMuch_0 : List UInt8 := dkwX1_isTooMuch_0 ++ dktX1_isTooMuch_1
theorem dksX1_isTooMuch_0 : cX1_isTooMuch.data.toList.drop 0 = dktX1_isTooMuch_0 := by decide +kernel
theorem dksX1_isTooMuch_1 : cX1_isTooMuch.data.toList.drop 24 = dktX1_isTooMuch_1 := dk_seg dksX1_isTooMuch_0 24 rfl rfl
theorem dksX1_isTooMuch_2 : cX1_isTooMuch.data.toList.drop 47 = dktX1_isTooMuch_2 := dk_seg dksX1_isTooMuch_1 23 rfl rfl
theorem dX1_isTooMuch_0 : decode cX1_isTooMuch 0 = .ok (.aload_n 0, 1) := dk_42 (dk_at dksX1_isTooMuch_0 0 rfl rfl)
theorem dX1_isTooMuch_1 : decode cX1_isTooMuch 1 = .ok (.getfield 1, 3) := dk_180 0 1 (dk_at dksX1_isTooMuch_0 1 rfl rfl)
theorem dX1_isTooMuch_4 : decode cX1_isTooMuch 4 = .ok (.getfield 238, 3) := dk_180 0 238 (dk_at dksX1_isTooMuch_0 4 rfl rfl)
theorem dX1_isTooMuch_7 : decode cX1_isTooMuch 7 = .ok (.iload_n 2, 1) := dk_28 (dk_at dksX1_isTooMuch_0 7 rfl rfl)
theorem dX1_isTooMuch_8 : decode cX1_isTooMuch 8 = .ok (.aaload, 1) := dk_50 (dk_at dksX1_isTooMuch_0 8 rfl rfl)
theorem dX1_isTooMuch_9 : decode cX1_isTooMuch 9 = .ok (.iload_n 1, 1) := dk_27 (dk_at dksX1_isTooMuch_0 9 rfl rfl)
theorem dX1_isTooMuch_10 : decode cX1_isTooMuch 10 = .ok (.iaload, 1) := dk_46 (dk_at dksX1_isTooMuch_0 10 rfl rfl)
theorem dX1_isTooMuch_11 : decode cX1_isTooMuch 11 = .ok (.ifCond .le 48, 3) := dk_158 0 48 (dk_at dksX1_isTooMuch_0 11 rfl rfl)
theorem dX1_isTooMuch_14 : decode cX1_isTooMuch 14 = .ok (.aload_n 0, 1) := dk_42 (dk_at dksX1_isTooMuch_0 14 rfl rfl)
theorem dX1_isTooMuch_15 : decode cX1_isTooMuch 15 = .ok (.getfield 47, 3) := dk_180 0 47 (dk_at dksX1_isTooMuch_0 15 rfl rfl)
theorem dX1_isTooMuch_18 : decode cX1_isTooMuch 18 = .ok (.iload_n 1, 1) := dk_27 (dk_at dksX1_isTooMuch_0 18 rfl rfl)
theorem dX1_isTooMuch_19 : decode cX1_isTooMuch 19 = .ok (.laload, 1) := dk_47 (dk_at dksX1_isTooMuch_0 19 rfl rfl)
theorem dX1_isTooMuch_20 : decode cX1_isTooMuch 20 = .ok (.aload_n 0, 1) := dk_42 (dk_at dksX1_isTooMuch_0 20 rfl rfl)
theorem dX1_isTooMuch_21 : decode cX1_isTooMuch 21 = .ok (.getfield 47, 3) := dk_180 0 47 (dk_at dksX1_isTooMuch_0 21 rfl rfl)
theorem dX1_isTooMuch_24 : decode cX1_isTooMuch 24 = .ok (.aload_n 0, 1) := dk_42 (dk_at dksX1_isTooMuch_1 0 rfl rfl)
theorem dX1_isTooMuch_25 : decode cX1_isTooMuch 25 = .ok (.getfield 1, 3) := dk_180 0 1 (dk_at dksX1_isTooMuch_1 1 rfl rfl)
theorem dX1_isTooMuch_28 : decode cX1_isTooMuch 28 = .ok (.iload_n 1, 1) := dk_27 (dk_at dksX1_isTooMuch_1 4 rfl rfl)
theorem dX1_isTooMuch_29 : decode cX1_isTooMuch 29 = .ok (.iload_n 2, 1) := dk_28 (dk_at dksX1_isTooMuch_1 5 rfl rfl)
theorem dX1_isTooMuch_30 : decode cX1_isTooMuch 30 = .ok (.invokevirtual 296, 3) := dk_182 1 40 (dk_at dksX1_isTooMuch_1 6 rfl rfl)
theorem dX1_isTooMuch_33 : decode cX1_isTooMuch 33 = .ok (.laload, 1) := dk_47 (dk_at dksX1_isTooMuch_1 9 rfl rfl)
theorem dX1_isTooMuch_34 : decode cX1_isTooMuch 34 = .ok (.lsub, 1) := dk_101 (dk_at dksX1_isTooMuch_1 10 rfl rfl)
theorem dX1_isTooMuch_35 : decode cX1_isTooMuch 35 = .ok (.invokestatic 112, 3) := dk_184 0 112 (dk_at dksX1_isTooMuch_1 11 rfl rfl)
theorem dX1_isTooMuch_38 : decode cX1_isTooMuch 38 = .ok (.aload_n 0, 1) := dk_42 (dk_at dksX1_isTooMuch_1 14 rfl rfl)
theorem dX1_isTooMuch_39 : decode cX1_isTooMuch 39 = .ok (.getfield 1, 3) := dk_180 0 1 (dk_at dksX1_isTooMuch_1 15 rfl rfl)
theorem dX1_isTooMuch_42 : decode cX1_isTooMuch 42 = .ok (.getfield 273, 3) := dk_180 1 17 (dk_at dksX1_isTooMuch_1 18 rfl rfl)
theorem dX1_isTooMuch_45 : decode cX1_isTooMuch 45 = .ok (.i2l, 1) := dk_133 (dk_at dksX1_isTooMuch_1 21 rfl rfl)
theorem dX1_isTooMuch_46 : decode cX1_isTooMuch 46 = .ok (.aload_n 0, 1) := dk_42 (dk_at dksX1_isTooMuch_1 22 rfl rfl)
theorem dX1_isTooMuch_47 : decode cX1_isTooMuch 47 = .ok (.getfield 44, 3) := dk_180 0 44 (dk_at dksX1_isTooMuch_2 0 rfl rfl)
theorem dX1_isTooMuch_50 : decode cX1_isTooMuch 50 = .ok (.lmul, 1) := dk_105 (dk_at dksX1_isTooMuch_2 3 rfl rfl)
theorem dX1_isTooMuch_51 : decode cX1_isTooMuch 51 = .ok (.lcmp, 1) := dk_148 (dk_at dksX1_isTooMuch_2 4 rfl rfl)
theorem dX1_isTooMuch_52 : decode cX1_isTooMuch 52 = .ok (.ifCond .le 7, 3) := dk_158 0 7 (dk_at dksX1_isTooMuch_2 5 rfl rfl)
theorem dX1_isTooMuch_55 : decode cX1_isTooMuch 55 = .ok (.iconst 1, 1) := dk_4 (dk_at dksX1_isTooMuch_2 8 rfl rfl)
theorem dX1_isTooMuch_56 : decode cX1_isTooMuch 56 = .ok (.goto 4, 3) := dk_167 0 4 (dk_at dksX1_isTooMuch_2 9 rfl rfl)
theorem dX1_isTooMuch_59 : decode cX1_isTooMuch 59 = .ok (.iconst 0, 1) := dk_3 (dk_at dksX1_isTooMuch_2 12 rfl rfl)
theorem dX1_isTooMuch_60 : decode cX1_isTooMuch 60 = .ok (.ireturn, 1) := dk_172 (dk_at dksX1_isTooMuch_2 13 rfl rfl)
def dkwX1_sweep_4 : List UInt8 := [154, 0, 8, 29, 133, 167, 0, 18, 25, 4, 28, 5, 160, 0, 7, 4, 167, 0, 4, 3, 182, 1, 46, 173]
abbrev dktX1_sweep_4 : List UInt8 := dkwX1_sweep_4 ++ []
def dkwX1_sweep_3 : List UInt8 := [182, 0, 230, 154, 0, 6, 167, 0, 10, 21, 5, 62, 25, 6, 58, 4, 132, 5, 1, 167, 255, 194, 28]
abbrev dktX1_sweep_3 : List UInt8 := dkwX1_sweep_3 ++ dktX1_sweep_4
def dkwX1_sweep_2 : List UInt8 := [167, 0, 4, 3, 182, 1, 133, 58, 6, 25, 6, 198, 0, 28, 29, 2, 159, 0, 16, 25, 6, 25, 4]
abbrev dktX1_sweep_2 : List UInt8 := dkwX1_sweep_2 ++ dktX1_sweep_3
def dkwX1_sweep_1 : List UInt8 := [54, 5, 21, 5, 42, 180, 0, 1, 182, 0, 55, 162, 0, 56, 42, 21, 5, 27, 153, 0, 7, 4]
abbrev dktX1_sweep_1 : List UInt8 := dkwX1_sweep_1 ++ dktX1_sweep_2
def dkwX1_sweep_0 : List UInt8 := [28, 3, 5, 184, 0, 253, 184, 1, 1, 2, 62, 187, 0, 68, 89, 9, 10, 183, 0, 74, 58, 4, 3]
abbrev dktX1_sweep_0 : List UInt8 := dkwX1_sweep_0 ++ dktX1_sweep_1
theorem dksX1_sweep_0 : cX1_sweep.data.toList.drop 0 = dktX1_sweep_0 := by decide +kernel
theorem dksX1_sweep_1 : cX1_sweep.data.toList.drop 23 = dktX1_sweep_1 := dk_seg dksX1_sweep_0 23 rfl rfl
theorem dksX1_sweep_2 : cX1_sweep.data.toList.drop 45 = dktX1_sweep_2 := dk_seg dksX1_sweep_1 22 rfl rfl
theorem dksX1_sweep_3 : cX1_sweep.data.toList.drop 68 = dktX1_sweep_3 := dk_seg dksX1_sweep_2 23 rfl rfl
theorem dksX1_sweep_4 : cX1_sweep.data.toList.drop 91 = dktX1_sweep_4 := dk_seg dksX1_sweep_3 23 rfl rfl
theorem dX1_sweep_0 : decode cX1_sweep 0 = .ok (.iload_n 2, 1) := dk_28 (dk_at dksX1_sweep_0 0 rfl rfl)
theorem dX1_sweep_1 : decode cX1_sweep 1 = .ok (.iconst 0, 1) := dk_3 (dk_at dksX1_sweep_0 1 rfl rfl)
theorem dX1_sweep_2 : decode cX1_sweep 2 = .ok (.iconst 2, 1) := dk_5 (dk_at dksX1_sweep_0 2 rfl rfl)
theorem dX1_sweep_3 : decode cX1_sweep 3 = .ok (.invokestatic 253, 3) := dk_184 0 253 (dk_at dksX1_sweep_0 3 rfl rfl)
theorem dX1_sweep_6 : decode cX1_sweep 6 = .ok (.invokestatic 257, 3) := dk_184 1 1 (dk_at dksX1_sweep_0 6 rfl rfl)
theorem dX1_sweep_9 : decode cX1_sweep 9 = .ok (.iconst (-1), 1) := dk_2 (dk_at dksX1_sweep_0 9 rfl rfl)
theorem dX1_sweep_10 : decode cX1_sweep 10 = .ok (.istore_n 3, 1) := dk_62 (dk_at dksX1_sweep_0 10 rfl rfl)
theorem dX1_sweep_11 : decode cX1_sweep 11 = .ok (.new 68, 3) := dk_187 0 68 (dk_at dksX1_sweep_0 11 rfl rfl)
theorem dX1_sweep_14 : decode cX1_sweep 14 = .ok (.dup, 1) := dk_89 (dk_at dksX1_sweep_0 14 rfl rfl)
theorem dX1_sweep_15 : decode cX1_sweep 15 = .ok (.lconst 0, 1) := dk_9 (dk_at dksX1_sweep_0 15 rfl rfl)
theorem dX1_sweep_16 : decode cX1_sweep 16 = .ok (.lconst 1, 1) := dk_10 (dk_at dksX1_sweep_0 16 rfl rfl)
theorem dX1_sweep_17 : decode cX1_sweep 17 = .ok (.invokespecial 74, 3) := dk_183 0 74 (dk_at dksX1_sweep_0 17 rfl rfl)
theorem dX1_sweep_20 : decode cX1_sweep 20 = .ok (.astore 4, 2) := dk_58 4 (dk_at dksX1_sweep_0 20 rfl rfl)
theorem dX1_sweep_22 : decode cX1_sweep 22 = .ok (.iconst 0, 1) := dk_3 (dk_at dksX1_sweep_0 22 rfl rfl)
theorem dX1_sweep_23 : decode cX1_sweep 23 = .ok (.istore 5, 2) := dk_54 5 (dk_at dksX1_sweep_1 0 rfl rfl)
theorem dX1_sweep_25 : decode cX1_sweep 25 = .ok (.iload 5, 2) := dk_21 5 (dk_at dksX1_sweep_1 2 rfl rfl)
theorem dX1_sweep_27 : decode cX1_sweep 27 = .ok (.aload_n 0, 1) := dk_42 (dk_at dksX1_sweep_1 4 rfl rfl)
theorem dX1_sweep_28 : decode cX1_sweep 28 = .ok (.getfield 1, 3) := dk_180 0 1 (dk_at dksX1_sweep_1 5 rfl rfl)
theorem dX1_sweep_31 : decode cX1_sweep 31 = .ok (.invokevirtual 55, 3) := dk_182 0 55 (dk_at dksX1_sweep_1 8 rfl rfl)
theorem dX1_sweep_34 : decode cX1_sweep 34 = .ok (.if_icmp .ge 56, 3) := dk_162 0 56 (dk_at dksX1_sweep_1 11 rfl rfl)
theorem dX1_sweep_37 : decode cX1_sweep 37 = .ok (.aload_n 0, 1) := dk_42 (dk_at dksX1_sweep_1 14 rfl rfl)
theorem dX1_sweep_38 : decode cX1_sweep 38 = .ok (.iload 5, 2) := dk_21 5 (dk_at dksX1_sweep_1 15 rfl rfl)
theorem dX1_sweep_40 : decode cX1_sweep 40 = .ok (.iload_n 1, 1) := dk_27 (dk_at dksX1_sweep_1 17 rfl rfl)
theorem dX1_sweep_41 : decode cX1_sweep 41 = .ok (.ifCond .eq 7, 3) := dk_153 0 7 (dk_at dksX1_sweep_1 18 rfl rfl)
theorem dX1_sweep_44 : decode cX1_sweep 44 = .ok (.iconst 1, 1) := dk_4 (dk_at dksX1_sweep_1 21 rfl rfl)
theorem dX1_sweep_45 : decode cX1_sweep 45 = .ok (.goto 4, 3) := dk_167 0 4 (dk_at dksX1_sweep_2 0 rfl rfl)
theorem dX1_sweep_48 : decode cX1_sweep 48 = .ok (.iconst 0, 1) := dk_3 (dk_at dksX1_sweep_2 3 rfl rfl)
theorem dX1_sweep_49 : decode cX1_sweep 49 = .ok (.invokevirtual 389, 3) := dk_182 1 133 (dk_at dksX1_sweep_2 4 rfl rfl)
theorem dX1_sweep_52 : decode cX1_sweep 52 = .ok (.astore 6, 2) := dk_58 6 (dk_at dksX1_sweep_2 7 rfl rfl)
theorem dX1_sweep_54 : decode cX1_sweep 54 = .ok (.aload 6, 2) := dk_25 6 (dk_at dksX1_sweep_2 9 rfl rfl)
theorem dX1_sweep_56 : decode cX1_sweep 56 = .ok (.ifnull 28, 3) := dk_198 0 28 (dk_at dksX1_sweep_2 11 rfl rfl)
theorem dX1_sweep_59 : decode cX1_sweep 59 = .ok (.iload_n 3, 1) := dk_29 (dk_at dksX1_sweep_2 14 rfl rfl)
theorem dX1_sweep_60 : decode cX1_sweep 60 = .ok (.iconst (-1), 1) := dk_2 (dk_at dksX1_sweep_2 15 rfl rfl)
theorem dX1_sweep_61 : decode cX1_sweep 61 = .ok (.if_icmp .eq 16, 3) := dk_159 0 16 (dk_at dksX1_sweep_2 16 rfl rfl)
theorem dX1_sweep_64 : decode cX1_sweep 64 = .ok (.aload 6, 2) := dk_25 6 (dk_at dksX1_sweep_2 19 rfl rfl)
theorem dX1_sweep_66 : decode cX1_sweep 66 = .ok (.aload 4, 2) := dk_25 4 (dk_at dksX1_sweep_2 21 rfl rfl)
theorem dX1_sweep_68 : decode cX1_sweep 68 = .ok (.invokevirtual 230, 3) := dk_182 0 230 (dk_at dksX1_sweep_3 0 rfl rfl)
theorem dX1_sweep_71 : decode cX1_sweep 71 = .ok (.ifCond .ne 6, 3) := dk_154 0 6 (dk_at dksX1_sweep_3 3 rfl rfl)
theorem dX1_sweep_74 : decode cX1_sweep 74 = .ok (.goto 10, 3) := dk_167 0 10 (dk_at dksX1_sweep_3 6 rfl rfl)
theorem dX1_sweep_77 : decode cX1_sweep 77 = .ok (.iload 5, 2) := dk_21 5 (dk_at dksX1_sweep_3 9 rfl rfl)
theorem dX1_sweep_79 : decode cX1_sweep 79 = .ok (.istore_n 3, 1) := dk_62 (dk_at dksX1_sweep_3 11 rfl rfl)
theorem dX1_sweep_80 : decode cX1_sweep 80 = .ok (.aload 6, 2) := dk_25 6 (dk_at dksX1_sweep_3 12 rfl rfl)
theorem dX1_sweep_82 : decode cX1_sweep 82 = .ok (.astore 4, 2) := dk_58 4 (dk_at dksX1_sweep_3 14 rfl rfl)
theorem dX1_sweep_84 : decode cX1_sweep 84 = .ok (.iinc 5 1, 3) := dk_132 5 1 (dk_at dksX1_sweep_3 16 rfl rfl)
theorem dX1_sweep_87 : decode cX1_sweep 87 = .ok (.goto (-62), 3) := dk_167 255 194 (dk_at dksX1_sweep_3 19 rfl rfl)
theorem dX1_sweep_90 : decode cX1_sweep 90 = .ok (.iload_n 2, 1) := dk_28 (dk_at dksX1_sweep_3 22 rfl rfl)
theorem dX1_sweep_91 : decode cX1_sweep 91 = .ok (.ifCond .ne 8, 3) := dk_154 0 8 (dk_at dksX1_sweep_4 0 rfl rfl)
theorem dX1_sweep_94 : decode cX1_sweep 94 = .ok (.iload_n 3, 1) := dk_29 (dk_at dksX1_sweep_4 3 rfl rfl)
theorem dX1_sweep_95 : decode cX1_sweep 95 = .ok (.i2l, 1) := dk_133 (dk_at dksX1_sweep_4 4 rfl rfl)
theorem dX1_sweep_96 : decode cX1_sweep 96 = .ok (.goto 18, 3) := dk_167 0 18 (dk_at dksX1_sweep_4 5 rfl rfl)
theorem dX1_sweep_99 : decode cX1_sweep 99 = .ok (.aload 4, 2) := dk_25 4 (dk_at dksX1_sweep_4 8 rfl rfl)
theorem dX1_sweep_101 : decode cX1_sweep 101 = .ok (.iload_n 2, 1) := dk_28 (dk_at dksX1_sweep_4 10 rfl rfl)
theorem dX1_sweep_102 : decode cX1_sweep 102 = .ok (.iconst 2, 1) := dk_5 (dk_at dksX1_sweep_4 11 rfl rfl)
theorem dX1_sweep_103 : decode cX1_sweep 103 = .ok (.if_icmp .ne 7, 3) := dk_160 0 7 (dk_at dksX1_sweep_4 12 rfl rfl)
theorem dX1_sweep_106 : decode cX1_sweep 106 = .ok (.iconst 1, 1) := dk_4 (dk_at dksX1_sweep_4 15 rfl rfl)
theorem dX1_sweep_107 : decode cX1_sweep 107 = .ok (.goto 4, 3) := dk_167 0 4 (dk_at dksX1_sweep_4 16 rfl rfl)
theorem dX1_sweep_110 : decode cX1_sweep 110 = .ok (.iconst 0, 1) := dk_3 (dk_at dksX1_sweep_4 19 rfl rfl)
theorem dX1_sweep_111 : decode cX1_sweep 111 = .ok (.invokevirtual 302, 3) := dk_182 1 46 (dk_at dksX1_sweep_4 20 rfl rfl)
theorem dX1_sweep_114 : decode cX1_sweep 114 = .ok (.lreturn, 1) := dk_173 (dk_at dksX1_sweep_4 23 rfl rfl)
def dkwX1_worstBy_2 : List UInt8 := [180, 0, 1, 29, 181, 0, 7, 25, 5, 176, 58, 6, 42, 180, 0, 1, 29, 181, 0, 7, 25, 6, 191]
abbrev dktX1_worstBy_2 : List UInt8 := dkwX1_worstBy_2 ++ []
def dkwX1_worstBy_1 : List UInt8 := [182, 1, 130, 58, 4, 42, 180, 0, 1, 29, 181, 0, 7, 25, 4, 176, 58, 4, 1, 58, 5, 42]
abbrev dktX1_worstBy_1 : List UInt8 := dkwX1_worstBy_1 ++ dktX1_worstBy_2
def dkwX1_worstBy_0 : List UInt8 := [42, 180, 0, 1, 180, 0, 7, 62, 42, 180, 0, 1, 27, 181, 0, 7, 42, 182, 0, 62, 42, 28]
abbrev dktX1_worstBy_0 : List UInt8 := dkwX1_worstBy_0 ++ dktX1_worstBy_1
theorem dksX1_worstBy_0 : cX1_worstBy.data.toList.drop 0 = dktX1_worstBy_0 := by decide +kernel
theorem dksX1_worstBy_1 : cX1_worstBy.data.toList.drop 22 = dktX1_worstBy_1 := dk_seg dksX1_worstBy_0 22 rfl rfl
theorem dksX1_worstBy_2 : cX1_worstBy.data.toList.drop 44 = dktX1_worstBy_2 := dk_seg dksX1_worstBy_1 22 rfl rfl
theorem dX1_worstBy_0 : decode cX1_worstBy 0 = .ok (.aload_n 0, 1) := dk_42 (dk_at dksX1_worstBy_0 0 rfl rfl)
theorem dX1_worstBy_1 : decode cX1_worstBy 1 = .ok (.getfield 1, 3) := dk_180 0 1 (dk_at dksX1_worstBy_0 1 rfl rfl)
theorem dX1_worstBy_4 : decode cX1_worstBy 4 = .ok (.getfield 7, 3) := dk_180 0 7 (dk_at dksX1_worstBy_0 4 rfl rfl)
theorem dX1_worstBy_7 : decode cX1_worstBy 7 = .ok (.istore_n 3, 1) := dk_62 (dk_at dksX1_worstBy_0 7 rfl rfl)
theorem dX1_worstBy_8 : decode cX1_worstBy 8 = .ok (.aload_n 0, 1) := dk_42 (dk_at dksX1_worstBy_0 8 rfl rfl)
theorem dX1_worstBy_9 : decode cX1_worstBy 9 = .ok (.getfield 1, 3) := dk_180 0 1 (dk_at dksX1_worstBy_0 9 rfl rfl)
theorem dX1_worstBy_12 : decode cX1_worstBy 12 = .ok (.iload_n 1, 1) := dk_27 (dk_at dksX1_worstBy_0 12 rfl rfl)
theorem dX1_worstBy_13 : decode cX1_worstBy 13 = .ok (.putfield 7, 3) := dk_181 0 7 (dk_at dksX1_worstBy_0 13 rfl rfl)
theorem dX1_worstBy_16 : decode cX1_worstBy 16 = .ok (.aload_n 0, 1) := dk_42 (dk_at dksX1_worstBy_0 16 rfl rfl)
theorem dX1_worstBy_17 : decode cX1_worstBy 17 = .ok (.invokevirtual 62, 3) := dk_182 0 62 (dk_at dksX1_worstBy_0 17 rfl rfl)
theorem dX1_worstBy_20 : decode cX1_worstBy 20 = .ok (.aload_n 0, 1) := dk_42 (dk_at dksX1_worstBy_0 20 rfl rfl)
theorem dX1_worstBy_21 : decode cX1_worstBy 21 = .ok (.iload_n 2, 1) := dk_28 (dk_at dksX1_worstBy_0 21 rfl rfl)
theorem dX1_worstBy_22 : decode cX1_worstBy 22 = .ok (.invokevirtual 386, 3) := dk_182 1 130 (dk_at dksX1_worstBy_1 0 rfl rfl)
theorem dX1_worstBy_25 : decode cX1_worstBy 25 = .ok (.astore 4, 2) := dk_58 4 (dk_at dksX1_worstBy_1 3 rfl rfl)
theorem dX1_worstBy_27 : decode cX1_worstBy 27 = .ok (.aload_n 0, 1) := dk_42 (dk_at dksX1_worstBy_1 5 rfl rfl)
theorem dX1_worstBy_28 : decode cX1_worstBy 28 = .ok (.getfield 1, 3) := dk_180 0 1 (dk_at dksX1_worstBy_1 6 rfl rfl)
theorem dX1_worstBy_31 : decode cX1_worstBy 31 = .ok (.iload_n 3, 1) := dk_29 (dk_at dksX1_worstBy_1 9 rfl rfl)
theorem dX1_worstBy_32 : decode cX1_worstBy 32 = .ok (.putfield 7, 3) := dk_181 0 7 (dk_at dksX1_worstBy_1 10 rfl rfl)
theorem dX1_worstBy_35 : decode cX1_worstBy 35 = .ok (.aload 4, 2) := dk_25 4 (dk_at dksX1_worstBy_1 13 rfl rfl)
theorem dX1_worstBy_37 : decode cX1_worstBy 37 = .ok (.areturn, 1) := dk_176 (dk_at dksX1_worstBy_1 15 rfl rfl)
theorem dX1_worstBy_38 : decode cX1_worstBy 38 = .ok (.astore 4, 2) := dk_58 4 (dk_at dksX1_worstBy_1 16 rfl rfl)
theorem dX1_worstBy_40 : decode cX1_worstBy 40 = .ok (.aconst_null, 1) := dk_1 (dk_at dksX1_worstBy_1 18 rfl rfl)
theorem dX1_worstBy_41 : decode cX1_worstBy 41 = .ok (.astore 5, 2) := dk_58 5 (dk_at dksX1_worstBy_1 19 rfl rfl)
theorem dX1_worstBy_43 : decode cX1_worstBy 43 = .ok (.aload_n 0, 1) := dk_42 (dk_at dksX1_worstBy_1 21 rfl rfl)
theorem dX1_worstBy_44 : decode cX1_worstBy 44 = .ok (.getfield 1, 3) := dk_180 0 1 (dk_at dksX1_worstBy_2 0 rfl rfl)
theorem dX1_worstBy_47 : decode cX1_worstBy 47 = .ok (.iload_n 3, 1) := dk_29 (dk_at dksX1_worstBy_2 3 rfl rfl)
theorem dX1_worstBy_48 : decode cX1_worstBy 48 = .ok (.putfield 7, 3) := dk_181 0 7 (dk_at dksX1_worstBy_2 4 rfl rfl)
theorem dX1_worstBy_51 : decode cX1_worstBy 51 = .ok (.aload 5, 2) := dk_25 5 (dk_at dksX1_worstBy_2 7 rfl rfl)
theorem dX1_worstBy_53 : decode cX1_worstBy 53 = .ok (.areturn, 1) := dk_176 (dk_at dksX1_worstBy_2 9 rfl rfl)
theorem dX1_worstBy_54 : decode cX1_worstBy 54 = .ok (.astore 6, 2) := dk_58 6 (dk_at dksX1_worstBy_2 10 rfl rfl)
theorem dX1_worstBy_56 : decode cX1_worstBy 56 = .ok (.aload_n 0, 1) := dk_42 (dk_at dksX1_worstBy_2 12 rfl rfl)
theorem dX1_worstBy_57 : decode cX1_worstBy 57 = .ok (.getfield 1, 3) := dk_180 0 1 (dk_at dksX1_worstBy_2 13 rfl rfl)
theorem dX1_worstBy_60 : decode cX1_worstBy 60 = .ok (.iload_n 3, 1) := dk_29 (dk_at dksX1_worstBy_2 16 rfl rfl)
theorem dX1_worstBy_61 : decode cX1_worstBy 61 = .ok (.putfield 7, 3) := dk_181 0 7 (dk_at dksX1_worstBy_2 17 rfl rfl)
theorem dX1_worstBy_64 : decode cX1_worstBy 64 = .ok (.aload 6, 2) := dk_25 6 (dk_at dksX1_worstBy_2 20 rfl rfl)
theorem dX1_worstBy_66 : decode cX1_worstBy 66 = .ok (.athrow, 1) := dk_191 (dk_at dksX1_worstBy_2 22 rfl rfl)
def dkwX1_worstOf_1 : List UInt8 := [50, 28, 185, 0, 125, 2, 0, 20, 0, 99, 42, 180, 0, 44, 105, 183, 0, 74, 176]
abbrev dktX1_worstOf_1 : List UInt8 := dkwX1_worstOf_1 ++ []
def dkwX1_worstOf_0 : List UInt8 := [42, 27, 182, 0, 129, 61, 187, 0, 68, 89, 28, 2, 160, 0, 7, 9, 167, 0, 15, 42, 180, 0, 118, 27]
abbrev dktX1_worstOf_0 : List UInt8 := dkwX1_worstOf_0 ++ dktX1_worstOf_1
theorem dksX1_worstOf_0 : cX1_worstOf.data.toList.drop 0 = dktX1_worstOf_0 := by decide +kernel
theorem dksX1_worstOf_1 : cX1_worstOf.data.toList.drop 24 = dktX1_worstOf_1 := dk_seg dksX1_worstOf_0 24 rfl rfl
theorem dX1_worstOf_0 : decode cX1_worstOf 0 = .ok (.aload_n 0, 1) := dk_42 (dk_at dksX1_worstOf_0 0 rfl rfl)
theorem dX1_worstOf_1 : decode cX1_worstOf 1 = .ok (.iload_n 1, 1) := dk_27 (dk_at dksX1_worstOf_0 1 rfl rfl)
theorem dX1_worstOf_2 : decode cX1_worstOf 2 = .ok (.invokevirtual 129, 3) := dk_182 0 129 (dk_at dksX1_worstOf_0 2 rfl rfl)
theorem dX1_worstOf_5 : decode cX1_worstOf 5 = .ok (.istore_n 2, 1) := dk_61 (dk_at dksX1_worstOf_0 5 rfl rfl)
theorem dX1_worstOf_6 : decode cX1_worstOf 6 = .ok (.new 68, 3) := dk_187 0 68 (dk_at dksX1_worstOf_0 6 rfl rfl)
theorem dX1_worstOf_9 : decode cX1_worstOf 9 = .ok (.dup, 1) := dk_89 (dk_at dksX1_worstOf_0 9 rfl rfl)
theorem dX1_worstOf_10 : decode cX1_worstOf 10 = .ok (.iload_n 2, 1) := dk_28 (dk_at dksX1_worstOf_0 10 rfl rfl)
theorem dX1_worstOf_11 : decode cX1_worstOf 11 = .ok (.iconst (-1), 1) := dk_2 (dk_at dksX1_worstOf_0 11 rfl rfl)
theorem dX1_worstOf_12 : decode cX1_worstOf 12 = .ok (.if_icmp .ne 7, 3) := dk_160 0 7 (dk_at dksX1_worstOf_0 12 rfl rfl)
theorem dX1_worstOf_15 : decode cX1_worstOf 15 = .ok (.lconst 0, 1) := dk_9 (dk_at dksX1_worstOf_0 15 rfl rfl)
theorem dX1_worstOf_16 : decode cX1_worstOf 16 = .ok (.goto 15, 3) := dk_167 0 15 (dk_at dksX1_worstOf_0 16 rfl rfl)
theorem dX1_worstOf_19 : decode cX1_worstOf 19 = .ok (.aload_n 0, 1) := dk_42 (dk_at dksX1_worstOf_0 19 rfl rfl)
theorem dX1_worstOf_20 : decode cX1_worstOf 20 = .ok (.getfield 118, 3) := dk_180 0 118 (dk_at dksX1_worstOf_0 20 rfl rfl)
theorem dX1_worstOf_23 : decode cX1_worstOf 23 = .ok (.iload_n 1, 1) := dk_27 (dk_at dksX1_worstOf_0 23 rfl rfl)
theorem dX1_worstOf_24 : decode cX1_worstOf 24 = .ok (.aaload, 1) := dk_50 (dk_at dksX1_worstOf_1 0 rfl rfl)
theorem dX1_worstOf_25 : decode cX1_worstOf 25 = .ok (.iload_n 2, 1) := dk_28 (dk_at dksX1_worstOf_1 1 rfl rfl)
theorem dX1_worstOf_26 : decode cX1_worstOf 26 = .ok (.invokeinterface 125 2, 5) := by decide +kernel
theorem dX1_worstOf_31 : decode cX1_worstOf 31 = .ok (.ldc2_w 99, 3) := dk_20 0 99 (dk_at dksX1_worstOf_1 7 rfl rfl)
theorem dX1_worstOf_34 : decode cX1_worstOf 34 = .ok (.aload_n 0, 1) := dk_42 (dk_at dksX1_worstOf_1 10 rfl rfl)
theorem dX1_worstOf_35 : decode cX1_worstOf 35 = .ok (.getfield 44, 3) := dk_180 0 44 (dk_at dksX1_worstOf_1 11 rfl rfl)
theorem dX1_worstOf_38 : decode cX1_worstOf 38 = .ok (.lmul, 1) := dk_105 (dk_at dksX1_worstOf_1 14 rfl rfl)
theorem dX1_worstOf_39 : decode cX1_worstOf 39 = .ok (.invokespecial 74, 3) := dk_183 0 74 (dk_at dksX1_worstOf_1 15 rfl rfl)
theorem dX1_worstOf_42 : decode cX1_worstOf 42 = .ok (.areturn, 1) := dk_176 (dk_at dksX1_worstOf_1 18 rfl rfl)
def dkwX1_free_5 : List UInt8 := [21, 4, 4, 84, 132, 2, 1, 132, 4, 1, 167, 255, 200, 167, 255, 187, 28, 172]
abbrev dktX1_free_5 : List UInt8 := dkwX1_free_5 ++ []
def dkwX1_free_4 : List UInt8 := [20, 0, 132, 27, 133, 105, 42, 180, 0, 44, 105, 182, 1, 126, 154, 0, 6, 167, 0, 14, 42, 180, 0, 168]
abbrev dktX1_free_4 : List UInt8 := dkwX1_free_4 ++ dktX1_free_5
def dkwX1_free_3 : List UInt8 := [54, 4, 21, 4, 42, 182, 0, 122, 162, 0, 53, 42, 180, 0, 168, 21, 4, 51, 154, 0, 37, 42, 21, 4]
abbrev dktX1_free_3 : List UInt8 := dkwX1_free_3 ++ dktX1_free_4
def dkwX1_free_2 : List UInt8 := [4, 167, 0, 4, 3, 96, 61, 132, 3, 1, 167, 255, 217, 3, 62, 29, 28, 159, 0, 70, 28, 62, 3]
abbrev dktX1_free_2 : List UInt8 := dkwX1_free_2 ++ dktX1_free_3
def dkwX1_free_1 : List UInt8 := [162, 0, 37, 42, 180, 0, 168, 29, 42, 29, 182, 1, 123, 84, 28, 42, 180, 0, 168, 29, 51, 153, 0, 7]
abbrev dktX1_free_1 : List UInt8 := dkwX1_free_1 ++ dktX1_free_2
def dkwX1_free_0 : List UInt8 := [27, 3, 17, 39, 15, 184, 0, 253, 184, 0, 211, 42, 182, 1, 50, 3, 61, 3, 62, 29, 42, 182, 0, 122]
abbrev dktX1_free_0 : List UInt8 := dkwX1_free_0 ++ dktX1_free_1
theorem dksX1_free_0 : cX1_free.data.toList.drop 0 = dktX1_free_0 := by decide +kernel
theorem dksX1_free_1 : cX1_free.data.toList.drop 24 = dktX1_free_1 := dk_seg dksX1_free_0 24 rfl rfl
theorem dksX1_free_2 : cX1_free.data.toList.drop 48 = dktX1_free_2 := dk_seg dksX1_free_1 24 rfl rfl
theorem dksX1_free_3 : cX1_free.data.toList.drop 71 = dktX1_free_3 := dk_seg dksX1_free_2 23 rfl rfl
theorem dksX1_free_4 : cX1_free.data.toList.drop 95 = dktX1_free_4 := dk_seg dksX1_free_3 24 rfl rfl
theorem dksX1_free_5 : cX1_free.data.toList.drop 119 = dktX1_free_5 := dk_seg dksX1_free_4 24 rfl rfl
theorem dX1_free_0 : decode cX1_free 0 = .ok (.iload_n 1, 1) := dk_27 (dk_at dksX1_free_0 0 rfl rfl)
theorem dX1_free_1 : decode cX1_free 1 = .ok (.iconst 0, 1) := dk_3 (dk_at dksX1_free_0 1 rfl rfl)
theorem dX1_free_2 : decode cX1_free 2 = .ok (.sipush 9999, 3) := dk_17 39 15 (dk_at dksX1_free_0 2 rfl rfl)
theorem dX1_free_5 : decode cX1_free 5 = .ok (.invokestatic 253, 3) := dk_184 0 253 (dk_at dksX1_free_0 5 rfl rfl)
theorem dX1_free_8 : decode cX1_free 8 = .ok (.invokestatic 211, 3) := dk_184 0 211 (dk_at dksX1_free_0 8 rfl rfl)
theorem dX1_free_11 : decode cX1_free 11 = .ok (.aload_n 0, 1) := dk_42 (dk_at dksX1_free_0 11 rfl rfl)
theorem dX1_free_12 : decode cX1_free 12 = .ok (.invokevirtual 306, 3) := dk_182 1 50 (dk_at dksX1_free_0 12 rfl rfl)
theorem dX1_free_15 : decode cX1_free 15 = .ok (.iconst 0, 1) := dk_3 (dk_at dksX1_free_0 15 rfl rfl)
theorem dX1_free_16 : decode cX1_free 16 = .ok (.istore_n 2, 1) := dk_61 (dk_at dksX1_free_0 16 rfl rfl)
theorem dX1_free_17 : decode cX1_free 17 = .ok (.iconst 0, 1) := dk_3 (dk_at dksX1_free_0 17 rfl rfl)
theorem dX1_free_18 : decode cX1_free 18 = .ok (.istore_n 3, 1) := dk_62 (dk_at dksX1_free_0 18 rfl rfl)
theorem dX1_free_19 : decode cX1_free 19 = .ok (.iload_n 3, 1) := dk_29 (dk_at dksX1_free_0 19 rfl rfl)
theorem dX1_free_20 : decode cX1_free 20 = .ok (.aload_n 0, 1) := dk_42 (dk_at dksX1_free_0 20 rfl rfl)
theorem dX1_free_21 : decode cX1_free 21 = .ok (.invokevirtual 122, 3) := dk_182 0 122 (dk_at dksX1_free_0 21 rfl rfl)
theorem dX1_free_24 : decode cX1_free 24 = .ok (.if_icmp .ge 37, 3) := dk_162 0 37 (dk_at dksX1_free_1 0 rfl rfl)
theorem dX1_free_27 : decode cX1_free 27 = .ok (.aload_n 0, 1) := dk_42 (dk_at dksX1_free_1 3 rfl rfl)
theorem dX1_free_28 : decode cX1_free 28 = .ok (.getfield 168, 3) := dk_180 0 168 (dk_at dksX1_free_1 4 rfl rfl)
theorem dX1_free_31 : decode cX1_free 31 = .ok (.iload_n 3, 1) := dk_29 (dk_at dksX1_free_1 7 rfl rfl)
theorem dX1_free_32 : decode cX1_free 32 = .ok (.aload_n 0, 1) := dk_42 (dk_at dksX1_free_1 8 rfl rfl)
theorem dX1_free_33 : decode cX1_free 33 = .ok (.iload_n 3, 1) := dk_29 (dk_at dksX1_free_1 9 rfl rfl)
theorem dX1_free_34 : decode cX1_free 34 = .ok (.invokevirtual 379, 3) := dk_182 1 123 (dk_at dksX1_free_1 10 rfl rfl)
theorem dX1_free_37 : decode cX1_free 37 = .ok (.bastore, 1) := dk_84 (dk_at dksX1_free_1 13 rfl rfl)
theorem dX1_free_38 : decode cX1_free 38 = .ok (.iload_n 2, 1) := dk_28 (dk_at dksX1_free_1 14 rfl rfl)
theorem dX1_free_39 : decode cX1_free 39 = .ok (.aload_n 0, 1) := dk_42 (dk_at dksX1_free_1 15 rfl rfl)
theorem dX1_free_40 : decode cX1_free 40 = .ok (.getfield 168, 3) := dk_180 0 168 (dk_at dksX1_free_1 16 rfl rfl)
theorem dX1_free_43 : decode cX1_free 43 = .ok (.iload_n 3, 1) := dk_29 (dk_at dksX1_free_1 19 rfl rfl)
theorem dX1_free_44 : decode cX1_free 44 = .ok (.baload, 1) := dk_51 (dk_at dksX1_free_1 20 rfl rfl)
theorem dX1_free_45 : decode cX1_free 45 = .ok (.ifCond .eq 7, 3) := dk_153 0 7 (dk_at dksX1_free_1 21 rfl rfl)
theorem dX1_free_48 : decode cX1_free 48 = .ok (.iconst 1, 1) := dk_4 (dk_at dksX1_free_2 0 rfl rfl)
theorem dX1_free_49 : decode cX1_free 49 = .ok (.goto 4, 3) := dk_167 0 4 (dk_at dksX1_free_2 1 rfl rfl)
theorem dX1_free_52 : decode cX1_free 52 = .ok (.iconst 0, 1) := dk_3 (dk_at dksX1_free_2 4 rfl rfl)
theorem dX1_free_53 : decode cX1_free 53 = .ok (.iadd, 1) := dk_96 (dk_at dksX1_free_2 5 rfl rfl)
theorem dX1_free_54 : decode cX1_free 54 = .ok (.istore_n 2, 1) := dk_61 (dk_at dksX1_free_2 6 rfl rfl)
theorem dX1_free_55 : decode cX1_free 55 = .ok (.iinc 3 1, 3) := dk_132 3 1 (dk_at dksX1_free_2 7 rfl rfl)
theorem dX1_free_58 : decode cX1_free 58 = .ok (.goto (-39), 3) := dk_167 255 217 (dk_at dksX1_free_2 10 rfl rfl)
theorem dX1_free_61 : decode cX1_free 61 = .ok (.iconst 0, 1) := dk_3 (dk_at dksX1_free_2 13 rfl rfl)
theorem dX1_free_62 : decode cX1_free 62 = .ok (.istore_n 3, 1) := dk_62 (dk_at dksX1_free_2 14 rfl rfl)
theorem dX1_free_63 : decode cX1_free 63 = .ok (.iload_n 3, 1) := dk_29 (dk_at dksX1_free_2 15 rfl rfl)
theorem dX1_free_64 : decode cX1_free 64 = .ok (.iload_n 2, 1) := dk_28 (dk_at dksX1_free_2 16 rfl rfl)
theorem dX1_free_65 : decode cX1_free 65 = .ok (.if_icmp .eq 70, 3) := dk_159 0 70 (dk_at dksX1_free_2 17 rfl rfl)
theorem dX1_free_68 : decode cX1_free 68 = .ok (.iload_n 2, 1) := dk_28 (dk_at dksX1_free_2 20 rfl rfl)
theorem dX1_free_69 : decode cX1_free 69 = .ok (.istore_n 3, 1) := dk_62 (dk_at dksX1_free_2 21 rfl rfl)
theorem dX1_free_70 : decode cX1_free 70 = .ok (.iconst 0, 1) := dk_3 (dk_at dksX1_free_2 22 rfl rfl)
theorem dX1_free_71 : decode cX1_free 71 = .ok (.istore 4, 2) := dk_54 4 (dk_at dksX1_free_3 0 rfl rfl)
theorem dX1_free_73 : decode cX1_free 73 = .ok (.iload 4, 2) := dk_21 4 (dk_at dksX1_free_3 2 rfl rfl)
theorem dX1_free_75 : decode cX1_free 75 = .ok (.aload_n 0, 1) := dk_42 (dk_at dksX1_free_3 4 rfl rfl)
theorem dX1_free_76 : decode cX1_free 76 = .ok (.invokevirtual 122, 3) := dk_182 0 122 (dk_at dksX1_free_3 5 rfl rfl)
theorem dX1_free_79 : decode cX1_free 79 = .ok (.if_icmp .ge 53, 3) := dk_162 0 53 (dk_at dksX1_free_3 8 rfl rfl)
theorem dX1_free_82 : decode cX1_free 82 = .ok (.aload_n 0, 1) := dk_42 (dk_at dksX1_free_3 11 rfl rfl)
theorem dX1_free_83 : decode cX1_free 83 = .ok (.getfield 168, 3) := dk_180 0 168 (dk_at dksX1_free_3 12 rfl rfl)
theorem dX1_free_86 : decode cX1_free 86 = .ok (.iload 4, 2) := dk_21 4 (dk_at dksX1_free_3 15 rfl rfl)
theorem dX1_free_88 : decode cX1_free 88 = .ok (.baload, 1) := dk_51 (dk_at dksX1_free_3 17 rfl rfl)
theorem dX1_free_89 : decode cX1_free 89 = .ok (.ifCond .ne 37, 3) := dk_154 0 37 (dk_at dksX1_free_3 18 rfl rfl)
theorem dX1_free_92 : decode cX1_free 92 = .ok (.aload_n 0, 1) := dk_42 (dk_at dksX1_free_3 21 rfl rfl)
theorem dX1_free_93 : decode cX1_free 93 = .ok (.iload 4, 2) := dk_21 4 (dk_at dksX1_free_3 22 rfl rfl)
theorem dX1_free_95 : decode cX1_free 95 = .ok (.ldc2_w 132, 3) := dk_20 0 132 (dk_at dksX1_free_4 0 rfl rfl)
theorem dX1_free_98 : decode cX1_free 98 = .ok (.iload_n 1, 1) := dk_27 (dk_at dksX1_free_4 3 rfl rfl)
theorem dX1_free_99 : decode cX1_free 99 = .ok (.i2l, 1) := dk_133 (dk_at dksX1_free_4 4 rfl rfl)
theorem dX1_free_100 : decode cX1_free 100 = .ok (.lmul, 1) := dk_105 (dk_at dksX1_free_4 5 rfl rfl)
theorem dX1_free_101 : decode cX1_free 101 = .ok (.aload_n 0, 1) := dk_42 (dk_at dksX1_free_4 6 rfl rfl)
theorem dX1_free_102 : decode cX1_free 102 = .ok (.getfield 44, 3) := dk_180 0 44 (dk_at dksX1_free_4 7 rfl rfl)
theorem dX1_free_105 : decode cX1_free 105 = .ok (.lmul, 1) := dk_105 (dk_at dksX1_free_4 10 rfl rfl)
theorem dX1_free_106 : decode cX1_free 106 = .ok (.invokevirtual 382, 3) := dk_182 1 126 (dk_at dksX1_free_4 11 rfl rfl)
theorem dX1_free_109 : decode cX1_free 109 = .ok (.ifCond .ne 6, 3) := dk_154 0 6 (dk_at dksX1_free_4 14 rfl rfl)
theorem dX1_free_112 : decode cX1_free 112 = .ok (.goto 14, 3) := dk_167 0 14 (dk_at dksX1_free_4 17 rfl rfl)
theorem dX1_free_115 : decode cX1_free 115 = .ok (.aload_n 0, 1) := dk_42 (dk_at dksX1_free_4 20 rfl rfl)
theorem dX1_free_116 : decode cX1_free 116 = .ok (.getfield 168, 3) := dk_180 0 168 (dk_at dksX1_free_4 21 rfl rfl)
theorem dX1_free_119 : decode cX1_free 119 = .ok (.iload 4, 2) := dk_21 4 (dk_at dksX1_free_5 0 rfl rfl)
theorem dX1_free_121 : decode cX1_free 121 = .ok (.iconst 1, 1) := dk_4 (dk_at dksX1_free_5 2 rfl rfl)
theorem dX1_free_122 : decode cX1_free 122 = .ok (.bastore, 1) := dk_84 (dk_at dksX1_free_5 3 rfl rfl)
theorem dX1_free_123 : decode cX1_free 123 = .ok (.iinc 2 1, 3) := dk_132 2 1 (dk_at dksX1_free_5 4 rfl rfl)
theorem dX1_free_126 : decode cX1_free 126 = .ok (.iinc 4 1, 3) := dk_132 4 1 (dk_at dksX1_free_5 7 rfl rfl)
theorem dX1_free_129 : decode cX1_free 129 = .ok (.goto (-56), 3) := dk_167 255 200 (dk_at dksX1_free_5 10 rfl rfl)
theorem dX1_free_132 : decode cX1_free 132 = .ok (.goto (-69), 3) := dk_167 255 187 (dk_at dksX1_free_5 13 rfl rfl)
theorem dX1_free_135 : decode cX1_free 135 = .ok (.iload_n 2, 1) := dk_28 (dk_at dksX1_free_5 16 rfl rfl)
theorem dX1_free_136 : decode cX1_free 136 = .ok (.ireturn, 1) := dk_172 (dk_at dksX1_free_5 17 rfl rfl)
def dkwX1_isRim_2 : List UInt8 := [167, 0, 4, 3, 172]
abbrev dktX1_isRim_2 : List UInt8 := dkwX1_isRim_2 ++ []
def dkwX1_isRim_1 : List UInt8 := [182, 0, 80, 4, 100, 159, 0, 18, 29, 5, 42, 180, 0, 1, 180, 0, 83, 104, 5, 100, 160, 0, 7, 4]
abbrev dktX1_isRim_1 : List UInt8 := dkwX1_isRim_1 ++ dktX1_isRim_2
def dkwX1_isRim_0 : List UInt8 := [27, 42, 182, 0, 80, 112, 61, 27, 42, 182, 0, 80, 108, 62, 28, 153, 0, 32, 29, 153, 0, 28, 28, 42]
abbrev dktX1_isRim_0 : List UInt8 := dkwX1_isRim_0 ++ dktX1_isRim_1
theorem dksX1_isRim_0 : cX1_isRim.data.toList.drop 0 = dktX1_isRim_0 := by decide +kernel
theorem dksX1_isRim_1 : cX1_isRim.data.toList.drop 24 = dktX1_isRim_1 := dk_seg dksX1_isRim_0 24 rfl rfl
theorem dksX1_isRim_2 : cX1_isRim.data.toList.drop 48 = dktX1_isRim_2 := dk_seg dksX1_isRim_1 24 rfl rfl
theorem dX1_isRim_0 : decode cX1_isRim 0 = .ok (.iload_n 1, 1) := dk_27 (dk_at dksX1_isRim_0 0 rfl rfl)
theorem dX1_isRim_1 : decode cX1_isRim 1 = .ok (.aload_n 0, 1) := dk_42 (dk_at dksX1_isRim_0 1 rfl rfl)
theorem dX1_isRim_2 : decode cX1_isRim 2 = .ok (.invokevirtual 80, 3) := dk_182 0 80 (dk_at dksX1_isRim_0 2 rfl rfl)
theorem dX1_isRim_5 : decode cX1_isRim 5 = .ok (.irem, 1) := dk_112 (dk_at dksX1_isRim_0 5 rfl rfl)
theorem dX1_isRim_6 : decode cX1_isRim 6 = .ok (.istore_n 2, 1) := dk_61 (dk_at dksX1_isRim_0 6 rfl rfl)
theorem dX1_isRim_7 : decode cX1_isRim 7 = .ok (.iload_n 1, 1) := dk_27 (dk_at dksX1_isRim_0 7 rfl rfl)
theorem dX1_isRim_8 : decode cX1_isRim 8 = .ok (.aload_n 0, 1) := dk_42 (dk_at dksX1_isRim_0 8 rfl rfl)
theorem dX1_isRim_9 : decode cX1_isRim 9 = .ok (.invokevirtual 80, 3) := dk_182 0 80 (dk_at dksX1_isRim_0 9 rfl rfl)
theorem dX1_isRim_12 : decode cX1_isRim 12 = .ok (.idiv, 1) := dk_108 (dk_at dksX1_isRim_0 12 rfl rfl)
theorem dX1_isRim_13 : decode cX1_isRim 13 = .ok (.istore_n 3, 1) := dk_62 (dk_at dksX1_isRim_0 13 rfl rfl)
theorem dX1_isRim_14 : decode cX1_isRim 14 = .ok (.iload_n 2, 1) := dk_28 (dk_at dksX1_isRim_0 14 rfl rfl)
theorem dX1_isRim_15 : decode cX1_isRim 15 = .ok (.ifCond .eq 32, 3) := dk_153 0 32 (dk_at dksX1_isRim_0 15 rfl rfl)
theorem dX1_isRim_18 : decode cX1_isRim 18 = .ok (.iload_n 3, 1) := dk_29 (dk_at dksX1_isRim_0 18 rfl rfl)
theorem dX1_isRim_19 : decode cX1_isRim 19 = .ok (.ifCond .eq 28, 3) := dk_153 0 28 (dk_at dksX1_isRim_0 19 rfl rfl)
theorem dX1_isRim_22 : decode cX1_isRim 22 = .ok (.iload_n 2, 1) := dk_28 (dk_at dksX1_isRim_0 22 rfl rfl)
theorem dX1_isRim_23 : decode cX1_isRim 23 = .ok (.aload_n 0, 1) := dk_42 (dk_at dksX1_isRim_0 23 rfl rfl)
theorem dX1_isRim_24 : decode cX1_isRim 24 = .ok (.invokevirtual 80, 3) := dk_182 0 80 (dk_at dksX1_isRim_1 0 rfl rfl)
theorem dX1_isRim_27 : decode cX1_isRim 27 = .ok (.iconst 1, 1) := dk_4 (dk_at dksX1_isRim_1 3 rfl rfl)
theorem dX1_isRim_28 : decode cX1_isRim 28 = .ok (.isub, 1) := dk_100 (dk_at dksX1_isRim_1 4 rfl rfl)
theorem dX1_isRim_29 : decode cX1_isRim 29 = .ok (.if_icmp .eq 18, 3) := dk_159 0 18 (dk_at dksX1_isRim_1 5 rfl rfl)
theorem dX1_isRim_32 : decode cX1_isRim 32 = .ok (.iload_n 3, 1) := dk_29 (dk_at dksX1_isRim_1 8 rfl rfl)
theorem dX1_isRim_33 : decode cX1_isRim 33 = .ok (.iconst 2, 1) := dk_5 (dk_at dksX1_isRim_1 9 rfl rfl)
theorem dX1_isRim_34 : decode cX1_isRim 34 = .ok (.aload_n 0, 1) := dk_42 (dk_at dksX1_isRim_1 10 rfl rfl)
theorem dX1_isRim_35 : decode cX1_isRim 35 = .ok (.getfield 1, 3) := dk_180 0 1 (dk_at dksX1_isRim_1 11 rfl rfl)
theorem dX1_isRim_38 : decode cX1_isRim 38 = .ok (.getfield 83, 3) := dk_180 0 83 (dk_at dksX1_isRim_1 14 rfl rfl)
theorem dX1_isRim_41 : decode cX1_isRim 41 = .ok (.imul, 1) := dk_104 (dk_at dksX1_isRim_1 17 rfl rfl)
theorem dX1_isRim_42 : decode cX1_isRim 42 = .ok (.iconst 2, 1) := dk_5 (dk_at dksX1_isRim_1 18 rfl rfl)
theorem dX1_isRim_43 : decode cX1_isRim 43 = .ok (.isub, 1) := dk_100 (dk_at dksX1_isRim_1 19 rfl rfl)
theorem dX1_isRim_44 : decode cX1_isRim 44 = .ok (.if_icmp .ne 7, 3) := dk_160 0 7 (dk_at dksX1_isRim_1 20 rfl rfl)
theorem dX1_isRim_47 : decode cX1_isRim 47 = .ok (.iconst 1, 1) := dk_4 (dk_at dksX1_isRim_1 23 rfl rfl)
theorem dX1_isRim_48 : decode cX1_isRim 48 = .ok (.goto 4, 3) := dk_167 0 4 (dk_at dksX1_isRim_2 0 rfl rfl)
theorem dX1_isRim_51 : decode cX1_isRim 51 = .ok (.iconst 0, 1) := dk_3 (dk_at dksX1_isRim_2 3 rfl rfl)
theorem dX1_isRim_52 : decode cX1_isRim 52 = .ok (.ireturn, 1) := dk_172 (dk_at dksX1_isRim_2 4 rfl rfl)
def dkwX1_doesCome_2 : List UInt8 := [172, 132, 4, 1, 167, 255, 209, 3, 172]
abbrev dktX1_doesCome_2 : List UInt8 := dkwX1_doesCome_2 ++ []
def dkwX1_doesCome_1 : List UInt8 := [180, 0, 168, 21, 4, 51, 153, 0, 19, 22, 5, 9, 148, 155, 0, 12, 22, 5, 32, 148, 157, 0, 5, 4]
abbrev dktX1_doesCome_1 : List UInt8 := dkwX1_doesCome_1 ++ dktX1_doesCome_2
def dkwX1_doesCome_0 : List UInt8 := [3, 54, 4, 21, 4, 42, 182, 0, 122, 162, 0, 44, 42, 27, 21, 4, 182, 1, 96, 55, 5, 42]
abbrev dktX1_doesCome_0 : List UInt8 := dkwX1_doesCome_0 ++ dktX1_doesCome_1
theorem dksX1_doesCome_0 : cX1_doesCome.data.toList.drop 0 = dktX1_doesCome_0 := by decide +kernel
theorem dksX1_doesCome_1 : cX1_doesCome.data.toList.drop 22 = dktX1_doesCome_1 := dk_seg dksX1_doesCome_0 22 rfl rfl
theorem dksX1_doesCome_2 : cX1_doesCome.data.toList.drop 46 = dktX1_doesCome_2 := dk_seg dksX1_doesCome_1 24 rfl rfl
theorem dX1_doesCome_0 : decode cX1_doesCome 0 = .ok (.iconst 0, 1) := dk_3 (dk_at dksX1_doesCome_0 0 rfl rfl)
theorem dX1_doesCome_1 : decode cX1_doesCome 1 = .ok (.istore 4, 2) := dk_54 4 (dk_at dksX1_doesCome_0 1 rfl rfl)
theorem dX1_doesCome_3 : decode cX1_doesCome 3 = .ok (.iload 4, 2) := dk_21 4 (dk_at dksX1_doesCome_0 3 rfl rfl)
theorem dX1_doesCome_5 : decode cX1_doesCome 5 = .ok (.aload_n 0, 1) := dk_42 (dk_at dksX1_doesCome_0 5 rfl rfl)
theorem dX1_doesCome_6 : decode cX1_doesCome 6 = .ok (.invokevirtual 122, 3) := dk_182 0 122 (dk_at dksX1_doesCome_0 6 rfl rfl)
theorem dX1_doesCome_9 : decode cX1_doesCome 9 = .ok (.if_icmp .ge 44, 3) := dk_162 0 44 (dk_at dksX1_doesCome_0 9 rfl rfl)
theorem dX1_doesCome_12 : decode cX1_doesCome 12 = .ok (.aload_n 0, 1) := dk_42 (dk_at dksX1_doesCome_0 12 rfl rfl)
theorem dX1_doesCome_13 : decode cX1_doesCome 13 = .ok (.iload_n 1, 1) := dk_27 (dk_at dksX1_doesCome_0 13 rfl rfl)
theorem dX1_doesCome_14 : decode cX1_doesCome 14 = .ok (.iload 4, 2) := dk_21 4 (dk_at dksX1_doesCome_0 14 rfl rfl)
theorem dX1_doesCome_16 : decode cX1_doesCome 16 = .ok (.invokevirtual 352, 3) := dk_182 1 96 (dk_at dksX1_doesCome_0 16 rfl rfl)
theorem dX1_doesCome_19 : decode cX1_doesCome 19 = .ok (.lstore 5, 2) := dk_55 5 (dk_at dksX1_doesCome_0 19 rfl rfl)
theorem dX1_doesCome_21 : decode cX1_doesCome 21 = .ok (.aload_n 0, 1) := dk_42 (dk_at dksX1_doesCome_0 21 rfl rfl)
theorem dX1_doesCome_22 : decode cX1_doesCome 22 = .ok (.getfield 168, 3) := dk_180 0 168 (dk_at dksX1_doesCome_1 0 rfl rfl)
theorem dX1_doesCome_25 : decode cX1_doesCome 25 = .ok (.iload 4, 2) := dk_21 4 (dk_at dksX1_doesCome_1 3 rfl rfl)
theorem dX1_doesCome_27 : decode cX1_doesCome 27 = .ok (.baload, 1) := dk_51 (dk_at dksX1_doesCome_1 5 rfl rfl)
theorem dX1_doesCome_28 : decode cX1_doesCome 28 = .ok (.ifCond .eq 19, 3) := dk_153 0 19 (dk_at dksX1_doesCome_1 6 rfl rfl)
theorem dX1_doesCome_31 : decode cX1_doesCome 31 = .ok (.lload 5, 2) := dk_22 5 (dk_at dksX1_doesCome_1 9 rfl rfl)
theorem dX1_doesCome_33 : decode cX1_doesCome 33 = .ok (.lconst 0, 1) := dk_9 (dk_at dksX1_doesCome_1 11 rfl rfl)
theorem dX1_doesCome_34 : decode cX1_doesCome 34 = .ok (.lcmp, 1) := dk_148 (dk_at dksX1_doesCome_1 12 rfl rfl)
theorem dX1_doesCome_35 : decode cX1_doesCome 35 = .ok (.ifCond .lt 12, 3) := dk_155 0 12 (dk_at dksX1_doesCome_1 13 rfl rfl)
theorem dX1_doesCome_38 : decode cX1_doesCome 38 = .ok (.lload 5, 2) := dk_22 5 (dk_at dksX1_doesCome_1 16 rfl rfl)
theorem dX1_doesCome_40 : decode cX1_doesCome 40 = .ok (.lload_n 2, 1) := dk_32 (dk_at dksX1_doesCome_1 18 rfl rfl)
theorem dX1_doesCome_41 : decode cX1_doesCome 41 = .ok (.lcmp, 1) := dk_148 (dk_at dksX1_doesCome_1 19 rfl rfl)
theorem dX1_doesCome_42 : decode cX1_doesCome 42 = .ok (.ifCond .gt 5, 3) := dk_157 0 5 (dk_at dksX1_doesCome_1 20 rfl rfl)
theorem dX1_doesCome_45 : decode cX1_doesCome 45 = .ok (.iconst 1, 1) := dk_4 (dk_at dksX1_doesCome_1 23 rfl rfl)
theorem dX1_doesCome_46 : decode cX1_doesCome 46 = .ok (.ireturn, 1) := dk_172 (dk_at dksX1_doesCome_2 0 rfl rfl)
theorem dX1_doesCome_47 : decode cX1_doesCome 47 = .ok (.iinc 4 1, 3) := dk_132 4 1 (dk_at dksX1_doesCome_2 1 rfl rfl)
theorem dX1_doesCome_50 : decode cX1_doesCome 50 = .ok (.goto (-47), 3) := dk_167 255 209 (dk_at dksX1_doesCome_2 4 rfl rfl)
theorem dX1_doesCome_53 : decode cX1_doesCome 53 = .ok (.iconst 0, 1) := dk_3 (dk_at dksX1_doesCome_2 7 rfl rfl)
theorem dX1_doesCome_54 : decode cX1_doesCome 54 = .ok (.ireturn, 1) := dk_172 (dk_at dksX1_doesCome_2 8 rfl rfl)
def dkwX1_between_5 : List UInt8 := [55, 5, 187, 0, 68, 89, 22, 5, 42, 180, 0, 30, 180, 0, 40, 183, 0, 74, 29, 182, 1, 46, 173]
abbrev dktX1_between_5 : List UInt8 := dkwX1_between_5 ++ []
def dkwX1_between_4 : List UInt8 := [180, 0, 30, 28, 28, 182, 0, 70, 97, 20, 1, 157, 42, 180, 0, 30, 27, 28, 182, 0, 70, 105, 101]
abbrev dktX1_between_4 : List UInt8 := dkwX1_between_4 ++ dktX1_between_5
def dkwX1_between_3 : List UInt8 := [182, 0, 34, 27, 28, 160, 0, 7, 9, 167, 0, 36, 42, 180, 0, 30, 27, 27, 182, 0, 70, 42]
abbrev dktX1_between_3 : List UInt8 := dkwX1_between_3 ++ dktX1_between_4
def dkwX1_between_2 : List UInt8 := [21, 4, 182, 0, 20, 153, 0, 11, 187, 0, 65, 89, 183, 0, 67, 191, 42, 180, 0, 30, 21, 4]
abbrev dktX1_between_2 : List UInt8 := dkwX1_between_2 ++ dktX1_between_3
def dkwX1_between_1 : List UInt8 := [42, 180, 0, 1, 27, 182, 0, 13, 54, 4, 21, 4, 28, 122, 4, 126, 153, 0, 15, 42, 180, 0, 1]
abbrev dktX1_between_1 : List UInt8 := dkwX1_between_1 ++ dktX1_between_2
def dkwX1_between_0 : List UInt8 := [42, 27, 182, 1, 37, 153, 0, 15, 42, 28, 182, 1, 37, 153, 0, 7, 4, 167, 0, 4, 3, 184, 1, 1]
abbrev dktX1_between_0 : List UInt8 := dkwX1_between_0 ++ dktX1_between_1
theorem dksX1_between_0 : cX1_between.data.toList.drop 0 = dktX1_between_0 := by decide +kernel
theorem dksX1_between_1 : cX1_between.data.toList.drop 24 = dktX1_between_1 := dk_seg dksX1_between_0 24 rfl rfl
theorem dksX1_between_2 : cX1_between.data.toList.drop 47 = dktX1_between_2 := dk_seg dksX1_between_1 23 rfl rfl
theorem dksX1_between_3 : cX1_between.data.toList.drop 69 = dktX1_between_3 := dk_seg dksX1_between_2 22 rfl rfl
theorem dksX1_between_4 : cX1_between.data.toList.drop 91 = dktX1_between_4 := dk_seg dksX1_between_3 22 rfl rfl
theorem dksX1_between_5 : cX1_between.data.toList.drop 114 = dktX1_between_5 := dk_seg dksX1_between_4 23 rfl rfl
theorem dX1_between_0 : decode cX1_between 0 = .ok (.aload_n 0, 1) := dk_42 (dk_at dksX1_between_0 0 rfl rfl)
theorem dX1_between_1 : decode cX1_between 1 = .ok (.iload_n 1, 1) := dk_27 (dk_at dksX1_between_0 1 rfl rfl)
theorem dX1_between_2 : decode cX1_between 2 = .ok (.invokevirtual 293, 3) := dk_182 1 37 (dk_at dksX1_between_0 2 rfl rfl)
theorem dX1_between_5 : decode cX1_between 5 = .ok (.ifCond .eq 15, 3) := dk_153 0 15 (dk_at dksX1_between_0 5 rfl rfl)
theorem dX1_between_8 : decode cX1_between 8 = .ok (.aload_n 0, 1) := dk_42 (dk_at dksX1_between_0 8 rfl rfl)
theorem dX1_between_9 : decode cX1_between 9 = .ok (.iload_n 2, 1) := dk_28 (dk_at dksX1_between_0 9 rfl rfl)
theorem dX1_between_10 : decode cX1_between 10 = .ok (.invokevirtual 293, 3) := dk_182 1 37 (dk_at dksX1_between_0 10 rfl rfl)
theorem dX1_between_13 : decode cX1_between 13 = .ok (.ifCond .eq 7, 3) := dk_153 0 7 (dk_at dksX1_between_0 13 rfl rfl)
theorem dX1_between_16 : decode cX1_between 16 = .ok (.iconst 1, 1) := dk_4 (dk_at dksX1_between_0 16 rfl rfl)
theorem dX1_between_17 : decode cX1_between 17 = .ok (.goto 4, 3) := dk_167 0 4 (dk_at dksX1_between_0 17 rfl rfl)
theorem dX1_between_20 : decode cX1_between 20 = .ok (.iconst 0, 1) := dk_3 (dk_at dksX1_between_0 20 rfl rfl)
theorem dX1_between_21 : decode cX1_between 21 = .ok (.invokestatic 257, 3) := dk_184 1 1 (dk_at dksX1_between_0 21 rfl rfl)
theorem dX1_between_24 : decode cX1_between 24 = .ok (.aload_n 0, 1) := dk_42 (dk_at dksX1_between_1 0 rfl rfl)
theorem dX1_between_25 : decode cX1_between 25 = .ok (.getfield 1, 3) := dk_180 0 1 (dk_at dksX1_between_1 1 rfl rfl)
theorem dX1_between_28 : decode cX1_between 28 = .ok (.iload_n 1, 1) := dk_27 (dk_at dksX1_between_1 4 rfl rfl)
theorem dX1_between_29 : decode cX1_between 29 = .ok (.invokevirtual 13, 3) := dk_182 0 13 (dk_at dksX1_between_1 5 rfl rfl)
theorem dX1_between_32 : decode cX1_between 32 = .ok (.istore 4, 2) := dk_54 4 (dk_at dksX1_between_1 8 rfl rfl)
theorem dX1_between_34 : decode cX1_between 34 = .ok (.iload 4, 2) := dk_21 4 (dk_at dksX1_between_1 10 rfl rfl)
theorem dX1_between_36 : decode cX1_between 36 = .ok (.iload_n 2, 1) := dk_28 (dk_at dksX1_between_1 12 rfl rfl)
theorem dX1_between_37 : decode cX1_between 37 = .ok (.ishr, 1) := dk_122 (dk_at dksX1_between_1 13 rfl rfl)
theorem dX1_between_38 : decode cX1_between 38 = .ok (.iconst 1, 1) := dk_4 (dk_at dksX1_between_1 14 rfl rfl)
theorem dX1_between_39 : decode cX1_between 39 = .ok (.iand, 1) := dk_126 (dk_at dksX1_between_1 15 rfl rfl)
theorem dX1_between_40 : decode cX1_between 40 = .ok (.ifCond .eq 15, 3) := dk_153 0 15 (dk_at dksX1_between_1 16 rfl rfl)
theorem dX1_between_43 : decode cX1_between 43 = .ok (.aload_n 0, 1) := dk_42 (dk_at dksX1_between_1 19 rfl rfl)
theorem dX1_between_44 : decode cX1_between 44 = .ok (.getfield 1, 3) := dk_180 0 1 (dk_at dksX1_between_1 20 rfl rfl)
theorem dX1_between_47 : decode cX1_between 47 = .ok (.iload 4, 2) := dk_21 4 (dk_at dksX1_between_2 0 rfl rfl)
theorem dX1_between_49 : decode cX1_between 49 = .ok (.invokevirtual 20, 3) := dk_182 0 20 (dk_at dksX1_between_2 2 rfl rfl)
theorem dX1_between_52 : decode cX1_between 52 = .ok (.ifCond .eq 11, 3) := dk_153 0 11 (dk_at dksX1_between_2 5 rfl rfl)
theorem dX1_between_55 : decode cX1_between 55 = .ok (.new 65, 3) := dk_187 0 65 (dk_at dksX1_between_2 8 rfl rfl)
theorem dX1_between_58 : decode cX1_between 58 = .ok (.dup, 1) := dk_89 (dk_at dksX1_between_2 11 rfl rfl)
theorem dX1_between_59 : decode cX1_between 59 = .ok (.invokespecial 67, 3) := dk_183 0 67 (dk_at dksX1_between_2 12 rfl rfl)
theorem dX1_between_62 : decode cX1_between 62 = .ok (.athrow, 1) := dk_191 (dk_at dksX1_between_2 15 rfl rfl)
theorem dX1_between_63 : decode cX1_between 63 = .ok (.aload_n 0, 1) := dk_42 (dk_at dksX1_between_2 16 rfl rfl)
theorem dX1_between_64 : decode cX1_between 64 = .ok (.getfield 30, 3) := dk_180 0 30 (dk_at dksX1_between_2 17 rfl rfl)
theorem dX1_between_67 : decode cX1_between 67 = .ok (.iload 4, 2) := dk_21 4 (dk_at dksX1_between_2 20 rfl rfl)
theorem dX1_between_69 : decode cX1_between 69 = .ok (.invokevirtual 34, 3) := dk_182 0 34 (dk_at dksX1_between_3 0 rfl rfl)
theorem dX1_between_72 : decode cX1_between 72 = .ok (.iload_n 1, 1) := dk_27 (dk_at dksX1_between_3 3 rfl rfl)
theorem dX1_between_73 : decode cX1_between 73 = .ok (.iload_n 2, 1) := dk_28 (dk_at dksX1_between_3 4 rfl rfl)
theorem dX1_between_74 : decode cX1_between 74 = .ok (.if_icmp .ne 7, 3) := dk_160 0 7 (dk_at dksX1_between_3 5 rfl rfl)
theorem dX1_between_77 : decode cX1_between 77 = .ok (.lconst 0, 1) := dk_9 (dk_at dksX1_between_3 8 rfl rfl)
theorem dX1_between_78 : decode cX1_between 78 = .ok (.goto 36, 3) := dk_167 0 36 (dk_at dksX1_between_3 9 rfl rfl)
theorem dX1_between_81 : decode cX1_between 81 = .ok (.aload_n 0, 1) := dk_42 (dk_at dksX1_between_3 12 rfl rfl)
theorem dX1_between_82 : decode cX1_between 82 = .ok (.getfield 30, 3) := dk_180 0 30 (dk_at dksX1_between_3 13 rfl rfl)
theorem dX1_between_85 : decode cX1_between 85 = .ok (.iload_n 1, 1) := dk_27 (dk_at dksX1_between_3 16 rfl rfl)
theorem dX1_between_86 : decode cX1_between 86 = .ok (.iload_n 1, 1) := dk_27 (dk_at dksX1_between_3 17 rfl rfl)
theorem dX1_between_87 : decode cX1_between 87 = .ok (.invokevirtual 70, 3) := dk_182 0 70 (dk_at dksX1_between_3 18 rfl rfl)
theorem dX1_between_90 : decode cX1_between 90 = .ok (.aload_n 0, 1) := dk_42 (dk_at dksX1_between_3 21 rfl rfl)
theorem dX1_between_91 : decode cX1_between 91 = .ok (.getfield 30, 3) := dk_180 0 30 (dk_at dksX1_between_4 0 rfl rfl)
theorem dX1_between_94 : decode cX1_between 94 = .ok (.iload_n 2, 1) := dk_28 (dk_at dksX1_between_4 3 rfl rfl)
theorem dX1_between_95 : decode cX1_between 95 = .ok (.iload_n 2, 1) := dk_28 (dk_at dksX1_between_4 4 rfl rfl)
theorem dX1_between_96 : decode cX1_between 96 = .ok (.invokevirtual 70, 3) := dk_182 0 70 (dk_at dksX1_between_4 5 rfl rfl)
theorem dX1_between_99 : decode cX1_between 99 = .ok (.ladd, 1) := dk_97 (dk_at dksX1_between_4 8 rfl rfl)
theorem dX1_between_100 : decode cX1_between 100 = .ok (.ldc2_w 413, 3) := dk_20 1 157 (dk_at dksX1_between_4 9 rfl rfl)
theorem dX1_between_103 : decode cX1_between 103 = .ok (.aload_n 0, 1) := dk_42 (dk_at dksX1_between_4 12 rfl rfl)
theorem dX1_between_104 : decode cX1_between 104 = .ok (.getfield 30, 3) := dk_180 0 30 (dk_at dksX1_between_4 13 rfl rfl)
theorem dX1_between_107 : decode cX1_between 107 = .ok (.iload_n 1, 1) := dk_27 (dk_at dksX1_between_4 16 rfl rfl)
theorem dX1_between_108 : decode cX1_between 108 = .ok (.iload_n 2, 1) := dk_28 (dk_at dksX1_between_4 17 rfl rfl)
theorem dX1_between_109 : decode cX1_between 109 = .ok (.invokevirtual 70, 3) := dk_182 0 70 (dk_at dksX1_between_4 18 rfl rfl)
theorem dX1_between_112 : decode cX1_between 112 = .ok (.lmul, 1) := dk_105 (dk_at dksX1_between_4 21 rfl rfl)
theorem dX1_between_113 : decode cX1_between 113 = .ok (.lsub, 1) := dk_101 (dk_at dksX1_between_4 22 rfl rfl)
theorem dX1_between_114 : decode cX1_between 114 = .ok (.lstore 5, 2) := dk_55 5 (dk_at dksX1_between_5 0 rfl rfl)
theorem dX1_between_116 : decode cX1_between 116 = .ok (.new 68, 3) := dk_187 0 68 (dk_at dksX1_between_5 2 rfl rfl)
theorem dX1_between_119 : decode cX1_between 119 = .ok (.dup, 1) := dk_89 (dk_at dksX1_between_5 5 rfl rfl)
theorem dX1_between_120 : decode cX1_between 120 = .ok (.lload 5, 2) := dk_22 5 (dk_at dksX1_between_5 6 rfl rfl)
theorem dX1_between_122 : decode cX1_between 122 = .ok (.aload_n 0, 1) := dk_42 (dk_at dksX1_between_5 8 rfl rfl)
theorem dX1_between_123 : decode cX1_between 123 = .ok (.getfield 30, 3) := dk_180 0 30 (dk_at dksX1_between_5 9 rfl rfl)
theorem dX1_between_126 : decode cX1_between 126 = .ok (.getfield 40, 3) := dk_180 0 40 (dk_at dksX1_between_5 12 rfl rfl)
theorem dX1_between_129 : decode cX1_between 129 = .ok (.invokespecial 74, 3) := dk_183 0 74 (dk_at dksX1_between_5 15 rfl rfl)
theorem dX1_between_132 : decode cX1_between 132 = .ok (.iload_n 3, 1) := dk_29 (dk_at dksX1_between_5 18 rfl rfl)
theorem dX1_between_133 : decode cX1_between 133 = .ok (.invokevirtual 302, 3) := dk_182 1 46 (dk_at dksX1_between_5 19 rfl rfl)
theorem dX1_between_136 : decode cX1_between 136 = .ok (.lreturn, 1) := dk_173 (dk_at dksX1_between_5 22 rfl rfl)
def dkwX1_seen_5 : List UInt8 := [182, 1, 46, 173]
abbrev dktX1_seen_5 : List UInt8 := dkwX1_seen_5 ++ []
def dkwX1_seen_4 : List UInt8 := [55, 5, 187, 0, 68, 89, 22, 5, 42, 180, 0, 30, 27, 2, 2, 182, 1, 159, 183, 0, 74, 21, 4]
abbrev dktX1_seen_4 : List UInt8 := dkwX1_seen_4 ++ dktX1_seen_5
def dkwX1_seen_3 : List UInt8 := [160, 0, 12, 42, 27, 28, 182, 1, 163, 167, 0, 14, 42, 180, 0, 30, 27, 28, 29, 182, 1, 159, 117]
abbrev dktX1_seen_3 : List UInt8 := dkwX1_seen_3 ++ dktX1_seen_4
def dkwX1_seen_2 : List UInt8 := [4, 160, 0, 16, 27, 29, 122, 4, 126, 4, 160, 0, 7, 4, 167, 0, 4, 3, 184, 1, 1, 28, 29]
abbrev dktX1_seen_2 : List UInt8 := dkwX1_seen_2 ++ dktX1_seen_3
def dkwX1_seen_1 : List UInt8 := [184, 0, 211, 42, 28, 182, 1, 37, 153, 0, 33, 42, 29, 182, 1, 37, 153, 0, 25, 27, 28, 122, 4, 126]
abbrev dktX1_seen_1 : List UInt8 := dkwX1_seen_1 ++ dktX1_seen_2
def dkwX1_seen_0 : List UInt8 := [42, 182, 1, 50, 27, 158, 0, 18, 27, 42, 180, 0, 17, 2, 130, 126, 154, 0, 7, 4, 167, 0, 4, 3]
abbrev dktX1_seen_0 : List UInt8 := dkwX1_seen_0 ++ dktX1_seen_1
theorem dksX1_seen_0 : cX1_seen.data.toList.drop 0 = dktX1_seen_0 := by decide +kernel
theorem dksX1_seen_1 : cX1_seen.data.toList.drop 24 = dktX1_seen_1 := dk_seg dksX1_seen_0 24 rfl rfl
theorem dksX1_seen_2 : cX1_seen.data.toList.drop 48 = dktX1_seen_2 := dk_seg dksX1_seen_1 24 rfl rfl
theorem dksX1_seen_3 : cX1_seen.data.toList.drop 71 = dktX1_seen_3 := dk_seg dksX1_seen_2 23 rfl rfl
theorem dksX1_seen_4 : cX1_seen.data.toList.drop 94 = dktX1_seen_4 := dk_seg dksX1_seen_3 23 rfl rfl
theorem dksX1_seen_5 : cX1_seen.data.toList.drop 117 = dktX1_seen_5 := dk_seg dksX1_seen_4 23 rfl rfl
theorem dX1_seen_0 : decode cX1_seen 0 = .ok (.aload_n 0, 1) := dk_42 (dk_at dksX1_seen_0 0 rfl rfl)
theorem dX1_seen_1 : decode cX1_seen 1 = .ok (.invokevirtual 306, 3) := dk_182 1 50 (dk_at dksX1_seen_0 1 rfl rfl)
theorem dX1_seen_4 : decode cX1_seen 4 = .ok (.iload_n 1, 1) := dk_27 (dk_at dksX1_seen_0 4 rfl rfl)
theorem dX1_seen_5 : decode cX1_seen 5 = .ok (.ifCond .le 18, 3) := dk_158 0 18 (dk_at dksX1_seen_0 5 rfl rfl)
theorem dX1_seen_8 : decode cX1_seen 8 = .ok (.iload_n 1, 1) := dk_27 (dk_at dksX1_seen_0 8 rfl rfl)
theorem dX1_seen_9 : decode cX1_seen 9 = .ok (.aload_n 0, 1) := dk_42 (dk_at dksX1_seen_0 9 rfl rfl)
theorem dX1_seen_10 : decode cX1_seen 10 = .ok (.getfield 17, 3) := dk_180 0 17 (dk_at dksX1_seen_0 10 rfl rfl)
theorem dX1_seen_13 : decode cX1_seen 13 = .ok (.iconst (-1), 1) := dk_2 (dk_at dksX1_seen_0 13 rfl rfl)
theorem dX1_seen_14 : decode cX1_seen 14 = .ok (.ixor, 1) := dk_130 (dk_at dksX1_seen_0 14 rfl rfl)
theorem dX1_seen_15 : decode cX1_seen 15 = .ok (.iand, 1) := dk_126 (dk_at dksX1_seen_0 15 rfl rfl)
theorem dX1_seen_16 : decode cX1_seen 16 = .ok (.ifCond .ne 7, 3) := dk_154 0 7 (dk_at dksX1_seen_0 16 rfl rfl)
theorem dX1_seen_19 : decode cX1_seen 19 = .ok (.iconst 1, 1) := dk_4 (dk_at dksX1_seen_0 19 rfl rfl)
theorem dX1_seen_20 : decode cX1_seen 20 = .ok (.goto 4, 3) := dk_167 0 4 (dk_at dksX1_seen_0 20 rfl rfl)
theorem dX1_seen_23 : decode cX1_seen 23 = .ok (.iconst 0, 1) := dk_3 (dk_at dksX1_seen_0 23 rfl rfl)
theorem dX1_seen_24 : decode cX1_seen 24 = .ok (.invokestatic 211, 3) := dk_184 0 211 (dk_at dksX1_seen_1 0 rfl rfl)
theorem dX1_seen_27 : decode cX1_seen 27 = .ok (.aload_n 0, 1) := dk_42 (dk_at dksX1_seen_1 3 rfl rfl)
theorem dX1_seen_28 : decode cX1_seen 28 = .ok (.iload_n 2, 1) := dk_28 (dk_at dksX1_seen_1 4 rfl rfl)
theorem dX1_seen_29 : decode cX1_seen 29 = .ok (.invokevirtual 293, 3) := dk_182 1 37 (dk_at dksX1_seen_1 5 rfl rfl)
theorem dX1_seen_32 : decode cX1_seen 32 = .ok (.ifCond .eq 33, 3) := dk_153 0 33 (dk_at dksX1_seen_1 8 rfl rfl)
theorem dX1_seen_35 : decode cX1_seen 35 = .ok (.aload_n 0, 1) := dk_42 (dk_at dksX1_seen_1 11 rfl rfl)
theorem dX1_seen_36 : decode cX1_seen 36 = .ok (.iload_n 3, 1) := dk_29 (dk_at dksX1_seen_1 12 rfl rfl)
theorem dX1_seen_37 : decode cX1_seen 37 = .ok (.invokevirtual 293, 3) := dk_182 1 37 (dk_at dksX1_seen_1 13 rfl rfl)
theorem dX1_seen_40 : decode cX1_seen 40 = .ok (.ifCond .eq 25, 3) := dk_153 0 25 (dk_at dksX1_seen_1 16 rfl rfl)
theorem dX1_seen_43 : decode cX1_seen 43 = .ok (.iload_n 1, 1) := dk_27 (dk_at dksX1_seen_1 19 rfl rfl)
theorem dX1_seen_44 : decode cX1_seen 44 = .ok (.iload_n 2, 1) := dk_28 (dk_at dksX1_seen_1 20 rfl rfl)
theorem dX1_seen_45 : decode cX1_seen 45 = .ok (.ishr, 1) := dk_122 (dk_at dksX1_seen_1 21 rfl rfl)
theorem dX1_seen_46 : decode cX1_seen 46 = .ok (.iconst 1, 1) := dk_4 (dk_at dksX1_seen_1 22 rfl rfl)
theorem dX1_seen_47 : decode cX1_seen 47 = .ok (.iand, 1) := dk_126 (dk_at dksX1_seen_1 23 rfl rfl)
theorem dX1_seen_48 : decode cX1_seen 48 = .ok (.iconst 1, 1) := dk_4 (dk_at dksX1_seen_2 0 rfl rfl)
theorem dX1_seen_49 : decode cX1_seen 49 = .ok (.if_icmp .ne 16, 3) := dk_160 0 16 (dk_at dksX1_seen_2 1 rfl rfl)
theorem dX1_seen_52 : decode cX1_seen 52 = .ok (.iload_n 1, 1) := dk_27 (dk_at dksX1_seen_2 4 rfl rfl)
theorem dX1_seen_53 : decode cX1_seen 53 = .ok (.iload_n 3, 1) := dk_29 (dk_at dksX1_seen_2 5 rfl rfl)
theorem dX1_seen_54 : decode cX1_seen 54 = .ok (.ishr, 1) := dk_122 (dk_at dksX1_seen_2 6 rfl rfl)
theorem dX1_seen_55 : decode cX1_seen 55 = .ok (.iconst 1, 1) := dk_4 (dk_at dksX1_seen_2 7 rfl rfl)
theorem dX1_seen_56 : decode cX1_seen 56 = .ok (.iand, 1) := dk_126 (dk_at dksX1_seen_2 8 rfl rfl)
theorem dX1_seen_57 : decode cX1_seen 57 = .ok (.iconst 1, 1) := dk_4 (dk_at dksX1_seen_2 9 rfl rfl)
theorem dX1_seen_58 : decode cX1_seen 58 = .ok (.if_icmp .ne 7, 3) := dk_160 0 7 (dk_at dksX1_seen_2 10 rfl rfl)
theorem dX1_seen_61 : decode cX1_seen 61 = .ok (.iconst 1, 1) := dk_4 (dk_at dksX1_seen_2 13 rfl rfl)
theorem dX1_seen_62 : decode cX1_seen 62 = .ok (.goto 4, 3) := dk_167 0 4 (dk_at dksX1_seen_2 14 rfl rfl)
theorem dX1_seen_65 : decode cX1_seen 65 = .ok (.iconst 0, 1) := dk_3 (dk_at dksX1_seen_2 17 rfl rfl)
theorem dX1_seen_66 : decode cX1_seen 66 = .ok (.invokestatic 257, 3) := dk_184 1 1 (dk_at dksX1_seen_2 18 rfl rfl)
theorem dX1_seen_69 : decode cX1_seen 69 = .ok (.iload_n 2, 1) := dk_28 (dk_at dksX1_seen_2 21 rfl rfl)
theorem dX1_seen_70 : decode cX1_seen 70 = .ok (.iload_n 3, 1) := dk_29 (dk_at dksX1_seen_2 22 rfl rfl)
theorem dX1_seen_71 : decode cX1_seen 71 = .ok (.if_icmp .ne 12, 3) := dk_160 0 12 (dk_at dksX1_seen_3 0 rfl rfl)
theorem dX1_seen_74 : decode cX1_seen 74 = .ok (.aload_n 0, 1) := dk_42 (dk_at dksX1_seen_3 3 rfl rfl)
theorem dX1_seen_75 : decode cX1_seen 75 = .ok (.iload_n 1, 1) := dk_27 (dk_at dksX1_seen_3 4 rfl rfl)
theorem dX1_seen_76 : decode cX1_seen 76 = .ok (.iload_n 2, 1) := dk_28 (dk_at dksX1_seen_3 5 rfl rfl)
theorem dX1_seen_77 : decode cX1_seen 77 = .ok (.invokevirtual 419, 3) := dk_182 1 163 (dk_at dksX1_seen_3 6 rfl rfl)
theorem dX1_seen_80 : decode cX1_seen 80 = .ok (.goto 14, 3) := dk_167 0 14 (dk_at dksX1_seen_3 9 rfl rfl)
theorem dX1_seen_83 : decode cX1_seen 83 = .ok (.aload_n 0, 1) := dk_42 (dk_at dksX1_seen_3 12 rfl rfl)
theorem dX1_seen_84 : decode cX1_seen 84 = .ok (.getfield 30, 3) := dk_180 0 30 (dk_at dksX1_seen_3 13 rfl rfl)
theorem dX1_seen_87 : decode cX1_seen 87 = .ok (.iload_n 1, 1) := dk_27 (dk_at dksX1_seen_3 16 rfl rfl)
theorem dX1_seen_88 : decode cX1_seen 88 = .ok (.iload_n 2, 1) := dk_28 (dk_at dksX1_seen_3 17 rfl rfl)
theorem dX1_seen_89 : decode cX1_seen 89 = .ok (.iload_n 3, 1) := dk_29 (dk_at dksX1_seen_3 18 rfl rfl)
theorem dX1_seen_90 : decode cX1_seen 90 = .ok (.invokevirtual 415, 3) := dk_182 1 159 (dk_at dksX1_seen_3 19 rfl rfl)
theorem dX1_seen_93 : decode cX1_seen 93 = .ok (.lneg, 1) := dk_117 (dk_at dksX1_seen_3 22 rfl rfl)
theorem dX1_seen_94 : decode cX1_seen 94 = .ok (.lstore 5, 2) := dk_55 5 (dk_at dksX1_seen_4 0 rfl rfl)
theorem dX1_seen_96 : decode cX1_seen 96 = .ok (.new 68, 3) := dk_187 0 68 (dk_at dksX1_seen_4 2 rfl rfl)
theorem dX1_seen_99 : decode cX1_seen 99 = .ok (.dup, 1) := dk_89 (dk_at dksX1_seen_4 5 rfl rfl)
theorem dX1_seen_100 : decode cX1_seen 100 = .ok (.lload 5, 2) := dk_22 5 (dk_at dksX1_seen_4 6 rfl rfl)
theorem dX1_seen_102 : decode cX1_seen 102 = .ok (.aload_n 0, 1) := dk_42 (dk_at dksX1_seen_4 8 rfl rfl)
theorem dX1_seen_103 : decode cX1_seen 103 = .ok (.getfield 30, 3) := dk_180 0 30 (dk_at dksX1_seen_4 9 rfl rfl)
theorem dX1_seen_106 : decode cX1_seen 106 = .ok (.iload_n 1, 1) := dk_27 (dk_at dksX1_seen_4 12 rfl rfl)
theorem dX1_seen_107 : decode cX1_seen 107 = .ok (.iconst (-1), 1) := dk_2 (dk_at dksX1_seen_4 13 rfl rfl)
theorem dX1_seen_108 : decode cX1_seen 108 = .ok (.iconst (-1), 1) := dk_2 (dk_at dksX1_seen_4 14 rfl rfl)
theorem dX1_seen_109 : decode cX1_seen 109 = .ok (.invokevirtual 415, 3) := dk_182 1 159 (dk_at dksX1_seen_4 15 rfl rfl)
theorem dX1_seen_112 : decode cX1_seen 112 = .ok (.invokespecial 74, 3) := dk_183 0 74 (dk_at dksX1_seen_4 18 rfl rfl)
theorem dX1_seen_115 : decode cX1_seen 115 = .ok (.iload 4, 2) := dk_21 4 (dk_at dksX1_seen_4 21 rfl rfl)
theorem dX1_seen_117 : decode cX1_seen 117 = .ok (.invokevirtual 302, 3) := dk_182 1 46 (dk_at dksX1_seen_5 0 rfl rfl)
theorem dX1_seen_120 : decode cX1_seen 120 = .ok (.lreturn, 1) := dk_173 (dk_at dksX1_seen_5 3 rfl rfl)
def dkwX1_leaked_2 : List UInt8 := [173]
abbrev dktX1_leaked_2 : List UInt8 := dkwX1_leaked_2 ++ []
def dkwX1_leaked_1 : List UInt8 := [160, 0, 17, 33, 42, 180, 0, 30, 27, 28, 21, 5, 182, 1, 159, 97, 66, 132, 5, 1, 167, 255, 217, 33]
abbrev dktX1_leaked_1 : List UInt8 := dkwX1_leaked_1 ++ dktX1_leaked_2
def dkwX1_leaked_0 : List UInt8 := [9, 66, 3, 54, 5, 21, 5, 42, 180, 0, 1, 182, 0, 55, 162, 0, 33, 27, 21, 5, 122, 4, 126, 4]
abbrev dktX1_leaked_0 : List UInt8 := dkwX1_leaked_0 ++ dktX1_leaked_1
theorem dksX1_leaked_0 : cX1_leaked.data.toList.drop 0 = dktX1_leaked_0 := by decide +kernel
theorem dksX1_leaked_1 : cX1_leaked.data.toList.drop 24 = dktX1_leaked_1 := dk_seg dksX1_leaked_0 24 rfl rfl
theorem dksX1_leaked_2 : cX1_leaked.data.toList.drop 48 = dktX1_leaked_2 := dk_seg dksX1_leaked_1 24 rfl rfl
theorem dX1_leaked_0 : decode cX1_leaked 0 = .ok (.lconst 0, 1) := dk_9 (dk_at dksX1_leaked_0 0 rfl rfl)
theorem dX1_leaked_1 : decode cX1_leaked 1 = .ok (.lstore_n 3, 1) := dk_66 (dk_at dksX1_leaked_0 1 rfl rfl)
theorem dX1_leaked_2 : decode cX1_leaked 2 = .ok (.iconst 0, 1) := dk_3 (dk_at dksX1_leaked_0 2 rfl rfl)
theorem dX1_leaked_3 : decode cX1_leaked 3 = .ok (.istore 5, 2) := dk_54 5 (dk_at dksX1_leaked_0 3 rfl rfl)
theorem dX1_leaked_5 : decode cX1_leaked 5 = .ok (.iload 5, 2) := dk_21 5 (dk_at dksX1_leaked_0 5 rfl rfl)
theorem dX1_leaked_7 : decode cX1_leaked 7 = .ok (.aload_n 0, 1) := dk_42 (dk_at dksX1_leaked_0 7 rfl rfl)
theorem dX1_leaked_8 : decode cX1_leaked 8 = .ok (.getfield 1, 3) := dk_180 0 1 (dk_at dksX1_leaked_0 8 rfl rfl)
theorem dX1_leaked_11 : decode cX1_leaked 11 = .ok (.invokevirtual 55, 3) := dk_182 0 55 (dk_at dksX1_leaked_0 11 rfl rfl)
theorem dX1_leaked_14 : decode cX1_leaked 14 = .ok (.if_icmp .ge 33, 3) := dk_162 0 33 (dk_at dksX1_leaked_0 14 rfl rfl)
theorem dX1_leaked_17 : decode cX1_leaked 17 = .ok (.iload_n 1, 1) := dk_27 (dk_at dksX1_leaked_0 17 rfl rfl)
theorem dX1_leaked_18 : decode cX1_leaked 18 = .ok (.iload 5, 2) := dk_21 5 (dk_at dksX1_leaked_0 18 rfl rfl)
theorem dX1_leaked_20 : decode cX1_leaked 20 = .ok (.ishr, 1) := dk_122 (dk_at dksX1_leaked_0 20 rfl rfl)
theorem dX1_leaked_21 : decode cX1_leaked 21 = .ok (.iconst 1, 1) := dk_4 (dk_at dksX1_leaked_0 21 rfl rfl)
theorem dX1_leaked_22 : decode cX1_leaked 22 = .ok (.iand, 1) := dk_126 (dk_at dksX1_leaked_0 22 rfl rfl)
theorem dX1_leaked_23 : decode cX1_leaked 23 = .ok (.iconst 1, 1) := dk_4 (dk_at dksX1_leaked_0 23 rfl rfl)
theorem dX1_leaked_24 : decode cX1_leaked 24 = .ok (.if_icmp .ne 17, 3) := dk_160 0 17 (dk_at dksX1_leaked_1 0 rfl rfl)
theorem dX1_leaked_27 : decode cX1_leaked 27 = .ok (.lload_n 3, 1) := dk_33 (dk_at dksX1_leaked_1 3 rfl rfl)
theorem dX1_leaked_28 : decode cX1_leaked 28 = .ok (.aload_n 0, 1) := dk_42 (dk_at dksX1_leaked_1 4 rfl rfl)
theorem dX1_leaked_29 : decode cX1_leaked 29 = .ok (.getfield 30, 3) := dk_180 0 30 (dk_at dksX1_leaked_1 5 rfl rfl)
theorem dX1_leaked_32 : decode cX1_leaked 32 = .ok (.iload_n 1, 1) := dk_27 (dk_at dksX1_leaked_1 8 rfl rfl)
theorem dX1_leaked_33 : decode cX1_leaked 33 = .ok (.iload_n 2, 1) := dk_28 (dk_at dksX1_leaked_1 9 rfl rfl)
theorem dX1_leaked_34 : decode cX1_leaked 34 = .ok (.iload 5, 2) := dk_21 5 (dk_at dksX1_leaked_1 10 rfl rfl)
theorem dX1_leaked_36 : decode cX1_leaked 36 = .ok (.invokevirtual 415, 3) := dk_182 1 159 (dk_at dksX1_leaked_1 12 rfl rfl)
theorem dX1_leaked_39 : decode cX1_leaked 39 = .ok (.ladd, 1) := dk_97 (dk_at dksX1_leaked_1 15 rfl rfl)
theorem dX1_leaked_40 : decode cX1_leaked 40 = .ok (.lstore_n 3, 1) := dk_66 (dk_at dksX1_leaked_1 16 rfl rfl)
theorem dX1_leaked_41 : decode cX1_leaked 41 = .ok (.iinc 5 1, 3) := dk_132 5 1 (dk_at dksX1_leaked_1 17 rfl rfl)
theorem dX1_leaked_44 : decode cX1_leaked 44 = .ok (.goto (-39), 3) := dk_167 255 217 (dk_at dksX1_leaked_1 20 rfl rfl)
theorem dX1_leaked_47 : decode cX1_leaked 47 = .ok (.lload_n 3, 1) := dk_33 (dk_at dksX1_leaked_1 23 rfl rfl)
theorem dX1_leaked_48 : decode cX1_leaked 48 = .ok (.lreturn, 1) := dk_173 (dk_at dksX1_leaked_2 0 rfl rfl)
def dkwX1_cheapest_1 : List UInt8 := [181, 0, 238, 42, 180, 0, 181, 3, 46, 2, 160, 0, 7, 2, 167, 0, 9, 42, 180, 0, 181, 27, 46, 172]
abbrev dktX1_cheapest_1 : List UInt8 := dkwX1_cheapest_1 ++ []
def dkwX1_cheapest_0 : List UInt8 := [27, 3, 6, 184, 0, 253, 184, 1, 1, 42, 182, 1, 136, 77, 42, 182, 1, 184, 42, 180, 0, 1, 44]
abbrev dktX1_cheapest_0 : List UInt8 := dkwX1_cheapest_0 ++ dktX1_cheapest_1
theorem dksX1_cheapest_0 : cX1_cheapest.data.toList.drop 0 = dktX1_cheapest_0 := by decide +kernel
theorem dksX1_cheapest_1 : cX1_cheapest.data.toList.drop 23 = dktX1_cheapest_1 := dk_seg dksX1_cheapest_0 23 rfl rfl
theorem dX1_cheapest_0 : decode cX1_cheapest 0 = .ok (.iload_n 1, 1) := dk_27 (dk_at dksX1_cheapest_0 0 rfl rfl)
theorem dX1_cheapest_1 : decode cX1_cheapest 1 = .ok (.iconst 0, 1) := dk_3 (dk_at dksX1_cheapest_0 1 rfl rfl)
theorem dX1_cheapest_2 : decode cX1_cheapest 2 = .ok (.iconst 3, 1) := dk_6 (dk_at dksX1_cheapest_0 2 rfl rfl)
theorem dX1_cheapest_3 : decode cX1_cheapest 3 = .ok (.invokestatic 253, 3) := dk_184 0 253 (dk_at dksX1_cheapest_0 3 rfl rfl)
theorem dX1_cheapest_6 : decode cX1_cheapest 6 = .ok (.invokestatic 257, 3) := dk_184 1 1 (dk_at dksX1_cheapest_0 6 rfl rfl)
theorem dX1_cheapest_9 : decode cX1_cheapest 9 = .ok (.aload_n 0, 1) := dk_42 (dk_at dksX1_cheapest_0 9 rfl rfl)
theorem dX1_cheapest_10 : decode cX1_cheapest 10 = .ok (.invokevirtual 392, 3) := dk_182 1 136 (dk_at dksX1_cheapest_0 10 rfl rfl)
theorem dX1_cheapest_13 : decode cX1_cheapest 13 = .ok (.astore_n 2, 1) := dk_77 (dk_at dksX1_cheapest_0 13 rfl rfl)
theorem dX1_cheapest_14 : decode cX1_cheapest 14 = .ok (.aload_n 0, 1) := dk_42 (dk_at dksX1_cheapest_0 14 rfl rfl)
theorem dX1_cheapest_15 : decode cX1_cheapest 15 = .ok (.invokevirtual 440, 3) := dk_182 1 184 (dk_at dksX1_cheapest_0 15 rfl rfl)
theorem dX1_cheapest_18 : decode cX1_cheapest 18 = .ok (.aload_n 0, 1) := dk_42 (dk_at dksX1_cheapest_0 18 rfl rfl)
theorem dX1_cheapest_19 : decode cX1_cheapest 19 = .ok (.getfield 1, 3) := dk_180 0 1 (dk_at dksX1_cheapest_0 19 rfl rfl)
theorem dX1_cheapest_22 : decode cX1_cheapest 22 = .ok (.aload_n 2, 1) := dk_44 (dk_at dksX1_cheapest_0 22 rfl rfl)
theorem dX1_cheapest_23 : decode cX1_cheapest 23 = .ok (.putfield 238, 3) := dk_181 0 238 (dk_at dksX1_cheapest_1 0 rfl rfl)
theorem dX1_cheapest_26 : decode cX1_cheapest 26 = .ok (.aload_n 0, 1) := dk_42 (dk_at dksX1_cheapest_1 3 rfl rfl)
theorem dX1_cheapest_27 : decode cX1_cheapest 27 = .ok (.getfield 181, 3) := dk_180 0 181 (dk_at dksX1_cheapest_1 4 rfl rfl)
theorem dX1_cheapest_30 : decode cX1_cheapest 30 = .ok (.iconst 0, 1) := dk_3 (dk_at dksX1_cheapest_1 7 rfl rfl)
theorem dX1_cheapest_31 : decode cX1_cheapest 31 = .ok (.iaload, 1) := dk_46 (dk_at dksX1_cheapest_1 8 rfl rfl)
theorem dX1_cheapest_32 : decode cX1_cheapest 32 = .ok (.iconst (-1), 1) := dk_2 (dk_at dksX1_cheapest_1 9 rfl rfl)
theorem dX1_cheapest_33 : decode cX1_cheapest 33 = .ok (.if_icmp .ne 7, 3) := dk_160 0 7 (dk_at dksX1_cheapest_1 10 rfl rfl)
theorem dX1_cheapest_36 : decode cX1_cheapest 36 = .ok (.iconst (-1), 1) := dk_2 (dk_at dksX1_cheapest_1 13 rfl rfl)
theorem dX1_cheapest_37 : decode cX1_cheapest 37 = .ok (.goto 9, 3) := dk_167 0 9 (dk_at dksX1_cheapest_1 14 rfl rfl)
theorem dX1_cheapest_40 : decode cX1_cheapest 40 = .ok (.aload_n 0, 1) := dk_42 (dk_at dksX1_cheapest_1 17 rfl rfl)
theorem dX1_cheapest_41 : decode cX1_cheapest 41 = .ok (.getfield 181, 3) := dk_180 0 181 (dk_at dksX1_cheapest_1 18 rfl rfl)
theorem dX1_cheapest_44 : decode cX1_cheapest 44 = .ok (.iload_n 1, 1) := dk_27 (dk_at dksX1_cheapest_1 21 rfl rfl)
theorem dX1_cheapest_45 : decode cX1_cheapest 45 = .ok (.iaload, 1) := dk_46 (dk_at dksX1_cheapest_1 22 rfl rfl)
theorem dX1_cheapest_46 : decode cX1_cheapest 46 = .ok (.ireturn, 1) := dk_172 (dk_at dksX1_cheapest_1 23 rfl rfl)
def dkwX1_laysCheap_6 : List UInt8 := [167, 255, 132, 177]
abbrev dktX1_laysCheap_6 : List UInt8 := dkwX1_laysCheap_6 ++ []
def dkwX1_laysCheap_5 : List UInt8 := [180, 0, 1, 180, 0, 238, 27, 16, 12, 108, 50, 27, 16, 12, 112, 92, 46, 4, 100, 79, 132, 1, 1]
abbrev dktX1_laysCheap_5 : List UInt8 := dkwX1_laysCheap_5 ++ dktX1_laysCheap_6
def dkwX1_laysCheap_4 : List UInt8 := [182, 1, 169, 27, 61, 28, 16, 36, 162, 0, 15, 42, 27, 28, 182, 1, 181, 132, 2, 1, 167, 255, 241, 42]
abbrev dktX1_laysCheap_4 : List UInt8 := dkwX1_laysCheap_4 ++ dktX1_laysCheap_5
def dkwX1_laysCheap_3 : List UInt8 := [112, 92, 46, 4, 96, 79, 42, 42, 180, 0, 1, 27, 16, 12, 108, 182, 1, 176, 4, 27, 184, 1, 179, 2]
abbrev dktX1_laysCheap_3 : List UInt8 := dkwX1_laysCheap_3 ++ dktX1_laysCheap_4
def dkwX1_laysCheap_2 : List UInt8 := [182, 1, 173, 154, 0, 6, 167, 0, 86, 42, 180, 0, 1, 180, 0, 238, 27, 16, 12, 108, 50, 27, 16, 12]
abbrev dktX1_laysCheap_2 : List UInt8 := dkwX1_laysCheap_2 ++ dktX1_laysCheap_3
def dkwX1_laysCheap_1 : List UInt8 := [16, 12, 112, 42, 180, 0, 1, 182, 0, 55, 162, 0, 104, 42, 27, 16, 12, 108, 27, 16, 12, 112]
abbrev dktX1_laysCheap_1 : List UInt8 := dkwX1_laysCheap_1 ++ dktX1_laysCheap_2
def dkwX1_laysCheap_0 : List UInt8 := [42, 180, 0, 181, 3, 2, 79, 42, 3, 3, 2, 2, 182, 1, 169, 3, 60, 27, 16, 36, 162, 0, 124, 27]
abbrev dktX1_laysCheap_0 : List UInt8 := dkwX1_laysCheap_0 ++ dktX1_laysCheap_1
theorem dksX1_laysCheap_0 : cX1_laysCheap.data.toList.drop 0 = dktX1_laysCheap_0 := by decide +kernel
theorem dksX1_laysCheap_1 : cX1_laysCheap.data.toList.drop 24 = dktX1_laysCheap_1 := dk_seg dksX1_laysCheap_0 24 rfl rfl
theorem dksX1_laysCheap_2 : cX1_laysCheap.data.toList.drop 46 = dktX1_laysCheap_2 := dk_seg dksX1_laysCheap_1 22 rfl rfl
theorem dksX1_laysCheap_3 : cX1_laysCheap.data.toList.drop 70 = dktX1_laysCheap_3 := dk_seg dksX1_laysCheap_2 24 rfl rfl
theorem dksX1_laysCheap_4 : cX1_laysCheap.data.toList.drop 94 = dktX1_laysCheap_4 := dk_seg dksX1_laysCheap_3 24 rfl rfl
theorem dksX1_laysCheap_5 : cX1_laysCheap.data.toList.drop 118 = dktX1_laysCheap_5 := dk_seg dksX1_laysCheap_4 24 rfl rfl
theorem dksX1_laysCheap_6 : cX1_laysCheap.data.toList.drop 141 = dktX1_laysCheap_6 := dk_seg dksX1_laysCheap_5 23 rfl rfl
theorem dX1_laysCheap_0 : decode cX1_laysCheap 0 = .ok (.aload_n 0, 1) := dk_42 (dk_at dksX1_laysCheap_0 0 rfl rfl)
theorem dX1_laysCheap_1 : decode cX1_laysCheap 1 = .ok (.getfield 181, 3) := dk_180 0 181 (dk_at dksX1_laysCheap_0 1 rfl rfl)
theorem dX1_laysCheap_4 : decode cX1_laysCheap 4 = .ok (.iconst 0, 1) := dk_3 (dk_at dksX1_laysCheap_0 4 rfl rfl)
theorem dX1_laysCheap_5 : decode cX1_laysCheap 5 = .ok (.iconst (-1), 1) := dk_2 (dk_at dksX1_laysCheap_0 5 rfl rfl)
theorem dX1_laysCheap_6 : decode cX1_laysCheap 6 = .ok (.iastore, 1) := dk_79 (dk_at dksX1_laysCheap_0 6 rfl rfl)
theorem dX1_laysCheap_7 : decode cX1_laysCheap 7 = .ok (.aload_n 0, 1) := dk_42 (dk_at dksX1_laysCheap_0 7 rfl rfl)
theorem dX1_laysCheap_8 : decode cX1_laysCheap 8 = .ok (.iconst 0, 1) := dk_3 (dk_at dksX1_laysCheap_0 8 rfl rfl)
theorem dX1_laysCheap_9 : decode cX1_laysCheap 9 = .ok (.iconst 0, 1) := dk_3 (dk_at dksX1_laysCheap_0 9 rfl rfl)
theorem dX1_laysCheap_10 : decode cX1_laysCheap 10 = .ok (.iconst (-1), 1) := dk_2 (dk_at dksX1_laysCheap_0 10 rfl rfl)
theorem dX1_laysCheap_11 : decode cX1_laysCheap 11 = .ok (.iconst (-1), 1) := dk_2 (dk_at dksX1_laysCheap_0 11 rfl rfl)
theorem dX1_laysCheap_12 : decode cX1_laysCheap 12 = .ok (.invokevirtual 425, 3) := dk_182 1 169 (dk_at dksX1_laysCheap_0 12 rfl rfl)
theorem dX1_laysCheap_15 : decode cX1_laysCheap 15 = .ok (.iconst 0, 1) := dk_3 (dk_at dksX1_laysCheap_0 15 rfl rfl)
theorem dX1_laysCheap_16 : decode cX1_laysCheap 16 = .ok (.istore_n 1, 1) := dk_60 (dk_at dksX1_laysCheap_0 16 rfl rfl)
theorem dX1_laysCheap_17 : decode cX1_laysCheap 17 = .ok (.iload_n 1, 1) := dk_27 (dk_at dksX1_laysCheap_0 17 rfl rfl)
theorem dX1_laysCheap_18 : decode cX1_laysCheap 18 = .ok (.bipush 36, 2) := dk_16 36 (dk_at dksX1_laysCheap_0 18 rfl rfl)
theorem dX1_laysCheap_20 : decode cX1_laysCheap 20 = .ok (.if_icmp .ge 124, 3) := dk_162 0 124 (dk_at dksX1_laysCheap_0 20 rfl rfl)
theorem dX1_laysCheap_23 : decode cX1_laysCheap 23 = .ok (.iload_n 1, 1) := dk_27 (dk_at dksX1_laysCheap_0 23 rfl rfl)
theorem dX1_laysCheap_24 : decode cX1_laysCheap 24 = .ok (.bipush 12, 2) := dk_16 12 (dk_at dksX1_laysCheap_1 0 rfl rfl)
theorem dX1_laysCheap_26 : decode cX1_laysCheap 26 = .ok (.irem, 1) := dk_112 (dk_at dksX1_laysCheap_1 2 rfl rfl)
theorem dX1_laysCheap_27 : decode cX1_laysCheap 27 = .ok (.aload_n 0, 1) := dk_42 (dk_at dksX1_laysCheap_1 3 rfl rfl)
theorem dX1_laysCheap_28 : decode cX1_laysCheap 28 = .ok (.getfield 1, 3) := dk_180 0 1 (dk_at dksX1_laysCheap_1 4 rfl rfl)
theorem dX1_laysCheap_31 : decode cX1_laysCheap 31 = .ok (.invokevirtual 55, 3) := dk_182 0 55 (dk_at dksX1_laysCheap_1 7 rfl rfl)
theorem dX1_laysCheap_34 : decode cX1_laysCheap 34 = .ok (.if_icmp .ge 104, 3) := dk_162 0 104 (dk_at dksX1_laysCheap_1 10 rfl rfl)
theorem dX1_laysCheap_37 : decode cX1_laysCheap 37 = .ok (.aload_n 0, 1) := dk_42 (dk_at dksX1_laysCheap_1 13 rfl rfl)
theorem dX1_laysCheap_38 : decode cX1_laysCheap 38 = .ok (.iload_n 1, 1) := dk_27 (dk_at dksX1_laysCheap_1 14 rfl rfl)
theorem dX1_laysCheap_39 : decode cX1_laysCheap 39 = .ok (.bipush 12, 2) := dk_16 12 (dk_at dksX1_laysCheap_1 15 rfl rfl)
theorem dX1_laysCheap_41 : decode cX1_laysCheap 41 = .ok (.idiv, 1) := dk_108 (dk_at dksX1_laysCheap_1 17 rfl rfl)
theorem dX1_laysCheap_42 : decode cX1_laysCheap 42 = .ok (.iload_n 1, 1) := dk_27 (dk_at dksX1_laysCheap_1 18 rfl rfl)
theorem dX1_laysCheap_43 : decode cX1_laysCheap 43 = .ok (.bipush 12, 2) := dk_16 12 (dk_at dksX1_laysCheap_1 19 rfl rfl)
theorem dX1_laysCheap_45 : decode cX1_laysCheap 45 = .ok (.irem, 1) := dk_112 (dk_at dksX1_laysCheap_1 21 rfl rfl)
theorem dX1_laysCheap_46 : decode cX1_laysCheap 46 = .ok (.invokevirtual 429, 3) := dk_182 1 173 (dk_at dksX1_laysCheap_2 0 rfl rfl)
theorem dX1_laysCheap_49 : decode cX1_laysCheap 49 = .ok (.ifCond .ne 6, 3) := dk_154 0 6 (dk_at dksX1_laysCheap_2 3 rfl rfl)
theorem dX1_laysCheap_52 : decode cX1_laysCheap 52 = .ok (.goto 86, 3) := dk_167 0 86 (dk_at dksX1_laysCheap_2 6 rfl rfl)
theorem dX1_laysCheap_55 : decode cX1_laysCheap 55 = .ok (.aload_n 0, 1) := dk_42 (dk_at dksX1_laysCheap_2 9 rfl rfl)
theorem dX1_laysCheap_56 : decode cX1_laysCheap 56 = .ok (.getfield 1, 3) := dk_180 0 1 (dk_at dksX1_laysCheap_2 10 rfl rfl)
theorem dX1_laysCheap_59 : decode cX1_laysCheap 59 = .ok (.getfield 238, 3) := dk_180 0 238 (dk_at dksX1_laysCheap_2 13 rfl rfl)
theorem dX1_laysCheap_62 : decode cX1_laysCheap 62 = .ok (.iload_n 1, 1) := dk_27 (dk_at dksX1_laysCheap_2 16 rfl rfl)
theorem dX1_laysCheap_63 : decode cX1_laysCheap 63 = .ok (.bipush 12, 2) := dk_16 12 (dk_at dksX1_laysCheap_2 17 rfl rfl)
theorem dX1_laysCheap_65 : decode cX1_laysCheap 65 = .ok (.idiv, 1) := dk_108 (dk_at dksX1_laysCheap_2 19 rfl rfl)
theorem dX1_laysCheap_66 : decode cX1_laysCheap 66 = .ok (.aaload, 1) := dk_50 (dk_at dksX1_laysCheap_2 20 rfl rfl)
theorem dX1_laysCheap_67 : decode cX1_laysCheap 67 = .ok (.iload_n 1, 1) := dk_27 (dk_at dksX1_laysCheap_2 21 rfl rfl)
theorem dX1_laysCheap_68 : decode cX1_laysCheap 68 = .ok (.bipush 12, 2) := dk_16 12 (dk_at dksX1_laysCheap_2 22 rfl rfl)
theorem dX1_laysCheap_70 : decode cX1_laysCheap 70 = .ok (.irem, 1) := dk_112 (dk_at dksX1_laysCheap_3 0 rfl rfl)
theorem dX1_laysCheap_71 : decode cX1_laysCheap 71 = .ok (.dup2, 1) := dk_92 (dk_at dksX1_laysCheap_3 1 rfl rfl)
theorem dX1_laysCheap_72 : decode cX1_laysCheap 72 = .ok (.iaload, 1) := dk_46 (dk_at dksX1_laysCheap_3 2 rfl rfl)
theorem dX1_laysCheap_73 : decode cX1_laysCheap 73 = .ok (.iconst 1, 1) := dk_4 (dk_at dksX1_laysCheap_3 3 rfl rfl)
theorem dX1_laysCheap_74 : decode cX1_laysCheap 74 = .ok (.iadd, 1) := dk_96 (dk_at dksX1_laysCheap_3 4 rfl rfl)
theorem dX1_laysCheap_75 : decode cX1_laysCheap 75 = .ok (.iastore, 1) := dk_79 (dk_at dksX1_laysCheap_3 5 rfl rfl)
theorem dX1_laysCheap_76 : decode cX1_laysCheap 76 = .ok (.aload_n 0, 1) := dk_42 (dk_at dksX1_laysCheap_3 6 rfl rfl)
theorem dX1_laysCheap_77 : decode cX1_laysCheap 77 = .ok (.aload_n 0, 1) := dk_42 (dk_at dksX1_laysCheap_3 7 rfl rfl)
theorem dX1_laysCheap_78 : decode cX1_laysCheap 78 = .ok (.getfield 1, 3) := dk_180 0 1 (dk_at dksX1_laysCheap_3 8 rfl rfl)
theorem dX1_laysCheap_81 : decode cX1_laysCheap 81 = .ok (.iload_n 1, 1) := dk_27 (dk_at dksX1_laysCheap_3 11 rfl rfl)
theorem dX1_laysCheap_82 : decode cX1_laysCheap 82 = .ok (.bipush 12, 2) := dk_16 12 (dk_at dksX1_laysCheap_3 12 rfl rfl)
theorem dX1_laysCheap_84 : decode cX1_laysCheap 84 = .ok (.idiv, 1) := dk_108 (dk_at dksX1_laysCheap_3 14 rfl rfl)
theorem dX1_laysCheap_85 : decode cX1_laysCheap 85 = .ok (.invokevirtual 432, 3) := dk_182 1 176 (dk_at dksX1_laysCheap_3 15 rfl rfl)
theorem dX1_laysCheap_88 : decode cX1_laysCheap 88 = .ok (.iconst 1, 1) := dk_4 (dk_at dksX1_laysCheap_3 18 rfl rfl)
theorem dX1_laysCheap_89 : decode cX1_laysCheap 89 = .ok (.iload_n 1, 1) := dk_27 (dk_at dksX1_laysCheap_3 19 rfl rfl)
theorem dX1_laysCheap_90 : decode cX1_laysCheap 90 = .ok (.invokestatic 435, 3) := dk_184 1 179 (dk_at dksX1_laysCheap_3 20 rfl rfl)
theorem dX1_laysCheap_93 : decode cX1_laysCheap 93 = .ok (.iconst (-1), 1) := dk_2 (dk_at dksX1_laysCheap_3 23 rfl rfl)
theorem dX1_laysCheap_94 : decode cX1_laysCheap 94 = .ok (.invokevirtual 425, 3) := dk_182 1 169 (dk_at dksX1_laysCheap_4 0 rfl rfl)
theorem dX1_laysCheap_97 : decode cX1_laysCheap 97 = .ok (.iload_n 1, 1) := dk_27 (dk_at dksX1_laysCheap_4 3 rfl rfl)
theorem dX1_laysCheap_98 : decode cX1_laysCheap 98 = .ok (.istore_n 2, 1) := dk_61 (dk_at dksX1_laysCheap_4 4 rfl rfl)
theorem dX1_laysCheap_99 : decode cX1_laysCheap 99 = .ok (.iload_n 2, 1) := dk_28 (dk_at dksX1_laysCheap_4 5 rfl rfl)
theorem dX1_laysCheap_100 : decode cX1_laysCheap 100 = .ok (.bipush 36, 2) := dk_16 36 (dk_at dksX1_laysCheap_4 6 rfl rfl)
theorem dX1_laysCheap_102 : decode cX1_laysCheap 102 = .ok (.if_icmp .ge 15, 3) := dk_162 0 15 (dk_at dksX1_laysCheap_4 8 rfl rfl)
theorem dX1_laysCheap_105 : decode cX1_laysCheap 105 = .ok (.aload_n 0, 1) := dk_42 (dk_at dksX1_laysCheap_4 11 rfl rfl)
theorem dX1_laysCheap_106 : decode cX1_laysCheap 106 = .ok (.iload_n 1, 1) := dk_27 (dk_at dksX1_laysCheap_4 12 rfl rfl)
theorem dX1_laysCheap_107 : decode cX1_laysCheap 107 = .ok (.iload_n 2, 1) := dk_28 (dk_at dksX1_laysCheap_4 13 rfl rfl)
theorem dX1_laysCheap_108 : decode cX1_laysCheap 108 = .ok (.invokevirtual 437, 3) := dk_182 1 181 (dk_at dksX1_laysCheap_4 14 rfl rfl)
theorem dX1_laysCheap_111 : decode cX1_laysCheap 111 = .ok (.iinc 2 1, 3) := dk_132 2 1 (dk_at dksX1_laysCheap_4 17 rfl rfl)
theorem dX1_laysCheap_114 : decode cX1_laysCheap 114 = .ok (.goto (-15), 3) := dk_167 255 241 (dk_at dksX1_laysCheap_4 20 rfl rfl)
theorem dX1_laysCheap_117 : decode cX1_laysCheap 117 = .ok (.aload_n 0, 1) := dk_42 (dk_at dksX1_laysCheap_4 23 rfl rfl)
theorem dX1_laysCheap_118 : decode cX1_laysCheap 118 = .ok (.getfield 1, 3) := dk_180 0 1 (dk_at dksX1_laysCheap_5 0 rfl rfl)
theorem dX1_laysCheap_121 : decode cX1_laysCheap 121 = .ok (.getfield 238, 3) := dk_180 0 238 (dk_at dksX1_laysCheap_5 3 rfl rfl)
theorem dX1_laysCheap_124 : decode cX1_laysCheap 124 = .ok (.iload_n 1, 1) := dk_27 (dk_at dksX1_laysCheap_5 6 rfl rfl)
theorem dX1_laysCheap_125 : decode cX1_laysCheap 125 = .ok (.bipush 12, 2) := dk_16 12 (dk_at dksX1_laysCheap_5 7 rfl rfl)
theorem dX1_laysCheap_127 : decode cX1_laysCheap 127 = .ok (.idiv, 1) := dk_108 (dk_at dksX1_laysCheap_5 9 rfl rfl)
theorem dX1_laysCheap_128 : decode cX1_laysCheap 128 = .ok (.aaload, 1) := dk_50 (dk_at dksX1_laysCheap_5 10 rfl rfl)
theorem dX1_laysCheap_129 : decode cX1_laysCheap 129 = .ok (.iload_n 1, 1) := dk_27 (dk_at dksX1_laysCheap_5 11 rfl rfl)
theorem dX1_laysCheap_130 : decode cX1_laysCheap 130 = .ok (.bipush 12, 2) := dk_16 12 (dk_at dksX1_laysCheap_5 12 rfl rfl)
theorem dX1_laysCheap_132 : decode cX1_laysCheap 132 = .ok (.irem, 1) := dk_112 (dk_at dksX1_laysCheap_5 14 rfl rfl)
theorem dX1_laysCheap_133 : decode cX1_laysCheap 133 = .ok (.dup2, 1) := dk_92 (dk_at dksX1_laysCheap_5 15 rfl rfl)
theorem dX1_laysCheap_134 : decode cX1_laysCheap 134 = .ok (.iaload, 1) := dk_46 (dk_at dksX1_laysCheap_5 16 rfl rfl)
theorem dX1_laysCheap_135 : decode cX1_laysCheap 135 = .ok (.iconst 1, 1) := dk_4 (dk_at dksX1_laysCheap_5 17 rfl rfl)
theorem dX1_laysCheap_136 : decode cX1_laysCheap 136 = .ok (.isub, 1) := dk_100 (dk_at dksX1_laysCheap_5 18 rfl rfl)
theorem dX1_laysCheap_137 : decode cX1_laysCheap 137 = .ok (.iastore, 1) := dk_79 (dk_at dksX1_laysCheap_5 19 rfl rfl)
theorem dX1_laysCheap_138 : decode cX1_laysCheap 138 = .ok (.iinc 1 1, 3) := dk_132 1 1 (dk_at dksX1_laysCheap_5 20 rfl rfl)
theorem dX1_laysCheap_141 : decode cX1_laysCheap 141 = .ok (.goto (-124), 3) := dk_167 255 132 (dk_at dksX1_laysCheap_6 0 rfl rfl)
theorem dX1_laysCheap_144 : decode cX1_laysCheap 144 = .ok (.return_, 1) := dk_177 (dk_at dksX1_laysCheap_6 3 rfl rfl)
def dkwX1_isCheap_3 : List UInt8 := [79, 42, 180, 0, 181, 6, 21, 4, 79, 177]
abbrev dktX1_isCheap_3 : List UInt8 := dkwX1_isCheap_3 ++ []
def dkwX1_isCheap_2 : List UInt8 := [154, 0, 4, 177, 42, 180, 0, 181, 3, 27, 79, 42, 180, 0, 181, 4, 28, 79, 42, 180, 0, 181, 5, 29]
abbrev dktX1_isCheap_2 : List UInt8 := dkwX1_isCheap_2 ++ dktX1_isCheap_3
def dkwX1_isCheap_1 : List UInt8 := [180, 0, 181, 3, 46, 160, 0, 13, 28, 42, 180, 0, 181, 4, 46, 162, 0, 10, 42, 182, 1, 10]
abbrev dktX1_isCheap_1 : List UInt8 := dkwX1_isCheap_1 ++ dktX1_isCheap_2
def dkwX1_isCheap_0 : List UInt8 := [42, 180, 0, 181, 3, 46, 2, 159, 0, 33, 27, 42, 180, 0, 181, 3, 46, 163, 0, 30, 27, 42]
abbrev dktX1_isCheap_0 : List UInt8 := dkwX1_isCheap_0 ++ dktX1_isCheap_1
theorem dksX1_isCheap_0 : cX1_isCheap.data.toList.drop 0 = dktX1_isCheap_0 := by decide +kernel
theorem dksX1_isCheap_1 : cX1_isCheap.data.toList.drop 22 = dktX1_isCheap_1 := dk_seg dksX1_isCheap_0 22 rfl rfl
theorem dksX1_isCheap_2 : cX1_isCheap.data.toList.drop 44 = dktX1_isCheap_2 := dk_seg dksX1_isCheap_1 22 rfl rfl
theorem dksX1_isCheap_3 : cX1_isCheap.data.toList.drop 68 = dktX1_isCheap_3 := dk_seg dksX1_isCheap_2 24 rfl rfl
theorem dX1_isCheap_0 : decode cX1_isCheap 0 = .ok (.aload_n 0, 1) := dk_42 (dk_at dksX1_isCheap_0 0 rfl rfl)
theorem dX1_isCheap_1 : decode cX1_isCheap 1 = .ok (.getfield 181, 3) := dk_180 0 181 (dk_at dksX1_isCheap_0 1 rfl rfl)
theorem dX1_isCheap_4 : decode cX1_isCheap 4 = .ok (.iconst 0, 1) := dk_3 (dk_at dksX1_isCheap_0 4 rfl rfl)
theorem dX1_isCheap_5 : decode cX1_isCheap 5 = .ok (.iaload, 1) := dk_46 (dk_at dksX1_isCheap_0 5 rfl rfl)
theorem dX1_isCheap_6 : decode cX1_isCheap 6 = .ok (.iconst (-1), 1) := dk_2 (dk_at dksX1_isCheap_0 6 rfl rfl)
theorem dX1_isCheap_7 : decode cX1_isCheap 7 = .ok (.if_icmp .eq 33, 3) := dk_159 0 33 (dk_at dksX1_isCheap_0 7 rfl rfl)
theorem dX1_isCheap_10 : decode cX1_isCheap 10 = .ok (.iload_n 1, 1) := dk_27 (dk_at dksX1_isCheap_0 10 rfl rfl)
theorem dX1_isCheap_11 : decode cX1_isCheap 11 = .ok (.aload_n 0, 1) := dk_42 (dk_at dksX1_isCheap_0 11 rfl rfl)
theorem dX1_isCheap_12 : decode cX1_isCheap 12 = .ok (.getfield 181, 3) := dk_180 0 181 (dk_at dksX1_isCheap_0 12 rfl rfl)
theorem dX1_isCheap_15 : decode cX1_isCheap 15 = .ok (.iconst 0, 1) := dk_3 (dk_at dksX1_isCheap_0 15 rfl rfl)
theorem dX1_isCheap_16 : decode cX1_isCheap 16 = .ok (.iaload, 1) := dk_46 (dk_at dksX1_isCheap_0 16 rfl rfl)
theorem dX1_isCheap_17 : decode cX1_isCheap 17 = .ok (.if_icmp .gt 30, 3) := dk_163 0 30 (dk_at dksX1_isCheap_0 17 rfl rfl)
theorem dX1_isCheap_20 : decode cX1_isCheap 20 = .ok (.iload_n 1, 1) := dk_27 (dk_at dksX1_isCheap_0 20 rfl rfl)
theorem dX1_isCheap_21 : decode cX1_isCheap 21 = .ok (.aload_n 0, 1) := dk_42 (dk_at dksX1_isCheap_0 21 rfl rfl)
theorem dX1_isCheap_22 : decode cX1_isCheap 22 = .ok (.getfield 181, 3) := dk_180 0 181 (dk_at dksX1_isCheap_1 0 rfl rfl)
theorem dX1_isCheap_25 : decode cX1_isCheap 25 = .ok (.iconst 0, 1) := dk_3 (dk_at dksX1_isCheap_1 3 rfl rfl)
theorem dX1_isCheap_26 : decode cX1_isCheap 26 = .ok (.iaload, 1) := dk_46 (dk_at dksX1_isCheap_1 4 rfl rfl)
theorem dX1_isCheap_27 : decode cX1_isCheap 27 = .ok (.if_icmp .ne 13, 3) := dk_160 0 13 (dk_at dksX1_isCheap_1 5 rfl rfl)
theorem dX1_isCheap_30 : decode cX1_isCheap 30 = .ok (.iload_n 2, 1) := dk_28 (dk_at dksX1_isCheap_1 8 rfl rfl)
theorem dX1_isCheap_31 : decode cX1_isCheap 31 = .ok (.aload_n 0, 1) := dk_42 (dk_at dksX1_isCheap_1 9 rfl rfl)
theorem dX1_isCheap_32 : decode cX1_isCheap 32 = .ok (.getfield 181, 3) := dk_180 0 181 (dk_at dksX1_isCheap_1 10 rfl rfl)
theorem dX1_isCheap_35 : decode cX1_isCheap 35 = .ok (.iconst 1, 1) := dk_4 (dk_at dksX1_isCheap_1 13 rfl rfl)
theorem dX1_isCheap_36 : decode cX1_isCheap 36 = .ok (.iaload, 1) := dk_46 (dk_at dksX1_isCheap_1 14 rfl rfl)
theorem dX1_isCheap_37 : decode cX1_isCheap 37 = .ok (.if_icmp .ge 10, 3) := dk_162 0 10 (dk_at dksX1_isCheap_1 15 rfl rfl)
theorem dX1_isCheap_40 : decode cX1_isCheap 40 = .ok (.aload_n 0, 1) := dk_42 (dk_at dksX1_isCheap_1 18 rfl rfl)
theorem dX1_isCheap_41 : decode cX1_isCheap 41 = .ok (.invokevirtual 266, 3) := dk_182 1 10 (dk_at dksX1_isCheap_1 19 rfl rfl)
theorem dX1_isCheap_44 : decode cX1_isCheap 44 = .ok (.ifCond .ne 4, 3) := dk_154 0 4 (dk_at dksX1_isCheap_2 0 rfl rfl)
theorem dX1_isCheap_47 : decode cX1_isCheap 47 = .ok (.return_, 1) := dk_177 (dk_at dksX1_isCheap_2 3 rfl rfl)
theorem dX1_isCheap_48 : decode cX1_isCheap 48 = .ok (.aload_n 0, 1) := dk_42 (dk_at dksX1_isCheap_2 4 rfl rfl)
theorem dX1_isCheap_49 : decode cX1_isCheap 49 = .ok (.getfield 181, 3) := dk_180 0 181 (dk_at dksX1_isCheap_2 5 rfl rfl)
theorem dX1_isCheap_52 : decode cX1_isCheap 52 = .ok (.iconst 0, 1) := dk_3 (dk_at dksX1_isCheap_2 8 rfl rfl)
theorem dX1_isCheap_53 : decode cX1_isCheap 53 = .ok (.iload_n 1, 1) := dk_27 (dk_at dksX1_isCheap_2 9 rfl rfl)
theorem dX1_isCheap_54 : decode cX1_isCheap 54 = .ok (.iastore, 1) := dk_79 (dk_at dksX1_isCheap_2 10 rfl rfl)
theorem dX1_isCheap_55 : decode cX1_isCheap 55 = .ok (.aload_n 0, 1) := dk_42 (dk_at dksX1_isCheap_2 11 rfl rfl)
theorem dX1_isCheap_56 : decode cX1_isCheap 56 = .ok (.getfield 181, 3) := dk_180 0 181 (dk_at dksX1_isCheap_2 12 rfl rfl)
theorem dX1_isCheap_59 : decode cX1_isCheap 59 = .ok (.iconst 1, 1) := dk_4 (dk_at dksX1_isCheap_2 15 rfl rfl)
theorem dX1_isCheap_60 : decode cX1_isCheap 60 = .ok (.iload_n 2, 1) := dk_28 (dk_at dksX1_isCheap_2 16 rfl rfl)
theorem dX1_isCheap_61 : decode cX1_isCheap 61 = .ok (.iastore, 1) := dk_79 (dk_at dksX1_isCheap_2 17 rfl rfl)
theorem dX1_isCheap_62 : decode cX1_isCheap 62 = .ok (.aload_n 0, 1) := dk_42 (dk_at dksX1_isCheap_2 18 rfl rfl)
theorem dX1_isCheap_63 : decode cX1_isCheap 63 = .ok (.getfield 181, 3) := dk_180 0 181 (dk_at dksX1_isCheap_2 19 rfl rfl)
theorem dX1_isCheap_66 : decode cX1_isCheap 66 = .ok (.iconst 2, 1) := dk_5 (dk_at dksX1_isCheap_2 22 rfl rfl)
theorem dX1_isCheap_67 : decode cX1_isCheap 67 = .ok (.iload_n 3, 1) := dk_29 (dk_at dksX1_isCheap_2 23 rfl rfl)
theorem dX1_isCheap_68 : decode cX1_isCheap 68 = .ok (.iastore, 1) := dk_79 (dk_at dksX1_isCheap_3 0 rfl rfl)
theorem dX1_isCheap_69 : decode cX1_isCheap 69 = .ok (.aload_n 0, 1) := dk_42 (dk_at dksX1_isCheap_3 1 rfl rfl)
theorem dX1_isCheap_70 : decode cX1_isCheap 70 = .ok (.getfield 181, 3) := dk_180 0 181 (dk_at dksX1_isCheap_3 2 rfl rfl)
theorem dX1_isCheap_73 : decode cX1_isCheap 73 = .ok (.iconst 3, 1) := dk_6 (dk_at dksX1_isCheap_3 5 rfl rfl)
theorem dX1_isCheap_74 : decode cX1_isCheap 74 = .ok (.iload 4, 2) := dk_21 4 (dk_at dksX1_isCheap_3 6 rfl rfl)
theorem dX1_isCheap_76 : decode cX1_isCheap 76 = .ok (.iastore, 1) := dk_79 (dk_at dksX1_isCheap_3 8 rfl rfl)
theorem dX1_isCheap_77 : decode cX1_isCheap 77 = .ok (.return_, 1) := dk_177 (dk_at dksX1_isCheap_3 9 rfl rfl)
def dkwX1_tries_4 : List UInt8 := [16, 12, 108, 50, 28, 16, 12, 112, 92, 46, 4, 100, 79, 177]
abbrev dktX1_tries_4 : List UInt8 := dkwX1_tries_4 ++ []
def dkwX1_tries_3 : List UInt8 := [182, 1, 176, 96, 5, 27, 184, 1, 179, 28, 184, 1, 179, 182, 1, 169, 42, 180, 0, 1, 180, 0, 238, 28]
abbrev dktX1_tries_3 : List UInt8 := dkwX1_tries_3 ++ dktX1_tries_4
def dkwX1_tries_2 : List UInt8 := [46, 4, 96, 79, 42, 42, 180, 0, 1, 27, 16, 12, 108, 182, 1, 176, 42, 180, 0, 1, 28, 16, 12, 108]
abbrev dktX1_tries_2 : List UInt8 := dkwX1_tries_2 ++ dktX1_tries_3
def dkwX1_tries_1 : List UInt8 := [182, 1, 173, 154, 0, 4, 177, 42, 180, 0, 1, 180, 0, 238, 28, 16, 12, 108, 50, 28, 16, 12, 112, 92]
abbrev dktX1_tries_1 : List UInt8 := dkwX1_tries_1 ++ dktX1_tries_2
def dkwX1_tries_0 : List UInt8 := [28, 16, 12, 112, 42, 180, 0, 1, 182, 0, 55, 162, 0, 18, 42, 28, 16, 12, 108, 28, 16, 12, 112]
abbrev dktX1_tries_0 : List UInt8 := dkwX1_tries_0 ++ dktX1_tries_1
theorem dksX1_tries_0 : cX1_tries.data.toList.drop 0 = dktX1_tries_0 := by decide +kernel
theorem dksX1_tries_1 : cX1_tries.data.toList.drop 23 = dktX1_tries_1 := dk_seg dksX1_tries_0 23 rfl rfl
theorem dksX1_tries_2 : cX1_tries.data.toList.drop 47 = dktX1_tries_2 := dk_seg dksX1_tries_1 24 rfl rfl
theorem dksX1_tries_3 : cX1_tries.data.toList.drop 71 = dktX1_tries_3 := dk_seg dksX1_tries_2 24 rfl rfl
theorem dksX1_tries_4 : cX1_tries.data.toList.drop 95 = dktX1_tries_4 := dk_seg dksX1_tries_3 24 rfl rfl
theorem dX1_tries_0 : decode cX1_tries 0 = .ok (.iload_n 2, 1) := dk_28 (dk_at dksX1_tries_0 0 rfl rfl)
theorem dX1_tries_1 : decode cX1_tries 1 = .ok (.bipush 12, 2) := dk_16 12 (dk_at dksX1_tries_0 1 rfl rfl)
theorem dX1_tries_3 : decode cX1_tries 3 = .ok (.irem, 1) := dk_112 (dk_at dksX1_tries_0 3 rfl rfl)
theorem dX1_tries_4 : decode cX1_tries 4 = .ok (.aload_n 0, 1) := dk_42 (dk_at dksX1_tries_0 4 rfl rfl)
theorem dX1_tries_5 : decode cX1_tries 5 = .ok (.getfield 1, 3) := dk_180 0 1 (dk_at dksX1_tries_0 5 rfl rfl)
theorem dX1_tries_8 : decode cX1_tries 8 = .ok (.invokevirtual 55, 3) := dk_182 0 55 (dk_at dksX1_tries_0 8 rfl rfl)
theorem dX1_tries_11 : decode cX1_tries 11 = .ok (.if_icmp .ge 18, 3) := dk_162 0 18 (dk_at dksX1_tries_0 11 rfl rfl)
theorem dX1_tries_14 : decode cX1_tries 14 = .ok (.aload_n 0, 1) := dk_42 (dk_at dksX1_tries_0 14 rfl rfl)
theorem dX1_tries_15 : decode cX1_tries 15 = .ok (.iload_n 2, 1) := dk_28 (dk_at dksX1_tries_0 15 rfl rfl)
theorem dX1_tries_16 : decode cX1_tries 16 = .ok (.bipush 12, 2) := dk_16 12 (dk_at dksX1_tries_0 16 rfl rfl)
theorem dX1_tries_18 : decode cX1_tries 18 = .ok (.idiv, 1) := dk_108 (dk_at dksX1_tries_0 18 rfl rfl)
theorem dX1_tries_19 : decode cX1_tries 19 = .ok (.iload_n 2, 1) := dk_28 (dk_at dksX1_tries_0 19 rfl rfl)
theorem dX1_tries_20 : decode cX1_tries 20 = .ok (.bipush 12, 2) := dk_16 12 (dk_at dksX1_tries_0 20 rfl rfl)
theorem dX1_tries_22 : decode cX1_tries 22 = .ok (.irem, 1) := dk_112 (dk_at dksX1_tries_0 22 rfl rfl)
theorem dX1_tries_23 : decode cX1_tries 23 = .ok (.invokevirtual 429, 3) := dk_182 1 173 (dk_at dksX1_tries_1 0 rfl rfl)
theorem dX1_tries_26 : decode cX1_tries 26 = .ok (.ifCond .ne 4, 3) := dk_154 0 4 (dk_at dksX1_tries_1 3 rfl rfl)
theorem dX1_tries_29 : decode cX1_tries 29 = .ok (.return_, 1) := dk_177 (dk_at dksX1_tries_1 6 rfl rfl)
theorem dX1_tries_30 : decode cX1_tries 30 = .ok (.aload_n 0, 1) := dk_42 (dk_at dksX1_tries_1 7 rfl rfl)
theorem dX1_tries_31 : decode cX1_tries 31 = .ok (.getfield 1, 3) := dk_180 0 1 (dk_at dksX1_tries_1 8 rfl rfl)
theorem dX1_tries_34 : decode cX1_tries 34 = .ok (.getfield 238, 3) := dk_180 0 238 (dk_at dksX1_tries_1 11 rfl rfl)
theorem dX1_tries_37 : decode cX1_tries 37 = .ok (.iload_n 2, 1) := dk_28 (dk_at dksX1_tries_1 14 rfl rfl)
theorem dX1_tries_38 : decode cX1_tries 38 = .ok (.bipush 12, 2) := dk_16 12 (dk_at dksX1_tries_1 15 rfl rfl)
theorem dX1_tries_40 : decode cX1_tries 40 = .ok (.idiv, 1) := dk_108 (dk_at dksX1_tries_1 17 rfl rfl)
theorem dX1_tries_41 : decode cX1_tries 41 = .ok (.aaload, 1) := dk_50 (dk_at dksX1_tries_1 18 rfl rfl)
theorem dX1_tries_42 : decode cX1_tries 42 = .ok (.iload_n 2, 1) := dk_28 (dk_at dksX1_tries_1 19 rfl rfl)
theorem dX1_tries_43 : decode cX1_tries 43 = .ok (.bipush 12, 2) := dk_16 12 (dk_at dksX1_tries_1 20 rfl rfl)
theorem dX1_tries_45 : decode cX1_tries 45 = .ok (.irem, 1) := dk_112 (dk_at dksX1_tries_1 22 rfl rfl)
theorem dX1_tries_46 : decode cX1_tries 46 = .ok (.dup2, 1) := dk_92 (dk_at dksX1_tries_1 23 rfl rfl)
theorem dX1_tries_47 : decode cX1_tries 47 = .ok (.iaload, 1) := dk_46 (dk_at dksX1_tries_2 0 rfl rfl)
theorem dX1_tries_48 : decode cX1_tries 48 = .ok (.iconst 1, 1) := dk_4 (dk_at dksX1_tries_2 1 rfl rfl)
theorem dX1_tries_49 : decode cX1_tries 49 = .ok (.iadd, 1) := dk_96 (dk_at dksX1_tries_2 2 rfl rfl)
theorem dX1_tries_50 : decode cX1_tries 50 = .ok (.iastore, 1) := dk_79 (dk_at dksX1_tries_2 3 rfl rfl)
theorem dX1_tries_51 : decode cX1_tries 51 = .ok (.aload_n 0, 1) := dk_42 (dk_at dksX1_tries_2 4 rfl rfl)
theorem dX1_tries_52 : decode cX1_tries 52 = .ok (.aload_n 0, 1) := dk_42 (dk_at dksX1_tries_2 5 rfl rfl)
theorem dX1_tries_53 : decode cX1_tries 53 = .ok (.getfield 1, 3) := dk_180 0 1 (dk_at dksX1_tries_2 6 rfl rfl)
theorem dX1_tries_56 : decode cX1_tries 56 = .ok (.iload_n 1, 1) := dk_27 (dk_at dksX1_tries_2 9 rfl rfl)
theorem dX1_tries_57 : decode cX1_tries 57 = .ok (.bipush 12, 2) := dk_16 12 (dk_at dksX1_tries_2 10 rfl rfl)
theorem dX1_tries_59 : decode cX1_tries 59 = .ok (.idiv, 1) := dk_108 (dk_at dksX1_tries_2 12 rfl rfl)
theorem dX1_tries_60 : decode cX1_tries 60 = .ok (.invokevirtual 432, 3) := dk_182 1 176 (dk_at dksX1_tries_2 13 rfl rfl)
theorem dX1_tries_63 : decode cX1_tries 63 = .ok (.aload_n 0, 1) := dk_42 (dk_at dksX1_tries_2 16 rfl rfl)
theorem dX1_tries_64 : decode cX1_tries 64 = .ok (.getfield 1, 3) := dk_180 0 1 (dk_at dksX1_tries_2 17 rfl rfl)
theorem dX1_tries_67 : decode cX1_tries 67 = .ok (.iload_n 2, 1) := dk_28 (dk_at dksX1_tries_2 20 rfl rfl)
theorem dX1_tries_68 : decode cX1_tries 68 = .ok (.bipush 12, 2) := dk_16 12 (dk_at dksX1_tries_2 21 rfl rfl)
theorem dX1_tries_70 : decode cX1_tries 70 = .ok (.idiv, 1) := dk_108 (dk_at dksX1_tries_2 23 rfl rfl)
theorem dX1_tries_71 : decode cX1_tries 71 = .ok (.invokevirtual 432, 3) := dk_182 1 176 (dk_at dksX1_tries_3 0 rfl rfl)
theorem dX1_tries_74 : decode cX1_tries 74 = .ok (.iadd, 1) := dk_96 (dk_at dksX1_tries_3 3 rfl rfl)
theorem dX1_tries_75 : decode cX1_tries 75 = .ok (.iconst 2, 1) := dk_5 (dk_at dksX1_tries_3 4 rfl rfl)
theorem dX1_tries_76 : decode cX1_tries 76 = .ok (.iload_n 1, 1) := dk_27 (dk_at dksX1_tries_3 5 rfl rfl)
theorem dX1_tries_77 : decode cX1_tries 77 = .ok (.invokestatic 435, 3) := dk_184 1 179 (dk_at dksX1_tries_3 6 rfl rfl)
theorem dX1_tries_80 : decode cX1_tries 80 = .ok (.iload_n 2, 1) := dk_28 (dk_at dksX1_tries_3 9 rfl rfl)
theorem dX1_tries_81 : decode cX1_tries 81 = .ok (.invokestatic 435, 3) := dk_184 1 179 (dk_at dksX1_tries_3 10 rfl rfl)
theorem dX1_tries_84 : decode cX1_tries 84 = .ok (.invokevirtual 425, 3) := dk_182 1 169 (dk_at dksX1_tries_3 13 rfl rfl)
theorem dX1_tries_87 : decode cX1_tries 87 = .ok (.aload_n 0, 1) := dk_42 (dk_at dksX1_tries_3 16 rfl rfl)
theorem dX1_tries_88 : decode cX1_tries 88 = .ok (.getfield 1, 3) := dk_180 0 1 (dk_at dksX1_tries_3 17 rfl rfl)
theorem dX1_tries_91 : decode cX1_tries 91 = .ok (.getfield 238, 3) := dk_180 0 238 (dk_at dksX1_tries_3 20 rfl rfl)
theorem dX1_tries_94 : decode cX1_tries 94 = .ok (.iload_n 2, 1) := dk_28 (dk_at dksX1_tries_3 23 rfl rfl)
theorem dX1_tries_95 : decode cX1_tries 95 = .ok (.bipush 12, 2) := dk_16 12 (dk_at dksX1_tries_4 0 rfl rfl)
theorem dX1_tries_97 : decode cX1_tries 97 = .ok (.idiv, 1) := dk_108 (dk_at dksX1_tries_4 2 rfl rfl)
theorem dX1_tries_98 : decode cX1_tries 98 = .ok (.aaload, 1) := dk_50 (dk_at dksX1_tries_4 3 rfl rfl)
theorem dX1_tries_99 : decode cX1_tries 99 = .ok (.iload_n 2, 1) := dk_28 (dk_at dksX1_tries_4 4 rfl rfl)
theorem dX1_tries_100 : decode cX1_tries 100 = .ok (.bipush 12, 2) := dk_16 12 (dk_at dksX1_tries_4 5 rfl rfl)
theorem dX1_tries_102 : decode cX1_tries 102 = .ok (.irem, 1) := dk_112 (dk_at dksX1_tries_4 7 rfl rfl)
theorem dX1_tries_103 : decode cX1_tries 103 = .ok (.dup2, 1) := dk_92 (dk_at dksX1_tries_4 8 rfl rfl)
theorem dX1_tries_104 : decode cX1_tries 104 = .ok (.iaload, 1) := dk_46 (dk_at dksX1_tries_4 9 rfl rfl)
theorem dX1_tries_105 : decode cX1_tries 105 = .ok (.iconst 1, 1) := dk_4 (dk_at dksX1_tries_4 10 rfl rfl)
theorem dX1_tries_106 : decode cX1_tries 106 = .ok (.isub, 1) := dk_100 (dk_at dksX1_tries_4 11 rfl rfl)
theorem dX1_tries_107 : decode cX1_tries 107 = .ok (.iastore, 1) := dk_79 (dk_at dksX1_tries_4 12 rfl rfl)
theorem dX1_tries_108 : decode cX1_tries 108 = .ok (.return_, 1) := dk_177 (dk_at dksX1_tries_4 13 rfl rfl)
def dkwX1_stored_1 : List UInt8 := [184, 1, 1, 42, 27, 182, 1, 187, 28, 182, 1, 205, 172]
abbrev dktX1_stored_1 : List UInt8 := dkwX1_stored_1 ++ []
def dkwX1_stored_0 : List UInt8 := [27, 3, 4, 184, 0, 253, 153, 0, 16, 28, 3, 8, 184, 0, 253, 153, 0, 7, 4, 167, 0, 4, 3]
abbrev dktX1_stored_0 : List UInt8 := dkwX1_stored_0 ++ dktX1_stored_1
theorem dksX1_stored_0 : cX1_stored.data.toList.drop 0 = dktX1_stored_0 := by decide +kernel
theorem dksX1_stored_1 : cX1_stored.data.toList.drop 23 = dktX1_stored_1 := dk_seg dksX1_stored_0 23 rfl rfl
theorem dX1_stored_0 : decode cX1_stored 0 = .ok (.iload_n 1, 1) := dk_27 (dk_at dksX1_stored_0 0 rfl rfl)
theorem dX1_stored_1 : decode cX1_stored 1 = .ok (.iconst 0, 1) := dk_3 (dk_at dksX1_stored_0 1 rfl rfl)
theorem dX1_stored_2 : decode cX1_stored 2 = .ok (.iconst 1, 1) := dk_4 (dk_at dksX1_stored_0 2 rfl rfl)
theorem dX1_stored_3 : decode cX1_stored 3 = .ok (.invokestatic 253, 3) := dk_184 0 253 (dk_at dksX1_stored_0 3 rfl rfl)
theorem dX1_stored_6 : decode cX1_stored 6 = .ok (.ifCond .eq 16, 3) := dk_153 0 16 (dk_at dksX1_stored_0 6 rfl rfl)
theorem dX1_stored_9 : decode cX1_stored 9 = .ok (.iload_n 2, 1) := dk_28 (dk_at dksX1_stored_0 9 rfl rfl)
theorem dX1_stored_10 : decode cX1_stored 10 = .ok (.iconst 0, 1) := dk_3 (dk_at dksX1_stored_0 10 rfl rfl)
theorem dX1_stored_11 : decode cX1_stored 11 = .ok (.iconst 5, 1) := dk_8 (dk_at dksX1_stored_0 11 rfl rfl)
theorem dX1_stored_12 : decode cX1_stored 12 = .ok (.invokestatic 253, 3) := dk_184 0 253 (dk_at dksX1_stored_0 12 rfl rfl)
theorem dX1_stored_15 : decode cX1_stored 15 = .ok (.ifCond .eq 7, 3) := dk_153 0 7 (dk_at dksX1_stored_0 15 rfl rfl)
theorem dX1_stored_18 : decode cX1_stored 18 = .ok (.iconst 1, 1) := dk_4 (dk_at dksX1_stored_0 18 rfl rfl)
theorem dX1_stored_19 : decode cX1_stored 19 = .ok (.goto 4, 3) := dk_167 0 4 (dk_at dksX1_stored_0 19 rfl rfl)
theorem dX1_stored_22 : decode cX1_stored 22 = .ok (.iconst 0, 1) := dk_3 (dk_at dksX1_stored_0 22 rfl rfl)
theorem dX1_stored_23 : decode cX1_stored 23 = .ok (.invokestatic 257, 3) := dk_184 1 1 (dk_at dksX1_stored_1 0 rfl rfl)
theorem dX1_stored_26 : decode cX1_stored 26 = .ok (.aload_n 0, 1) := dk_42 (dk_at dksX1_stored_1 3 rfl rfl)
theorem dX1_stored_27 : decode cX1_stored 27 = .ok (.iload_n 1, 1) := dk_27 (dk_at dksX1_stored_1 4 rfl rfl)
theorem dX1_stored_28 : decode cX1_stored 28 = .ok (.invokevirtual 443, 3) := dk_182 1 187 (dk_at dksX1_stored_1 5 rfl rfl)
theorem dX1_stored_31 : decode cX1_stored 31 = .ok (.iload_n 2, 1) := dk_28 (dk_at dksX1_stored_1 8 rfl rfl)
theorem dX1_stored_32 : decode cX1_stored 32 = .ok (.invokevirtual 461, 3) := dk_182 1 205 (dk_at dksX1_stored_1 9 rfl rfl)
theorem dX1_stored_35 : decode cX1_stored 35 = .ok (.ireturn, 1) := dk_172 (dk_at dksX1_stored_1 12 rfl rfl)
