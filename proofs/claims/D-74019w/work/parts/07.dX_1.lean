set_option maxRecDepth 100000
def dkwX7_byteAt_1 : List UInt8 := [3, 172]
abbrev dktX7_byteAt_1 : List UInt8 := dkwX7_byteAt_1 ++ []
def dkwX7_byteAt_0 : List UInt8 := [27, 42, 180, 0, 28, 162, 0, 19, 42, 180, 0, 3, 180, 0, 35, 27, 51, 17, 0, 255, 126, 167, 0, 4]
abbrev dktX7_byteAt_0 : List UInt8 := dkwX7_byteAt_0 ++ dktX7_byteAt_1
theorem dksX7_byteAt_0 : cX7_byteAt.data.toList.drop 0 = dktX7_byteAt_0 := by decide +kernel
theorem dksX7_byteAt_1 : cX7_byteAt.data.toList.drop 24 = dktX7_byteAt_1 := dk_seg dksX7_byteAt_0 24 rfl rfl
theorem dX7_byteAt_0 : decode cX7_byteAt 0 = .ok (.iload_n 1, 1) := dk_27 (dk_at dksX7_byteAt_0 0 rfl rfl)
theorem dX7_byteAt_1 : decode cX7_byteAt 1 = .ok (.aload_n 0, 1) := dk_42 (dk_at dksX7_byteAt_0 1 rfl rfl)
theorem dX7_byteAt_2 : decode cX7_byteAt 2 = .ok (.getfield 28, 3) := dk_180 0 28 (dk_at dksX7_byteAt_0 2 rfl rfl)
theorem dX7_byteAt_5 : decode cX7_byteAt 5 = .ok (.if_icmp .ge 19, 3) := dk_162 0 19 (dk_at dksX7_byteAt_0 5 rfl rfl)
theorem dX7_byteAt_8 : decode cX7_byteAt 8 = .ok (.aload_n 0, 1) := dk_42 (dk_at dksX7_byteAt_0 8 rfl rfl)
theorem dX7_byteAt_9 : decode cX7_byteAt 9 = .ok (.getfield 3, 3) := dk_180 0 3 (dk_at dksX7_byteAt_0 9 rfl rfl)
theorem dX7_byteAt_12 : decode cX7_byteAt 12 = .ok (.getfield 35, 3) := dk_180 0 35 (dk_at dksX7_byteAt_0 12 rfl rfl)
theorem dX7_byteAt_15 : decode cX7_byteAt 15 = .ok (.iload_n 1, 1) := dk_27 (dk_at dksX7_byteAt_0 15 rfl rfl)
theorem dX7_byteAt_16 : decode cX7_byteAt 16 = .ok (.baload, 1) := dk_51 (dk_at dksX7_byteAt_0 16 rfl rfl)
theorem dX7_byteAt_17 : decode cX7_byteAt 17 = .ok (.sipush 255, 3) := dk_17 0 255 (dk_at dksX7_byteAt_0 17 rfl rfl)
theorem dX7_byteAt_20 : decode cX7_byteAt 20 = .ok (.iand, 1) := dk_126 (dk_at dksX7_byteAt_0 20 rfl rfl)
theorem dX7_byteAt_21 : decode cX7_byteAt 21 = .ok (.goto 4, 3) := dk_167 0 4 (dk_at dksX7_byteAt_0 21 rfl rfl)
theorem dX7_byteAt_24 : decode cX7_byteAt 24 = .ok (.iconst 0, 1) := dk_3 (dk_at dksX7_byteAt_1 0 rfl rfl)
theorem dX7_byteAt_25 : decode cX7_byteAt 25 = .ok (.ireturn, 1) := dk_172 (dk_at dksX7_byteAt_1 1 rfl rfl)
def dkwX7_isLetter_0 : List UInt8 := [27, 16, 97, 161, 0, 13, 27, 16, 122, 163, 0, 7, 4, 167, 0, 4, 3, 172]
abbrev dktX7_isLetter_0 : List UInt8 := dkwX7_isLetter_0 ++ []
theorem dksX7_isLetter_0 : cX7_isLetter.data.toList.drop 0 = dktX7_isLetter_0 := by decide +kernel
theorem dX7_isLetter_0 : decode cX7_isLetter 0 = .ok (.iload_n 1, 1) := dk_27 (dk_at dksX7_isLetter_0 0 rfl rfl)
theorem dX7_isLetter_1 : decode cX7_isLetter 1 = .ok (.bipush 97, 2) := dk_16 97 (dk_at dksX7_isLetter_0 1 rfl rfl)
theorem dX7_isLetter_3 : decode cX7_isLetter 3 = .ok (.if_icmp .lt 13, 3) := dk_161 0 13 (dk_at dksX7_isLetter_0 3 rfl rfl)
theorem dX7_isLetter_6 : decode cX7_isLetter 6 = .ok (.iload_n 1, 1) := dk_27 (dk_at dksX7_isLetter_0 6 rfl rfl)
theorem dX7_isLetter_7 : decode cX7_isLetter 7 = .ok (.bipush 122, 2) := dk_16 122 (dk_at dksX7_isLetter_0 7 rfl rfl)
theorem dX7_isLetter_9 : decode cX7_isLetter 9 = .ok (.if_icmp .gt 7, 3) := dk_163 0 7 (dk_at dksX7_isLetter_0 9 rfl rfl)
theorem dX7_isLetter_12 : decode cX7_isLetter 12 = .ok (.iconst 1, 1) := dk_4 (dk_at dksX7_isLetter_0 12 rfl rfl)
theorem dX7_isLetter_13 : decode cX7_isLetter 13 = .ok (.goto 4, 3) := dk_167 0 4 (dk_at dksX7_isLetter_0 13 rfl rfl)
theorem dX7_isLetter_16 : decode cX7_isLetter 16 = .ok (.iconst 0, 1) := dk_3 (dk_at dksX7_isLetter_0 16 rfl rfl)
theorem dX7_isLetter_17 : decode cX7_isLetter 17 = .ok (.ireturn, 1) := dk_172 (dk_at dksX7_isLetter_0 17 rfl rfl)
def dkwX7_isDigit_0 : List UInt8 := [27, 16, 48, 161, 0, 13, 27, 16, 57, 163, 0, 7, 4, 167, 0, 4, 3, 172]
abbrev dktX7_isDigit_0 : List UInt8 := dkwX7_isDigit_0 ++ []
theorem dksX7_isDigit_0 : cX7_isDigit.data.toList.drop 0 = dktX7_isDigit_0 := by decide +kernel
theorem dX7_isDigit_0 : decode cX7_isDigit 0 = .ok (.iload_n 1, 1) := dk_27 (dk_at dksX7_isDigit_0 0 rfl rfl)
theorem dX7_isDigit_1 : decode cX7_isDigit 1 = .ok (.bipush 48, 2) := dk_16 48 (dk_at dksX7_isDigit_0 1 rfl rfl)
theorem dX7_isDigit_3 : decode cX7_isDigit 3 = .ok (.if_icmp .lt 13, 3) := dk_161 0 13 (dk_at dksX7_isDigit_0 3 rfl rfl)
theorem dX7_isDigit_6 : decode cX7_isDigit 6 = .ok (.iload_n 1, 1) := dk_27 (dk_at dksX7_isDigit_0 6 rfl rfl)
theorem dX7_isDigit_7 : decode cX7_isDigit 7 = .ok (.bipush 57, 2) := dk_16 57 (dk_at dksX7_isDigit_0 7 rfl rfl)
theorem dX7_isDigit_9 : decode cX7_isDigit 9 = .ok (.if_icmp .gt 7, 3) := dk_163 0 7 (dk_at dksX7_isDigit_0 9 rfl rfl)
theorem dX7_isDigit_12 : decode cX7_isDigit 12 = .ok (.iconst 1, 1) := dk_4 (dk_at dksX7_isDigit_0 12 rfl rfl)
theorem dX7_isDigit_13 : decode cX7_isDigit 13 = .ok (.goto 4, 3) := dk_167 0 4 (dk_at dksX7_isDigit_0 13 rfl rfl)
theorem dX7_isDigit_16 : decode cX7_isDigit 16 = .ok (.iconst 0, 1) := dk_3 (dk_at dksX7_isDigit_0 16 rfl rfl)
theorem dX7_isDigit_17 : decode cX7_isDigit 17 = .ok (.ireturn, 1) := dk_172 (dk_at dksX7_isDigit_0 17 rfl rfl)
def dkwX7_whole_4 : List UInt8 := [182, 0, 103, 42, 182, 0, 135, 42, 182, 0, 132, 167, 255, 218, 42, 180, 0, 18, 176]
abbrev dktX7_whole_4 : List UInt8 := dkwX7_whole_4 ++ []
def dkwX7_whole_3 : List UInt8 := [178, 0, 49, 165, 0, 34, 42, 42, 180, 0, 55, 178, 0, 79, 166, 0, 7, 4, 167, 0, 4, 3, 4]
abbrev dktX7_whole_3 : List UInt8 := dkwX7_whole_3 ++ dktX7_whole_4
def dkwX7_whole_2 : List UInt8 := [181, 0, 126, 42, 180, 0, 18, 42, 4, 6, 182, 0, 122, 181, 0, 129, 42, 182, 0, 132, 42, 180, 0, 55]
abbrev dktX7_whole_2 : List UInt8 := dkwX7_whole_2 ++ dktX7_whole_3
def dkwX7_whole_1 : List UInt8 := [167, 0, 4, 3, 4, 182, 0, 103, 42, 182, 0, 32, 42, 180, 0, 18, 42, 4, 7, 182, 0, 122]
abbrev dktX7_whole_1 : List UInt8 := dkwX7_whole_1 ++ dktX7_whole_2
def dkwX7_whole_0 : List UInt8 := [42, 42, 180, 0, 55, 178, 0, 79, 166, 0, 19, 42, 180, 0, 24, 18, 114, 182, 0, 116, 153, 0, 7, 4]
abbrev dktX7_whole_0 : List UInt8 := dkwX7_whole_0 ++ dktX7_whole_1
theorem dksX7_whole_0 : cX7_whole.data.toList.drop 0 = dktX7_whole_0 := by decide +kernel
theorem dksX7_whole_1 : cX7_whole.data.toList.drop 24 = dktX7_whole_1 := dk_seg dksX7_whole_0 24 rfl rfl
theorem dksX7_whole_2 : cX7_whole.data.toList.drop 46 = dktX7_whole_2 := dk_seg dksX7_whole_1 22 rfl rfl
theorem dksX7_whole_3 : cX7_whole.data.toList.drop 70 = dktX7_whole_3 := dk_seg dksX7_whole_2 24 rfl rfl
theorem dksX7_whole_4 : cX7_whole.data.toList.drop 93 = dktX7_whole_4 := dk_seg dksX7_whole_3 23 rfl rfl
theorem dX7_whole_0 : decode cX7_whole 0 = .ok (.aload_n 0, 1) := dk_42 (dk_at dksX7_whole_0 0 rfl rfl)
theorem dX7_whole_1 : decode cX7_whole 1 = .ok (.aload_n 0, 1) := dk_42 (dk_at dksX7_whole_0 1 rfl rfl)
theorem dX7_whole_2 : decode cX7_whole 2 = .ok (.getfield 55, 3) := dk_180 0 55 (dk_at dksX7_whole_0 2 rfl rfl)
theorem dX7_whole_5 : decode cX7_whole 5 = .ok (.getstatic 79, 3) := dk_178 0 79 (dk_at dksX7_whole_0 5 rfl rfl)
theorem dX7_whole_8 : decode cX7_whole 8 = .ok (.if_acmp .ne 19, 3) := dk_166 0 19 (dk_at dksX7_whole_0 8 rfl rfl)
theorem dX7_whole_11 : decode cX7_whole 11 = .ok (.aload_n 0, 1) := dk_42 (dk_at dksX7_whole_0 11 rfl rfl)
theorem dX7_whole_12 : decode cX7_whole 12 = .ok (.getfield 24, 3) := dk_180 0 24 (dk_at dksX7_whole_0 12 rfl rfl)
theorem dX7_whole_15 : decode cX7_whole 15 = .ok (.ldc 114, 2) := dk_18 114 (dk_at dksX7_whole_0 15 rfl rfl)
theorem dX7_whole_17 : decode cX7_whole 17 = .ok (.invokevirtual 116, 3) := dk_182 0 116 (dk_at dksX7_whole_0 17 rfl rfl)
theorem dX7_whole_20 : decode cX7_whole 20 = .ok (.ifCond .eq 7, 3) := dk_153 0 7 (dk_at dksX7_whole_0 20 rfl rfl)
theorem dX7_whole_23 : decode cX7_whole 23 = .ok (.iconst 1, 1) := dk_4 (dk_at dksX7_whole_0 23 rfl rfl)
theorem dX7_whole_24 : decode cX7_whole 24 = .ok (.goto 4, 3) := dk_167 0 4 (dk_at dksX7_whole_1 0 rfl rfl)
theorem dX7_whole_27 : decode cX7_whole 27 = .ok (.iconst 0, 1) := dk_3 (dk_at dksX7_whole_1 3 rfl rfl)
theorem dX7_whole_28 : decode cX7_whole 28 = .ok (.iconst 1, 1) := dk_4 (dk_at dksX7_whole_1 4 rfl rfl)
theorem dX7_whole_29 : decode cX7_whole 29 = .ok (.invokevirtual 103, 3) := dk_182 0 103 (dk_at dksX7_whole_1 5 rfl rfl)
theorem dX7_whole_32 : decode cX7_whole 32 = .ok (.aload_n 0, 1) := dk_42 (dk_at dksX7_whole_1 8 rfl rfl)
theorem dX7_whole_33 : decode cX7_whole 33 = .ok (.invokevirtual 32, 3) := dk_182 0 32 (dk_at dksX7_whole_1 9 rfl rfl)
theorem dX7_whole_36 : decode cX7_whole 36 = .ok (.aload_n 0, 1) := dk_42 (dk_at dksX7_whole_1 12 rfl rfl)
theorem dX7_whole_37 : decode cX7_whole 37 = .ok (.getfield 18, 3) := dk_180 0 18 (dk_at dksX7_whole_1 13 rfl rfl)
theorem dX7_whole_40 : decode cX7_whole 40 = .ok (.aload_n 0, 1) := dk_42 (dk_at dksX7_whole_1 16 rfl rfl)
theorem dX7_whole_41 : decode cX7_whole 41 = .ok (.iconst 1, 1) := dk_4 (dk_at dksX7_whole_1 17 rfl rfl)
theorem dX7_whole_42 : decode cX7_whole 42 = .ok (.iconst 4, 1) := dk_7 (dk_at dksX7_whole_1 18 rfl rfl)
theorem dX7_whole_43 : decode cX7_whole 43 = .ok (.invokevirtual 122, 3) := dk_182 0 122 (dk_at dksX7_whole_1 19 rfl rfl)
theorem dX7_whole_46 : decode cX7_whole 46 = .ok (.putfield 126, 3) := dk_181 0 126 (dk_at dksX7_whole_2 0 rfl rfl)
theorem dX7_whole_49 : decode cX7_whole 49 = .ok (.aload_n 0, 1) := dk_42 (dk_at dksX7_whole_2 3 rfl rfl)
theorem dX7_whole_50 : decode cX7_whole 50 = .ok (.getfield 18, 3) := dk_180 0 18 (dk_at dksX7_whole_2 4 rfl rfl)
theorem dX7_whole_53 : decode cX7_whole 53 = .ok (.aload_n 0, 1) := dk_42 (dk_at dksX7_whole_2 7 rfl rfl)
theorem dX7_whole_54 : decode cX7_whole 54 = .ok (.iconst 1, 1) := dk_4 (dk_at dksX7_whole_2 8 rfl rfl)
theorem dX7_whole_55 : decode cX7_whole 55 = .ok (.iconst 3, 1) := dk_6 (dk_at dksX7_whole_2 9 rfl rfl)
theorem dX7_whole_56 : decode cX7_whole 56 = .ok (.invokevirtual 122, 3) := dk_182 0 122 (dk_at dksX7_whole_2 10 rfl rfl)
theorem dX7_whole_59 : decode cX7_whole 59 = .ok (.putfield 129, 3) := dk_181 0 129 (dk_at dksX7_whole_2 13 rfl rfl)
theorem dX7_whole_62 : decode cX7_whole 62 = .ok (.aload_n 0, 1) := dk_42 (dk_at dksX7_whole_2 16 rfl rfl)
theorem dX7_whole_63 : decode cX7_whole 63 = .ok (.invokevirtual 132, 3) := dk_182 0 132 (dk_at dksX7_whole_2 17 rfl rfl)
theorem dX7_whole_66 : decode cX7_whole 66 = .ok (.aload_n 0, 1) := dk_42 (dk_at dksX7_whole_2 20 rfl rfl)
theorem dX7_whole_67 : decode cX7_whole 67 = .ok (.getfield 55, 3) := dk_180 0 55 (dk_at dksX7_whole_2 21 rfl rfl)
theorem dX7_whole_70 : decode cX7_whole 70 = .ok (.getstatic 49, 3) := dk_178 0 49 (dk_at dksX7_whole_3 0 rfl rfl)
theorem dX7_whole_73 : decode cX7_whole 73 = .ok (.if_acmp .eq 34, 3) := dk_165 0 34 (dk_at dksX7_whole_3 3 rfl rfl)
theorem dX7_whole_76 : decode cX7_whole 76 = .ok (.aload_n 0, 1) := dk_42 (dk_at dksX7_whole_3 6 rfl rfl)
theorem dX7_whole_77 : decode cX7_whole 77 = .ok (.aload_n 0, 1) := dk_42 (dk_at dksX7_whole_3 7 rfl rfl)
theorem dX7_whole_78 : decode cX7_whole 78 = .ok (.getfield 55, 3) := dk_180 0 55 (dk_at dksX7_whole_3 8 rfl rfl)
theorem dX7_whole_81 : decode cX7_whole 81 = .ok (.getstatic 79, 3) := dk_178 0 79 (dk_at dksX7_whole_3 11 rfl rfl)
theorem dX7_whole_84 : decode cX7_whole 84 = .ok (.if_acmp .ne 7, 3) := dk_166 0 7 (dk_at dksX7_whole_3 14 rfl rfl)
theorem dX7_whole_87 : decode cX7_whole 87 = .ok (.iconst 1, 1) := dk_4 (dk_at dksX7_whole_3 17 rfl rfl)
theorem dX7_whole_88 : decode cX7_whole 88 = .ok (.goto 4, 3) := dk_167 0 4 (dk_at dksX7_whole_3 18 rfl rfl)
theorem dX7_whole_91 : decode cX7_whole 91 = .ok (.iconst 0, 1) := dk_3 (dk_at dksX7_whole_3 21 rfl rfl)
theorem dX7_whole_92 : decode cX7_whole 92 = .ok (.iconst 1, 1) := dk_4 (dk_at dksX7_whole_3 22 rfl rfl)
theorem dX7_whole_93 : decode cX7_whole 93 = .ok (.invokevirtual 103, 3) := dk_182 0 103 (dk_at dksX7_whole_4 0 rfl rfl)
theorem dX7_whole_96 : decode cX7_whole 96 = .ok (.aload_n 0, 1) := dk_42 (dk_at dksX7_whole_4 3 rfl rfl)
theorem dX7_whole_97 : decode cX7_whole 97 = .ok (.invokevirtual 135, 3) := dk_182 0 135 (dk_at dksX7_whole_4 4 rfl rfl)
theorem dX7_whole_100 : decode cX7_whole 100 = .ok (.aload_n 0, 1) := dk_42 (dk_at dksX7_whole_4 7 rfl rfl)
theorem dX7_whole_101 : decode cX7_whole 101 = .ok (.invokevirtual 132, 3) := dk_182 0 132 (dk_at dksX7_whole_4 8 rfl rfl)
theorem dX7_whole_104 : decode cX7_whole 104 = .ok (.goto (-38), 3) := dk_167 255 218 (dk_at dksX7_whole_4 11 rfl rfl)
theorem dX7_whole_107 : decode cX7_whole 107 = .ok (.aload_n 0, 1) := dk_42 (dk_at dksX7_whole_4 14 rfl rfl)
theorem dX7_whole_108 : decode cX7_whole 108 = .ok (.getfield 18, 3) := dk_180 0 18 (dk_at dksX7_whole_4 15 rfl rfl)
theorem dX7_whole_111 : decode cX7_whole 111 = .ok (.areturn, 1) := dk_176 (dk_at dksX7_whole_4 18 rfl rfl)
def dkwX7_check_0 : List UInt8 := [27, 154, 0, 16, 187, 0, 98, 89, 28, 42, 180, 0, 46, 183, 0, 100, 191, 177]
abbrev dktX7_check_0 : List UInt8 := dkwX7_check_0 ++ []
theorem dksX7_check_0 : cX7_check.data.toList.drop 0 = dktX7_check_0 := by decide +kernel
theorem dX7_check_0 : decode cX7_check 0 = .ok (.iload_n 1, 1) := dk_27 (dk_at dksX7_check_0 0 rfl rfl)
theorem dX7_check_1 : decode cX7_check 1 = .ok (.ifCond .ne 16, 3) := dk_154 0 16 (dk_at dksX7_check_0 1 rfl rfl)
theorem dX7_check_4 : decode cX7_check 4 = .ok (.new 98, 3) := dk_187 0 98 (dk_at dksX7_check_0 4 rfl rfl)
theorem dX7_check_7 : decode cX7_check 7 = .ok (.dup, 1) := dk_89 (dk_at dksX7_check_0 7 rfl rfl)
theorem dX7_check_8 : decode cX7_check 8 = .ok (.iload_n 2, 1) := dk_28 (dk_at dksX7_check_0 8 rfl rfl)
theorem dX7_check_9 : decode cX7_check 9 = .ok (.aload_n 0, 1) := dk_42 (dk_at dksX7_check_0 9 rfl rfl)
theorem dX7_check_10 : decode cX7_check 10 = .ok (.getfield 46, 3) := dk_180 0 46 (dk_at dksX7_check_0 10 rfl rfl)
theorem dX7_check_13 : decode cX7_check 13 = .ok (.invokespecial 100, 3) := dk_183 0 100 (dk_at dksX7_check_0 13 rfl rfl)
theorem dX7_check_16 : decode cX7_check 16 = .ok (.athrow, 1) := dk_191 (dk_at dksX7_check_0 16 rfl rfl)
theorem dX7_check_17 : decode cX7_check 17 = .ok (.return_, 1) := dk_177 (dk_at dksX7_check_0 17 rfl rfl)
def dkwX7_number_2 : List UInt8 := [42, 180, 0, 85, 62, 42, 182, 0, 32, 29, 172]
abbrev dktX7_number_2 : List UInt8 := dkwX7_number_2 ++ []
def dkwX7_number_1 : List UInt8 := [180, 0, 85, 27, 161, 0, 15, 42, 180, 0, 85, 28, 163, 0, 7, 4, 167, 0, 4, 3, 5, 182, 0, 103]
abbrev dktX7_number_1 : List UInt8 := dkwX7_number_1 ++ dktX7_number_2
def dkwX7_number_0 : List UInt8 := [42, 42, 180, 0, 55, 178, 0, 89, 166, 0, 7, 4, 167, 0, 4, 3, 4, 182, 0, 103, 42, 42]
abbrev dktX7_number_0 : List UInt8 := dkwX7_number_0 ++ dktX7_number_1
theorem dksX7_number_0 : cX7_number.data.toList.drop 0 = dktX7_number_0 := by decide +kernel
theorem dksX7_number_1 : cX7_number.data.toList.drop 22 = dktX7_number_1 := dk_seg dksX7_number_0 22 rfl rfl
theorem dksX7_number_2 : cX7_number.data.toList.drop 46 = dktX7_number_2 := dk_seg dksX7_number_1 24 rfl rfl
theorem dX7_number_0 : decode cX7_number 0 = .ok (.aload_n 0, 1) := dk_42 (dk_at dksX7_number_0 0 rfl rfl)
theorem dX7_number_1 : decode cX7_number 1 = .ok (.aload_n 0, 1) := dk_42 (dk_at dksX7_number_0 1 rfl rfl)
theorem dX7_number_2 : decode cX7_number 2 = .ok (.getfield 55, 3) := dk_180 0 55 (dk_at dksX7_number_0 2 rfl rfl)
theorem dX7_number_5 : decode cX7_number 5 = .ok (.getstatic 89, 3) := dk_178 0 89 (dk_at dksX7_number_0 5 rfl rfl)
theorem dX7_number_8 : decode cX7_number 8 = .ok (.if_acmp .ne 7, 3) := dk_166 0 7 (dk_at dksX7_number_0 8 rfl rfl)
theorem dX7_number_11 : decode cX7_number 11 = .ok (.iconst 1, 1) := dk_4 (dk_at dksX7_number_0 11 rfl rfl)
theorem dX7_number_12 : decode cX7_number 12 = .ok (.goto 4, 3) := dk_167 0 4 (dk_at dksX7_number_0 12 rfl rfl)
theorem dX7_number_15 : decode cX7_number 15 = .ok (.iconst 0, 1) := dk_3 (dk_at dksX7_number_0 15 rfl rfl)
theorem dX7_number_16 : decode cX7_number 16 = .ok (.iconst 1, 1) := dk_4 (dk_at dksX7_number_0 16 rfl rfl)
theorem dX7_number_17 : decode cX7_number 17 = .ok (.invokevirtual 103, 3) := dk_182 0 103 (dk_at dksX7_number_0 17 rfl rfl)
theorem dX7_number_20 : decode cX7_number 20 = .ok (.aload_n 0, 1) := dk_42 (dk_at dksX7_number_0 20 rfl rfl)
theorem dX7_number_21 : decode cX7_number 21 = .ok (.aload_n 0, 1) := dk_42 (dk_at dksX7_number_0 21 rfl rfl)
theorem dX7_number_22 : decode cX7_number 22 = .ok (.getfield 85, 3) := dk_180 0 85 (dk_at dksX7_number_1 0 rfl rfl)
theorem dX7_number_25 : decode cX7_number 25 = .ok (.iload_n 1, 1) := dk_27 (dk_at dksX7_number_1 3 rfl rfl)
theorem dX7_number_26 : decode cX7_number 26 = .ok (.if_icmp .lt 15, 3) := dk_161 0 15 (dk_at dksX7_number_1 4 rfl rfl)
theorem dX7_number_29 : decode cX7_number 29 = .ok (.aload_n 0, 1) := dk_42 (dk_at dksX7_number_1 7 rfl rfl)
theorem dX7_number_30 : decode cX7_number 30 = .ok (.getfield 85, 3) := dk_180 0 85 (dk_at dksX7_number_1 8 rfl rfl)
theorem dX7_number_33 : decode cX7_number 33 = .ok (.iload_n 2, 1) := dk_28 (dk_at dksX7_number_1 11 rfl rfl)
theorem dX7_number_34 : decode cX7_number 34 = .ok (.if_icmp .gt 7, 3) := dk_163 0 7 (dk_at dksX7_number_1 12 rfl rfl)
theorem dX7_number_37 : decode cX7_number 37 = .ok (.iconst 1, 1) := dk_4 (dk_at dksX7_number_1 15 rfl rfl)
theorem dX7_number_38 : decode cX7_number 38 = .ok (.goto 4, 3) := dk_167 0 4 (dk_at dksX7_number_1 16 rfl rfl)
theorem dX7_number_41 : decode cX7_number 41 = .ok (.iconst 0, 1) := dk_3 (dk_at dksX7_number_1 19 rfl rfl)
theorem dX7_number_42 : decode cX7_number 42 = .ok (.iconst 2, 1) := dk_5 (dk_at dksX7_number_1 20 rfl rfl)
theorem dX7_number_43 : decode cX7_number 43 = .ok (.invokevirtual 103, 3) := dk_182 0 103 (dk_at dksX7_number_1 21 rfl rfl)
theorem dX7_number_46 : decode cX7_number 46 = .ok (.aload_n 0, 1) := dk_42 (dk_at dksX7_number_2 0 rfl rfl)
theorem dX7_number_47 : decode cX7_number 47 = .ok (.getfield 85, 3) := dk_180 0 85 (dk_at dksX7_number_2 1 rfl rfl)
theorem dX7_number_50 : decode cX7_number 50 = .ok (.istore_n 3, 1) := dk_62 (dk_at dksX7_number_2 4 rfl rfl)
theorem dX7_number_51 : decode cX7_number 51 = .ok (.aload_n 0, 1) := dk_42 (dk_at dksX7_number_2 5 rfl rfl)
theorem dX7_number_52 : decode cX7_number 52 = .ok (.invokevirtual 32, 3) := dk_182 0 32 (dk_at dksX7_number_2 6 rfl rfl)
theorem dX7_number_55 : decode cX7_number 55 = .ok (.iload_n 3, 1) := dk_29 (dk_at dksX7_number_2 9 rfl rfl)
theorem dX7_number_56 : decode cX7_number 56 = .ok (.ireturn, 1) := dk_172 (dk_at dksX7_number_2 10 rfl rfl)
def dkwX7_ends_1 : List UInt8 := [177]
abbrev dktX7_ends_1 : List UInt8 := dkwX7_ends_1 ++ []
def dkwX7_ends_0 : List UInt8 := [42, 42, 180, 0, 55, 178, 0, 92, 166, 0, 7, 4, 167, 0, 4, 3, 4, 182, 0, 103, 42, 182, 0, 32]
abbrev dktX7_ends_0 : List UInt8 := dkwX7_ends_0 ++ dktX7_ends_1
theorem dksX7_ends_0 : cX7_ends.data.toList.drop 0 = dktX7_ends_0 := by decide +kernel
theorem dksX7_ends_1 : cX7_ends.data.toList.drop 24 = dktX7_ends_1 := dk_seg dksX7_ends_0 24 rfl rfl
theorem dX7_ends_0 : decode cX7_ends 0 = .ok (.aload_n 0, 1) := dk_42 (dk_at dksX7_ends_0 0 rfl rfl)
theorem dX7_ends_1 : decode cX7_ends 1 = .ok (.aload_n 0, 1) := dk_42 (dk_at dksX7_ends_0 1 rfl rfl)
theorem dX7_ends_2 : decode cX7_ends 2 = .ok (.getfield 55, 3) := dk_180 0 55 (dk_at dksX7_ends_0 2 rfl rfl)
theorem dX7_ends_5 : decode cX7_ends 5 = .ok (.getstatic 92, 3) := dk_178 0 92 (dk_at dksX7_ends_0 5 rfl rfl)
theorem dX7_ends_8 : decode cX7_ends 8 = .ok (.if_acmp .ne 7, 3) := dk_166 0 7 (dk_at dksX7_ends_0 8 rfl rfl)
theorem dX7_ends_11 : decode cX7_ends 11 = .ok (.iconst 1, 1) := dk_4 (dk_at dksX7_ends_0 11 rfl rfl)
theorem dX7_ends_12 : decode cX7_ends 12 = .ok (.goto 4, 3) := dk_167 0 4 (dk_at dksX7_ends_0 12 rfl rfl)
theorem dX7_ends_15 : decode cX7_ends 15 = .ok (.iconst 0, 1) := dk_3 (dk_at dksX7_ends_0 15 rfl rfl)
theorem dX7_ends_16 : decode cX7_ends 16 = .ok (.iconst 1, 1) := dk_4 (dk_at dksX7_ends_0 16 rfl rfl)
theorem dX7_ends_17 : decode cX7_ends 17 = .ok (.invokevirtual 103, 3) := dk_182 0 103 (dk_at dksX7_ends_0 17 rfl rfl)
theorem dX7_ends_20 : decode cX7_ends 20 = .ok (.aload_n 0, 1) := dk_42 (dk_at dksX7_ends_0 20 rfl rfl)
theorem dX7_ends_21 : decode cX7_ends 21 = .ok (.invokevirtual 32, 3) := dk_182 0 32 (dk_at dksX7_ends_0 21 rfl rfl)
theorem dX7_ends_24 : decode cX7_ends 24 = .ok (.return_, 1) := dk_177 (dk_at dksX7_ends_1 0 rfl rfl)
def dkwX7_clause_15 : List UInt8 := [182, 0, 122, 181, 0, 185, 167, 0, 9, 42, 3, 4, 182, 0, 103, 177]
abbrev dktX7_clause_15 : List UInt8 := dkwX7_clause_15 ++ []
def dkwX7_clause_14 : List UInt8 := [16, 99, 182, 0, 122, 181, 0, 182, 167, 0, 30, 42, 182, 0, 32, 42, 180, 0, 18, 42, 4, 16, 99]
abbrev dktX7_clause_14 : List UInt8 := dkwX7_clause_14 ++ dktX7_clause_15
def dkwX7_clause_13 : List UInt8 := [182, 0, 32, 42, 180, 0, 18, 42, 3, 16, 99, 182, 0, 122, 181, 0, 179, 42, 180, 0, 18, 42, 3]
abbrev dktX7_clause_13 : List UInt8 := dkwX7_clause_13 ++ dktX7_clause_14
def dkwX7_clause_12 : List UInt8 := [181, 0, 173, 42, 180, 0, 18, 42, 3, 17, 39, 15, 182, 0, 122, 181, 0, 176, 167, 0, 65, 42]
abbrev dktX7_clause_12 : List UInt8 := dkwX7_clause_12 ++ dktX7_clause_13
def dkwX7_clause_11 : List UInt8 := [181, 0, 171, 167, 0, 102, 42, 182, 0, 32, 42, 180, 0, 18, 42, 3, 17, 39, 15, 182, 0, 122]
abbrev dktX7_clause_11 : List UInt8 := dkwX7_clause_11 ++ dktX7_clause_12
def dkwX7_clause_10 : List UInt8 := [182, 0, 122, 181, 0, 168, 167, 0, 123, 42, 182, 0, 32, 42, 180, 0, 18, 42, 4, 16, 10, 182, 0, 122]
abbrev dktX7_clause_10 : List UInt8 := dkwX7_clause_10 ++ dktX7_clause_11
def dkwX7_clause_9 : List UInt8 := [42, 182, 0, 32, 42, 180, 0, 18, 42, 5, 182, 0, 138, 181, 0, 166, 42, 180, 0, 18, 42, 4, 16, 99]
abbrev dktX7_clause_9 : List UInt8 := dkwX7_clause_9 ++ dktX7_clause_10
def dkwX7_clause_8 : List UInt8 := [42, 3, 182, 0, 164, 167, 0, 172, 42, 4, 182, 0, 164, 167, 0, 164, 42, 5, 182, 0, 164, 167, 0, 156]
abbrev dktX7_clause_8 : List UInt8 := dkwX7_clause_8 ++ dktX7_clause_9
def dkwX7_clause_7 : List UInt8 := [170, 0, 0, 0, 0, 0, 0, 219, 0, 0, 0, 0, 0, 0, 0, 7, 0, 0, 0, 48, 0, 0, 0, 56, 0, 0, 0, 64, 0, 0, 0, 72, 0, 0, 0, 105, 0, 0, 0, 126, 0, 0, 0, 163, 0, 0, 0, 198]
abbrev dktX7_clause_7 : List UInt8 := dkwX7_clause_7 ++ dktX7_clause_8
def dkwX7_clause_6 : List UInt8 := [61, 167, 0, 15, 43, 18, 162, 182, 0, 116, 153, 0, 6, 16, 7, 61, 28]
abbrev dktX7_clause_6 : List UInt8 := dkwX7_clause_6 ++ dktX7_clause_7
def dkwX7_clause_5 : List UInt8 := [18, 158, 182, 0, 116, 153, 0, 35, 8, 61, 167, 0, 30, 43, 18, 160, 182, 0, 116, 153, 0, 21, 16, 6]
abbrev dktX7_clause_5 : List UInt8 := dkwX7_clause_5 ++ dktX7_clause_6
def dkwX7_clause_4 : List UInt8 := [153, 0, 63, 6, 61, 167, 0, 58, 43, 18, 156, 182, 0, 116, 153, 0, 49, 7, 61, 167, 0, 44, 43]
abbrev dktX7_clause_4 : List UInt8 := dkwX7_clause_4 ++ dktX7_clause_5
def dkwX7_clause_3 : List UInt8 := [61, 167, 0, 86, 43, 18, 152, 182, 0, 116, 153, 0, 77, 5, 61, 167, 0, 72, 43, 18, 154, 182, 0, 116]
abbrev dktX7_clause_3 : List UInt8 := dkwX7_clause_3 ++ dktX7_clause_4
def dkwX7_clause_2 : List UInt8 := [43, 18, 148, 182, 0, 116, 153, 0, 105, 3, 61, 167, 0, 100, 43, 18, 150, 182, 0, 116, 153, 0, 91, 4]
abbrev dktX7_clause_2 : List UInt8 := dkwX7_clause_2 ++ dktX7_clause_3
def dkwX7_clause_1 : List UInt8 := [171, 0, 0, 0, 184, 0, 0, 0, 8, 171, 46, 172, 127, 0, 0, 0, 73, 0, 0, 14, 155, 0, 0, 0, 87, 0, 1, 185, 199, 0, 0, 0, 101, 5, 148, 99, 63, 0, 0, 0, 172, 5, 153, 57, 126, 0, 0, 0, 143, 5, 167, 83, 183, 0, 0, 0, 129, 5, 203, 58, 34, 0, 0, 0, 115, 6, 95, 177, 73, 0, 0, 0, 157]
abbrev dktX7_clause_1 : List UInt8 := dkwX7_clause_1 ++ dktX7_clause_2
def dkwX7_clause_0 : List UInt8 := [42, 180, 0, 24, 76, 2, 61, 43, 182, 0, 145]
abbrev dktX7_clause_0 : List UInt8 := dkwX7_clause_0 ++ dktX7_clause_1
theorem dksX7_clause_0 : cX7_clause.data.toList.drop 0 = dktX7_clause_0 := by decide +kernel
theorem dksX7_clause_1 : cX7_clause.data.toList.drop 11 = dktX7_clause_1 := dk_seg dksX7_clause_0 11 rfl rfl
theorem dksX7_clause_2 : cX7_clause.data.toList.drop 84 = dktX7_clause_2 := dk_seg dksX7_clause_1 73 rfl rfl
theorem dksX7_clause_3 : cX7_clause.data.toList.drop 108 = dktX7_clause_3 := dk_seg dksX7_clause_2 24 rfl rfl
theorem dksX7_clause_4 : cX7_clause.data.toList.drop 132 = dktX7_clause_4 := dk_seg dksX7_clause_3 24 rfl rfl
theorem dksX7_clause_5 : cX7_clause.data.toList.drop 155 = dktX7_clause_5 := dk_seg dksX7_clause_4 23 rfl rfl
theorem dksX7_clause_6 : cX7_clause.data.toList.drop 179 = dktX7_clause_6 := dk_seg dksX7_clause_5 24 rfl rfl
theorem dksX7_clause_7 : cX7_clause.data.toList.drop 196 = dktX7_clause_7 := dk_seg dksX7_clause_6 17 rfl rfl
theorem dksX7_clause_8 : cX7_clause.data.toList.drop 244 = dktX7_clause_8 := dk_seg dksX7_clause_7 48 rfl rfl
theorem dksX7_clause_9 : cX7_clause.data.toList.drop 268 = dktX7_clause_9 := dk_seg dksX7_clause_8 24 rfl rfl
theorem dksX7_clause_10 : cX7_clause.data.toList.drop 292 = dktX7_clause_10 := dk_seg dksX7_clause_9 24 rfl rfl
theorem dksX7_clause_11 : cX7_clause.data.toList.drop 316 = dktX7_clause_11 := dk_seg dksX7_clause_10 24 rfl rfl
theorem dksX7_clause_12 : cX7_clause.data.toList.drop 338 = dktX7_clause_12 := dk_seg dksX7_clause_11 22 rfl rfl
theorem dksX7_clause_13 : cX7_clause.data.toList.drop 360 = dktX7_clause_13 := dk_seg dksX7_clause_12 22 rfl rfl
theorem dksX7_clause_14 : cX7_clause.data.toList.drop 383 = dktX7_clause_14 := dk_seg dksX7_clause_13 23 rfl rfl
theorem dksX7_clause_15 : cX7_clause.data.toList.drop 406 = dktX7_clause_15 := dk_seg dksX7_clause_14 23 rfl rfl
theorem dX7_clause_0 : decode cX7_clause 0 = .ok (.aload_n 0, 1) := dk_42 (dk_at dksX7_clause_0 0 rfl rfl)
theorem dX7_clause_1 : decode cX7_clause 1 = .ok (.getfield 24, 3) := dk_180 0 24 (dk_at dksX7_clause_0 1 rfl rfl)
theorem dX7_clause_4 : decode cX7_clause 4 = .ok (.astore_n 1, 1) := dk_76 (dk_at dksX7_clause_0 4 rfl rfl)
theorem dX7_clause_5 : decode cX7_clause 5 = .ok (.iconst (-1), 1) := dk_2 (dk_at dksX7_clause_0 5 rfl rfl)
theorem dX7_clause_6 : decode cX7_clause 6 = .ok (.istore_n 2, 1) := dk_61 (dk_at dksX7_clause_0 6 rfl rfl)
theorem dX7_clause_7 : decode cX7_clause 7 = .ok (.aload_n 1, 1) := dk_43 (dk_at dksX7_clause_0 7 rfl rfl)
theorem dX7_clause_8 : decode cX7_clause 8 = .ok (.invokevirtual 145, 3) := dk_182 0 145 (dk_at dksX7_clause_0 8 rfl rfl)
theorem dX7_clause_11 : decode cX7_clause 11 = .ok (.lookupswitch 184 #[(-1423004545, 73), (3739, 87), (113095, 101), (93610815, 172), (93927806, 143), (94852023, 129), (97204770, 115), (106934601, 157)], 73) := by decide +kernel
theorem dX7_clause_84 : decode cX7_clause 84 = .ok (.aload_n 1, 1) := dk_43 (dk_at dksX7_clause_2 0 rfl rfl)
theorem dX7_clause_85 : decode cX7_clause 85 = .ok (.ldc 148, 2) := dk_18 148 (dk_at dksX7_clause_2 1 rfl rfl)
theorem dX7_clause_87 : decode cX7_clause 87 = .ok (.invokevirtual 116, 3) := dk_182 0 116 (dk_at dksX7_clause_2 3 rfl rfl)
theorem dX7_clause_90 : decode cX7_clause 90 = .ok (.ifCond .eq 105, 3) := dk_153 0 105 (dk_at dksX7_clause_2 6 rfl rfl)
theorem dX7_clause_93 : decode cX7_clause 93 = .ok (.iconst 0, 1) := dk_3 (dk_at dksX7_clause_2 9 rfl rfl)
theorem dX7_clause_94 : decode cX7_clause 94 = .ok (.istore_n 2, 1) := dk_61 (dk_at dksX7_clause_2 10 rfl rfl)
theorem dX7_clause_95 : decode cX7_clause 95 = .ok (.goto 100, 3) := dk_167 0 100 (dk_at dksX7_clause_2 11 rfl rfl)
theorem dX7_clause_98 : decode cX7_clause 98 = .ok (.aload_n 1, 1) := dk_43 (dk_at dksX7_clause_2 14 rfl rfl)
theorem dX7_clause_99 : decode cX7_clause 99 = .ok (.ldc 150, 2) := dk_18 150 (dk_at dksX7_clause_2 15 rfl rfl)
theorem dX7_clause_101 : decode cX7_clause 101 = .ok (.invokevirtual 116, 3) := dk_182 0 116 (dk_at dksX7_clause_2 17 rfl rfl)
theorem dX7_clause_104 : decode cX7_clause 104 = .ok (.ifCond .eq 91, 3) := dk_153 0 91 (dk_at dksX7_clause_2 20 rfl rfl)
theorem dX7_clause_107 : decode cX7_clause 107 = .ok (.iconst 1, 1) := dk_4 (dk_at dksX7_clause_2 23 rfl rfl)
theorem dX7_clause_108 : decode cX7_clause 108 = .ok (.istore_n 2, 1) := dk_61 (dk_at dksX7_clause_3 0 rfl rfl)
theorem dX7_clause_109 : decode cX7_clause 109 = .ok (.goto 86, 3) := dk_167 0 86 (dk_at dksX7_clause_3 1 rfl rfl)
theorem dX7_clause_112 : decode cX7_clause 112 = .ok (.aload_n 1, 1) := dk_43 (dk_at dksX7_clause_3 4 rfl rfl)
theorem dX7_clause_113 : decode cX7_clause 113 = .ok (.ldc 152, 2) := dk_18 152 (dk_at dksX7_clause_3 5 rfl rfl)
theorem dX7_clause_115 : decode cX7_clause 115 = .ok (.invokevirtual 116, 3) := dk_182 0 116 (dk_at dksX7_clause_3 7 rfl rfl)
theorem dX7_clause_118 : decode cX7_clause 118 = .ok (.ifCond .eq 77, 3) := dk_153 0 77 (dk_at dksX7_clause_3 10 rfl rfl)
theorem dX7_clause_121 : decode cX7_clause 121 = .ok (.iconst 2, 1) := dk_5 (dk_at dksX7_clause_3 13 rfl rfl)
theorem dX7_clause_122 : decode cX7_clause 122 = .ok (.istore_n 2, 1) := dk_61 (dk_at dksX7_clause_3 14 rfl rfl)
theorem dX7_clause_123 : decode cX7_clause 123 = .ok (.goto 72, 3) := dk_167 0 72 (dk_at dksX7_clause_3 15 rfl rfl)
theorem dX7_clause_126 : decode cX7_clause 126 = .ok (.aload_n 1, 1) := dk_43 (dk_at dksX7_clause_3 18 rfl rfl)
theorem dX7_clause_127 : decode cX7_clause 127 = .ok (.ldc 154, 2) := dk_18 154 (dk_at dksX7_clause_3 19 rfl rfl)
theorem dX7_clause_129 : decode cX7_clause 129 = .ok (.invokevirtual 116, 3) := dk_182 0 116 (dk_at dksX7_clause_3 21 rfl rfl)
theorem dX7_clause_132 : decode cX7_clause 132 = .ok (.ifCond .eq 63, 3) := dk_153 0 63 (dk_at dksX7_clause_4 0 rfl rfl)
theorem dX7_clause_135 : decode cX7_clause 135 = .ok (.iconst 3, 1) := dk_6 (dk_at dksX7_clause_4 3 rfl rfl)
theorem dX7_clause_136 : decode cX7_clause 136 = .ok (.istore_n 2, 1) := dk_61 (dk_at dksX7_clause_4 4 rfl rfl)
theorem dX7_clause_137 : decode cX7_clause 137 = .ok (.goto 58, 3) := dk_167 0 58 (dk_at dksX7_clause_4 5 rfl rfl)
theorem dX7_clause_140 : decode cX7_clause 140 = .ok (.aload_n 1, 1) := dk_43 (dk_at dksX7_clause_4 8 rfl rfl)
theorem dX7_clause_141 : decode cX7_clause 141 = .ok (.ldc 156, 2) := dk_18 156 (dk_at dksX7_clause_4 9 rfl rfl)
theorem dX7_clause_143 : decode cX7_clause 143 = .ok (.invokevirtual 116, 3) := dk_182 0 116 (dk_at dksX7_clause_4 11 rfl rfl)
theorem dX7_clause_146 : decode cX7_clause 146 = .ok (.ifCond .eq 49, 3) := dk_153 0 49 (dk_at dksX7_clause_4 14 rfl rfl)
theorem dX7_clause_149 : decode cX7_clause 149 = .ok (.iconst 4, 1) := dk_7 (dk_at dksX7_clause_4 17 rfl rfl)
theorem dX7_clause_150 : decode cX7_clause 150 = .ok (.istore_n 2, 1) := dk_61 (dk_at dksX7_clause_4 18 rfl rfl)
theorem dX7_clause_151 : decode cX7_clause 151 = .ok (.goto 44, 3) := dk_167 0 44 (dk_at dksX7_clause_4 19 rfl rfl)
theorem dX7_clause_154 : decode cX7_clause 154 = .ok (.aload_n 1, 1) := dk_43 (dk_at dksX7_clause_4 22 rfl rfl)
theorem dX7_clause_155 : decode cX7_clause 155 = .ok (.ldc 158, 2) := dk_18 158 (dk_at dksX7_clause_5 0 rfl rfl)
theorem dX7_clause_157 : decode cX7_clause 157 = .ok (.invokevirtual 116, 3) := dk_182 0 116 (dk_at dksX7_clause_5 2 rfl rfl)
theorem dX7_clause_160 : decode cX7_clause 160 = .ok (.ifCond .eq 35, 3) := dk_153 0 35 (dk_at dksX7_clause_5 5 rfl rfl)
theorem dX7_clause_163 : decode cX7_clause 163 = .ok (.iconst 5, 1) := dk_8 (dk_at dksX7_clause_5 8 rfl rfl)
theorem dX7_clause_164 : decode cX7_clause 164 = .ok (.istore_n 2, 1) := dk_61 (dk_at dksX7_clause_5 9 rfl rfl)
theorem dX7_clause_165 : decode cX7_clause 165 = .ok (.goto 30, 3) := dk_167 0 30 (dk_at dksX7_clause_5 10 rfl rfl)
theorem dX7_clause_168 : decode cX7_clause 168 = .ok (.aload_n 1, 1) := dk_43 (dk_at dksX7_clause_5 13 rfl rfl)
theorem dX7_clause_169 : decode cX7_clause 169 = .ok (.ldc 160, 2) := dk_18 160 (dk_at dksX7_clause_5 14 rfl rfl)
theorem dX7_clause_171 : decode cX7_clause 171 = .ok (.invokevirtual 116, 3) := dk_182 0 116 (dk_at dksX7_clause_5 16 rfl rfl)
theorem dX7_clause_174 : decode cX7_clause 174 = .ok (.ifCond .eq 21, 3) := dk_153 0 21 (dk_at dksX7_clause_5 19 rfl rfl)
theorem dX7_clause_177 : decode cX7_clause 177 = .ok (.bipush 6, 2) := dk_16 6 (dk_at dksX7_clause_5 22 rfl rfl)
theorem dX7_clause_179 : decode cX7_clause 179 = .ok (.istore_n 2, 1) := dk_61 (dk_at dksX7_clause_6 0 rfl rfl)
theorem dX7_clause_180 : decode cX7_clause 180 = .ok (.goto 15, 3) := dk_167 0 15 (dk_at dksX7_clause_6 1 rfl rfl)
theorem dX7_clause_183 : decode cX7_clause 183 = .ok (.aload_n 1, 1) := dk_43 (dk_at dksX7_clause_6 4 rfl rfl)
theorem dX7_clause_184 : decode cX7_clause 184 = .ok (.ldc 162, 2) := dk_18 162 (dk_at dksX7_clause_6 5 rfl rfl)
theorem dX7_clause_186 : decode cX7_clause 186 = .ok (.invokevirtual 116, 3) := dk_182 0 116 (dk_at dksX7_clause_6 7 rfl rfl)
theorem dX7_clause_189 : decode cX7_clause 189 = .ok (.ifCond .eq 6, 3) := dk_153 0 6 (dk_at dksX7_clause_6 10 rfl rfl)
theorem dX7_clause_192 : decode cX7_clause 192 = .ok (.bipush 7, 2) := dk_16 7 (dk_at dksX7_clause_6 13 rfl rfl)
theorem dX7_clause_194 : decode cX7_clause 194 = .ok (.istore_n 2, 1) := dk_61 (dk_at dksX7_clause_6 15 rfl rfl)
theorem dX7_clause_195 : decode cX7_clause 195 = .ok (.iload_n 2, 1) := dk_28 (dk_at dksX7_clause_6 16 rfl rfl)
theorem dX7_clause_196 : decode cX7_clause 196 = .ok (.tableswitch 219 0 7 #[48, 56, 64, 72, 105, 126, 163, 198], 48) := by decide +kernel
theorem dX7_clause_244 : decode cX7_clause 244 = .ok (.aload_n 0, 1) := dk_42 (dk_at dksX7_clause_8 0 rfl rfl)
theorem dX7_clause_245 : decode cX7_clause 245 = .ok (.iconst 0, 1) := dk_3 (dk_at dksX7_clause_8 1 rfl rfl)
theorem dX7_clause_246 : decode cX7_clause 246 = .ok (.invokevirtual 164, 3) := dk_182 0 164 (dk_at dksX7_clause_8 2 rfl rfl)
theorem dX7_clause_249 : decode cX7_clause 249 = .ok (.goto 172, 3) := dk_167 0 172 (dk_at dksX7_clause_8 5 rfl rfl)
theorem dX7_clause_252 : decode cX7_clause 252 = .ok (.aload_n 0, 1) := dk_42 (dk_at dksX7_clause_8 8 rfl rfl)
theorem dX7_clause_253 : decode cX7_clause 253 = .ok (.iconst 1, 1) := dk_4 (dk_at dksX7_clause_8 9 rfl rfl)
theorem dX7_clause_254 : decode cX7_clause 254 = .ok (.invokevirtual 164, 3) := dk_182 0 164 (dk_at dksX7_clause_8 10 rfl rfl)
theorem dX7_clause_257 : decode cX7_clause 257 = .ok (.goto 164, 3) := dk_167 0 164 (dk_at dksX7_clause_8 13 rfl rfl)
theorem dX7_clause_260 : decode cX7_clause 260 = .ok (.aload_n 0, 1) := dk_42 (dk_at dksX7_clause_8 16 rfl rfl)
theorem dX7_clause_261 : decode cX7_clause 261 = .ok (.iconst 2, 1) := dk_5 (dk_at dksX7_clause_8 17 rfl rfl)
theorem dX7_clause_262 : decode cX7_clause 262 = .ok (.invokevirtual 164, 3) := dk_182 0 164 (dk_at dksX7_clause_8 18 rfl rfl)
theorem dX7_clause_265 : decode cX7_clause 265 = .ok (.goto 156, 3) := dk_167 0 156 (dk_at dksX7_clause_8 21 rfl rfl)
theorem dX7_clause_268 : decode cX7_clause 268 = .ok (.aload_n 0, 1) := dk_42 (dk_at dksX7_clause_9 0 rfl rfl)
theorem dX7_clause_269 : decode cX7_clause 269 = .ok (.invokevirtual 32, 3) := dk_182 0 32 (dk_at dksX7_clause_9 1 rfl rfl)
theorem dX7_clause_272 : decode cX7_clause 272 = .ok (.aload_n 0, 1) := dk_42 (dk_at dksX7_clause_9 4 rfl rfl)
theorem dX7_clause_273 : decode cX7_clause 273 = .ok (.getfield 18, 3) := dk_180 0 18 (dk_at dksX7_clause_9 5 rfl rfl)
theorem dX7_clause_276 : decode cX7_clause 276 = .ok (.aload_n 0, 1) := dk_42 (dk_at dksX7_clause_9 8 rfl rfl)
theorem dX7_clause_277 : decode cX7_clause 277 = .ok (.iconst 2, 1) := dk_5 (dk_at dksX7_clause_9 9 rfl rfl)
theorem dX7_clause_278 : decode cX7_clause 278 = .ok (.invokevirtual 138, 3) := dk_182 0 138 (dk_at dksX7_clause_9 10 rfl rfl)
theorem dX7_clause_281 : decode cX7_clause 281 = .ok (.putfield 166, 3) := dk_181 0 166 (dk_at dksX7_clause_9 13 rfl rfl)
theorem dX7_clause_284 : decode cX7_clause 284 = .ok (.aload_n 0, 1) := dk_42 (dk_at dksX7_clause_9 16 rfl rfl)
theorem dX7_clause_285 : decode cX7_clause 285 = .ok (.getfield 18, 3) := dk_180 0 18 (dk_at dksX7_clause_9 17 rfl rfl)
theorem dX7_clause_288 : decode cX7_clause 288 = .ok (.aload_n 0, 1) := dk_42 (dk_at dksX7_clause_9 20 rfl rfl)
theorem dX7_clause_289 : decode cX7_clause 289 = .ok (.iconst 1, 1) := dk_4 (dk_at dksX7_clause_9 21 rfl rfl)
theorem dX7_clause_290 : decode cX7_clause 290 = .ok (.bipush 99, 2) := dk_16 99 (dk_at dksX7_clause_9 22 rfl rfl)
theorem dX7_clause_292 : decode cX7_clause 292 = .ok (.invokevirtual 122, 3) := dk_182 0 122 (dk_at dksX7_clause_10 0 rfl rfl)
theorem dX7_clause_295 : decode cX7_clause 295 = .ok (.putfield 168, 3) := dk_181 0 168 (dk_at dksX7_clause_10 3 rfl rfl)
theorem dX7_clause_298 : decode cX7_clause 298 = .ok (.goto 123, 3) := dk_167 0 123 (dk_at dksX7_clause_10 6 rfl rfl)
theorem dX7_clause_301 : decode cX7_clause 301 = .ok (.aload_n 0, 1) := dk_42 (dk_at dksX7_clause_10 9 rfl rfl)
theorem dX7_clause_302 : decode cX7_clause 302 = .ok (.invokevirtual 32, 3) := dk_182 0 32 (dk_at dksX7_clause_10 10 rfl rfl)
theorem dX7_clause_305 : decode cX7_clause 305 = .ok (.aload_n 0, 1) := dk_42 (dk_at dksX7_clause_10 13 rfl rfl)
theorem dX7_clause_306 : decode cX7_clause 306 = .ok (.getfield 18, 3) := dk_180 0 18 (dk_at dksX7_clause_10 14 rfl rfl)
theorem dX7_clause_309 : decode cX7_clause 309 = .ok (.aload_n 0, 1) := dk_42 (dk_at dksX7_clause_10 17 rfl rfl)
theorem dX7_clause_310 : decode cX7_clause 310 = .ok (.iconst 1, 1) := dk_4 (dk_at dksX7_clause_10 18 rfl rfl)
theorem dX7_clause_311 : decode cX7_clause 311 = .ok (.bipush 10, 2) := dk_16 10 (dk_at dksX7_clause_10 19 rfl rfl)
theorem dX7_clause_313 : decode cX7_clause 313 = .ok (.invokevirtual 122, 3) := dk_182 0 122 (dk_at dksX7_clause_10 21 rfl rfl)
theorem dX7_clause_316 : decode cX7_clause 316 = .ok (.putfield 171, 3) := dk_181 0 171 (dk_at dksX7_clause_11 0 rfl rfl)
theorem dX7_clause_319 : decode cX7_clause 319 = .ok (.goto 102, 3) := dk_167 0 102 (dk_at dksX7_clause_11 3 rfl rfl)
theorem dX7_clause_322 : decode cX7_clause 322 = .ok (.aload_n 0, 1) := dk_42 (dk_at dksX7_clause_11 6 rfl rfl)
theorem dX7_clause_323 : decode cX7_clause 323 = .ok (.invokevirtual 32, 3) := dk_182 0 32 (dk_at dksX7_clause_11 7 rfl rfl)
theorem dX7_clause_326 : decode cX7_clause 326 = .ok (.aload_n 0, 1) := dk_42 (dk_at dksX7_clause_11 10 rfl rfl)
theorem dX7_clause_327 : decode cX7_clause 327 = .ok (.getfield 18, 3) := dk_180 0 18 (dk_at dksX7_clause_11 11 rfl rfl)
theorem dX7_clause_330 : decode cX7_clause 330 = .ok (.aload_n 0, 1) := dk_42 (dk_at dksX7_clause_11 14 rfl rfl)
theorem dX7_clause_331 : decode cX7_clause 331 = .ok (.iconst 0, 1) := dk_3 (dk_at dksX7_clause_11 15 rfl rfl)
theorem dX7_clause_332 : decode cX7_clause 332 = .ok (.sipush 9999, 3) := dk_17 39 15 (dk_at dksX7_clause_11 16 rfl rfl)
theorem dX7_clause_335 : decode cX7_clause 335 = .ok (.invokevirtual 122, 3) := dk_182 0 122 (dk_at dksX7_clause_11 19 rfl rfl)
theorem dX7_clause_338 : decode cX7_clause 338 = .ok (.putfield 173, 3) := dk_181 0 173 (dk_at dksX7_clause_12 0 rfl rfl)
theorem dX7_clause_341 : decode cX7_clause 341 = .ok (.aload_n 0, 1) := dk_42 (dk_at dksX7_clause_12 3 rfl rfl)
theorem dX7_clause_342 : decode cX7_clause 342 = .ok (.getfield 18, 3) := dk_180 0 18 (dk_at dksX7_clause_12 4 rfl rfl)
theorem dX7_clause_345 : decode cX7_clause 345 = .ok (.aload_n 0, 1) := dk_42 (dk_at dksX7_clause_12 7 rfl rfl)
theorem dX7_clause_346 : decode cX7_clause 346 = .ok (.iconst 0, 1) := dk_3 (dk_at dksX7_clause_12 8 rfl rfl)
theorem dX7_clause_347 : decode cX7_clause 347 = .ok (.sipush 9999, 3) := dk_17 39 15 (dk_at dksX7_clause_12 9 rfl rfl)
theorem dX7_clause_350 : decode cX7_clause 350 = .ok (.invokevirtual 122, 3) := dk_182 0 122 (dk_at dksX7_clause_12 12 rfl rfl)
theorem dX7_clause_353 : decode cX7_clause 353 = .ok (.putfield 176, 3) := dk_181 0 176 (dk_at dksX7_clause_12 15 rfl rfl)
theorem dX7_clause_356 : decode cX7_clause 356 = .ok (.goto 65, 3) := dk_167 0 65 (dk_at dksX7_clause_12 18 rfl rfl)
theorem dX7_clause_359 : decode cX7_clause 359 = .ok (.aload_n 0, 1) := dk_42 (dk_at dksX7_clause_12 21 rfl rfl)
theorem dX7_clause_360 : decode cX7_clause 360 = .ok (.invokevirtual 32, 3) := dk_182 0 32 (dk_at dksX7_clause_13 0 rfl rfl)
theorem dX7_clause_363 : decode cX7_clause 363 = .ok (.aload_n 0, 1) := dk_42 (dk_at dksX7_clause_13 3 rfl rfl)
theorem dX7_clause_364 : decode cX7_clause 364 = .ok (.getfield 18, 3) := dk_180 0 18 (dk_at dksX7_clause_13 4 rfl rfl)
theorem dX7_clause_367 : decode cX7_clause 367 = .ok (.aload_n 0, 1) := dk_42 (dk_at dksX7_clause_13 7 rfl rfl)
theorem dX7_clause_368 : decode cX7_clause 368 = .ok (.iconst 0, 1) := dk_3 (dk_at dksX7_clause_13 8 rfl rfl)
theorem dX7_clause_369 : decode cX7_clause 369 = .ok (.bipush 99, 2) := dk_16 99 (dk_at dksX7_clause_13 9 rfl rfl)
theorem dX7_clause_371 : decode cX7_clause 371 = .ok (.invokevirtual 122, 3) := dk_182 0 122 (dk_at dksX7_clause_13 11 rfl rfl)
theorem dX7_clause_374 : decode cX7_clause 374 = .ok (.putfield 179, 3) := dk_181 0 179 (dk_at dksX7_clause_13 14 rfl rfl)
theorem dX7_clause_377 : decode cX7_clause 377 = .ok (.aload_n 0, 1) := dk_42 (dk_at dksX7_clause_13 17 rfl rfl)
theorem dX7_clause_378 : decode cX7_clause 378 = .ok (.getfield 18, 3) := dk_180 0 18 (dk_at dksX7_clause_13 18 rfl rfl)
theorem dX7_clause_381 : decode cX7_clause 381 = .ok (.aload_n 0, 1) := dk_42 (dk_at dksX7_clause_13 21 rfl rfl)
theorem dX7_clause_382 : decode cX7_clause 382 = .ok (.iconst 0, 1) := dk_3 (dk_at dksX7_clause_13 22 rfl rfl)
theorem dX7_clause_383 : decode cX7_clause 383 = .ok (.bipush 99, 2) := dk_16 99 (dk_at dksX7_clause_14 0 rfl rfl)
theorem dX7_clause_385 : decode cX7_clause 385 = .ok (.invokevirtual 122, 3) := dk_182 0 122 (dk_at dksX7_clause_14 2 rfl rfl)
theorem dX7_clause_388 : decode cX7_clause 388 = .ok (.putfield 182, 3) := dk_181 0 182 (dk_at dksX7_clause_14 5 rfl rfl)
theorem dX7_clause_391 : decode cX7_clause 391 = .ok (.goto 30, 3) := dk_167 0 30 (dk_at dksX7_clause_14 8 rfl rfl)
theorem dX7_clause_394 : decode cX7_clause 394 = .ok (.aload_n 0, 1) := dk_42 (dk_at dksX7_clause_14 11 rfl rfl)
theorem dX7_clause_395 : decode cX7_clause 395 = .ok (.invokevirtual 32, 3) := dk_182 0 32 (dk_at dksX7_clause_14 12 rfl rfl)
theorem dX7_clause_398 : decode cX7_clause 398 = .ok (.aload_n 0, 1) := dk_42 (dk_at dksX7_clause_14 15 rfl rfl)
theorem dX7_clause_399 : decode cX7_clause 399 = .ok (.getfield 18, 3) := dk_180 0 18 (dk_at dksX7_clause_14 16 rfl rfl)
theorem dX7_clause_402 : decode cX7_clause 402 = .ok (.aload_n 0, 1) := dk_42 (dk_at dksX7_clause_14 19 rfl rfl)
theorem dX7_clause_403 : decode cX7_clause 403 = .ok (.iconst 1, 1) := dk_4 (dk_at dksX7_clause_14 20 rfl rfl)
theorem dX7_clause_404 : decode cX7_clause 404 = .ok (.bipush 99, 2) := dk_16 99 (dk_at dksX7_clause_14 21 rfl rfl)
theorem dX7_clause_406 : decode cX7_clause 406 = .ok (.invokevirtual 122, 3) := dk_182 0 122 (dk_at dksX7_clause_15 0 rfl rfl)
theorem dX7_clause_409 : decode cX7_clause 409 = .ok (.putfield 185, 3) := dk_181 0 185 (dk_at dksX7_clause_15 3 rfl rfl)
theorem dX7_clause_412 : decode cX7_clause 412 = .ok (.goto 9, 3) := dk_167 0 9 (dk_at dksX7_clause_15 6 rfl rfl)
theorem dX7_clause_415 : decode cX7_clause 415 = .ok (.aload_n 0, 1) := dk_42 (dk_at dksX7_clause_15 9 rfl rfl)
theorem dX7_clause_416 : decode cX7_clause 416 = .ok (.iconst 0, 1) := dk_3 (dk_at dksX7_clause_15 10 rfl rfl)
theorem dX7_clause_417 : decode cX7_clause 417 = .ok (.iconst 1, 1) := dk_4 (dk_at dksX7_clause_15 11 rfl rfl)
theorem dX7_clause_418 : decode cX7_clause 418 = .ok (.invokevirtual 103, 3) := dk_182 0 103 (dk_at dksX7_clause_15 12 rfl rfl)
theorem dX7_clause_421 : decode cX7_clause 421 = .ok (.return_, 1) := dk_177 (dk_at dksX7_clause_15 15 rfl rfl)
def dkwX7_much_1 : List UInt8 := [182, 0, 122, 79, 177]
abbrev dktX7_much_1 : List UInt8 := dkwX7_much_1 ++ []
def dkwX7_much_0 : List UInt8 := [42, 182, 0, 32, 42, 27, 182, 0, 138, 61, 42, 180, 0, 18, 180, 0, 141, 27, 50, 28, 42, 4, 6]
abbrev dktX7_much_0 : List UInt8 := dkwX7_much_0 ++ dktX7_much_1
theorem dksX7_much_0 : cX7_much.data.toList.drop 0 = dktX7_much_0 := by decide +kernel
theorem dksX7_much_1 : cX7_much.data.toList.drop 23 = dktX7_much_1 := dk_seg dksX7_much_0 23 rfl rfl
theorem dX7_much_0 : decode cX7_much 0 = .ok (.aload_n 0, 1) := dk_42 (dk_at dksX7_much_0 0 rfl rfl)
theorem dX7_much_1 : decode cX7_much 1 = .ok (.invokevirtual 32, 3) := dk_182 0 32 (dk_at dksX7_much_0 1 rfl rfl)
theorem dX7_much_4 : decode cX7_much 4 = .ok (.aload_n 0, 1) := dk_42 (dk_at dksX7_much_0 4 rfl rfl)
theorem dX7_much_5 : decode cX7_much 5 = .ok (.iload_n 1, 1) := dk_27 (dk_at dksX7_much_0 5 rfl rfl)
theorem dX7_much_6 : decode cX7_much 6 = .ok (.invokevirtual 138, 3) := dk_182 0 138 (dk_at dksX7_much_0 6 rfl rfl)
theorem dX7_much_9 : decode cX7_much 9 = .ok (.istore_n 2, 1) := dk_61 (dk_at dksX7_much_0 9 rfl rfl)
theorem dX7_much_10 : decode cX7_much 10 = .ok (.aload_n 0, 1) := dk_42 (dk_at dksX7_much_0 10 rfl rfl)
theorem dX7_much_11 : decode cX7_much 11 = .ok (.getfield 18, 3) := dk_180 0 18 (dk_at dksX7_much_0 11 rfl rfl)
theorem dX7_much_14 : decode cX7_much 14 = .ok (.getfield 141, 3) := dk_180 0 141 (dk_at dksX7_much_0 14 rfl rfl)
theorem dX7_much_17 : decode cX7_much 17 = .ok (.iload_n 1, 1) := dk_27 (dk_at dksX7_much_0 17 rfl rfl)
theorem dX7_much_18 : decode cX7_much 18 = .ok (.aaload, 1) := dk_50 (dk_at dksX7_much_0 18 rfl rfl)
theorem dX7_much_19 : decode cX7_much 19 = .ok (.iload_n 2, 1) := dk_28 (dk_at dksX7_much_0 19 rfl rfl)
theorem dX7_much_20 : decode cX7_much 20 = .ok (.aload_n 0, 1) := dk_42 (dk_at dksX7_much_0 20 rfl rfl)
theorem dX7_much_21 : decode cX7_much 21 = .ok (.iconst 1, 1) := dk_4 (dk_at dksX7_much_0 21 rfl rfl)
theorem dX7_much_22 : decode cX7_much 22 = .ok (.iconst 3, 1) := dk_6 (dk_at dksX7_much_0 22 rfl rfl)
theorem dX7_much_23 : decode cX7_much 23 = .ok (.invokevirtual 122, 3) := dk_182 0 122 (dk_at dksX7_much_1 0 rfl rfl)
theorem dX7_much_26 : decode cX7_much 26 = .ok (.iastore, 1) := dk_79 (dk_at dksX7_much_1 3 rfl rfl)
theorem dX7_much_27 : decode cX7_much 27 = .ok (.return_, 1) := dk_177 (dk_at dksX7_much_1 4 rfl rfl)
def dkwX7_node_3 : List UInt8 := [180, 0, 85, 27, 182, 0, 110, 7, 182, 0, 103, 42, 180, 0, 85, 61, 42, 182, 0, 32, 28, 172]
abbrev dktX7_node_3 : List UInt8 := dkwX7_node_3 ++ []
def dkwX7_node_2 : List UInt8 := [180, 0, 18, 182, 0, 107, 162, 0, 7, 4, 167, 0, 4, 3, 6, 182, 0, 103, 42, 42, 180, 0, 18, 42]
abbrev dktX7_node_2 : List UInt8 := dkwX7_node_2 ++ dktX7_node_3
def dkwX7_node_1 : List UInt8 := [180, 0, 85, 16, 12, 162, 0, 7, 4, 167, 0, 4, 3, 5, 182, 0, 103, 42, 42, 180, 0, 85, 42]
abbrev dktX7_node_1 : List UInt8 := dkwX7_node_1 ++ dktX7_node_2
def dkwX7_node_0 : List UInt8 := [42, 42, 180, 0, 55, 178, 0, 89, 166, 0, 7, 4, 167, 0, 4, 3, 4, 182, 0, 103, 42, 42]
abbrev dktX7_node_0 : List UInt8 := dkwX7_node_0 ++ dktX7_node_1
theorem dksX7_node_0 : cX7_node.data.toList.drop 0 = dktX7_node_0 := by decide +kernel
theorem dksX7_node_1 : cX7_node.data.toList.drop 22 = dktX7_node_1 := dk_seg dksX7_node_0 22 rfl rfl
theorem dksX7_node_2 : cX7_node.data.toList.drop 45 = dktX7_node_2 := dk_seg dksX7_node_1 23 rfl rfl
theorem dksX7_node_3 : cX7_node.data.toList.drop 69 = dktX7_node_3 := dk_seg dksX7_node_2 24 rfl rfl
theorem dX7_node_0 : decode cX7_node 0 = .ok (.aload_n 0, 1) := dk_42 (dk_at dksX7_node_0 0 rfl rfl)
theorem dX7_node_1 : decode cX7_node 1 = .ok (.aload_n 0, 1) := dk_42 (dk_at dksX7_node_0 1 rfl rfl)
theorem dX7_node_2 : decode cX7_node 2 = .ok (.getfield 55, 3) := dk_180 0 55 (dk_at dksX7_node_0 2 rfl rfl)
theorem dX7_node_5 : decode cX7_node 5 = .ok (.getstatic 89, 3) := dk_178 0 89 (dk_at dksX7_node_0 5 rfl rfl)
theorem dX7_node_8 : decode cX7_node 8 = .ok (.if_acmp .ne 7, 3) := dk_166 0 7 (dk_at dksX7_node_0 8 rfl rfl)
theorem dX7_node_11 : decode cX7_node 11 = .ok (.iconst 1, 1) := dk_4 (dk_at dksX7_node_0 11 rfl rfl)
theorem dX7_node_12 : decode cX7_node 12 = .ok (.goto 4, 3) := dk_167 0 4 (dk_at dksX7_node_0 12 rfl rfl)
theorem dX7_node_15 : decode cX7_node 15 = .ok (.iconst 0, 1) := dk_3 (dk_at dksX7_node_0 15 rfl rfl)
theorem dX7_node_16 : decode cX7_node 16 = .ok (.iconst 1, 1) := dk_4 (dk_at dksX7_node_0 16 rfl rfl)
theorem dX7_node_17 : decode cX7_node 17 = .ok (.invokevirtual 103, 3) := dk_182 0 103 (dk_at dksX7_node_0 17 rfl rfl)
theorem dX7_node_20 : decode cX7_node 20 = .ok (.aload_n 0, 1) := dk_42 (dk_at dksX7_node_0 20 rfl rfl)
theorem dX7_node_21 : decode cX7_node 21 = .ok (.aload_n 0, 1) := dk_42 (dk_at dksX7_node_0 21 rfl rfl)
theorem dX7_node_22 : decode cX7_node 22 = .ok (.getfield 85, 3) := dk_180 0 85 (dk_at dksX7_node_1 0 rfl rfl)
theorem dX7_node_25 : decode cX7_node 25 = .ok (.bipush 12, 2) := dk_16 12 (dk_at dksX7_node_1 3 rfl rfl)
theorem dX7_node_27 : decode cX7_node 27 = .ok (.if_icmp .ge 7, 3) := dk_162 0 7 (dk_at dksX7_node_1 5 rfl rfl)
theorem dX7_node_30 : decode cX7_node 30 = .ok (.iconst 1, 1) := dk_4 (dk_at dksX7_node_1 8 rfl rfl)
theorem dX7_node_31 : decode cX7_node 31 = .ok (.goto 4, 3) := dk_167 0 4 (dk_at dksX7_node_1 9 rfl rfl)
theorem dX7_node_34 : decode cX7_node 34 = .ok (.iconst 0, 1) := dk_3 (dk_at dksX7_node_1 12 rfl rfl)
theorem dX7_node_35 : decode cX7_node 35 = .ok (.iconst 2, 1) := dk_5 (dk_at dksX7_node_1 13 rfl rfl)
theorem dX7_node_36 : decode cX7_node 36 = .ok (.invokevirtual 103, 3) := dk_182 0 103 (dk_at dksX7_node_1 14 rfl rfl)
theorem dX7_node_39 : decode cX7_node 39 = .ok (.aload_n 0, 1) := dk_42 (dk_at dksX7_node_1 17 rfl rfl)
theorem dX7_node_40 : decode cX7_node 40 = .ok (.aload_n 0, 1) := dk_42 (dk_at dksX7_node_1 18 rfl rfl)
theorem dX7_node_41 : decode cX7_node 41 = .ok (.getfield 85, 3) := dk_180 0 85 (dk_at dksX7_node_1 19 rfl rfl)
theorem dX7_node_44 : decode cX7_node 44 = .ok (.aload_n 0, 1) := dk_42 (dk_at dksX7_node_1 22 rfl rfl)
theorem dX7_node_45 : decode cX7_node 45 = .ok (.getfield 18, 3) := dk_180 0 18 (dk_at dksX7_node_2 0 rfl rfl)
theorem dX7_node_48 : decode cX7_node 48 = .ok (.invokevirtual 107, 3) := dk_182 0 107 (dk_at dksX7_node_2 3 rfl rfl)
theorem dX7_node_51 : decode cX7_node 51 = .ok (.if_icmp .ge 7, 3) := dk_162 0 7 (dk_at dksX7_node_2 6 rfl rfl)
theorem dX7_node_54 : decode cX7_node 54 = .ok (.iconst 1, 1) := dk_4 (dk_at dksX7_node_2 9 rfl rfl)
theorem dX7_node_55 : decode cX7_node 55 = .ok (.goto 4, 3) := dk_167 0 4 (dk_at dksX7_node_2 10 rfl rfl)
theorem dX7_node_58 : decode cX7_node 58 = .ok (.iconst 0, 1) := dk_3 (dk_at dksX7_node_2 13 rfl rfl)
theorem dX7_node_59 : decode cX7_node 59 = .ok (.iconst 3, 1) := dk_6 (dk_at dksX7_node_2 14 rfl rfl)
theorem dX7_node_60 : decode cX7_node 60 = .ok (.invokevirtual 103, 3) := dk_182 0 103 (dk_at dksX7_node_2 15 rfl rfl)
theorem dX7_node_63 : decode cX7_node 63 = .ok (.aload_n 0, 1) := dk_42 (dk_at dksX7_node_2 18 rfl rfl)
theorem dX7_node_64 : decode cX7_node 64 = .ok (.aload_n 0, 1) := dk_42 (dk_at dksX7_node_2 19 rfl rfl)
theorem dX7_node_65 : decode cX7_node 65 = .ok (.getfield 18, 3) := dk_180 0 18 (dk_at dksX7_node_2 20 rfl rfl)
theorem dX7_node_68 : decode cX7_node 68 = .ok (.aload_n 0, 1) := dk_42 (dk_at dksX7_node_2 23 rfl rfl)
theorem dX7_node_69 : decode cX7_node 69 = .ok (.getfield 85, 3) := dk_180 0 85 (dk_at dksX7_node_3 0 rfl rfl)
theorem dX7_node_72 : decode cX7_node 72 = .ok (.iload_n 1, 1) := dk_27 (dk_at dksX7_node_3 3 rfl rfl)
theorem dX7_node_73 : decode cX7_node 73 = .ok (.invokevirtual 110, 3) := dk_182 0 110 (dk_at dksX7_node_3 4 rfl rfl)
theorem dX7_node_76 : decode cX7_node 76 = .ok (.iconst 4, 1) := dk_7 (dk_at dksX7_node_3 7 rfl rfl)
theorem dX7_node_77 : decode cX7_node 77 = .ok (.invokevirtual 103, 3) := dk_182 0 103 (dk_at dksX7_node_3 8 rfl rfl)
theorem dX7_node_80 : decode cX7_node 80 = .ok (.aload_n 0, 1) := dk_42 (dk_at dksX7_node_3 11 rfl rfl)
theorem dX7_node_81 : decode cX7_node 81 = .ok (.getfield 85, 3) := dk_180 0 85 (dk_at dksX7_node_3 12 rfl rfl)
theorem dX7_node_84 : decode cX7_node 84 = .ok (.istore_n 2, 1) := dk_61 (dk_at dksX7_node_3 15 rfl rfl)
theorem dX7_node_85 : decode cX7_node 85 = .ok (.aload_n 0, 1) := dk_42 (dk_at dksX7_node_3 16 rfl rfl)
theorem dX7_node_86 : decode cX7_node 86 = .ok (.invokevirtual 32, 3) := dk_182 0 32 (dk_at dksX7_node_3 17 rfl rfl)
theorem dX7_node_89 : decode cX7_node 89 = .ok (.iload_n 2, 1) := dk_28 (dk_at dksX7_node_3 20 rfl rfl)
theorem dX7_node_90 : decode cX7_node 90 = .ok (.ireturn, 1) := dk_172 (dk_at dksX7_node_3 21 rfl rfl)
def dkwX8_init_0 : List UInt8 := [42, 1, 1, 3, 3, 183, 0, 1, 42, 27, 181, 0, 7, 42, 28, 181, 0, 13, 177]
abbrev dktX8_init_0 : List UInt8 := dkwX8_init_0 ++ []
theorem dksX8_init_0 : cX8_init.data.toList.drop 0 = dktX8_init_0 := by decide +kernel
theorem dX8_init_0 : decode cX8_init 0 = .ok (.aload_n 0, 1) := dk_42 (dk_at dksX8_init_0 0 rfl rfl)
theorem dX8_init_1 : decode cX8_init 1 = .ok (.aconst_null, 1) := dk_1 (dk_at dksX8_init_0 1 rfl rfl)
theorem dX8_init_2 : decode cX8_init 2 = .ok (.aconst_null, 1) := dk_1 (dk_at dksX8_init_0 2 rfl rfl)
theorem dX8_init_3 : decode cX8_init 3 = .ok (.iconst 0, 1) := dk_3 (dk_at dksX8_init_0 3 rfl rfl)
theorem dX8_init_4 : decode cX8_init 4 = .ok (.iconst 0, 1) := dk_3 (dk_at dksX8_init_0 4 rfl rfl)
theorem dX8_init_5 : decode cX8_init 5 = .ok (.invokespecial 1, 3) := dk_183 0 1 (dk_at dksX8_init_0 5 rfl rfl)
theorem dX8_init_8 : decode cX8_init 8 = .ok (.aload_n 0, 1) := dk_42 (dk_at dksX8_init_0 8 rfl rfl)
theorem dX8_init_9 : decode cX8_init 9 = .ok (.iload_n 1, 1) := dk_27 (dk_at dksX8_init_0 9 rfl rfl)
theorem dX8_init_10 : decode cX8_init 10 = .ok (.putfield 7, 3) := dk_181 0 7 (dk_at dksX8_init_0 10 rfl rfl)
theorem dX8_init_13 : decode cX8_init 13 = .ok (.aload_n 0, 1) := dk_42 (dk_at dksX8_init_0 13 rfl rfl)
theorem dX8_init_14 : decode cX8_init 14 = .ok (.iload_n 2, 1) := dk_28 (dk_at dksX8_init_0 14 rfl rfl)
theorem dX8_init_15 : decode cX8_init 15 = .ok (.putfield 13, 3) := dk_181 0 13 (dk_at dksX8_init_0 15 rfl rfl)
theorem dX8_init_18 : decode cX8_init 18 = .ok (.return_, 1) := dk_177 (dk_at dksX8_init_0 18 rfl rfl)
def dkwX9_init_0 : List UInt8 := [42, 18, 1, 1, 3, 3, 183, 0, 3, 177]
abbrev dktX9_init_0 : List UInt8 := dkwX9_init_0 ++ []
theorem dksX9_init_0 : cX9_init.data.toList.drop 0 = dktX9_init_0 := by decide +kernel
theorem dX9_init_0 : decode cX9_init 0 = .ok (.aload_n 0, 1) := dk_42 (dk_at dksX9_init_0 0 rfl rfl)
theorem dX9_init_1 : decode cX9_init 1 = .ok (.ldc 1, 2) := dk_18 1 (dk_at dksX9_init_0 1 rfl rfl)
theorem dX9_init_3 : decode cX9_init 3 = .ok (.aconst_null, 1) := dk_1 (dk_at dksX9_init_0 3 rfl rfl)
theorem dX9_init_4 : decode cX9_init 4 = .ok (.iconst 0, 1) := dk_3 (dk_at dksX9_init_0 4 rfl rfl)
theorem dX9_init_5 : decode cX9_init 5 = .ok (.iconst 0, 1) := dk_3 (dk_at dksX9_init_0 5 rfl rfl)
theorem dX9_init_6 : decode cX9_init 6 = .ok (.invokespecial 3, 3) := dk_183 0 3 (dk_at dksX9_init_0 6 rfl rfl)
theorem dX9_init_9 : decode cX9_init 9 = .ok (.return_, 1) := dk_177 (dk_at dksX9_init_0 9 rfl rfl)
def dkwX10_init_1 : List UInt8 := [22, 5, 109, 181, 0, 23, 177]
abbrev dktX10_init_1 : List UInt8 := dkwX10_init_1 ++ []
def dkwX10_init_0 : List UInt8 := [42, 183, 0, 1, 31, 184, 0, 7, 33, 184, 0, 13, 55, 5, 42, 31, 22, 5, 109, 181, 0, 19, 42, 33]
abbrev dktX10_init_0 : List UInt8 := dkwX10_init_0 ++ dktX10_init_1
theorem dksX10_init_0 : cX10_init.data.toList.drop 0 = dktX10_init_0 := by decide +kernel
theorem dksX10_init_1 : cX10_init.data.toList.drop 24 = dktX10_init_1 := dk_seg dksX10_init_0 24 rfl rfl
theorem dX10_init_0 : decode cX10_init 0 = .ok (.aload_n 0, 1) := dk_42 (dk_at dksX10_init_0 0 rfl rfl)
theorem dX10_init_1 : decode cX10_init 1 = .ok (.invokespecial 1, 3) := dk_183 0 1 (dk_at dksX10_init_0 1 rfl rfl)
theorem dX10_init_4 : decode cX10_init 4 = .ok (.lload_n 1, 1) := dk_31 (dk_at dksX10_init_0 4 rfl rfl)
theorem dX10_init_5 : decode cX10_init 5 = .ok (.invokestatic 7, 3) := dk_184 0 7 (dk_at dksX10_init_0 5 rfl rfl)
theorem dX10_init_8 : decode cX10_init 8 = .ok (.lload_n 3, 1) := dk_33 (dk_at dksX10_init_0 8 rfl rfl)
theorem dX10_init_9 : decode cX10_init 9 = .ok (.invokestatic 13, 3) := dk_184 0 13 (dk_at dksX10_init_0 9 rfl rfl)
theorem dX10_init_12 : decode cX10_init 12 = .ok (.lstore 5, 2) := dk_55 5 (dk_at dksX10_init_0 12 rfl rfl)
theorem dX10_init_14 : decode cX10_init 14 = .ok (.aload_n 0, 1) := dk_42 (dk_at dksX10_init_0 14 rfl rfl)
theorem dX10_init_15 : decode cX10_init 15 = .ok (.lload_n 1, 1) := dk_31 (dk_at dksX10_init_0 15 rfl rfl)
theorem dX10_init_16 : decode cX10_init 16 = .ok (.lload 5, 2) := dk_22 5 (dk_at dksX10_init_0 16 rfl rfl)
theorem dX10_init_18 : decode cX10_init 18 = .ok (.ldiv, 1) := dk_109 (dk_at dksX10_init_0 18 rfl rfl)
theorem dX10_init_19 : decode cX10_init 19 = .ok (.putfield 19, 3) := dk_181 0 19 (dk_at dksX10_init_0 19 rfl rfl)
theorem dX10_init_22 : decode cX10_init 22 = .ok (.aload_n 0, 1) := dk_42 (dk_at dksX10_init_0 22 rfl rfl)
theorem dX10_init_23 : decode cX10_init 23 = .ok (.lload_n 3, 1) := dk_33 (dk_at dksX10_init_0 23 rfl rfl)
theorem dX10_init_24 : decode cX10_init 24 = .ok (.lload 5, 2) := dk_22 5 (dk_at dksX10_init_1 0 rfl rfl)
theorem dX10_init_26 : decode cX10_init 26 = .ok (.ldiv, 1) := dk_109 (dk_at dksX10_init_1 2 rfl rfl)
theorem dX10_init_27 : decode cX10_init 27 = .ok (.putfield 23, 3) := dk_181 0 23 (dk_at dksX10_init_1 3 rfl rfl)
theorem dX10_init_30 : decode cX10_init 30 = .ok (.return_, 1) := dk_177 (dk_at dksX10_init_1 6 rfl rfl)
def dkwX10_common_0 : List UInt8 := [32, 9, 148, 154, 0, 7, 30, 167, 0, 10, 32, 30, 32, 113, 184, 0, 13, 173]
abbrev dktX10_common_0 : List UInt8 := dkwX10_common_0 ++ []
theorem dksX10_common_0 : cX10_common.data.toList.drop 0 = dktX10_common_0 := by decide +kernel
theorem dX10_common_0 : decode cX10_common 0 = .ok (.lload_n 2, 1) := dk_32 (dk_at dksX10_common_0 0 rfl rfl)
theorem dX10_common_1 : decode cX10_common 1 = .ok (.lconst 0, 1) := dk_9 (dk_at dksX10_common_0 1 rfl rfl)
theorem dX10_common_2 : decode cX10_common 2 = .ok (.lcmp, 1) := dk_148 (dk_at dksX10_common_0 2 rfl rfl)
theorem dX10_common_3 : decode cX10_common 3 = .ok (.ifCond .ne 7, 3) := dk_154 0 7 (dk_at dksX10_common_0 3 rfl rfl)
theorem dX10_common_6 : decode cX10_common 6 = .ok (.lload_n 0, 1) := dk_30 (dk_at dksX10_common_0 6 rfl rfl)
theorem dX10_common_7 : decode cX10_common 7 = .ok (.goto 10, 3) := dk_167 0 10 (dk_at dksX10_common_0 7 rfl rfl)
theorem dX10_common_10 : decode cX10_common 10 = .ok (.lload_n 2, 1) := dk_32 (dk_at dksX10_common_0 10 rfl rfl)
theorem dX10_common_11 : decode cX10_common 11 = .ok (.lload_n 0, 1) := dk_30 (dk_at dksX10_common_0 11 rfl rfl)
theorem dX10_common_12 : decode cX10_common 12 = .ok (.lload_n 2, 1) := dk_32 (dk_at dksX10_common_0 12 rfl rfl)
theorem dX10_common_13 : decode cX10_common 13 = .ok (.lrem, 1) := dk_113 (dk_at dksX10_common_0 13 rfl rfl)
theorem dX10_common_14 : decode cX10_common 14 = .ok (.invokestatic 13, 3) := dk_184 0 13 (dk_at dksX10_common_0 14 rfl rfl)
theorem dX10_common_17 : decode cX10_common 17 = .ok (.lreturn, 1) := dk_173 (dk_at dksX10_common_0 17 rfl rfl)
def dkwX10_isMore_1 : List UInt8 := [167, 0, 4, 3, 172]
abbrev dktX10_isMore_1 : List UInt8 := dkwX10_isMore_1 ++ []
def dkwX10_isMore_0 : List UInt8 := [42, 180, 0, 19, 42, 180, 0, 23, 43, 180, 0, 19, 43, 180, 0, 23, 184, 0, 26, 158, 0, 7, 4]
abbrev dktX10_isMore_0 : List UInt8 := dkwX10_isMore_0 ++ dktX10_isMore_1
theorem dksX10_isMore_0 : cX10_isMore.data.toList.drop 0 = dktX10_isMore_0 := by decide +kernel
theorem dksX10_isMore_1 : cX10_isMore.data.toList.drop 23 = dktX10_isMore_1 := dk_seg dksX10_isMore_0 23 rfl rfl
theorem dX10_isMore_0 : decode cX10_isMore 0 = .ok (.aload_n 0, 1) := dk_42 (dk_at dksX10_isMore_0 0 rfl rfl)
theorem dX10_isMore_1 : decode cX10_isMore 1 = .ok (.getfield 19, 3) := dk_180 0 19 (dk_at dksX10_isMore_0 1 rfl rfl)
theorem dX10_isMore_4 : decode cX10_isMore 4 = .ok (.aload_n 0, 1) := dk_42 (dk_at dksX10_isMore_0 4 rfl rfl)
theorem dX10_isMore_5 : decode cX10_isMore 5 = .ok (.getfield 23, 3) := dk_180 0 23 (dk_at dksX10_isMore_0 5 rfl rfl)
theorem dX10_isMore_8 : decode cX10_isMore 8 = .ok (.aload_n 1, 1) := dk_43 (dk_at dksX10_isMore_0 8 rfl rfl)
theorem dX10_isMore_9 : decode cX10_isMore 9 = .ok (.getfield 19, 3) := dk_180 0 19 (dk_at dksX10_isMore_0 9 rfl rfl)
theorem dX10_isMore_12 : decode cX10_isMore 12 = .ok (.aload_n 1, 1) := dk_43 (dk_at dksX10_isMore_0 12 rfl rfl)
theorem dX10_isMore_13 : decode cX10_isMore 13 = .ok (.getfield 23, 3) := dk_180 0 23 (dk_at dksX10_isMore_0 13 rfl rfl)
theorem dX10_isMore_16 : decode cX10_isMore 16 = .ok (.invokestatic 26, 3) := dk_184 0 26 (dk_at dksX10_isMore_0 16 rfl rfl)
theorem dX10_isMore_19 : decode cX10_isMore 19 = .ok (.ifCond .le 7, 3) := dk_158 0 7 (dk_at dksX10_isMore_0 19 rfl rfl)
theorem dX10_isMore_22 : decode cX10_isMore 22 = .ok (.iconst 1, 1) := dk_4 (dk_at dksX10_isMore_0 22 rfl rfl)
theorem dX10_isMore_23 : decode cX10_isMore 23 = .ok (.goto 4, 3) := dk_167 0 4 (dk_at dksX10_isMore_1 0 rfl rfl)
theorem dX10_isMore_26 : decode cX10_isMore 26 = .ok (.iconst 0, 1) := dk_3 (dk_at dksX10_isMore_1 3 rfl rfl)
theorem dX10_isMore_27 : decode cX10_isMore 27 = .ok (.ireturn, 1) := dk_172 (dk_at dksX10_isMore_1 4 rfl rfl)
def dkwX10_compare_2 : List UInt8 := [154, 0, 13, 22, 8, 22, 10, 184, 0, 30, 167, 0, 13, 22, 6, 22, 10, 32, 22, 8, 184, 0, 26, 172]
abbrev dktX10_compare_2 : List UInt8 := dkwX10_compare_2 ++ []
def dkwX10_compare_1 : List UInt8 := [30, 32, 113, 55, 8, 22, 4, 22, 6, 113, 55, 10, 22, 8, 9, 148, 153, 0, 10, 22, 10, 9, 148]
abbrev dktX10_compare_1 : List UInt8 := dkwX10_compare_1 ++ dktX10_compare_2
def dkwX10_compare_0 : List UInt8 := [30, 32, 109, 22, 4, 22, 6, 109, 148, 153, 0, 15, 30, 32, 109, 22, 4, 22, 6, 109, 184, 0, 30, 172]
abbrev dktX10_compare_0 : List UInt8 := dkwX10_compare_0 ++ dktX10_compare_1
theorem dksX10_compare_0 : cX10_compare.data.toList.drop 0 = dktX10_compare_0 := by decide +kernel
theorem dksX10_compare_1 : cX10_compare.data.toList.drop 24 = dktX10_compare_1 := dk_seg dksX10_compare_0 24 rfl rfl
theorem dksX10_compare_2 : cX10_compare.data.toList.drop 47 = dktX10_compare_2 := dk_seg dksX10_compare_1 23 rfl rfl
theorem dX10_compare_0 : decode cX10_compare 0 = .ok (.lload_n 0, 1) := dk_30 (dk_at dksX10_compare_0 0 rfl rfl)
theorem dX10_compare_1 : decode cX10_compare 1 = .ok (.lload_n 2, 1) := dk_32 (dk_at dksX10_compare_0 1 rfl rfl)
theorem dX10_compare_2 : decode cX10_compare 2 = .ok (.ldiv, 1) := dk_109 (dk_at dksX10_compare_0 2 rfl rfl)
theorem dX10_compare_3 : decode cX10_compare 3 = .ok (.lload 4, 2) := dk_22 4 (dk_at dksX10_compare_0 3 rfl rfl)
theorem dX10_compare_5 : decode cX10_compare 5 = .ok (.lload 6, 2) := dk_22 6 (dk_at dksX10_compare_0 5 rfl rfl)
theorem dX10_compare_7 : decode cX10_compare 7 = .ok (.ldiv, 1) := dk_109 (dk_at dksX10_compare_0 7 rfl rfl)
theorem dX10_compare_8 : decode cX10_compare 8 = .ok (.lcmp, 1) := dk_148 (dk_at dksX10_compare_0 8 rfl rfl)
theorem dX10_compare_9 : decode cX10_compare 9 = .ok (.ifCond .eq 15, 3) := dk_153 0 15 (dk_at dksX10_compare_0 9 rfl rfl)
theorem dX10_compare_12 : decode cX10_compare 12 = .ok (.lload_n 0, 1) := dk_30 (dk_at dksX10_compare_0 12 rfl rfl)
theorem dX10_compare_13 : decode cX10_compare 13 = .ok (.lload_n 2, 1) := dk_32 (dk_at dksX10_compare_0 13 rfl rfl)
theorem dX10_compare_14 : decode cX10_compare 14 = .ok (.ldiv, 1) := dk_109 (dk_at dksX10_compare_0 14 rfl rfl)
theorem dX10_compare_15 : decode cX10_compare 15 = .ok (.lload 4, 2) := dk_22 4 (dk_at dksX10_compare_0 15 rfl rfl)
theorem dX10_compare_17 : decode cX10_compare 17 = .ok (.lload 6, 2) := dk_22 6 (dk_at dksX10_compare_0 17 rfl rfl)
theorem dX10_compare_19 : decode cX10_compare 19 = .ok (.ldiv, 1) := dk_109 (dk_at dksX10_compare_0 19 rfl rfl)
theorem dX10_compare_20 : decode cX10_compare 20 = .ok (.invokestatic 30, 3) := dk_184 0 30 (dk_at dksX10_compare_0 20 rfl rfl)
theorem dX10_compare_23 : decode cX10_compare 23 = .ok (.ireturn, 1) := dk_172 (dk_at dksX10_compare_0 23 rfl rfl)
theorem dX10_compare_24 : decode cX10_compare 24 = .ok (.lload_n 0, 1) := dk_30 (dk_at dksX10_compare_1 0 rfl rfl)
theorem dX10_compare_25 : decode cX10_compare 25 = .ok (.lload_n 2, 1) := dk_32 (dk_at dksX10_compare_1 1 rfl rfl)
theorem dX10_compare_26 : decode cX10_compare 26 = .ok (.lrem, 1) := dk_113 (dk_at dksX10_compare_1 2 rfl rfl)
theorem dX10_compare_27 : decode cX10_compare 27 = .ok (.lstore 8, 2) := dk_55 8 (dk_at dksX10_compare_1 3 rfl rfl)
theorem dX10_compare_29 : decode cX10_compare 29 = .ok (.lload 4, 2) := dk_22 4 (dk_at dksX10_compare_1 5 rfl rfl)
theorem dX10_compare_31 : decode cX10_compare 31 = .ok (.lload 6, 2) := dk_22 6 (dk_at dksX10_compare_1 7 rfl rfl)
theorem dX10_compare_33 : decode cX10_compare 33 = .ok (.lrem, 1) := dk_113 (dk_at dksX10_compare_1 9 rfl rfl)
theorem dX10_compare_34 : decode cX10_compare 34 = .ok (.lstore 10, 2) := dk_55 10 (dk_at dksX10_compare_1 10 rfl rfl)
theorem dX10_compare_36 : decode cX10_compare 36 = .ok (.lload 8, 2) := dk_22 8 (dk_at dksX10_compare_1 12 rfl rfl)
theorem dX10_compare_38 : decode cX10_compare 38 = .ok (.lconst 0, 1) := dk_9 (dk_at dksX10_compare_1 14 rfl rfl)
theorem dX10_compare_39 : decode cX10_compare 39 = .ok (.lcmp, 1) := dk_148 (dk_at dksX10_compare_1 15 rfl rfl)
theorem dX10_compare_40 : decode cX10_compare 40 = .ok (.ifCond .eq 10, 3) := dk_153 0 10 (dk_at dksX10_compare_1 16 rfl rfl)
theorem dX10_compare_43 : decode cX10_compare 43 = .ok (.lload 10, 2) := dk_22 10 (dk_at dksX10_compare_1 19 rfl rfl)
theorem dX10_compare_45 : decode cX10_compare 45 = .ok (.lconst 0, 1) := dk_9 (dk_at dksX10_compare_1 21 rfl rfl)
theorem dX10_compare_46 : decode cX10_compare 46 = .ok (.lcmp, 1) := dk_148 (dk_at dksX10_compare_1 22 rfl rfl)
theorem dX10_compare_47 : decode cX10_compare 47 = .ok (.ifCond .ne 13, 3) := dk_154 0 13 (dk_at dksX10_compare_2 0 rfl rfl)
theorem dX10_compare_50 : decode cX10_compare 50 = .ok (.lload 8, 2) := dk_22 8 (dk_at dksX10_compare_2 3 rfl rfl)
theorem dX10_compare_52 : decode cX10_compare 52 = .ok (.lload 10, 2) := dk_22 10 (dk_at dksX10_compare_2 5 rfl rfl)
theorem dX10_compare_54 : decode cX10_compare 54 = .ok (.invokestatic 30, 3) := dk_184 0 30 (dk_at dksX10_compare_2 7 rfl rfl)
theorem dX10_compare_57 : decode cX10_compare 57 = .ok (.goto 13, 3) := dk_167 0 13 (dk_at dksX10_compare_2 10 rfl rfl)
theorem dX10_compare_60 : decode cX10_compare 60 = .ok (.lload 6, 2) := dk_22 6 (dk_at dksX10_compare_2 13 rfl rfl)
theorem dX10_compare_62 : decode cX10_compare 62 = .ok (.lload 10, 2) := dk_22 10 (dk_at dksX10_compare_2 15 rfl rfl)
theorem dX10_compare_64 : decode cX10_compare 64 = .ok (.lload_n 2, 1) := dk_32 (dk_at dksX10_compare_2 17 rfl rfl)
theorem dX10_compare_65 : decode cX10_compare 65 = .ok (.lload 8, 2) := dk_22 8 (dk_at dksX10_compare_2 18 rfl rfl)
theorem dX10_compare_67 : decode cX10_compare 67 = .ok (.invokestatic 26, 3) := dk_184 0 26 (dk_at dksX10_compare_2 20 rfl rfl)
theorem dX10_compare_70 : decode cX10_compare 70 = .ok (.ireturn, 1) := dk_172 (dk_at dksX10_compare_2 23 rfl rfl)
def dkwX10_told_0 : List UInt8 := [27, 153, 0, 10, 42, 180, 0, 23, 167, 0, 7, 42, 180, 0, 19, 173]
abbrev dktX10_told_0 : List UInt8 := dkwX10_told_0 ++ []
theorem dksX10_told_0 : cX10_told.data.toList.drop 0 = dktX10_told_0 := by decide +kernel
theorem dX10_told_0 : decode cX10_told 0 = .ok (.iload_n 1, 1) := dk_27 (dk_at dksX10_told_0 0 rfl rfl)
theorem dX10_told_1 : decode cX10_told 1 = .ok (.ifCond .eq 10, 3) := dk_153 0 10 (dk_at dksX10_told_0 1 rfl rfl)
theorem dX10_told_4 : decode cX10_told 4 = .ok (.aload_n 0, 1) := dk_42 (dk_at dksX10_told_0 4 rfl rfl)
theorem dX10_told_5 : decode cX10_told 5 = .ok (.getfield 23, 3) := dk_180 0 23 (dk_at dksX10_told_0 5 rfl rfl)
theorem dX10_told_8 : decode cX10_told 8 = .ok (.goto 7, 3) := dk_167 0 7 (dk_at dksX10_told_0 8 rfl rfl)
theorem dX10_told_11 : decode cX10_told 11 = .ok (.aload_n 0, 1) := dk_42 (dk_at dksX10_told_0 11 rfl rfl)
theorem dX10_told_12 : decode cX10_told 12 = .ok (.getfield 19, 3) := dk_180 0 19 (dk_at dksX10_told_0 12 rfl rfl)
theorem dX10_told_15 : decode cX10_told 15 = .ok (.lreturn, 1) := dk_173 (dk_at dksX10_told_0 15 rfl rfl)
def dkwX11_init_0 : List UInt8 := [42, 183, 0, 1, 42, 27, 181, 0, 7, 177]
abbrev dktX11_init_0 : List UInt8 := dkwX11_init_0 ++ []
theorem dksX11_init_0 : cX11_init.data.toList.drop 0 = dktX11_init_0 := by decide +kernel
theorem dX11_init_0 : decode cX11_init 0 = .ok (.aload_n 0, 1) := dk_42 (dk_at dksX11_init_0 0 rfl rfl)
theorem dX11_init_1 : decode cX11_init 1 = .ok (.invokespecial 1, 3) := dk_183 0 1 (dk_at dksX11_init_0 1 rfl rfl)
theorem dX11_init_4 : decode cX11_init 4 = .ok (.aload_n 0, 1) := dk_42 (dk_at dksX11_init_0 4 rfl rfl)
theorem dX11_init_5 : decode cX11_init 5 = .ok (.iload_n 1, 1) := dk_27 (dk_at dksX11_init_0 5 rfl rfl)
theorem dX11_init_6 : decode cX11_init 6 = .ok (.putfield 7, 3) := dk_181 0 7 (dk_at dksX11_init_0 6 rfl rfl)
theorem dX11_init_9 : decode cX11_init 9 = .ok (.return_, 1) := dk_177 (dk_at dksX11_init_0 9 rfl rfl)
def dkwX12_init_0 : List UInt8 := [42, 183, 0, 1, 42, 27, 181, 0, 7, 177]
abbrev dktX12_init_0 : List UInt8 := dkwX12_init_0 ++ []
theorem dksX12_init_0 : cX12_init.data.toList.drop 0 = dktX12_init_0 := by decide +kernel
theorem dX12_init_0 : decode cX12_init 0 = .ok (.aload_n 0, 1) := dk_42 (dk_at dksX12_init_0 0 rfl rfl)
theorem dX12_init_1 : decode cX12_init 1 = .ok (.invokespecial 1, 3) := dk_183 0 1 (dk_at dksX12_init_0 1 rfl rfl)
theorem dX12_init_4 : decode cX12_init 4 = .ok (.aload_n 0, 1) := dk_42 (dk_at dksX12_init_0 4 rfl rfl)
theorem dX12_init_5 : decode cX12_init 5 = .ok (.iload_n 1, 1) := dk_27 (dk_at dksX12_init_0 5 rfl rfl)
theorem dX12_init_6 : decode cX12_init 6 = .ok (.putfield 7, 3) := dk_181 0 7 (dk_at dksX12_init_0 6 rfl rfl)
theorem dX12_init_9 : decode cX12_init 9 = .ok (.return_, 1) := dk_177 (dk_at dksX12_init_0 9 rfl rfl)
