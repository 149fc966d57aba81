set_option maxRecDepth 100000
def dkwX6_tellsGround_1 : List UInt8 := [132, 1, 1, 167, 255, 240, 4, 172]
abbrev dktX6_tellsGround_1 : List UInt8 := dkwX6_tellsGround_1 ++ []
def dkwX6_tellsGround_0 : List UInt8 := [42, 182, 1, 18, 154, 0, 5, 3, 172, 3, 60, 27, 42, 182, 1, 76, 162, 0, 14, 42, 27, 182, 1, 79]
abbrev dktX6_tellsGround_0 : List UInt8 := dkwX6_tellsGround_0 ++ dktX6_tellsGround_1
theorem dksX6_tellsGround_0 : cX6_tellsGround.data.toList.drop 0 = dktX6_tellsGround_0 := by decide +kernel
theorem dksX6_tellsGround_1 : cX6_tellsGround.data.toList.drop 24 = dktX6_tellsGround_1 := dk_seg dksX6_tellsGround_0 24 rfl rfl
theorem dX6_tellsGround_0 : decode cX6_tellsGround 0 = .ok (.aload_n 0, 1) := dk_42 (dk_at dksX6_tellsGround_0 0 rfl rfl)
theorem dX6_tellsGround_1 : decode cX6_tellsGround 1 = .ok (.invokevirtual 274, 3) := dk_182 1 18 (dk_at dksX6_tellsGround_0 1 rfl rfl)
theorem dX6_tellsGround_4 : decode cX6_tellsGround 4 = .ok (.ifCond .ne 5, 3) := dk_154 0 5 (dk_at dksX6_tellsGround_0 4 rfl rfl)
theorem dX6_tellsGround_7 : decode cX6_tellsGround 7 = .ok (.iconst 0, 1) := dk_3 (dk_at dksX6_tellsGround_0 7 rfl rfl)
theorem dX6_tellsGround_8 : decode cX6_tellsGround 8 = .ok (.ireturn, 1) := dk_172 (dk_at dksX6_tellsGround_0 8 rfl rfl)
theorem dX6_tellsGround_9 : decode cX6_tellsGround 9 = .ok (.iconst 0, 1) := dk_3 (dk_at dksX6_tellsGround_0 9 rfl rfl)
theorem dX6_tellsGround_10 : decode cX6_tellsGround 10 = .ok (.istore_n 1, 1) := dk_60 (dk_at dksX6_tellsGround_0 10 rfl rfl)
theorem dX6_tellsGround_11 : decode cX6_tellsGround 11 = .ok (.iload_n 1, 1) := dk_27 (dk_at dksX6_tellsGround_0 11 rfl rfl)
theorem dX6_tellsGround_12 : decode cX6_tellsGround 12 = .ok (.aload_n 0, 1) := dk_42 (dk_at dksX6_tellsGround_0 12 rfl rfl)
theorem dX6_tellsGround_13 : decode cX6_tellsGround 13 = .ok (.invokevirtual 332, 3) := dk_182 1 76 (dk_at dksX6_tellsGround_0 13 rfl rfl)
theorem dX6_tellsGround_16 : decode cX6_tellsGround 16 = .ok (.if_icmp .ge 14, 3) := dk_162 0 14 (dk_at dksX6_tellsGround_0 16 rfl rfl)
theorem dX6_tellsGround_19 : decode cX6_tellsGround 19 = .ok (.aload_n 0, 1) := dk_42 (dk_at dksX6_tellsGround_0 19 rfl rfl)
theorem dX6_tellsGround_20 : decode cX6_tellsGround 20 = .ok (.iload_n 1, 1) := dk_27 (dk_at dksX6_tellsGround_0 20 rfl rfl)
theorem dX6_tellsGround_21 : decode cX6_tellsGround 21 = .ok (.invokevirtual 335, 3) := dk_182 1 79 (dk_at dksX6_tellsGround_0 21 rfl rfl)
theorem dX6_tellsGround_24 : decode cX6_tellsGround 24 = .ok (.iinc 1 1, 3) := dk_132 1 1 (dk_at dksX6_tellsGround_1 0 rfl rfl)
theorem dX6_tellsGround_27 : decode cX6_tellsGround 27 = .ok (.goto (-16), 3) := dk_167 255 240 (dk_at dksX6_tellsGround_1 3 rfl rfl)
theorem dX6_tellsGround_30 : decode cX6_tellsGround 30 = .ok (.iconst 1, 1) := dk_4 (dk_at dksX6_tellsGround_1 6 rfl rfl)
theorem dX6_tellsGround_31 : decode cX6_tellsGround 31 = .ok (.ireturn, 1) := dk_172 (dk_at dksX6_tellsGround_1 7 rfl rfl)
def dkwX6_points_0 : List UInt8 := [42, 182, 1, 69, 5, 42, 180, 0, 31, 4, 46, 104, 4, 100, 104, 172]
abbrev dktX6_points_0 : List UInt8 := dkwX6_points_0 ++ []
theorem dksX6_points_0 : cX6_points.data.toList.drop 0 = dktX6_points_0 := by decide +kernel
theorem dX6_points_0 : decode cX6_points 0 = .ok (.aload_n 0, 1) := dk_42 (dk_at dksX6_points_0 0 rfl rfl)
theorem dX6_points_1 : decode cX6_points 1 = .ok (.invokevirtual 325, 3) := dk_182 1 69 (dk_at dksX6_points_0 1 rfl rfl)
theorem dX6_points_4 : decode cX6_points 4 = .ok (.iconst 2, 1) := dk_5 (dk_at dksX6_points_0 4 rfl rfl)
theorem dX6_points_5 : decode cX6_points 5 = .ok (.aload_n 0, 1) := dk_42 (dk_at dksX6_points_0 5 rfl rfl)
theorem dX6_points_6 : decode cX6_points 6 = .ok (.getfield 31, 3) := dk_180 0 31 (dk_at dksX6_points_0 6 rfl rfl)
theorem dX6_points_9 : decode cX6_points 9 = .ok (.iconst 1, 1) := dk_4 (dk_at dksX6_points_0 9 rfl rfl)
theorem dX6_points_10 : decode cX6_points 10 = .ok (.iaload, 1) := dk_46 (dk_at dksX6_points_0 10 rfl rfl)
theorem dX6_points_11 : decode cX6_points 11 = .ok (.imul, 1) := dk_104 (dk_at dksX6_points_0 11 rfl rfl)
theorem dX6_points_12 : decode cX6_points 12 = .ok (.iconst 1, 1) := dk_4 (dk_at dksX6_points_0 12 rfl rfl)
theorem dX6_points_13 : decode cX6_points 13 = .ok (.isub, 1) := dk_100 (dk_at dksX6_points_0 13 rfl rfl)
theorem dX6_points_14 : decode cX6_points 14 = .ok (.imul, 1) := dk_104 (dk_at dksX6_points_0 14 rfl rfl)
theorem dX6_points_15 : decode cX6_points 15 = .ok (.ireturn, 1) := dk_172 (dk_at dksX6_points_0 15 rfl rfl)
def dkwX6_pointsWide_0 : List UInt8 := [5, 42, 180, 0, 31, 3, 46, 104, 4, 100, 172]
abbrev dktX6_pointsWide_0 : List UInt8 := dkwX6_pointsWide_0 ++ []
theorem dksX6_pointsWide_0 : cX6_pointsWide.data.toList.drop 0 = dktX6_pointsWide_0 := by decide +kernel
theorem dX6_pointsWide_0 : decode cX6_pointsWide 0 = .ok (.iconst 2, 1) := dk_5 (dk_at dksX6_pointsWide_0 0 rfl rfl)
theorem dX6_pointsWide_1 : decode cX6_pointsWide 1 = .ok (.aload_n 0, 1) := dk_42 (dk_at dksX6_pointsWide_0 1 rfl rfl)
theorem dX6_pointsWide_2 : decode cX6_pointsWide 2 = .ok (.getfield 31, 3) := dk_180 0 31 (dk_at dksX6_pointsWide_0 2 rfl rfl)
theorem dX6_pointsWide_5 : decode cX6_pointsWide 5 = .ok (.iconst 0, 1) := dk_3 (dk_at dksX6_pointsWide_0 5 rfl rfl)
theorem dX6_pointsWide_6 : decode cX6_pointsWide 6 = .ok (.iaload, 1) := dk_46 (dk_at dksX6_pointsWide_0 6 rfl rfl)
theorem dX6_pointsWide_7 : decode cX6_pointsWide 7 = .ok (.imul, 1) := dk_104 (dk_at dksX6_pointsWide_0 7 rfl rfl)
theorem dX6_pointsWide_8 : decode cX6_pointsWide 8 = .ok (.iconst 1, 1) := dk_4 (dk_at dksX6_pointsWide_0 8 rfl rfl)
theorem dX6_pointsWide_9 : decode cX6_pointsWide 9 = .ok (.isub, 1) := dk_100 (dk_at dksX6_pointsWide_0 9 rfl rfl)
theorem dX6_pointsWide_10 : decode cX6_pointsWide 10 = .ok (.ireturn, 1) := dk_172 (dk_at dksX6_pointsWide_0 10 rfl rfl)
def dkwX6_tellGround_6 : List UInt8 := [42, 180, 0, 31, 6, 46, 133, 105, 22, 6, 105, 42, 180, 0, 64, 27, 47, 101, 80, 177]
abbrev dktX6_tellGround_6 : List UInt8 := dkwX6_tellGround_6 ++ []
def dkwX6_tellGround_5 : List UInt8 := [180, 0, 31, 6, 46, 133, 105, 42, 180, 0, 31, 7, 46, 133, 105, 80, 42, 180, 0, 67, 27, 20, 1, 74]
abbrev dktX6_tellGround_5 : List UInt8 := dkwX6_tellGround_5 ++ dktX6_tellGround_6
def dkwX6_tellGround_4 : List UInt8 := [167, 255, 205, 132, 9, 1, 167, 255, 184, 42, 180, 0, 64, 27, 22, 4, 7, 21, 8, 108, 133, 105, 42]
abbrev dktX6_tellGround_4 : List UInt8 := dkwX6_tellGround_4 ++ dktX6_tellGround_5
def dkwX6_tellGround_3 : List UInt8 := [22, 4, 22, 11, 97, 55, 4, 22, 6, 22, 11, 184, 1, 72, 55, 6, 132, 8, 1, 132, 10, 1]
abbrev dktX6_tellGround_3 : List UInt8 := dkwX6_tellGround_3 ++ dktX6_tellGround_4
def dkwX6_tellGround_2 : List UInt8 := [5, 108, 163, 0, 47, 42, 180, 0, 55, 21, 9, 42, 180, 0, 31, 3, 46, 104, 21, 10, 96, 47, 55, 11]
abbrev dktX6_tellGround_2 : List UInt8 := dkwX6_tellGround_2 ++ dktX6_tellGround_3
def dkwX6_tellGround_1 : List UInt8 := [5, 108, 54, 9, 21, 9, 29, 4, 96, 5, 108, 163, 0, 68, 28, 5, 108, 54, 10, 21, 10, 28, 4, 96]
abbrev dktX6_tellGround_1 : List UInt8 := dkwX6_tellGround_1 ++ dktX6_tellGround_2
def dkwX6_tellGround_0 : List UInt8 := [27, 42, 182, 1, 69, 112, 61, 27, 42, 182, 1, 69, 108, 62, 9, 55, 4, 9, 55, 6, 3, 54, 8, 29]
abbrev dktX6_tellGround_0 : List UInt8 := dkwX6_tellGround_0 ++ dktX6_tellGround_1
theorem dksX6_tellGround_0 : cX6_tellGround.data.toList.drop 0 = dktX6_tellGround_0 := by decide +kernel
theorem dksX6_tellGround_1 : cX6_tellGround.data.toList.drop 24 = dktX6_tellGround_1 := dk_seg dksX6_tellGround_0 24 rfl rfl
theorem dksX6_tellGround_2 : cX6_tellGround.data.toList.drop 48 = dktX6_tellGround_2 := dk_seg dksX6_tellGround_1 24 rfl rfl
theorem dksX6_tellGround_3 : cX6_tellGround.data.toList.drop 72 = dktX6_tellGround_3 := dk_seg dksX6_tellGround_2 24 rfl rfl
theorem dksX6_tellGround_4 : cX6_tellGround.data.toList.drop 94 = dktX6_tellGround_4 := dk_seg dksX6_tellGround_3 22 rfl rfl
theorem dksX6_tellGround_5 : cX6_tellGround.data.toList.drop 117 = dktX6_tellGround_5 := dk_seg dksX6_tellGround_4 23 rfl rfl
theorem dksX6_tellGround_6 : cX6_tellGround.data.toList.drop 141 = dktX6_tellGround_6 := dk_seg dksX6_tellGround_5 24 rfl rfl
theorem dX6_tellGround_0 : decode cX6_tellGround 0 = .ok (.iload_n 1, 1) := dk_27 (dk_at dksX6_tellGround_0 0 rfl rfl)
theorem dX6_tellGround_1 : decode cX6_tellGround 1 = .ok (.aload_n 0, 1) := dk_42 (dk_at dksX6_tellGround_0 1 rfl rfl)
theorem dX6_tellGround_2 : decode cX6_tellGround 2 = .ok (.invokevirtual 325, 3) := dk_182 1 69 (dk_at dksX6_tellGround_0 2 rfl rfl)
theorem dX6_tellGround_5 : decode cX6_tellGround 5 = .ok (.irem, 1) := dk_112 (dk_at dksX6_tellGround_0 5 rfl rfl)
theorem dX6_tellGround_6 : decode cX6_tellGround 6 = .ok (.istore_n 2, 1) := dk_61 (dk_at dksX6_tellGround_0 6 rfl rfl)
theorem dX6_tellGround_7 : decode cX6_tellGround 7 = .ok (.iload_n 1, 1) := dk_27 (dk_at dksX6_tellGround_0 7 rfl rfl)
theorem dX6_tellGround_8 : decode cX6_tellGround 8 = .ok (.aload_n 0, 1) := dk_42 (dk_at dksX6_tellGround_0 8 rfl rfl)
theorem dX6_tellGround_9 : decode cX6_tellGround 9 = .ok (.invokevirtual 325, 3) := dk_182 1 69 (dk_at dksX6_tellGround_0 9 rfl rfl)
theorem dX6_tellGround_12 : decode cX6_tellGround 12 = .ok (.idiv, 1) := dk_108 (dk_at dksX6_tellGround_0 12 rfl rfl)
theorem dX6_tellGround_13 : decode cX6_tellGround 13 = .ok (.istore_n 3, 1) := dk_62 (dk_at dksX6_tellGround_0 13 rfl rfl)
theorem dX6_tellGround_14 : decode cX6_tellGround 14 = .ok (.lconst 0, 1) := dk_9 (dk_at dksX6_tellGround_0 14 rfl rfl)
theorem dX6_tellGround_15 : decode cX6_tellGround 15 = .ok (.lstore 4, 2) := dk_55 4 (dk_at dksX6_tellGround_0 15 rfl rfl)
theorem dX6_tellGround_17 : decode cX6_tellGround 17 = .ok (.lconst 0, 1) := dk_9 (dk_at dksX6_tellGround_0 17 rfl rfl)
theorem dX6_tellGround_18 : decode cX6_tellGround 18 = .ok (.lstore 6, 2) := dk_55 6 (dk_at dksX6_tellGround_0 18 rfl rfl)
theorem dX6_tellGround_20 : decode cX6_tellGround 20 = .ok (.iconst 0, 1) := dk_3 (dk_at dksX6_tellGround_0 20 rfl rfl)
theorem dX6_tellGround_21 : decode cX6_tellGround 21 = .ok (.istore 8, 2) := dk_54 8 (dk_at dksX6_tellGround_0 21 rfl rfl)
theorem dX6_tellGround_23 : decode cX6_tellGround 23 = .ok (.iload_n 3, 1) := dk_29 (dk_at dksX6_tellGround_0 23 rfl rfl)
theorem dX6_tellGround_24 : decode cX6_tellGround 24 = .ok (.iconst 2, 1) := dk_5 (dk_at dksX6_tellGround_1 0 rfl rfl)
theorem dX6_tellGround_25 : decode cX6_tellGround 25 = .ok (.idiv, 1) := dk_108 (dk_at dksX6_tellGround_1 1 rfl rfl)
theorem dX6_tellGround_26 : decode cX6_tellGround 26 = .ok (.istore 9, 2) := dk_54 9 (dk_at dksX6_tellGround_1 2 rfl rfl)
theorem dX6_tellGround_28 : decode cX6_tellGround 28 = .ok (.iload 9, 2) := dk_21 9 (dk_at dksX6_tellGround_1 4 rfl rfl)
theorem dX6_tellGround_30 : decode cX6_tellGround 30 = .ok (.iload_n 3, 1) := dk_29 (dk_at dksX6_tellGround_1 6 rfl rfl)
theorem dX6_tellGround_31 : decode cX6_tellGround 31 = .ok (.iconst 1, 1) := dk_4 (dk_at dksX6_tellGround_1 7 rfl rfl)
theorem dX6_tellGround_32 : decode cX6_tellGround 32 = .ok (.iadd, 1) := dk_96 (dk_at dksX6_tellGround_1 8 rfl rfl)
theorem dX6_tellGround_33 : decode cX6_tellGround 33 = .ok (.iconst 2, 1) := dk_5 (dk_at dksX6_tellGround_1 9 rfl rfl)
theorem dX6_tellGround_34 : decode cX6_tellGround 34 = .ok (.idiv, 1) := dk_108 (dk_at dksX6_tellGround_1 10 rfl rfl)
theorem dX6_tellGround_35 : decode cX6_tellGround 35 = .ok (.if_icmp .gt 68, 3) := dk_163 0 68 (dk_at dksX6_tellGround_1 11 rfl rfl)
theorem dX6_tellGround_38 : decode cX6_tellGround 38 = .ok (.iload_n 2, 1) := dk_28 (dk_at dksX6_tellGround_1 14 rfl rfl)
theorem dX6_tellGround_39 : decode cX6_tellGround 39 = .ok (.iconst 2, 1) := dk_5 (dk_at dksX6_tellGround_1 15 rfl rfl)
theorem dX6_tellGround_40 : decode cX6_tellGround 40 = .ok (.idiv, 1) := dk_108 (dk_at dksX6_tellGround_1 16 rfl rfl)
theorem dX6_tellGround_41 : decode cX6_tellGround 41 = .ok (.istore 10, 2) := dk_54 10 (dk_at dksX6_tellGround_1 17 rfl rfl)
theorem dX6_tellGround_43 : decode cX6_tellGround 43 = .ok (.iload 10, 2) := dk_21 10 (dk_at dksX6_tellGround_1 19 rfl rfl)
theorem dX6_tellGround_45 : decode cX6_tellGround 45 = .ok (.iload_n 2, 1) := dk_28 (dk_at dksX6_tellGround_1 21 rfl rfl)
theorem dX6_tellGround_46 : decode cX6_tellGround 46 = .ok (.iconst 1, 1) := dk_4 (dk_at dksX6_tellGround_1 22 rfl rfl)
theorem dX6_tellGround_47 : decode cX6_tellGround 47 = .ok (.iadd, 1) := dk_96 (dk_at dksX6_tellGround_1 23 rfl rfl)
theorem dX6_tellGround_48 : decode cX6_tellGround 48 = .ok (.iconst 2, 1) := dk_5 (dk_at dksX6_tellGround_2 0 rfl rfl)
theorem dX6_tellGround_49 : decode cX6_tellGround 49 = .ok (.idiv, 1) := dk_108 (dk_at dksX6_tellGround_2 1 rfl rfl)
theorem dX6_tellGround_50 : decode cX6_tellGround 50 = .ok (.if_icmp .gt 47, 3) := dk_163 0 47 (dk_at dksX6_tellGround_2 2 rfl rfl)
theorem dX6_tellGround_53 : decode cX6_tellGround 53 = .ok (.aload_n 0, 1) := dk_42 (dk_at dksX6_tellGround_2 5 rfl rfl)
theorem dX6_tellGround_54 : decode cX6_tellGround 54 = .ok (.getfield 55, 3) := dk_180 0 55 (dk_at dksX6_tellGround_2 6 rfl rfl)
theorem dX6_tellGround_57 : decode cX6_tellGround 57 = .ok (.iload 9, 2) := dk_21 9 (dk_at dksX6_tellGround_2 9 rfl rfl)
theorem dX6_tellGround_59 : decode cX6_tellGround 59 = .ok (.aload_n 0, 1) := dk_42 (dk_at dksX6_tellGround_2 11 rfl rfl)
theorem dX6_tellGround_60 : decode cX6_tellGround 60 = .ok (.getfield 31, 3) := dk_180 0 31 (dk_at dksX6_tellGround_2 12 rfl rfl)
theorem dX6_tellGround_63 : decode cX6_tellGround 63 = .ok (.iconst 0, 1) := dk_3 (dk_at dksX6_tellGround_2 15 rfl rfl)
theorem dX6_tellGround_64 : decode cX6_tellGround 64 = .ok (.iaload, 1) := dk_46 (dk_at dksX6_tellGround_2 16 rfl rfl)
theorem dX6_tellGround_65 : decode cX6_tellGround 65 = .ok (.imul, 1) := dk_104 (dk_at dksX6_tellGround_2 17 rfl rfl)
theorem dX6_tellGround_66 : decode cX6_tellGround 66 = .ok (.iload 10, 2) := dk_21 10 (dk_at dksX6_tellGround_2 18 rfl rfl)
theorem dX6_tellGround_68 : decode cX6_tellGround 68 = .ok (.iadd, 1) := dk_96 (dk_at dksX6_tellGround_2 20 rfl rfl)
theorem dX6_tellGround_69 : decode cX6_tellGround 69 = .ok (.laload, 1) := dk_47 (dk_at dksX6_tellGround_2 21 rfl rfl)
theorem dX6_tellGround_70 : decode cX6_tellGround 70 = .ok (.lstore 11, 2) := dk_55 11 (dk_at dksX6_tellGround_2 22 rfl rfl)
theorem dX6_tellGround_72 : decode cX6_tellGround 72 = .ok (.lload 4, 2) := dk_22 4 (dk_at dksX6_tellGround_3 0 rfl rfl)
theorem dX6_tellGround_74 : decode cX6_tellGround 74 = .ok (.lload 11, 2) := dk_22 11 (dk_at dksX6_tellGround_3 2 rfl rfl)
theorem dX6_tellGround_76 : decode cX6_tellGround 76 = .ok (.ladd, 1) := dk_97 (dk_at dksX6_tellGround_3 4 rfl rfl)
theorem dX6_tellGround_77 : decode cX6_tellGround 77 = .ok (.lstore 4, 2) := dk_55 4 (dk_at dksX6_tellGround_3 5 rfl rfl)
theorem dX6_tellGround_79 : decode cX6_tellGround 79 = .ok (.lload 6, 2) := dk_22 6 (dk_at dksX6_tellGround_3 7 rfl rfl)
theorem dX6_tellGround_81 : decode cX6_tellGround 81 = .ok (.lload 11, 2) := dk_22 11 (dk_at dksX6_tellGround_3 9 rfl rfl)
theorem dX6_tellGround_83 : decode cX6_tellGround 83 = .ok (.invokestatic 328, 3) := dk_184 1 72 (dk_at dksX6_tellGround_3 11 rfl rfl)
theorem dX6_tellGround_86 : decode cX6_tellGround 86 = .ok (.lstore 6, 2) := dk_55 6 (dk_at dksX6_tellGround_3 14 rfl rfl)
theorem dX6_tellGround_88 : decode cX6_tellGround 88 = .ok (.iinc 8 1, 3) := dk_132 8 1 (dk_at dksX6_tellGround_3 16 rfl rfl)
theorem dX6_tellGround_91 : decode cX6_tellGround 91 = .ok (.iinc 10 1, 3) := dk_132 10 1 (dk_at dksX6_tellGround_3 19 rfl rfl)
theorem dX6_tellGround_94 : decode cX6_tellGround 94 = .ok (.goto (-51), 3) := dk_167 255 205 (dk_at dksX6_tellGround_4 0 rfl rfl)
theorem dX6_tellGround_97 : decode cX6_tellGround 97 = .ok (.iinc 9 1, 3) := dk_132 9 1 (dk_at dksX6_tellGround_4 3 rfl rfl)
theorem dX6_tellGround_100 : decode cX6_tellGround 100 = .ok (.goto (-72), 3) := dk_167 255 184 (dk_at dksX6_tellGround_4 6 rfl rfl)
theorem dX6_tellGround_103 : decode cX6_tellGround 103 = .ok (.aload_n 0, 1) := dk_42 (dk_at dksX6_tellGround_4 9 rfl rfl)
theorem dX6_tellGround_104 : decode cX6_tellGround 104 = .ok (.getfield 64, 3) := dk_180 0 64 (dk_at dksX6_tellGround_4 10 rfl rfl)
theorem dX6_tellGround_107 : decode cX6_tellGround 107 = .ok (.iload_n 1, 1) := dk_27 (dk_at dksX6_tellGround_4 13 rfl rfl)
theorem dX6_tellGround_108 : decode cX6_tellGround 108 = .ok (.lload 4, 2) := dk_22 4 (dk_at dksX6_tellGround_4 14 rfl rfl)
theorem dX6_tellGround_110 : decode cX6_tellGround 110 = .ok (.iconst 4, 1) := dk_7 (dk_at dksX6_tellGround_4 16 rfl rfl)
theorem dX6_tellGround_111 : decode cX6_tellGround 111 = .ok (.iload 8, 2) := dk_21 8 (dk_at dksX6_tellGround_4 17 rfl rfl)
theorem dX6_tellGround_113 : decode cX6_tellGround 113 = .ok (.idiv, 1) := dk_108 (dk_at dksX6_tellGround_4 19 rfl rfl)
theorem dX6_tellGround_114 : decode cX6_tellGround 114 = .ok (.i2l, 1) := dk_133 (dk_at dksX6_tellGround_4 20 rfl rfl)
theorem dX6_tellGround_115 : decode cX6_tellGround 115 = .ok (.lmul, 1) := dk_105 (dk_at dksX6_tellGround_4 21 rfl rfl)
theorem dX6_tellGround_116 : decode cX6_tellGround 116 = .ok (.aload_n 0, 1) := dk_42 (dk_at dksX6_tellGround_4 22 rfl rfl)
theorem dX6_tellGround_117 : decode cX6_tellGround 117 = .ok (.getfield 31, 3) := dk_180 0 31 (dk_at dksX6_tellGround_5 0 rfl rfl)
theorem dX6_tellGround_120 : decode cX6_tellGround 120 = .ok (.iconst 3, 1) := dk_6 (dk_at dksX6_tellGround_5 3 rfl rfl)
theorem dX6_tellGround_121 : decode cX6_tellGround 121 = .ok (.iaload, 1) := dk_46 (dk_at dksX6_tellGround_5 4 rfl rfl)
theorem dX6_tellGround_122 : decode cX6_tellGround 122 = .ok (.i2l, 1) := dk_133 (dk_at dksX6_tellGround_5 5 rfl rfl)
theorem dX6_tellGround_123 : decode cX6_tellGround 123 = .ok (.lmul, 1) := dk_105 (dk_at dksX6_tellGround_5 6 rfl rfl)
theorem dX6_tellGround_124 : decode cX6_tellGround 124 = .ok (.aload_n 0, 1) := dk_42 (dk_at dksX6_tellGround_5 7 rfl rfl)
theorem dX6_tellGround_125 : decode cX6_tellGround 125 = .ok (.getfield 31, 3) := dk_180 0 31 (dk_at dksX6_tellGround_5 8 rfl rfl)
theorem dX6_tellGround_128 : decode cX6_tellGround 128 = .ok (.iconst 4, 1) := dk_7 (dk_at dksX6_tellGround_5 11 rfl rfl)
theorem dX6_tellGround_129 : decode cX6_tellGround 129 = .ok (.iaload, 1) := dk_46 (dk_at dksX6_tellGround_5 12 rfl rfl)
theorem dX6_tellGround_130 : decode cX6_tellGround 130 = .ok (.i2l, 1) := dk_133 (dk_at dksX6_tellGround_5 13 rfl rfl)
theorem dX6_tellGround_131 : decode cX6_tellGround 131 = .ok (.lmul, 1) := dk_105 (dk_at dksX6_tellGround_5 14 rfl rfl)
theorem dX6_tellGround_132 : decode cX6_tellGround 132 = .ok (.lastore, 1) := dk_80 (dk_at dksX6_tellGround_5 15 rfl rfl)
theorem dX6_tellGround_133 : decode cX6_tellGround 133 = .ok (.aload_n 0, 1) := dk_42 (dk_at dksX6_tellGround_5 16 rfl rfl)
theorem dX6_tellGround_134 : decode cX6_tellGround 134 = .ok (.getfield 67, 3) := dk_180 0 67 (dk_at dksX6_tellGround_5 17 rfl rfl)
theorem dX6_tellGround_137 : decode cX6_tellGround 137 = .ok (.iload_n 1, 1) := dk_27 (dk_at dksX6_tellGround_5 20 rfl rfl)
theorem dX6_tellGround_138 : decode cX6_tellGround 138 = .ok (.ldc2_w 330, 3) := dk_20 1 74 (dk_at dksX6_tellGround_5 21 rfl rfl)
theorem dX6_tellGround_141 : decode cX6_tellGround 141 = .ok (.aload_n 0, 1) := dk_42 (dk_at dksX6_tellGround_6 0 rfl rfl)
theorem dX6_tellGround_142 : decode cX6_tellGround 142 = .ok (.getfield 31, 3) := dk_180 0 31 (dk_at dksX6_tellGround_6 1 rfl rfl)
theorem dX6_tellGround_145 : decode cX6_tellGround 145 = .ok (.iconst 3, 1) := dk_6 (dk_at dksX6_tellGround_6 4 rfl rfl)
theorem dX6_tellGround_146 : decode cX6_tellGround 146 = .ok (.iaload, 1) := dk_46 (dk_at dksX6_tellGround_6 5 rfl rfl)
theorem dX6_tellGround_147 : decode cX6_tellGround 147 = .ok (.i2l, 1) := dk_133 (dk_at dksX6_tellGround_6 6 rfl rfl)
theorem dX6_tellGround_148 : decode cX6_tellGround 148 = .ok (.lmul, 1) := dk_105 (dk_at dksX6_tellGround_6 7 rfl rfl)
theorem dX6_tellGround_149 : decode cX6_tellGround 149 = .ok (.lload 6, 2) := dk_22 6 (dk_at dksX6_tellGround_6 8 rfl rfl)
theorem dX6_tellGround_151 : decode cX6_tellGround 151 = .ok (.lmul, 1) := dk_105 (dk_at dksX6_tellGround_6 10 rfl rfl)
theorem dX6_tellGround_152 : decode cX6_tellGround 152 = .ok (.aload_n 0, 1) := dk_42 (dk_at dksX6_tellGround_6 11 rfl rfl)
theorem dX6_tellGround_153 : decode cX6_tellGround 153 = .ok (.getfield 64, 3) := dk_180 0 64 (dk_at dksX6_tellGround_6 12 rfl rfl)
theorem dX6_tellGround_156 : decode cX6_tellGround 156 = .ok (.iload_n 1, 1) := dk_27 (dk_at dksX6_tellGround_6 15 rfl rfl)
theorem dX6_tellGround_157 : decode cX6_tellGround 157 = .ok (.laload, 1) := dk_47 (dk_at dksX6_tellGround_6 16 rfl rfl)
theorem dX6_tellGround_158 : decode cX6_tellGround 158 = .ok (.lsub, 1) := dk_101 (dk_at dksX6_tellGround_6 17 rfl rfl)
theorem dX6_tellGround_159 : decode cX6_tellGround 159 = .ok (.lastore, 1) := dk_80 (dk_at dksX6_tellGround_6 18 rfl rfl)
theorem dX6_tellGround_160 : decode cX6_tellGround 160 = .ok (.return_, 1) := dk_177 (dk_at dksX6_tellGround_6 19 rfl rfl)
def dkwX6_beside_2 : List UInt8 := [167, 0, 4, 2, 172]
abbrev dktX6_beside_2 : List UInt8 := dkwX6_beside_2 ++ []
def dkwX6_beside_1 : List UInt8 := [167, 0, 4, 2, 172, 27, 42, 182, 1, 69, 96, 42, 182, 1, 76, 162, 0, 12, 27, 42, 182, 1, 69, 96]
abbrev dktX6_beside_1 : List UInt8 := dkwX6_beside_1 ++ dktX6_beside_2
def dkwX6_beside_0 : List UInt8 := [28, 154, 0, 26, 27, 42, 182, 1, 69, 112, 4, 96, 42, 182, 1, 69, 162, 0, 9, 27, 4, 96]
abbrev dktX6_beside_0 : List UInt8 := dkwX6_beside_0 ++ dktX6_beside_1
theorem dksX6_beside_0 : cX6_beside.data.toList.drop 0 = dktX6_beside_0 := by decide +kernel
theorem dksX6_beside_1 : cX6_beside.data.toList.drop 22 = dktX6_beside_1 := dk_seg dksX6_beside_0 22 rfl rfl
theorem dksX6_beside_2 : cX6_beside.data.toList.drop 46 = dktX6_beside_2 := dk_seg dksX6_beside_1 24 rfl rfl
theorem dX6_beside_0 : decode cX6_beside 0 = .ok (.iload_n 2, 1) := dk_28 (dk_at dksX6_beside_0 0 rfl rfl)
theorem dX6_beside_1 : decode cX6_beside 1 = .ok (.ifCond .ne 26, 3) := dk_154 0 26 (dk_at dksX6_beside_0 1 rfl rfl)
theorem dX6_beside_4 : decode cX6_beside 4 = .ok (.iload_n 1, 1) := dk_27 (dk_at dksX6_beside_0 4 rfl rfl)
theorem dX6_beside_5 : decode cX6_beside 5 = .ok (.aload_n 0, 1) := dk_42 (dk_at dksX6_beside_0 5 rfl rfl)
theorem dX6_beside_6 : decode cX6_beside 6 = .ok (.invokevirtual 325, 3) := dk_182 1 69 (dk_at dksX6_beside_0 6 rfl rfl)
theorem dX6_beside_9 : decode cX6_beside 9 = .ok (.irem, 1) := dk_112 (dk_at dksX6_beside_0 9 rfl rfl)
theorem dX6_beside_10 : decode cX6_beside 10 = .ok (.iconst 1, 1) := dk_4 (dk_at dksX6_beside_0 10 rfl rfl)
theorem dX6_beside_11 : decode cX6_beside 11 = .ok (.iadd, 1) := dk_96 (dk_at dksX6_beside_0 11 rfl rfl)
theorem dX6_beside_12 : decode cX6_beside 12 = .ok (.aload_n 0, 1) := dk_42 (dk_at dksX6_beside_0 12 rfl rfl)
theorem dX6_beside_13 : decode cX6_beside 13 = .ok (.invokevirtual 325, 3) := dk_182 1 69 (dk_at dksX6_beside_0 13 rfl rfl)
theorem dX6_beside_16 : decode cX6_beside 16 = .ok (.if_icmp .ge 9, 3) := dk_162 0 9 (dk_at dksX6_beside_0 16 rfl rfl)
theorem dX6_beside_19 : decode cX6_beside 19 = .ok (.iload_n 1, 1) := dk_27 (dk_at dksX6_beside_0 19 rfl rfl)
theorem dX6_beside_20 : decode cX6_beside 20 = .ok (.iconst 1, 1) := dk_4 (dk_at dksX6_beside_0 20 rfl rfl)
theorem dX6_beside_21 : decode cX6_beside 21 = .ok (.iadd, 1) := dk_96 (dk_at dksX6_beside_0 21 rfl rfl)
theorem dX6_beside_22 : decode cX6_beside 22 = .ok (.goto 4, 3) := dk_167 0 4 (dk_at dksX6_beside_1 0 rfl rfl)
theorem dX6_beside_25 : decode cX6_beside 25 = .ok (.iconst (-1), 1) := dk_2 (dk_at dksX6_beside_1 3 rfl rfl)
theorem dX6_beside_26 : decode cX6_beside 26 = .ok (.ireturn, 1) := dk_172 (dk_at dksX6_beside_1 4 rfl rfl)
theorem dX6_beside_27 : decode cX6_beside 27 = .ok (.iload_n 1, 1) := dk_27 (dk_at dksX6_beside_1 5 rfl rfl)
theorem dX6_beside_28 : decode cX6_beside 28 = .ok (.aload_n 0, 1) := dk_42 (dk_at dksX6_beside_1 6 rfl rfl)
theorem dX6_beside_29 : decode cX6_beside 29 = .ok (.invokevirtual 325, 3) := dk_182 1 69 (dk_at dksX6_beside_1 7 rfl rfl)
theorem dX6_beside_32 : decode cX6_beside 32 = .ok (.iadd, 1) := dk_96 (dk_at dksX6_beside_1 10 rfl rfl)
theorem dX6_beside_33 : decode cX6_beside 33 = .ok (.aload_n 0, 1) := dk_42 (dk_at dksX6_beside_1 11 rfl rfl)
theorem dX6_beside_34 : decode cX6_beside 34 = .ok (.invokevirtual 332, 3) := dk_182 1 76 (dk_at dksX6_beside_1 12 rfl rfl)
theorem dX6_beside_37 : decode cX6_beside 37 = .ok (.if_icmp .ge 12, 3) := dk_162 0 12 (dk_at dksX6_beside_1 15 rfl rfl)
theorem dX6_beside_40 : decode cX6_beside 40 = .ok (.iload_n 1, 1) := dk_27 (dk_at dksX6_beside_1 18 rfl rfl)
theorem dX6_beside_41 : decode cX6_beside 41 = .ok (.aload_n 0, 1) := dk_42 (dk_at dksX6_beside_1 19 rfl rfl)
theorem dX6_beside_42 : decode cX6_beside 42 = .ok (.invokevirtual 325, 3) := dk_182 1 69 (dk_at dksX6_beside_1 20 rfl rfl)
theorem dX6_beside_45 : decode cX6_beside 45 = .ok (.iadd, 1) := dk_96 (dk_at dksX6_beside_1 23 rfl rfl)
theorem dX6_beside_46 : decode cX6_beside 46 = .ok (.goto 4, 3) := dk_167 0 4 (dk_at dksX6_beside_2 0 rfl rfl)
theorem dX6_beside_49 : decode cX6_beside 49 = .ok (.iconst (-1), 1) := dk_2 (dk_at dksX6_beside_2 3 rfl rfl)
theorem dX6_beside_50 : decode cX6_beside 50 = .ok (.ireturn, 1) := dk_172 (dk_at dksX6_beside_2 4 rfl rfl)
def dkwX6_step_1 : List UInt8 := [156, 0, 8, 33, 117, 167, 0, 4, 33, 173]
abbrev dktX6_step_1 : List UInt8 := dkwX6_step_1 ++ []
def dkwX6_step_0 : List UInt8 := [42, 180, 0, 64, 27, 47, 42, 180, 0, 64, 42, 27, 28, 182, 1, 82, 47, 101, 66, 33, 9, 148]
abbrev dktX6_step_0 : List UInt8 := dkwX6_step_0 ++ dktX6_step_1
theorem dksX6_step_0 : cX6_step.data.toList.drop 0 = dktX6_step_0 := by decide +kernel
theorem dksX6_step_1 : cX6_step.data.toList.drop 22 = dktX6_step_1 := dk_seg dksX6_step_0 22 rfl rfl
theorem dX6_step_0 : decode cX6_step 0 = .ok (.aload_n 0, 1) := dk_42 (dk_at dksX6_step_0 0 rfl rfl)
theorem dX6_step_1 : decode cX6_step 1 = .ok (.getfield 64, 3) := dk_180 0 64 (dk_at dksX6_step_0 1 rfl rfl)
theorem dX6_step_4 : decode cX6_step 4 = .ok (.iload_n 1, 1) := dk_27 (dk_at dksX6_step_0 4 rfl rfl)
theorem dX6_step_5 : decode cX6_step 5 = .ok (.laload, 1) := dk_47 (dk_at dksX6_step_0 5 rfl rfl)
theorem dX6_step_6 : decode cX6_step 6 = .ok (.aload_n 0, 1) := dk_42 (dk_at dksX6_step_0 6 rfl rfl)
theorem dX6_step_7 : decode cX6_step 7 = .ok (.getfield 64, 3) := dk_180 0 64 (dk_at dksX6_step_0 7 rfl rfl)
theorem dX6_step_10 : decode cX6_step 10 = .ok (.aload_n 0, 1) := dk_42 (dk_at dksX6_step_0 10 rfl rfl)
theorem dX6_step_11 : decode cX6_step 11 = .ok (.iload_n 1, 1) := dk_27 (dk_at dksX6_step_0 11 rfl rfl)
theorem dX6_step_12 : decode cX6_step 12 = .ok (.iload_n 2, 1) := dk_28 (dk_at dksX6_step_0 12 rfl rfl)
theorem dX6_step_13 : decode cX6_step 13 = .ok (.invokevirtual 338, 3) := dk_182 1 82 (dk_at dksX6_step_0 13 rfl rfl)
theorem dX6_step_16 : decode cX6_step 16 = .ok (.laload, 1) := dk_47 (dk_at dksX6_step_0 16 rfl rfl)
theorem dX6_step_17 : decode cX6_step 17 = .ok (.lsub, 1) := dk_101 (dk_at dksX6_step_0 17 rfl rfl)
theorem dX6_step_18 : decode cX6_step 18 = .ok (.lstore_n 3, 1) := dk_66 (dk_at dksX6_step_0 18 rfl rfl)
theorem dX6_step_19 : decode cX6_step 19 = .ok (.lload_n 3, 1) := dk_33 (dk_at dksX6_step_0 19 rfl rfl)
theorem dX6_step_20 : decode cX6_step 20 = .ok (.lconst 0, 1) := dk_9 (dk_at dksX6_step_0 20 rfl rfl)
theorem dX6_step_21 : decode cX6_step 21 = .ok (.lcmp, 1) := dk_148 (dk_at dksX6_step_0 21 rfl rfl)
theorem dX6_step_22 : decode cX6_step 22 = .ok (.ifCond .ge 8, 3) := dk_156 0 8 (dk_at dksX6_step_1 0 rfl rfl)
theorem dX6_step_25 : decode cX6_step 25 = .ok (.lload_n 3, 1) := dk_33 (dk_at dksX6_step_1 3 rfl rfl)
theorem dX6_step_26 : decode cX6_step 26 = .ok (.lneg, 1) := dk_117 (dk_at dksX6_step_1 4 rfl rfl)
theorem dX6_step_27 : decode cX6_step 27 = .ok (.goto 4, 3) := dk_167 0 4 (dk_at dksX6_step_1 5 rfl rfl)
theorem dX6_step_30 : decode cX6_step 30 = .ok (.lload_n 3, 1) := dk_33 (dk_at dksX6_step_1 8 rfl rfl)
theorem dX6_step_31 : decode cX6_step 31 = .ok (.lreturn, 1) := dk_173 (dk_at dksX6_step_1 9 rfl rfl)
def dkwX6_missed_4 : List UInt8 := [167, 255, 172, 132, 2, 1, 167, 255, 159, 27, 172]
abbrev dktX6_missed_4 : List UInt8 := dkwX6_missed_4 ++ []
def dkwX6_missed_3 : List UInt8 := [42, 182, 1, 125, 42, 180, 0, 31, 16, 10, 16, 12, 28, 104, 96, 29, 96, 21, 4, 79, 132, 3, 1]
abbrev dktX6_missed_3 : List UInt8 := dkwX6_missed_3 ++ dktX6_missed_4
def dkwX6_missed_2 : List UInt8 := [96, 29, 96, 3, 79, 27, 2, 159, 0, 10, 42, 182, 1, 122, 158, 0, 14, 16, 100, 28, 104, 29, 96, 60]
abbrev dktX6_missed_2 : List UInt8 := dkwX6_missed_2 ++ dktX6_missed_3
def dkwX6_missed_1 : List UInt8 := [28, 182, 0, 194, 54, 4, 21, 4, 154, 0, 6, 167, 0, 57, 42, 180, 0, 31, 16, 10, 16, 12, 28, 104]
abbrev dktX6_missed_1 : List UInt8 := dkwX6_missed_1 ++ dktX6_missed_2
def dkwX6_missed_0 : List UInt8 := [2, 60, 3, 61, 28, 4, 163, 0, 98, 3, 62, 29, 42, 180, 0, 31, 184, 0, 190, 162, 0, 79, 42, 29]
abbrev dktX6_missed_0 : List UInt8 := dkwX6_missed_0 ++ dktX6_missed_1
theorem dksX6_missed_0 : cX6_missed.data.toList.drop 0 = dktX6_missed_0 := by decide +kernel
theorem dksX6_missed_1 : cX6_missed.data.toList.drop 24 = dktX6_missed_1 := dk_seg dksX6_missed_0 24 rfl rfl
theorem dksX6_missed_2 : cX6_missed.data.toList.drop 48 = dktX6_missed_2 := dk_seg dksX6_missed_1 24 rfl rfl
theorem dksX6_missed_3 : cX6_missed.data.toList.drop 72 = dktX6_missed_3 := dk_seg dksX6_missed_2 24 rfl rfl
theorem dksX6_missed_4 : cX6_missed.data.toList.drop 95 = dktX6_missed_4 := dk_seg dksX6_missed_3 23 rfl rfl
theorem dX6_missed_0 : decode cX6_missed 0 = .ok (.iconst (-1), 1) := dk_2 (dk_at dksX6_missed_0 0 rfl rfl)
theorem dX6_missed_1 : decode cX6_missed 1 = .ok (.istore_n 1, 1) := dk_60 (dk_at dksX6_missed_0 1 rfl rfl)
theorem dX6_missed_2 : decode cX6_missed 2 = .ok (.iconst 0, 1) := dk_3 (dk_at dksX6_missed_0 2 rfl rfl)
theorem dX6_missed_3 : decode cX6_missed 3 = .ok (.istore_n 2, 1) := dk_61 (dk_at dksX6_missed_0 3 rfl rfl)
theorem dX6_missed_4 : decode cX6_missed 4 = .ok (.iload_n 2, 1) := dk_28 (dk_at dksX6_missed_0 4 rfl rfl)
theorem dX6_missed_5 : decode cX6_missed 5 = .ok (.iconst 1, 1) := dk_4 (dk_at dksX6_missed_0 5 rfl rfl)
theorem dX6_missed_6 : decode cX6_missed 6 = .ok (.if_icmp .gt 98, 3) := dk_163 0 98 (dk_at dksX6_missed_0 6 rfl rfl)
theorem dX6_missed_9 : decode cX6_missed 9 = .ok (.iconst 0, 1) := dk_3 (dk_at dksX6_missed_0 9 rfl rfl)
theorem dX6_missed_10 : decode cX6_missed 10 = .ok (.istore_n 3, 1) := dk_62 (dk_at dksX6_missed_0 10 rfl rfl)
theorem dX6_missed_11 : decode cX6_missed 11 = .ok (.iload_n 3, 1) := dk_29 (dk_at dksX6_missed_0 11 rfl rfl)
theorem dX6_missed_12 : decode cX6_missed 12 = .ok (.aload_n 0, 1) := dk_42 (dk_at dksX6_missed_0 12 rfl rfl)
theorem dX6_missed_13 : decode cX6_missed 13 = .ok (.getfield 31, 3) := dk_180 0 31 (dk_at dksX6_missed_0 13 rfl rfl)
theorem dX6_missed_16 : decode cX6_missed 16 = .ok (.invokestatic 190, 3) := dk_184 0 190 (dk_at dksX6_missed_0 16 rfl rfl)
theorem dX6_missed_19 : decode cX6_missed 19 = .ok (.if_icmp .ge 79, 3) := dk_162 0 79 (dk_at dksX6_missed_0 19 rfl rfl)
theorem dX6_missed_22 : decode cX6_missed 22 = .ok (.aload_n 0, 1) := dk_42 (dk_at dksX6_missed_0 22 rfl rfl)
theorem dX6_missed_23 : decode cX6_missed 23 = .ok (.iload_n 3, 1) := dk_29 (dk_at dksX6_missed_0 23 rfl rfl)
theorem dX6_missed_24 : decode cX6_missed 24 = .ok (.iload_n 2, 1) := dk_28 (dk_at dksX6_missed_1 0 rfl rfl)
theorem dX6_missed_25 : decode cX6_missed 25 = .ok (.invokevirtual 194, 3) := dk_182 0 194 (dk_at dksX6_missed_1 1 rfl rfl)
theorem dX6_missed_28 : decode cX6_missed 28 = .ok (.istore 4, 2) := dk_54 4 (dk_at dksX6_missed_1 4 rfl rfl)
theorem dX6_missed_30 : decode cX6_missed 30 = .ok (.iload 4, 2) := dk_21 4 (dk_at dksX6_missed_1 6 rfl rfl)
theorem dX6_missed_32 : decode cX6_missed 32 = .ok (.ifCond .ne 6, 3) := dk_154 0 6 (dk_at dksX6_missed_1 8 rfl rfl)
theorem dX6_missed_35 : decode cX6_missed 35 = .ok (.goto 57, 3) := dk_167 0 57 (dk_at dksX6_missed_1 11 rfl rfl)
theorem dX6_missed_38 : decode cX6_missed 38 = .ok (.aload_n 0, 1) := dk_42 (dk_at dksX6_missed_1 14 rfl rfl)
theorem dX6_missed_39 : decode cX6_missed 39 = .ok (.getfield 31, 3) := dk_180 0 31 (dk_at dksX6_missed_1 15 rfl rfl)
theorem dX6_missed_42 : decode cX6_missed 42 = .ok (.bipush 10, 2) := dk_16 10 (dk_at dksX6_missed_1 18 rfl rfl)
theorem dX6_missed_44 : decode cX6_missed 44 = .ok (.bipush 12, 2) := dk_16 12 (dk_at dksX6_missed_1 20 rfl rfl)
theorem dX6_missed_46 : decode cX6_missed 46 = .ok (.iload_n 2, 1) := dk_28 (dk_at dksX6_missed_1 22 rfl rfl)
theorem dX6_missed_47 : decode cX6_missed 47 = .ok (.imul, 1) := dk_104 (dk_at dksX6_missed_1 23 rfl rfl)
theorem dX6_missed_48 : decode cX6_missed 48 = .ok (.iadd, 1) := dk_96 (dk_at dksX6_missed_2 0 rfl rfl)
theorem dX6_missed_49 : decode cX6_missed 49 = .ok (.iload_n 3, 1) := dk_29 (dk_at dksX6_missed_2 1 rfl rfl)
theorem dX6_missed_50 : decode cX6_missed 50 = .ok (.iadd, 1) := dk_96 (dk_at dksX6_missed_2 2 rfl rfl)
theorem dX6_missed_51 : decode cX6_missed 51 = .ok (.iconst 0, 1) := dk_3 (dk_at dksX6_missed_2 3 rfl rfl)
theorem dX6_missed_52 : decode cX6_missed 52 = .ok (.iastore, 1) := dk_79 (dk_at dksX6_missed_2 4 rfl rfl)
theorem dX6_missed_53 : decode cX6_missed 53 = .ok (.iload_n 1, 1) := dk_27 (dk_at dksX6_missed_2 5 rfl rfl)
theorem dX6_missed_54 : decode cX6_missed 54 = .ok (.iconst (-1), 1) := dk_2 (dk_at dksX6_missed_2 6 rfl rfl)
theorem dX6_missed_55 : decode cX6_missed 55 = .ok (.if_icmp .eq 10, 3) := dk_159 0 10 (dk_at dksX6_missed_2 7 rfl rfl)
theorem dX6_missed_58 : decode cX6_missed 58 = .ok (.aload_n 0, 1) := dk_42 (dk_at dksX6_missed_2 10 rfl rfl)
theorem dX6_missed_59 : decode cX6_missed 59 = .ok (.invokevirtual 378, 3) := dk_182 1 122 (dk_at dksX6_missed_2 11 rfl rfl)
theorem dX6_missed_62 : decode cX6_missed 62 = .ok (.ifCond .le 14, 3) := dk_158 0 14 (dk_at dksX6_missed_2 14 rfl rfl)
theorem dX6_missed_65 : decode cX6_missed 65 = .ok (.bipush 100, 2) := dk_16 100 (dk_at dksX6_missed_2 17 rfl rfl)
theorem dX6_missed_67 : decode cX6_missed 67 = .ok (.iload_n 2, 1) := dk_28 (dk_at dksX6_missed_2 19 rfl rfl)
theorem dX6_missed_68 : decode cX6_missed 68 = .ok (.imul, 1) := dk_104 (dk_at dksX6_missed_2 20 rfl rfl)
theorem dX6_missed_69 : decode cX6_missed 69 = .ok (.iload_n 3, 1) := dk_29 (dk_at dksX6_missed_2 21 rfl rfl)
theorem dX6_missed_70 : decode cX6_missed 70 = .ok (.iadd, 1) := dk_96 (dk_at dksX6_missed_2 22 rfl rfl)
theorem dX6_missed_71 : decode cX6_missed 71 = .ok (.istore_n 1, 1) := dk_60 (dk_at dksX6_missed_2 23 rfl rfl)
theorem dX6_missed_72 : decode cX6_missed 72 = .ok (.aload_n 0, 1) := dk_42 (dk_at dksX6_missed_3 0 rfl rfl)
theorem dX6_missed_73 : decode cX6_missed 73 = .ok (.invokevirtual 381, 3) := dk_182 1 125 (dk_at dksX6_missed_3 1 rfl rfl)
theorem dX6_missed_76 : decode cX6_missed 76 = .ok (.aload_n 0, 1) := dk_42 (dk_at dksX6_missed_3 4 rfl rfl)
theorem dX6_missed_77 : decode cX6_missed 77 = .ok (.getfield 31, 3) := dk_180 0 31 (dk_at dksX6_missed_3 5 rfl rfl)
theorem dX6_missed_80 : decode cX6_missed 80 = .ok (.bipush 10, 2) := dk_16 10 (dk_at dksX6_missed_3 8 rfl rfl)
theorem dX6_missed_82 : decode cX6_missed 82 = .ok (.bipush 12, 2) := dk_16 12 (dk_at dksX6_missed_3 10 rfl rfl)
theorem dX6_missed_84 : decode cX6_missed 84 = .ok (.iload_n 2, 1) := dk_28 (dk_at dksX6_missed_3 12 rfl rfl)
theorem dX6_missed_85 : decode cX6_missed 85 = .ok (.imul, 1) := dk_104 (dk_at dksX6_missed_3 13 rfl rfl)
theorem dX6_missed_86 : decode cX6_missed 86 = .ok (.iadd, 1) := dk_96 (dk_at dksX6_missed_3 14 rfl rfl)
theorem dX6_missed_87 : decode cX6_missed 87 = .ok (.iload_n 3, 1) := dk_29 (dk_at dksX6_missed_3 15 rfl rfl)
theorem dX6_missed_88 : decode cX6_missed 88 = .ok (.iadd, 1) := dk_96 (dk_at dksX6_missed_3 16 rfl rfl)
theorem dX6_missed_89 : decode cX6_missed 89 = .ok (.iload 4, 2) := dk_21 4 (dk_at dksX6_missed_3 17 rfl rfl)
theorem dX6_missed_91 : decode cX6_missed 91 = .ok (.iastore, 1) := dk_79 (dk_at dksX6_missed_3 19 rfl rfl)
theorem dX6_missed_92 : decode cX6_missed 92 = .ok (.iinc 3 1, 3) := dk_132 3 1 (dk_at dksX6_missed_3 20 rfl rfl)
theorem dX6_missed_95 : decode cX6_missed 95 = .ok (.goto (-84), 3) := dk_167 255 172 (dk_at dksX6_missed_4 0 rfl rfl)
theorem dX6_missed_98 : decode cX6_missed 98 = .ok (.iinc 2 1, 3) := dk_132 2 1 (dk_at dksX6_missed_4 3 rfl rfl)
theorem dX6_missed_101 : decode cX6_missed 101 = .ok (.goto (-97), 3) := dk_167 255 159 (dk_at dksX6_missed_4 6 rfl rfl)
theorem dX6_missed_104 : decode cX6_missed 104 = .ok (.iload_n 1, 1) := dk_27 (dk_at dksX6_missed_4 9 rfl rfl)
theorem dX6_missed_105 : decode cX6_missed 105 = .ok (.ireturn, 1) := dk_172 (dk_at dksX6_missed_4 10 rfl rfl)
def dkwX6_resists_3 : List UInt8 := [180, 1, 112, 184, 1, 118, 172]
abbrev dktX6_resists_3 : List UInt8 := dkwX6_resists_3 ++ []
def dkwX6_resists_2 : List UInt8 := [2, 172, 42, 180, 0, 55, 42, 180, 0, 31, 5, 46, 47, 42, 180, 0, 233, 42, 180, 1, 115, 42]
abbrev dktX6_resists_2 : List UInt8 := dkwX6_resists_2 ++ dktX6_resists_3
def dkwX6_resists_1 : List UInt8 := [154, 0, 26, 27, 153, 0, 20, 42, 180, 1, 112, 9, 148, 154, 0, 7, 3, 167, 0, 8, 4, 167, 0, 4]
abbrev dktX6_resists_1 : List UInt8 := dkwX6_resists_1 ++ dktX6_resists_2
def dkwX6_resists_0 : List UInt8 := [42, 182, 1, 18, 154, 0, 7, 4, 167, 0, 4, 3, 60, 27, 154, 0, 12, 42, 180, 1, 112, 9, 148]
abbrev dktX6_resists_0 : List UInt8 := dkwX6_resists_0 ++ dktX6_resists_1
theorem dksX6_resists_0 : cX6_resists.data.toList.drop 0 = dktX6_resists_0 := by decide +kernel
theorem dksX6_resists_1 : cX6_resists.data.toList.drop 23 = dktX6_resists_1 := dk_seg dksX6_resists_0 23 rfl rfl
theorem dksX6_resists_2 : cX6_resists.data.toList.drop 47 = dktX6_resists_2 := dk_seg dksX6_resists_1 24 rfl rfl
theorem dksX6_resists_3 : cX6_resists.data.toList.drop 69 = dktX6_resists_3 := dk_seg dksX6_resists_2 22 rfl rfl
theorem dX6_resists_0 : decode cX6_resists 0 = .ok (.aload_n 0, 1) := dk_42 (dk_at dksX6_resists_0 0 rfl rfl)
theorem dX6_resists_1 : decode cX6_resists 1 = .ok (.invokevirtual 274, 3) := dk_182 1 18 (dk_at dksX6_resists_0 1 rfl rfl)
theorem dX6_resists_4 : decode cX6_resists 4 = .ok (.ifCond .ne 7, 3) := dk_154 0 7 (dk_at dksX6_resists_0 4 rfl rfl)
theorem dX6_resists_7 : decode cX6_resists 7 = .ok (.iconst 1, 1) := dk_4 (dk_at dksX6_resists_0 7 rfl rfl)
theorem dX6_resists_8 : decode cX6_resists 8 = .ok (.goto 4, 3) := dk_167 0 4 (dk_at dksX6_resists_0 8 rfl rfl)
theorem dX6_resists_11 : decode cX6_resists 11 = .ok (.iconst 0, 1) := dk_3 (dk_at dksX6_resists_0 11 rfl rfl)
theorem dX6_resists_12 : decode cX6_resists 12 = .ok (.istore_n 1, 1) := dk_60 (dk_at dksX6_resists_0 12 rfl rfl)
theorem dX6_resists_13 : decode cX6_resists 13 = .ok (.iload_n 1, 1) := dk_27 (dk_at dksX6_resists_0 13 rfl rfl)
theorem dX6_resists_14 : decode cX6_resists 14 = .ok (.ifCond .ne 12, 3) := dk_154 0 12 (dk_at dksX6_resists_0 14 rfl rfl)
theorem dX6_resists_17 : decode cX6_resists 17 = .ok (.aload_n 0, 1) := dk_42 (dk_at dksX6_resists_0 17 rfl rfl)
theorem dX6_resists_18 : decode cX6_resists 18 = .ok (.getfield 368, 3) := dk_180 1 112 (dk_at dksX6_resists_0 18 rfl rfl)
theorem dX6_resists_21 : decode cX6_resists 21 = .ok (.lconst 0, 1) := dk_9 (dk_at dksX6_resists_0 21 rfl rfl)
theorem dX6_resists_22 : decode cX6_resists 22 = .ok (.lcmp, 1) := dk_148 (dk_at dksX6_resists_0 22 rfl rfl)
theorem dX6_resists_23 : decode cX6_resists 23 = .ok (.ifCond .ne 26, 3) := dk_154 0 26 (dk_at dksX6_resists_1 0 rfl rfl)
theorem dX6_resists_26 : decode cX6_resists 26 = .ok (.iload_n 1, 1) := dk_27 (dk_at dksX6_resists_1 3 rfl rfl)
theorem dX6_resists_27 : decode cX6_resists 27 = .ok (.ifCond .eq 20, 3) := dk_153 0 20 (dk_at dksX6_resists_1 4 rfl rfl)
theorem dX6_resists_30 : decode cX6_resists 30 = .ok (.aload_n 0, 1) := dk_42 (dk_at dksX6_resists_1 7 rfl rfl)
theorem dX6_resists_31 : decode cX6_resists 31 = .ok (.getfield 368, 3) := dk_180 1 112 (dk_at dksX6_resists_1 8 rfl rfl)
theorem dX6_resists_34 : decode cX6_resists 34 = .ok (.lconst 0, 1) := dk_9 (dk_at dksX6_resists_1 11 rfl rfl)
theorem dX6_resists_35 : decode cX6_resists 35 = .ok (.lcmp, 1) := dk_148 (dk_at dksX6_resists_1 12 rfl rfl)
theorem dX6_resists_36 : decode cX6_resists 36 = .ok (.ifCond .ne 7, 3) := dk_154 0 7 (dk_at dksX6_resists_1 13 rfl rfl)
theorem dX6_resists_39 : decode cX6_resists 39 = .ok (.iconst 0, 1) := dk_3 (dk_at dksX6_resists_1 16 rfl rfl)
theorem dX6_resists_40 : decode cX6_resists 40 = .ok (.goto 8, 3) := dk_167 0 8 (dk_at dksX6_resists_1 17 rfl rfl)
theorem dX6_resists_43 : decode cX6_resists 43 = .ok (.iconst 1, 1) := dk_4 (dk_at dksX6_resists_1 20 rfl rfl)
theorem dX6_resists_44 : decode cX6_resists 44 = .ok (.goto 4, 3) := dk_167 0 4 (dk_at dksX6_resists_1 21 rfl rfl)
theorem dX6_resists_47 : decode cX6_resists 47 = .ok (.iconst (-1), 1) := dk_2 (dk_at dksX6_resists_2 0 rfl rfl)
theorem dX6_resists_48 : decode cX6_resists 48 = .ok (.ireturn, 1) := dk_172 (dk_at dksX6_resists_2 1 rfl rfl)
theorem dX6_resists_49 : decode cX6_resists 49 = .ok (.aload_n 0, 1) := dk_42 (dk_at dksX6_resists_2 2 rfl rfl)
theorem dX6_resists_50 : decode cX6_resists 50 = .ok (.getfield 55, 3) := dk_180 0 55 (dk_at dksX6_resists_2 3 rfl rfl)
theorem dX6_resists_53 : decode cX6_resists 53 = .ok (.aload_n 0, 1) := dk_42 (dk_at dksX6_resists_2 6 rfl rfl)
theorem dX6_resists_54 : decode cX6_resists 54 = .ok (.getfield 31, 3) := dk_180 0 31 (dk_at dksX6_resists_2 7 rfl rfl)
theorem dX6_resists_57 : decode cX6_resists 57 = .ok (.iconst 2, 1) := dk_5 (dk_at dksX6_resists_2 10 rfl rfl)
theorem dX6_resists_58 : decode cX6_resists 58 = .ok (.iaload, 1) := dk_46 (dk_at dksX6_resists_2 11 rfl rfl)
theorem dX6_resists_59 : decode cX6_resists 59 = .ok (.laload, 1) := dk_47 (dk_at dksX6_resists_2 12 rfl rfl)
theorem dX6_resists_60 : decode cX6_resists 60 = .ok (.aload_n 0, 1) := dk_42 (dk_at dksX6_resists_2 13 rfl rfl)
theorem dX6_resists_61 : decode cX6_resists 61 = .ok (.getfield 233, 3) := dk_180 0 233 (dk_at dksX6_resists_2 14 rfl rfl)
theorem dX6_resists_64 : decode cX6_resists 64 = .ok (.aload_n 0, 1) := dk_42 (dk_at dksX6_resists_2 17 rfl rfl)
theorem dX6_resists_65 : decode cX6_resists 65 = .ok (.getfield 371, 3) := dk_180 1 115 (dk_at dksX6_resists_2 18 rfl rfl)
theorem dX6_resists_68 : decode cX6_resists 68 = .ok (.aload_n 0, 1) := dk_42 (dk_at dksX6_resists_2 21 rfl rfl)
theorem dX6_resists_69 : decode cX6_resists 69 = .ok (.getfield 368, 3) := dk_180 1 112 (dk_at dksX6_resists_3 0 rfl rfl)
theorem dX6_resists_72 : decode cX6_resists 72 = .ok (.invokestatic 374, 3) := dk_184 1 118 (dk_at dksX6_resists_3 3 rfl rfl)
theorem dX6_resists_75 : decode cX6_resists 75 = .ok (.ireturn, 1) := dk_172 (dk_at dksX6_resists_3 6 rfl rfl)
def dkwX6_compare_6 : List UInt8 := [21, 16, 116, 54, 16, 167, 255, 126]
abbrev dktX6_compare_6 : List UInt8 := dkwX6_compare_6 ++ []
def dkwX6_compare_5 : List UInt8 := [22, 8, 55, 21, 22, 10, 55, 8, 22, 21, 55, 10, 22, 12, 55, 21, 22, 14, 55, 12, 22, 21, 55, 14]
abbrev dktX6_compare_5 : List UInt8 := dkwX6_compare_5 ++ dktX6_compare_6
def dkwX6_compare_4 : List UInt8 := [148, 154, 0, 7, 3, 167, 0, 18, 22, 8, 9, 148, 154, 0, 9, 21, 16, 116, 167, 0, 5, 21, 16, 172]
abbrev dktX6_compare_4 : List UInt8 := dkwX6_compare_4 ++ dktX6_compare_5
def dkwX6_compare_3 : List UInt8 := [22, 14, 105, 101, 55, 12, 22, 8, 9, 148, 153, 0, 10, 22, 12, 9, 148, 154, 0, 31, 22, 8, 22, 12]
abbrev dktX6_compare_3 : List UInt8 := dkwX6_compare_3 ++ dktX6_compare_4
def dkwX6_compare_2 : List UInt8 := [21, 16, 116, 167, 0, 5, 21, 16, 172, 22, 8, 22, 17, 22, 10, 105, 101, 55, 8, 22, 12, 22, 19]
abbrev dktX6_compare_2 : List UInt8 := dkwX6_compare_2 ++ dktX6_compare_3
def dkwX6_compare_1 : List UInt8 := [22, 12, 22, 14, 109, 55, 19, 22, 17, 22, 19, 148, 153, 0, 20, 22, 17, 22, 19, 148, 156, 0, 9]
abbrev dktX6_compare_1 : List UInt8 := dkwX6_compare_1 ++ dktX6_compare_2
def dkwX6_compare_0 : List UInt8 := [30, 55, 8, 32, 55, 10, 22, 4, 55, 12, 22, 6, 55, 14, 4, 54, 16, 22, 8, 22, 10, 109, 55, 17]
abbrev dktX6_compare_0 : List UInt8 := dkwX6_compare_0 ++ dktX6_compare_1
theorem dksX6_compare_0 : cX6_compare.data.toList.drop 0 = dktX6_compare_0 := by decide +kernel
theorem dksX6_compare_1 : cX6_compare.data.toList.drop 24 = dktX6_compare_1 := dk_seg dksX6_compare_0 24 rfl rfl
theorem dksX6_compare_2 : cX6_compare.data.toList.drop 47 = dktX6_compare_2 := dk_seg dksX6_compare_1 23 rfl rfl
theorem dksX6_compare_3 : cX6_compare.data.toList.drop 70 = dktX6_compare_3 := dk_seg dksX6_compare_2 23 rfl rfl
theorem dksX6_compare_4 : cX6_compare.data.toList.drop 94 = dktX6_compare_4 := dk_seg dksX6_compare_3 24 rfl rfl
theorem dksX6_compare_5 : cX6_compare.data.toList.drop 118 = dktX6_compare_5 := dk_seg dksX6_compare_4 24 rfl rfl
theorem dksX6_compare_6 : cX6_compare.data.toList.drop 142 = dktX6_compare_6 := dk_seg dksX6_compare_5 24 rfl rfl
theorem dX6_compare_0 : decode cX6_compare 0 = .ok (.lload_n 0, 1) := dk_30 (dk_at dksX6_compare_0 0 rfl rfl)
theorem dX6_compare_1 : decode cX6_compare 1 = .ok (.lstore 8, 2) := dk_55 8 (dk_at dksX6_compare_0 1 rfl rfl)
theorem dX6_compare_3 : decode cX6_compare 3 = .ok (.lload_n 2, 1) := dk_32 (dk_at dksX6_compare_0 3 rfl rfl)
theorem dX6_compare_4 : decode cX6_compare 4 = .ok (.lstore 10, 2) := dk_55 10 (dk_at dksX6_compare_0 4 rfl rfl)
theorem dX6_compare_6 : decode cX6_compare 6 = .ok (.lload 4, 2) := dk_22 4 (dk_at dksX6_compare_0 6 rfl rfl)
theorem dX6_compare_8 : decode cX6_compare 8 = .ok (.lstore 12, 2) := dk_55 12 (dk_at dksX6_compare_0 8 rfl rfl)
theorem dX6_compare_10 : decode cX6_compare 10 = .ok (.lload 6, 2) := dk_22 6 (dk_at dksX6_compare_0 10 rfl rfl)
theorem dX6_compare_12 : decode cX6_compare 12 = .ok (.lstore 14, 2) := dk_55 14 (dk_at dksX6_compare_0 12 rfl rfl)
theorem dX6_compare_14 : decode cX6_compare 14 = .ok (.iconst 1, 1) := dk_4 (dk_at dksX6_compare_0 14 rfl rfl)
theorem dX6_compare_15 : decode cX6_compare 15 = .ok (.istore 16, 2) := dk_54 16 (dk_at dksX6_compare_0 15 rfl rfl)
theorem dX6_compare_17 : decode cX6_compare 17 = .ok (.lload 8, 2) := dk_22 8 (dk_at dksX6_compare_0 17 rfl rfl)
theorem dX6_compare_19 : decode cX6_compare 19 = .ok (.lload 10, 2) := dk_22 10 (dk_at dksX6_compare_0 19 rfl rfl)
theorem dX6_compare_21 : decode cX6_compare 21 = .ok (.ldiv, 1) := dk_109 (dk_at dksX6_compare_0 21 rfl rfl)
theorem dX6_compare_22 : decode cX6_compare 22 = .ok (.lstore 17, 2) := dk_55 17 (dk_at dksX6_compare_0 22 rfl rfl)
theorem dX6_compare_24 : decode cX6_compare 24 = .ok (.lload 12, 2) := dk_22 12 (dk_at dksX6_compare_1 0 rfl rfl)
theorem dX6_compare_26 : decode cX6_compare 26 = .ok (.lload 14, 2) := dk_22 14 (dk_at dksX6_compare_1 2 rfl rfl)
theorem dX6_compare_28 : decode cX6_compare 28 = .ok (.ldiv, 1) := dk_109 (dk_at dksX6_compare_1 4 rfl rfl)
theorem dX6_compare_29 : decode cX6_compare 29 = .ok (.lstore 19, 2) := dk_55 19 (dk_at dksX6_compare_1 5 rfl rfl)
theorem dX6_compare_31 : decode cX6_compare 31 = .ok (.lload 17, 2) := dk_22 17 (dk_at dksX6_compare_1 7 rfl rfl)
theorem dX6_compare_33 : decode cX6_compare 33 = .ok (.lload 19, 2) := dk_22 19 (dk_at dksX6_compare_1 9 rfl rfl)
theorem dX6_compare_35 : decode cX6_compare 35 = .ok (.lcmp, 1) := dk_148 (dk_at dksX6_compare_1 11 rfl rfl)
theorem dX6_compare_36 : decode cX6_compare 36 = .ok (.ifCond .eq 20, 3) := dk_153 0 20 (dk_at dksX6_compare_1 12 rfl rfl)
theorem dX6_compare_39 : decode cX6_compare 39 = .ok (.lload 17, 2) := dk_22 17 (dk_at dksX6_compare_1 15 rfl rfl)
theorem dX6_compare_41 : decode cX6_compare 41 = .ok (.lload 19, 2) := dk_22 19 (dk_at dksX6_compare_1 17 rfl rfl)
theorem dX6_compare_43 : decode cX6_compare 43 = .ok (.lcmp, 1) := dk_148 (dk_at dksX6_compare_1 19 rfl rfl)
theorem dX6_compare_44 : decode cX6_compare 44 = .ok (.ifCond .ge 9, 3) := dk_156 0 9 (dk_at dksX6_compare_1 20 rfl rfl)
theorem dX6_compare_47 : decode cX6_compare 47 = .ok (.iload 16, 2) := dk_21 16 (dk_at dksX6_compare_2 0 rfl rfl)
theorem dX6_compare_49 : decode cX6_compare 49 = .ok (.ineg, 1) := dk_116 (dk_at dksX6_compare_2 2 rfl rfl)
theorem dX6_compare_50 : decode cX6_compare 50 = .ok (.goto 5, 3) := dk_167 0 5 (dk_at dksX6_compare_2 3 rfl rfl)
theorem dX6_compare_53 : decode cX6_compare 53 = .ok (.iload 16, 2) := dk_21 16 (dk_at dksX6_compare_2 6 rfl rfl)
theorem dX6_compare_55 : decode cX6_compare 55 = .ok (.ireturn, 1) := dk_172 (dk_at dksX6_compare_2 8 rfl rfl)
theorem dX6_compare_56 : decode cX6_compare 56 = .ok (.lload 8, 2) := dk_22 8 (dk_at dksX6_compare_2 9 rfl rfl)
theorem dX6_compare_58 : decode cX6_compare 58 = .ok (.lload 17, 2) := dk_22 17 (dk_at dksX6_compare_2 11 rfl rfl)
theorem dX6_compare_60 : decode cX6_compare 60 = .ok (.lload 10, 2) := dk_22 10 (dk_at dksX6_compare_2 13 rfl rfl)
theorem dX6_compare_62 : decode cX6_compare 62 = .ok (.lmul, 1) := dk_105 (dk_at dksX6_compare_2 15 rfl rfl)
theorem dX6_compare_63 : decode cX6_compare 63 = .ok (.lsub, 1) := dk_101 (dk_at dksX6_compare_2 16 rfl rfl)
theorem dX6_compare_64 : decode cX6_compare 64 = .ok (.lstore 8, 2) := dk_55 8 (dk_at dksX6_compare_2 17 rfl rfl)
theorem dX6_compare_66 : decode cX6_compare 66 = .ok (.lload 12, 2) := dk_22 12 (dk_at dksX6_compare_2 19 rfl rfl)
theorem dX6_compare_68 : decode cX6_compare 68 = .ok (.lload 19, 2) := dk_22 19 (dk_at dksX6_compare_2 21 rfl rfl)
theorem dX6_compare_70 : decode cX6_compare 70 = .ok (.lload 14, 2) := dk_22 14 (dk_at dksX6_compare_3 0 rfl rfl)
theorem dX6_compare_72 : decode cX6_compare 72 = .ok (.lmul, 1) := dk_105 (dk_at dksX6_compare_3 2 rfl rfl)
theorem dX6_compare_73 : decode cX6_compare 73 = .ok (.lsub, 1) := dk_101 (dk_at dksX6_compare_3 3 rfl rfl)
theorem dX6_compare_74 : decode cX6_compare 74 = .ok (.lstore 12, 2) := dk_55 12 (dk_at dksX6_compare_3 4 rfl rfl)
theorem dX6_compare_76 : decode cX6_compare 76 = .ok (.lload 8, 2) := dk_22 8 (dk_at dksX6_compare_3 6 rfl rfl)
theorem dX6_compare_78 : decode cX6_compare 78 = .ok (.lconst 0, 1) := dk_9 (dk_at dksX6_compare_3 8 rfl rfl)
theorem dX6_compare_79 : decode cX6_compare 79 = .ok (.lcmp, 1) := dk_148 (dk_at dksX6_compare_3 9 rfl rfl)
theorem dX6_compare_80 : decode cX6_compare 80 = .ok (.ifCond .eq 10, 3) := dk_153 0 10 (dk_at dksX6_compare_3 10 rfl rfl)
theorem dX6_compare_83 : decode cX6_compare 83 = .ok (.lload 12, 2) := dk_22 12 (dk_at dksX6_compare_3 13 rfl rfl)
theorem dX6_compare_85 : decode cX6_compare 85 = .ok (.lconst 0, 1) := dk_9 (dk_at dksX6_compare_3 15 rfl rfl)
theorem dX6_compare_86 : decode cX6_compare 86 = .ok (.lcmp, 1) := dk_148 (dk_at dksX6_compare_3 16 rfl rfl)
theorem dX6_compare_87 : decode cX6_compare 87 = .ok (.ifCond .ne 31, 3) := dk_154 0 31 (dk_at dksX6_compare_3 17 rfl rfl)
theorem dX6_compare_90 : decode cX6_compare 90 = .ok (.lload 8, 2) := dk_22 8 (dk_at dksX6_compare_3 20 rfl rfl)
theorem dX6_compare_92 : decode cX6_compare 92 = .ok (.lload 12, 2) := dk_22 12 (dk_at dksX6_compare_3 22 rfl rfl)
theorem dX6_compare_94 : decode cX6_compare 94 = .ok (.lcmp, 1) := dk_148 (dk_at dksX6_compare_4 0 rfl rfl)
theorem dX6_compare_95 : decode cX6_compare 95 = .ok (.ifCond .ne 7, 3) := dk_154 0 7 (dk_at dksX6_compare_4 1 rfl rfl)
theorem dX6_compare_98 : decode cX6_compare 98 = .ok (.iconst 0, 1) := dk_3 (dk_at dksX6_compare_4 4 rfl rfl)
theorem dX6_compare_99 : decode cX6_compare 99 = .ok (.goto 18, 3) := dk_167 0 18 (dk_at dksX6_compare_4 5 rfl rfl)
theorem dX6_compare_102 : decode cX6_compare 102 = .ok (.lload 8, 2) := dk_22 8 (dk_at dksX6_compare_4 8 rfl rfl)
theorem dX6_compare_104 : decode cX6_compare 104 = .ok (.lconst 0, 1) := dk_9 (dk_at dksX6_compare_4 10 rfl rfl)
theorem dX6_compare_105 : decode cX6_compare 105 = .ok (.lcmp, 1) := dk_148 (dk_at dksX6_compare_4 11 rfl rfl)
theorem dX6_compare_106 : decode cX6_compare 106 = .ok (.ifCond .ne 9, 3) := dk_154 0 9 (dk_at dksX6_compare_4 12 rfl rfl)
theorem dX6_compare_109 : decode cX6_compare 109 = .ok (.iload 16, 2) := dk_21 16 (dk_at dksX6_compare_4 15 rfl rfl)
theorem dX6_compare_111 : decode cX6_compare 111 = .ok (.ineg, 1) := dk_116 (dk_at dksX6_compare_4 17 rfl rfl)
theorem dX6_compare_112 : decode cX6_compare 112 = .ok (.goto 5, 3) := dk_167 0 5 (dk_at dksX6_compare_4 18 rfl rfl)
theorem dX6_compare_115 : decode cX6_compare 115 = .ok (.iload 16, 2) := dk_21 16 (dk_at dksX6_compare_4 21 rfl rfl)
theorem dX6_compare_117 : decode cX6_compare 117 = .ok (.ireturn, 1) := dk_172 (dk_at dksX6_compare_4 23 rfl rfl)
theorem dX6_compare_118 : decode cX6_compare 118 = .ok (.lload 8, 2) := dk_22 8 (dk_at dksX6_compare_5 0 rfl rfl)
theorem dX6_compare_120 : decode cX6_compare 120 = .ok (.lstore 21, 2) := dk_55 21 (dk_at dksX6_compare_5 2 rfl rfl)
theorem dX6_compare_122 : decode cX6_compare 122 = .ok (.lload 10, 2) := dk_22 10 (dk_at dksX6_compare_5 4 rfl rfl)
theorem dX6_compare_124 : decode cX6_compare 124 = .ok (.lstore 8, 2) := dk_55 8 (dk_at dksX6_compare_5 6 rfl rfl)
theorem dX6_compare_126 : decode cX6_compare 126 = .ok (.lload 21, 2) := dk_22 21 (dk_at dksX6_compare_5 8 rfl rfl)
theorem dX6_compare_128 : decode cX6_compare 128 = .ok (.lstore 10, 2) := dk_55 10 (dk_at dksX6_compare_5 10 rfl rfl)
theorem dX6_compare_130 : decode cX6_compare 130 = .ok (.lload 12, 2) := dk_22 12 (dk_at dksX6_compare_5 12 rfl rfl)
theorem dX6_compare_132 : decode cX6_compare 132 = .ok (.lstore 21, 2) := dk_55 21 (dk_at dksX6_compare_5 14 rfl rfl)
theorem dX6_compare_134 : decode cX6_compare 134 = .ok (.lload 14, 2) := dk_22 14 (dk_at dksX6_compare_5 16 rfl rfl)
theorem dX6_compare_136 : decode cX6_compare 136 = .ok (.lstore 12, 2) := dk_55 12 (dk_at dksX6_compare_5 18 rfl rfl)
theorem dX6_compare_138 : decode cX6_compare 138 = .ok (.lload 21, 2) := dk_22 21 (dk_at dksX6_compare_5 20 rfl rfl)
theorem dX6_compare_140 : decode cX6_compare 140 = .ok (.lstore 14, 2) := dk_55 14 (dk_at dksX6_compare_5 22 rfl rfl)
theorem dX6_compare_142 : decode cX6_compare 142 = .ok (.iload 16, 2) := dk_21 16 (dk_at dksX6_compare_6 0 rfl rfl)
theorem dX6_compare_144 : decode cX6_compare 144 = .ok (.ineg, 1) := dk_116 (dk_at dksX6_compare_6 2 rfl rfl)
theorem dX6_compare_145 : decode cX6_compare 145 = .ok (.istore 16, 2) := dk_54 16 (dk_at dksX6_compare_6 3 rfl rfl)
theorem dX6_compare_147 : decode cX6_compare 147 = .ok (.goto (-130), 3) := dk_167 255 126 (dk_at dksX6_compare_6 5 rfl rfl)
def dkwX6_keepsBest_2 : List UInt8 := [180, 0, 233, 181, 1, 112, 177]
abbrev dktX6_keepsBest_2 : List UInt8 := dkwX6_keepsBest_2 ++ []
def dkwX6_keepsBest_1 : List UInt8 := [180, 0, 55, 42, 180, 0, 31, 5, 46, 47, 181, 1, 115, 42, 27, 153, 0, 7, 9, 167, 0, 7, 42]
abbrev dktX6_keepsBest_1 : List UInt8 := dkwX6_keepsBest_1 ++ dktX6_keepsBest_2
def dkwX6_keepsBest_0 : List UInt8 := [42, 182, 1, 18, 154, 0, 7, 4, 167, 0, 4, 3, 60, 42, 27, 153, 0, 7, 9, 167, 0, 14, 42]
abbrev dktX6_keepsBest_0 : List UInt8 := dkwX6_keepsBest_0 ++ dktX6_keepsBest_1
theorem dksX6_keepsBest_0 : cX6_keepsBest.data.toList.drop 0 = dktX6_keepsBest_0 := by decide +kernel
theorem dksX6_keepsBest_1 : cX6_keepsBest.data.toList.drop 23 = dktX6_keepsBest_1 := dk_seg dksX6_keepsBest_0 23 rfl rfl
theorem dksX6_keepsBest_2 : cX6_keepsBest.data.toList.drop 46 = dktX6_keepsBest_2 := dk_seg dksX6_keepsBest_1 23 rfl rfl
theorem dX6_keepsBest_0 : decode cX6_keepsBest 0 = .ok (.aload_n 0, 1) := dk_42 (dk_at dksX6_keepsBest_0 0 rfl rfl)
theorem dX6_keepsBest_1 : decode cX6_keepsBest 1 = .ok (.invokevirtual 274, 3) := dk_182 1 18 (dk_at dksX6_keepsBest_0 1 rfl rfl)
theorem dX6_keepsBest_4 : decode cX6_keepsBest 4 = .ok (.ifCond .ne 7, 3) := dk_154 0 7 (dk_at dksX6_keepsBest_0 4 rfl rfl)
theorem dX6_keepsBest_7 : decode cX6_keepsBest 7 = .ok (.iconst 1, 1) := dk_4 (dk_at dksX6_keepsBest_0 7 rfl rfl)
theorem dX6_keepsBest_8 : decode cX6_keepsBest 8 = .ok (.goto 4, 3) := dk_167 0 4 (dk_at dksX6_keepsBest_0 8 rfl rfl)
theorem dX6_keepsBest_11 : decode cX6_keepsBest 11 = .ok (.iconst 0, 1) := dk_3 (dk_at dksX6_keepsBest_0 11 rfl rfl)
theorem dX6_keepsBest_12 : decode cX6_keepsBest 12 = .ok (.istore_n 1, 1) := dk_60 (dk_at dksX6_keepsBest_0 12 rfl rfl)
theorem dX6_keepsBest_13 : decode cX6_keepsBest 13 = .ok (.aload_n 0, 1) := dk_42 (dk_at dksX6_keepsBest_0 13 rfl rfl)
theorem dX6_keepsBest_14 : decode cX6_keepsBest 14 = .ok (.iload_n 1, 1) := dk_27 (dk_at dksX6_keepsBest_0 14 rfl rfl)
theorem dX6_keepsBest_15 : decode cX6_keepsBest 15 = .ok (.ifCond .eq 7, 3) := dk_153 0 7 (dk_at dksX6_keepsBest_0 15 rfl rfl)
theorem dX6_keepsBest_18 : decode cX6_keepsBest 18 = .ok (.lconst 0, 1) := dk_9 (dk_at dksX6_keepsBest_0 18 rfl rfl)
theorem dX6_keepsBest_19 : decode cX6_keepsBest 19 = .ok (.goto 14, 3) := dk_167 0 14 (dk_at dksX6_keepsBest_0 19 rfl rfl)
theorem dX6_keepsBest_22 : decode cX6_keepsBest 22 = .ok (.aload_n 0, 1) := dk_42 (dk_at dksX6_keepsBest_0 22 rfl rfl)
theorem dX6_keepsBest_23 : decode cX6_keepsBest 23 = .ok (.getfield 55, 3) := dk_180 0 55 (dk_at dksX6_keepsBest_1 0 rfl rfl)
theorem dX6_keepsBest_26 : decode cX6_keepsBest 26 = .ok (.aload_n 0, 1) := dk_42 (dk_at dksX6_keepsBest_1 3 rfl rfl)
theorem dX6_keepsBest_27 : decode cX6_keepsBest 27 = .ok (.getfield 31, 3) := dk_180 0 31 (dk_at dksX6_keepsBest_1 4 rfl rfl)
theorem dX6_keepsBest_30 : decode cX6_keepsBest 30 = .ok (.iconst 2, 1) := dk_5 (dk_at dksX6_keepsBest_1 7 rfl rfl)
theorem dX6_keepsBest_31 : decode cX6_keepsBest 31 = .ok (.iaload, 1) := dk_46 (dk_at dksX6_keepsBest_1 8 rfl rfl)
theorem dX6_keepsBest_32 : decode cX6_keepsBest 32 = .ok (.laload, 1) := dk_47 (dk_at dksX6_keepsBest_1 9 rfl rfl)
theorem dX6_keepsBest_33 : decode cX6_keepsBest 33 = .ok (.putfield 371, 3) := dk_181 1 115 (dk_at dksX6_keepsBest_1 10 rfl rfl)
theorem dX6_keepsBest_36 : decode cX6_keepsBest 36 = .ok (.aload_n 0, 1) := dk_42 (dk_at dksX6_keepsBest_1 13 rfl rfl)
theorem dX6_keepsBest_37 : decode cX6_keepsBest 37 = .ok (.iload_n 1, 1) := dk_27 (dk_at dksX6_keepsBest_1 14 rfl rfl)
theorem dX6_keepsBest_38 : decode cX6_keepsBest 38 = .ok (.ifCond .eq 7, 3) := dk_153 0 7 (dk_at dksX6_keepsBest_1 15 rfl rfl)
theorem dX6_keepsBest_41 : decode cX6_keepsBest 41 = .ok (.lconst 0, 1) := dk_9 (dk_at dksX6_keepsBest_1 18 rfl rfl)
theorem dX6_keepsBest_42 : decode cX6_keepsBest 42 = .ok (.goto 7, 3) := dk_167 0 7 (dk_at dksX6_keepsBest_1 19 rfl rfl)
theorem dX6_keepsBest_45 : decode cX6_keepsBest 45 = .ok (.aload_n 0, 1) := dk_42 (dk_at dksX6_keepsBest_1 22 rfl rfl)
theorem dX6_keepsBest_46 : decode cX6_keepsBest 46 = .ok (.getfield 233, 3) := dk_180 0 233 (dk_at dksX6_keepsBest_2 0 rfl rfl)
theorem dX6_keepsBest_49 : decode cX6_keepsBest 49 = .ok (.putfield 368, 3) := dk_181 1 112 (dk_at dksX6_keepsBest_2 3 rfl rfl)
theorem dX6_keepsBest_52 : decode cX6_keepsBest 52 = .ok (.return_, 1) := dk_177 (dk_at dksX6_keepsBest_2 6 rfl rfl)
def dkwX6_best_5 : List UInt8 := [167, 255, 142, 27, 172]
abbrev dktX6_best_5 : List UInt8 := dkwX6_best_5 ++ []
def dkwX6_best_4 : List UInt8 := [16, 10, 16, 12, 28, 104, 96, 29, 96, 92, 46, 4, 100, 79, 132, 3, 1, 167, 255, 155, 132, 2, 1]
abbrev dktX6_best_4 : List UInt8 := dkwX6_best_4 ++ dktX6_best_5
def dkwX6_best_3 : List UInt8 := [182, 1, 122, 156, 0, 17, 16, 100, 28, 104, 16, 100, 96, 29, 96, 60, 42, 182, 1, 125, 42, 180, 0, 31]
abbrev dktX6_best_3 : List UInt8 := dkwX6_best_3 ++ dktX6_best_4
def dkwX6_best_2 : List UInt8 := [42, 180, 0, 31, 16, 10, 16, 12, 28, 104, 96, 29, 96, 92, 46, 4, 96, 79, 27, 2, 159, 0, 10, 42]
abbrev dktX6_best_2 : List UInt8 := dkwX6_best_2 ++ dktX6_best_3
def dkwX6_best_1 : List UInt8 := [180, 0, 31, 29, 28, 184, 0, 166, 153, 0, 78, 42, 29, 28, 182, 0, 194, 6, 160, 0, 6, 167, 0, 65]
abbrev dktX6_best_1 : List UInt8 := dkwX6_best_1 ++ dktX6_best_2
def dkwX6_best_0 : List UInt8 := [2, 60, 3, 61, 28, 5, 163, 0, 115, 3, 62, 29, 42, 180, 0, 31, 184, 0, 190, 162, 0, 96, 42]
abbrev dktX6_best_0 : List UInt8 := dkwX6_best_0 ++ dktX6_best_1
theorem dksX6_best_0 : cX6_best.data.toList.drop 0 = dktX6_best_0 := by decide +kernel
theorem dksX6_best_1 : cX6_best.data.toList.drop 23 = dktX6_best_1 := dk_seg dksX6_best_0 23 rfl rfl
theorem dksX6_best_2 : cX6_best.data.toList.drop 47 = dktX6_best_2 := dk_seg dksX6_best_1 24 rfl rfl
theorem dksX6_best_3 : cX6_best.data.toList.drop 71 = dktX6_best_3 := dk_seg dksX6_best_2 24 rfl rfl
theorem dksX6_best_4 : cX6_best.data.toList.drop 95 = dktX6_best_4 := dk_seg dksX6_best_3 24 rfl rfl
theorem dksX6_best_5 : cX6_best.data.toList.drop 118 = dktX6_best_5 := dk_seg dksX6_best_4 23 rfl rfl
theorem dX6_best_0 : decode cX6_best 0 = .ok (.iconst (-1), 1) := dk_2 (dk_at dksX6_best_0 0 rfl rfl)
theorem dX6_best_1 : decode cX6_best 1 = .ok (.istore_n 1, 1) := dk_60 (dk_at dksX6_best_0 1 rfl rfl)
theorem dX6_best_2 : decode cX6_best 2 = .ok (.iconst 0, 1) := dk_3 (dk_at dksX6_best_0 2 rfl rfl)
theorem dX6_best_3 : decode cX6_best 3 = .ok (.istore_n 2, 1) := dk_61 (dk_at dksX6_best_0 3 rfl rfl)
theorem dX6_best_4 : decode cX6_best 4 = .ok (.iload_n 2, 1) := dk_28 (dk_at dksX6_best_0 4 rfl rfl)
theorem dX6_best_5 : decode cX6_best 5 = .ok (.iconst 2, 1) := dk_5 (dk_at dksX6_best_0 5 rfl rfl)
theorem dX6_best_6 : decode cX6_best 6 = .ok (.if_icmp .gt 115, 3) := dk_163 0 115 (dk_at dksX6_best_0 6 rfl rfl)
theorem dX6_best_9 : decode cX6_best 9 = .ok (.iconst 0, 1) := dk_3 (dk_at dksX6_best_0 9 rfl rfl)
theorem dX6_best_10 : decode cX6_best 10 = .ok (.istore_n 3, 1) := dk_62 (dk_at dksX6_best_0 10 rfl rfl)
theorem dX6_best_11 : decode cX6_best 11 = .ok (.iload_n 3, 1) := dk_29 (dk_at dksX6_best_0 11 rfl rfl)
theorem dX6_best_12 : decode cX6_best 12 = .ok (.aload_n 0, 1) := dk_42 (dk_at dksX6_best_0 12 rfl rfl)
theorem dX6_best_13 : decode cX6_best 13 = .ok (.getfield 31, 3) := dk_180 0 31 (dk_at dksX6_best_0 13 rfl rfl)
theorem dX6_best_16 : decode cX6_best 16 = .ok (.invokestatic 190, 3) := dk_184 0 190 (dk_at dksX6_best_0 16 rfl rfl)
theorem dX6_best_19 : decode cX6_best 19 = .ok (.if_icmp .ge 96, 3) := dk_162 0 96 (dk_at dksX6_best_0 19 rfl rfl)
theorem dX6_best_22 : decode cX6_best 22 = .ok (.aload_n 0, 1) := dk_42 (dk_at dksX6_best_0 22 rfl rfl)
theorem dX6_best_23 : decode cX6_best 23 = .ok (.getfield 31, 3) := dk_180 0 31 (dk_at dksX6_best_1 0 rfl rfl)
theorem dX6_best_26 : decode cX6_best 26 = .ok (.iload_n 3, 1) := dk_29 (dk_at dksX6_best_1 3 rfl rfl)
theorem dX6_best_27 : decode cX6_best 27 = .ok (.iload_n 2, 1) := dk_28 (dk_at dksX6_best_1 4 rfl rfl)
theorem dX6_best_28 : decode cX6_best 28 = .ok (.invokestatic 166, 3) := dk_184 0 166 (dk_at dksX6_best_1 5 rfl rfl)
theorem dX6_best_31 : decode cX6_best 31 = .ok (.ifCond .eq 78, 3) := dk_153 0 78 (dk_at dksX6_best_1 8 rfl rfl)
theorem dX6_best_34 : decode cX6_best 34 = .ok (.aload_n 0, 1) := dk_42 (dk_at dksX6_best_1 11 rfl rfl)
theorem dX6_best_35 : decode cX6_best 35 = .ok (.iload_n 3, 1) := dk_29 (dk_at dksX6_best_1 12 rfl rfl)
theorem dX6_best_36 : decode cX6_best 36 = .ok (.iload_n 2, 1) := dk_28 (dk_at dksX6_best_1 13 rfl rfl)
theorem dX6_best_37 : decode cX6_best 37 = .ok (.invokevirtual 194, 3) := dk_182 0 194 (dk_at dksX6_best_1 14 rfl rfl)
theorem dX6_best_40 : decode cX6_best 40 = .ok (.iconst 3, 1) := dk_6 (dk_at dksX6_best_1 17 rfl rfl)
theorem dX6_best_41 : decode cX6_best 41 = .ok (.if_icmp .ne 6, 3) := dk_160 0 6 (dk_at dksX6_best_1 18 rfl rfl)
theorem dX6_best_44 : decode cX6_best 44 = .ok (.goto 65, 3) := dk_167 0 65 (dk_at dksX6_best_1 21 rfl rfl)
theorem dX6_best_47 : decode cX6_best 47 = .ok (.aload_n 0, 1) := dk_42 (dk_at dksX6_best_2 0 rfl rfl)
theorem dX6_best_48 : decode cX6_best 48 = .ok (.getfield 31, 3) := dk_180 0 31 (dk_at dksX6_best_2 1 rfl rfl)
theorem dX6_best_51 : decode cX6_best 51 = .ok (.bipush 10, 2) := dk_16 10 (dk_at dksX6_best_2 4 rfl rfl)
theorem dX6_best_53 : decode cX6_best 53 = .ok (.bipush 12, 2) := dk_16 12 (dk_at dksX6_best_2 6 rfl rfl)
theorem dX6_best_55 : decode cX6_best 55 = .ok (.iload_n 2, 1) := dk_28 (dk_at dksX6_best_2 8 rfl rfl)
theorem dX6_best_56 : decode cX6_best 56 = .ok (.imul, 1) := dk_104 (dk_at dksX6_best_2 9 rfl rfl)
theorem dX6_best_57 : decode cX6_best 57 = .ok (.iadd, 1) := dk_96 (dk_at dksX6_best_2 10 rfl rfl)
theorem dX6_best_58 : decode cX6_best 58 = .ok (.iload_n 3, 1) := dk_29 (dk_at dksX6_best_2 11 rfl rfl)
theorem dX6_best_59 : decode cX6_best 59 = .ok (.iadd, 1) := dk_96 (dk_at dksX6_best_2 12 rfl rfl)
theorem dX6_best_60 : decode cX6_best 60 = .ok (.dup2, 1) := dk_92 (dk_at dksX6_best_2 13 rfl rfl)
theorem dX6_best_61 : decode cX6_best 61 = .ok (.iaload, 1) := dk_46 (dk_at dksX6_best_2 14 rfl rfl)
theorem dX6_best_62 : decode cX6_best 62 = .ok (.iconst 1, 1) := dk_4 (dk_at dksX6_best_2 15 rfl rfl)
theorem dX6_best_63 : decode cX6_best 63 = .ok (.iadd, 1) := dk_96 (dk_at dksX6_best_2 16 rfl rfl)
theorem dX6_best_64 : decode cX6_best 64 = .ok (.iastore, 1) := dk_79 (dk_at dksX6_best_2 17 rfl rfl)
theorem dX6_best_65 : decode cX6_best 65 = .ok (.iload_n 1, 1) := dk_27 (dk_at dksX6_best_2 18 rfl rfl)
theorem dX6_best_66 : decode cX6_best 66 = .ok (.iconst (-1), 1) := dk_2 (dk_at dksX6_best_2 19 rfl rfl)
theorem dX6_best_67 : decode cX6_best 67 = .ok (.if_icmp .eq 10, 3) := dk_159 0 10 (dk_at dksX6_best_2 20 rfl rfl)
theorem dX6_best_70 : decode cX6_best 70 = .ok (.aload_n 0, 1) := dk_42 (dk_at dksX6_best_2 23 rfl rfl)
theorem dX6_best_71 : decode cX6_best 71 = .ok (.invokevirtual 378, 3) := dk_182 1 122 (dk_at dksX6_best_3 0 rfl rfl)
theorem dX6_best_74 : decode cX6_best 74 = .ok (.ifCond .ge 17, 3) := dk_156 0 17 (dk_at dksX6_best_3 3 rfl rfl)
theorem dX6_best_77 : decode cX6_best 77 = .ok (.bipush 100, 2) := dk_16 100 (dk_at dksX6_best_3 6 rfl rfl)
theorem dX6_best_79 : decode cX6_best 79 = .ok (.iload_n 2, 1) := dk_28 (dk_at dksX6_best_3 8 rfl rfl)
theorem dX6_best_80 : decode cX6_best 80 = .ok (.imul, 1) := dk_104 (dk_at dksX6_best_3 9 rfl rfl)
theorem dX6_best_81 : decode cX6_best 81 = .ok (.bipush 100, 2) := dk_16 100 (dk_at dksX6_best_3 10 rfl rfl)
theorem dX6_best_83 : decode cX6_best 83 = .ok (.iadd, 1) := dk_96 (dk_at dksX6_best_3 12 rfl rfl)
theorem dX6_best_84 : decode cX6_best 84 = .ok (.iload_n 3, 1) := dk_29 (dk_at dksX6_best_3 13 rfl rfl)
theorem dX6_best_85 : decode cX6_best 85 = .ok (.iadd, 1) := dk_96 (dk_at dksX6_best_3 14 rfl rfl)
theorem dX6_best_86 : decode cX6_best 86 = .ok (.istore_n 1, 1) := dk_60 (dk_at dksX6_best_3 15 rfl rfl)
theorem dX6_best_87 : decode cX6_best 87 = .ok (.aload_n 0, 1) := dk_42 (dk_at dksX6_best_3 16 rfl rfl)
theorem dX6_best_88 : decode cX6_best 88 = .ok (.invokevirtual 381, 3) := dk_182 1 125 (dk_at dksX6_best_3 17 rfl rfl)
theorem dX6_best_91 : decode cX6_best 91 = .ok (.aload_n 0, 1) := dk_42 (dk_at dksX6_best_3 20 rfl rfl)
theorem dX6_best_92 : decode cX6_best 92 = .ok (.getfield 31, 3) := dk_180 0 31 (dk_at dksX6_best_3 21 rfl rfl)
theorem dX6_best_95 : decode cX6_best 95 = .ok (.bipush 10, 2) := dk_16 10 (dk_at dksX6_best_4 0 rfl rfl)
theorem dX6_best_97 : decode cX6_best 97 = .ok (.bipush 12, 2) := dk_16 12 (dk_at dksX6_best_4 2 rfl rfl)
theorem dX6_best_99 : decode cX6_best 99 = .ok (.iload_n 2, 1) := dk_28 (dk_at dksX6_best_4 4 rfl rfl)
theorem dX6_best_100 : decode cX6_best 100 = .ok (.imul, 1) := dk_104 (dk_at dksX6_best_4 5 rfl rfl)
theorem dX6_best_101 : decode cX6_best 101 = .ok (.iadd, 1) := dk_96 (dk_at dksX6_best_4 6 rfl rfl)
theorem dX6_best_102 : decode cX6_best 102 = .ok (.iload_n 3, 1) := dk_29 (dk_at dksX6_best_4 7 rfl rfl)
theorem dX6_best_103 : decode cX6_best 103 = .ok (.iadd, 1) := dk_96 (dk_at dksX6_best_4 8 rfl rfl)
theorem dX6_best_104 : decode cX6_best 104 = .ok (.dup2, 1) := dk_92 (dk_at dksX6_best_4 9 rfl rfl)
theorem dX6_best_105 : decode cX6_best 105 = .ok (.iaload, 1) := dk_46 (dk_at dksX6_best_4 10 rfl rfl)
theorem dX6_best_106 : decode cX6_best 106 = .ok (.iconst 1, 1) := dk_4 (dk_at dksX6_best_4 11 rfl rfl)
theorem dX6_best_107 : decode cX6_best 107 = .ok (.isub, 1) := dk_100 (dk_at dksX6_best_4 12 rfl rfl)
theorem dX6_best_108 : decode cX6_best 108 = .ok (.iastore, 1) := dk_79 (dk_at dksX6_best_4 13 rfl rfl)
theorem dX6_best_109 : decode cX6_best 109 = .ok (.iinc 3 1, 3) := dk_132 3 1 (dk_at dksX6_best_4 14 rfl rfl)
theorem dX6_best_112 : decode cX6_best 112 = .ok (.goto (-101), 3) := dk_167 255 155 (dk_at dksX6_best_4 17 rfl rfl)
theorem dX6_best_115 : decode cX6_best 115 = .ok (.iinc 2 1, 3) := dk_132 2 1 (dk_at dksX6_best_4 20 rfl rfl)
theorem dX6_best_118 : decode cX6_best 118 = .ok (.goto (-114), 3) := dk_167 255 142 (dk_at dksX6_best_5 0 rfl rfl)
theorem dX6_best_121 : decode cX6_best 121 = .ok (.iload_n 1, 1) := dk_27 (dk_at dksX6_best_5 3 rfl rfl)
theorem dX6_best_122 : decode cX6_best 122 = .ok (.ireturn, 1) := dk_172 (dk_at dksX6_best_5 4 rfl rfl)
def dkwX6_needed_6 : List UInt8 := [28, 167, 0, 4, 29, 172]
abbrev dktX6_needed_6 : List UInt8 := dkwX6_needed_6 ++ []
def dkwX6_needed_5 : List UInt8 := [167, 0, 4, 29, 62, 132, 2, 1, 132, 5, 1, 167, 255, 143, 132, 4, 1, 167, 255, 128, 27, 153, 0, 7]
abbrev dktX6_needed_5 : List UInt8 := dkwX6_needed_5 ++ dktX6_needed_6
def dkwX6_needed_4 : List UInt8 := [79, 21, 7, 154, 0, 6, 167, 0, 26, 28, 154, 0, 17, 16, 100, 21, 4, 104, 16, 100, 96, 21, 5, 96]
abbrev dktX6_needed_4 : List UInt8 := dkwX6_needed_4 ++ dktX6_needed_5
def dkwX6_needed_3 : List UInt8 := [4, 167, 0, 4, 3, 54, 7, 42, 180, 0, 31, 16, 10, 16, 12, 21, 4, 104, 96, 21, 5, 96, 21, 6]
abbrev dktX6_needed_3 : List UInt8 := dkwX6_needed_3 ++ dktX6_needed_4
def dkwX6_needed_2 : List UInt8 := [42, 180, 0, 31, 16, 10, 16, 12, 21, 4, 104, 96, 21, 5, 96, 3, 79, 42, 182, 1, 22, 154, 0, 7]
abbrev dktX6_needed_2 : List UInt8 := dkwX6_needed_2 ++ dktX6_needed_3
def dkwX6_needed_1 : List UInt8 := [184, 0, 190, 162, 0, 107, 42, 21, 5, 21, 4, 182, 0, 194, 54, 6, 21, 6, 154, 0, 6, 167, 0, 83]
abbrev dktX6_needed_1 : List UInt8 := dkwX6_needed_1 ++ dktX6_needed_2
def dkwX6_needed_0 : List UInt8 := [3, 61, 2, 62, 3, 54, 4, 21, 4, 5, 163, 0, 128, 3, 54, 5, 21, 5, 42, 180, 0, 31]
abbrev dktX6_needed_0 : List UInt8 := dkwX6_needed_0 ++ dktX6_needed_1
theorem dksX6_needed_0 : cX6_needed.data.toList.drop 0 = dktX6_needed_0 := by decide +kernel
theorem dksX6_needed_1 : cX6_needed.data.toList.drop 22 = dktX6_needed_1 := dk_seg dksX6_needed_0 22 rfl rfl
theorem dksX6_needed_2 : cX6_needed.data.toList.drop 46 = dktX6_needed_2 := dk_seg dksX6_needed_1 24 rfl rfl
theorem dksX6_needed_3 : cX6_needed.data.toList.drop 70 = dktX6_needed_3 := dk_seg dksX6_needed_2 24 rfl rfl
theorem dksX6_needed_4 : cX6_needed.data.toList.drop 94 = dktX6_needed_4 := dk_seg dksX6_needed_3 24 rfl rfl
theorem dksX6_needed_5 : cX6_needed.data.toList.drop 118 = dktX6_needed_5 := dk_seg dksX6_needed_4 24 rfl rfl
theorem dksX6_needed_6 : cX6_needed.data.toList.drop 142 = dktX6_needed_6 := dk_seg dksX6_needed_5 24 rfl rfl
theorem dX6_needed_0 : decode cX6_needed 0 = .ok (.iconst 0, 1) := dk_3 (dk_at dksX6_needed_0 0 rfl rfl)
theorem dX6_needed_1 : decode cX6_needed 1 = .ok (.istore_n 2, 1) := dk_61 (dk_at dksX6_needed_0 1 rfl rfl)
theorem dX6_needed_2 : decode cX6_needed 2 = .ok (.iconst (-1), 1) := dk_2 (dk_at dksX6_needed_0 2 rfl rfl)
theorem dX6_needed_3 : decode cX6_needed 3 = .ok (.istore_n 3, 1) := dk_62 (dk_at dksX6_needed_0 3 rfl rfl)
theorem dX6_needed_4 : decode cX6_needed 4 = .ok (.iconst 0, 1) := dk_3 (dk_at dksX6_needed_0 4 rfl rfl)
theorem dX6_needed_5 : decode cX6_needed 5 = .ok (.istore 4, 2) := dk_54 4 (dk_at dksX6_needed_0 5 rfl rfl)
theorem dX6_needed_7 : decode cX6_needed 7 = .ok (.iload 4, 2) := dk_21 4 (dk_at dksX6_needed_0 7 rfl rfl)
theorem dX6_needed_9 : decode cX6_needed 9 = .ok (.iconst 2, 1) := dk_5 (dk_at dksX6_needed_0 9 rfl rfl)
theorem dX6_needed_10 : decode cX6_needed 10 = .ok (.if_icmp .gt 128, 3) := dk_163 0 128 (dk_at dksX6_needed_0 10 rfl rfl)
theorem dX6_needed_13 : decode cX6_needed 13 = .ok (.iconst 0, 1) := dk_3 (dk_at dksX6_needed_0 13 rfl rfl)
theorem dX6_needed_14 : decode cX6_needed 14 = .ok (.istore 5, 2) := dk_54 5 (dk_at dksX6_needed_0 14 rfl rfl)
theorem dX6_needed_16 : decode cX6_needed 16 = .ok (.iload 5, 2) := dk_21 5 (dk_at dksX6_needed_0 16 rfl rfl)
theorem dX6_needed_18 : decode cX6_needed 18 = .ok (.aload_n 0, 1) := dk_42 (dk_at dksX6_needed_0 18 rfl rfl)
theorem dX6_needed_19 : decode cX6_needed 19 = .ok (.getfield 31, 3) := dk_180 0 31 (dk_at dksX6_needed_0 19 rfl rfl)
theorem dX6_needed_22 : decode cX6_needed 22 = .ok (.invokestatic 190, 3) := dk_184 0 190 (dk_at dksX6_needed_1 0 rfl rfl)
theorem dX6_needed_25 : decode cX6_needed 25 = .ok (.if_icmp .ge 107, 3) := dk_162 0 107 (dk_at dksX6_needed_1 3 rfl rfl)
theorem dX6_needed_28 : decode cX6_needed 28 = .ok (.aload_n 0, 1) := dk_42 (dk_at dksX6_needed_1 6 rfl rfl)
theorem dX6_needed_29 : decode cX6_needed 29 = .ok (.iload 5, 2) := dk_21 5 (dk_at dksX6_needed_1 7 rfl rfl)
theorem dX6_needed_31 : decode cX6_needed 31 = .ok (.iload 4, 2) := dk_21 4 (dk_at dksX6_needed_1 9 rfl rfl)
theorem dX6_needed_33 : decode cX6_needed 33 = .ok (.invokevirtual 194, 3) := dk_182 0 194 (dk_at dksX6_needed_1 11 rfl rfl)
theorem dX6_needed_36 : decode cX6_needed 36 = .ok (.istore 6, 2) := dk_54 6 (dk_at dksX6_needed_1 14 rfl rfl)
theorem dX6_needed_38 : decode cX6_needed 38 = .ok (.iload 6, 2) := dk_21 6 (dk_at dksX6_needed_1 16 rfl rfl)
theorem dX6_needed_40 : decode cX6_needed 40 = .ok (.ifCond .ne 6, 3) := dk_154 0 6 (dk_at dksX6_needed_1 18 rfl rfl)
theorem dX6_needed_43 : decode cX6_needed 43 = .ok (.goto 83, 3) := dk_167 0 83 (dk_at dksX6_needed_1 21 rfl rfl)
theorem dX6_needed_46 : decode cX6_needed 46 = .ok (.aload_n 0, 1) := dk_42 (dk_at dksX6_needed_2 0 rfl rfl)
theorem dX6_needed_47 : decode cX6_needed 47 = .ok (.getfield 31, 3) := dk_180 0 31 (dk_at dksX6_needed_2 1 rfl rfl)
theorem dX6_needed_50 : decode cX6_needed 50 = .ok (.bipush 10, 2) := dk_16 10 (dk_at dksX6_needed_2 4 rfl rfl)
theorem dX6_needed_52 : decode cX6_needed 52 = .ok (.bipush 12, 2) := dk_16 12 (dk_at dksX6_needed_2 6 rfl rfl)
theorem dX6_needed_54 : decode cX6_needed 54 = .ok (.iload 4, 2) := dk_21 4 (dk_at dksX6_needed_2 8 rfl rfl)
theorem dX6_needed_56 : decode cX6_needed 56 = .ok (.imul, 1) := dk_104 (dk_at dksX6_needed_2 10 rfl rfl)
theorem dX6_needed_57 : decode cX6_needed 57 = .ok (.iadd, 1) := dk_96 (dk_at dksX6_needed_2 11 rfl rfl)
theorem dX6_needed_58 : decode cX6_needed 58 = .ok (.iload 5, 2) := dk_21 5 (dk_at dksX6_needed_2 12 rfl rfl)
theorem dX6_needed_60 : decode cX6_needed 60 = .ok (.iadd, 1) := dk_96 (dk_at dksX6_needed_2 14 rfl rfl)
theorem dX6_needed_61 : decode cX6_needed 61 = .ok (.iconst 0, 1) := dk_3 (dk_at dksX6_needed_2 15 rfl rfl)
theorem dX6_needed_62 : decode cX6_needed 62 = .ok (.iastore, 1) := dk_79 (dk_at dksX6_needed_2 16 rfl rfl)
theorem dX6_needed_63 : decode cX6_needed 63 = .ok (.aload_n 0, 1) := dk_42 (dk_at dksX6_needed_2 17 rfl rfl)
theorem dX6_needed_64 : decode cX6_needed 64 = .ok (.invokevirtual 278, 3) := dk_182 1 22 (dk_at dksX6_needed_2 18 rfl rfl)
theorem dX6_needed_67 : decode cX6_needed 67 = .ok (.ifCond .ne 7, 3) := dk_154 0 7 (dk_at dksX6_needed_2 21 rfl rfl)
theorem dX6_needed_70 : decode cX6_needed 70 = .ok (.iconst 1, 1) := dk_4 (dk_at dksX6_needed_3 0 rfl rfl)
theorem dX6_needed_71 : decode cX6_needed 71 = .ok (.goto 4, 3) := dk_167 0 4 (dk_at dksX6_needed_3 1 rfl rfl)
theorem dX6_needed_74 : decode cX6_needed 74 = .ok (.iconst 0, 1) := dk_3 (dk_at dksX6_needed_3 4 rfl rfl)
theorem dX6_needed_75 : decode cX6_needed 75 = .ok (.istore 7, 2) := dk_54 7 (dk_at dksX6_needed_3 5 rfl rfl)
theorem dX6_needed_77 : decode cX6_needed 77 = .ok (.aload_n 0, 1) := dk_42 (dk_at dksX6_needed_3 7 rfl rfl)
theorem dX6_needed_78 : decode cX6_needed 78 = .ok (.getfield 31, 3) := dk_180 0 31 (dk_at dksX6_needed_3 8 rfl rfl)
theorem dX6_needed_81 : decode cX6_needed 81 = .ok (.bipush 10, 2) := dk_16 10 (dk_at dksX6_needed_3 11 rfl rfl)
theorem dX6_needed_83 : decode cX6_needed 83 = .ok (.bipush 12, 2) := dk_16 12 (dk_at dksX6_needed_3 13 rfl rfl)
theorem dX6_needed_85 : decode cX6_needed 85 = .ok (.iload 4, 2) := dk_21 4 (dk_at dksX6_needed_3 15 rfl rfl)
theorem dX6_needed_87 : decode cX6_needed 87 = .ok (.imul, 1) := dk_104 (dk_at dksX6_needed_3 17 rfl rfl)
theorem dX6_needed_88 : decode cX6_needed 88 = .ok (.iadd, 1) := dk_96 (dk_at dksX6_needed_3 18 rfl rfl)
theorem dX6_needed_89 : decode cX6_needed 89 = .ok (.iload 5, 2) := dk_21 5 (dk_at dksX6_needed_3 19 rfl rfl)
theorem dX6_needed_91 : decode cX6_needed 91 = .ok (.iadd, 1) := dk_96 (dk_at dksX6_needed_3 21 rfl rfl)
theorem dX6_needed_92 : decode cX6_needed 92 = .ok (.iload 6, 2) := dk_21 6 (dk_at dksX6_needed_3 22 rfl rfl)
theorem dX6_needed_94 : decode cX6_needed 94 = .ok (.iastore, 1) := dk_79 (dk_at dksX6_needed_4 0 rfl rfl)
theorem dX6_needed_95 : decode cX6_needed 95 = .ok (.iload 7, 2) := dk_21 7 (dk_at dksX6_needed_4 1 rfl rfl)
theorem dX6_needed_97 : decode cX6_needed 97 = .ok (.ifCond .ne 6, 3) := dk_154 0 6 (dk_at dksX6_needed_4 3 rfl rfl)
theorem dX6_needed_100 : decode cX6_needed 100 = .ok (.goto 26, 3) := dk_167 0 26 (dk_at dksX6_needed_4 6 rfl rfl)
theorem dX6_needed_103 : decode cX6_needed 103 = .ok (.iload_n 2, 1) := dk_28 (dk_at dksX6_needed_4 9 rfl rfl)
theorem dX6_needed_104 : decode cX6_needed 104 = .ok (.ifCond .ne 17, 3) := dk_154 0 17 (dk_at dksX6_needed_4 10 rfl rfl)
theorem dX6_needed_107 : decode cX6_needed 107 = .ok (.bipush 100, 2) := dk_16 100 (dk_at dksX6_needed_4 13 rfl rfl)
theorem dX6_needed_109 : decode cX6_needed 109 = .ok (.iload 4, 2) := dk_21 4 (dk_at dksX6_needed_4 15 rfl rfl)
theorem dX6_needed_111 : decode cX6_needed 111 = .ok (.imul, 1) := dk_104 (dk_at dksX6_needed_4 17 rfl rfl)
theorem dX6_needed_112 : decode cX6_needed 112 = .ok (.bipush 100, 2) := dk_16 100 (dk_at dksX6_needed_4 18 rfl rfl)
theorem dX6_needed_114 : decode cX6_needed 114 = .ok (.iadd, 1) := dk_96 (dk_at dksX6_needed_4 20 rfl rfl)
theorem dX6_needed_115 : decode cX6_needed 115 = .ok (.iload 5, 2) := dk_21 5 (dk_at dksX6_needed_4 21 rfl rfl)
theorem dX6_needed_117 : decode cX6_needed 117 = .ok (.iadd, 1) := dk_96 (dk_at dksX6_needed_4 23 rfl rfl)
theorem dX6_needed_118 : decode cX6_needed 118 = .ok (.goto 4, 3) := dk_167 0 4 (dk_at dksX6_needed_5 0 rfl rfl)
theorem dX6_needed_121 : decode cX6_needed 121 = .ok (.iload_n 3, 1) := dk_29 (dk_at dksX6_needed_5 3 rfl rfl)
theorem dX6_needed_122 : decode cX6_needed 122 = .ok (.istore_n 3, 1) := dk_62 (dk_at dksX6_needed_5 4 rfl rfl)
theorem dX6_needed_123 : decode cX6_needed 123 = .ok (.iinc 2 1, 3) := dk_132 2 1 (dk_at dksX6_needed_5 5 rfl rfl)
theorem dX6_needed_126 : decode cX6_needed 126 = .ok (.iinc 5 1, 3) := dk_132 5 1 (dk_at dksX6_needed_5 8 rfl rfl)
theorem dX6_needed_129 : decode cX6_needed 129 = .ok (.goto (-113), 3) := dk_167 255 143 (dk_at dksX6_needed_5 11 rfl rfl)
theorem dX6_needed_132 : decode cX6_needed 132 = .ok (.iinc 4 1, 3) := dk_132 4 1 (dk_at dksX6_needed_5 14 rfl rfl)
theorem dX6_needed_135 : decode cX6_needed 135 = .ok (.goto (-128), 3) := dk_167 255 128 (dk_at dksX6_needed_5 17 rfl rfl)
theorem dX6_needed_138 : decode cX6_needed 138 = .ok (.iload_n 1, 1) := dk_27 (dk_at dksX6_needed_5 20 rfl rfl)
theorem dX6_needed_139 : decode cX6_needed 139 = .ok (.ifCond .eq 7, 3) := dk_153 0 7 (dk_at dksX6_needed_5 21 rfl rfl)
theorem dX6_needed_142 : decode cX6_needed 142 = .ok (.iload_n 2, 1) := dk_28 (dk_at dksX6_needed_6 0 rfl rfl)
theorem dX6_needed_143 : decode cX6_needed 143 = .ok (.goto 4, 3) := dk_167 0 4 (dk_at dksX6_needed_6 1 rfl rfl)
theorem dX6_needed_146 : decode cX6_needed 146 = .ok (.iload_n 3, 1) := dk_29 (dk_at dksX6_needed_6 4 rfl rfl)
theorem dX6_needed_147 : decode cX6_needed 147 = .ok (.ireturn, 1) := dk_172 (dk_at dksX6_needed_6 5 rfl rfl)
def dkwX6_parts_1 : List UInt8 := [158, 0, 7, 4, 167, 0, 4, 3, 96, 61, 132, 3, 1, 167, 255, 225, 28, 172]
abbrev dktX6_parts_1 : List UInt8 := dkwX6_parts_1 ++ []
def dkwX6_parts_0 : List UInt8 := [3, 61, 3, 62, 29, 42, 180, 0, 31, 184, 0, 190, 162, 0, 26, 28, 42, 29, 27, 182, 0, 194]
abbrev dktX6_parts_0 : List UInt8 := dkwX6_parts_0 ++ dktX6_parts_1
theorem dksX6_parts_0 : cX6_parts.data.toList.drop 0 = dktX6_parts_0 := by decide +kernel
theorem dksX6_parts_1 : cX6_parts.data.toList.drop 22 = dktX6_parts_1 := dk_seg dksX6_parts_0 22 rfl rfl
theorem dX6_parts_0 : decode cX6_parts 0 = .ok (.iconst 0, 1) := dk_3 (dk_at dksX6_parts_0 0 rfl rfl)
theorem dX6_parts_1 : decode cX6_parts 1 = .ok (.istore_n 2, 1) := dk_61 (dk_at dksX6_parts_0 1 rfl rfl)
theorem dX6_parts_2 : decode cX6_parts 2 = .ok (.iconst 0, 1) := dk_3 (dk_at dksX6_parts_0 2 rfl rfl)
theorem dX6_parts_3 : decode cX6_parts 3 = .ok (.istore_n 3, 1) := dk_62 (dk_at dksX6_parts_0 3 rfl rfl)
theorem dX6_parts_4 : decode cX6_parts 4 = .ok (.iload_n 3, 1) := dk_29 (dk_at dksX6_parts_0 4 rfl rfl)
theorem dX6_parts_5 : decode cX6_parts 5 = .ok (.aload_n 0, 1) := dk_42 (dk_at dksX6_parts_0 5 rfl rfl)
theorem dX6_parts_6 : decode cX6_parts 6 = .ok (.getfield 31, 3) := dk_180 0 31 (dk_at dksX6_parts_0 6 rfl rfl)
theorem dX6_parts_9 : decode cX6_parts 9 = .ok (.invokestatic 190, 3) := dk_184 0 190 (dk_at dksX6_parts_0 9 rfl rfl)
theorem dX6_parts_12 : decode cX6_parts 12 = .ok (.if_icmp .ge 26, 3) := dk_162 0 26 (dk_at dksX6_parts_0 12 rfl rfl)
theorem dX6_parts_15 : decode cX6_parts 15 = .ok (.iload_n 2, 1) := dk_28 (dk_at dksX6_parts_0 15 rfl rfl)
theorem dX6_parts_16 : decode cX6_parts 16 = .ok (.aload_n 0, 1) := dk_42 (dk_at dksX6_parts_0 16 rfl rfl)
theorem dX6_parts_17 : decode cX6_parts 17 = .ok (.iload_n 3, 1) := dk_29 (dk_at dksX6_parts_0 17 rfl rfl)
theorem dX6_parts_18 : decode cX6_parts 18 = .ok (.iload_n 1, 1) := dk_27 (dk_at dksX6_parts_0 18 rfl rfl)
theorem dX6_parts_19 : decode cX6_parts 19 = .ok (.invokevirtual 194, 3) := dk_182 0 194 (dk_at dksX6_parts_0 19 rfl rfl)
theorem dX6_parts_22 : decode cX6_parts 22 = .ok (.ifCond .le 7, 3) := dk_158 0 7 (dk_at dksX6_parts_1 0 rfl rfl)
theorem dX6_parts_25 : decode cX6_parts 25 = .ok (.iconst 1, 1) := dk_4 (dk_at dksX6_parts_1 3 rfl rfl)
theorem dX6_parts_26 : decode cX6_parts 26 = .ok (.goto 4, 3) := dk_167 0 4 (dk_at dksX6_parts_1 4 rfl rfl)
theorem dX6_parts_29 : decode cX6_parts 29 = .ok (.iconst 0, 1) := dk_3 (dk_at dksX6_parts_1 7 rfl rfl)
theorem dX6_parts_30 : decode cX6_parts 30 = .ok (.iadd, 1) := dk_96 (dk_at dksX6_parts_1 8 rfl rfl)
theorem dX6_parts_31 : decode cX6_parts 31 = .ok (.istore_n 2, 1) := dk_61 (dk_at dksX6_parts_1 9 rfl rfl)
theorem dX6_parts_32 : decode cX6_parts 32 = .ok (.iinc 3 1, 3) := dk_132 3 1 (dk_at dksX6_parts_1 10 rfl rfl)
theorem dX6_parts_35 : decode cX6_parts 35 = .ok (.goto (-31), 3) := dk_167 255 225 (dk_at dksX6_parts_1 13 rfl rfl)
theorem dX6_parts_38 : decode cX6_parts 38 = .ok (.iload_n 2, 1) := dk_28 (dk_at dksX6_parts_1 16 rfl rfl)
theorem dX6_parts_39 : decode cX6_parts 39 = .ok (.ireturn, 1) := dk_172 (dk_at dksX6_parts_1 17 rfl rfl)
def dkwX6_limit_2 : List UInt8 := [180, 0, 31, 6, 27, 79, 28, 172]
abbrev dktX6_limit_2 : List UInt8 := dkwX6_limit_2 ++ []
def dkwX6_limit_1 : List UInt8 := [6, 29, 79, 42, 182, 1, 22, 153, 0, 7, 29, 167, 0, 4, 3, 61, 132, 3, 255, 167, 255, 225, 42]
abbrev dktX6_limit_1 : List UInt8 := dkwX6_limit_1 ++ dktX6_limit_2
def dkwX6_limit_0 : List UInt8 := [42, 180, 0, 31, 6, 46, 60, 3, 61, 16, 99, 62, 29, 158, 0, 33, 28, 154, 0, 29, 42, 180, 0, 31]
abbrev dktX6_limit_0 : List UInt8 := dkwX6_limit_0 ++ dktX6_limit_1
theorem dksX6_limit_0 : cX6_limit.data.toList.drop 0 = dktX6_limit_0 := by decide +kernel
theorem dksX6_limit_1 : cX6_limit.data.toList.drop 24 = dktX6_limit_1 := dk_seg dksX6_limit_0 24 rfl rfl
theorem dksX6_limit_2 : cX6_limit.data.toList.drop 47 = dktX6_limit_2 := dk_seg dksX6_limit_1 23 rfl rfl
theorem dX6_limit_0 : decode cX6_limit 0 = .ok (.aload_n 0, 1) := dk_42 (dk_at dksX6_limit_0 0 rfl rfl)
theorem dX6_limit_1 : decode cX6_limit 1 = .ok (.getfield 31, 3) := dk_180 0 31 (dk_at dksX6_limit_0 1 rfl rfl)
theorem dX6_limit_4 : decode cX6_limit 4 = .ok (.iconst 3, 1) := dk_6 (dk_at dksX6_limit_0 4 rfl rfl)
theorem dX6_limit_5 : decode cX6_limit 5 = .ok (.iaload, 1) := dk_46 (dk_at dksX6_limit_0 5 rfl rfl)
theorem dX6_limit_6 : decode cX6_limit 6 = .ok (.istore_n 1, 1) := dk_60 (dk_at dksX6_limit_0 6 rfl rfl)
theorem dX6_limit_7 : decode cX6_limit 7 = .ok (.iconst 0, 1) := dk_3 (dk_at dksX6_limit_0 7 rfl rfl)
theorem dX6_limit_8 : decode cX6_limit 8 = .ok (.istore_n 2, 1) := dk_61 (dk_at dksX6_limit_0 8 rfl rfl)
theorem dX6_limit_9 : decode cX6_limit 9 = .ok (.bipush 99, 2) := dk_16 99 (dk_at dksX6_limit_0 9 rfl rfl)
theorem dX6_limit_11 : decode cX6_limit 11 = .ok (.istore_n 3, 1) := dk_62 (dk_at dksX6_limit_0 11 rfl rfl)
theorem dX6_limit_12 : decode cX6_limit 12 = .ok (.iload_n 3, 1) := dk_29 (dk_at dksX6_limit_0 12 rfl rfl)
theorem dX6_limit_13 : decode cX6_limit 13 = .ok (.ifCond .le 33, 3) := dk_158 0 33 (dk_at dksX6_limit_0 13 rfl rfl)
theorem dX6_limit_16 : decode cX6_limit 16 = .ok (.iload_n 2, 1) := dk_28 (dk_at dksX6_limit_0 16 rfl rfl)
theorem dX6_limit_17 : decode cX6_limit 17 = .ok (.ifCond .ne 29, 3) := dk_154 0 29 (dk_at dksX6_limit_0 17 rfl rfl)
theorem dX6_limit_20 : decode cX6_limit 20 = .ok (.aload_n 0, 1) := dk_42 (dk_at dksX6_limit_0 20 rfl rfl)
theorem dX6_limit_21 : decode cX6_limit 21 = .ok (.getfield 31, 3) := dk_180 0 31 (dk_at dksX6_limit_0 21 rfl rfl)
theorem dX6_limit_24 : decode cX6_limit 24 = .ok (.iconst 3, 1) := dk_6 (dk_at dksX6_limit_1 0 rfl rfl)
theorem dX6_limit_25 : decode cX6_limit 25 = .ok (.iload_n 3, 1) := dk_29 (dk_at dksX6_limit_1 1 rfl rfl)
theorem dX6_limit_26 : decode cX6_limit 26 = .ok (.iastore, 1) := dk_79 (dk_at dksX6_limit_1 2 rfl rfl)
theorem dX6_limit_27 : decode cX6_limit 27 = .ok (.aload_n 0, 1) := dk_42 (dk_at dksX6_limit_1 3 rfl rfl)
theorem dX6_limit_28 : decode cX6_limit 28 = .ok (.invokevirtual 278, 3) := dk_182 1 22 (dk_at dksX6_limit_1 4 rfl rfl)
theorem dX6_limit_31 : decode cX6_limit 31 = .ok (.ifCond .eq 7, 3) := dk_153 0 7 (dk_at dksX6_limit_1 7 rfl rfl)
theorem dX6_limit_34 : decode cX6_limit 34 = .ok (.iload_n 3, 1) := dk_29 (dk_at dksX6_limit_1 10 rfl rfl)
theorem dX6_limit_35 : decode cX6_limit 35 = .ok (.goto 4, 3) := dk_167 0 4 (dk_at dksX6_limit_1 11 rfl rfl)
theorem dX6_limit_38 : decode cX6_limit 38 = .ok (.iconst 0, 1) := dk_3 (dk_at dksX6_limit_1 14 rfl rfl)
theorem dX6_limit_39 : decode cX6_limit 39 = .ok (.istore_n 2, 1) := dk_61 (dk_at dksX6_limit_1 15 rfl rfl)
theorem dX6_limit_40 : decode cX6_limit 40 = .ok (.iinc 3 (-1), 3) := dk_132 3 255 (dk_at dksX6_limit_1 16 rfl rfl)
theorem dX6_limit_43 : decode cX6_limit 43 = .ok (.goto (-31), 3) := dk_167 255 225 (dk_at dksX6_limit_1 19 rfl rfl)
theorem dX6_limit_46 : decode cX6_limit 46 = .ok (.aload_n 0, 1) := dk_42 (dk_at dksX6_limit_1 22 rfl rfl)
theorem dX6_limit_47 : decode cX6_limit 47 = .ok (.getfield 31, 3) := dk_180 0 31 (dk_at dksX6_limit_2 0 rfl rfl)
theorem dX6_limit_50 : decode cX6_limit 50 = .ok (.iconst 3, 1) := dk_6 (dk_at dksX6_limit_2 3 rfl rfl)
theorem dX6_limit_51 : decode cX6_limit 51 = .ok (.iload_n 1, 1) := dk_27 (dk_at dksX6_limit_2 4 rfl rfl)
theorem dX6_limit_52 : decode cX6_limit 52 = .ok (.iastore, 1) := dk_79 (dk_at dksX6_limit_2 5 rfl rfl)
theorem dX6_limit_53 : decode cX6_limit 53 = .ok (.iload_n 2, 1) := dk_28 (dk_at dksX6_limit_2 6 rfl rfl)
theorem dX6_limit_54 : decode cX6_limit 54 = .ok (.ireturn, 1) := dk_172 (dk_at dksX6_limit_2 7 rfl rfl)
def dkwX6_thinned_4 : List UInt8 := [182, 1, 134, 27, 153, 0, 7, 29, 167, 0, 4, 28, 172]
abbrev dktX6_thinned_4 : List UInt8 := dkwX6_thinned_4 ++ []
def dkwX6_thinned_3 : List UInt8 := [132, 2, 1, 29, 21, 5, 42, 180, 0, 31, 16, 7, 46, 104, 96, 62, 132, 4, 1, 167, 255, 177, 42]
abbrev dktX6_thinned_3 : List UInt8 := dkwX6_thinned_3 ++ dktX6_thinned_4
def dkwX6_thinned_2 : List UInt8 := [79, 42, 182, 1, 22, 154, 0, 18, 42, 180, 0, 31, 16, 10, 21, 4, 96, 21, 5, 79, 167, 0, 19]
abbrev dktX6_thinned_2 : List UInt8 := dkwX6_thinned_2 ++ dktX6_thinned_3
def dkwX6_thinned_1 : List UInt8 := [21, 4, 96, 46, 54, 5, 21, 5, 154, 0, 6, 167, 0, 52, 42, 180, 0, 31, 16, 10, 21, 4, 96, 3]
abbrev dktX6_thinned_1 : List UInt8 := dkwX6_thinned_1 ++ dktX6_thinned_2
def dkwX6_thinned_0 : List UInt8 := [42, 182, 1, 128, 3, 61, 3, 62, 3, 54, 4, 21, 4, 16, 24, 162, 0, 78, 42, 180, 0, 31, 16, 10]
abbrev dktX6_thinned_0 : List UInt8 := dkwX6_thinned_0 ++ dktX6_thinned_1
theorem dksX6_thinned_0 : cX6_thinned.data.toList.drop 0 = dktX6_thinned_0 := by decide +kernel
theorem dksX6_thinned_1 : cX6_thinned.data.toList.drop 24 = dktX6_thinned_1 := dk_seg dksX6_thinned_0 24 rfl rfl
theorem dksX6_thinned_2 : cX6_thinned.data.toList.drop 48 = dktX6_thinned_2 := dk_seg dksX6_thinned_1 24 rfl rfl
theorem dksX6_thinned_3 : cX6_thinned.data.toList.drop 71 = dktX6_thinned_3 := dk_seg dksX6_thinned_2 23 rfl rfl
theorem dksX6_thinned_4 : cX6_thinned.data.toList.drop 94 = dktX6_thinned_4 := dk_seg dksX6_thinned_3 23 rfl rfl
theorem dX6_thinned_0 : decode cX6_thinned 0 = .ok (.aload_n 0, 1) := dk_42 (dk_at dksX6_thinned_0 0 rfl rfl)
theorem dX6_thinned_1 : decode cX6_thinned 1 = .ok (.invokevirtual 384, 3) := dk_182 1 128 (dk_at dksX6_thinned_0 1 rfl rfl)
theorem dX6_thinned_4 : decode cX6_thinned 4 = .ok (.iconst 0, 1) := dk_3 (dk_at dksX6_thinned_0 4 rfl rfl)
theorem dX6_thinned_5 : decode cX6_thinned 5 = .ok (.istore_n 2, 1) := dk_61 (dk_at dksX6_thinned_0 5 rfl rfl)
theorem dX6_thinned_6 : decode cX6_thinned 6 = .ok (.iconst 0, 1) := dk_3 (dk_at dksX6_thinned_0 6 rfl rfl)
theorem dX6_thinned_7 : decode cX6_thinned 7 = .ok (.istore_n 3, 1) := dk_62 (dk_at dksX6_thinned_0 7 rfl rfl)
theorem dX6_thinned_8 : decode cX6_thinned 8 = .ok (.iconst 0, 1) := dk_3 (dk_at dksX6_thinned_0 8 rfl rfl)
theorem dX6_thinned_9 : decode cX6_thinned 9 = .ok (.istore 4, 2) := dk_54 4 (dk_at dksX6_thinned_0 9 rfl rfl)
theorem dX6_thinned_11 : decode cX6_thinned 11 = .ok (.iload 4, 2) := dk_21 4 (dk_at dksX6_thinned_0 11 rfl rfl)
theorem dX6_thinned_13 : decode cX6_thinned 13 = .ok (.bipush 24, 2) := dk_16 24 (dk_at dksX6_thinned_0 13 rfl rfl)
theorem dX6_thinned_15 : decode cX6_thinned 15 = .ok (.if_icmp .ge 78, 3) := dk_162 0 78 (dk_at dksX6_thinned_0 15 rfl rfl)
theorem dX6_thinned_18 : decode cX6_thinned 18 = .ok (.aload_n 0, 1) := dk_42 (dk_at dksX6_thinned_0 18 rfl rfl)
theorem dX6_thinned_19 : decode cX6_thinned 19 = .ok (.getfield 31, 3) := dk_180 0 31 (dk_at dksX6_thinned_0 19 rfl rfl)
theorem dX6_thinned_22 : decode cX6_thinned 22 = .ok (.bipush 10, 2) := dk_16 10 (dk_at dksX6_thinned_0 22 rfl rfl)
theorem dX6_thinned_24 : decode cX6_thinned 24 = .ok (.iload 4, 2) := dk_21 4 (dk_at dksX6_thinned_1 0 rfl rfl)
theorem dX6_thinned_26 : decode cX6_thinned 26 = .ok (.iadd, 1) := dk_96 (dk_at dksX6_thinned_1 2 rfl rfl)
theorem dX6_thinned_27 : decode cX6_thinned 27 = .ok (.iaload, 1) := dk_46 (dk_at dksX6_thinned_1 3 rfl rfl)
theorem dX6_thinned_28 : decode cX6_thinned 28 = .ok (.istore 5, 2) := dk_54 5 (dk_at dksX6_thinned_1 4 rfl rfl)
theorem dX6_thinned_30 : decode cX6_thinned 30 = .ok (.iload 5, 2) := dk_21 5 (dk_at dksX6_thinned_1 6 rfl rfl)
theorem dX6_thinned_32 : decode cX6_thinned 32 = .ok (.ifCond .ne 6, 3) := dk_154 0 6 (dk_at dksX6_thinned_1 8 rfl rfl)
theorem dX6_thinned_35 : decode cX6_thinned 35 = .ok (.goto 52, 3) := dk_167 0 52 (dk_at dksX6_thinned_1 11 rfl rfl)
theorem dX6_thinned_38 : decode cX6_thinned 38 = .ok (.aload_n 0, 1) := dk_42 (dk_at dksX6_thinned_1 14 rfl rfl)
theorem dX6_thinned_39 : decode cX6_thinned 39 = .ok (.getfield 31, 3) := dk_180 0 31 (dk_at dksX6_thinned_1 15 rfl rfl)
theorem dX6_thinned_42 : decode cX6_thinned 42 = .ok (.bipush 10, 2) := dk_16 10 (dk_at dksX6_thinned_1 18 rfl rfl)
theorem dX6_thinned_44 : decode cX6_thinned 44 = .ok (.iload 4, 2) := dk_21 4 (dk_at dksX6_thinned_1 20 rfl rfl)
theorem dX6_thinned_46 : decode cX6_thinned 46 = .ok (.iadd, 1) := dk_96 (dk_at dksX6_thinned_1 22 rfl rfl)
theorem dX6_thinned_47 : decode cX6_thinned 47 = .ok (.iconst 0, 1) := dk_3 (dk_at dksX6_thinned_1 23 rfl rfl)
theorem dX6_thinned_48 : decode cX6_thinned 48 = .ok (.iastore, 1) := dk_79 (dk_at dksX6_thinned_2 0 rfl rfl)
theorem dX6_thinned_49 : decode cX6_thinned 49 = .ok (.aload_n 0, 1) := dk_42 (dk_at dksX6_thinned_2 1 rfl rfl)
theorem dX6_thinned_50 : decode cX6_thinned 50 = .ok (.invokevirtual 278, 3) := dk_182 1 22 (dk_at dksX6_thinned_2 2 rfl rfl)
theorem dX6_thinned_53 : decode cX6_thinned 53 = .ok (.ifCond .ne 18, 3) := dk_154 0 18 (dk_at dksX6_thinned_2 5 rfl rfl)
theorem dX6_thinned_56 : decode cX6_thinned 56 = .ok (.aload_n 0, 1) := dk_42 (dk_at dksX6_thinned_2 8 rfl rfl)
theorem dX6_thinned_57 : decode cX6_thinned 57 = .ok (.getfield 31, 3) := dk_180 0 31 (dk_at dksX6_thinned_2 9 rfl rfl)
theorem dX6_thinned_60 : decode cX6_thinned 60 = .ok (.bipush 10, 2) := dk_16 10 (dk_at dksX6_thinned_2 12 rfl rfl)
theorem dX6_thinned_62 : decode cX6_thinned 62 = .ok (.iload 4, 2) := dk_21 4 (dk_at dksX6_thinned_2 14 rfl rfl)
theorem dX6_thinned_64 : decode cX6_thinned 64 = .ok (.iadd, 1) := dk_96 (dk_at dksX6_thinned_2 16 rfl rfl)
theorem dX6_thinned_65 : decode cX6_thinned 65 = .ok (.iload 5, 2) := dk_21 5 (dk_at dksX6_thinned_2 17 rfl rfl)
theorem dX6_thinned_67 : decode cX6_thinned 67 = .ok (.iastore, 1) := dk_79 (dk_at dksX6_thinned_2 19 rfl rfl)
theorem dX6_thinned_68 : decode cX6_thinned 68 = .ok (.goto 19, 3) := dk_167 0 19 (dk_at dksX6_thinned_2 20 rfl rfl)
theorem dX6_thinned_71 : decode cX6_thinned 71 = .ok (.iinc 2 1, 3) := dk_132 2 1 (dk_at dksX6_thinned_3 0 rfl rfl)
theorem dX6_thinned_74 : decode cX6_thinned 74 = .ok (.iload_n 3, 1) := dk_29 (dk_at dksX6_thinned_3 3 rfl rfl)
theorem dX6_thinned_75 : decode cX6_thinned 75 = .ok (.iload 5, 2) := dk_21 5 (dk_at dksX6_thinned_3 4 rfl rfl)
theorem dX6_thinned_77 : decode cX6_thinned 77 = .ok (.aload_n 0, 1) := dk_42 (dk_at dksX6_thinned_3 6 rfl rfl)
theorem dX6_thinned_78 : decode cX6_thinned 78 = .ok (.getfield 31, 3) := dk_180 0 31 (dk_at dksX6_thinned_3 7 rfl rfl)
theorem dX6_thinned_81 : decode cX6_thinned 81 = .ok (.bipush 7, 2) := dk_16 7 (dk_at dksX6_thinned_3 10 rfl rfl)
theorem dX6_thinned_83 : decode cX6_thinned 83 = .ok (.iaload, 1) := dk_46 (dk_at dksX6_thinned_3 12 rfl rfl)
theorem dX6_thinned_84 : decode cX6_thinned 84 = .ok (.imul, 1) := dk_104 (dk_at dksX6_thinned_3 13 rfl rfl)
theorem dX6_thinned_85 : decode cX6_thinned 85 = .ok (.iadd, 1) := dk_96 (dk_at dksX6_thinned_3 14 rfl rfl)
theorem dX6_thinned_86 : decode cX6_thinned 86 = .ok (.istore_n 3, 1) := dk_62 (dk_at dksX6_thinned_3 15 rfl rfl)
theorem dX6_thinned_87 : decode cX6_thinned 87 = .ok (.iinc 4 1, 3) := dk_132 4 1 (dk_at dksX6_thinned_3 16 rfl rfl)
theorem dX6_thinned_90 : decode cX6_thinned 90 = .ok (.goto (-79), 3) := dk_167 255 177 (dk_at dksX6_thinned_3 19 rfl rfl)
theorem dX6_thinned_93 : decode cX6_thinned 93 = .ok (.aload_n 0, 1) := dk_42 (dk_at dksX6_thinned_3 22 rfl rfl)
theorem dX6_thinned_94 : decode cX6_thinned 94 = .ok (.invokevirtual 390, 3) := dk_182 1 134 (dk_at dksX6_thinned_4 0 rfl rfl)
theorem dX6_thinned_97 : decode cX6_thinned 97 = .ok (.iload_n 1, 1) := dk_27 (dk_at dksX6_thinned_4 3 rfl rfl)
theorem dX6_thinned_98 : decode cX6_thinned 98 = .ok (.ifCond .eq 7, 3) := dk_153 0 7 (dk_at dksX6_thinned_4 4 rfl rfl)
theorem dX6_thinned_101 : decode cX6_thinned 101 = .ok (.iload_n 3, 1) := dk_29 (dk_at dksX6_thinned_4 7 rfl rfl)
theorem dX6_thinned_102 : decode cX6_thinned 102 = .ok (.goto 4, 3) := dk_167 0 4 (dk_at dksX6_thinned_4 8 rfl rfl)
theorem dX6_thinned_105 : decode cX6_thinned 105 = .ok (.iload_n 2, 1) := dk_28 (dk_at dksX6_thinned_4 11 rfl rfl)
theorem dX6_thinned_106 : decode cX6_thinned 106 = .ok (.ireturn, 1) := dk_172 (dk_at dksX6_thinned_4 12 rfl rfl)
def dkwX6_tries_1 : List UInt8 := [167, 255, 235, 177]
abbrev dktX6_tries_1 : List UInt8 := dkwX6_tries_1 ++ []
def dkwX6_tries_0 : List UInt8 := [3, 60, 27, 16, 46, 162, 0, 21, 42, 180, 0, 76, 27, 42, 180, 0, 31, 27, 46, 79, 132, 1, 1]
abbrev dktX6_tries_0 : List UInt8 := dkwX6_tries_0 ++ dktX6_tries_1
theorem dksX6_tries_0 : cX6_tries.data.toList.drop 0 = dktX6_tries_0 := by decide +kernel
theorem dksX6_tries_1 : cX6_tries.data.toList.drop 23 = dktX6_tries_1 := dk_seg dksX6_tries_0 23 rfl rfl
theorem dX6_tries_0 : decode cX6_tries 0 = .ok (.iconst 0, 1) := dk_3 (dk_at dksX6_tries_0 0 rfl rfl)
theorem dX6_tries_1 : decode cX6_tries 1 = .ok (.istore_n 1, 1) := dk_60 (dk_at dksX6_tries_0 1 rfl rfl)
theorem dX6_tries_2 : decode cX6_tries 2 = .ok (.iload_n 1, 1) := dk_27 (dk_at dksX6_tries_0 2 rfl rfl)
theorem dX6_tries_3 : decode cX6_tries 3 = .ok (.bipush 46, 2) := dk_16 46 (dk_at dksX6_tries_0 3 rfl rfl)
theorem dX6_tries_5 : decode cX6_tries 5 = .ok (.if_icmp .ge 21, 3) := dk_162 0 21 (dk_at dksX6_tries_0 5 rfl rfl)
theorem dX6_tries_8 : decode cX6_tries 8 = .ok (.aload_n 0, 1) := dk_42 (dk_at dksX6_tries_0 8 rfl rfl)
theorem dX6_tries_9 : decode cX6_tries 9 = .ok (.getfield 76, 3) := dk_180 0 76 (dk_at dksX6_tries_0 9 rfl rfl)
theorem dX6_tries_12 : decode cX6_tries 12 = .ok (.iload_n 1, 1) := dk_27 (dk_at dksX6_tries_0 12 rfl rfl)
theorem dX6_tries_13 : decode cX6_tries 13 = .ok (.aload_n 0, 1) := dk_42 (dk_at dksX6_tries_0 13 rfl rfl)
theorem dX6_tries_14 : decode cX6_tries 14 = .ok (.getfield 31, 3) := dk_180 0 31 (dk_at dksX6_tries_0 14 rfl rfl)
theorem dX6_tries_17 : decode cX6_tries 17 = .ok (.iload_n 1, 1) := dk_27 (dk_at dksX6_tries_0 17 rfl rfl)
theorem dX6_tries_18 : decode cX6_tries 18 = .ok (.iaload, 1) := dk_46 (dk_at dksX6_tries_0 18 rfl rfl)
theorem dX6_tries_19 : decode cX6_tries 19 = .ok (.iastore, 1) := dk_79 (dk_at dksX6_tries_0 19 rfl rfl)
theorem dX6_tries_20 : decode cX6_tries 20 = .ok (.iinc 1 1, 3) := dk_132 1 1 (dk_at dksX6_tries_0 20 rfl rfl)
theorem dX6_tries_23 : decode cX6_tries 23 = .ok (.goto (-21), 3) := dk_167 255 235 (dk_at dksX6_tries_1 0 rfl rfl)
theorem dX6_tries_26 : decode cX6_tries 26 = .ok (.return_, 1) := dk_177 (dk_at dksX6_tries_1 3 rfl rfl)
def dkwX6_laysBack_1 : List UInt8 := [167, 255, 235, 177]
abbrev dktX6_laysBack_1 : List UInt8 := dkwX6_laysBack_1 ++ []
def dkwX6_laysBack_0 : List UInt8 := [3, 60, 27, 16, 46, 162, 0, 21, 42, 180, 0, 31, 27, 42, 180, 0, 76, 27, 46, 79, 132, 1, 1]
abbrev dktX6_laysBack_0 : List UInt8 := dkwX6_laysBack_0 ++ dktX6_laysBack_1
theorem dksX6_laysBack_0 : cX6_laysBack.data.toList.drop 0 = dktX6_laysBack_0 := by decide +kernel
theorem dksX6_laysBack_1 : cX6_laysBack.data.toList.drop 23 = dktX6_laysBack_1 := dk_seg dksX6_laysBack_0 23 rfl rfl
theorem dX6_laysBack_0 : decode cX6_laysBack 0 = .ok (.iconst 0, 1) := dk_3 (dk_at dksX6_laysBack_0 0 rfl rfl)
theorem dX6_laysBack_1 : decode cX6_laysBack 1 = .ok (.istore_n 1, 1) := dk_60 (dk_at dksX6_laysBack_0 1 rfl rfl)
theorem dX6_laysBack_2 : decode cX6_laysBack 2 = .ok (.iload_n 1, 1) := dk_27 (dk_at dksX6_laysBack_0 2 rfl rfl)
theorem dX6_laysBack_3 : decode cX6_laysBack 3 = .ok (.bipush 46, 2) := dk_16 46 (dk_at dksX6_laysBack_0 3 rfl rfl)
theorem dX6_laysBack_5 : decode cX6_laysBack 5 = .ok (.if_icmp .ge 21, 3) := dk_162 0 21 (dk_at dksX6_laysBack_0 5 rfl rfl)
theorem dX6_laysBack_8 : decode cX6_laysBack 8 = .ok (.aload_n 0, 1) := dk_42 (dk_at dksX6_laysBack_0 8 rfl rfl)
theorem dX6_laysBack_9 : decode cX6_laysBack 9 = .ok (.getfield 31, 3) := dk_180 0 31 (dk_at dksX6_laysBack_0 9 rfl rfl)
theorem dX6_laysBack_12 : decode cX6_laysBack 12 = .ok (.iload_n 1, 1) := dk_27 (dk_at dksX6_laysBack_0 12 rfl rfl)
theorem dX6_laysBack_13 : decode cX6_laysBack 13 = .ok (.aload_n 0, 1) := dk_42 (dk_at dksX6_laysBack_0 13 rfl rfl)
theorem dX6_laysBack_14 : decode cX6_laysBack 14 = .ok (.getfield 76, 3) := dk_180 0 76 (dk_at dksX6_laysBack_0 14 rfl rfl)
theorem dX6_laysBack_17 : decode cX6_laysBack 17 = .ok (.iload_n 1, 1) := dk_27 (dk_at dksX6_laysBack_0 17 rfl rfl)
theorem dX6_laysBack_18 : decode cX6_laysBack 18 = .ok (.iaload, 1) := dk_46 (dk_at dksX6_laysBack_0 18 rfl rfl)
theorem dX6_laysBack_19 : decode cX6_laysBack 19 = .ok (.iastore, 1) := dk_79 (dk_at dksX6_laysBack_0 19 rfl rfl)
theorem dX6_laysBack_20 : decode cX6_laysBack 20 = .ok (.iinc 1 1, 3) := dk_132 1 1 (dk_at dksX6_laysBack_0 20 rfl rfl)
theorem dX6_laysBack_23 : decode cX6_laysBack 23 = .ok (.goto (-21), 3) := dk_167 255 235 (dk_at dksX6_laysBack_1 0 rfl rfl)
theorem dX6_laysBack_26 : decode cX6_laysBack 26 = .ok (.return_, 1) := dk_177 (dk_at dksX6_laysBack_1 3 rfl rfl)
def dkwX6_node_1 : List UInt8 := [28, 182, 0, 194, 167, 0, 8, 42, 4, 182, 0, 182, 172]
abbrev dktX6_node_1 : List UInt8 := dkwX6_node_1 ++ []
def dkwX6_node_0 : List UInt8 := [42, 3, 181, 0, 90, 42, 27, 182, 1, 48, 153, 0, 21, 28, 3, 5, 184, 1, 44, 153, 0, 12, 42, 27]
abbrev dktX6_node_0 : List UInt8 := dkwX6_node_0 ++ dktX6_node_1
theorem dksX6_node_0 : cX6_node.data.toList.drop 0 = dktX6_node_0 := by decide +kernel
theorem dksX6_node_1 : cX6_node.data.toList.drop 24 = dktX6_node_1 := dk_seg dksX6_node_0 24 rfl rfl
theorem dX6_node_0 : decode cX6_node 0 = .ok (.aload_n 0, 1) := dk_42 (dk_at dksX6_node_0 0 rfl rfl)
theorem dX6_node_1 : decode cX6_node 1 = .ok (.iconst 0, 1) := dk_3 (dk_at dksX6_node_0 1 rfl rfl)
theorem dX6_node_2 : decode cX6_node 2 = .ok (.putfield 90, 3) := dk_181 0 90 (dk_at dksX6_node_0 2 rfl rfl)
theorem dX6_node_5 : decode cX6_node 5 = .ok (.aload_n 0, 1) := dk_42 (dk_at dksX6_node_0 5 rfl rfl)
theorem dX6_node_6 : decode cX6_node 6 = .ok (.iload_n 1, 1) := dk_27 (dk_at dksX6_node_0 6 rfl rfl)
theorem dX6_node_7 : decode cX6_node 7 = .ok (.invokevirtual 304, 3) := dk_182 1 48 (dk_at dksX6_node_0 7 rfl rfl)
theorem dX6_node_10 : decode cX6_node 10 = .ok (.ifCond .eq 21, 3) := dk_153 0 21 (dk_at dksX6_node_0 10 rfl rfl)
theorem dX6_node_13 : decode cX6_node 13 = .ok (.iload_n 2, 1) := dk_28 (dk_at dksX6_node_0 13 rfl rfl)
theorem dX6_node_14 : decode cX6_node 14 = .ok (.iconst 0, 1) := dk_3 (dk_at dksX6_node_0 14 rfl rfl)
theorem dX6_node_15 : decode cX6_node 15 = .ok (.iconst 2, 1) := dk_5 (dk_at dksX6_node_0 15 rfl rfl)
theorem dX6_node_16 : decode cX6_node 16 = .ok (.invokestatic 300, 3) := dk_184 1 44 (dk_at dksX6_node_0 16 rfl rfl)
theorem dX6_node_19 : decode cX6_node 19 = .ok (.ifCond .eq 12, 3) := dk_153 0 12 (dk_at dksX6_node_0 19 rfl rfl)
theorem dX6_node_22 : decode cX6_node 22 = .ok (.aload_n 0, 1) := dk_42 (dk_at dksX6_node_0 22 rfl rfl)
theorem dX6_node_23 : decode cX6_node 23 = .ok (.iload_n 1, 1) := dk_27 (dk_at dksX6_node_0 23 rfl rfl)
theorem dX6_node_24 : decode cX6_node 24 = .ok (.iload_n 2, 1) := dk_28 (dk_at dksX6_node_1 0 rfl rfl)
theorem dX6_node_25 : decode cX6_node 25 = .ok (.invokevirtual 194, 3) := dk_182 0 194 (dk_at dksX6_node_1 1 rfl rfl)
theorem dX6_node_28 : decode cX6_node 28 = .ok (.goto 8, 3) := dk_167 0 8 (dk_at dksX6_node_1 4 rfl rfl)
theorem dX6_node_31 : decode cX6_node 31 = .ok (.aload_n 0, 1) := dk_42 (dk_at dksX6_node_1 7 rfl rfl)
theorem dX6_node_32 : decode cX6_node 32 = .ok (.iconst 1, 1) := dk_4 (dk_at dksX6_node_1 8 rfl rfl)
theorem dX6_node_33 : decode cX6_node 33 = .ok (.invokevirtual 182, 3) := dk_182 0 182 (dk_at dksX6_node_1 9 rfl rfl)
theorem dX6_node_36 : decode cX6_node 36 = .ok (.ireturn, 1) := dk_172 (dk_at dksX6_node_1 12 rfl rfl)
def dkwX6_isNode_0 : List UInt8 := [27, 3, 42, 180, 0, 31, 184, 0, 190, 4, 100, 184, 1, 44, 172]
abbrev dktX6_isNode_0 : List UInt8 := dkwX6_isNode_0 ++ []
theorem dksX6_isNode_0 : cX6_isNode.data.toList.drop 0 = dktX6_isNode_0 := by decide +kernel
theorem dX6_isNode_0 : decode cX6_isNode 0 = .ok (.iload_n 1, 1) := dk_27 (dk_at dksX6_isNode_0 0 rfl rfl)
theorem dX6_isNode_1 : decode cX6_isNode 1 = .ok (.iconst 0, 1) := dk_3 (dk_at dksX6_isNode_0 1 rfl rfl)
theorem dX6_isNode_2 : decode cX6_isNode 2 = .ok (.aload_n 0, 1) := dk_42 (dk_at dksX6_isNode_0 2 rfl rfl)
theorem dX6_isNode_3 : decode cX6_isNode 3 = .ok (.getfield 31, 3) := dk_180 0 31 (dk_at dksX6_isNode_0 3 rfl rfl)
theorem dX6_isNode_6 : decode cX6_isNode 6 = .ok (.invokestatic 190, 3) := dk_184 0 190 (dk_at dksX6_isNode_0 6 rfl rfl)
theorem dX6_isNode_9 : decode cX6_isNode 9 = .ok (.iconst 1, 1) := dk_4 (dk_at dksX6_isNode_0 9 rfl rfl)
theorem dX6_isNode_10 : decode cX6_isNode 10 = .ok (.isub, 1) := dk_100 (dk_at dksX6_isNode_0 10 rfl rfl)
theorem dX6_isNode_11 : decode cX6_isNode 11 = .ok (.invokestatic 300, 3) := dk_184 1 44 (dk_at dksX6_isNode_0 11 rfl rfl)
theorem dX6_isNode_14 : decode cX6_isNode 14 = .ok (.ireturn, 1) := dk_172 (dk_at dksX6_isNode_0 14 rfl rfl)
def dkwX6_isIn_0 : List UInt8 := [26, 27, 161, 0, 12, 26, 28, 163, 0, 7, 4, 167, 0, 4, 3, 172]
abbrev dktX6_isIn_0 : List UInt8 := dkwX6_isIn_0 ++ []
theorem dksX6_isIn_0 : cX6_isIn.data.toList.drop 0 = dktX6_isIn_0 := by decide +kernel
theorem dX6_isIn_0 : decode cX6_isIn 0 = .ok (.iload_n 0, 1) := dk_26 (dk_at dksX6_isIn_0 0 rfl rfl)
theorem dX6_isIn_1 : decode cX6_isIn 1 = .ok (.iload_n 1, 1) := dk_27 (dk_at dksX6_isIn_0 1 rfl rfl)
theorem dX6_isIn_2 : decode cX6_isIn 2 = .ok (.if_icmp .lt 12, 3) := dk_161 0 12 (dk_at dksX6_isIn_0 2 rfl rfl)
theorem dX6_isIn_5 : decode cX6_isIn 5 = .ok (.iload_n 0, 1) := dk_26 (dk_at dksX6_isIn_0 5 rfl rfl)
theorem dX6_isIn_6 : decode cX6_isIn 6 = .ok (.iload_n 2, 1) := dk_28 (dk_at dksX6_isIn_0 6 rfl rfl)
theorem dX6_isIn_7 : decode cX6_isIn 7 = .ok (.if_icmp .gt 7, 3) := dk_163 0 7 (dk_at dksX6_isIn_0 7 rfl rfl)
theorem dX6_isIn_10 : decode cX6_isIn 10 = .ok (.iconst 1, 1) := dk_4 (dk_at dksX6_isIn_0 10 rfl rfl)
theorem dX6_isIn_11 : decode cX6_isIn 11 = .ok (.goto 4, 3) := dk_167 0 4 (dk_at dksX6_isIn_0 11 rfl rfl)
theorem dX6_isIn_14 : decode cX6_isIn 14 = .ok (.iconst 0, 1) := dk_3 (dk_at dksX6_isIn_0 14 rfl rfl)
theorem dX6_isIn_15 : decode cX6_isIn 15 = .ok (.ireturn, 1) := dk_172 (dk_at dksX6_isIn_0 15 rfl rfl)
def dkwX6_at_7 : List UInt8 := [22, 4, 105, 42, 180, 0, 233, 29, 184, 1, 51, 173]
abbrev dktX6_at_7 : List UInt8 := dkwX6_at_7 ++ []
def dkwX6_at_6 : List UInt8 := [6, 160, 0, 15, 22, 4, 42, 27, 5, 182, 0, 194, 133, 105, 55, 4, 42, 180, 0, 31, 6, 46, 133]
abbrev dktX6_at_6 : List UInt8 := dkwX6_at_6 ++ dktX6_at_7
def dkwX6_at_5 : List UInt8 := [182, 0, 194, 133, 22, 4, 42, 180, 0, 55, 42, 27, 28, 4, 100, 182, 0, 197, 47, 101, 105, 55, 4, 28]
abbrev dktX6_at_5 : List UInt8 := dkwX6_at_5 ++ dktX6_at_6
def dkwX6_at_4 : List UInt8 := [5, 160, 0, 46, 42, 27, 28, 4, 100, 182, 0, 194, 154, 0, 7, 9, 167, 0, 29, 42, 27, 28, 4, 100]
abbrev dktX6_at_4 : List UInt8 := dkwX6_at_4 ++ dktX6_at_5
def dkwX6_at_3 : List UInt8 := [154, 0, 10, 42, 5, 182, 0, 182, 133, 173, 42, 180, 0, 55, 27, 47, 55, 4, 28, 4, 159, 0, 8, 28]
abbrev dktX6_at_3 : List UInt8 := dkwX6_at_3 ++ dktX6_at_4
def dkwX6_at_2 : List UInt8 := [47, 42, 180, 0, 233, 29, 184, 1, 51, 167, 0, 9, 42, 5, 182, 0, 182, 133, 173, 42, 182, 1, 18]
abbrev dktX6_at_2 : List UInt8 := dkwX6_at_2 ++ dktX6_at_3
def dkwX6_at_1 : List UInt8 := [182, 0, 182, 133, 173, 28, 7, 160, 0, 36, 42, 27, 2, 182, 1, 11, 153, 0, 20, 42, 180, 0, 55, 27]
abbrev dktX6_at_1 : List UInt8 := dkwX6_at_1 ++ dktX6_at_2
def dkwX6_at_0 : List UInt8 := [42, 3, 181, 0, 90, 42, 27, 182, 1, 48, 153, 0, 12, 28, 3, 7, 184, 1, 44, 154, 0, 10, 42, 4]
abbrev dktX6_at_0 : List UInt8 := dkwX6_at_0 ++ dktX6_at_1
theorem dksX6_at_0 : cX6_at.data.toList.drop 0 = dktX6_at_0 := by decide +kernel
theorem dksX6_at_1 : cX6_at.data.toList.drop 24 = dktX6_at_1 := dk_seg dksX6_at_0 24 rfl rfl
theorem dksX6_at_2 : cX6_at.data.toList.drop 48 = dktX6_at_2 := dk_seg dksX6_at_1 24 rfl rfl
theorem dksX6_at_3 : cX6_at.data.toList.drop 71 = dktX6_at_3 := dk_seg dksX6_at_2 23 rfl rfl
theorem dksX6_at_4 : cX6_at.data.toList.drop 95 = dktX6_at_4 := dk_seg dksX6_at_3 24 rfl rfl
theorem dksX6_at_5 : cX6_at.data.toList.drop 119 = dktX6_at_5 := dk_seg dksX6_at_4 24 rfl rfl
theorem dksX6_at_6 : cX6_at.data.toList.drop 143 = dktX6_at_6 := dk_seg dksX6_at_5 24 rfl rfl
theorem dksX6_at_7 : cX6_at.data.toList.drop 166 = dktX6_at_7 := dk_seg dksX6_at_6 23 rfl rfl
theorem dX6_at_0 : decode cX6_at 0 = .ok (.aload_n 0, 1) := dk_42 (dk_at dksX6_at_0 0 rfl rfl)
theorem dX6_at_1 : decode cX6_at 1 = .ok (.iconst 0, 1) := dk_3 (dk_at dksX6_at_0 1 rfl rfl)
theorem dX6_at_2 : decode cX6_at 2 = .ok (.putfield 90, 3) := dk_181 0 90 (dk_at dksX6_at_0 2 rfl rfl)
theorem dX6_at_5 : decode cX6_at 5 = .ok (.aload_n 0, 1) := dk_42 (dk_at dksX6_at_0 5 rfl rfl)
theorem dX6_at_6 : decode cX6_at 6 = .ok (.iload_n 1, 1) := dk_27 (dk_at dksX6_at_0 6 rfl rfl)
theorem dX6_at_7 : decode cX6_at 7 = .ok (.invokevirtual 304, 3) := dk_182 1 48 (dk_at dksX6_at_0 7 rfl rfl)
theorem dX6_at_10 : decode cX6_at 10 = .ok (.ifCond .eq 12, 3) := dk_153 0 12 (dk_at dksX6_at_0 10 rfl rfl)
theorem dX6_at_13 : decode cX6_at 13 = .ok (.iload_n 2, 1) := dk_28 (dk_at dksX6_at_0 13 rfl rfl)
theorem dX6_at_14 : decode cX6_at 14 = .ok (.iconst 0, 1) := dk_3 (dk_at dksX6_at_0 14 rfl rfl)
theorem dX6_at_15 : decode cX6_at 15 = .ok (.iconst 4, 1) := dk_7 (dk_at dksX6_at_0 15 rfl rfl)
theorem dX6_at_16 : decode cX6_at 16 = .ok (.invokestatic 300, 3) := dk_184 1 44 (dk_at dksX6_at_0 16 rfl rfl)
theorem dX6_at_19 : decode cX6_at 19 = .ok (.ifCond .ne 10, 3) := dk_154 0 10 (dk_at dksX6_at_0 19 rfl rfl)
theorem dX6_at_22 : decode cX6_at 22 = .ok (.aload_n 0, 1) := dk_42 (dk_at dksX6_at_0 22 rfl rfl)
theorem dX6_at_23 : decode cX6_at 23 = .ok (.iconst 1, 1) := dk_4 (dk_at dksX6_at_0 23 rfl rfl)
theorem dX6_at_24 : decode cX6_at 24 = .ok (.invokevirtual 182, 3) := dk_182 0 182 (dk_at dksX6_at_1 0 rfl rfl)
theorem dX6_at_27 : decode cX6_at 27 = .ok (.i2l, 1) := dk_133 (dk_at dksX6_at_1 3 rfl rfl)
theorem dX6_at_28 : decode cX6_at 28 = .ok (.lreturn, 1) := dk_173 (dk_at dksX6_at_1 4 rfl rfl)
theorem dX6_at_29 : decode cX6_at 29 = .ok (.iload_n 2, 1) := dk_28 (dk_at dksX6_at_1 5 rfl rfl)
theorem dX6_at_30 : decode cX6_at 30 = .ok (.iconst 4, 1) := dk_7 (dk_at dksX6_at_1 6 rfl rfl)
theorem dX6_at_31 : decode cX6_at 31 = .ok (.if_icmp .ne 36, 3) := dk_160 0 36 (dk_at dksX6_at_1 7 rfl rfl)
theorem dX6_at_34 : decode cX6_at 34 = .ok (.aload_n 0, 1) := dk_42 (dk_at dksX6_at_1 10 rfl rfl)
theorem dX6_at_35 : decode cX6_at 35 = .ok (.iload_n 1, 1) := dk_27 (dk_at dksX6_at_1 11 rfl rfl)
theorem dX6_at_36 : decode cX6_at 36 = .ok (.iconst (-1), 1) := dk_2 (dk_at dksX6_at_1 12 rfl rfl)
theorem dX6_at_37 : decode cX6_at 37 = .ok (.invokevirtual 267, 3) := dk_182 1 11 (dk_at dksX6_at_1 13 rfl rfl)
theorem dX6_at_40 : decode cX6_at 40 = .ok (.ifCond .eq 20, 3) := dk_153 0 20 (dk_at dksX6_at_1 16 rfl rfl)
theorem dX6_at_43 : decode cX6_at 43 = .ok (.aload_n 0, 1) := dk_42 (dk_at dksX6_at_1 19 rfl rfl)
theorem dX6_at_44 : decode cX6_at 44 = .ok (.getfield 55, 3) := dk_180 0 55 (dk_at dksX6_at_1 20 rfl rfl)
theorem dX6_at_47 : decode cX6_at 47 = .ok (.iload_n 1, 1) := dk_27 (dk_at dksX6_at_1 23 rfl rfl)
theorem dX6_at_48 : decode cX6_at 48 = .ok (.laload, 1) := dk_47 (dk_at dksX6_at_2 0 rfl rfl)
theorem dX6_at_49 : decode cX6_at 49 = .ok (.aload_n 0, 1) := dk_42 (dk_at dksX6_at_2 1 rfl rfl)
theorem dX6_at_50 : decode cX6_at 50 = .ok (.getfield 233, 3) := dk_180 0 233 (dk_at dksX6_at_2 2 rfl rfl)
theorem dX6_at_53 : decode cX6_at 53 = .ok (.iload_n 3, 1) := dk_29 (dk_at dksX6_at_2 5 rfl rfl)
theorem dX6_at_54 : decode cX6_at 54 = .ok (.invokestatic 307, 3) := dk_184 1 51 (dk_at dksX6_at_2 6 rfl rfl)
theorem dX6_at_57 : decode cX6_at 57 = .ok (.goto 9, 3) := dk_167 0 9 (dk_at dksX6_at_2 9 rfl rfl)
theorem dX6_at_60 : decode cX6_at 60 = .ok (.aload_n 0, 1) := dk_42 (dk_at dksX6_at_2 12 rfl rfl)
theorem dX6_at_61 : decode cX6_at 61 = .ok (.iconst 2, 1) := dk_5 (dk_at dksX6_at_2 13 rfl rfl)
theorem dX6_at_62 : decode cX6_at 62 = .ok (.invokevirtual 182, 3) := dk_182 0 182 (dk_at dksX6_at_2 14 rfl rfl)
theorem dX6_at_65 : decode cX6_at 65 = .ok (.i2l, 1) := dk_133 (dk_at dksX6_at_2 17 rfl rfl)
theorem dX6_at_66 : decode cX6_at 66 = .ok (.lreturn, 1) := dk_173 (dk_at dksX6_at_2 18 rfl rfl)
theorem dX6_at_67 : decode cX6_at 67 = .ok (.aload_n 0, 1) := dk_42 (dk_at dksX6_at_2 19 rfl rfl)
theorem dX6_at_68 : decode cX6_at 68 = .ok (.invokevirtual 274, 3) := dk_182 1 18 (dk_at dksX6_at_2 20 rfl rfl)
theorem dX6_at_71 : decode cX6_at 71 = .ok (.ifCond .ne 10, 3) := dk_154 0 10 (dk_at dksX6_at_3 0 rfl rfl)
theorem dX6_at_74 : decode cX6_at 74 = .ok (.aload_n 0, 1) := dk_42 (dk_at dksX6_at_3 3 rfl rfl)
theorem dX6_at_75 : decode cX6_at 75 = .ok (.iconst 2, 1) := dk_5 (dk_at dksX6_at_3 4 rfl rfl)
theorem dX6_at_76 : decode cX6_at 76 = .ok (.invokevirtual 182, 3) := dk_182 0 182 (dk_at dksX6_at_3 5 rfl rfl)
theorem dX6_at_79 : decode cX6_at 79 = .ok (.i2l, 1) := dk_133 (dk_at dksX6_at_3 8 rfl rfl)
theorem dX6_at_80 : decode cX6_at 80 = .ok (.lreturn, 1) := dk_173 (dk_at dksX6_at_3 9 rfl rfl)
theorem dX6_at_81 : decode cX6_at 81 = .ok (.aload_n 0, 1) := dk_42 (dk_at dksX6_at_3 10 rfl rfl)
theorem dX6_at_82 : decode cX6_at 82 = .ok (.getfield 55, 3) := dk_180 0 55 (dk_at dksX6_at_3 11 rfl rfl)
theorem dX6_at_85 : decode cX6_at 85 = .ok (.iload_n 1, 1) := dk_27 (dk_at dksX6_at_3 14 rfl rfl)
theorem dX6_at_86 : decode cX6_at 86 = .ok (.laload, 1) := dk_47 (dk_at dksX6_at_3 15 rfl rfl)
theorem dX6_at_87 : decode cX6_at 87 = .ok (.lstore 4, 2) := dk_55 4 (dk_at dksX6_at_3 16 rfl rfl)
theorem dX6_at_89 : decode cX6_at 89 = .ok (.iload_n 2, 1) := dk_28 (dk_at dksX6_at_3 18 rfl rfl)
theorem dX6_at_90 : decode cX6_at 90 = .ok (.iconst 1, 1) := dk_4 (dk_at dksX6_at_3 19 rfl rfl)
theorem dX6_at_91 : decode cX6_at 91 = .ok (.if_icmp .eq 8, 3) := dk_159 0 8 (dk_at dksX6_at_3 20 rfl rfl)
theorem dX6_at_94 : decode cX6_at 94 = .ok (.iload_n 2, 1) := dk_28 (dk_at dksX6_at_3 23 rfl rfl)
theorem dX6_at_95 : decode cX6_at 95 = .ok (.iconst 2, 1) := dk_5 (dk_at dksX6_at_4 0 rfl rfl)
theorem dX6_at_96 : decode cX6_at 96 = .ok (.if_icmp .ne 46, 3) := dk_160 0 46 (dk_at dksX6_at_4 1 rfl rfl)
theorem dX6_at_99 : decode cX6_at 99 = .ok (.aload_n 0, 1) := dk_42 (dk_at dksX6_at_4 4 rfl rfl)
theorem dX6_at_100 : decode cX6_at 100 = .ok (.iload_n 1, 1) := dk_27 (dk_at dksX6_at_4 5 rfl rfl)
theorem dX6_at_101 : decode cX6_at 101 = .ok (.iload_n 2, 1) := dk_28 (dk_at dksX6_at_4 6 rfl rfl)
theorem dX6_at_102 : decode cX6_at 102 = .ok (.iconst 1, 1) := dk_4 (dk_at dksX6_at_4 7 rfl rfl)
theorem dX6_at_103 : decode cX6_at 103 = .ok (.isub, 1) := dk_100 (dk_at dksX6_at_4 8 rfl rfl)
theorem dX6_at_104 : decode cX6_at 104 = .ok (.invokevirtual 194, 3) := dk_182 0 194 (dk_at dksX6_at_4 9 rfl rfl)
theorem dX6_at_107 : decode cX6_at 107 = .ok (.ifCond .ne 7, 3) := dk_154 0 7 (dk_at dksX6_at_4 12 rfl rfl)
theorem dX6_at_110 : decode cX6_at 110 = .ok (.lconst 0, 1) := dk_9 (dk_at dksX6_at_4 15 rfl rfl)
theorem dX6_at_111 : decode cX6_at 111 = .ok (.goto 29, 3) := dk_167 0 29 (dk_at dksX6_at_4 16 rfl rfl)
theorem dX6_at_114 : decode cX6_at 114 = .ok (.aload_n 0, 1) := dk_42 (dk_at dksX6_at_4 19 rfl rfl)
theorem dX6_at_115 : decode cX6_at 115 = .ok (.iload_n 1, 1) := dk_27 (dk_at dksX6_at_4 20 rfl rfl)
theorem dX6_at_116 : decode cX6_at 116 = .ok (.iload_n 2, 1) := dk_28 (dk_at dksX6_at_4 21 rfl rfl)
theorem dX6_at_117 : decode cX6_at 117 = .ok (.iconst 1, 1) := dk_4 (dk_at dksX6_at_4 22 rfl rfl)
theorem dX6_at_118 : decode cX6_at 118 = .ok (.isub, 1) := dk_100 (dk_at dksX6_at_4 23 rfl rfl)
theorem dX6_at_119 : decode cX6_at 119 = .ok (.invokevirtual 194, 3) := dk_182 0 194 (dk_at dksX6_at_5 0 rfl rfl)
theorem dX6_at_122 : decode cX6_at 122 = .ok (.i2l, 1) := dk_133 (dk_at dksX6_at_5 3 rfl rfl)
theorem dX6_at_123 : decode cX6_at 123 = .ok (.lload 4, 2) := dk_22 4 (dk_at dksX6_at_5 4 rfl rfl)
theorem dX6_at_125 : decode cX6_at 125 = .ok (.aload_n 0, 1) := dk_42 (dk_at dksX6_at_5 6 rfl rfl)
theorem dX6_at_126 : decode cX6_at 126 = .ok (.getfield 55, 3) := dk_180 0 55 (dk_at dksX6_at_5 7 rfl rfl)
theorem dX6_at_129 : decode cX6_at 129 = .ok (.aload_n 0, 1) := dk_42 (dk_at dksX6_at_5 10 rfl rfl)
theorem dX6_at_130 : decode cX6_at 130 = .ok (.iload_n 1, 1) := dk_27 (dk_at dksX6_at_5 11 rfl rfl)
theorem dX6_at_131 : decode cX6_at 131 = .ok (.iload_n 2, 1) := dk_28 (dk_at dksX6_at_5 12 rfl rfl)
theorem dX6_at_132 : decode cX6_at 132 = .ok (.iconst 1, 1) := dk_4 (dk_at dksX6_at_5 13 rfl rfl)
theorem dX6_at_133 : decode cX6_at 133 = .ok (.isub, 1) := dk_100 (dk_at dksX6_at_5 14 rfl rfl)
theorem dX6_at_134 : decode cX6_at 134 = .ok (.invokevirtual 197, 3) := dk_182 0 197 (dk_at dksX6_at_5 15 rfl rfl)
theorem dX6_at_137 : decode cX6_at 137 = .ok (.laload, 1) := dk_47 (dk_at dksX6_at_5 18 rfl rfl)
theorem dX6_at_138 : decode cX6_at 138 = .ok (.lsub, 1) := dk_101 (dk_at dksX6_at_5 19 rfl rfl)
theorem dX6_at_139 : decode cX6_at 139 = .ok (.lmul, 1) := dk_105 (dk_at dksX6_at_5 20 rfl rfl)
theorem dX6_at_140 : decode cX6_at 140 = .ok (.lstore 4, 2) := dk_55 4 (dk_at dksX6_at_5 21 rfl rfl)
theorem dX6_at_142 : decode cX6_at 142 = .ok (.iload_n 2, 1) := dk_28 (dk_at dksX6_at_5 23 rfl rfl)
theorem dX6_at_143 : decode cX6_at 143 = .ok (.iconst 3, 1) := dk_6 (dk_at dksX6_at_6 0 rfl rfl)
theorem dX6_at_144 : decode cX6_at 144 = .ok (.if_icmp .ne 15, 3) := dk_160 0 15 (dk_at dksX6_at_6 1 rfl rfl)
theorem dX6_at_147 : decode cX6_at 147 = .ok (.lload 4, 2) := dk_22 4 (dk_at dksX6_at_6 4 rfl rfl)
theorem dX6_at_149 : decode cX6_at 149 = .ok (.aload_n 0, 1) := dk_42 (dk_at dksX6_at_6 6 rfl rfl)
theorem dX6_at_150 : decode cX6_at 150 = .ok (.iload_n 1, 1) := dk_27 (dk_at dksX6_at_6 7 rfl rfl)
theorem dX6_at_151 : decode cX6_at 151 = .ok (.iconst 2, 1) := dk_5 (dk_at dksX6_at_6 8 rfl rfl)
theorem dX6_at_152 : decode cX6_at 152 = .ok (.invokevirtual 194, 3) := dk_182 0 194 (dk_at dksX6_at_6 9 rfl rfl)
theorem dX6_at_155 : decode cX6_at 155 = .ok (.i2l, 1) := dk_133 (dk_at dksX6_at_6 12 rfl rfl)
theorem dX6_at_156 : decode cX6_at 156 = .ok (.lmul, 1) := dk_105 (dk_at dksX6_at_6 13 rfl rfl)
theorem dX6_at_157 : decode cX6_at 157 = .ok (.lstore 4, 2) := dk_55 4 (dk_at dksX6_at_6 14 rfl rfl)
theorem dX6_at_159 : decode cX6_at 159 = .ok (.aload_n 0, 1) := dk_42 (dk_at dksX6_at_6 16 rfl rfl)
theorem dX6_at_160 : decode cX6_at 160 = .ok (.getfield 31, 3) := dk_180 0 31 (dk_at dksX6_at_6 17 rfl rfl)
theorem dX6_at_163 : decode cX6_at 163 = .ok (.iconst 3, 1) := dk_6 (dk_at dksX6_at_6 20 rfl rfl)
theorem dX6_at_164 : decode cX6_at 164 = .ok (.iaload, 1) := dk_46 (dk_at dksX6_at_6 21 rfl rfl)
theorem dX6_at_165 : decode cX6_at 165 = .ok (.i2l, 1) := dk_133 (dk_at dksX6_at_6 22 rfl rfl)
theorem dX6_at_166 : decode cX6_at 166 = .ok (.lload 4, 2) := dk_22 4 (dk_at dksX6_at_7 0 rfl rfl)
theorem dX6_at_168 : decode cX6_at 168 = .ok (.lmul, 1) := dk_105 (dk_at dksX6_at_7 2 rfl rfl)
theorem dX6_at_169 : decode cX6_at 169 = .ok (.aload_n 0, 1) := dk_42 (dk_at dksX6_at_7 3 rfl rfl)
theorem dX6_at_170 : decode cX6_at 170 = .ok (.getfield 233, 3) := dk_180 0 233 (dk_at dksX6_at_7 4 rfl rfl)
theorem dX6_at_173 : decode cX6_at 173 = .ok (.iload_n 3, 1) := dk_29 (dk_at dksX6_at_7 7 rfl rfl)
theorem dX6_at_174 : decode cX6_at 174 = .ok (.invokestatic 307, 3) := dk_184 1 51 (dk_at dksX6_at_7 8 rfl rfl)
theorem dX6_at_177 : decode cX6_at 177 = .ok (.lreturn, 1) := dk_173 (dk_at dksX6_at_7 11 rfl rfl)
def dkwX6_side_0 : List UInt8 := [30, 32, 184, 1, 15, 55, 5, 21, 4, 153, 0, 10, 32, 22, 5, 109, 167, 0, 7, 30, 22, 5, 109, 173]
abbrev dktX6_side_0 : List UInt8 := dkwX6_side_0 ++ []
theorem dksX6_side_0 : cX6_side.data.toList.drop 0 = dktX6_side_0 := by decide +kernel
theorem dX6_side_0 : decode cX6_side 0 = .ok (.lload_n 0, 1) := dk_30 (dk_at dksX6_side_0 0 rfl rfl)
theorem dX6_side_1 : decode cX6_side 1 = .ok (.lload_n 2, 1) := dk_32 (dk_at dksX6_side_0 1 rfl rfl)
theorem dX6_side_2 : decode cX6_side 2 = .ok (.invokestatic 271, 3) := dk_184 1 15 (dk_at dksX6_side_0 2 rfl rfl)
theorem dX6_side_5 : decode cX6_side 5 = .ok (.lstore 5, 2) := dk_55 5 (dk_at dksX6_side_0 5 rfl rfl)
theorem dX6_side_7 : decode cX6_side 7 = .ok (.iload 4, 2) := dk_21 4 (dk_at dksX6_side_0 7 rfl rfl)
theorem dX6_side_9 : decode cX6_side 9 = .ok (.ifCond .eq 10, 3) := dk_153 0 10 (dk_at dksX6_side_0 9 rfl rfl)
theorem dX6_side_12 : decode cX6_side 12 = .ok (.lload_n 2, 1) := dk_32 (dk_at dksX6_side_0 12 rfl rfl)
theorem dX6_side_13 : decode cX6_side 13 = .ok (.lload 5, 2) := dk_22 5 (dk_at dksX6_side_0 13 rfl rfl)
theorem dX6_side_15 : decode cX6_side 15 = .ok (.ldiv, 1) := dk_109 (dk_at dksX6_side_0 15 rfl rfl)
theorem dX6_side_16 : decode cX6_side 16 = .ok (.goto 7, 3) := dk_167 0 7 (dk_at dksX6_side_0 16 rfl rfl)
theorem dX6_side_19 : decode cX6_side 19 = .ok (.lload_n 0, 1) := dk_30 (dk_at dksX6_side_0 19 rfl rfl)
theorem dX6_side_20 : decode cX6_side 20 = .ok (.lload 5, 2) := dk_22 5 (dk_at dksX6_side_0 20 rfl rfl)
theorem dX6_side_22 : decode cX6_side 22 = .ok (.ldiv, 1) := dk_109 (dk_at dksX6_side_0 22 rfl rfl)
theorem dX6_side_23 : decode cX6_side 23 = .ok (.lreturn, 1) := dk_173 (dk_at dksX6_side_0 23 rfl rfl)
def dkwX6_common_1 : List UInt8 := [22, 4, 22, 6, 113, 55, 8, 22, 6, 55, 4, 22, 8, 55, 6, 167, 255, 234, 22, 4, 173]
abbrev dktX6_common_1 : List UInt8 := dkwX6_common_1 ++ []
def dkwX6_common_0 : List UInt8 := [30, 9, 148, 156, 0, 8, 30, 117, 167, 0, 4, 30, 55, 4, 32, 55, 6, 22, 6, 9, 148, 153, 0, 21]
abbrev dktX6_common_0 : List UInt8 := dkwX6_common_0 ++ dktX6_common_1
theorem dksX6_common_0 : cX6_common.data.toList.drop 0 = dktX6_common_0 := by decide +kernel
theorem dksX6_common_1 : cX6_common.data.toList.drop 24 = dktX6_common_1 := dk_seg dksX6_common_0 24 rfl rfl
theorem dX6_common_0 : decode cX6_common 0 = .ok (.lload_n 0, 1) := dk_30 (dk_at dksX6_common_0 0 rfl rfl)
theorem dX6_common_1 : decode cX6_common 1 = .ok (.lconst 0, 1) := dk_9 (dk_at dksX6_common_0 1 rfl rfl)
theorem dX6_common_2 : decode cX6_common 2 = .ok (.lcmp, 1) := dk_148 (dk_at dksX6_common_0 2 rfl rfl)
theorem dX6_common_3 : decode cX6_common 3 = .ok (.ifCond .ge 8, 3) := dk_156 0 8 (dk_at dksX6_common_0 3 rfl rfl)
theorem dX6_common_6 : decode cX6_common 6 = .ok (.lload_n 0, 1) := dk_30 (dk_at dksX6_common_0 6 rfl rfl)
theorem dX6_common_7 : decode cX6_common 7 = .ok (.lneg, 1) := dk_117 (dk_at dksX6_common_0 7 rfl rfl)
theorem dX6_common_8 : decode cX6_common 8 = .ok (.goto 4, 3) := dk_167 0 4 (dk_at dksX6_common_0 8 rfl rfl)
theorem dX6_common_11 : decode cX6_common 11 = .ok (.lload_n 0, 1) := dk_30 (dk_at dksX6_common_0 11 rfl rfl)
theorem dX6_common_12 : decode cX6_common 12 = .ok (.lstore 4, 2) := dk_55 4 (dk_at dksX6_common_0 12 rfl rfl)
theorem dX6_common_14 : decode cX6_common 14 = .ok (.lload_n 2, 1) := dk_32 (dk_at dksX6_common_0 14 rfl rfl)
theorem dX6_common_15 : decode cX6_common 15 = .ok (.lstore 6, 2) := dk_55 6 (dk_at dksX6_common_0 15 rfl rfl)
theorem dX6_common_17 : decode cX6_common 17 = .ok (.lload 6, 2) := dk_22 6 (dk_at dksX6_common_0 17 rfl rfl)
theorem dX6_common_19 : decode cX6_common 19 = .ok (.lconst 0, 1) := dk_9 (dk_at dksX6_common_0 19 rfl rfl)
theorem dX6_common_20 : decode cX6_common 20 = .ok (.lcmp, 1) := dk_148 (dk_at dksX6_common_0 20 rfl rfl)
theorem dX6_common_21 : decode cX6_common 21 = .ok (.ifCond .eq 21, 3) := dk_153 0 21 (dk_at dksX6_common_0 21 rfl rfl)
theorem dX6_common_24 : decode cX6_common 24 = .ok (.lload 4, 2) := dk_22 4 (dk_at dksX6_common_1 0 rfl rfl)
theorem dX6_common_26 : decode cX6_common 26 = .ok (.lload 6, 2) := dk_22 6 (dk_at dksX6_common_1 2 rfl rfl)
theorem dX6_common_28 : decode cX6_common 28 = .ok (.lrem, 1) := dk_113 (dk_at dksX6_common_1 4 rfl rfl)
theorem dX6_common_29 : decode cX6_common 29 = .ok (.lstore 8, 2) := dk_55 8 (dk_at dksX6_common_1 5 rfl rfl)
theorem dX6_common_31 : decode cX6_common 31 = .ok (.lload 6, 2) := dk_22 6 (dk_at dksX6_common_1 7 rfl rfl)
theorem dX6_common_33 : decode cX6_common 33 = .ok (.lstore 4, 2) := dk_55 4 (dk_at dksX6_common_1 9 rfl rfl)
theorem dX6_common_35 : decode cX6_common 35 = .ok (.lload 8, 2) := dk_22 8 (dk_at dksX6_common_1 11 rfl rfl)
theorem dX6_common_37 : decode cX6_common 37 = .ok (.lstore 6, 2) := dk_55 6 (dk_at dksX6_common_1 13 rfl rfl)
theorem dX6_common_39 : decode cX6_common 39 = .ok (.goto (-22), 3) := dk_167 255 234 (dk_at dksX6_common_1 15 rfl rfl)
theorem dX6_common_42 : decode cX6_common 42 = .ok (.lload 4, 2) := dk_22 4 (dk_at dksX6_common_1 18 rfl rfl)
theorem dX6_common_44 : decode cX6_common 44 = .ok (.lreturn, 1) := dk_173 (dk_at dksX6_common_1 20 rfl rfl)
def dkwX6_bits_3 : List UInt8 := [133, 173]
abbrev dktX6_bits_3 : List UInt8 := dkwX6_bits_3 ++ []
def dkwX6_bits_2 : List UInt8 := [138, 42, 180, 0, 233, 138, 111, 74, 28, 153, 0, 10, 41, 184, 1, 55, 167, 0, 9, 41, 144, 184, 1, 61]
abbrev dktX6_bits_2 : List UInt8 := dkwX6_bits_2 ++ dktX6_bits_3
def dkwX6_bits_1 : List UInt8 := [154, 0, 10, 42, 5, 182, 0, 182, 133, 173, 42, 180, 0, 31, 6, 46, 133, 42, 180, 0, 55, 27, 47, 105]
abbrev dktX6_bits_1 : List UInt8 := dkwX6_bits_1 ++ dktX6_bits_2
def dkwX6_bits_0 : List UInt8 := [42, 3, 181, 0, 90, 42, 27, 182, 1, 48, 154, 0, 10, 42, 4, 182, 0, 182, 133, 173, 42, 182, 1, 18]
abbrev dktX6_bits_0 : List UInt8 := dkwX6_bits_0 ++ dktX6_bits_1
theorem dksX6_bits_0 : cX6_bits.data.toList.drop 0 = dktX6_bits_0 := by decide +kernel
theorem dksX6_bits_1 : cX6_bits.data.toList.drop 24 = dktX6_bits_1 := dk_seg dksX6_bits_0 24 rfl rfl
theorem dksX6_bits_2 : cX6_bits.data.toList.drop 48 = dktX6_bits_2 := dk_seg dksX6_bits_1 24 rfl rfl
theorem dksX6_bits_3 : cX6_bits.data.toList.drop 72 = dktX6_bits_3 := dk_seg dksX6_bits_2 24 rfl rfl
theorem dX6_bits_0 : decode cX6_bits 0 = .ok (.aload_n 0, 1) := dk_42 (dk_at dksX6_bits_0 0 rfl rfl)
theorem dX6_bits_1 : decode cX6_bits 1 = .ok (.iconst 0, 1) := dk_3 (dk_at dksX6_bits_0 1 rfl rfl)
theorem dX6_bits_2 : decode cX6_bits 2 = .ok (.putfield 90, 3) := dk_181 0 90 (dk_at dksX6_bits_0 2 rfl rfl)
theorem dX6_bits_5 : decode cX6_bits 5 = .ok (.aload_n 0, 1) := dk_42 (dk_at dksX6_bits_0 5 rfl rfl)
theorem dX6_bits_6 : decode cX6_bits 6 = .ok (.iload_n 1, 1) := dk_27 (dk_at dksX6_bits_0 6 rfl rfl)
theorem dX6_bits_7 : decode cX6_bits 7 = .ok (.invokevirtual 304, 3) := dk_182 1 48 (dk_at dksX6_bits_0 7 rfl rfl)
theorem dX6_bits_10 : decode cX6_bits 10 = .ok (.ifCond .ne 10, 3) := dk_154 0 10 (dk_at dksX6_bits_0 10 rfl rfl)
theorem dX6_bits_13 : decode cX6_bits 13 = .ok (.aload_n 0, 1) := dk_42 (dk_at dksX6_bits_0 13 rfl rfl)
theorem dX6_bits_14 : decode cX6_bits 14 = .ok (.iconst 1, 1) := dk_4 (dk_at dksX6_bits_0 14 rfl rfl)
theorem dX6_bits_15 : decode cX6_bits 15 = .ok (.invokevirtual 182, 3) := dk_182 0 182 (dk_at dksX6_bits_0 15 rfl rfl)
theorem dX6_bits_18 : decode cX6_bits 18 = .ok (.i2l, 1) := dk_133 (dk_at dksX6_bits_0 18 rfl rfl)
theorem dX6_bits_19 : decode cX6_bits 19 = .ok (.lreturn, 1) := dk_173 (dk_at dksX6_bits_0 19 rfl rfl)
theorem dX6_bits_20 : decode cX6_bits 20 = .ok (.aload_n 0, 1) := dk_42 (dk_at dksX6_bits_0 20 rfl rfl)
theorem dX6_bits_21 : decode cX6_bits 21 = .ok (.invokevirtual 274, 3) := dk_182 1 18 (dk_at dksX6_bits_0 21 rfl rfl)
theorem dX6_bits_24 : decode cX6_bits 24 = .ok (.ifCond .ne 10, 3) := dk_154 0 10 (dk_at dksX6_bits_1 0 rfl rfl)
theorem dX6_bits_27 : decode cX6_bits 27 = .ok (.aload_n 0, 1) := dk_42 (dk_at dksX6_bits_1 3 rfl rfl)
theorem dX6_bits_28 : decode cX6_bits 28 = .ok (.iconst 2, 1) := dk_5 (dk_at dksX6_bits_1 4 rfl rfl)
theorem dX6_bits_29 : decode cX6_bits 29 = .ok (.invokevirtual 182, 3) := dk_182 0 182 (dk_at dksX6_bits_1 5 rfl rfl)
theorem dX6_bits_32 : decode cX6_bits 32 = .ok (.i2l, 1) := dk_133 (dk_at dksX6_bits_1 8 rfl rfl)
theorem dX6_bits_33 : decode cX6_bits 33 = .ok (.lreturn, 1) := dk_173 (dk_at dksX6_bits_1 9 rfl rfl)
theorem dX6_bits_34 : decode cX6_bits 34 = .ok (.aload_n 0, 1) := dk_42 (dk_at dksX6_bits_1 10 rfl rfl)
theorem dX6_bits_35 : decode cX6_bits 35 = .ok (.getfield 31, 3) := dk_180 0 31 (dk_at dksX6_bits_1 11 rfl rfl)
theorem dX6_bits_38 : decode cX6_bits 38 = .ok (.iconst 3, 1) := dk_6 (dk_at dksX6_bits_1 14 rfl rfl)
theorem dX6_bits_39 : decode cX6_bits 39 = .ok (.iaload, 1) := dk_46 (dk_at dksX6_bits_1 15 rfl rfl)
theorem dX6_bits_40 : decode cX6_bits 40 = .ok (.i2l, 1) := dk_133 (dk_at dksX6_bits_1 16 rfl rfl)
theorem dX6_bits_41 : decode cX6_bits 41 = .ok (.aload_n 0, 1) := dk_42 (dk_at dksX6_bits_1 17 rfl rfl)
theorem dX6_bits_42 : decode cX6_bits 42 = .ok (.getfield 55, 3) := dk_180 0 55 (dk_at dksX6_bits_1 18 rfl rfl)
theorem dX6_bits_45 : decode cX6_bits 45 = .ok (.iload_n 1, 1) := dk_27 (dk_at dksX6_bits_1 21 rfl rfl)
theorem dX6_bits_46 : decode cX6_bits 46 = .ok (.laload, 1) := dk_47 (dk_at dksX6_bits_1 22 rfl rfl)
theorem dX6_bits_47 : decode cX6_bits 47 = .ok (.lmul, 1) := dk_105 (dk_at dksX6_bits_1 23 rfl rfl)
theorem dX6_bits_48 : decode cX6_bits 48 = .ok (.l2d, 1) := dk_138 (dk_at dksX6_bits_2 0 rfl rfl)
theorem dX6_bits_49 : decode cX6_bits 49 = .ok (.aload_n 0, 1) := dk_42 (dk_at dksX6_bits_2 1 rfl rfl)
theorem dX6_bits_50 : decode cX6_bits 50 = .ok (.getfield 233, 3) := dk_180 0 233 (dk_at dksX6_bits_2 2 rfl rfl)
theorem dX6_bits_53 : decode cX6_bits 53 = .ok (.l2d, 1) := dk_138 (dk_at dksX6_bits_2 5 rfl rfl)
theorem dX6_bits_54 : decode cX6_bits 54 = .ok (.ddiv, 1) := dk_111 (dk_at dksX6_bits_2 6 rfl rfl)
theorem dX6_bits_55 : decode cX6_bits 55 = .ok (.dstore_n 3, 1) := dk_74 (dk_at dksX6_bits_2 7 rfl rfl)
theorem dX6_bits_56 : decode cX6_bits 56 = .ok (.iload_n 2, 1) := dk_28 (dk_at dksX6_bits_2 8 rfl rfl)
theorem dX6_bits_57 : decode cX6_bits 57 = .ok (.ifCond .eq 10, 3) := dk_153 0 10 (dk_at dksX6_bits_2 9 rfl rfl)
theorem dX6_bits_60 : decode cX6_bits 60 = .ok (.dload_n 3, 1) := dk_41 (dk_at dksX6_bits_2 12 rfl rfl)
theorem dX6_bits_61 : decode cX6_bits 61 = .ok (.invokestatic 311, 3) := dk_184 1 55 (dk_at dksX6_bits_2 13 rfl rfl)
theorem dX6_bits_64 : decode cX6_bits 64 = .ok (.goto 9, 3) := dk_167 0 9 (dk_at dksX6_bits_2 16 rfl rfl)
theorem dX6_bits_67 : decode cX6_bits 67 = .ok (.dload_n 3, 1) := dk_41 (dk_at dksX6_bits_2 19 rfl rfl)
theorem dX6_bits_68 : decode cX6_bits 68 = .ok (.d2f, 1) := dk_144 (dk_at dksX6_bits_2 20 rfl rfl)
theorem dX6_bits_69 : decode cX6_bits 69 = .ok (.invokestatic 317, 3) := dk_184 1 61 (dk_at dksX6_bits_2 21 rfl rfl)
theorem dX6_bits_72 : decode cX6_bits 72 = .ok (.i2l, 1) := dk_133 (dk_at dksX6_bits_3 0 rfl rfl)
theorem dX6_bits_73 : decode cX6_bits 73 = .ok (.lreturn, 1) := dk_173 (dk_at dksX6_bits_3 1 rfl rfl)
def dkwX6_share_8 : List UInt8 := [42, 180, 0, 61, 27, 46, 172]
abbrev dktX6_share_8 : List UInt8 := dkwX6_share_8 ++ []
def dkwX6_share_7 : List UInt8 := [180, 0, 61, 29, 92, 46, 4, 96, 79, 42, 180, 0, 58, 29, 20, 1, 5, 80, 132, 2, 255, 167, 255, 183]
abbrev dktX6_share_7 : List UInt8 := dkwX6_share_7 ++ dktX6_share_8
def dkwX6_share_6 : List UInt8 := [180, 0, 58, 29, 47, 148, 158, 0, 8, 21, 4, 167, 0, 4, 29, 62, 132, 4, 1, 167, 255, 217, 42]
abbrev dktX6_share_6 : List UInt8 := dkwX6_share_6 ++ dktX6_share_7
def dkwX6_share_5 : List UInt8 := [54, 4, 21, 4, 42, 180, 0, 31, 184, 0, 190, 162, 0, 33, 42, 180, 0, 58, 21, 4, 47, 42]
abbrev dktX6_share_5 : List UInt8 := dkwX6_share_5 ++ dktX6_share_6
def dkwX6_share_4 : List UInt8 := [113, 80, 28, 42, 180, 0, 61, 29, 46, 100, 61, 132, 3, 1, 167, 255, 186, 28, 158, 0, 75, 3, 62, 4]
abbrev dktX6_share_4 : List UInt8 := dkwX6_share_4 ++ dktX6_share_5
def dkwX6_share_3 : List UInt8 := [180, 0, 61, 29, 22, 4, 42, 180, 0, 233, 109, 136, 79, 42, 180, 0, 58, 29, 22, 4, 42, 180, 0, 233]
abbrev dktX6_share_3 : List UInt8 := dkwX6_share_3 ++ dktX6_share_4
def dkwX6_share_2 : List UInt8 := [162, 0, 65, 20, 1, 67, 42, 29, 5, 182, 0, 194, 133, 105, 42, 180, 0, 55, 29, 47, 105, 55, 4, 42]
abbrev dktX6_share_2 : List UInt8 := dkwX6_share_2 ++ dktX6_share_3
def dkwX6_share_1 : List UInt8 := [154, 0, 9, 42, 5, 182, 0, 182, 172, 16, 100, 61, 3, 62, 29, 42, 180, 0, 31, 184, 0, 190]
abbrev dktX6_share_1 : List UInt8 := dkwX6_share_1 ++ dktX6_share_2
def dkwX6_share_0 : List UInt8 := [42, 3, 181, 0, 90, 42, 27, 182, 1, 48, 154, 0, 9, 42, 4, 182, 0, 182, 172, 42, 182, 1, 18]
abbrev dktX6_share_0 : List UInt8 := dkwX6_share_0 ++ dktX6_share_1
theorem dksX6_share_0 : cX6_share.data.toList.drop 0 = dktX6_share_0 := by decide +kernel
theorem dksX6_share_1 : cX6_share.data.toList.drop 23 = dktX6_share_1 := dk_seg dksX6_share_0 23 rfl rfl
theorem dksX6_share_2 : cX6_share.data.toList.drop 45 = dktX6_share_2 := dk_seg dksX6_share_1 22 rfl rfl
theorem dksX6_share_3 : cX6_share.data.toList.drop 69 = dktX6_share_3 := dk_seg dksX6_share_2 24 rfl rfl
theorem dksX6_share_4 : cX6_share.data.toList.drop 93 = dktX6_share_4 := dk_seg dksX6_share_3 24 rfl rfl
theorem dksX6_share_5 : cX6_share.data.toList.drop 117 = dktX6_share_5 := dk_seg dksX6_share_4 24 rfl rfl
theorem dksX6_share_6 : cX6_share.data.toList.drop 139 = dktX6_share_6 := dk_seg dksX6_share_5 22 rfl rfl
theorem dksX6_share_7 : cX6_share.data.toList.drop 162 = dktX6_share_7 := dk_seg dksX6_share_6 23 rfl rfl
theorem dksX6_share_8 : cX6_share.data.toList.drop 186 = dktX6_share_8 := dk_seg dksX6_share_7 24 rfl rfl
theorem dX6_share_0 : decode cX6_share 0 = .ok (.aload_n 0, 1) := dk_42 (dk_at dksX6_share_0 0 rfl rfl)
theorem dX6_share_1 : decode cX6_share 1 = .ok (.iconst 0, 1) := dk_3 (dk_at dksX6_share_0 1 rfl rfl)
theorem dX6_share_2 : decode cX6_share 2 = .ok (.putfield 90, 3) := dk_181 0 90 (dk_at dksX6_share_0 2 rfl rfl)
theorem dX6_share_5 : decode cX6_share 5 = .ok (.aload_n 0, 1) := dk_42 (dk_at dksX6_share_0 5 rfl rfl)
theorem dX6_share_6 : decode cX6_share 6 = .ok (.iload_n 1, 1) := dk_27 (dk_at dksX6_share_0 6 rfl rfl)
theorem dX6_share_7 : decode cX6_share 7 = .ok (.invokevirtual 304, 3) := dk_182 1 48 (dk_at dksX6_share_0 7 rfl rfl)
theorem dX6_share_10 : decode cX6_share 10 = .ok (.ifCond .ne 9, 3) := dk_154 0 9 (dk_at dksX6_share_0 10 rfl rfl)
theorem dX6_share_13 : decode cX6_share 13 = .ok (.aload_n 0, 1) := dk_42 (dk_at dksX6_share_0 13 rfl rfl)
theorem dX6_share_14 : decode cX6_share 14 = .ok (.iconst 1, 1) := dk_4 (dk_at dksX6_share_0 14 rfl rfl)
theorem dX6_share_15 : decode cX6_share 15 = .ok (.invokevirtual 182, 3) := dk_182 0 182 (dk_at dksX6_share_0 15 rfl rfl)
theorem dX6_share_18 : decode cX6_share 18 = .ok (.ireturn, 1) := dk_172 (dk_at dksX6_share_0 18 rfl rfl)
theorem dX6_share_19 : decode cX6_share 19 = .ok (.aload_n 0, 1) := dk_42 (dk_at dksX6_share_0 19 rfl rfl)
theorem dX6_share_20 : decode cX6_share 20 = .ok (.invokevirtual 274, 3) := dk_182 1 18 (dk_at dksX6_share_0 20 rfl rfl)
theorem dX6_share_23 : decode cX6_share 23 = .ok (.ifCond .ne 9, 3) := dk_154 0 9 (dk_at dksX6_share_1 0 rfl rfl)
theorem dX6_share_26 : decode cX6_share 26 = .ok (.aload_n 0, 1) := dk_42 (dk_at dksX6_share_1 3 rfl rfl)
theorem dX6_share_27 : decode cX6_share 27 = .ok (.iconst 2, 1) := dk_5 (dk_at dksX6_share_1 4 rfl rfl)
theorem dX6_share_28 : decode cX6_share 28 = .ok (.invokevirtual 182, 3) := dk_182 0 182 (dk_at dksX6_share_1 5 rfl rfl)
theorem dX6_share_31 : decode cX6_share 31 = .ok (.ireturn, 1) := dk_172 (dk_at dksX6_share_1 8 rfl rfl)
theorem dX6_share_32 : decode cX6_share 32 = .ok (.bipush 100, 2) := dk_16 100 (dk_at dksX6_share_1 9 rfl rfl)
theorem dX6_share_34 : decode cX6_share 34 = .ok (.istore_n 2, 1) := dk_61 (dk_at dksX6_share_1 11 rfl rfl)
theorem dX6_share_35 : decode cX6_share 35 = .ok (.iconst 0, 1) := dk_3 (dk_at dksX6_share_1 12 rfl rfl)
theorem dX6_share_36 : decode cX6_share 36 = .ok (.istore_n 3, 1) := dk_62 (dk_at dksX6_share_1 13 rfl rfl)
theorem dX6_share_37 : decode cX6_share 37 = .ok (.iload_n 3, 1) := dk_29 (dk_at dksX6_share_1 14 rfl rfl)
theorem dX6_share_38 : decode cX6_share 38 = .ok (.aload_n 0, 1) := dk_42 (dk_at dksX6_share_1 15 rfl rfl)
theorem dX6_share_39 : decode cX6_share 39 = .ok (.getfield 31, 3) := dk_180 0 31 (dk_at dksX6_share_1 16 rfl rfl)
theorem dX6_share_42 : decode cX6_share 42 = .ok (.invokestatic 190, 3) := dk_184 0 190 (dk_at dksX6_share_1 19 rfl rfl)
theorem dX6_share_45 : decode cX6_share 45 = .ok (.if_icmp .ge 65, 3) := dk_162 0 65 (dk_at dksX6_share_2 0 rfl rfl)
theorem dX6_share_48 : decode cX6_share 48 = .ok (.ldc2_w 323, 3) := dk_20 1 67 (dk_at dksX6_share_2 3 rfl rfl)
theorem dX6_share_51 : decode cX6_share 51 = .ok (.aload_n 0, 1) := dk_42 (dk_at dksX6_share_2 6 rfl rfl)
theorem dX6_share_52 : decode cX6_share 52 = .ok (.iload_n 3, 1) := dk_29 (dk_at dksX6_share_2 7 rfl rfl)
theorem dX6_share_53 : decode cX6_share 53 = .ok (.iconst 2, 1) := dk_5 (dk_at dksX6_share_2 8 rfl rfl)
theorem dX6_share_54 : decode cX6_share 54 = .ok (.invokevirtual 194, 3) := dk_182 0 194 (dk_at dksX6_share_2 9 rfl rfl)
theorem dX6_share_57 : decode cX6_share 57 = .ok (.i2l, 1) := dk_133 (dk_at dksX6_share_2 12 rfl rfl)
theorem dX6_share_58 : decode cX6_share 58 = .ok (.lmul, 1) := dk_105 (dk_at dksX6_share_2 13 rfl rfl)
theorem dX6_share_59 : decode cX6_share 59 = .ok (.aload_n 0, 1) := dk_42 (dk_at dksX6_share_2 14 rfl rfl)
theorem dX6_share_60 : decode cX6_share 60 = .ok (.getfield 55, 3) := dk_180 0 55 (dk_at dksX6_share_2 15 rfl rfl)
theorem dX6_share_63 : decode cX6_share 63 = .ok (.iload_n 3, 1) := dk_29 (dk_at dksX6_share_2 18 rfl rfl)
theorem dX6_share_64 : decode cX6_share 64 = .ok (.laload, 1) := dk_47 (dk_at dksX6_share_2 19 rfl rfl)
theorem dX6_share_65 : decode cX6_share 65 = .ok (.lmul, 1) := dk_105 (dk_at dksX6_share_2 20 rfl rfl)
theorem dX6_share_66 : decode cX6_share 66 = .ok (.lstore 4, 2) := dk_55 4 (dk_at dksX6_share_2 21 rfl rfl)
theorem dX6_share_68 : decode cX6_share 68 = .ok (.aload_n 0, 1) := dk_42 (dk_at dksX6_share_2 23 rfl rfl)
theorem dX6_share_69 : decode cX6_share 69 = .ok (.getfield 61, 3) := dk_180 0 61 (dk_at dksX6_share_3 0 rfl rfl)
theorem dX6_share_72 : decode cX6_share 72 = .ok (.iload_n 3, 1) := dk_29 (dk_at dksX6_share_3 3 rfl rfl)
theorem dX6_share_73 : decode cX6_share 73 = .ok (.lload 4, 2) := dk_22 4 (dk_at dksX6_share_3 4 rfl rfl)
theorem dX6_share_75 : decode cX6_share 75 = .ok (.aload_n 0, 1) := dk_42 (dk_at dksX6_share_3 6 rfl rfl)
theorem dX6_share_76 : decode cX6_share 76 = .ok (.getfield 233, 3) := dk_180 0 233 (dk_at dksX6_share_3 7 rfl rfl)
theorem dX6_share_79 : decode cX6_share 79 = .ok (.ldiv, 1) := dk_109 (dk_at dksX6_share_3 10 rfl rfl)
theorem dX6_share_80 : decode cX6_share 80 = .ok (.l2i, 1) := dk_136 (dk_at dksX6_share_3 11 rfl rfl)
theorem dX6_share_81 : decode cX6_share 81 = .ok (.iastore, 1) := dk_79 (dk_at dksX6_share_3 12 rfl rfl)
theorem dX6_share_82 : decode cX6_share 82 = .ok (.aload_n 0, 1) := dk_42 (dk_at dksX6_share_3 13 rfl rfl)
theorem dX6_share_83 : decode cX6_share 83 = .ok (.getfield 58, 3) := dk_180 0 58 (dk_at dksX6_share_3 14 rfl rfl)
theorem dX6_share_86 : decode cX6_share 86 = .ok (.iload_n 3, 1) := dk_29 (dk_at dksX6_share_3 17 rfl rfl)
theorem dX6_share_87 : decode cX6_share 87 = .ok (.lload 4, 2) := dk_22 4 (dk_at dksX6_share_3 18 rfl rfl)
theorem dX6_share_89 : decode cX6_share 89 = .ok (.aload_n 0, 1) := dk_42 (dk_at dksX6_share_3 20 rfl rfl)
theorem dX6_share_90 : decode cX6_share 90 = .ok (.getfield 233, 3) := dk_180 0 233 (dk_at dksX6_share_3 21 rfl rfl)
theorem dX6_share_93 : decode cX6_share 93 = .ok (.lrem, 1) := dk_113 (dk_at dksX6_share_4 0 rfl rfl)
theorem dX6_share_94 : decode cX6_share 94 = .ok (.lastore, 1) := dk_80 (dk_at dksX6_share_4 1 rfl rfl)
theorem dX6_share_95 : decode cX6_share 95 = .ok (.iload_n 2, 1) := dk_28 (dk_at dksX6_share_4 2 rfl rfl)
theorem dX6_share_96 : decode cX6_share 96 = .ok (.aload_n 0, 1) := dk_42 (dk_at dksX6_share_4 3 rfl rfl)
theorem dX6_share_97 : decode cX6_share 97 = .ok (.getfield 61, 3) := dk_180 0 61 (dk_at dksX6_share_4 4 rfl rfl)
theorem dX6_share_100 : decode cX6_share 100 = .ok (.iload_n 3, 1) := dk_29 (dk_at dksX6_share_4 7 rfl rfl)
theorem dX6_share_101 : decode cX6_share 101 = .ok (.iaload, 1) := dk_46 (dk_at dksX6_share_4 8 rfl rfl)
theorem dX6_share_102 : decode cX6_share 102 = .ok (.isub, 1) := dk_100 (dk_at dksX6_share_4 9 rfl rfl)
theorem dX6_share_103 : decode cX6_share 103 = .ok (.istore_n 2, 1) := dk_61 (dk_at dksX6_share_4 10 rfl rfl)
theorem dX6_share_104 : decode cX6_share 104 = .ok (.iinc 3 1, 3) := dk_132 3 1 (dk_at dksX6_share_4 11 rfl rfl)
theorem dX6_share_107 : decode cX6_share 107 = .ok (.goto (-70), 3) := dk_167 255 186 (dk_at dksX6_share_4 14 rfl rfl)
theorem dX6_share_110 : decode cX6_share 110 = .ok (.iload_n 2, 1) := dk_28 (dk_at dksX6_share_4 17 rfl rfl)
theorem dX6_share_111 : decode cX6_share 111 = .ok (.ifCond .le 75, 3) := dk_158 0 75 (dk_at dksX6_share_4 18 rfl rfl)
theorem dX6_share_114 : decode cX6_share 114 = .ok (.iconst 0, 1) := dk_3 (dk_at dksX6_share_4 21 rfl rfl)
theorem dX6_share_115 : decode cX6_share 115 = .ok (.istore_n 3, 1) := dk_62 (dk_at dksX6_share_4 22 rfl rfl)
theorem dX6_share_116 : decode cX6_share 116 = .ok (.iconst 1, 1) := dk_4 (dk_at dksX6_share_4 23 rfl rfl)
theorem dX6_share_117 : decode cX6_share 117 = .ok (.istore 4, 2) := dk_54 4 (dk_at dksX6_share_5 0 rfl rfl)
theorem dX6_share_119 : decode cX6_share 119 = .ok (.iload 4, 2) := dk_21 4 (dk_at dksX6_share_5 2 rfl rfl)
theorem dX6_share_121 : decode cX6_share 121 = .ok (.aload_n 0, 1) := dk_42 (dk_at dksX6_share_5 4 rfl rfl)
theorem dX6_share_122 : decode cX6_share 122 = .ok (.getfield 31, 3) := dk_180 0 31 (dk_at dksX6_share_5 5 rfl rfl)
theorem dX6_share_125 : decode cX6_share 125 = .ok (.invokestatic 190, 3) := dk_184 0 190 (dk_at dksX6_share_5 8 rfl rfl)
theorem dX6_share_128 : decode cX6_share 128 = .ok (.if_icmp .ge 33, 3) := dk_162 0 33 (dk_at dksX6_share_5 11 rfl rfl)
theorem dX6_share_131 : decode cX6_share 131 = .ok (.aload_n 0, 1) := dk_42 (dk_at dksX6_share_5 14 rfl rfl)
theorem dX6_share_132 : decode cX6_share 132 = .ok (.getfield 58, 3) := dk_180 0 58 (dk_at dksX6_share_5 15 rfl rfl)
theorem dX6_share_135 : decode cX6_share 135 = .ok (.iload 4, 2) := dk_21 4 (dk_at dksX6_share_5 18 rfl rfl)
theorem dX6_share_137 : decode cX6_share 137 = .ok (.laload, 1) := dk_47 (dk_at dksX6_share_5 20 rfl rfl)
theorem dX6_share_138 : decode cX6_share 138 = .ok (.aload_n 0, 1) := dk_42 (dk_at dksX6_share_5 21 rfl rfl)
theorem dX6_share_139 : decode cX6_share 139 = .ok (.getfield 58, 3) := dk_180 0 58 (dk_at dksX6_share_6 0 rfl rfl)
theorem dX6_share_142 : decode cX6_share 142 = .ok (.iload_n 3, 1) := dk_29 (dk_at dksX6_share_6 3 rfl rfl)
theorem dX6_share_143 : decode cX6_share 143 = .ok (.laload, 1) := dk_47 (dk_at dksX6_share_6 4 rfl rfl)
theorem dX6_share_144 : decode cX6_share 144 = .ok (.lcmp, 1) := dk_148 (dk_at dksX6_share_6 5 rfl rfl)
theorem dX6_share_145 : decode cX6_share 145 = .ok (.ifCond .le 8, 3) := dk_158 0 8 (dk_at dksX6_share_6 6 rfl rfl)
theorem dX6_share_148 : decode cX6_share 148 = .ok (.iload 4, 2) := dk_21 4 (dk_at dksX6_share_6 9 rfl rfl)
theorem dX6_share_150 : decode cX6_share 150 = .ok (.goto 4, 3) := dk_167 0 4 (dk_at dksX6_share_6 11 rfl rfl)
theorem dX6_share_153 : decode cX6_share 153 = .ok (.iload_n 3, 1) := dk_29 (dk_at dksX6_share_6 14 rfl rfl)
theorem dX6_share_154 : decode cX6_share 154 = .ok (.istore_n 3, 1) := dk_62 (dk_at dksX6_share_6 15 rfl rfl)
theorem dX6_share_155 : decode cX6_share 155 = .ok (.iinc 4 1, 3) := dk_132 4 1 (dk_at dksX6_share_6 16 rfl rfl)
theorem dX6_share_158 : decode cX6_share 158 = .ok (.goto (-39), 3) := dk_167 255 217 (dk_at dksX6_share_6 19 rfl rfl)
theorem dX6_share_161 : decode cX6_share 161 = .ok (.aload_n 0, 1) := dk_42 (dk_at dksX6_share_6 22 rfl rfl)
theorem dX6_share_162 : decode cX6_share 162 = .ok (.getfield 61, 3) := dk_180 0 61 (dk_at dksX6_share_7 0 rfl rfl)
theorem dX6_share_165 : decode cX6_share 165 = .ok (.iload_n 3, 1) := dk_29 (dk_at dksX6_share_7 3 rfl rfl)
theorem dX6_share_166 : decode cX6_share 166 = .ok (.dup2, 1) := dk_92 (dk_at dksX6_share_7 4 rfl rfl)
theorem dX6_share_167 : decode cX6_share 167 = .ok (.iaload, 1) := dk_46 (dk_at dksX6_share_7 5 rfl rfl)
theorem dX6_share_168 : decode cX6_share 168 = .ok (.iconst 1, 1) := dk_4 (dk_at dksX6_share_7 6 rfl rfl)
theorem dX6_share_169 : decode cX6_share 169 = .ok (.iadd, 1) := dk_96 (dk_at dksX6_share_7 7 rfl rfl)
theorem dX6_share_170 : decode cX6_share 170 = .ok (.iastore, 1) := dk_79 (dk_at dksX6_share_7 8 rfl rfl)
theorem dX6_share_171 : decode cX6_share 171 = .ok (.aload_n 0, 1) := dk_42 (dk_at dksX6_share_7 9 rfl rfl)
theorem dX6_share_172 : decode cX6_share 172 = .ok (.getfield 58, 3) := dk_180 0 58 (dk_at dksX6_share_7 10 rfl rfl)
theorem dX6_share_175 : decode cX6_share 175 = .ok (.iload_n 3, 1) := dk_29 (dk_at dksX6_share_7 13 rfl rfl)
theorem dX6_share_176 : decode cX6_share 176 = .ok (.ldc2_w 261, 3) := dk_20 1 5 (dk_at dksX6_share_7 14 rfl rfl)
theorem dX6_share_179 : decode cX6_share 179 = .ok (.lastore, 1) := dk_80 (dk_at dksX6_share_7 17 rfl rfl)
theorem dX6_share_180 : decode cX6_share 180 = .ok (.iinc 2 (-1), 3) := dk_132 2 255 (dk_at dksX6_share_7 18 rfl rfl)
theorem dX6_share_183 : decode cX6_share 183 = .ok (.goto (-73), 3) := dk_167 255 183 (dk_at dksX6_share_7 21 rfl rfl)
theorem dX6_share_186 : decode cX6_share 186 = .ok (.aload_n 0, 1) := dk_42 (dk_at dksX6_share_8 0 rfl rfl)
theorem dX6_share_187 : decode cX6_share 187 = .ok (.getfield 61, 3) := dk_180 0 61 (dk_at dksX6_share_8 1 rfl rfl)
theorem dX6_share_190 : decode cX6_share 190 = .ok (.iload_n 1, 1) := dk_27 (dk_at dksX6_share_8 4 rfl rfl)
theorem dX6_share_191 : decode cX6_share 191 = .ok (.iaload, 1) := dk_46 (dk_at dksX6_share_8 5 rfl rfl)
theorem dX6_share_192 : decode cX6_share 192 = .ok (.ireturn, 1) := dk_172 (dk_at dksX6_share_8 6 rfl rfl)
def dkwX6_ground_4 : List UInt8 := [182, 1, 91, 55, 4, 22, 4, 20, 1, 74, 42, 180, 0, 233, 105, 29, 184, 1, 51, 173]
abbrev dktX6_ground_4 : List UInt8 := dkwX6_ground_4 ++ []
def dkwX6_ground_3 : List UInt8 := [167, 0, 25, 28, 4, 160, 0, 12, 42, 180, 0, 67, 27, 47, 167, 0, 11, 42, 27, 28, 5, 100]
abbrev dktX6_ground_3 : List UInt8 := dkwX6_ground_3 ++ dktX6_ground_4
def dkwX6_ground_2 : List UInt8 := [182, 1, 88, 154, 0, 10, 42, 5, 182, 0, 182, 133, 173, 28, 154, 0, 12, 42, 180, 0, 64, 27, 47]
abbrev dktX6_ground_2 : List UInt8 := dkwX6_ground_2 ++ dktX6_ground_3
def dkwX6_ground_1 : List UInt8 := [164, 0, 22, 42, 27, 28, 5, 100, 182, 1, 82, 2, 160, 0, 10, 42, 4, 182, 0, 182, 133, 173, 42]
abbrev dktX6_ground_1 : List UInt8 := dkwX6_ground_1 ++ dktX6_ground_2
def dkwX6_ground_0 : List UInt8 := [42, 3, 181, 0, 90, 42, 27, 182, 1, 85, 153, 0, 29, 28, 3, 6, 184, 1, 44, 153, 0, 20, 28, 4]
abbrev dktX6_ground_0 : List UInt8 := dkwX6_ground_0 ++ dktX6_ground_1
theorem dksX6_ground_0 : cX6_ground.data.toList.drop 0 = dktX6_ground_0 := by decide +kernel
theorem dksX6_ground_1 : cX6_ground.data.toList.drop 24 = dktX6_ground_1 := dk_seg dksX6_ground_0 24 rfl rfl
theorem dksX6_ground_2 : cX6_ground.data.toList.drop 47 = dktX6_ground_2 := dk_seg dksX6_ground_1 23 rfl rfl
theorem dksX6_ground_3 : cX6_ground.data.toList.drop 70 = dktX6_ground_3 := dk_seg dksX6_ground_2 23 rfl rfl
theorem dksX6_ground_4 : cX6_ground.data.toList.drop 92 = dktX6_ground_4 := dk_seg dksX6_ground_3 22 rfl rfl
theorem dX6_ground_0 : decode cX6_ground 0 = .ok (.aload_n 0, 1) := dk_42 (dk_at dksX6_ground_0 0 rfl rfl)
theorem dX6_ground_1 : decode cX6_ground 1 = .ok (.iconst 0, 1) := dk_3 (dk_at dksX6_ground_0 1 rfl rfl)
theorem dX6_ground_2 : decode cX6_ground 2 = .ok (.putfield 90, 3) := dk_181 0 90 (dk_at dksX6_ground_0 2 rfl rfl)
theorem dX6_ground_5 : decode cX6_ground 5 = .ok (.aload_n 0, 1) := dk_42 (dk_at dksX6_ground_0 5 rfl rfl)
theorem dX6_ground_6 : decode cX6_ground 6 = .ok (.iload_n 1, 1) := dk_27 (dk_at dksX6_ground_0 6 rfl rfl)
theorem dX6_ground_7 : decode cX6_ground 7 = .ok (.invokevirtual 341, 3) := dk_182 1 85 (dk_at dksX6_ground_0 7 rfl rfl)
theorem dX6_ground_10 : decode cX6_ground 10 = .ok (.ifCond .eq 29, 3) := dk_153 0 29 (dk_at dksX6_ground_0 10 rfl rfl)
theorem dX6_ground_13 : decode cX6_ground 13 = .ok (.iload_n 2, 1) := dk_28 (dk_at dksX6_ground_0 13 rfl rfl)
theorem dX6_ground_14 : decode cX6_ground 14 = .ok (.iconst 0, 1) := dk_3 (dk_at dksX6_ground_0 14 rfl rfl)
theorem dX6_ground_15 : decode cX6_ground 15 = .ok (.iconst 3, 1) := dk_6 (dk_at dksX6_ground_0 15 rfl rfl)
theorem dX6_ground_16 : decode cX6_ground 16 = .ok (.invokestatic 300, 3) := dk_184 1 44 (dk_at dksX6_ground_0 16 rfl rfl)
theorem dX6_ground_19 : decode cX6_ground 19 = .ok (.ifCond .eq 20, 3) := dk_153 0 20 (dk_at dksX6_ground_0 19 rfl rfl)
theorem dX6_ground_22 : decode cX6_ground 22 = .ok (.iload_n 2, 1) := dk_28 (dk_at dksX6_ground_0 22 rfl rfl)
theorem dX6_ground_23 : decode cX6_ground 23 = .ok (.iconst 1, 1) := dk_4 (dk_at dksX6_ground_0 23 rfl rfl)
theorem dX6_ground_24 : decode cX6_ground 24 = .ok (.if_icmp .le 22, 3) := dk_164 0 22 (dk_at dksX6_ground_1 0 rfl rfl)
theorem dX6_ground_27 : decode cX6_ground 27 = .ok (.aload_n 0, 1) := dk_42 (dk_at dksX6_ground_1 3 rfl rfl)
theorem dX6_ground_28 : decode cX6_ground 28 = .ok (.iload_n 1, 1) := dk_27 (dk_at dksX6_ground_1 4 rfl rfl)
theorem dX6_ground_29 : decode cX6_ground 29 = .ok (.iload_n 2, 1) := dk_28 (dk_at dksX6_ground_1 5 rfl rfl)
theorem dX6_ground_30 : decode cX6_ground 30 = .ok (.iconst 2, 1) := dk_5 (dk_at dksX6_ground_1 6 rfl rfl)
theorem dX6_ground_31 : decode cX6_ground 31 = .ok (.isub, 1) := dk_100 (dk_at dksX6_ground_1 7 rfl rfl)
theorem dX6_ground_32 : decode cX6_ground 32 = .ok (.invokevirtual 338, 3) := dk_182 1 82 (dk_at dksX6_ground_1 8 rfl rfl)
theorem dX6_ground_35 : decode cX6_ground 35 = .ok (.iconst (-1), 1) := dk_2 (dk_at dksX6_ground_1 11 rfl rfl)
theorem dX6_ground_36 : decode cX6_ground 36 = .ok (.if_icmp .ne 10, 3) := dk_160 0 10 (dk_at dksX6_ground_1 12 rfl rfl)
theorem dX6_ground_39 : decode cX6_ground 39 = .ok (.aload_n 0, 1) := dk_42 (dk_at dksX6_ground_1 15 rfl rfl)
theorem dX6_ground_40 : decode cX6_ground 40 = .ok (.iconst 1, 1) := dk_4 (dk_at dksX6_ground_1 16 rfl rfl)
theorem dX6_ground_41 : decode cX6_ground 41 = .ok (.invokevirtual 182, 3) := dk_182 0 182 (dk_at dksX6_ground_1 17 rfl rfl)
theorem dX6_ground_44 : decode cX6_ground 44 = .ok (.i2l, 1) := dk_133 (dk_at dksX6_ground_1 20 rfl rfl)
theorem dX6_ground_45 : decode cX6_ground 45 = .ok (.lreturn, 1) := dk_173 (dk_at dksX6_ground_1 21 rfl rfl)
theorem dX6_ground_46 : decode cX6_ground 46 = .ok (.aload_n 0, 1) := dk_42 (dk_at dksX6_ground_1 22 rfl rfl)
theorem dX6_ground_47 : decode cX6_ground 47 = .ok (.invokevirtual 344, 3) := dk_182 1 88 (dk_at dksX6_ground_2 0 rfl rfl)
theorem dX6_ground_50 : decode cX6_ground 50 = .ok (.ifCond .ne 10, 3) := dk_154 0 10 (dk_at dksX6_ground_2 3 rfl rfl)
theorem dX6_ground_53 : decode cX6_ground 53 = .ok (.aload_n 0, 1) := dk_42 (dk_at dksX6_ground_2 6 rfl rfl)
theorem dX6_ground_54 : decode cX6_ground 54 = .ok (.iconst 2, 1) := dk_5 (dk_at dksX6_ground_2 7 rfl rfl)
theorem dX6_ground_55 : decode cX6_ground 55 = .ok (.invokevirtual 182, 3) := dk_182 0 182 (dk_at dksX6_ground_2 8 rfl rfl)
theorem dX6_ground_58 : decode cX6_ground 58 = .ok (.i2l, 1) := dk_133 (dk_at dksX6_ground_2 11 rfl rfl)
theorem dX6_ground_59 : decode cX6_ground 59 = .ok (.lreturn, 1) := dk_173 (dk_at dksX6_ground_2 12 rfl rfl)
theorem dX6_ground_60 : decode cX6_ground 60 = .ok (.iload_n 2, 1) := dk_28 (dk_at dksX6_ground_2 13 rfl rfl)
theorem dX6_ground_61 : decode cX6_ground 61 = .ok (.ifCond .ne 12, 3) := dk_154 0 12 (dk_at dksX6_ground_2 14 rfl rfl)
theorem dX6_ground_64 : decode cX6_ground 64 = .ok (.aload_n 0, 1) := dk_42 (dk_at dksX6_ground_2 17 rfl rfl)
theorem dX6_ground_65 : decode cX6_ground 65 = .ok (.getfield 64, 3) := dk_180 0 64 (dk_at dksX6_ground_2 18 rfl rfl)
theorem dX6_ground_68 : decode cX6_ground 68 = .ok (.iload_n 1, 1) := dk_27 (dk_at dksX6_ground_2 21 rfl rfl)
theorem dX6_ground_69 : decode cX6_ground 69 = .ok (.laload, 1) := dk_47 (dk_at dksX6_ground_2 22 rfl rfl)
theorem dX6_ground_70 : decode cX6_ground 70 = .ok (.goto 25, 3) := dk_167 0 25 (dk_at dksX6_ground_3 0 rfl rfl)
theorem dX6_ground_73 : decode cX6_ground 73 = .ok (.iload_n 2, 1) := dk_28 (dk_at dksX6_ground_3 3 rfl rfl)
theorem dX6_ground_74 : decode cX6_ground 74 = .ok (.iconst 1, 1) := dk_4 (dk_at dksX6_ground_3 4 rfl rfl)
theorem dX6_ground_75 : decode cX6_ground 75 = .ok (.if_icmp .ne 12, 3) := dk_160 0 12 (dk_at dksX6_ground_3 5 rfl rfl)
theorem dX6_ground_78 : decode cX6_ground 78 = .ok (.aload_n 0, 1) := dk_42 (dk_at dksX6_ground_3 8 rfl rfl)
theorem dX6_ground_79 : decode cX6_ground 79 = .ok (.getfield 67, 3) := dk_180 0 67 (dk_at dksX6_ground_3 9 rfl rfl)
theorem dX6_ground_82 : decode cX6_ground 82 = .ok (.iload_n 1, 1) := dk_27 (dk_at dksX6_ground_3 12 rfl rfl)
theorem dX6_ground_83 : decode cX6_ground 83 = .ok (.laload, 1) := dk_47 (dk_at dksX6_ground_3 13 rfl rfl)
theorem dX6_ground_84 : decode cX6_ground 84 = .ok (.goto 11, 3) := dk_167 0 11 (dk_at dksX6_ground_3 14 rfl rfl)
theorem dX6_ground_87 : decode cX6_ground 87 = .ok (.aload_n 0, 1) := dk_42 (dk_at dksX6_ground_3 17 rfl rfl)
theorem dX6_ground_88 : decode cX6_ground 88 = .ok (.iload_n 1, 1) := dk_27 (dk_at dksX6_ground_3 18 rfl rfl)
theorem dX6_ground_89 : decode cX6_ground 89 = .ok (.iload_n 2, 1) := dk_28 (dk_at dksX6_ground_3 19 rfl rfl)
theorem dX6_ground_90 : decode cX6_ground 90 = .ok (.iconst 2, 1) := dk_5 (dk_at dksX6_ground_3 20 rfl rfl)
theorem dX6_ground_91 : decode cX6_ground 91 = .ok (.isub, 1) := dk_100 (dk_at dksX6_ground_3 21 rfl rfl)
theorem dX6_ground_92 : decode cX6_ground 92 = .ok (.invokevirtual 347, 3) := dk_182 1 91 (dk_at dksX6_ground_4 0 rfl rfl)
theorem dX6_ground_95 : decode cX6_ground 95 = .ok (.lstore 4, 2) := dk_55 4 (dk_at dksX6_ground_4 3 rfl rfl)
theorem dX6_ground_97 : decode cX6_ground 97 = .ok (.lload 4, 2) := dk_22 4 (dk_at dksX6_ground_4 5 rfl rfl)
theorem dX6_ground_99 : decode cX6_ground 99 = .ok (.ldc2_w 330, 3) := dk_20 1 74 (dk_at dksX6_ground_4 7 rfl rfl)
theorem dX6_ground_102 : decode cX6_ground 102 = .ok (.aload_n 0, 1) := dk_42 (dk_at dksX6_ground_4 10 rfl rfl)
theorem dX6_ground_103 : decode cX6_ground 103 = .ok (.getfield 233, 3) := dk_180 0 233 (dk_at dksX6_ground_4 11 rfl rfl)
theorem dX6_ground_106 : decode cX6_ground 106 = .ok (.lmul, 1) := dk_105 (dk_at dksX6_ground_4 14 rfl rfl)
theorem dX6_ground_107 : decode cX6_ground 107 = .ok (.iload_n 3, 1) := dk_29 (dk_at dksX6_ground_4 15 rfl rfl)
theorem dX6_ground_108 : decode cX6_ground 108 = .ok (.invokestatic 307, 3) := dk_184 1 51 (dk_at dksX6_ground_4 16 rfl rfl)
theorem dX6_ground_111 : decode cX6_ground 111 = .ok (.lreturn, 1) := dk_173 (dk_at dksX6_ground_4 19 rfl rfl)
def dkwX6_isPoint_0 : List UInt8 := [27, 3, 42, 182, 1, 76, 4, 100, 184, 1, 44, 172]
abbrev dktX6_isPoint_0 : List UInt8 := dkwX6_isPoint_0 ++ []
theorem dksX6_isPoint_0 : cX6_isPoint.data.toList.drop 0 = dktX6_isPoint_0 := by decide +kernel
theorem dX6_isPoint_0 : decode cX6_isPoint 0 = .ok (.iload_n 1, 1) := dk_27 (dk_at dksX6_isPoint_0 0 rfl rfl)
theorem dX6_isPoint_1 : decode cX6_isPoint 1 = .ok (.iconst 0, 1) := dk_3 (dk_at dksX6_isPoint_0 1 rfl rfl)
theorem dX6_isPoint_2 : decode cX6_isPoint 2 = .ok (.aload_n 0, 1) := dk_42 (dk_at dksX6_isPoint_0 2 rfl rfl)
theorem dX6_isPoint_3 : decode cX6_isPoint 3 = .ok (.invokevirtual 332, 3) := dk_182 1 76 (dk_at dksX6_isPoint_0 3 rfl rfl)
theorem dX6_isPoint_6 : decode cX6_isPoint 6 = .ok (.iconst 1, 1) := dk_4 (dk_at dksX6_isPoint_0 6 rfl rfl)
theorem dX6_isPoint_7 : decode cX6_isPoint 7 = .ok (.isub, 1) := dk_100 (dk_at dksX6_isPoint_0 7 rfl rfl)
theorem dX6_isPoint_8 : decode cX6_isPoint 8 = .ok (.invokestatic 300, 3) := dk_184 1 44 (dk_at dksX6_isPoint_0 8 rfl rfl)
theorem dX6_isPoint_11 : decode cX6_isPoint 11 = .ok (.ireturn, 1) := dk_172 (dk_at dksX6_isPoint_0 11 rfl rfl)
def dkwX6_worst_2 : List UInt8 := [172]
abbrev dktX6_worst_2 : List UInt8 := dkwX6_worst_2 ++ []
def dkwX6_worst_1 : List UInt8 := [154, 0, 9, 42, 5, 182, 0, 182, 172, 27, 154, 0, 10, 42, 182, 1, 94, 167, 0, 7, 42, 182, 1, 97]
abbrev dktX6_worst_1 : List UInt8 := dkwX6_worst_1 ++ dktX6_worst_2
def dkwX6_worst_0 : List UInt8 := [42, 3, 181, 0, 90, 27, 3, 4, 184, 1, 44, 154, 0, 9, 42, 4, 182, 0, 182, 172, 42, 182, 1, 88]
abbrev dktX6_worst_0 : List UInt8 := dkwX6_worst_0 ++ dktX6_worst_1
theorem dksX6_worst_0 : cX6_worst.data.toList.drop 0 = dktX6_worst_0 := by decide +kernel
theorem dksX6_worst_1 : cX6_worst.data.toList.drop 24 = dktX6_worst_1 := dk_seg dksX6_worst_0 24 rfl rfl
theorem dksX6_worst_2 : cX6_worst.data.toList.drop 48 = dktX6_worst_2 := dk_seg dksX6_worst_1 24 rfl rfl
theorem dX6_worst_0 : decode cX6_worst 0 = .ok (.aload_n 0, 1) := dk_42 (dk_at dksX6_worst_0 0 rfl rfl)
theorem dX6_worst_1 : decode cX6_worst 1 = .ok (.iconst 0, 1) := dk_3 (dk_at dksX6_worst_0 1 rfl rfl)
theorem dX6_worst_2 : decode cX6_worst 2 = .ok (.putfield 90, 3) := dk_181 0 90 (dk_at dksX6_worst_0 2 rfl rfl)
theorem dX6_worst_5 : decode cX6_worst 5 = .ok (.iload_n 1, 1) := dk_27 (dk_at dksX6_worst_0 5 rfl rfl)
theorem dX6_worst_6 : decode cX6_worst 6 = .ok (.iconst 0, 1) := dk_3 (dk_at dksX6_worst_0 6 rfl rfl)
theorem dX6_worst_7 : decode cX6_worst 7 = .ok (.iconst 1, 1) := dk_4 (dk_at dksX6_worst_0 7 rfl rfl)
theorem dX6_worst_8 : decode cX6_worst 8 = .ok (.invokestatic 300, 3) := dk_184 1 44 (dk_at dksX6_worst_0 8 rfl rfl)
theorem dX6_worst_11 : decode cX6_worst 11 = .ok (.ifCond .ne 9, 3) := dk_154 0 9 (dk_at dksX6_worst_0 11 rfl rfl)
theorem dX6_worst_14 : decode cX6_worst 14 = .ok (.aload_n 0, 1) := dk_42 (dk_at dksX6_worst_0 14 rfl rfl)
theorem dX6_worst_15 : decode cX6_worst 15 = .ok (.iconst 1, 1) := dk_4 (dk_at dksX6_worst_0 15 rfl rfl)
theorem dX6_worst_16 : decode cX6_worst 16 = .ok (.invokevirtual 182, 3) := dk_182 0 182 (dk_at dksX6_worst_0 16 rfl rfl)
theorem dX6_worst_19 : decode cX6_worst 19 = .ok (.ireturn, 1) := dk_172 (dk_at dksX6_worst_0 19 rfl rfl)
theorem dX6_worst_20 : decode cX6_worst 20 = .ok (.aload_n 0, 1) := dk_42 (dk_at dksX6_worst_0 20 rfl rfl)
theorem dX6_worst_21 : decode cX6_worst 21 = .ok (.invokevirtual 344, 3) := dk_182 1 88 (dk_at dksX6_worst_0 21 rfl rfl)
theorem dX6_worst_24 : decode cX6_worst 24 = .ok (.ifCond .ne 9, 3) := dk_154 0 9 (dk_at dksX6_worst_1 0 rfl rfl)
theorem dX6_worst_27 : decode cX6_worst 27 = .ok (.aload_n 0, 1) := dk_42 (dk_at dksX6_worst_1 3 rfl rfl)
theorem dX6_worst_28 : decode cX6_worst 28 = .ok (.iconst 2, 1) := dk_5 (dk_at dksX6_worst_1 4 rfl rfl)
theorem dX6_worst_29 : decode cX6_worst 29 = .ok (.invokevirtual 182, 3) := dk_182 0 182 (dk_at dksX6_worst_1 5 rfl rfl)
theorem dX6_worst_32 : decode cX6_worst 32 = .ok (.ireturn, 1) := dk_172 (dk_at dksX6_worst_1 8 rfl rfl)
theorem dX6_worst_33 : decode cX6_worst 33 = .ok (.iload_n 1, 1) := dk_27 (dk_at dksX6_worst_1 9 rfl rfl)
theorem dX6_worst_34 : decode cX6_worst 34 = .ok (.ifCond .ne 10, 3) := dk_154 0 10 (dk_at dksX6_worst_1 10 rfl rfl)
theorem dX6_worst_37 : decode cX6_worst 37 = .ok (.aload_n 0, 1) := dk_42 (dk_at dksX6_worst_1 13 rfl rfl)
theorem dX6_worst_38 : decode cX6_worst 38 = .ok (.invokevirtual 350, 3) := dk_182 1 94 (dk_at dksX6_worst_1 14 rfl rfl)
theorem dX6_worst_41 : decode cX6_worst 41 = .ok (.goto 7, 3) := dk_167 0 7 (dk_at dksX6_worst_1 17 rfl rfl)
theorem dX6_worst_44 : decode cX6_worst 44 = .ok (.aload_n 0, 1) := dk_42 (dk_at dksX6_worst_1 20 rfl rfl)
theorem dX6_worst_45 : decode cX6_worst 45 = .ok (.invokevirtual 353, 3) := dk_182 1 97 (dk_at dksX6_worst_1 21 rfl rfl)
theorem dX6_worst_48 : decode cX6_worst 48 = .ok (.ireturn, 1) := dk_172 (dk_at dksX6_worst_2 0 rfl rfl)
def dkwX6_worstStep_3 : List UInt8 := [60, 132, 5, 1, 167, 255, 201, 132, 4, 1, 167, 255, 183, 27, 172]
abbrev dktX6_worstStep_3 : List UInt8 := dkwX6_worstStep_3 ++ []
def dkwX6_worstStep_2 : List UInt8 := [148, 157, 0, 6, 167, 0, 21, 42, 21, 4, 21, 5, 182, 1, 91, 65, 16, 10, 21, 4, 104, 21, 5, 96]
abbrev dktX6_worstStep_2 : List UInt8 := dkwX6_worstStep_2 ++ dktX6_worstStep_3
def dkwX6_worstStep_1 : List UInt8 := [163, 0, 55, 42, 21, 4, 21, 5, 182, 1, 82, 2, 159, 0, 37, 42, 21, 4, 21, 5, 182, 1, 91, 32]
abbrev dktX6_worstStep_1 : List UInt8 := dkwX6_worstStep_1 ++ dktX6_worstStep_2
def dkwX6_worstStep_0 : List UInt8 := [2, 60, 20, 1, 5, 65, 3, 54, 4, 21, 4, 42, 182, 1, 76, 162, 0, 70, 3, 54, 5, 21, 5, 4]
abbrev dktX6_worstStep_0 : List UInt8 := dkwX6_worstStep_0 ++ dktX6_worstStep_1
theorem dksX6_worstStep_0 : cX6_worstStep.data.toList.drop 0 = dktX6_worstStep_0 := by decide +kernel
theorem dksX6_worstStep_1 : cX6_worstStep.data.toList.drop 24 = dktX6_worstStep_1 := dk_seg dksX6_worstStep_0 24 rfl rfl
theorem dksX6_worstStep_2 : cX6_worstStep.data.toList.drop 48 = dktX6_worstStep_2 := dk_seg dksX6_worstStep_1 24 rfl rfl
theorem dksX6_worstStep_3 : cX6_worstStep.data.toList.drop 72 = dktX6_worstStep_3 := dk_seg dksX6_worstStep_2 24 rfl rfl
theorem dX6_worstStep_0 : decode cX6_worstStep 0 = .ok (.iconst (-1), 1) := dk_2 (dk_at dksX6_worstStep_0 0 rfl rfl)
theorem dX6_worstStep_1 : decode cX6_worstStep 1 = .ok (.istore_n 1, 1) := dk_60 (dk_at dksX6_worstStep_0 1 rfl rfl)
theorem dX6_worstStep_2 : decode cX6_worstStep 2 = .ok (.ldc2_w 261, 3) := dk_20 1 5 (dk_at dksX6_worstStep_0 2 rfl rfl)
theorem dX6_worstStep_5 : decode cX6_worstStep 5 = .ok (.lstore_n 2, 1) := dk_65 (dk_at dksX6_worstStep_0 5 rfl rfl)
theorem dX6_worstStep_6 : decode cX6_worstStep 6 = .ok (.iconst 0, 1) := dk_3 (dk_at dksX6_worstStep_0 6 rfl rfl)
theorem dX6_worstStep_7 : decode cX6_worstStep 7 = .ok (.istore 4, 2) := dk_54 4 (dk_at dksX6_worstStep_0 7 rfl rfl)
theorem dX6_worstStep_9 : decode cX6_worstStep 9 = .ok (.iload 4, 2) := dk_21 4 (dk_at dksX6_worstStep_0 9 rfl rfl)
theorem dX6_worstStep_11 : decode cX6_worstStep 11 = .ok (.aload_n 0, 1) := dk_42 (dk_at dksX6_worstStep_0 11 rfl rfl)
theorem dX6_worstStep_12 : decode cX6_worstStep 12 = .ok (.invokevirtual 332, 3) := dk_182 1 76 (dk_at dksX6_worstStep_0 12 rfl rfl)
theorem dX6_worstStep_15 : decode cX6_worstStep 15 = .ok (.if_icmp .ge 70, 3) := dk_162 0 70 (dk_at dksX6_worstStep_0 15 rfl rfl)
theorem dX6_worstStep_18 : decode cX6_worstStep 18 = .ok (.iconst 0, 1) := dk_3 (dk_at dksX6_worstStep_0 18 rfl rfl)
theorem dX6_worstStep_19 : decode cX6_worstStep 19 = .ok (.istore 5, 2) := dk_54 5 (dk_at dksX6_worstStep_0 19 rfl rfl)
theorem dX6_worstStep_21 : decode cX6_worstStep 21 = .ok (.iload 5, 2) := dk_21 5 (dk_at dksX6_worstStep_0 21 rfl rfl)
theorem dX6_worstStep_23 : decode cX6_worstStep 23 = .ok (.iconst 1, 1) := dk_4 (dk_at dksX6_worstStep_0 23 rfl rfl)
theorem dX6_worstStep_24 : decode cX6_worstStep 24 = .ok (.if_icmp .gt 55, 3) := dk_163 0 55 (dk_at dksX6_worstStep_1 0 rfl rfl)
theorem dX6_worstStep_27 : decode cX6_worstStep 27 = .ok (.aload_n 0, 1) := dk_42 (dk_at dksX6_worstStep_1 3 rfl rfl)
theorem dX6_worstStep_28 : decode cX6_worstStep 28 = .ok (.iload 4, 2) := dk_21 4 (dk_at dksX6_worstStep_1 4 rfl rfl)
theorem dX6_worstStep_30 : decode cX6_worstStep 30 = .ok (.iload 5, 2) := dk_21 5 (dk_at dksX6_worstStep_1 6 rfl rfl)
theorem dX6_worstStep_32 : decode cX6_worstStep 32 = .ok (.invokevirtual 338, 3) := dk_182 1 82 (dk_at dksX6_worstStep_1 8 rfl rfl)
theorem dX6_worstStep_35 : decode cX6_worstStep 35 = .ok (.iconst (-1), 1) := dk_2 (dk_at dksX6_worstStep_1 11 rfl rfl)
theorem dX6_worstStep_36 : decode cX6_worstStep 36 = .ok (.if_icmp .eq 37, 3) := dk_159 0 37 (dk_at dksX6_worstStep_1 12 rfl rfl)
theorem dX6_worstStep_39 : decode cX6_worstStep 39 = .ok (.aload_n 0, 1) := dk_42 (dk_at dksX6_worstStep_1 15 rfl rfl)
theorem dX6_worstStep_40 : decode cX6_worstStep 40 = .ok (.iload 4, 2) := dk_21 4 (dk_at dksX6_worstStep_1 16 rfl rfl)
theorem dX6_worstStep_42 : decode cX6_worstStep 42 = .ok (.iload 5, 2) := dk_21 5 (dk_at dksX6_worstStep_1 18 rfl rfl)
theorem dX6_worstStep_44 : decode cX6_worstStep 44 = .ok (.invokevirtual 347, 3) := dk_182 1 91 (dk_at dksX6_worstStep_1 20 rfl rfl)
theorem dX6_worstStep_47 : decode cX6_worstStep 47 = .ok (.lload_n 2, 1) := dk_32 (dk_at dksX6_worstStep_1 23 rfl rfl)
theorem dX6_worstStep_48 : decode cX6_worstStep 48 = .ok (.lcmp, 1) := dk_148 (dk_at dksX6_worstStep_2 0 rfl rfl)
theorem dX6_worstStep_49 : decode cX6_worstStep 49 = .ok (.ifCond .gt 6, 3) := dk_157 0 6 (dk_at dksX6_worstStep_2 1 rfl rfl)
theorem dX6_worstStep_52 : decode cX6_worstStep 52 = .ok (.goto 21, 3) := dk_167 0 21 (dk_at dksX6_worstStep_2 4 rfl rfl)
theorem dX6_worstStep_55 : decode cX6_worstStep 55 = .ok (.aload_n 0, 1) := dk_42 (dk_at dksX6_worstStep_2 7 rfl rfl)
theorem dX6_worstStep_56 : decode cX6_worstStep 56 = .ok (.iload 4, 2) := dk_21 4 (dk_at dksX6_worstStep_2 8 rfl rfl)
theorem dX6_worstStep_58 : decode cX6_worstStep 58 = .ok (.iload 5, 2) := dk_21 5 (dk_at dksX6_worstStep_2 10 rfl rfl)
theorem dX6_worstStep_60 : decode cX6_worstStep 60 = .ok (.invokevirtual 347, 3) := dk_182 1 91 (dk_at dksX6_worstStep_2 12 rfl rfl)
theorem dX6_worstStep_63 : decode cX6_worstStep 63 = .ok (.lstore_n 2, 1) := dk_65 (dk_at dksX6_worstStep_2 15 rfl rfl)
theorem dX6_worstStep_64 : decode cX6_worstStep 64 = .ok (.bipush 10, 2) := dk_16 10 (dk_at dksX6_worstStep_2 16 rfl rfl)
theorem dX6_worstStep_66 : decode cX6_worstStep 66 = .ok (.iload 4, 2) := dk_21 4 (dk_at dksX6_worstStep_2 18 rfl rfl)
theorem dX6_worstStep_68 : decode cX6_worstStep 68 = .ok (.imul, 1) := dk_104 (dk_at dksX6_worstStep_2 20 rfl rfl)
theorem dX6_worstStep_69 : decode cX6_worstStep 69 = .ok (.iload 5, 2) := dk_21 5 (dk_at dksX6_worstStep_2 21 rfl rfl)
theorem dX6_worstStep_71 : decode cX6_worstStep 71 = .ok (.iadd, 1) := dk_96 (dk_at dksX6_worstStep_2 23 rfl rfl)
theorem dX6_worstStep_72 : decode cX6_worstStep 72 = .ok (.istore_n 1, 1) := dk_60 (dk_at dksX6_worstStep_3 0 rfl rfl)
theorem dX6_worstStep_73 : decode cX6_worstStep 73 = .ok (.iinc 5 1, 3) := dk_132 5 1 (dk_at dksX6_worstStep_3 1 rfl rfl)
theorem dX6_worstStep_76 : decode cX6_worstStep 76 = .ok (.goto (-55), 3) := dk_167 255 201 (dk_at dksX6_worstStep_3 4 rfl rfl)
theorem dX6_worstStep_79 : decode cX6_worstStep 79 = .ok (.iinc 4 1, 3) := dk_132 4 1 (dk_at dksX6_worstStep_3 7 rfl rfl)
theorem dX6_worstStep_82 : decode cX6_worstStep 82 = .ok (.goto (-73), 3) := dk_167 255 183 (dk_at dksX6_worstStep_3 10 rfl rfl)
theorem dX6_worstStep_85 : decode cX6_worstStep 85 = .ok (.iload_n 1, 1) := dk_27 (dk_at dksX6_worstStep_3 13 rfl rfl)
theorem dX6_worstStep_86 : decode cX6_worstStep 86 = .ok (.ireturn, 1) := dk_172 (dk_at dksX6_worstStep_3 14 rfl rfl)
def dkwX6_worstTouch_1 : List UInt8 := [148, 158, 0, 7, 28, 167, 0, 4, 27, 60, 132, 2, 1, 167, 255, 223, 27, 172]
abbrev dktX6_worstTouch_1 : List UInt8 := dkwX6_worstTouch_1 ++ []
def dkwX6_worstTouch_0 : List UInt8 := [3, 60, 4, 61, 28, 42, 182, 1, 76, 162, 0, 31, 42, 180, 0, 67, 28, 47, 42, 180, 0, 67, 27, 47]
abbrev dktX6_worstTouch_0 : List UInt8 := dkwX6_worstTouch_0 ++ dktX6_worstTouch_1
theorem dksX6_worstTouch_0 : cX6_worstTouch.data.toList.drop 0 = dktX6_worstTouch_0 := by decide +kernel
theorem dksX6_worstTouch_1 : cX6_worstTouch.data.toList.drop 24 = dktX6_worstTouch_1 := dk_seg dksX6_worstTouch_0 24 rfl rfl
theorem dX6_worstTouch_0 : decode cX6_worstTouch 0 = .ok (.iconst 0, 1) := dk_3 (dk_at dksX6_worstTouch_0 0 rfl rfl)
theorem dX6_worstTouch_1 : decode cX6_worstTouch 1 = .ok (.istore_n 1, 1) := dk_60 (dk_at dksX6_worstTouch_0 1 rfl rfl)
theorem dX6_worstTouch_2 : decode cX6_worstTouch 2 = .ok (.iconst 1, 1) := dk_4 (dk_at dksX6_worstTouch_0 2 rfl rfl)
theorem dX6_worstTouch_3 : decode cX6_worstTouch 3 = .ok (.istore_n 2, 1) := dk_61 (dk_at dksX6_worstTouch_0 3 rfl rfl)
theorem dX6_worstTouch_4 : decode cX6_worstTouch 4 = .ok (.iload_n 2, 1) := dk_28 (dk_at dksX6_worstTouch_0 4 rfl rfl)
theorem dX6_worstTouch_5 : decode cX6_worstTouch 5 = .ok (.aload_n 0, 1) := dk_42 (dk_at dksX6_worstTouch_0 5 rfl rfl)
theorem dX6_worstTouch_6 : decode cX6_worstTouch 6 = .ok (.invokevirtual 332, 3) := dk_182 1 76 (dk_at dksX6_worstTouch_0 6 rfl rfl)
theorem dX6_worstTouch_9 : decode cX6_worstTouch 9 = .ok (.if_icmp .ge 31, 3) := dk_162 0 31 (dk_at dksX6_worstTouch_0 9 rfl rfl)
theorem dX6_worstTouch_12 : decode cX6_worstTouch 12 = .ok (.aload_n 0, 1) := dk_42 (dk_at dksX6_worstTouch_0 12 rfl rfl)
theorem dX6_worstTouch_13 : decode cX6_worstTouch 13 = .ok (.getfield 67, 3) := dk_180 0 67 (dk_at dksX6_worstTouch_0 13 rfl rfl)
theorem dX6_worstTouch_16 : decode cX6_worstTouch 16 = .ok (.iload_n 2, 1) := dk_28 (dk_at dksX6_worstTouch_0 16 rfl rfl)
theorem dX6_worstTouch_17 : decode cX6_worstTouch 17 = .ok (.laload, 1) := dk_47 (dk_at dksX6_worstTouch_0 17 rfl rfl)
theorem dX6_worstTouch_18 : decode cX6_worstTouch 18 = .ok (.aload_n 0, 1) := dk_42 (dk_at dksX6_worstTouch_0 18 rfl rfl)
theorem dX6_worstTouch_19 : decode cX6_worstTouch 19 = .ok (.getfield 67, 3) := dk_180 0 67 (dk_at dksX6_worstTouch_0 19 rfl rfl)
theorem dX6_worstTouch_22 : decode cX6_worstTouch 22 = .ok (.iload_n 1, 1) := dk_27 (dk_at dksX6_worstTouch_0 22 rfl rfl)
theorem dX6_worstTouch_23 : decode cX6_worstTouch 23 = .ok (.laload, 1) := dk_47 (dk_at dksX6_worstTouch_0 23 rfl rfl)
theorem dX6_worstTouch_24 : decode cX6_worstTouch 24 = .ok (.lcmp, 1) := dk_148 (dk_at dksX6_worstTouch_1 0 rfl rfl)
theorem dX6_worstTouch_25 : decode cX6_worstTouch 25 = .ok (.ifCond .le 7, 3) := dk_158 0 7 (dk_at dksX6_worstTouch_1 1 rfl rfl)
theorem dX6_worstTouch_28 : decode cX6_worstTouch 28 = .ok (.iload_n 2, 1) := dk_28 (dk_at dksX6_worstTouch_1 4 rfl rfl)
theorem dX6_worstTouch_29 : decode cX6_worstTouch 29 = .ok (.goto 4, 3) := dk_167 0 4 (dk_at dksX6_worstTouch_1 5 rfl rfl)
theorem dX6_worstTouch_32 : decode cX6_worstTouch 32 = .ok (.iload_n 1, 1) := dk_27 (dk_at dksX6_worstTouch_1 8 rfl rfl)
theorem dX6_worstTouch_33 : decode cX6_worstTouch 33 = .ok (.istore_n 1, 1) := dk_60 (dk_at dksX6_worstTouch_1 9 rfl rfl)
theorem dX6_worstTouch_34 : decode cX6_worstTouch 34 = .ok (.iinc 2 1, 3) := dk_132 2 1 (dk_at dksX6_worstTouch_1 10 rfl rfl)
theorem dX6_worstTouch_37 : decode cX6_worstTouch 37 = .ok (.goto (-33), 3) := dk_167 255 223 (dk_at dksX6_worstTouch_1 13 rfl rfl)
theorem dX6_worstTouch_40 : decode cX6_worstTouch 40 = .ok (.iload_n 1, 1) := dk_27 (dk_at dksX6_worstTouch_1 16 rfl rfl)
theorem dX6_worstTouch_41 : decode cX6_worstTouch 41 = .ok (.ireturn, 1) := dk_172 (dk_at dksX6_worstTouch_1 17 rfl rfl)
def dkwX6_box_8 : List UInt8 := [21, 8, 184, 0, 220, 62, 132, 5, 1, 167, 255, 124, 132, 4, 1, 167, 255, 106, 29, 172]
abbrev dktX6_box_8 : List UInt8 := dkwX6_box_8 ++ []
def dkwX6_box_7 : List UInt8 := [5, 162, 0, 22, 29, 2, 160, 0, 8, 21, 7, 167, 0, 18, 29, 21, 7, 184, 0, 127, 167, 0, 9, 29]
abbrev dktX6_box_7 : List UInt8 := dkwX6_box_7 ++ dktX6_box_8
def dkwX6_box_6 : List UInt8 := [112, 154, 0, 13, 21, 6, 42, 182, 1, 69, 112, 167, 0, 10, 21, 6, 42, 182, 1, 69, 108, 54, 8, 28]
abbrev dktX6_box_6 : List UInt8 := dkwX6_box_6 ++ dktX6_box_7
def dkwX6_box_5 : List UInt8 := [154, 0, 13, 21, 4, 42, 182, 1, 69, 112, 167, 0, 10, 21, 4, 42, 182, 1, 69, 108, 54, 7, 28, 5]
abbrev dktX6_box_5 : List UInt8 := dkwX6_box_5 ++ dktX6_box_6
def dkwX6_box_4 : List UInt8 := [182, 1, 91, 20, 1, 100, 27, 133, 105, 42, 180, 0, 233, 105, 148, 157, 0, 6, 167, 0, 84, 28, 5, 112]
abbrev dktX6_box_4 : List UInt8 := dkwX6_box_4 ++ dktX6_box_5
def dkwX6_box_3 : List UInt8 := [163, 0, 132, 42, 21, 4, 21, 5, 182, 1, 82, 54, 6, 21, 6, 2, 159, 0, 110, 42, 21, 4, 21, 5]
abbrev dktX6_box_3 : List UInt8 := dkwX6_box_3 ++ dktX6_box_4
def dkwX6_box_2 : List UInt8 := [182, 0, 182, 172, 2, 62, 3, 54, 4, 21, 4, 42, 182, 1, 76, 162, 0, 147, 3, 54, 5, 21, 5, 4]
abbrev dktX6_box_2 : List UInt8 := dkwX6_box_2 ++ dktX6_box_3
def dkwX6_box_1 : List UInt8 := [17, 39, 15, 184, 1, 44, 154, 0, 9, 42, 5, 182, 0, 182, 172, 42, 182, 1, 88, 154, 0, 9, 42, 6]
abbrev dktX6_box_1 : List UInt8 := dkwX6_box_1 ++ dktX6_box_2
def dkwX6_box_0 : List UInt8 := [42, 3, 181, 0, 90, 28, 3, 6, 184, 1, 44, 154, 0, 9, 42, 4, 182, 0, 182, 172, 27, 3]
abbrev dktX6_box_0 : List UInt8 := dkwX6_box_0 ++ dktX6_box_1
theorem dksX6_box_0 : cX6_box.data.toList.drop 0 = dktX6_box_0 := by decide +kernel
theorem dksX6_box_1 : cX6_box.data.toList.drop 22 = dktX6_box_1 := dk_seg dksX6_box_0 22 rfl rfl
theorem dksX6_box_2 : cX6_box.data.toList.drop 46 = dktX6_box_2 := dk_seg dksX6_box_1 24 rfl rfl
theorem dksX6_box_3 : cX6_box.data.toList.drop 70 = dktX6_box_3 := dk_seg dksX6_box_2 24 rfl rfl
theorem dksX6_box_4 : cX6_box.data.toList.drop 94 = dktX6_box_4 := dk_seg dksX6_box_3 24 rfl rfl
theorem dksX6_box_5 : cX6_box.data.toList.drop 118 = dktX6_box_5 := dk_seg dksX6_box_4 24 rfl rfl
theorem dksX6_box_6 : cX6_box.data.toList.drop 142 = dktX6_box_6 := dk_seg dksX6_box_5 24 rfl rfl
theorem dksX6_box_7 : cX6_box.data.toList.drop 166 = dktX6_box_7 := dk_seg dksX6_box_6 24 rfl rfl
theorem dksX6_box_8 : cX6_box.data.toList.drop 190 = dktX6_box_8 := dk_seg dksX6_box_7 24 rfl rfl
theorem dX6_box_0 : decode cX6_box 0 = .ok (.aload_n 0, 1) := dk_42 (dk_at dksX6_box_0 0 rfl rfl)
theorem dX6_box_1 : decode cX6_box 1 = .ok (.iconst 0, 1) := dk_3 (dk_at dksX6_box_0 1 rfl rfl)
theorem dX6_box_2 : decode cX6_box 2 = .ok (.putfield 90, 3) := dk_181 0 90 (dk_at dksX6_box_0 2 rfl rfl)
theorem dX6_box_5 : decode cX6_box 5 = .ok (.iload_n 2, 1) := dk_28 (dk_at dksX6_box_0 5 rfl rfl)
theorem dX6_box_6 : decode cX6_box 6 = .ok (.iconst 0, 1) := dk_3 (dk_at dksX6_box_0 6 rfl rfl)
theorem dX6_box_7 : decode cX6_box 7 = .ok (.iconst 3, 1) := dk_6 (dk_at dksX6_box_0 7 rfl rfl)
theorem dX6_box_8 : decode cX6_box 8 = .ok (.invokestatic 300, 3) := dk_184 1 44 (dk_at dksX6_box_0 8 rfl rfl)
theorem dX6_box_11 : decode cX6_box 11 = .ok (.ifCond .ne 9, 3) := dk_154 0 9 (dk_at dksX6_box_0 11 rfl rfl)
theorem dX6_box_14 : decode cX6_box 14 = .ok (.aload_n 0, 1) := dk_42 (dk_at dksX6_box_0 14 rfl rfl)
theorem dX6_box_15 : decode cX6_box 15 = .ok (.iconst 1, 1) := dk_4 (dk_at dksX6_box_0 15 rfl rfl)
theorem dX6_box_16 : decode cX6_box 16 = .ok (.invokevirtual 182, 3) := dk_182 0 182 (dk_at dksX6_box_0 16 rfl rfl)
theorem dX6_box_19 : decode cX6_box 19 = .ok (.ireturn, 1) := dk_172 (dk_at dksX6_box_0 19 rfl rfl)
theorem dX6_box_20 : decode cX6_box 20 = .ok (.iload_n 1, 1) := dk_27 (dk_at dksX6_box_0 20 rfl rfl)
theorem dX6_box_21 : decode cX6_box 21 = .ok (.iconst 0, 1) := dk_3 (dk_at dksX6_box_0 21 rfl rfl)
theorem dX6_box_22 : decode cX6_box 22 = .ok (.sipush 9999, 3) := dk_17 39 15 (dk_at dksX6_box_1 0 rfl rfl)
theorem dX6_box_25 : decode cX6_box 25 = .ok (.invokestatic 300, 3) := dk_184 1 44 (dk_at dksX6_box_1 3 rfl rfl)
theorem dX6_box_28 : decode cX6_box 28 = .ok (.ifCond .ne 9, 3) := dk_154 0 9 (dk_at dksX6_box_1 6 rfl rfl)
theorem dX6_box_31 : decode cX6_box 31 = .ok (.aload_n 0, 1) := dk_42 (dk_at dksX6_box_1 9 rfl rfl)
theorem dX6_box_32 : decode cX6_box 32 = .ok (.iconst 2, 1) := dk_5 (dk_at dksX6_box_1 10 rfl rfl)
theorem dX6_box_33 : decode cX6_box 33 = .ok (.invokevirtual 182, 3) := dk_182 0 182 (dk_at dksX6_box_1 11 rfl rfl)
theorem dX6_box_36 : decode cX6_box 36 = .ok (.ireturn, 1) := dk_172 (dk_at dksX6_box_1 14 rfl rfl)
theorem dX6_box_37 : decode cX6_box 37 = .ok (.aload_n 0, 1) := dk_42 (dk_at dksX6_box_1 15 rfl rfl)
theorem dX6_box_38 : decode cX6_box 38 = .ok (.invokevirtual 344, 3) := dk_182 1 88 (dk_at dksX6_box_1 16 rfl rfl)
theorem dX6_box_41 : decode cX6_box 41 = .ok (.ifCond .ne 9, 3) := dk_154 0 9 (dk_at dksX6_box_1 19 rfl rfl)
theorem dX6_box_44 : decode cX6_box 44 = .ok (.aload_n 0, 1) := dk_42 (dk_at dksX6_box_1 22 rfl rfl)
theorem dX6_box_45 : decode cX6_box 45 = .ok (.iconst 3, 1) := dk_6 (dk_at dksX6_box_1 23 rfl rfl)
theorem dX6_box_46 : decode cX6_box 46 = .ok (.invokevirtual 182, 3) := dk_182 0 182 (dk_at dksX6_box_2 0 rfl rfl)
theorem dX6_box_49 : decode cX6_box 49 = .ok (.ireturn, 1) := dk_172 (dk_at dksX6_box_2 3 rfl rfl)
theorem dX6_box_50 : decode cX6_box 50 = .ok (.iconst (-1), 1) := dk_2 (dk_at dksX6_box_2 4 rfl rfl)
theorem dX6_box_51 : decode cX6_box 51 = .ok (.istore_n 3, 1) := dk_62 (dk_at dksX6_box_2 5 rfl rfl)
theorem dX6_box_52 : decode cX6_box 52 = .ok (.iconst 0, 1) := dk_3 (dk_at dksX6_box_2 6 rfl rfl)
theorem dX6_box_53 : decode cX6_box 53 = .ok (.istore 4, 2) := dk_54 4 (dk_at dksX6_box_2 7 rfl rfl)
theorem dX6_box_55 : decode cX6_box 55 = .ok (.iload 4, 2) := dk_21 4 (dk_at dksX6_box_2 9 rfl rfl)
theorem dX6_box_57 : decode cX6_box 57 = .ok (.aload_n 0, 1) := dk_42 (dk_at dksX6_box_2 11 rfl rfl)
theorem dX6_box_58 : decode cX6_box 58 = .ok (.invokevirtual 332, 3) := dk_182 1 76 (dk_at dksX6_box_2 12 rfl rfl)
theorem dX6_box_61 : decode cX6_box 61 = .ok (.if_icmp .ge 147, 3) := dk_162 0 147 (dk_at dksX6_box_2 15 rfl rfl)
theorem dX6_box_64 : decode cX6_box 64 = .ok (.iconst 0, 1) := dk_3 (dk_at dksX6_box_2 18 rfl rfl)
theorem dX6_box_65 : decode cX6_box 65 = .ok (.istore 5, 2) := dk_54 5 (dk_at dksX6_box_2 19 rfl rfl)
theorem dX6_box_67 : decode cX6_box 67 = .ok (.iload 5, 2) := dk_21 5 (dk_at dksX6_box_2 21 rfl rfl)
theorem dX6_box_69 : decode cX6_box 69 = .ok (.iconst 1, 1) := dk_4 (dk_at dksX6_box_2 23 rfl rfl)
theorem dX6_box_70 : decode cX6_box 70 = .ok (.if_icmp .gt 132, 3) := dk_163 0 132 (dk_at dksX6_box_3 0 rfl rfl)
theorem dX6_box_73 : decode cX6_box 73 = .ok (.aload_n 0, 1) := dk_42 (dk_at dksX6_box_3 3 rfl rfl)
theorem dX6_box_74 : decode cX6_box 74 = .ok (.iload 4, 2) := dk_21 4 (dk_at dksX6_box_3 4 rfl rfl)
theorem dX6_box_76 : decode cX6_box 76 = .ok (.iload 5, 2) := dk_21 5 (dk_at dksX6_box_3 6 rfl rfl)
theorem dX6_box_78 : decode cX6_box 78 = .ok (.invokevirtual 338, 3) := dk_182 1 82 (dk_at dksX6_box_3 8 rfl rfl)
theorem dX6_box_81 : decode cX6_box 81 = .ok (.istore 6, 2) := dk_54 6 (dk_at dksX6_box_3 11 rfl rfl)
theorem dX6_box_83 : decode cX6_box 83 = .ok (.iload 6, 2) := dk_21 6 (dk_at dksX6_box_3 13 rfl rfl)
theorem dX6_box_85 : decode cX6_box 85 = .ok (.iconst (-1), 1) := dk_2 (dk_at dksX6_box_3 15 rfl rfl)
theorem dX6_box_86 : decode cX6_box 86 = .ok (.if_icmp .eq 110, 3) := dk_159 0 110 (dk_at dksX6_box_3 16 rfl rfl)
theorem dX6_box_89 : decode cX6_box 89 = .ok (.aload_n 0, 1) := dk_42 (dk_at dksX6_box_3 19 rfl rfl)
theorem dX6_box_90 : decode cX6_box 90 = .ok (.iload 4, 2) := dk_21 4 (dk_at dksX6_box_3 20 rfl rfl)
theorem dX6_box_92 : decode cX6_box 92 = .ok (.iload 5, 2) := dk_21 5 (dk_at dksX6_box_3 22 rfl rfl)
theorem dX6_box_94 : decode cX6_box 94 = .ok (.invokevirtual 347, 3) := dk_182 1 91 (dk_at dksX6_box_4 0 rfl rfl)
theorem dX6_box_97 : decode cX6_box 97 = .ok (.ldc2_w 356, 3) := dk_20 1 100 (dk_at dksX6_box_4 3 rfl rfl)
theorem dX6_box_100 : decode cX6_box 100 = .ok (.iload_n 1, 1) := dk_27 (dk_at dksX6_box_4 6 rfl rfl)
theorem dX6_box_101 : decode cX6_box 101 = .ok (.i2l, 1) := dk_133 (dk_at dksX6_box_4 7 rfl rfl)
theorem dX6_box_102 : decode cX6_box 102 = .ok (.lmul, 1) := dk_105 (dk_at dksX6_box_4 8 rfl rfl)
theorem dX6_box_103 : decode cX6_box 103 = .ok (.aload_n 0, 1) := dk_42 (dk_at dksX6_box_4 9 rfl rfl)
theorem dX6_box_104 : decode cX6_box 104 = .ok (.getfield 233, 3) := dk_180 0 233 (dk_at dksX6_box_4 10 rfl rfl)
theorem dX6_box_107 : decode cX6_box 107 = .ok (.lmul, 1) := dk_105 (dk_at dksX6_box_4 13 rfl rfl)
theorem dX6_box_108 : decode cX6_box 108 = .ok (.lcmp, 1) := dk_148 (dk_at dksX6_box_4 14 rfl rfl)
theorem dX6_box_109 : decode cX6_box 109 = .ok (.ifCond .gt 6, 3) := dk_157 0 6 (dk_at dksX6_box_4 15 rfl rfl)
theorem dX6_box_112 : decode cX6_box 112 = .ok (.goto 84, 3) := dk_167 0 84 (dk_at dksX6_box_4 18 rfl rfl)
theorem dX6_box_115 : decode cX6_box 115 = .ok (.iload_n 2, 1) := dk_28 (dk_at dksX6_box_4 21 rfl rfl)
theorem dX6_box_116 : decode cX6_box 116 = .ok (.iconst 2, 1) := dk_5 (dk_at dksX6_box_4 22 rfl rfl)
theorem dX6_box_117 : decode cX6_box 117 = .ok (.irem, 1) := dk_112 (dk_at dksX6_box_4 23 rfl rfl)
theorem dX6_box_118 : decode cX6_box 118 = .ok (.ifCond .ne 13, 3) := dk_154 0 13 (dk_at dksX6_box_5 0 rfl rfl)
theorem dX6_box_121 : decode cX6_box 121 = .ok (.iload 4, 2) := dk_21 4 (dk_at dksX6_box_5 3 rfl rfl)
theorem dX6_box_123 : decode cX6_box 123 = .ok (.aload_n 0, 1) := dk_42 (dk_at dksX6_box_5 5 rfl rfl)
theorem dX6_box_124 : decode cX6_box 124 = .ok (.invokevirtual 325, 3) := dk_182 1 69 (dk_at dksX6_box_5 6 rfl rfl)
theorem dX6_box_127 : decode cX6_box 127 = .ok (.irem, 1) := dk_112 (dk_at dksX6_box_5 9 rfl rfl)
theorem dX6_box_128 : decode cX6_box 128 = .ok (.goto 10, 3) := dk_167 0 10 (dk_at dksX6_box_5 10 rfl rfl)
theorem dX6_box_131 : decode cX6_box 131 = .ok (.iload 4, 2) := dk_21 4 (dk_at dksX6_box_5 13 rfl rfl)
theorem dX6_box_133 : decode cX6_box 133 = .ok (.aload_n 0, 1) := dk_42 (dk_at dksX6_box_5 15 rfl rfl)
theorem dX6_box_134 : decode cX6_box 134 = .ok (.invokevirtual 325, 3) := dk_182 1 69 (dk_at dksX6_box_5 16 rfl rfl)
theorem dX6_box_137 : decode cX6_box 137 = .ok (.idiv, 1) := dk_108 (dk_at dksX6_box_5 19 rfl rfl)
theorem dX6_box_138 : decode cX6_box 138 = .ok (.istore 7, 2) := dk_54 7 (dk_at dksX6_box_5 20 rfl rfl)
theorem dX6_box_140 : decode cX6_box 140 = .ok (.iload_n 2, 1) := dk_28 (dk_at dksX6_box_5 22 rfl rfl)
theorem dX6_box_141 : decode cX6_box 141 = .ok (.iconst 2, 1) := dk_5 (dk_at dksX6_box_5 23 rfl rfl)
theorem dX6_box_142 : decode cX6_box 142 = .ok (.irem, 1) := dk_112 (dk_at dksX6_box_6 0 rfl rfl)
theorem dX6_box_143 : decode cX6_box 143 = .ok (.ifCond .ne 13, 3) := dk_154 0 13 (dk_at dksX6_box_6 1 rfl rfl)
theorem dX6_box_146 : decode cX6_box 146 = .ok (.iload 6, 2) := dk_21 6 (dk_at dksX6_box_6 4 rfl rfl)
theorem dX6_box_148 : decode cX6_box 148 = .ok (.aload_n 0, 1) := dk_42 (dk_at dksX6_box_6 6 rfl rfl)
theorem dX6_box_149 : decode cX6_box 149 = .ok (.invokevirtual 325, 3) := dk_182 1 69 (dk_at dksX6_box_6 7 rfl rfl)
theorem dX6_box_152 : decode cX6_box 152 = .ok (.irem, 1) := dk_112 (dk_at dksX6_box_6 10 rfl rfl)
theorem dX6_box_153 : decode cX6_box 153 = .ok (.goto 10, 3) := dk_167 0 10 (dk_at dksX6_box_6 11 rfl rfl)
theorem dX6_box_156 : decode cX6_box 156 = .ok (.iload 6, 2) := dk_21 6 (dk_at dksX6_box_6 14 rfl rfl)
theorem dX6_box_158 : decode cX6_box 158 = .ok (.aload_n 0, 1) := dk_42 (dk_at dksX6_box_6 16 rfl rfl)
theorem dX6_box_159 : decode cX6_box 159 = .ok (.invokevirtual 325, 3) := dk_182 1 69 (dk_at dksX6_box_6 17 rfl rfl)
theorem dX6_box_162 : decode cX6_box 162 = .ok (.idiv, 1) := dk_108 (dk_at dksX6_box_6 20 rfl rfl)
theorem dX6_box_163 : decode cX6_box 163 = .ok (.istore 8, 2) := dk_54 8 (dk_at dksX6_box_6 21 rfl rfl)
theorem dX6_box_165 : decode cX6_box 165 = .ok (.iload_n 2, 1) := dk_28 (dk_at dksX6_box_6 23 rfl rfl)
theorem dX6_box_166 : decode cX6_box 166 = .ok (.iconst 2, 1) := dk_5 (dk_at dksX6_box_7 0 rfl rfl)
theorem dX6_box_167 : decode cX6_box 167 = .ok (.if_icmp .ge 22, 3) := dk_162 0 22 (dk_at dksX6_box_7 1 rfl rfl)
theorem dX6_box_170 : decode cX6_box 170 = .ok (.iload_n 3, 1) := dk_29 (dk_at dksX6_box_7 4 rfl rfl)
theorem dX6_box_171 : decode cX6_box 171 = .ok (.iconst (-1), 1) := dk_2 (dk_at dksX6_box_7 5 rfl rfl)
theorem dX6_box_172 : decode cX6_box 172 = .ok (.if_icmp .ne 8, 3) := dk_160 0 8 (dk_at dksX6_box_7 6 rfl rfl)
theorem dX6_box_175 : decode cX6_box 175 = .ok (.iload 7, 2) := dk_21 7 (dk_at dksX6_box_7 9 rfl rfl)
theorem dX6_box_177 : decode cX6_box 177 = .ok (.goto 18, 3) := dk_167 0 18 (dk_at dksX6_box_7 11 rfl rfl)
theorem dX6_box_180 : decode cX6_box 180 = .ok (.iload_n 3, 1) := dk_29 (dk_at dksX6_box_7 14 rfl rfl)
theorem dX6_box_181 : decode cX6_box 181 = .ok (.iload 7, 2) := dk_21 7 (dk_at dksX6_box_7 15 rfl rfl)
theorem dX6_box_183 : decode cX6_box 183 = .ok (.invokestatic 127, 3) := dk_184 0 127 (dk_at dksX6_box_7 17 rfl rfl)
theorem dX6_box_186 : decode cX6_box 186 = .ok (.goto 9, 3) := dk_167 0 9 (dk_at dksX6_box_7 20 rfl rfl)
theorem dX6_box_189 : decode cX6_box 189 = .ok (.iload_n 3, 1) := dk_29 (dk_at dksX6_box_7 23 rfl rfl)
theorem dX6_box_190 : decode cX6_box 190 = .ok (.iload 8, 2) := dk_21 8 (dk_at dksX6_box_8 0 rfl rfl)
theorem dX6_box_192 : decode cX6_box 192 = .ok (.invokestatic 220, 3) := dk_184 0 220 (dk_at dksX6_box_8 2 rfl rfl)
theorem dX6_box_195 : decode cX6_box 195 = .ok (.istore_n 3, 1) := dk_62 (dk_at dksX6_box_8 5 rfl rfl)
theorem dX6_box_196 : decode cX6_box 196 = .ok (.iinc 5 1, 3) := dk_132 5 1 (dk_at dksX6_box_8 6 rfl rfl)
theorem dX6_box_199 : decode cX6_box 199 = .ok (.goto (-132), 3) := dk_167 255 124 (dk_at dksX6_box_8 9 rfl rfl)
theorem dX6_box_202 : decode cX6_box 202 = .ok (.iinc 4 1, 3) := dk_132 4 1 (dk_at dksX6_box_8 12 rfl rfl)
theorem dX6_box_205 : decode cX6_box 205 = .ok (.goto (-150), 3) := dk_167 255 106 (dk_at dksX6_box_8 15 rfl rfl)
theorem dX6_box_208 : decode cX6_box 208 = .ok (.iload_n 3, 1) := dk_29 (dk_at dksX6_box_8 18 rfl rfl)
theorem dX6_box_209 : decode cX6_box 209 = .ok (.ireturn, 1) := dk_172 (dk_at dksX6_box_8 19 rfl rfl)
def dkwX6_reach_3 : List UInt8 := [167, 0, 4, 3, 96, 61, 132, 3, 1, 167, 255, 216, 28, 172]
abbrev dktX6_reach_3 : List UInt8 := dkwX6_reach_3 ++ []
def dkwX6_reach_2 : List UInt8 := [28, 42, 180, 0, 64, 29, 47, 20, 1, 100, 27, 133, 105, 42, 180, 0, 233, 105, 148, 158, 0, 7, 4]
abbrev dktX6_reach_2 : List UInt8 := dkwX6_reach_2 ++ dktX6_reach_3
def dkwX6_reach_1 : List UInt8 := [182, 1, 88, 154, 0, 9, 42, 5, 182, 0, 182, 172, 3, 61, 3, 62, 29, 42, 182, 1, 76, 162, 0, 38]
abbrev dktX6_reach_1 : List UInt8 := dkwX6_reach_1 ++ dktX6_reach_2
def dkwX6_reach_0 : List UInt8 := [42, 3, 181, 0, 90, 27, 3, 17, 39, 15, 184, 1, 44, 154, 0, 9, 42, 4, 182, 0, 182, 172, 42]
abbrev dktX6_reach_0 : List UInt8 := dkwX6_reach_0 ++ dktX6_reach_1
theorem dksX6_reach_0 : cX6_reach.data.toList.drop 0 = dktX6_reach_0 := by decide +kernel
theorem dksX6_reach_1 : cX6_reach.data.toList.drop 23 = dktX6_reach_1 := dk_seg dksX6_reach_0 23 rfl rfl
theorem dksX6_reach_2 : cX6_reach.data.toList.drop 47 = dktX6_reach_2 := dk_seg dksX6_reach_1 24 rfl rfl
theorem dksX6_reach_3 : cX6_reach.data.toList.drop 70 = dktX6_reach_3 := dk_seg dksX6_reach_2 23 rfl rfl
theorem dX6_reach_0 : decode cX6_reach 0 = .ok (.aload_n 0, 1) := dk_42 (dk_at dksX6_reach_0 0 rfl rfl)
theorem dX6_reach_1 : decode cX6_reach 1 = .ok (.iconst 0, 1) := dk_3 (dk_at dksX6_reach_0 1 rfl rfl)
theorem dX6_reach_2 : decode cX6_reach 2 = .ok (.putfield 90, 3) := dk_181 0 90 (dk_at dksX6_reach_0 2 rfl rfl)
theorem dX6_reach_5 : decode cX6_reach 5 = .ok (.iload_n 1, 1) := dk_27 (dk_at dksX6_reach_0 5 rfl rfl)
theorem dX6_reach_6 : decode cX6_reach 6 = .ok (.iconst 0, 1) := dk_3 (dk_at dksX6_reach_0 6 rfl rfl)
theorem dX6_reach_7 : decode cX6_reach 7 = .ok (.sipush 9999, 3) := dk_17 39 15 (dk_at dksX6_reach_0 7 rfl rfl)
theorem dX6_reach_10 : decode cX6_reach 10 = .ok (.invokestatic 300, 3) := dk_184 1 44 (dk_at dksX6_reach_0 10 rfl rfl)
theorem dX6_reach_13 : decode cX6_reach 13 = .ok (.ifCond .ne 9, 3) := dk_154 0 9 (dk_at dksX6_reach_0 13 rfl rfl)
theorem dX6_reach_16 : decode cX6_reach 16 = .ok (.aload_n 0, 1) := dk_42 (dk_at dksX6_reach_0 16 rfl rfl)
theorem dX6_reach_17 : decode cX6_reach 17 = .ok (.iconst 1, 1) := dk_4 (dk_at dksX6_reach_0 17 rfl rfl)
theorem dX6_reach_18 : decode cX6_reach 18 = .ok (.invokevirtual 182, 3) := dk_182 0 182 (dk_at dksX6_reach_0 18 rfl rfl)
theorem dX6_reach_21 : decode cX6_reach 21 = .ok (.ireturn, 1) := dk_172 (dk_at dksX6_reach_0 21 rfl rfl)
theorem dX6_reach_22 : decode cX6_reach 22 = .ok (.aload_n 0, 1) := dk_42 (dk_at dksX6_reach_0 22 rfl rfl)
theorem dX6_reach_23 : decode cX6_reach 23 = .ok (.invokevirtual 344, 3) := dk_182 1 88 (dk_at dksX6_reach_1 0 rfl rfl)
theorem dX6_reach_26 : decode cX6_reach 26 = .ok (.ifCond .ne 9, 3) := dk_154 0 9 (dk_at dksX6_reach_1 3 rfl rfl)
theorem dX6_reach_29 : decode cX6_reach 29 = .ok (.aload_n 0, 1) := dk_42 (dk_at dksX6_reach_1 6 rfl rfl)
theorem dX6_reach_30 : decode cX6_reach 30 = .ok (.iconst 2, 1) := dk_5 (dk_at dksX6_reach_1 7 rfl rfl)
theorem dX6_reach_31 : decode cX6_reach 31 = .ok (.invokevirtual 182, 3) := dk_182 0 182 (dk_at dksX6_reach_1 8 rfl rfl)
theorem dX6_reach_34 : decode cX6_reach 34 = .ok (.ireturn, 1) := dk_172 (dk_at dksX6_reach_1 11 rfl rfl)
theorem dX6_reach_35 : decode cX6_reach 35 = .ok (.iconst 0, 1) := dk_3 (dk_at dksX6_reach_1 12 rfl rfl)
theorem dX6_reach_36 : decode cX6_reach 36 = .ok (.istore_n 2, 1) := dk_61 (dk_at dksX6_reach_1 13 rfl rfl)
theorem dX6_reach_37 : decode cX6_reach 37 = .ok (.iconst 0, 1) := dk_3 (dk_at dksX6_reach_1 14 rfl rfl)
theorem dX6_reach_38 : decode cX6_reach 38 = .ok (.istore_n 3, 1) := dk_62 (dk_at dksX6_reach_1 15 rfl rfl)
theorem dX6_reach_39 : decode cX6_reach 39 = .ok (.iload_n 3, 1) := dk_29 (dk_at dksX6_reach_1 16 rfl rfl)
theorem dX6_reach_40 : decode cX6_reach 40 = .ok (.aload_n 0, 1) := dk_42 (dk_at dksX6_reach_1 17 rfl rfl)
theorem dX6_reach_41 : decode cX6_reach 41 = .ok (.invokevirtual 332, 3) := dk_182 1 76 (dk_at dksX6_reach_1 18 rfl rfl)
theorem dX6_reach_44 : decode cX6_reach 44 = .ok (.if_icmp .ge 38, 3) := dk_162 0 38 (dk_at dksX6_reach_1 21 rfl rfl)
theorem dX6_reach_47 : decode cX6_reach 47 = .ok (.iload_n 2, 1) := dk_28 (dk_at dksX6_reach_2 0 rfl rfl)
theorem dX6_reach_48 : decode cX6_reach 48 = .ok (.aload_n 0, 1) := dk_42 (dk_at dksX6_reach_2 1 rfl rfl)
theorem dX6_reach_49 : decode cX6_reach 49 = .ok (.getfield 64, 3) := dk_180 0 64 (dk_at dksX6_reach_2 2 rfl rfl)
theorem dX6_reach_52 : decode cX6_reach 52 = .ok (.iload_n 3, 1) := dk_29 (dk_at dksX6_reach_2 5 rfl rfl)
theorem dX6_reach_53 : decode cX6_reach 53 = .ok (.laload, 1) := dk_47 (dk_at dksX6_reach_2 6 rfl rfl)
theorem dX6_reach_54 : decode cX6_reach 54 = .ok (.ldc2_w 356, 3) := dk_20 1 100 (dk_at dksX6_reach_2 7 rfl rfl)
theorem dX6_reach_57 : decode cX6_reach 57 = .ok (.iload_n 1, 1) := dk_27 (dk_at dksX6_reach_2 10 rfl rfl)
theorem dX6_reach_58 : decode cX6_reach 58 = .ok (.i2l, 1) := dk_133 (dk_at dksX6_reach_2 11 rfl rfl)
theorem dX6_reach_59 : decode cX6_reach 59 = .ok (.lmul, 1) := dk_105 (dk_at dksX6_reach_2 12 rfl rfl)
theorem dX6_reach_60 : decode cX6_reach 60 = .ok (.aload_n 0, 1) := dk_42 (dk_at dksX6_reach_2 13 rfl rfl)
theorem dX6_reach_61 : decode cX6_reach 61 = .ok (.getfield 233, 3) := dk_180 0 233 (dk_at dksX6_reach_2 14 rfl rfl)
theorem dX6_reach_64 : decode cX6_reach 64 = .ok (.lmul, 1) := dk_105 (dk_at dksX6_reach_2 17 rfl rfl)
theorem dX6_reach_65 : decode cX6_reach 65 = .ok (.lcmp, 1) := dk_148 (dk_at dksX6_reach_2 18 rfl rfl)
theorem dX6_reach_66 : decode cX6_reach 66 = .ok (.ifCond .le 7, 3) := dk_158 0 7 (dk_at dksX6_reach_2 19 rfl rfl)
theorem dX6_reach_69 : decode cX6_reach 69 = .ok (.iconst 1, 1) := dk_4 (dk_at dksX6_reach_2 22 rfl rfl)
theorem dX6_reach_70 : decode cX6_reach 70 = .ok (.goto 4, 3) := dk_167 0 4 (dk_at dksX6_reach_3 0 rfl rfl)
theorem dX6_reach_73 : decode cX6_reach 73 = .ok (.iconst 0, 1) := dk_3 (dk_at dksX6_reach_3 3 rfl rfl)
theorem dX6_reach_74 : decode cX6_reach 74 = .ok (.iadd, 1) := dk_96 (dk_at dksX6_reach_3 4 rfl rfl)
theorem dX6_reach_75 : decode cX6_reach 75 = .ok (.istore_n 2, 1) := dk_61 (dk_at dksX6_reach_3 5 rfl rfl)
theorem dX6_reach_76 : decode cX6_reach 76 = .ok (.iinc 3 1, 3) := dk_132 3 1 (dk_at dksX6_reach_3 6 rfl rfl)
theorem dX6_reach_79 : decode cX6_reach 79 = .ok (.goto (-40), 3) := dk_167 255 216 (dk_at dksX6_reach_3 9 rfl rfl)
theorem dX6_reach_82 : decode cX6_reach 82 = .ok (.iload_n 2, 1) := dk_28 (dk_at dksX6_reach_3 12 rfl rfl)
theorem dX6_reach_83 : decode cX6_reach 83 = .ok (.ireturn, 1) := dk_172 (dk_at dksX6_reach_3 13 rfl rfl)
def dkwX6_walk_1 : List UInt8 := [133, 167, 0, 21, 42, 27, 28, 182, 1, 109, 20, 1, 74, 42, 180, 0, 233, 105, 29, 184, 1, 51, 173]
abbrev dktX6_walk_1 : List UInt8 := dkwX6_walk_1 ++ []
def dkwX6_walk_0 : List UInt8 := [42, 3, 181, 0, 90, 42, 27, 28, 182, 1, 106, 54, 4, 21, 4, 158, 0, 13, 42, 21, 4, 182, 0, 182]
abbrev dktX6_walk_0 : List UInt8 := dkwX6_walk_0 ++ dktX6_walk_1
theorem dksX6_walk_0 : cX6_walk.data.toList.drop 0 = dktX6_walk_0 := by decide +kernel
theorem dksX6_walk_1 : cX6_walk.data.toList.drop 24 = dktX6_walk_1 := dk_seg dksX6_walk_0 24 rfl rfl
theorem dX6_walk_0 : decode cX6_walk 0 = .ok (.aload_n 0, 1) := dk_42 (dk_at dksX6_walk_0 0 rfl rfl)
theorem dX6_walk_1 : decode cX6_walk 1 = .ok (.iconst 0, 1) := dk_3 (dk_at dksX6_walk_0 1 rfl rfl)
theorem dX6_walk_2 : decode cX6_walk 2 = .ok (.putfield 90, 3) := dk_181 0 90 (dk_at dksX6_walk_0 2 rfl rfl)
theorem dX6_walk_5 : decode cX6_walk 5 = .ok (.aload_n 0, 1) := dk_42 (dk_at dksX6_walk_0 5 rfl rfl)
theorem dX6_walk_6 : decode cX6_walk 6 = .ok (.iload_n 1, 1) := dk_27 (dk_at dksX6_walk_0 6 rfl rfl)
theorem dX6_walk_7 : decode cX6_walk 7 = .ok (.iload_n 2, 1) := dk_28 (dk_at dksX6_walk_0 7 rfl rfl)
theorem dX6_walk_8 : decode cX6_walk 8 = .ok (.invokevirtual 362, 3) := dk_182 1 106 (dk_at dksX6_walk_0 8 rfl rfl)
theorem dX6_walk_11 : decode cX6_walk 11 = .ok (.istore 4, 2) := dk_54 4 (dk_at dksX6_walk_0 11 rfl rfl)
theorem dX6_walk_13 : decode cX6_walk 13 = .ok (.iload 4, 2) := dk_21 4 (dk_at dksX6_walk_0 13 rfl rfl)
theorem dX6_walk_15 : decode cX6_walk 15 = .ok (.ifCond .le 13, 3) := dk_158 0 13 (dk_at dksX6_walk_0 15 rfl rfl)
theorem dX6_walk_18 : decode cX6_walk 18 = .ok (.aload_n 0, 1) := dk_42 (dk_at dksX6_walk_0 18 rfl rfl)
theorem dX6_walk_19 : decode cX6_walk 19 = .ok (.iload 4, 2) := dk_21 4 (dk_at dksX6_walk_0 19 rfl rfl)
theorem dX6_walk_21 : decode cX6_walk 21 = .ok (.invokevirtual 182, 3) := dk_182 0 182 (dk_at dksX6_walk_0 21 rfl rfl)
theorem dX6_walk_24 : decode cX6_walk 24 = .ok (.i2l, 1) := dk_133 (dk_at dksX6_walk_1 0 rfl rfl)
theorem dX6_walk_25 : decode cX6_walk 25 = .ok (.goto 21, 3) := dk_167 0 21 (dk_at dksX6_walk_1 1 rfl rfl)
theorem dX6_walk_28 : decode cX6_walk 28 = .ok (.aload_n 0, 1) := dk_42 (dk_at dksX6_walk_1 4 rfl rfl)
theorem dX6_walk_29 : decode cX6_walk 29 = .ok (.iload_n 1, 1) := dk_27 (dk_at dksX6_walk_1 5 rfl rfl)
theorem dX6_walk_30 : decode cX6_walk 30 = .ok (.iload_n 2, 1) := dk_28 (dk_at dksX6_walk_1 6 rfl rfl)
theorem dX6_walk_31 : decode cX6_walk 31 = .ok (.invokevirtual 365, 3) := dk_182 1 109 (dk_at dksX6_walk_1 7 rfl rfl)
theorem dX6_walk_34 : decode cX6_walk 34 = .ok (.ldc2_w 330, 3) := dk_20 1 74 (dk_at dksX6_walk_1 10 rfl rfl)
theorem dX6_walk_37 : decode cX6_walk 37 = .ok (.aload_n 0, 1) := dk_42 (dk_at dksX6_walk_1 13 rfl rfl)
theorem dX6_walk_38 : decode cX6_walk 38 = .ok (.getfield 233, 3) := dk_180 0 233 (dk_at dksX6_walk_1 14 rfl rfl)
theorem dX6_walk_41 : decode cX6_walk 41 = .ok (.lmul, 1) := dk_105 (dk_at dksX6_walk_1 17 rfl rfl)
theorem dX6_walk_42 : decode cX6_walk 42 = .ok (.iload_n 3, 1) := dk_29 (dk_at dksX6_walk_1 18 rfl rfl)
theorem dX6_walk_43 : decode cX6_walk 43 = .ok (.invokestatic 307, 3) := dk_184 1 51 (dk_at dksX6_walk_1 19 rfl rfl)
theorem dX6_walk_46 : decode cX6_walk 46 = .ok (.lreturn, 1) := dk_173 (dk_at dksX6_walk_1 22 rfl rfl)
def dkwX6_walkRefusal_1 : List UInt8 := [153, 0, 7, 3, 167, 0, 4, 5, 172]
abbrev dktX6_walkRefusal_1 : List UInt8 := dkwX6_walkRefusal_1 ++ []
def dkwX6_walkRefusal_0 : List UInt8 := [42, 27, 182, 1, 85, 153, 0, 11, 42, 28, 182, 1, 85, 154, 0, 7, 4, 167, 0, 15, 42, 182, 1, 88]
abbrev dktX6_walkRefusal_0 : List UInt8 := dkwX6_walkRefusal_0 ++ dktX6_walkRefusal_1
theorem dksX6_walkRefusal_0 : cX6_walkRefusal.data.toList.drop 0 = dktX6_walkRefusal_0 := by decide +kernel
theorem dksX6_walkRefusal_1 : cX6_walkRefusal.data.toList.drop 24 = dktX6_walkRefusal_1 := dk_seg dksX6_walkRefusal_0 24 rfl rfl
theorem dX6_walkRefusal_0 : decode cX6_walkRefusal 0 = .ok (.aload_n 0, 1) := dk_42 (dk_at dksX6_walkRefusal_0 0 rfl rfl)
theorem dX6_walkRefusal_1 : decode cX6_walkRefusal 1 = .ok (.iload_n 1, 1) := dk_27 (dk_at dksX6_walkRefusal_0 1 rfl rfl)
theorem dX6_walkRefusal_2 : decode cX6_walkRefusal 2 = .ok (.invokevirtual 341, 3) := dk_182 1 85 (dk_at dksX6_walkRefusal_0 2 rfl rfl)
theorem dX6_walkRefusal_5 : decode cX6_walkRefusal 5 = .ok (.ifCond .eq 11, 3) := dk_153 0 11 (dk_at dksX6_walkRefusal_0 5 rfl rfl)
theorem dX6_walkRefusal_8 : decode cX6_walkRefusal 8 = .ok (.aload_n 0, 1) := dk_42 (dk_at dksX6_walkRefusal_0 8 rfl rfl)
theorem dX6_walkRefusal_9 : decode cX6_walkRefusal 9 = .ok (.iload_n 2, 1) := dk_28 (dk_at dksX6_walkRefusal_0 9 rfl rfl)
theorem dX6_walkRefusal_10 : decode cX6_walkRefusal 10 = .ok (.invokevirtual 341, 3) := dk_182 1 85 (dk_at dksX6_walkRefusal_0 10 rfl rfl)
theorem dX6_walkRefusal_13 : decode cX6_walkRefusal 13 = .ok (.ifCond .ne 7, 3) := dk_154 0 7 (dk_at dksX6_walkRefusal_0 13 rfl rfl)
theorem dX6_walkRefusal_16 : decode cX6_walkRefusal 16 = .ok (.iconst 1, 1) := dk_4 (dk_at dksX6_walkRefusal_0 16 rfl rfl)
theorem dX6_walkRefusal_17 : decode cX6_walkRefusal 17 = .ok (.goto 15, 3) := dk_167 0 15 (dk_at dksX6_walkRefusal_0 17 rfl rfl)
theorem dX6_walkRefusal_20 : decode cX6_walkRefusal 20 = .ok (.aload_n 0, 1) := dk_42 (dk_at dksX6_walkRefusal_0 20 rfl rfl)
theorem dX6_walkRefusal_21 : decode cX6_walkRefusal 21 = .ok (.invokevirtual 344, 3) := dk_182 1 88 (dk_at dksX6_walkRefusal_0 21 rfl rfl)
theorem dX6_walkRefusal_24 : decode cX6_walkRefusal 24 = .ok (.ifCond .eq 7, 3) := dk_153 0 7 (dk_at dksX6_walkRefusal_1 0 rfl rfl)
theorem dX6_walkRefusal_27 : decode cX6_walkRefusal 27 = .ok (.iconst 0, 1) := dk_3 (dk_at dksX6_walkRefusal_1 3 rfl rfl)
theorem dX6_walkRefusal_28 : decode cX6_walkRefusal 28 = .ok (.goto 4, 3) := dk_167 0 4 (dk_at dksX6_walkRefusal_1 4 rfl rfl)
theorem dX6_walkRefusal_31 : decode cX6_walkRefusal 31 = .ok (.iconst 2, 1) := dk_5 (dk_at dksX6_walkRefusal_1 7 rfl rfl)
theorem dX6_walkRefusal_32 : decode cX6_walkRefusal 32 = .ok (.ireturn, 1) := dk_172 (dk_at dksX6_walkRefusal_1 8 rfl rfl)
def dkwX6_tollTo_6 : List UInt8 := [167, 255, 170, 132, 4, 1, 167, 255, 152, 167, 255, 140, 42, 180, 0, 70, 28, 47, 173]
abbrev dktX6_tollTo_6 : List UInt8 := dkwX6_tollTo_6 ++ []
def dkwX6_tollTo_5 : List UInt8 := [21, 5, 182, 1, 91, 182, 1, 102, 154, 0, 7, 29, 153, 0, 7, 4, 167, 0, 4, 3, 62, 132, 5, 1]
abbrev dktX6_tollTo_5 : List UInt8 := dkwX6_tollTo_5 ++ dktX6_tollTo_6
def dkwX6_tollTo_4 : List UInt8 := [182, 1, 102, 154, 0, 7, 29, 153, 0, 7, 4, 167, 0, 4, 3, 62, 42, 21, 6, 21, 4, 42, 21, 4]
abbrev dktX6_tollTo_4 : List UInt8 := dkwX6_tollTo_4 ++ dktX6_tollTo_5
def dkwX6_tollTo_3 : List UInt8 := [54, 6, 21, 6, 2, 160, 0, 6, 167, 0, 61, 42, 21, 4, 21, 6, 42, 21, 4, 21, 5, 182, 1, 91]
abbrev dktX6_tollTo_3 : List UInt8 := dkwX6_tollTo_3 ++ dktX6_tollTo_4
def dkwX6_tollTo_2 : List UInt8 := [182, 1, 76, 162, 0, 101, 3, 54, 5, 21, 5, 4, 163, 0, 86, 42, 21, 4, 21, 5, 182, 1, 82]
abbrev dktX6_tollTo_2 : List UInt8 := dkwX6_tollTo_2 ++ dktX6_tollTo_3
def dkwX6_tollTo_1 : List UInt8 := [20, 1, 5, 80, 132, 3, 1, 167, 255, 227, 4, 62, 29, 153, 0, 118, 3, 62, 3, 54, 4, 21, 4, 42]
abbrev dktX6_tollTo_1 : List UInt8 := dkwX6_tollTo_1 ++ dktX6_tollTo_2
def dkwX6_tollTo_0 : List UInt8 := [3, 62, 29, 42, 182, 1, 76, 162, 0, 27, 42, 180, 0, 70, 29, 29, 27, 160, 0, 7, 9, 167, 0, 6]
abbrev dktX6_tollTo_0 : List UInt8 := dkwX6_tollTo_0 ++ dktX6_tollTo_1
theorem dksX6_tollTo_0 : cX6_tollTo.data.toList.drop 0 = dktX6_tollTo_0 := by decide +kernel
theorem dksX6_tollTo_1 : cX6_tollTo.data.toList.drop 24 = dktX6_tollTo_1 := dk_seg dksX6_tollTo_0 24 rfl rfl
theorem dksX6_tollTo_2 : cX6_tollTo.data.toList.drop 48 = dktX6_tollTo_2 := dk_seg dksX6_tollTo_1 24 rfl rfl
theorem dksX6_tollTo_3 : cX6_tollTo.data.toList.drop 71 = dktX6_tollTo_3 := dk_seg dksX6_tollTo_2 23 rfl rfl
theorem dksX6_tollTo_4 : cX6_tollTo.data.toList.drop 95 = dktX6_tollTo_4 := dk_seg dksX6_tollTo_3 24 rfl rfl
theorem dksX6_tollTo_5 : cX6_tollTo.data.toList.drop 119 = dktX6_tollTo_5 := dk_seg dksX6_tollTo_4 24 rfl rfl
theorem dksX6_tollTo_6 : cX6_tollTo.data.toList.drop 143 = dktX6_tollTo_6 := dk_seg dksX6_tollTo_5 24 rfl rfl
theorem dX6_tollTo_0 : decode cX6_tollTo 0 = .ok (.iconst 0, 1) := dk_3 (dk_at dksX6_tollTo_0 0 rfl rfl)
theorem dX6_tollTo_1 : decode cX6_tollTo 1 = .ok (.istore_n 3, 1) := dk_62 (dk_at dksX6_tollTo_0 1 rfl rfl)
theorem dX6_tollTo_2 : decode cX6_tollTo 2 = .ok (.iload_n 3, 1) := dk_29 (dk_at dksX6_tollTo_0 2 rfl rfl)
theorem dX6_tollTo_3 : decode cX6_tollTo 3 = .ok (.aload_n 0, 1) := dk_42 (dk_at dksX6_tollTo_0 3 rfl rfl)
theorem dX6_tollTo_4 : decode cX6_tollTo 4 = .ok (.invokevirtual 332, 3) := dk_182 1 76 (dk_at dksX6_tollTo_0 4 rfl rfl)
theorem dX6_tollTo_7 : decode cX6_tollTo 7 = .ok (.if_icmp .ge 27, 3) := dk_162 0 27 (dk_at dksX6_tollTo_0 7 rfl rfl)
theorem dX6_tollTo_10 : decode cX6_tollTo 10 = .ok (.aload_n 0, 1) := dk_42 (dk_at dksX6_tollTo_0 10 rfl rfl)
theorem dX6_tollTo_11 : decode cX6_tollTo 11 = .ok (.getfield 70, 3) := dk_180 0 70 (dk_at dksX6_tollTo_0 11 rfl rfl)
theorem dX6_tollTo_14 : decode cX6_tollTo 14 = .ok (.iload_n 3, 1) := dk_29 (dk_at dksX6_tollTo_0 14 rfl rfl)
theorem dX6_tollTo_15 : decode cX6_tollTo 15 = .ok (.iload_n 3, 1) := dk_29 (dk_at dksX6_tollTo_0 15 rfl rfl)
theorem dX6_tollTo_16 : decode cX6_tollTo 16 = .ok (.iload_n 1, 1) := dk_27 (dk_at dksX6_tollTo_0 16 rfl rfl)
theorem dX6_tollTo_17 : decode cX6_tollTo 17 = .ok (.if_icmp .ne 7, 3) := dk_160 0 7 (dk_at dksX6_tollTo_0 17 rfl rfl)
theorem dX6_tollTo_20 : decode cX6_tollTo 20 = .ok (.lconst 0, 1) := dk_9 (dk_at dksX6_tollTo_0 20 rfl rfl)
theorem dX6_tollTo_21 : decode cX6_tollTo 21 = .ok (.goto 6, 3) := dk_167 0 6 (dk_at dksX6_tollTo_0 21 rfl rfl)
theorem dX6_tollTo_24 : decode cX6_tollTo 24 = .ok (.ldc2_w 261, 3) := dk_20 1 5 (dk_at dksX6_tollTo_1 0 rfl rfl)
theorem dX6_tollTo_27 : decode cX6_tollTo 27 = .ok (.lastore, 1) := dk_80 (dk_at dksX6_tollTo_1 3 rfl rfl)
theorem dX6_tollTo_28 : decode cX6_tollTo 28 = .ok (.iinc 3 1, 3) := dk_132 3 1 (dk_at dksX6_tollTo_1 4 rfl rfl)
theorem dX6_tollTo_31 : decode cX6_tollTo 31 = .ok (.goto (-29), 3) := dk_167 255 227 (dk_at dksX6_tollTo_1 7 rfl rfl)
theorem dX6_tollTo_34 : decode cX6_tollTo 34 = .ok (.iconst 1, 1) := dk_4 (dk_at dksX6_tollTo_1 10 rfl rfl)
theorem dX6_tollTo_35 : decode cX6_tollTo 35 = .ok (.istore_n 3, 1) := dk_62 (dk_at dksX6_tollTo_1 11 rfl rfl)
theorem dX6_tollTo_36 : decode cX6_tollTo 36 = .ok (.iload_n 3, 1) := dk_29 (dk_at dksX6_tollTo_1 12 rfl rfl)
theorem dX6_tollTo_37 : decode cX6_tollTo 37 = .ok (.ifCond .eq 118, 3) := dk_153 0 118 (dk_at dksX6_tollTo_1 13 rfl rfl)
theorem dX6_tollTo_40 : decode cX6_tollTo 40 = .ok (.iconst 0, 1) := dk_3 (dk_at dksX6_tollTo_1 16 rfl rfl)
theorem dX6_tollTo_41 : decode cX6_tollTo 41 = .ok (.istore_n 3, 1) := dk_62 (dk_at dksX6_tollTo_1 17 rfl rfl)
theorem dX6_tollTo_42 : decode cX6_tollTo 42 = .ok (.iconst 0, 1) := dk_3 (dk_at dksX6_tollTo_1 18 rfl rfl)
theorem dX6_tollTo_43 : decode cX6_tollTo 43 = .ok (.istore 4, 2) := dk_54 4 (dk_at dksX6_tollTo_1 19 rfl rfl)
theorem dX6_tollTo_45 : decode cX6_tollTo 45 = .ok (.iload 4, 2) := dk_21 4 (dk_at dksX6_tollTo_1 21 rfl rfl)
theorem dX6_tollTo_47 : decode cX6_tollTo 47 = .ok (.aload_n 0, 1) := dk_42 (dk_at dksX6_tollTo_1 23 rfl rfl)
theorem dX6_tollTo_48 : decode cX6_tollTo 48 = .ok (.invokevirtual 332, 3) := dk_182 1 76 (dk_at dksX6_tollTo_2 0 rfl rfl)
theorem dX6_tollTo_51 : decode cX6_tollTo 51 = .ok (.if_icmp .ge 101, 3) := dk_162 0 101 (dk_at dksX6_tollTo_2 3 rfl rfl)
theorem dX6_tollTo_54 : decode cX6_tollTo 54 = .ok (.iconst 0, 1) := dk_3 (dk_at dksX6_tollTo_2 6 rfl rfl)
theorem dX6_tollTo_55 : decode cX6_tollTo 55 = .ok (.istore 5, 2) := dk_54 5 (dk_at dksX6_tollTo_2 7 rfl rfl)
theorem dX6_tollTo_57 : decode cX6_tollTo 57 = .ok (.iload 5, 2) := dk_21 5 (dk_at dksX6_tollTo_2 9 rfl rfl)
theorem dX6_tollTo_59 : decode cX6_tollTo 59 = .ok (.iconst 1, 1) := dk_4 (dk_at dksX6_tollTo_2 11 rfl rfl)
theorem dX6_tollTo_60 : decode cX6_tollTo 60 = .ok (.if_icmp .gt 86, 3) := dk_163 0 86 (dk_at dksX6_tollTo_2 12 rfl rfl)
theorem dX6_tollTo_63 : decode cX6_tollTo 63 = .ok (.aload_n 0, 1) := dk_42 (dk_at dksX6_tollTo_2 15 rfl rfl)
theorem dX6_tollTo_64 : decode cX6_tollTo 64 = .ok (.iload 4, 2) := dk_21 4 (dk_at dksX6_tollTo_2 16 rfl rfl)
theorem dX6_tollTo_66 : decode cX6_tollTo 66 = .ok (.iload 5, 2) := dk_21 5 (dk_at dksX6_tollTo_2 18 rfl rfl)
theorem dX6_tollTo_68 : decode cX6_tollTo 68 = .ok (.invokevirtual 338, 3) := dk_182 1 82 (dk_at dksX6_tollTo_2 20 rfl rfl)
theorem dX6_tollTo_71 : decode cX6_tollTo 71 = .ok (.istore 6, 2) := dk_54 6 (dk_at dksX6_tollTo_3 0 rfl rfl)
theorem dX6_tollTo_73 : decode cX6_tollTo 73 = .ok (.iload 6, 2) := dk_21 6 (dk_at dksX6_tollTo_3 2 rfl rfl)
theorem dX6_tollTo_75 : decode cX6_tollTo 75 = .ok (.iconst (-1), 1) := dk_2 (dk_at dksX6_tollTo_3 4 rfl rfl)
theorem dX6_tollTo_76 : decode cX6_tollTo 76 = .ok (.if_icmp .ne 6, 3) := dk_160 0 6 (dk_at dksX6_tollTo_3 5 rfl rfl)
theorem dX6_tollTo_79 : decode cX6_tollTo 79 = .ok (.goto 61, 3) := dk_167 0 61 (dk_at dksX6_tollTo_3 8 rfl rfl)
theorem dX6_tollTo_82 : decode cX6_tollTo 82 = .ok (.aload_n 0, 1) := dk_42 (dk_at dksX6_tollTo_3 11 rfl rfl)
theorem dX6_tollTo_83 : decode cX6_tollTo 83 = .ok (.iload 4, 2) := dk_21 4 (dk_at dksX6_tollTo_3 12 rfl rfl)
theorem dX6_tollTo_85 : decode cX6_tollTo 85 = .ok (.iload 6, 2) := dk_21 6 (dk_at dksX6_tollTo_3 14 rfl rfl)
theorem dX6_tollTo_87 : decode cX6_tollTo 87 = .ok (.aload_n 0, 1) := dk_42 (dk_at dksX6_tollTo_3 16 rfl rfl)
theorem dX6_tollTo_88 : decode cX6_tollTo 88 = .ok (.iload 4, 2) := dk_21 4 (dk_at dksX6_tollTo_3 17 rfl rfl)
theorem dX6_tollTo_90 : decode cX6_tollTo 90 = .ok (.iload 5, 2) := dk_21 5 (dk_at dksX6_tollTo_3 19 rfl rfl)
theorem dX6_tollTo_92 : decode cX6_tollTo 92 = .ok (.invokevirtual 347, 3) := dk_182 1 91 (dk_at dksX6_tollTo_3 21 rfl rfl)
theorem dX6_tollTo_95 : decode cX6_tollTo 95 = .ok (.invokevirtual 358, 3) := dk_182 1 102 (dk_at dksX6_tollTo_4 0 rfl rfl)
theorem dX6_tollTo_98 : decode cX6_tollTo 98 = .ok (.ifCond .ne 7, 3) := dk_154 0 7 (dk_at dksX6_tollTo_4 3 rfl rfl)
theorem dX6_tollTo_101 : decode cX6_tollTo 101 = .ok (.iload_n 3, 1) := dk_29 (dk_at dksX6_tollTo_4 6 rfl rfl)
theorem dX6_tollTo_102 : decode cX6_tollTo 102 = .ok (.ifCond .eq 7, 3) := dk_153 0 7 (dk_at dksX6_tollTo_4 7 rfl rfl)
theorem dX6_tollTo_105 : decode cX6_tollTo 105 = .ok (.iconst 1, 1) := dk_4 (dk_at dksX6_tollTo_4 10 rfl rfl)
theorem dX6_tollTo_106 : decode cX6_tollTo 106 = .ok (.goto 4, 3) := dk_167 0 4 (dk_at dksX6_tollTo_4 11 rfl rfl)
theorem dX6_tollTo_109 : decode cX6_tollTo 109 = .ok (.iconst 0, 1) := dk_3 (dk_at dksX6_tollTo_4 14 rfl rfl)
theorem dX6_tollTo_110 : decode cX6_tollTo 110 = .ok (.istore_n 3, 1) := dk_62 (dk_at dksX6_tollTo_4 15 rfl rfl)
theorem dX6_tollTo_111 : decode cX6_tollTo 111 = .ok (.aload_n 0, 1) := dk_42 (dk_at dksX6_tollTo_4 16 rfl rfl)
theorem dX6_tollTo_112 : decode cX6_tollTo 112 = .ok (.iload 6, 2) := dk_21 6 (dk_at dksX6_tollTo_4 17 rfl rfl)
theorem dX6_tollTo_114 : decode cX6_tollTo 114 = .ok (.iload 4, 2) := dk_21 4 (dk_at dksX6_tollTo_4 19 rfl rfl)
theorem dX6_tollTo_116 : decode cX6_tollTo 116 = .ok (.aload_n 0, 1) := dk_42 (dk_at dksX6_tollTo_4 21 rfl rfl)
theorem dX6_tollTo_117 : decode cX6_tollTo 117 = .ok (.iload 4, 2) := dk_21 4 (dk_at dksX6_tollTo_4 22 rfl rfl)
theorem dX6_tollTo_119 : decode cX6_tollTo 119 = .ok (.iload 5, 2) := dk_21 5 (dk_at dksX6_tollTo_5 0 rfl rfl)
theorem dX6_tollTo_121 : decode cX6_tollTo 121 = .ok (.invokevirtual 347, 3) := dk_182 1 91 (dk_at dksX6_tollTo_5 2 rfl rfl)
theorem dX6_tollTo_124 : decode cX6_tollTo 124 = .ok (.invokevirtual 358, 3) := dk_182 1 102 (dk_at dksX6_tollTo_5 5 rfl rfl)
theorem dX6_tollTo_127 : decode cX6_tollTo 127 = .ok (.ifCond .ne 7, 3) := dk_154 0 7 (dk_at dksX6_tollTo_5 8 rfl rfl)
theorem dX6_tollTo_130 : decode cX6_tollTo 130 = .ok (.iload_n 3, 1) := dk_29 (dk_at dksX6_tollTo_5 11 rfl rfl)
theorem dX6_tollTo_131 : decode cX6_tollTo 131 = .ok (.ifCond .eq 7, 3) := dk_153 0 7 (dk_at dksX6_tollTo_5 12 rfl rfl)
theorem dX6_tollTo_134 : decode cX6_tollTo 134 = .ok (.iconst 1, 1) := dk_4 (dk_at dksX6_tollTo_5 15 rfl rfl)
theorem dX6_tollTo_135 : decode cX6_tollTo 135 = .ok (.goto 4, 3) := dk_167 0 4 (dk_at dksX6_tollTo_5 16 rfl rfl)
theorem dX6_tollTo_138 : decode cX6_tollTo 138 = .ok (.iconst 0, 1) := dk_3 (dk_at dksX6_tollTo_5 19 rfl rfl)
theorem dX6_tollTo_139 : decode cX6_tollTo 139 = .ok (.istore_n 3, 1) := dk_62 (dk_at dksX6_tollTo_5 20 rfl rfl)
theorem dX6_tollTo_140 : decode cX6_tollTo 140 = .ok (.iinc 5 1, 3) := dk_132 5 1 (dk_at dksX6_tollTo_5 21 rfl rfl)
theorem dX6_tollTo_143 : decode cX6_tollTo 143 = .ok (.goto (-86), 3) := dk_167 255 170 (dk_at dksX6_tollTo_6 0 rfl rfl)
theorem dX6_tollTo_146 : decode cX6_tollTo 146 = .ok (.iinc 4 1, 3) := dk_132 4 1 (dk_at dksX6_tollTo_6 3 rfl rfl)
theorem dX6_tollTo_149 : decode cX6_tollTo 149 = .ok (.goto (-104), 3) := dk_167 255 152 (dk_at dksX6_tollTo_6 6 rfl rfl)
theorem dX6_tollTo_152 : decode cX6_tollTo 152 = .ok (.goto (-116), 3) := dk_167 255 140 (dk_at dksX6_tollTo_6 9 rfl rfl)
theorem dX6_tollTo_155 : decode cX6_tollTo 155 = .ok (.aload_n 0, 1) := dk_42 (dk_at dksX6_tollTo_6 12 rfl rfl)
theorem dX6_tollTo_156 : decode cX6_tollTo 156 = .ok (.getfield 70, 3) := dk_180 0 70 (dk_at dksX6_tollTo_6 13 rfl rfl)
theorem dX6_tollTo_159 : decode cX6_tollTo 159 = .ok (.iload_n 2, 1) := dk_28 (dk_at dksX6_tollTo_6 16 rfl rfl)
theorem dX6_tollTo_160 : decode cX6_tollTo 160 = .ok (.laload, 1) := dk_47 (dk_at dksX6_tollTo_6 17 rfl rfl)
theorem dX6_tollTo_161 : decode cX6_tollTo 161 = .ok (.lreturn, 1) := dk_173 (dk_at dksX6_tollTo_6 18 rfl rfl)
def dkwX6_lowers_2 : List UInt8 := [148, 157, 0, 5, 3, 172, 42, 180, 0, 70, 28, 22, 5, 80, 4, 172]
abbrev dktX6_lowers_2 : List UInt8 := dkwX6_lowers_2 ++ []
def dkwX6_lowers_1 : List UInt8 := [153, 0, 28, 42, 180, 0, 70, 28, 47, 20, 1, 5, 148, 153, 0, 17, 42, 180, 0, 70, 28, 47, 22, 5]
abbrev dktX6_lowers_1 : List UInt8 := dkwX6_lowers_1 ++ dktX6_lowers_2
def dkwX6_lowers_0 : List UInt8 := [42, 180, 0, 70, 27, 47, 33, 184, 1, 72, 55, 5, 42, 180, 0, 70, 27, 47, 20, 1, 5, 148]
abbrev dktX6_lowers_0 : List UInt8 := dkwX6_lowers_0 ++ dktX6_lowers_1
theorem dksX6_lowers_0 : cX6_lowers.data.toList.drop 0 = dktX6_lowers_0 := by decide +kernel
theorem dksX6_lowers_1 : cX6_lowers.data.toList.drop 22 = dktX6_lowers_1 := dk_seg dksX6_lowers_0 22 rfl rfl
theorem dksX6_lowers_2 : cX6_lowers.data.toList.drop 46 = dktX6_lowers_2 := dk_seg dksX6_lowers_1 24 rfl rfl
theorem dX6_lowers_0 : decode cX6_lowers 0 = .ok (.aload_n 0, 1) := dk_42 (dk_at dksX6_lowers_0 0 rfl rfl)
theorem dX6_lowers_1 : decode cX6_lowers 1 = .ok (.getfield 70, 3) := dk_180 0 70 (dk_at dksX6_lowers_0 1 rfl rfl)
theorem dX6_lowers_4 : decode cX6_lowers 4 = .ok (.iload_n 1, 1) := dk_27 (dk_at dksX6_lowers_0 4 rfl rfl)
theorem dX6_lowers_5 : decode cX6_lowers 5 = .ok (.laload, 1) := dk_47 (dk_at dksX6_lowers_0 5 rfl rfl)
theorem dX6_lowers_6 : decode cX6_lowers 6 = .ok (.lload_n 3, 1) := dk_33 (dk_at dksX6_lowers_0 6 rfl rfl)
theorem dX6_lowers_7 : decode cX6_lowers 7 = .ok (.invokestatic 328, 3) := dk_184 1 72 (dk_at dksX6_lowers_0 7 rfl rfl)
theorem dX6_lowers_10 : decode cX6_lowers 10 = .ok (.lstore 5, 2) := dk_55 5 (dk_at dksX6_lowers_0 10 rfl rfl)
theorem dX6_lowers_12 : decode cX6_lowers 12 = .ok (.aload_n 0, 1) := dk_42 (dk_at dksX6_lowers_0 12 rfl rfl)
theorem dX6_lowers_13 : decode cX6_lowers 13 = .ok (.getfield 70, 3) := dk_180 0 70 (dk_at dksX6_lowers_0 13 rfl rfl)
theorem dX6_lowers_16 : decode cX6_lowers 16 = .ok (.iload_n 1, 1) := dk_27 (dk_at dksX6_lowers_0 16 rfl rfl)
theorem dX6_lowers_17 : decode cX6_lowers 17 = .ok (.laload, 1) := dk_47 (dk_at dksX6_lowers_0 17 rfl rfl)
theorem dX6_lowers_18 : decode cX6_lowers 18 = .ok (.ldc2_w 261, 3) := dk_20 1 5 (dk_at dksX6_lowers_0 18 rfl rfl)
theorem dX6_lowers_21 : decode cX6_lowers 21 = .ok (.lcmp, 1) := dk_148 (dk_at dksX6_lowers_0 21 rfl rfl)
theorem dX6_lowers_22 : decode cX6_lowers 22 = .ok (.ifCond .eq 28, 3) := dk_153 0 28 (dk_at dksX6_lowers_1 0 rfl rfl)
theorem dX6_lowers_25 : decode cX6_lowers 25 = .ok (.aload_n 0, 1) := dk_42 (dk_at dksX6_lowers_1 3 rfl rfl)
theorem dX6_lowers_26 : decode cX6_lowers 26 = .ok (.getfield 70, 3) := dk_180 0 70 (dk_at dksX6_lowers_1 4 rfl rfl)
theorem dX6_lowers_29 : decode cX6_lowers 29 = .ok (.iload_n 2, 1) := dk_28 (dk_at dksX6_lowers_1 7 rfl rfl)
theorem dX6_lowers_30 : decode cX6_lowers 30 = .ok (.laload, 1) := dk_47 (dk_at dksX6_lowers_1 8 rfl rfl)
theorem dX6_lowers_31 : decode cX6_lowers 31 = .ok (.ldc2_w 261, 3) := dk_20 1 5 (dk_at dksX6_lowers_1 9 rfl rfl)
theorem dX6_lowers_34 : decode cX6_lowers 34 = .ok (.lcmp, 1) := dk_148 (dk_at dksX6_lowers_1 12 rfl rfl)
theorem dX6_lowers_35 : decode cX6_lowers 35 = .ok (.ifCond .eq 17, 3) := dk_153 0 17 (dk_at dksX6_lowers_1 13 rfl rfl)
theorem dX6_lowers_38 : decode cX6_lowers 38 = .ok (.aload_n 0, 1) := dk_42 (dk_at dksX6_lowers_1 16 rfl rfl)
theorem dX6_lowers_39 : decode cX6_lowers 39 = .ok (.getfield 70, 3) := dk_180 0 70 (dk_at dksX6_lowers_1 17 rfl rfl)
theorem dX6_lowers_42 : decode cX6_lowers 42 = .ok (.iload_n 2, 1) := dk_28 (dk_at dksX6_lowers_1 20 rfl rfl)
theorem dX6_lowers_43 : decode cX6_lowers 43 = .ok (.laload, 1) := dk_47 (dk_at dksX6_lowers_1 21 rfl rfl)
theorem dX6_lowers_44 : decode cX6_lowers 44 = .ok (.lload 5, 2) := dk_22 5 (dk_at dksX6_lowers_1 22 rfl rfl)
theorem dX6_lowers_46 : decode cX6_lowers 46 = .ok (.lcmp, 1) := dk_148 (dk_at dksX6_lowers_2 0 rfl rfl)
theorem dX6_lowers_47 : decode cX6_lowers 47 = .ok (.ifCond .gt 5, 3) := dk_157 0 5 (dk_at dksX6_lowers_2 1 rfl rfl)
theorem dX6_lowers_50 : decode cX6_lowers 50 = .ok (.iconst 0, 1) := dk_3 (dk_at dksX6_lowers_2 4 rfl rfl)
theorem dX6_lowers_51 : decode cX6_lowers 51 = .ok (.ireturn, 1) := dk_172 (dk_at dksX6_lowers_2 5 rfl rfl)
theorem dX6_lowers_52 : decode cX6_lowers 52 = .ok (.aload_n 0, 1) := dk_42 (dk_at dksX6_lowers_2 6 rfl rfl)
theorem dX6_lowers_53 : decode cX6_lowers 53 = .ok (.getfield 70, 3) := dk_180 0 70 (dk_at dksX6_lowers_2 7 rfl rfl)
theorem dX6_lowers_56 : decode cX6_lowers 56 = .ok (.iload_n 2, 1) := dk_28 (dk_at dksX6_lowers_2 10 rfl rfl)
theorem dX6_lowers_57 : decode cX6_lowers 57 = .ok (.lload 5, 2) := dk_22 5 (dk_at dksX6_lowers_2 11 rfl rfl)
theorem dX6_lowers_59 : decode cX6_lowers 59 = .ok (.lastore, 1) := dk_80 (dk_at dksX6_lowers_2 13 rfl rfl)
theorem dX6_lowers_60 : decode cX6_lowers 60 = .ok (.iconst 1, 1) := dk_4 (dk_at dksX6_lowers_2 14 rfl rfl)
theorem dX6_lowers_61 : decode cX6_lowers 61 = .ok (.ireturn, 1) := dk_172 (dk_at dksX6_lowers_2 15 rfl rfl)
def dkwX6_walked_9 : List UInt8 := [132, 7, 1, 167, 255, 125, 132, 6, 1, 167, 255, 106, 42, 180, 0, 73, 28, 46, 172]
abbrev dktX6_walked_9 : List UInt8 := dkwX6_walked_9 ++ []
def dkwX6_walked_8 : List UInt8 := [46, 2, 160, 0, 14, 42, 180, 0, 73, 21, 7, 21, 6, 4, 96, 79, 132, 8, 1, 167, 255, 143]
abbrev dktX6_walked_8 : List UInt8 := dkwX6_walked_8 ++ dktX6_walked_9
def dkwX6_walked_7 : List UInt8 := [4, 96, 79, 167, 0, 37, 42, 180, 0, 73, 21, 9, 46, 21, 6, 160, 0, 25, 42, 180, 0, 73, 21, 7]
abbrev dktX6_walked_7 : List UInt8 := dkwX6_walked_7 ++ dktX6_walked_8
def dkwX6_walked_6 : List UInt8 := [21, 6, 160, 0, 28, 42, 180, 0, 73, 21, 9, 46, 2, 160, 0, 17, 42, 180, 0, 73, 21, 9, 21, 6]
abbrev dktX6_walked_6 : List UInt8 := dkwX6_walked_6 ++ dktX6_walked_7
def dkwX6_walked_5 : List UInt8 := [21, 7, 21, 8, 182, 1, 91, 22, 4, 148, 158, 0, 6, 167, 0, 74, 42, 180, 0, 73, 21, 7, 46]
abbrev dktX6_walked_5 : List UInt8 := dkwX6_walked_5 ++ dktX6_walked_6
def dkwX6_walked_4 : List UInt8 := [21, 8, 4, 163, 0, 113, 42, 21, 7, 21, 8, 182, 1, 82, 54, 9, 21, 9, 2, 159, 0, 91, 42]
abbrev dktX6_walked_4 : List UInt8 := dkwX6_walked_4 ++ dktX6_walked_5
def dkwX6_walked_3 : List UInt8 := [180, 0, 73, 28, 46, 2, 160, 0, 146, 3, 54, 7, 21, 7, 42, 182, 1, 76, 162, 0, 128, 3, 54, 8]
abbrev dktX6_walked_3 : List UInt8 := dkwX6_walked_3 ++ dktX6_walked_4
def dkwX6_walked_2 : List UInt8 := [21, 6, 27, 160, 0, 7, 3, 167, 0, 4, 2, 79, 132, 6, 1, 167, 255, 226, 3, 54, 6, 42]
abbrev dktX6_walked_2 : List UInt8 := dkwX6_walked_2 ++ dktX6_walked_3
def dkwX6_walked_1 : List UInt8 := [28, 182, 1, 109, 55, 4, 3, 54, 6, 21, 6, 42, 182, 1, 76, 162, 0, 27, 42, 180, 0, 73, 21, 6]
abbrev dktX6_walked_1 : List UInt8 := dkwX6_walked_1 ++ dktX6_walked_2
def dkwX6_walked_0 : List UInt8 := [42, 3, 181, 0, 90, 42, 27, 28, 182, 1, 106, 62, 29, 158, 0, 9, 42, 29, 182, 0, 182, 172, 42, 27]
abbrev dktX6_walked_0 : List UInt8 := dkwX6_walked_0 ++ dktX6_walked_1
theorem dksX6_walked_0 : cX6_walked.data.toList.drop 0 = dktX6_walked_0 := by decide +kernel
theorem dksX6_walked_1 : cX6_walked.data.toList.drop 24 = dktX6_walked_1 := dk_seg dksX6_walked_0 24 rfl rfl
theorem dksX6_walked_2 : cX6_walked.data.toList.drop 48 = dktX6_walked_2 := dk_seg dksX6_walked_1 24 rfl rfl
theorem dksX6_walked_3 : cX6_walked.data.toList.drop 70 = dktX6_walked_3 := dk_seg dksX6_walked_2 22 rfl rfl
theorem dksX6_walked_4 : cX6_walked.data.toList.drop 94 = dktX6_walked_4 := dk_seg dksX6_walked_3 24 rfl rfl
theorem dksX6_walked_5 : cX6_walked.data.toList.drop 117 = dktX6_walked_5 := dk_seg dksX6_walked_4 23 rfl rfl
theorem dksX6_walked_6 : cX6_walked.data.toList.drop 140 = dktX6_walked_6 := dk_seg dksX6_walked_5 23 rfl rfl
theorem dksX6_walked_7 : cX6_walked.data.toList.drop 164 = dktX6_walked_7 := dk_seg dksX6_walked_6 24 rfl rfl
theorem dksX6_walked_8 : cX6_walked.data.toList.drop 188 = dktX6_walked_8 := dk_seg dksX6_walked_7 24 rfl rfl
theorem dksX6_walked_9 : cX6_walked.data.toList.drop 210 = dktX6_walked_9 := dk_seg dksX6_walked_8 22 rfl rfl
theorem dX6_walked_0 : decode cX6_walked 0 = .ok (.aload_n 0, 1) := dk_42 (dk_at dksX6_walked_0 0 rfl rfl)
theorem dX6_walked_1 : decode cX6_walked 1 = .ok (.iconst 0, 1) := dk_3 (dk_at dksX6_walked_0 1 rfl rfl)
theorem dX6_walked_2 : decode cX6_walked 2 = .ok (.putfield 90, 3) := dk_181 0 90 (dk_at dksX6_walked_0 2 rfl rfl)
theorem dX6_walked_5 : decode cX6_walked 5 = .ok (.aload_n 0, 1) := dk_42 (dk_at dksX6_walked_0 5 rfl rfl)
theorem dX6_walked_6 : decode cX6_walked 6 = .ok (.iload_n 1, 1) := dk_27 (dk_at dksX6_walked_0 6 rfl rfl)
theorem dX6_walked_7 : decode cX6_walked 7 = .ok (.iload_n 2, 1) := dk_28 (dk_at dksX6_walked_0 7 rfl rfl)
theorem dX6_walked_8 : decode cX6_walked 8 = .ok (.invokevirtual 362, 3) := dk_182 1 106 (dk_at dksX6_walked_0 8 rfl rfl)
theorem dX6_walked_11 : decode cX6_walked 11 = .ok (.istore_n 3, 1) := dk_62 (dk_at dksX6_walked_0 11 rfl rfl)
theorem dX6_walked_12 : decode cX6_walked 12 = .ok (.iload_n 3, 1) := dk_29 (dk_at dksX6_walked_0 12 rfl rfl)
theorem dX6_walked_13 : decode cX6_walked 13 = .ok (.ifCond .le 9, 3) := dk_158 0 9 (dk_at dksX6_walked_0 13 rfl rfl)
theorem dX6_walked_16 : decode cX6_walked 16 = .ok (.aload_n 0, 1) := dk_42 (dk_at dksX6_walked_0 16 rfl rfl)
theorem dX6_walked_17 : decode cX6_walked 17 = .ok (.iload_n 3, 1) := dk_29 (dk_at dksX6_walked_0 17 rfl rfl)
theorem dX6_walked_18 : decode cX6_walked 18 = .ok (.invokevirtual 182, 3) := dk_182 0 182 (dk_at dksX6_walked_0 18 rfl rfl)
theorem dX6_walked_21 : decode cX6_walked 21 = .ok (.ireturn, 1) := dk_172 (dk_at dksX6_walked_0 21 rfl rfl)
theorem dX6_walked_22 : decode cX6_walked 22 = .ok (.aload_n 0, 1) := dk_42 (dk_at dksX6_walked_0 22 rfl rfl)
theorem dX6_walked_23 : decode cX6_walked 23 = .ok (.iload_n 1, 1) := dk_27 (dk_at dksX6_walked_0 23 rfl rfl)
theorem dX6_walked_24 : decode cX6_walked 24 = .ok (.iload_n 2, 1) := dk_28 (dk_at dksX6_walked_1 0 rfl rfl)
theorem dX6_walked_25 : decode cX6_walked 25 = .ok (.invokevirtual 365, 3) := dk_182 1 109 (dk_at dksX6_walked_1 1 rfl rfl)
theorem dX6_walked_28 : decode cX6_walked 28 = .ok (.lstore 4, 2) := dk_55 4 (dk_at dksX6_walked_1 4 rfl rfl)
theorem dX6_walked_30 : decode cX6_walked 30 = .ok (.iconst 0, 1) := dk_3 (dk_at dksX6_walked_1 6 rfl rfl)
theorem dX6_walked_31 : decode cX6_walked 31 = .ok (.istore 6, 2) := dk_54 6 (dk_at dksX6_walked_1 7 rfl rfl)
theorem dX6_walked_33 : decode cX6_walked 33 = .ok (.iload 6, 2) := dk_21 6 (dk_at dksX6_walked_1 9 rfl rfl)
theorem dX6_walked_35 : decode cX6_walked 35 = .ok (.aload_n 0, 1) := dk_42 (dk_at dksX6_walked_1 11 rfl rfl)
theorem dX6_walked_36 : decode cX6_walked 36 = .ok (.invokevirtual 332, 3) := dk_182 1 76 (dk_at dksX6_walked_1 12 rfl rfl)
theorem dX6_walked_39 : decode cX6_walked 39 = .ok (.if_icmp .ge 27, 3) := dk_162 0 27 (dk_at dksX6_walked_1 15 rfl rfl)
theorem dX6_walked_42 : decode cX6_walked 42 = .ok (.aload_n 0, 1) := dk_42 (dk_at dksX6_walked_1 18 rfl rfl)
theorem dX6_walked_43 : decode cX6_walked 43 = .ok (.getfield 73, 3) := dk_180 0 73 (dk_at dksX6_walked_1 19 rfl rfl)
theorem dX6_walked_46 : decode cX6_walked 46 = .ok (.iload 6, 2) := dk_21 6 (dk_at dksX6_walked_1 22 rfl rfl)
theorem dX6_walked_48 : decode cX6_walked 48 = .ok (.iload 6, 2) := dk_21 6 (dk_at dksX6_walked_2 0 rfl rfl)
theorem dX6_walked_50 : decode cX6_walked 50 = .ok (.iload_n 1, 1) := dk_27 (dk_at dksX6_walked_2 2 rfl rfl)
theorem dX6_walked_51 : decode cX6_walked 51 = .ok (.if_icmp .ne 7, 3) := dk_160 0 7 (dk_at dksX6_walked_2 3 rfl rfl)
theorem dX6_walked_54 : decode cX6_walked 54 = .ok (.iconst 0, 1) := dk_3 (dk_at dksX6_walked_2 6 rfl rfl)
theorem dX6_walked_55 : decode cX6_walked 55 = .ok (.goto 4, 3) := dk_167 0 4 (dk_at dksX6_walked_2 7 rfl rfl)
theorem dX6_walked_58 : decode cX6_walked 58 = .ok (.iconst (-1), 1) := dk_2 (dk_at dksX6_walked_2 10 rfl rfl)
theorem dX6_walked_59 : decode cX6_walked 59 = .ok (.iastore, 1) := dk_79 (dk_at dksX6_walked_2 11 rfl rfl)
theorem dX6_walked_60 : decode cX6_walked 60 = .ok (.iinc 6 1, 3) := dk_132 6 1 (dk_at dksX6_walked_2 12 rfl rfl)
theorem dX6_walked_63 : decode cX6_walked 63 = .ok (.goto (-30), 3) := dk_167 255 226 (dk_at dksX6_walked_2 15 rfl rfl)
theorem dX6_walked_66 : decode cX6_walked 66 = .ok (.iconst 0, 1) := dk_3 (dk_at dksX6_walked_2 18 rfl rfl)
theorem dX6_walked_67 : decode cX6_walked 67 = .ok (.istore 6, 2) := dk_54 6 (dk_at dksX6_walked_2 19 rfl rfl)
theorem dX6_walked_69 : decode cX6_walked 69 = .ok (.aload_n 0, 1) := dk_42 (dk_at dksX6_walked_2 21 rfl rfl)
theorem dX6_walked_70 : decode cX6_walked 70 = .ok (.getfield 73, 3) := dk_180 0 73 (dk_at dksX6_walked_3 0 rfl rfl)
theorem dX6_walked_73 : decode cX6_walked 73 = .ok (.iload_n 2, 1) := dk_28 (dk_at dksX6_walked_3 3 rfl rfl)
theorem dX6_walked_74 : decode cX6_walked 74 = .ok (.iaload, 1) := dk_46 (dk_at dksX6_walked_3 4 rfl rfl)
theorem dX6_walked_75 : decode cX6_walked 75 = .ok (.iconst (-1), 1) := dk_2 (dk_at dksX6_walked_3 5 rfl rfl)
theorem dX6_walked_76 : decode cX6_walked 76 = .ok (.if_icmp .ne 146, 3) := dk_160 0 146 (dk_at dksX6_walked_3 6 rfl rfl)
theorem dX6_walked_79 : decode cX6_walked 79 = .ok (.iconst 0, 1) := dk_3 (dk_at dksX6_walked_3 9 rfl rfl)
theorem dX6_walked_80 : decode cX6_walked 80 = .ok (.istore 7, 2) := dk_54 7 (dk_at dksX6_walked_3 10 rfl rfl)
theorem dX6_walked_82 : decode cX6_walked 82 = .ok (.iload 7, 2) := dk_21 7 (dk_at dksX6_walked_3 12 rfl rfl)
theorem dX6_walked_84 : decode cX6_walked 84 = .ok (.aload_n 0, 1) := dk_42 (dk_at dksX6_walked_3 14 rfl rfl)
theorem dX6_walked_85 : decode cX6_walked 85 = .ok (.invokevirtual 332, 3) := dk_182 1 76 (dk_at dksX6_walked_3 15 rfl rfl)
theorem dX6_walked_88 : decode cX6_walked 88 = .ok (.if_icmp .ge 128, 3) := dk_162 0 128 (dk_at dksX6_walked_3 18 rfl rfl)
theorem dX6_walked_91 : decode cX6_walked 91 = .ok (.iconst 0, 1) := dk_3 (dk_at dksX6_walked_3 21 rfl rfl)
theorem dX6_walked_92 : decode cX6_walked 92 = .ok (.istore 8, 2) := dk_54 8 (dk_at dksX6_walked_3 22 rfl rfl)
theorem dX6_walked_94 : decode cX6_walked 94 = .ok (.iload 8, 2) := dk_21 8 (dk_at dksX6_walked_4 0 rfl rfl)
theorem dX6_walked_96 : decode cX6_walked 96 = .ok (.iconst 1, 1) := dk_4 (dk_at dksX6_walked_4 2 rfl rfl)
theorem dX6_walked_97 : decode cX6_walked 97 = .ok (.if_icmp .gt 113, 3) := dk_163 0 113 (dk_at dksX6_walked_4 3 rfl rfl)
theorem dX6_walked_100 : decode cX6_walked 100 = .ok (.aload_n 0, 1) := dk_42 (dk_at dksX6_walked_4 6 rfl rfl)
theorem dX6_walked_101 : decode cX6_walked 101 = .ok (.iload 7, 2) := dk_21 7 (dk_at dksX6_walked_4 7 rfl rfl)
theorem dX6_walked_103 : decode cX6_walked 103 = .ok (.iload 8, 2) := dk_21 8 (dk_at dksX6_walked_4 9 rfl rfl)
theorem dX6_walked_105 : decode cX6_walked 105 = .ok (.invokevirtual 338, 3) := dk_182 1 82 (dk_at dksX6_walked_4 11 rfl rfl)
theorem dX6_walked_108 : decode cX6_walked 108 = .ok (.istore 9, 2) := dk_54 9 (dk_at dksX6_walked_4 14 rfl rfl)
theorem dX6_walked_110 : decode cX6_walked 110 = .ok (.iload 9, 2) := dk_21 9 (dk_at dksX6_walked_4 16 rfl rfl)
theorem dX6_walked_112 : decode cX6_walked 112 = .ok (.iconst (-1), 1) := dk_2 (dk_at dksX6_walked_4 18 rfl rfl)
theorem dX6_walked_113 : decode cX6_walked 113 = .ok (.if_icmp .eq 91, 3) := dk_159 0 91 (dk_at dksX6_walked_4 19 rfl rfl)
theorem dX6_walked_116 : decode cX6_walked 116 = .ok (.aload_n 0, 1) := dk_42 (dk_at dksX6_walked_4 22 rfl rfl)
theorem dX6_walked_117 : decode cX6_walked 117 = .ok (.iload 7, 2) := dk_21 7 (dk_at dksX6_walked_5 0 rfl rfl)
theorem dX6_walked_119 : decode cX6_walked 119 = .ok (.iload 8, 2) := dk_21 8 (dk_at dksX6_walked_5 2 rfl rfl)
theorem dX6_walked_121 : decode cX6_walked 121 = .ok (.invokevirtual 347, 3) := dk_182 1 91 (dk_at dksX6_walked_5 4 rfl rfl)
theorem dX6_walked_124 : decode cX6_walked 124 = .ok (.lload 4, 2) := dk_22 4 (dk_at dksX6_walked_5 7 rfl rfl)
theorem dX6_walked_126 : decode cX6_walked 126 = .ok (.lcmp, 1) := dk_148 (dk_at dksX6_walked_5 9 rfl rfl)
theorem dX6_walked_127 : decode cX6_walked 127 = .ok (.ifCond .le 6, 3) := dk_158 0 6 (dk_at dksX6_walked_5 10 rfl rfl)
theorem dX6_walked_130 : decode cX6_walked 130 = .ok (.goto 74, 3) := dk_167 0 74 (dk_at dksX6_walked_5 13 rfl rfl)
theorem dX6_walked_133 : decode cX6_walked 133 = .ok (.aload_n 0, 1) := dk_42 (dk_at dksX6_walked_5 16 rfl rfl)
theorem dX6_walked_134 : decode cX6_walked 134 = .ok (.getfield 73, 3) := dk_180 0 73 (dk_at dksX6_walked_5 17 rfl rfl)
theorem dX6_walked_137 : decode cX6_walked 137 = .ok (.iload 7, 2) := dk_21 7 (dk_at dksX6_walked_5 20 rfl rfl)
theorem dX6_walked_139 : decode cX6_walked 139 = .ok (.iaload, 1) := dk_46 (dk_at dksX6_walked_5 22 rfl rfl)
theorem dX6_walked_140 : decode cX6_walked 140 = .ok (.iload 6, 2) := dk_21 6 (dk_at dksX6_walked_6 0 rfl rfl)
theorem dX6_walked_142 : decode cX6_walked 142 = .ok (.if_icmp .ne 28, 3) := dk_160 0 28 (dk_at dksX6_walked_6 2 rfl rfl)
theorem dX6_walked_145 : decode cX6_walked 145 = .ok (.aload_n 0, 1) := dk_42 (dk_at dksX6_walked_6 5 rfl rfl)
theorem dX6_walked_146 : decode cX6_walked 146 = .ok (.getfield 73, 3) := dk_180 0 73 (dk_at dksX6_walked_6 6 rfl rfl)
theorem dX6_walked_149 : decode cX6_walked 149 = .ok (.iload 9, 2) := dk_21 9 (dk_at dksX6_walked_6 9 rfl rfl)
theorem dX6_walked_151 : decode cX6_walked 151 = .ok (.iaload, 1) := dk_46 (dk_at dksX6_walked_6 11 rfl rfl)
theorem dX6_walked_152 : decode cX6_walked 152 = .ok (.iconst (-1), 1) := dk_2 (dk_at dksX6_walked_6 12 rfl rfl)
theorem dX6_walked_153 : decode cX6_walked 153 = .ok (.if_icmp .ne 17, 3) := dk_160 0 17 (dk_at dksX6_walked_6 13 rfl rfl)
theorem dX6_walked_156 : decode cX6_walked 156 = .ok (.aload_n 0, 1) := dk_42 (dk_at dksX6_walked_6 16 rfl rfl)
theorem dX6_walked_157 : decode cX6_walked 157 = .ok (.getfield 73, 3) := dk_180 0 73 (dk_at dksX6_walked_6 17 rfl rfl)
theorem dX6_walked_160 : decode cX6_walked 160 = .ok (.iload 9, 2) := dk_21 9 (dk_at dksX6_walked_6 20 rfl rfl)
theorem dX6_walked_162 : decode cX6_walked 162 = .ok (.iload 6, 2) := dk_21 6 (dk_at dksX6_walked_6 22 rfl rfl)
theorem dX6_walked_164 : decode cX6_walked 164 = .ok (.iconst 1, 1) := dk_4 (dk_at dksX6_walked_7 0 rfl rfl)
theorem dX6_walked_165 : decode cX6_walked 165 = .ok (.iadd, 1) := dk_96 (dk_at dksX6_walked_7 1 rfl rfl)
theorem dX6_walked_166 : decode cX6_walked 166 = .ok (.iastore, 1) := dk_79 (dk_at dksX6_walked_7 2 rfl rfl)
theorem dX6_walked_167 : decode cX6_walked 167 = .ok (.goto 37, 3) := dk_167 0 37 (dk_at dksX6_walked_7 3 rfl rfl)
theorem dX6_walked_170 : decode cX6_walked 170 = .ok (.aload_n 0, 1) := dk_42 (dk_at dksX6_walked_7 6 rfl rfl)
theorem dX6_walked_171 : decode cX6_walked 171 = .ok (.getfield 73, 3) := dk_180 0 73 (dk_at dksX6_walked_7 7 rfl rfl)
theorem dX6_walked_174 : decode cX6_walked 174 = .ok (.iload 9, 2) := dk_21 9 (dk_at dksX6_walked_7 10 rfl rfl)
theorem dX6_walked_176 : decode cX6_walked 176 = .ok (.iaload, 1) := dk_46 (dk_at dksX6_walked_7 12 rfl rfl)
theorem dX6_walked_177 : decode cX6_walked 177 = .ok (.iload 6, 2) := dk_21 6 (dk_at dksX6_walked_7 13 rfl rfl)
theorem dX6_walked_179 : decode cX6_walked 179 = .ok (.if_icmp .ne 25, 3) := dk_160 0 25 (dk_at dksX6_walked_7 15 rfl rfl)
theorem dX6_walked_182 : decode cX6_walked 182 = .ok (.aload_n 0, 1) := dk_42 (dk_at dksX6_walked_7 18 rfl rfl)
theorem dX6_walked_183 : decode cX6_walked 183 = .ok (.getfield 73, 3) := dk_180 0 73 (dk_at dksX6_walked_7 19 rfl rfl)
theorem dX6_walked_186 : decode cX6_walked 186 = .ok (.iload 7, 2) := dk_21 7 (dk_at dksX6_walked_7 22 rfl rfl)
theorem dX6_walked_188 : decode cX6_walked 188 = .ok (.iaload, 1) := dk_46 (dk_at dksX6_walked_8 0 rfl rfl)
theorem dX6_walked_189 : decode cX6_walked 189 = .ok (.iconst (-1), 1) := dk_2 (dk_at dksX6_walked_8 1 rfl rfl)
theorem dX6_walked_190 : decode cX6_walked 190 = .ok (.if_icmp .ne 14, 3) := dk_160 0 14 (dk_at dksX6_walked_8 2 rfl rfl)
theorem dX6_walked_193 : decode cX6_walked 193 = .ok (.aload_n 0, 1) := dk_42 (dk_at dksX6_walked_8 5 rfl rfl)
theorem dX6_walked_194 : decode cX6_walked 194 = .ok (.getfield 73, 3) := dk_180 0 73 (dk_at dksX6_walked_8 6 rfl rfl)
theorem dX6_walked_197 : decode cX6_walked 197 = .ok (.iload 7, 2) := dk_21 7 (dk_at dksX6_walked_8 9 rfl rfl)
theorem dX6_walked_199 : decode cX6_walked 199 = .ok (.iload 6, 2) := dk_21 6 (dk_at dksX6_walked_8 11 rfl rfl)
theorem dX6_walked_201 : decode cX6_walked 201 = .ok (.iconst 1, 1) := dk_4 (dk_at dksX6_walked_8 13 rfl rfl)
theorem dX6_walked_202 : decode cX6_walked 202 = .ok (.iadd, 1) := dk_96 (dk_at dksX6_walked_8 14 rfl rfl)
theorem dX6_walked_203 : decode cX6_walked 203 = .ok (.iastore, 1) := dk_79 (dk_at dksX6_walked_8 15 rfl rfl)
theorem dX6_walked_204 : decode cX6_walked 204 = .ok (.iinc 8 1, 3) := dk_132 8 1 (dk_at dksX6_walked_8 16 rfl rfl)
theorem dX6_walked_207 : decode cX6_walked 207 = .ok (.goto (-113), 3) := dk_167 255 143 (dk_at dksX6_walked_8 19 rfl rfl)
theorem dX6_walked_210 : decode cX6_walked 210 = .ok (.iinc 7 1, 3) := dk_132 7 1 (dk_at dksX6_walked_9 0 rfl rfl)
theorem dX6_walked_213 : decode cX6_walked 213 = .ok (.goto (-131), 3) := dk_167 255 125 (dk_at dksX6_walked_9 3 rfl rfl)
theorem dX6_walked_216 : decode cX6_walked 216 = .ok (.iinc 6 1, 3) := dk_132 6 1 (dk_at dksX6_walked_9 6 rfl rfl)
theorem dX6_walked_219 : decode cX6_walked 219 = .ok (.goto (-150), 3) := dk_167 255 106 (dk_at dksX6_walked_9 9 rfl rfl)
theorem dX6_walked_222 : decode cX6_walked 222 = .ok (.aload_n 0, 1) := dk_42 (dk_at dksX6_walked_9 12 rfl rfl)
theorem dX6_walked_223 : decode cX6_walked 223 = .ok (.getfield 73, 3) := dk_180 0 73 (dk_at dksX6_walked_9 13 rfl rfl)
theorem dX6_walked_226 : decode cX6_walked 226 = .ok (.iload_n 2, 1) := dk_28 (dk_at dksX6_walked_9 16 rfl rfl)
theorem dX6_walked_227 : decode cX6_walked 227 = .ok (.iaload, 1) := dk_46 (dk_at dksX6_walked_9 17 rfl rfl)
theorem dX6_walked_228 : decode cX6_walked 228 = .ok (.ireturn, 1) := dk_172 (dk_at dksX6_walked_9 18 rfl rfl)
