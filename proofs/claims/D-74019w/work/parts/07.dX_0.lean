set_option maxRecDepth 100000
def dkwX0_mesh_0 : List UInt8 := [44, 3, 42, 27, 182, 0, 7, 133, 80, 167, 0, 6, 78, 4, 172, 3, 172]
abbrev dktX0_mesh_0 : List UInt8 := dkwX0_mesh_0 ++ []
theorem dksX0_mesh_0 : cX0_mesh.data.toList.drop 0 = dktX0_mesh_0 := by decide +kernel
theorem dX0_mesh_0 : decode cX0_mesh 0 = .ok (.aload_n 2, 1) := dk_44 (dk_at dksX0_mesh_0 0 rfl rfl)
theorem dX0_mesh_1 : decode cX0_mesh 1 = .ok (.iconst 0, 1) := dk_3 (dk_at dksX0_mesh_0 1 rfl rfl)
theorem dX0_mesh_2 : decode cX0_mesh 2 = .ok (.aload_n 0, 1) := dk_42 (dk_at dksX0_mesh_0 2 rfl rfl)
theorem dX0_mesh_3 : decode cX0_mesh 3 = .ok (.iload_n 1, 1) := dk_27 (dk_at dksX0_mesh_0 3 rfl rfl)
theorem dX0_mesh_4 : decode cX0_mesh 4 = .ok (.invokevirtual 7, 3) := dk_182 0 7 (dk_at dksX0_mesh_0 4 rfl rfl)
theorem dX0_mesh_7 : decode cX0_mesh 7 = .ok (.i2l, 1) := dk_133 (dk_at dksX0_mesh_0 7 rfl rfl)
theorem dX0_mesh_8 : decode cX0_mesh 8 = .ok (.lastore, 1) := dk_80 (dk_at dksX0_mesh_0 8 rfl rfl)
theorem dX0_mesh_9 : decode cX0_mesh 9 = .ok (.goto 6, 3) := dk_167 0 6 (dk_at dksX0_mesh_0 9 rfl rfl)
theorem dX0_mesh_12 : decode cX0_mesh 12 = .ok (.astore_n 3, 1) := dk_78 (dk_at dksX0_mesh_0 12 rfl rfl)
theorem dX0_mesh_13 : decode cX0_mesh 13 = .ok (.iconst 1, 1) := dk_4 (dk_at dksX0_mesh_0 13 rfl rfl)
theorem dX0_mesh_14 : decode cX0_mesh 14 = .ok (.ireturn, 1) := dk_172 (dk_at dksX0_mesh_0 14 rfl rfl)
theorem dX0_mesh_15 : decode cX0_mesh 15 = .ok (.iconst 0, 1) := dk_3 (dk_at dksX0_mesh_0 15 rfl rfl)
theorem dX0_mesh_16 : decode cX0_mesh 16 = .ok (.ireturn, 1) := dk_172 (dk_at dksX0_mesh_0 16 rfl rfl)
def dkwX0_count_0 : List UInt8 := [44, 3, 42, 27, 182, 0, 15, 133, 80, 167, 0, 6, 78, 4, 172, 3, 172]
abbrev dktX0_count_0 : List UInt8 := dkwX0_count_0 ++ []
theorem dksX0_count_0 : cX0_count.data.toList.drop 0 = dktX0_count_0 := by decide +kernel
theorem dX0_count_0 : decode cX0_count 0 = .ok (.aload_n 2, 1) := dk_44 (dk_at dksX0_count_0 0 rfl rfl)
theorem dX0_count_1 : decode cX0_count 1 = .ok (.iconst 0, 1) := dk_3 (dk_at dksX0_count_0 1 rfl rfl)
theorem dX0_count_2 : decode cX0_count 2 = .ok (.aload_n 0, 1) := dk_42 (dk_at dksX0_count_0 2 rfl rfl)
theorem dX0_count_3 : decode cX0_count 3 = .ok (.iload_n 1, 1) := dk_27 (dk_at dksX0_count_0 3 rfl rfl)
theorem dX0_count_4 : decode cX0_count 4 = .ok (.invokevirtual 15, 3) := dk_182 0 15 (dk_at dksX0_count_0 4 rfl rfl)
theorem dX0_count_7 : decode cX0_count 7 = .ok (.i2l, 1) := dk_133 (dk_at dksX0_count_0 7 rfl rfl)
theorem dX0_count_8 : decode cX0_count 8 = .ok (.lastore, 1) := dk_80 (dk_at dksX0_count_0 8 rfl rfl)
theorem dX0_count_9 : decode cX0_count 9 = .ok (.goto 6, 3) := dk_167 0 6 (dk_at dksX0_count_0 9 rfl rfl)
theorem dX0_count_12 : decode cX0_count 12 = .ok (.astore_n 3, 1) := dk_78 (dk_at dksX0_count_0 12 rfl rfl)
theorem dX0_count_13 : decode cX0_count 13 = .ok (.iconst 1, 1) := dk_4 (dk_at dksX0_count_0 13 rfl rfl)
theorem dX0_count_14 : decode cX0_count 14 = .ok (.ireturn, 1) := dk_172 (dk_at dksX0_count_0 14 rfl rfl)
theorem dX0_count_15 : decode cX0_count 15 = .ok (.iconst 0, 1) := dk_3 (dk_at dksX0_count_0 15 rfl rfl)
theorem dX0_count_16 : decode cX0_count 16 = .ok (.ireturn, 1) := dk_172 (dk_at dksX0_count_0 16 rfl rfl)
def dkwX0_node_0 : List UInt8 := [45, 3, 42, 27, 28, 182, 0, 20, 133, 80, 167, 0, 7, 58, 4, 4, 172, 3, 172]
abbrev dktX0_node_0 : List UInt8 := dkwX0_node_0 ++ []
theorem dksX0_node_0 : cX0_node.data.toList.drop 0 = dktX0_node_0 := by decide +kernel
theorem dX0_node_0 : decode cX0_node 0 = .ok (.aload_n 3, 1) := dk_45 (dk_at dksX0_node_0 0 rfl rfl)
theorem dX0_node_1 : decode cX0_node 1 = .ok (.iconst 0, 1) := dk_3 (dk_at dksX0_node_0 1 rfl rfl)
theorem dX0_node_2 : decode cX0_node 2 = .ok (.aload_n 0, 1) := dk_42 (dk_at dksX0_node_0 2 rfl rfl)
theorem dX0_node_3 : decode cX0_node 3 = .ok (.iload_n 1, 1) := dk_27 (dk_at dksX0_node_0 3 rfl rfl)
theorem dX0_node_4 : decode cX0_node 4 = .ok (.iload_n 2, 1) := dk_28 (dk_at dksX0_node_0 4 rfl rfl)
theorem dX0_node_5 : decode cX0_node 5 = .ok (.invokevirtual 20, 3) := dk_182 0 20 (dk_at dksX0_node_0 5 rfl rfl)
theorem dX0_node_8 : decode cX0_node 8 = .ok (.i2l, 1) := dk_133 (dk_at dksX0_node_0 8 rfl rfl)
theorem dX0_node_9 : decode cX0_node 9 = .ok (.lastore, 1) := dk_80 (dk_at dksX0_node_0 9 rfl rfl)
theorem dX0_node_10 : decode cX0_node 10 = .ok (.goto 7, 3) := dk_167 0 7 (dk_at dksX0_node_0 10 rfl rfl)
theorem dX0_node_13 : decode cX0_node 13 = .ok (.astore 4, 2) := dk_58 4 (dk_at dksX0_node_0 13 rfl rfl)
theorem dX0_node_15 : decode cX0_node 15 = .ok (.iconst 1, 1) := dk_4 (dk_at dksX0_node_0 15 rfl rfl)
theorem dX0_node_16 : decode cX0_node 16 = .ok (.ireturn, 1) := dk_172 (dk_at dksX0_node_0 16 rfl rfl)
theorem dX0_node_17 : decode cX0_node 17 = .ok (.iconst 0, 1) := dk_3 (dk_at dksX0_node_0 17 rfl rfl)
theorem dX0_node_18 : decode cX0_node 18 = .ok (.ireturn, 1) := dk_172 (dk_at dksX0_node_0 18 rfl rfl)
def dkwX0_at_0 : List UInt8 := [25, 4, 3, 42, 27, 28, 29, 182, 0, 24, 80, 167, 0, 11, 58, 5, 4, 172, 58, 5, 5, 172, 3, 172]
abbrev dktX0_at_0 : List UInt8 := dkwX0_at_0 ++ []
theorem dksX0_at_0 : cX0_at.data.toList.drop 0 = dktX0_at_0 := by decide +kernel
theorem dX0_at_0 : decode cX0_at 0 = .ok (.aload 4, 2) := dk_25 4 (dk_at dksX0_at_0 0 rfl rfl)
theorem dX0_at_2 : decode cX0_at 2 = .ok (.iconst 0, 1) := dk_3 (dk_at dksX0_at_0 2 rfl rfl)
theorem dX0_at_3 : decode cX0_at 3 = .ok (.aload_n 0, 1) := dk_42 (dk_at dksX0_at_0 3 rfl rfl)
theorem dX0_at_4 : decode cX0_at 4 = .ok (.iload_n 1, 1) := dk_27 (dk_at dksX0_at_0 4 rfl rfl)
theorem dX0_at_5 : decode cX0_at 5 = .ok (.iload_n 2, 1) := dk_28 (dk_at dksX0_at_0 5 rfl rfl)
theorem dX0_at_6 : decode cX0_at 6 = .ok (.iload_n 3, 1) := dk_29 (dk_at dksX0_at_0 6 rfl rfl)
theorem dX0_at_7 : decode cX0_at 7 = .ok (.invokevirtual 24, 3) := dk_182 0 24 (dk_at dksX0_at_0 7 rfl rfl)
theorem dX0_at_10 : decode cX0_at 10 = .ok (.lastore, 1) := dk_80 (dk_at dksX0_at_0 10 rfl rfl)
theorem dX0_at_11 : decode cX0_at 11 = .ok (.goto 11, 3) := dk_167 0 11 (dk_at dksX0_at_0 11 rfl rfl)
theorem dX0_at_14 : decode cX0_at 14 = .ok (.astore 5, 2) := dk_58 5 (dk_at dksX0_at_0 14 rfl rfl)
theorem dX0_at_16 : decode cX0_at 16 = .ok (.iconst 1, 1) := dk_4 (dk_at dksX0_at_0 16 rfl rfl)
theorem dX0_at_17 : decode cX0_at 17 = .ok (.ireturn, 1) := dk_172 (dk_at dksX0_at_0 17 rfl rfl)
theorem dX0_at_18 : decode cX0_at 18 = .ok (.astore 5, 2) := dk_58 5 (dk_at dksX0_at_0 18 rfl rfl)
theorem dX0_at_20 : decode cX0_at 20 = .ok (.iconst 2, 1) := dk_5 (dk_at dksX0_at_0 20 rfl rfl)
theorem dX0_at_21 : decode cX0_at 21 = .ok (.ireturn, 1) := dk_172 (dk_at dksX0_at_0 21 rfl rfl)
theorem dX0_at_22 : decode cX0_at 22 = .ok (.iconst 0, 1) := dk_3 (dk_at dksX0_at_0 22 rfl rfl)
theorem dX0_at_23 : decode cX0_at 23 = .ok (.ireturn, 1) := dk_172 (dk_at dksX0_at_0 23 rfl rfl)
def dkwX0_bits_0 : List UInt8 := [45, 3, 42, 27, 28, 182, 0, 30, 80, 167, 0, 11, 58, 4, 4, 172, 58, 4, 5, 172, 3, 172]
abbrev dktX0_bits_0 : List UInt8 := dkwX0_bits_0 ++ []
theorem dksX0_bits_0 : cX0_bits.data.toList.drop 0 = dktX0_bits_0 := by decide +kernel
theorem dX0_bits_0 : decode cX0_bits 0 = .ok (.aload_n 3, 1) := dk_45 (dk_at dksX0_bits_0 0 rfl rfl)
theorem dX0_bits_1 : decode cX0_bits 1 = .ok (.iconst 0, 1) := dk_3 (dk_at dksX0_bits_0 1 rfl rfl)
theorem dX0_bits_2 : decode cX0_bits 2 = .ok (.aload_n 0, 1) := dk_42 (dk_at dksX0_bits_0 2 rfl rfl)
theorem dX0_bits_3 : decode cX0_bits 3 = .ok (.iload_n 1, 1) := dk_27 (dk_at dksX0_bits_0 3 rfl rfl)
theorem dX0_bits_4 : decode cX0_bits 4 = .ok (.iload_n 2, 1) := dk_28 (dk_at dksX0_bits_0 4 rfl rfl)
theorem dX0_bits_5 : decode cX0_bits 5 = .ok (.invokevirtual 30, 3) := dk_182 0 30 (dk_at dksX0_bits_0 5 rfl rfl)
theorem dX0_bits_8 : decode cX0_bits 8 = .ok (.lastore, 1) := dk_80 (dk_at dksX0_bits_0 8 rfl rfl)
theorem dX0_bits_9 : decode cX0_bits 9 = .ok (.goto 11, 3) := dk_167 0 11 (dk_at dksX0_bits_0 9 rfl rfl)
theorem dX0_bits_12 : decode cX0_bits 12 = .ok (.astore 4, 2) := dk_58 4 (dk_at dksX0_bits_0 12 rfl rfl)
theorem dX0_bits_14 : decode cX0_bits 14 = .ok (.iconst 1, 1) := dk_4 (dk_at dksX0_bits_0 14 rfl rfl)
theorem dX0_bits_15 : decode cX0_bits 15 = .ok (.ireturn, 1) := dk_172 (dk_at dksX0_bits_0 15 rfl rfl)
theorem dX0_bits_16 : decode cX0_bits 16 = .ok (.astore 4, 2) := dk_58 4 (dk_at dksX0_bits_0 16 rfl rfl)
theorem dX0_bits_18 : decode cX0_bits 18 = .ok (.iconst 2, 1) := dk_5 (dk_at dksX0_bits_0 18 rfl rfl)
theorem dX0_bits_19 : decode cX0_bits 19 = .ok (.ireturn, 1) := dk_172 (dk_at dksX0_bits_0 19 rfl rfl)
theorem dX0_bits_20 : decode cX0_bits 20 = .ok (.iconst 0, 1) := dk_3 (dk_at dksX0_bits_0 20 rfl rfl)
theorem dX0_bits_21 : decode cX0_bits 21 = .ok (.ireturn, 1) := dk_172 (dk_at dksX0_bits_0 21 rfl rfl)
def dkwX0_ground_0 : List UInt8 := [25, 4, 3, 42, 27, 28, 29, 182, 0, 34, 80, 167, 0, 11, 58, 5, 4, 172, 58, 5, 5, 172, 3, 172]
abbrev dktX0_ground_0 : List UInt8 := dkwX0_ground_0 ++ []
theorem dksX0_ground_0 : cX0_ground.data.toList.drop 0 = dktX0_ground_0 := by decide +kernel
theorem dX0_ground_0 : decode cX0_ground 0 = .ok (.aload 4, 2) := dk_25 4 (dk_at dksX0_ground_0 0 rfl rfl)
theorem dX0_ground_2 : decode cX0_ground 2 = .ok (.iconst 0, 1) := dk_3 (dk_at dksX0_ground_0 2 rfl rfl)
theorem dX0_ground_3 : decode cX0_ground 3 = .ok (.aload_n 0, 1) := dk_42 (dk_at dksX0_ground_0 3 rfl rfl)
theorem dX0_ground_4 : decode cX0_ground 4 = .ok (.iload_n 1, 1) := dk_27 (dk_at dksX0_ground_0 4 rfl rfl)
theorem dX0_ground_5 : decode cX0_ground 5 = .ok (.iload_n 2, 1) := dk_28 (dk_at dksX0_ground_0 5 rfl rfl)
theorem dX0_ground_6 : decode cX0_ground 6 = .ok (.iload_n 3, 1) := dk_29 (dk_at dksX0_ground_0 6 rfl rfl)
theorem dX0_ground_7 : decode cX0_ground 7 = .ok (.invokevirtual 34, 3) := dk_182 0 34 (dk_at dksX0_ground_0 7 rfl rfl)
theorem dX0_ground_10 : decode cX0_ground 10 = .ok (.lastore, 1) := dk_80 (dk_at dksX0_ground_0 10 rfl rfl)
theorem dX0_ground_11 : decode cX0_ground 11 = .ok (.goto 11, 3) := dk_167 0 11 (dk_at dksX0_ground_0 11 rfl rfl)
theorem dX0_ground_14 : decode cX0_ground 14 = .ok (.astore 5, 2) := dk_58 5 (dk_at dksX0_ground_0 14 rfl rfl)
theorem dX0_ground_16 : decode cX0_ground 16 = .ok (.iconst 1, 1) := dk_4 (dk_at dksX0_ground_0 16 rfl rfl)
theorem dX0_ground_17 : decode cX0_ground 17 = .ok (.ireturn, 1) := dk_172 (dk_at dksX0_ground_0 17 rfl rfl)
theorem dX0_ground_18 : decode cX0_ground 18 = .ok (.astore 5, 2) := dk_58 5 (dk_at dksX0_ground_0 18 rfl rfl)
theorem dX0_ground_20 : decode cX0_ground 20 = .ok (.iconst 2, 1) := dk_5 (dk_at dksX0_ground_0 20 rfl rfl)
theorem dX0_ground_21 : decode cX0_ground 21 = .ok (.ireturn, 1) := dk_172 (dk_at dksX0_ground_0 21 rfl rfl)
theorem dX0_ground_22 : decode cX0_ground 22 = .ok (.iconst 0, 1) := dk_3 (dk_at dksX0_ground_0 22 rfl rfl)
theorem dX0_ground_23 : decode cX0_ground 23 = .ok (.ireturn, 1) := dk_172 (dk_at dksX0_ground_0 23 rfl rfl)
def dkwX0_worst_0 : List UInt8 := [44, 3, 42, 27, 182, 0, 37, 133, 80, 167, 0, 9, 78, 4, 172, 78, 5, 172, 3, 172]
abbrev dktX0_worst_0 : List UInt8 := dkwX0_worst_0 ++ []
theorem dksX0_worst_0 : cX0_worst.data.toList.drop 0 = dktX0_worst_0 := by decide +kernel
theorem dX0_worst_0 : decode cX0_worst 0 = .ok (.aload_n 2, 1) := dk_44 (dk_at dksX0_worst_0 0 rfl rfl)
theorem dX0_worst_1 : decode cX0_worst 1 = .ok (.iconst 0, 1) := dk_3 (dk_at dksX0_worst_0 1 rfl rfl)
theorem dX0_worst_2 : decode cX0_worst 2 = .ok (.aload_n 0, 1) := dk_42 (dk_at dksX0_worst_0 2 rfl rfl)
theorem dX0_worst_3 : decode cX0_worst 3 = .ok (.iload_n 1, 1) := dk_27 (dk_at dksX0_worst_0 3 rfl rfl)
theorem dX0_worst_4 : decode cX0_worst 4 = .ok (.invokevirtual 37, 3) := dk_182 0 37 (dk_at dksX0_worst_0 4 rfl rfl)
theorem dX0_worst_7 : decode cX0_worst 7 = .ok (.i2l, 1) := dk_133 (dk_at dksX0_worst_0 7 rfl rfl)
theorem dX0_worst_8 : decode cX0_worst 8 = .ok (.lastore, 1) := dk_80 (dk_at dksX0_worst_0 8 rfl rfl)
theorem dX0_worst_9 : decode cX0_worst 9 = .ok (.goto 9, 3) := dk_167 0 9 (dk_at dksX0_worst_0 9 rfl rfl)
theorem dX0_worst_12 : decode cX0_worst 12 = .ok (.astore_n 3, 1) := dk_78 (dk_at dksX0_worst_0 12 rfl rfl)
theorem dX0_worst_13 : decode cX0_worst 13 = .ok (.iconst 1, 1) := dk_4 (dk_at dksX0_worst_0 13 rfl rfl)
theorem dX0_worst_14 : decode cX0_worst 14 = .ok (.ireturn, 1) := dk_172 (dk_at dksX0_worst_0 14 rfl rfl)
theorem dX0_worst_15 : decode cX0_worst 15 = .ok (.astore_n 3, 1) := dk_78 (dk_at dksX0_worst_0 15 rfl rfl)
theorem dX0_worst_16 : decode cX0_worst 16 = .ok (.iconst 2, 1) := dk_5 (dk_at dksX0_worst_0 16 rfl rfl)
theorem dX0_worst_17 : decode cX0_worst 17 = .ok (.ireturn, 1) := dk_172 (dk_at dksX0_worst_0 17 rfl rfl)
theorem dX0_worst_18 : decode cX0_worst 18 = .ok (.iconst 0, 1) := dk_3 (dk_at dksX0_worst_0 18 rfl rfl)
theorem dX0_worst_19 : decode cX0_worst 19 = .ok (.ireturn, 1) := dk_172 (dk_at dksX0_worst_0 19 rfl rfl)
def dkwX0_box_1 : List UInt8 := [172, 3, 172]
abbrev dktX0_box_1 : List UInt8 := dkwX0_box_1 ++ []
def dkwX0_box_0 : List UInt8 := [45, 3, 42, 27, 28, 182, 0, 40, 133, 80, 167, 0, 15, 58, 4, 4, 172, 58, 4, 5, 172, 58, 4, 6]
abbrev dktX0_box_0 : List UInt8 := dkwX0_box_0 ++ dktX0_box_1
theorem dksX0_box_0 : cX0_box.data.toList.drop 0 = dktX0_box_0 := by decide +kernel
theorem dksX0_box_1 : cX0_box.data.toList.drop 24 = dktX0_box_1 := dk_seg dksX0_box_0 24 rfl rfl
theorem dX0_box_0 : decode cX0_box 0 = .ok (.aload_n 3, 1) := dk_45 (dk_at dksX0_box_0 0 rfl rfl)
theorem dX0_box_1 : decode cX0_box 1 = .ok (.iconst 0, 1) := dk_3 (dk_at dksX0_box_0 1 rfl rfl)
theorem dX0_box_2 : decode cX0_box 2 = .ok (.aload_n 0, 1) := dk_42 (dk_at dksX0_box_0 2 rfl rfl)
theorem dX0_box_3 : decode cX0_box 3 = .ok (.iload_n 1, 1) := dk_27 (dk_at dksX0_box_0 3 rfl rfl)
theorem dX0_box_4 : decode cX0_box 4 = .ok (.iload_n 2, 1) := dk_28 (dk_at dksX0_box_0 4 rfl rfl)
theorem dX0_box_5 : decode cX0_box 5 = .ok (.invokevirtual 40, 3) := dk_182 0 40 (dk_at dksX0_box_0 5 rfl rfl)
theorem dX0_box_8 : decode cX0_box 8 = .ok (.i2l, 1) := dk_133 (dk_at dksX0_box_0 8 rfl rfl)
theorem dX0_box_9 : decode cX0_box 9 = .ok (.lastore, 1) := dk_80 (dk_at dksX0_box_0 9 rfl rfl)
theorem dX0_box_10 : decode cX0_box 10 = .ok (.goto 15, 3) := dk_167 0 15 (dk_at dksX0_box_0 10 rfl rfl)
theorem dX0_box_13 : decode cX0_box 13 = .ok (.astore 4, 2) := dk_58 4 (dk_at dksX0_box_0 13 rfl rfl)
theorem dX0_box_15 : decode cX0_box 15 = .ok (.iconst 1, 1) := dk_4 (dk_at dksX0_box_0 15 rfl rfl)
theorem dX0_box_16 : decode cX0_box 16 = .ok (.ireturn, 1) := dk_172 (dk_at dksX0_box_0 16 rfl rfl)
theorem dX0_box_17 : decode cX0_box 17 = .ok (.astore 4, 2) := dk_58 4 (dk_at dksX0_box_0 17 rfl rfl)
theorem dX0_box_19 : decode cX0_box 19 = .ok (.iconst 2, 1) := dk_5 (dk_at dksX0_box_0 19 rfl rfl)
theorem dX0_box_20 : decode cX0_box 20 = .ok (.ireturn, 1) := dk_172 (dk_at dksX0_box_0 20 rfl rfl)
theorem dX0_box_21 : decode cX0_box 21 = .ok (.astore 4, 2) := dk_58 4 (dk_at dksX0_box_0 21 rfl rfl)
theorem dX0_box_23 : decode cX0_box 23 = .ok (.iconst 3, 1) := dk_6 (dk_at dksX0_box_0 23 rfl rfl)
theorem dX0_box_24 : decode cX0_box 24 = .ok (.ireturn, 1) := dk_172 (dk_at dksX0_box_1 0 rfl rfl)
theorem dX0_box_25 : decode cX0_box 25 = .ok (.iconst 0, 1) := dk_3 (dk_at dksX0_box_1 1 rfl rfl)
theorem dX0_box_26 : decode cX0_box 26 = .ok (.ireturn, 1) := dk_172 (dk_at dksX0_box_1 2 rfl rfl)
def dkwX0_reach_0 : List UInt8 := [44, 3, 42, 27, 182, 0, 43, 133, 80, 167, 0, 9, 78, 4, 172, 78, 5, 172, 3, 172]
abbrev dktX0_reach_0 : List UInt8 := dkwX0_reach_0 ++ []
theorem dksX0_reach_0 : cX0_reach.data.toList.drop 0 = dktX0_reach_0 := by decide +kernel
theorem dX0_reach_0 : decode cX0_reach 0 = .ok (.aload_n 2, 1) := dk_44 (dk_at dksX0_reach_0 0 rfl rfl)
theorem dX0_reach_1 : decode cX0_reach 1 = .ok (.iconst 0, 1) := dk_3 (dk_at dksX0_reach_0 1 rfl rfl)
theorem dX0_reach_2 : decode cX0_reach 2 = .ok (.aload_n 0, 1) := dk_42 (dk_at dksX0_reach_0 2 rfl rfl)
theorem dX0_reach_3 : decode cX0_reach 3 = .ok (.iload_n 1, 1) := dk_27 (dk_at dksX0_reach_0 3 rfl rfl)
theorem dX0_reach_4 : decode cX0_reach 4 = .ok (.invokevirtual 43, 3) := dk_182 0 43 (dk_at dksX0_reach_0 4 rfl rfl)
theorem dX0_reach_7 : decode cX0_reach 7 = .ok (.i2l, 1) := dk_133 (dk_at dksX0_reach_0 7 rfl rfl)
theorem dX0_reach_8 : decode cX0_reach 8 = .ok (.lastore, 1) := dk_80 (dk_at dksX0_reach_0 8 rfl rfl)
theorem dX0_reach_9 : decode cX0_reach 9 = .ok (.goto 9, 3) := dk_167 0 9 (dk_at dksX0_reach_0 9 rfl rfl)
theorem dX0_reach_12 : decode cX0_reach 12 = .ok (.astore_n 3, 1) := dk_78 (dk_at dksX0_reach_0 12 rfl rfl)
theorem dX0_reach_13 : decode cX0_reach 13 = .ok (.iconst 1, 1) := dk_4 (dk_at dksX0_reach_0 13 rfl rfl)
theorem dX0_reach_14 : decode cX0_reach 14 = .ok (.ireturn, 1) := dk_172 (dk_at dksX0_reach_0 14 rfl rfl)
theorem dX0_reach_15 : decode cX0_reach 15 = .ok (.astore_n 3, 1) := dk_78 (dk_at dksX0_reach_0 15 rfl rfl)
theorem dX0_reach_16 : decode cX0_reach 16 = .ok (.iconst 2, 1) := dk_5 (dk_at dksX0_reach_0 16 rfl rfl)
theorem dX0_reach_17 : decode cX0_reach 17 = .ok (.ireturn, 1) := dk_172 (dk_at dksX0_reach_0 17 rfl rfl)
theorem dX0_reach_18 : decode cX0_reach 18 = .ok (.iconst 0, 1) := dk_3 (dk_at dksX0_reach_0 18 rfl rfl)
theorem dX0_reach_19 : decode cX0_reach 19 = .ok (.ireturn, 1) := dk_172 (dk_at dksX0_reach_0 19 rfl rfl)
def dkwX0_walk_0 : List UInt8 := [25, 4, 3, 42, 27, 28, 29, 182, 0, 46, 80, 167, 0, 11, 58, 5, 4, 172, 58, 5, 5, 172, 3, 172]
abbrev dktX0_walk_0 : List UInt8 := dkwX0_walk_0 ++ []
theorem dksX0_walk_0 : cX0_walk.data.toList.drop 0 = dktX0_walk_0 := by decide +kernel
theorem dX0_walk_0 : decode cX0_walk 0 = .ok (.aload 4, 2) := dk_25 4 (dk_at dksX0_walk_0 0 rfl rfl)
theorem dX0_walk_2 : decode cX0_walk 2 = .ok (.iconst 0, 1) := dk_3 (dk_at dksX0_walk_0 2 rfl rfl)
theorem dX0_walk_3 : decode cX0_walk 3 = .ok (.aload_n 0, 1) := dk_42 (dk_at dksX0_walk_0 3 rfl rfl)
theorem dX0_walk_4 : decode cX0_walk 4 = .ok (.iload_n 1, 1) := dk_27 (dk_at dksX0_walk_0 4 rfl rfl)
theorem dX0_walk_5 : decode cX0_walk 5 = .ok (.iload_n 2, 1) := dk_28 (dk_at dksX0_walk_0 5 rfl rfl)
theorem dX0_walk_6 : decode cX0_walk 6 = .ok (.iload_n 3, 1) := dk_29 (dk_at dksX0_walk_0 6 rfl rfl)
theorem dX0_walk_7 : decode cX0_walk 7 = .ok (.invokevirtual 46, 3) := dk_182 0 46 (dk_at dksX0_walk_0 7 rfl rfl)
theorem dX0_walk_10 : decode cX0_walk 10 = .ok (.lastore, 1) := dk_80 (dk_at dksX0_walk_0 10 rfl rfl)
theorem dX0_walk_11 : decode cX0_walk 11 = .ok (.goto 11, 3) := dk_167 0 11 (dk_at dksX0_walk_0 11 rfl rfl)
theorem dX0_walk_14 : decode cX0_walk 14 = .ok (.astore 5, 2) := dk_58 5 (dk_at dksX0_walk_0 14 rfl rfl)
theorem dX0_walk_16 : decode cX0_walk 16 = .ok (.iconst 1, 1) := dk_4 (dk_at dksX0_walk_0 16 rfl rfl)
theorem dX0_walk_17 : decode cX0_walk 17 = .ok (.ireturn, 1) := dk_172 (dk_at dksX0_walk_0 17 rfl rfl)
theorem dX0_walk_18 : decode cX0_walk 18 = .ok (.astore 5, 2) := dk_58 5 (dk_at dksX0_walk_0 18 rfl rfl)
theorem dX0_walk_20 : decode cX0_walk 20 = .ok (.iconst 2, 1) := dk_5 (dk_at dksX0_walk_0 20 rfl rfl)
theorem dX0_walk_21 : decode cX0_walk 21 = .ok (.ireturn, 1) := dk_172 (dk_at dksX0_walk_0 21 rfl rfl)
theorem dX0_walk_22 : decode cX0_walk 22 = .ok (.iconst 0, 1) := dk_3 (dk_at dksX0_walk_0 22 rfl rfl)
theorem dX0_walk_23 : decode cX0_walk 23 = .ok (.ireturn, 1) := dk_172 (dk_at dksX0_walk_0 23 rfl rfl)
def dkwX0_walked_0 : List UInt8 := [45, 3, 42, 27, 28, 182, 0, 49, 133, 80, 167, 0, 11, 58, 4, 4, 172, 58, 4, 5, 172, 3, 172]
abbrev dktX0_walked_0 : List UInt8 := dkwX0_walked_0 ++ []
theorem dksX0_walked_0 : cX0_walked.data.toList.drop 0 = dktX0_walked_0 := by decide +kernel
theorem dX0_walked_0 : decode cX0_walked 0 = .ok (.aload_n 3, 1) := dk_45 (dk_at dksX0_walked_0 0 rfl rfl)
theorem dX0_walked_1 : decode cX0_walked 1 = .ok (.iconst 0, 1) := dk_3 (dk_at dksX0_walked_0 1 rfl rfl)
theorem dX0_walked_2 : decode cX0_walked 2 = .ok (.aload_n 0, 1) := dk_42 (dk_at dksX0_walked_0 2 rfl rfl)
theorem dX0_walked_3 : decode cX0_walked 3 = .ok (.iload_n 1, 1) := dk_27 (dk_at dksX0_walked_0 3 rfl rfl)
theorem dX0_walked_4 : decode cX0_walked 4 = .ok (.iload_n 2, 1) := dk_28 (dk_at dksX0_walked_0 4 rfl rfl)
theorem dX0_walked_5 : decode cX0_walked 5 = .ok (.invokevirtual 49, 3) := dk_182 0 49 (dk_at dksX0_walked_0 5 rfl rfl)
theorem dX0_walked_8 : decode cX0_walked 8 = .ok (.i2l, 1) := dk_133 (dk_at dksX0_walked_0 8 rfl rfl)
theorem dX0_walked_9 : decode cX0_walked 9 = .ok (.lastore, 1) := dk_80 (dk_at dksX0_walked_0 9 rfl rfl)
theorem dX0_walked_10 : decode cX0_walked 10 = .ok (.goto 11, 3) := dk_167 0 11 (dk_at dksX0_walked_0 10 rfl rfl)
theorem dX0_walked_13 : decode cX0_walked 13 = .ok (.astore 4, 2) := dk_58 4 (dk_at dksX0_walked_0 13 rfl rfl)
theorem dX0_walked_15 : decode cX0_walked 15 = .ok (.iconst 1, 1) := dk_4 (dk_at dksX0_walked_0 15 rfl rfl)
theorem dX0_walked_16 : decode cX0_walked 16 = .ok (.ireturn, 1) := dk_172 (dk_at dksX0_walked_0 16 rfl rfl)
theorem dX0_walked_17 : decode cX0_walked 17 = .ok (.astore 4, 2) := dk_58 4 (dk_at dksX0_walked_0 17 rfl rfl)
theorem dX0_walked_19 : decode cX0_walked 19 = .ok (.iconst 2, 1) := dk_5 (dk_at dksX0_walked_0 19 rfl rfl)
theorem dX0_walked_20 : decode cX0_walked 20 = .ok (.ireturn, 1) := dk_172 (dk_at dksX0_walked_0 20 rfl rfl)
theorem dX0_walked_21 : decode cX0_walked 21 = .ok (.iconst 0, 1) := dk_3 (dk_at dksX0_walked_0 21 rfl rfl)
theorem dX0_walked_22 : decode cX0_walked 22 = .ok (.ireturn, 1) := dk_172 (dk_at dksX0_walked_0 22 rfl rfl)
def dkwX0_share_0 : List UInt8 := [44, 3, 42, 27, 182, 0, 52, 133, 80, 167, 0, 9, 78, 4, 172, 78, 5, 172, 3, 172]
abbrev dktX0_share_0 : List UInt8 := dkwX0_share_0 ++ []
theorem dksX0_share_0 : cX0_share.data.toList.drop 0 = dktX0_share_0 := by decide +kernel
theorem dX0_share_0 : decode cX0_share 0 = .ok (.aload_n 2, 1) := dk_44 (dk_at dksX0_share_0 0 rfl rfl)
theorem dX0_share_1 : decode cX0_share 1 = .ok (.iconst 0, 1) := dk_3 (dk_at dksX0_share_0 1 rfl rfl)
theorem dX0_share_2 : decode cX0_share 2 = .ok (.aload_n 0, 1) := dk_42 (dk_at dksX0_share_0 2 rfl rfl)
theorem dX0_share_3 : decode cX0_share 3 = .ok (.iload_n 1, 1) := dk_27 (dk_at dksX0_share_0 3 rfl rfl)
theorem dX0_share_4 : decode cX0_share 4 = .ok (.invokevirtual 52, 3) := dk_182 0 52 (dk_at dksX0_share_0 4 rfl rfl)
theorem dX0_share_7 : decode cX0_share 7 = .ok (.i2l, 1) := dk_133 (dk_at dksX0_share_0 7 rfl rfl)
theorem dX0_share_8 : decode cX0_share 8 = .ok (.lastore, 1) := dk_80 (dk_at dksX0_share_0 8 rfl rfl)
theorem dX0_share_9 : decode cX0_share 9 = .ok (.goto 9, 3) := dk_167 0 9 (dk_at dksX0_share_0 9 rfl rfl)
theorem dX0_share_12 : decode cX0_share 12 = .ok (.astore_n 3, 1) := dk_78 (dk_at dksX0_share_0 12 rfl rfl)
theorem dX0_share_13 : decode cX0_share 13 = .ok (.iconst 1, 1) := dk_4 (dk_at dksX0_share_0 13 rfl rfl)
theorem dX0_share_14 : decode cX0_share 14 = .ok (.ireturn, 1) := dk_172 (dk_at dksX0_share_0 14 rfl rfl)
theorem dX0_share_15 : decode cX0_share 15 = .ok (.astore_n 3, 1) := dk_78 (dk_at dksX0_share_0 15 rfl rfl)
theorem dX0_share_16 : decode cX0_share 16 = .ok (.iconst 2, 1) := dk_5 (dk_at dksX0_share_0 16 rfl rfl)
theorem dX0_share_17 : decode cX0_share 17 = .ok (.ireturn, 1) := dk_172 (dk_at dksX0_share_0 17 rfl rfl)
theorem dX0_share_18 : decode cX0_share 18 = .ok (.iconst 0, 1) := dk_3 (dk_at dksX0_share_0 18 rfl rfl)
theorem dX0_share_19 : decode cX0_share 19 = .ok (.ireturn, 1) := dk_172 (dk_at dksX0_share_0 19 rfl rfl)
def dkwX0_cascade_0 : List UInt8 := [44, 3, 42, 27, 182, 0, 55, 133, 80, 167, 0, 6, 78, 4, 172, 3, 172]
abbrev dktX0_cascade_0 : List UInt8 := dkwX0_cascade_0 ++ []
theorem dksX0_cascade_0 : cX0_cascade.data.toList.drop 0 = dktX0_cascade_0 := by decide +kernel
theorem dX0_cascade_0 : decode cX0_cascade 0 = .ok (.aload_n 2, 1) := dk_44 (dk_at dksX0_cascade_0 0 rfl rfl)
theorem dX0_cascade_1 : decode cX0_cascade 1 = .ok (.iconst 0, 1) := dk_3 (dk_at dksX0_cascade_0 1 rfl rfl)
theorem dX0_cascade_2 : decode cX0_cascade 2 = .ok (.aload_n 0, 1) := dk_42 (dk_at dksX0_cascade_0 2 rfl rfl)
theorem dX0_cascade_3 : decode cX0_cascade 3 = .ok (.iload_n 1, 1) := dk_27 (dk_at dksX0_cascade_0 3 rfl rfl)
theorem dX0_cascade_4 : decode cX0_cascade 4 = .ok (.invokevirtual 55, 3) := dk_182 0 55 (dk_at dksX0_cascade_0 4 rfl rfl)
theorem dX0_cascade_7 : decode cX0_cascade 7 = .ok (.i2l, 1) := dk_133 (dk_at dksX0_cascade_0 7 rfl rfl)
theorem dX0_cascade_8 : decode cX0_cascade 8 = .ok (.lastore, 1) := dk_80 (dk_at dksX0_cascade_0 8 rfl rfl)
theorem dX0_cascade_9 : decode cX0_cascade 9 = .ok (.goto 6, 3) := dk_167 0 6 (dk_at dksX0_cascade_0 9 rfl rfl)
theorem dX0_cascade_12 : decode cX0_cascade 12 = .ok (.astore_n 3, 1) := dk_78 (dk_at dksX0_cascade_0 12 rfl rfl)
theorem dX0_cascade_13 : decode cX0_cascade 13 = .ok (.iconst 1, 1) := dk_4 (dk_at dksX0_cascade_0 13 rfl rfl)
theorem dX0_cascade_14 : decode cX0_cascade 14 = .ok (.ireturn, 1) := dk_172 (dk_at dksX0_cascade_0 14 rfl rfl)
theorem dX0_cascade_15 : decode cX0_cascade 15 = .ok (.iconst 0, 1) := dk_3 (dk_at dksX0_cascade_0 15 rfl rfl)
theorem dX0_cascade_16 : decode cX0_cascade 16 = .ok (.ireturn, 1) := dk_172 (dk_at dksX0_cascade_0 16 rfl rfl)
def dkwX0_sweep_0 : List UInt8 := [45, 3, 42, 27, 28, 182, 0, 58, 80, 167, 0, 7, 58, 4, 4, 172, 3, 172]
abbrev dktX0_sweep_0 : List UInt8 := dkwX0_sweep_0 ++ []
theorem dksX0_sweep_0 : cX0_sweep.data.toList.drop 0 = dktX0_sweep_0 := by decide +kernel
theorem dX0_sweep_0 : decode cX0_sweep 0 = .ok (.aload_n 3, 1) := dk_45 (dk_at dksX0_sweep_0 0 rfl rfl)
theorem dX0_sweep_1 : decode cX0_sweep 1 = .ok (.iconst 0, 1) := dk_3 (dk_at dksX0_sweep_0 1 rfl rfl)
theorem dX0_sweep_2 : decode cX0_sweep 2 = .ok (.aload_n 0, 1) := dk_42 (dk_at dksX0_sweep_0 2 rfl rfl)
theorem dX0_sweep_3 : decode cX0_sweep 3 = .ok (.iload_n 1, 1) := dk_27 (dk_at dksX0_sweep_0 3 rfl rfl)
theorem dX0_sweep_4 : decode cX0_sweep 4 = .ok (.iload_n 2, 1) := dk_28 (dk_at dksX0_sweep_0 4 rfl rfl)
theorem dX0_sweep_5 : decode cX0_sweep 5 = .ok (.invokevirtual 58, 3) := dk_182 0 58 (dk_at dksX0_sweep_0 5 rfl rfl)
theorem dX0_sweep_8 : decode cX0_sweep 8 = .ok (.lastore, 1) := dk_80 (dk_at dksX0_sweep_0 8 rfl rfl)
theorem dX0_sweep_9 : decode cX0_sweep 9 = .ok (.goto 7, 3) := dk_167 0 7 (dk_at dksX0_sweep_0 9 rfl rfl)
theorem dX0_sweep_12 : decode cX0_sweep 12 = .ok (.astore 4, 2) := dk_58 4 (dk_at dksX0_sweep_0 12 rfl rfl)
theorem dX0_sweep_14 : decode cX0_sweep 14 = .ok (.iconst 1, 1) := dk_4 (dk_at dksX0_sweep_0 14 rfl rfl)
theorem dX0_sweep_15 : decode cX0_sweep 15 = .ok (.ireturn, 1) := dk_172 (dk_at dksX0_sweep_0 15 rfl rfl)
theorem dX0_sweep_16 : decode cX0_sweep 16 = .ok (.iconst 0, 1) := dk_3 (dk_at dksX0_sweep_0 16 rfl rfl)
theorem dX0_sweep_17 : decode cX0_sweep 17 = .ok (.ireturn, 1) := dk_172 (dk_at dksX0_sweep_0 17 rfl rfl)
def dkwX0_free_0 : List UInt8 := [44, 3, 42, 27, 182, 0, 62, 133, 80, 167, 0, 9, 78, 4, 172, 78, 5, 172, 3, 172]
abbrev dktX0_free_0 : List UInt8 := dkwX0_free_0 ++ []
theorem dksX0_free_0 : cX0_free.data.toList.drop 0 = dktX0_free_0 := by decide +kernel
theorem dX0_free_0 : decode cX0_free 0 = .ok (.aload_n 2, 1) := dk_44 (dk_at dksX0_free_0 0 rfl rfl)
theorem dX0_free_1 : decode cX0_free 1 = .ok (.iconst 0, 1) := dk_3 (dk_at dksX0_free_0 1 rfl rfl)
theorem dX0_free_2 : decode cX0_free 2 = .ok (.aload_n 0, 1) := dk_42 (dk_at dksX0_free_0 2 rfl rfl)
theorem dX0_free_3 : decode cX0_free 3 = .ok (.iload_n 1, 1) := dk_27 (dk_at dksX0_free_0 3 rfl rfl)
theorem dX0_free_4 : decode cX0_free 4 = .ok (.invokevirtual 62, 3) := dk_182 0 62 (dk_at dksX0_free_0 4 rfl rfl)
theorem dX0_free_7 : decode cX0_free 7 = .ok (.i2l, 1) := dk_133 (dk_at dksX0_free_0 7 rfl rfl)
theorem dX0_free_8 : decode cX0_free 8 = .ok (.lastore, 1) := dk_80 (dk_at dksX0_free_0 8 rfl rfl)
theorem dX0_free_9 : decode cX0_free 9 = .ok (.goto 9, 3) := dk_167 0 9 (dk_at dksX0_free_0 9 rfl rfl)
theorem dX0_free_12 : decode cX0_free 12 = .ok (.astore_n 3, 1) := dk_78 (dk_at dksX0_free_0 12 rfl rfl)
theorem dX0_free_13 : decode cX0_free 13 = .ok (.iconst 1, 1) := dk_4 (dk_at dksX0_free_0 13 rfl rfl)
theorem dX0_free_14 : decode cX0_free 14 = .ok (.ireturn, 1) := dk_172 (dk_at dksX0_free_0 14 rfl rfl)
theorem dX0_free_15 : decode cX0_free 15 = .ok (.astore_n 3, 1) := dk_78 (dk_at dksX0_free_0 15 rfl rfl)
theorem dX0_free_16 : decode cX0_free 16 = .ok (.iconst 2, 1) := dk_5 (dk_at dksX0_free_0 16 rfl rfl)
theorem dX0_free_17 : decode cX0_free 17 = .ok (.ireturn, 1) := dk_172 (dk_at dksX0_free_0 17 rfl rfl)
theorem dX0_free_18 : decode cX0_free 18 = .ok (.iconst 0, 1) := dk_3 (dk_at dksX0_free_0 18 rfl rfl)
theorem dX0_free_19 : decode cX0_free 19 = .ok (.ireturn, 1) := dk_172 (dk_at dksX0_free_0 19 rfl rfl)
def dkwX0_between_0 : List UInt8 := [25, 4, 3, 42, 27, 28, 29, 182, 0, 65, 80, 167, 0, 11, 58, 5, 4, 172, 58, 5, 5, 172, 3, 172]
abbrev dktX0_between_0 : List UInt8 := dkwX0_between_0 ++ []
theorem dksX0_between_0 : cX0_between.data.toList.drop 0 = dktX0_between_0 := by decide +kernel
theorem dX0_between_0 : decode cX0_between 0 = .ok (.aload 4, 2) := dk_25 4 (dk_at dksX0_between_0 0 rfl rfl)
theorem dX0_between_2 : decode cX0_between 2 = .ok (.iconst 0, 1) := dk_3 (dk_at dksX0_between_0 2 rfl rfl)
theorem dX0_between_3 : decode cX0_between 3 = .ok (.aload_n 0, 1) := dk_42 (dk_at dksX0_between_0 3 rfl rfl)
theorem dX0_between_4 : decode cX0_between 4 = .ok (.iload_n 1, 1) := dk_27 (dk_at dksX0_between_0 4 rfl rfl)
theorem dX0_between_5 : decode cX0_between 5 = .ok (.iload_n 2, 1) := dk_28 (dk_at dksX0_between_0 5 rfl rfl)
theorem dX0_between_6 : decode cX0_between 6 = .ok (.iload_n 3, 1) := dk_29 (dk_at dksX0_between_0 6 rfl rfl)
theorem dX0_between_7 : decode cX0_between 7 = .ok (.invokevirtual 65, 3) := dk_182 0 65 (dk_at dksX0_between_0 7 rfl rfl)
theorem dX0_between_10 : decode cX0_between 10 = .ok (.lastore, 1) := dk_80 (dk_at dksX0_between_0 10 rfl rfl)
theorem dX0_between_11 : decode cX0_between 11 = .ok (.goto 11, 3) := dk_167 0 11 (dk_at dksX0_between_0 11 rfl rfl)
theorem dX0_between_14 : decode cX0_between 14 = .ok (.astore 5, 2) := dk_58 5 (dk_at dksX0_between_0 14 rfl rfl)
theorem dX0_between_16 : decode cX0_between 16 = .ok (.iconst 1, 1) := dk_4 (dk_at dksX0_between_0 16 rfl rfl)
theorem dX0_between_17 : decode cX0_between 17 = .ok (.ireturn, 1) := dk_172 (dk_at dksX0_between_0 17 rfl rfl)
theorem dX0_between_18 : decode cX0_between 18 = .ok (.astore 5, 2) := dk_58 5 (dk_at dksX0_between_0 18 rfl rfl)
theorem dX0_between_20 : decode cX0_between 20 = .ok (.iconst 2, 1) := dk_5 (dk_at dksX0_between_0 20 rfl rfl)
theorem dX0_between_21 : decode cX0_between 21 = .ok (.ireturn, 1) := dk_172 (dk_at dksX0_between_0 21 rfl rfl)
theorem dX0_between_22 : decode cX0_between 22 = .ok (.iconst 0, 1) := dk_3 (dk_at dksX0_between_0 22 rfl rfl)
theorem dX0_between_23 : decode cX0_between 23 = .ok (.ireturn, 1) := dk_172 (dk_at dksX0_between_0 23 rfl rfl)
def dkwX0_seen_1 : List UInt8 := [58, 6, 6, 172, 3, 172]
abbrev dktX0_seen_1 : List UInt8 := dkwX0_seen_1 ++ []
def dkwX0_seen_0 : List UInt8 := [25, 5, 3, 42, 27, 28, 29, 21, 4, 182, 0, 68, 80, 167, 0, 15, 58, 6, 4, 172, 58, 6, 5, 172]
abbrev dktX0_seen_0 : List UInt8 := dkwX0_seen_0 ++ dktX0_seen_1
theorem dksX0_seen_0 : cX0_seen.data.toList.drop 0 = dktX0_seen_0 := by decide +kernel
theorem dksX0_seen_1 : cX0_seen.data.toList.drop 24 = dktX0_seen_1 := dk_seg dksX0_seen_0 24 rfl rfl
theorem dX0_seen_0 : decode cX0_seen 0 = .ok (.aload 5, 2) := dk_25 5 (dk_at dksX0_seen_0 0 rfl rfl)
theorem dX0_seen_2 : decode cX0_seen 2 = .ok (.iconst 0, 1) := dk_3 (dk_at dksX0_seen_0 2 rfl rfl)
theorem dX0_seen_3 : decode cX0_seen 3 = .ok (.aload_n 0, 1) := dk_42 (dk_at dksX0_seen_0 3 rfl rfl)
theorem dX0_seen_4 : decode cX0_seen 4 = .ok (.iload_n 1, 1) := dk_27 (dk_at dksX0_seen_0 4 rfl rfl)
theorem dX0_seen_5 : decode cX0_seen 5 = .ok (.iload_n 2, 1) := dk_28 (dk_at dksX0_seen_0 5 rfl rfl)
theorem dX0_seen_6 : decode cX0_seen 6 = .ok (.iload_n 3, 1) := dk_29 (dk_at dksX0_seen_0 6 rfl rfl)
theorem dX0_seen_7 : decode cX0_seen 7 = .ok (.iload 4, 2) := dk_21 4 (dk_at dksX0_seen_0 7 rfl rfl)
theorem dX0_seen_9 : decode cX0_seen 9 = .ok (.invokevirtual 68, 3) := dk_182 0 68 (dk_at dksX0_seen_0 9 rfl rfl)
theorem dX0_seen_12 : decode cX0_seen 12 = .ok (.lastore, 1) := dk_80 (dk_at dksX0_seen_0 12 rfl rfl)
theorem dX0_seen_13 : decode cX0_seen 13 = .ok (.goto 15, 3) := dk_167 0 15 (dk_at dksX0_seen_0 13 rfl rfl)
theorem dX0_seen_16 : decode cX0_seen 16 = .ok (.astore 6, 2) := dk_58 6 (dk_at dksX0_seen_0 16 rfl rfl)
theorem dX0_seen_18 : decode cX0_seen 18 = .ok (.iconst 1, 1) := dk_4 (dk_at dksX0_seen_0 18 rfl rfl)
theorem dX0_seen_19 : decode cX0_seen 19 = .ok (.ireturn, 1) := dk_172 (dk_at dksX0_seen_0 19 rfl rfl)
theorem dX0_seen_20 : decode cX0_seen 20 = .ok (.astore 6, 2) := dk_58 6 (dk_at dksX0_seen_0 20 rfl rfl)
theorem dX0_seen_22 : decode cX0_seen 22 = .ok (.iconst 2, 1) := dk_5 (dk_at dksX0_seen_0 22 rfl rfl)
theorem dX0_seen_23 : decode cX0_seen 23 = .ok (.ireturn, 1) := dk_172 (dk_at dksX0_seen_0 23 rfl rfl)
theorem dX0_seen_24 : decode cX0_seen 24 = .ok (.astore 6, 2) := dk_58 6 (dk_at dksX0_seen_1 0 rfl rfl)
theorem dX0_seen_26 : decode cX0_seen 26 = .ok (.iconst 3, 1) := dk_6 (dk_at dksX0_seen_1 2 rfl rfl)
theorem dX0_seen_27 : decode cX0_seen 27 = .ok (.ireturn, 1) := dk_172 (dk_at dksX0_seen_1 3 rfl rfl)
theorem dX0_seen_28 : decode cX0_seen 28 = .ok (.iconst 0, 1) := dk_3 (dk_at dksX0_seen_1 4 rfl rfl)
theorem dX0_seen_29 : decode cX0_seen 29 = .ok (.ireturn, 1) := dk_172 (dk_at dksX0_seen_1 5 rfl rfl)
def dkwX0_cheapest_0 : List UInt8 := [44, 3, 42, 27, 182, 0, 72, 133, 80, 167, 0, 6, 78, 4, 172, 3, 172]
abbrev dktX0_cheapest_0 : List UInt8 := dkwX0_cheapest_0 ++ []
theorem dksX0_cheapest_0 : cX0_cheapest.data.toList.drop 0 = dktX0_cheapest_0 := by decide +kernel
theorem dX0_cheapest_0 : decode cX0_cheapest 0 = .ok (.aload_n 2, 1) := dk_44 (dk_at dksX0_cheapest_0 0 rfl rfl)
theorem dX0_cheapest_1 : decode cX0_cheapest 1 = .ok (.iconst 0, 1) := dk_3 (dk_at dksX0_cheapest_0 1 rfl rfl)
theorem dX0_cheapest_2 : decode cX0_cheapest 2 = .ok (.aload_n 0, 1) := dk_42 (dk_at dksX0_cheapest_0 2 rfl rfl)
theorem dX0_cheapest_3 : decode cX0_cheapest 3 = .ok (.iload_n 1, 1) := dk_27 (dk_at dksX0_cheapest_0 3 rfl rfl)
theorem dX0_cheapest_4 : decode cX0_cheapest 4 = .ok (.invokevirtual 72, 3) := dk_182 0 72 (dk_at dksX0_cheapest_0 4 rfl rfl)
theorem dX0_cheapest_7 : decode cX0_cheapest 7 = .ok (.i2l, 1) := dk_133 (dk_at dksX0_cheapest_0 7 rfl rfl)
theorem dX0_cheapest_8 : decode cX0_cheapest 8 = .ok (.lastore, 1) := dk_80 (dk_at dksX0_cheapest_0 8 rfl rfl)
theorem dX0_cheapest_9 : decode cX0_cheapest 9 = .ok (.goto 6, 3) := dk_167 0 6 (dk_at dksX0_cheapest_0 9 rfl rfl)
theorem dX0_cheapest_12 : decode cX0_cheapest 12 = .ok (.astore_n 3, 1) := dk_78 (dk_at dksX0_cheapest_0 12 rfl rfl)
theorem dX0_cheapest_13 : decode cX0_cheapest 13 = .ok (.iconst 1, 1) := dk_4 (dk_at dksX0_cheapest_0 13 rfl rfl)
theorem dX0_cheapest_14 : decode cX0_cheapest 14 = .ok (.ireturn, 1) := dk_172 (dk_at dksX0_cheapest_0 14 rfl rfl)
theorem dX0_cheapest_15 : decode cX0_cheapest 15 = .ok (.iconst 0, 1) := dk_3 (dk_at dksX0_cheapest_0 15 rfl rfl)
theorem dX0_cheapest_16 : decode cX0_cheapest 16 = .ok (.ireturn, 1) := dk_172 (dk_at dksX0_cheapest_0 16 rfl rfl)
def dkwX0_stored_0 : List UInt8 := [45, 3, 42, 27, 28, 182, 0, 75, 133, 80, 167, 0, 7, 58, 4, 4, 172, 3, 172]
abbrev dktX0_stored_0 : List UInt8 := dkwX0_stored_0 ++ []
theorem dksX0_stored_0 : cX0_stored.data.toList.drop 0 = dktX0_stored_0 := by decide +kernel
theorem dX0_stored_0 : decode cX0_stored 0 = .ok (.aload_n 3, 1) := dk_45 (dk_at dksX0_stored_0 0 rfl rfl)
theorem dX0_stored_1 : decode cX0_stored 1 = .ok (.iconst 0, 1) := dk_3 (dk_at dksX0_stored_0 1 rfl rfl)
theorem dX0_stored_2 : decode cX0_stored 2 = .ok (.aload_n 0, 1) := dk_42 (dk_at dksX0_stored_0 2 rfl rfl)
theorem dX0_stored_3 : decode cX0_stored 3 = .ok (.iload_n 1, 1) := dk_27 (dk_at dksX0_stored_0 3 rfl rfl)
theorem dX0_stored_4 : decode cX0_stored 4 = .ok (.iload_n 2, 1) := dk_28 (dk_at dksX0_stored_0 4 rfl rfl)
theorem dX0_stored_5 : decode cX0_stored 5 = .ok (.invokevirtual 75, 3) := dk_182 0 75 (dk_at dksX0_stored_0 5 rfl rfl)
theorem dX0_stored_8 : decode cX0_stored 8 = .ok (.i2l, 1) := dk_133 (dk_at dksX0_stored_0 8 rfl rfl)
theorem dX0_stored_9 : decode cX0_stored 9 = .ok (.lastore, 1) := dk_80 (dk_at dksX0_stored_0 9 rfl rfl)
theorem dX0_stored_10 : decode cX0_stored 10 = .ok (.goto 7, 3) := dk_167 0 7 (dk_at dksX0_stored_0 10 rfl rfl)
theorem dX0_stored_13 : decode cX0_stored 13 = .ok (.astore 4, 2) := dk_58 4 (dk_at dksX0_stored_0 13 rfl rfl)
theorem dX0_stored_15 : decode cX0_stored 15 = .ok (.iconst 1, 1) := dk_4 (dk_at dksX0_stored_0 15 rfl rfl)
theorem dX0_stored_16 : decode cX0_stored 16 = .ok (.ireturn, 1) := dk_172 (dk_at dksX0_stored_0 16 rfl rfl)
theorem dX0_stored_17 : decode cX0_stored 17 = .ok (.iconst 0, 1) := dk_3 (dk_at dksX0_stored_0 17 rfl rfl)
theorem dX0_stored_18 : decode cX0_stored 18 = .ok (.ireturn, 1) := dk_172 (dk_at dksX0_stored_0 18 rfl rfl)
def dkwX2_init_2 : List UInt8 := [181, 0, 33, 42, 16, 99, 181, 0, 36, 42, 6, 16, 12, 197, 0, 39, 2, 181, 0, 41, 177]
abbrev dktX2_init_2 : List UInt8 := dkwX2_init_2 ++ []
def dkwX2_init_1 : List UInt8 := [181, 0, 21, 42, 17, 39, 15, 181, 0, 24, 42, 17, 39, 15, 181, 0, 27, 42, 4, 181, 0, 30, 42, 4]
abbrev dktX2_init_1 : List UInt8 := dkwX2_init_1 ++ dktX2_init_2
def dkwX2_init_0 : List UInt8 := [42, 183, 0, 3, 42, 4, 181, 0, 9, 42, 4, 181, 0, 15, 42, 4, 181, 0, 18, 42, 16, 10]
abbrev dktX2_init_0 : List UInt8 := dkwX2_init_0 ++ dktX2_init_1
theorem dksX2_init_0 : cX2_init.data.toList.drop 0 = dktX2_init_0 := by decide +kernel
theorem dksX2_init_1 : cX2_init.data.toList.drop 22 = dktX2_init_1 := dk_seg dksX2_init_0 22 rfl rfl
theorem dksX2_init_2 : cX2_init.data.toList.drop 46 = dktX2_init_2 := dk_seg dksX2_init_1 24 rfl rfl
theorem dX2_init_0 : decode cX2_init 0 = .ok (.aload_n 0, 1) := dk_42 (dk_at dksX2_init_0 0 rfl rfl)
theorem dX2_init_1 : decode cX2_init 1 = .ok (.invokespecial 3, 3) := dk_183 0 3 (dk_at dksX2_init_0 1 rfl rfl)
theorem dX2_init_4 : decode cX2_init 4 = .ok (.aload_n 0, 1) := dk_42 (dk_at dksX2_init_0 4 rfl rfl)
theorem dX2_init_5 : decode cX2_init 5 = .ok (.iconst 1, 1) := dk_4 (dk_at dksX2_init_0 5 rfl rfl)
theorem dX2_init_6 : decode cX2_init 6 = .ok (.putfield 9, 3) := dk_181 0 9 (dk_at dksX2_init_0 6 rfl rfl)
theorem dX2_init_9 : decode cX2_init 9 = .ok (.aload_n 0, 1) := dk_42 (dk_at dksX2_init_0 9 rfl rfl)
theorem dX2_init_10 : decode cX2_init 10 = .ok (.iconst 1, 1) := dk_4 (dk_at dksX2_init_0 10 rfl rfl)
theorem dX2_init_11 : decode cX2_init 11 = .ok (.putfield 15, 3) := dk_181 0 15 (dk_at dksX2_init_0 11 rfl rfl)
theorem dX2_init_14 : decode cX2_init 14 = .ok (.aload_n 0, 1) := dk_42 (dk_at dksX2_init_0 14 rfl rfl)
theorem dX2_init_15 : decode cX2_init 15 = .ok (.iconst 1, 1) := dk_4 (dk_at dksX2_init_0 15 rfl rfl)
theorem dX2_init_16 : decode cX2_init 16 = .ok (.putfield 18, 3) := dk_181 0 18 (dk_at dksX2_init_0 16 rfl rfl)
theorem dX2_init_19 : decode cX2_init 19 = .ok (.aload_n 0, 1) := dk_42 (dk_at dksX2_init_0 19 rfl rfl)
theorem dX2_init_20 : decode cX2_init 20 = .ok (.bipush 10, 2) := dk_16 10 (dk_at dksX2_init_0 20 rfl rfl)
theorem dX2_init_22 : decode cX2_init 22 = .ok (.putfield 21, 3) := dk_181 0 21 (dk_at dksX2_init_1 0 rfl rfl)
theorem dX2_init_25 : decode cX2_init 25 = .ok (.aload_n 0, 1) := dk_42 (dk_at dksX2_init_1 3 rfl rfl)
theorem dX2_init_26 : decode cX2_init 26 = .ok (.sipush 9999, 3) := dk_17 39 15 (dk_at dksX2_init_1 4 rfl rfl)
theorem dX2_init_29 : decode cX2_init 29 = .ok (.putfield 24, 3) := dk_181 0 24 (dk_at dksX2_init_1 7 rfl rfl)
theorem dX2_init_32 : decode cX2_init 32 = .ok (.aload_n 0, 1) := dk_42 (dk_at dksX2_init_1 10 rfl rfl)
theorem dX2_init_33 : decode cX2_init 33 = .ok (.sipush 9999, 3) := dk_17 39 15 (dk_at dksX2_init_1 11 rfl rfl)
theorem dX2_init_36 : decode cX2_init 36 = .ok (.putfield 27, 3) := dk_181 0 27 (dk_at dksX2_init_1 14 rfl rfl)
theorem dX2_init_39 : decode cX2_init 39 = .ok (.aload_n 0, 1) := dk_42 (dk_at dksX2_init_1 17 rfl rfl)
theorem dX2_init_40 : decode cX2_init 40 = .ok (.iconst 1, 1) := dk_4 (dk_at dksX2_init_1 18 rfl rfl)
theorem dX2_init_41 : decode cX2_init 41 = .ok (.putfield 30, 3) := dk_181 0 30 (dk_at dksX2_init_1 19 rfl rfl)
theorem dX2_init_44 : decode cX2_init 44 = .ok (.aload_n 0, 1) := dk_42 (dk_at dksX2_init_1 22 rfl rfl)
theorem dX2_init_45 : decode cX2_init 45 = .ok (.iconst 1, 1) := dk_4 (dk_at dksX2_init_1 23 rfl rfl)
theorem dX2_init_46 : decode cX2_init 46 = .ok (.putfield 33, 3) := dk_181 0 33 (dk_at dksX2_init_2 0 rfl rfl)
theorem dX2_init_49 : decode cX2_init 49 = .ok (.aload_n 0, 1) := dk_42 (dk_at dksX2_init_2 3 rfl rfl)
theorem dX2_init_50 : decode cX2_init 50 = .ok (.bipush 99, 2) := dk_16 99 (dk_at dksX2_init_2 4 rfl rfl)
theorem dX2_init_52 : decode cX2_init 52 = .ok (.putfield 36, 3) := dk_181 0 36 (dk_at dksX2_init_2 6 rfl rfl)
theorem dX2_init_55 : decode cX2_init 55 = .ok (.aload_n 0, 1) := dk_42 (dk_at dksX2_init_2 9 rfl rfl)
theorem dX2_init_56 : decode cX2_init 56 = .ok (.iconst 3, 1) := dk_6 (dk_at dksX2_init_2 10 rfl rfl)
theorem dX2_init_57 : decode cX2_init 57 = .ok (.bipush 12, 2) := dk_16 12 (dk_at dksX2_init_2 11 rfl rfl)
theorem dX2_init_59 : decode cX2_init 59 = .ok (.multianewarray 39 2, 4) := by decide +kernel
theorem dX2_init_63 : decode cX2_init 63 = .ok (.putfield 41, 3) := dk_181 0 41 (dk_at dksX2_init_2 17 rfl rfl)
theorem dX2_init_66 : decode cX2_init 66 = .ok (.return_, 1) := dk_177 (dk_at dksX2_init_2 20 rfl rfl)
def dkwX2_nodes_0 : List UInt8 := [42, 180, 0, 9, 42, 180, 0, 15, 104, 172]
abbrev dktX2_nodes_0 : List UInt8 := dkwX2_nodes_0 ++ []
theorem dksX2_nodes_0 : cX2_nodes.data.toList.drop 0 = dktX2_nodes_0 := by decide +kernel
theorem dX2_nodes_0 : decode cX2_nodes 0 = .ok (.aload_n 0, 1) := dk_42 (dk_at dksX2_nodes_0 0 rfl rfl)
theorem dX2_nodes_1 : decode cX2_nodes 1 = .ok (.getfield 9, 3) := dk_180 0 9 (dk_at dksX2_nodes_0 1 rfl rfl)
theorem dX2_nodes_4 : decode cX2_nodes 4 = .ok (.aload_n 0, 1) := dk_42 (dk_at dksX2_nodes_0 4 rfl rfl)
theorem dX2_nodes_5 : decode cX2_nodes 5 = .ok (.getfield 15, 3) := dk_180 0 15 (dk_at dksX2_nodes_0 5 rfl rfl)
theorem dX2_nodes_8 : decode cX2_nodes 8 = .ok (.imul, 1) := dk_104 (dk_at dksX2_nodes_0 8 rfl rfl)
theorem dX2_nodes_9 : decode cX2_nodes 9 = .ok (.ireturn, 1) := dk_172 (dk_at dksX2_nodes_0 9 rfl rfl)
def dkwX2_hasPlace_2 : List UInt8 := [167, 0, 4, 3, 172]
abbrev dktX2_hasPlace_2 : List UInt8 := dkwX2_hasPlace_2 ++ []
def dkwX2_hasPlace_1 : List UInt8 := [167, 0, 28, 28, 4, 160, 0, 18, 27, 42, 180, 0, 9, 108, 42, 180, 0, 15, 4, 100, 162, 0, 7, 4]
abbrev dktX2_hasPlace_1 : List UInt8 := dkwX2_hasPlace_1 ++ dktX2_hasPlace_2
def dkwX2_hasPlace_0 : List UInt8 := [28, 154, 0, 26, 27, 42, 180, 0, 9, 112, 42, 180, 0, 9, 4, 100, 162, 0, 7, 4, 167, 0, 32, 3]
abbrev dktX2_hasPlace_0 : List UInt8 := dkwX2_hasPlace_0 ++ dktX2_hasPlace_1
theorem dksX2_hasPlace_0 : cX2_hasPlace.data.toList.drop 0 = dktX2_hasPlace_0 := by decide +kernel
theorem dksX2_hasPlace_1 : cX2_hasPlace.data.toList.drop 24 = dktX2_hasPlace_1 := dk_seg dksX2_hasPlace_0 24 rfl rfl
theorem dksX2_hasPlace_2 : cX2_hasPlace.data.toList.drop 48 = dktX2_hasPlace_2 := dk_seg dksX2_hasPlace_1 24 rfl rfl
theorem dX2_hasPlace_0 : decode cX2_hasPlace 0 = .ok (.iload_n 2, 1) := dk_28 (dk_at dksX2_hasPlace_0 0 rfl rfl)
theorem dX2_hasPlace_1 : decode cX2_hasPlace 1 = .ok (.ifCond .ne 26, 3) := dk_154 0 26 (dk_at dksX2_hasPlace_0 1 rfl rfl)
theorem dX2_hasPlace_4 : decode cX2_hasPlace 4 = .ok (.iload_n 1, 1) := dk_27 (dk_at dksX2_hasPlace_0 4 rfl rfl)
theorem dX2_hasPlace_5 : decode cX2_hasPlace 5 = .ok (.aload_n 0, 1) := dk_42 (dk_at dksX2_hasPlace_0 5 rfl rfl)
theorem dX2_hasPlace_6 : decode cX2_hasPlace 6 = .ok (.getfield 9, 3) := dk_180 0 9 (dk_at dksX2_hasPlace_0 6 rfl rfl)
theorem dX2_hasPlace_9 : decode cX2_hasPlace 9 = .ok (.irem, 1) := dk_112 (dk_at dksX2_hasPlace_0 9 rfl rfl)
theorem dX2_hasPlace_10 : decode cX2_hasPlace 10 = .ok (.aload_n 0, 1) := dk_42 (dk_at dksX2_hasPlace_0 10 rfl rfl)
theorem dX2_hasPlace_11 : decode cX2_hasPlace 11 = .ok (.getfield 9, 3) := dk_180 0 9 (dk_at dksX2_hasPlace_0 11 rfl rfl)
theorem dX2_hasPlace_14 : decode cX2_hasPlace 14 = .ok (.iconst 1, 1) := dk_4 (dk_at dksX2_hasPlace_0 14 rfl rfl)
theorem dX2_hasPlace_15 : decode cX2_hasPlace 15 = .ok (.isub, 1) := dk_100 (dk_at dksX2_hasPlace_0 15 rfl rfl)
theorem dX2_hasPlace_16 : decode cX2_hasPlace 16 = .ok (.if_icmp .ge 7, 3) := dk_162 0 7 (dk_at dksX2_hasPlace_0 16 rfl rfl)
theorem dX2_hasPlace_19 : decode cX2_hasPlace 19 = .ok (.iconst 1, 1) := dk_4 (dk_at dksX2_hasPlace_0 19 rfl rfl)
theorem dX2_hasPlace_20 : decode cX2_hasPlace 20 = .ok (.goto 32, 3) := dk_167 0 32 (dk_at dksX2_hasPlace_0 20 rfl rfl)
theorem dX2_hasPlace_23 : decode cX2_hasPlace 23 = .ok (.iconst 0, 1) := dk_3 (dk_at dksX2_hasPlace_0 23 rfl rfl)
theorem dX2_hasPlace_24 : decode cX2_hasPlace 24 = .ok (.goto 28, 3) := dk_167 0 28 (dk_at dksX2_hasPlace_1 0 rfl rfl)
theorem dX2_hasPlace_27 : decode cX2_hasPlace 27 = .ok (.iload_n 2, 1) := dk_28 (dk_at dksX2_hasPlace_1 3 rfl rfl)
theorem dX2_hasPlace_28 : decode cX2_hasPlace 28 = .ok (.iconst 1, 1) := dk_4 (dk_at dksX2_hasPlace_1 4 rfl rfl)
theorem dX2_hasPlace_29 : decode cX2_hasPlace 29 = .ok (.if_icmp .ne 18, 3) := dk_160 0 18 (dk_at dksX2_hasPlace_1 5 rfl rfl)
theorem dX2_hasPlace_32 : decode cX2_hasPlace 32 = .ok (.iload_n 1, 1) := dk_27 (dk_at dksX2_hasPlace_1 8 rfl rfl)
theorem dX2_hasPlace_33 : decode cX2_hasPlace 33 = .ok (.aload_n 0, 1) := dk_42 (dk_at dksX2_hasPlace_1 9 rfl rfl)
theorem dX2_hasPlace_34 : decode cX2_hasPlace 34 = .ok (.getfield 9, 3) := dk_180 0 9 (dk_at dksX2_hasPlace_1 10 rfl rfl)
theorem dX2_hasPlace_37 : decode cX2_hasPlace 37 = .ok (.idiv, 1) := dk_108 (dk_at dksX2_hasPlace_1 13 rfl rfl)
theorem dX2_hasPlace_38 : decode cX2_hasPlace 38 = .ok (.aload_n 0, 1) := dk_42 (dk_at dksX2_hasPlace_1 14 rfl rfl)
theorem dX2_hasPlace_39 : decode cX2_hasPlace 39 = .ok (.getfield 15, 3) := dk_180 0 15 (dk_at dksX2_hasPlace_1 15 rfl rfl)
theorem dX2_hasPlace_42 : decode cX2_hasPlace 42 = .ok (.iconst 1, 1) := dk_4 (dk_at dksX2_hasPlace_1 18 rfl rfl)
theorem dX2_hasPlace_43 : decode cX2_hasPlace 43 = .ok (.isub, 1) := dk_100 (dk_at dksX2_hasPlace_1 19 rfl rfl)
theorem dX2_hasPlace_44 : decode cX2_hasPlace 44 = .ok (.if_icmp .ge 7, 3) := dk_162 0 7 (dk_at dksX2_hasPlace_1 20 rfl rfl)
theorem dX2_hasPlace_47 : decode cX2_hasPlace 47 = .ok (.iconst 1, 1) := dk_4 (dk_at dksX2_hasPlace_1 23 rfl rfl)
theorem dX2_hasPlace_48 : decode cX2_hasPlace 48 = .ok (.goto 4, 3) := dk_167 0 4 (dk_at dksX2_hasPlace_2 0 rfl rfl)
theorem dX2_hasPlace_51 : decode cX2_hasPlace 51 = .ok (.iconst 0, 1) := dk_3 (dk_at dksX2_hasPlace_2 3 rfl rfl)
theorem dX2_hasPlace_52 : decode cX2_hasPlace 52 = .ok (.ireturn, 1) := dk_172 (dk_at dksX2_hasPlace_2 4 rfl rfl)
def dkwX2_joined_3 : List UInt8 := [167, 255, 216, 132, 4, 1, 167, 255, 198, 167, 255, 185, 28, 172]
abbrev dktX2_joined_3 : List UInt8 := dkwX2_joined_3 ++ []
def dkwX2_joined_2 : List UInt8 := [160, 0, 21, 42, 21, 4, 21, 5, 182, 0, 64, 158, 0, 10, 28, 4, 21, 5, 120, 128, 61, 132, 5, 1]
abbrev dktX2_joined_2 : List UInt8 := dkwX2_joined_2 ++ dktX2_joined_3
def dkwX2_joined_1 : List UInt8 := [162, 0, 55, 3, 54, 5, 21, 5, 42, 182, 0, 60, 162, 0, 37, 28, 21, 4, 122, 4, 126, 4]
abbrev dktX2_joined_1 : List UInt8 := dkwX2_joined_1 ++ dktX2_joined_2
def dkwX2_joined_0 : List UInt8 := [4, 27, 120, 61, 3, 62, 29, 28, 159, 0, 72, 28, 62, 3, 54, 4, 21, 4, 42, 182, 0, 60]
abbrev dktX2_joined_0 : List UInt8 := dkwX2_joined_0 ++ dktX2_joined_1
theorem dksX2_joined_0 : cX2_joined.data.toList.drop 0 = dktX2_joined_0 := by decide +kernel
theorem dksX2_joined_1 : cX2_joined.data.toList.drop 22 = dktX2_joined_1 := dk_seg dksX2_joined_0 22 rfl rfl
theorem dksX2_joined_2 : cX2_joined.data.toList.drop 44 = dktX2_joined_2 := dk_seg dksX2_joined_1 22 rfl rfl
theorem dksX2_joined_3 : cX2_joined.data.toList.drop 68 = dktX2_joined_3 := dk_seg dksX2_joined_2 24 rfl rfl
theorem dX2_joined_0 : decode cX2_joined 0 = .ok (.iconst 1, 1) := dk_4 (dk_at dksX2_joined_0 0 rfl rfl)
theorem dX2_joined_1 : decode cX2_joined 1 = .ok (.iload_n 1, 1) := dk_27 (dk_at dksX2_joined_0 1 rfl rfl)
theorem dX2_joined_2 : decode cX2_joined 2 = .ok (.ishl, 1) := dk_120 (dk_at dksX2_joined_0 2 rfl rfl)
theorem dX2_joined_3 : decode cX2_joined 3 = .ok (.istore_n 2, 1) := dk_61 (dk_at dksX2_joined_0 3 rfl rfl)
theorem dX2_joined_4 : decode cX2_joined 4 = .ok (.iconst 0, 1) := dk_3 (dk_at dksX2_joined_0 4 rfl rfl)
theorem dX2_joined_5 : decode cX2_joined 5 = .ok (.istore_n 3, 1) := dk_62 (dk_at dksX2_joined_0 5 rfl rfl)
theorem dX2_joined_6 : decode cX2_joined 6 = .ok (.iload_n 3, 1) := dk_29 (dk_at dksX2_joined_0 6 rfl rfl)
theorem dX2_joined_7 : decode cX2_joined 7 = .ok (.iload_n 2, 1) := dk_28 (dk_at dksX2_joined_0 7 rfl rfl)
theorem dX2_joined_8 : decode cX2_joined 8 = .ok (.if_icmp .eq 72, 3) := dk_159 0 72 (dk_at dksX2_joined_0 8 rfl rfl)
theorem dX2_joined_11 : decode cX2_joined 11 = .ok (.iload_n 2, 1) := dk_28 (dk_at dksX2_joined_0 11 rfl rfl)
theorem dX2_joined_12 : decode cX2_joined 12 = .ok (.istore_n 3, 1) := dk_62 (dk_at dksX2_joined_0 12 rfl rfl)
theorem dX2_joined_13 : decode cX2_joined 13 = .ok (.iconst 0, 1) := dk_3 (dk_at dksX2_joined_0 13 rfl rfl)
theorem dX2_joined_14 : decode cX2_joined 14 = .ok (.istore 4, 2) := dk_54 4 (dk_at dksX2_joined_0 14 rfl rfl)
theorem dX2_joined_16 : decode cX2_joined 16 = .ok (.iload 4, 2) := dk_21 4 (dk_at dksX2_joined_0 16 rfl rfl)
theorem dX2_joined_18 : decode cX2_joined 18 = .ok (.aload_n 0, 1) := dk_42 (dk_at dksX2_joined_0 18 rfl rfl)
theorem dX2_joined_19 : decode cX2_joined 19 = .ok (.invokevirtual 60, 3) := dk_182 0 60 (dk_at dksX2_joined_0 19 rfl rfl)
theorem dX2_joined_22 : decode cX2_joined 22 = .ok (.if_icmp .ge 55, 3) := dk_162 0 55 (dk_at dksX2_joined_1 0 rfl rfl)
theorem dX2_joined_25 : decode cX2_joined 25 = .ok (.iconst 0, 1) := dk_3 (dk_at dksX2_joined_1 3 rfl rfl)
theorem dX2_joined_26 : decode cX2_joined 26 = .ok (.istore 5, 2) := dk_54 5 (dk_at dksX2_joined_1 4 rfl rfl)
theorem dX2_joined_28 : decode cX2_joined 28 = .ok (.iload 5, 2) := dk_21 5 (dk_at dksX2_joined_1 6 rfl rfl)
theorem dX2_joined_30 : decode cX2_joined 30 = .ok (.aload_n 0, 1) := dk_42 (dk_at dksX2_joined_1 8 rfl rfl)
theorem dX2_joined_31 : decode cX2_joined 31 = .ok (.invokevirtual 60, 3) := dk_182 0 60 (dk_at dksX2_joined_1 9 rfl rfl)
theorem dX2_joined_34 : decode cX2_joined 34 = .ok (.if_icmp .ge 37, 3) := dk_162 0 37 (dk_at dksX2_joined_1 12 rfl rfl)
theorem dX2_joined_37 : decode cX2_joined 37 = .ok (.iload_n 2, 1) := dk_28 (dk_at dksX2_joined_1 15 rfl rfl)
theorem dX2_joined_38 : decode cX2_joined 38 = .ok (.iload 4, 2) := dk_21 4 (dk_at dksX2_joined_1 16 rfl rfl)
theorem dX2_joined_40 : decode cX2_joined 40 = .ok (.ishr, 1) := dk_122 (dk_at dksX2_joined_1 18 rfl rfl)
theorem dX2_joined_41 : decode cX2_joined 41 = .ok (.iconst 1, 1) := dk_4 (dk_at dksX2_joined_1 19 rfl rfl)
theorem dX2_joined_42 : decode cX2_joined 42 = .ok (.iand, 1) := dk_126 (dk_at dksX2_joined_1 20 rfl rfl)
theorem dX2_joined_43 : decode cX2_joined 43 = .ok (.iconst 1, 1) := dk_4 (dk_at dksX2_joined_1 21 rfl rfl)
theorem dX2_joined_44 : decode cX2_joined 44 = .ok (.if_icmp .ne 21, 3) := dk_160 0 21 (dk_at dksX2_joined_2 0 rfl rfl)
theorem dX2_joined_47 : decode cX2_joined 47 = .ok (.aload_n 0, 1) := dk_42 (dk_at dksX2_joined_2 3 rfl rfl)
theorem dX2_joined_48 : decode cX2_joined 48 = .ok (.iload 4, 2) := dk_21 4 (dk_at dksX2_joined_2 4 rfl rfl)
theorem dX2_joined_50 : decode cX2_joined 50 = .ok (.iload 5, 2) := dk_21 5 (dk_at dksX2_joined_2 6 rfl rfl)
theorem dX2_joined_52 : decode cX2_joined 52 = .ok (.invokevirtual 64, 3) := dk_182 0 64 (dk_at dksX2_joined_2 8 rfl rfl)
theorem dX2_joined_55 : decode cX2_joined 55 = .ok (.ifCond .le 10, 3) := dk_158 0 10 (dk_at dksX2_joined_2 11 rfl rfl)
theorem dX2_joined_58 : decode cX2_joined 58 = .ok (.iload_n 2, 1) := dk_28 (dk_at dksX2_joined_2 14 rfl rfl)
theorem dX2_joined_59 : decode cX2_joined 59 = .ok (.iconst 1, 1) := dk_4 (dk_at dksX2_joined_2 15 rfl rfl)
theorem dX2_joined_60 : decode cX2_joined 60 = .ok (.iload 5, 2) := dk_21 5 (dk_at dksX2_joined_2 16 rfl rfl)
theorem dX2_joined_62 : decode cX2_joined 62 = .ok (.ishl, 1) := dk_120 (dk_at dksX2_joined_2 18 rfl rfl)
theorem dX2_joined_63 : decode cX2_joined 63 = .ok (.ior, 1) := dk_128 (dk_at dksX2_joined_2 19 rfl rfl)
theorem dX2_joined_64 : decode cX2_joined 64 = .ok (.istore_n 2, 1) := dk_61 (dk_at dksX2_joined_2 20 rfl rfl)
theorem dX2_joined_65 : decode cX2_joined 65 = .ok (.iinc 5 1, 3) := dk_132 5 1 (dk_at dksX2_joined_2 21 rfl rfl)
theorem dX2_joined_68 : decode cX2_joined 68 = .ok (.goto (-40), 3) := dk_167 255 216 (dk_at dksX2_joined_3 0 rfl rfl)
theorem dX2_joined_71 : decode cX2_joined 71 = .ok (.iinc 4 1, 3) := dk_132 4 1 (dk_at dksX2_joined_3 3 rfl rfl)
theorem dX2_joined_74 : decode cX2_joined 74 = .ok (.goto (-58), 3) := dk_167 255 198 (dk_at dksX2_joined_3 6 rfl rfl)
theorem dX2_joined_77 : decode cX2_joined 77 = .ok (.goto (-71), 3) := dk_167 255 185 (dk_at dksX2_joined_3 9 rfl rfl)
theorem dX2_joined_80 : decode cX2_joined 80 = .ok (.iload_n 2, 1) := dk_28 (dk_at dksX2_joined_3 12 rfl rfl)
theorem dX2_joined_81 : decode cX2_joined 81 = .ok (.ireturn, 1) := dk_172 (dk_at dksX2_joined_3 13 rfl rfl)
def dkwX2_between_3 : List UInt8 := [167, 0, 4, 3, 172]
abbrev dktX2_between_3 : List UInt8 := dkwX2_between_3 ++ []
def dkwX2_between_2 : List UInt8 := [153, 0, 25, 21, 4, 42, 29, 4, 182, 0, 57, 160, 0, 14, 42, 180, 0, 41, 4, 50, 29, 46]
abbrev dktX2_between_2 : List UInt8 := dkwX2_between_2 ++ dktX2_between_3
def dkwX2_between_1 : List UInt8 := [42, 29, 3, 182, 0, 57, 160, 0, 12, 42, 180, 0, 41, 3, 50, 29, 46, 172, 42, 29, 4, 182, 0, 53]
abbrev dktX2_between_1 : List UInt8 := dkwX2_between_1 ++ dktX2_between_2
def dkwX2_between_0 : List UInt8 := [27, 28, 184, 0, 44, 62, 27, 28, 184, 0, 50, 54, 4, 42, 29, 3, 182, 0, 53, 153, 0, 23, 21, 4]
abbrev dktX2_between_0 : List UInt8 := dkwX2_between_0 ++ dktX2_between_1
theorem dksX2_between_0 : cX2_between.data.toList.drop 0 = dktX2_between_0 := by decide +kernel
theorem dksX2_between_1 : cX2_between.data.toList.drop 24 = dktX2_between_1 := dk_seg dksX2_between_0 24 rfl rfl
theorem dksX2_between_2 : cX2_between.data.toList.drop 48 = dktX2_between_2 := dk_seg dksX2_between_1 24 rfl rfl
theorem dksX2_between_3 : cX2_between.data.toList.drop 70 = dktX2_between_3 := dk_seg dksX2_between_2 22 rfl rfl
theorem dX2_between_0 : decode cX2_between 0 = .ok (.iload_n 1, 1) := dk_27 (dk_at dksX2_between_0 0 rfl rfl)
theorem dX2_between_1 : decode cX2_between 1 = .ok (.iload_n 2, 1) := dk_28 (dk_at dksX2_between_0 1 rfl rfl)
theorem dX2_between_2 : decode cX2_between 2 = .ok (.invokestatic 44, 3) := dk_184 0 44 (dk_at dksX2_between_0 2 rfl rfl)
theorem dX2_between_5 : decode cX2_between 5 = .ok (.istore_n 3, 1) := dk_62 (dk_at dksX2_between_0 5 rfl rfl)
theorem dX2_between_6 : decode cX2_between 6 = .ok (.iload_n 1, 1) := dk_27 (dk_at dksX2_between_0 6 rfl rfl)
theorem dX2_between_7 : decode cX2_between 7 = .ok (.iload_n 2, 1) := dk_28 (dk_at dksX2_between_0 7 rfl rfl)
theorem dX2_between_8 : decode cX2_between 8 = .ok (.invokestatic 50, 3) := dk_184 0 50 (dk_at dksX2_between_0 8 rfl rfl)
theorem dX2_between_11 : decode cX2_between 11 = .ok (.istore 4, 2) := dk_54 4 (dk_at dksX2_between_0 11 rfl rfl)
theorem dX2_between_13 : decode cX2_between 13 = .ok (.aload_n 0, 1) := dk_42 (dk_at dksX2_between_0 13 rfl rfl)
theorem dX2_between_14 : decode cX2_between 14 = .ok (.iload_n 3, 1) := dk_29 (dk_at dksX2_between_0 14 rfl rfl)
theorem dX2_between_15 : decode cX2_between 15 = .ok (.iconst 0, 1) := dk_3 (dk_at dksX2_between_0 15 rfl rfl)
theorem dX2_between_16 : decode cX2_between 16 = .ok (.invokevirtual 53, 3) := dk_182 0 53 (dk_at dksX2_between_0 16 rfl rfl)
theorem dX2_between_19 : decode cX2_between 19 = .ok (.ifCond .eq 23, 3) := dk_153 0 23 (dk_at dksX2_between_0 19 rfl rfl)
theorem dX2_between_22 : decode cX2_between 22 = .ok (.iload 4, 2) := dk_21 4 (dk_at dksX2_between_0 22 rfl rfl)
theorem dX2_between_24 : decode cX2_between 24 = .ok (.aload_n 0, 1) := dk_42 (dk_at dksX2_between_1 0 rfl rfl)
theorem dX2_between_25 : decode cX2_between 25 = .ok (.iload_n 3, 1) := dk_29 (dk_at dksX2_between_1 1 rfl rfl)
theorem dX2_between_26 : decode cX2_between 26 = .ok (.iconst 0, 1) := dk_3 (dk_at dksX2_between_1 2 rfl rfl)
theorem dX2_between_27 : decode cX2_between 27 = .ok (.invokevirtual 57, 3) := dk_182 0 57 (dk_at dksX2_between_1 3 rfl rfl)
theorem dX2_between_30 : decode cX2_between 30 = .ok (.if_icmp .ne 12, 3) := dk_160 0 12 (dk_at dksX2_between_1 6 rfl rfl)
theorem dX2_between_33 : decode cX2_between 33 = .ok (.aload_n 0, 1) := dk_42 (dk_at dksX2_between_1 9 rfl rfl)
theorem dX2_between_34 : decode cX2_between 34 = .ok (.getfield 41, 3) := dk_180 0 41 (dk_at dksX2_between_1 10 rfl rfl)
theorem dX2_between_37 : decode cX2_between 37 = .ok (.iconst 0, 1) := dk_3 (dk_at dksX2_between_1 13 rfl rfl)
theorem dX2_between_38 : decode cX2_between 38 = .ok (.aaload, 1) := dk_50 (dk_at dksX2_between_1 14 rfl rfl)
theorem dX2_between_39 : decode cX2_between 39 = .ok (.iload_n 3, 1) := dk_29 (dk_at dksX2_between_1 15 rfl rfl)
theorem dX2_between_40 : decode cX2_between 40 = .ok (.iaload, 1) := dk_46 (dk_at dksX2_between_1 16 rfl rfl)
theorem dX2_between_41 : decode cX2_between 41 = .ok (.ireturn, 1) := dk_172 (dk_at dksX2_between_1 17 rfl rfl)
theorem dX2_between_42 : decode cX2_between 42 = .ok (.aload_n 0, 1) := dk_42 (dk_at dksX2_between_1 18 rfl rfl)
theorem dX2_between_43 : decode cX2_between 43 = .ok (.iload_n 3, 1) := dk_29 (dk_at dksX2_between_1 19 rfl rfl)
theorem dX2_between_44 : decode cX2_between 44 = .ok (.iconst 1, 1) := dk_4 (dk_at dksX2_between_1 20 rfl rfl)
theorem dX2_between_45 : decode cX2_between 45 = .ok (.invokevirtual 53, 3) := dk_182 0 53 (dk_at dksX2_between_1 21 rfl rfl)
theorem dX2_between_48 : decode cX2_between 48 = .ok (.ifCond .eq 25, 3) := dk_153 0 25 (dk_at dksX2_between_2 0 rfl rfl)
theorem dX2_between_51 : decode cX2_between 51 = .ok (.iload 4, 2) := dk_21 4 (dk_at dksX2_between_2 3 rfl rfl)
theorem dX2_between_53 : decode cX2_between 53 = .ok (.aload_n 0, 1) := dk_42 (dk_at dksX2_between_2 5 rfl rfl)
theorem dX2_between_54 : decode cX2_between 54 = .ok (.iload_n 3, 1) := dk_29 (dk_at dksX2_between_2 6 rfl rfl)
theorem dX2_between_55 : decode cX2_between 55 = .ok (.iconst 1, 1) := dk_4 (dk_at dksX2_between_2 7 rfl rfl)
theorem dX2_between_56 : decode cX2_between 56 = .ok (.invokevirtual 57, 3) := dk_182 0 57 (dk_at dksX2_between_2 8 rfl rfl)
theorem dX2_between_59 : decode cX2_between 59 = .ok (.if_icmp .ne 14, 3) := dk_160 0 14 (dk_at dksX2_between_2 11 rfl rfl)
theorem dX2_between_62 : decode cX2_between 62 = .ok (.aload_n 0, 1) := dk_42 (dk_at dksX2_between_2 14 rfl rfl)
theorem dX2_between_63 : decode cX2_between 63 = .ok (.getfield 41, 3) := dk_180 0 41 (dk_at dksX2_between_2 15 rfl rfl)
theorem dX2_between_66 : decode cX2_between 66 = .ok (.iconst 1, 1) := dk_4 (dk_at dksX2_between_2 18 rfl rfl)
theorem dX2_between_67 : decode cX2_between 67 = .ok (.aaload, 1) := dk_50 (dk_at dksX2_between_2 19 rfl rfl)
theorem dX2_between_68 : decode cX2_between 68 = .ok (.iload_n 3, 1) := dk_29 (dk_at dksX2_between_2 20 rfl rfl)
theorem dX2_between_69 : decode cX2_between 69 = .ok (.iaload, 1) := dk_46 (dk_at dksX2_between_2 21 rfl rfl)
theorem dX2_between_70 : decode cX2_between 70 = .ok (.goto 4, 3) := dk_167 0 4 (dk_at dksX2_between_3 0 rfl rfl)
theorem dX2_between_73 : decode cX2_between 73 = .ok (.iconst 0, 1) := dk_3 (dk_at dksX2_between_3 3 rfl rfl)
theorem dX2_between_74 : decode cX2_between 74 = .ok (.ireturn, 1) := dk_172 (dk_at dksX2_between_3 4 rfl rfl)
def dkwX2_end_0 : List UInt8 := [28, 154, 0, 9, 27, 4, 96, 167, 0, 9, 27, 42, 180, 0, 9, 96, 172]
abbrev dktX2_end_0 : List UInt8 := dkwX2_end_0 ++ []
theorem dksX2_end_0 : cX2_end.data.toList.drop 0 = dktX2_end_0 := by decide +kernel
theorem dX2_end_0 : decode cX2_end 0 = .ok (.iload_n 2, 1) := dk_28 (dk_at dksX2_end_0 0 rfl rfl)
theorem dX2_end_1 : decode cX2_end 1 = .ok (.ifCond .ne 9, 3) := dk_154 0 9 (dk_at dksX2_end_0 1 rfl rfl)
theorem dX2_end_4 : decode cX2_end 4 = .ok (.iload_n 1, 1) := dk_27 (dk_at dksX2_end_0 4 rfl rfl)
theorem dX2_end_5 : decode cX2_end 5 = .ok (.iconst 1, 1) := dk_4 (dk_at dksX2_end_0 5 rfl rfl)
theorem dX2_end_6 : decode cX2_end 6 = .ok (.iadd, 1) := dk_96 (dk_at dksX2_end_0 6 rfl rfl)
theorem dX2_end_7 : decode cX2_end 7 = .ok (.goto 9, 3) := dk_167 0 9 (dk_at dksX2_end_0 7 rfl rfl)
theorem dX2_end_10 : decode cX2_end 10 = .ok (.iload_n 1, 1) := dk_27 (dk_at dksX2_end_0 10 rfl rfl)
theorem dX2_end_11 : decode cX2_end 11 = .ok (.aload_n 0, 1) := dk_42 (dk_at dksX2_end_0 11 rfl rfl)
theorem dX2_end_12 : decode cX2_end 12 = .ok (.getfield 9, 3) := dk_180 0 9 (dk_at dksX2_end_0 12 rfl rfl)
theorem dX2_end_15 : decode cX2_end 15 = .ok (.iadd, 1) := dk_96 (dk_at dksX2_end_0 15 rfl rfl)
theorem dX2_end_16 : decode cX2_end 16 = .ok (.ireturn, 1) := dk_172 (dk_at dksX2_end_0 16 rfl rfl)
def dkwX2_floats_1 : List UInt8 := [50, 28, 46, 158, 0, 5, 3, 172, 132, 2, 1, 167, 255, 223, 4, 172]
abbrev dktX2_floats_1 : List UInt8 := dkwX2_floats_1 ++ []
def dkwX2_floats_0 : List UInt8 := [3, 61, 28, 42, 182, 0, 60, 162, 0, 31, 27, 28, 122, 4, 126, 4, 160, 0, 16, 42, 180, 0, 41, 5]
abbrev dktX2_floats_0 : List UInt8 := dkwX2_floats_0 ++ dktX2_floats_1
theorem dksX2_floats_0 : cX2_floats.data.toList.drop 0 = dktX2_floats_0 := by decide +kernel
theorem dksX2_floats_1 : cX2_floats.data.toList.drop 24 = dktX2_floats_1 := dk_seg dksX2_floats_0 24 rfl rfl
theorem dX2_floats_0 : decode cX2_floats 0 = .ok (.iconst 0, 1) := dk_3 (dk_at dksX2_floats_0 0 rfl rfl)
theorem dX2_floats_1 : decode cX2_floats 1 = .ok (.istore_n 2, 1) := dk_61 (dk_at dksX2_floats_0 1 rfl rfl)
theorem dX2_floats_2 : decode cX2_floats 2 = .ok (.iload_n 2, 1) := dk_28 (dk_at dksX2_floats_0 2 rfl rfl)
theorem dX2_floats_3 : decode cX2_floats 3 = .ok (.aload_n 0, 1) := dk_42 (dk_at dksX2_floats_0 3 rfl rfl)
theorem dX2_floats_4 : decode cX2_floats 4 = .ok (.invokevirtual 60, 3) := dk_182 0 60 (dk_at dksX2_floats_0 4 rfl rfl)
theorem dX2_floats_7 : decode cX2_floats 7 = .ok (.if_icmp .ge 31, 3) := dk_162 0 31 (dk_at dksX2_floats_0 7 rfl rfl)
theorem dX2_floats_10 : decode cX2_floats 10 = .ok (.iload_n 1, 1) := dk_27 (dk_at dksX2_floats_0 10 rfl rfl)
theorem dX2_floats_11 : decode cX2_floats 11 = .ok (.iload_n 2, 1) := dk_28 (dk_at dksX2_floats_0 11 rfl rfl)
theorem dX2_floats_12 : decode cX2_floats 12 = .ok (.ishr, 1) := dk_122 (dk_at dksX2_floats_0 12 rfl rfl)
theorem dX2_floats_13 : decode cX2_floats 13 = .ok (.iconst 1, 1) := dk_4 (dk_at dksX2_floats_0 13 rfl rfl)
theorem dX2_floats_14 : decode cX2_floats 14 = .ok (.iand, 1) := dk_126 (dk_at dksX2_floats_0 14 rfl rfl)
theorem dX2_floats_15 : decode cX2_floats 15 = .ok (.iconst 1, 1) := dk_4 (dk_at dksX2_floats_0 15 rfl rfl)
theorem dX2_floats_16 : decode cX2_floats 16 = .ok (.if_icmp .ne 16, 3) := dk_160 0 16 (dk_at dksX2_floats_0 16 rfl rfl)
theorem dX2_floats_19 : decode cX2_floats 19 = .ok (.aload_n 0, 1) := dk_42 (dk_at dksX2_floats_0 19 rfl rfl)
theorem dX2_floats_20 : decode cX2_floats 20 = .ok (.getfield 41, 3) := dk_180 0 41 (dk_at dksX2_floats_0 20 rfl rfl)
theorem dX2_floats_23 : decode cX2_floats 23 = .ok (.iconst 2, 1) := dk_5 (dk_at dksX2_floats_0 23 rfl rfl)
theorem dX2_floats_24 : decode cX2_floats 24 = .ok (.aaload, 1) := dk_50 (dk_at dksX2_floats_1 0 rfl rfl)
theorem dX2_floats_25 : decode cX2_floats 25 = .ok (.iload_n 2, 1) := dk_28 (dk_at dksX2_floats_1 1 rfl rfl)
theorem dX2_floats_26 : decode cX2_floats 26 = .ok (.iaload, 1) := dk_46 (dk_at dksX2_floats_1 2 rfl rfl)
theorem dX2_floats_27 : decode cX2_floats 27 = .ok (.ifCond .le 5, 3) := dk_158 0 5 (dk_at dksX2_floats_1 3 rfl rfl)
theorem dX2_floats_30 : decode cX2_floats 30 = .ok (.iconst 0, 1) := dk_3 (dk_at dksX2_floats_1 6 rfl rfl)
theorem dX2_floats_31 : decode cX2_floats 31 = .ok (.ireturn, 1) := dk_172 (dk_at dksX2_floats_1 7 rfl rfl)
theorem dX2_floats_32 : decode cX2_floats 32 = .ok (.iinc 2 1, 3) := dk_132 2 1 (dk_at dksX2_floats_1 8 rfl rfl)
theorem dX2_floats_35 : decode cX2_floats 35 = .ok (.goto (-33), 3) := dk_167 255 223 (dk_at dksX2_floats_1 11 rfl rfl)
theorem dX2_floats_38 : decode cX2_floats 38 = .ok (.iconst 1, 1) := dk_4 (dk_at dksX2_floats_1 14 rfl rfl)
theorem dX2_floats_39 : decode cX2_floats 39 = .ok (.ireturn, 1) := dk_172 (dk_at dksX2_floats_1 15 rfl rfl)
def dkwX2_unit_0 : List UInt8 := [27, 5, 160, 0, 10, 42, 180, 0, 33, 167, 0, 7, 42, 180, 0, 30, 172]
abbrev dktX2_unit_0 : List UInt8 := dkwX2_unit_0 ++ []
theorem dksX2_unit_0 : cX2_unit.data.toList.drop 0 = dktX2_unit_0 := by decide +kernel
theorem dX2_unit_0 : decode cX2_unit 0 = .ok (.iload_n 1, 1) := dk_27 (dk_at dksX2_unit_0 0 rfl rfl)
theorem dX2_unit_1 : decode cX2_unit 1 = .ok (.iconst 2, 1) := dk_5 (dk_at dksX2_unit_0 1 rfl rfl)
theorem dX2_unit_2 : decode cX2_unit 2 = .ok (.if_icmp .ne 10, 3) := dk_160 0 10 (dk_at dksX2_unit_0 2 rfl rfl)
theorem dX2_unit_5 : decode cX2_unit 5 = .ok (.aload_n 0, 1) := dk_42 (dk_at dksX2_unit_0 5 rfl rfl)
theorem dX2_unit_6 : decode cX2_unit 6 = .ok (.getfield 33, 3) := dk_180 0 33 (dk_at dksX2_unit_0 6 rfl rfl)
theorem dX2_unit_9 : decode cX2_unit 9 = .ok (.goto 7, 3) := dk_167 0 7 (dk_at dksX2_unit_0 9 rfl rfl)
theorem dX2_unit_12 : decode cX2_unit 12 = .ok (.aload_n 0, 1) := dk_42 (dk_at dksX2_unit_0 12 rfl rfl)
theorem dX2_unit_13 : decode cX2_unit 13 = .ok (.getfield 30, 3) := dk_180 0 30 (dk_at dksX2_unit_0 13 rfl rfl)
theorem dX2_unit_16 : decode cX2_unit 16 = .ok (.ireturn, 1) := dk_172 (dk_at dksX2_unit_0 16 rfl rfl)
def dkwX3_init_2 : List UInt8 := [188, 10, 181, 0, 30, 42, 16, 12, 188, 10, 181, 0, 34, 42, 16, 12, 188, 11, 181, 0, 37, 177]
abbrev dktX3_init_2 : List UInt8 := dkwX3_init_2 ++ []
def dkwX3_init_1 : List UInt8 := [16, 12, 197, 0, 15, 2, 181, 0, 20, 42, 187, 0, 23, 89, 183, 0, 25, 181, 0, 26, 42, 16, 12]
abbrev dktX3_init_1 : List UInt8 := dkwX3_init_1 ++ dktX3_init_2
def dkwX3_init_0 : List UInt8 := [42, 43, 181, 0, 3, 42, 183, 0, 9, 42, 16, 12, 16, 12, 197, 0, 15, 2, 181, 0, 17, 42, 16, 12]
abbrev dktX3_init_0 : List UInt8 := dkwX3_init_0 ++ dktX3_init_1
theorem dksX3_init_0 : cX3_init.data.toList.drop 0 = dktX3_init_0 := by decide +kernel
theorem dksX3_init_1 : cX3_init.data.toList.drop 24 = dktX3_init_1 := dk_seg dksX3_init_0 24 rfl rfl
theorem dksX3_init_2 : cX3_init.data.toList.drop 47 = dktX3_init_2 := dk_seg dksX3_init_1 23 rfl rfl
theorem dX3_init_0 : decode cX3_init 0 = .ok (.aload_n 0, 1) := dk_42 (dk_at dksX3_init_0 0 rfl rfl)
theorem dX3_init_1 : decode cX3_init 1 = .ok (.aload_n 1, 1) := dk_43 (dk_at dksX3_init_0 1 rfl rfl)
theorem dX3_init_2 : decode cX3_init 2 = .ok (.putfield 3, 3) := dk_181 0 3 (dk_at dksX3_init_0 2 rfl rfl)
theorem dX3_init_5 : decode cX3_init 5 = .ok (.aload_n 0, 1) := dk_42 (dk_at dksX3_init_0 5 rfl rfl)
theorem dX3_init_6 : decode cX3_init 6 = .ok (.invokespecial 9, 3) := dk_183 0 9 (dk_at dksX3_init_0 6 rfl rfl)
theorem dX3_init_9 : decode cX3_init 9 = .ok (.aload_n 0, 1) := dk_42 (dk_at dksX3_init_0 9 rfl rfl)
theorem dX3_init_10 : decode cX3_init 10 = .ok (.bipush 12, 2) := dk_16 12 (dk_at dksX3_init_0 10 rfl rfl)
theorem dX3_init_12 : decode cX3_init 12 = .ok (.bipush 12, 2) := dk_16 12 (dk_at dksX3_init_0 12 rfl rfl)
theorem dX3_init_14 : decode cX3_init 14 = .ok (.multianewarray 15 2, 4) := by decide +kernel
theorem dX3_init_18 : decode cX3_init 18 = .ok (.putfield 17, 3) := dk_181 0 17 (dk_at dksX3_init_0 18 rfl rfl)
theorem dX3_init_21 : decode cX3_init 21 = .ok (.aload_n 0, 1) := dk_42 (dk_at dksX3_init_0 21 rfl rfl)
theorem dX3_init_22 : decode cX3_init 22 = .ok (.bipush 12, 2) := dk_16 12 (dk_at dksX3_init_0 22 rfl rfl)
theorem dX3_init_24 : decode cX3_init 24 = .ok (.bipush 12, 2) := dk_16 12 (dk_at dksX3_init_1 0 rfl rfl)
theorem dX3_init_26 : decode cX3_init 26 = .ok (.multianewarray 15 2, 4) := by decide +kernel
theorem dX3_init_30 : decode cX3_init 30 = .ok (.putfield 20, 3) := dk_181 0 20 (dk_at dksX3_init_1 6 rfl rfl)
theorem dX3_init_33 : decode cX3_init 33 = .ok (.aload_n 0, 1) := dk_42 (dk_at dksX3_init_1 9 rfl rfl)
theorem dX3_init_34 : decode cX3_init 34 = .ok (.new 23, 3) := dk_187 0 23 (dk_at dksX3_init_1 10 rfl rfl)
theorem dX3_init_37 : decode cX3_init 37 = .ok (.dup, 1) := dk_89 (dk_at dksX3_init_1 13 rfl rfl)
theorem dX3_init_38 : decode cX3_init 38 = .ok (.invokespecial 25, 3) := dk_183 0 25 (dk_at dksX3_init_1 14 rfl rfl)
theorem dX3_init_41 : decode cX3_init 41 = .ok (.putfield 26, 3) := dk_181 0 26 (dk_at dksX3_init_1 17 rfl rfl)
theorem dX3_init_44 : decode cX3_init 44 = .ok (.aload_n 0, 1) := dk_42 (dk_at dksX3_init_1 20 rfl rfl)
theorem dX3_init_45 : decode cX3_init 45 = .ok (.bipush 12, 2) := dk_16 12 (dk_at dksX3_init_1 21 rfl rfl)
theorem dX3_init_47 : decode cX3_init 47 = .ok (.newarray .int, 2) := dk_188_10 (dk_at dksX3_init_2 0 rfl rfl)
theorem dX3_init_49 : decode cX3_init 49 = .ok (.putfield 30, 3) := dk_181 0 30 (dk_at dksX3_init_2 2 rfl rfl)
theorem dX3_init_52 : decode cX3_init 52 = .ok (.aload_n 0, 1) := dk_42 (dk_at dksX3_init_2 5 rfl rfl)
theorem dX3_init_53 : decode cX3_init 53 = .ok (.bipush 12, 2) := dk_16 12 (dk_at dksX3_init_2 6 rfl rfl)
theorem dX3_init_55 : decode cX3_init 55 = .ok (.newarray .int, 2) := dk_188_10 (dk_at dksX3_init_2 8 rfl rfl)
theorem dX3_init_57 : decode cX3_init 57 = .ok (.putfield 34, 3) := dk_181 0 34 (dk_at dksX3_init_2 10 rfl rfl)
theorem dX3_init_60 : decode cX3_init 60 = .ok (.aload_n 0, 1) := dk_42 (dk_at dksX3_init_2 13 rfl rfl)
theorem dX3_init_61 : decode cX3_init 61 = .ok (.bipush 12, 2) := dk_16 12 (dk_at dksX3_init_2 14 rfl rfl)
theorem dX3_init_63 : decode cX3_init 63 = .ok (.newarray .long, 2) := dk_188_11 (dk_at dksX3_init_2 16 rfl rfl)
theorem dX3_init_65 : decode cX3_init 65 = .ok (.putfield 37, 3) := dk_181 0 37 (dk_at dksX3_init_2 18 rfl rfl)
theorem dX3_init_68 : decode cX3_init 68 = .ok (.return_, 1) := dk_177 (dk_at dksX3_init_2 21 rfl rfl)
def dkwX3_lays_10 : List UInt8 := [42, 180, 0, 17, 42, 180, 0, 41, 182, 0, 63, 181, 0, 67, 177]
abbrev dktX3_lays_10 : List UInt8 := dkwX3_lays_10 ++ []
def dkwX3_lays_9 : List UInt8 := [46, 182, 0, 59, 116, 133, 80, 132, 3, 1, 167, 255, 208, 132, 2, 1, 167, 255, 99, 42, 42, 180, 0, 26]
abbrev dktX3_lays_9 : List UInt8 := dkwX3_lays_9 ++ dktX3_lays_10
def dkwX3_lays_8 : List UInt8 := [180, 0, 17, 28, 50, 29, 42, 180, 0, 3, 180, 0, 45, 42, 180, 0, 30, 28, 46, 42, 180, 0, 30, 29]
abbrev dktX3_lays_8 : List UInt8 := dkwX3_lays_8 ++ dktX3_lays_9
def dkwX3_lays_7 : List UInt8 := [132, 3, 1, 167, 255, 196, 3, 62, 29, 42, 180, 0, 41, 162, 0, 46, 28, 29, 159, 0, 35, 42]
abbrev dktX3_lays_7 : List UInt8 := dkwX3_lays_7 ++ dktX3_lays_8
def dkwX3_lays_6 : List UInt8 := [167, 0, 21, 42, 180, 0, 3, 180, 0, 45, 42, 180, 0, 30, 28, 46, 29, 182, 0, 59, 133, 97, 80]
abbrev dktX3_lays_6 : List UInt8 := dkwX3_lays_6 ++ dktX3_lays_7
def dkwX3_lays_5 : List UInt8 := [162, 0, 52, 42, 180, 0, 17, 28, 50, 28, 92, 47, 29, 42, 180, 0, 30, 28, 46, 160, 0, 7, 9]
abbrev dktX3_lays_5 : List UInt8 := dkwX3_lays_5 ++ dktX3_lays_6
def dkwX3_lays_4 : List UInt8 := [50, 42, 180, 0, 30, 28, 46, 46, 133, 80, 3, 62, 29, 42, 180, 0, 3, 180, 0, 45, 182, 0, 55]
abbrev dktX3_lays_4 : List UInt8 := dkwX3_lays_4 ++ dktX3_lays_5
def dkwX3_lays_3 : List UInt8 := [180, 0, 41, 162, 0, 155, 42, 180, 0, 17, 28, 50, 28, 42, 180, 0, 3, 180, 0, 45, 180, 0, 49, 5]
abbrev dktX3_lays_3 : List UInt8 := dkwX3_lays_3 ++ dktX3_lays_4
def dkwX3_lays_2 : List UInt8 := [180, 0, 41, 79, 42, 89, 180, 0, 41, 4, 96, 181, 0, 41, 132, 2, 1, 167, 255, 199, 3, 61, 28, 42]
abbrev dktX3_lays_2 : List UInt8 := dkwX3_lays_2 ++ dktX3_lays_3
def dkwX3_lays_1 : List UInt8 := [126, 154, 0, 6, 167, 0, 33, 42, 180, 0, 30, 42, 180, 0, 41, 28, 79, 42, 180, 0, 34, 28, 42]
abbrev dktX3_lays_1 : List UInt8 := dkwX3_lays_1 ++ dktX3_lays_2
def dkwX3_lays_0 : List UInt8 := [42, 3, 181, 0, 41, 3, 61, 28, 16, 12, 162, 0, 57, 42, 180, 0, 34, 28, 2, 79, 27, 28, 122, 4]
abbrev dktX3_lays_0 : List UInt8 := dkwX3_lays_0 ++ dktX3_lays_1
theorem dksX3_lays_0 : cX3_lays.data.toList.drop 0 = dktX3_lays_0 := by decide +kernel
theorem dksX3_lays_1 : cX3_lays.data.toList.drop 24 = dktX3_lays_1 := dk_seg dksX3_lays_0 24 rfl rfl
theorem dksX3_lays_2 : cX3_lays.data.toList.drop 47 = dktX3_lays_2 := dk_seg dksX3_lays_1 23 rfl rfl
theorem dksX3_lays_3 : cX3_lays.data.toList.drop 71 = dktX3_lays_3 := dk_seg dksX3_lays_2 24 rfl rfl
theorem dksX3_lays_4 : cX3_lays.data.toList.drop 95 = dktX3_lays_4 := dk_seg dksX3_lays_3 24 rfl rfl
theorem dksX3_lays_5 : cX3_lays.data.toList.drop 118 = dktX3_lays_5 := dk_seg dksX3_lays_4 23 rfl rfl
theorem dksX3_lays_6 : cX3_lays.data.toList.drop 141 = dktX3_lays_6 := dk_seg dksX3_lays_5 23 rfl rfl
theorem dksX3_lays_7 : cX3_lays.data.toList.drop 164 = dktX3_lays_7 := dk_seg dksX3_lays_6 23 rfl rfl
theorem dksX3_lays_8 : cX3_lays.data.toList.drop 186 = dktX3_lays_8 := dk_seg dksX3_lays_7 22 rfl rfl
theorem dksX3_lays_9 : cX3_lays.data.toList.drop 210 = dktX3_lays_9 := dk_seg dksX3_lays_8 24 rfl rfl
theorem dksX3_lays_10 : cX3_lays.data.toList.drop 234 = dktX3_lays_10 := dk_seg dksX3_lays_9 24 rfl rfl
theorem dX3_lays_0 : decode cX3_lays 0 = .ok (.aload_n 0, 1) := dk_42 (dk_at dksX3_lays_0 0 rfl rfl)
theorem dX3_lays_1 : decode cX3_lays 1 = .ok (.iconst 0, 1) := dk_3 (dk_at dksX3_lays_0 1 rfl rfl)
theorem dX3_lays_2 : decode cX3_lays 2 = .ok (.putfield 41, 3) := dk_181 0 41 (dk_at dksX3_lays_0 2 rfl rfl)
theorem dX3_lays_5 : decode cX3_lays 5 = .ok (.iconst 0, 1) := dk_3 (dk_at dksX3_lays_0 5 rfl rfl)
theorem dX3_lays_6 : decode cX3_lays 6 = .ok (.istore_n 2, 1) := dk_61 (dk_at dksX3_lays_0 6 rfl rfl)
theorem dX3_lays_7 : decode cX3_lays 7 = .ok (.iload_n 2, 1) := dk_28 (dk_at dksX3_lays_0 7 rfl rfl)
theorem dX3_lays_8 : decode cX3_lays 8 = .ok (.bipush 12, 2) := dk_16 12 (dk_at dksX3_lays_0 8 rfl rfl)
theorem dX3_lays_10 : decode cX3_lays 10 = .ok (.if_icmp .ge 57, 3) := dk_162 0 57 (dk_at dksX3_lays_0 10 rfl rfl)
theorem dX3_lays_13 : decode cX3_lays 13 = .ok (.aload_n 0, 1) := dk_42 (dk_at dksX3_lays_0 13 rfl rfl)
theorem dX3_lays_14 : decode cX3_lays 14 = .ok (.getfield 34, 3) := dk_180 0 34 (dk_at dksX3_lays_0 14 rfl rfl)
theorem dX3_lays_17 : decode cX3_lays 17 = .ok (.iload_n 2, 1) := dk_28 (dk_at dksX3_lays_0 17 rfl rfl)
theorem dX3_lays_18 : decode cX3_lays 18 = .ok (.iconst (-1), 1) := dk_2 (dk_at dksX3_lays_0 18 rfl rfl)
theorem dX3_lays_19 : decode cX3_lays 19 = .ok (.iastore, 1) := dk_79 (dk_at dksX3_lays_0 19 rfl rfl)
theorem dX3_lays_20 : decode cX3_lays 20 = .ok (.iload_n 1, 1) := dk_27 (dk_at dksX3_lays_0 20 rfl rfl)
theorem dX3_lays_21 : decode cX3_lays 21 = .ok (.iload_n 2, 1) := dk_28 (dk_at dksX3_lays_0 21 rfl rfl)
theorem dX3_lays_22 : decode cX3_lays 22 = .ok (.ishr, 1) := dk_122 (dk_at dksX3_lays_0 22 rfl rfl)
theorem dX3_lays_23 : decode cX3_lays 23 = .ok (.iconst 1, 1) := dk_4 (dk_at dksX3_lays_0 23 rfl rfl)
theorem dX3_lays_24 : decode cX3_lays 24 = .ok (.iand, 1) := dk_126 (dk_at dksX3_lays_1 0 rfl rfl)
theorem dX3_lays_25 : decode cX3_lays 25 = .ok (.ifCond .ne 6, 3) := dk_154 0 6 (dk_at dksX3_lays_1 1 rfl rfl)
theorem dX3_lays_28 : decode cX3_lays 28 = .ok (.goto 33, 3) := dk_167 0 33 (dk_at dksX3_lays_1 4 rfl rfl)
theorem dX3_lays_31 : decode cX3_lays 31 = .ok (.aload_n 0, 1) := dk_42 (dk_at dksX3_lays_1 7 rfl rfl)
theorem dX3_lays_32 : decode cX3_lays 32 = .ok (.getfield 30, 3) := dk_180 0 30 (dk_at dksX3_lays_1 8 rfl rfl)
theorem dX3_lays_35 : decode cX3_lays 35 = .ok (.aload_n 0, 1) := dk_42 (dk_at dksX3_lays_1 11 rfl rfl)
theorem dX3_lays_36 : decode cX3_lays 36 = .ok (.getfield 41, 3) := dk_180 0 41 (dk_at dksX3_lays_1 12 rfl rfl)
theorem dX3_lays_39 : decode cX3_lays 39 = .ok (.iload_n 2, 1) := dk_28 (dk_at dksX3_lays_1 15 rfl rfl)
theorem dX3_lays_40 : decode cX3_lays 40 = .ok (.iastore, 1) := dk_79 (dk_at dksX3_lays_1 16 rfl rfl)
theorem dX3_lays_41 : decode cX3_lays 41 = .ok (.aload_n 0, 1) := dk_42 (dk_at dksX3_lays_1 17 rfl rfl)
theorem dX3_lays_42 : decode cX3_lays 42 = .ok (.getfield 34, 3) := dk_180 0 34 (dk_at dksX3_lays_1 18 rfl rfl)
theorem dX3_lays_45 : decode cX3_lays 45 = .ok (.iload_n 2, 1) := dk_28 (dk_at dksX3_lays_1 21 rfl rfl)
theorem dX3_lays_46 : decode cX3_lays 46 = .ok (.aload_n 0, 1) := dk_42 (dk_at dksX3_lays_1 22 rfl rfl)
theorem dX3_lays_47 : decode cX3_lays 47 = .ok (.getfield 41, 3) := dk_180 0 41 (dk_at dksX3_lays_2 0 rfl rfl)
theorem dX3_lays_50 : decode cX3_lays 50 = .ok (.iastore, 1) := dk_79 (dk_at dksX3_lays_2 3 rfl rfl)
theorem dX3_lays_51 : decode cX3_lays 51 = .ok (.aload_n 0, 1) := dk_42 (dk_at dksX3_lays_2 4 rfl rfl)
theorem dX3_lays_52 : decode cX3_lays 52 = .ok (.dup, 1) := dk_89 (dk_at dksX3_lays_2 5 rfl rfl)
theorem dX3_lays_53 : decode cX3_lays 53 = .ok (.getfield 41, 3) := dk_180 0 41 (dk_at dksX3_lays_2 6 rfl rfl)
theorem dX3_lays_56 : decode cX3_lays 56 = .ok (.iconst 1, 1) := dk_4 (dk_at dksX3_lays_2 9 rfl rfl)
theorem dX3_lays_57 : decode cX3_lays 57 = .ok (.iadd, 1) := dk_96 (dk_at dksX3_lays_2 10 rfl rfl)
theorem dX3_lays_58 : decode cX3_lays 58 = .ok (.putfield 41, 3) := dk_181 0 41 (dk_at dksX3_lays_2 11 rfl rfl)
theorem dX3_lays_61 : decode cX3_lays 61 = .ok (.iinc 2 1, 3) := dk_132 2 1 (dk_at dksX3_lays_2 14 rfl rfl)
theorem dX3_lays_64 : decode cX3_lays 64 = .ok (.goto (-57), 3) := dk_167 255 199 (dk_at dksX3_lays_2 17 rfl rfl)
theorem dX3_lays_67 : decode cX3_lays 67 = .ok (.iconst 0, 1) := dk_3 (dk_at dksX3_lays_2 20 rfl rfl)
theorem dX3_lays_68 : decode cX3_lays 68 = .ok (.istore_n 2, 1) := dk_61 (dk_at dksX3_lays_2 21 rfl rfl)
theorem dX3_lays_69 : decode cX3_lays 69 = .ok (.iload_n 2, 1) := dk_28 (dk_at dksX3_lays_2 22 rfl rfl)
theorem dX3_lays_70 : decode cX3_lays 70 = .ok (.aload_n 0, 1) := dk_42 (dk_at dksX3_lays_2 23 rfl rfl)
theorem dX3_lays_71 : decode cX3_lays 71 = .ok (.getfield 41, 3) := dk_180 0 41 (dk_at dksX3_lays_3 0 rfl rfl)
theorem dX3_lays_74 : decode cX3_lays 74 = .ok (.if_icmp .ge 155, 3) := dk_162 0 155 (dk_at dksX3_lays_3 3 rfl rfl)
theorem dX3_lays_77 : decode cX3_lays 77 = .ok (.aload_n 0, 1) := dk_42 (dk_at dksX3_lays_3 6 rfl rfl)
theorem dX3_lays_78 : decode cX3_lays 78 = .ok (.getfield 17, 3) := dk_180 0 17 (dk_at dksX3_lays_3 7 rfl rfl)
theorem dX3_lays_81 : decode cX3_lays 81 = .ok (.iload_n 2, 1) := dk_28 (dk_at dksX3_lays_3 10 rfl rfl)
theorem dX3_lays_82 : decode cX3_lays 82 = .ok (.aaload, 1) := dk_50 (dk_at dksX3_lays_3 11 rfl rfl)
theorem dX3_lays_83 : decode cX3_lays 83 = .ok (.iload_n 2, 1) := dk_28 (dk_at dksX3_lays_3 12 rfl rfl)
theorem dX3_lays_84 : decode cX3_lays 84 = .ok (.aload_n 0, 1) := dk_42 (dk_at dksX3_lays_3 13 rfl rfl)
theorem dX3_lays_85 : decode cX3_lays 85 = .ok (.getfield 3, 3) := dk_180 0 3 (dk_at dksX3_lays_3 14 rfl rfl)
theorem dX3_lays_88 : decode cX3_lays 88 = .ok (.getfield 45, 3) := dk_180 0 45 (dk_at dksX3_lays_3 17 rfl rfl)
theorem dX3_lays_91 : decode cX3_lays 91 = .ok (.getfield 49, 3) := dk_180 0 49 (dk_at dksX3_lays_3 20 rfl rfl)
theorem dX3_lays_94 : decode cX3_lays 94 = .ok (.iconst 2, 1) := dk_5 (dk_at dksX3_lays_3 23 rfl rfl)
theorem dX3_lays_95 : decode cX3_lays 95 = .ok (.aaload, 1) := dk_50 (dk_at dksX3_lays_4 0 rfl rfl)
theorem dX3_lays_96 : decode cX3_lays 96 = .ok (.aload_n 0, 1) := dk_42 (dk_at dksX3_lays_4 1 rfl rfl)
theorem dX3_lays_97 : decode cX3_lays 97 = .ok (.getfield 30, 3) := dk_180 0 30 (dk_at dksX3_lays_4 2 rfl rfl)
theorem dX3_lays_100 : decode cX3_lays 100 = .ok (.iload_n 2, 1) := dk_28 (dk_at dksX3_lays_4 5 rfl rfl)
theorem dX3_lays_101 : decode cX3_lays 101 = .ok (.iaload, 1) := dk_46 (dk_at dksX3_lays_4 6 rfl rfl)
theorem dX3_lays_102 : decode cX3_lays 102 = .ok (.iaload, 1) := dk_46 (dk_at dksX3_lays_4 7 rfl rfl)
theorem dX3_lays_103 : decode cX3_lays 103 = .ok (.i2l, 1) := dk_133 (dk_at dksX3_lays_4 8 rfl rfl)
theorem dX3_lays_104 : decode cX3_lays 104 = .ok (.lastore, 1) := dk_80 (dk_at dksX3_lays_4 9 rfl rfl)
theorem dX3_lays_105 : decode cX3_lays 105 = .ok (.iconst 0, 1) := dk_3 (dk_at dksX3_lays_4 10 rfl rfl)
theorem dX3_lays_106 : decode cX3_lays 106 = .ok (.istore_n 3, 1) := dk_62 (dk_at dksX3_lays_4 11 rfl rfl)
theorem dX3_lays_107 : decode cX3_lays 107 = .ok (.iload_n 3, 1) := dk_29 (dk_at dksX3_lays_4 12 rfl rfl)
theorem dX3_lays_108 : decode cX3_lays 108 = .ok (.aload_n 0, 1) := dk_42 (dk_at dksX3_lays_4 13 rfl rfl)
theorem dX3_lays_109 : decode cX3_lays 109 = .ok (.getfield 3, 3) := dk_180 0 3 (dk_at dksX3_lays_4 14 rfl rfl)
theorem dX3_lays_112 : decode cX3_lays 112 = .ok (.getfield 45, 3) := dk_180 0 45 (dk_at dksX3_lays_4 17 rfl rfl)
theorem dX3_lays_115 : decode cX3_lays 115 = .ok (.invokevirtual 55, 3) := dk_182 0 55 (dk_at dksX3_lays_4 20 rfl rfl)
theorem dX3_lays_118 : decode cX3_lays 118 = .ok (.if_icmp .ge 52, 3) := dk_162 0 52 (dk_at dksX3_lays_5 0 rfl rfl)
theorem dX3_lays_121 : decode cX3_lays 121 = .ok (.aload_n 0, 1) := dk_42 (dk_at dksX3_lays_5 3 rfl rfl)
theorem dX3_lays_122 : decode cX3_lays 122 = .ok (.getfield 17, 3) := dk_180 0 17 (dk_at dksX3_lays_5 4 rfl rfl)
theorem dX3_lays_125 : decode cX3_lays 125 = .ok (.iload_n 2, 1) := dk_28 (dk_at dksX3_lays_5 7 rfl rfl)
theorem dX3_lays_126 : decode cX3_lays 126 = .ok (.aaload, 1) := dk_50 (dk_at dksX3_lays_5 8 rfl rfl)
theorem dX3_lays_127 : decode cX3_lays 127 = .ok (.iload_n 2, 1) := dk_28 (dk_at dksX3_lays_5 9 rfl rfl)
theorem dX3_lays_128 : decode cX3_lays 128 = .ok (.dup2, 1) := dk_92 (dk_at dksX3_lays_5 10 rfl rfl)
theorem dX3_lays_129 : decode cX3_lays 129 = .ok (.laload, 1) := dk_47 (dk_at dksX3_lays_5 11 rfl rfl)
theorem dX3_lays_130 : decode cX3_lays 130 = .ok (.iload_n 3, 1) := dk_29 (dk_at dksX3_lays_5 12 rfl rfl)
theorem dX3_lays_131 : decode cX3_lays 131 = .ok (.aload_n 0, 1) := dk_42 (dk_at dksX3_lays_5 13 rfl rfl)
theorem dX3_lays_132 : decode cX3_lays 132 = .ok (.getfield 30, 3) := dk_180 0 30 (dk_at dksX3_lays_5 14 rfl rfl)
theorem dX3_lays_135 : decode cX3_lays 135 = .ok (.iload_n 2, 1) := dk_28 (dk_at dksX3_lays_5 17 rfl rfl)
theorem dX3_lays_136 : decode cX3_lays 136 = .ok (.iaload, 1) := dk_46 (dk_at dksX3_lays_5 18 rfl rfl)
theorem dX3_lays_137 : decode cX3_lays 137 = .ok (.if_icmp .ne 7, 3) := dk_160 0 7 (dk_at dksX3_lays_5 19 rfl rfl)
theorem dX3_lays_140 : decode cX3_lays 140 = .ok (.lconst 0, 1) := dk_9 (dk_at dksX3_lays_5 22 rfl rfl)
theorem dX3_lays_141 : decode cX3_lays 141 = .ok (.goto 21, 3) := dk_167 0 21 (dk_at dksX3_lays_6 0 rfl rfl)
theorem dX3_lays_144 : decode cX3_lays 144 = .ok (.aload_n 0, 1) := dk_42 (dk_at dksX3_lays_6 3 rfl rfl)
theorem dX3_lays_145 : decode cX3_lays 145 = .ok (.getfield 3, 3) := dk_180 0 3 (dk_at dksX3_lays_6 4 rfl rfl)
theorem dX3_lays_148 : decode cX3_lays 148 = .ok (.getfield 45, 3) := dk_180 0 45 (dk_at dksX3_lays_6 7 rfl rfl)
theorem dX3_lays_151 : decode cX3_lays 151 = .ok (.aload_n 0, 1) := dk_42 (dk_at dksX3_lays_6 10 rfl rfl)
theorem dX3_lays_152 : decode cX3_lays 152 = .ok (.getfield 30, 3) := dk_180 0 30 (dk_at dksX3_lays_6 11 rfl rfl)
theorem dX3_lays_155 : decode cX3_lays 155 = .ok (.iload_n 2, 1) := dk_28 (dk_at dksX3_lays_6 14 rfl rfl)
theorem dX3_lays_156 : decode cX3_lays 156 = .ok (.iaload, 1) := dk_46 (dk_at dksX3_lays_6 15 rfl rfl)
theorem dX3_lays_157 : decode cX3_lays 157 = .ok (.iload_n 3, 1) := dk_29 (dk_at dksX3_lays_6 16 rfl rfl)
theorem dX3_lays_158 : decode cX3_lays 158 = .ok (.invokevirtual 59, 3) := dk_182 0 59 (dk_at dksX3_lays_6 17 rfl rfl)
theorem dX3_lays_161 : decode cX3_lays 161 = .ok (.i2l, 1) := dk_133 (dk_at dksX3_lays_6 20 rfl rfl)
theorem dX3_lays_162 : decode cX3_lays 162 = .ok (.ladd, 1) := dk_97 (dk_at dksX3_lays_6 21 rfl rfl)
theorem dX3_lays_163 : decode cX3_lays 163 = .ok (.lastore, 1) := dk_80 (dk_at dksX3_lays_6 22 rfl rfl)
theorem dX3_lays_164 : decode cX3_lays 164 = .ok (.iinc 3 1, 3) := dk_132 3 1 (dk_at dksX3_lays_7 0 rfl rfl)
theorem dX3_lays_167 : decode cX3_lays 167 = .ok (.goto (-60), 3) := dk_167 255 196 (dk_at dksX3_lays_7 3 rfl rfl)
theorem dX3_lays_170 : decode cX3_lays 170 = .ok (.iconst 0, 1) := dk_3 (dk_at dksX3_lays_7 6 rfl rfl)
theorem dX3_lays_171 : decode cX3_lays 171 = .ok (.istore_n 3, 1) := dk_62 (dk_at dksX3_lays_7 7 rfl rfl)
theorem dX3_lays_172 : decode cX3_lays 172 = .ok (.iload_n 3, 1) := dk_29 (dk_at dksX3_lays_7 8 rfl rfl)
theorem dX3_lays_173 : decode cX3_lays 173 = .ok (.aload_n 0, 1) := dk_42 (dk_at dksX3_lays_7 9 rfl rfl)
theorem dX3_lays_174 : decode cX3_lays 174 = .ok (.getfield 41, 3) := dk_180 0 41 (dk_at dksX3_lays_7 10 rfl rfl)
theorem dX3_lays_177 : decode cX3_lays 177 = .ok (.if_icmp .ge 46, 3) := dk_162 0 46 (dk_at dksX3_lays_7 13 rfl rfl)
theorem dX3_lays_180 : decode cX3_lays 180 = .ok (.iload_n 2, 1) := dk_28 (dk_at dksX3_lays_7 16 rfl rfl)
theorem dX3_lays_181 : decode cX3_lays 181 = .ok (.iload_n 3, 1) := dk_29 (dk_at dksX3_lays_7 17 rfl rfl)
theorem dX3_lays_182 : decode cX3_lays 182 = .ok (.if_icmp .eq 35, 3) := dk_159 0 35 (dk_at dksX3_lays_7 18 rfl rfl)
theorem dX3_lays_185 : decode cX3_lays 185 = .ok (.aload_n 0, 1) := dk_42 (dk_at dksX3_lays_7 21 rfl rfl)
theorem dX3_lays_186 : decode cX3_lays 186 = .ok (.getfield 17, 3) := dk_180 0 17 (dk_at dksX3_lays_8 0 rfl rfl)
theorem dX3_lays_189 : decode cX3_lays 189 = .ok (.iload_n 2, 1) := dk_28 (dk_at dksX3_lays_8 3 rfl rfl)
theorem dX3_lays_190 : decode cX3_lays 190 = .ok (.aaload, 1) := dk_50 (dk_at dksX3_lays_8 4 rfl rfl)
theorem dX3_lays_191 : decode cX3_lays 191 = .ok (.iload_n 3, 1) := dk_29 (dk_at dksX3_lays_8 5 rfl rfl)
theorem dX3_lays_192 : decode cX3_lays 192 = .ok (.aload_n 0, 1) := dk_42 (dk_at dksX3_lays_8 6 rfl rfl)
theorem dX3_lays_193 : decode cX3_lays 193 = .ok (.getfield 3, 3) := dk_180 0 3 (dk_at dksX3_lays_8 7 rfl rfl)
theorem dX3_lays_196 : decode cX3_lays 196 = .ok (.getfield 45, 3) := dk_180 0 45 (dk_at dksX3_lays_8 10 rfl rfl)
theorem dX3_lays_199 : decode cX3_lays 199 = .ok (.aload_n 0, 1) := dk_42 (dk_at dksX3_lays_8 13 rfl rfl)
theorem dX3_lays_200 : decode cX3_lays 200 = .ok (.getfield 30, 3) := dk_180 0 30 (dk_at dksX3_lays_8 14 rfl rfl)
theorem dX3_lays_203 : decode cX3_lays 203 = .ok (.iload_n 2, 1) := dk_28 (dk_at dksX3_lays_8 17 rfl rfl)
theorem dX3_lays_204 : decode cX3_lays 204 = .ok (.iaload, 1) := dk_46 (dk_at dksX3_lays_8 18 rfl rfl)
theorem dX3_lays_205 : decode cX3_lays 205 = .ok (.aload_n 0, 1) := dk_42 (dk_at dksX3_lays_8 19 rfl rfl)
theorem dX3_lays_206 : decode cX3_lays 206 = .ok (.getfield 30, 3) := dk_180 0 30 (dk_at dksX3_lays_8 20 rfl rfl)
theorem dX3_lays_209 : decode cX3_lays 209 = .ok (.iload_n 3, 1) := dk_29 (dk_at dksX3_lays_8 23 rfl rfl)
theorem dX3_lays_210 : decode cX3_lays 210 = .ok (.iaload, 1) := dk_46 (dk_at dksX3_lays_9 0 rfl rfl)
theorem dX3_lays_211 : decode cX3_lays 211 = .ok (.invokevirtual 59, 3) := dk_182 0 59 (dk_at dksX3_lays_9 1 rfl rfl)
theorem dX3_lays_214 : decode cX3_lays 214 = .ok (.ineg, 1) := dk_116 (dk_at dksX3_lays_9 4 rfl rfl)
theorem dX3_lays_215 : decode cX3_lays 215 = .ok (.i2l, 1) := dk_133 (dk_at dksX3_lays_9 5 rfl rfl)
theorem dX3_lays_216 : decode cX3_lays 216 = .ok (.lastore, 1) := dk_80 (dk_at dksX3_lays_9 6 rfl rfl)
theorem dX3_lays_217 : decode cX3_lays 217 = .ok (.iinc 3 1, 3) := dk_132 3 1 (dk_at dksX3_lays_9 7 rfl rfl)
theorem dX3_lays_220 : decode cX3_lays 220 = .ok (.goto (-48), 3) := dk_167 255 208 (dk_at dksX3_lays_9 10 rfl rfl)
theorem dX3_lays_223 : decode cX3_lays 223 = .ok (.iinc 2 1, 3) := dk_132 2 1 (dk_at dksX3_lays_9 13 rfl rfl)
theorem dX3_lays_226 : decode cX3_lays 226 = .ok (.goto (-157), 3) := dk_167 255 99 (dk_at dksX3_lays_9 16 rfl rfl)
theorem dX3_lays_229 : decode cX3_lays 229 = .ok (.aload_n 0, 1) := dk_42 (dk_at dksX3_lays_9 19 rfl rfl)
theorem dX3_lays_230 : decode cX3_lays 230 = .ok (.aload_n 0, 1) := dk_42 (dk_at dksX3_lays_9 20 rfl rfl)
theorem dX3_lays_231 : decode cX3_lays 231 = .ok (.getfield 26, 3) := dk_180 0 26 (dk_at dksX3_lays_9 21 rfl rfl)
theorem dX3_lays_234 : decode cX3_lays 234 = .ok (.aload_n 0, 1) := dk_42 (dk_at dksX3_lays_10 0 rfl rfl)
theorem dX3_lays_235 : decode cX3_lays 235 = .ok (.getfield 17, 3) := dk_180 0 17 (dk_at dksX3_lays_10 1 rfl rfl)
theorem dX3_lays_238 : decode cX3_lays 238 = .ok (.aload_n 0, 1) := dk_42 (dk_at dksX3_lays_10 4 rfl rfl)
theorem dX3_lays_239 : decode cX3_lays 239 = .ok (.getfield 41, 3) := dk_180 0 41 (dk_at dksX3_lays_10 5 rfl rfl)
theorem dX3_lays_242 : decode cX3_lays 242 = .ok (.invokevirtual 63, 3) := dk_182 0 63 (dk_at dksX3_lays_10 8 rfl rfl)
theorem dX3_lays_245 : decode cX3_lays 245 = .ok (.putfield 67, 3) := dk_181 0 67 (dk_at dksX3_lays_10 11 rfl rfl)
theorem dX3_lays_248 : decode cX3_lays 248 = .ok (.return_, 1) := dk_177 (dk_at dksX3_lays_10 14 rfl rfl)
def dkwX3_linesOf_4 : List UInt8 := [167, 0, 14, 42, 180, 0, 37, 42, 180, 0, 34, 29, 46, 47, 80, 132, 3, 1, 167, 255, 211, 177]
abbrev dktX3_linesOf_4 : List UInt8 := dkwX3_linesOf_4 ++ []
def dkwX3_linesOf_3 : List UInt8 := [180, 0, 45, 182, 0, 55, 162, 0, 37, 44, 29, 42, 180, 0, 34, 29, 46, 2, 160, 0, 7, 9]
abbrev dktX3_linesOf_3 : List UInt8 := dkwX3_linesOf_3 ++ dktX3_linesOf_4
def dkwX3_linesOf_2 : List UInt8 := [180, 0, 34, 27, 46, 29, 182, 0, 75, 80, 132, 3, 1, 167, 255, 228, 3, 62, 29, 42, 180, 0, 3]
abbrev dktX3_linesOf_2 : List UInt8 := dkwX3_linesOf_2 ++ dktX3_linesOf_3
def dkwX3_linesOf_1 : List UInt8 := [182, 0, 71, 154, 0, 36, 3, 62, 29, 42, 180, 0, 41, 162, 0, 26, 42, 180, 0, 37, 29, 42, 42]
abbrev dktX3_linesOf_1 : List UInt8 := dkwX3_linesOf_1 ++ dktX3_linesOf_2
def dkwX3_linesOf_0 : List UInt8 := [42, 180, 0, 26, 42, 180, 0, 17, 42, 180, 0, 41, 42, 180, 0, 34, 27, 46, 42, 180, 0, 37]
abbrev dktX3_linesOf_0 : List UInt8 := dkwX3_linesOf_0 ++ dktX3_linesOf_1
theorem dksX3_linesOf_0 : cX3_linesOf.data.toList.drop 0 = dktX3_linesOf_0 := by decide +kernel
theorem dksX3_linesOf_1 : cX3_linesOf.data.toList.drop 22 = dktX3_linesOf_1 := dk_seg dksX3_linesOf_0 22 rfl rfl
theorem dksX3_linesOf_2 : cX3_linesOf.data.toList.drop 45 = dktX3_linesOf_2 := dk_seg dksX3_linesOf_1 23 rfl rfl
theorem dksX3_linesOf_3 : cX3_linesOf.data.toList.drop 68 = dktX3_linesOf_3 := dk_seg dksX3_linesOf_2 23 rfl rfl
theorem dksX3_linesOf_4 : cX3_linesOf.data.toList.drop 90 = dktX3_linesOf_4 := dk_seg dksX3_linesOf_3 22 rfl rfl
theorem dX3_linesOf_0 : decode cX3_linesOf 0 = .ok (.aload_n 0, 1) := dk_42 (dk_at dksX3_linesOf_0 0 rfl rfl)
theorem dX3_linesOf_1 : decode cX3_linesOf 1 = .ok (.getfield 26, 3) := dk_180 0 26 (dk_at dksX3_linesOf_0 1 rfl rfl)
theorem dX3_linesOf_4 : decode cX3_linesOf 4 = .ok (.aload_n 0, 1) := dk_42 (dk_at dksX3_linesOf_0 4 rfl rfl)
theorem dX3_linesOf_5 : decode cX3_linesOf 5 = .ok (.getfield 17, 3) := dk_180 0 17 (dk_at dksX3_linesOf_0 5 rfl rfl)
theorem dX3_linesOf_8 : decode cX3_linesOf 8 = .ok (.aload_n 0, 1) := dk_42 (dk_at dksX3_linesOf_0 8 rfl rfl)
theorem dX3_linesOf_9 : decode cX3_linesOf 9 = .ok (.getfield 41, 3) := dk_180 0 41 (dk_at dksX3_linesOf_0 9 rfl rfl)
theorem dX3_linesOf_12 : decode cX3_linesOf 12 = .ok (.aload_n 0, 1) := dk_42 (dk_at dksX3_linesOf_0 12 rfl rfl)
theorem dX3_linesOf_13 : decode cX3_linesOf 13 = .ok (.getfield 34, 3) := dk_180 0 34 (dk_at dksX3_linesOf_0 13 rfl rfl)
theorem dX3_linesOf_16 : decode cX3_linesOf 16 = .ok (.iload_n 1, 1) := dk_27 (dk_at dksX3_linesOf_0 16 rfl rfl)
theorem dX3_linesOf_17 : decode cX3_linesOf 17 = .ok (.iaload, 1) := dk_46 (dk_at dksX3_linesOf_0 17 rfl rfl)
theorem dX3_linesOf_18 : decode cX3_linesOf 18 = .ok (.aload_n 0, 1) := dk_42 (dk_at dksX3_linesOf_0 18 rfl rfl)
theorem dX3_linesOf_19 : decode cX3_linesOf 19 = .ok (.getfield 37, 3) := dk_180 0 37 (dk_at dksX3_linesOf_0 19 rfl rfl)
theorem dX3_linesOf_22 : decode cX3_linesOf 22 = .ok (.invokevirtual 71, 3) := dk_182 0 71 (dk_at dksX3_linesOf_1 0 rfl rfl)
theorem dX3_linesOf_25 : decode cX3_linesOf 25 = .ok (.ifCond .ne 36, 3) := dk_154 0 36 (dk_at dksX3_linesOf_1 3 rfl rfl)
theorem dX3_linesOf_28 : decode cX3_linesOf 28 = .ok (.iconst 0, 1) := dk_3 (dk_at dksX3_linesOf_1 6 rfl rfl)
theorem dX3_linesOf_29 : decode cX3_linesOf 29 = .ok (.istore_n 3, 1) := dk_62 (dk_at dksX3_linesOf_1 7 rfl rfl)
theorem dX3_linesOf_30 : decode cX3_linesOf 30 = .ok (.iload_n 3, 1) := dk_29 (dk_at dksX3_linesOf_1 8 rfl rfl)
theorem dX3_linesOf_31 : decode cX3_linesOf 31 = .ok (.aload_n 0, 1) := dk_42 (dk_at dksX3_linesOf_1 9 rfl rfl)
theorem dX3_linesOf_32 : decode cX3_linesOf 32 = .ok (.getfield 41, 3) := dk_180 0 41 (dk_at dksX3_linesOf_1 10 rfl rfl)
theorem dX3_linesOf_35 : decode cX3_linesOf 35 = .ok (.if_icmp .ge 26, 3) := dk_162 0 26 (dk_at dksX3_linesOf_1 13 rfl rfl)
theorem dX3_linesOf_38 : decode cX3_linesOf 38 = .ok (.aload_n 0, 1) := dk_42 (dk_at dksX3_linesOf_1 16 rfl rfl)
theorem dX3_linesOf_39 : decode cX3_linesOf 39 = .ok (.getfield 37, 3) := dk_180 0 37 (dk_at dksX3_linesOf_1 17 rfl rfl)
theorem dX3_linesOf_42 : decode cX3_linesOf 42 = .ok (.iload_n 3, 1) := dk_29 (dk_at dksX3_linesOf_1 20 rfl rfl)
theorem dX3_linesOf_43 : decode cX3_linesOf 43 = .ok (.aload_n 0, 1) := dk_42 (dk_at dksX3_linesOf_1 21 rfl rfl)
theorem dX3_linesOf_44 : decode cX3_linesOf 44 = .ok (.aload_n 0, 1) := dk_42 (dk_at dksX3_linesOf_1 22 rfl rfl)
theorem dX3_linesOf_45 : decode cX3_linesOf 45 = .ok (.getfield 34, 3) := dk_180 0 34 (dk_at dksX3_linesOf_2 0 rfl rfl)
theorem dX3_linesOf_48 : decode cX3_linesOf 48 = .ok (.iload_n 1, 1) := dk_27 (dk_at dksX3_linesOf_2 3 rfl rfl)
theorem dX3_linesOf_49 : decode cX3_linesOf 49 = .ok (.iaload, 1) := dk_46 (dk_at dksX3_linesOf_2 4 rfl rfl)
theorem dX3_linesOf_50 : decode cX3_linesOf 50 = .ok (.iload_n 3, 1) := dk_29 (dk_at dksX3_linesOf_2 5 rfl rfl)
theorem dX3_linesOf_51 : decode cX3_linesOf 51 = .ok (.invokevirtual 75, 3) := dk_182 0 75 (dk_at dksX3_linesOf_2 6 rfl rfl)
theorem dX3_linesOf_54 : decode cX3_linesOf 54 = .ok (.lastore, 1) := dk_80 (dk_at dksX3_linesOf_2 9 rfl rfl)
theorem dX3_linesOf_55 : decode cX3_linesOf 55 = .ok (.iinc 3 1, 3) := dk_132 3 1 (dk_at dksX3_linesOf_2 10 rfl rfl)
theorem dX3_linesOf_58 : decode cX3_linesOf 58 = .ok (.goto (-28), 3) := dk_167 255 228 (dk_at dksX3_linesOf_2 13 rfl rfl)
theorem dX3_linesOf_61 : decode cX3_linesOf 61 = .ok (.iconst 0, 1) := dk_3 (dk_at dksX3_linesOf_2 16 rfl rfl)
theorem dX3_linesOf_62 : decode cX3_linesOf 62 = .ok (.istore_n 3, 1) := dk_62 (dk_at dksX3_linesOf_2 17 rfl rfl)
theorem dX3_linesOf_63 : decode cX3_linesOf 63 = .ok (.iload_n 3, 1) := dk_29 (dk_at dksX3_linesOf_2 18 rfl rfl)
theorem dX3_linesOf_64 : decode cX3_linesOf 64 = .ok (.aload_n 0, 1) := dk_42 (dk_at dksX3_linesOf_2 19 rfl rfl)
theorem dX3_linesOf_65 : decode cX3_linesOf 65 = .ok (.getfield 3, 3) := dk_180 0 3 (dk_at dksX3_linesOf_2 20 rfl rfl)
theorem dX3_linesOf_68 : decode cX3_linesOf 68 = .ok (.getfield 45, 3) := dk_180 0 45 (dk_at dksX3_linesOf_3 0 rfl rfl)
theorem dX3_linesOf_71 : decode cX3_linesOf 71 = .ok (.invokevirtual 55, 3) := dk_182 0 55 (dk_at dksX3_linesOf_3 3 rfl rfl)
theorem dX3_linesOf_74 : decode cX3_linesOf 74 = .ok (.if_icmp .ge 37, 3) := dk_162 0 37 (dk_at dksX3_linesOf_3 6 rfl rfl)
theorem dX3_linesOf_77 : decode cX3_linesOf 77 = .ok (.aload_n 2, 1) := dk_44 (dk_at dksX3_linesOf_3 9 rfl rfl)
theorem dX3_linesOf_78 : decode cX3_linesOf 78 = .ok (.iload_n 3, 1) := dk_29 (dk_at dksX3_linesOf_3 10 rfl rfl)
theorem dX3_linesOf_79 : decode cX3_linesOf 79 = .ok (.aload_n 0, 1) := dk_42 (dk_at dksX3_linesOf_3 11 rfl rfl)
theorem dX3_linesOf_80 : decode cX3_linesOf 80 = .ok (.getfield 34, 3) := dk_180 0 34 (dk_at dksX3_linesOf_3 12 rfl rfl)
theorem dX3_linesOf_83 : decode cX3_linesOf 83 = .ok (.iload_n 3, 1) := dk_29 (dk_at dksX3_linesOf_3 15 rfl rfl)
theorem dX3_linesOf_84 : decode cX3_linesOf 84 = .ok (.iaload, 1) := dk_46 (dk_at dksX3_linesOf_3 16 rfl rfl)
theorem dX3_linesOf_85 : decode cX3_linesOf 85 = .ok (.iconst (-1), 1) := dk_2 (dk_at dksX3_linesOf_3 17 rfl rfl)
theorem dX3_linesOf_86 : decode cX3_linesOf 86 = .ok (.if_icmp .ne 7, 3) := dk_160 0 7 (dk_at dksX3_linesOf_3 18 rfl rfl)
theorem dX3_linesOf_89 : decode cX3_linesOf 89 = .ok (.lconst 0, 1) := dk_9 (dk_at dksX3_linesOf_3 21 rfl rfl)
theorem dX3_linesOf_90 : decode cX3_linesOf 90 = .ok (.goto 14, 3) := dk_167 0 14 (dk_at dksX3_linesOf_4 0 rfl rfl)
theorem dX3_linesOf_93 : decode cX3_linesOf 93 = .ok (.aload_n 0, 1) := dk_42 (dk_at dksX3_linesOf_4 3 rfl rfl)
theorem dX3_linesOf_94 : decode cX3_linesOf 94 = .ok (.getfield 37, 3) := dk_180 0 37 (dk_at dksX3_linesOf_4 4 rfl rfl)
theorem dX3_linesOf_97 : decode cX3_linesOf 97 = .ok (.aload_n 0, 1) := dk_42 (dk_at dksX3_linesOf_4 7 rfl rfl)
theorem dX3_linesOf_98 : decode cX3_linesOf 98 = .ok (.getfield 34, 3) := dk_180 0 34 (dk_at dksX3_linesOf_4 8 rfl rfl)
theorem dX3_linesOf_101 : decode cX3_linesOf 101 = .ok (.iload_n 3, 1) := dk_29 (dk_at dksX3_linesOf_4 11 rfl rfl)
theorem dX3_linesOf_102 : decode cX3_linesOf 102 = .ok (.iaload, 1) := dk_46 (dk_at dksX3_linesOf_4 12 rfl rfl)
theorem dX3_linesOf_103 : decode cX3_linesOf 103 = .ok (.laload, 1) := dk_47 (dk_at dksX3_linesOf_4 13 rfl rfl)
theorem dX3_linesOf_104 : decode cX3_linesOf 104 = .ok (.lastore, 1) := dk_80 (dk_at dksX3_linesOf_4 14 rfl rfl)
theorem dX3_linesOf_105 : decode cX3_linesOf 105 = .ok (.iinc 3 1, 3) := dk_132 3 1 (dk_at dksX3_linesOf_4 15 rfl rfl)
theorem dX3_linesOf_108 : decode cX3_linesOf 108 = .ok (.goto (-45), 3) := dk_167 255 211 (dk_at dksX3_linesOf_4 18 rfl rfl)
theorem dX3_linesOf_111 : decode cX3_linesOf 111 = .ok (.return_, 1) := dk_177 (dk_at dksX3_linesOf_4 21 rfl rfl)
def dkwX3_but_5 : List UInt8 := [173]
abbrev dktX3_but_5 : List UInt8 := dkwX3_but_5 ++ []
def dkwX3_but_4 : List UInt8 := [42, 180, 0, 41, 4, 100, 182, 0, 63, 66, 27, 28, 96, 5, 112, 154, 0, 7, 33, 167, 0, 5, 33, 117]
abbrev dktX3_but_4 : List UInt8 := dkwX3_but_4 ++ dktX3_but_5
def dkwX3_but_3 : List UInt8 := [21, 4, 47, 80, 132, 4, 1, 167, 255, 191, 132, 3, 1, 167, 255, 174, 42, 180, 0, 26, 42, 180, 0, 20]
abbrev dktX3_but_3 : List UInt8 := dkwX3_but_3 ++ dktX3_but_4
def dkwX3_but_2 : List UInt8 := [100, 50, 21, 4, 28, 162, 0, 8, 21, 4, 167, 0, 7, 21, 4, 4, 100, 42, 180, 0, 17, 29, 50]
abbrev dktX3_but_2 : List UInt8 := dkwX3_but_2 ++ dktX3_but_3
def dkwX3_but_1 : List UInt8 := [159, 0, 51, 21, 4, 28, 159, 0, 45, 42, 180, 0, 20, 29, 27, 162, 0, 7, 29, 167, 0, 6, 29, 4]
abbrev dktX3_but_1 : List UInt8 := dkwX3_but_1 ++ dktX3_but_2
def dkwX3_but_0 : List UInt8 := [3, 62, 29, 42, 180, 0, 41, 162, 0, 80, 3, 54, 4, 21, 4, 42, 180, 0, 41, 162, 0, 62, 29, 27]
abbrev dktX3_but_0 : List UInt8 := dkwX3_but_0 ++ dktX3_but_1
theorem dksX3_but_0 : cX3_but.data.toList.drop 0 = dktX3_but_0 := by decide +kernel
theorem dksX3_but_1 : cX3_but.data.toList.drop 24 = dktX3_but_1 := dk_seg dksX3_but_0 24 rfl rfl
theorem dksX3_but_2 : cX3_but.data.toList.drop 48 = dktX3_but_2 := dk_seg dksX3_but_1 24 rfl rfl
theorem dksX3_but_3 : cX3_but.data.toList.drop 71 = dktX3_but_3 := dk_seg dksX3_but_2 23 rfl rfl
theorem dksX3_but_4 : cX3_but.data.toList.drop 95 = dktX3_but_4 := dk_seg dksX3_but_3 24 rfl rfl
theorem dksX3_but_5 : cX3_but.data.toList.drop 119 = dktX3_but_5 := dk_seg dksX3_but_4 24 rfl rfl
theorem dX3_but_0 : decode cX3_but 0 = .ok (.iconst 0, 1) := dk_3 (dk_at dksX3_but_0 0 rfl rfl)
theorem dX3_but_1 : decode cX3_but 1 = .ok (.istore_n 3, 1) := dk_62 (dk_at dksX3_but_0 1 rfl rfl)
theorem dX3_but_2 : decode cX3_but 2 = .ok (.iload_n 3, 1) := dk_29 (dk_at dksX3_but_0 2 rfl rfl)
theorem dX3_but_3 : decode cX3_but 3 = .ok (.aload_n 0, 1) := dk_42 (dk_at dksX3_but_0 3 rfl rfl)
theorem dX3_but_4 : decode cX3_but 4 = .ok (.getfield 41, 3) := dk_180 0 41 (dk_at dksX3_but_0 4 rfl rfl)
theorem dX3_but_7 : decode cX3_but 7 = .ok (.if_icmp .ge 80, 3) := dk_162 0 80 (dk_at dksX3_but_0 7 rfl rfl)
theorem dX3_but_10 : decode cX3_but 10 = .ok (.iconst 0, 1) := dk_3 (dk_at dksX3_but_0 10 rfl rfl)
theorem dX3_but_11 : decode cX3_but 11 = .ok (.istore 4, 2) := dk_54 4 (dk_at dksX3_but_0 11 rfl rfl)
theorem dX3_but_13 : decode cX3_but 13 = .ok (.iload 4, 2) := dk_21 4 (dk_at dksX3_but_0 13 rfl rfl)
theorem dX3_but_15 : decode cX3_but 15 = .ok (.aload_n 0, 1) := dk_42 (dk_at dksX3_but_0 15 rfl rfl)
theorem dX3_but_16 : decode cX3_but 16 = .ok (.getfield 41, 3) := dk_180 0 41 (dk_at dksX3_but_0 16 rfl rfl)
theorem dX3_but_19 : decode cX3_but 19 = .ok (.if_icmp .ge 62, 3) := dk_162 0 62 (dk_at dksX3_but_0 19 rfl rfl)
theorem dX3_but_22 : decode cX3_but 22 = .ok (.iload_n 3, 1) := dk_29 (dk_at dksX3_but_0 22 rfl rfl)
theorem dX3_but_23 : decode cX3_but 23 = .ok (.iload_n 1, 1) := dk_27 (dk_at dksX3_but_0 23 rfl rfl)
theorem dX3_but_24 : decode cX3_but 24 = .ok (.if_icmp .eq 51, 3) := dk_159 0 51 (dk_at dksX3_but_1 0 rfl rfl)
theorem dX3_but_27 : decode cX3_but 27 = .ok (.iload 4, 2) := dk_21 4 (dk_at dksX3_but_1 3 rfl rfl)
theorem dX3_but_29 : decode cX3_but 29 = .ok (.iload_n 2, 1) := dk_28 (dk_at dksX3_but_1 5 rfl rfl)
theorem dX3_but_30 : decode cX3_but 30 = .ok (.if_icmp .eq 45, 3) := dk_159 0 45 (dk_at dksX3_but_1 6 rfl rfl)
theorem dX3_but_33 : decode cX3_but 33 = .ok (.aload_n 0, 1) := dk_42 (dk_at dksX3_but_1 9 rfl rfl)
theorem dX3_but_34 : decode cX3_but 34 = .ok (.getfield 20, 3) := dk_180 0 20 (dk_at dksX3_but_1 10 rfl rfl)
theorem dX3_but_37 : decode cX3_but 37 = .ok (.iload_n 3, 1) := dk_29 (dk_at dksX3_but_1 13 rfl rfl)
theorem dX3_but_38 : decode cX3_but 38 = .ok (.iload_n 1, 1) := dk_27 (dk_at dksX3_but_1 14 rfl rfl)
theorem dX3_but_39 : decode cX3_but 39 = .ok (.if_icmp .ge 7, 3) := dk_162 0 7 (dk_at dksX3_but_1 15 rfl rfl)
theorem dX3_but_42 : decode cX3_but 42 = .ok (.iload_n 3, 1) := dk_29 (dk_at dksX3_but_1 18 rfl rfl)
theorem dX3_but_43 : decode cX3_but 43 = .ok (.goto 6, 3) := dk_167 0 6 (dk_at dksX3_but_1 19 rfl rfl)
theorem dX3_but_46 : decode cX3_but 46 = .ok (.iload_n 3, 1) := dk_29 (dk_at dksX3_but_1 22 rfl rfl)
theorem dX3_but_47 : decode cX3_but 47 = .ok (.iconst 1, 1) := dk_4 (dk_at dksX3_but_1 23 rfl rfl)
theorem dX3_but_48 : decode cX3_but 48 = .ok (.isub, 1) := dk_100 (dk_at dksX3_but_2 0 rfl rfl)
theorem dX3_but_49 : decode cX3_but 49 = .ok (.aaload, 1) := dk_50 (dk_at dksX3_but_2 1 rfl rfl)
theorem dX3_but_50 : decode cX3_but 50 = .ok (.iload 4, 2) := dk_21 4 (dk_at dksX3_but_2 2 rfl rfl)
theorem dX3_but_52 : decode cX3_but 52 = .ok (.iload_n 2, 1) := dk_28 (dk_at dksX3_but_2 4 rfl rfl)
theorem dX3_but_53 : decode cX3_but 53 = .ok (.if_icmp .ge 8, 3) := dk_162 0 8 (dk_at dksX3_but_2 5 rfl rfl)
theorem dX3_but_56 : decode cX3_but 56 = .ok (.iload 4, 2) := dk_21 4 (dk_at dksX3_but_2 8 rfl rfl)
theorem dX3_but_58 : decode cX3_but 58 = .ok (.goto 7, 3) := dk_167 0 7 (dk_at dksX3_but_2 10 rfl rfl)
theorem dX3_but_61 : decode cX3_but 61 = .ok (.iload 4, 2) := dk_21 4 (dk_at dksX3_but_2 13 rfl rfl)
theorem dX3_but_63 : decode cX3_but 63 = .ok (.iconst 1, 1) := dk_4 (dk_at dksX3_but_2 15 rfl rfl)
theorem dX3_but_64 : decode cX3_but 64 = .ok (.isub, 1) := dk_100 (dk_at dksX3_but_2 16 rfl rfl)
theorem dX3_but_65 : decode cX3_but 65 = .ok (.aload_n 0, 1) := dk_42 (dk_at dksX3_but_2 17 rfl rfl)
theorem dX3_but_66 : decode cX3_but 66 = .ok (.getfield 17, 3) := dk_180 0 17 (dk_at dksX3_but_2 18 rfl rfl)
theorem dX3_but_69 : decode cX3_but 69 = .ok (.iload_n 3, 1) := dk_29 (dk_at dksX3_but_2 21 rfl rfl)
theorem dX3_but_70 : decode cX3_but 70 = .ok (.aaload, 1) := dk_50 (dk_at dksX3_but_2 22 rfl rfl)
theorem dX3_but_71 : decode cX3_but 71 = .ok (.iload 4, 2) := dk_21 4 (dk_at dksX3_but_3 0 rfl rfl)
theorem dX3_but_73 : decode cX3_but 73 = .ok (.laload, 1) := dk_47 (dk_at dksX3_but_3 2 rfl rfl)
theorem dX3_but_74 : decode cX3_but 74 = .ok (.lastore, 1) := dk_80 (dk_at dksX3_but_3 3 rfl rfl)
theorem dX3_but_75 : decode cX3_but 75 = .ok (.iinc 4 1, 3) := dk_132 4 1 (dk_at dksX3_but_3 4 rfl rfl)
theorem dX3_but_78 : decode cX3_but 78 = .ok (.goto (-65), 3) := dk_167 255 191 (dk_at dksX3_but_3 7 rfl rfl)
theorem dX3_but_81 : decode cX3_but 81 = .ok (.iinc 3 1, 3) := dk_132 3 1 (dk_at dksX3_but_3 10 rfl rfl)
theorem dX3_but_84 : decode cX3_but 84 = .ok (.goto (-82), 3) := dk_167 255 174 (dk_at dksX3_but_3 13 rfl rfl)
theorem dX3_but_87 : decode cX3_but 87 = .ok (.aload_n 0, 1) := dk_42 (dk_at dksX3_but_3 16 rfl rfl)
theorem dX3_but_88 : decode cX3_but 88 = .ok (.getfield 26, 3) := dk_180 0 26 (dk_at dksX3_but_3 17 rfl rfl)
theorem dX3_but_91 : decode cX3_but 91 = .ok (.aload_n 0, 1) := dk_42 (dk_at dksX3_but_3 20 rfl rfl)
theorem dX3_but_92 : decode cX3_but 92 = .ok (.getfield 20, 3) := dk_180 0 20 (dk_at dksX3_but_3 21 rfl rfl)
theorem dX3_but_95 : decode cX3_but 95 = .ok (.aload_n 0, 1) := dk_42 (dk_at dksX3_but_4 0 rfl rfl)
theorem dX3_but_96 : decode cX3_but 96 = .ok (.getfield 41, 3) := dk_180 0 41 (dk_at dksX3_but_4 1 rfl rfl)
theorem dX3_but_99 : decode cX3_but 99 = .ok (.iconst 1, 1) := dk_4 (dk_at dksX3_but_4 4 rfl rfl)
theorem dX3_but_100 : decode cX3_but 100 = .ok (.isub, 1) := dk_100 (dk_at dksX3_but_4 5 rfl rfl)
theorem dX3_but_101 : decode cX3_but 101 = .ok (.invokevirtual 63, 3) := dk_182 0 63 (dk_at dksX3_but_4 6 rfl rfl)
theorem dX3_but_104 : decode cX3_but 104 = .ok (.lstore_n 3, 1) := dk_66 (dk_at dksX3_but_4 9 rfl rfl)
theorem dX3_but_105 : decode cX3_but 105 = .ok (.iload_n 1, 1) := dk_27 (dk_at dksX3_but_4 10 rfl rfl)
theorem dX3_but_106 : decode cX3_but 106 = .ok (.iload_n 2, 1) := dk_28 (dk_at dksX3_but_4 11 rfl rfl)
theorem dX3_but_107 : decode cX3_but 107 = .ok (.iadd, 1) := dk_96 (dk_at dksX3_but_4 12 rfl rfl)
theorem dX3_but_108 : decode cX3_but 108 = .ok (.iconst 2, 1) := dk_5 (dk_at dksX3_but_4 13 rfl rfl)
theorem dX3_but_109 : decode cX3_but 109 = .ok (.irem, 1) := dk_112 (dk_at dksX3_but_4 14 rfl rfl)
theorem dX3_but_110 : decode cX3_but 110 = .ok (.ifCond .ne 7, 3) := dk_154 0 7 (dk_at dksX3_but_4 15 rfl rfl)
theorem dX3_but_113 : decode cX3_but 113 = .ok (.lload_n 3, 1) := dk_33 (dk_at dksX3_but_4 18 rfl rfl)
theorem dX3_but_114 : decode cX3_but 114 = .ok (.goto 5, 3) := dk_167 0 5 (dk_at dksX3_but_4 19 rfl rfl)
theorem dX3_but_117 : decode cX3_but 117 = .ok (.lload_n 3, 1) := dk_33 (dk_at dksX3_but_4 22 rfl rfl)
theorem dX3_but_118 : decode cX3_but 118 = .ok (.lneg, 1) := dk_117 (dk_at dksX3_but_4 23 rfl rfl)
theorem dX3_but_119 : decode cX3_but 119 = .ok (.lreturn, 1) := dk_173 (dk_at dksX3_but_5 0 rfl rfl)
def dkwX3_of_0 : List UInt8 := [42, 42, 180, 0, 34, 27, 46, 42, 180, 0, 34, 28, 46, 182, 0, 75, 173]
abbrev dktX3_of_0 : List UInt8 := dkwX3_of_0 ++ []
theorem dksX3_of_0 : cX3_of.data.toList.drop 0 = dktX3_of_0 := by decide +kernel
theorem dX3_of_0 : decode cX3_of 0 = .ok (.aload_n 0, 1) := dk_42 (dk_at dksX3_of_0 0 rfl rfl)
theorem dX3_of_1 : decode cX3_of 1 = .ok (.aload_n 0, 1) := dk_42 (dk_at dksX3_of_0 1 rfl rfl)
theorem dX3_of_2 : decode cX3_of 2 = .ok (.getfield 34, 3) := dk_180 0 34 (dk_at dksX3_of_0 2 rfl rfl)
theorem dX3_of_5 : decode cX3_of 5 = .ok (.iload_n 1, 1) := dk_27 (dk_at dksX3_of_0 5 rfl rfl)
theorem dX3_of_6 : decode cX3_of 6 = .ok (.iaload, 1) := dk_46 (dk_at dksX3_of_0 6 rfl rfl)
theorem dX3_of_7 : decode cX3_of 7 = .ok (.aload_n 0, 1) := dk_42 (dk_at dksX3_of_0 7 rfl rfl)
theorem dX3_of_8 : decode cX3_of 8 = .ok (.getfield 34, 3) := dk_180 0 34 (dk_at dksX3_of_0 8 rfl rfl)
theorem dX3_of_11 : decode cX3_of 11 = .ok (.iload_n 2, 1) := dk_28 (dk_at dksX3_of_0 11 rfl rfl)
theorem dX3_of_12 : decode cX3_of 12 = .ok (.iaload, 1) := dk_46 (dk_at dksX3_of_0 12 rfl rfl)
theorem dX3_of_13 : decode cX3_of 13 = .ok (.invokevirtual 75, 3) := dk_182 0 75 (dk_at dksX3_of_0 13 rfl rfl)
theorem dX3_of_16 : decode cX3_of 16 = .ok (.lreturn, 1) := dk_173 (dk_at dksX3_of_0 16 rfl rfl)
def dkwX3_bordered_6 : List UInt8 := [173]
abbrev dktX3_bordered_6 : List UInt8 := dkwX3_bordered_6 ++ []
def dkwX3_bordered_5 : List UInt8 := [28, 46, 27, 21, 4, 29, 182, 0, 79, 42, 180, 0, 26, 42, 180, 0, 20, 21, 4, 4, 96, 182, 0, 63]
abbrev dktX3_bordered_5 : List UInt8 := dkwX3_bordered_5 ++ dktX3_bordered_6
def dkwX3_bordered_4 : List UInt8 := [160, 0, 17, 42, 180, 0, 26, 42, 180, 0, 20, 21, 4, 182, 0, 63, 173, 42, 21, 4, 42, 180, 0, 34]
abbrev dktX3_bordered_4 : List UInt8 := dkwX3_bordered_4 ++ dktX3_bordered_5
def dkwX3_bordered_3 : List UInt8 := [42, 21, 5, 21, 6, 27, 21, 4, 29, 182, 0, 79, 132, 5, 1, 132, 6, 1, 167, 255, 211, 28, 2]
abbrev dktX3_bordered_3 : List UInt8 := dkwX3_bordered_3 ++ dktX3_bordered_4
def dkwX3_bordered_2 : List UInt8 := [180, 0, 41, 162, 0, 42, 27, 42, 180, 0, 30, 21, 6, 46, 122, 4, 126, 4, 160, 0, 6, 167, 0, 18]
abbrev dktX3_bordered_2 : List UInt8 := dkwX3_bordered_2 ++ dktX3_bordered_3
def dkwX3_bordered_1 : List UInt8 := [4, 126, 154, 0, 6, 132, 4, 1, 132, 5, 1, 167, 255, 227, 3, 54, 5, 3, 54, 6, 21, 6, 42]
abbrev dktX3_bordered_1 : List UInt8 := dkwX3_bordered_1 ++ dktX3_bordered_2
def dkwX3_bordered_0 : List UInt8 := [3, 54, 4, 3, 54, 5, 21, 5, 42, 180, 0, 41, 162, 0, 26, 27, 42, 180, 0, 30, 21, 5, 46, 122]
abbrev dktX3_bordered_0 : List UInt8 := dkwX3_bordered_0 ++ dktX3_bordered_1
theorem dksX3_bordered_0 : cX3_bordered.data.toList.drop 0 = dktX3_bordered_0 := by decide +kernel
theorem dksX3_bordered_1 : cX3_bordered.data.toList.drop 24 = dktX3_bordered_1 := dk_seg dksX3_bordered_0 24 rfl rfl
theorem dksX3_bordered_2 : cX3_bordered.data.toList.drop 47 = dktX3_bordered_2 := dk_seg dksX3_bordered_1 23 rfl rfl
theorem dksX3_bordered_3 : cX3_bordered.data.toList.drop 71 = dktX3_bordered_3 := dk_seg dksX3_bordered_2 24 rfl rfl
theorem dksX3_bordered_4 : cX3_bordered.data.toList.drop 94 = dktX3_bordered_4 := dk_seg dksX3_bordered_3 23 rfl rfl
theorem dksX3_bordered_5 : cX3_bordered.data.toList.drop 118 = dktX3_bordered_5 := dk_seg dksX3_bordered_4 24 rfl rfl
theorem dksX3_bordered_6 : cX3_bordered.data.toList.drop 142 = dktX3_bordered_6 := dk_seg dksX3_bordered_5 24 rfl rfl
theorem dX3_bordered_0 : decode cX3_bordered 0 = .ok (.iconst 0, 1) := dk_3 (dk_at dksX3_bordered_0 0 rfl rfl)
theorem dX3_bordered_1 : decode cX3_bordered 1 = .ok (.istore 4, 2) := dk_54 4 (dk_at dksX3_bordered_0 1 rfl rfl)
theorem dX3_bordered_3 : decode cX3_bordered 3 = .ok (.iconst 0, 1) := dk_3 (dk_at dksX3_bordered_0 3 rfl rfl)
theorem dX3_bordered_4 : decode cX3_bordered 4 = .ok (.istore 5, 2) := dk_54 5 (dk_at dksX3_bordered_0 4 rfl rfl)
theorem dX3_bordered_6 : decode cX3_bordered 6 = .ok (.iload 5, 2) := dk_21 5 (dk_at dksX3_bordered_0 6 rfl rfl)
theorem dX3_bordered_8 : decode cX3_bordered 8 = .ok (.aload_n 0, 1) := dk_42 (dk_at dksX3_bordered_0 8 rfl rfl)
theorem dX3_bordered_9 : decode cX3_bordered 9 = .ok (.getfield 41, 3) := dk_180 0 41 (dk_at dksX3_bordered_0 9 rfl rfl)
theorem dX3_bordered_12 : decode cX3_bordered 12 = .ok (.if_icmp .ge 26, 3) := dk_162 0 26 (dk_at dksX3_bordered_0 12 rfl rfl)
theorem dX3_bordered_15 : decode cX3_bordered 15 = .ok (.iload_n 1, 1) := dk_27 (dk_at dksX3_bordered_0 15 rfl rfl)
theorem dX3_bordered_16 : decode cX3_bordered 16 = .ok (.aload_n 0, 1) := dk_42 (dk_at dksX3_bordered_0 16 rfl rfl)
theorem dX3_bordered_17 : decode cX3_bordered 17 = .ok (.getfield 30, 3) := dk_180 0 30 (dk_at dksX3_bordered_0 17 rfl rfl)
theorem dX3_bordered_20 : decode cX3_bordered 20 = .ok (.iload 5, 2) := dk_21 5 (dk_at dksX3_bordered_0 20 rfl rfl)
theorem dX3_bordered_22 : decode cX3_bordered 22 = .ok (.iaload, 1) := dk_46 (dk_at dksX3_bordered_0 22 rfl rfl)
theorem dX3_bordered_23 : decode cX3_bordered 23 = .ok (.ishr, 1) := dk_122 (dk_at dksX3_bordered_0 23 rfl rfl)
theorem dX3_bordered_24 : decode cX3_bordered 24 = .ok (.iconst 1, 1) := dk_4 (dk_at dksX3_bordered_1 0 rfl rfl)
theorem dX3_bordered_25 : decode cX3_bordered 25 = .ok (.iand, 1) := dk_126 (dk_at dksX3_bordered_1 1 rfl rfl)
theorem dX3_bordered_26 : decode cX3_bordered 26 = .ok (.ifCond .ne 6, 3) := dk_154 0 6 (dk_at dksX3_bordered_1 2 rfl rfl)
theorem dX3_bordered_29 : decode cX3_bordered 29 = .ok (.iinc 4 1, 3) := dk_132 4 1 (dk_at dksX3_bordered_1 5 rfl rfl)
theorem dX3_bordered_32 : decode cX3_bordered 32 = .ok (.iinc 5 1, 3) := dk_132 5 1 (dk_at dksX3_bordered_1 8 rfl rfl)
theorem dX3_bordered_35 : decode cX3_bordered 35 = .ok (.goto (-29), 3) := dk_167 255 227 (dk_at dksX3_bordered_1 11 rfl rfl)
theorem dX3_bordered_38 : decode cX3_bordered 38 = .ok (.iconst 0, 1) := dk_3 (dk_at dksX3_bordered_1 14 rfl rfl)
theorem dX3_bordered_39 : decode cX3_bordered 39 = .ok (.istore 5, 2) := dk_54 5 (dk_at dksX3_bordered_1 15 rfl rfl)
theorem dX3_bordered_41 : decode cX3_bordered 41 = .ok (.iconst 0, 1) := dk_3 (dk_at dksX3_bordered_1 17 rfl rfl)
theorem dX3_bordered_42 : decode cX3_bordered 42 = .ok (.istore 6, 2) := dk_54 6 (dk_at dksX3_bordered_1 18 rfl rfl)
theorem dX3_bordered_44 : decode cX3_bordered 44 = .ok (.iload 6, 2) := dk_21 6 (dk_at dksX3_bordered_1 20 rfl rfl)
theorem dX3_bordered_46 : decode cX3_bordered 46 = .ok (.aload_n 0, 1) := dk_42 (dk_at dksX3_bordered_1 22 rfl rfl)
theorem dX3_bordered_47 : decode cX3_bordered 47 = .ok (.getfield 41, 3) := dk_180 0 41 (dk_at dksX3_bordered_2 0 rfl rfl)
theorem dX3_bordered_50 : decode cX3_bordered 50 = .ok (.if_icmp .ge 42, 3) := dk_162 0 42 (dk_at dksX3_bordered_2 3 rfl rfl)
theorem dX3_bordered_53 : decode cX3_bordered 53 = .ok (.iload_n 1, 1) := dk_27 (dk_at dksX3_bordered_2 6 rfl rfl)
theorem dX3_bordered_54 : decode cX3_bordered 54 = .ok (.aload_n 0, 1) := dk_42 (dk_at dksX3_bordered_2 7 rfl rfl)
theorem dX3_bordered_55 : decode cX3_bordered 55 = .ok (.getfield 30, 3) := dk_180 0 30 (dk_at dksX3_bordered_2 8 rfl rfl)
theorem dX3_bordered_58 : decode cX3_bordered 58 = .ok (.iload 6, 2) := dk_21 6 (dk_at dksX3_bordered_2 11 rfl rfl)
theorem dX3_bordered_60 : decode cX3_bordered 60 = .ok (.iaload, 1) := dk_46 (dk_at dksX3_bordered_2 13 rfl rfl)
theorem dX3_bordered_61 : decode cX3_bordered 61 = .ok (.ishr, 1) := dk_122 (dk_at dksX3_bordered_2 14 rfl rfl)
theorem dX3_bordered_62 : decode cX3_bordered 62 = .ok (.iconst 1, 1) := dk_4 (dk_at dksX3_bordered_2 15 rfl rfl)
theorem dX3_bordered_63 : decode cX3_bordered 63 = .ok (.iand, 1) := dk_126 (dk_at dksX3_bordered_2 16 rfl rfl)
theorem dX3_bordered_64 : decode cX3_bordered 64 = .ok (.iconst 1, 1) := dk_4 (dk_at dksX3_bordered_2 17 rfl rfl)
theorem dX3_bordered_65 : decode cX3_bordered 65 = .ok (.if_icmp .ne 6, 3) := dk_160 0 6 (dk_at dksX3_bordered_2 18 rfl rfl)
theorem dX3_bordered_68 : decode cX3_bordered 68 = .ok (.goto 18, 3) := dk_167 0 18 (dk_at dksX3_bordered_2 21 rfl rfl)
theorem dX3_bordered_71 : decode cX3_bordered 71 = .ok (.aload_n 0, 1) := dk_42 (dk_at dksX3_bordered_3 0 rfl rfl)
theorem dX3_bordered_72 : decode cX3_bordered 72 = .ok (.iload 5, 2) := dk_21 5 (dk_at dksX3_bordered_3 1 rfl rfl)
theorem dX3_bordered_74 : decode cX3_bordered 74 = .ok (.iload 6, 2) := dk_21 6 (dk_at dksX3_bordered_3 3 rfl rfl)
theorem dX3_bordered_76 : decode cX3_bordered 76 = .ok (.iload_n 1, 1) := dk_27 (dk_at dksX3_bordered_3 5 rfl rfl)
theorem dX3_bordered_77 : decode cX3_bordered 77 = .ok (.iload 4, 2) := dk_21 4 (dk_at dksX3_bordered_3 6 rfl rfl)
theorem dX3_bordered_79 : decode cX3_bordered 79 = .ok (.iload_n 3, 1) := dk_29 (dk_at dksX3_bordered_3 8 rfl rfl)
theorem dX3_bordered_80 : decode cX3_bordered 80 = .ok (.invokevirtual 79, 3) := dk_182 0 79 (dk_at dksX3_bordered_3 9 rfl rfl)
theorem dX3_bordered_83 : decode cX3_bordered 83 = .ok (.iinc 5 1, 3) := dk_132 5 1 (dk_at dksX3_bordered_3 12 rfl rfl)
theorem dX3_bordered_86 : decode cX3_bordered 86 = .ok (.iinc 6 1, 3) := dk_132 6 1 (dk_at dksX3_bordered_3 15 rfl rfl)
theorem dX3_bordered_89 : decode cX3_bordered 89 = .ok (.goto (-45), 3) := dk_167 255 211 (dk_at dksX3_bordered_3 18 rfl rfl)
theorem dX3_bordered_92 : decode cX3_bordered 92 = .ok (.iload_n 2, 1) := dk_28 (dk_at dksX3_bordered_3 21 rfl rfl)
theorem dX3_bordered_93 : decode cX3_bordered 93 = .ok (.iconst (-1), 1) := dk_2 (dk_at dksX3_bordered_3 22 rfl rfl)
theorem dX3_bordered_94 : decode cX3_bordered 94 = .ok (.if_icmp .ne 17, 3) := dk_160 0 17 (dk_at dksX3_bordered_4 0 rfl rfl)
theorem dX3_bordered_97 : decode cX3_bordered 97 = .ok (.aload_n 0, 1) := dk_42 (dk_at dksX3_bordered_4 3 rfl rfl)
theorem dX3_bordered_98 : decode cX3_bordered 98 = .ok (.getfield 26, 3) := dk_180 0 26 (dk_at dksX3_bordered_4 4 rfl rfl)
theorem dX3_bordered_101 : decode cX3_bordered 101 = .ok (.aload_n 0, 1) := dk_42 (dk_at dksX3_bordered_4 7 rfl rfl)
theorem dX3_bordered_102 : decode cX3_bordered 102 = .ok (.getfield 20, 3) := dk_180 0 20 (dk_at dksX3_bordered_4 8 rfl rfl)
theorem dX3_bordered_105 : decode cX3_bordered 105 = .ok (.iload 4, 2) := dk_21 4 (dk_at dksX3_bordered_4 11 rfl rfl)
theorem dX3_bordered_107 : decode cX3_bordered 107 = .ok (.invokevirtual 63, 3) := dk_182 0 63 (dk_at dksX3_bordered_4 13 rfl rfl)
theorem dX3_bordered_110 : decode cX3_bordered 110 = .ok (.lreturn, 1) := dk_173 (dk_at dksX3_bordered_4 16 rfl rfl)
theorem dX3_bordered_111 : decode cX3_bordered 111 = .ok (.aload_n 0, 1) := dk_42 (dk_at dksX3_bordered_4 17 rfl rfl)
theorem dX3_bordered_112 : decode cX3_bordered 112 = .ok (.iload 4, 2) := dk_21 4 (dk_at dksX3_bordered_4 18 rfl rfl)
theorem dX3_bordered_114 : decode cX3_bordered 114 = .ok (.aload_n 0, 1) := dk_42 (dk_at dksX3_bordered_4 20 rfl rfl)
theorem dX3_bordered_115 : decode cX3_bordered 115 = .ok (.getfield 34, 3) := dk_180 0 34 (dk_at dksX3_bordered_4 21 rfl rfl)
theorem dX3_bordered_118 : decode cX3_bordered 118 = .ok (.iload_n 2, 1) := dk_28 (dk_at dksX3_bordered_5 0 rfl rfl)
theorem dX3_bordered_119 : decode cX3_bordered 119 = .ok (.iaload, 1) := dk_46 (dk_at dksX3_bordered_5 1 rfl rfl)
theorem dX3_bordered_120 : decode cX3_bordered 120 = .ok (.iload_n 1, 1) := dk_27 (dk_at dksX3_bordered_5 2 rfl rfl)
theorem dX3_bordered_121 : decode cX3_bordered 121 = .ok (.iload 4, 2) := dk_21 4 (dk_at dksX3_bordered_5 3 rfl rfl)
theorem dX3_bordered_123 : decode cX3_bordered 123 = .ok (.iload_n 3, 1) := dk_29 (dk_at dksX3_bordered_5 5 rfl rfl)
theorem dX3_bordered_124 : decode cX3_bordered 124 = .ok (.invokevirtual 79, 3) := dk_182 0 79 (dk_at dksX3_bordered_5 6 rfl rfl)
theorem dX3_bordered_127 : decode cX3_bordered 127 = .ok (.aload_n 0, 1) := dk_42 (dk_at dksX3_bordered_5 9 rfl rfl)
theorem dX3_bordered_128 : decode cX3_bordered 128 = .ok (.getfield 26, 3) := dk_180 0 26 (dk_at dksX3_bordered_5 10 rfl rfl)
theorem dX3_bordered_131 : decode cX3_bordered 131 = .ok (.aload_n 0, 1) := dk_42 (dk_at dksX3_bordered_5 13 rfl rfl)
theorem dX3_bordered_132 : decode cX3_bordered 132 = .ok (.getfield 20, 3) := dk_180 0 20 (dk_at dksX3_bordered_5 14 rfl rfl)
theorem dX3_bordered_135 : decode cX3_bordered 135 = .ok (.iload 4, 2) := dk_21 4 (dk_at dksX3_bordered_5 17 rfl rfl)
theorem dX3_bordered_137 : decode cX3_bordered 137 = .ok (.iconst 1, 1) := dk_4 (dk_at dksX3_bordered_5 19 rfl rfl)
theorem dX3_bordered_138 : decode cX3_bordered 138 = .ok (.iadd, 1) := dk_96 (dk_at dksX3_bordered_5 20 rfl rfl)
theorem dX3_bordered_139 : decode cX3_bordered 139 = .ok (.invokevirtual 63, 3) := dk_182 0 63 (dk_at dksX3_bordered_5 21 rfl rfl)
theorem dX3_bordered_142 : decode cX3_bordered 142 = .ok (.lreturn, 1) := dk_173 (dk_at dksX3_bordered_6 0 rfl rfl)
def dkwX3_laysRow_3 : List UInt8 := [50, 21, 4, 42, 180, 0, 17, 28, 50, 42, 180, 0, 34, 21, 5, 46, 47, 80, 177]
abbrev dktX3_laysRow_3 : List UInt8 := dkwX3_laysRow_3 ++ []
def dkwX3_laysRow_2 : List UInt8 := [21, 7, 47, 80, 132, 6, 1, 132, 7, 1, 167, 255, 205, 21, 5, 2, 159, 0, 26, 42, 180, 0, 20, 27]
abbrev dktX3_laysRow_2 : List UInt8 := dkwX3_laysRow_2 ++ dktX3_laysRow_3
def dkwX3_laysRow_1 : List UInt8 := [4, 126, 4, 160, 0, 6, 167, 0, 24, 42, 180, 0, 20, 27, 50, 21, 6, 42, 180, 0, 17, 28, 50]
abbrev dktX3_laysRow_1 : List UInt8 := dkwX3_laysRow_1 ++ dktX3_laysRow_2
def dkwX3_laysRow_0 : List UInt8 := [3, 54, 6, 3, 54, 7, 21, 7, 42, 180, 0, 41, 162, 0, 48, 29, 42, 180, 0, 30, 21, 7, 46, 122]
abbrev dktX3_laysRow_0 : List UInt8 := dkwX3_laysRow_0 ++ dktX3_laysRow_1
theorem dksX3_laysRow_0 : cX3_laysRow.data.toList.drop 0 = dktX3_laysRow_0 := by decide +kernel
theorem dksX3_laysRow_1 : cX3_laysRow.data.toList.drop 24 = dktX3_laysRow_1 := dk_seg dksX3_laysRow_0 24 rfl rfl
theorem dksX3_laysRow_2 : cX3_laysRow.data.toList.drop 47 = dktX3_laysRow_2 := dk_seg dksX3_laysRow_1 23 rfl rfl
theorem dksX3_laysRow_3 : cX3_laysRow.data.toList.drop 71 = dktX3_laysRow_3 := dk_seg dksX3_laysRow_2 24 rfl rfl
theorem dX3_laysRow_0 : decode cX3_laysRow 0 = .ok (.iconst 0, 1) := dk_3 (dk_at dksX3_laysRow_0 0 rfl rfl)
theorem dX3_laysRow_1 : decode cX3_laysRow 1 = .ok (.istore 6, 2) := dk_54 6 (dk_at dksX3_laysRow_0 1 rfl rfl)
theorem dX3_laysRow_3 : decode cX3_laysRow 3 = .ok (.iconst 0, 1) := dk_3 (dk_at dksX3_laysRow_0 3 rfl rfl)
theorem dX3_laysRow_4 : decode cX3_laysRow 4 = .ok (.istore 7, 2) := dk_54 7 (dk_at dksX3_laysRow_0 4 rfl rfl)
theorem dX3_laysRow_6 : decode cX3_laysRow 6 = .ok (.iload 7, 2) := dk_21 7 (dk_at dksX3_laysRow_0 6 rfl rfl)
theorem dX3_laysRow_8 : decode cX3_laysRow 8 = .ok (.aload_n 0, 1) := dk_42 (dk_at dksX3_laysRow_0 8 rfl rfl)
theorem dX3_laysRow_9 : decode cX3_laysRow 9 = .ok (.getfield 41, 3) := dk_180 0 41 (dk_at dksX3_laysRow_0 9 rfl rfl)
theorem dX3_laysRow_12 : decode cX3_laysRow 12 = .ok (.if_icmp .ge 48, 3) := dk_162 0 48 (dk_at dksX3_laysRow_0 12 rfl rfl)
theorem dX3_laysRow_15 : decode cX3_laysRow 15 = .ok (.iload_n 3, 1) := dk_29 (dk_at dksX3_laysRow_0 15 rfl rfl)
theorem dX3_laysRow_16 : decode cX3_laysRow 16 = .ok (.aload_n 0, 1) := dk_42 (dk_at dksX3_laysRow_0 16 rfl rfl)
theorem dX3_laysRow_17 : decode cX3_laysRow 17 = .ok (.getfield 30, 3) := dk_180 0 30 (dk_at dksX3_laysRow_0 17 rfl rfl)
theorem dX3_laysRow_20 : decode cX3_laysRow 20 = .ok (.iload 7, 2) := dk_21 7 (dk_at dksX3_laysRow_0 20 rfl rfl)
theorem dX3_laysRow_22 : decode cX3_laysRow 22 = .ok (.iaload, 1) := dk_46 (dk_at dksX3_laysRow_0 22 rfl rfl)
theorem dX3_laysRow_23 : decode cX3_laysRow 23 = .ok (.ishr, 1) := dk_122 (dk_at dksX3_laysRow_0 23 rfl rfl)
theorem dX3_laysRow_24 : decode cX3_laysRow 24 = .ok (.iconst 1, 1) := dk_4 (dk_at dksX3_laysRow_1 0 rfl rfl)
theorem dX3_laysRow_25 : decode cX3_laysRow 25 = .ok (.iand, 1) := dk_126 (dk_at dksX3_laysRow_1 1 rfl rfl)
theorem dX3_laysRow_26 : decode cX3_laysRow 26 = .ok (.iconst 1, 1) := dk_4 (dk_at dksX3_laysRow_1 2 rfl rfl)
theorem dX3_laysRow_27 : decode cX3_laysRow 27 = .ok (.if_icmp .ne 6, 3) := dk_160 0 6 (dk_at dksX3_laysRow_1 3 rfl rfl)
theorem dX3_laysRow_30 : decode cX3_laysRow 30 = .ok (.goto 24, 3) := dk_167 0 24 (dk_at dksX3_laysRow_1 6 rfl rfl)
theorem dX3_laysRow_33 : decode cX3_laysRow 33 = .ok (.aload_n 0, 1) := dk_42 (dk_at dksX3_laysRow_1 9 rfl rfl)
theorem dX3_laysRow_34 : decode cX3_laysRow 34 = .ok (.getfield 20, 3) := dk_180 0 20 (dk_at dksX3_laysRow_1 10 rfl rfl)
theorem dX3_laysRow_37 : decode cX3_laysRow 37 = .ok (.iload_n 1, 1) := dk_27 (dk_at dksX3_laysRow_1 13 rfl rfl)
theorem dX3_laysRow_38 : decode cX3_laysRow 38 = .ok (.aaload, 1) := dk_50 (dk_at dksX3_laysRow_1 14 rfl rfl)
theorem dX3_laysRow_39 : decode cX3_laysRow 39 = .ok (.iload 6, 2) := dk_21 6 (dk_at dksX3_laysRow_1 15 rfl rfl)
theorem dX3_laysRow_41 : decode cX3_laysRow 41 = .ok (.aload_n 0, 1) := dk_42 (dk_at dksX3_laysRow_1 17 rfl rfl)
theorem dX3_laysRow_42 : decode cX3_laysRow 42 = .ok (.getfield 17, 3) := dk_180 0 17 (dk_at dksX3_laysRow_1 18 rfl rfl)
theorem dX3_laysRow_45 : decode cX3_laysRow 45 = .ok (.iload_n 2, 1) := dk_28 (dk_at dksX3_laysRow_1 21 rfl rfl)
theorem dX3_laysRow_46 : decode cX3_laysRow 46 = .ok (.aaload, 1) := dk_50 (dk_at dksX3_laysRow_1 22 rfl rfl)
theorem dX3_laysRow_47 : decode cX3_laysRow 47 = .ok (.iload 7, 2) := dk_21 7 (dk_at dksX3_laysRow_2 0 rfl rfl)
theorem dX3_laysRow_49 : decode cX3_laysRow 49 = .ok (.laload, 1) := dk_47 (dk_at dksX3_laysRow_2 2 rfl rfl)
theorem dX3_laysRow_50 : decode cX3_laysRow 50 = .ok (.lastore, 1) := dk_80 (dk_at dksX3_laysRow_2 3 rfl rfl)
theorem dX3_laysRow_51 : decode cX3_laysRow 51 = .ok (.iinc 6 1, 3) := dk_132 6 1 (dk_at dksX3_laysRow_2 4 rfl rfl)
theorem dX3_laysRow_54 : decode cX3_laysRow 54 = .ok (.iinc 7 1, 3) := dk_132 7 1 (dk_at dksX3_laysRow_2 7 rfl rfl)
theorem dX3_laysRow_57 : decode cX3_laysRow 57 = .ok (.goto (-51), 3) := dk_167 255 205 (dk_at dksX3_laysRow_2 10 rfl rfl)
theorem dX3_laysRow_60 : decode cX3_laysRow 60 = .ok (.iload 5, 2) := dk_21 5 (dk_at dksX3_laysRow_2 13 rfl rfl)
theorem dX3_laysRow_62 : decode cX3_laysRow 62 = .ok (.iconst (-1), 1) := dk_2 (dk_at dksX3_laysRow_2 15 rfl rfl)
theorem dX3_laysRow_63 : decode cX3_laysRow 63 = .ok (.if_icmp .eq 26, 3) := dk_159 0 26 (dk_at dksX3_laysRow_2 16 rfl rfl)
theorem dX3_laysRow_66 : decode cX3_laysRow 66 = .ok (.aload_n 0, 1) := dk_42 (dk_at dksX3_laysRow_2 19 rfl rfl)
theorem dX3_laysRow_67 : decode cX3_laysRow 67 = .ok (.getfield 20, 3) := dk_180 0 20 (dk_at dksX3_laysRow_2 20 rfl rfl)
theorem dX3_laysRow_70 : decode cX3_laysRow 70 = .ok (.iload_n 1, 1) := dk_27 (dk_at dksX3_laysRow_2 23 rfl rfl)
theorem dX3_laysRow_71 : decode cX3_laysRow 71 = .ok (.aaload, 1) := dk_50 (dk_at dksX3_laysRow_3 0 rfl rfl)
theorem dX3_laysRow_72 : decode cX3_laysRow 72 = .ok (.iload 4, 2) := dk_21 4 (dk_at dksX3_laysRow_3 1 rfl rfl)
theorem dX3_laysRow_74 : decode cX3_laysRow 74 = .ok (.aload_n 0, 1) := dk_42 (dk_at dksX3_laysRow_3 3 rfl rfl)
theorem dX3_laysRow_75 : decode cX3_laysRow 75 = .ok (.getfield 17, 3) := dk_180 0 17 (dk_at dksX3_laysRow_3 4 rfl rfl)
theorem dX3_laysRow_78 : decode cX3_laysRow 78 = .ok (.iload_n 2, 1) := dk_28 (dk_at dksX3_laysRow_3 7 rfl rfl)
theorem dX3_laysRow_79 : decode cX3_laysRow 79 = .ok (.aaload, 1) := dk_50 (dk_at dksX3_laysRow_3 8 rfl rfl)
theorem dX3_laysRow_80 : decode cX3_laysRow 80 = .ok (.aload_n 0, 1) := dk_42 (dk_at dksX3_laysRow_3 9 rfl rfl)
theorem dX3_laysRow_81 : decode cX3_laysRow 81 = .ok (.getfield 34, 3) := dk_180 0 34 (dk_at dksX3_laysRow_3 10 rfl rfl)
theorem dX3_laysRow_84 : decode cX3_laysRow 84 = .ok (.iload 5, 2) := dk_21 5 (dk_at dksX3_laysRow_3 13 rfl rfl)
theorem dX3_laysRow_86 : decode cX3_laysRow 86 = .ok (.iaload, 1) := dk_46 (dk_at dksX3_laysRow_3 15 rfl rfl)
theorem dX3_laysRow_87 : decode cX3_laysRow 87 = .ok (.laload, 1) := dk_47 (dk_at dksX3_laysRow_3 16 rfl rfl)
theorem dX3_laysRow_88 : decode cX3_laysRow 88 = .ok (.lastore, 1) := dk_80 (dk_at dksX3_laysRow_3 17 rfl rfl)
theorem dX3_laysRow_89 : decode cX3_laysRow 89 = .ok (.return_, 1) := dk_177 (dk_at dksX3_laysRow_3 18 rfl rfl)
def dkwX4_init_2 : List UInt8 := [181, 0, 34, 177]
abbrev dktX4_init_2 : List UInt8 := dkwX4_init_2 ++ []
def dkwX4_init_1 : List UInt8 := [20, 0, 20, 184, 0, 22, 181, 0, 26, 42, 16, 12, 188, 11, 181, 0, 30, 42, 16, 12, 188, 11]
abbrev dktX4_init_1 : List UInt8 := dkwX4_init_1 ++ dktX4_init_2
def dkwX4_init_0 : List UInt8 := [42, 183, 0, 3, 42, 16, 12, 16, 13, 197, 0, 9, 2, 181, 0, 11, 42, 20, 0, 16, 20, 0, 18]
abbrev dktX4_init_0 : List UInt8 := dkwX4_init_0 ++ dktX4_init_1
theorem dksX4_init_0 : cX4_init.data.toList.drop 0 = dktX4_init_0 := by decide +kernel
theorem dksX4_init_1 : cX4_init.data.toList.drop 23 = dktX4_init_1 := dk_seg dksX4_init_0 23 rfl rfl
theorem dksX4_init_2 : cX4_init.data.toList.drop 45 = dktX4_init_2 := dk_seg dksX4_init_1 22 rfl rfl
theorem dX4_init_0 : decode cX4_init 0 = .ok (.aload_n 0, 1) := dk_42 (dk_at dksX4_init_0 0 rfl rfl)
theorem dX4_init_1 : decode cX4_init 1 = .ok (.invokespecial 3, 3) := dk_183 0 3 (dk_at dksX4_init_0 1 rfl rfl)
theorem dX4_init_4 : decode cX4_init 4 = .ok (.aload_n 0, 1) := dk_42 (dk_at dksX4_init_0 4 rfl rfl)
theorem dX4_init_5 : decode cX4_init 5 = .ok (.bipush 12, 2) := dk_16 12 (dk_at dksX4_init_0 5 rfl rfl)
theorem dX4_init_7 : decode cX4_init 7 = .ok (.bipush 13, 2) := dk_16 13 (dk_at dksX4_init_0 7 rfl rfl)
theorem dX4_init_9 : decode cX4_init 9 = .ok (.multianewarray 9 2, 4) := by decide +kernel
theorem dX4_init_13 : decode cX4_init 13 = .ok (.putfield 11, 3) := dk_181 0 11 (dk_at dksX4_init_0 13 rfl rfl)
theorem dX4_init_16 : decode cX4_init 16 = .ok (.aload_n 0, 1) := dk_42 (dk_at dksX4_init_0 16 rfl rfl)
theorem dX4_init_17 : decode cX4_init 17 = .ok (.ldc2_w 16, 3) := dk_20 0 16 (dk_at dksX4_init_0 17 rfl rfl)
theorem dX4_init_20 : decode cX4_init 20 = .ok (.ldc2_w 18, 3) := dk_20 0 18 (dk_at dksX4_init_0 20 rfl rfl)
theorem dX4_init_23 : decode cX4_init 23 = .ok (.ldc2_w 20, 3) := dk_20 0 20 (dk_at dksX4_init_1 0 rfl rfl)
theorem dX4_init_26 : decode cX4_init 26 = .ok (.invokestatic 22, 3) := dk_184 0 22 (dk_at dksX4_init_1 3 rfl rfl)
theorem dX4_init_29 : decode cX4_init 29 = .ok (.putfield 26, 3) := dk_181 0 26 (dk_at dksX4_init_1 6 rfl rfl)
theorem dX4_init_32 : decode cX4_init 32 = .ok (.aload_n 0, 1) := dk_42 (dk_at dksX4_init_1 9 rfl rfl)
theorem dX4_init_33 : decode cX4_init 33 = .ok (.bipush 12, 2) := dk_16 12 (dk_at dksX4_init_1 10 rfl rfl)
theorem dX4_init_35 : decode cX4_init 35 = .ok (.newarray .long, 2) := dk_188_11 (dk_at dksX4_init_1 12 rfl rfl)
theorem dX4_init_37 : decode cX4_init 37 = .ok (.putfield 30, 3) := dk_181 0 30 (dk_at dksX4_init_1 14 rfl rfl)
theorem dX4_init_40 : decode cX4_init 40 = .ok (.aload_n 0, 1) := dk_42 (dk_at dksX4_init_1 17 rfl rfl)
theorem dX4_init_41 : decode cX4_init 41 = .ok (.bipush 12, 2) := dk_16 12 (dk_at dksX4_init_1 18 rfl rfl)
theorem dX4_init_43 : decode cX4_init 43 = .ok (.newarray .long, 2) := dk_188_11 (dk_at dksX4_init_1 20 rfl rfl)
theorem dX4_init_45 : decode cX4_init 45 = .ok (.putfield 34, 3) := dk_181 0 34 (dk_at dksX4_init_2 0 rfl rfl)
theorem dX4_init_48 : decode cX4_init 48 = .ok (.return_, 1) := dk_177 (dk_at dksX4_init_2 3 rfl rfl)
def dkwX4_power_2 : List UInt8 := [22, 10, 4, 123, 55, 10, 167, 255, 214, 22, 6, 173]
abbrev dktX4_power_2 : List UInt8 := dkwX4_power_2 ++ []
def dkwX4_power_1 : List UInt8 := [154, 0, 13, 22, 6, 22, 8, 105, 22, 4, 113, 55, 6, 22, 8, 22, 8, 105, 22, 4, 113, 55, 8]
abbrev dktX4_power_1 : List UInt8 := dkwX4_power_1 ++ dktX4_power_2
def dkwX4_power_0 : List UInt8 := [10, 55, 6, 30, 55, 8, 32, 55, 10, 22, 10, 9, 148, 158, 0, 41, 22, 10, 10, 127, 10, 148]
abbrev dktX4_power_0 : List UInt8 := dkwX4_power_0 ++ dktX4_power_1
theorem dksX4_power_0 : cX4_power.data.toList.drop 0 = dktX4_power_0 := by decide +kernel
theorem dksX4_power_1 : cX4_power.data.toList.drop 22 = dktX4_power_1 := dk_seg dksX4_power_0 22 rfl rfl
theorem dksX4_power_2 : cX4_power.data.toList.drop 45 = dktX4_power_2 := dk_seg dksX4_power_1 23 rfl rfl
theorem dX4_power_0 : decode cX4_power 0 = .ok (.lconst 1, 1) := dk_10 (dk_at dksX4_power_0 0 rfl rfl)
theorem dX4_power_1 : decode cX4_power 1 = .ok (.lstore 6, 2) := dk_55 6 (dk_at dksX4_power_0 1 rfl rfl)
theorem dX4_power_3 : decode cX4_power 3 = .ok (.lload_n 0, 1) := dk_30 (dk_at dksX4_power_0 3 rfl rfl)
theorem dX4_power_4 : decode cX4_power 4 = .ok (.lstore 8, 2) := dk_55 8 (dk_at dksX4_power_0 4 rfl rfl)
theorem dX4_power_6 : decode cX4_power 6 = .ok (.lload_n 2, 1) := dk_32 (dk_at dksX4_power_0 6 rfl rfl)
theorem dX4_power_7 : decode cX4_power 7 = .ok (.lstore 10, 2) := dk_55 10 (dk_at dksX4_power_0 7 rfl rfl)
theorem dX4_power_9 : decode cX4_power 9 = .ok (.lload 10, 2) := dk_22 10 (dk_at dksX4_power_0 9 rfl rfl)
theorem dX4_power_11 : decode cX4_power 11 = .ok (.lconst 0, 1) := dk_9 (dk_at dksX4_power_0 11 rfl rfl)
theorem dX4_power_12 : decode cX4_power 12 = .ok (.lcmp, 1) := dk_148 (dk_at dksX4_power_0 12 rfl rfl)
theorem dX4_power_13 : decode cX4_power 13 = .ok (.ifCond .le 41, 3) := dk_158 0 41 (dk_at dksX4_power_0 13 rfl rfl)
theorem dX4_power_16 : decode cX4_power 16 = .ok (.lload 10, 2) := dk_22 10 (dk_at dksX4_power_0 16 rfl rfl)
theorem dX4_power_18 : decode cX4_power 18 = .ok (.lconst 1, 1) := dk_10 (dk_at dksX4_power_0 18 rfl rfl)
theorem dX4_power_19 : decode cX4_power 19 = .ok (.land, 1) := dk_127 (dk_at dksX4_power_0 19 rfl rfl)
theorem dX4_power_20 : decode cX4_power 20 = .ok (.lconst 1, 1) := dk_10 (dk_at dksX4_power_0 20 rfl rfl)
theorem dX4_power_21 : decode cX4_power 21 = .ok (.lcmp, 1) := dk_148 (dk_at dksX4_power_0 21 rfl rfl)
theorem dX4_power_22 : decode cX4_power 22 = .ok (.ifCond .ne 13, 3) := dk_154 0 13 (dk_at dksX4_power_1 0 rfl rfl)
theorem dX4_power_25 : decode cX4_power 25 = .ok (.lload 6, 2) := dk_22 6 (dk_at dksX4_power_1 3 rfl rfl)
theorem dX4_power_27 : decode cX4_power 27 = .ok (.lload 8, 2) := dk_22 8 (dk_at dksX4_power_1 5 rfl rfl)
theorem dX4_power_29 : decode cX4_power 29 = .ok (.lmul, 1) := dk_105 (dk_at dksX4_power_1 7 rfl rfl)
theorem dX4_power_30 : decode cX4_power 30 = .ok (.lload 4, 2) := dk_22 4 (dk_at dksX4_power_1 8 rfl rfl)
theorem dX4_power_32 : decode cX4_power 32 = .ok (.lrem, 1) := dk_113 (dk_at dksX4_power_1 10 rfl rfl)
theorem dX4_power_33 : decode cX4_power 33 = .ok (.lstore 6, 2) := dk_55 6 (dk_at dksX4_power_1 11 rfl rfl)
theorem dX4_power_35 : decode cX4_power 35 = .ok (.lload 8, 2) := dk_22 8 (dk_at dksX4_power_1 13 rfl rfl)
theorem dX4_power_37 : decode cX4_power 37 = .ok (.lload 8, 2) := dk_22 8 (dk_at dksX4_power_1 15 rfl rfl)
theorem dX4_power_39 : decode cX4_power 39 = .ok (.lmul, 1) := dk_105 (dk_at dksX4_power_1 17 rfl rfl)
theorem dX4_power_40 : decode cX4_power 40 = .ok (.lload 4, 2) := dk_22 4 (dk_at dksX4_power_1 18 rfl rfl)
theorem dX4_power_42 : decode cX4_power 42 = .ok (.lrem, 1) := dk_113 (dk_at dksX4_power_1 20 rfl rfl)
theorem dX4_power_43 : decode cX4_power 43 = .ok (.lstore 8, 2) := dk_55 8 (dk_at dksX4_power_1 21 rfl rfl)
theorem dX4_power_45 : decode cX4_power 45 = .ok (.lload 10, 2) := dk_22 10 (dk_at dksX4_power_2 0 rfl rfl)
theorem dX4_power_47 : decode cX4_power 47 = .ok (.iconst 1, 1) := dk_4 (dk_at dksX4_power_2 2 rfl rfl)
theorem dX4_power_48 : decode cX4_power 48 = .ok (.lshr, 1) := dk_123 (dk_at dksX4_power_2 3 rfl rfl)
theorem dX4_power_49 : decode cX4_power 49 = .ok (.lstore 10, 2) := dk_55 10 (dk_at dksX4_power_2 4 rfl rfl)
theorem dX4_power_51 : decode cX4_power 51 = .ok (.goto (-42), 3) := dk_167 255 214 (dk_at dksX4_power_2 6 rfl rfl)
theorem dX4_power_54 : decode cX4_power 54 = .ok (.lload 6, 2) := dk_22 6 (dk_at dksX4_power_2 9 rfl rfl)
theorem dX4_power_56 : decode cX4_power 56 = .ok (.lreturn, 1) := dk_173 (dk_at dksX4_power_2 11 rfl rfl)
def dkwX4_of_1 : List UInt8 := [173]
abbrev dktX4_of_1 : List UInt8 := dkwX4_of_1 ++ []
def dkwX4_of_0 : List UInt8 := [42, 42, 43, 28, 2, 20, 0, 61, 182, 0, 63, 42, 43, 28, 2, 20, 0, 20, 182, 0, 63, 182, 0, 67]
abbrev dktX4_of_0 : List UInt8 := dkwX4_of_0 ++ dktX4_of_1
theorem dksX4_of_0 : cX4_of.data.toList.drop 0 = dktX4_of_0 := by decide +kernel
theorem dksX4_of_1 : cX4_of.data.toList.drop 24 = dktX4_of_1 := dk_seg dksX4_of_0 24 rfl rfl
theorem dX4_of_0 : decode cX4_of 0 = .ok (.aload_n 0, 1) := dk_42 (dk_at dksX4_of_0 0 rfl rfl)
theorem dX4_of_1 : decode cX4_of 1 = .ok (.aload_n 0, 1) := dk_42 (dk_at dksX4_of_0 1 rfl rfl)
theorem dX4_of_2 : decode cX4_of 2 = .ok (.aload_n 1, 1) := dk_43 (dk_at dksX4_of_0 2 rfl rfl)
theorem dX4_of_3 : decode cX4_of 3 = .ok (.iload_n 2, 1) := dk_28 (dk_at dksX4_of_0 3 rfl rfl)
theorem dX4_of_4 : decode cX4_of 4 = .ok (.iconst (-1), 1) := dk_2 (dk_at dksX4_of_0 4 rfl rfl)
theorem dX4_of_5 : decode cX4_of 5 = .ok (.ldc2_w 61, 3) := dk_20 0 61 (dk_at dksX4_of_0 5 rfl rfl)
theorem dX4_of_8 : decode cX4_of 8 = .ok (.invokevirtual 63, 3) := dk_182 0 63 (dk_at dksX4_of_0 8 rfl rfl)
theorem dX4_of_11 : decode cX4_of 11 = .ok (.aload_n 0, 1) := dk_42 (dk_at dksX4_of_0 11 rfl rfl)
theorem dX4_of_12 : decode cX4_of 12 = .ok (.aload_n 1, 1) := dk_43 (dk_at dksX4_of_0 12 rfl rfl)
theorem dX4_of_13 : decode cX4_of 13 = .ok (.iload_n 2, 1) := dk_28 (dk_at dksX4_of_0 13 rfl rfl)
theorem dX4_of_14 : decode cX4_of 14 = .ok (.iconst (-1), 1) := dk_2 (dk_at dksX4_of_0 14 rfl rfl)
theorem dX4_of_15 : decode cX4_of 15 = .ok (.ldc2_w 20, 3) := dk_20 0 20 (dk_at dksX4_of_0 15 rfl rfl)
theorem dX4_of_18 : decode cX4_of 18 = .ok (.invokevirtual 63, 3) := dk_182 0 63 (dk_at dksX4_of_0 18 rfl rfl)
theorem dX4_of_21 : decode cX4_of 21 = .ok (.invokevirtual 67, 3) := dk_182 0 67 (dk_at dksX4_of_0 21 rfl rfl)
theorem dX4_of_24 : decode cX4_of 24 = .ok (.lreturn, 1) := dk_173 (dk_at dksX4_of_1 0 rfl rfl)
def dkwX4_left_7 : List UInt8 := [167, 255, 234, 132, 8, 1, 167, 255, 136, 22, 6, 173]
abbrev dktX4_left_7 : List UInt8 := dkwX4_left_7 ++ []
def dkwX4_left_6 : List UInt8 := [21, 12, 28, 162, 0, 22, 42, 21, 12, 21, 8, 28, 22, 10, 22, 4, 182, 0, 57, 132, 12, 1]
abbrev dktX4_left_6 : List UInt8 := dkwX4_left_6 ++ dktX4_left_7
def dkwX4_left_5 : List UInt8 := [50, 21, 8, 47, 22, 4, 20, 0, 55, 101, 22, 4, 184, 0, 22, 55, 10, 21, 8, 4, 96, 54, 12]
abbrev dktX4_left_5 : List UInt8 := dkwX4_left_5 ++ dktX4_left_6
def dkwX4_left_4 : List UInt8 := [22, 6, 42, 180, 0, 11, 21, 8, 50, 21, 8, 47, 105, 22, 4, 113, 55, 6, 42, 180, 0, 11, 21, 8]
abbrev dktX4_left_4 : List UInt8 := dkwX4_left_4 ++ dktX4_left_5
def dkwX4_left_3 : List UInt8 := [173, 21, 9, 21, 8, 159, 0, 18, 42, 21, 9, 21, 8, 182, 0, 51, 22, 4, 22, 6, 101, 55, 6]
abbrev dktX4_left_3 : List UInt8 := dkwX4_left_3 ++ dktX4_left_4
def dkwX4_left_2 : List UInt8 := [54, 8, 21, 8, 28, 162, 0, 120, 42, 21, 8, 28, 182, 0, 47, 54, 9, 21, 9, 2, 160, 0, 5, 9]
abbrev dktX4_left_2 : List UInt8 := dkwX4_left_2 ++ dktX4_left_3
def dkwX4_left_1 : List UInt8 := [28, 21, 6, 29, 160, 0, 7, 10, 167, 0, 4, 9, 80, 132, 6, 1, 167, 255, 227, 10, 55, 6, 3]
abbrev dktX4_left_1 : List UInt8 := dkwX4_left_1 ++ dktX4_left_2
def dkwX4_left_0 : List UInt8 := [42, 43, 28, 22, 4, 182, 0, 43, 3, 54, 6, 21, 6, 28, 162, 0, 29, 42, 180, 0, 11, 21, 6, 50]
abbrev dktX4_left_0 : List UInt8 := dkwX4_left_0 ++ dktX4_left_1
theorem dksX4_left_0 : cX4_left.data.toList.drop 0 = dktX4_left_0 := by decide +kernel
theorem dksX4_left_1 : cX4_left.data.toList.drop 24 = dktX4_left_1 := dk_seg dksX4_left_0 24 rfl rfl
theorem dksX4_left_2 : cX4_left.data.toList.drop 47 = dktX4_left_2 := dk_seg dksX4_left_1 23 rfl rfl
theorem dksX4_left_3 : cX4_left.data.toList.drop 71 = dktX4_left_3 := dk_seg dksX4_left_2 24 rfl rfl
theorem dksX4_left_4 : cX4_left.data.toList.drop 94 = dktX4_left_4 := dk_seg dksX4_left_3 23 rfl rfl
theorem dksX4_left_5 : cX4_left.data.toList.drop 118 = dktX4_left_5 := dk_seg dksX4_left_4 24 rfl rfl
theorem dksX4_left_6 : cX4_left.data.toList.drop 141 = dktX4_left_6 := dk_seg dksX4_left_5 23 rfl rfl
theorem dksX4_left_7 : cX4_left.data.toList.drop 163 = dktX4_left_7 := dk_seg dksX4_left_6 22 rfl rfl
theorem dX4_left_0 : decode cX4_left 0 = .ok (.aload_n 0, 1) := dk_42 (dk_at dksX4_left_0 0 rfl rfl)
theorem dX4_left_1 : decode cX4_left 1 = .ok (.aload_n 1, 1) := dk_43 (dk_at dksX4_left_0 1 rfl rfl)
theorem dX4_left_2 : decode cX4_left 2 = .ok (.iload_n 2, 1) := dk_28 (dk_at dksX4_left_0 2 rfl rfl)
theorem dX4_left_3 : decode cX4_left 3 = .ok (.lload 4, 2) := dk_22 4 (dk_at dksX4_left_0 3 rfl rfl)
theorem dX4_left_5 : decode cX4_left 5 = .ok (.invokevirtual 43, 3) := dk_182 0 43 (dk_at dksX4_left_0 5 rfl rfl)
theorem dX4_left_8 : decode cX4_left 8 = .ok (.iconst 0, 1) := dk_3 (dk_at dksX4_left_0 8 rfl rfl)
theorem dX4_left_9 : decode cX4_left 9 = .ok (.istore 6, 2) := dk_54 6 (dk_at dksX4_left_0 9 rfl rfl)
theorem dX4_left_11 : decode cX4_left 11 = .ok (.iload 6, 2) := dk_21 6 (dk_at dksX4_left_0 11 rfl rfl)
theorem dX4_left_13 : decode cX4_left 13 = .ok (.iload_n 2, 1) := dk_28 (dk_at dksX4_left_0 13 rfl rfl)
theorem dX4_left_14 : decode cX4_left 14 = .ok (.if_icmp .ge 29, 3) := dk_162 0 29 (dk_at dksX4_left_0 14 rfl rfl)
theorem dX4_left_17 : decode cX4_left 17 = .ok (.aload_n 0, 1) := dk_42 (dk_at dksX4_left_0 17 rfl rfl)
theorem dX4_left_18 : decode cX4_left 18 = .ok (.getfield 11, 3) := dk_180 0 11 (dk_at dksX4_left_0 18 rfl rfl)
theorem dX4_left_21 : decode cX4_left 21 = .ok (.iload 6, 2) := dk_21 6 (dk_at dksX4_left_0 21 rfl rfl)
theorem dX4_left_23 : decode cX4_left 23 = .ok (.aaload, 1) := dk_50 (dk_at dksX4_left_0 23 rfl rfl)
theorem dX4_left_24 : decode cX4_left 24 = .ok (.iload_n 2, 1) := dk_28 (dk_at dksX4_left_1 0 rfl rfl)
theorem dX4_left_25 : decode cX4_left 25 = .ok (.iload 6, 2) := dk_21 6 (dk_at dksX4_left_1 1 rfl rfl)
theorem dX4_left_27 : decode cX4_left 27 = .ok (.iload_n 3, 1) := dk_29 (dk_at dksX4_left_1 3 rfl rfl)
theorem dX4_left_28 : decode cX4_left 28 = .ok (.if_icmp .ne 7, 3) := dk_160 0 7 (dk_at dksX4_left_1 4 rfl rfl)
theorem dX4_left_31 : decode cX4_left 31 = .ok (.lconst 1, 1) := dk_10 (dk_at dksX4_left_1 7 rfl rfl)
theorem dX4_left_32 : decode cX4_left 32 = .ok (.goto 4, 3) := dk_167 0 4 (dk_at dksX4_left_1 8 rfl rfl)
theorem dX4_left_35 : decode cX4_left 35 = .ok (.lconst 0, 1) := dk_9 (dk_at dksX4_left_1 11 rfl rfl)
theorem dX4_left_36 : decode cX4_left 36 = .ok (.lastore, 1) := dk_80 (dk_at dksX4_left_1 12 rfl rfl)
theorem dX4_left_37 : decode cX4_left 37 = .ok (.iinc 6 1, 3) := dk_132 6 1 (dk_at dksX4_left_1 13 rfl rfl)
theorem dX4_left_40 : decode cX4_left 40 = .ok (.goto (-29), 3) := dk_167 255 227 (dk_at dksX4_left_1 16 rfl rfl)
theorem dX4_left_43 : decode cX4_left 43 = .ok (.lconst 1, 1) := dk_10 (dk_at dksX4_left_1 19 rfl rfl)
theorem dX4_left_44 : decode cX4_left 44 = .ok (.lstore 6, 2) := dk_55 6 (dk_at dksX4_left_1 20 rfl rfl)
theorem dX4_left_46 : decode cX4_left 46 = .ok (.iconst 0, 1) := dk_3 (dk_at dksX4_left_1 22 rfl rfl)
theorem dX4_left_47 : decode cX4_left 47 = .ok (.istore 8, 2) := dk_54 8 (dk_at dksX4_left_2 0 rfl rfl)
theorem dX4_left_49 : decode cX4_left 49 = .ok (.iload 8, 2) := dk_21 8 (dk_at dksX4_left_2 2 rfl rfl)
theorem dX4_left_51 : decode cX4_left 51 = .ok (.iload_n 2, 1) := dk_28 (dk_at dksX4_left_2 4 rfl rfl)
theorem dX4_left_52 : decode cX4_left 52 = .ok (.if_icmp .ge 120, 3) := dk_162 0 120 (dk_at dksX4_left_2 5 rfl rfl)
theorem dX4_left_55 : decode cX4_left 55 = .ok (.aload_n 0, 1) := dk_42 (dk_at dksX4_left_2 8 rfl rfl)
theorem dX4_left_56 : decode cX4_left 56 = .ok (.iload 8, 2) := dk_21 8 (dk_at dksX4_left_2 9 rfl rfl)
theorem dX4_left_58 : decode cX4_left 58 = .ok (.iload_n 2, 1) := dk_28 (dk_at dksX4_left_2 11 rfl rfl)
theorem dX4_left_59 : decode cX4_left 59 = .ok (.invokevirtual 47, 3) := dk_182 0 47 (dk_at dksX4_left_2 12 rfl rfl)
theorem dX4_left_62 : decode cX4_left 62 = .ok (.istore 9, 2) := dk_54 9 (dk_at dksX4_left_2 15 rfl rfl)
theorem dX4_left_64 : decode cX4_left 64 = .ok (.iload 9, 2) := dk_21 9 (dk_at dksX4_left_2 17 rfl rfl)
theorem dX4_left_66 : decode cX4_left 66 = .ok (.iconst (-1), 1) := dk_2 (dk_at dksX4_left_2 19 rfl rfl)
theorem dX4_left_67 : decode cX4_left 67 = .ok (.if_icmp .ne 5, 3) := dk_160 0 5 (dk_at dksX4_left_2 20 rfl rfl)
theorem dX4_left_70 : decode cX4_left 70 = .ok (.lconst 0, 1) := dk_9 (dk_at dksX4_left_2 23 rfl rfl)
theorem dX4_left_71 : decode cX4_left 71 = .ok (.lreturn, 1) := dk_173 (dk_at dksX4_left_3 0 rfl rfl)
theorem dX4_left_72 : decode cX4_left 72 = .ok (.iload 9, 2) := dk_21 9 (dk_at dksX4_left_3 1 rfl rfl)
theorem dX4_left_74 : decode cX4_left 74 = .ok (.iload 8, 2) := dk_21 8 (dk_at dksX4_left_3 3 rfl rfl)
theorem dX4_left_76 : decode cX4_left 76 = .ok (.if_icmp .eq 18, 3) := dk_159 0 18 (dk_at dksX4_left_3 5 rfl rfl)
theorem dX4_left_79 : decode cX4_left 79 = .ok (.aload_n 0, 1) := dk_42 (dk_at dksX4_left_3 8 rfl rfl)
theorem dX4_left_80 : decode cX4_left 80 = .ok (.iload 9, 2) := dk_21 9 (dk_at dksX4_left_3 9 rfl rfl)
theorem dX4_left_82 : decode cX4_left 82 = .ok (.iload 8, 2) := dk_21 8 (dk_at dksX4_left_3 11 rfl rfl)
theorem dX4_left_84 : decode cX4_left 84 = .ok (.invokevirtual 51, 3) := dk_182 0 51 (dk_at dksX4_left_3 13 rfl rfl)
theorem dX4_left_87 : decode cX4_left 87 = .ok (.lload 4, 2) := dk_22 4 (dk_at dksX4_left_3 16 rfl rfl)
theorem dX4_left_89 : decode cX4_left 89 = .ok (.lload 6, 2) := dk_22 6 (dk_at dksX4_left_3 18 rfl rfl)
theorem dX4_left_91 : decode cX4_left 91 = .ok (.lsub, 1) := dk_101 (dk_at dksX4_left_3 20 rfl rfl)
theorem dX4_left_92 : decode cX4_left 92 = .ok (.lstore 6, 2) := dk_55 6 (dk_at dksX4_left_3 21 rfl rfl)
theorem dX4_left_94 : decode cX4_left 94 = .ok (.lload 6, 2) := dk_22 6 (dk_at dksX4_left_4 0 rfl rfl)
theorem dX4_left_96 : decode cX4_left 96 = .ok (.aload_n 0, 1) := dk_42 (dk_at dksX4_left_4 2 rfl rfl)
theorem dX4_left_97 : decode cX4_left 97 = .ok (.getfield 11, 3) := dk_180 0 11 (dk_at dksX4_left_4 3 rfl rfl)
theorem dX4_left_100 : decode cX4_left 100 = .ok (.iload 8, 2) := dk_21 8 (dk_at dksX4_left_4 6 rfl rfl)
theorem dX4_left_102 : decode cX4_left 102 = .ok (.aaload, 1) := dk_50 (dk_at dksX4_left_4 8 rfl rfl)
theorem dX4_left_103 : decode cX4_left 103 = .ok (.iload 8, 2) := dk_21 8 (dk_at dksX4_left_4 9 rfl rfl)
theorem dX4_left_105 : decode cX4_left 105 = .ok (.laload, 1) := dk_47 (dk_at dksX4_left_4 11 rfl rfl)
theorem dX4_left_106 : decode cX4_left 106 = .ok (.lmul, 1) := dk_105 (dk_at dksX4_left_4 12 rfl rfl)
theorem dX4_left_107 : decode cX4_left 107 = .ok (.lload 4, 2) := dk_22 4 (dk_at dksX4_left_4 13 rfl rfl)
theorem dX4_left_109 : decode cX4_left 109 = .ok (.lrem, 1) := dk_113 (dk_at dksX4_left_4 15 rfl rfl)
theorem dX4_left_110 : decode cX4_left 110 = .ok (.lstore 6, 2) := dk_55 6 (dk_at dksX4_left_4 16 rfl rfl)
theorem dX4_left_112 : decode cX4_left 112 = .ok (.aload_n 0, 1) := dk_42 (dk_at dksX4_left_4 18 rfl rfl)
theorem dX4_left_113 : decode cX4_left 113 = .ok (.getfield 11, 3) := dk_180 0 11 (dk_at dksX4_left_4 19 rfl rfl)
theorem dX4_left_116 : decode cX4_left 116 = .ok (.iload 8, 2) := dk_21 8 (dk_at dksX4_left_4 22 rfl rfl)
theorem dX4_left_118 : decode cX4_left 118 = .ok (.aaload, 1) := dk_50 (dk_at dksX4_left_5 0 rfl rfl)
theorem dX4_left_119 : decode cX4_left 119 = .ok (.iload 8, 2) := dk_21 8 (dk_at dksX4_left_5 1 rfl rfl)
theorem dX4_left_121 : decode cX4_left 121 = .ok (.laload, 1) := dk_47 (dk_at dksX4_left_5 3 rfl rfl)
theorem dX4_left_122 : decode cX4_left 122 = .ok (.lload 4, 2) := dk_22 4 (dk_at dksX4_left_5 4 rfl rfl)
theorem dX4_left_124 : decode cX4_left 124 = .ok (.ldc2_w 55, 3) := dk_20 0 55 (dk_at dksX4_left_5 6 rfl rfl)
theorem dX4_left_127 : decode cX4_left 127 = .ok (.lsub, 1) := dk_101 (dk_at dksX4_left_5 9 rfl rfl)
theorem dX4_left_128 : decode cX4_left 128 = .ok (.lload 4, 2) := dk_22 4 (dk_at dksX4_left_5 10 rfl rfl)
theorem dX4_left_130 : decode cX4_left 130 = .ok (.invokestatic 22, 3) := dk_184 0 22 (dk_at dksX4_left_5 12 rfl rfl)
theorem dX4_left_133 : decode cX4_left 133 = .ok (.lstore 10, 2) := dk_55 10 (dk_at dksX4_left_5 15 rfl rfl)
theorem dX4_left_135 : decode cX4_left 135 = .ok (.iload 8, 2) := dk_21 8 (dk_at dksX4_left_5 17 rfl rfl)
theorem dX4_left_137 : decode cX4_left 137 = .ok (.iconst 1, 1) := dk_4 (dk_at dksX4_left_5 19 rfl rfl)
theorem dX4_left_138 : decode cX4_left 138 = .ok (.iadd, 1) := dk_96 (dk_at dksX4_left_5 20 rfl rfl)
theorem dX4_left_139 : decode cX4_left 139 = .ok (.istore 12, 2) := dk_54 12 (dk_at dksX4_left_5 21 rfl rfl)
theorem dX4_left_141 : decode cX4_left 141 = .ok (.iload 12, 2) := dk_21 12 (dk_at dksX4_left_6 0 rfl rfl)
theorem dX4_left_143 : decode cX4_left 143 = .ok (.iload_n 2, 1) := dk_28 (dk_at dksX4_left_6 2 rfl rfl)
theorem dX4_left_144 : decode cX4_left 144 = .ok (.if_icmp .ge 22, 3) := dk_162 0 22 (dk_at dksX4_left_6 3 rfl rfl)
theorem dX4_left_147 : decode cX4_left 147 = .ok (.aload_n 0, 1) := dk_42 (dk_at dksX4_left_6 6 rfl rfl)
theorem dX4_left_148 : decode cX4_left 148 = .ok (.iload 12, 2) := dk_21 12 (dk_at dksX4_left_6 7 rfl rfl)
theorem dX4_left_150 : decode cX4_left 150 = .ok (.iload 8, 2) := dk_21 8 (dk_at dksX4_left_6 9 rfl rfl)
theorem dX4_left_152 : decode cX4_left 152 = .ok (.iload_n 2, 1) := dk_28 (dk_at dksX4_left_6 11 rfl rfl)
theorem dX4_left_153 : decode cX4_left 153 = .ok (.lload 10, 2) := dk_22 10 (dk_at dksX4_left_6 12 rfl rfl)
theorem dX4_left_155 : decode cX4_left 155 = .ok (.lload 4, 2) := dk_22 4 (dk_at dksX4_left_6 14 rfl rfl)
theorem dX4_left_157 : decode cX4_left 157 = .ok (.invokevirtual 57, 3) := dk_182 0 57 (dk_at dksX4_left_6 16 rfl rfl)
theorem dX4_left_160 : decode cX4_left 160 = .ok (.iinc 12 1, 3) := dk_132 12 1 (dk_at dksX4_left_6 19 rfl rfl)
theorem dX4_left_163 : decode cX4_left 163 = .ok (.goto (-22), 3) := dk_167 255 234 (dk_at dksX4_left_7 0 rfl rfl)
theorem dX4_left_166 : decode cX4_left 166 = .ok (.iinc 8 1, 3) := dk_132 8 1 (dk_at dksX4_left_7 3 rfl rfl)
theorem dX4_left_169 : decode cX4_left 169 = .ok (.goto (-120), 3) := dk_167 255 136 (dk_at dksX4_left_7 6 rfl rfl)
theorem dX4_left_172 : decode cX4_left 172 = .ok (.lload 6, 2) := dk_22 6 (dk_at dksX4_left_7 9 rfl rfl)
theorem dX4_left_174 : decode cX4_left 174 = .ok (.lreturn, 1) := dk_173 (dk_at dksX4_left_7 11 rfl rfl)
def dkwX4_lays_2 : List UInt8 := [167, 255, 211, 177]
abbrev dktX4_lays_2 : List UInt8 := dkwX4_lays_2 ++ []
def dkwX4_lays_1 : List UInt8 := [50, 21, 6, 43, 21, 5, 50, 21, 6, 47, 33, 184, 0, 37, 80, 132, 6, 1, 167, 255, 226, 132, 5, 1]
abbrev dktX4_lays_1 : List UInt8 := dkwX4_lays_1 ++ dktX4_lays_2
def dkwX4_lays_0 : List UInt8 := [3, 54, 5, 21, 5, 28, 162, 0, 45, 3, 54, 6, 21, 6, 28, 162, 0, 30, 42, 180, 0, 11, 21, 5]
abbrev dktX4_lays_0 : List UInt8 := dkwX4_lays_0 ++ dktX4_lays_1
theorem dksX4_lays_0 : cX4_lays.data.toList.drop 0 = dktX4_lays_0 := by decide +kernel
theorem dksX4_lays_1 : cX4_lays.data.toList.drop 24 = dktX4_lays_1 := dk_seg dksX4_lays_0 24 rfl rfl
theorem dksX4_lays_2 : cX4_lays.data.toList.drop 48 = dktX4_lays_2 := dk_seg dksX4_lays_1 24 rfl rfl
theorem dX4_lays_0 : decode cX4_lays 0 = .ok (.iconst 0, 1) := dk_3 (dk_at dksX4_lays_0 0 rfl rfl)
theorem dX4_lays_1 : decode cX4_lays 1 = .ok (.istore 5, 2) := dk_54 5 (dk_at dksX4_lays_0 1 rfl rfl)
theorem dX4_lays_3 : decode cX4_lays 3 = .ok (.iload 5, 2) := dk_21 5 (dk_at dksX4_lays_0 3 rfl rfl)
theorem dX4_lays_5 : decode cX4_lays 5 = .ok (.iload_n 2, 1) := dk_28 (dk_at dksX4_lays_0 5 rfl rfl)
theorem dX4_lays_6 : decode cX4_lays 6 = .ok (.if_icmp .ge 45, 3) := dk_162 0 45 (dk_at dksX4_lays_0 6 rfl rfl)
theorem dX4_lays_9 : decode cX4_lays 9 = .ok (.iconst 0, 1) := dk_3 (dk_at dksX4_lays_0 9 rfl rfl)
theorem dX4_lays_10 : decode cX4_lays 10 = .ok (.istore 6, 2) := dk_54 6 (dk_at dksX4_lays_0 10 rfl rfl)
theorem dX4_lays_12 : decode cX4_lays 12 = .ok (.iload 6, 2) := dk_21 6 (dk_at dksX4_lays_0 12 rfl rfl)
theorem dX4_lays_14 : decode cX4_lays 14 = .ok (.iload_n 2, 1) := dk_28 (dk_at dksX4_lays_0 14 rfl rfl)
theorem dX4_lays_15 : decode cX4_lays 15 = .ok (.if_icmp .ge 30, 3) := dk_162 0 30 (dk_at dksX4_lays_0 15 rfl rfl)
theorem dX4_lays_18 : decode cX4_lays 18 = .ok (.aload_n 0, 1) := dk_42 (dk_at dksX4_lays_0 18 rfl rfl)
theorem dX4_lays_19 : decode cX4_lays 19 = .ok (.getfield 11, 3) := dk_180 0 11 (dk_at dksX4_lays_0 19 rfl rfl)
theorem dX4_lays_22 : decode cX4_lays 22 = .ok (.iload 5, 2) := dk_21 5 (dk_at dksX4_lays_0 22 rfl rfl)
theorem dX4_lays_24 : decode cX4_lays 24 = .ok (.aaload, 1) := dk_50 (dk_at dksX4_lays_1 0 rfl rfl)
theorem dX4_lays_25 : decode cX4_lays 25 = .ok (.iload 6, 2) := dk_21 6 (dk_at dksX4_lays_1 1 rfl rfl)
theorem dX4_lays_27 : decode cX4_lays 27 = .ok (.aload_n 1, 1) := dk_43 (dk_at dksX4_lays_1 3 rfl rfl)
theorem dX4_lays_28 : decode cX4_lays 28 = .ok (.iload 5, 2) := dk_21 5 (dk_at dksX4_lays_1 4 rfl rfl)
theorem dX4_lays_30 : decode cX4_lays 30 = .ok (.aaload, 1) := dk_50 (dk_at dksX4_lays_1 6 rfl rfl)
theorem dX4_lays_31 : decode cX4_lays 31 = .ok (.iload 6, 2) := dk_21 6 (dk_at dksX4_lays_1 7 rfl rfl)
theorem dX4_lays_33 : decode cX4_lays 33 = .ok (.laload, 1) := dk_47 (dk_at dksX4_lays_1 9 rfl rfl)
theorem dX4_lays_34 : decode cX4_lays 34 = .ok (.lload_n 3, 1) := dk_33 (dk_at dksX4_lays_1 10 rfl rfl)
theorem dX4_lays_35 : decode cX4_lays 35 = .ok (.invokestatic 37, 3) := dk_184 0 37 (dk_at dksX4_lays_1 11 rfl rfl)
theorem dX4_lays_38 : decode cX4_lays 38 = .ok (.lastore, 1) := dk_80 (dk_at dksX4_lays_1 14 rfl rfl)
theorem dX4_lays_39 : decode cX4_lays 39 = .ok (.iinc 6 1, 3) := dk_132 6 1 (dk_at dksX4_lays_1 15 rfl rfl)
theorem dX4_lays_42 : decode cX4_lays 42 = .ok (.goto (-30), 3) := dk_167 255 226 (dk_at dksX4_lays_1 18 rfl rfl)
theorem dX4_lays_45 : decode cX4_lays 45 = .ok (.iinc 5 1, 3) := dk_132 5 1 (dk_at dksX4_lays_1 21 rfl rfl)
theorem dX4_lays_48 : decode cX4_lays 48 = .ok (.goto (-45), 3) := dk_167 255 211 (dk_at dksX4_lays_2 0 rfl rfl)
theorem dX4_lays_51 : decode cX4_lays 51 = .ok (.return_, 1) := dk_177 (dk_at dksX4_lays_2 3 rfl rfl)
def dkwX4_pivot_1 : List UInt8 := [132, 3, 1, 167, 255, 233, 2, 172]
abbrev dktX4_pivot_1 : List UInt8 := dkwX4_pivot_1 ++ []
def dkwX4_pivot_0 : List UInt8 := [27, 62, 29, 28, 162, 0, 24, 42, 180, 0, 11, 29, 50, 27, 47, 9, 148, 153, 0, 5, 29, 172]
abbrev dktX4_pivot_0 : List UInt8 := dkwX4_pivot_0 ++ dktX4_pivot_1
theorem dksX4_pivot_0 : cX4_pivot.data.toList.drop 0 = dktX4_pivot_0 := by decide +kernel
theorem dksX4_pivot_1 : cX4_pivot.data.toList.drop 22 = dktX4_pivot_1 := dk_seg dksX4_pivot_0 22 rfl rfl
theorem dX4_pivot_0 : decode cX4_pivot 0 = .ok (.iload_n 1, 1) := dk_27 (dk_at dksX4_pivot_0 0 rfl rfl)
theorem dX4_pivot_1 : decode cX4_pivot 1 = .ok (.istore_n 3, 1) := dk_62 (dk_at dksX4_pivot_0 1 rfl rfl)
theorem dX4_pivot_2 : decode cX4_pivot 2 = .ok (.iload_n 3, 1) := dk_29 (dk_at dksX4_pivot_0 2 rfl rfl)
theorem dX4_pivot_3 : decode cX4_pivot 3 = .ok (.iload_n 2, 1) := dk_28 (dk_at dksX4_pivot_0 3 rfl rfl)
theorem dX4_pivot_4 : decode cX4_pivot 4 = .ok (.if_icmp .ge 24, 3) := dk_162 0 24 (dk_at dksX4_pivot_0 4 rfl rfl)
theorem dX4_pivot_7 : decode cX4_pivot 7 = .ok (.aload_n 0, 1) := dk_42 (dk_at dksX4_pivot_0 7 rfl rfl)
theorem dX4_pivot_8 : decode cX4_pivot 8 = .ok (.getfield 11, 3) := dk_180 0 11 (dk_at dksX4_pivot_0 8 rfl rfl)
theorem dX4_pivot_11 : decode cX4_pivot 11 = .ok (.iload_n 3, 1) := dk_29 (dk_at dksX4_pivot_0 11 rfl rfl)
theorem dX4_pivot_12 : decode cX4_pivot 12 = .ok (.aaload, 1) := dk_50 (dk_at dksX4_pivot_0 12 rfl rfl)
theorem dX4_pivot_13 : decode cX4_pivot 13 = .ok (.iload_n 1, 1) := dk_27 (dk_at dksX4_pivot_0 13 rfl rfl)
theorem dX4_pivot_14 : decode cX4_pivot 14 = .ok (.laload, 1) := dk_47 (dk_at dksX4_pivot_0 14 rfl rfl)
theorem dX4_pivot_15 : decode cX4_pivot 15 = .ok (.lconst 0, 1) := dk_9 (dk_at dksX4_pivot_0 15 rfl rfl)
theorem dX4_pivot_16 : decode cX4_pivot 16 = .ok (.lcmp, 1) := dk_148 (dk_at dksX4_pivot_0 16 rfl rfl)
theorem dX4_pivot_17 : decode cX4_pivot 17 = .ok (.ifCond .eq 5, 3) := dk_153 0 5 (dk_at dksX4_pivot_0 17 rfl rfl)
theorem dX4_pivot_20 : decode cX4_pivot 20 = .ok (.iload_n 3, 1) := dk_29 (dk_at dksX4_pivot_0 20 rfl rfl)
theorem dX4_pivot_21 : decode cX4_pivot 21 = .ok (.ireturn, 1) := dk_172 (dk_at dksX4_pivot_0 21 rfl rfl)
theorem dX4_pivot_22 : decode cX4_pivot 22 = .ok (.iinc 3 1, 3) := dk_132 3 1 (dk_at dksX4_pivot_1 0 rfl rfl)
theorem dX4_pivot_25 : decode cX4_pivot 25 = .ok (.goto (-23), 3) := dk_167 255 233 (dk_at dksX4_pivot_1 3 rfl rfl)
theorem dX4_pivot_28 : decode cX4_pivot 28 = .ok (.iconst (-1), 1) := dk_2 (dk_at dksX4_pivot_1 6 rfl rfl)
theorem dX4_pivot_29 : decode cX4_pivot 29 = .ok (.ireturn, 1) := dk_172 (dk_at dksX4_pivot_1 7 rfl rfl)
def dkwX4_swaps_1 : List UInt8 := [45, 83, 177]
abbrev dktX4_swaps_1 : List UInt8 := dkwX4_swaps_1 ++ []
def dkwX4_swaps_0 : List UInt8 := [42, 180, 0, 11, 27, 50, 78, 42, 180, 0, 11, 27, 42, 180, 0, 11, 28, 50, 83, 42, 180, 0, 11, 28]
abbrev dktX4_swaps_0 : List UInt8 := dkwX4_swaps_0 ++ dktX4_swaps_1
theorem dksX4_swaps_0 : cX4_swaps.data.toList.drop 0 = dktX4_swaps_0 := by decide +kernel
theorem dksX4_swaps_1 : cX4_swaps.data.toList.drop 24 = dktX4_swaps_1 := dk_seg dksX4_swaps_0 24 rfl rfl
theorem dX4_swaps_0 : decode cX4_swaps 0 = .ok (.aload_n 0, 1) := dk_42 (dk_at dksX4_swaps_0 0 rfl rfl)
theorem dX4_swaps_1 : decode cX4_swaps 1 = .ok (.getfield 11, 3) := dk_180 0 11 (dk_at dksX4_swaps_0 1 rfl rfl)
theorem dX4_swaps_4 : decode cX4_swaps 4 = .ok (.iload_n 1, 1) := dk_27 (dk_at dksX4_swaps_0 4 rfl rfl)
theorem dX4_swaps_5 : decode cX4_swaps 5 = .ok (.aaload, 1) := dk_50 (dk_at dksX4_swaps_0 5 rfl rfl)
theorem dX4_swaps_6 : decode cX4_swaps 6 = .ok (.astore_n 3, 1) := dk_78 (dk_at dksX4_swaps_0 6 rfl rfl)
theorem dX4_swaps_7 : decode cX4_swaps 7 = .ok (.aload_n 0, 1) := dk_42 (dk_at dksX4_swaps_0 7 rfl rfl)
theorem dX4_swaps_8 : decode cX4_swaps 8 = .ok (.getfield 11, 3) := dk_180 0 11 (dk_at dksX4_swaps_0 8 rfl rfl)
theorem dX4_swaps_11 : decode cX4_swaps 11 = .ok (.iload_n 1, 1) := dk_27 (dk_at dksX4_swaps_0 11 rfl rfl)
theorem dX4_swaps_12 : decode cX4_swaps 12 = .ok (.aload_n 0, 1) := dk_42 (dk_at dksX4_swaps_0 12 rfl rfl)
theorem dX4_swaps_13 : decode cX4_swaps 13 = .ok (.getfield 11, 3) := dk_180 0 11 (dk_at dksX4_swaps_0 13 rfl rfl)
theorem dX4_swaps_16 : decode cX4_swaps 16 = .ok (.iload_n 2, 1) := dk_28 (dk_at dksX4_swaps_0 16 rfl rfl)
theorem dX4_swaps_17 : decode cX4_swaps 17 = .ok (.aaload, 1) := dk_50 (dk_at dksX4_swaps_0 17 rfl rfl)
theorem dX4_swaps_18 : decode cX4_swaps 18 = .ok (.aastore, 1) := dk_83 (dk_at dksX4_swaps_0 18 rfl rfl)
theorem dX4_swaps_19 : decode cX4_swaps 19 = .ok (.aload_n 0, 1) := dk_42 (dk_at dksX4_swaps_0 19 rfl rfl)
theorem dX4_swaps_20 : decode cX4_swaps 20 = .ok (.getfield 11, 3) := dk_180 0 11 (dk_at dksX4_swaps_0 20 rfl rfl)
theorem dX4_swaps_23 : decode cX4_swaps 23 = .ok (.iload_n 2, 1) := dk_28 (dk_at dksX4_swaps_0 23 rfl rfl)
theorem dX4_swaps_24 : decode cX4_swaps 24 = .ok (.aload_n 3, 1) := dk_45 (dk_at dksX4_swaps_1 0 rfl rfl)
theorem dX4_swaps_25 : decode cX4_swaps 25 = .ok (.aastore, 1) := dk_83 (dk_at dksX4_swaps_1 1 rfl rfl)
theorem dX4_swaps_26 : decode cX4_swaps 26 = .ok (.return_, 1) := dk_177 (dk_at dksX4_swaps_1 2 rfl rfl)
def dkwX4_clears_3 : List UInt8 := [22, 6, 184, 0, 37, 80, 132, 10, 1, 167, 255, 208, 177]
abbrev dktX4_clears_3 : List UInt8 := dkwX4_clears_3 ++ []
def dkwX4_clears_2 : List UInt8 := [180, 0, 11, 27, 50, 21, 10, 47, 22, 8, 42, 180, 0, 11, 28, 50, 21, 10, 47, 105, 22, 6, 113, 101]
abbrev dktX4_clears_2 : List UInt8 := dkwX4_clears_2 ++ dktX4_clears_3
def dkwX4_clears_1 : List UInt8 := [105, 22, 6, 113, 55, 8, 28, 54, 10, 21, 10, 29, 163, 0, 48, 42, 180, 0, 11, 27, 50, 21, 10, 42]
abbrev dktX4_clears_1 : List UInt8 := dkwX4_clears_1 ++ dktX4_clears_2
def dkwX4_clears_0 : List UInt8 := [42, 180, 0, 11, 27, 50, 28, 47, 9, 148, 154, 0, 4, 177, 42, 180, 0, 11, 27, 50, 28, 47, 22, 4]
abbrev dktX4_clears_0 : List UInt8 := dkwX4_clears_0 ++ dktX4_clears_1
theorem dksX4_clears_0 : cX4_clears.data.toList.drop 0 = dktX4_clears_0 := by decide +kernel
theorem dksX4_clears_1 : cX4_clears.data.toList.drop 24 = dktX4_clears_1 := dk_seg dksX4_clears_0 24 rfl rfl
theorem dksX4_clears_2 : cX4_clears.data.toList.drop 48 = dktX4_clears_2 := dk_seg dksX4_clears_1 24 rfl rfl
theorem dksX4_clears_3 : cX4_clears.data.toList.drop 72 = dktX4_clears_3 := dk_seg dksX4_clears_2 24 rfl rfl
theorem dX4_clears_0 : decode cX4_clears 0 = .ok (.aload_n 0, 1) := dk_42 (dk_at dksX4_clears_0 0 rfl rfl)
theorem dX4_clears_1 : decode cX4_clears 1 = .ok (.getfield 11, 3) := dk_180 0 11 (dk_at dksX4_clears_0 1 rfl rfl)
theorem dX4_clears_4 : decode cX4_clears 4 = .ok (.iload_n 1, 1) := dk_27 (dk_at dksX4_clears_0 4 rfl rfl)
theorem dX4_clears_5 : decode cX4_clears 5 = .ok (.aaload, 1) := dk_50 (dk_at dksX4_clears_0 5 rfl rfl)
theorem dX4_clears_6 : decode cX4_clears 6 = .ok (.iload_n 2, 1) := dk_28 (dk_at dksX4_clears_0 6 rfl rfl)
theorem dX4_clears_7 : decode cX4_clears 7 = .ok (.laload, 1) := dk_47 (dk_at dksX4_clears_0 7 rfl rfl)
theorem dX4_clears_8 : decode cX4_clears 8 = .ok (.lconst 0, 1) := dk_9 (dk_at dksX4_clears_0 8 rfl rfl)
theorem dX4_clears_9 : decode cX4_clears 9 = .ok (.lcmp, 1) := dk_148 (dk_at dksX4_clears_0 9 rfl rfl)
theorem dX4_clears_10 : decode cX4_clears 10 = .ok (.ifCond .ne 4, 3) := dk_154 0 4 (dk_at dksX4_clears_0 10 rfl rfl)
theorem dX4_clears_13 : decode cX4_clears 13 = .ok (.return_, 1) := dk_177 (dk_at dksX4_clears_0 13 rfl rfl)
theorem dX4_clears_14 : decode cX4_clears 14 = .ok (.aload_n 0, 1) := dk_42 (dk_at dksX4_clears_0 14 rfl rfl)
theorem dX4_clears_15 : decode cX4_clears 15 = .ok (.getfield 11, 3) := dk_180 0 11 (dk_at dksX4_clears_0 15 rfl rfl)
theorem dX4_clears_18 : decode cX4_clears 18 = .ok (.iload_n 1, 1) := dk_27 (dk_at dksX4_clears_0 18 rfl rfl)
theorem dX4_clears_19 : decode cX4_clears 19 = .ok (.aaload, 1) := dk_50 (dk_at dksX4_clears_0 19 rfl rfl)
theorem dX4_clears_20 : decode cX4_clears 20 = .ok (.iload_n 2, 1) := dk_28 (dk_at dksX4_clears_0 20 rfl rfl)
theorem dX4_clears_21 : decode cX4_clears 21 = .ok (.laload, 1) := dk_47 (dk_at dksX4_clears_0 21 rfl rfl)
theorem dX4_clears_22 : decode cX4_clears 22 = .ok (.lload 4, 2) := dk_22 4 (dk_at dksX4_clears_0 22 rfl rfl)
theorem dX4_clears_24 : decode cX4_clears 24 = .ok (.lmul, 1) := dk_105 (dk_at dksX4_clears_1 0 rfl rfl)
theorem dX4_clears_25 : decode cX4_clears 25 = .ok (.lload 6, 2) := dk_22 6 (dk_at dksX4_clears_1 1 rfl rfl)
theorem dX4_clears_27 : decode cX4_clears 27 = .ok (.lrem, 1) := dk_113 (dk_at dksX4_clears_1 3 rfl rfl)
theorem dX4_clears_28 : decode cX4_clears 28 = .ok (.lstore 8, 2) := dk_55 8 (dk_at dksX4_clears_1 4 rfl rfl)
theorem dX4_clears_30 : decode cX4_clears 30 = .ok (.iload_n 2, 1) := dk_28 (dk_at dksX4_clears_1 6 rfl rfl)
theorem dX4_clears_31 : decode cX4_clears 31 = .ok (.istore 10, 2) := dk_54 10 (dk_at dksX4_clears_1 7 rfl rfl)
theorem dX4_clears_33 : decode cX4_clears 33 = .ok (.iload 10, 2) := dk_21 10 (dk_at dksX4_clears_1 9 rfl rfl)
theorem dX4_clears_35 : decode cX4_clears 35 = .ok (.iload_n 3, 1) := dk_29 (dk_at dksX4_clears_1 11 rfl rfl)
theorem dX4_clears_36 : decode cX4_clears 36 = .ok (.if_icmp .gt 48, 3) := dk_163 0 48 (dk_at dksX4_clears_1 12 rfl rfl)
theorem dX4_clears_39 : decode cX4_clears 39 = .ok (.aload_n 0, 1) := dk_42 (dk_at dksX4_clears_1 15 rfl rfl)
theorem dX4_clears_40 : decode cX4_clears 40 = .ok (.getfield 11, 3) := dk_180 0 11 (dk_at dksX4_clears_1 16 rfl rfl)
theorem dX4_clears_43 : decode cX4_clears 43 = .ok (.iload_n 1, 1) := dk_27 (dk_at dksX4_clears_1 19 rfl rfl)
theorem dX4_clears_44 : decode cX4_clears 44 = .ok (.aaload, 1) := dk_50 (dk_at dksX4_clears_1 20 rfl rfl)
theorem dX4_clears_45 : decode cX4_clears 45 = .ok (.iload 10, 2) := dk_21 10 (dk_at dksX4_clears_1 21 rfl rfl)
theorem dX4_clears_47 : decode cX4_clears 47 = .ok (.aload_n 0, 1) := dk_42 (dk_at dksX4_clears_1 23 rfl rfl)
theorem dX4_clears_48 : decode cX4_clears 48 = .ok (.getfield 11, 3) := dk_180 0 11 (dk_at dksX4_clears_2 0 rfl rfl)
theorem dX4_clears_51 : decode cX4_clears 51 = .ok (.iload_n 1, 1) := dk_27 (dk_at dksX4_clears_2 3 rfl rfl)
theorem dX4_clears_52 : decode cX4_clears 52 = .ok (.aaload, 1) := dk_50 (dk_at dksX4_clears_2 4 rfl rfl)
theorem dX4_clears_53 : decode cX4_clears 53 = .ok (.iload 10, 2) := dk_21 10 (dk_at dksX4_clears_2 5 rfl rfl)
theorem dX4_clears_55 : decode cX4_clears 55 = .ok (.laload, 1) := dk_47 (dk_at dksX4_clears_2 7 rfl rfl)
theorem dX4_clears_56 : decode cX4_clears 56 = .ok (.lload 8, 2) := dk_22 8 (dk_at dksX4_clears_2 8 rfl rfl)
theorem dX4_clears_58 : decode cX4_clears 58 = .ok (.aload_n 0, 1) := dk_42 (dk_at dksX4_clears_2 10 rfl rfl)
theorem dX4_clears_59 : decode cX4_clears 59 = .ok (.getfield 11, 3) := dk_180 0 11 (dk_at dksX4_clears_2 11 rfl rfl)
theorem dX4_clears_62 : decode cX4_clears 62 = .ok (.iload_n 2, 1) := dk_28 (dk_at dksX4_clears_2 14 rfl rfl)
theorem dX4_clears_63 : decode cX4_clears 63 = .ok (.aaload, 1) := dk_50 (dk_at dksX4_clears_2 15 rfl rfl)
theorem dX4_clears_64 : decode cX4_clears 64 = .ok (.iload 10, 2) := dk_21 10 (dk_at dksX4_clears_2 16 rfl rfl)
theorem dX4_clears_66 : decode cX4_clears 66 = .ok (.laload, 1) := dk_47 (dk_at dksX4_clears_2 18 rfl rfl)
theorem dX4_clears_67 : decode cX4_clears 67 = .ok (.lmul, 1) := dk_105 (dk_at dksX4_clears_2 19 rfl rfl)
theorem dX4_clears_68 : decode cX4_clears 68 = .ok (.lload 6, 2) := dk_22 6 (dk_at dksX4_clears_2 20 rfl rfl)
theorem dX4_clears_70 : decode cX4_clears 70 = .ok (.lrem, 1) := dk_113 (dk_at dksX4_clears_2 22 rfl rfl)
theorem dX4_clears_71 : decode cX4_clears 71 = .ok (.lsub, 1) := dk_101 (dk_at dksX4_clears_2 23 rfl rfl)
theorem dX4_clears_72 : decode cX4_clears 72 = .ok (.lload 6, 2) := dk_22 6 (dk_at dksX4_clears_3 0 rfl rfl)
theorem dX4_clears_74 : decode cX4_clears 74 = .ok (.invokestatic 37, 3) := dk_184 0 37 (dk_at dksX4_clears_3 2 rfl rfl)
theorem dX4_clears_77 : decode cX4_clears 77 = .ok (.lastore, 1) := dk_80 (dk_at dksX4_clears_3 5 rfl rfl)
theorem dX4_clears_78 : decode cX4_clears 78 = .ok (.iinc 10 1, 3) := dk_132 10 1 (dk_at dksX4_clears_3 6 rfl rfl)
theorem dX4_clears_81 : decode cX4_clears 81 = .ok (.goto (-48), 3) := dk_167 255 208 (dk_at dksX4_clears_3 9 rfl rfl)
theorem dX4_clears_84 : decode cX4_clears 84 = .ok (.return_, 1) := dk_177 (dk_at dksX4_clears_3 12 rfl rfl)
def dkwX4_both_2 : List UInt8 := [22, 7, 173]
abbrev dktX4_both_2 : List UInt8 := dkwX4_both_2 ++ []
def dkwX4_both_1 : List UInt8 := [22, 5, 105, 97, 55, 7, 22, 7, 20, 0, 70, 148, 158, 0, 12, 22, 7, 20, 0, 72, 101, 167, 0, 5]
abbrev dktX4_both_1 : List UInt8 := dkwX4_both_1 ++ dktX4_both_2
def dkwX4_both_0 : List UInt8 := [33, 31, 101, 20, 0, 20, 184, 0, 37, 42, 180, 0, 26, 105, 20, 0, 20, 113, 55, 5, 31, 20, 0, 61]
abbrev dktX4_both_0 : List UInt8 := dkwX4_both_0 ++ dktX4_both_1
theorem dksX4_both_0 : cX4_both.data.toList.drop 0 = dktX4_both_0 := by decide +kernel
theorem dksX4_both_1 : cX4_both.data.toList.drop 24 = dktX4_both_1 := dk_seg dksX4_both_0 24 rfl rfl
theorem dksX4_both_2 : cX4_both.data.toList.drop 48 = dktX4_both_2 := dk_seg dksX4_both_1 24 rfl rfl
theorem dX4_both_0 : decode cX4_both 0 = .ok (.lload_n 3, 1) := dk_33 (dk_at dksX4_both_0 0 rfl rfl)
theorem dX4_both_1 : decode cX4_both 1 = .ok (.lload_n 1, 1) := dk_31 (dk_at dksX4_both_0 1 rfl rfl)
theorem dX4_both_2 : decode cX4_both 2 = .ok (.lsub, 1) := dk_101 (dk_at dksX4_both_0 2 rfl rfl)
theorem dX4_both_3 : decode cX4_both 3 = .ok (.ldc2_w 20, 3) := dk_20 0 20 (dk_at dksX4_both_0 3 rfl rfl)
theorem dX4_both_6 : decode cX4_both 6 = .ok (.invokestatic 37, 3) := dk_184 0 37 (dk_at dksX4_both_0 6 rfl rfl)
theorem dX4_both_9 : decode cX4_both 9 = .ok (.aload_n 0, 1) := dk_42 (dk_at dksX4_both_0 9 rfl rfl)
theorem dX4_both_10 : decode cX4_both 10 = .ok (.getfield 26, 3) := dk_180 0 26 (dk_at dksX4_both_0 10 rfl rfl)
theorem dX4_both_13 : decode cX4_both 13 = .ok (.lmul, 1) := dk_105 (dk_at dksX4_both_0 13 rfl rfl)
theorem dX4_both_14 : decode cX4_both 14 = .ok (.ldc2_w 20, 3) := dk_20 0 20 (dk_at dksX4_both_0 14 rfl rfl)
theorem dX4_both_17 : decode cX4_both 17 = .ok (.lrem, 1) := dk_113 (dk_at dksX4_both_0 17 rfl rfl)
theorem dX4_both_18 : decode cX4_both 18 = .ok (.lstore 5, 2) := dk_55 5 (dk_at dksX4_both_0 18 rfl rfl)
theorem dX4_both_20 : decode cX4_both 20 = .ok (.lload_n 1, 1) := dk_31 (dk_at dksX4_both_0 20 rfl rfl)
theorem dX4_both_21 : decode cX4_both 21 = .ok (.ldc2_w 61, 3) := dk_20 0 61 (dk_at dksX4_both_0 21 rfl rfl)
theorem dX4_both_24 : decode cX4_both 24 = .ok (.lload 5, 2) := dk_22 5 (dk_at dksX4_both_1 0 rfl rfl)
theorem dX4_both_26 : decode cX4_both 26 = .ok (.lmul, 1) := dk_105 (dk_at dksX4_both_1 2 rfl rfl)
theorem dX4_both_27 : decode cX4_both 27 = .ok (.ladd, 1) := dk_97 (dk_at dksX4_both_1 3 rfl rfl)
theorem dX4_both_28 : decode cX4_both 28 = .ok (.lstore 7, 2) := dk_55 7 (dk_at dksX4_both_1 4 rfl rfl)
theorem dX4_both_30 : decode cX4_both 30 = .ok (.lload 7, 2) := dk_22 7 (dk_at dksX4_both_1 6 rfl rfl)
theorem dX4_both_32 : decode cX4_both 32 = .ok (.ldc2_w 70, 3) := dk_20 0 70 (dk_at dksX4_both_1 8 rfl rfl)
theorem dX4_both_35 : decode cX4_both 35 = .ok (.lcmp, 1) := dk_148 (dk_at dksX4_both_1 11 rfl rfl)
theorem dX4_both_36 : decode cX4_both 36 = .ok (.ifCond .le 12, 3) := dk_158 0 12 (dk_at dksX4_both_1 12 rfl rfl)
theorem dX4_both_39 : decode cX4_both 39 = .ok (.lload 7, 2) := dk_22 7 (dk_at dksX4_both_1 15 rfl rfl)
theorem dX4_both_41 : decode cX4_both 41 = .ok (.ldc2_w 72, 3) := dk_20 0 72 (dk_at dksX4_both_1 17 rfl rfl)
theorem dX4_both_44 : decode cX4_both 44 = .ok (.lsub, 1) := dk_101 (dk_at dksX4_both_1 20 rfl rfl)
theorem dX4_both_45 : decode cX4_both 45 = .ok (.goto 5, 3) := dk_167 0 5 (dk_at dksX4_both_1 21 rfl rfl)
theorem dX4_both_48 : decode cX4_both 48 = .ok (.lload 7, 2) := dk_22 7 (dk_at dksX4_both_2 0 rfl rfl)
theorem dX4_both_50 : decode cX4_both 50 = .ok (.lreturn, 1) := dk_173 (dk_at dksX4_both_2 2 rfl rfl)
def dkwX4_lines_4 : List UInt8 := [21, 9, 47, 182, 0, 67, 80, 132, 9, 1, 167, 255, 224, 4, 172]
abbrev dktX4_lines_4 : List UInt8 := dkwX4_lines_4 ++ []
def dkwX4_lines_3 : List UInt8 := [54, 9, 21, 9, 28, 162, 0, 32, 25, 4, 21, 9, 42, 42, 180, 0, 30, 21, 9, 47, 42, 180, 0, 34]
abbrev dktX4_lines_3 : List UInt8 := dkwX4_lines_3 ++ dktX4_lines_4
def dkwX4_lines_2 : List UInt8 := [22, 7, 9, 148, 154, 0, 5, 3, 172, 42, 28, 22, 7, 20, 0, 20, 42, 180, 0, 34, 182, 0, 74, 3]
abbrev dktX4_lines_2 : List UInt8 := dkwX4_lines_2 ++ dktX4_lines_3
def dkwX4_lines_1 : List UInt8 := [22, 5, 20, 0, 61, 42, 180, 0, 30, 182, 0, 74, 42, 43, 28, 29, 20, 0, 20, 182, 0, 63, 55, 7]
abbrev dktX4_lines_1 : List UInt8 := dkwX4_lines_1 ++ dktX4_lines_2
def dkwX4_lines_0 : List UInt8 := [42, 43, 28, 29, 20, 0, 61, 182, 0, 63, 55, 5, 22, 5, 9, 148, 154, 0, 5, 3, 172, 42, 28]
abbrev dktX4_lines_0 : List UInt8 := dkwX4_lines_0 ++ dktX4_lines_1
theorem dksX4_lines_0 : cX4_lines.data.toList.drop 0 = dktX4_lines_0 := by decide +kernel
theorem dksX4_lines_1 : cX4_lines.data.toList.drop 23 = dktX4_lines_1 := dk_seg dksX4_lines_0 23 rfl rfl
theorem dksX4_lines_2 : cX4_lines.data.toList.drop 47 = dktX4_lines_2 := dk_seg dksX4_lines_1 24 rfl rfl
theorem dksX4_lines_3 : cX4_lines.data.toList.drop 71 = dktX4_lines_3 := dk_seg dksX4_lines_2 24 rfl rfl
theorem dksX4_lines_4 : cX4_lines.data.toList.drop 95 = dktX4_lines_4 := dk_seg dksX4_lines_3 24 rfl rfl
theorem dX4_lines_0 : decode cX4_lines 0 = .ok (.aload_n 0, 1) := dk_42 (dk_at dksX4_lines_0 0 rfl rfl)
theorem dX4_lines_1 : decode cX4_lines 1 = .ok (.aload_n 1, 1) := dk_43 (dk_at dksX4_lines_0 1 rfl rfl)
theorem dX4_lines_2 : decode cX4_lines 2 = .ok (.iload_n 2, 1) := dk_28 (dk_at dksX4_lines_0 2 rfl rfl)
theorem dX4_lines_3 : decode cX4_lines 3 = .ok (.iload_n 3, 1) := dk_29 (dk_at dksX4_lines_0 3 rfl rfl)
theorem dX4_lines_4 : decode cX4_lines 4 = .ok (.ldc2_w 61, 3) := dk_20 0 61 (dk_at dksX4_lines_0 4 rfl rfl)
theorem dX4_lines_7 : decode cX4_lines 7 = .ok (.invokevirtual 63, 3) := dk_182 0 63 (dk_at dksX4_lines_0 7 rfl rfl)
theorem dX4_lines_10 : decode cX4_lines 10 = .ok (.lstore 5, 2) := dk_55 5 (dk_at dksX4_lines_0 10 rfl rfl)
theorem dX4_lines_12 : decode cX4_lines 12 = .ok (.lload 5, 2) := dk_22 5 (dk_at dksX4_lines_0 12 rfl rfl)
theorem dX4_lines_14 : decode cX4_lines 14 = .ok (.lconst 0, 1) := dk_9 (dk_at dksX4_lines_0 14 rfl rfl)
theorem dX4_lines_15 : decode cX4_lines 15 = .ok (.lcmp, 1) := dk_148 (dk_at dksX4_lines_0 15 rfl rfl)
theorem dX4_lines_16 : decode cX4_lines 16 = .ok (.ifCond .ne 5, 3) := dk_154 0 5 (dk_at dksX4_lines_0 16 rfl rfl)
theorem dX4_lines_19 : decode cX4_lines 19 = .ok (.iconst 0, 1) := dk_3 (dk_at dksX4_lines_0 19 rfl rfl)
theorem dX4_lines_20 : decode cX4_lines 20 = .ok (.ireturn, 1) := dk_172 (dk_at dksX4_lines_0 20 rfl rfl)
theorem dX4_lines_21 : decode cX4_lines 21 = .ok (.aload_n 0, 1) := dk_42 (dk_at dksX4_lines_0 21 rfl rfl)
theorem dX4_lines_22 : decode cX4_lines 22 = .ok (.iload_n 2, 1) := dk_28 (dk_at dksX4_lines_0 22 rfl rfl)
theorem dX4_lines_23 : decode cX4_lines 23 = .ok (.lload 5, 2) := dk_22 5 (dk_at dksX4_lines_1 0 rfl rfl)
theorem dX4_lines_25 : decode cX4_lines 25 = .ok (.ldc2_w 61, 3) := dk_20 0 61 (dk_at dksX4_lines_1 2 rfl rfl)
theorem dX4_lines_28 : decode cX4_lines 28 = .ok (.aload_n 0, 1) := dk_42 (dk_at dksX4_lines_1 5 rfl rfl)
theorem dX4_lines_29 : decode cX4_lines 29 = .ok (.getfield 30, 3) := dk_180 0 30 (dk_at dksX4_lines_1 6 rfl rfl)
theorem dX4_lines_32 : decode cX4_lines 32 = .ok (.invokevirtual 74, 3) := dk_182 0 74 (dk_at dksX4_lines_1 9 rfl rfl)
theorem dX4_lines_35 : decode cX4_lines 35 = .ok (.aload_n 0, 1) := dk_42 (dk_at dksX4_lines_1 12 rfl rfl)
theorem dX4_lines_36 : decode cX4_lines 36 = .ok (.aload_n 1, 1) := dk_43 (dk_at dksX4_lines_1 13 rfl rfl)
theorem dX4_lines_37 : decode cX4_lines 37 = .ok (.iload_n 2, 1) := dk_28 (dk_at dksX4_lines_1 14 rfl rfl)
theorem dX4_lines_38 : decode cX4_lines 38 = .ok (.iload_n 3, 1) := dk_29 (dk_at dksX4_lines_1 15 rfl rfl)
theorem dX4_lines_39 : decode cX4_lines 39 = .ok (.ldc2_w 20, 3) := dk_20 0 20 (dk_at dksX4_lines_1 16 rfl rfl)
theorem dX4_lines_42 : decode cX4_lines 42 = .ok (.invokevirtual 63, 3) := dk_182 0 63 (dk_at dksX4_lines_1 19 rfl rfl)
theorem dX4_lines_45 : decode cX4_lines 45 = .ok (.lstore 7, 2) := dk_55 7 (dk_at dksX4_lines_1 22 rfl rfl)
theorem dX4_lines_47 : decode cX4_lines 47 = .ok (.lload 7, 2) := dk_22 7 (dk_at dksX4_lines_2 0 rfl rfl)
theorem dX4_lines_49 : decode cX4_lines 49 = .ok (.lconst 0, 1) := dk_9 (dk_at dksX4_lines_2 2 rfl rfl)
theorem dX4_lines_50 : decode cX4_lines 50 = .ok (.lcmp, 1) := dk_148 (dk_at dksX4_lines_2 3 rfl rfl)
theorem dX4_lines_51 : decode cX4_lines 51 = .ok (.ifCond .ne 5, 3) := dk_154 0 5 (dk_at dksX4_lines_2 4 rfl rfl)
theorem dX4_lines_54 : decode cX4_lines 54 = .ok (.iconst 0, 1) := dk_3 (dk_at dksX4_lines_2 7 rfl rfl)
theorem dX4_lines_55 : decode cX4_lines 55 = .ok (.ireturn, 1) := dk_172 (dk_at dksX4_lines_2 8 rfl rfl)
theorem dX4_lines_56 : decode cX4_lines 56 = .ok (.aload_n 0, 1) := dk_42 (dk_at dksX4_lines_2 9 rfl rfl)
theorem dX4_lines_57 : decode cX4_lines 57 = .ok (.iload_n 2, 1) := dk_28 (dk_at dksX4_lines_2 10 rfl rfl)
theorem dX4_lines_58 : decode cX4_lines 58 = .ok (.lload 7, 2) := dk_22 7 (dk_at dksX4_lines_2 11 rfl rfl)
theorem dX4_lines_60 : decode cX4_lines 60 = .ok (.ldc2_w 20, 3) := dk_20 0 20 (dk_at dksX4_lines_2 13 rfl rfl)
theorem dX4_lines_63 : decode cX4_lines 63 = .ok (.aload_n 0, 1) := dk_42 (dk_at dksX4_lines_2 16 rfl rfl)
theorem dX4_lines_64 : decode cX4_lines 64 = .ok (.getfield 34, 3) := dk_180 0 34 (dk_at dksX4_lines_2 17 rfl rfl)
theorem dX4_lines_67 : decode cX4_lines 67 = .ok (.invokevirtual 74, 3) := dk_182 0 74 (dk_at dksX4_lines_2 20 rfl rfl)
theorem dX4_lines_70 : decode cX4_lines 70 = .ok (.iconst 0, 1) := dk_3 (dk_at dksX4_lines_2 23 rfl rfl)
theorem dX4_lines_71 : decode cX4_lines 71 = .ok (.istore 9, 2) := dk_54 9 (dk_at dksX4_lines_3 0 rfl rfl)
theorem dX4_lines_73 : decode cX4_lines 73 = .ok (.iload 9, 2) := dk_21 9 (dk_at dksX4_lines_3 2 rfl rfl)
theorem dX4_lines_75 : decode cX4_lines 75 = .ok (.iload_n 2, 1) := dk_28 (dk_at dksX4_lines_3 4 rfl rfl)
theorem dX4_lines_76 : decode cX4_lines 76 = .ok (.if_icmp .ge 32, 3) := dk_162 0 32 (dk_at dksX4_lines_3 5 rfl rfl)
theorem dX4_lines_79 : decode cX4_lines 79 = .ok (.aload 4, 2) := dk_25 4 (dk_at dksX4_lines_3 8 rfl rfl)
theorem dX4_lines_81 : decode cX4_lines 81 = .ok (.iload 9, 2) := dk_21 9 (dk_at dksX4_lines_3 10 rfl rfl)
theorem dX4_lines_83 : decode cX4_lines 83 = .ok (.aload_n 0, 1) := dk_42 (dk_at dksX4_lines_3 12 rfl rfl)
theorem dX4_lines_84 : decode cX4_lines 84 = .ok (.aload_n 0, 1) := dk_42 (dk_at dksX4_lines_3 13 rfl rfl)
theorem dX4_lines_85 : decode cX4_lines 85 = .ok (.getfield 30, 3) := dk_180 0 30 (dk_at dksX4_lines_3 14 rfl rfl)
theorem dX4_lines_88 : decode cX4_lines 88 = .ok (.iload 9, 2) := dk_21 9 (dk_at dksX4_lines_3 17 rfl rfl)
theorem dX4_lines_90 : decode cX4_lines 90 = .ok (.laload, 1) := dk_47 (dk_at dksX4_lines_3 19 rfl rfl)
theorem dX4_lines_91 : decode cX4_lines 91 = .ok (.aload_n 0, 1) := dk_42 (dk_at dksX4_lines_3 20 rfl rfl)
theorem dX4_lines_92 : decode cX4_lines 92 = .ok (.getfield 34, 3) := dk_180 0 34 (dk_at dksX4_lines_3 21 rfl rfl)
theorem dX4_lines_95 : decode cX4_lines 95 = .ok (.iload 9, 2) := dk_21 9 (dk_at dksX4_lines_4 0 rfl rfl)
theorem dX4_lines_97 : decode cX4_lines 97 = .ok (.laload, 1) := dk_47 (dk_at dksX4_lines_4 2 rfl rfl)
theorem dX4_lines_98 : decode cX4_lines 98 = .ok (.invokevirtual 67, 3) := dk_182 0 67 (dk_at dksX4_lines_4 3 rfl rfl)
theorem dX4_lines_101 : decode cX4_lines 101 = .ok (.lastore, 1) := dk_80 (dk_at dksX4_lines_4 6 rfl rfl)
theorem dX4_lines_102 : decode cX4_lines 102 = .ok (.iinc 9 1, 3) := dk_132 9 1 (dk_at dksX4_lines_4 7 rfl rfl)
theorem dX4_lines_105 : decode cX4_lines 105 = .ok (.goto (-32), 3) := dk_167 255 224 (dk_at dksX4_lines_4 10 rfl rfl)
theorem dX4_lines_108 : decode cX4_lines 108 = .ok (.iconst 1, 1) := dk_4 (dk_at dksX4_lines_4 13 rfl rfl)
theorem dX4_lines_109 : decode cX4_lines 109 = .ok (.ireturn, 1) := dk_172 (dk_at dksX4_lines_4 14 rfl rfl)
def dkwX4_clearsUp_5 : List UInt8 := [25, 6, 21, 7, 25, 6, 21, 7, 47, 32, 105, 22, 4, 113, 80, 132, 7, 1, 167, 255, 232, 177]
abbrev dktX4_clearsUp_5 : List UInt8 := dkwX4_clearsUp_5 ++ []
def dkwX4_clearsUp_4 : List UInt8 := [184, 0, 22, 105, 22, 4, 113, 80, 132, 7, 255, 167, 255, 158, 3, 54, 7, 21, 7, 27, 162, 0, 24]
abbrev dktX4_clearsUp_4 : List UInt8 := dkwX4_clearsUp_4 ++ dktX4_clearsUp_5
def dkwX4_clearsUp_3 : List UInt8 := [21, 7, 22, 8, 42, 180, 0, 11, 21, 7, 50, 21, 7, 47, 22, 4, 20, 0, 55, 101, 22, 4]
abbrev dktX4_clearsUp_3 : List UInt8 := dkwX4_clearsUp_3 ++ dktX4_clearsUp_4
def dkwX4_clearsUp_2 : List UInt8 := [21, 10, 47, 105, 22, 4, 113, 101, 22, 4, 184, 0, 37, 55, 8, 132, 10, 1, 167, 255, 218, 25, 6]
abbrev dktX4_clearsUp_2 : List UInt8 := dkwX4_clearsUp_2 ++ dktX4_clearsUp_3
def dkwX4_clearsUp_1 : List UInt8 := [96, 54, 10, 21, 10, 27, 162, 0, 38, 22, 8, 42, 180, 0, 11, 21, 7, 50, 21, 10, 47, 25, 6]
abbrev dktX4_clearsUp_1 : List UInt8 := dkwX4_clearsUp_1 ++ dktX4_clearsUp_2
def dkwX4_clearsUp_0 : List UInt8 := [27, 4, 100, 54, 7, 21, 7, 155, 0, 99, 42, 180, 0, 11, 21, 7, 50, 27, 47, 55, 8, 21, 7, 4]
abbrev dktX4_clearsUp_0 : List UInt8 := dkwX4_clearsUp_0 ++ dktX4_clearsUp_1
theorem dksX4_clearsUp_0 : cX4_clearsUp.data.toList.drop 0 = dktX4_clearsUp_0 := by decide +kernel
theorem dksX4_clearsUp_1 : cX4_clearsUp.data.toList.drop 24 = dktX4_clearsUp_1 := dk_seg dksX4_clearsUp_0 24 rfl rfl
theorem dksX4_clearsUp_2 : cX4_clearsUp.data.toList.drop 47 = dktX4_clearsUp_2 := dk_seg dksX4_clearsUp_1 23 rfl rfl
theorem dksX4_clearsUp_3 : cX4_clearsUp.data.toList.drop 70 = dktX4_clearsUp_3 := dk_seg dksX4_clearsUp_2 23 rfl rfl
theorem dksX4_clearsUp_4 : cX4_clearsUp.data.toList.drop 92 = dktX4_clearsUp_4 := dk_seg dksX4_clearsUp_3 22 rfl rfl
theorem dksX4_clearsUp_5 : cX4_clearsUp.data.toList.drop 115 = dktX4_clearsUp_5 := dk_seg dksX4_clearsUp_4 23 rfl rfl
theorem dX4_clearsUp_0 : decode cX4_clearsUp 0 = .ok (.iload_n 1, 1) := dk_27 (dk_at dksX4_clearsUp_0 0 rfl rfl)
theorem dX4_clearsUp_1 : decode cX4_clearsUp 1 = .ok (.iconst 1, 1) := dk_4 (dk_at dksX4_clearsUp_0 1 rfl rfl)
theorem dX4_clearsUp_2 : decode cX4_clearsUp 2 = .ok (.isub, 1) := dk_100 (dk_at dksX4_clearsUp_0 2 rfl rfl)
theorem dX4_clearsUp_3 : decode cX4_clearsUp 3 = .ok (.istore 7, 2) := dk_54 7 (dk_at dksX4_clearsUp_0 3 rfl rfl)
theorem dX4_clearsUp_5 : decode cX4_clearsUp 5 = .ok (.iload 7, 2) := dk_21 7 (dk_at dksX4_clearsUp_0 5 rfl rfl)
theorem dX4_clearsUp_7 : decode cX4_clearsUp 7 = .ok (.ifCond .lt 99, 3) := dk_155 0 99 (dk_at dksX4_clearsUp_0 7 rfl rfl)
theorem dX4_clearsUp_10 : decode cX4_clearsUp 10 = .ok (.aload_n 0, 1) := dk_42 (dk_at dksX4_clearsUp_0 10 rfl rfl)
theorem dX4_clearsUp_11 : decode cX4_clearsUp 11 = .ok (.getfield 11, 3) := dk_180 0 11 (dk_at dksX4_clearsUp_0 11 rfl rfl)
theorem dX4_clearsUp_14 : decode cX4_clearsUp 14 = .ok (.iload 7, 2) := dk_21 7 (dk_at dksX4_clearsUp_0 14 rfl rfl)
theorem dX4_clearsUp_16 : decode cX4_clearsUp 16 = .ok (.aaload, 1) := dk_50 (dk_at dksX4_clearsUp_0 16 rfl rfl)
theorem dX4_clearsUp_17 : decode cX4_clearsUp 17 = .ok (.iload_n 1, 1) := dk_27 (dk_at dksX4_clearsUp_0 17 rfl rfl)
theorem dX4_clearsUp_18 : decode cX4_clearsUp 18 = .ok (.laload, 1) := dk_47 (dk_at dksX4_clearsUp_0 18 rfl rfl)
theorem dX4_clearsUp_19 : decode cX4_clearsUp 19 = .ok (.lstore 8, 2) := dk_55 8 (dk_at dksX4_clearsUp_0 19 rfl rfl)
theorem dX4_clearsUp_21 : decode cX4_clearsUp 21 = .ok (.iload 7, 2) := dk_21 7 (dk_at dksX4_clearsUp_0 21 rfl rfl)
theorem dX4_clearsUp_23 : decode cX4_clearsUp 23 = .ok (.iconst 1, 1) := dk_4 (dk_at dksX4_clearsUp_0 23 rfl rfl)
theorem dX4_clearsUp_24 : decode cX4_clearsUp 24 = .ok (.iadd, 1) := dk_96 (dk_at dksX4_clearsUp_1 0 rfl rfl)
theorem dX4_clearsUp_25 : decode cX4_clearsUp 25 = .ok (.istore 10, 2) := dk_54 10 (dk_at dksX4_clearsUp_1 1 rfl rfl)
theorem dX4_clearsUp_27 : decode cX4_clearsUp 27 = .ok (.iload 10, 2) := dk_21 10 (dk_at dksX4_clearsUp_1 3 rfl rfl)
theorem dX4_clearsUp_29 : decode cX4_clearsUp 29 = .ok (.iload_n 1, 1) := dk_27 (dk_at dksX4_clearsUp_1 5 rfl rfl)
theorem dX4_clearsUp_30 : decode cX4_clearsUp 30 = .ok (.if_icmp .ge 38, 3) := dk_162 0 38 (dk_at dksX4_clearsUp_1 6 rfl rfl)
theorem dX4_clearsUp_33 : decode cX4_clearsUp 33 = .ok (.lload 8, 2) := dk_22 8 (dk_at dksX4_clearsUp_1 9 rfl rfl)
theorem dX4_clearsUp_35 : decode cX4_clearsUp 35 = .ok (.aload_n 0, 1) := dk_42 (dk_at dksX4_clearsUp_1 11 rfl rfl)
theorem dX4_clearsUp_36 : decode cX4_clearsUp 36 = .ok (.getfield 11, 3) := dk_180 0 11 (dk_at dksX4_clearsUp_1 12 rfl rfl)
theorem dX4_clearsUp_39 : decode cX4_clearsUp 39 = .ok (.iload 7, 2) := dk_21 7 (dk_at dksX4_clearsUp_1 15 rfl rfl)
theorem dX4_clearsUp_41 : decode cX4_clearsUp 41 = .ok (.aaload, 1) := dk_50 (dk_at dksX4_clearsUp_1 17 rfl rfl)
theorem dX4_clearsUp_42 : decode cX4_clearsUp 42 = .ok (.iload 10, 2) := dk_21 10 (dk_at dksX4_clearsUp_1 18 rfl rfl)
theorem dX4_clearsUp_44 : decode cX4_clearsUp 44 = .ok (.laload, 1) := dk_47 (dk_at dksX4_clearsUp_1 20 rfl rfl)
theorem dX4_clearsUp_45 : decode cX4_clearsUp 45 = .ok (.aload 6, 2) := dk_25 6 (dk_at dksX4_clearsUp_1 21 rfl rfl)
theorem dX4_clearsUp_47 : decode cX4_clearsUp 47 = .ok (.iload 10, 2) := dk_21 10 (dk_at dksX4_clearsUp_2 0 rfl rfl)
theorem dX4_clearsUp_49 : decode cX4_clearsUp 49 = .ok (.laload, 1) := dk_47 (dk_at dksX4_clearsUp_2 2 rfl rfl)
theorem dX4_clearsUp_50 : decode cX4_clearsUp 50 = .ok (.lmul, 1) := dk_105 (dk_at dksX4_clearsUp_2 3 rfl rfl)
theorem dX4_clearsUp_51 : decode cX4_clearsUp 51 = .ok (.lload 4, 2) := dk_22 4 (dk_at dksX4_clearsUp_2 4 rfl rfl)
theorem dX4_clearsUp_53 : decode cX4_clearsUp 53 = .ok (.lrem, 1) := dk_113 (dk_at dksX4_clearsUp_2 6 rfl rfl)
theorem dX4_clearsUp_54 : decode cX4_clearsUp 54 = .ok (.lsub, 1) := dk_101 (dk_at dksX4_clearsUp_2 7 rfl rfl)
theorem dX4_clearsUp_55 : decode cX4_clearsUp 55 = .ok (.lload 4, 2) := dk_22 4 (dk_at dksX4_clearsUp_2 8 rfl rfl)
theorem dX4_clearsUp_57 : decode cX4_clearsUp 57 = .ok (.invokestatic 37, 3) := dk_184 0 37 (dk_at dksX4_clearsUp_2 10 rfl rfl)
theorem dX4_clearsUp_60 : decode cX4_clearsUp 60 = .ok (.lstore 8, 2) := dk_55 8 (dk_at dksX4_clearsUp_2 13 rfl rfl)
theorem dX4_clearsUp_62 : decode cX4_clearsUp 62 = .ok (.iinc 10 1, 3) := dk_132 10 1 (dk_at dksX4_clearsUp_2 15 rfl rfl)
theorem dX4_clearsUp_65 : decode cX4_clearsUp 65 = .ok (.goto (-38), 3) := dk_167 255 218 (dk_at dksX4_clearsUp_2 18 rfl rfl)
theorem dX4_clearsUp_68 : decode cX4_clearsUp 68 = .ok (.aload 6, 2) := dk_25 6 (dk_at dksX4_clearsUp_2 21 rfl rfl)
theorem dX4_clearsUp_70 : decode cX4_clearsUp 70 = .ok (.iload 7, 2) := dk_21 7 (dk_at dksX4_clearsUp_3 0 rfl rfl)
theorem dX4_clearsUp_72 : decode cX4_clearsUp 72 = .ok (.lload 8, 2) := dk_22 8 (dk_at dksX4_clearsUp_3 2 rfl rfl)
theorem dX4_clearsUp_74 : decode cX4_clearsUp 74 = .ok (.aload_n 0, 1) := dk_42 (dk_at dksX4_clearsUp_3 4 rfl rfl)
theorem dX4_clearsUp_75 : decode cX4_clearsUp 75 = .ok (.getfield 11, 3) := dk_180 0 11 (dk_at dksX4_clearsUp_3 5 rfl rfl)
theorem dX4_clearsUp_78 : decode cX4_clearsUp 78 = .ok (.iload 7, 2) := dk_21 7 (dk_at dksX4_clearsUp_3 8 rfl rfl)
theorem dX4_clearsUp_80 : decode cX4_clearsUp 80 = .ok (.aaload, 1) := dk_50 (dk_at dksX4_clearsUp_3 10 rfl rfl)
theorem dX4_clearsUp_81 : decode cX4_clearsUp 81 = .ok (.iload 7, 2) := dk_21 7 (dk_at dksX4_clearsUp_3 11 rfl rfl)
theorem dX4_clearsUp_83 : decode cX4_clearsUp 83 = .ok (.laload, 1) := dk_47 (dk_at dksX4_clearsUp_3 13 rfl rfl)
theorem dX4_clearsUp_84 : decode cX4_clearsUp 84 = .ok (.lload 4, 2) := dk_22 4 (dk_at dksX4_clearsUp_3 14 rfl rfl)
theorem dX4_clearsUp_86 : decode cX4_clearsUp 86 = .ok (.ldc2_w 55, 3) := dk_20 0 55 (dk_at dksX4_clearsUp_3 16 rfl rfl)
theorem dX4_clearsUp_89 : decode cX4_clearsUp 89 = .ok (.lsub, 1) := dk_101 (dk_at dksX4_clearsUp_3 19 rfl rfl)
theorem dX4_clearsUp_90 : decode cX4_clearsUp 90 = .ok (.lload 4, 2) := dk_22 4 (dk_at dksX4_clearsUp_3 20 rfl rfl)
theorem dX4_clearsUp_92 : decode cX4_clearsUp 92 = .ok (.invokestatic 22, 3) := dk_184 0 22 (dk_at dksX4_clearsUp_4 0 rfl rfl)
theorem dX4_clearsUp_95 : decode cX4_clearsUp 95 = .ok (.lmul, 1) := dk_105 (dk_at dksX4_clearsUp_4 3 rfl rfl)
theorem dX4_clearsUp_96 : decode cX4_clearsUp 96 = .ok (.lload 4, 2) := dk_22 4 (dk_at dksX4_clearsUp_4 4 rfl rfl)
theorem dX4_clearsUp_98 : decode cX4_clearsUp 98 = .ok (.lrem, 1) := dk_113 (dk_at dksX4_clearsUp_4 6 rfl rfl)
theorem dX4_clearsUp_99 : decode cX4_clearsUp 99 = .ok (.lastore, 1) := dk_80 (dk_at dksX4_clearsUp_4 7 rfl rfl)
theorem dX4_clearsUp_100 : decode cX4_clearsUp 100 = .ok (.iinc 7 (-1), 3) := dk_132 7 255 (dk_at dksX4_clearsUp_4 8 rfl rfl)
theorem dX4_clearsUp_103 : decode cX4_clearsUp 103 = .ok (.goto (-98), 3) := dk_167 255 158 (dk_at dksX4_clearsUp_4 11 rfl rfl)
theorem dX4_clearsUp_106 : decode cX4_clearsUp 106 = .ok (.iconst 0, 1) := dk_3 (dk_at dksX4_clearsUp_4 14 rfl rfl)
theorem dX4_clearsUp_107 : decode cX4_clearsUp 107 = .ok (.istore 7, 2) := dk_54 7 (dk_at dksX4_clearsUp_4 15 rfl rfl)
theorem dX4_clearsUp_109 : decode cX4_clearsUp 109 = .ok (.iload 7, 2) := dk_21 7 (dk_at dksX4_clearsUp_4 17 rfl rfl)
theorem dX4_clearsUp_111 : decode cX4_clearsUp 111 = .ok (.iload_n 1, 1) := dk_27 (dk_at dksX4_clearsUp_4 19 rfl rfl)
theorem dX4_clearsUp_112 : decode cX4_clearsUp 112 = .ok (.if_icmp .ge 24, 3) := dk_162 0 24 (dk_at dksX4_clearsUp_4 20 rfl rfl)
theorem dX4_clearsUp_115 : decode cX4_clearsUp 115 = .ok (.aload 6, 2) := dk_25 6 (dk_at dksX4_clearsUp_5 0 rfl rfl)
theorem dX4_clearsUp_117 : decode cX4_clearsUp 117 = .ok (.iload 7, 2) := dk_21 7 (dk_at dksX4_clearsUp_5 2 rfl rfl)
theorem dX4_clearsUp_119 : decode cX4_clearsUp 119 = .ok (.aload 6, 2) := dk_25 6 (dk_at dksX4_clearsUp_5 4 rfl rfl)
theorem dX4_clearsUp_121 : decode cX4_clearsUp 121 = .ok (.iload 7, 2) := dk_21 7 (dk_at dksX4_clearsUp_5 6 rfl rfl)
theorem dX4_clearsUp_123 : decode cX4_clearsUp 123 = .ok (.laload, 1) := dk_47 (dk_at dksX4_clearsUp_5 8 rfl rfl)
theorem dX4_clearsUp_124 : decode cX4_clearsUp 124 = .ok (.lload_n 2, 1) := dk_32 (dk_at dksX4_clearsUp_5 9 rfl rfl)
theorem dX4_clearsUp_125 : decode cX4_clearsUp 125 = .ok (.lmul, 1) := dk_105 (dk_at dksX4_clearsUp_5 10 rfl rfl)
theorem dX4_clearsUp_126 : decode cX4_clearsUp 126 = .ok (.lload 4, 2) := dk_22 4 (dk_at dksX4_clearsUp_5 11 rfl rfl)
theorem dX4_clearsUp_128 : decode cX4_clearsUp 128 = .ok (.lrem, 1) := dk_113 (dk_at dksX4_clearsUp_5 13 rfl rfl)
theorem dX4_clearsUp_129 : decode cX4_clearsUp 129 = .ok (.lastore, 1) := dk_80 (dk_at dksX4_clearsUp_5 14 rfl rfl)
theorem dX4_clearsUp_130 : decode cX4_clearsUp 130 = .ok (.iinc 7 1, 3) := dk_132 7 1 (dk_at dksX4_clearsUp_5 15 rfl rfl)
theorem dX4_clearsUp_133 : decode cX4_clearsUp 133 = .ok (.goto (-24), 3) := dk_167 255 232 (dk_at dksX4_clearsUp_5 18 rfl rfl)
theorem dX4_clearsUp_136 : decode cX4_clearsUp 136 = .ok (.return_, 1) := dk_177 (dk_at dksX4_clearsUp_5 21 rfl rfl)
def dkwX5_init_1 : List UInt8 := [181, 0, 13, 177]
abbrev dktX5_init_1 : List UInt8 := dkwX5_init_1 ++ []
def dkwX5_init_0 : List UInt8 := [42, 183, 0, 3, 42, 27, 153, 0, 11, 16, 6, 189, 0, 9, 167, 0, 8, 16, 6, 189, 0, 11]
abbrev dktX5_init_0 : List UInt8 := dkwX5_init_0 ++ dktX5_init_1
theorem dksX5_init_0 : cX5_init.data.toList.drop 0 = dktX5_init_0 := by decide +kernel
theorem dksX5_init_1 : cX5_init.data.toList.drop 22 = dktX5_init_1 := dk_seg dksX5_init_0 22 rfl rfl
theorem dX5_init_0 : decode cX5_init 0 = .ok (.aload_n 0, 1) := dk_42 (dk_at dksX5_init_0 0 rfl rfl)
theorem dX5_init_1 : decode cX5_init 1 = .ok (.invokespecial 3, 3) := dk_183 0 3 (dk_at dksX5_init_0 1 rfl rfl)
theorem dX5_init_4 : decode cX5_init 4 = .ok (.aload_n 0, 1) := dk_42 (dk_at dksX5_init_0 4 rfl rfl)
theorem dX5_init_5 : decode cX5_init 5 = .ok (.iload_n 1, 1) := dk_27 (dk_at dksX5_init_0 5 rfl rfl)
theorem dX5_init_6 : decode cX5_init 6 = .ok (.ifCond .eq 11, 3) := dk_153 0 11 (dk_at dksX5_init_0 6 rfl rfl)
theorem dX5_init_9 : decode cX5_init 9 = .ok (.bipush 6, 2) := dk_16 6 (dk_at dksX5_init_0 9 rfl rfl)
theorem dX5_init_11 : decode cX5_init 11 = .ok (.anewarray 9, 3) := dk_189 0 9 (dk_at dksX5_init_0 11 rfl rfl)
theorem dX5_init_14 : decode cX5_init 14 = .ok (.goto 8, 3) := dk_167 0 8 (dk_at dksX5_init_0 14 rfl rfl)
theorem dX5_init_17 : decode cX5_init 17 = .ok (.bipush 6, 2) := dk_16 6 (dk_at dksX5_init_0 17 rfl rfl)
theorem dX5_init_19 : decode cX5_init 19 = .ok (.anewarray 11, 3) := dk_189 0 11 (dk_at dksX5_init_0 19 rfl rfl)
theorem dX5_init_22 : decode cX5_init 22 = .ok (.putfield 13, 3) := dk_181 0 13 (dk_at dksX5_init_1 0 rfl rfl)
theorem dX5_init_25 : decode cX5_init 25 = .ok (.return_, 1) := dk_177 (dk_at dksX5_init_1 3 rfl rfl)
def dkwX5_firstEmpty_1 : List UInt8 := [167, 255, 236, 2, 172]
abbrev dktX5_firstEmpty_1 : List UInt8 := dkwX5_firstEmpty_1 ++ []
def dkwX5_firstEmpty_0 : List UInt8 := [3, 60, 27, 16, 6, 162, 0, 20, 42, 180, 0, 13, 27, 50, 199, 0, 5, 27, 172, 132, 1, 1]
abbrev dktX5_firstEmpty_0 : List UInt8 := dkwX5_firstEmpty_0 ++ dktX5_firstEmpty_1
theorem dksX5_firstEmpty_0 : cX5_firstEmpty.data.toList.drop 0 = dktX5_firstEmpty_0 := by decide +kernel
theorem dksX5_firstEmpty_1 : cX5_firstEmpty.data.toList.drop 22 = dktX5_firstEmpty_1 := dk_seg dksX5_firstEmpty_0 22 rfl rfl
theorem dX5_firstEmpty_0 : decode cX5_firstEmpty 0 = .ok (.iconst 0, 1) := dk_3 (dk_at dksX5_firstEmpty_0 0 rfl rfl)
theorem dX5_firstEmpty_1 : decode cX5_firstEmpty 1 = .ok (.istore_n 1, 1) := dk_60 (dk_at dksX5_firstEmpty_0 1 rfl rfl)
theorem dX5_firstEmpty_2 : decode cX5_firstEmpty 2 = .ok (.iload_n 1, 1) := dk_27 (dk_at dksX5_firstEmpty_0 2 rfl rfl)
theorem dX5_firstEmpty_3 : decode cX5_firstEmpty 3 = .ok (.bipush 6, 2) := dk_16 6 (dk_at dksX5_firstEmpty_0 3 rfl rfl)
theorem dX5_firstEmpty_5 : decode cX5_firstEmpty 5 = .ok (.if_icmp .ge 20, 3) := dk_162 0 20 (dk_at dksX5_firstEmpty_0 5 rfl rfl)
theorem dX5_firstEmpty_8 : decode cX5_firstEmpty 8 = .ok (.aload_n 0, 1) := dk_42 (dk_at dksX5_firstEmpty_0 8 rfl rfl)
theorem dX5_firstEmpty_9 : decode cX5_firstEmpty 9 = .ok (.getfield 13, 3) := dk_180 0 13 (dk_at dksX5_firstEmpty_0 9 rfl rfl)
theorem dX5_firstEmpty_12 : decode cX5_firstEmpty 12 = .ok (.iload_n 1, 1) := dk_27 (dk_at dksX5_firstEmpty_0 12 rfl rfl)
theorem dX5_firstEmpty_13 : decode cX5_firstEmpty 13 = .ok (.aaload, 1) := dk_50 (dk_at dksX5_firstEmpty_0 13 rfl rfl)
theorem dX5_firstEmpty_14 : decode cX5_firstEmpty 14 = .ok (.ifnonnull 5, 3) := dk_199 0 5 (dk_at dksX5_firstEmpty_0 14 rfl rfl)
theorem dX5_firstEmpty_17 : decode cX5_firstEmpty 17 = .ok (.iload_n 1, 1) := dk_27 (dk_at dksX5_firstEmpty_0 17 rfl rfl)
theorem dX5_firstEmpty_18 : decode cX5_firstEmpty 18 = .ok (.ireturn, 1) := dk_172 (dk_at dksX5_firstEmpty_0 18 rfl rfl)
theorem dX5_firstEmpty_19 : decode cX5_firstEmpty 19 = .ok (.iinc 1 1, 3) := dk_132 1 1 (dk_at dksX5_firstEmpty_0 19 rfl rfl)
theorem dX5_firstEmpty_22 : decode cX5_firstEmpty 22 = .ok (.goto (-20), 3) := dk_167 255 236 (dk_at dksX5_firstEmpty_1 0 rfl rfl)
theorem dX5_firstEmpty_25 : decode cX5_firstEmpty 25 = .ok (.iconst (-1), 1) := dk_2 (dk_at dksX5_firstEmpty_1 3 rfl rfl)
theorem dX5_firstEmpty_26 : decode cX5_firstEmpty 26 = .ok (.ireturn, 1) := dk_172 (dk_at dksX5_firstEmpty_1 4 rfl rfl)
def dkwX5_puts_0 : List UInt8 := [42, 180, 0, 13, 27, 44, 83, 4, 172, 78, 3, 172]
abbrev dktX5_puts_0 : List UInt8 := dkwX5_puts_0 ++ []
theorem dksX5_puts_0 : cX5_puts.data.toList.drop 0 = dktX5_puts_0 := by decide +kernel
theorem dX5_puts_0 : decode cX5_puts 0 = .ok (.aload_n 0, 1) := dk_42 (dk_at dksX5_puts_0 0 rfl rfl)
theorem dX5_puts_1 : decode cX5_puts 1 = .ok (.getfield 13, 3) := dk_180 0 13 (dk_at dksX5_puts_0 1 rfl rfl)
theorem dX5_puts_4 : decode cX5_puts 4 = .ok (.iload_n 1, 1) := dk_27 (dk_at dksX5_puts_0 4 rfl rfl)
theorem dX5_puts_5 : decode cX5_puts 5 = .ok (.aload_n 2, 1) := dk_44 (dk_at dksX5_puts_0 5 rfl rfl)
theorem dX5_puts_6 : decode cX5_puts 6 = .ok (.aastore, 1) := dk_83 (dk_at dksX5_puts_0 6 rfl rfl)
theorem dX5_puts_7 : decode cX5_puts 7 = .ok (.iconst 1, 1) := dk_4 (dk_at dksX5_puts_0 7 rfl rfl)
theorem dX5_puts_8 : decode cX5_puts 8 = .ok (.ireturn, 1) := dk_172 (dk_at dksX5_puts_0 8 rfl rfl)
theorem dX5_puts_9 : decode cX5_puts 9 = .ok (.astore_n 3, 1) := dk_78 (dk_at dksX5_puts_0 9 rfl rfl)
theorem dX5_puts_10 : decode cX5_puts 10 = .ok (.iconst 0, 1) := dk_3 (dk_at dksX5_puts_0 10 rfl rfl)
theorem dX5_puts_11 : decode cX5_puts 11 = .ok (.ireturn, 1) := dk_172 (dk_at dksX5_puts_0 11 rfl rfl)
def dkwX5_sizeOf_2 : List UInt8 := [180, 0, 25, 172]
abbrev dktX5_sizeOf_2 : List UInt8 := dkwX5_sizeOf_2 ++ []
def dkwX5_sizeOf_1 : List UInt8 := [42, 180, 0, 13, 27, 50, 199, 0, 7, 3, 167, 0, 15, 42, 180, 0, 13, 27, 50, 192, 0, 9]
abbrev dktX5_sizeOf_1 : List UInt8 := dkwX5_sizeOf_1 ++ dktX5_sizeOf_2
def dkwX5_sizeOf_0 : List UInt8 := [42, 180, 0, 13, 27, 50, 78, 45, 193, 0, 11, 153, 0, 13, 45, 192, 0, 11, 77, 44, 180, 0, 21, 172]
abbrev dktX5_sizeOf_0 : List UInt8 := dkwX5_sizeOf_0 ++ dktX5_sizeOf_1
theorem dksX5_sizeOf_0 : cX5_sizeOf.data.toList.drop 0 = dktX5_sizeOf_0 := by decide +kernel
theorem dksX5_sizeOf_1 : cX5_sizeOf.data.toList.drop 24 = dktX5_sizeOf_1 := dk_seg dksX5_sizeOf_0 24 rfl rfl
theorem dksX5_sizeOf_2 : cX5_sizeOf.data.toList.drop 46 = dktX5_sizeOf_2 := dk_seg dksX5_sizeOf_1 22 rfl rfl
theorem dX5_sizeOf_0 : decode cX5_sizeOf 0 = .ok (.aload_n 0, 1) := dk_42 (dk_at dksX5_sizeOf_0 0 rfl rfl)
theorem dX5_sizeOf_1 : decode cX5_sizeOf 1 = .ok (.getfield 13, 3) := dk_180 0 13 (dk_at dksX5_sizeOf_0 1 rfl rfl)
theorem dX5_sizeOf_4 : decode cX5_sizeOf 4 = .ok (.iload_n 1, 1) := dk_27 (dk_at dksX5_sizeOf_0 4 rfl rfl)
theorem dX5_sizeOf_5 : decode cX5_sizeOf 5 = .ok (.aaload, 1) := dk_50 (dk_at dksX5_sizeOf_0 5 rfl rfl)
theorem dX5_sizeOf_6 : decode cX5_sizeOf 6 = .ok (.astore_n 3, 1) := dk_78 (dk_at dksX5_sizeOf_0 6 rfl rfl)
theorem dX5_sizeOf_7 : decode cX5_sizeOf 7 = .ok (.aload_n 3, 1) := dk_45 (dk_at dksX5_sizeOf_0 7 rfl rfl)
theorem dX5_sizeOf_8 : decode cX5_sizeOf 8 = .ok (.instanceof 11, 3) := dk_193 0 11 (dk_at dksX5_sizeOf_0 8 rfl rfl)
theorem dX5_sizeOf_11 : decode cX5_sizeOf 11 = .ok (.ifCond .eq 13, 3) := dk_153 0 13 (dk_at dksX5_sizeOf_0 11 rfl rfl)
theorem dX5_sizeOf_14 : decode cX5_sizeOf 14 = .ok (.aload_n 3, 1) := dk_45 (dk_at dksX5_sizeOf_0 14 rfl rfl)
theorem dX5_sizeOf_15 : decode cX5_sizeOf 15 = .ok (.checkcast 11, 3) := dk_192 0 11 (dk_at dksX5_sizeOf_0 15 rfl rfl)
theorem dX5_sizeOf_18 : decode cX5_sizeOf 18 = .ok (.astore_n 2, 1) := dk_77 (dk_at dksX5_sizeOf_0 18 rfl rfl)
theorem dX5_sizeOf_19 : decode cX5_sizeOf 19 = .ok (.aload_n 2, 1) := dk_44 (dk_at dksX5_sizeOf_0 19 rfl rfl)
theorem dX5_sizeOf_20 : decode cX5_sizeOf 20 = .ok (.getfield 21, 3) := dk_180 0 21 (dk_at dksX5_sizeOf_0 20 rfl rfl)
theorem dX5_sizeOf_23 : decode cX5_sizeOf 23 = .ok (.ireturn, 1) := dk_172 (dk_at dksX5_sizeOf_0 23 rfl rfl)
theorem dX5_sizeOf_24 : decode cX5_sizeOf 24 = .ok (.aload_n 0, 1) := dk_42 (dk_at dksX5_sizeOf_1 0 rfl rfl)
theorem dX5_sizeOf_25 : decode cX5_sizeOf 25 = .ok (.getfield 13, 3) := dk_180 0 13 (dk_at dksX5_sizeOf_1 1 rfl rfl)
theorem dX5_sizeOf_28 : decode cX5_sizeOf 28 = .ok (.iload_n 1, 1) := dk_27 (dk_at dksX5_sizeOf_1 4 rfl rfl)
theorem dX5_sizeOf_29 : decode cX5_sizeOf 29 = .ok (.aaload, 1) := dk_50 (dk_at dksX5_sizeOf_1 5 rfl rfl)
theorem dX5_sizeOf_30 : decode cX5_sizeOf 30 = .ok (.ifnonnull 7, 3) := dk_199 0 7 (dk_at dksX5_sizeOf_1 6 rfl rfl)
theorem dX5_sizeOf_33 : decode cX5_sizeOf 33 = .ok (.iconst 0, 1) := dk_3 (dk_at dksX5_sizeOf_1 9 rfl rfl)
theorem dX5_sizeOf_34 : decode cX5_sizeOf 34 = .ok (.goto 15, 3) := dk_167 0 15 (dk_at dksX5_sizeOf_1 10 rfl rfl)
theorem dX5_sizeOf_37 : decode cX5_sizeOf 37 = .ok (.aload_n 0, 1) := dk_42 (dk_at dksX5_sizeOf_1 13 rfl rfl)
theorem dX5_sizeOf_38 : decode cX5_sizeOf 38 = .ok (.getfield 13, 3) := dk_180 0 13 (dk_at dksX5_sizeOf_1 14 rfl rfl)
theorem dX5_sizeOf_41 : decode cX5_sizeOf 41 = .ok (.iload_n 1, 1) := dk_27 (dk_at dksX5_sizeOf_1 17 rfl rfl)
theorem dX5_sizeOf_42 : decode cX5_sizeOf 42 = .ok (.aaload, 1) := dk_50 (dk_at dksX5_sizeOf_1 18 rfl rfl)
theorem dX5_sizeOf_43 : decode cX5_sizeOf 43 = .ok (.checkcast 9, 3) := dk_192 0 9 (dk_at dksX5_sizeOf_1 19 rfl rfl)
theorem dX5_sizeOf_46 : decode cX5_sizeOf 46 = .ok (.getfield 25, 3) := dk_180 0 25 (dk_at dksX5_sizeOf_2 0 rfl rfl)
theorem dX5_sizeOf_49 : decode cX5_sizeOf 49 = .ok (.ireturn, 1) := dk_172 (dk_at dksX5_sizeOf_2 3 rfl rfl)
def dkwX5_empties_0 : List UInt8 := [42, 180, 0, 13, 27, 1, 83, 177]
abbrev dktX5_empties_0 : List UInt8 := dkwX5_empties_0 ++ []
theorem dksX5_empties_0 : cX5_empties.data.toList.drop 0 = dktX5_empties_0 := by decide +kernel
theorem dX5_empties_0 : decode cX5_empties 0 = .ok (.aload_n 0, 1) := dk_42 (dk_at dksX5_empties_0 0 rfl rfl)
theorem dX5_empties_1 : decode cX5_empties 1 = .ok (.getfield 13, 3) := dk_180 0 13 (dk_at dksX5_empties_0 1 rfl rfl)
theorem dX5_empties_4 : decode cX5_empties 4 = .ok (.iload_n 1, 1) := dk_27 (dk_at dksX5_empties_0 4 rfl rfl)
theorem dX5_empties_5 : decode cX5_empties 5 = .ok (.aconst_null, 1) := dk_1 (dk_at dksX5_empties_0 5 rfl rfl)
theorem dX5_empties_6 : decode cX5_empties 6 = .ok (.aastore, 1) := dk_83 (dk_at dksX5_empties_0 6 rfl rfl)
theorem dX5_empties_7 : decode cX5_empties 7 = .ok (.return_, 1) := dk_177 (dk_at dksX5_empties_0 7 rfl rfl)
def dkwX7_init_1 : List UInt8 := [181, 0, 24, 42, 28, 181, 0, 28, 42, 182, 0, 32, 177]
abbrev dktX7_init_1 : List UInt8 := dkwX7_init_1 ++ []
def dkwX7_init_0 : List UInt8 := [42, 43, 181, 0, 3, 42, 183, 0, 9, 42, 187, 0, 15, 89, 183, 0, 17, 181, 0, 18, 42, 18, 22]
abbrev dktX7_init_0 : List UInt8 := dkwX7_init_0 ++ dktX7_init_1
theorem dksX7_init_0 : cX7_init.data.toList.drop 0 = dktX7_init_0 := by decide +kernel
theorem dksX7_init_1 : cX7_init.data.toList.drop 23 = dktX7_init_1 := dk_seg dksX7_init_0 23 rfl rfl
theorem dX7_init_0 : decode cX7_init 0 = .ok (.aload_n 0, 1) := dk_42 (dk_at dksX7_init_0 0 rfl rfl)
theorem dX7_init_1 : decode cX7_init 1 = .ok (.aload_n 1, 1) := dk_43 (dk_at dksX7_init_0 1 rfl rfl)
theorem dX7_init_2 : decode cX7_init 2 = .ok (.putfield 3, 3) := dk_181 0 3 (dk_at dksX7_init_0 2 rfl rfl)
theorem dX7_init_5 : decode cX7_init 5 = .ok (.aload_n 0, 1) := dk_42 (dk_at dksX7_init_0 5 rfl rfl)
theorem dX7_init_6 : decode cX7_init 6 = .ok (.invokespecial 9, 3) := dk_183 0 9 (dk_at dksX7_init_0 6 rfl rfl)
theorem dX7_init_9 : decode cX7_init 9 = .ok (.aload_n 0, 1) := dk_42 (dk_at dksX7_init_0 9 rfl rfl)
theorem dX7_init_10 : decode cX7_init 10 = .ok (.new 15, 3) := dk_187 0 15 (dk_at dksX7_init_0 10 rfl rfl)
theorem dX7_init_13 : decode cX7_init 13 = .ok (.dup, 1) := dk_89 (dk_at dksX7_init_0 13 rfl rfl)
theorem dX7_init_14 : decode cX7_init 14 = .ok (.invokespecial 17, 3) := dk_183 0 17 (dk_at dksX7_init_0 14 rfl rfl)
theorem dX7_init_17 : decode cX7_init 17 = .ok (.putfield 18, 3) := dk_181 0 18 (dk_at dksX7_init_0 17 rfl rfl)
theorem dX7_init_20 : decode cX7_init 20 = .ok (.aload_n 0, 1) := dk_42 (dk_at dksX7_init_0 20 rfl rfl)
theorem dX7_init_21 : decode cX7_init 21 = .ok (.ldc 22, 2) := dk_18 22 (dk_at dksX7_init_0 21 rfl rfl)
theorem dX7_init_23 : decode cX7_init 23 = .ok (.putfield 24, 3) := dk_181 0 24 (dk_at dksX7_init_1 0 rfl rfl)
theorem dX7_init_26 : decode cX7_init 26 = .ok (.aload_n 0, 1) := dk_42 (dk_at dksX7_init_1 3 rfl rfl)
theorem dX7_init_27 : decode cX7_init 27 = .ok (.iload_n 2, 1) := dk_28 (dk_at dksX7_init_1 4 rfl rfl)
theorem dX7_init_28 : decode cX7_init 28 = .ok (.putfield 28, 3) := dk_181 0 28 (dk_at dksX7_init_1 5 rfl rfl)
theorem dX7_init_31 : decode cX7_init 31 = .ok (.aload_n 0, 1) := dk_42 (dk_at dksX7_init_1 8 rfl rfl)
theorem dX7_init_32 : decode cX7_init 32 = .ok (.invokevirtual 32, 3) := dk_182 0 32 (dk_at dksX7_init_1 9 rfl rfl)
theorem dX7_init_35 : decode cX7_init 35 = .ok (.return_, 1) := dk_177 (dk_at dksX7_init_1 12 rfl rfl)
def dkwX7_go_12 : List UInt8 := [178, 0, 92, 167, 0, 6, 178, 0, 95, 181, 0, 55, 42, 89, 180, 0, 39, 4, 96, 181, 0, 39, 177]
abbrev dktX7_go_12 : List UInt8 := dkwX7_go_12 ++ []
def dkwX7_go_11 : List UInt8 := [96, 181, 0, 39, 167, 255, 190, 42, 178, 0, 89, 181, 0, 55, 167, 0, 32, 42, 27, 16, 59, 160, 0, 9]
abbrev dktX7_go_11 : List UInt8 := dkwX7_go_11 ++ dktX7_go_12
def dkwX7_go_10 : List UInt8 := [180, 0, 39, 182, 0, 42, 96, 16, 48, 100, 167, 0, 5, 18, 88, 181, 0, 85, 42, 89, 180, 0, 39, 4]
abbrev dktX7_go_10 : List UInt8 := dkwX7_go_10 ++ dktX7_go_11
def dkwX7_go_9 : List UInt8 := [42, 180, 0, 39, 42, 180, 0, 46, 100, 7, 162, 0, 25, 16, 10, 42, 180, 0, 85, 104, 42, 42]
abbrev dktX7_go_9 : List UInt8 := dkwX7_go_9 ++ dktX7_go_10
def dkwX7_go_8 : List UInt8 := [153, 0, 87, 42, 3, 181, 0, 85, 42, 42, 42, 180, 0, 39, 182, 0, 42, 182, 0, 82, 153, 0, 57, 42]
abbrev dktX7_go_8 : List UInt8 := dkwX7_go_8 ++ dktX7_go_9
def dkwX7_go_7 : List UInt8 := [42, 44, 182, 0, 75, 181, 0, 24, 42, 178, 0, 79, 181, 0, 55, 167, 0, 124, 42, 27, 182, 0, 82]
abbrev dktX7_go_7 : List UInt8 := dkwX7_go_7 ++ dktX7_go_8
def dkwX7_go_6 : List UInt8 := [180, 0, 39, 182, 0, 42, 146, 182, 0, 71, 87, 42, 89, 180, 0, 39, 4, 96, 181, 0, 39, 167, 255, 208]
abbrev dktX7_go_6 : List UInt8 := dkwX7_go_6 ++ dktX7_go_7
def dkwX7_go_5 : List UInt8 := [180, 0, 39, 182, 0, 42, 182, 0, 58, 153, 0, 39, 44, 182, 0, 67, 16, 7, 162, 0, 17, 44, 42, 42]
abbrev dktX7_go_5 : List UInt8 := dkwX7_go_5 ++ dktX7_go_6
def dkwX7_go_4 : List UInt8 := [167, 0, 211, 42, 27, 182, 0, 58, 153, 0, 82, 187, 0, 62, 89, 16, 7, 183, 0, 64, 77, 42, 42, 42]
abbrev dktX7_go_4 : List UInt8 := dkwX7_go_4 ++ dktX7_go_5
def dkwX7_go_3 : List UInt8 := [182, 0, 42, 60, 42, 180, 0, 39, 42, 180, 0, 28, 161, 0, 13, 42, 178, 0, 49, 181, 0, 55]
abbrev dktX7_go_3 : List UInt8 := dkwX7_go_3 ++ dktX7_go_4
def dkwX7_go_2 : List UInt8 := [167, 255, 209, 42, 42, 180, 0, 39, 181, 0, 46, 42, 18, 22, 181, 0, 24, 42, 42, 180, 0, 39]
abbrev dktX7_go_2 : List UInt8 := dkwX7_go_2 ++ dktX7_go_3
def dkwX7_go_1 : List UInt8 := [42, 42, 180, 0, 39, 182, 0, 42, 16, 10, 160, 0, 16, 42, 89, 180, 0, 39, 4, 96, 181, 0, 39]
abbrev dktX7_go_1 : List UInt8 := dkwX7_go_1 ++ dktX7_go_2
def dkwX7_go_0 : List UInt8 := [42, 180, 0, 39, 42, 180, 0, 28, 162, 0, 42, 42, 42, 180, 0, 39, 182, 0, 42, 16, 32, 159, 0, 16]
abbrev dktX7_go_0 : List UInt8 := dkwX7_go_0 ++ dktX7_go_1
theorem dksX7_go_0 : cX7_go.data.toList.drop 0 = dktX7_go_0 := by decide +kernel
theorem dksX7_go_1 : cX7_go.data.toList.drop 24 = dktX7_go_1 := dk_seg dksX7_go_0 24 rfl rfl
theorem dksX7_go_2 : cX7_go.data.toList.drop 47 = dktX7_go_2 := dk_seg dksX7_go_1 23 rfl rfl
theorem dksX7_go_3 : cX7_go.data.toList.drop 69 = dktX7_go_3 := dk_seg dksX7_go_2 22 rfl rfl
theorem dksX7_go_4 : cX7_go.data.toList.drop 91 = dktX7_go_4 := dk_seg dksX7_go_3 22 rfl rfl
theorem dksX7_go_5 : cX7_go.data.toList.drop 115 = dktX7_go_5 := dk_seg dksX7_go_4 24 rfl rfl
theorem dksX7_go_6 : cX7_go.data.toList.drop 139 = dktX7_go_6 := dk_seg dksX7_go_5 24 rfl rfl
theorem dksX7_go_7 : cX7_go.data.toList.drop 163 = dktX7_go_7 := dk_seg dksX7_go_6 24 rfl rfl
theorem dksX7_go_8 : cX7_go.data.toList.drop 186 = dktX7_go_8 := dk_seg dksX7_go_7 23 rfl rfl
theorem dksX7_go_9 : cX7_go.data.toList.drop 210 = dktX7_go_9 := dk_seg dksX7_go_8 24 rfl rfl
theorem dksX7_go_10 : cX7_go.data.toList.drop 232 = dktX7_go_10 := dk_seg dksX7_go_9 22 rfl rfl
theorem dksX7_go_11 : cX7_go.data.toList.drop 256 = dktX7_go_11 := dk_seg dksX7_go_10 24 rfl rfl
theorem dksX7_go_12 : cX7_go.data.toList.drop 280 = dktX7_go_12 := dk_seg dksX7_go_11 24 rfl rfl
theorem dX7_go_0 : decode cX7_go 0 = .ok (.aload_n 0, 1) := dk_42 (dk_at dksX7_go_0 0 rfl rfl)
theorem dX7_go_1 : decode cX7_go 1 = .ok (.getfield 39, 3) := dk_180 0 39 (dk_at dksX7_go_0 1 rfl rfl)
theorem dX7_go_4 : decode cX7_go 4 = .ok (.aload_n 0, 1) := dk_42 (dk_at dksX7_go_0 4 rfl rfl)
theorem dX7_go_5 : decode cX7_go 5 = .ok (.getfield 28, 3) := dk_180 0 28 (dk_at dksX7_go_0 5 rfl rfl)
theorem dX7_go_8 : decode cX7_go 8 = .ok (.if_icmp .ge 42, 3) := dk_162 0 42 (dk_at dksX7_go_0 8 rfl rfl)
theorem dX7_go_11 : decode cX7_go 11 = .ok (.aload_n 0, 1) := dk_42 (dk_at dksX7_go_0 11 rfl rfl)
theorem dX7_go_12 : decode cX7_go 12 = .ok (.aload_n 0, 1) := dk_42 (dk_at dksX7_go_0 12 rfl rfl)
theorem dX7_go_13 : decode cX7_go 13 = .ok (.getfield 39, 3) := dk_180 0 39 (dk_at dksX7_go_0 13 rfl rfl)
theorem dX7_go_16 : decode cX7_go 16 = .ok (.invokevirtual 42, 3) := dk_182 0 42 (dk_at dksX7_go_0 16 rfl rfl)
theorem dX7_go_19 : decode cX7_go 19 = .ok (.bipush 32, 2) := dk_16 32 (dk_at dksX7_go_0 19 rfl rfl)
theorem dX7_go_21 : decode cX7_go 21 = .ok (.if_icmp .eq 16, 3) := dk_159 0 16 (dk_at dksX7_go_0 21 rfl rfl)
theorem dX7_go_24 : decode cX7_go 24 = .ok (.aload_n 0, 1) := dk_42 (dk_at dksX7_go_1 0 rfl rfl)
theorem dX7_go_25 : decode cX7_go 25 = .ok (.aload_n 0, 1) := dk_42 (dk_at dksX7_go_1 1 rfl rfl)
theorem dX7_go_26 : decode cX7_go 26 = .ok (.getfield 39, 3) := dk_180 0 39 (dk_at dksX7_go_1 2 rfl rfl)
theorem dX7_go_29 : decode cX7_go 29 = .ok (.invokevirtual 42, 3) := dk_182 0 42 (dk_at dksX7_go_1 5 rfl rfl)
theorem dX7_go_32 : decode cX7_go 32 = .ok (.bipush 10, 2) := dk_16 10 (dk_at dksX7_go_1 8 rfl rfl)
theorem dX7_go_34 : decode cX7_go 34 = .ok (.if_icmp .ne 16, 3) := dk_160 0 16 (dk_at dksX7_go_1 10 rfl rfl)
theorem dX7_go_37 : decode cX7_go 37 = .ok (.aload_n 0, 1) := dk_42 (dk_at dksX7_go_1 13 rfl rfl)
theorem dX7_go_38 : decode cX7_go 38 = .ok (.dup, 1) := dk_89 (dk_at dksX7_go_1 14 rfl rfl)
theorem dX7_go_39 : decode cX7_go 39 = .ok (.getfield 39, 3) := dk_180 0 39 (dk_at dksX7_go_1 15 rfl rfl)
theorem dX7_go_42 : decode cX7_go 42 = .ok (.iconst 1, 1) := dk_4 (dk_at dksX7_go_1 18 rfl rfl)
theorem dX7_go_43 : decode cX7_go 43 = .ok (.iadd, 1) := dk_96 (dk_at dksX7_go_1 19 rfl rfl)
theorem dX7_go_44 : decode cX7_go 44 = .ok (.putfield 39, 3) := dk_181 0 39 (dk_at dksX7_go_1 20 rfl rfl)
theorem dX7_go_47 : decode cX7_go 47 = .ok (.goto (-47), 3) := dk_167 255 209 (dk_at dksX7_go_2 0 rfl rfl)
theorem dX7_go_50 : decode cX7_go 50 = .ok (.aload_n 0, 1) := dk_42 (dk_at dksX7_go_2 3 rfl rfl)
theorem dX7_go_51 : decode cX7_go 51 = .ok (.aload_n 0, 1) := dk_42 (dk_at dksX7_go_2 4 rfl rfl)
theorem dX7_go_52 : decode cX7_go 52 = .ok (.getfield 39, 3) := dk_180 0 39 (dk_at dksX7_go_2 5 rfl rfl)
theorem dX7_go_55 : decode cX7_go 55 = .ok (.putfield 46, 3) := dk_181 0 46 (dk_at dksX7_go_2 8 rfl rfl)
theorem dX7_go_58 : decode cX7_go 58 = .ok (.aload_n 0, 1) := dk_42 (dk_at dksX7_go_2 11 rfl rfl)
theorem dX7_go_59 : decode cX7_go 59 = .ok (.ldc 22, 2) := dk_18 22 (dk_at dksX7_go_2 12 rfl rfl)
theorem dX7_go_61 : decode cX7_go 61 = .ok (.putfield 24, 3) := dk_181 0 24 (dk_at dksX7_go_2 14 rfl rfl)
theorem dX7_go_64 : decode cX7_go 64 = .ok (.aload_n 0, 1) := dk_42 (dk_at dksX7_go_2 17 rfl rfl)
theorem dX7_go_65 : decode cX7_go 65 = .ok (.aload_n 0, 1) := dk_42 (dk_at dksX7_go_2 18 rfl rfl)
theorem dX7_go_66 : decode cX7_go 66 = .ok (.getfield 39, 3) := dk_180 0 39 (dk_at dksX7_go_2 19 rfl rfl)
theorem dX7_go_69 : decode cX7_go 69 = .ok (.invokevirtual 42, 3) := dk_182 0 42 (dk_at dksX7_go_3 0 rfl rfl)
theorem dX7_go_72 : decode cX7_go 72 = .ok (.istore_n 1, 1) := dk_60 (dk_at dksX7_go_3 3 rfl rfl)
theorem dX7_go_73 : decode cX7_go 73 = .ok (.aload_n 0, 1) := dk_42 (dk_at dksX7_go_3 4 rfl rfl)
theorem dX7_go_74 : decode cX7_go 74 = .ok (.getfield 39, 3) := dk_180 0 39 (dk_at dksX7_go_3 5 rfl rfl)
theorem dX7_go_77 : decode cX7_go 77 = .ok (.aload_n 0, 1) := dk_42 (dk_at dksX7_go_3 8 rfl rfl)
theorem dX7_go_78 : decode cX7_go 78 = .ok (.getfield 28, 3) := dk_180 0 28 (dk_at dksX7_go_3 9 rfl rfl)
theorem dX7_go_81 : decode cX7_go 81 = .ok (.if_icmp .lt 13, 3) := dk_161 0 13 (dk_at dksX7_go_3 12 rfl rfl)
theorem dX7_go_84 : decode cX7_go 84 = .ok (.aload_n 0, 1) := dk_42 (dk_at dksX7_go_3 15 rfl rfl)
theorem dX7_go_85 : decode cX7_go 85 = .ok (.getstatic 49, 3) := dk_178 0 49 (dk_at dksX7_go_3 16 rfl rfl)
theorem dX7_go_88 : decode cX7_go 88 = .ok (.putfield 55, 3) := dk_181 0 55 (dk_at dksX7_go_3 19 rfl rfl)
theorem dX7_go_91 : decode cX7_go 91 = .ok (.goto 211, 3) := dk_167 0 211 (dk_at dksX7_go_4 0 rfl rfl)
theorem dX7_go_94 : decode cX7_go 94 = .ok (.aload_n 0, 1) := dk_42 (dk_at dksX7_go_4 3 rfl rfl)
theorem dX7_go_95 : decode cX7_go 95 = .ok (.iload_n 1, 1) := dk_27 (dk_at dksX7_go_4 4 rfl rfl)
theorem dX7_go_96 : decode cX7_go 96 = .ok (.invokevirtual 58, 3) := dk_182 0 58 (dk_at dksX7_go_4 5 rfl rfl)
theorem dX7_go_99 : decode cX7_go 99 = .ok (.ifCond .eq 82, 3) := dk_153 0 82 (dk_at dksX7_go_4 8 rfl rfl)
theorem dX7_go_102 : decode cX7_go 102 = .ok (.new 62, 3) := dk_187 0 62 (dk_at dksX7_go_4 11 rfl rfl)
theorem dX7_go_105 : decode cX7_go 105 = .ok (.dup, 1) := dk_89 (dk_at dksX7_go_4 14 rfl rfl)
theorem dX7_go_106 : decode cX7_go 106 = .ok (.bipush 7, 2) := dk_16 7 (dk_at dksX7_go_4 15 rfl rfl)
theorem dX7_go_108 : decode cX7_go 108 = .ok (.invokespecial 64, 3) := dk_183 0 64 (dk_at dksX7_go_4 17 rfl rfl)
theorem dX7_go_111 : decode cX7_go 111 = .ok (.astore_n 2, 1) := dk_77 (dk_at dksX7_go_4 20 rfl rfl)
theorem dX7_go_112 : decode cX7_go 112 = .ok (.aload_n 0, 1) := dk_42 (dk_at dksX7_go_4 21 rfl rfl)
theorem dX7_go_113 : decode cX7_go 113 = .ok (.aload_n 0, 1) := dk_42 (dk_at dksX7_go_4 22 rfl rfl)
theorem dX7_go_114 : decode cX7_go 114 = .ok (.aload_n 0, 1) := dk_42 (dk_at dksX7_go_4 23 rfl rfl)
theorem dX7_go_115 : decode cX7_go 115 = .ok (.getfield 39, 3) := dk_180 0 39 (dk_at dksX7_go_5 0 rfl rfl)
theorem dX7_go_118 : decode cX7_go 118 = .ok (.invokevirtual 42, 3) := dk_182 0 42 (dk_at dksX7_go_5 3 rfl rfl)
theorem dX7_go_121 : decode cX7_go 121 = .ok (.invokevirtual 58, 3) := dk_182 0 58 (dk_at dksX7_go_5 6 rfl rfl)
theorem dX7_go_124 : decode cX7_go 124 = .ok (.ifCond .eq 39, 3) := dk_153 0 39 (dk_at dksX7_go_5 9 rfl rfl)
theorem dX7_go_127 : decode cX7_go 127 = .ok (.aload_n 2, 1) := dk_44 (dk_at dksX7_go_5 12 rfl rfl)
theorem dX7_go_128 : decode cX7_go 128 = .ok (.invokevirtual 67, 3) := dk_182 0 67 (dk_at dksX7_go_5 13 rfl rfl)
theorem dX7_go_131 : decode cX7_go 131 = .ok (.bipush 7, 2) := dk_16 7 (dk_at dksX7_go_5 16 rfl rfl)
theorem dX7_go_133 : decode cX7_go 133 = .ok (.if_icmp .ge 17, 3) := dk_162 0 17 (dk_at dksX7_go_5 18 rfl rfl)
theorem dX7_go_136 : decode cX7_go 136 = .ok (.aload_n 2, 1) := dk_44 (dk_at dksX7_go_5 21 rfl rfl)
theorem dX7_go_137 : decode cX7_go 137 = .ok (.aload_n 0, 1) := dk_42 (dk_at dksX7_go_5 22 rfl rfl)
theorem dX7_go_138 : decode cX7_go 138 = .ok (.aload_n 0, 1) := dk_42 (dk_at dksX7_go_5 23 rfl rfl)
theorem dX7_go_139 : decode cX7_go 139 = .ok (.getfield 39, 3) := dk_180 0 39 (dk_at dksX7_go_6 0 rfl rfl)
theorem dX7_go_142 : decode cX7_go 142 = .ok (.invokevirtual 42, 3) := dk_182 0 42 (dk_at dksX7_go_6 3 rfl rfl)
theorem dX7_go_145 : decode cX7_go 145 = .ok (.i2c, 1) := dk_146 (dk_at dksX7_go_6 6 rfl rfl)
theorem dX7_go_146 : decode cX7_go 146 = .ok (.invokevirtual 71, 3) := dk_182 0 71 (dk_at dksX7_go_6 7 rfl rfl)
theorem dX7_go_149 : decode cX7_go 149 = .ok (.pop, 1) := dk_87 (dk_at dksX7_go_6 10 rfl rfl)
theorem dX7_go_150 : decode cX7_go 150 = .ok (.aload_n 0, 1) := dk_42 (dk_at dksX7_go_6 11 rfl rfl)
theorem dX7_go_151 : decode cX7_go 151 = .ok (.dup, 1) := dk_89 (dk_at dksX7_go_6 12 rfl rfl)
theorem dX7_go_152 : decode cX7_go 152 = .ok (.getfield 39, 3) := dk_180 0 39 (dk_at dksX7_go_6 13 rfl rfl)
theorem dX7_go_155 : decode cX7_go 155 = .ok (.iconst 1, 1) := dk_4 (dk_at dksX7_go_6 16 rfl rfl)
theorem dX7_go_156 : decode cX7_go 156 = .ok (.iadd, 1) := dk_96 (dk_at dksX7_go_6 17 rfl rfl)
theorem dX7_go_157 : decode cX7_go 157 = .ok (.putfield 39, 3) := dk_181 0 39 (dk_at dksX7_go_6 18 rfl rfl)
theorem dX7_go_160 : decode cX7_go 160 = .ok (.goto (-48), 3) := dk_167 255 208 (dk_at dksX7_go_6 21 rfl rfl)
theorem dX7_go_163 : decode cX7_go 163 = .ok (.aload_n 0, 1) := dk_42 (dk_at dksX7_go_7 0 rfl rfl)
theorem dX7_go_164 : decode cX7_go 164 = .ok (.aload_n 2, 1) := dk_44 (dk_at dksX7_go_7 1 rfl rfl)
theorem dX7_go_165 : decode cX7_go 165 = .ok (.invokevirtual 75, 3) := dk_182 0 75 (dk_at dksX7_go_7 2 rfl rfl)
theorem dX7_go_168 : decode cX7_go 168 = .ok (.putfield 24, 3) := dk_181 0 24 (dk_at dksX7_go_7 5 rfl rfl)
theorem dX7_go_171 : decode cX7_go 171 = .ok (.aload_n 0, 1) := dk_42 (dk_at dksX7_go_7 8 rfl rfl)
theorem dX7_go_172 : decode cX7_go 172 = .ok (.getstatic 79, 3) := dk_178 0 79 (dk_at dksX7_go_7 9 rfl rfl)
theorem dX7_go_175 : decode cX7_go 175 = .ok (.putfield 55, 3) := dk_181 0 55 (dk_at dksX7_go_7 12 rfl rfl)
theorem dX7_go_178 : decode cX7_go 178 = .ok (.goto 124, 3) := dk_167 0 124 (dk_at dksX7_go_7 15 rfl rfl)
theorem dX7_go_181 : decode cX7_go 181 = .ok (.aload_n 0, 1) := dk_42 (dk_at dksX7_go_7 18 rfl rfl)
theorem dX7_go_182 : decode cX7_go 182 = .ok (.iload_n 1, 1) := dk_27 (dk_at dksX7_go_7 19 rfl rfl)
theorem dX7_go_183 : decode cX7_go 183 = .ok (.invokevirtual 82, 3) := dk_182 0 82 (dk_at dksX7_go_7 20 rfl rfl)
theorem dX7_go_186 : decode cX7_go 186 = .ok (.ifCond .eq 87, 3) := dk_153 0 87 (dk_at dksX7_go_8 0 rfl rfl)
theorem dX7_go_189 : decode cX7_go 189 = .ok (.aload_n 0, 1) := dk_42 (dk_at dksX7_go_8 3 rfl rfl)
theorem dX7_go_190 : decode cX7_go 190 = .ok (.iconst 0, 1) := dk_3 (dk_at dksX7_go_8 4 rfl rfl)
theorem dX7_go_191 : decode cX7_go 191 = .ok (.putfield 85, 3) := dk_181 0 85 (dk_at dksX7_go_8 5 rfl rfl)
theorem dX7_go_194 : decode cX7_go 194 = .ok (.aload_n 0, 1) := dk_42 (dk_at dksX7_go_8 8 rfl rfl)
theorem dX7_go_195 : decode cX7_go 195 = .ok (.aload_n 0, 1) := dk_42 (dk_at dksX7_go_8 9 rfl rfl)
theorem dX7_go_196 : decode cX7_go 196 = .ok (.aload_n 0, 1) := dk_42 (dk_at dksX7_go_8 10 rfl rfl)
theorem dX7_go_197 : decode cX7_go 197 = .ok (.getfield 39, 3) := dk_180 0 39 (dk_at dksX7_go_8 11 rfl rfl)
theorem dX7_go_200 : decode cX7_go 200 = .ok (.invokevirtual 42, 3) := dk_182 0 42 (dk_at dksX7_go_8 14 rfl rfl)
theorem dX7_go_203 : decode cX7_go 203 = .ok (.invokevirtual 82, 3) := dk_182 0 82 (dk_at dksX7_go_8 17 rfl rfl)
theorem dX7_go_206 : decode cX7_go 206 = .ok (.ifCond .eq 57, 3) := dk_153 0 57 (dk_at dksX7_go_8 20 rfl rfl)
theorem dX7_go_209 : decode cX7_go 209 = .ok (.aload_n 0, 1) := dk_42 (dk_at dksX7_go_8 23 rfl rfl)
theorem dX7_go_210 : decode cX7_go 210 = .ok (.aload_n 0, 1) := dk_42 (dk_at dksX7_go_9 0 rfl rfl)
theorem dX7_go_211 : decode cX7_go 211 = .ok (.getfield 39, 3) := dk_180 0 39 (dk_at dksX7_go_9 1 rfl rfl)
theorem dX7_go_214 : decode cX7_go 214 = .ok (.aload_n 0, 1) := dk_42 (dk_at dksX7_go_9 4 rfl rfl)
theorem dX7_go_215 : decode cX7_go 215 = .ok (.getfield 46, 3) := dk_180 0 46 (dk_at dksX7_go_9 5 rfl rfl)
theorem dX7_go_218 : decode cX7_go 218 = .ok (.isub, 1) := dk_100 (dk_at dksX7_go_9 8 rfl rfl)
theorem dX7_go_219 : decode cX7_go 219 = .ok (.iconst 4, 1) := dk_7 (dk_at dksX7_go_9 9 rfl rfl)
theorem dX7_go_220 : decode cX7_go 220 = .ok (.if_icmp .ge 25, 3) := dk_162 0 25 (dk_at dksX7_go_9 10 rfl rfl)
theorem dX7_go_223 : decode cX7_go 223 = .ok (.bipush 10, 2) := dk_16 10 (dk_at dksX7_go_9 13 rfl rfl)
theorem dX7_go_225 : decode cX7_go 225 = .ok (.aload_n 0, 1) := dk_42 (dk_at dksX7_go_9 15 rfl rfl)
theorem dX7_go_226 : decode cX7_go 226 = .ok (.getfield 85, 3) := dk_180 0 85 (dk_at dksX7_go_9 16 rfl rfl)
theorem dX7_go_229 : decode cX7_go 229 = .ok (.imul, 1) := dk_104 (dk_at dksX7_go_9 19 rfl rfl)
theorem dX7_go_230 : decode cX7_go 230 = .ok (.aload_n 0, 1) := dk_42 (dk_at dksX7_go_9 20 rfl rfl)
theorem dX7_go_231 : decode cX7_go 231 = .ok (.aload_n 0, 1) := dk_42 (dk_at dksX7_go_9 21 rfl rfl)
theorem dX7_go_232 : decode cX7_go 232 = .ok (.getfield 39, 3) := dk_180 0 39 (dk_at dksX7_go_10 0 rfl rfl)
theorem dX7_go_235 : decode cX7_go 235 = .ok (.invokevirtual 42, 3) := dk_182 0 42 (dk_at dksX7_go_10 3 rfl rfl)
theorem dX7_go_238 : decode cX7_go 238 = .ok (.iadd, 1) := dk_96 (dk_at dksX7_go_10 6 rfl rfl)
theorem dX7_go_239 : decode cX7_go 239 = .ok (.bipush 48, 2) := dk_16 48 (dk_at dksX7_go_10 7 rfl rfl)
theorem dX7_go_241 : decode cX7_go 241 = .ok (.isub, 1) := dk_100 (dk_at dksX7_go_10 9 rfl rfl)
theorem dX7_go_242 : decode cX7_go 242 = .ok (.goto 5, 3) := dk_167 0 5 (dk_at dksX7_go_10 10 rfl rfl)
theorem dX7_go_245 : decode cX7_go 245 = .ok (.ldc 88, 2) := dk_18 88 (dk_at dksX7_go_10 13 rfl rfl)
theorem dX7_go_247 : decode cX7_go 247 = .ok (.putfield 85, 3) := dk_181 0 85 (dk_at dksX7_go_10 15 rfl rfl)
theorem dX7_go_250 : decode cX7_go 250 = .ok (.aload_n 0, 1) := dk_42 (dk_at dksX7_go_10 18 rfl rfl)
theorem dX7_go_251 : decode cX7_go 251 = .ok (.dup, 1) := dk_89 (dk_at dksX7_go_10 19 rfl rfl)
theorem dX7_go_252 : decode cX7_go 252 = .ok (.getfield 39, 3) := dk_180 0 39 (dk_at dksX7_go_10 20 rfl rfl)
theorem dX7_go_255 : decode cX7_go 255 = .ok (.iconst 1, 1) := dk_4 (dk_at dksX7_go_10 23 rfl rfl)
theorem dX7_go_256 : decode cX7_go 256 = .ok (.iadd, 1) := dk_96 (dk_at dksX7_go_11 0 rfl rfl)
theorem dX7_go_257 : decode cX7_go 257 = .ok (.putfield 39, 3) := dk_181 0 39 (dk_at dksX7_go_11 1 rfl rfl)
theorem dX7_go_260 : decode cX7_go 260 = .ok (.goto (-66), 3) := dk_167 255 190 (dk_at dksX7_go_11 4 rfl rfl)
theorem dX7_go_263 : decode cX7_go 263 = .ok (.aload_n 0, 1) := dk_42 (dk_at dksX7_go_11 7 rfl rfl)
theorem dX7_go_264 : decode cX7_go 264 = .ok (.getstatic 89, 3) := dk_178 0 89 (dk_at dksX7_go_11 8 rfl rfl)
theorem dX7_go_267 : decode cX7_go 267 = .ok (.putfield 55, 3) := dk_181 0 55 (dk_at dksX7_go_11 11 rfl rfl)
theorem dX7_go_270 : decode cX7_go 270 = .ok (.goto 32, 3) := dk_167 0 32 (dk_at dksX7_go_11 14 rfl rfl)
theorem dX7_go_273 : decode cX7_go 273 = .ok (.aload_n 0, 1) := dk_42 (dk_at dksX7_go_11 17 rfl rfl)
theorem dX7_go_274 : decode cX7_go 274 = .ok (.iload_n 1, 1) := dk_27 (dk_at dksX7_go_11 18 rfl rfl)
theorem dX7_go_275 : decode cX7_go 275 = .ok (.bipush 59, 2) := dk_16 59 (dk_at dksX7_go_11 19 rfl rfl)
theorem dX7_go_277 : decode cX7_go 277 = .ok (.if_icmp .ne 9, 3) := dk_160 0 9 (dk_at dksX7_go_11 21 rfl rfl)
theorem dX7_go_280 : decode cX7_go 280 = .ok (.getstatic 92, 3) := dk_178 0 92 (dk_at dksX7_go_12 0 rfl rfl)
theorem dX7_go_283 : decode cX7_go 283 = .ok (.goto 6, 3) := dk_167 0 6 (dk_at dksX7_go_12 3 rfl rfl)
theorem dX7_go_286 : decode cX7_go 286 = .ok (.getstatic 95, 3) := dk_178 0 95 (dk_at dksX7_go_12 6 rfl rfl)
theorem dX7_go_289 : decode cX7_go 289 = .ok (.putfield 55, 3) := dk_181 0 55 (dk_at dksX7_go_12 9 rfl rfl)
theorem dX7_go_292 : decode cX7_go 292 = .ok (.aload_n 0, 1) := dk_42 (dk_at dksX7_go_12 12 rfl rfl)
theorem dX7_go_293 : decode cX7_go 293 = .ok (.dup, 1) := dk_89 (dk_at dksX7_go_12 13 rfl rfl)
theorem dX7_go_294 : decode cX7_go 294 = .ok (.getfield 39, 3) := dk_180 0 39 (dk_at dksX7_go_12 14 rfl rfl)
theorem dX7_go_297 : decode cX7_go 297 = .ok (.iconst 1, 1) := dk_4 (dk_at dksX7_go_12 17 rfl rfl)
theorem dX7_go_298 : decode cX7_go 298 = .ok (.iadd, 1) := dk_96 (dk_at dksX7_go_12 18 rfl rfl)
theorem dX7_go_299 : decode cX7_go 299 = .ok (.putfield 39, 3) := dk_181 0 39 (dk_at dksX7_go_12 19 rfl rfl)
theorem dX7_go_302 : decode cX7_go 302 = .ok (.return_, 1) := dk_177 (dk_at dksX7_go_12 22 rfl rfl)
