-- ===== PART A: goes FIRST, ahead of the names: the tables' words, and 'selects' of the private methods out of them =====
/-- a private method of a class that the tables say can be made, by its rows of tables_1 -/
def lw_okq (q : MethodName × Nat) : Prop := (q.1.cls ≠ "java/lang/invoke/MethodHandle" ∧ q.1.cls ≠ "java/lang/invoke/VarHandle") ∧ Cond.instantiable q.1.cls q.2 ∈ tables_1 ∧ Cond.privateMethod q.1 ∈ tables_1 ∧ Cond.instanceMethod q.1 ∈ tables_1
set_option maxRecDepth 100000
theorem lw_t1 {w : Cond} (h : w ∈ tables_1_1) : w ∈ tables_1 := List.mem_append_left _ h
theorem lw_t2 {w : Cond} (h : w ∈ tables_1_2) : w ∈ tables_1 := List.mem_append_right _ (List.mem_append_left _ h)
theorem lw_t3 {w : Cond} (h : w ∈ tables_1_3) : w ∈ tables_1 := List.mem_append_right _ (List.mem_append_right _ (List.mem_append_left _ h))
theorem lw_t4 {w : Cond} (h : w ∈ tables_1_4) : w ∈ tables_1 := List.mem_append_right _ (List.mem_append_right _ (List.mem_append_right _ (List.mem_append_left _ h)))
theorem lw_t5 {w : Cond} (h : w ∈ tables_1_5) : w ∈ tables_1 := List.mem_append_right _ (List.mem_append_right _ (List.mem_append_right _ (List.mem_append_right _ (List.mem_append_left _ h))))
theorem lw_t6 {w : Cond} (h : w ∈ tables_1_6) : w ∈ tables_1 := List.mem_append_right _ (List.mem_append_right _ (List.mem_append_right _ (List.mem_append_right _ (List.mem_append_right _ (List.mem_append_left _ h)))))
theorem lw_t7 {w : Cond} (h : w ∈ tables_1_7) : w ∈ tables_1 := List.mem_append_right _ (List.mem_append_right _ (List.mem_append_right _ (List.mem_append_right _ (List.mem_append_right _ (List.mem_append_right _ (List.mem_append_left _ h))))))
theorem lw_t8 {w : Cond} (h : w ∈ tables_1_8) : w ∈ tables_1 := List.mem_append_right _ (List.mem_append_right _ (List.mem_append_right _ (List.mem_append_right _ (List.mem_append_right _ (List.mem_append_right _ (List.mem_append_right _ (List.mem_append_left _ h)))))))
theorem lw_t9 {w : Cond} (h : w ∈ tables_1_9) : w ∈ tables_1 := List.mem_append_right _ (List.mem_append_right _ (List.mem_append_right _ (List.mem_append_right _ (List.mem_append_right _ (List.mem_append_right _ (List.mem_append_right _ (List.mem_append_right _ h)))))))
theorem lw_p0 : lw_okq (⟨"EarthMesh", "lambda$new$0", "(I)J"⟩, 18) := ⟨⟨by decide +kernel, by decide +kernel⟩, lw_t1 (List.mem_of_getElem? (i := 38) rfl), lw_t1 (List.mem_of_getElem? (i := 176) rfl), lw_t1 (List.mem_of_getElem? (i := 177) rfl)⟩
theorem lw_p1 : lw_okq (⟨"EarthMesh", "step", "(II)J"⟩, 18) := ⟨⟨by decide +kernel, by decide +kernel⟩, lw_t1 (List.mem_of_getElem? (i := 38) rfl), lw_t1 (List.mem_of_getElem? (i := 180) rfl), lw_t1 (List.mem_of_getElem? (i := 181) rfl)⟩
theorem lw_p2 : lw_okq (⟨"EarthMesh", "hasNext", "(II)Z"⟩, 18) := ⟨⟨by decide +kernel, by decide +kernel⟩, lw_t1 (List.mem_of_getElem? (i := 38) rfl), lw_t1 (List.mem_of_getElem? (i := 184) rfl), lw_t1 (List.mem_of_getElem? (i := 185) rfl)⟩
theorem lw_p3 : lw_okq (⟨"EarthMesh", "pointColumns", "()I"⟩, 18) := ⟨⟨by decide +kernel, by decide +kernel⟩, lw_t1 (List.mem_of_getElem? (i := 38) rfl), lw_t1 (List.mem_of_getElem? (i := 188) rfl), lw_t1 (List.mem_of_getElem? (i := 189) rfl)⟩
theorem lw_p4 : lw_okq (⟨"EarthMesh", "nextPoint", "(II)I"⟩, 18) := ⟨⟨by decide +kernel, by decide +kernel⟩, lw_t1 (List.mem_of_getElem? (i := 38) rfl), lw_t1 (List.mem_of_getElem? (i := 192) rfl), lw_t1 (List.mem_of_getElem? (i := 193) rfl)⟩
theorem lw_p5 : lw_okq (⟨"EarthMesh", "ground", "(I)J"⟩, 18) := ⟨⟨by decide +kernel, by decide +kernel⟩, lw_t1 (List.mem_of_getElem? (i := 38) rfl), lw_t1 (List.mem_of_getElem? (i := 196) rfl), lw_t1 (List.mem_of_getElem? (i := 197) rfl)⟩
theorem lw_p6 : lw_okq (⟨"EarthMesh", "nearest", "(II)I"⟩, 18) := ⟨⟨by decide +kernel, by decide +kernel⟩, lw_t1 (List.mem_of_getElem? (i := 38) rfl), lw_t1 (List.mem_of_getElem? (i := 200) rfl), lw_t1 (List.mem_of_getElem? (i := 201) rfl)⟩
theorem lw_p7 : lw_okq (⟨"EarthMesh", "touch", "(I)J"⟩, 18) := ⟨⟨by decide +kernel, by decide +kernel⟩, lw_t1 (List.mem_of_getElem? (i := 38) rfl), lw_t1 (List.mem_of_getElem? (i := 207) rfl), lw_t1 (List.mem_of_getElem? (i := 208) rfl)⟩
theorem lw_p8 : lw_okq (⟨"EarthMesh", "refuses", "(I)I"⟩, 18) := ⟨⟨by decide +kernel, by decide +kernel⟩, lw_t1 (List.mem_of_getElem? (i := 38) rfl), lw_t2 (List.mem_of_getElem? (i := 52) rfl), lw_t2 (List.mem_of_getElem? (i := 53) rfl)⟩
theorem lw_p9 : lw_okq (⟨"EarthMesh", "lay", "(I)V"⟩, 18) := ⟨⟨by decide +kernel, by decide +kernel⟩, lw_t1 (List.mem_of_getElem? (i := 38) rfl), lw_t2 (List.mem_of_getElem? (i := 56) rfl), lw_t2 (List.mem_of_getElem? (i := 57) rfl)⟩
theorem lw_p10 : lw_okq (⟨"EarthMesh", "isNode", "(I)Z"⟩, 18) := ⟨⟨by decide +kernel, by decide +kernel⟩, lw_t1 (List.mem_of_getElem? (i := 38) rfl), lw_t2 (List.mem_of_getElem? (i := 68) rfl), lw_t2 (List.mem_of_getElem? (i := 69) rfl)⟩
theorem lw_p11 : lw_okq (⟨"EarthMesh", "bin", "(I)LEarthMesh$Bin;"⟩, 18) := ⟨⟨by decide +kernel, by decide +kernel⟩, lw_t1 (List.mem_of_getElem? (i := 38) rfl), lw_t2 (List.mem_of_getElem? (i := 91) rfl), lw_t2 (List.mem_of_getElem? (i := 92) rfl)⟩
theorem lw_p12 : lw_okq (⟨"java/lang/Throwable", "fillInStackTrace", "(I)Ljava/lang/Throwable;"⟩, 6) := ⟨⟨by decide +kernel, by decide +kernel⟩, lw_t2 (List.mem_of_getElem? (i := 155) rfl), lw_t2 (List.mem_of_getElem? (i := 153) rfl), lw_t2 (List.mem_of_getElem? (i := 154) rfl)⟩
theorem lw_p13 : lw_okq (⟨"EarthMesh$Reader", "go", "()V"⟩, 8) := ⟨⟨by decide +kernel, by decide +kernel⟩, lw_t3 (List.mem_of_getElem? (i := 3) rfl), lw_t3 (List.mem_of_getElem? (i := 12) rfl), lw_t3 (List.mem_of_getElem? (i := 13) rfl)⟩
theorem lw_p14 : lw_okq (⟨"EarthMesh$Reader", "byteAt", "(I)I"⟩, 8) := ⟨⟨by decide +kernel, by decide +kernel⟩, lw_t3 (List.mem_of_getElem? (i := 3) rfl), lw_t3 (List.mem_of_getElem? (i := 16) rfl), lw_t3 (List.mem_of_getElem? (i := 17) rfl)⟩
theorem lw_p15 : lw_okq (⟨"EarthMesh$Reader", "isLetter", "(I)Z"⟩, 8) := ⟨⟨by decide +kernel, by decide +kernel⟩, lw_t3 (List.mem_of_getElem? (i := 3) rfl), lw_t3 (List.mem_of_getElem? (i := 22) rfl), lw_t3 (List.mem_of_getElem? (i := 23) rfl)⟩
def lw_privs_1 : List (MethodName × Nat) := [(⟨"EarthMesh", "lambda$new$0", "(I)J"⟩, 18), (⟨"EarthMesh", "step", "(II)J"⟩, 18), (⟨"EarthMesh", "hasNext", "(II)Z"⟩, 18), (⟨"EarthMesh", "pointColumns", "()I"⟩, 18), (⟨"EarthMesh", "nextPoint", "(II)I"⟩, 18), (⟨"EarthMesh", "ground", "(I)J"⟩, 18), (⟨"EarthMesh", "nearest", "(II)I"⟩, 18), (⟨"EarthMesh", "touch", "(I)J"⟩, 18), (⟨"EarthMesh", "refuses", "(I)I"⟩, 18), (⟨"EarthMesh", "lay", "(I)V"⟩, 18), (⟨"EarthMesh", "isNode", "(I)Z"⟩, 18), (⟨"EarthMesh", "bin", "(I)LEarthMesh$Bin;"⟩, 18), (⟨"java/lang/Throwable", "fillInStackTrace", "(I)Ljava/lang/Throwable;"⟩, 6), (⟨"EarthMesh$Reader", "go", "()V"⟩, 8), (⟨"EarthMesh$Reader", "byteAt", "(I)I"⟩, 8), (⟨"EarthMesh$Reader", "isLetter", "(I)Z"⟩, 8)]
theorem lw_r1 : ∀ q ∈ lw_privs_1, lw_okq q := List.forall_mem_cons.mpr ⟨lw_p0, List.forall_mem_cons.mpr ⟨lw_p1, List.forall_mem_cons.mpr ⟨lw_p2, List.forall_mem_cons.mpr ⟨lw_p3, List.forall_mem_cons.mpr ⟨lw_p4, List.forall_mem_cons.mpr ⟨lw_p5, List.forall_mem_cons.mpr ⟨lw_p6, List.forall_mem_cons.mpr ⟨lw_p7, List.forall_mem_cons.mpr ⟨lw_p8, List.forall_mem_cons.mpr ⟨lw_p9, List.forall_mem_cons.mpr ⟨lw_p10, List.forall_mem_cons.mpr ⟨lw_p11, List.forall_mem_cons.mpr ⟨lw_p12, List.forall_mem_cons.mpr ⟨lw_p13, List.forall_mem_cons.mpr ⟨lw_p14, List.forall_mem_cons.mpr ⟨lw_p15, fun _ h => absurd h List.not_mem_nil⟩⟩⟩⟩⟩⟩⟩⟩⟩⟩⟩⟩⟩⟩⟩⟩
theorem lw_p16 : lw_okq (⟨"EarthMesh$Reader", "isDigit", "(I)Z"⟩, 8) := ⟨⟨by decide +kernel, by decide +kernel⟩, lw_t3 (List.mem_of_getElem? (i := 3) rfl), lw_t4 (List.mem_of_getElem? (i := 54) rfl), lw_t4 (List.mem_of_getElem? (i := 55) rfl)⟩
theorem lw_p17 : lw_okq (⟨"EarthMesh$Reader", "check", "(ZI)V"⟩, 8) := ⟨⟨by decide +kernel, by decide +kernel⟩, lw_t3 (List.mem_of_getElem? (i := 3) rfl), lw_t4 (List.mem_of_getElem? (i := 103) rfl), lw_t4 (List.mem_of_getElem? (i := 104) rfl)⟩
theorem lw_p18 : lw_okq (⟨"EarthMesh$Reader", "number", "(II)I"⟩, 8) := ⟨⟨by decide +kernel, by decide +kernel⟩, lw_t3 (List.mem_of_getElem? (i := 3) rfl), lw_t4 (List.mem_of_getElem? (i := 135) rfl), lw_t4 (List.mem_of_getElem? (i := 136) rfl)⟩
theorem lw_p19 : lw_okq (⟨"EarthMesh$Reader", "ends", "()V"⟩, 8) := ⟨⟨by decide +kernel, by decide +kernel⟩, lw_t3 (List.mem_of_getElem? (i := 3) rfl), lw_t4 (List.mem_of_getElem? (i := 139) rfl), lw_t4 (List.mem_of_getElem? (i := 140) rfl)⟩
theorem lw_p20 : lw_okq (⟨"EarthMesh$Reader", "clause", "()V"⟩, 8) := ⟨⟨by decide +kernel, by decide +kernel⟩, lw_t3 (List.mem_of_getElem? (i := 3) rfl), lw_t4 (List.mem_of_getElem? (i := 143) rfl), lw_t4 (List.mem_of_getElem? (i := 144) rfl)⟩
theorem lw_p21 : lw_okq (⟨"EarthMesh$Reader", "much", "(I)V"⟩, 8) := ⟨⟨by decide +kernel, by decide +kernel⟩, lw_t3 (List.mem_of_getElem? (i := 3) rfl), lw_t4 (List.mem_of_getElem? (i := 216) rfl), lw_t4 (List.mem_of_getElem? (i := 217) rfl)⟩
theorem lw_p22 : lw_okq (⟨"EarthMesh$Reader", "node", "(I)I"⟩, 8) := ⟨⟨by decide +kernel, by decide +kernel⟩, lw_t3 (List.mem_of_getElem? (i := 3) rfl), lw_t4 (List.mem_of_getElem? (i := 220) rfl), lw_t4 (List.mem_of_getElem? (i := 221) rfl)⟩
theorem lw_p23 : lw_okq (⟨"EarthMesh", "isSafe", "()Z"⟩, 18) := ⟨⟨by decide +kernel, by decide +kernel⟩, lw_t1 (List.mem_of_getElem? (i := 38) rfl), lw_t5 (List.mem_of_getElem? (i := 32) rfl), lw_t5 (List.mem_of_getElem? (i := 33) rfl)⟩
theorem lw_p24 : lw_okq (⟨"EarthMesh", "solves", "()V"⟩, 18) := ⟨⟨by decide +kernel, by decide +kernel⟩, lw_t1 (List.mem_of_getElem? (i := 38) rfl), lw_t5 (List.mem_of_getElem? (i := 37) rfl), lw_t5 (List.mem_of_getElem? (i := 38) rfl)⟩
theorem lw_p25 : lw_okq (⟨"EarthMesh$Determinant", "left", "([[JIIJ)J"⟩, 4) := ⟨⟨by decide +kernel, by decide +kernel⟩, lw_t1 (List.mem_of_getElem? (i := 119) rfl), lw_t5 (List.mem_of_getElem? (i := 67) rfl), lw_t5 (List.mem_of_getElem? (i := 68) rfl)⟩
theorem lw_p26 : lw_okq (⟨"EarthMesh$Determinant", "lays", "([[JIJ)V"⟩, 4) := ⟨⟨by decide +kernel, by decide +kernel⟩, lw_t1 (List.mem_of_getElem? (i := 119) rfl), lw_t5 (List.mem_of_getElem? (i := 71) rfl), lw_t5 (List.mem_of_getElem? (i := 72) rfl)⟩
theorem lw_p27 : lw_okq (⟨"EarthMesh$Determinant", "pivot", "(II)I"⟩, 4) := ⟨⟨by decide +kernel, by decide +kernel⟩, lw_t1 (List.mem_of_getElem? (i := 119) rfl), lw_t5 (List.mem_of_getElem? (i := 78) rfl), lw_t5 (List.mem_of_getElem? (i := 79) rfl)⟩
theorem lw_p28 : lw_okq (⟨"EarthMesh$Determinant", "swaps", "(II)V"⟩, 4) := ⟨⟨by decide +kernel, by decide +kernel⟩, lw_t1 (List.mem_of_getElem? (i := 119) rfl), lw_t5 (List.mem_of_getElem? (i := 82) rfl), lw_t5 (List.mem_of_getElem? (i := 83) rfl)⟩
theorem lw_p29 : lw_okq (⟨"EarthMesh$Determinant", "clears", "(IIIJJ)V"⟩, 4) := ⟨⟨by decide +kernel, by decide +kernel⟩, lw_t1 (List.mem_of_getElem? (i := 119) rfl), lw_t5 (List.mem_of_getElem? (i := 87) rfl), lw_t5 (List.mem_of_getElem? (i := 88) rfl)⟩
theorem lw_p30 : lw_okq (⟨"EarthMesh$Determinant", "both", "(JJ)J"⟩, 4) := ⟨⟨by decide +kernel, by decide +kernel⟩, lw_t1 (List.mem_of_getElem? (i := 119) rfl), lw_t5 (List.mem_of_getElem? (i := 91) rfl), lw_t5 (List.mem_of_getElem? (i := 92) rfl)⟩
theorem lw_p31 : lw_okq (⟨"EarthMesh$Determinant", "clearsUp", "(IJJ[J)V"⟩, 4) := ⟨⟨by decide +kernel, by decide +kernel⟩, lw_t1 (List.mem_of_getElem? (i := 119) rfl), lw_t5 (List.mem_of_getElem? (i := 105) rfl), lw_t5 (List.mem_of_getElem? (i := 106) rfl)⟩
def lw_privs_2 : List (MethodName × Nat) := [(⟨"EarthMesh$Reader", "isDigit", "(I)Z"⟩, 8), (⟨"EarthMesh$Reader", "check", "(ZI)V"⟩, 8), (⟨"EarthMesh$Reader", "number", "(II)I"⟩, 8), (⟨"EarthMesh$Reader", "ends", "()V"⟩, 8), (⟨"EarthMesh$Reader", "clause", "()V"⟩, 8), (⟨"EarthMesh$Reader", "much", "(I)V"⟩, 8), (⟨"EarthMesh$Reader", "node", "(I)I"⟩, 8), (⟨"EarthMesh", "isSafe", "()Z"⟩, 18), (⟨"EarthMesh", "solves", "()V"⟩, 18), (⟨"EarthMesh$Determinant", "left", "([[JIIJ)J"⟩, 4), (⟨"EarthMesh$Determinant", "lays", "([[JIJ)V"⟩, 4), (⟨"EarthMesh$Determinant", "pivot", "(II)I"⟩, 4), (⟨"EarthMesh$Determinant", "swaps", "(II)V"⟩, 4), (⟨"EarthMesh$Determinant", "clears", "(IIIJJ)V"⟩, 4), (⟨"EarthMesh$Determinant", "both", "(JJ)J"⟩, 4), (⟨"EarthMesh$Determinant", "clearsUp", "(IJJ[J)V"⟩, 4)]
theorem lw_r2 : ∀ q ∈ lw_privs_2, lw_okq q := List.forall_mem_cons.mpr ⟨lw_p16, List.forall_mem_cons.mpr ⟨lw_p17, List.forall_mem_cons.mpr ⟨lw_p18, List.forall_mem_cons.mpr ⟨lw_p19, List.forall_mem_cons.mpr ⟨lw_p20, List.forall_mem_cons.mpr ⟨lw_p21, List.forall_mem_cons.mpr ⟨lw_p22, List.forall_mem_cons.mpr ⟨lw_p23, List.forall_mem_cons.mpr ⟨lw_p24, List.forall_mem_cons.mpr ⟨lw_p25, List.forall_mem_cons.mpr ⟨lw_p26, List.forall_mem_cons.mpr ⟨lw_p27, List.forall_mem_cons.mpr ⟨lw_p28, List.forall_mem_cons.mpr ⟨lw_p29, List.forall_mem_cons.mpr ⟨lw_p30, List.forall_mem_cons.mpr ⟨lw_p31, fun _ h => absurd h List.not_mem_nil⟩⟩⟩⟩⟩⟩⟩⟩⟩⟩⟩⟩⟩⟩⟩⟩
theorem lw_p32 : lw_okq (⟨"EarthMesh", "isWithin", "(II)Z"⟩, 18) := ⟨⟨by decide +kernel, by decide +kernel⟩, lw_t1 (List.mem_of_getElem? (i := 38) rfl), lw_t5 (List.mem_of_getElem? (i := 113) rfl), lw_t5 (List.mem_of_getElem? (i := 114) rfl)⟩
theorem lw_p33 : lw_okq (⟨"EarthMesh", "most", "(I)I"⟩, 18) := ⟨⟨by decide +kernel, by decide +kernel⟩, lw_t1 (List.mem_of_getElem? (i := 38) rfl), lw_t5 (List.mem_of_getElem? (i := 117) rfl), lw_t5 (List.mem_of_getElem? (i := 118) rfl)⟩
theorem lw_p34 : lw_okq (⟨"EarthMesh", "points", "()I"⟩, 18) := ⟨⟨by decide +kernel, by decide +kernel⟩, lw_t1 (List.mem_of_getElem? (i := 38) rfl), lw_t5 (List.mem_of_getElem? (i := 121) rfl), lw_t5 (List.mem_of_getElem? (i := 122) rfl)⟩
theorem lw_p35 : lw_okq (⟨"EarthMesh", "missed", "()I"⟩, 18) := ⟨⟨by decide +kernel, by decide +kernel⟩, lw_t1 (List.mem_of_getElem? (i := 38) rfl), lw_t5 (List.mem_of_getElem? (i := 130) rfl), lw_t5 (List.mem_of_getElem? (i := 131) rfl)⟩
theorem lw_p36 : lw_okq (⟨"EarthMesh", "resistsWithout", "(II)LEarthMesh$Part;"⟩, 18) := ⟨⟨by decide +kernel, by decide +kernel⟩, lw_t1 (List.mem_of_getElem? (i := 38) rfl), lw_t5 (List.mem_of_getElem? (i := 134) rfl), lw_t5 (List.mem_of_getElem? (i := 135) rfl)⟩
theorem lw_p37 : lw_okq (⟨"EarthMesh", "resistsNow", "()LEarthMesh$Part;"⟩, 18) := ⟨⟨by decide +kernel, by decide +kernel⟩, lw_t1 (List.mem_of_getElem? (i := 38) rfl), lw_t5 (List.mem_of_getElem? (i := 138) rfl), lw_t5 (List.mem_of_getElem? (i := 139) rfl)⟩
theorem lw_p38 : lw_okq (⟨"EarthMesh", "resists", "(I)LEarthMesh$Part;"⟩, 18) := ⟨⟨by decide +kernel, by decide +kernel⟩, lw_t1 (List.mem_of_getElem? (i := 38) rfl), lw_t5 (List.mem_of_getElem? (i := 142) rfl), lw_t5 (List.mem_of_getElem? (i := 143) rfl)⟩
theorem lw_p39 : lw_okq (⟨"EarthMesh", "best", "()I"⟩, 18) := ⟨⟨by decide +kernel, by decide +kernel⟩, lw_t1 (List.mem_of_getElem? (i := 38) rfl), lw_t5 (List.mem_of_getElem? (i := 180) rfl), lw_t5 (List.mem_of_getElem? (i := 181) rfl)⟩
theorem lw_p40 : lw_okq (⟨"EarthMesh", "canAdd", "(II)Z"⟩, 18) := ⟨⟨by decide +kernel, by decide +kernel⟩, lw_t1 (List.mem_of_getElem? (i := 38) rfl), lw_t5 (List.mem_of_getElem? (i := 184) rfl), lw_t5 (List.mem_of_getElem? (i := 185) rfl)⟩
theorem lw_p41 : lw_okq (⟨"EarthMesh", "needed", "(Z)I"⟩, 18) := ⟨⟨by decide +kernel, by decide +kernel⟩, lw_t1 (List.mem_of_getElem? (i := 38) rfl), lw_t5 (List.mem_of_getElem? (i := 191) rfl), lw_t5 (List.mem_of_getElem? (i := 192) rfl)⟩
theorem lw_p42 : lw_okq (⟨"EarthMesh", "bars", "()I"⟩, 18) := ⟨⟨by decide +kernel, by decide +kernel⟩, lw_t1 (List.mem_of_getElem? (i := 38) rfl), lw_t5 (List.mem_of_getElem? (i := 195) rfl), lw_t5 (List.mem_of_getElem? (i := 196) rfl)⟩
theorem lw_p43 : lw_okq (⟨"EarthMesh", "rods", "()I"⟩, 18) := ⟨⟨by decide +kernel, by decide +kernel⟩, lw_t1 (List.mem_of_getElem? (i := 38) rfl), lw_t5 (List.mem_of_getElem? (i := 199) rfl), lw_t5 (List.mem_of_getElem? (i := 200) rfl)⟩
theorem lw_p44 : lw_okq (⟨"EarthMesh", "limit", "()I"⟩, 18) := ⟨⟨by decide +kernel, by decide +kernel⟩, lw_t1 (List.mem_of_getElem? (i := 38) rfl), lw_t5 (List.mem_of_getElem? (i := 203) rfl), lw_t5 (List.mem_of_getElem? (i := 204) rfl)⟩
theorem lw_p45 : lw_okq (⟨"EarthMesh", "thinned", "(Z)I"⟩, 18) := ⟨⟨by decide +kernel, by decide +kernel⟩, lw_t1 (List.mem_of_getElem? (i := 38) rfl), lw_t5 (List.mem_of_getElem? (i := 207) rfl), lw_t5 (List.mem_of_getElem? (i := 208) rfl)⟩
theorem lw_p46 : lw_okq (⟨"EarthMesh", "rows", "()[[I"⟩, 18) := ⟨⟨by decide +kernel, by decide +kernel⟩, lw_t1 (List.mem_of_getElem? (i := 38) rfl), lw_t5 (List.mem_of_getElem? (i := 211) rfl), lw_t5 (List.mem_of_getElem? (i := 212) rfl)⟩
theorem lw_p47 : lw_okq (⟨"EarthMesh", "resistsTold", "(I)LEarthMesh$Part;"⟩, 18) := ⟨⟨by decide +kernel, by decide +kernel⟩, lw_t1 (List.mem_of_getElem? (i := 38) rfl), lw_t5 (List.mem_of_getElem? (i := 235) rfl), lw_t5 (List.mem_of_getElem? (i := 236) rfl)⟩
def lw_privs_3 : List (MethodName × Nat) := [(⟨"EarthMesh", "isWithin", "(II)Z"⟩, 18), (⟨"EarthMesh", "most", "(I)I"⟩, 18), (⟨"EarthMesh", "points", "()I"⟩, 18), (⟨"EarthMesh", "missed", "()I"⟩, 18), (⟨"EarthMesh", "resistsWithout", "(II)LEarthMesh$Part;"⟩, 18), (⟨"EarthMesh", "resistsNow", "()LEarthMesh$Part;"⟩, 18), (⟨"EarthMesh", "resists", "(I)LEarthMesh$Part;"⟩, 18), (⟨"EarthMesh", "best", "()I"⟩, 18), (⟨"EarthMesh", "canAdd", "(II)Z"⟩, 18), (⟨"EarthMesh", "needed", "(Z)I"⟩, 18), (⟨"EarthMesh", "bars", "()I"⟩, 18), (⟨"EarthMesh", "rods", "()I"⟩, 18), (⟨"EarthMesh", "limit", "()I"⟩, 18), (⟨"EarthMesh", "thinned", "(Z)I"⟩, 18), (⟨"EarthMesh", "rows", "()[[I"⟩, 18), (⟨"EarthMesh", "resistsTold", "(I)LEarthMesh$Part;"⟩, 18)]
theorem lw_r3 : ∀ q ∈ lw_privs_3, lw_okq q := List.forall_mem_cons.mpr ⟨lw_p32, List.forall_mem_cons.mpr ⟨lw_p33, List.forall_mem_cons.mpr ⟨lw_p34, List.forall_mem_cons.mpr ⟨lw_p35, List.forall_mem_cons.mpr ⟨lw_p36, List.forall_mem_cons.mpr ⟨lw_p37, List.forall_mem_cons.mpr ⟨lw_p38, List.forall_mem_cons.mpr ⟨lw_p39, List.forall_mem_cons.mpr ⟨lw_p40, List.forall_mem_cons.mpr ⟨lw_p41, List.forall_mem_cons.mpr ⟨lw_p42, List.forall_mem_cons.mpr ⟨lw_p43, List.forall_mem_cons.mpr ⟨lw_p44, List.forall_mem_cons.mpr ⟨lw_p45, List.forall_mem_cons.mpr ⟨lw_p46, List.forall_mem_cons.mpr ⟨lw_p47, fun _ h => absurd h List.not_mem_nil⟩⟩⟩⟩⟩⟩⟩⟩⟩⟩⟩⟩⟩⟩⟩⟩
theorem lw_p48 : lw_okq (⟨"EarthMesh", "mustSolve", "()V"⟩, 18) := ⟨⟨by decide +kernel, by decide +kernel⟩, lw_t1 (List.mem_of_getElem? (i := 38) rfl), lw_t6 (List.mem_of_getElem? (i := 18) rfl), lw_t6 (List.mem_of_getElem? (i := 19) rfl)⟩
theorem lw_p49 : lw_okq (⟨"EarthMesh", "flow", "(II)J"⟩, 18) := ⟨⟨by decide +kernel, by decide +kernel⟩, lw_t1 (List.mem_of_getElem? (i := 38) rfl), lw_t6 (List.mem_of_getElem? (i := 22) rfl), lw_t6 (List.mem_of_getElem? (i := 23) rfl)⟩
theorem lw_p50 : lw_okq (⟨"EarthMesh", "boxOf", "(I)[I"⟩, 18) := ⟨⟨by decide +kernel, by decide +kernel⟩, lw_t1 (List.mem_of_getElem? (i := 38) rfl), lw_t6 (List.mem_of_getElem? (i := 76) rfl), lw_t6 (List.mem_of_getElem? (i := 77) rfl)⟩
theorem lw_p51 : lw_okq (⟨"EarthMesh", "isAbove", "(III)Z"⟩, 18) := ⟨⟨by decide +kernel, by decide +kernel⟩, lw_t1 (List.mem_of_getElem? (i := 38) rfl), lw_t6 (List.mem_of_getElem? (i := 81) rfl), lw_t6 (List.mem_of_getElem? (i := 82) rfl)⟩
theorem lw_p52 : lw_okq (⟨"EarthMesh", "holds", "([II)V"⟩, 18) := ⟨⟨by decide +kernel, by decide +kernel⟩, lw_t1 (List.mem_of_getElem? (i := 38) rfl), lw_t6 (List.mem_of_getElem? (i := 85) rfl), lw_t6 (List.mem_of_getElem? (i := 86) rfl)⟩
theorem lw_p53 : lw_okq (⟨"EarthMesh", "pointsThere", "(II)V"⟩, 18) := ⟨⟨by decide +kernel, by decide +kernel⟩, lw_t1 (List.mem_of_getElem? (i := 38) rfl), lw_t6 (List.mem_of_getElem? (i := 105) rfl), lw_t6 (List.mem_of_getElem? (i := 106) rfl)⟩
theorem lw_p54 : lw_okq (⟨"EarthMesh", "leastToll", "(II)J"⟩, 18) := ⟨⟨by decide +kernel, by decide +kernel⟩, lw_t1 (List.mem_of_getElem? (i := 38) rfl), lw_t6 (List.mem_of_getElem? (i := 109) rfl), lw_t6 (List.mem_of_getElem? (i := 110) rfl)⟩
theorem lw_p55 : lw_okq (⟨"EarthMesh", "goes", "(IJLEarthMesh$Toll;)V"⟩, 18) := ⟨⟨by decide +kernel, by decide +kernel⟩, lw_t1 (List.mem_of_getElem? (i := 38) rfl), lw_t6 (List.mem_of_getElem? (i := 116) rfl), lw_t6 (List.mem_of_getElem? (i := 117) rfl)⟩
theorem lw_p56 : lw_okq (⟨"EarthMesh", "begins", "(I)V"⟩, 18) := ⟨⟨by decide +kernel, by decide +kernel⟩, lw_t1 (List.mem_of_getElem? (i := 38) rfl), lw_t6 (List.mem_of_getElem? (i := 120) rfl), lw_t6 (List.mem_of_getElem? (i := 121) rfl)⟩
theorem lw_p57 : lw_okq (⟨"EarthMesh", "stepBetween", "(II)J"⟩, 18) := ⟨⟨by decide +kernel, by decide +kernel⟩, lw_t1 (List.mem_of_getElem? (i := 38) rfl), lw_t6 (List.mem_of_getElem? (i := 124) rfl), lw_t6 (List.mem_of_getElem? (i := 125) rfl)⟩
theorem lw_p58 : lw_okq (⟨"EarthMesh", "nearestLeft", "()I"⟩, 18) := ⟨⟨by decide +kernel, by decide +kernel⟩, lw_t1 (List.mem_of_getElem? (i := 38) rfl), lw_t6 (List.mem_of_getElem? (i := 135) rfl), lw_t6 (List.mem_of_getElem? (i := 136) rfl)⟩
theorem lw_p59 : lw_okq (⟨"EarthMesh", "laysShares", "()V"⟩, 18) := ⟨⟨by decide +kernel, by decide +kernel⟩, lw_t1 (List.mem_of_getElem? (i := 38) rfl), lw_t6 (List.mem_of_getElem? (i := 155) rfl), lw_t6 (List.mem_of_getElem? (i := 156) rfl)⟩
theorem lw_p60 : lw_okq (⟨"EarthMesh", "falls", "()V"⟩, 18) := ⟨⟨by decide +kernel, by decide +kernel⟩, lw_t1 (List.mem_of_getElem? (i := 38) rfl), lw_t6 (List.mem_of_getElem? (i := 166) rfl), lw_t6 (List.mem_of_getElem? (i := 167) rfl)⟩
theorem lw_p61 : lw_okq (⟨"EarthMesh", "melts", "()Z"⟩, 18) := ⟨⟨by decide +kernel, by decide +kernel⟩, lw_t1 (List.mem_of_getElem? (i := 38) rfl), lw_t6 (List.mem_of_getElem? (i := 170) rfl), lw_t6 (List.mem_of_getElem? (i := 171) rfl)⟩
theorem lw_p62 : lw_okq (⟨"EarthMesh", "isTooMuch", "(II)Z"⟩, 18) := ⟨⟨by decide +kernel, by decide +kernel⟩, lw_t1 (List.mem_of_getElem? (i := 38) rfl), lw_t6 (List.mem_of_getElem? (i := 174) rfl), lw_t6 (List.mem_of_getElem? (i := 175) rfl)⟩
theorem lw_p63 : lw_okq (⟨"EarthMesh", "worstBy", "(II)LEarthMesh$Part;"⟩, 18) := ⟨⟨by decide +kernel, by decide +kernel⟩, lw_t1 (List.mem_of_getElem? (i := 38) rfl), lw_t6 (List.mem_of_getElem? (i := 185) rfl), lw_t6 (List.mem_of_getElem? (i := 186) rfl)⟩
def lw_privs_4 : List (MethodName × Nat) := [(⟨"EarthMesh", "mustSolve", "()V"⟩, 18), (⟨"EarthMesh", "flow", "(II)J"⟩, 18), (⟨"EarthMesh", "boxOf", "(I)[I"⟩, 18), (⟨"EarthMesh", "isAbove", "(III)Z"⟩, 18), (⟨"EarthMesh", "holds", "([II)V"⟩, 18), (⟨"EarthMesh", "pointsThere", "(II)V"⟩, 18), (⟨"EarthMesh", "leastToll", "(II)J"⟩, 18), (⟨"EarthMesh", "goes", "(IJLEarthMesh$Toll;)V"⟩, 18), (⟨"EarthMesh", "begins", "(I)V"⟩, 18), (⟨"EarthMesh", "stepBetween", "(II)J"⟩, 18), (⟨"EarthMesh", "nearestLeft", "()I"⟩, 18), (⟨"EarthMesh", "laysShares", "()V"⟩, 18), (⟨"EarthMesh", "falls", "()V"⟩, 18), (⟨"EarthMesh", "melts", "()Z"⟩, 18), (⟨"EarthMesh", "isTooMuch", "(II)Z"⟩, 18), (⟨"EarthMesh", "worstBy", "(II)LEarthMesh$Part;"⟩, 18)]
theorem lw_r4 : ∀ q ∈ lw_privs_4, lw_okq q := List.forall_mem_cons.mpr ⟨lw_p48, List.forall_mem_cons.mpr ⟨lw_p49, List.forall_mem_cons.mpr ⟨lw_p50, List.forall_mem_cons.mpr ⟨lw_p51, List.forall_mem_cons.mpr ⟨lw_p52, List.forall_mem_cons.mpr ⟨lw_p53, List.forall_mem_cons.mpr ⟨lw_p54, List.forall_mem_cons.mpr ⟨lw_p55, List.forall_mem_cons.mpr ⟨lw_p56, List.forall_mem_cons.mpr ⟨lw_p57, List.forall_mem_cons.mpr ⟨lw_p58, List.forall_mem_cons.mpr ⟨lw_p59, List.forall_mem_cons.mpr ⟨lw_p60, List.forall_mem_cons.mpr ⟨lw_p61, List.forall_mem_cons.mpr ⟨lw_p62, List.forall_mem_cons.mpr ⟨lw_p63, fun _ h => absurd h List.not_mem_nil⟩⟩⟩⟩⟩⟩⟩⟩⟩⟩⟩⟩⟩⟩⟩⟩
theorem lw_p64 : lw_okq (⟨"EarthMesh", "worstOf", "(I)LEarthMesh$Part;"⟩, 18) := ⟨⟨by decide +kernel, by decide +kernel⟩, lw_t1 (List.mem_of_getElem? (i := 38) rfl), lw_t6 (List.mem_of_getElem? (i := 189) rfl), lw_t6 (List.mem_of_getElem? (i := 190) rfl)⟩
theorem lw_p65 : lw_okq (⟨"EarthMesh", "isRim", "(I)Z"⟩, 18) := ⟨⟨by decide +kernel, by decide +kernel⟩, lw_t1 (List.mem_of_getElem? (i := 38) rfl), lw_t6 (List.mem_of_getElem? (i := 200) rfl), lw_t6 (List.mem_of_getElem? (i := 201) rfl)⟩
theorem lw_p66 : lw_okq (⟨"EarthMesh", "doesCome", "(IJ)Z"⟩, 18) := ⟨⟨by decide +kernel, by decide +kernel⟩, lw_t1 (List.mem_of_getElem? (i := 38) rfl), lw_t6 (List.mem_of_getElem? (i := 204) rfl), lw_t6 (List.mem_of_getElem? (i := 205) rfl)⟩
theorem lw_p67 : lw_okq (⟨"EarthMesh", "leaked", "(II)J"⟩, 18) := ⟨⟨by decide +kernel, by decide +kernel⟩, lw_t1 (List.mem_of_getElem? (i := 38) rfl), lw_t6 (List.mem_of_getElem? (i := 223) rfl), lw_t6 (List.mem_of_getElem? (i := 224) rfl)⟩
theorem lw_p68 : lw_okq (⟨"EarthMesh$Equations", "laysRow", "(IIIII)V"⟩, 9) := ⟨⟨by decide +kernel, by decide +kernel⟩, lw_t1 (List.mem_of_getElem? (i := 111) rfl), lw_t6 (List.mem_of_getElem? (i := 231) rfl), lw_t6 (List.mem_of_getElem? (i := 232) rfl)⟩
theorem lw_p69 : lw_okq (⟨"EarthMesh", "laysCheap", "()V"⟩, 18) := ⟨⟨by decide +kernel, by decide +kernel⟩, lw_t1 (List.mem_of_getElem? (i := 38) rfl), lw_t7 (List.mem_of_getElem? (i := 2) rfl), lw_t7 (List.mem_of_getElem? (i := 3) rfl)⟩
theorem lw_p70 : lw_okq (⟨"EarthMesh", "isCheap", "(IIII)V"⟩, 18) := ⟨⟨by decide +kernel, by decide +kernel⟩, lw_t1 (List.mem_of_getElem? (i := 38) rfl), lw_t7 (List.mem_of_getElem? (i := 6) rfl), lw_t7 (List.mem_of_getElem? (i := 7) rfl)⟩
theorem lw_p71 : lw_okq (⟨"EarthMesh", "tries", "(II)V"⟩, 18) := ⟨⟨by decide +kernel, by decide +kernel⟩, lw_t1 (List.mem_of_getElem? (i := 38) rfl), lw_t7 (List.mem_of_getElem? (i := 14) rfl), lw_t7 (List.mem_of_getElem? (i := 15) rfl)⟩
theorem lw_p72 : lw_okq (⟨"EarthMeshModel", "refuse", "()I"⟩, 37) := ⟨⟨by decide +kernel, by decide +kernel⟩, lw_t7 (List.mem_of_getElem? (i := 25) rfl), lw_t7 (List.mem_of_getElem? (i := 164) rfl), lw_t7 (List.mem_of_getElem? (i := 165) rfl)⟩
theorem lw_p73 : lw_okq (⟨"EarthMeshModel", "fail", "(I)I"⟩, 37) := ⟨⟨by decide +kernel, by decide +kernel⟩, lw_t7 (List.mem_of_getElem? (i := 25) rfl), lw_t7 (List.mem_of_getElem? (i := 172) rfl), lw_t7 (List.mem_of_getElem? (i := 173) rfl)⟩
theorem lw_p74 : lw_okq (⟨"EarthMeshModel", "stepOn", "()V"⟩, 37) := ⟨⟨by decide +kernel, by decide +kernel⟩, lw_t7 (List.mem_of_getElem? (i := 25) rfl), lw_t7 (List.mem_of_getElem? (i := 176) rfl), lw_t7 (List.mem_of_getElem? (i := 177) rfl)⟩
theorem lw_p75 : lw_okq (⟨"EarthMeshModel", "byteAt", "(I)I"⟩, 37) := ⟨⟨by decide +kernel, by decide +kernel⟩, lw_t7 (List.mem_of_getElem? (i := 25) rfl), lw_t7 (List.mem_of_getElem? (i := 180) rfl), lw_t7 (List.mem_of_getElem? (i := 181) rfl)⟩
theorem lw_p76 : lw_okq (⟨"EarthMeshModel", "is", "(Ljava/lang/String;)Z"⟩, 37) := ⟨⟨by decide +kernel, by decide +kernel⟩, lw_t7 (List.mem_of_getElem? (i := 25) rfl), lw_t7 (List.mem_of_getElem? (i := 193) rfl), lw_t7 (List.mem_of_getElem? (i := 194) rfl)⟩
theorem lw_p77 : lw_okq (⟨"EarthMeshModel", "wrong", "(I)V"⟩, 37) := ⟨⟨by decide +kernel, by decide +kernel⟩, lw_t7 (List.mem_of_getElem? (i := 25) rfl), lw_t7 (List.mem_of_getElem? (i := 209) rfl), lw_t7 (List.mem_of_getElem? (i := 210) rfl)⟩
theorem lw_p78 : lw_okq (⟨"EarthMeshModel", "pass", "()V"⟩, 37) := ⟨⟨by decide +kernel, by decide +kernel⟩, lw_t7 (List.mem_of_getElem? (i := 25) rfl), lw_t7 (List.mem_of_getElem? (i := 213) rfl), lw_t7 (List.mem_of_getElem? (i := 214) rfl)⟩
theorem lw_p79 : lw_okq (⟨"EarthMeshModel", "readNumber", "(II)I"⟩, 37) := ⟨⟨by decide +kernel, by decide +kernel⟩, lw_t7 (List.mem_of_getElem? (i := 25) rfl), lw_t7 (List.mem_of_getElem? (i := 217) rfl), lw_t7 (List.mem_of_getElem? (i := 218) rfl)⟩
def lw_privs_5 : List (MethodName × Nat) := [(⟨"EarthMesh", "worstOf", "(I)LEarthMesh$Part;"⟩, 18), (⟨"EarthMesh", "isRim", "(I)Z"⟩, 18), (⟨"EarthMesh", "doesCome", "(IJ)Z"⟩, 18), (⟨"EarthMesh", "leaked", "(II)J"⟩, 18), (⟨"EarthMesh$Equations", "laysRow", "(IIIII)V"⟩, 9), (⟨"EarthMesh", "laysCheap", "()V"⟩, 18), (⟨"EarthMesh", "isCheap", "(IIII)V"⟩, 18), (⟨"EarthMesh", "tries", "(II)V"⟩, 18), (⟨"EarthMeshModel", "refuse", "()I"⟩, 37), (⟨"EarthMeshModel", "fail", "(I)I"⟩, 37), (⟨"EarthMeshModel", "stepOn", "()V"⟩, 37), (⟨"EarthMeshModel", "byteAt", "(I)I"⟩, 37), (⟨"EarthMeshModel", "is", "(Ljava/lang/String;)Z"⟩, 37), (⟨"EarthMeshModel", "wrong", "(I)V"⟩, 37), (⟨"EarthMeshModel", "pass", "()V"⟩, 37), (⟨"EarthMeshModel", "readNumber", "(II)I"⟩, 37)]
theorem lw_r5 : ∀ q ∈ lw_privs_5, lw_okq q := List.forall_mem_cons.mpr ⟨lw_p64, List.forall_mem_cons.mpr ⟨lw_p65, List.forall_mem_cons.mpr ⟨lw_p66, List.forall_mem_cons.mpr ⟨lw_p67, List.forall_mem_cons.mpr ⟨lw_p68, List.forall_mem_cons.mpr ⟨lw_p69, List.forall_mem_cons.mpr ⟨lw_p70, List.forall_mem_cons.mpr ⟨lw_p71, List.forall_mem_cons.mpr ⟨lw_p72, List.forall_mem_cons.mpr ⟨lw_p73, List.forall_mem_cons.mpr ⟨lw_p74, List.forall_mem_cons.mpr ⟨lw_p75, List.forall_mem_cons.mpr ⟨lw_p76, List.forall_mem_cons.mpr ⟨lw_p77, List.forall_mem_cons.mpr ⟨lw_p78, List.forall_mem_cons.mpr ⟨lw_p79, fun _ h => absurd h List.not_mem_nil⟩⟩⟩⟩⟩⟩⟩⟩⟩⟩⟩⟩⟩⟩⟩⟩
theorem lw_p80 : lw_okq (⟨"EarthMeshModel", "numberNow", "(II)I"⟩, 37) := ⟨⟨by decide +kernel, by decide +kernel⟩, lw_t7 (List.mem_of_getElem? (i := 25) rfl), lw_t7 (List.mem_of_getElem? (i := 221) rfl), lw_t7 (List.mem_of_getElem? (i := 222) rfl)⟩
theorem lw_p81 : lw_okq (⟨"EarthMeshModel", "readEnd", "()V"⟩, 37) := ⟨⟨by decide +kernel, by decide +kernel⟩, lw_t7 (List.mem_of_getElem? (i := 25) rfl), lw_t7 (List.mem_of_getElem? (i := 225) rfl), lw_t7 (List.mem_of_getElem? (i := 226) rfl)⟩
theorem lw_p82 : lw_okq (⟨"EarthMeshModel", "readClause", "()V"⟩, 37) := ⟨⟨by decide +kernel, by decide +kernel⟩, lw_t7 (List.mem_of_getElem? (i := 25) rfl), lw_t7 (List.mem_of_getElem? (i := 229) rfl), lw_t7 (List.mem_of_getElem? (i := 230) rfl)⟩
theorem lw_p83 : lw_okq (⟨"EarthMeshModel", "which", "()I"⟩, 37) := ⟨⟨by decide +kernel, by decide +kernel⟩, lw_t7 (List.mem_of_getElem? (i := 25) rfl), lw_t7 (List.mem_of_getElem? (i := 233) rfl), lw_t7 (List.mem_of_getElem? (i := 234) rfl)⟩
theorem lw_p84 : lw_okq (⟨"EarthMeshModel", "readNode", "(I)I"⟩, 37) := ⟨⟨by decide +kernel, by decide +kernel⟩, lw_t7 (List.mem_of_getElem? (i := 25) rfl), lw_t7 (List.mem_of_getElem? (i := 237) rfl), lw_t7 (List.mem_of_getElem? (i := 238) rfl)⟩
theorem lw_p85 : lw_okq (⟨"EarthMeshModel", "joinedTo", "(I)I"⟩, 37) := ⟨⟨by decide +kernel, by decide +kernel⟩, lw_t7 (List.mem_of_getElem? (i := 25) rfl), lw_t8 (List.mem_of_getElem? (i := 12) rfl), lw_t8 (List.mem_of_getElem? (i := 13) rfl)⟩
theorem lw_p86 : lw_okq (⟨"EarthMeshModel", "part", "(II)I"⟩, 37) := ⟨⟨by decide +kernel, by decide +kernel⟩, lw_t7 (List.mem_of_getElem? (i := 25) rfl), lw_t8 (List.mem_of_getElem? (i := 19) rfl), lw_t8 (List.mem_of_getElem? (i := 20) rfl)⟩
theorem lw_p87 : lw_okq (⟨"EarthMeshModel", "end", "(II)I"⟩, 37) := ⟨⟨by decide +kernel, by decide +kernel⟩, lw_t7 (List.mem_of_getElem? (i := 25) rfl), lw_t8 (List.mem_of_getElem? (i := 23) rfl), lw_t8 (List.mem_of_getElem? (i := 24) rfl)⟩
theorem lw_p88 : lw_okq (⟨"EarthMeshModel", "solvesNow", "()Z"⟩, 37) := ⟨⟨by decide +kernel, by decide +kernel⟩, lw_t7 (List.mem_of_getElem? (i := 25) rfl), lw_t8 (List.mem_of_getElem? (i := 27) rfl), lw_t8 (List.mem_of_getElem? (i := 28) rfl)⟩
theorem lw_p89 : lw_okq (⟨"EarthMeshModel", "solves", "(II)Z"⟩, 37) := ⟨⟨by decide +kernel, by decide +kernel⟩, lw_t7 (List.mem_of_getElem? (i := 25) rfl), lw_t8 (List.mem_of_getElem? (i := 31) rfl), lw_t8 (List.mem_of_getElem? (i := 32) rfl)⟩
theorem lw_p90 : lw_okq (⟨"EarthMeshModel", "leaks", "(I)Z"⟩, 37) := ⟨⟨by decide +kernel, by decide +kernel⟩, lw_t7 (List.mem_of_getElem? (i := 25) rfl), lw_t8 (List.mem_of_getElem? (i := 35) rfl), lw_t8 (List.mem_of_getElem? (i := 36) rfl)⟩
theorem lw_p91 : lw_okq (⟨"EarthMeshModel", "layRows", "(II)V"⟩, 37) := ⟨⟨by decide +kernel, by decide +kernel⟩, lw_t7 (List.mem_of_getElem? (i := 25) rfl), lw_t8 (List.mem_of_getElem? (i := 39) rfl), lw_t8 (List.mem_of_getElem? (i := 40) rfl)⟩
theorem lw_p92 : lw_okq (⟨"EarthMeshModel", "gOf", "(II)I"⟩, 37) := ⟨⟨by decide +kernel, by decide +kernel⟩, lw_t7 (List.mem_of_getElem? (i := 25) rfl), lw_t8 (List.mem_of_getElem? (i := 43) rfl), lw_t8 (List.mem_of_getElem? (i := 44) rfl)⟩
theorem lw_p93 : lw_okq (⟨"EarthMeshModel", "lay", "(IIJ)V"⟩, 37) := ⟨⟨by decide +kernel, by decide +kernel⟩, lw_t7 (List.mem_of_getElem? (i := 25) rfl), lw_t8 (List.mem_of_getElem? (i := 48) rfl), lw_t8 (List.mem_of_getElem? (i := 49) rfl)⟩
theorem lw_p94 : lw_okq (⟨"EarthMeshModel", "placeOf", "(I)I"⟩, 37) := ⟨⟨by decide +kernel, by decide +kernel⟩, lw_t7 (List.mem_of_getElem? (i := 25) rfl), lw_t8 (List.mem_of_getElem? (i := 52) rfl), lw_t8 (List.mem_of_getElem? (i := 53) rfl)⟩
theorem lw_p95 : lw_okq (⟨"EarthMeshModel", "clears", "(IZ)V"⟩, 37) := ⟨⟨by decide +kernel, by decide +kernel⟩, lw_t7 (List.mem_of_getElem? (i := 25) rfl), lw_t8 (List.mem_of_getElem? (i := 57) rfl), lw_t8 (List.mem_of_getElem? (i := 58) rfl)⟩
def lw_privs_6 : List (MethodName × Nat) := [(⟨"EarthMeshModel", "numberNow", "(II)I"⟩, 37), (⟨"EarthMeshModel", "readEnd", "()V"⟩, 37), (⟨"EarthMeshModel", "readClause", "()V"⟩, 37), (⟨"EarthMeshModel", "which", "()I"⟩, 37), (⟨"EarthMeshModel", "readNode", "(I)I"⟩, 37), (⟨"EarthMeshModel", "joinedTo", "(I)I"⟩, 37), (⟨"EarthMeshModel", "part", "(II)I"⟩, 37), (⟨"EarthMeshModel", "end", "(II)I"⟩, 37), (⟨"EarthMeshModel", "solvesNow", "()Z"⟩, 37), (⟨"EarthMeshModel", "solves", "(II)Z"⟩, 37), (⟨"EarthMeshModel", "leaks", "(I)Z"⟩, 37), (⟨"EarthMeshModel", "layRows", "(II)V"⟩, 37), (⟨"EarthMeshModel", "gOf", "(II)I"⟩, 37), (⟨"EarthMeshModel", "lay", "(IIJ)V"⟩, 37), (⟨"EarthMeshModel", "placeOf", "(I)I"⟩, 37), (⟨"EarthMeshModel", "clears", "(IZ)V"⟩, 37)]
theorem lw_r6 : ∀ q ∈ lw_privs_6, lw_okq q := List.forall_mem_cons.mpr ⟨lw_p80, List.forall_mem_cons.mpr ⟨lw_p81, List.forall_mem_cons.mpr ⟨lw_p82, List.forall_mem_cons.mpr ⟨lw_p83, List.forall_mem_cons.mpr ⟨lw_p84, List.forall_mem_cons.mpr ⟨lw_p85, List.forall_mem_cons.mpr ⟨lw_p86, List.forall_mem_cons.mpr ⟨lw_p87, List.forall_mem_cons.mpr ⟨lw_p88, List.forall_mem_cons.mpr ⟨lw_p89, List.forall_mem_cons.mpr ⟨lw_p90, List.forall_mem_cons.mpr ⟨lw_p91, List.forall_mem_cons.mpr ⟨lw_p92, List.forall_mem_cons.mpr ⟨lw_p93, List.forall_mem_cons.mpr ⟨lw_p94, List.forall_mem_cons.mpr ⟨lw_p95, fun _ h => absurd h List.not_mem_nil⟩⟩⟩⟩⟩⟩⟩⟩⟩⟩⟩⟩⟩⟩⟩⟩
theorem lw_p96 : lw_okq (⟨"EarthMeshModel", "cell", "(II)J"⟩, 37) := ⟨⟨by decide +kernel, by decide +kernel⟩, lw_t7 (List.mem_of_getElem? (i := 25) rfl), lw_t8 (List.mem_of_getElem? (i := 61) rfl), lw_t8 (List.mem_of_getElem? (i := 62) rfl)⟩
theorem lw_p97 : lw_okq (⟨"EarthMeshModel", "isSafe", "()Z"⟩, 37) := ⟨⟨by decide +kernel, by decide +kernel⟩, lw_t7 (List.mem_of_getElem? (i := 25) rfl), lw_t8 (List.mem_of_getElem? (i := 84) rfl), lw_t8 (List.mem_of_getElem? (i := 85) rfl)⟩
theorem lw_p98 : lw_okq (⟨"EarthMeshModel", "tellsGround", "()Z"⟩, 37) := ⟨⟨by decide +kernel, by decide +kernel⟩, lw_t7 (List.mem_of_getElem? (i := 25) rfl), lw_t8 (List.mem_of_getElem? (i := 88) rfl), lw_t8 (List.mem_of_getElem? (i := 89) rfl)⟩
theorem lw_p99 : lw_okq (⟨"EarthMeshModel", "points", "()I"⟩, 37) := ⟨⟨by decide +kernel, by decide +kernel⟩, lw_t7 (List.mem_of_getElem? (i := 25) rfl), lw_t8 (List.mem_of_getElem? (i := 92) rfl), lw_t8 (List.mem_of_getElem? (i := 93) rfl)⟩
theorem lw_p100 : lw_okq (⟨"EarthMeshModel", "pointsWide", "()I"⟩, 37) := ⟨⟨by decide +kernel, by decide +kernel⟩, lw_t7 (List.mem_of_getElem? (i := 25) rfl), lw_t8 (List.mem_of_getElem? (i := 96) rfl), lw_t8 (List.mem_of_getElem? (i := 97) rfl)⟩
theorem lw_p101 : lw_okq (⟨"EarthMeshModel", "tellGround", "(I)V"⟩, 37) := ⟨⟨by decide +kernel, by decide +kernel⟩, lw_t7 (List.mem_of_getElem? (i := 25) rfl), lw_t8 (List.mem_of_getElem? (i := 100) rfl), lw_t8 (List.mem_of_getElem? (i := 101) rfl)⟩
theorem lw_p102 : lw_okq (⟨"EarthMeshModel", "beside", "(II)I"⟩, 37) := ⟨⟨by decide +kernel, by decide +kernel⟩, lw_t7 (List.mem_of_getElem? (i := 25) rfl), lw_t8 (List.mem_of_getElem? (i := 107) rfl), lw_t8 (List.mem_of_getElem? (i := 108) rfl)⟩
theorem lw_p103 : lw_okq (⟨"EarthMeshModel", "step", "(II)J"⟩, 37) := ⟨⟨by decide +kernel, by decide +kernel⟩, lw_t7 (List.mem_of_getElem? (i := 25) rfl), lw_t8 (List.mem_of_getElem? (i := 111) rfl), lw_t8 (List.mem_of_getElem? (i := 112) rfl)⟩
theorem lw_p104 : lw_okq (⟨"EarthMeshModel", "missed", "()I"⟩, 37) := ⟨⟨by decide +kernel, by decide +kernel⟩, lw_t7 (List.mem_of_getElem? (i := 25) rfl), lw_t8 (List.mem_of_getElem? (i := 115) rfl), lw_t8 (List.mem_of_getElem? (i := 116) rfl)⟩
theorem lw_p105 : lw_okq (⟨"EarthMeshModel", "resists", "()I"⟩, 37) := ⟨⟨by decide +kernel, by decide +kernel⟩, lw_t7 (List.mem_of_getElem? (i := 25) rfl), lw_t8 (List.mem_of_getElem? (i := 119) rfl), lw_t8 (List.mem_of_getElem? (i := 120) rfl)⟩
theorem lw_p106 : lw_okq (⟨"EarthMeshModel", "keepsBest", "()V"⟩, 37) := ⟨⟨by decide +kernel, by decide +kernel⟩, lw_t7 (List.mem_of_getElem? (i := 25) rfl), lw_t8 (List.mem_of_getElem? (i := 126) rfl), lw_t8 (List.mem_of_getElem? (i := 127) rfl)⟩
theorem lw_p107 : lw_okq (⟨"EarthMeshModel", "best", "()I"⟩, 37) := ⟨⟨by decide +kernel, by decide +kernel⟩, lw_t7 (List.mem_of_getElem? (i := 25) rfl), lw_t8 (List.mem_of_getElem? (i := 130) rfl), lw_t8 (List.mem_of_getElem? (i := 131) rfl)⟩
theorem lw_p108 : lw_okq (⟨"EarthMeshModel", "needed", "(Z)I"⟩, 37) := ⟨⟨by decide +kernel, by decide +kernel⟩, lw_t7 (List.mem_of_getElem? (i := 25) rfl), lw_t8 (List.mem_of_getElem? (i := 134) rfl), lw_t8 (List.mem_of_getElem? (i := 135) rfl)⟩
theorem lw_p109 : lw_okq (⟨"EarthMeshModel", "parts", "(I)I"⟩, 37) := ⟨⟨by decide +kernel, by decide +kernel⟩, lw_t7 (List.mem_of_getElem? (i := 25) rfl), lw_t8 (List.mem_of_getElem? (i := 138) rfl), lw_t8 (List.mem_of_getElem? (i := 139) rfl)⟩
theorem lw_p110 : lw_okq (⟨"EarthMeshModel", "limit", "()I"⟩, 37) := ⟨⟨by decide +kernel, by decide +kernel⟩, lw_t7 (List.mem_of_getElem? (i := 25) rfl), lw_t8 (List.mem_of_getElem? (i := 142) rfl), lw_t8 (List.mem_of_getElem? (i := 143) rfl)⟩
theorem lw_p111 : lw_okq (⟨"EarthMeshModel", "thinned", "(Z)I"⟩, 37) := ⟨⟨by decide +kernel, by decide +kernel⟩, lw_t7 (List.mem_of_getElem? (i := 25) rfl), lw_t8 (List.mem_of_getElem? (i := 146) rfl), lw_t8 (List.mem_of_getElem? (i := 147) rfl)⟩
def lw_privs_7 : List (MethodName × Nat) := [(⟨"EarthMeshModel", "cell", "(II)J"⟩, 37), (⟨"EarthMeshModel", "isSafe", "()Z"⟩, 37), (⟨"EarthMeshModel", "tellsGround", "()Z"⟩, 37), (⟨"EarthMeshModel", "points", "()I"⟩, 37), (⟨"EarthMeshModel", "pointsWide", "()I"⟩, 37), (⟨"EarthMeshModel", "tellGround", "(I)V"⟩, 37), (⟨"EarthMeshModel", "beside", "(II)I"⟩, 37), (⟨"EarthMeshModel", "step", "(II)J"⟩, 37), (⟨"EarthMeshModel", "missed", "()I"⟩, 37), (⟨"EarthMeshModel", "resists", "()I"⟩, 37), (⟨"EarthMeshModel", "keepsBest", "()V"⟩, 37), (⟨"EarthMeshModel", "best", "()I"⟩, 37), (⟨"EarthMeshModel", "needed", "(Z)I"⟩, 37), (⟨"EarthMeshModel", "parts", "(I)I"⟩, 37), (⟨"EarthMeshModel", "limit", "()I"⟩, 37), (⟨"EarthMeshModel", "thinned", "(Z)I"⟩, 37)]
theorem lw_r7 : ∀ q ∈ lw_privs_7, lw_okq q := List.forall_mem_cons.mpr ⟨lw_p96, List.forall_mem_cons.mpr ⟨lw_p97, List.forall_mem_cons.mpr ⟨lw_p98, List.forall_mem_cons.mpr ⟨lw_p99, List.forall_mem_cons.mpr ⟨lw_p100, List.forall_mem_cons.mpr ⟨lw_p101, List.forall_mem_cons.mpr ⟨lw_p102, List.forall_mem_cons.mpr ⟨lw_p103, List.forall_mem_cons.mpr ⟨lw_p104, List.forall_mem_cons.mpr ⟨lw_p105, List.forall_mem_cons.mpr ⟨lw_p106, List.forall_mem_cons.mpr ⟨lw_p107, List.forall_mem_cons.mpr ⟨lw_p108, List.forall_mem_cons.mpr ⟨lw_p109, List.forall_mem_cons.mpr ⟨lw_p110, List.forall_mem_cons.mpr ⟨lw_p111, fun _ h => absurd h List.not_mem_nil⟩⟩⟩⟩⟩⟩⟩⟩⟩⟩⟩⟩⟩⟩⟩⟩
theorem lw_p112 : lw_okq (⟨"EarthMeshModel", "tries", "()V"⟩, 37) := ⟨⟨by decide +kernel, by decide +kernel⟩, lw_t7 (List.mem_of_getElem? (i := 25) rfl), lw_t8 (List.mem_of_getElem? (i := 150) rfl), lw_t8 (List.mem_of_getElem? (i := 151) rfl)⟩
theorem lw_p113 : lw_okq (⟨"EarthMeshModel", "laysBack", "()V"⟩, 37) := ⟨⟨by decide +kernel, by decide +kernel⟩, lw_t7 (List.mem_of_getElem? (i := 25) rfl), lw_t8 (List.mem_of_getElem? (i := 154) rfl), lw_t8 (List.mem_of_getElem? (i := 155) rfl)⟩
theorem lw_p114 : lw_okq (⟨"EarthMeshModel", "isNode", "(I)Z"⟩, 37) := ⟨⟨by decide +kernel, by decide +kernel⟩, lw_t7 (List.mem_of_getElem? (i := 25) rfl), lw_t8 (List.mem_of_getElem? (i := 162) rfl), lw_t8 (List.mem_of_getElem? (i := 163) rfl)⟩
theorem lw_p115 : lw_okq (⟨"EarthMeshModel", "isPoint", "(I)Z"⟩, 37) := ⟨⟨by decide +kernel, by decide +kernel⟩, lw_t7 (List.mem_of_getElem? (i := 25) rfl), lw_t8 (List.mem_of_getElem? (i := 194) rfl), lw_t8 (List.mem_of_getElem? (i := 195) rfl)⟩
theorem lw_p116 : lw_okq (⟨"EarthMeshModel", "worstStep", "()I"⟩, 37) := ⟨⟨by decide +kernel, by decide +kernel⟩, lw_t7 (List.mem_of_getElem? (i := 25) rfl), lw_t8 (List.mem_of_getElem? (i := 202) rfl), lw_t8 (List.mem_of_getElem? (i := 203) rfl)⟩
theorem lw_p117 : lw_okq (⟨"EarthMeshModel", "worstTouch", "()I"⟩, 37) := ⟨⟨by decide +kernel, by decide +kernel⟩, lw_t7 (List.mem_of_getElem? (i := 25) rfl), lw_t8 (List.mem_of_getElem? (i := 206) rfl), lw_t8 (List.mem_of_getElem? (i := 207) rfl)⟩
theorem lw_p118 : lw_okq (⟨"EarthMeshModel", "walkRefusal", "(II)I"⟩, 37) := ⟨⟨by decide +kernel, by decide +kernel⟩, lw_t7 (List.mem_of_getElem? (i := 25) rfl), lw_t8 (List.mem_of_getElem? (i := 222) rfl), lw_t8 (List.mem_of_getElem? (i := 223) rfl)⟩
theorem lw_p119 : lw_okq (⟨"EarthMeshModel", "tollTo", "(II)J"⟩, 37) := ⟨⟨by decide +kernel, by decide +kernel⟩, lw_t7 (List.mem_of_getElem? (i := 25) rfl), lw_t8 (List.mem_of_getElem? (i := 226) rfl), lw_t8 (List.mem_of_getElem? (i := 227) rfl)⟩
theorem lw_p120 : lw_okq (⟨"EarthMeshModel", "lowers", "(IIJ)Z"⟩, 37) := ⟨⟨by decide +kernel, by decide +kernel⟩, lw_t7 (List.mem_of_getElem? (i := 25) rfl), lw_t8 (List.mem_of_getElem? (i := 230) rfl), lw_t8 (List.mem_of_getElem? (i := 231) rfl)⟩
theorem lw_p121 : lw_okq (⟨"EarthMeshModel", "melt", "()Z"⟩, 37) := ⟨⟨by decide +kernel, by decide +kernel⟩, lw_t7 (List.mem_of_getElem? (i := 25) rfl), lw_t9 (List.mem_of_getElem? (i := 2) rfl), lw_t9 (List.mem_of_getElem? (i := 3) rfl)⟩
theorem lw_p122 : lw_okq (⟨"EarthMeshModel", "worstNow", "(Z)J"⟩, 37) := ⟨⟨by decide +kernel, by decide +kernel⟩, lw_t7 (List.mem_of_getElem? (i := 25) rfl), lw_t9 (List.mem_of_getElem? (i := 10) rfl), lw_t9 (List.mem_of_getElem? (i := 11) rfl)⟩
theorem lw_p123 : lw_okq (⟨"EarthMeshModel", "isRim", "(I)Z"⟩, 37) := ⟨⟨by decide +kernel, by decide +kernel⟩, lw_t7 (List.mem_of_getElem? (i := 25) rfl), lw_t9 (List.mem_of_getElem? (i := 18) rfl), lw_t9 (List.mem_of_getElem? (i := 19) rfl)⟩
theorem lw_p124 : lw_okq (⟨"EarthMeshModel", "tellCheapest", "()V"⟩, 37) := ⟨⟨by decide +kernel, by decide +kernel⟩, lw_t7 (List.mem_of_getElem? (i := 25) rfl), lw_t9 (List.mem_of_getElem? (i := 26) rfl), lw_t9 (List.mem_of_getElem? (i := 27) rfl)⟩
theorem lw_p125 : lw_okq (⟨"EarthMeshModel", "weighs", "(IIII)V"⟩, 37) := ⟨⟨by decide +kernel, by decide +kernel⟩, lw_t7 (List.mem_of_getElem? (i := 25) rfl), lw_t9 (List.mem_of_getElem? (i := 30) rfl), lw_t9 (List.mem_of_getElem? (i := 31) rfl)⟩
theorem lw_p126 : lw_okq (⟨"EarthMeshModel", "canBuild", "(I)Z"⟩, 37) := ⟨⟨by decide +kernel, by decide +kernel⟩, lw_t7 (List.mem_of_getElem? (i := 25) rfl), lw_t9 (List.mem_of_getElem? (i := 37) rfl), lw_t9 (List.mem_of_getElem? (i := 38) rfl)⟩
theorem lw_p127 : lw_okq (⟨"EarthMeshModel", "priceOf", "(I)I"⟩, 37) := ⟨⟨by decide +kernel, by decide +kernel⟩, lw_t7 (List.mem_of_getElem? (i := 25) rfl), lw_t9 (List.mem_of_getElem? (i := 41) rfl), lw_t9 (List.mem_of_getElem? (i := 42) rfl)⟩
def lw_privs_8 : List (MethodName × Nat) := [(⟨"EarthMeshModel", "tries", "()V"⟩, 37), (⟨"EarthMeshModel", "laysBack", "()V"⟩, 37), (⟨"EarthMeshModel", "isNode", "(I)Z"⟩, 37), (⟨"EarthMeshModel", "isPoint", "(I)Z"⟩, 37), (⟨"EarthMeshModel", "worstStep", "()I"⟩, 37), (⟨"EarthMeshModel", "worstTouch", "()I"⟩, 37), (⟨"EarthMeshModel", "walkRefusal", "(II)I"⟩, 37), (⟨"EarthMeshModel", "tollTo", "(II)J"⟩, 37), (⟨"EarthMeshModel", "lowers", "(IIJ)Z"⟩, 37), (⟨"EarthMeshModel", "melt", "()Z"⟩, 37), (⟨"EarthMeshModel", "worstNow", "(Z)J"⟩, 37), (⟨"EarthMeshModel", "isRim", "(I)Z"⟩, 37), (⟨"EarthMeshModel", "tellCheapest", "()V"⟩, 37), (⟨"EarthMeshModel", "weighs", "(IIII)V"⟩, 37), (⟨"EarthMeshModel", "canBuild", "(I)Z"⟩, 37), (⟨"EarthMeshModel", "priceOf", "(I)I"⟩, 37)]
theorem lw_r8 : ∀ q ∈ lw_privs_8, lw_okq q := List.forall_mem_cons.mpr ⟨lw_p112, List.forall_mem_cons.mpr ⟨lw_p113, List.forall_mem_cons.mpr ⟨lw_p114, List.forall_mem_cons.mpr ⟨lw_p115, List.forall_mem_cons.mpr ⟨lw_p116, List.forall_mem_cons.mpr ⟨lw_p117, List.forall_mem_cons.mpr ⟨lw_p118, List.forall_mem_cons.mpr ⟨lw_p119, List.forall_mem_cons.mpr ⟨lw_p120, List.forall_mem_cons.mpr ⟨lw_p121, List.forall_mem_cons.mpr ⟨lw_p122, List.forall_mem_cons.mpr ⟨lw_p123, List.forall_mem_cons.mpr ⟨lw_p124, List.forall_mem_cons.mpr ⟨lw_p125, List.forall_mem_cons.mpr ⟨lw_p126, List.forall_mem_cons.mpr ⟨lw_p127, fun _ h => absurd h List.not_mem_nil⟩⟩⟩⟩⟩⟩⟩⟩⟩⟩⟩⟩⟩⟩⟩⟩
theorem lw_p128 : lw_okq (⟨"EarthMeshModel", "freeIn", "(I)I"⟩, 37) := ⟨⟨by decide +kernel, by decide +kernel⟩, lw_t7 (List.mem_of_getElem? (i := 25) rfl), lw_t9 (List.mem_of_getElem? (i := 71) rfl), lw_t9 (List.mem_of_getElem? (i := 72) rfl)⟩
def lw_privs_9 : List (MethodName × Nat) := [(⟨"EarthMeshModel", "freeIn", "(I)I"⟩, 37)]
theorem lw_r9 : ∀ q ∈ lw_privs_9, lw_okq q := List.forall_mem_cons.mpr ⟨lw_p128, fun _ h => absurd h List.not_mem_nil⟩
def lw_privs : List (MethodName × Nat) := lw_privs_1 ++ (lw_privs_2 ++ (lw_privs_3 ++ (lw_privs_4 ++ (lw_privs_5 ++ (lw_privs_6 ++ (lw_privs_7 ++ (lw_privs_8 ++ (lw_privs_9))))))))
def lw_tbl : List Cond := k2_sels lw_privs ++ tables_1
theorem lw_privs_ok : ∀ q ∈ lw_privs, lw_okq q := by
  show ∀ q ∈ lw_privs_1 ++ (lw_privs_2 ++ (lw_privs_3 ++ (lw_privs_4 ++ (lw_privs_5 ++ (lw_privs_6 ++ (lw_privs_7 ++ (lw_privs_8 ++ (lw_privs_9)))))))), lw_okq q
  exact List.forall_mem_append.mpr ⟨lw_r1, List.forall_mem_append.mpr ⟨lw_r2, List.forall_mem_append.mpr ⟨lw_r3, List.forall_mem_append.mpr ⟨lw_r4, List.forall_mem_append.mpr ⟨lw_r5, List.forall_mem_append.mpr ⟨lw_r6, List.forall_mem_append.mpr ⟨lw_r7, List.forall_mem_append.mpr ⟨lw_r8, lw_r9⟩⟩⟩⟩⟩⟩⟩⟩
-- ===== ONE list of words for every method: the tables' words that hold all through a run =====
def lw_all : List Cond := lw_tbl.filter goodWord
/-- a word of the tables by its place: claim/WORDS.tsv -/
theorem lw_w {w : Cond} (i : Nat) (h : lw_tbl[i]? = some w) (g : goodWord w = true) : w ∈ lw_all := List.mem_filter.mpr ⟨List.mem_of_getElem? h, g⟩
theorem lw_all_tbl {w : Cond} (h : w ∈ lw_all) : w ∈ lw_tbl := (List.mem_filter.mp h).1
theorem lw_self : GoodIn lw_all lw_all := fun w h => ⟨h, good_of_word (List.mem_filter.mp h).2⟩
/-- a class's field words, by their places -/
theorem lw_in (ws : List Cond) (ps : List Nat) (hp : ws = ps.filterMap (fun i => lw_tbl[i]?)) (hg : ws.all goodWord = true) : ∀ w ∈ ws, w ∈ lw_all := by
  intro w h
  have h1 := List.all_eq_true.mp hg w h
  rw [hp] at h
  obtain ⟨i, -, hi⟩ := List.mem_filterMap.mp h
  exact lw_w i hi h1
/-- the words of a contract for the method y with code b, L locals, answer r -/
abbrev ws_ (y : MethodName) (b : ByteArray) (L : Nat) (r : Option FieldType) : List Cond := Cond.code y b L r :: lw_all
theorem lw_meth {y : MethodName} {b : ByteArray} {L : Nat} {r : Option FieldType} (h : Cond.code y b L r ∈ lw_all) : GoodIn lw_all (ws_ y b L r) := by
  intro w hw
  rcases List.mem_cons.mp hw with e | e
  · rw [e]
    exact lw_self _ h
  · exact lw_self _ e
theorem lw_app {a c : List Cond} (ha : ∀ w ∈ a, w ∈ lw_all) (hc : GoodIn lw_all c) : GoodIn lw_all (a ++ c) := by
  intro w hw
  rcases List.mem_append.mp hw with e | e
  · exact lw_self w (ha w e)
  · exact hc w e
/-- what a call through an object asks: cwV n hts (lw_V ..) -/
theorem lw_V {own : String} {idx : Nat} {C : String} {y : MethodName} {b : ByteArray} {L : Nat} {r : Option FieldType} (h1 : Cond.methodLink own idx y ∈ lw_all) (h2 : Cond.instanceMethod y ∈ lw_all) (h3 : Cond.selects C y y ∈ lw_all) (h4 : Cond.initialized C ∈ lw_all) (h5 : Cond.code y b L r ∈ lw_all) : GoodIn lw_all (wsV own idx C y (ws_ y b L r)) := by
  refine lw_app ?_ (lw_meth h5)
  intro w hw
  simp only [List.mem_cons, List.not_mem_nil, or_false] at hw
  rcases hw with e | e | e | e
  · rw [e]; exact h1
  · rw [e]; exact h2
  · rw [e]; exact h3
  · rw [e]; exact h4
/-- what a static call asks: va_cwS n hts (lw_S ..) -/
theorem lw_S {own : String} {idx : Nat} {y : MethodName} {b : ByteArray} {L : Nat} {r : Option FieldType} (h1 : Cond.methodLink own idx y ∈ lw_all) (h2 : Cond.static y ∈ lw_all) (h3 : Cond.initialized y.cls ∈ lw_all) (h4 : Cond.code y b L r ∈ lw_all) : GoodIn lw_all (va_wsS own idx y (ws_ y b L r)) := by
  refine lw_app ?_ (lw_meth h4)
  intro w hw
  simp only [List.mem_cons, List.not_mem_nil, or_false] at hw
  rcases hw with e | e | e
  · rw [e]; exact h1
  · rw [e]; exact h2
  · rw [e]; exact h3
/-- the words of a contract for a method WITH HANDLERS (hh: its table) -/
abbrev wsW_ (y : MethodName) (b : ByteArray) (L : Nat) (r : Option FieldType) (hh : List (Nat × Nat × Nat × Nat)) : List Cond := Cond.codeWith y b L r hh :: lw_all
theorem lw_methW {y : MethodName} {b : ByteArray} {L : Nat} {r : Option FieldType} {hh : List (Nat × Nat × Nat × Nat)} (h : Cond.codeWith y b L r hh ∈ lw_all) : GoodIn lw_all (wsW_ y b L r hh) := by
  intro w hw
  rcases List.mem_cons.mp hw with e | e
  · rw [e]
    exact lw_self _ h
  · exact lw_self _ e
/-- any list of words by their places (lw_in), good -/
theorem lw_good {ws : List Cond} (h : ∀ w ∈ ws, w ∈ lw_all) : GoodIn lw_all ws := fun w hw => lw_self w (h w hw)
/-- what a call of a method with handlers asks: vx_cwVW n hts (lw_VW ..), vx_cwSW n hts (lw_SW ..) -/
theorem lw_VW {own : String} {idx : Nat} {C : String} {y : MethodName} {b : ByteArray} {L : Nat} {r : Option FieldType} {hh : List (Nat × Nat × Nat × Nat)} (h1 : Cond.methodLink own idx y ∈ lw_all) (h2 : Cond.instanceMethod y ∈ lw_all) (h3 : Cond.selects C y y ∈ lw_all) (h4 : Cond.initialized C ∈ lw_all) (h5 : Cond.codeWith y b L r hh ∈ lw_all) : GoodIn lw_all (wsV own idx C y (wsW_ y b L r hh)) := by
  refine lw_app ?_ (lw_methW h5)
  intro w hw
  simp only [List.mem_cons, List.not_mem_nil, or_false] at hw
  rcases hw with e | e | e | e
  · rw [e]; exact h1
  · rw [e]; exact h2
  · rw [e]; exact h3
  · rw [e]; exact h4
theorem lw_SW {own : String} {idx : Nat} {y : MethodName} {b : ByteArray} {L : Nat} {r : Option FieldType} {hh : List (Nat × Nat × Nat × Nat)} (h1 : Cond.methodLink own idx y ∈ lw_all) (h2 : Cond.static y ∈ lw_all) (h3 : Cond.initialized y.cls ∈ lw_all) (h4 : Cond.codeWith y b L r hh ∈ lw_all) : GoodIn lw_all (va_wsS own idx y (wsW_ y b L r hh)) := by
  refine lw_app ?_ (lw_methW h4)
  intro w hw
  simp only [List.mem_cons, List.not_mem_nil, or_false] at hw
  rcases hw with e | e | e
  · rw [e]; exact h1
  · rw [e]; exact h2
  · rw [e]; exact h3
/-- a word by its place in its run of the tables -/
theorem lw_at {r : List Cond} (hr : ∀ w ∈ r, w ∈ lw_tbl) {w : Cond} (i : Nat) (h : r[i]? = some w) : w ∈ lw_tbl := hr w (List.mem_of_getElem? h)
theorem lw_g {w : Cond} (h : w ∈ lw_tbl) (g : goodWord w = true) : w ∈ lw_all := List.mem_filter.mpr ⟨h, g⟩
theorem lw_ms : ∀ w ∈ k2_sels lw_privs, w ∈ lw_tbl := fun w h => show w ∈ k2_sels lw_privs ++ tables_1 from List.mem_append_left _ h
theorem lw_m1 : ∀ w ∈ tables_1_1, w ∈ lw_tbl := fun w h => show w ∈ k2_sels lw_privs ++ tables_1 from List.mem_append_right (k2_sels lw_privs) (show w ∈ tables_1 from List.mem_append_left _ h)
theorem lw_m2 : ∀ w ∈ tables_1_2, w ∈ lw_tbl := fun w h => show w ∈ k2_sels lw_privs ++ tables_1 from List.mem_append_right (k2_sels lw_privs) (show w ∈ tables_1 from List.mem_append_right _ (List.mem_append_left _ h))
theorem lw_m3 : ∀ w ∈ tables_1_3, w ∈ lw_tbl := fun w h => show w ∈ k2_sels lw_privs ++ tables_1 from List.mem_append_right (k2_sels lw_privs) (show w ∈ tables_1 from List.mem_append_right _ (List.mem_append_right _ (List.mem_append_left _ h)))
theorem lw_m4 : ∀ w ∈ tables_1_4, w ∈ lw_tbl := fun w h => show w ∈ k2_sels lw_privs ++ tables_1 from List.mem_append_right (k2_sels lw_privs) (show w ∈ tables_1 from List.mem_append_right _ (List.mem_append_right _ (List.mem_append_right _ (List.mem_append_left _ h))))
theorem lw_m5 : ∀ w ∈ tables_1_5, w ∈ lw_tbl := fun w h => show w ∈ k2_sels lw_privs ++ tables_1 from List.mem_append_right (k2_sels lw_privs) (show w ∈ tables_1 from List.mem_append_right _ (List.mem_append_right _ (List.mem_append_right _ (List.mem_append_right _ (List.mem_append_left _ h)))))
theorem lw_m6 : ∀ w ∈ tables_1_6, w ∈ lw_tbl := fun w h => show w ∈ k2_sels lw_privs ++ tables_1 from List.mem_append_right (k2_sels lw_privs) (show w ∈ tables_1 from List.mem_append_right _ (List.mem_append_right _ (List.mem_append_right _ (List.mem_append_right _ (List.mem_append_right _ (List.mem_append_left _ h))))))
theorem lw_m7 : ∀ w ∈ tables_1_7, w ∈ lw_tbl := fun w h => show w ∈ k2_sels lw_privs ++ tables_1 from List.mem_append_right (k2_sels lw_privs) (show w ∈ tables_1 from List.mem_append_right _ (List.mem_append_right _ (List.mem_append_right _ (List.mem_append_right _ (List.mem_append_right _ (List.mem_append_right _ (List.mem_append_left _ h)))))))
theorem lw_m8 : ∀ w ∈ tables_1_8, w ∈ lw_tbl := fun w h => show w ∈ k2_sels lw_privs ++ tables_1 from List.mem_append_right (k2_sels lw_privs) (show w ∈ tables_1 from List.mem_append_right _ (List.mem_append_right _ (List.mem_append_right _ (List.mem_append_right _ (List.mem_append_right _ (List.mem_append_right _ (List.mem_append_right _ (List.mem_append_left _ h))))))))
theorem lw_m9 : ∀ w ∈ tables_1_9, w ∈ lw_tbl := fun w h => show w ∈ k2_sels lw_privs ++ tables_1 from List.mem_append_right (k2_sels lw_privs) (show w ∈ tables_1 from List.mem_append_right _ (List.mem_append_right _ (List.mem_append_right _ (List.mem_append_right _ (List.mem_append_right _ (List.mem_append_right _ (List.mem_append_right _ (List.mem_append_right _ h))))))))
theorem qs0 : (Cond.selects "EarthMesh" ⟨"EarthMesh", "lambda$new$0", "(I)J"⟩ ⟨"EarthMesh", "lambda$new$0", "(I)J"⟩) ∈ lw_all := lw_g (lw_at lw_ms 0 rfl) rfl
theorem qs1 : (Cond.selects "EarthMesh" ⟨"EarthMesh", "step", "(II)J"⟩ ⟨"EarthMesh", "step", "(II)J"⟩) ∈ lw_all := lw_g (lw_at lw_ms 1 rfl) rfl
theorem qs2 : (Cond.selects "EarthMesh" ⟨"EarthMesh", "hasNext", "(II)Z"⟩ ⟨"EarthMesh", "hasNext", "(II)Z"⟩) ∈ lw_all := lw_g (lw_at lw_ms 2 rfl) rfl
theorem qs3 : (Cond.selects "EarthMesh" ⟨"EarthMesh", "pointColumns", "()I"⟩ ⟨"EarthMesh", "pointColumns", "()I"⟩) ∈ lw_all := lw_g (lw_at lw_ms 3 rfl) rfl
theorem qs4 : (Cond.selects "EarthMesh" ⟨"EarthMesh", "nextPoint", "(II)I"⟩ ⟨"EarthMesh", "nextPoint", "(II)I"⟩) ∈ lw_all := lw_g (lw_at lw_ms 4 rfl) rfl
theorem qs5 : (Cond.selects "EarthMesh" ⟨"EarthMesh", "ground", "(I)J"⟩ ⟨"EarthMesh", "ground", "(I)J"⟩) ∈ lw_all := lw_g (lw_at lw_ms 5 rfl) rfl
theorem qs6 : (Cond.selects "EarthMesh" ⟨"EarthMesh", "nearest", "(II)I"⟩ ⟨"EarthMesh", "nearest", "(II)I"⟩) ∈ lw_all := lw_g (lw_at lw_ms 6 rfl) rfl
theorem qs7 : (Cond.selects "EarthMesh" ⟨"EarthMesh", "touch", "(I)J"⟩ ⟨"EarthMesh", "touch", "(I)J"⟩) ∈ lw_all := lw_g (lw_at lw_ms 7 rfl) rfl
theorem qs8 : (Cond.selects "EarthMesh" ⟨"EarthMesh", "refuses", "(I)I"⟩ ⟨"EarthMesh", "refuses", "(I)I"⟩) ∈ lw_all := lw_g (lw_at lw_ms 8 rfl) rfl
theorem qs9 : (Cond.selects "EarthMesh" ⟨"EarthMesh", "lay", "(I)V"⟩ ⟨"EarthMesh", "lay", "(I)V"⟩) ∈ lw_all := lw_g (lw_at lw_ms 9 rfl) rfl
theorem qs10 : (Cond.selects "EarthMesh" ⟨"EarthMesh", "isNode", "(I)Z"⟩ ⟨"EarthMesh", "isNode", "(I)Z"⟩) ∈ lw_all := lw_g (lw_at lw_ms 10 rfl) rfl
theorem qs11 : (Cond.selects "EarthMesh" ⟨"EarthMesh", "bin", "(I)LEarthMesh$Bin;"⟩ ⟨"EarthMesh", "bin", "(I)LEarthMesh$Bin;"⟩) ∈ lw_all := lw_g (lw_at lw_ms 11 rfl) rfl
theorem qs12 : (Cond.selects "java/lang/Throwable" ⟨"java/lang/Throwable", "fillInStackTrace", "(I)Ljava/lang/Throwable;"⟩ ⟨"java/lang/Throwable", "fillInStackTrace", "(I)Ljava/lang/Throwable;"⟩) ∈ lw_all := lw_g (lw_at lw_ms 12 rfl) rfl
theorem qs13 : (Cond.selects "EarthMesh$Reader" ⟨"EarthMesh$Reader", "go", "()V"⟩ ⟨"EarthMesh$Reader", "go", "()V"⟩) ∈ lw_all := lw_g (lw_at lw_ms 13 rfl) rfl
theorem qs14 : (Cond.selects "EarthMesh$Reader" ⟨"EarthMesh$Reader", "byteAt", "(I)I"⟩ ⟨"EarthMesh$Reader", "byteAt", "(I)I"⟩) ∈ lw_all := lw_g (lw_at lw_ms 14 rfl) rfl
theorem qs15 : (Cond.selects "EarthMesh$Reader" ⟨"EarthMesh$Reader", "isLetter", "(I)Z"⟩ ⟨"EarthMesh$Reader", "isLetter", "(I)Z"⟩) ∈ lw_all := lw_g (lw_at lw_ms 15 rfl) rfl
theorem qs16 : (Cond.selects "EarthMesh$Reader" ⟨"EarthMesh$Reader", "isDigit", "(I)Z"⟩ ⟨"EarthMesh$Reader", "isDigit", "(I)Z"⟩) ∈ lw_all := lw_g (lw_at lw_ms 16 rfl) rfl
theorem qs17 : (Cond.selects "EarthMesh$Reader" ⟨"EarthMesh$Reader", "check", "(ZI)V"⟩ ⟨"EarthMesh$Reader", "check", "(ZI)V"⟩) ∈ lw_all := lw_g (lw_at lw_ms 17 rfl) rfl
theorem qs18 : (Cond.selects "EarthMesh$Reader" ⟨"EarthMesh$Reader", "number", "(II)I"⟩ ⟨"EarthMesh$Reader", "number", "(II)I"⟩) ∈ lw_all := lw_g (lw_at lw_ms 18 rfl) rfl
theorem qs19 : (Cond.selects "EarthMesh$Reader" ⟨"EarthMesh$Reader", "ends", "()V"⟩ ⟨"EarthMesh$Reader", "ends", "()V"⟩) ∈ lw_all := lw_g (lw_at lw_ms 19 rfl) rfl
theorem qs20 : (Cond.selects "EarthMesh$Reader" ⟨"EarthMesh$Reader", "clause", "()V"⟩ ⟨"EarthMesh$Reader", "clause", "()V"⟩) ∈ lw_all := lw_g (lw_at lw_ms 20 rfl) rfl
theorem qs21 : (Cond.selects "EarthMesh$Reader" ⟨"EarthMesh$Reader", "much", "(I)V"⟩ ⟨"EarthMesh$Reader", "much", "(I)V"⟩) ∈ lw_all := lw_g (lw_at lw_ms 21 rfl) rfl
theorem qs22 : (Cond.selects "EarthMesh$Reader" ⟨"EarthMesh$Reader", "node", "(I)I"⟩ ⟨"EarthMesh$Reader", "node", "(I)I"⟩) ∈ lw_all := lw_g (lw_at lw_ms 22 rfl) rfl
theorem qs23 : (Cond.selects "EarthMesh" ⟨"EarthMesh", "isSafe", "()Z"⟩ ⟨"EarthMesh", "isSafe", "()Z"⟩) ∈ lw_all := lw_g (lw_at lw_ms 23 rfl) rfl
theorem qs24 : (Cond.selects "EarthMesh" ⟨"EarthMesh", "solves", "()V"⟩ ⟨"EarthMesh", "solves", "()V"⟩) ∈ lw_all := lw_g (lw_at lw_ms 24 rfl) rfl
theorem qs25 : (Cond.selects "EarthMesh$Determinant" ⟨"EarthMesh$Determinant", "left", "([[JIIJ)J"⟩ ⟨"EarthMesh$Determinant", "left", "([[JIIJ)J"⟩) ∈ lw_all := lw_g (lw_at lw_ms 25 rfl) rfl
theorem qs26 : (Cond.selects "EarthMesh$Determinant" ⟨"EarthMesh$Determinant", "lays", "([[JIJ)V"⟩ ⟨"EarthMesh$Determinant", "lays", "([[JIJ)V"⟩) ∈ lw_all := lw_g (lw_at lw_ms 26 rfl) rfl
theorem qs27 : (Cond.selects "EarthMesh$Determinant" ⟨"EarthMesh$Determinant", "pivot", "(II)I"⟩ ⟨"EarthMesh$Determinant", "pivot", "(II)I"⟩) ∈ lw_all := lw_g (lw_at lw_ms 27 rfl) rfl
theorem qs28 : (Cond.selects "EarthMesh$Determinant" ⟨"EarthMesh$Determinant", "swaps", "(II)V"⟩ ⟨"EarthMesh$Determinant", "swaps", "(II)V"⟩) ∈ lw_all := lw_g (lw_at lw_ms 28 rfl) rfl
theorem qs29 : (Cond.selects "EarthMesh$Determinant" ⟨"EarthMesh$Determinant", "clears", "(IIIJJ)V"⟩ ⟨"EarthMesh$Determinant", "clears", "(IIIJJ)V"⟩) ∈ lw_all := lw_g (lw_at lw_ms 29 rfl) rfl
theorem qs30 : (Cond.selects "EarthMesh$Determinant" ⟨"EarthMesh$Determinant", "both", "(JJ)J"⟩ ⟨"EarthMesh$Determinant", "both", "(JJ)J"⟩) ∈ lw_all := lw_g (lw_at lw_ms 30 rfl) rfl
theorem qs31 : (Cond.selects "EarthMesh$Determinant" ⟨"EarthMesh$Determinant", "clearsUp", "(IJJ[J)V"⟩ ⟨"EarthMesh$Determinant", "clearsUp", "(IJJ[J)V"⟩) ∈ lw_all := lw_g (lw_at lw_ms 31 rfl) rfl
theorem qs32 : (Cond.selects "EarthMesh" ⟨"EarthMesh", "isWithin", "(II)Z"⟩ ⟨"EarthMesh", "isWithin", "(II)Z"⟩) ∈ lw_all := lw_g (lw_at lw_ms 32 rfl) rfl
theorem qs33 : (Cond.selects "EarthMesh" ⟨"EarthMesh", "most", "(I)I"⟩ ⟨"EarthMesh", "most", "(I)I"⟩) ∈ lw_all := lw_g (lw_at lw_ms 33 rfl) rfl
theorem qs34 : (Cond.selects "EarthMesh" ⟨"EarthMesh", "points", "()I"⟩ ⟨"EarthMesh", "points", "()I"⟩) ∈ lw_all := lw_g (lw_at lw_ms 34 rfl) rfl
theorem qs35 : (Cond.selects "EarthMesh" ⟨"EarthMesh", "missed", "()I"⟩ ⟨"EarthMesh", "missed", "()I"⟩) ∈ lw_all := lw_g (lw_at lw_ms 35 rfl) rfl
theorem qs36 : (Cond.selects "EarthMesh" ⟨"EarthMesh", "resistsWithout", "(II)LEarthMesh$Part;"⟩ ⟨"EarthMesh", "resistsWithout", "(II)LEarthMesh$Part;"⟩) ∈ lw_all := lw_g (lw_at lw_ms 36 rfl) rfl
theorem qs37 : (Cond.selects "EarthMesh" ⟨"EarthMesh", "resistsNow", "()LEarthMesh$Part;"⟩ ⟨"EarthMesh", "resistsNow", "()LEarthMesh$Part;"⟩) ∈ lw_all := lw_g (lw_at lw_ms 37 rfl) rfl
theorem qs38 : (Cond.selects "EarthMesh" ⟨"EarthMesh", "resists", "(I)LEarthMesh$Part;"⟩ ⟨"EarthMesh", "resists", "(I)LEarthMesh$Part;"⟩) ∈ lw_all := lw_g (lw_at lw_ms 38 rfl) rfl
theorem qs39 : (Cond.selects "EarthMesh" ⟨"EarthMesh", "best", "()I"⟩ ⟨"EarthMesh", "best", "()I"⟩) ∈ lw_all := lw_g (lw_at lw_ms 39 rfl) rfl
theorem qs40 : (Cond.selects "EarthMesh" ⟨"EarthMesh", "canAdd", "(II)Z"⟩ ⟨"EarthMesh", "canAdd", "(II)Z"⟩) ∈ lw_all := lw_g (lw_at lw_ms 40 rfl) rfl
theorem qs41 : (Cond.selects "EarthMesh" ⟨"EarthMesh", "needed", "(Z)I"⟩ ⟨"EarthMesh", "needed", "(Z)I"⟩) ∈ lw_all := lw_g (lw_at lw_ms 41 rfl) rfl
theorem qs42 : (Cond.selects "EarthMesh" ⟨"EarthMesh", "bars", "()I"⟩ ⟨"EarthMesh", "bars", "()I"⟩) ∈ lw_all := lw_g (lw_at lw_ms 42 rfl) rfl
theorem qs43 : (Cond.selects "EarthMesh" ⟨"EarthMesh", "rods", "()I"⟩ ⟨"EarthMesh", "rods", "()I"⟩) ∈ lw_all := lw_g (lw_at lw_ms 43 rfl) rfl
theorem qs44 : (Cond.selects "EarthMesh" ⟨"EarthMesh", "limit", "()I"⟩ ⟨"EarthMesh", "limit", "()I"⟩) ∈ lw_all := lw_g (lw_at lw_ms 44 rfl) rfl
theorem qs45 : (Cond.selects "EarthMesh" ⟨"EarthMesh", "thinned", "(Z)I"⟩ ⟨"EarthMesh", "thinned", "(Z)I"⟩) ∈ lw_all := lw_g (lw_at lw_ms 45 rfl) rfl
theorem qs46 : (Cond.selects "EarthMesh" ⟨"EarthMesh", "rows", "()[[I"⟩ ⟨"EarthMesh", "rows", "()[[I"⟩) ∈ lw_all := lw_g (lw_at lw_ms 46 rfl) rfl
theorem qs47 : (Cond.selects "EarthMesh" ⟨"EarthMesh", "resistsTold", "(I)LEarthMesh$Part;"⟩ ⟨"EarthMesh", "resistsTold", "(I)LEarthMesh$Part;"⟩) ∈ lw_all := lw_g (lw_at lw_ms 47 rfl) rfl
theorem qs48 : (Cond.selects "EarthMesh" ⟨"EarthMesh", "mustSolve", "()V"⟩ ⟨"EarthMesh", "mustSolve", "()V"⟩) ∈ lw_all := lw_g (lw_at lw_ms 48 rfl) rfl
theorem qs49 : (Cond.selects "EarthMesh" ⟨"EarthMesh", "flow", "(II)J"⟩ ⟨"EarthMesh", "flow", "(II)J"⟩) ∈ lw_all := lw_g (lw_at lw_ms 49 rfl) rfl
theorem qs50 : (Cond.selects "EarthMesh" ⟨"EarthMesh", "boxOf", "(I)[I"⟩ ⟨"EarthMesh", "boxOf", "(I)[I"⟩) ∈ lw_all := lw_g (lw_at lw_ms 50 rfl) rfl
theorem qs51 : (Cond.selects "EarthMesh" ⟨"EarthMesh", "isAbove", "(III)Z"⟩ ⟨"EarthMesh", "isAbove", "(III)Z"⟩) ∈ lw_all := lw_g (lw_at lw_ms 51 rfl) rfl
theorem qs52 : (Cond.selects "EarthMesh" ⟨"EarthMesh", "holds", "([II)V"⟩ ⟨"EarthMesh", "holds", "([II)V"⟩) ∈ lw_all := lw_g (lw_at lw_ms 52 rfl) rfl
theorem qs53 : (Cond.selects "EarthMesh" ⟨"EarthMesh", "pointsThere", "(II)V"⟩ ⟨"EarthMesh", "pointsThere", "(II)V"⟩) ∈ lw_all := lw_g (lw_at lw_ms 53 rfl) rfl
theorem qs54 : (Cond.selects "EarthMesh" ⟨"EarthMesh", "leastToll", "(II)J"⟩ ⟨"EarthMesh", "leastToll", "(II)J"⟩) ∈ lw_all := lw_g (lw_at lw_ms 54 rfl) rfl
theorem qs55 : (Cond.selects "EarthMesh" ⟨"EarthMesh", "goes", "(IJLEarthMesh$Toll;)V"⟩ ⟨"EarthMesh", "goes", "(IJLEarthMesh$Toll;)V"⟩) ∈ lw_all := lw_g (lw_at lw_ms 55 rfl) rfl
theorem qs56 : (Cond.selects "EarthMesh" ⟨"EarthMesh", "begins", "(I)V"⟩ ⟨"EarthMesh", "begins", "(I)V"⟩) ∈ lw_all := lw_g (lw_at lw_ms 56 rfl) rfl
theorem qs57 : (Cond.selects "EarthMesh" ⟨"EarthMesh", "stepBetween", "(II)J"⟩ ⟨"EarthMesh", "stepBetween", "(II)J"⟩) ∈ lw_all := lw_g (lw_at lw_ms 57 rfl) rfl
theorem qs58 : (Cond.selects "EarthMesh" ⟨"EarthMesh", "nearestLeft", "()I"⟩ ⟨"EarthMesh", "nearestLeft", "()I"⟩) ∈ lw_all := lw_g (lw_at lw_ms 58 rfl) rfl
theorem qs59 : (Cond.selects "EarthMesh" ⟨"EarthMesh", "laysShares", "()V"⟩ ⟨"EarthMesh", "laysShares", "()V"⟩) ∈ lw_all := lw_g (lw_at lw_ms 59 rfl) rfl
theorem qs60 : (Cond.selects "EarthMesh" ⟨"EarthMesh", "falls", "()V"⟩ ⟨"EarthMesh", "falls", "()V"⟩) ∈ lw_all := lw_g (lw_at lw_ms 60 rfl) rfl
theorem qs61 : (Cond.selects "EarthMesh" ⟨"EarthMesh", "melts", "()Z"⟩ ⟨"EarthMesh", "melts", "()Z"⟩) ∈ lw_all := lw_g (lw_at lw_ms 61 rfl) rfl
theorem qs62 : (Cond.selects "EarthMesh" ⟨"EarthMesh", "isTooMuch", "(II)Z"⟩ ⟨"EarthMesh", "isTooMuch", "(II)Z"⟩) ∈ lw_all := lw_g (lw_at lw_ms 62 rfl) rfl
theorem qs63 : (Cond.selects "EarthMesh" ⟨"EarthMesh", "worstBy", "(II)LEarthMesh$Part;"⟩ ⟨"EarthMesh", "worstBy", "(II)LEarthMesh$Part;"⟩) ∈ lw_all := lw_g (lw_at lw_ms 63 rfl) rfl
theorem qs64 : (Cond.selects "EarthMesh" ⟨"EarthMesh", "worstOf", "(I)LEarthMesh$Part;"⟩ ⟨"EarthMesh", "worstOf", "(I)LEarthMesh$Part;"⟩) ∈ lw_all := lw_g (lw_at lw_ms 64 rfl) rfl
theorem qs65 : (Cond.selects "EarthMesh" ⟨"EarthMesh", "isRim", "(I)Z"⟩ ⟨"EarthMesh", "isRim", "(I)Z"⟩) ∈ lw_all := lw_g (lw_at lw_ms 65 rfl) rfl
theorem qs66 : (Cond.selects "EarthMesh" ⟨"EarthMesh", "doesCome", "(IJ)Z"⟩ ⟨"EarthMesh", "doesCome", "(IJ)Z"⟩) ∈ lw_all := lw_g (lw_at lw_ms 66 rfl) rfl
theorem qs67 : (Cond.selects "EarthMesh" ⟨"EarthMesh", "leaked", "(II)J"⟩ ⟨"EarthMesh", "leaked", "(II)J"⟩) ∈ lw_all := lw_g (lw_at lw_ms 67 rfl) rfl
theorem qs68 : (Cond.selects "EarthMesh$Equations" ⟨"EarthMesh$Equations", "laysRow", "(IIIII)V"⟩ ⟨"EarthMesh$Equations", "laysRow", "(IIIII)V"⟩) ∈ lw_all := lw_g (lw_at lw_ms 68 rfl) rfl
theorem qs69 : (Cond.selects "EarthMesh" ⟨"EarthMesh", "laysCheap", "()V"⟩ ⟨"EarthMesh", "laysCheap", "()V"⟩) ∈ lw_all := lw_g (lw_at lw_ms 69 rfl) rfl
theorem qs70 : (Cond.selects "EarthMesh" ⟨"EarthMesh", "isCheap", "(IIII)V"⟩ ⟨"EarthMesh", "isCheap", "(IIII)V"⟩) ∈ lw_all := lw_g (lw_at lw_ms 70 rfl) rfl
theorem qs71 : (Cond.selects "EarthMesh" ⟨"EarthMesh", "tries", "(II)V"⟩ ⟨"EarthMesh", "tries", "(II)V"⟩) ∈ lw_all := lw_g (lw_at lw_ms 71 rfl) rfl
theorem qs72 : (Cond.selects "EarthMeshModel" ⟨"EarthMeshModel", "refuse", "()I"⟩ ⟨"EarthMeshModel", "refuse", "()I"⟩) ∈ lw_all := lw_g (lw_at lw_ms 72 rfl) rfl
theorem qs73 : (Cond.selects "EarthMeshModel" ⟨"EarthMeshModel", "fail", "(I)I"⟩ ⟨"EarthMeshModel", "fail", "(I)I"⟩) ∈ lw_all := lw_g (lw_at lw_ms 73 rfl) rfl
theorem qs74 : (Cond.selects "EarthMeshModel" ⟨"EarthMeshModel", "stepOn", "()V"⟩ ⟨"EarthMeshModel", "stepOn", "()V"⟩) ∈ lw_all := lw_g (lw_at lw_ms 74 rfl) rfl
theorem qs75 : (Cond.selects "EarthMeshModel" ⟨"EarthMeshModel", "byteAt", "(I)I"⟩ ⟨"EarthMeshModel", "byteAt", "(I)I"⟩) ∈ lw_all := lw_g (lw_at lw_ms 75 rfl) rfl
theorem qs76 : (Cond.selects "EarthMeshModel" ⟨"EarthMeshModel", "is", "(Ljava/lang/String;)Z"⟩ ⟨"EarthMeshModel", "is", "(Ljava/lang/String;)Z"⟩) ∈ lw_all := lw_g (lw_at lw_ms 76 rfl) rfl
theorem qs77 : (Cond.selects "EarthMeshModel" ⟨"EarthMeshModel", "wrong", "(I)V"⟩ ⟨"EarthMeshModel", "wrong", "(I)V"⟩) ∈ lw_all := lw_g (lw_at lw_ms 77 rfl) rfl
theorem qs78 : (Cond.selects "EarthMeshModel" ⟨"EarthMeshModel", "pass", "()V"⟩ ⟨"EarthMeshModel", "pass", "()V"⟩) ∈ lw_all := lw_g (lw_at lw_ms 78 rfl) rfl
theorem qs79 : (Cond.selects "EarthMeshModel" ⟨"EarthMeshModel", "readNumber", "(II)I"⟩ ⟨"EarthMeshModel", "readNumber", "(II)I"⟩) ∈ lw_all := lw_g (lw_at lw_ms 79 rfl) rfl
theorem qs80 : (Cond.selects "EarthMeshModel" ⟨"EarthMeshModel", "numberNow", "(II)I"⟩ ⟨"EarthMeshModel", "numberNow", "(II)I"⟩) ∈ lw_all := lw_g (lw_at lw_ms 80 rfl) rfl
theorem qs81 : (Cond.selects "EarthMeshModel" ⟨"EarthMeshModel", "readEnd", "()V"⟩ ⟨"EarthMeshModel", "readEnd", "()V"⟩) ∈ lw_all := lw_g (lw_at lw_ms 81 rfl) rfl
theorem qs82 : (Cond.selects "EarthMeshModel" ⟨"EarthMeshModel", "readClause", "()V"⟩ ⟨"EarthMeshModel", "readClause", "()V"⟩) ∈ lw_all := lw_g (lw_at lw_ms 82 rfl) rfl
theorem qs83 : (Cond.selects "EarthMeshModel" ⟨"EarthMeshModel", "which", "()I"⟩ ⟨"EarthMeshModel", "which", "()I"⟩) ∈ lw_all := lw_g (lw_at lw_ms 83 rfl) rfl
theorem qs84 : (Cond.selects "EarthMeshModel" ⟨"EarthMeshModel", "readNode", "(I)I"⟩ ⟨"EarthMeshModel", "readNode", "(I)I"⟩) ∈ lw_all := lw_g (lw_at lw_ms 84 rfl) rfl
theorem qs85 : (Cond.selects "EarthMeshModel" ⟨"EarthMeshModel", "joinedTo", "(I)I"⟩ ⟨"EarthMeshModel", "joinedTo", "(I)I"⟩) ∈ lw_all := lw_g (lw_at lw_ms 85 rfl) rfl
theorem qs86 : (Cond.selects "EarthMeshModel" ⟨"EarthMeshModel", "part", "(II)I"⟩ ⟨"EarthMeshModel", "part", "(II)I"⟩) ∈ lw_all := lw_g (lw_at lw_ms 86 rfl) rfl
theorem qs87 : (Cond.selects "EarthMeshModel" ⟨"EarthMeshModel", "end", "(II)I"⟩ ⟨"EarthMeshModel", "end", "(II)I"⟩) ∈ lw_all := lw_g (lw_at lw_ms 87 rfl) rfl
theorem qs88 : (Cond.selects "EarthMeshModel" ⟨"EarthMeshModel", "solvesNow", "()Z"⟩ ⟨"EarthMeshModel", "solvesNow", "()Z"⟩) ∈ lw_all := lw_g (lw_at lw_ms 88 rfl) rfl
theorem qs89 : (Cond.selects "EarthMeshModel" ⟨"EarthMeshModel", "solves", "(II)Z"⟩ ⟨"EarthMeshModel", "solves", "(II)Z"⟩) ∈ lw_all := lw_g (lw_at lw_ms 89 rfl) rfl
theorem qs90 : (Cond.selects "EarthMeshModel" ⟨"EarthMeshModel", "leaks", "(I)Z"⟩ ⟨"EarthMeshModel", "leaks", "(I)Z"⟩) ∈ lw_all := lw_g (lw_at lw_ms 90 rfl) rfl
theorem qs91 : (Cond.selects "EarthMeshModel" ⟨"EarthMeshModel", "layRows", "(II)V"⟩ ⟨"EarthMeshModel", "layRows", "(II)V"⟩) ∈ lw_all := lw_g (lw_at lw_ms 91 rfl) rfl
theorem qs92 : (Cond.selects "EarthMeshModel" ⟨"EarthMeshModel", "gOf", "(II)I"⟩ ⟨"EarthMeshModel", "gOf", "(II)I"⟩) ∈ lw_all := lw_g (lw_at lw_ms 92 rfl) rfl
theorem qs93 : (Cond.selects "EarthMeshModel" ⟨"EarthMeshModel", "lay", "(IIJ)V"⟩ ⟨"EarthMeshModel", "lay", "(IIJ)V"⟩) ∈ lw_all := lw_g (lw_at lw_ms 93 rfl) rfl
theorem qs94 : (Cond.selects "EarthMeshModel" ⟨"EarthMeshModel", "placeOf", "(I)I"⟩ ⟨"EarthMeshModel", "placeOf", "(I)I"⟩) ∈ lw_all := lw_g (lw_at lw_ms 94 rfl) rfl
theorem qs95 : (Cond.selects "EarthMeshModel" ⟨"EarthMeshModel", "clears", "(IZ)V"⟩ ⟨"EarthMeshModel", "clears", "(IZ)V"⟩) ∈ lw_all := lw_g (lw_at lw_ms 95 rfl) rfl
theorem qs96 : (Cond.selects "EarthMeshModel" ⟨"EarthMeshModel", "cell", "(II)J"⟩ ⟨"EarthMeshModel", "cell", "(II)J"⟩) ∈ lw_all := lw_g (lw_at lw_ms 96 rfl) rfl
theorem qs97 : (Cond.selects "EarthMeshModel" ⟨"EarthMeshModel", "isSafe", "()Z"⟩ ⟨"EarthMeshModel", "isSafe", "()Z"⟩) ∈ lw_all := lw_g (lw_at lw_ms 97 rfl) rfl
theorem qs98 : (Cond.selects "EarthMeshModel" ⟨"EarthMeshModel", "tellsGround", "()Z"⟩ ⟨"EarthMeshModel", "tellsGround", "()Z"⟩) ∈ lw_all := lw_g (lw_at lw_ms 98 rfl) rfl
theorem qs99 : (Cond.selects "EarthMeshModel" ⟨"EarthMeshModel", "points", "()I"⟩ ⟨"EarthMeshModel", "points", "()I"⟩) ∈ lw_all := lw_g (lw_at lw_ms 99 rfl) rfl
theorem qs100 : (Cond.selects "EarthMeshModel" ⟨"EarthMeshModel", "pointsWide", "()I"⟩ ⟨"EarthMeshModel", "pointsWide", "()I"⟩) ∈ lw_all := lw_g (lw_at lw_ms 100 rfl) rfl
theorem qs101 : (Cond.selects "EarthMeshModel" ⟨"EarthMeshModel", "tellGround", "(I)V"⟩ ⟨"EarthMeshModel", "tellGround", "(I)V"⟩) ∈ lw_all := lw_g (lw_at lw_ms 101 rfl) rfl
theorem qs102 : (Cond.selects "EarthMeshModel" ⟨"EarthMeshModel", "beside", "(II)I"⟩ ⟨"EarthMeshModel", "beside", "(II)I"⟩) ∈ lw_all := lw_g (lw_at lw_ms 102 rfl) rfl
theorem qs103 : (Cond.selects "EarthMeshModel" ⟨"EarthMeshModel", "step", "(II)J"⟩ ⟨"EarthMeshModel", "step", "(II)J"⟩) ∈ lw_all := lw_g (lw_at lw_ms 103 rfl) rfl
theorem qs104 : (Cond.selects "EarthMeshModel" ⟨"EarthMeshModel", "missed", "()I"⟩ ⟨"EarthMeshModel", "missed", "()I"⟩) ∈ lw_all := lw_g (lw_at lw_ms 104 rfl) rfl
theorem qs105 : (Cond.selects "EarthMeshModel" ⟨"EarthMeshModel", "resists", "()I"⟩ ⟨"EarthMeshModel", "resists", "()I"⟩) ∈ lw_all := lw_g (lw_at lw_ms 105 rfl) rfl
theorem qs106 : (Cond.selects "EarthMeshModel" ⟨"EarthMeshModel", "keepsBest", "()V"⟩ ⟨"EarthMeshModel", "keepsBest", "()V"⟩) ∈ lw_all := lw_g (lw_at lw_ms 106 rfl) rfl
theorem qs107 : (Cond.selects "EarthMeshModel" ⟨"EarthMeshModel", "best", "()I"⟩ ⟨"EarthMeshModel", "best", "()I"⟩) ∈ lw_all := lw_g (lw_at lw_ms 107 rfl) rfl
theorem qs108 : (Cond.selects "EarthMeshModel" ⟨"EarthMeshModel", "needed", "(Z)I"⟩ ⟨"EarthMeshModel", "needed", "(Z)I"⟩) ∈ lw_all := lw_g (lw_at lw_ms 108 rfl) rfl
theorem qs109 : (Cond.selects "EarthMeshModel" ⟨"EarthMeshModel", "parts", "(I)I"⟩ ⟨"EarthMeshModel", "parts", "(I)I"⟩) ∈ lw_all := lw_g (lw_at lw_ms 109 rfl) rfl
theorem qs110 : (Cond.selects "EarthMeshModel" ⟨"EarthMeshModel", "limit", "()I"⟩ ⟨"EarthMeshModel", "limit", "()I"⟩) ∈ lw_all := lw_g (lw_at lw_ms 110 rfl) rfl
theorem qs111 : (Cond.selects "EarthMeshModel" ⟨"EarthMeshModel", "thinned", "(Z)I"⟩ ⟨"EarthMeshModel", "thinned", "(Z)I"⟩) ∈ lw_all := lw_g (lw_at lw_ms 111 rfl) rfl
theorem qs112 : (Cond.selects "EarthMeshModel" ⟨"EarthMeshModel", "tries", "()V"⟩ ⟨"EarthMeshModel", "tries", "()V"⟩) ∈ lw_all := lw_g (lw_at lw_ms 112 rfl) rfl
theorem qs113 : (Cond.selects "EarthMeshModel" ⟨"EarthMeshModel", "laysBack", "()V"⟩ ⟨"EarthMeshModel", "laysBack", "()V"⟩) ∈ lw_all := lw_g (lw_at lw_ms 113 rfl) rfl
theorem qs114 : (Cond.selects "EarthMeshModel" ⟨"EarthMeshModel", "isNode", "(I)Z"⟩ ⟨"EarthMeshModel", "isNode", "(I)Z"⟩) ∈ lw_all := lw_g (lw_at lw_ms 114 rfl) rfl
theorem qs115 : (Cond.selects "EarthMeshModel" ⟨"EarthMeshModel", "isPoint", "(I)Z"⟩ ⟨"EarthMeshModel", "isPoint", "(I)Z"⟩) ∈ lw_all := lw_g (lw_at lw_ms 115 rfl) rfl
theorem qs116 : (Cond.selects "EarthMeshModel" ⟨"EarthMeshModel", "worstStep", "()I"⟩ ⟨"EarthMeshModel", "worstStep", "()I"⟩) ∈ lw_all := lw_g (lw_at lw_ms 116 rfl) rfl
theorem qs117 : (Cond.selects "EarthMeshModel" ⟨"EarthMeshModel", "worstTouch", "()I"⟩ ⟨"EarthMeshModel", "worstTouch", "()I"⟩) ∈ lw_all := lw_g (lw_at lw_ms 117 rfl) rfl
theorem qs118 : (Cond.selects "EarthMeshModel" ⟨"EarthMeshModel", "walkRefusal", "(II)I"⟩ ⟨"EarthMeshModel", "walkRefusal", "(II)I"⟩) ∈ lw_all := lw_g (lw_at lw_ms 118 rfl) rfl
theorem qs119 : (Cond.selects "EarthMeshModel" ⟨"EarthMeshModel", "tollTo", "(II)J"⟩ ⟨"EarthMeshModel", "tollTo", "(II)J"⟩) ∈ lw_all := lw_g (lw_at lw_ms 119 rfl) rfl
theorem qs120 : (Cond.selects "EarthMeshModel" ⟨"EarthMeshModel", "lowers", "(IIJ)Z"⟩ ⟨"EarthMeshModel", "lowers", "(IIJ)Z"⟩) ∈ lw_all := lw_g (lw_at lw_ms 120 rfl) rfl
theorem qs121 : (Cond.selects "EarthMeshModel" ⟨"EarthMeshModel", "melt", "()Z"⟩ ⟨"EarthMeshModel", "melt", "()Z"⟩) ∈ lw_all := lw_g (lw_at lw_ms 121 rfl) rfl
theorem qs122 : (Cond.selects "EarthMeshModel" ⟨"EarthMeshModel", "worstNow", "(Z)J"⟩ ⟨"EarthMeshModel", "worstNow", "(Z)J"⟩) ∈ lw_all := lw_g (lw_at lw_ms 122 rfl) rfl
theorem qs123 : (Cond.selects "EarthMeshModel" ⟨"EarthMeshModel", "isRim", "(I)Z"⟩ ⟨"EarthMeshModel", "isRim", "(I)Z"⟩) ∈ lw_all := lw_g (lw_at lw_ms 123 rfl) rfl
theorem qs124 : (Cond.selects "EarthMeshModel" ⟨"EarthMeshModel", "tellCheapest", "()V"⟩ ⟨"EarthMeshModel", "tellCheapest", "()V"⟩) ∈ lw_all := lw_g (lw_at lw_ms 124 rfl) rfl
theorem qs125 : (Cond.selects "EarthMeshModel" ⟨"EarthMeshModel", "weighs", "(IIII)V"⟩ ⟨"EarthMeshModel", "weighs", "(IIII)V"⟩) ∈ lw_all := lw_g (lw_at lw_ms 125 rfl) rfl
theorem qs126 : (Cond.selects "EarthMeshModel" ⟨"EarthMeshModel", "canBuild", "(I)Z"⟩ ⟨"EarthMeshModel", "canBuild", "(I)Z"⟩) ∈ lw_all := lw_g (lw_at lw_ms 126 rfl) rfl
theorem qs127 : (Cond.selects "EarthMeshModel" ⟨"EarthMeshModel", "priceOf", "(I)I"⟩ ⟨"EarthMeshModel", "priceOf", "(I)I"⟩) ∈ lw_all := lw_g (lw_at lw_ms 127 rfl) rfl
theorem qs128 : (Cond.selects "EarthMeshModel" ⟨"EarthMeshModel", "freeIn", "(I)I"⟩ ⟨"EarthMeshModel", "freeIn", "(I)I"⟩) ∈ lw_all := lw_g (lw_at lw_ms 128 rfl) rfl
-- ===== end of PART A; then your names; then what follows =====
