set_option maxRecDepth 100000
section
variable {p : Program} {l : Launch} {e : Env} {R : Room} {s : State} {m : MethodId} {args : Array Value} {below : List Frame} {meth : Method} {c : Code} {H : Heap} {locs : List Loc} {cells slots : Nat} {Q : State → Prop}
variable {cc : ByteArray} {pc : Nat} {ls : Array Slot} {rest : List Value} {E : Wd} {s0 : State} {b nL : Nat} {rt : Option FieldType} {g st : St}
abbrev rmX6_count : Room := { frames := 9, cells := 0, slots := 0, locals := 299 }
def fX6_count (v1 : Int32) (st : St) : Option (Int32 × St) :=
  nm (uI st 68 1 (0 : Int32)) fun st_1 =>
  if v1 = 0 then
    gd (inB (0 : Int32) 46) <|
    some ((st_1.1 70 (0 : Int32).toNatClampNeg), st_1)
  else
  if v1 = 1 then
    gd (inB (1 : Int32) 46) <|
    some ((st_1.1 70 (1 : Int32).toNatClampNeg), st_1)
  else
  if v1 = 2 then
    gd (inB (2 : Int32) 46) <|
    some ((st_1.1 70 (2 : Int32).toNatClampNeg), st_1)
  else
  if v1 = 3 then
    gd (inB (3 : Int32) 46) <|
    some ((st_1.1 70 (3 : Int32).toNatClampNeg), st_1)
  else
  if v1 = 4 then
    gd (inB (4 : Int32) 46) <|
    some ((st_1.1 70 (4 : Int32).toNatClampNeg), st_1)
  else
  if v1 = 5 then
    gd (inB v1 46) <|
    some ((st_1.1 70 v1.toNatClampNeg), st_1)
  else
  if v1 = 6 then
    gd (inB v1 46) <|
    some ((st_1.1 70 v1.toNatClampNeg), st_1)
  else
  if v1 = 7 then
    gd (inB v1 46) <|
    some ((st_1.1 70 v1.toNatClampNeg), st_1)
  else
  if v1 = 8 then
    gd (inB v1 46) <|
    some ((st_1.1 70 v1.toNatClampNeg), st_1)
  else
  if v1 = 9 then
    gd (inB (2 : Int32) 46) <|
    bd (fX6_joinedTo (st_1.1 70 (2 : Int32).toNatClampNeg) st_1) fun r_22 =>
    some (r_22, st_1)
  else
  if v1 = 10 then
    bd (fX6_solvesNow st_1) <| u2 fun r_24 st_24 =>
    if r_24 = 0 then
      some ((1 : Int32), st_24)
    else
      some ((0 : Int32), st_24)
  else
  if v1 = 11 then
    bd (fX6_isSafe st_1) <| u2 fun r_27 st_27 =>
    if r_27 = 0 then
      some ((0 : Int32), st_27)
    else
      some ((1 : Int32), st_27)
  else
  if v1 = 12 then
    bd (fX6_missed st_1) <| u2 fun r_30 st_30 =>
    some (r_30, st_30)
  else
  if v1 = 13 then
    some ((st_1.1 68 6), st_1)
  else
  if v1 = 14 then
    gd (inB (v1 - (14 : Int32)) 2) <|
    some ((st_1.1 72 (v1 - (14 : Int32)).toNatClampNeg), st_1)
  else
  if v1 = 15 then
    gd (inB (v1 - (14 : Int32)) 2) <|
    some ((st_1.1 72 (v1 - (14 : Int32)).toNatClampNeg), st_1)
  else
  if v1 = 16 then
    gd (inB (9 : Int32) 46) <|
    some ((st_1.1 70 (9 : Int32).toNatClampNeg), st_1)
  else
  if v1 = 17 then
    bd (fX6_best st_1) <| u2 fun r_39 st_39 =>
    some (r_39, st_39)
  else
  if v1 = 18 then
    bd (fX6_needed (1 : Int32) st_1) <| u2 fun r_41 st_41 =>
    some (r_41, st_41)
  else
  if v1 = 19 then
    bd (fX6_needed (0 : Int32) st_1) <| u2 fun r_43 st_43 =>
    some (r_43, st_43)
  else
  if v1 = 20 then
    bd (fX6_parts (0 : Int32) st_1) fun r_45 =>
    bd (fX6_parts (1 : Int32) st_1) fun r_46 =>
    some ((r_45 + r_46), st_1)
  else
  if v1 = 21 then
    bd (fX6_parts (2 : Int32) st_1) fun r_48 =>
    some (r_48, st_1)
  else
  if v1 = 22 then
    bd (fX6_limit st_1) <| u2 fun r_50 st_50 =>
    some (r_50, st_50)
  else
  if v1 = 23 then
    if v1 = (24 : Int32) then
      bd (fX6_thinned (1 : Int32) st_1) <| u2 fun r_54 st_54 =>
      some (r_54, st_54)
    else
      bd (fX6_thinned (0 : Int32) st_1) <| u2 fun r_53 st_53 =>
      some (r_53, st_53)
  else
  if v1 = 24 then
    if v1 = (24 : Int32) then
      bd (fX6_thinned (1 : Int32) st_1) <| u2 fun r_58 st_58 =>
      some (r_58, st_58)
    else
      bd (fX6_thinned (0 : Int32) st_1) <| u2 fun r_57 st_57 =>
      some (r_57, st_57)
  else
  bd (fX6_fail (1 : Int32) st_1) <| u2 fun r_59 st_59 =>
  some (r_59, st_59)
set_option maxHeartbeats 1000000 in
theorem bX6_count (C : Cx E s0 b p s m args meth c cX6_count 2 "EarthMeshModel" (some .int)) (hI : Sx E) (v1 : Int32) (st : St) {x : Int32 × St} (hx : fX6_count v1 st = some x) {H : Heap} {locs : List Loc} {ls : Array Slot} (h : XH E (sg st) s H locs) (hl : lv_has ls 2 [(0, .ref (E.ad 68)), (1, .int v1)]) : W p l e rmX6_count s m args below meth c H locs 0 0 (MQ below (Qx E (some (.int x.1)) (sg x.2)) args s 0 0 (gA E.HB)) (F0 m 0 ls []) := by
  unfold fX6_count at hx
  refine lv_aload_n C.x C.bc dX6_count_0 rfl (lv_at hl 0 rfl) ?_
  refine lv_iconst (v := (0 : Int32)) C.x C.bc dX6_count_1 (by decide) ?_
  obtain ⟨st_1, e_1, hx⟩ := nm_x hx
  refine pt_X6_90_68 C hI h e_1 dX6_count_2 (fun H locs h => ?_)
  refine lv_iload_n C.x C.bc dX6_count_5 rfl (lv_at hl 1 rfl) ?_
  by_cases c_2 : v1 = 0
  · have hx := ge_t hx c_2
    refine x_ti (y := 0) c_2.symm ?_
    refine lv_tableIn (tgt := 120) C.x C.bc dX6_count_6 (by decide) (by decide) rfl (by decide) ?_
    refine lv_aload_n C.x C.bc dX6_count_120 rfl (lv_at hl 0 rfl) ?_
    refine gt_X6_31_68 C hI h dX6_count_121 ?_
    refine lv_iconst (v := (0 : Int32)) C.x C.bc dX6_count_124 (by decide) ?_
    obtain ⟨g_3, hx⟩ := gd_e hx
    refine x_iald C h 70 46 (hI 70 (by decide)) k_70 g_3 dX6_count_125 ?_
    obtain rfl := Option.some.inj hx
    exact x_iret C h dX6_count_126
  have hx := ge_f hx c_2
  by_cases c_4 : v1 = 1
  · have hx := ge_t hx c_4
    refine x_ti (y := 1) c_4.symm ?_
    refine lv_tableIn (tgt := 127) C.x C.bc dX6_count_6 (by decide) (by decide) rfl (by decide) ?_
    refine lv_aload_n C.x C.bc dX6_count_127 rfl (lv_at hl 0 rfl) ?_
    refine gt_X6_31_68 C hI h dX6_count_128 ?_
    refine lv_iconst (v := (1 : Int32)) C.x C.bc dX6_count_131 (by decide) ?_
    obtain ⟨g_5, hx⟩ := gd_e hx
    refine x_iald C h 70 46 (hI 70 (by decide)) k_70 g_5 dX6_count_132 ?_
    obtain rfl := Option.some.inj hx
    exact x_iret C h dX6_count_133
  have hx := ge_f hx c_4
  by_cases c_6 : v1 = 2
  · have hx := ge_t hx c_6
    refine x_ti (y := 2) c_6.symm ?_
    refine lv_tableIn (tgt := 134) C.x C.bc dX6_count_6 (by decide) (by decide) rfl (by decide) ?_
    refine lv_aload_n C.x C.bc dX6_count_134 rfl (lv_at hl 0 rfl) ?_
    refine gt_X6_31_68 C hI h dX6_count_135 ?_
    refine lv_iconst (v := (2 : Int32)) C.x C.bc dX6_count_138 (by decide) ?_
    obtain ⟨g_7, hx⟩ := gd_e hx
    refine x_iald C h 70 46 (hI 70 (by decide)) k_70 g_7 dX6_count_139 ?_
    obtain rfl := Option.some.inj hx
    exact x_iret C h dX6_count_140
  have hx := ge_f hx c_6
  by_cases c_8 : v1 = 3
  · have hx := ge_t hx c_8
    refine x_ti (y := 3) c_8.symm ?_
    refine lv_tableIn (tgt := 141) C.x C.bc dX6_count_6 (by decide) (by decide) rfl (by decide) ?_
    refine lv_aload_n C.x C.bc dX6_count_141 rfl (lv_at hl 0 rfl) ?_
    refine gt_X6_31_68 C hI h dX6_count_142 ?_
    refine lv_iconst (v := (3 : Int32)) C.x C.bc dX6_count_145 (by decide) ?_
    obtain ⟨g_9, hx⟩ := gd_e hx
    refine x_iald C h 70 46 (hI 70 (by decide)) k_70 g_9 dX6_count_146 ?_
    obtain rfl := Option.some.inj hx
    exact x_iret C h dX6_count_147
  have hx := ge_f hx c_8
  by_cases c_10 : v1 = 4
  · have hx := ge_t hx c_10
    refine x_ti (y := 4) c_10.symm ?_
    refine lv_tableIn (tgt := 148) C.x C.bc dX6_count_6 (by decide) (by decide) rfl (by decide) ?_
    refine lv_aload_n C.x C.bc dX6_count_148 rfl (lv_at hl 0 rfl) ?_
    refine gt_X6_31_68 C hI h dX6_count_149 ?_
    refine lv_iconst (v := (4 : Int32)) C.x C.bc dX6_count_152 (by decide) ?_
    obtain ⟨g_11, hx⟩ := gd_e hx
    refine x_iald C h 70 46 (hI 70 (by decide)) k_70 g_11 dX6_count_153 ?_
    obtain rfl := Option.some.inj hx
    exact x_iret C h dX6_count_154
  have hx := ge_f hx c_10
  by_cases c_12 : v1 = 5
  · have hx := ge_t hx c_12
    refine x_ti (y := 5) c_12.symm ?_
    refine lv_tableIn (tgt := 155) C.x C.bc dX6_count_6 (by decide) (by decide) rfl (by decide) ?_
    refine lv_aload_n C.x C.bc dX6_count_155 rfl (lv_at hl 0 rfl) ?_
    refine gt_X6_31_68 C hI h dX6_count_156 ?_
    refine lv_iload_n C.x C.bc dX6_count_159 rfl (lv_at hl 1 rfl) ?_
    obtain ⟨g_13, hx⟩ := gd_e hx
    refine x_iald C h 70 46 (hI 70 (by decide)) k_70 g_13 dX6_count_160 ?_
    obtain rfl := Option.some.inj hx
    exact x_iret C h dX6_count_161
  have hx := ge_f hx c_12
  by_cases c_14 : v1 = 6
  · have hx := ge_t hx c_14
    refine x_ti (y := 6) c_14.symm ?_
    refine lv_tableIn (tgt := 155) C.x C.bc dX6_count_6 (by decide) (by decide) rfl (by decide) ?_
    refine lv_aload_n C.x C.bc dX6_count_155 rfl (lv_at hl 0 rfl) ?_
    refine gt_X6_31_68 C hI h dX6_count_156 ?_
    refine lv_iload_n C.x C.bc dX6_count_159 rfl (lv_at hl 1 rfl) ?_
    obtain ⟨g_15, hx⟩ := gd_e hx
    refine x_iald C h 70 46 (hI 70 (by decide)) k_70 g_15 dX6_count_160 ?_
    obtain rfl := Option.some.inj hx
    exact x_iret C h dX6_count_161
  have hx := ge_f hx c_14
  by_cases c_16 : v1 = 7
  · have hx := ge_t hx c_16
    refine x_ti (y := 7) c_16.symm ?_
    refine lv_tableIn (tgt := 155) C.x C.bc dX6_count_6 (by decide) (by decide) rfl (by decide) ?_
    refine lv_aload_n C.x C.bc dX6_count_155 rfl (lv_at hl 0 rfl) ?_
    refine gt_X6_31_68 C hI h dX6_count_156 ?_
    refine lv_iload_n C.x C.bc dX6_count_159 rfl (lv_at hl 1 rfl) ?_
    obtain ⟨g_17, hx⟩ := gd_e hx
    refine x_iald C h 70 46 (hI 70 (by decide)) k_70 g_17 dX6_count_160 ?_
    obtain rfl := Option.some.inj hx
    exact x_iret C h dX6_count_161
  have hx := ge_f hx c_16
  by_cases c_18 : v1 = 8
  · have hx := ge_t hx c_18
    refine x_ti (y := 8) c_18.symm ?_
    refine lv_tableIn (tgt := 155) C.x C.bc dX6_count_6 (by decide) (by decide) rfl (by decide) ?_
    refine lv_aload_n C.x C.bc dX6_count_155 rfl (lv_at hl 0 rfl) ?_
    refine gt_X6_31_68 C hI h dX6_count_156 ?_
    refine lv_iload_n C.x C.bc dX6_count_159 rfl (lv_at hl 1 rfl) ?_
    obtain ⟨g_19, hx⟩ := gd_e hx
    refine x_iald C h 70 46 (hI 70 (by decide)) k_70 g_19 dX6_count_160 ?_
    obtain rfl := Option.some.inj hx
    exact x_iret C h dX6_count_161
  have hx := ge_f hx c_18
  by_cases c_20 : v1 = 9
  · have hx := ge_t hx c_20
    refine x_ti (y := 9) c_20.symm ?_
    refine lv_tableIn (tgt := 162) C.x C.bc dX6_count_6 (by decide) (by decide) rfl (by decide) ?_
    refine lv_aload_n C.x C.bc dX6_count_162 rfl (lv_at hl 0 rfl) ?_
    refine lv_aload_n C.x C.bc dX6_count_163 rfl (lv_at hl 0 rfl) ?_
    refine gt_X6_31_68 C hI h dX6_count_164 ?_
    refine lv_iconst (v := (2 : Int32)) C.x C.bc dX6_count_167 (by decide) ?_
    obtain ⟨g_21, hx⟩ := gd_e hx
    refine x_iald C h 70 46 (hI 70 (by decide)) k_70 g_21 dX6_count_168 ?_
    obtain ⟨r_22, hf_22, hx⟩ := bd_e hx
    refine cX6_245_X6_joinedTo C hI h hf_22 ⟨Nat.le_of_ble_eq_true rfl, Nat.le_of_ble_eq_true rfl⟩ ⟨Nat.zero_le _, Nat.zero_le _⟩ hl.1 (Nat.le_of_ble_eq_true rfl) dX6_count_169 (fun H locs h => ?_)
    obtain rfl := Option.some.inj hx
    exact x_iret C h dX6_count_172
  have hx := ge_f hx c_20
  by_cases c_23 : v1 = 10
  · have hx := ge_t hx c_23
    refine x_ti (y := 10) c_23.symm ?_
    refine lv_tableIn (tgt := 173) C.x C.bc dX6_count_6 (by decide) (by decide) rfl (by decide) ?_
    refine lv_aload_n C.x C.bc dX6_count_173 rfl (lv_at hl 0 rfl) ?_
    obtain ⟨⟨r_24, st_24⟩, hf_24, hx⟩ := bd_e hx
    have hx := u2_e hx
    refine cX6_274_X6_solvesNow C hI h hf_24 ⟨Nat.le_of_ble_eq_true rfl, Nat.le_of_ble_eq_true rfl⟩ ⟨Nat.zero_le _, Nat.zero_le _⟩ hl.1 (Nat.le_of_ble_eq_true rfl) dX6_count_174 (fun H locs h => ?_)
    refine lv_if_eq (tgt := 184) C.x C.bc dX6_count_177 (by decide) (fun c_25 => ?_) (fun c_25 => ?_)
    · have hx := ge_t hx c_25
      refine lv_iconst (v := (1 : Int32)) C.x C.bc dX6_count_184 (by decide) ?_
      obtain rfl := Option.some.inj hx
      exact x_iret C h dX6_count_185
    · have hx := ge_f hx c_25
      refine lv_iconst (v := (0 : Int32)) C.x C.bc dX6_count_180 (by decide) ?_
      refine lv_goto (tgt := 185) C.x C.bc dX6_count_181 (by decide) ?_
      obtain rfl := Option.some.inj hx
      exact x_iret C h dX6_count_185
  have hx := ge_f hx c_23
  by_cases c_26 : v1 = 11
  · have hx := ge_t hx c_26
    refine x_ti (y := 11) c_26.symm ?_
    refine lv_tableIn (tgt := 186) C.x C.bc dX6_count_6 (by decide) (by decide) rfl (by decide) ?_
    refine lv_aload_n C.x C.bc dX6_count_186 rfl (lv_at hl 0 rfl) ?_
    obtain ⟨⟨r_27, st_27⟩, hf_27, hx⟩ := bd_e hx
    have hx := u2_e hx
    refine cX6_278_X6_isSafe C hI h hf_27 ⟨Nat.le_of_ble_eq_true rfl, Nat.le_of_ble_eq_true rfl⟩ ⟨Nat.zero_le _, Nat.zero_le _⟩ hl.1 (Nat.le_of_ble_eq_true rfl) dX6_count_187 (fun H locs h => ?_)
    refine lv_if_eq (tgt := 197) C.x C.bc dX6_count_190 (by decide) (fun c_28 => ?_) (fun c_28 => ?_)
    · have hx := ge_t hx c_28
      refine lv_iconst (v := (0 : Int32)) C.x C.bc dX6_count_197 (by decide) ?_
      obtain rfl := Option.some.inj hx
      exact x_iret C h dX6_count_198
    · have hx := ge_f hx c_28
      refine lv_iconst (v := (1 : Int32)) C.x C.bc dX6_count_193 (by decide) ?_
      refine lv_goto (tgt := 198) C.x C.bc dX6_count_194 (by decide) ?_
      obtain rfl := Option.some.inj hx
      exact x_iret C h dX6_count_198
  have hx := ge_f hx c_26
  by_cases c_29 : v1 = 12
  · have hx := ge_t hx c_29
    refine x_ti (y := 12) c_29.symm ?_
    refine lv_tableIn (tgt := 199) C.x C.bc dX6_count_6 (by decide) (by decide) rfl (by decide) ?_
    refine lv_aload_n C.x C.bc dX6_count_199 rfl (lv_at hl 0 rfl) ?_
    obtain ⟨⟨r_30, st_30⟩, hf_30, hx⟩ := bd_e hx
    have hx := u2_e hx
    refine cX6_281_X6_missed C hI h hf_30 ⟨Nat.le_of_ble_eq_true rfl, Nat.le_of_ble_eq_true rfl⟩ ⟨Nat.zero_le _, Nat.zero_le _⟩ hl.1 (Nat.le_of_ble_eq_true rfl) dX6_count_200 (fun H locs h => ?_)
    obtain rfl := Option.some.inj hx
    exact x_iret C h dX6_count_203
  have hx := ge_f hx c_29
  by_cases c_31 : v1 = 13
  · have hx := ge_t hx c_31
    refine x_ti (y := 13) c_31.symm ?_
    refine lv_tableIn (tgt := 204) C.x C.bc dX6_count_6 (by decide) (by decide) rfl (by decide) ?_
    refine lv_aload_n C.x C.bc dX6_count_204 rfl (lv_at hl 0 rfl) ?_
    refine gt_X6_93_68 C hI h dX6_count_205 ?_
    obtain rfl := Option.some.inj hx
    exact x_iret C h dX6_count_208
  have hx := ge_f hx c_31
  by_cases c_32 : v1 = 14
  · have hx := ge_t hx c_32
    refine x_ti (y := 14) c_32.symm ?_
    refine lv_tableIn (tgt := 209) C.x C.bc dX6_count_6 (by decide) (by decide) rfl (by decide) ?_
    refine lv_aload_n C.x C.bc dX6_count_209 rfl (lv_at hl 0 rfl) ?_
    refine gt_X6_38_68 C hI h dX6_count_210 ?_
    refine lv_iload_n C.x C.bc dX6_count_213 rfl (lv_at hl 1 rfl) ?_
    refine lv_bipush (v := (14 : Int32)) C.x C.bc dX6_count_214 (by decide) ?_
    refine lv_isub C.x C.bc dX6_count_216 ?_
    obtain ⟨g_33, hx⟩ := gd_e hx
    refine x_iald C h 72 2 (hI 72 (by decide)) k_72 g_33 dX6_count_217 ?_
    obtain rfl := Option.some.inj hx
    exact x_iret C h dX6_count_218
  have hx := ge_f hx c_32
  by_cases c_34 : v1 = 15
  · have hx := ge_t hx c_34
    refine x_ti (y := 15) c_34.symm ?_
    refine lv_tableIn (tgt := 209) C.x C.bc dX6_count_6 (by decide) (by decide) rfl (by decide) ?_
    refine lv_aload_n C.x C.bc dX6_count_209 rfl (lv_at hl 0 rfl) ?_
    refine gt_X6_38_68 C hI h dX6_count_210 ?_
    refine lv_iload_n C.x C.bc dX6_count_213 rfl (lv_at hl 1 rfl) ?_
    refine lv_bipush (v := (14 : Int32)) C.x C.bc dX6_count_214 (by decide) ?_
    refine lv_isub C.x C.bc dX6_count_216 ?_
    obtain ⟨g_35, hx⟩ := gd_e hx
    refine x_iald C h 72 2 (hI 72 (by decide)) k_72 g_35 dX6_count_217 ?_
    obtain rfl := Option.some.inj hx
    exact x_iret C h dX6_count_218
  have hx := ge_f hx c_34
  by_cases c_36 : v1 = 16
  · have hx := ge_t hx c_36
    refine x_ti (y := 16) c_36.symm ?_
    refine lv_tableIn (tgt := 219) C.x C.bc dX6_count_6 (by decide) (by decide) rfl (by decide) ?_
    refine lv_aload_n C.x C.bc dX6_count_219 rfl (lv_at hl 0 rfl) ?_
    refine gt_X6_31_68 C hI h dX6_count_220 ?_
    refine lv_bipush (v := (9 : Int32)) C.x C.bc dX6_count_223 (by decide) ?_
    obtain ⟨g_37, hx⟩ := gd_e hx
    refine x_iald C h 70 46 (hI 70 (by decide)) k_70 g_37 dX6_count_225 ?_
    obtain rfl := Option.some.inj hx
    exact x_iret C h dX6_count_226
  have hx := ge_f hx c_36
  by_cases c_38 : v1 = 17
  · have hx := ge_t hx c_38
    refine x_ti (y := 17) c_38.symm ?_
    refine lv_tableIn (tgt := 227) C.x C.bc dX6_count_6 (by decide) (by decide) rfl (by decide) ?_
    refine lv_aload_n C.x C.bc dX6_count_227 rfl (lv_at hl 0 rfl) ?_
    obtain ⟨⟨r_39, st_39⟩, hf_39, hx⟩ := bd_e hx
    have hx := u2_e hx
    refine cX6_284_X6_best C hI h hf_39 ⟨Nat.le_of_ble_eq_true rfl, Nat.le_of_ble_eq_true rfl⟩ ⟨Nat.zero_le _, Nat.zero_le _⟩ hl.1 (Nat.le_of_ble_eq_true rfl) dX6_count_228 (fun H locs h => ?_)
    obtain rfl := Option.some.inj hx
    exact x_iret C h dX6_count_231
  have hx := ge_f hx c_38
  by_cases c_40 : v1 = 18
  · have hx := ge_t hx c_40
    refine x_ti (y := 18) c_40.symm ?_
    refine lv_tableIn (tgt := 232) C.x C.bc dX6_count_6 (by decide) (by decide) rfl (by decide) ?_
    refine lv_aload_n C.x C.bc dX6_count_232 rfl (lv_at hl 0 rfl) ?_
    refine lv_iconst (v := (1 : Int32)) C.x C.bc dX6_count_233 (by decide) ?_
    obtain ⟨⟨r_41, st_41⟩, hf_41, hx⟩ := bd_e hx
    have hx := u2_e hx
    refine cX6_287_X6_needed C hI h hf_41 ⟨Nat.le_of_ble_eq_true rfl, Nat.le_of_ble_eq_true rfl⟩ ⟨Nat.zero_le _, Nat.zero_le _⟩ hl.1 (Nat.le_of_ble_eq_true rfl) dX6_count_234 (fun H locs h => ?_)
    obtain rfl := Option.some.inj hx
    exact x_iret C h dX6_count_237
  have hx := ge_f hx c_40
  by_cases c_42 : v1 = 19
  · have hx := ge_t hx c_42
    refine x_ti (y := 19) c_42.symm ?_
    refine lv_tableIn (tgt := 238) C.x C.bc dX6_count_6 (by decide) (by decide) rfl (by decide) ?_
    refine lv_aload_n C.x C.bc dX6_count_238 rfl (lv_at hl 0 rfl) ?_
    refine lv_iconst (v := (0 : Int32)) C.x C.bc dX6_count_239 (by decide) ?_
    obtain ⟨⟨r_43, st_43⟩, hf_43, hx⟩ := bd_e hx
    have hx := u2_e hx
    refine cX6_287_X6_needed C hI h hf_43 ⟨Nat.le_of_ble_eq_true rfl, Nat.le_of_ble_eq_true rfl⟩ ⟨Nat.zero_le _, Nat.zero_le _⟩ hl.1 (Nat.le_of_ble_eq_true rfl) dX6_count_240 (fun H locs h => ?_)
    obtain rfl := Option.some.inj hx
    exact x_iret C h dX6_count_243
  have hx := ge_f hx c_42
  by_cases c_44 : v1 = 20
  · have hx := ge_t hx c_44
    refine x_ti (y := 20) c_44.symm ?_
    refine lv_tableIn (tgt := 244) C.x C.bc dX6_count_6 (by decide) (by decide) rfl (by decide) ?_
    refine lv_aload_n C.x C.bc dX6_count_244 rfl (lv_at hl 0 rfl) ?_
    refine lv_iconst (v := (0 : Int32)) C.x C.bc dX6_count_245 (by decide) ?_
    obtain ⟨r_45, hf_45, hx⟩ := bd_e hx
    refine cX6_291_X6_parts C hI h hf_45 ⟨Nat.le_of_ble_eq_true rfl, Nat.le_of_ble_eq_true rfl⟩ ⟨Nat.zero_le _, Nat.zero_le _⟩ hl.1 (Nat.le_of_ble_eq_true rfl) dX6_count_246 (fun H locs h => ?_)
    refine lv_aload_n C.x C.bc dX6_count_249 rfl (lv_at hl 0 rfl) ?_
    refine lv_iconst (v := (1 : Int32)) C.x C.bc dX6_count_250 (by decide) ?_
    obtain ⟨r_46, hf_46, hx⟩ := bd_e hx
    refine cX6_291_X6_parts C hI h hf_46 ⟨Nat.le_of_ble_eq_true rfl, Nat.le_of_ble_eq_true rfl⟩ ⟨Nat.zero_le _, Nat.zero_le _⟩ hl.1 (Nat.le_of_ble_eq_true rfl) dX6_count_251 (fun H locs h => ?_)
    refine lv_iadd C.x C.bc dX6_count_254 ?_
    obtain rfl := Option.some.inj hx
    exact x_iret C h dX6_count_255
  have hx := ge_f hx c_44
  by_cases c_47 : v1 = 21
  · have hx := ge_t hx c_47
    refine x_ti (y := 21) c_47.symm ?_
    refine lv_tableIn (tgt := 256) C.x C.bc dX6_count_6 (by decide) (by decide) rfl (by decide) ?_
    refine lv_aload_n C.x C.bc dX6_count_256 rfl (lv_at hl 0 rfl) ?_
    refine lv_iconst (v := (2 : Int32)) C.x C.bc dX6_count_257 (by decide) ?_
    obtain ⟨r_48, hf_48, hx⟩ := bd_e hx
    refine cX6_291_X6_parts C hI h hf_48 ⟨Nat.le_of_ble_eq_true rfl, Nat.le_of_ble_eq_true rfl⟩ ⟨Nat.zero_le _, Nat.zero_le _⟩ hl.1 (Nat.le_of_ble_eq_true rfl) dX6_count_258 (fun H locs h => ?_)
    obtain rfl := Option.some.inj hx
    exact x_iret C h dX6_count_261
  have hx := ge_f hx c_47
  by_cases c_49 : v1 = 22
  · have hx := ge_t hx c_49
    refine x_ti (y := 22) c_49.symm ?_
    refine lv_tableIn (tgt := 262) C.x C.bc dX6_count_6 (by decide) (by decide) rfl (by decide) ?_
    refine lv_aload_n C.x C.bc dX6_count_262 rfl (lv_at hl 0 rfl) ?_
    obtain ⟨⟨r_50, st_50⟩, hf_50, hx⟩ := bd_e hx
    have hx := u2_e hx
    refine cX6_294_X6_limit C hI h hf_50 ⟨Nat.le_of_ble_eq_true rfl, Nat.le_of_ble_eq_true rfl⟩ ⟨Nat.zero_le _, Nat.zero_le _⟩ hl.1 (Nat.le_of_ble_eq_true rfl) dX6_count_263 (fun H locs h => ?_)
    obtain rfl := Option.some.inj hx
    exact x_iret C h dX6_count_266
  have hx := ge_f hx c_49
  by_cases c_51 : v1 = 23
  · have hx := ge_t hx c_51
    refine x_ti (y := 23) c_51.symm ?_
    refine lv_tableIn (tgt := 267) C.x C.bc dX6_count_6 (by decide) (by decide) rfl (by decide) ?_
    refine lv_aload_n C.x C.bc dX6_count_267 rfl (lv_at hl 0 rfl) ?_
    refine lv_iload_n C.x C.bc dX6_count_268 rfl (lv_at hl 1 rfl) ?_
    refine lv_bipush (v := (24 : Int32)) C.x C.bc dX6_count_269 (by decide) ?_
    refine lv_icmp_ne (tgt := 278) C.x C.bc dX6_count_271 (by decide) (fun c_52 => ?_) (fun c_52 => ?_)
    · have hx := ge_f hx c_52
      refine lv_iconst (v := (0 : Int32)) C.x C.bc dX6_count_278 (by decide) ?_
      obtain ⟨⟨r_53, st_53⟩, hf_53, hx⟩ := bd_e hx
      have hx := u2_e hx
      refine cX6_297_X6_thinned C hI h hf_53 ⟨Nat.le_of_ble_eq_true rfl, Nat.le_of_ble_eq_true rfl⟩ ⟨Nat.zero_le _, Nat.zero_le _⟩ hl.1 (Nat.le_of_ble_eq_true rfl) dX6_count_279 (fun H locs h => ?_)
      obtain rfl := Option.some.inj hx
      exact x_iret C h dX6_count_282
    · have hx := ge_t hx c_52
      refine lv_iconst (v := (1 : Int32)) C.x C.bc dX6_count_274 (by decide) ?_
      refine lv_goto (tgt := 279) C.x C.bc dX6_count_275 (by decide) ?_
      obtain ⟨⟨r_54, st_54⟩, hf_54, hx⟩ := bd_e hx
      have hx := u2_e hx
      refine cX6_297_X6_thinned C hI h hf_54 ⟨Nat.le_of_ble_eq_true rfl, Nat.le_of_ble_eq_true rfl⟩ ⟨Nat.zero_le _, Nat.zero_le _⟩ hl.1 (Nat.le_of_ble_eq_true rfl) dX6_count_279 (fun H locs h => ?_)
      obtain rfl := Option.some.inj hx
      exact x_iret C h dX6_count_282
  have hx := ge_f hx c_51
  by_cases c_55 : v1 = 24
  · have hx := ge_t hx c_55
    refine x_ti (y := 24) c_55.symm ?_
    refine lv_tableIn (tgt := 267) C.x C.bc dX6_count_6 (by decide) (by decide) rfl (by decide) ?_
    refine lv_aload_n C.x C.bc dX6_count_267 rfl (lv_at hl 0 rfl) ?_
    refine lv_iload_n C.x C.bc dX6_count_268 rfl (lv_at hl 1 rfl) ?_
    refine lv_bipush (v := (24 : Int32)) C.x C.bc dX6_count_269 (by decide) ?_
    refine lv_icmp_ne (tgt := 278) C.x C.bc dX6_count_271 (by decide) (fun c_56 => ?_) (fun c_56 => ?_)
    · have hx := ge_f hx c_56
      refine lv_iconst (v := (0 : Int32)) C.x C.bc dX6_count_278 (by decide) ?_
      obtain ⟨⟨r_57, st_57⟩, hf_57, hx⟩ := bd_e hx
      have hx := u2_e hx
      refine cX6_297_X6_thinned C hI h hf_57 ⟨Nat.le_of_ble_eq_true rfl, Nat.le_of_ble_eq_true rfl⟩ ⟨Nat.zero_le _, Nat.zero_le _⟩ hl.1 (Nat.le_of_ble_eq_true rfl) dX6_count_279 (fun H locs h => ?_)
      obtain rfl := Option.some.inj hx
      exact x_iret C h dX6_count_282
    · have hx := ge_t hx c_56
      refine lv_iconst (v := (1 : Int32)) C.x C.bc dX6_count_274 (by decide) ?_
      refine lv_goto (tgt := 279) C.x C.bc dX6_count_275 (by decide) ?_
      obtain ⟨⟨r_58, st_58⟩, hf_58, hx⟩ := bd_e hx
      have hx := u2_e hx
      refine cX6_297_X6_thinned C hI h hf_58 ⟨Nat.le_of_ble_eq_true rfl, Nat.le_of_ble_eq_true rfl⟩ ⟨Nat.zero_le _, Nat.zero_le _⟩ hl.1 (Nat.le_of_ble_eq_true rfl) dX6_count_279 (fun H locs h => ?_)
      obtain rfl := Option.some.inj hx
      exact x_iret C h dX6_count_282
  have hx := ge_f hx c_55
  refine lv_tableOut (tgt := 283) C.x C.bc dX6_count_6 (sw_out (n := 24) (by decide) (fun k hk => match k, hk with | 0, _ => c_2 | 1, _ => c_4 | 2, _ => c_6 | 3, _ => c_8 | 4, _ => c_10 | 5, _ => c_12 | 6, _ => c_14 | 7, _ => c_16 | 8, _ => c_18 | 9, _ => c_20 | 10, _ => c_23 | 11, _ => c_26 | 12, _ => c_29 | 13, _ => c_31 | 14, _ => c_32 | 15, _ => c_34 | 16, _ => c_36 | 17, _ => c_38 | 18, _ => c_40 | 19, _ => c_42 | 20, _ => c_44 | 21, _ => c_47 | 22, _ => c_49 | 23, _ => c_51 | 24, _ => c_55 | k + 25, hk => absurd hk (by omega))) (by decide) ?_
  refine lv_aload_n C.x C.bc dX6_count_283 rfl (lv_at hl 0 rfl) ?_
  refine lv_iconst (v := (1 : Int32)) C.x C.bc dX6_count_284 (by decide) ?_
  obtain ⟨⟨r_59, st_59⟩, hf_59, hx⟩ := bd_e hx
  have hx := u2_e hx
  refine cX6_182_X6_fail C hI h hf_59 ⟨Nat.le_of_ble_eq_true rfl, Nat.le_of_ble_eq_true rfl⟩ ⟨Nat.zero_le _, Nat.zero_le _⟩ hl.1 (Nat.le_of_ble_eq_true rfl) dX6_count_285 (fun H locs h => ?_)
  obtain rfl := Option.some.inj hx
  exact x_iret C h dX6_count_288
theorem mX6_count (hG : G0 E s0 b) (hI : Sx E) {v1 : Int32} {x : Int32 × St} (hx : fX6_count v1 st = some x) : Mt l E s0 yX6_count cX6_count 2 (some .int) rmX6_count [.ref (E.ad 68), .int v1] (sg st) (some (.int x.1)) E (sg x.2) :=
  Mt.of hG (by decide) (Nat.le_of_ble_eq_true rfl) (fun p e s m below meth c ls C h hl => bX6_count C hI v1 st hx h hl)
abbrev rmX6_isNode : Room := { frames := 1, cells := 0, slots := 0, locals := 30 }
def fX6_isNode (v1 : Int32) (st : St) : Option (Int32) :=
  bd (fX6_nodes_70 st) fun r_1 =>
  nm (fX6_isIn v1 (0 : Int32) (r_1 - (1 : Int32))) fun r_2 =>
  gd (vp_nar .boolean r_2 = r_2) <|
  some r_2
set_option maxHeartbeats 1000000 in
theorem bX6_isNode (C : Cx E s0 b p s m args meth c cX6_isNode 2 "EarthMeshModel" (some .boolean)) (hI : Sx E) (v1 : Int32) (st : St) {x : Int32} (hx : fX6_isNode v1 st = some x) {H : Heap} {locs : List Loc} {ls : Array Slot} (h : XH E (sg st) s H locs) (hl : lv_has ls 2 [(0, .ref (E.ad 68)), (1, .int v1)]) : W p l e rmX6_isNode s m args below meth c H locs 0 0 (MQ below (Qx E (some (.int x)) (sg st)) args s 0 0 (gA E.HB)) (F0 m 0 ls []) := by
  unfold fX6_isNode at hx
  refine lv_iload_n C.x C.bc dX6_isNode_0 rfl (lv_at hl 1 rfl) ?_
  refine lv_iconst (v := (0 : Int32)) C.x C.bc dX6_isNode_1 (by decide) ?_
  refine lv_aload_n C.x C.bc dX6_isNode_2 rfl (lv_at hl 0 rfl) ?_
  refine gt_X6_31_68 C hI h dX6_isNode_3 ?_
  obtain ⟨r_1, hf_1, hx⟩ := bd_e hx
  refine cX6_190_X6_nodes_70 C hI h hf_1 ⟨Nat.le_of_ble_eq_true rfl, Nat.le_of_ble_eq_true rfl⟩ ⟨Nat.zero_le _, Nat.zero_le _⟩ hl.1 (Nat.le_of_ble_eq_true rfl) dX6_isNode_6 (fun H locs h => ?_)
  refine lv_iconst (v := (1 : Int32)) C.x C.bc dX6_isNode_9 (by decide) ?_
  refine lv_isub C.x C.bc dX6_isNode_10 ?_
  obtain ⟨r_2, e_2, hx⟩ := nm_x hx
  refine cX6_300_X6_isIn C hI h e_2.symm ⟨Nat.le_of_ble_eq_true rfl, Nat.le_of_ble_eq_true rfl⟩ ⟨Nat.zero_le _, Nat.zero_le _⟩ hl.1 (Nat.le_of_ble_eq_true rfl) dX6_isNode_11 (fun H locs h => ?_)
  obtain ⟨g_3, hx⟩ := gd_e hx
  obtain rfl := Option.some.inj hx
  exact x_zret (v := r_2) C h (nar_z g_3) dX6_isNode_14
theorem mX6_isNode (hG : G0 E s0 b) (hI : Sx E) {v1 : Int32} {x : Int32} (hx : fX6_isNode v1 st = some x) : Mt l E s0 yX6_isNode cX6_isNode 2 (some .boolean) rmX6_isNode [.ref (E.ad 68), .int v1] (sg st) (some (.int x)) E (sg st) :=
  Mt.of hG (by decide) (Nat.le_of_ble_eq_true rfl) (fun p e s m below meth c ls C h hl => bX6_isNode C hI v1 st hx h hl)
theorem cX6_304_X6_isNode {a0 : Int32} {r : Int32} (C : Cx E s0 b p s m args meth c cc nL "EarthMeshModel" rt) (hI : Sx E) (h : XH E (sg st) s H locs) (hf : fX6_isNode a0 st = some r) (hR : rmX6_isNode.frames + 1 ≤ R.frames ∧ 16 + (2 + 11) + rmX6_isNode.locals ≤ R.locals) (h0 : cells ≤ R.cells ∧ slots ≤ R.slots) (hsz : ls.size = nL) (hcat : (rest.map fun v => v.category).sum ≤ 16) (hdg : decode cc pc = .ok (.invokevirtual 304, 3)) (kk : ∀ (H : Heap) (locs : List Loc), XH E (sg st) s H locs → W p l e R s m args below meth c H locs cells slots Q (F0 m (pc + 3) ls (.int r :: rest))) : W p l e R s m args below meth c H locs cells slots Q (F0 m pc ls (.int a0 :: .ref (E.ad 68) :: rest)) :=
  x_callV (n := 1) (As := [.int a0]) C h 68 5 (hI 68 (by decide)) k_68 rfl (mX6_isNode C.g hI hf) (lw_V q1970 q1972 qs114 q136 q1973) ⟨rfl, by decide +kernel, by decide +kernel, by decide +kernel⟩ hR ⟨rfl, rfl⟩ h0 rfl hsz rfl hcat hdg kk
abbrev rmX6_node : Room := { frames := 2, cells := 0, slots := 0, locals := 59 }
def fX6_node_31 (st : St) : Option (Int32 × St) :=
  bd (fX6_fail (1 : Int32) st) <| u2 fun r_4 st_4 =>
  some (r_4, st_4)
set_option maxHeartbeats 1000000 in
theorem bX6_node_31 (C : Cx E s0 b p s m args meth c cX6_node 3 "EarthMeshModel" (some .int)) (hI : Sx E) (st : St) {x : Int32 × St} (hx : fX6_node_31 st = some x) {H : Heap} {locs : List Loc} {ls : Array Slot} (h : XH E (sg st) s H locs) (hl : lv_has ls 3 [(0, .ref (E.ad 68))]) : W p l e rmX6_node s m args below meth c H locs 0 0 (MQ below (Qx E (some (.int x.1)) (sg x.2)) args s 0 0 (gA E.HB)) (F0 m 31 ls []) := by
  unfold fX6_node_31 at hx
  refine lv_aload_n C.x C.bc dX6_node_31 rfl (lv_at hl 0 rfl) ?_
  refine lv_iconst (v := (1 : Int32)) C.x C.bc dX6_node_32 (by decide) ?_
  obtain ⟨⟨r_4, st_4⟩, hf_4, hx⟩ := bd_e hx
  have hx := u2_e hx
  refine cX6_182_X6_fail C hI h hf_4 ⟨Nat.le_of_ble_eq_true rfl, Nat.le_of_ble_eq_true rfl⟩ ⟨Nat.zero_le _, Nat.zero_le _⟩ hl.1 (Nat.le_of_ble_eq_true rfl) dX6_node_33 (fun H locs h => ?_)
  obtain rfl := Option.some.inj hx
  exact x_iret C h dX6_node_36
def fX6_node (v1 : Int32) (v2 : Int32) (st : St) : Option (Int32 × St) :=
  nm (uI st 68 1 (0 : Int32)) fun st_1 =>
  bd (fX6_isNode v1 st_1) fun r_2 =>
  if r_2 = 0 then
    fX6_node_31 st_1
  else
    nm (fX6_isIn v2 (0 : Int32) (2 : Int32)) fun r_5 =>
    if r_5 = 0 then
      fX6_node_31 st_1
    else
      bd (fX6_part v1 v2 st_1) fun r_7 =>
      some (r_7, st_1)
set_option maxHeartbeats 1000000 in
theorem bX6_node (C : Cx E s0 b p s m args meth c cX6_node 3 "EarthMeshModel" (some .int)) (hI : Sx E) (v1 : Int32) (v2 : Int32) (st : St) {x : Int32 × St} (hx : fX6_node v1 v2 st = some x) {H : Heap} {locs : List Loc} {ls : Array Slot} (h : XH E (sg st) s H locs) (hl : lv_has ls 3 [(0, .ref (E.ad 68)), (1, .int v1), (2, .int v2)]) : W p l e rmX6_node s m args below meth c H locs 0 0 (MQ below (Qx E (some (.int x.1)) (sg x.2)) args s 0 0 (gA E.HB)) (F0 m 0 ls []) := by
  unfold fX6_node at hx
  refine lv_aload_n C.x C.bc dX6_node_0 rfl (lv_at hl 0 rfl) ?_
  refine lv_iconst (v := (0 : Int32)) C.x C.bc dX6_node_1 (by decide) ?_
  obtain ⟨st_1, e_1, hx⟩ := nm_x hx
  refine pt_X6_90_68 C hI h e_1 dX6_node_2 (fun H locs h => ?_)
  refine lv_aload_n C.x C.bc dX6_node_5 rfl (lv_at hl 0 rfl) ?_
  refine lv_iload_n C.x C.bc dX6_node_6 rfl (lv_at hl 1 rfl) ?_
  obtain ⟨r_2, hf_2, hx⟩ := bd_e hx
  refine cX6_304_X6_isNode C hI h hf_2 ⟨Nat.le_of_ble_eq_true rfl, Nat.le_of_ble_eq_true rfl⟩ ⟨Nat.zero_le _, Nat.zero_le _⟩ hl.1 (Nat.le_of_ble_eq_true rfl) dX6_node_7 (fun H locs h => ?_)
  refine lv_if_eq (tgt := 31) C.x C.bc dX6_node_10 (by decide) (fun c_3 => ?_) (fun c_3 => ?_)
  · have hx := ge_t hx c_3
    exact bX6_node_31 C hI st_1 hx h (lv_sub hl [0] rfl)
  · have hx := ge_f hx c_3
    refine lv_iload_n C.x C.bc dX6_node_13 rfl (lv_at hl 2 rfl) ?_
    refine lv_iconst (v := (0 : Int32)) C.x C.bc dX6_node_14 (by decide) ?_
    refine lv_iconst (v := (2 : Int32)) C.x C.bc dX6_node_15 (by decide) ?_
    obtain ⟨r_5, e_5, hx⟩ := nm_x hx
    refine cX6_300_X6_isIn C hI h e_5.symm ⟨Nat.le_of_ble_eq_true rfl, Nat.le_of_ble_eq_true rfl⟩ ⟨Nat.zero_le _, Nat.zero_le _⟩ hl.1 (Nat.le_of_ble_eq_true rfl) dX6_node_16 (fun H locs h => ?_)
    refine lv_if_eq (tgt := 31) C.x C.bc dX6_node_19 (by decide) (fun c_6 => ?_) (fun c_6 => ?_)
    · have hx := ge_t hx c_6
      exact bX6_node_31 C hI st_1 hx h (lv_sub hl [0] rfl)
    · have hx := ge_f hx c_6
      refine lv_aload_n C.x C.bc dX6_node_22 rfl (lv_at hl 0 rfl) ?_
      refine lv_iload_n C.x C.bc dX6_node_23 rfl (lv_at hl 1 rfl) ?_
      refine lv_iload_n C.x C.bc dX6_node_24 rfl (lv_at hl 2 rfl) ?_
      obtain ⟨r_7, hf_7, hx⟩ := bd_e hx
      refine cX6_194_X6_part C hI h hf_7 ⟨Nat.le_of_ble_eq_true rfl, Nat.le_of_ble_eq_true rfl⟩ ⟨Nat.zero_le _, Nat.zero_le _⟩ hl.1 (Nat.le_of_ble_eq_true rfl) dX6_node_25 (fun H locs h => ?_)
      refine lv_goto (tgt := 36) C.x C.bc dX6_node_28 (by decide) ?_
      obtain rfl := Option.some.inj hx
      exact x_iret C h dX6_node_36
theorem mX6_node (hG : G0 E s0 b) (hI : Sx E) {v1 : Int32} {v2 : Int32} {x : Int32 × St} (hx : fX6_node v1 v2 st = some x) : Mt l E s0 yX6_node cX6_node 3 (some .int) rmX6_node [.ref (E.ad 68), .int v1, .int v2] (sg st) (some (.int x.1)) E (sg x.2) :=
  Mt.of hG (by decide) (Nat.le_of_ble_eq_true rfl) (fun p e s m below meth c ls C h hl => bX6_node C hI v1 v2 st hx h hl)
abbrev rmX6_at : Room := { frames := 6, cells := 0, slots := 0, locals := 204 }
def fX6_at_22 (st : St) : Option (Int64 × St) :=
  bd (fX6_fail (1 : Int32) st) <| u2 fun r_4 st_4 =>
  some ((r_4.toInt64), st_4)
set_option maxHeartbeats 1000000 in
theorem bX6_at_22 (C : Cx E s0 b p s m args meth c cX6_at 6 "EarthMeshModel" (some .long)) (hI : Sx E) (st : St) {x : Int64 × St} (hx : fX6_at_22 st = some x) {H : Heap} {locs : List Loc} {ls : Array Slot} (h : XH E (sg st) s H locs) (hl : lv_has ls 6 [(0, .ref (E.ad 68))]) : W p l e rmX6_at s m args below meth c H locs 0 0 (MQ below (Qx E (some (.long x.1)) (sg x.2)) args s 0 0 (gA E.HB)) (F0 m 22 ls []) := by
  unfold fX6_at_22 at hx
  refine lv_aload_n C.x C.bc dX6_at_22 rfl (lv_at hl 0 rfl) ?_
  refine lv_iconst (v := (1 : Int32)) C.x C.bc dX6_at_23 (by decide) ?_
  obtain ⟨⟨r_4, st_4⟩, hf_4, hx⟩ := bd_e hx
  have hx := u2_e hx
  refine cX6_182_X6_fail C hI h hf_4 ⟨Nat.le_of_ble_eq_true rfl, Nat.le_of_ble_eq_true rfl⟩ ⟨Nat.zero_le _, Nat.zero_le _⟩ hl.1 (Nat.le_of_ble_eq_true rfl) dX6_at_24 (fun H locs h => ?_)
  refine lv_i2l (v := (r_4.toInt64)) C.x C.bc dX6_at_27 rfl ?_
  obtain rfl := Option.some.inj hx
  exact x_lret C h dX6_at_28
def fX6_at_159 (v3 : Int32) (v4 : Int64) (st : St) : Option (Int64 × St) :=
  gd (inB (3 : Int32) 46) <|
  bd (fX6_side (((st.1 70 (3 : Int32).toNatClampNeg).toInt64) * v4) (st.2.1 68 19) v3) fun r_20 =>
  some (r_20, st)
set_option maxHeartbeats 1000000 in
theorem bX6_at_159 (C : Cx E s0 b p s m args meth c cX6_at 6 "EarthMeshModel" (some .long)) (hI : Sx E) (v3 : Int32) (v4 : Int64) (st : St) {x : Int64 × St} (hx : fX6_at_159 v3 v4 st = some x) {H : Heap} {locs : List Loc} {ls : Array Slot} (h : XH E (sg st) s H locs) (hl : lv_has ls 6 [(0, .ref (E.ad 68)), (3, .int v3), (4, .long v4)]) : W p l e rmX6_at s m args below meth c H locs 0 0 (MQ below (Qx E (some (.long x.1)) (sg x.2)) args s 0 0 (gA E.HB)) (F0 m 159 ls []) := by
  unfold fX6_at_159 at hx
  refine lv_aload_n C.x C.bc dX6_at_159 rfl (lv_at hl 0 rfl) ?_
  refine gt_X6_31_68 C hI h dX6_at_160 ?_
  refine lv_iconst (v := (3 : Int32)) C.x C.bc dX6_at_163 (by decide) ?_
  obtain ⟨g_19, hx⟩ := gd_e hx
  refine x_iald C h 70 46 (hI 70 (by decide)) k_70 g_19 dX6_at_164 ?_
  refine lv_i2l (v := ((st.1 70 (3 : Int32).toNatClampNeg).toInt64)) C.x C.bc dX6_at_165 rfl ?_
  refine lv_lload C.x C.bc dX6_at_166 (lv_at hl 2 rfl) ?_
  refine lv_lmul C.x C.bc dX6_at_168 ?_
  refine lv_aload_n C.x C.bc dX6_at_169 rfl (lv_at hl 0 rfl) ?_
  refine gt_X6_233_68 C hI h dX6_at_170 ?_
  refine lv_iload_n C.x C.bc dX6_at_173 rfl (lv_at hl 1 rfl) ?_
  obtain ⟨r_20, hf_20, hx⟩ := bd_e hx
  refine cX6_307_X6_side C hI h hf_20 ⟨Nat.le_of_ble_eq_true rfl, Nat.le_of_ble_eq_true rfl⟩ ⟨Nat.zero_le _, Nat.zero_le _⟩ hl.1 (Nat.le_of_ble_eq_true rfl) dX6_at_174 (fun H locs h => ?_)
  obtain rfl := Option.some.inj hx
  exact x_lret C h dX6_at_177
def fX6_at_142 (v1 : Int32) (v2 : Int32) (v3 : Int32) (v4 : Int64) (st : St) : Option (Int64 × St) :=
  if v2 = (3 : Int32) then
    bd (fX6_part v1 (2 : Int32) st) fun r_21 =>
    nm (v4 * (r_21.toInt64)) fun v4_22 =>
    fX6_at_159 v3 v4_22 st
  else
    fX6_at_159 v3 v4 st
set_option maxHeartbeats 1000000 in
theorem bX6_at_142 (C : Cx E s0 b p s m args meth c cX6_at 6 "EarthMeshModel" (some .long)) (hI : Sx E) (v1 : Int32) (v2 : Int32) (v3 : Int32) (v4 : Int64) (st : St) {x : Int64 × St} (hx : fX6_at_142 v1 v2 v3 v4 st = some x) {H : Heap} {locs : List Loc} {ls : Array Slot} (h : XH E (sg st) s H locs) (hl : lv_has ls 6 [(0, .ref (E.ad 68)), (1, .int v1), (2, .int v2), (3, .int v3), (4, .long v4)]) : W p l e rmX6_at s m args below meth c H locs 0 0 (MQ below (Qx E (some (.long x.1)) (sg x.2)) args s 0 0 (gA E.HB)) (F0 m 142 ls []) := by
  unfold fX6_at_142 at hx
  refine lv_iload_n C.x C.bc dX6_at_142 rfl (lv_at hl 2 rfl) ?_
  refine lv_iconst (v := (3 : Int32)) C.x C.bc dX6_at_143 (by decide) ?_
  refine lv_icmp_ne (tgt := 159) C.x C.bc dX6_at_144 (by decide) (fun c_18 => ?_) (fun c_18 => ?_)
  · have hx := ge_f hx c_18
    exact bX6_at_159 C hI v3 v4 st hx h (lv_sub hl [0, 3, 4] rfl)
  · have hx := ge_t hx c_18
    refine lv_lload C.x C.bc dX6_at_147 (lv_at hl 4 rfl) ?_
    refine lv_aload_n C.x C.bc dX6_at_149 rfl (lv_at hl 0 rfl) ?_
    refine lv_iload_n C.x C.bc dX6_at_150 rfl (lv_at hl 1 rfl) ?_
    refine lv_iconst (v := (2 : Int32)) C.x C.bc dX6_at_151 (by decide) ?_
    obtain ⟨r_21, hf_21, hx⟩ := bd_e hx
    refine cX6_194_X6_part C hI h hf_21 ⟨Nat.le_of_ble_eq_true rfl, Nat.le_of_ble_eq_true rfl⟩ ⟨Nat.zero_le _, Nat.zero_le _⟩ hl.1 (Nat.le_of_ble_eq_true rfl) dX6_at_152 (fun H locs h => ?_)
    refine lv_i2l (v := (r_21.toInt64)) C.x C.bc dX6_at_155 rfl ?_
    refine lv_lmul C.x C.bc dX6_at_156 ?_
    obtain ⟨v4_22, e_22, hx⟩ := nm_x hx
    refine x_tl e_22 ?_
    refine lv_lstore (lv' := [(4, .long v4_22), (0, .ref (E.ad 68)), (1, .int v1), (2, .int v2), (3, .int v3)]) C.x C.bc dX6_at_157 hl (by decide) rfl (fun ls hl => ?_)
    exact bX6_at_159 C hI v3 v4_22 st hx h (lv_sub hl [1, 4, 0] rfl)
def fX6_at_140 (v1 : Int32) (v2 : Int32) (v3 : Int32) (k0 : Int64) (st : St) : Option (Int64 × St) :=
  fX6_at_142 v1 v2 v3 k0 st
set_option maxHeartbeats 1000000 in
theorem bX6_at_140 (C : Cx E s0 b p s m args meth c cX6_at 6 "EarthMeshModel" (some .long)) (hI : Sx E) (v1 : Int32) (v2 : Int32) (v3 : Int32) (k0 : Int64) (st : St) {x : Int64 × St} (hx : fX6_at_140 v1 v2 v3 k0 st = some x) {H : Heap} {locs : List Loc} {ls : Array Slot} (h : XH E (sg st) s H locs) (hl : lv_has ls 6 [(0, .ref (E.ad 68)), (1, .int v1), (2, .int v2), (3, .int v3)]) : W p l e rmX6_at s m args below meth c H locs 0 0 (MQ below (Qx E (some (.long x.1)) (sg x.2)) args s 0 0 (gA E.HB)) (F0 m 140 ls [.long k0]) := by
  unfold fX6_at_140 at hx
  refine lv_lstore (lv' := [(4, .long k0), (0, .ref (E.ad 68)), (1, .int v1), (2, .int v2), (3, .int v3)]) C.x C.bc dX6_at_140 hl (by decide) rfl (fun ls hl => ?_)
  exact bX6_at_142 C hI v1 v2 v3 k0 st hx h (lv_sub hl [1, 2, 3, 4, 0] rfl)
def fX6_at_99 (v1 : Int32) (v2 : Int32) (v3 : Int32) (v4 : Int64) (st : St) : Option (Int64 × St) :=
  bd (fX6_part v1 (v2 - (1 : Int32)) st) fun r_13 =>
  if r_13 = 0 then
    fX6_at_140 v1 v2 v3 (0 : Int64) st
  else
    bd (fX6_part v1 (v2 - (1 : Int32)) st) fun r_15 =>
    bd (fX6_end v1 (v2 - (1 : Int32)) st) fun r_16 =>
    gd (inB r_16 12) <|
    fX6_at_140 v1 v2 v3 ((r_15.toInt64) * (v4 - (st.2.1 76 r_16.toNatClampNeg))) st
set_option maxHeartbeats 1000000 in
theorem bX6_at_99 (C : Cx E s0 b p s m args meth c cX6_at 6 "EarthMeshModel" (some .long)) (hI : Sx E) (v1 : Int32) (v2 : Int32) (v3 : Int32) (v4 : Int64) (st : St) {x : Int64 × St} (hx : fX6_at_99 v1 v2 v3 v4 st = some x) {H : Heap} {locs : List Loc} {ls : Array Slot} (h : XH E (sg st) s H locs) (hl : lv_has ls 6 [(0, .ref (E.ad 68)), (1, .int v1), (2, .int v2), (3, .int v3), (4, .long v4)]) : W p l e rmX6_at s m args below meth c H locs 0 0 (MQ below (Qx E (some (.long x.1)) (sg x.2)) args s 0 0 (gA E.HB)) (F0 m 99 ls []) := by
  unfold fX6_at_99 at hx
  refine lv_aload_n C.x C.bc dX6_at_99 rfl (lv_at hl 0 rfl) ?_
  refine lv_iload_n C.x C.bc dX6_at_100 rfl (lv_at hl 1 rfl) ?_
  refine lv_iload_n C.x C.bc dX6_at_101 rfl (lv_at hl 2 rfl) ?_
  refine lv_iconst (v := (1 : Int32)) C.x C.bc dX6_at_102 (by decide) ?_
  refine lv_isub C.x C.bc dX6_at_103 ?_
  obtain ⟨r_13, hf_13, hx⟩ := bd_e hx
  refine cX6_194_X6_part C hI h hf_13 ⟨Nat.le_of_ble_eq_true rfl, Nat.le_of_ble_eq_true rfl⟩ ⟨Nat.zero_le _, Nat.zero_le _⟩ hl.1 (Nat.le_of_ble_eq_true rfl) dX6_at_104 (fun H locs h => ?_)
  refine lv_if_ne (tgt := 114) C.x C.bc dX6_at_107 (by decide) (fun c_14 => ?_) (fun c_14 => ?_)
  · have hx := ge_f hx c_14
    refine lv_aload_n C.x C.bc dX6_at_114 rfl (lv_at hl 0 rfl) ?_
    refine lv_iload_n C.x C.bc dX6_at_115 rfl (lv_at hl 1 rfl) ?_
    refine lv_iload_n C.x C.bc dX6_at_116 rfl (lv_at hl 2 rfl) ?_
    refine lv_iconst (v := (1 : Int32)) C.x C.bc dX6_at_117 (by decide) ?_
    refine lv_isub C.x C.bc dX6_at_118 ?_
    obtain ⟨r_15, hf_15, hx⟩ := bd_e hx
    refine cX6_194_X6_part C hI h hf_15 ⟨Nat.le_of_ble_eq_true rfl, Nat.le_of_ble_eq_true rfl⟩ ⟨Nat.zero_le _, Nat.zero_le _⟩ hl.1 (Nat.le_of_ble_eq_true rfl) dX6_at_119 (fun H locs h => ?_)
    refine lv_i2l (v := (r_15.toInt64)) C.x C.bc dX6_at_122 rfl ?_
    refine lv_lload C.x C.bc dX6_at_123 (lv_at hl 4 rfl) ?_
    refine lv_aload_n C.x C.bc dX6_at_125 rfl (lv_at hl 0 rfl) ?_
    refine gt_X6_55_68 C hI h dX6_at_126 ?_
    refine lv_aload_n C.x C.bc dX6_at_129 rfl (lv_at hl 0 rfl) ?_
    refine lv_iload_n C.x C.bc dX6_at_130 rfl (lv_at hl 1 rfl) ?_
    refine lv_iload_n C.x C.bc dX6_at_131 rfl (lv_at hl 2 rfl) ?_
    refine lv_iconst (v := (1 : Int32)) C.x C.bc dX6_at_132 (by decide) ?_
    refine lv_isub C.x C.bc dX6_at_133 ?_
    obtain ⟨r_16, hf_16, hx⟩ := bd_e hx
    refine cX6_197_X6_end C hI h hf_16 ⟨Nat.le_of_ble_eq_true rfl, Nat.le_of_ble_eq_true rfl⟩ ⟨Nat.zero_le _, Nat.zero_le _⟩ hl.1 (Nat.le_of_ble_eq_true rfl) dX6_at_134 (fun H locs h => ?_)
    obtain ⟨g_17, hx⟩ := gd_e hx
    refine x_lald C h 76 12 (hI 76 (by decide)) k_76 g_17 dX6_at_137 ?_
    refine lv_lsub C.x C.bc dX6_at_138 ?_
    refine lv_lmul C.x C.bc dX6_at_139 ?_
    exact bX6_at_140 C hI v1 v2 v3 ((r_15.toInt64) * (v4 - (st.2.1 76 r_16.toNatClampNeg))) st hx h (lv_sub hl [0, 1, 2, 3] rfl)
  · have hx := ge_t hx c_14
    refine lv_lconst (v := (0 : Int64)) C.x C.bc dX6_at_110 (by decide) ?_
    refine lv_goto (tgt := 140) C.x C.bc dX6_at_111 (by decide) ?_
    exact bX6_at_140 C hI v1 v2 v3 (0 : Int64) st hx h (lv_sub hl [0, 1, 2, 3] rfl)
def fX6_at (v1 : Int32) (v2 : Int32) (v3 : Int32) (st : St) : Option (Int64 × St) :=
  nm (uI st 68 1 (0 : Int32)) fun st_1 =>
  bd (fX6_isNode v1 st_1) fun r_2 =>
  if r_2 = 0 then
    fX6_at_22 st_1
  else
    nm (fX6_isIn v2 (0 : Int32) (4 : Int32)) fun r_5 =>
    if r_5 = 0 then
      fX6_at_22 st_1
    else
      if v2 = (4 : Int32) then
        bd (fX6_solves v1 (-1 : Int32) st_1) <| u2 fun r_25 st_25 =>
        if r_25 = 0 then
          bd (fX6_fail (2 : Int32) st_25) <| u2 fun r_27 st_27 =>
          some ((r_27.toInt64), st_27)
        else
          gd (inB v1 12) <|
          bd (fX6_side (st_25.2.1 76 v1.toNatClampNeg) (st_25.2.1 68 19) v3) fun r_29 =>
          some (r_29, st_25)
      else
        bd (fX6_solvesNow st_1) <| u2 fun r_8 st_8 =>
        if r_8 = 0 then
          bd (fX6_fail (2 : Int32) st_8) <| u2 fun r_24 st_24 =>
          some ((r_24.toInt64), st_24)
        else
          gd (inB v1 12) <|
          nm (st_8.2.1 76 v1.toNatClampNeg) fun v4_11 =>
          if v2 = (1 : Int32) then
            fX6_at_99 v1 v2 v3 v4_11 st_8
          else
            if v2 = (2 : Int32) then
              fX6_at_99 v1 v2 v3 v4_11 st_8
            else
              fX6_at_142 v1 v2 v3 v4_11 st_8
set_option maxHeartbeats 1000000 in
theorem bX6_at (C : Cx E s0 b p s m args meth c cX6_at 6 "EarthMeshModel" (some .long)) (hI : Sx E) (v1 : Int32) (v2 : Int32) (v3 : Int32) (st : St) {x : Int64 × St} (hx : fX6_at v1 v2 v3 st = some x) {H : Heap} {locs : List Loc} {ls : Array Slot} (h : XH E (sg st) s H locs) (hl : lv_has ls 6 [(0, .ref (E.ad 68)), (1, .int v1), (2, .int v2), (3, .int v3)]) : W p l e rmX6_at s m args below meth c H locs 0 0 (MQ below (Qx E (some (.long x.1)) (sg x.2)) args s 0 0 (gA E.HB)) (F0 m 0 ls []) := by
  unfold fX6_at at hx
  refine lv_aload_n C.x C.bc dX6_at_0 rfl (lv_at hl 0 rfl) ?_
  refine lv_iconst (v := (0 : Int32)) C.x C.bc dX6_at_1 (by decide) ?_
  obtain ⟨st_1, e_1, hx⟩ := nm_x hx
  refine pt_X6_90_68 C hI h e_1 dX6_at_2 (fun H locs h => ?_)
  refine lv_aload_n C.x C.bc dX6_at_5 rfl (lv_at hl 0 rfl) ?_
  refine lv_iload_n C.x C.bc dX6_at_6 rfl (lv_at hl 1 rfl) ?_
  obtain ⟨r_2, hf_2, hx⟩ := bd_e hx
  refine cX6_304_X6_isNode C hI h hf_2 ⟨Nat.le_of_ble_eq_true rfl, Nat.le_of_ble_eq_true rfl⟩ ⟨Nat.zero_le _, Nat.zero_le _⟩ hl.1 (Nat.le_of_ble_eq_true rfl) dX6_at_7 (fun H locs h => ?_)
  refine lv_if_eq (tgt := 22) C.x C.bc dX6_at_10 (by decide) (fun c_3 => ?_) (fun c_3 => ?_)
  · have hx := ge_t hx c_3
    exact bX6_at_22 C hI st_1 hx h (lv_sub hl [0] rfl)
  · have hx := ge_f hx c_3
    refine lv_iload_n C.x C.bc dX6_at_13 rfl (lv_at hl 2 rfl) ?_
    refine lv_iconst (v := (0 : Int32)) C.x C.bc dX6_at_14 (by decide) ?_
    refine lv_iconst (v := (4 : Int32)) C.x C.bc dX6_at_15 (by decide) ?_
    obtain ⟨r_5, e_5, hx⟩ := nm_x hx
    refine cX6_300_X6_isIn C hI h e_5.symm ⟨Nat.le_of_ble_eq_true rfl, Nat.le_of_ble_eq_true rfl⟩ ⟨Nat.zero_le _, Nat.zero_le _⟩ hl.1 (Nat.le_of_ble_eq_true rfl) dX6_at_16 (fun H locs h => ?_)
    refine lv_if_ne (tgt := 29) C.x C.bc dX6_at_19 (by decide) (fun c_6 => ?_) (fun c_6 => ?_)
    · have hx := ge_f hx c_6
      refine lv_iload_n C.x C.bc dX6_at_29 rfl (lv_at hl 2 rfl) ?_
      refine lv_iconst (v := (4 : Int32)) C.x C.bc dX6_at_30 (by decide) ?_
      refine lv_icmp_ne (tgt := 67) C.x C.bc dX6_at_31 (by decide) (fun c_7 => ?_) (fun c_7 => ?_)
      · have hx := ge_f hx c_7
        refine lv_aload_n C.x C.bc dX6_at_67 rfl (lv_at hl 0 rfl) ?_
        obtain ⟨⟨r_8, st_8⟩, hf_8, hx⟩ := bd_e hx
        have hx := u2_e hx
        refine cX6_274_X6_solvesNow C hI h hf_8 ⟨Nat.le_of_ble_eq_true rfl, Nat.le_of_ble_eq_true rfl⟩ ⟨Nat.zero_le _, Nat.zero_le _⟩ hl.1 (Nat.le_of_ble_eq_true rfl) dX6_at_68 (fun H locs h => ?_)
        refine lv_if_ne (tgt := 81) C.x C.bc dX6_at_71 (by decide) (fun c_9 => ?_) (fun c_9 => ?_)
        · have hx := ge_f hx c_9
          refine lv_aload_n C.x C.bc dX6_at_81 rfl (lv_at hl 0 rfl) ?_
          refine gt_X6_55_68 C hI h dX6_at_82 ?_
          refine lv_iload_n C.x C.bc dX6_at_85 rfl (lv_at hl 1 rfl) ?_
          obtain ⟨g_10, hx⟩ := gd_e hx
          refine x_lald C h 76 12 (hI 76 (by decide)) k_76 g_10 dX6_at_86 ?_
          obtain ⟨v4_11, e_11, hx⟩ := nm_x hx
          refine x_tl e_11 ?_
          refine lv_lstore (lv' := [(4, .long v4_11), (0, .ref (E.ad 68)), (1, .int v1), (2, .int v2), (3, .int v3)]) C.x C.bc dX6_at_87 hl (by decide) rfl (fun ls hl => ?_)
          refine lv_iload_n C.x C.bc dX6_at_89 rfl (lv_at hl 3 rfl) ?_
          refine lv_iconst (v := (1 : Int32)) C.x C.bc dX6_at_90 (by decide) ?_
          refine lv_icmp_eq (tgt := 99) C.x C.bc dX6_at_91 (by decide) (fun c_12 => ?_) (fun c_12 => ?_)
          · have hx := ge_t hx c_12
            exact bX6_at_99 C hI v1 v2 v3 v4_11 st_8 hx h (lv_sub hl [1, 2, 3, 4, 0] rfl)
          · have hx := ge_f hx c_12
            refine lv_iload_n C.x C.bc dX6_at_94 rfl (lv_at hl 3 rfl) ?_
            refine lv_iconst (v := (2 : Int32)) C.x C.bc dX6_at_95 (by decide) ?_
            refine lv_icmp_ne (tgt := 142) C.x C.bc dX6_at_96 (by decide) (fun c_23 => ?_) (fun c_23 => ?_)
            · have hx := ge_f hx c_23
              exact bX6_at_142 C hI v1 v2 v3 v4_11 st_8 hx h (lv_sub hl [1, 2, 3, 4, 0] rfl)
            · have hx := ge_t hx c_23
              exact bX6_at_99 C hI v1 v2 v3 v4_11 st_8 hx h (lv_sub hl [1, 2, 3, 4, 0] rfl)
        · have hx := ge_t hx c_9
          refine lv_aload_n C.x C.bc dX6_at_74 rfl (lv_at hl 0 rfl) ?_
          refine lv_iconst (v := (2 : Int32)) C.x C.bc dX6_at_75 (by decide) ?_
          obtain ⟨⟨r_24, st_24⟩, hf_24, hx⟩ := bd_e hx
          have hx := u2_e hx
          refine cX6_182_X6_fail C hI h hf_24 ⟨Nat.le_of_ble_eq_true rfl, Nat.le_of_ble_eq_true rfl⟩ ⟨Nat.zero_le _, Nat.zero_le _⟩ hl.1 (Nat.le_of_ble_eq_true rfl) dX6_at_76 (fun H locs h => ?_)
          refine lv_i2l (v := (r_24.toInt64)) C.x C.bc dX6_at_79 rfl ?_
          obtain rfl := Option.some.inj hx
          exact x_lret C h dX6_at_80
      · have hx := ge_t hx c_7
        refine lv_aload_n C.x C.bc dX6_at_34 rfl (lv_at hl 0 rfl) ?_
        refine lv_iload_n C.x C.bc dX6_at_35 rfl (lv_at hl 1 rfl) ?_
        refine lv_iconst (v := (-1 : Int32)) C.x C.bc dX6_at_36 (by decide) ?_
        obtain ⟨⟨r_25, st_25⟩, hf_25, hx⟩ := bd_e hx
        have hx := u2_e hx
        refine cX6_267_X6_solves C hI h hf_25 ⟨Nat.le_of_ble_eq_true rfl, Nat.le_of_ble_eq_true rfl⟩ ⟨Nat.zero_le _, Nat.zero_le _⟩ hl.1 (Nat.le_of_ble_eq_true rfl) dX6_at_37 (fun H locs h => ?_)
        refine lv_if_eq (tgt := 60) C.x C.bc dX6_at_40 (by decide) (fun c_26 => ?_) (fun c_26 => ?_)
        · have hx := ge_t hx c_26
          refine lv_aload_n C.x C.bc dX6_at_60 rfl (lv_at hl 0 rfl) ?_
          refine lv_iconst (v := (2 : Int32)) C.x C.bc dX6_at_61 (by decide) ?_
          obtain ⟨⟨r_27, st_27⟩, hf_27, hx⟩ := bd_e hx
          have hx := u2_e hx
          refine cX6_182_X6_fail C hI h hf_27 ⟨Nat.le_of_ble_eq_true rfl, Nat.le_of_ble_eq_true rfl⟩ ⟨Nat.zero_le _, Nat.zero_le _⟩ hl.1 (Nat.le_of_ble_eq_true rfl) dX6_at_62 (fun H locs h => ?_)
          refine lv_i2l (v := (r_27.toInt64)) C.x C.bc dX6_at_65 rfl ?_
          obtain rfl := Option.some.inj hx
          exact x_lret C h dX6_at_66
        · have hx := ge_f hx c_26
          refine lv_aload_n C.x C.bc dX6_at_43 rfl (lv_at hl 0 rfl) ?_
          refine gt_X6_55_68 C hI h dX6_at_44 ?_
          refine lv_iload_n C.x C.bc dX6_at_47 rfl (lv_at hl 1 rfl) ?_
          obtain ⟨g_28, hx⟩ := gd_e hx
          refine x_lald C h 76 12 (hI 76 (by decide)) k_76 g_28 dX6_at_48 ?_
          refine lv_aload_n C.x C.bc dX6_at_49 rfl (lv_at hl 0 rfl) ?_
          refine gt_X6_233_68 C hI h dX6_at_50 ?_
          refine lv_iload_n C.x C.bc dX6_at_53 rfl (lv_at hl 3 rfl) ?_
          obtain ⟨r_29, hf_29, hx⟩ := bd_e hx
          refine cX6_307_X6_side C hI h hf_29 ⟨Nat.le_of_ble_eq_true rfl, Nat.le_of_ble_eq_true rfl⟩ ⟨Nat.zero_le _, Nat.zero_le _⟩ hl.1 (Nat.le_of_ble_eq_true rfl) dX6_at_54 (fun H locs h => ?_)
          refine lv_goto (tgt := 66) C.x C.bc dX6_at_57 (by decide) ?_
          obtain rfl := Option.some.inj hx
          exact x_lret C h dX6_at_66
    · have hx := ge_t hx c_6
      exact bX6_at_22 C hI st_1 hx h (lv_sub hl [0] rfl)
theorem mX6_at (hG : G0 E s0 b) (hI : Sx E) {v1 : Int32} {v2 : Int32} {v3 : Int32} {x : Int64 × St} (hx : fX6_at v1 v2 v3 st = some x) : Mt l E s0 yX6_at cX6_at 6 (some .long) rmX6_at [.ref (E.ad 68), .int v1, .int v2, .int v3] (sg st) (some (.long x.1)) E (sg x.2) :=
  Mt.of hG (by decide) (Nat.le_of_ble_eq_true rfl) (fun p e s m below meth c ls C h hl => bX6_at C hI v1 v2 v3 st hx h hl)
abbrev rmX6_share : Room := { frames := 6, cells := 0, slots := 0, locals := 204 }
def fX6_share_37 (v1 : Int32) (v2 : Int32) (v3 : Int32) (st : St) : Option ((Int32 × Int32 × St) ⊕ (Int32 × St)) :=
  bd (fX6_nodes_70 st) fun r_6 =>
  if r_6 ≤ v3 then
    some (.inr (v2, st))
  else
    bd (fX6_part v3 (2 : Int32) st) fun r_8 =>
    gd (inB v3 12) <|
    nm (((100 : Int64) * (r_8.toInt64)) * (st.2.1 76 v3.toNatClampNeg)) fun v4_10 =>
    gd (¬ (st.2.1 68 19) = 0) <|
    gd (inB v3 12) <|
    nm (uI st 78 v3.toNatClampNeg ((v4_10 / (st.2.1 68 19)).toInt32)) fun st_13 =>
    gd (¬ (st_13.2.1 68 19) = 0) <|
    gd (inB v3 12) <|
    nm (uL st_13 77 v3.toNatClampNeg (jreml v4_10 (st_13.2.1 68 19))) fun st_16 =>
    gd (inB v3 12) <|
    nm (v2 - (st_16.1 78 v3.toNatClampNeg)) fun v2_18 =>
    nm (v3 + (1 : Int32)) fun v3_19 =>
    some (.inl (v2_18, v3_19, st_16))
set_option maxHeartbeats 1000000 in
theorem bX6_share_37 (C : Cx E s0 b p s m args meth c cX6_share 6 "EarthMeshModel" (some .int)) (hI : Sx E) (v1 : Int32) (v2 : Int32) (v3 : Int32) (st : St) {x : (Int32 × Int32 × St) ⊕ (Int32 × St)} (hx : fX6_share_37 v1 v2 v3 st = some x) {Q : State → Prop} {G : Int32 × Int32 × St → Prop} {X : Int32 × St → Prop} (hG : ∀ (w2 : Int32) (w3 : Int32) (wst : St), G (w2, w3, wst) → ∀ (H : Heap) (locs : List Loc) (ls : Array Slot), XH E (sg wst) s H locs → lv_has ls 6 [(0, .ref (E.ad 68)), (1, .int v1), (2, .int w2), (3, .int w3)] → W p l e rmX6_share s m args below meth c H locs 0 0 Q (F0 m 37 ls [])) (hE0 : ∀ (w2 : Int32) (wst : St), X (w2, wst) → ∀ (H : Heap) (locs : List Loc) (ls : Array Slot), XH E (sg wst) s H locs → lv_has ls 6 [(0, .ref (E.ad 68)), (1, .int v1), (2, .int w2)] → W p l e rmX6_share s m args below meth c H locs 0 0 Q (F0 m 110 ls [])) (K : Kx G X x) {H : Heap} {locs : List Loc} {ls : Array Slot} (h : XH E (sg st) s H locs) (hl : lv_has ls 6 [(0, .ref (E.ad 68)), (1, .int v1), (2, .int v2), (3, .int v3)]) : W p l e rmX6_share s m args below meth c H locs 0 0 Q (F0 m 37 ls []) := by
  unfold fX6_share_37 at hx
  refine lv_iload_n C.x C.bc dX6_share_37 rfl (lv_at hl 3 rfl) ?_
  refine lv_aload_n C.x C.bc dX6_share_38 rfl (lv_at hl 0 rfl) ?_
  refine gt_X6_31_68 C hI h dX6_share_39 ?_
  obtain ⟨r_6, hf_6, hx⟩ := bd_e hx
  refine cX6_190_X6_nodes_70 C hI h hf_6 ⟨Nat.le_of_ble_eq_true rfl, Nat.le_of_ble_eq_true rfl⟩ ⟨Nat.zero_le _, Nat.zero_le _⟩ hl.1 (Nat.le_of_ble_eq_true rfl) dX6_share_42 (fun H locs h => ?_)
  refine lv_icmp_ge (tgt := 110) C.x C.bc dX6_share_45 (by decide) (fun c_7 => ?_) (fun c_7 => ?_)
  · have hx := ge_t hx c_7
    obtain rfl := Option.some.inj hx
    exact hE0 _ _ K _ _ _ h (lv_sub hl [0, 1, 2] rfl)
  · have hx := ge_f hx c_7
    refine lv_ldc2 (v := (100 : Int64)) C.x C.bc C.ow (C.ts _ q1997) dX6_share_48 ?_
    refine lv_aload_n C.x C.bc dX6_share_51 rfl (lv_at hl 0 rfl) ?_
    refine lv_iload_n C.x C.bc dX6_share_52 rfl (lv_at hl 3 rfl) ?_
    refine lv_iconst (v := (2 : Int32)) C.x C.bc dX6_share_53 (by decide) ?_
    obtain ⟨r_8, hf_8, hx⟩ := bd_e hx
    refine cX6_194_X6_part C hI h hf_8 ⟨Nat.le_of_ble_eq_true rfl, Nat.le_of_ble_eq_true rfl⟩ ⟨Nat.zero_le _, Nat.zero_le _⟩ hl.1 (Nat.le_of_ble_eq_true rfl) dX6_share_54 (fun H locs h => ?_)
    refine lv_i2l (v := (r_8.toInt64)) C.x C.bc dX6_share_57 rfl ?_
    refine lv_lmul C.x C.bc dX6_share_58 ?_
    refine lv_aload_n C.x C.bc dX6_share_59 rfl (lv_at hl 0 rfl) ?_
    refine gt_X6_55_68 C hI h dX6_share_60 ?_
    refine lv_iload_n C.x C.bc dX6_share_63 rfl (lv_at hl 3 rfl) ?_
    obtain ⟨g_9, hx⟩ := gd_e hx
    refine x_lald C h 76 12 (hI 76 (by decide)) k_76 g_9 dX6_share_64 ?_
    refine lv_lmul C.x C.bc dX6_share_65 ?_
    obtain ⟨v4_10, e_10, hx⟩ := nm_x hx
    refine x_tl e_10 ?_
    refine lv_lstore (lv' := [(4, .long v4_10), (0, .ref (E.ad 68)), (1, .int v1), (2, .int v2), (3, .int v3)]) C.x C.bc dX6_share_66 hl (by decide) rfl (fun ls hl => ?_)
    refine lv_aload_n C.x C.bc dX6_share_68 rfl (lv_at hl 1 rfl) ?_
    refine gt_X6_61_68 C hI h dX6_share_69 ?_
    refine lv_iload_n C.x C.bc dX6_share_72 rfl (lv_at hl 4 rfl) ?_
    refine lv_lload C.x C.bc dX6_share_73 (lv_at hl 0 rfl) ?_
    refine lv_aload_n C.x C.bc dX6_share_75 rfl (lv_at hl 1 rfl) ?_
    refine gt_X6_233_68 C hI h dX6_share_76 ?_
    obtain ⟨g_11, hx⟩ := gd_e hx
    refine lv_ldiv C.x C.bc dX6_share_79 g_11 ?_
    refine lv_l2i (v := ((v4_10 / (st.2.1 68 19)).toInt32)) C.x C.bc dX6_share_80 rfl ?_
    obtain ⟨g_12, hx⟩ := gd_e hx
    obtain ⟨st_13, e_13, hx⟩ := nm_x hx
    refine y_iast C h 78 12 (hI 78 (by decide)) k_78 g_12 e_13 dX6_share_81 (fun H locs h => ?_)
    refine lv_aload_n C.x C.bc dX6_share_82 rfl (lv_at hl 1 rfl) ?_
    refine gt_X6_58_68 C hI h dX6_share_83 ?_
    refine lv_iload_n C.x C.bc dX6_share_86 rfl (lv_at hl 4 rfl) ?_
    refine lv_lload C.x C.bc dX6_share_87 (lv_at hl 0 rfl) ?_
    refine lv_aload_n C.x C.bc dX6_share_89 rfl (lv_at hl 1 rfl) ?_
    refine gt_X6_233_68 C hI h dX6_share_90 ?_
    obtain ⟨g_14, hx⟩ := gd_e hx
    refine y_lrem C.x C.bc dX6_share_93 g_14 ?_
    obtain ⟨g_15, hx⟩ := gd_e hx
    obtain ⟨st_16, e_16, hx⟩ := nm_x hx
    refine y_last C h 77 12 (hI 77 (by decide)) k_77 g_15 e_16 dX6_share_94 (fun H locs h => ?_)
    refine lv_iload_n C.x C.bc dX6_share_95 rfl (lv_at hl 3 rfl) ?_
    refine lv_aload_n C.x C.bc dX6_share_96 rfl (lv_at hl 1 rfl) ?_
    refine gt_X6_61_68 C hI h dX6_share_97 ?_
    refine lv_iload_n C.x C.bc dX6_share_100 rfl (lv_at hl 4 rfl) ?_
    obtain ⟨g_17, hx⟩ := gd_e hx
    refine x_iald C h 78 12 (hI 78 (by decide)) k_78 g_17 dX6_share_101 ?_
    refine lv_isub C.x C.bc dX6_share_102 ?_
    obtain ⟨v2_18, e_18, hx⟩ := nm_x hx
    refine x_ti e_18 ?_
    refine lv_istore_n (lv' := [(2, .int v2_18), (4, .long v4_10), (0, .ref (E.ad 68)), (1, .int v1), (3, .int v3)]) C.x C.bc dX6_share_103 rfl hl (by decide) rfl (fun ls hl => ?_)
    obtain ⟨v3_19, e_19, hx⟩ := nm_x hx
    refine lv_iinc (v := v3_19) (lv' := [(3, .int v3_19), (2, .int v2_18), (4, .long v4_10), (0, .ref (E.ad 68)), (1, .int v1)]) C.x C.bc dX6_share_104 hl (k := 4) rfl (by rw [e_19]; rfl) (by decide) rfl (fun ls hl => ?_)
    refine lv_goto (tgt := 37) C.x C.bc dX6_share_107 (by decide) ?_
    obtain rfl := Option.some.inj hx
    exact hG _ _ _ K _ _ _ h (lv_sub hl [3, 4, 1, 0] rfl)
set_option maxHeartbeats 1000000 in
theorem pX6_share_37 (C : Cx E s0 b p s m args meth c cX6_share 6 "EarthMeshModel" (some .int)) (hI : Sx E) (v1 : Int32) {Q : State → Prop} {v2 : Int32} {v3 : Int32} {st : St} {n : Nat} {r : Int32 × St} (hx : iter (u3 fun v2 v3 st => fX6_share_37 v1 v2 v3 st) n (v2, v3, st) = some r) (hE : (fun t => ∀ (H : Heap) (locs : List Loc) (ls : Array Slot), XH E (sg t.2) s H locs → lv_has ls 6 [(0, .ref (E.ad 68)), (1, .int v1), (2, .int t.1)] → W p l e rmX6_share s m args below meth c H locs 0 0 Q (F0 m 110 ls [])) r) {H : Heap} {locs : List Loc} {ls : Array Slot} (h : XH E (sg st) s H locs) (hl : lv_has ls 6 [(0, .ref (E.ad 68)), (1, .int v1), (2, .int v2), (3, .int v3)]) : W p l e rmX6_share s m args below meth c H locs 0 0 Q (F0 m 37 ls []) := by
  refine iter_W (G := fun t => ∀ (H : Heap) (locs : List Loc) (ls : Array Slot), XH E (sg t.2.2) s H locs → lv_has ls 6 [(0, .ref (E.ad 68)), (1, .int v1), (2, .int t.1), (3, .int t.2.1)] → W p l e rmX6_share s m args below meth c H locs 0 0 Q (F0 m 37 ls [])) (E := fun t => ∀ (H : Heap) (locs : List Loc) (ls : Array Slot), XH E (sg t.2) s H locs → lv_has ls 6 [(0, .ref (E.ad 68)), (1, .int v1), (2, .int t.1)] → W p l e rmX6_share s m args below meth c H locs 0 0 Q (F0 m 110 ls [])) (fun t x hx K H locs ls h hl => ?_) n _ r hx hE H locs ls h hl
  obtain ⟨v2, v3, st⟩ := t
  exact bX6_share_37 C hI v1 v2 v3 st hx (fun _ _ _ z => z) (fun _ _ z => z) K h hl
def fX6_share_154 (v1 : Int32) (v2 : Int32) (v4 : Int32) (k0 : Int32) (st : St) : Option ((Int32 × Int32) ⊕ (Int32)) :=
  nm (v4 + (1 : Int32)) fun v4_27 =>
  some (.inl (k0, v4_27))
set_option maxHeartbeats 1000000 in
theorem bX6_share_154 (C : Cx E s0 b p s m args meth c cX6_share 6 "EarthMeshModel" (some .int)) (hI : Sx E) (v1 : Int32) (v2 : Int32) (v4 : Int32) (k0 : Int32) (st : St) {x : (Int32 × Int32) ⊕ (Int32)} (hx : fX6_share_154 v1 v2 v4 k0 st = some x) {Q : State → Prop} {G : Int32 × Int32 → Prop} {X : Int32 → Prop} (hG : ∀ (w3 : Int32) (w4 : Int32), G (w3, w4) → ∀ (H : Heap) (locs : List Loc) (ls : Array Slot), XH E (sg st) s H locs → lv_has ls 6 [(0, .ref (E.ad 68)), (1, .int v1), (2, .int v2), (3, .int w3), (4, .int w4)] → W p l e rmX6_share s m args below meth c H locs 0 0 Q (F0 m 119 ls [])) (hE0 : ∀ (w3 : Int32), X w3 → ∀ (H : Heap) (locs : List Loc) (ls : Array Slot), XH E (sg st) s H locs → lv_has ls 6 [(0, .ref (E.ad 68)), (1, .int v1), (2, .int v2), (3, .int w3)] → W p l e rmX6_share s m args below meth c H locs 0 0 Q (F0 m 161 ls [])) (K : Kx G X x) {H : Heap} {locs : List Loc} {ls : Array Slot} (h : XH E (sg st) s H locs) (hl : lv_has ls 6 [(0, .ref (E.ad 68)), (1, .int v1), (2, .int v2), (4, .int v4)]) : W p l e rmX6_share s m args below meth c H locs 0 0 Q (F0 m 154 ls [.int k0]) := by
  unfold fX6_share_154 at hx
  refine lv_istore_n (lv' := [(3, .int k0), (0, .ref (E.ad 68)), (1, .int v1), (2, .int v2), (4, .int v4)]) C.x C.bc dX6_share_154 rfl hl (by decide) rfl (fun ls hl => ?_)
  obtain ⟨v4_27, e_27, hx⟩ := nm_x hx
  refine lv_iinc (v := v4_27) (lv' := [(4, .int v4_27), (3, .int k0), (0, .ref (E.ad 68)), (1, .int v1), (2, .int v2)]) C.x C.bc dX6_share_155 hl (k := 4) rfl (by rw [e_27]; rfl) (by decide) rfl (fun ls hl => ?_)
  refine lv_goto (tgt := 119) C.x C.bc dX6_share_158 (by decide) ?_
  obtain rfl := Option.some.inj hx
  exact hG _ _ K _ _ _ h (lv_sub hl [2, 3, 4, 1, 0] rfl)
def fX6_share_119 (v1 : Int32) (v2 : Int32) (v3 : Int32) (v4 : Int32) (st : St) : Option ((Int32 × Int32) ⊕ (Int32)) :=
  bd (fX6_nodes_70 st) fun r_22 =>
  if r_22 ≤ v4 then
    some (.inr v3)
  else
    gd (inB v4 12) <|
    gd (inB v3 12) <|
    if (st.2.1 77 v3.toNatClampNeg) < (st.2.1 77 v4.toNatClampNeg) then
      fX6_share_154 v1 v2 v4 v4 st
    else
      fX6_share_154 v1 v2 v4 v3 st
set_option maxHeartbeats 1000000 in
theorem bX6_share_119 (C : Cx E s0 b p s m args meth c cX6_share 6 "EarthMeshModel" (some .int)) (hI : Sx E) (v1 : Int32) (v2 : Int32) (v3 : Int32) (v4 : Int32) (st : St) {x : (Int32 × Int32) ⊕ (Int32)} (hx : fX6_share_119 v1 v2 v3 v4 st = some x) {Q : State → Prop} {G : Int32 × Int32 → Prop} {X : Int32 → Prop} (hG : ∀ (w3 : Int32) (w4 : Int32), G (w3, w4) → ∀ (H : Heap) (locs : List Loc) (ls : Array Slot), XH E (sg st) s H locs → lv_has ls 6 [(0, .ref (E.ad 68)), (1, .int v1), (2, .int v2), (3, .int w3), (4, .int w4)] → W p l e rmX6_share s m args below meth c H locs 0 0 Q (F0 m 119 ls [])) (hE0 : ∀ (w3 : Int32), X w3 → ∀ (H : Heap) (locs : List Loc) (ls : Array Slot), XH E (sg st) s H locs → lv_has ls 6 [(0, .ref (E.ad 68)), (1, .int v1), (2, .int v2), (3, .int w3)] → W p l e rmX6_share s m args below meth c H locs 0 0 Q (F0 m 161 ls [])) (K : Kx G X x) {H : Heap} {locs : List Loc} {ls : Array Slot} (h : XH E (sg st) s H locs) (hl : lv_has ls 6 [(0, .ref (E.ad 68)), (1, .int v1), (2, .int v2), (3, .int v3), (4, .int v4)]) : W p l e rmX6_share s m args below meth c H locs 0 0 Q (F0 m 119 ls []) := by
  unfold fX6_share_119 at hx
  refine lv_iload C.x C.bc dX6_share_119 (lv_at hl 4 rfl) ?_
  refine lv_aload_n C.x C.bc dX6_share_121 rfl (lv_at hl 0 rfl) ?_
  refine gt_X6_31_68 C hI h dX6_share_122 ?_
  obtain ⟨r_22, hf_22, hx⟩ := bd_e hx
  refine cX6_190_X6_nodes_70 C hI h hf_22 ⟨Nat.le_of_ble_eq_true rfl, Nat.le_of_ble_eq_true rfl⟩ ⟨Nat.zero_le _, Nat.zero_le _⟩ hl.1 (Nat.le_of_ble_eq_true rfl) dX6_share_125 (fun H locs h => ?_)
  refine lv_icmp_ge (tgt := 161) C.x C.bc dX6_share_128 (by decide) (fun c_23 => ?_) (fun c_23 => ?_)
  · have hx := ge_t hx c_23
    obtain rfl := Option.some.inj hx
    exact hE0 _ K _ _ _ h (lv_sub hl [0, 1, 2, 3] rfl)
  · have hx := ge_f hx c_23
    refine lv_aload_n C.x C.bc dX6_share_131 rfl (lv_at hl 0 rfl) ?_
    refine gt_X6_58_68 C hI h dX6_share_132 ?_
    refine lv_iload C.x C.bc dX6_share_135 (lv_at hl 4 rfl) ?_
    obtain ⟨g_24, hx⟩ := gd_e hx
    refine x_lald C h 77 12 (hI 77 (by decide)) k_77 g_24 dX6_share_137 ?_
    refine lv_aload_n C.x C.bc dX6_share_138 rfl (lv_at hl 0 rfl) ?_
    refine gt_X6_58_68 C hI h dX6_share_139 ?_
    refine lv_iload_n C.x C.bc dX6_share_142 rfl (lv_at hl 3 rfl) ?_
    obtain ⟨g_25, hx⟩ := gd_e hx
    refine x_lald C h 77 12 (hI 77 (by decide)) k_77 g_25 dX6_share_143 ?_
    refine W.lcmp C.x C.bc dX6_share_144 ?_
    refine lv_if_le (tgt := 153) C.x C.bc dX6_share_145 (by decide) (fun c_26 => ?_) (fun c_26 => ?_)
    · have c_26 := (lc_le _ _).mp c_26
      have hx := ge_f hx c_26
      refine lv_iload_n C.x C.bc dX6_share_153 rfl (lv_at hl 3 rfl) ?_
      exact bX6_share_154 C hI v1 v2 v4 v3 st hx hG hE0 K h (lv_sub hl [0, 1, 2, 4] rfl)
    · have c_26 := Classical.not_not.mp ((not_congr (lc_le _ _)).mp c_26)
      have hx := ge_t hx c_26
      refine lv_iload C.x C.bc dX6_share_148 (lv_at hl 4 rfl) ?_
      refine lv_goto (tgt := 154) C.x C.bc dX6_share_150 (by decide) ?_
      exact bX6_share_154 C hI v1 v2 v4 v4 st hx hG hE0 K h (lv_sub hl [0, 1, 2, 4] rfl)
set_option maxHeartbeats 1000000 in
theorem pX6_share_119 (C : Cx E s0 b p s m args meth c cX6_share 6 "EarthMeshModel" (some .int)) (hI : Sx E) (v1 : Int32) (v2 : Int32) (st : St) {Q : State → Prop} {v3 : Int32} {v4 : Int32} {n : Nat} {r : Int32} (hx : iter (u2 fun v3 v4 => fX6_share_119 v1 v2 v3 v4 st) n (v3, v4) = some r) (hE : (fun t => ∀ (H : Heap) (locs : List Loc) (ls : Array Slot), XH E (sg st) s H locs → lv_has ls 6 [(0, .ref (E.ad 68)), (1, .int v1), (2, .int v2), (3, .int t)] → W p l e rmX6_share s m args below meth c H locs 0 0 Q (F0 m 161 ls [])) r) {H : Heap} {locs : List Loc} {ls : Array Slot} (h : XH E (sg st) s H locs) (hl : lv_has ls 6 [(0, .ref (E.ad 68)), (1, .int v1), (2, .int v2), (3, .int v3), (4, .int v4)]) : W p l e rmX6_share s m args below meth c H locs 0 0 Q (F0 m 119 ls []) := by
  refine iter_W (G := fun t => ∀ (H : Heap) (locs : List Loc) (ls : Array Slot), XH E (sg st) s H locs → lv_has ls 6 [(0, .ref (E.ad 68)), (1, .int v1), (2, .int v2), (3, .int t.1), (4, .int t.2)] → W p l e rmX6_share s m args below meth c H locs 0 0 Q (F0 m 119 ls [])) (E := fun t => ∀ (H : Heap) (locs : List Loc) (ls : Array Slot), XH E (sg st) s H locs → lv_has ls 6 [(0, .ref (E.ad 68)), (1, .int v1), (2, .int v2), (3, .int t)] → W p l e rmX6_share s m args below meth c H locs 0 0 Q (F0 m 161 ls [])) (fun t x hx K H locs ls h hl => ?_) n _ r hx hE H locs ls h hl
  obtain ⟨v3, v4⟩ := t
  exact bX6_share_119 C hI v1 v2 v3 v4 st hx (fun _ _ z => z) (fun _ z => z) K h hl
def fX6_share_110 (v1 : Int32) (v2 : Int32) (st : St) : Option ((Int32 × St) ⊕ (St)) :=
  if v2 ≤ 0 then
    some (.inr st)
  else
    bd (iter (u2 fun z3 z4 => fX6_share_119 v1 v2 z3 z4 st) FU ((0 : Int32), (1 : Int32))) (u1 fun v3_28 =>
    gd (inB v3_28 12) <|
    gd (inB v3_28 12) <|
    nm (uI st 78 v3_28.toNatClampNeg ((st.1 78 v3_28.toNatClampNeg) + (1 : Int32))) fun st_31 =>
    gd (inB v3_28 12) <|
    nm (uL st_31 77 v3_28.toNatClampNeg (-1 : Int64)) fun st_33 =>
    nm (v2 + (-1 : Int32)) fun v2_34 =>
    some (.inl (v2_34, st_33)))
set_option maxHeartbeats 1000000 in
theorem bX6_share_110 (C : Cx E s0 b p s m args meth c cX6_share 6 "EarthMeshModel" (some .int)) (hI : Sx E) (v1 : Int32) (v2 : Int32) (st : St) {x : (Int32 × St) ⊕ (St)} (hx : fX6_share_110 v1 v2 st = some x) {Q : State → Prop} {G : Int32 × St → Prop} {X : St → Prop} (hG : ∀ (w2 : Int32) (wst : St), G (w2, wst) → ∀ (H : Heap) (locs : List Loc) (ls : Array Slot), XH E (sg wst) s H locs → lv_has ls 6 [(0, .ref (E.ad 68)), (1, .int v1), (2, .int w2)] → W p l e rmX6_share s m args below meth c H locs 0 0 Q (F0 m 110 ls [])) (hE0 : ∀ (wst : St), X wst → ∀ (H : Heap) (locs : List Loc) (ls : Array Slot), XH E (sg wst) s H locs → lv_has ls 6 [(0, .ref (E.ad 68)), (1, .int v1)] → W p l e rmX6_share s m args below meth c H locs 0 0 Q (F0 m 186 ls [])) (K : Kx G X x) {H : Heap} {locs : List Loc} {ls : Array Slot} (h : XH E (sg st) s H locs) (hl : lv_has ls 6 [(0, .ref (E.ad 68)), (1, .int v1), (2, .int v2)]) : W p l e rmX6_share s m args below meth c H locs 0 0 Q (F0 m 110 ls []) := by
  unfold fX6_share_110 at hx
  refine lv_iload_n C.x C.bc dX6_share_110 rfl (lv_at hl 2 rfl) ?_
  refine lv_if_le (tgt := 186) C.x C.bc dX6_share_111 (by decide) (fun c_21 => ?_) (fun c_21 => ?_)
  · have hx := ge_t hx c_21
    obtain rfl := Option.some.inj hx
    exact hE0 _ K _ _ _ h (lv_sub hl [0, 1] rfl)
  · have hx := ge_f hx c_21
    refine lv_iconst (v := (0 : Int32)) C.x C.bc dX6_share_114 (by decide) ?_
    refine lv_istore_n (lv' := [(3, .int (0 : Int32)), (0, .ref (E.ad 68)), (1, .int v1), (2, .int v2)]) C.x C.bc dX6_share_115 rfl hl (by decide) rfl (fun ls hl => ?_)
    refine lv_iconst (v := (1 : Int32)) C.x C.bc dX6_share_116 (by decide) ?_
    refine lv_istore (lv' := [(4, .int (1 : Int32)), (3, .int (0 : Int32)), (0, .ref (E.ad 68)), (1, .int v1), (2, .int v2)]) C.x C.bc dX6_share_117 hl (by decide) rfl (fun ls hl => ?_)
    obtain ⟨v3_28, hi_28, hx⟩ := bd_e hx
    have hx := u1_e hx
    refine pX6_share_119 C hI v1 v2 st hi_28 (fun H locs ls h hl => ?_) h (lv_sub hl [2, 3, 4, 1, 0] rfl)
    refine lv_aload_n C.x C.bc dX6_share_161 rfl (lv_at hl 0 rfl) ?_
    refine gt_X6_61_68 C hI h dX6_share_162 ?_
    refine lv_iload_n C.x C.bc dX6_share_165 rfl (lv_at hl 3 rfl) ?_
    refine lv_dup2_11 C.x C.bc dX6_share_166 rfl rfl ?_
    obtain ⟨g_29, hx⟩ := gd_e hx
    refine x_iald C h 78 12 (hI 78 (by decide)) k_78 g_29 dX6_share_167 ?_
    refine lv_iconst (v := (1 : Int32)) C.x C.bc dX6_share_168 (by decide) ?_
    refine lv_iadd C.x C.bc dX6_share_169 ?_
    obtain ⟨g_30, hx⟩ := gd_e hx
    obtain ⟨st_31, e_31, hx⟩ := nm_x hx
    refine y_iast C h 78 12 (hI 78 (by decide)) k_78 g_30 e_31 dX6_share_170 (fun H locs h => ?_)
    refine lv_aload_n C.x C.bc dX6_share_171 rfl (lv_at hl 0 rfl) ?_
    refine gt_X6_58_68 C hI h dX6_share_172 ?_
    refine lv_iload_n C.x C.bc dX6_share_175 rfl (lv_at hl 3 rfl) ?_
    refine lv_ldc2 (v := (-1 : Int64)) C.x C.bc C.ow (C.ts _ q1864) dX6_share_176 ?_
    obtain ⟨g_32, hx⟩ := gd_e hx
    obtain ⟨st_33, e_33, hx⟩ := nm_x hx
    refine y_last C h 77 12 (hI 77 (by decide)) k_77 g_32 e_33 dX6_share_179 (fun H locs h => ?_)
    obtain ⟨v2_34, e_34, hx⟩ := nm_x hx
    refine lv_iinc (v := v2_34) (lv' := [(2, .int v2_34), (0, .ref (E.ad 68)), (1, .int v1), (3, .int v3_28)]) C.x C.bc dX6_share_180 hl (k := 2) rfl (by rw [e_34]; rfl) (by decide) rfl (fun ls hl => ?_)
    refine lv_goto (tgt := 110) C.x C.bc dX6_share_183 (by decide) ?_
    obtain rfl := Option.some.inj hx
    exact hG _ _ K _ _ _ h (lv_sub hl [1, 2, 0] rfl)
set_option maxHeartbeats 1000000 in
theorem pX6_share_110 (C : Cx E s0 b p s m args meth c cX6_share 6 "EarthMeshModel" (some .int)) (hI : Sx E) (v1 : Int32) {Q : State → Prop} {v2 : Int32} {st : St} {n : Nat} {r : St} (hx : iter (u2 fun v2 st => fX6_share_110 v1 v2 st) n (v2, st) = some r) (hE : (fun t => ∀ (H : Heap) (locs : List Loc) (ls : Array Slot), XH E (sg t) s H locs → lv_has ls 6 [(0, .ref (E.ad 68)), (1, .int v1)] → W p l e rmX6_share s m args below meth c H locs 0 0 Q (F0 m 186 ls [])) r) {H : Heap} {locs : List Loc} {ls : Array Slot} (h : XH E (sg st) s H locs) (hl : lv_has ls 6 [(0, .ref (E.ad 68)), (1, .int v1), (2, .int v2)]) : W p l e rmX6_share s m args below meth c H locs 0 0 Q (F0 m 110 ls []) := by
  refine iter_W (G := fun t => ∀ (H : Heap) (locs : List Loc) (ls : Array Slot), XH E (sg t.2) s H locs → lv_has ls 6 [(0, .ref (E.ad 68)), (1, .int v1), (2, .int t.1)] → W p l e rmX6_share s m args below meth c H locs 0 0 Q (F0 m 110 ls [])) (E := fun t => ∀ (H : Heap) (locs : List Loc) (ls : Array Slot), XH E (sg t) s H locs → lv_has ls 6 [(0, .ref (E.ad 68)), (1, .int v1)] → W p l e rmX6_share s m args below meth c H locs 0 0 Q (F0 m 186 ls [])) (fun t x hx K H locs ls h hl => ?_) n _ r hx hE H locs ls h hl
  obtain ⟨v2, st⟩ := t
  exact bX6_share_110 C hI v1 v2 st hx (fun _ _ z => z) (fun _ z => z) K h hl
def fX6_share (v1 : Int32) (st : St) : Option (Int32 × St) :=
  nm (uI st 68 1 (0 : Int32)) fun st_1 =>
  bd (fX6_isNode v1 st_1) fun r_2 =>
  if r_2 = 0 then
    bd (fX6_fail (1 : Int32) st_1) <| u2 fun r_38 st_38 =>
    some (r_38, st_38)
  else
    bd (fX6_solvesNow st_1) <| u2 fun r_4 st_4 =>
    if r_4 = 0 then
      bd (fX6_fail (2 : Int32) st_4) <| u2 fun r_37 st_37 =>
      some (r_37, st_37)
    else
      bd (iter (u3 fun z2 z3 zst => fX6_share_37 v1 z2 z3 zst) FU ((100 : Int32), (0 : Int32), st_4)) (u2 fun v2_20 st_20 =>
      bd (iter (u2 fun z2 zst => fX6_share_110 v1 z2 zst) FU (v2_20, st_20)) (u1 fun st_35 =>
      gd (inB v1 12) <|
      some ((st_35.1 78 v1.toNatClampNeg), st_35)))
set_option maxHeartbeats 1000000 in
theorem bX6_share (C : Cx E s0 b p s m args meth c cX6_share 6 "EarthMeshModel" (some .int)) (hI : Sx E) (v1 : Int32) (st : St) {x : Int32 × St} (hx : fX6_share v1 st = some x) {H : Heap} {locs : List Loc} {ls : Array Slot} (h : XH E (sg st) s H locs) (hl : lv_has ls 6 [(0, .ref (E.ad 68)), (1, .int v1)]) : W p l e rmX6_share s m args below meth c H locs 0 0 (MQ below (Qx E (some (.int x.1)) (sg x.2)) args s 0 0 (gA E.HB)) (F0 m 0 ls []) := by
  unfold fX6_share at hx
  refine lv_aload_n C.x C.bc dX6_share_0 rfl (lv_at hl 0 rfl) ?_
  refine lv_iconst (v := (0 : Int32)) C.x C.bc dX6_share_1 (by decide) ?_
  obtain ⟨st_1, e_1, hx⟩ := nm_x hx
  refine pt_X6_90_68 C hI h e_1 dX6_share_2 (fun H locs h => ?_)
  refine lv_aload_n C.x C.bc dX6_share_5 rfl (lv_at hl 0 rfl) ?_
  refine lv_iload_n C.x C.bc dX6_share_6 rfl (lv_at hl 1 rfl) ?_
  obtain ⟨r_2, hf_2, hx⟩ := bd_e hx
  refine cX6_304_X6_isNode C hI h hf_2 ⟨Nat.le_of_ble_eq_true rfl, Nat.le_of_ble_eq_true rfl⟩ ⟨Nat.zero_le _, Nat.zero_le _⟩ hl.1 (Nat.le_of_ble_eq_true rfl) dX6_share_7 (fun H locs h => ?_)
  refine lv_if_ne (tgt := 19) C.x C.bc dX6_share_10 (by decide) (fun c_3 => ?_) (fun c_3 => ?_)
  · have hx := ge_f hx c_3
    refine lv_aload_n C.x C.bc dX6_share_19 rfl (lv_at hl 0 rfl) ?_
    obtain ⟨⟨r_4, st_4⟩, hf_4, hx⟩ := bd_e hx
    have hx := u2_e hx
    refine cX6_274_X6_solvesNow C hI h hf_4 ⟨Nat.le_of_ble_eq_true rfl, Nat.le_of_ble_eq_true rfl⟩ ⟨Nat.zero_le _, Nat.zero_le _⟩ hl.1 (Nat.le_of_ble_eq_true rfl) dX6_share_20 (fun H locs h => ?_)
    refine lv_if_ne (tgt := 32) C.x C.bc dX6_share_23 (by decide) (fun c_5 => ?_) (fun c_5 => ?_)
    · have hx := ge_f hx c_5
      refine lv_bipush (v := (100 : Int32)) C.x C.bc dX6_share_32 (by decide) ?_
      refine lv_istore_n (lv' := [(2, .int (100 : Int32)), (0, .ref (E.ad 68)), (1, .int v1)]) C.x C.bc dX6_share_34 rfl hl (by decide) rfl (fun ls hl => ?_)
      refine lv_iconst (v := (0 : Int32)) C.x C.bc dX6_share_35 (by decide) ?_
      refine lv_istore_n (lv' := [(3, .int (0 : Int32)), (2, .int (100 : Int32)), (0, .ref (E.ad 68)), (1, .int v1)]) C.x C.bc dX6_share_36 rfl hl (by decide) rfl (fun ls hl => ?_)
      obtain ⟨⟨v2_20, st_20⟩, hi_20, hx⟩ := bd_e hx
      have hx := u2_e hx
      refine pX6_share_37 C hI v1 hi_20 (fun H locs ls h hl => ?_) h (lv_sub hl [2, 3, 1, 0] rfl)
      obtain ⟨st_35, hi_35, hx⟩ := bd_e hx
      have hx := u1_e hx
      refine pX6_share_110 C hI v1 hi_35 (fun H locs ls h hl => ?_) h (lv_sub hl [0, 1, 2] rfl)
      refine lv_aload_n C.x C.bc dX6_share_186 rfl (lv_at hl 0 rfl) ?_
      refine gt_X6_61_68 C hI h dX6_share_187 ?_
      refine lv_iload_n C.x C.bc dX6_share_190 rfl (lv_at hl 1 rfl) ?_
      obtain ⟨g_36, hx⟩ := gd_e hx
      refine x_iald C h 78 12 (hI 78 (by decide)) k_78 g_36 dX6_share_191 ?_
      obtain rfl := Option.some.inj hx
      exact x_iret C h dX6_share_192
    · have hx := ge_t hx c_5
      refine lv_aload_n C.x C.bc dX6_share_26 rfl (lv_at hl 0 rfl) ?_
      refine lv_iconst (v := (2 : Int32)) C.x C.bc dX6_share_27 (by decide) ?_
      obtain ⟨⟨r_37, st_37⟩, hf_37, hx⟩ := bd_e hx
      have hx := u2_e hx
      refine cX6_182_X6_fail C hI h hf_37 ⟨Nat.le_of_ble_eq_true rfl, Nat.le_of_ble_eq_true rfl⟩ ⟨Nat.zero_le _, Nat.zero_le _⟩ hl.1 (Nat.le_of_ble_eq_true rfl) dX6_share_28 (fun H locs h => ?_)
      obtain rfl := Option.some.inj hx
      exact x_iret C h dX6_share_31
  · have hx := ge_t hx c_3
    refine lv_aload_n C.x C.bc dX6_share_13 rfl (lv_at hl 0 rfl) ?_
    refine lv_iconst (v := (1 : Int32)) C.x C.bc dX6_share_14 (by decide) ?_
    obtain ⟨⟨r_38, st_38⟩, hf_38, hx⟩ := bd_e hx
    have hx := u2_e hx
    refine cX6_182_X6_fail C hI h hf_38 ⟨Nat.le_of_ble_eq_true rfl, Nat.le_of_ble_eq_true rfl⟩ ⟨Nat.zero_le _, Nat.zero_le _⟩ hl.1 (Nat.le_of_ble_eq_true rfl) dX6_share_15 (fun H locs h => ?_)
    obtain rfl := Option.some.inj hx
    exact x_iret C h dX6_share_18
theorem mX6_share (hG : G0 E s0 b) (hI : Sx E) {v1 : Int32} {x : Int32 × St} (hx : fX6_share v1 st = some x) : Mt l E s0 yX6_share cX6_share 6 (some .int) rmX6_share [.ref (E.ad 68), .int v1] (sg st) (some (.int x.1)) E (sg x.2) :=
  Mt.of hG (by decide) (Nat.le_of_ble_eq_true rfl) (fun p e s m below meth c ls C h hl => bX6_share C hI v1 st hx h hl)
abbrev rmX6_isPoint : Room := { frames := 2, cells := 0, slots := 0, locals := 56 }
def fX6_isPoint (v1 : Int32) (st : St) : Option (Int32) :=
  bd (fX6_points st) fun r_1 =>
  nm (fX6_isIn v1 (0 : Int32) (r_1 - (1 : Int32))) fun r_2 =>
  gd (vp_nar .boolean r_2 = r_2) <|
  some r_2
set_option maxHeartbeats 1000000 in
theorem bX6_isPoint (C : Cx E s0 b p s m args meth c cX6_isPoint 2 "EarthMeshModel" (some .boolean)) (hI : Sx E) (v1 : Int32) (st : St) {x : Int32} (hx : fX6_isPoint v1 st = some x) {H : Heap} {locs : List Loc} {ls : Array Slot} (h : XH E (sg st) s H locs) (hl : lv_has ls 2 [(0, .ref (E.ad 68)), (1, .int v1)]) : W p l e rmX6_isPoint s m args below meth c H locs 0 0 (MQ below (Qx E (some (.int x)) (sg st)) args s 0 0 (gA E.HB)) (F0 m 0 ls []) := by
  unfold fX6_isPoint at hx
  refine lv_iload_n C.x C.bc dX6_isPoint_0 rfl (lv_at hl 1 rfl) ?_
  refine lv_iconst (v := (0 : Int32)) C.x C.bc dX6_isPoint_1 (by decide) ?_
  refine lv_aload_n C.x C.bc dX6_isPoint_2 rfl (lv_at hl 0 rfl) ?_
  obtain ⟨r_1, hf_1, hx⟩ := bd_e hx
  refine cX6_332_X6_points C hI h hf_1 ⟨Nat.le_of_ble_eq_true rfl, Nat.le_of_ble_eq_true rfl⟩ ⟨Nat.zero_le _, Nat.zero_le _⟩ hl.1 (Nat.le_of_ble_eq_true rfl) dX6_isPoint_3 (fun H locs h => ?_)
  refine lv_iconst (v := (1 : Int32)) C.x C.bc dX6_isPoint_6 (by decide) ?_
  refine lv_isub C.x C.bc dX6_isPoint_7 ?_
  obtain ⟨r_2, e_2, hx⟩ := nm_x hx
  refine cX6_300_X6_isIn C hI h e_2.symm ⟨Nat.le_of_ble_eq_true rfl, Nat.le_of_ble_eq_true rfl⟩ ⟨Nat.zero_le _, Nat.zero_le _⟩ hl.1 (Nat.le_of_ble_eq_true rfl) dX6_isPoint_8 (fun H locs h => ?_)
  obtain ⟨g_3, hx⟩ := gd_e hx
  obtain rfl := Option.some.inj hx
  exact x_zret (v := r_2) C h (nar_z g_3) dX6_isPoint_11
theorem mX6_isPoint (hG : G0 E s0 b) (hI : Sx E) {v1 : Int32} {x : Int32} (hx : fX6_isPoint v1 st = some x) : Mt l E s0 yX6_isPoint cX6_isPoint 2 (some .boolean) rmX6_isPoint [.ref (E.ad 68), .int v1] (sg st) (some (.int x)) E (sg st) :=
  Mt.of hG (by decide) (Nat.le_of_ble_eq_true rfl) (fun p e s m below meth c ls C h hl => bX6_isPoint C hI v1 st hx h hl)
theorem cX6_341_X6_isPoint {a0 : Int32} {r : Int32} (C : Cx E s0 b p s m args meth c cc nL "EarthMeshModel" rt) (hI : Sx E) (h : XH E (sg st) s H locs) (hf : fX6_isPoint a0 st = some r) (hR : rmX6_isPoint.frames + 1 ≤ R.frames ∧ 16 + (2 + 11) + rmX6_isPoint.locals ≤ R.locals) (h0 : cells ≤ R.cells ∧ slots ≤ R.slots) (hsz : ls.size = nL) (hcat : (rest.map fun v => v.category).sum ≤ 16) (hdg : decode cc pc = .ok (.invokevirtual 341, 3)) (kk : ∀ (H : Heap) (locs : List Loc), XH E (sg st) s H locs → W p l e R s m args below meth c H locs cells slots Q (F0 m (pc + 3) ls (.int r :: rest))) : W p l e R s m args below meth c H locs cells slots Q (F0 m pc ls (.int a0 :: .ref (E.ad 68) :: rest)) :=
  x_callV (n := 1) (As := [.int a0]) C h 68 5 (hI 68 (by decide)) k_68 rfl (mX6_isPoint C.g hI hf) (lw_V q2002 q2004 qs115 q136 q2005) ⟨rfl, by decide +kernel, by decide +kernel, by decide +kernel⟩ hR ⟨rfl, rfl⟩ h0 rfl hsz rfl hcat hdg kk
abbrev rmX6_ground : Room := { frames := 7, cells := 0, slots := 0, locals := 233 }
def fX6_ground_39 (st : St) : Option (Int64 × St) :=
  bd (fX6_fail (1 : Int32) st) <| u2 fun r_4 st_4 =>
  some ((r_4.toInt64), st_4)
set_option maxHeartbeats 1000000 in
theorem bX6_ground_39 (C : Cx E s0 b p s m args meth c cX6_ground 6 "EarthMeshModel" (some .long)) (hI : Sx E) (st : St) {x : Int64 × St} (hx : fX6_ground_39 st = some x) {H : Heap} {locs : List Loc} {ls : Array Slot} (h : XH E (sg st) s H locs) (hl : lv_has ls 6 [(0, .ref (E.ad 68))]) : W p l e rmX6_ground s m args below meth c H locs 0 0 (MQ below (Qx E (some (.long x.1)) (sg x.2)) args s 0 0 (gA E.HB)) (F0 m 39 ls []) := by
  unfold fX6_ground_39 at hx
  refine lv_aload_n C.x C.bc dX6_ground_39 rfl (lv_at hl 0 rfl) ?_
  refine lv_iconst (v := (1 : Int32)) C.x C.bc dX6_ground_40 (by decide) ?_
  obtain ⟨⟨r_4, st_4⟩, hf_4, hx⟩ := bd_e hx
  have hx := u2_e hx
  refine cX6_182_X6_fail C hI h hf_4 ⟨Nat.le_of_ble_eq_true rfl, Nat.le_of_ble_eq_true rfl⟩ ⟨Nat.zero_le _, Nat.zero_le _⟩ hl.1 (Nat.le_of_ble_eq_true rfl) dX6_ground_41 (fun H locs h => ?_)
  refine lv_i2l (v := (r_4.toInt64)) C.x C.bc dX6_ground_44 rfl ?_
  obtain rfl := Option.some.inj hx
  exact x_lret C h dX6_ground_45
def fX6_ground_95 (v3 : Int32) (k0 : Int64) (st : St) : Option (Int64 × St) :=
  bd (fX6_side k0 ((40 : Int64) * (st.2.1 68 19)) v3) fun r_13 =>
  some (r_13, st)
set_option maxHeartbeats 1000000 in
theorem bX6_ground_95 (C : Cx E s0 b p s m args meth c cX6_ground 6 "EarthMeshModel" (some .long)) (hI : Sx E) (v3 : Int32) (k0 : Int64) (st : St) {x : Int64 × St} (hx : fX6_ground_95 v3 k0 st = some x) {H : Heap} {locs : List Loc} {ls : Array Slot} (h : XH E (sg st) s H locs) (hl : lv_has ls 6 [(0, .ref (E.ad 68)), (3, .int v3)]) : W p l e rmX6_ground s m args below meth c H locs 0 0 (MQ below (Qx E (some (.long x.1)) (sg x.2)) args s 0 0 (gA E.HB)) (F0 m 95 ls [.long k0]) := by
  unfold fX6_ground_95 at hx
  refine lv_lstore (lv' := [(4, .long k0), (0, .ref (E.ad 68)), (3, .int v3)]) C.x C.bc dX6_ground_95 hl (by decide) rfl (fun ls hl => ?_)
  refine lv_lload C.x C.bc dX6_ground_97 (lv_at hl 0 rfl) ?_
  refine lv_ldc2 (v := (40 : Int64)) C.x C.bc C.ow (C.ts _ q1913) dX6_ground_99 ?_
  refine lv_aload_n C.x C.bc dX6_ground_102 rfl (lv_at hl 1 rfl) ?_
  refine gt_X6_233_68 C hI h dX6_ground_103 ?_
  refine lv_lmul C.x C.bc dX6_ground_106 ?_
  refine lv_iload_n C.x C.bc dX6_ground_107 rfl (lv_at hl 2 rfl) ?_
  obtain ⟨r_13, hf_13, hx⟩ := bd_e hx
  refine cX6_307_X6_side C hI h hf_13 ⟨Nat.le_of_ble_eq_true rfl, Nat.le_of_ble_eq_true rfl⟩ ⟨Nat.zero_le _, Nat.zero_le _⟩ hl.1 (Nat.le_of_ble_eq_true rfl) dX6_ground_108 (fun H locs h => ?_)
  obtain rfl := Option.some.inj hx
  exact x_lret C h dX6_ground_111
def fX6_ground_46 (v1 : Int32) (v2 : Int32) (v3 : Int32) (st : St) : Option (Int64 × St) :=
  bd (fX6_tellsGround st) <| u2 fun r_8 st_8 =>
  if r_8 = 0 then
    bd (fX6_fail (2 : Int32) st_8) <| u2 fun r_16 st_16 =>
    some ((r_16.toInt64), st_16)
  else
    if v2 = 0 then
      gd (inB v1 35) <|
      fX6_ground_95 v3 (st_8.2.1 79 v1.toNatClampNeg) st_8
    else
      if v2 = (1 : Int32) then
        gd (inB v1 35) <|
        fX6_ground_95 v3 (st_8.2.1 80 v1.toNatClampNeg) st_8
      else
        bd (fX6_step v1 (v2 - (2 : Int32)) st_8) fun r_12 =>
        fX6_ground_95 v3 r_12 st_8
set_option maxHeartbeats 1000000 in
theorem bX6_ground_46 (C : Cx E s0 b p s m args meth c cX6_ground 6 "EarthMeshModel" (some .long)) (hI : Sx E) (v1 : Int32) (v2 : Int32) (v3 : Int32) (st : St) {x : Int64 × St} (hx : fX6_ground_46 v1 v2 v3 st = some x) {H : Heap} {locs : List Loc} {ls : Array Slot} (h : XH E (sg st) s H locs) (hl : lv_has ls 6 [(0, .ref (E.ad 68)), (1, .int v1), (2, .int v2), (3, .int v3)]) : W p l e rmX6_ground s m args below meth c H locs 0 0 (MQ below (Qx E (some (.long x.1)) (sg x.2)) args s 0 0 (gA E.HB)) (F0 m 46 ls []) := by
  unfold fX6_ground_46 at hx
  refine lv_aload_n C.x C.bc dX6_ground_46 rfl (lv_at hl 0 rfl) ?_
  obtain ⟨⟨r_8, st_8⟩, hf_8, hx⟩ := bd_e hx
  have hx := u2_e hx
  refine cX6_344_X6_tellsGround C hI h hf_8 ⟨Nat.le_of_ble_eq_true rfl, Nat.le_of_ble_eq_true rfl⟩ ⟨Nat.zero_le _, Nat.zero_le _⟩ hl.1 (Nat.le_of_ble_eq_true rfl) dX6_ground_47 (fun H locs h => ?_)
  refine lv_if_ne (tgt := 60) C.x C.bc dX6_ground_50 (by decide) (fun c_9 => ?_) (fun c_9 => ?_)
  · have hx := ge_f hx c_9
    refine lv_iload_n C.x C.bc dX6_ground_60 rfl (lv_at hl 2 rfl) ?_
    refine lv_if_ne (tgt := 73) C.x C.bc dX6_ground_61 (by decide) (fun c_10 => ?_) (fun c_10 => ?_)
    · have hx := ge_f hx c_10
      refine lv_iload_n C.x C.bc dX6_ground_73 rfl (lv_at hl 2 rfl) ?_
      refine lv_iconst (v := (1 : Int32)) C.x C.bc dX6_ground_74 (by decide) ?_
      refine lv_icmp_ne (tgt := 87) C.x C.bc dX6_ground_75 (by decide) (fun c_11 => ?_) (fun c_11 => ?_)
      · have hx := ge_f hx c_11
        refine lv_aload_n C.x C.bc dX6_ground_87 rfl (lv_at hl 0 rfl) ?_
        refine lv_iload_n C.x C.bc dX6_ground_88 rfl (lv_at hl 1 rfl) ?_
        refine lv_iload_n C.x C.bc dX6_ground_89 rfl (lv_at hl 2 rfl) ?_
        refine lv_iconst (v := (2 : Int32)) C.x C.bc dX6_ground_90 (by decide) ?_
        refine lv_isub C.x C.bc dX6_ground_91 ?_
        obtain ⟨r_12, hf_12, hx⟩ := bd_e hx
        refine cX6_347_X6_step C hI h hf_12 ⟨Nat.le_of_ble_eq_true rfl, Nat.le_of_ble_eq_true rfl⟩ ⟨Nat.zero_le _, Nat.zero_le _⟩ hl.1 (Nat.le_of_ble_eq_true rfl) dX6_ground_92 (fun H locs h => ?_)
        exact bX6_ground_95 C hI v3 r_12 st_8 hx h (lv_sub hl [0, 3] rfl)
      · have hx := ge_t hx c_11
        refine lv_aload_n C.x C.bc dX6_ground_78 rfl (lv_at hl 0 rfl) ?_
        refine gt_X6_67_68 C hI h dX6_ground_79 ?_
        refine lv_iload_n C.x C.bc dX6_ground_82 rfl (lv_at hl 1 rfl) ?_
        obtain ⟨g_14, hx⟩ := gd_e hx
        refine x_lald C h 80 35 (hI 80 (by decide)) k_80 g_14 dX6_ground_83 ?_
        refine lv_goto (tgt := 95) C.x C.bc dX6_ground_84 (by decide) ?_
        exact bX6_ground_95 C hI v3 (st_8.2.1 80 v1.toNatClampNeg) st_8 hx h (lv_sub hl [0, 3] rfl)
    · have hx := ge_t hx c_10
      refine lv_aload_n C.x C.bc dX6_ground_64 rfl (lv_at hl 0 rfl) ?_
      refine gt_X6_64_68 C hI h dX6_ground_65 ?_
      refine lv_iload_n C.x C.bc dX6_ground_68 rfl (lv_at hl 1 rfl) ?_
      obtain ⟨g_15, hx⟩ := gd_e hx
      refine x_lald C h 79 35 (hI 79 (by decide)) k_79 g_15 dX6_ground_69 ?_
      refine lv_goto (tgt := 95) C.x C.bc dX6_ground_70 (by decide) ?_
      exact bX6_ground_95 C hI v3 (st_8.2.1 79 v1.toNatClampNeg) st_8 hx h (lv_sub hl [0, 3] rfl)
  · have hx := ge_t hx c_9
    refine lv_aload_n C.x C.bc dX6_ground_53 rfl (lv_at hl 0 rfl) ?_
    refine lv_iconst (v := (2 : Int32)) C.x C.bc dX6_ground_54 (by decide) ?_
    obtain ⟨⟨r_16, st_16⟩, hf_16, hx⟩ := bd_e hx
    have hx := u2_e hx
    refine cX6_182_X6_fail C hI h hf_16 ⟨Nat.le_of_ble_eq_true rfl, Nat.le_of_ble_eq_true rfl⟩ ⟨Nat.zero_le _, Nat.zero_le _⟩ hl.1 (Nat.le_of_ble_eq_true rfl) dX6_ground_55 (fun H locs h => ?_)
    refine lv_i2l (v := (r_16.toInt64)) C.x C.bc dX6_ground_58 rfl ?_
    obtain rfl := Option.some.inj hx
    exact x_lret C h dX6_ground_59
def fX6_ground (v1 : Int32) (v2 : Int32) (v3 : Int32) (st : St) : Option (Int64 × St) :=
  nm (uI st 68 1 (0 : Int32)) fun st_1 =>
  bd (fX6_isPoint v1 st_1) fun r_2 =>
  if r_2 = 0 then
    fX6_ground_39 st_1
  else
    nm (fX6_isIn v2 (0 : Int32) (3 : Int32)) fun r_5 =>
    if r_5 = 0 then
      fX6_ground_39 st_1
    else
      if v2 ≤ (1 : Int32) then
        fX6_ground_46 v1 v2 v3 st_1
      else
        bd (fX6_beside v1 (v2 - (2 : Int32)) st_1) fun r_17 =>
        if r_17 = (-1 : Int32) then
          fX6_ground_39 st_1
        else
          fX6_ground_46 v1 v2 v3 st_1
set_option maxHeartbeats 1000000 in
theorem bX6_ground (C : Cx E s0 b p s m args meth c cX6_ground 6 "EarthMeshModel" (some .long)) (hI : Sx E) (v1 : Int32) (v2 : Int32) (v3 : Int32) (st : St) {x : Int64 × St} (hx : fX6_ground v1 v2 v3 st = some x) {H : Heap} {locs : List Loc} {ls : Array Slot} (h : XH E (sg st) s H locs) (hl : lv_has ls 6 [(0, .ref (E.ad 68)), (1, .int v1), (2, .int v2), (3, .int v3)]) : W p l e rmX6_ground s m args below meth c H locs 0 0 (MQ below (Qx E (some (.long x.1)) (sg x.2)) args s 0 0 (gA E.HB)) (F0 m 0 ls []) := by
  unfold fX6_ground at hx
  refine lv_aload_n C.x C.bc dX6_ground_0 rfl (lv_at hl 0 rfl) ?_
  refine lv_iconst (v := (0 : Int32)) C.x C.bc dX6_ground_1 (by decide) ?_
  obtain ⟨st_1, e_1, hx⟩ := nm_x hx
  refine pt_X6_90_68 C hI h e_1 dX6_ground_2 (fun H locs h => ?_)
  refine lv_aload_n C.x C.bc dX6_ground_5 rfl (lv_at hl 0 rfl) ?_
  refine lv_iload_n C.x C.bc dX6_ground_6 rfl (lv_at hl 1 rfl) ?_
  obtain ⟨r_2, hf_2, hx⟩ := bd_e hx
  refine cX6_341_X6_isPoint C hI h hf_2 ⟨Nat.le_of_ble_eq_true rfl, Nat.le_of_ble_eq_true rfl⟩ ⟨Nat.zero_le _, Nat.zero_le _⟩ hl.1 (Nat.le_of_ble_eq_true rfl) dX6_ground_7 (fun H locs h => ?_)
  refine lv_if_eq (tgt := 39) C.x C.bc dX6_ground_10 (by decide) (fun c_3 => ?_) (fun c_3 => ?_)
  · have hx := ge_t hx c_3
    exact bX6_ground_39 C hI st_1 hx h (lv_sub hl [0] rfl)
  · have hx := ge_f hx c_3
    refine lv_iload_n C.x C.bc dX6_ground_13 rfl (lv_at hl 2 rfl) ?_
    refine lv_iconst (v := (0 : Int32)) C.x C.bc dX6_ground_14 (by decide) ?_
    refine lv_iconst (v := (3 : Int32)) C.x C.bc dX6_ground_15 (by decide) ?_
    obtain ⟨r_5, e_5, hx⟩ := nm_x hx
    refine cX6_300_X6_isIn C hI h e_5.symm ⟨Nat.le_of_ble_eq_true rfl, Nat.le_of_ble_eq_true rfl⟩ ⟨Nat.zero_le _, Nat.zero_le _⟩ hl.1 (Nat.le_of_ble_eq_true rfl) dX6_ground_16 (fun H locs h => ?_)
    refine lv_if_eq (tgt := 39) C.x C.bc dX6_ground_19 (by decide) (fun c_6 => ?_) (fun c_6 => ?_)
    · have hx := ge_t hx c_6
      exact bX6_ground_39 C hI st_1 hx h (lv_sub hl [0] rfl)
    · have hx := ge_f hx c_6
      refine lv_iload_n C.x C.bc dX6_ground_22 rfl (lv_at hl 2 rfl) ?_
      refine lv_iconst (v := (1 : Int32)) C.x C.bc dX6_ground_23 (by decide) ?_
      refine lv_icmp_le (tgt := 46) C.x C.bc dX6_ground_24 (by decide) (fun c_7 => ?_) (fun c_7 => ?_)
      · have hx := ge_t hx c_7
        exact bX6_ground_46 C hI v1 v2 v3 st_1 hx h (lv_sub hl [0, 1, 2, 3] rfl)
      · have hx := ge_f hx c_7
        refine lv_aload_n C.x C.bc dX6_ground_27 rfl (lv_at hl 0 rfl) ?_
        refine lv_iload_n C.x C.bc dX6_ground_28 rfl (lv_at hl 1 rfl) ?_
        refine lv_iload_n C.x C.bc dX6_ground_29 rfl (lv_at hl 2 rfl) ?_
        refine lv_iconst (v := (2 : Int32)) C.x C.bc dX6_ground_30 (by decide) ?_
        refine lv_isub C.x C.bc dX6_ground_31 ?_
        obtain ⟨r_17, hf_17, hx⟩ := bd_e hx
        refine cX6_338_X6_beside C hI h hf_17 ⟨Nat.le_of_ble_eq_true rfl, Nat.le_of_ble_eq_true rfl⟩ ⟨Nat.zero_le _, Nat.zero_le _⟩ hl.1 (Nat.le_of_ble_eq_true rfl) dX6_ground_32 (fun H locs h => ?_)
        refine lv_iconst (v := (-1 : Int32)) C.x C.bc dX6_ground_35 (by decide) ?_
        refine lv_icmp_ne (tgt := 46) C.x C.bc dX6_ground_36 (by decide) (fun c_18 => ?_) (fun c_18 => ?_)
        · have hx := ge_f hx c_18
          exact bX6_ground_46 C hI v1 v2 v3 st_1 hx h (lv_sub hl [0, 1, 2, 3] rfl)
        · have hx := ge_t hx c_18
          exact bX6_ground_39 C hI st_1 hx h (lv_sub hl [0] rfl)
theorem mX6_ground (hG : G0 E s0 b) (hI : Sx E) {v1 : Int32} {v2 : Int32} {v3 : Int32} {x : Int64 × St} (hx : fX6_ground v1 v2 v3 st = some x) : Mt l E s0 yX6_ground cX6_ground 6 (some .long) rmX6_ground [.ref (E.ad 68), .int v1, .int v2, .int v3] (sg st) (some (.long x.1)) E (sg x.2) :=
  Mt.of hG (by decide) (Nat.le_of_ble_eq_true rfl) (fun p e s m below meth c ls C h hl => bX6_ground C hI v1 v2 v3 st hx h hl)
abbrev rmX6_worstStep : Room := { frames := 4, cells := 0, slots := 0, locals := 118 }
def fX6_worstStep_73 (v1 : Int32) (v2 : Int64) (v4 : Int32) (v5 : Int32) (st : St) : Option ((Int32 × Int64 × Int32) ⊕ (Int32 × Int64)) :=
  nm (v5 + (1 : Int32)) fun v5_6 =>
  some (.inl (v1, v2, v5_6))
set_option maxHeartbeats 1000000 in
theorem bX6_worstStep_73 (C : Cx E s0 b p s m args meth c cX6_worstStep 6 "EarthMeshModel" (some .int)) (hI : Sx E) (v1 : Int32) (v2 : Int64) (v4 : Int32) (v5 : Int32) (st : St) {x : (Int32 × Int64 × Int32) ⊕ (Int32 × Int64)} (hx : fX6_worstStep_73 v1 v2 v4 v5 st = some x) {Q : State → Prop} {G : Int32 × Int64 × Int32 → Prop} {X : Int32 × Int64 → Prop} (hG : ∀ (w1 : Int32) (w2 : Int64) (w5 : Int32), G (w1, w2, w5) → ∀ (H : Heap) (locs : List Loc) (ls : Array Slot), XH E (sg st) s H locs → lv_has ls 6 [(0, .ref (E.ad 68)), (1, .int w1), (2, .long w2), (4, .int v4), (5, .int w5)] → W p l e rmX6_worstStep s m args below meth c H locs 0 0 Q (F0 m 21 ls [])) (hE0 : ∀ (w1 : Int32) (w2 : Int64), X (w1, w2) → ∀ (H : Heap) (locs : List Loc) (ls : Array Slot), XH E (sg st) s H locs → lv_has ls 6 [(0, .ref (E.ad 68)), (1, .int w1), (2, .long w2), (4, .int v4)] → W p l e rmX6_worstStep s m args below meth c H locs 0 0 Q (F0 m 79 ls [])) (K : Kx G X x) {H : Heap} {locs : List Loc} {ls : Array Slot} (h : XH E (sg st) s H locs) (hl : lv_has ls 6 [(0, .ref (E.ad 68)), (1, .int v1), (2, .long v2), (4, .int v4), (5, .int v5)]) : W p l e rmX6_worstStep s m args below meth c H locs 0 0 Q (F0 m 73 ls []) := by
  unfold fX6_worstStep_73 at hx
  obtain ⟨v5_6, e_6, hx⟩ := nm_x hx
  refine lv_iinc (v := v5_6) (lv' := [(5, .int v5_6), (0, .ref (E.ad 68)), (1, .int v1), (2, .long v2), (4, .int v4)]) C.x C.bc dX6_worstStep_73 hl (k := 4) rfl (by rw [e_6]; rfl) (by decide) rfl (fun ls hl => ?_)
  refine lv_goto (tgt := 21) C.x C.bc dX6_worstStep_76 (by decide) ?_
  obtain rfl := Option.some.inj hx
  exact hG _ _ _ K _ _ _ h (lv_sub hl [1, 2, 3, 4, 0] rfl)
def fX6_worstStep_21 (v1 : Int32) (v2 : Int64) (v4 : Int32) (v5 : Int32) (st : St) : Option ((Int32 × Int64 × Int32) ⊕ (Int32 × Int64)) :=
  if (1 : Int32) < v5 then
    some (.inr (v1, v2))
  else
    bd (fX6_beside v4 v5 st) fun r_4 =>
    if r_4 = (-1 : Int32) then
      fX6_worstStep_73 v1 v2 v4 v5 st
    else
      bd (fX6_step v4 v5 st) fun r_7 =>
      if v2 < r_7 then
        bd (fX6_step v4 v5 st) fun r_9 =>
        nm (((10 : Int32) * v4) + v5) fun v1_10 =>
        fX6_worstStep_73 v1_10 r_9 v4 v5 st
      else
        fX6_worstStep_73 v1 v2 v4 v5 st
set_option maxHeartbeats 1000000 in
theorem bX6_worstStep_21 (C : Cx E s0 b p s m args meth c cX6_worstStep 6 "EarthMeshModel" (some .int)) (hI : Sx E) (v1 : Int32) (v2 : Int64) (v4 : Int32) (v5 : Int32) (st : St) {x : (Int32 × Int64 × Int32) ⊕ (Int32 × Int64)} (hx : fX6_worstStep_21 v1 v2 v4 v5 st = some x) {Q : State → Prop} {G : Int32 × Int64 × Int32 → Prop} {X : Int32 × Int64 → Prop} (hG : ∀ (w1 : Int32) (w2 : Int64) (w5 : Int32), G (w1, w2, w5) → ∀ (H : Heap) (locs : List Loc) (ls : Array Slot), XH E (sg st) s H locs → lv_has ls 6 [(0, .ref (E.ad 68)), (1, .int w1), (2, .long w2), (4, .int v4), (5, .int w5)] → W p l e rmX6_worstStep s m args below meth c H locs 0 0 Q (F0 m 21 ls [])) (hE0 : ∀ (w1 : Int32) (w2 : Int64), X (w1, w2) → ∀ (H : Heap) (locs : List Loc) (ls : Array Slot), XH E (sg st) s H locs → lv_has ls 6 [(0, .ref (E.ad 68)), (1, .int w1), (2, .long w2), (4, .int v4)] → W p l e rmX6_worstStep s m args below meth c H locs 0 0 Q (F0 m 79 ls [])) (K : Kx G X x) {H : Heap} {locs : List Loc} {ls : Array Slot} (h : XH E (sg st) s H locs) (hl : lv_has ls 6 [(0, .ref (E.ad 68)), (1, .int v1), (2, .long v2), (4, .int v4), (5, .int v5)]) : W p l e rmX6_worstStep s m args below meth c H locs 0 0 Q (F0 m 21 ls []) := by
  unfold fX6_worstStep_21 at hx
  refine lv_iload C.x C.bc dX6_worstStep_21 (lv_at hl 4 rfl) ?_
  refine lv_iconst (v := (1 : Int32)) C.x C.bc dX6_worstStep_23 (by decide) ?_
  refine lv_icmp_gt (tgt := 79) C.x C.bc dX6_worstStep_24 (by decide) (fun c_3 => ?_) (fun c_3 => ?_)
  · have hx := ge_t hx c_3
    obtain rfl := Option.some.inj hx
    exact hE0 _ _ K _ _ _ h (lv_sub hl [0, 1, 2, 3] rfl)
  · have hx := ge_f hx c_3
    refine lv_aload_n C.x C.bc dX6_worstStep_27 rfl (lv_at hl 0 rfl) ?_
    refine lv_iload C.x C.bc dX6_worstStep_28 (lv_at hl 3 rfl) ?_
    refine lv_iload C.x C.bc dX6_worstStep_30 (lv_at hl 4 rfl) ?_
    obtain ⟨r_4, hf_4, hx⟩ := bd_e hx
    refine cX6_338_X6_beside C hI h hf_4 ⟨Nat.le_of_ble_eq_true rfl, Nat.le_of_ble_eq_true rfl⟩ ⟨Nat.zero_le _, Nat.zero_le _⟩ hl.1 (Nat.le_of_ble_eq_true rfl) dX6_worstStep_32 (fun H locs h => ?_)
    refine lv_iconst (v := (-1 : Int32)) C.x C.bc dX6_worstStep_35 (by decide) ?_
    refine lv_icmp_eq (tgt := 73) C.x C.bc dX6_worstStep_36 (by decide) (fun c_5 => ?_) (fun c_5 => ?_)
    · have hx := ge_t hx c_5
      exact bX6_worstStep_73 C hI v1 v2 v4 v5 st hx hG hE0 K h (lv_sub hl [0, 1, 2, 3, 4] rfl)
    · have hx := ge_f hx c_5
      refine lv_aload_n C.x C.bc dX6_worstStep_39 rfl (lv_at hl 0 rfl) ?_
      refine lv_iload C.x C.bc dX6_worstStep_40 (lv_at hl 3 rfl) ?_
      refine lv_iload C.x C.bc dX6_worstStep_42 (lv_at hl 4 rfl) ?_
      obtain ⟨r_7, hf_7, hx⟩ := bd_e hx
      refine cX6_347_X6_step C hI h hf_7 ⟨Nat.le_of_ble_eq_true rfl, Nat.le_of_ble_eq_true rfl⟩ ⟨Nat.zero_le _, Nat.zero_le _⟩ hl.1 (Nat.le_of_ble_eq_true rfl) dX6_worstStep_44 (fun H locs h => ?_)
      refine lv_lload_n C.x C.bc dX6_worstStep_47 rfl (lv_at hl 2 rfl) ?_
      refine W.lcmp C.x C.bc dX6_worstStep_48 ?_
      refine lv_if_gt (tgt := 55) C.x C.bc dX6_worstStep_49 (by decide) (fun c_8 => ?_) (fun c_8 => ?_)
      · have c_8 := (lc_gt _ _).mp c_8
        have hx := ge_t hx c_8
        refine lv_aload_n C.x C.bc dX6_worstStep_55 rfl (lv_at hl 0 rfl) ?_
        refine lv_iload C.x C.bc dX6_worstStep_56 (lv_at hl 3 rfl) ?_
        refine lv_iload C.x C.bc dX6_worstStep_58 (lv_at hl 4 rfl) ?_
        obtain ⟨r_9, hf_9, hx⟩ := bd_e hx
        refine cX6_347_X6_step C hI h hf_9 ⟨Nat.le_of_ble_eq_true rfl, Nat.le_of_ble_eq_true rfl⟩ ⟨Nat.zero_le _, Nat.zero_le _⟩ hl.1 (Nat.le_of_ble_eq_true rfl) dX6_worstStep_60 (fun H locs h => ?_)
        refine lv_lstore_n (lv' := [(2, .long r_9), (0, .ref (E.ad 68)), (1, .int v1), (4, .int v4), (5, .int v5)]) C.x C.bc dX6_worstStep_63 rfl hl (by decide) rfl (fun ls hl => ?_)
        refine lv_bipush (v := (10 : Int32)) C.x C.bc dX6_worstStep_64 (by decide) ?_
        refine lv_iload C.x C.bc dX6_worstStep_66 (lv_at hl 3 rfl) ?_
        refine lv_imul C.x C.bc dX6_worstStep_68 ?_
        refine lv_iload C.x C.bc dX6_worstStep_69 (lv_at hl 4 rfl) ?_
        refine lv_iadd C.x C.bc dX6_worstStep_71 ?_
        obtain ⟨v1_10, e_10, hx⟩ := nm_x hx
        refine x_ti e_10 ?_
        refine lv_istore_n (lv' := [(1, .int v1_10), (2, .long r_9), (0, .ref (E.ad 68)), (4, .int v4), (5, .int v5)]) C.x C.bc dX6_worstStep_72 rfl hl (by decide) rfl (fun ls hl => ?_)
        exact bX6_worstStep_73 C hI v1_10 r_9 v4 v5 st hx hG hE0 K h (lv_sub hl [2, 0, 1, 3, 4] rfl)
      · have c_8 := (not_congr (lc_gt _ _)).mp c_8
        have hx := ge_f hx c_8
        refine lv_goto (tgt := 73) C.x C.bc dX6_worstStep_52 (by decide) ?_
        exact bX6_worstStep_73 C hI v1 v2 v4 v5 st hx hG hE0 K h (lv_sub hl [0, 1, 2, 3, 4] rfl)
set_option maxHeartbeats 1000000 in
theorem pX6_worstStep_21 (C : Cx E s0 b p s m args meth c cX6_worstStep 6 "EarthMeshModel" (some .int)) (hI : Sx E) (v4 : Int32) (st : St) {Q : State → Prop} {v1 : Int32} {v2 : Int64} {v5 : Int32} {n : Nat} {r : Int32 × Int64} (hx : iter (u3 fun v1 v2 v5 => fX6_worstStep_21 v1 v2 v4 v5 st) n (v1, v2, v5) = some r) (hE : (fun t => ∀ (H : Heap) (locs : List Loc) (ls : Array Slot), XH E (sg st) s H locs → lv_has ls 6 [(0, .ref (E.ad 68)), (1, .int t.1), (2, .long t.2), (4, .int v4)] → W p l e rmX6_worstStep s m args below meth c H locs 0 0 Q (F0 m 79 ls [])) r) {H : Heap} {locs : List Loc} {ls : Array Slot} (h : XH E (sg st) s H locs) (hl : lv_has ls 6 [(0, .ref (E.ad 68)), (1, .int v1), (2, .long v2), (4, .int v4), (5, .int v5)]) : W p l e rmX6_worstStep s m args below meth c H locs 0 0 Q (F0 m 21 ls []) := by
  refine iter_W (G := fun t => ∀ (H : Heap) (locs : List Loc) (ls : Array Slot), XH E (sg st) s H locs → lv_has ls 6 [(0, .ref (E.ad 68)), (1, .int t.1), (2, .long t.2.1), (4, .int v4), (5, .int t.2.2)] → W p l e rmX6_worstStep s m args below meth c H locs 0 0 Q (F0 m 21 ls [])) (E := fun t => ∀ (H : Heap) (locs : List Loc) (ls : Array Slot), XH E (sg st) s H locs → lv_has ls 6 [(0, .ref (E.ad 68)), (1, .int t.1), (2, .long t.2), (4, .int v4)] → W p l e rmX6_worstStep s m args below meth c H locs 0 0 Q (F0 m 79 ls [])) (fun t x hx K H locs ls h hl => ?_) n _ r hx hE H locs ls h hl
  obtain ⟨v1, v2, v5⟩ := t
  exact bX6_worstStep_21 C hI v1 v2 v4 v5 st hx (fun _ _ _ z => z) (fun _ _ z => z) K h hl
def fX6_worstStep_9 (v1 : Int32) (v2 : Int64) (v4 : Int32) (st : St) : Option ((Int32 × Int64 × Int32) ⊕ (Int32)) :=
  bd (fX6_points st) fun r_1 =>
  if r_1 ≤ v4 then
    some (.inr v1)
  else
    bd (iter (u3 fun z1 z2 z5 => fX6_worstStep_21 z1 z2 v4 z5 st) FU (v1, v2, (0 : Int32))) (u2 fun v1_11 v2_11 =>
    nm (v4 + (1 : Int32)) fun v4_12 =>
    some (.inl (v1_11, v2_11, v4_12)))
set_option maxHeartbeats 1000000 in
theorem bX6_worstStep_9 (C : Cx E s0 b p s m args meth c cX6_worstStep 6 "EarthMeshModel" (some .int)) (hI : Sx E) (v1 : Int32) (v2 : Int64) (v4 : Int32) (st : St) {x : (Int32 × Int64 × Int32) ⊕ (Int32)} (hx : fX6_worstStep_9 v1 v2 v4 st = some x) {Q : State → Prop} {G : Int32 × Int64 × Int32 → Prop} {X : Int32 → Prop} (hG : ∀ (w1 : Int32) (w2 : Int64) (w4 : Int32), G (w1, w2, w4) → ∀ (H : Heap) (locs : List Loc) (ls : Array Slot), XH E (sg st) s H locs → lv_has ls 6 [(0, .ref (E.ad 68)), (1, .int w1), (2, .long w2), (4, .int w4)] → W p l e rmX6_worstStep s m args below meth c H locs 0 0 Q (F0 m 9 ls [])) (hE0 : ∀ (w1 : Int32), X w1 → ∀ (H : Heap) (locs : List Loc) (ls : Array Slot), XH E (sg st) s H locs → lv_has ls 6 [(1, .int w1)] → W p l e rmX6_worstStep s m args below meth c H locs 0 0 Q (F0 m 85 ls [])) (K : Kx G X x) {H : Heap} {locs : List Loc} {ls : Array Slot} (h : XH E (sg st) s H locs) (hl : lv_has ls 6 [(0, .ref (E.ad 68)), (1, .int v1), (2, .long v2), (4, .int v4)]) : W p l e rmX6_worstStep s m args below meth c H locs 0 0 Q (F0 m 9 ls []) := by
  unfold fX6_worstStep_9 at hx
  refine lv_iload C.x C.bc dX6_worstStep_9 (lv_at hl 3 rfl) ?_
  refine lv_aload_n C.x C.bc dX6_worstStep_11 rfl (lv_at hl 0 rfl) ?_
  obtain ⟨r_1, hf_1, hx⟩ := bd_e hx
  refine cX6_332_X6_points C hI h hf_1 ⟨Nat.le_of_ble_eq_true rfl, Nat.le_of_ble_eq_true rfl⟩ ⟨Nat.zero_le _, Nat.zero_le _⟩ hl.1 (Nat.le_of_ble_eq_true rfl) dX6_worstStep_12 (fun H locs h => ?_)
  refine lv_icmp_ge (tgt := 85) C.x C.bc dX6_worstStep_15 (by decide) (fun c_2 => ?_) (fun c_2 => ?_)
  · have hx := ge_t hx c_2
    obtain rfl := Option.some.inj hx
    exact hE0 _ K _ _ _ h (lv_sub hl [1] rfl)
  · have hx := ge_f hx c_2
    refine lv_iconst (v := (0 : Int32)) C.x C.bc dX6_worstStep_18 (by decide) ?_
    refine lv_istore (lv' := [(5, .int (0 : Int32)), (0, .ref (E.ad 68)), (1, .int v1), (2, .long v2), (4, .int v4)]) C.x C.bc dX6_worstStep_19 hl (by decide) rfl (fun ls hl => ?_)
    obtain ⟨⟨v1_11, v2_11⟩, hi_11, hx⟩ := bd_e hx
    have hx := u2_e hx
    refine pX6_worstStep_21 C hI v4 st hi_11 (fun H locs ls h hl => ?_) h (lv_sub hl [1, 2, 3, 4, 0] rfl)
    obtain ⟨v4_12, e_12, hx⟩ := nm_x hx
    refine lv_iinc (v := v4_12) (lv' := [(4, .int v4_12), (0, .ref (E.ad 68)), (1, .int v1_11), (2, .long v2_11)]) C.x C.bc dX6_worstStep_79 hl (k := 3) rfl (by rw [e_12]; rfl) (by decide) rfl (fun ls hl => ?_)
    refine lv_goto (tgt := 9) C.x C.bc dX6_worstStep_82 (by decide) ?_
    obtain rfl := Option.some.inj hx
    exact hG _ _ _ K _ _ _ h (lv_sub hl [1, 2, 3, 0] rfl)
set_option maxHeartbeats 1000000 in
theorem pX6_worstStep_9 (C : Cx E s0 b p s m args meth c cX6_worstStep 6 "EarthMeshModel" (some .int)) (hI : Sx E) (st : St) {Q : State → Prop} {v1 : Int32} {v2 : Int64} {v4 : Int32} {n : Nat} {r : Int32} (hx : iter (u3 fun v1 v2 v4 => fX6_worstStep_9 v1 v2 v4 st) n (v1, v2, v4) = some r) (hE : (fun t => ∀ (H : Heap) (locs : List Loc) (ls : Array Slot), XH E (sg st) s H locs → lv_has ls 6 [(1, .int t)] → W p l e rmX6_worstStep s m args below meth c H locs 0 0 Q (F0 m 85 ls [])) r) {H : Heap} {locs : List Loc} {ls : Array Slot} (h : XH E (sg st) s H locs) (hl : lv_has ls 6 [(0, .ref (E.ad 68)), (1, .int v1), (2, .long v2), (4, .int v4)]) : W p l e rmX6_worstStep s m args below meth c H locs 0 0 Q (F0 m 9 ls []) := by
  refine iter_W (G := fun t => ∀ (H : Heap) (locs : List Loc) (ls : Array Slot), XH E (sg st) s H locs → lv_has ls 6 [(0, .ref (E.ad 68)), (1, .int t.1), (2, .long t.2.1), (4, .int t.2.2)] → W p l e rmX6_worstStep s m args below meth c H locs 0 0 Q (F0 m 9 ls [])) (E := fun t => ∀ (H : Heap) (locs : List Loc) (ls : Array Slot), XH E (sg st) s H locs → lv_has ls 6 [(1, .int t)] → W p l e rmX6_worstStep s m args below meth c H locs 0 0 Q (F0 m 85 ls [])) (fun t x hx K H locs ls h hl => ?_) n _ r hx hE H locs ls h hl
  obtain ⟨v1, v2, v4⟩ := t
  exact bX6_worstStep_9 C hI v1 v2 v4 st hx (fun _ _ _ z => z) (fun _ z => z) K h hl
def fX6_worstStep (st : St) : Option (Int32) :=
  bd (iter (u3 fun z1 z2 z4 => fX6_worstStep_9 z1 z2 z4 st) FU ((-1 : Int32), (-1 : Int64), (0 : Int32))) (u1 fun v1_13 =>
  some v1_13)
set_option maxHeartbeats 1000000 in
theorem bX6_worstStep (C : Cx E s0 b p s m args meth c cX6_worstStep 6 "EarthMeshModel" (some .int)) (hI : Sx E) (st : St) {x : Int32} (hx : fX6_worstStep st = some x) {H : Heap} {locs : List Loc} {ls : Array Slot} (h : XH E (sg st) s H locs) (hl : lv_has ls 6 [(0, .ref (E.ad 68))]) : W p l e rmX6_worstStep s m args below meth c H locs 0 0 (MQ below (Qx E (some (.int x)) (sg st)) args s 0 0 (gA E.HB)) (F0 m 0 ls []) := by
  unfold fX6_worstStep at hx
  refine lv_iconst (v := (-1 : Int32)) C.x C.bc dX6_worstStep_0 (by decide) ?_
  refine lv_istore_n (lv' := [(1, .int (-1 : Int32)), (0, .ref (E.ad 68))]) C.x C.bc dX6_worstStep_1 rfl hl (by decide) rfl (fun ls hl => ?_)
  refine lv_ldc2 (v := (-1 : Int64)) C.x C.bc C.ow (C.ts _ q1864) dX6_worstStep_2 ?_
  refine lv_lstore_n (lv' := [(2, .long (-1 : Int64)), (1, .int (-1 : Int32)), (0, .ref (E.ad 68))]) C.x C.bc dX6_worstStep_5 rfl hl (by decide) rfl (fun ls hl => ?_)
  refine lv_iconst (v := (0 : Int32)) C.x C.bc dX6_worstStep_6 (by decide) ?_
  refine lv_istore (lv' := [(4, .int (0 : Int32)), (2, .long (-1 : Int64)), (1, .int (-1 : Int32)), (0, .ref (E.ad 68))]) C.x C.bc dX6_worstStep_7 hl (by decide) rfl (fun ls hl => ?_)
  obtain ⟨v1_13, hi_13, hx⟩ := bd_e hx
  have hx := u1_e hx
  refine pX6_worstStep_9 C hI st hi_13 (fun H locs ls h hl => ?_) h (lv_sub hl [3, 2, 1, 0] rfl)
  refine lv_iload_n C.x C.bc dX6_worstStep_85 rfl (lv_at hl 0 rfl) ?_
  obtain rfl := Option.some.inj hx
  exact x_iret C h dX6_worstStep_86
theorem mX6_worstStep (hG : G0 E s0 b) (hI : Sx E)  {x : Int32} (hx : fX6_worstStep st = some x) : Mt l E s0 yX6_worstStep cX6_worstStep 6 (some .int) rmX6_worstStep [.ref (E.ad 68)] (sg st) (some (.int x)) E (sg st) :=
  Mt.of hG (by decide) (Nat.le_of_ble_eq_true rfl) (fun p e s m below meth c ls C h hl => bX6_worstStep C hI st hx h hl)
theorem cX6_350_X6_worstStep  {r : Int32} (C : Cx E s0 b p s m args meth c cc nL "EarthMeshModel" rt) (hI : Sx E) (h : XH E (sg st) s H locs) (hf : fX6_worstStep st = some r) (hR : rmX6_worstStep.frames + 1 ≤ R.frames ∧ 16 + (6 + 11) + rmX6_worstStep.locals ≤ R.locals) (h0 : cells ≤ R.cells ∧ slots ≤ R.slots) (hsz : ls.size = nL) (hcat : (rest.map fun v => v.category).sum ≤ 16) (hdg : decode cc pc = .ok (.invokevirtual 350, 3)) (kk : ∀ (H : Heap) (locs : List Loc), XH E (sg st) s H locs → W p l e R s m args below meth c H locs cells slots Q (F0 m (pc + 3) ls (.int r :: rest))) : W p l e R s m args below meth c H locs cells slots Q (F0 m pc ls (.ref (E.ad 68) :: rest)) :=
  x_callV (n := 0) (As := []) C h 68 5 (hI 68 (by decide)) k_68 rfl (mX6_worstStep C.g hI hf) (lw_V q2010 q2012 qs116 q136 q2013) ⟨rfl, by decide +kernel, by decide +kernel, by decide +kernel⟩ hR ⟨rfl, rfl⟩ h0 rfl hsz rfl hcat hdg kk
abbrev rmX6_worstTouch : Room := { frames := 2, cells := 0, slots := 0, locals := 56 }
def fX6_worstTouch_33 (v2 : Int32) (k0 : Int32) (st : St) : Option ((Int32 × Int32) ⊕ (Int32)) :=
  nm (v2 + (1 : Int32)) fun v2_6 =>
  some (.inl (k0, v2_6))
set_option maxHeartbeats 1000000 in
theorem bX6_worstTouch_33 (C : Cx E s0 b p s m args meth c cX6_worstTouch 3 "EarthMeshModel" (some .int)) (hI : Sx E) (v2 : Int32) (k0 : Int32) (st : St) {x : (Int32 × Int32) ⊕ (Int32)} (hx : fX6_worstTouch_33 v2 k0 st = some x) {Q : State → Prop} {G : Int32 × Int32 → Prop} {X : Int32 → Prop} (hG : ∀ (w1 : Int32) (w2 : Int32), G (w1, w2) → ∀ (H : Heap) (locs : List Loc) (ls : Array Slot), XH E (sg st) s H locs → lv_has ls 3 [(0, .ref (E.ad 68)), (1, .int w1), (2, .int w2)] → W p l e rmX6_worstTouch s m args below meth c H locs 0 0 Q (F0 m 4 ls [])) (hE0 : ∀ (w1 : Int32), X w1 → ∀ (H : Heap) (locs : List Loc) (ls : Array Slot), XH E (sg st) s H locs → lv_has ls 3 [(1, .int w1)] → W p l e rmX6_worstTouch s m args below meth c H locs 0 0 Q (F0 m 40 ls [])) (K : Kx G X x) {H : Heap} {locs : List Loc} {ls : Array Slot} (h : XH E (sg st) s H locs) (hl : lv_has ls 3 [(0, .ref (E.ad 68)), (2, .int v2)]) : W p l e rmX6_worstTouch s m args below meth c H locs 0 0 Q (F0 m 33 ls [.int k0]) := by
  unfold fX6_worstTouch_33 at hx
  refine lv_istore_n (lv' := [(1, .int k0), (0, .ref (E.ad 68)), (2, .int v2)]) C.x C.bc dX6_worstTouch_33 rfl hl (by decide) rfl (fun ls hl => ?_)
  obtain ⟨v2_6, e_6, hx⟩ := nm_x hx
  refine lv_iinc (v := v2_6) (lv' := [(2, .int v2_6), (1, .int k0), (0, .ref (E.ad 68))]) C.x C.bc dX6_worstTouch_34 hl (k := 2) rfl (by rw [e_6]; rfl) (by decide) rfl (fun ls hl => ?_)
  refine lv_goto (tgt := 4) C.x C.bc dX6_worstTouch_37 (by decide) ?_
  obtain rfl := Option.some.inj hx
  exact hG _ _ K _ _ _ h (lv_sub hl [2, 1, 0] rfl)
def fX6_worstTouch_4 (v1 : Int32) (v2 : Int32) (st : St) : Option ((Int32 × Int32) ⊕ (Int32)) :=
  bd (fX6_points st) fun r_1 =>
  if r_1 ≤ v2 then
    some (.inr v1)
  else
    gd (inB v2 35) <|
    gd (inB v1 35) <|
    if (st.2.1 80 v1.toNatClampNeg) < (st.2.1 80 v2.toNatClampNeg) then
      fX6_worstTouch_33 v2 v2 st
    else
      fX6_worstTouch_33 v2 v1 st
set_option maxHeartbeats 1000000 in
theorem bX6_worstTouch_4 (C : Cx E s0 b p s m args meth c cX6_worstTouch 3 "EarthMeshModel" (some .int)) (hI : Sx E) (v1 : Int32) (v2 : Int32) (st : St) {x : (Int32 × Int32) ⊕ (Int32)} (hx : fX6_worstTouch_4 v1 v2 st = some x) {Q : State → Prop} {G : Int32 × Int32 → Prop} {X : Int32 → Prop} (hG : ∀ (w1 : Int32) (w2 : Int32), G (w1, w2) → ∀ (H : Heap) (locs : List Loc) (ls : Array Slot), XH E (sg st) s H locs → lv_has ls 3 [(0, .ref (E.ad 68)), (1, .int w1), (2, .int w2)] → W p l e rmX6_worstTouch s m args below meth c H locs 0 0 Q (F0 m 4 ls [])) (hE0 : ∀ (w1 : Int32), X w1 → ∀ (H : Heap) (locs : List Loc) (ls : Array Slot), XH E (sg st) s H locs → lv_has ls 3 [(1, .int w1)] → W p l e rmX6_worstTouch s m args below meth c H locs 0 0 Q (F0 m 40 ls [])) (K : Kx G X x) {H : Heap} {locs : List Loc} {ls : Array Slot} (h : XH E (sg st) s H locs) (hl : lv_has ls 3 [(0, .ref (E.ad 68)), (1, .int v1), (2, .int v2)]) : W p l e rmX6_worstTouch s m args below meth c H locs 0 0 Q (F0 m 4 ls []) := by
  unfold fX6_worstTouch_4 at hx
  refine lv_iload_n C.x C.bc dX6_worstTouch_4 rfl (lv_at hl 2 rfl) ?_
  refine lv_aload_n C.x C.bc dX6_worstTouch_5 rfl (lv_at hl 0 rfl) ?_
  obtain ⟨r_1, hf_1, hx⟩ := bd_e hx
  refine cX6_332_X6_points C hI h hf_1 ⟨Nat.le_of_ble_eq_true rfl, Nat.le_of_ble_eq_true rfl⟩ ⟨Nat.zero_le _, Nat.zero_le _⟩ hl.1 (Nat.le_of_ble_eq_true rfl) dX6_worstTouch_6 (fun H locs h => ?_)
  refine lv_icmp_ge (tgt := 40) C.x C.bc dX6_worstTouch_9 (by decide) (fun c_2 => ?_) (fun c_2 => ?_)
  · have hx := ge_t hx c_2
    obtain rfl := Option.some.inj hx
    exact hE0 _ K _ _ _ h (lv_sub hl [1] rfl)
  · have hx := ge_f hx c_2
    refine lv_aload_n C.x C.bc dX6_worstTouch_12 rfl (lv_at hl 0 rfl) ?_
    refine gt_X6_67_68 C hI h dX6_worstTouch_13 ?_
    refine lv_iload_n C.x C.bc dX6_worstTouch_16 rfl (lv_at hl 2 rfl) ?_
    obtain ⟨g_3, hx⟩ := gd_e hx
    refine x_lald C h 80 35 (hI 80 (by decide)) k_80 g_3 dX6_worstTouch_17 ?_
    refine lv_aload_n C.x C.bc dX6_worstTouch_18 rfl (lv_at hl 0 rfl) ?_
    refine gt_X6_67_68 C hI h dX6_worstTouch_19 ?_
    refine lv_iload_n C.x C.bc dX6_worstTouch_22 rfl (lv_at hl 1 rfl) ?_
    obtain ⟨g_4, hx⟩ := gd_e hx
    refine x_lald C h 80 35 (hI 80 (by decide)) k_80 g_4 dX6_worstTouch_23 ?_
    refine W.lcmp C.x C.bc dX6_worstTouch_24 ?_
    refine lv_if_le (tgt := 32) C.x C.bc dX6_worstTouch_25 (by decide) (fun c_5 => ?_) (fun c_5 => ?_)
    · have c_5 := (lc_le _ _).mp c_5
      have hx := ge_f hx c_5
      refine lv_iload_n C.x C.bc dX6_worstTouch_32 rfl (lv_at hl 1 rfl) ?_
      exact bX6_worstTouch_33 C hI v2 v1 st hx hG hE0 K h (lv_sub hl [0, 2] rfl)
    · have c_5 := Classical.not_not.mp ((not_congr (lc_le _ _)).mp c_5)
      have hx := ge_t hx c_5
      refine lv_iload_n C.x C.bc dX6_worstTouch_28 rfl (lv_at hl 2 rfl) ?_
      refine lv_goto (tgt := 33) C.x C.bc dX6_worstTouch_29 (by decide) ?_
      exact bX6_worstTouch_33 C hI v2 v2 st hx hG hE0 K h (lv_sub hl [0, 2] rfl)
set_option maxHeartbeats 1000000 in
theorem pX6_worstTouch_4 (C : Cx E s0 b p s m args meth c cX6_worstTouch 3 "EarthMeshModel" (some .int)) (hI : Sx E) (st : St) {Q : State → Prop} {v1 : Int32} {v2 : Int32} {n : Nat} {r : Int32} (hx : iter (u2 fun v1 v2 => fX6_worstTouch_4 v1 v2 st) n (v1, v2) = some r) (hE : (fun t => ∀ (H : Heap) (locs : List Loc) (ls : Array Slot), XH E (sg st) s H locs → lv_has ls 3 [(1, .int t)] → W p l e rmX6_worstTouch s m args below meth c H locs 0 0 Q (F0 m 40 ls [])) r) {H : Heap} {locs : List Loc} {ls : Array Slot} (h : XH E (sg st) s H locs) (hl : lv_has ls 3 [(0, .ref (E.ad 68)), (1, .int v1), (2, .int v2)]) : W p l e rmX6_worstTouch s m args below meth c H locs 0 0 Q (F0 m 4 ls []) := by
  refine iter_W (G := fun t => ∀ (H : Heap) (locs : List Loc) (ls : Array Slot), XH E (sg st) s H locs → lv_has ls 3 [(0, .ref (E.ad 68)), (1, .int t.1), (2, .int t.2)] → W p l e rmX6_worstTouch s m args below meth c H locs 0 0 Q (F0 m 4 ls [])) (E := fun t => ∀ (H : Heap) (locs : List Loc) (ls : Array Slot), XH E (sg st) s H locs → lv_has ls 3 [(1, .int t)] → W p l e rmX6_worstTouch s m args below meth c H locs 0 0 Q (F0 m 40 ls [])) (fun t x hx K H locs ls h hl => ?_) n _ r hx hE H locs ls h hl
  obtain ⟨v1, v2⟩ := t
  exact bX6_worstTouch_4 C hI v1 v2 st hx (fun _ _ z => z) (fun _ z => z) K h hl
def fX6_worstTouch (st : St) : Option (Int32) :=
  bd (iter (u2 fun z1 z2 => fX6_worstTouch_4 z1 z2 st) FU ((0 : Int32), (1 : Int32))) (u1 fun v1_7 =>
  some v1_7)
set_option maxHeartbeats 1000000 in
theorem bX6_worstTouch (C : Cx E s0 b p s m args meth c cX6_worstTouch 3 "EarthMeshModel" (some .int)) (hI : Sx E) (st : St) {x : Int32} (hx : fX6_worstTouch st = some x) {H : Heap} {locs : List Loc} {ls : Array Slot} (h : XH E (sg st) s H locs) (hl : lv_has ls 3 [(0, .ref (E.ad 68))]) : W p l e rmX6_worstTouch s m args below meth c H locs 0 0 (MQ below (Qx E (some (.int x)) (sg st)) args s 0 0 (gA E.HB)) (F0 m 0 ls []) := by
  unfold fX6_worstTouch at hx
  refine lv_iconst (v := (0 : Int32)) C.x C.bc dX6_worstTouch_0 (by decide) ?_
  refine lv_istore_n (lv' := [(1, .int (0 : Int32)), (0, .ref (E.ad 68))]) C.x C.bc dX6_worstTouch_1 rfl hl (by decide) rfl (fun ls hl => ?_)
  refine lv_iconst (v := (1 : Int32)) C.x C.bc dX6_worstTouch_2 (by decide) ?_
  refine lv_istore_n (lv' := [(2, .int (1 : Int32)), (1, .int (0 : Int32)), (0, .ref (E.ad 68))]) C.x C.bc dX6_worstTouch_3 rfl hl (by decide) rfl (fun ls hl => ?_)
  obtain ⟨v1_7, hi_7, hx⟩ := bd_e hx
  have hx := u1_e hx
  refine pX6_worstTouch_4 C hI st hi_7 (fun H locs ls h hl => ?_) h (lv_sub hl [2, 1, 0] rfl)
  refine lv_iload_n C.x C.bc dX6_worstTouch_40 rfl (lv_at hl 0 rfl) ?_
  obtain rfl := Option.some.inj hx
  exact x_iret C h dX6_worstTouch_41
theorem mX6_worstTouch (hG : G0 E s0 b) (hI : Sx E)  {x : Int32} (hx : fX6_worstTouch st = some x) : Mt l E s0 yX6_worstTouch cX6_worstTouch 3 (some .int) rmX6_worstTouch [.ref (E.ad 68)] (sg st) (some (.int x)) E (sg st) :=
  Mt.of hG (by decide) (Nat.le_of_ble_eq_true rfl) (fun p e s m below meth c ls C h hl => bX6_worstTouch C hI st hx h hl)
theorem cX6_353_X6_worstTouch  {r : Int32} (C : Cx E s0 b p s m args meth c cc nL "EarthMeshModel" rt) (hI : Sx E) (h : XH E (sg st) s H locs) (hf : fX6_worstTouch st = some r) (hR : rmX6_worstTouch.frames + 1 ≤ R.frames ∧ 16 + (3 + 11) + rmX6_worstTouch.locals ≤ R.locals) (h0 : cells ≤ R.cells ∧ slots ≤ R.slots) (hsz : ls.size = nL) (hcat : (rest.map fun v => v.category).sum ≤ 16) (hdg : decode cc pc = .ok (.invokevirtual 353, 3)) (kk : ∀ (H : Heap) (locs : List Loc), XH E (sg st) s H locs → W p l e R s m args below meth c H locs cells slots Q (F0 m (pc + 3) ls (.int r :: rest))) : W p l e R s m args below meth c H locs cells slots Q (F0 m pc ls (.ref (E.ad 68) :: rest)) :=
  x_callV (n := 0) (As := []) C h 68 5 (hI 68 (by decide)) k_68 rfl (mX6_worstTouch C.g hI hf) (lw_V q2014 q2016 qs117 q136 q2017) ⟨rfl, by decide +kernel, by decide +kernel, by decide +kernel⟩ hR ⟨rfl, rfl⟩ h0 rfl hsz rfl hcat hdg kk
abbrev rmX6_worst : Room := { frames := 7, cells := 0, slots := 0, locals := 233 }
def fX6_worst (v1 : Int32) (st : St) : Option (Int32 × St) :=
  nm (uI st 68 1 (0 : Int32)) fun st_1 =>
  nm (fX6_isIn v1 (0 : Int32) (1 : Int32)) fun r_2 =>
  if r_2 = 0 then
    bd (fX6_fail (1 : Int32) st_1) <| u2 fun r_10 st_10 =>
    some (r_10, st_10)
  else
    bd (fX6_tellsGround st_1) <| u2 fun r_4 st_4 =>
    if r_4 = 0 then
      bd (fX6_fail (2 : Int32) st_4) <| u2 fun r_9 st_9 =>
      some (r_9, st_9)
    else
      if v1 = 0 then
        bd (fX6_worstStep st_4) fun r_8 =>
        some (r_8, st_4)
      else
        bd (fX6_worstTouch st_4) fun r_7 =>
        some (r_7, st_4)
set_option maxHeartbeats 1000000 in
theorem bX6_worst (C : Cx E s0 b p s m args meth c cX6_worst 2 "EarthMeshModel" (some .int)) (hI : Sx E) (v1 : Int32) (st : St) {x : Int32 × St} (hx : fX6_worst v1 st = some x) {H : Heap} {locs : List Loc} {ls : Array Slot} (h : XH E (sg st) s H locs) (hl : lv_has ls 2 [(0, .ref (E.ad 68)), (1, .int v1)]) : W p l e rmX6_worst s m args below meth c H locs 0 0 (MQ below (Qx E (some (.int x.1)) (sg x.2)) args s 0 0 (gA E.HB)) (F0 m 0 ls []) := by
  unfold fX6_worst at hx
  refine lv_aload_n C.x C.bc dX6_worst_0 rfl (lv_at hl 0 rfl) ?_
  refine lv_iconst (v := (0 : Int32)) C.x C.bc dX6_worst_1 (by decide) ?_
  obtain ⟨st_1, e_1, hx⟩ := nm_x hx
  refine pt_X6_90_68 C hI h e_1 dX6_worst_2 (fun H locs h => ?_)
  refine lv_iload_n C.x C.bc dX6_worst_5 rfl (lv_at hl 1 rfl) ?_
  refine lv_iconst (v := (0 : Int32)) C.x C.bc dX6_worst_6 (by decide) ?_
  refine lv_iconst (v := (1 : Int32)) C.x C.bc dX6_worst_7 (by decide) ?_
  obtain ⟨r_2, e_2, hx⟩ := nm_x hx
  refine cX6_300_X6_isIn C hI h e_2.symm ⟨Nat.le_of_ble_eq_true rfl, Nat.le_of_ble_eq_true rfl⟩ ⟨Nat.zero_le _, Nat.zero_le _⟩ hl.1 (Nat.le_of_ble_eq_true rfl) dX6_worst_8 (fun H locs h => ?_)
  refine lv_if_ne (tgt := 20) C.x C.bc dX6_worst_11 (by decide) (fun c_3 => ?_) (fun c_3 => ?_)
  · have hx := ge_f hx c_3
    refine lv_aload_n C.x C.bc dX6_worst_20 rfl (lv_at hl 0 rfl) ?_
    obtain ⟨⟨r_4, st_4⟩, hf_4, hx⟩ := bd_e hx
    have hx := u2_e hx
    refine cX6_344_X6_tellsGround C hI h hf_4 ⟨Nat.le_of_ble_eq_true rfl, Nat.le_of_ble_eq_true rfl⟩ ⟨Nat.zero_le _, Nat.zero_le _⟩ hl.1 (Nat.le_of_ble_eq_true rfl) dX6_worst_21 (fun H locs h => ?_)
    refine lv_if_ne (tgt := 33) C.x C.bc dX6_worst_24 (by decide) (fun c_5 => ?_) (fun c_5 => ?_)
    · have hx := ge_f hx c_5
      refine lv_iload_n C.x C.bc dX6_worst_33 rfl (lv_at hl 1 rfl) ?_
      refine lv_if_ne (tgt := 44) C.x C.bc dX6_worst_34 (by decide) (fun c_6 => ?_) (fun c_6 => ?_)
      · have hx := ge_f hx c_6
        refine lv_aload_n C.x C.bc dX6_worst_44 rfl (lv_at hl 0 rfl) ?_
        obtain ⟨r_7, hf_7, hx⟩ := bd_e hx
        refine cX6_353_X6_worstTouch C hI h hf_7 ⟨Nat.le_of_ble_eq_true rfl, Nat.le_of_ble_eq_true rfl⟩ ⟨Nat.zero_le _, Nat.zero_le _⟩ hl.1 (Nat.le_of_ble_eq_true rfl) dX6_worst_45 (fun H locs h => ?_)
        obtain rfl := Option.some.inj hx
        exact x_iret C h dX6_worst_48
      · have hx := ge_t hx c_6
        refine lv_aload_n C.x C.bc dX6_worst_37 rfl (lv_at hl 0 rfl) ?_
        obtain ⟨r_8, hf_8, hx⟩ := bd_e hx
        refine cX6_350_X6_worstStep C hI h hf_8 ⟨Nat.le_of_ble_eq_true rfl, Nat.le_of_ble_eq_true rfl⟩ ⟨Nat.zero_le _, Nat.zero_le _⟩ hl.1 (Nat.le_of_ble_eq_true rfl) dX6_worst_38 (fun H locs h => ?_)
        refine lv_goto (tgt := 48) C.x C.bc dX6_worst_41 (by decide) ?_
        obtain rfl := Option.some.inj hx
        exact x_iret C h dX6_worst_48
    · have hx := ge_t hx c_5
      refine lv_aload_n C.x C.bc dX6_worst_27 rfl (lv_at hl 0 rfl) ?_
      refine lv_iconst (v := (2 : Int32)) C.x C.bc dX6_worst_28 (by decide) ?_
      obtain ⟨⟨r_9, st_9⟩, hf_9, hx⟩ := bd_e hx
      have hx := u2_e hx
      refine cX6_182_X6_fail C hI h hf_9 ⟨Nat.le_of_ble_eq_true rfl, Nat.le_of_ble_eq_true rfl⟩ ⟨Nat.zero_le _, Nat.zero_le _⟩ hl.1 (Nat.le_of_ble_eq_true rfl) dX6_worst_29 (fun H locs h => ?_)
      obtain rfl := Option.some.inj hx
      exact x_iret C h dX6_worst_32
  · have hx := ge_t hx c_3
    refine lv_aload_n C.x C.bc dX6_worst_14 rfl (lv_at hl 0 rfl) ?_
    refine lv_iconst (v := (1 : Int32)) C.x C.bc dX6_worst_15 (by decide) ?_
    obtain ⟨⟨r_10, st_10⟩, hf_10, hx⟩ := bd_e hx
    have hx := u2_e hx
    refine cX6_182_X6_fail C hI h hf_10 ⟨Nat.le_of_ble_eq_true rfl, Nat.le_of_ble_eq_true rfl⟩ ⟨Nat.zero_le _, Nat.zero_le _⟩ hl.1 (Nat.le_of_ble_eq_true rfl) dX6_worst_16 (fun H locs h => ?_)
    obtain rfl := Option.some.inj hx
    exact x_iret C h dX6_worst_19
theorem mX6_worst (hG : G0 E s0 b) (hI : Sx E) {v1 : Int32} {x : Int32 × St} (hx : fX6_worst v1 st = some x) : Mt l E s0 yX6_worst cX6_worst 2 (some .int) rmX6_worst [.ref (E.ad 68), .int v1] (sg st) (some (.int x.1)) E (sg x.2) :=
  Mt.of hG (by decide) (Nat.le_of_ble_eq_true rfl) (fun p e s m below meth c ls C h hl => bX6_worst C hI v1 st hx h hl)
end
