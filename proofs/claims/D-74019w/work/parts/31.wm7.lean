set_option maxRecDepth 100000
section
variable {p : Program} {l : Launch} {e : Env} {R : Room} {s : State} {m : MethodId} {args : Array Value} {below : List Frame} {meth : Method} {c : Code} {H : Heap} {locs : List Loc} {cells slots : Nat} {Q : State → Prop}
variable {cc : ByteArray} {pc : Nat} {ls : Array Slot} {rest : List Value} {E : Wd} {s0 : State} {b nL : Nat} {rt : Option FieldType} {g st : St}
abbrev rmX6_priceOf : Room := { frames := 0, cells := 0, slots := 0, locals := 0 }
def fX6_priceOf (v1 : Int32) (st : St) : Option (Int32) :=
  if (v1 / (12 : Int32)) = (2 : Int32) then
    gd (inB (8 : Int32) 46) <|
    some (st.1 70 (8 : Int32).toNatClampNeg)
  else
    gd (inB (7 : Int32) 46) <|
    some (st.1 70 (7 : Int32).toNatClampNeg)
set_option maxHeartbeats 1000000 in
theorem bX6_priceOf (C : Cx E s0 b p s m args meth c cX6_priceOf 2 "EarthMeshModel" (some .int)) (hI : Sx E) (v1 : Int32) (st : St) {x : Int32} (hx : fX6_priceOf v1 st = some x) {H : Heap} {locs : List Loc} {ls : Array Slot} (h : XH E (sg st) s H locs) (hl : lv_has ls 2 [(0, .ref (E.ad 68)), (1, .int v1)]) : W p l e rmX6_priceOf s m args below meth c H locs 0 0 (MQ below (Qx E (some (.int x)) (sg st)) args s 0 0 (gA E.HB)) (F0 m 0 ls []) := by
  unfold fX6_priceOf at hx
  refine lv_iload_n C.x C.bc dX6_priceOf_0 rfl (lv_at hl 1 rfl) ?_
  refine lv_bipush (v := (12 : Int32)) C.x C.bc dX6_priceOf_1 (by decide) ?_
  refine lv_idiv C.x C.bc dX6_priceOf_3 (by decide) ?_
  refine lv_iconst (v := (2 : Int32)) C.x C.bc dX6_priceOf_4 (by decide) ?_
  refine lv_icmp_ne (tgt := 18) C.x C.bc dX6_priceOf_5 (by decide) (fun c_1 => ?_) (fun c_1 => ?_)
  · have hx := ge_f hx c_1
    refine lv_aload_n C.x C.bc dX6_priceOf_18 rfl (lv_at hl 0 rfl) ?_
    refine gt_X6_31_68 C hI h dX6_priceOf_19 ?_
    refine lv_bipush (v := (7 : Int32)) C.x C.bc dX6_priceOf_22 (by decide) ?_
    obtain ⟨g_2, hx⟩ := gd_e hx
    refine x_iald C h 70 46 (hI 70 (by decide)) k_70 g_2 dX6_priceOf_24 ?_
    obtain rfl := Option.some.inj hx
    exact x_iret C h dX6_priceOf_25
  · have hx := ge_t hx c_1
    refine lv_aload_n C.x C.bc dX6_priceOf_8 rfl (lv_at hl 0 rfl) ?_
    refine gt_X6_31_68 C hI h dX6_priceOf_9 ?_
    refine lv_bipush (v := (8 : Int32)) C.x C.bc dX6_priceOf_12 (by decide) ?_
    obtain ⟨g_3, hx⟩ := gd_e hx
    refine x_iald C h 70 46 (hI 70 (by decide)) k_70 g_3 dX6_priceOf_14 ?_
    refine lv_goto (tgt := 25) C.x C.bc dX6_priceOf_15 (by decide) ?_
    obtain rfl := Option.some.inj hx
    exact x_iret C h dX6_priceOf_25
theorem mX6_priceOf (hG : G0 E s0 b) (hI : Sx E) {v1 : Int32} {x : Int32} (hx : fX6_priceOf v1 st = some x) : Mt l E s0 yX6_priceOf cX6_priceOf 2 (some .int) rmX6_priceOf [.ref (E.ad 68), .int v1] (sg st) (some (.int x)) E (sg st) :=
  Mt.of hG (by decide) (Nat.le_of_ble_eq_true rfl) (fun p e s m below meth c ls C h hl => bX6_priceOf C hI v1 st hx h hl)
theorem cX6_421_X6_priceOf {a0 : Int32} {r : Int32} (C : Cx E s0 b p s m args meth c cc nL "EarthMeshModel" rt) (hI : Sx E) (h : XH E (sg st) s H locs) (hf : fX6_priceOf a0 st = some r) (hR : rmX6_priceOf.frames + 1 ≤ R.frames ∧ 16 + (2 + 11) + rmX6_priceOf.locals ≤ R.locals) (h0 : cells ≤ R.cells ∧ slots ≤ R.slots) (hsz : ls.size = nL) (hcat : (rest.map fun v => v.category).sum ≤ 16) (hdg : decode cc pc = .ok (.invokevirtual 421, 3)) (kk : ∀ (H : Heap) (locs : List Loc), XH E (sg st) s H locs → W p l e R s m args below meth c H locs cells slots Q (F0 m (pc + 3) ls (.int r :: rest))) : W p l e R s m args below meth c H locs cells slots Q (F0 m pc ls (.int a0 :: .ref (E.ad 68) :: rest)) :=
  x_callV (n := 1) (As := [.int a0]) C h 68 5 (hI 68 (by decide)) k_68 rfl (mX6_priceOf C.g hI hf) (lw_V q2089 q2091 qs127 q136 q2092) ⟨rfl, by decide +kernel, by decide +kernel, by decide +kernel⟩ hR ⟨rfl, rfl⟩ h0 rfl hsz rfl hcat hdg kk
abbrev rmX6_canBuild : Room := { frames := 1, cells := 0, slots := 0, locals := 30 }
def fX6_canBuild_48 (st : St) : Option (Int32) :=
  some (0 : Int32)
set_option maxHeartbeats 1000000 in
theorem bX6_canBuild_48 (C : Cx E s0 b p s m args meth c cX6_canBuild 3 "EarthMeshModel" (some .boolean)) (hI : Sx E) (st : St) {x : Int32} (hx : fX6_canBuild_48 st = some x) {H : Heap} {locs : List Loc} {ls : Array Slot} (h : XH E (sg st) s H locs) (hl : lv_has ls 3 []) : W p l e rmX6_canBuild s m args below meth c H locs 0 0 (MQ below (Qx E (some (.int x)) (sg st)) args s 0 0 (gA E.HB)) (F0 m 48 ls []) := by
  unfold fX6_canBuild_48 at hx
  refine lv_iconst (v := (0 : Int32)) C.x C.bc dX6_canBuild_48 (by decide) ?_
  obtain rfl := Option.some.inj hx
  exact x_zret (v := (0 : Int32)) C h rfl dX6_canBuild_49
def fX6_canBuild (v1 : Int32) (st : St) : Option (Int32) :=
  nm (jrem v1 (12 : Int32)) fun v2_1 =>
  bd (fX6_nodes_70 st) fun r_2 =>
  if r_2 ≤ v2_1 then
    fX6_canBuild_48 st
  else
    bd (fX6_mayBe_70 v2_1 (v1 / (12 : Int32)) st) fun r_4 =>
    if r_4 = 0 then
      fX6_canBuild_48 st
    else
      gd (inB ((10 : Int32) + v1) 46) <|
      if (3 : Int32) ≤ (st.1 70 ((10 : Int32) + v1).toNatClampNeg) then
        fX6_canBuild_48 st
      else
        some (1 : Int32)
set_option maxHeartbeats 1000000 in
theorem bX6_canBuild (C : Cx E s0 b p s m args meth c cX6_canBuild 3 "EarthMeshModel" (some .boolean)) (hI : Sx E) (v1 : Int32) (st : St) {x : Int32} (hx : fX6_canBuild v1 st = some x) {H : Heap} {locs : List Loc} {ls : Array Slot} (h : XH E (sg st) s H locs) (hl : lv_has ls 3 [(0, .ref (E.ad 68)), (1, .int v1)]) : W p l e rmX6_canBuild s m args below meth c H locs 0 0 (MQ below (Qx E (some (.int x)) (sg st)) args s 0 0 (gA E.HB)) (F0 m 0 ls []) := by
  unfold fX6_canBuild at hx
  refine lv_iload_n C.x C.bc dX6_canBuild_0 rfl (lv_at hl 1 rfl) ?_
  refine lv_bipush (v := (12 : Int32)) C.x C.bc dX6_canBuild_1 (by decide) ?_
  refine y_irem C.x C.bc dX6_canBuild_3 (by decide) ?_
  obtain ⟨v2_1, e_1, hx⟩ := nm_x hx
  refine x_ti e_1 ?_
  refine lv_istore_n (lv' := [(2, .int v2_1), (0, .ref (E.ad 68)), (1, .int v1)]) C.x C.bc dX6_canBuild_4 rfl hl (by decide) rfl (fun ls hl => ?_)
  refine lv_iload_n C.x C.bc dX6_canBuild_5 rfl (lv_at hl 0 rfl) ?_
  refine lv_aload_n C.x C.bc dX6_canBuild_6 rfl (lv_at hl 1 rfl) ?_
  refine gt_X6_31_68 C hI h dX6_canBuild_7 ?_
  obtain ⟨r_2, hf_2, hx⟩ := bd_e hx
  refine cX6_190_X6_nodes_70 C hI h hf_2 ⟨Nat.le_of_ble_eq_true rfl, Nat.le_of_ble_eq_true rfl⟩ ⟨Nat.zero_le _, Nat.zero_le _⟩ hl.1 (Nat.le_of_ble_eq_true rfl) dX6_canBuild_10 (fun H locs h => ?_)
  refine lv_icmp_ge (tgt := 48) C.x C.bc dX6_canBuild_13 (by decide) (fun c_3 => ?_) (fun c_3 => ?_)
  · have hx := ge_t hx c_3
    exact bX6_canBuild_48 C hI st hx h (lv_sub hl [] rfl)
  · have hx := ge_f hx c_3
    refine lv_aload_n C.x C.bc dX6_canBuild_16 rfl (lv_at hl 1 rfl) ?_
    refine gt_X6_31_68 C hI h dX6_canBuild_17 ?_
    refine lv_iload_n C.x C.bc dX6_canBuild_20 rfl (lv_at hl 0 rfl) ?_
    refine lv_iload_n C.x C.bc dX6_canBuild_21 rfl (lv_at hl 2 rfl) ?_
    refine lv_bipush (v := (12 : Int32)) C.x C.bc dX6_canBuild_22 (by decide) ?_
    refine lv_idiv C.x C.bc dX6_canBuild_24 (by decide) ?_
    obtain ⟨r_4, hf_4, hx⟩ := bd_e hx
    refine cX6_166_X6_mayBe_70 C hI h hf_4 ⟨Nat.le_of_ble_eq_true rfl, Nat.le_of_ble_eq_true rfl⟩ ⟨Nat.zero_le _, Nat.zero_le _⟩ hl.1 (Nat.le_of_ble_eq_true rfl) dX6_canBuild_25 (fun H locs h => ?_)
    refine lv_if_eq (tgt := 48) C.x C.bc dX6_canBuild_28 (by decide) (fun c_5 => ?_) (fun c_5 => ?_)
    · have hx := ge_t hx c_5
      exact bX6_canBuild_48 C hI st hx h (lv_sub hl [] rfl)
    · have hx := ge_f hx c_5
      refine lv_aload_n C.x C.bc dX6_canBuild_31 rfl (lv_at hl 1 rfl) ?_
      refine gt_X6_31_68 C hI h dX6_canBuild_32 ?_
      refine lv_bipush (v := (10 : Int32)) C.x C.bc dX6_canBuild_35 (by decide) ?_
      refine lv_iload_n C.x C.bc dX6_canBuild_37 rfl (lv_at hl 2 rfl) ?_
      refine lv_iadd C.x C.bc dX6_canBuild_38 ?_
      obtain ⟨g_6, hx⟩ := gd_e hx
      refine x_iald C h 70 46 (hI 70 (by decide)) k_70 g_6 dX6_canBuild_39 ?_
      refine lv_iconst (v := (3 : Int32)) C.x C.bc dX6_canBuild_40 (by decide) ?_
      refine lv_icmp_ge (tgt := 48) C.x C.bc dX6_canBuild_41 (by decide) (fun c_7 => ?_) (fun c_7 => ?_)
      · have hx := ge_t hx c_7
        exact bX6_canBuild_48 C hI st hx h (lv_sub hl [] rfl)
      · have hx := ge_f hx c_7
        refine lv_iconst (v := (1 : Int32)) C.x C.bc dX6_canBuild_44 (by decide) ?_
        refine lv_goto (tgt := 49) C.x C.bc dX6_canBuild_45 (by decide) ?_
        obtain rfl := Option.some.inj hx
        exact x_zret (v := (1 : Int32)) C h rfl dX6_canBuild_49
theorem mX6_canBuild (hG : G0 E s0 b) (hI : Sx E) {v1 : Int32} {x : Int32} (hx : fX6_canBuild v1 st = some x) : Mt l E s0 yX6_canBuild cX6_canBuild 3 (some .boolean) rmX6_canBuild [.ref (E.ad 68), .int v1] (sg st) (some (.int x)) E (sg st) :=
  Mt.of hG (by decide) (Nat.le_of_ble_eq_true rfl) (fun p e s m below meth c ls C h hl => bX6_canBuild C hI v1 st hx h hl)
theorem cX6_418_X6_canBuild {a0 : Int32} {r : Int32} (C : Cx E s0 b p s m args meth c cc nL "EarthMeshModel" rt) (hI : Sx E) (h : XH E (sg st) s H locs) (hf : fX6_canBuild a0 st = some r) (hR : rmX6_canBuild.frames + 1 ≤ R.frames ∧ 16 + (3 + 11) + rmX6_canBuild.locals ≤ R.locals) (h0 : cells ≤ R.cells ∧ slots ≤ R.slots) (hsz : ls.size = nL) (hcat : (rest.map fun v => v.category).sum ≤ 16) (hdg : decode cc pc = .ok (.invokevirtual 418, 3)) (kk : ∀ (H : Heap) (locs : List Loc), XH E (sg st) s H locs → W p l e R s m args below meth c H locs cells slots Q (F0 m (pc + 3) ls (.int r :: rest))) : W p l e R s m args below meth c H locs cells slots Q (F0 m pc ls (.int a0 :: .ref (E.ad 68) :: rest)) :=
  x_callV (n := 1) (As := [.int a0]) C h 68 5 (hI 68 (by decide)) k_68 rfl (mX6_canBuild C.g hI hf) (lw_V q2085 q2087 qs126 q136 q2088) ⟨rfl, by decide +kernel, by decide +kernel, by decide +kernel⟩ hR ⟨rfl, rfl⟩ h0 rfl hsz rfl hcat hdg kk
abbrev rmX6_numberOf : Room := { frames := 0, cells := 0, slots := 0, locals := 0 }
def fX6_numberOf (v0 : Int32) : Int32 :=
  if v0 = (-1 : Int32) then
    (-1 : Int32)
  else
    ((((100 : Int32) * (v0 / (12 : Int32))) + (100 : Int32)) + (jrem v0 (12 : Int32)))
set_option maxHeartbeats 1000000 in
theorem bX6_numberOf (C : Cx E s0 b p s m args meth c cX6_numberOf 1 "EarthMeshModel" (some .int)) (hI : Sx E) (v0 : Int32) {x : Int32} (hx : fX6_numberOf v0 = x) {H : Heap} {locs : List Loc} {ls : Array Slot} (h : XH E g s H locs) (hl : lv_has ls 1 [(0, .int v0)]) : W p l e rmX6_numberOf s m args below meth c H locs 0 0 (MQ below (Qx E (some (.int x)) g) args s 0 0 (gA E.HB)) (F0 m 0 ls []) := by
  unfold fX6_numberOf at hx
  refine lv_iload_n C.x C.bc dX6_numberOf_0 rfl (lv_at hl 0 rfl) ?_
  refine lv_iconst (v := (-1 : Int32)) C.x C.bc dX6_numberOf_1 (by decide) ?_
  refine lv_icmp_ne (tgt := 9) C.x C.bc dX6_numberOf_2 (by decide) (fun c_1 => ?_) (fun c_1 => ?_)
  · have hx := ge_f hx c_1
    refine lv_bipush (v := (100 : Int32)) C.x C.bc dX6_numberOf_9 (by decide) ?_
    refine lv_iload_n C.x C.bc dX6_numberOf_11 rfl (lv_at hl 0 rfl) ?_
    refine lv_bipush (v := (12 : Int32)) C.x C.bc dX6_numberOf_12 (by decide) ?_
    refine lv_idiv C.x C.bc dX6_numberOf_14 (by decide) ?_
    refine lv_imul C.x C.bc dX6_numberOf_15 ?_
    refine lv_bipush (v := (100 : Int32)) C.x C.bc dX6_numberOf_16 (by decide) ?_
    refine lv_iadd C.x C.bc dX6_numberOf_18 ?_
    refine lv_iload_n C.x C.bc dX6_numberOf_19 rfl (lv_at hl 0 rfl) ?_
    refine lv_bipush (v := (12 : Int32)) C.x C.bc dX6_numberOf_20 (by decide) ?_
    refine y_irem C.x C.bc dX6_numberOf_22 (by decide) ?_
    refine lv_iadd C.x C.bc dX6_numberOf_23 ?_
    subst hx
    exact x_iret C h dX6_numberOf_24
  · have hx := ge_t hx c_1
    refine lv_iconst (v := (-1 : Int32)) C.x C.bc dX6_numberOf_5 (by decide) ?_
    refine lv_goto (tgt := 24) C.x C.bc dX6_numberOf_6 (by decide) ?_
    subst hx
    exact x_iret C h dX6_numberOf_24
theorem mX6_numberOf (hG : G0 E s0 b) (hI : Sx E) {v0 : Int32} {x : Int32} (hx : fX6_numberOf v0 = x) : Mt l E s0 yX6_numberOf cX6_numberOf 1 (some .int) rmX6_numberOf [.int v0] g (some (.int x)) E g :=
  Mt.of hG (by decide) (Nat.le_of_ble_eq_true rfl) (fun p e s m below meth c ls C h hl => bX6_numberOf C hI v0 hx h hl)
theorem cX6_405_X6_numberOf {a0 : Int32} {r : Int32} (C : Cx E s0 b p s m args meth c cc nL "EarthMeshModel" rt) (hI : Sx E) (h : XH E g s H locs) (hf : fX6_numberOf a0 = r) (hR : rmX6_numberOf.frames + 1 ≤ R.frames ∧ 16 + (1 + 11) + rmX6_numberOf.locals ≤ R.locals) (h0 : cells ≤ R.cells ∧ slots ≤ R.slots) (hsz : ls.size = nL) (hcat : (rest.map fun v => v.category).sum ≤ 16) (hdg : decode cc pc = .ok (.invokestatic 405, 3)) (kk : ∀ (H : Heap) (locs : List Loc), XH E g s H locs → W p l e R s m args below meth c H locs cells slots Q (F0 m (pc + 3) ls (.int r :: rest))) : W p l e R s m args below meth c H locs cells slots Q (F0 m pc ls (.int a0 :: rest)) :=
  x_callS (n := 1) (As := [.int a0]) C h (mX6_numberOf C.g hI hf) (lw_S q2082 q2083 q136 q2084) ⟨by decide +kernel, by decide +kernel, by decide +kernel⟩ hR ⟨rfl, rfl⟩ h0 rfl hsz rfl hcat hdg kk
abbrev rmX6_weighs : Room := { frames := 8, cells := 0, slots := 0, locals := 264 }
def fX6_weighs_37 (v1 : Int32) (v2 : Int32) (v3 : Int32) (v4 : Int32) (k0 : Int32) (st : St) : Option (St) :=
  if k0 = 0 then
    some st
  else
    bd (fX6_isSafe st) <| u2 fun r_3 st_3 =>
    if r_3 = 0 then
      some st_3
    else
      nm (uI st_3 68 32 v1) fun st_5 =>
      nm (uI st_5 68 33 v2) fun st_6 =>
      nm (fX6_numberOf v3) fun r_7 =>
      nm (uI st_6 68 34 r_7) fun st_8 =>
      nm (fX6_numberOf v4) fun r_9 =>
      nm (uI st_8 68 35 r_9) fun st_10 =>
      some st_10
set_option maxHeartbeats 1000000 in
theorem bX6_weighs_37 (C : Cx E s0 b p s m args meth c cX6_weighs 6 "EarthMeshModel" none) (hI : Sx E) (v1 : Int32) (v2 : Int32) (v3 : Int32) (v4 : Int32) (k0 : Int32) (st : St) {x : St} (hx : fX6_weighs_37 v1 v2 v3 v4 k0 st = some x) {H : Heap} {locs : List Loc} {ls : Array Slot} (h : XH E (sg st) s H locs) (hl : lv_has ls 6 [(0, .ref (E.ad 68)), (1, .int v1), (2, .int v2), (3, .int v3), (4, .int v4)]) : W p l e rmX6_weighs s m args below meth c H locs 0 0 (MQ below (Qx E none (sg x)) args s 0 0 (gA E.HB)) (F0 m 37 ls [.int k0]) := by
  unfold fX6_weighs_37 at hx
  refine lv_istore (lv' := [(5, .int k0), (0, .ref (E.ad 68)), (1, .int v1), (2, .int v2), (3, .int v3), (4, .int v4)]) C.x C.bc dX6_weighs_37 hl (by decide) rfl (fun ls hl => ?_)
  refine lv_iload C.x C.bc dX6_weighs_39 (lv_at hl 0 rfl) ?_
  refine lv_if_eq (tgt := 51) C.x C.bc dX6_weighs_41 (by decide) (fun c_2 => ?_) (fun c_2 => ?_)
  · have hx := ge_t hx c_2
    obtain rfl := Option.some.inj hx
    exact x_vret C h dX6_weighs_51
  · have hx := ge_f hx c_2
    refine lv_aload_n C.x C.bc dX6_weighs_44 rfl (lv_at hl 1 rfl) ?_
    obtain ⟨⟨r_3, st_3⟩, hf_3, hx⟩ := bd_e hx
    have hx := u2_e hx
    refine cX6_278_X6_isSafe C hI h hf_3 ⟨Nat.le_of_ble_eq_true rfl, Nat.le_of_ble_eq_true rfl⟩ ⟨Nat.zero_le _, Nat.zero_le _⟩ hl.1 (Nat.le_of_ble_eq_true rfl) dX6_weighs_45 (fun H locs h => ?_)
    refine lv_if_ne (tgt := 52) C.x C.bc dX6_weighs_48 (by decide) (fun c_4 => ?_) (fun c_4 => ?_)
    · have hx := ge_f hx c_4
      refine lv_aload_n C.x C.bc dX6_weighs_52 rfl (lv_at hl 1 rfl) ?_
      refine lv_iload_n C.x C.bc dX6_weighs_53 rfl (lv_at hl 2 rfl) ?_
      obtain ⟨st_5, e_5, hx⟩ := nm_x hx
      refine pt_X6_400_68 C hI h e_5 dX6_weighs_54 (fun H locs h => ?_)
      refine lv_aload_n C.x C.bc dX6_weighs_57 rfl (lv_at hl 1 rfl) ?_
      refine lv_iload_n C.x C.bc dX6_weighs_58 rfl (lv_at hl 3 rfl) ?_
      obtain ⟨st_6, e_6, hx⟩ := nm_x hx
      refine pt_X6_402_68 C hI h e_6 dX6_weighs_59 (fun H locs h => ?_)
      refine lv_aload_n C.x C.bc dX6_weighs_62 rfl (lv_at hl 1 rfl) ?_
      refine lv_iload_n C.x C.bc dX6_weighs_63 rfl (lv_at hl 4 rfl) ?_
      obtain ⟨r_7, e_7, hx⟩ := nm_x hx
      refine cX6_405_X6_numberOf C hI h e_7.symm ⟨Nat.le_of_ble_eq_true rfl, Nat.le_of_ble_eq_true rfl⟩ ⟨Nat.zero_le _, Nat.zero_le _⟩ hl.1 (Nat.le_of_ble_eq_true rfl) dX6_weighs_64 (fun H locs h => ?_)
      obtain ⟨st_8, e_8, hx⟩ := nm_x hx
      refine pt_X6_408_68 C hI h e_8 dX6_weighs_67 (fun H locs h => ?_)
      refine lv_aload_n C.x C.bc dX6_weighs_70 rfl (lv_at hl 1 rfl) ?_
      refine lv_iload C.x C.bc dX6_weighs_71 (lv_at hl 5 rfl) ?_
      obtain ⟨r_9, e_9, hx⟩ := nm_x hx
      refine cX6_405_X6_numberOf C hI h e_9.symm ⟨Nat.le_of_ble_eq_true rfl, Nat.le_of_ble_eq_true rfl⟩ ⟨Nat.zero_le _, Nat.zero_le _⟩ hl.1 (Nat.le_of_ble_eq_true rfl) dX6_weighs_73 (fun H locs h => ?_)
      obtain ⟨st_10, e_10, hx⟩ := nm_x hx
      refine pt_X6_411_68 C hI h e_10 dX6_weighs_76 (fun H locs h => ?_)
      obtain rfl := Option.some.inj hx
      exact x_vret C h dX6_weighs_79
    · have hx := ge_t hx c_4
      obtain rfl := Option.some.inj hx
      exact x_vret C h dX6_weighs_51
def fX6_weighs_32 (v1 : Int32) (v2 : Int32) (v3 : Int32) (v4 : Int32) (st : St) : Option (St) :=
  fX6_weighs_37 v1 v2 v3 v4 (1 : Int32) st
set_option maxHeartbeats 1000000 in
theorem bX6_weighs_32 (C : Cx E s0 b p s m args meth c cX6_weighs 6 "EarthMeshModel" none) (hI : Sx E) (v1 : Int32) (v2 : Int32) (v3 : Int32) (v4 : Int32) (st : St) {x : St} (hx : fX6_weighs_32 v1 v2 v3 v4 st = some x) {H : Heap} {locs : List Loc} {ls : Array Slot} (h : XH E (sg st) s H locs) (hl : lv_has ls 6 [(0, .ref (E.ad 68)), (1, .int v1), (2, .int v2), (3, .int v3), (4, .int v4)]) : W p l e rmX6_weighs s m args below meth c H locs 0 0 (MQ below (Qx E none (sg x)) args s 0 0 (gA E.HB)) (F0 m 32 ls []) := by
  unfold fX6_weighs_32 at hx
  refine lv_iconst (v := (1 : Int32)) C.x C.bc dX6_weighs_32 (by decide) ?_
  refine lv_goto (tgt := 37) C.x C.bc dX6_weighs_33 (by decide) ?_
  exact bX6_weighs_37 C hI v1 v2 v3 v4 (1 : Int32) st hx h (lv_sub hl [0, 1, 2, 3, 4] rfl)
def fX6_weighs_36 (v1 : Int32) (v2 : Int32) (v3 : Int32) (v4 : Int32) (st : St) : Option (St) :=
  fX6_weighs_37 v1 v2 v3 v4 (0 : Int32) st
set_option maxHeartbeats 1000000 in
theorem bX6_weighs_36 (C : Cx E s0 b p s m args meth c cX6_weighs 6 "EarthMeshModel" none) (hI : Sx E) (v1 : Int32) (v2 : Int32) (v3 : Int32) (v4 : Int32) (st : St) {x : St} (hx : fX6_weighs_36 v1 v2 v3 v4 st = some x) {H : Heap} {locs : List Loc} {ls : Array Slot} (h : XH E (sg st) s H locs) (hl : lv_has ls 6 [(0, .ref (E.ad 68)), (1, .int v1), (2, .int v2), (3, .int v3), (4, .int v4)]) : W p l e rmX6_weighs s m args below meth c H locs 0 0 (MQ below (Qx E none (sg x)) args s 0 0 (gA E.HB)) (F0 m 36 ls []) := by
  unfold fX6_weighs_36 at hx
  refine lv_iconst (v := (0 : Int32)) C.x C.bc dX6_weighs_36 (by decide) ?_
  exact bX6_weighs_37 C hI v1 v2 v3 v4 (0 : Int32) st hx h (lv_sub hl [0, 1, 2, 3, 4] rfl)
def fX6_weighs (v1 : Int32) (v2 : Int32) (v3 : Int32) (v4 : Int32) (st : St) : Option (St) :=
  if (st.1 68 32) = (-1 : Int32) then
    fX6_weighs_32 v1 v2 v3 v4 st
  else
    if v1 < (st.1 68 32) then
      fX6_weighs_32 v1 v2 v3 v4 st
    else
      if v1 = (st.1 68 32) then
        if (st.1 68 33) ≤ v2 then
          fX6_weighs_36 v1 v2 v3 v4 st
        else
          fX6_weighs_32 v1 v2 v3 v4 st
      else
        fX6_weighs_36 v1 v2 v3 v4 st
set_option maxHeartbeats 1000000 in
theorem bX6_weighs (C : Cx E s0 b p s m args meth c cX6_weighs 6 "EarthMeshModel" none) (hI : Sx E) (v1 : Int32) (v2 : Int32) (v3 : Int32) (v4 : Int32) (st : St) {x : St} (hx : fX6_weighs v1 v2 v3 v4 st = some x) {H : Heap} {locs : List Loc} {ls : Array Slot} (h : XH E (sg st) s H locs) (hl : lv_has ls 6 [(0, .ref (E.ad 68)), (1, .int v1), (2, .int v2), (3, .int v3), (4, .int v4)]) : W p l e rmX6_weighs s m args below meth c H locs 0 0 (MQ below (Qx E none (sg x)) args s 0 0 (gA E.HB)) (F0 m 0 ls []) := by
  unfold fX6_weighs at hx
  refine lv_aload_n C.x C.bc dX6_weighs_0 rfl (lv_at hl 0 rfl) ?_
  refine gt_X6_400_68 C hI h dX6_weighs_1 ?_
  refine lv_iconst (v := (-1 : Int32)) C.x C.bc dX6_weighs_4 (by decide) ?_
  refine lv_icmp_eq (tgt := 32) C.x C.bc dX6_weighs_5 (by decide) (fun c_1 => ?_) (fun c_1 => ?_)
  · have hx := ge_t hx c_1
    exact bX6_weighs_32 C hI v1 v2 v3 v4 st hx h (lv_sub hl [0, 1, 2, 3, 4] rfl)
  · have hx := ge_f hx c_1
    refine lv_iload_n C.x C.bc dX6_weighs_8 rfl (lv_at hl 1 rfl) ?_
    refine lv_aload_n C.x C.bc dX6_weighs_9 rfl (lv_at hl 0 rfl) ?_
    refine gt_X6_400_68 C hI h dX6_weighs_10 ?_
    refine lv_icmp_lt (tgt := 32) C.x C.bc dX6_weighs_13 (by decide) (fun c_11 => ?_) (fun c_11 => ?_)
    · have hx := ge_t hx c_11
      exact bX6_weighs_32 C hI v1 v2 v3 v4 st hx h (lv_sub hl [0, 1, 2, 3, 4] rfl)
    · have hx := ge_f hx c_11
      refine lv_iload_n C.x C.bc dX6_weighs_16 rfl (lv_at hl 1 rfl) ?_
      refine lv_aload_n C.x C.bc dX6_weighs_17 rfl (lv_at hl 0 rfl) ?_
      refine gt_X6_400_68 C hI h dX6_weighs_18 ?_
      refine lv_icmp_ne (tgt := 36) C.x C.bc dX6_weighs_21 (by decide) (fun c_12 => ?_) (fun c_12 => ?_)
      · have hx := ge_f hx c_12
        exact bX6_weighs_36 C hI v1 v2 v3 v4 st hx h (lv_sub hl [0, 1, 2, 3, 4] rfl)
      · have hx := ge_t hx c_12
        refine lv_iload_n C.x C.bc dX6_weighs_24 rfl (lv_at hl 2 rfl) ?_
        refine lv_aload_n C.x C.bc dX6_weighs_25 rfl (lv_at hl 0 rfl) ?_
        refine gt_X6_402_68 C hI h dX6_weighs_26 ?_
        refine lv_icmp_ge (tgt := 36) C.x C.bc dX6_weighs_29 (by decide) (fun c_13 => ?_) (fun c_13 => ?_)
        · have hx := ge_t hx c_13
          exact bX6_weighs_36 C hI v1 v2 v3 v4 st hx h (lv_sub hl [0, 1, 2, 3, 4] rfl)
        · have hx := ge_f hx c_13
          exact bX6_weighs_32 C hI v1 v2 v3 v4 st hx h (lv_sub hl [0, 1, 2, 3, 4] rfl)
theorem mX6_weighs (hG : G0 E s0 b) (hI : Sx E) {v1 : Int32} {v2 : Int32} {v3 : Int32} {v4 : Int32} {x : St} (hx : fX6_weighs v1 v2 v3 v4 st = some x) : Mt l E s0 yX6_weighs cX6_weighs 6 none rmX6_weighs [.ref (E.ad 68), .int v1, .int v2, .int v3, .int v4] (sg st) none E (sg x) :=
  Mt.of hG (by decide) (Nat.le_of_ble_eq_true rfl) (fun p e s m below meth c ls C h hl => bX6_weighs C hI v1 v2 v3 v4 st hx h hl)
theorem cX6_414_X6_weighs {a0 : Int32} {a1 : Int32} {a2 : Int32} {a3 : Int32} {st' : St} (C : Cx E s0 b p s m args meth c cc nL "EarthMeshModel" rt) (hI : Sx E) (h : XH E (sg st) s H locs) (hf : fX6_weighs a0 a1 a2 a3 st = some st') (hR : rmX6_weighs.frames + 1 ≤ R.frames ∧ 16 + (6 + 11) + rmX6_weighs.locals ≤ R.locals) (h0 : cells ≤ R.cells ∧ slots ≤ R.slots) (hsz : ls.size = nL) (hcat : (rest.map fun v => v.category).sum ≤ 16) (hdg : decode cc pc = .ok (.invokevirtual 414, 3)) (kk : ∀ (H : Heap) (locs : List Loc), XH E (sg st') s H locs → W p l e R s m args below meth c H locs cells slots Q (F0 m (pc + 3) ls (rest))) : W p l e R s m args below meth c H locs cells slots Q (F0 m pc ls (.int a3 :: .int a2 :: .int a1 :: .int a0 :: .ref (E.ad 68) :: rest)) :=
  x_callV (n := 4) (As := [.int a0, .int a1, .int a2, .int a3]) C h 68 5 (hI 68 (by decide)) k_68 rfl (mX6_weighs C.g hI hf) (lw_V q2078 q2080 qs125 q136 q2081) ⟨rfl, by decide +kernel, by decide +kernel, by decide +kernel⟩ hR ⟨rfl, rfl⟩ h0 rfl hsz rfl hcat hdg kk
abbrev rmX6_tellCheapest : Room := { frames := 9, cells := 0, slots := 0, locals := 297 }
def fX6_tellCheapest_135 (v1 : Int32) (v2 : Int32) (st : St) : Option ((Int32 × St) ⊕ (St)) :=
  nm (v2 + (1 : Int32)) fun v2_29 =>
  some (.inl (v2_29, st))
set_option maxHeartbeats 1000000 in
theorem bX6_tellCheapest_135 (C : Cx E s0 b p s m args meth c cX6_tellCheapest 3 "EarthMeshModel" none) (hI : Sx E) (v1 : Int32) (v2 : Int32) (st : St) {x : (Int32 × St) ⊕ (St)} (hx : fX6_tellCheapest_135 v1 v2 st = some x) {Q : State → Prop} {G : Int32 × St → Prop} {X : St → Prop} (hG : ∀ (w2 : Int32) (wst : St), G (w2, wst) → ∀ (H : Heap) (locs : List Loc) (ls : Array Slot), XH E (sg wst) s H locs → lv_has ls 3 [(0, .ref (E.ad 68)), (1, .int v1), (2, .int w2)] → W p l e rmX6_tellCheapest s m args below meth c H locs 0 0 Q (F0 m 74 ls [])) (hE0 : ∀ (wst : St), X wst → ∀ (H : Heap) (locs : List Loc) (ls : Array Slot), XH E (sg wst) s H locs → lv_has ls 3 [(0, .ref (E.ad 68)), (1, .int v1)] → W p l e rmX6_tellCheapest s m args below meth c H locs 0 0 Q (F0 m 141 ls [])) (K : Kx G X x) {H : Heap} {locs : List Loc} {ls : Array Slot} (h : XH E (sg st) s H locs) (hl : lv_has ls 3 [(0, .ref (E.ad 68)), (1, .int v1), (2, .int v2)]) : W p l e rmX6_tellCheapest s m args below meth c H locs 0 0 Q (F0 m 135 ls []) := by
  unfold fX6_tellCheapest_135 at hx
  obtain ⟨v2_29, e_29, hx⟩ := nm_x hx
  refine lv_iinc (v := v2_29) (lv' := [(2, .int v2_29), (0, .ref (E.ad 68)), (1, .int v1)]) C.x C.bc dX6_tellCheapest_135 hl (k := 2) rfl (by rw [e_29]; rfl) (by decide) rfl (fun ls hl => ?_)
  refine lv_goto (tgt := 74) C.x C.bc dX6_tellCheapest_138 (by decide) ?_
  obtain rfl := Option.some.inj hx
  exact hG _ _ K _ _ _ h (lv_sub hl [1, 2, 0] rfl)
def fX6_tellCheapest_74 (v1 : Int32) (v2 : Int32) (st : St) : Option ((Int32 × St) ⊕ (St)) :=
  if (36 : Int32) ≤ v2 then
    some (.inr st)
  else
    bd (fX6_canBuild v2 st) fun r_16 =>
    if r_16 = 0 then
      fX6_tellCheapest_135 v1 v2 st
    else
      nm ((10 : Int32) + v2) fun d_18 =>
      gd (inB d_18 46) <|
      gd (inB d_18 46) <|
      nm (uI st 70 d_18.toNatClampNeg ((st.1 70 d_18.toNatClampNeg) + (1 : Int32))) fun st_21 =>
      bd (fX6_priceOf v1 st_21) fun r_22 =>
      bd (fX6_priceOf v2 st_21) fun r_23 =>
      bd (fX6_weighs (r_22 + r_23) (2 : Int32) v1 v2 st_21) fun st_24 =>
      nm ((10 : Int32) + v2) fun d_25 =>
      gd (inB d_25 46) <|
      gd (inB d_25 46) <|
      nm (uI st_24 70 d_25.toNatClampNeg ((st_24.1 70 d_25.toNatClampNeg) - (1 : Int32))) fun st_28 =>
      fX6_tellCheapest_135 v1 v2 st_28
set_option maxHeartbeats 1000000 in
theorem bX6_tellCheapest_74 (C : Cx E s0 b p s m args meth c cX6_tellCheapest 3 "EarthMeshModel" none) (hI : Sx E) (v1 : Int32) (v2 : Int32) (st : St) {x : (Int32 × St) ⊕ (St)} (hx : fX6_tellCheapest_74 v1 v2 st = some x) {Q : State → Prop} {G : Int32 × St → Prop} {X : St → Prop} (hG : ∀ (w2 : Int32) (wst : St), G (w2, wst) → ∀ (H : Heap) (locs : List Loc) (ls : Array Slot), XH E (sg wst) s H locs → lv_has ls 3 [(0, .ref (E.ad 68)), (1, .int v1), (2, .int w2)] → W p l e rmX6_tellCheapest s m args below meth c H locs 0 0 Q (F0 m 74 ls [])) (hE0 : ∀ (wst : St), X wst → ∀ (H : Heap) (locs : List Loc) (ls : Array Slot), XH E (sg wst) s H locs → lv_has ls 3 [(0, .ref (E.ad 68)), (1, .int v1)] → W p l e rmX6_tellCheapest s m args below meth c H locs 0 0 Q (F0 m 141 ls [])) (K : Kx G X x) {H : Heap} {locs : List Loc} {ls : Array Slot} (h : XH E (sg st) s H locs) (hl : lv_has ls 3 [(0, .ref (E.ad 68)), (1, .int v1), (2, .int v2)]) : W p l e rmX6_tellCheapest s m args below meth c H locs 0 0 Q (F0 m 74 ls []) := by
  unfold fX6_tellCheapest_74 at hx
  refine lv_iload_n C.x C.bc dX6_tellCheapest_74 rfl (lv_at hl 2 rfl) ?_
  refine lv_bipush (v := (36 : Int32)) C.x C.bc dX6_tellCheapest_75 (by decide) ?_
  refine lv_icmp_ge (tgt := 141) C.x C.bc dX6_tellCheapest_77 (by decide) (fun c_15 => ?_) (fun c_15 => ?_)
  · have hx := ge_t hx c_15
    obtain rfl := Option.some.inj hx
    exact hE0 _ K _ _ _ h (lv_sub hl [0, 1] rfl)
  · have hx := ge_f hx c_15
    refine lv_aload_n C.x C.bc dX6_tellCheapest_80 rfl (lv_at hl 0 rfl) ?_
    refine lv_iload_n C.x C.bc dX6_tellCheapest_81 rfl (lv_at hl 2 rfl) ?_
    obtain ⟨r_16, hf_16, hx⟩ := bd_e hx
    refine cX6_418_X6_canBuild C hI h hf_16 ⟨Nat.le_of_ble_eq_true rfl, Nat.le_of_ble_eq_true rfl⟩ ⟨Nat.zero_le _, Nat.zero_le _⟩ hl.1 (Nat.le_of_ble_eq_true rfl) dX6_tellCheapest_82 (fun H locs h => ?_)
    refine lv_if_ne (tgt := 91) C.x C.bc dX6_tellCheapest_85 (by decide) (fun c_17 => ?_) (fun c_17 => ?_)
    · have hx := ge_f hx c_17
      refine lv_aload_n C.x C.bc dX6_tellCheapest_91 rfl (lv_at hl 0 rfl) ?_
      refine gt_X6_31_68 C hI h dX6_tellCheapest_92 ?_
      refine lv_bipush (v := (10 : Int32)) C.x C.bc dX6_tellCheapest_95 (by decide) ?_
      refine lv_iload_n C.x C.bc dX6_tellCheapest_97 rfl (lv_at hl 2 rfl) ?_
      refine lv_iadd C.x C.bc dX6_tellCheapest_98 ?_
      obtain ⟨d_18, e_18, hx⟩ := nm_x hx
      refine x_ti e_18 ?_
      refine lv_dup2_11 C.x C.bc dX6_tellCheapest_99 rfl rfl ?_
      obtain ⟨g_19, hx⟩ := gd_e hx
      refine x_iald C h 70 46 (hI 70 (by decide)) k_70 g_19 dX6_tellCheapest_100 ?_
      refine lv_iconst (v := (1 : Int32)) C.x C.bc dX6_tellCheapest_101 (by decide) ?_
      refine lv_iadd C.x C.bc dX6_tellCheapest_102 ?_
      obtain ⟨g_20, hx⟩ := gd_e hx
      obtain ⟨st_21, e_21, hx⟩ := nm_x hx
      refine y_iast C h 70 46 (hI 70 (by decide)) k_70 g_20 e_21 dX6_tellCheapest_103 (fun H locs h => ?_)
      refine lv_aload_n C.x C.bc dX6_tellCheapest_104 rfl (lv_at hl 0 rfl) ?_
      refine lv_aload_n C.x C.bc dX6_tellCheapest_105 rfl (lv_at hl 0 rfl) ?_
      refine lv_iload_n C.x C.bc dX6_tellCheapest_106 rfl (lv_at hl 1 rfl) ?_
      obtain ⟨r_22, hf_22, hx⟩ := bd_e hx
      refine cX6_421_X6_priceOf C hI h hf_22 ⟨Nat.le_of_ble_eq_true rfl, Nat.le_of_ble_eq_true rfl⟩ ⟨Nat.zero_le _, Nat.zero_le _⟩ hl.1 (Nat.le_of_ble_eq_true rfl) dX6_tellCheapest_107 (fun H locs h => ?_)
      refine lv_aload_n C.x C.bc dX6_tellCheapest_110 rfl (lv_at hl 0 rfl) ?_
      refine lv_iload_n C.x C.bc dX6_tellCheapest_111 rfl (lv_at hl 2 rfl) ?_
      obtain ⟨r_23, hf_23, hx⟩ := bd_e hx
      refine cX6_421_X6_priceOf C hI h hf_23 ⟨Nat.le_of_ble_eq_true rfl, Nat.le_of_ble_eq_true rfl⟩ ⟨Nat.zero_le _, Nat.zero_le _⟩ hl.1 (Nat.le_of_ble_eq_true rfl) dX6_tellCheapest_112 (fun H locs h => ?_)
      refine lv_iadd C.x C.bc dX6_tellCheapest_115 ?_
      refine lv_iconst (v := (2 : Int32)) C.x C.bc dX6_tellCheapest_116 (by decide) ?_
      refine lv_iload_n C.x C.bc dX6_tellCheapest_117 rfl (lv_at hl 1 rfl) ?_
      refine lv_iload_n C.x C.bc dX6_tellCheapest_118 rfl (lv_at hl 2 rfl) ?_
      obtain ⟨st_24, hf_24, hx⟩ := bd_e hx
      refine cX6_414_X6_weighs C hI h hf_24 ⟨Nat.le_of_ble_eq_true rfl, Nat.le_of_ble_eq_true rfl⟩ ⟨Nat.zero_le _, Nat.zero_le _⟩ hl.1 (Nat.le_of_ble_eq_true rfl) dX6_tellCheapest_119 (fun H locs h => ?_)
      refine lv_aload_n C.x C.bc dX6_tellCheapest_122 rfl (lv_at hl 0 rfl) ?_
      refine gt_X6_31_68 C hI h dX6_tellCheapest_123 ?_
      refine lv_bipush (v := (10 : Int32)) C.x C.bc dX6_tellCheapest_126 (by decide) ?_
      refine lv_iload_n C.x C.bc dX6_tellCheapest_128 rfl (lv_at hl 2 rfl) ?_
      refine lv_iadd C.x C.bc dX6_tellCheapest_129 ?_
      obtain ⟨d_25, e_25, hx⟩ := nm_x hx
      refine x_ti e_25 ?_
      refine lv_dup2_11 C.x C.bc dX6_tellCheapest_130 rfl rfl ?_
      obtain ⟨g_26, hx⟩ := gd_e hx
      refine x_iald C h 70 46 (hI 70 (by decide)) k_70 g_26 dX6_tellCheapest_131 ?_
      refine lv_iconst (v := (1 : Int32)) C.x C.bc dX6_tellCheapest_132 (by decide) ?_
      refine lv_isub C.x C.bc dX6_tellCheapest_133 ?_
      obtain ⟨g_27, hx⟩ := gd_e hx
      obtain ⟨st_28, e_28, hx⟩ := nm_x hx
      refine y_iast C h 70 46 (hI 70 (by decide)) k_70 g_27 e_28 dX6_tellCheapest_134 (fun H locs h => ?_)
      exact bX6_tellCheapest_135 C hI v1 v2 st_28 hx hG hE0 K h (lv_sub hl [0, 1, 2] rfl)
    · have hx := ge_t hx c_17
      refine lv_goto (tgt := 135) C.x C.bc dX6_tellCheapest_88 (by decide) ?_
      exact bX6_tellCheapest_135 C hI v1 v2 st hx hG hE0 K h (lv_sub hl [0, 1, 2] rfl)
set_option maxHeartbeats 1000000 in
theorem pX6_tellCheapest_74 (C : Cx E s0 b p s m args meth c cX6_tellCheapest 3 "EarthMeshModel" none) (hI : Sx E) (v1 : Int32) {Q : State → Prop} {v2 : Int32} {st : St} {n : Nat} {r : St} (hx : iter (u2 fun v2 st => fX6_tellCheapest_74 v1 v2 st) n (v2, st) = some r) (hE : (fun t => ∀ (H : Heap) (locs : List Loc) (ls : Array Slot), XH E (sg t) s H locs → lv_has ls 3 [(0, .ref (E.ad 68)), (1, .int v1)] → W p l e rmX6_tellCheapest s m args below meth c H locs 0 0 Q (F0 m 141 ls [])) r) {H : Heap} {locs : List Loc} {ls : Array Slot} (h : XH E (sg st) s H locs) (hl : lv_has ls 3 [(0, .ref (E.ad 68)), (1, .int v1), (2, .int v2)]) : W p l e rmX6_tellCheapest s m args below meth c H locs 0 0 Q (F0 m 74 ls []) := by
  refine iter_W (G := fun t => ∀ (H : Heap) (locs : List Loc) (ls : Array Slot), XH E (sg t.2) s H locs → lv_has ls 3 [(0, .ref (E.ad 68)), (1, .int v1), (2, .int t.1)] → W p l e rmX6_tellCheapest s m args below meth c H locs 0 0 Q (F0 m 74 ls [])) (E := fun t => ∀ (H : Heap) (locs : List Loc) (ls : Array Slot), XH E (sg t) s H locs → lv_has ls 3 [(0, .ref (E.ad 68)), (1, .int v1)] → W p l e rmX6_tellCheapest s m args below meth c H locs 0 0 Q (F0 m 141 ls [])) (fun t x hx K H locs ls h hl => ?_) n _ r hx hE H locs ls h hl
  obtain ⟨v2, st⟩ := t
  exact bX6_tellCheapest_74 C hI v1 v2 st hx (fun _ _ z => z) (fun _ z => z) K h hl
def fX6_tellCheapest_154 (v1 : Int32) (st : St) : Option ((Int32 × St) ⊕ (St)) :=
  nm (v1 + (1 : Int32)) fun v1_35 =>
  some (.inl (v1_35, st))
set_option maxHeartbeats 1000000 in
theorem bX6_tellCheapest_154 (C : Cx E s0 b p s m args meth c cX6_tellCheapest 3 "EarthMeshModel" none) (hI : Sx E) (v1 : Int32) (st : St) {x : (Int32 × St) ⊕ (St)} (hx : fX6_tellCheapest_154 v1 st = some x) {Q : State → Prop} {G : Int32 × St → Prop} {X : St → Prop} (hG : ∀ (w1 : Int32) (wst : St), G (w1, wst) → ∀ (H : Heap) (locs : List Loc) (ls : Array Slot), XH E (sg wst) s H locs → lv_has ls 3 [(0, .ref (E.ad 68)), (1, .int w1)] → W p l e rmX6_tellCheapest s m args below meth c H locs 0 0 Q (F0 m 30 ls [])) (hE0 : ∀ (wst : St), X wst → ∀ (H : Heap) (locs : List Loc) (ls : Array Slot), XH E (sg wst) s H locs → lv_has ls 3 [] → W p l e rmX6_tellCheapest s m args below meth c H locs 0 0 Q (F0 m 160 ls [])) (K : Kx G X x) {H : Heap} {locs : List Loc} {ls : Array Slot} (h : XH E (sg st) s H locs) (hl : lv_has ls 3 [(0, .ref (E.ad 68)), (1, .int v1)]) : W p l e rmX6_tellCheapest s m args below meth c H locs 0 0 Q (F0 m 154 ls []) := by
  unfold fX6_tellCheapest_154 at hx
  obtain ⟨v1_35, e_35, hx⟩ := nm_x hx
  refine lv_iinc (v := v1_35) (lv' := [(1, .int v1_35), (0, .ref (E.ad 68))]) C.x C.bc dX6_tellCheapest_154 hl (k := 1) rfl (by rw [e_35]; rfl) (by decide) rfl (fun ls hl => ?_)
  refine lv_goto (tgt := 30) C.x C.bc dX6_tellCheapest_157 (by decide) ?_
  obtain rfl := Option.some.inj hx
  exact hG _ _ K _ _ _ h (lv_sub hl [1, 0] rfl)
def fX6_tellCheapest_30 (v1 : Int32) (st : St) : Option ((Int32 × St) ⊕ (St)) :=
  if (36 : Int32) ≤ v1 then
    some (.inr st)
  else
    bd (fX6_canBuild v1 st) fun r_7 =>
    if r_7 = 0 then
      fX6_tellCheapest_154 v1 st
    else
      nm ((10 : Int32) + v1) fun d_9 =>
      gd (inB d_9 46) <|
      gd (inB d_9 46) <|
      nm (uI st 70 d_9.toNatClampNeg ((st.1 70 d_9.toNatClampNeg) + (1 : Int32))) fun st_12 =>
      bd (fX6_priceOf v1 st_12) fun r_13 =>
      bd (fX6_weighs r_13 (1 : Int32) v1 (-1 : Int32) st_12) fun st_14 =>
      bd (iter (u2 fun z2 zst => fX6_tellCheapest_74 v1 z2 zst) FU (v1, st_14)) (u1 fun st_30 =>
      nm ((10 : Int32) + v1) fun d_31 =>
      gd (inB d_31 46) <|
      gd (inB d_31 46) <|
      nm (uI st_30 70 d_31.toNatClampNeg ((st_30.1 70 d_31.toNatClampNeg) - (1 : Int32))) fun st_34 =>
      fX6_tellCheapest_154 v1 st_34)
set_option maxHeartbeats 1000000 in
theorem bX6_tellCheapest_30 (C : Cx E s0 b p s m args meth c cX6_tellCheapest 3 "EarthMeshModel" none) (hI : Sx E) (v1 : Int32) (st : St) {x : (Int32 × St) ⊕ (St)} (hx : fX6_tellCheapest_30 v1 st = some x) {Q : State → Prop} {G : Int32 × St → Prop} {X : St → Prop} (hG : ∀ (w1 : Int32) (wst : St), G (w1, wst) → ∀ (H : Heap) (locs : List Loc) (ls : Array Slot), XH E (sg wst) s H locs → lv_has ls 3 [(0, .ref (E.ad 68)), (1, .int w1)] → W p l e rmX6_tellCheapest s m args below meth c H locs 0 0 Q (F0 m 30 ls [])) (hE0 : ∀ (wst : St), X wst → ∀ (H : Heap) (locs : List Loc) (ls : Array Slot), XH E (sg wst) s H locs → lv_has ls 3 [] → W p l e rmX6_tellCheapest s m args below meth c H locs 0 0 Q (F0 m 160 ls [])) (K : Kx G X x) {H : Heap} {locs : List Loc} {ls : Array Slot} (h : XH E (sg st) s H locs) (hl : lv_has ls 3 [(0, .ref (E.ad 68)), (1, .int v1)]) : W p l e rmX6_tellCheapest s m args below meth c H locs 0 0 Q (F0 m 30 ls []) := by
  unfold fX6_tellCheapest_30 at hx
  refine lv_iload_n C.x C.bc dX6_tellCheapest_30 rfl (lv_at hl 1 rfl) ?_
  refine lv_bipush (v := (36 : Int32)) C.x C.bc dX6_tellCheapest_31 (by decide) ?_
  refine lv_icmp_ge (tgt := 160) C.x C.bc dX6_tellCheapest_33 (by decide) (fun c_6 => ?_) (fun c_6 => ?_)
  · have hx := ge_t hx c_6
    obtain rfl := Option.some.inj hx
    exact hE0 _ K _ _ _ h (lv_sub hl [] rfl)
  · have hx := ge_f hx c_6
    refine lv_aload_n C.x C.bc dX6_tellCheapest_36 rfl (lv_at hl 0 rfl) ?_
    refine lv_iload_n C.x C.bc dX6_tellCheapest_37 rfl (lv_at hl 1 rfl) ?_
    obtain ⟨r_7, hf_7, hx⟩ := bd_e hx
    refine cX6_418_X6_canBuild C hI h hf_7 ⟨Nat.le_of_ble_eq_true rfl, Nat.le_of_ble_eq_true rfl⟩ ⟨Nat.zero_le _, Nat.zero_le _⟩ hl.1 (Nat.le_of_ble_eq_true rfl) dX6_tellCheapest_38 (fun H locs h => ?_)
    refine lv_if_ne (tgt := 47) C.x C.bc dX6_tellCheapest_41 (by decide) (fun c_8 => ?_) (fun c_8 => ?_)
    · have hx := ge_f hx c_8
      refine lv_aload_n C.x C.bc dX6_tellCheapest_47 rfl (lv_at hl 0 rfl) ?_
      refine gt_X6_31_68 C hI h dX6_tellCheapest_48 ?_
      refine lv_bipush (v := (10 : Int32)) C.x C.bc dX6_tellCheapest_51 (by decide) ?_
      refine lv_iload_n C.x C.bc dX6_tellCheapest_53 rfl (lv_at hl 1 rfl) ?_
      refine lv_iadd C.x C.bc dX6_tellCheapest_54 ?_
      obtain ⟨d_9, e_9, hx⟩ := nm_x hx
      refine x_ti e_9 ?_
      refine lv_dup2_11 C.x C.bc dX6_tellCheapest_55 rfl rfl ?_
      obtain ⟨g_10, hx⟩ := gd_e hx
      refine x_iald C h 70 46 (hI 70 (by decide)) k_70 g_10 dX6_tellCheapest_56 ?_
      refine lv_iconst (v := (1 : Int32)) C.x C.bc dX6_tellCheapest_57 (by decide) ?_
      refine lv_iadd C.x C.bc dX6_tellCheapest_58 ?_
      obtain ⟨g_11, hx⟩ := gd_e hx
      obtain ⟨st_12, e_12, hx⟩ := nm_x hx
      refine y_iast C h 70 46 (hI 70 (by decide)) k_70 g_11 e_12 dX6_tellCheapest_59 (fun H locs h => ?_)
      refine lv_aload_n C.x C.bc dX6_tellCheapest_60 rfl (lv_at hl 0 rfl) ?_
      refine lv_aload_n C.x C.bc dX6_tellCheapest_61 rfl (lv_at hl 0 rfl) ?_
      refine lv_iload_n C.x C.bc dX6_tellCheapest_62 rfl (lv_at hl 1 rfl) ?_
      obtain ⟨r_13, hf_13, hx⟩ := bd_e hx
      refine cX6_421_X6_priceOf C hI h hf_13 ⟨Nat.le_of_ble_eq_true rfl, Nat.le_of_ble_eq_true rfl⟩ ⟨Nat.zero_le _, Nat.zero_le _⟩ hl.1 (Nat.le_of_ble_eq_true rfl) dX6_tellCheapest_63 (fun H locs h => ?_)
      refine lv_iconst (v := (1 : Int32)) C.x C.bc dX6_tellCheapest_66 (by decide) ?_
      refine lv_iload_n C.x C.bc dX6_tellCheapest_67 rfl (lv_at hl 1 rfl) ?_
      refine lv_iconst (v := (-1 : Int32)) C.x C.bc dX6_tellCheapest_68 (by decide) ?_
      obtain ⟨st_14, hf_14, hx⟩ := bd_e hx
      refine cX6_414_X6_weighs C hI h hf_14 ⟨Nat.le_of_ble_eq_true rfl, Nat.le_of_ble_eq_true rfl⟩ ⟨Nat.zero_le _, Nat.zero_le _⟩ hl.1 (Nat.le_of_ble_eq_true rfl) dX6_tellCheapest_69 (fun H locs h => ?_)
      refine lv_iload_n C.x C.bc dX6_tellCheapest_72 rfl (lv_at hl 1 rfl) ?_
      refine lv_istore_n (lv' := [(2, .int v1), (0, .ref (E.ad 68)), (1, .int v1)]) C.x C.bc dX6_tellCheapest_73 rfl hl (by decide) rfl (fun ls hl => ?_)
      obtain ⟨st_30, hi_30, hx⟩ := bd_e hx
      have hx := u1_e hx
      refine pX6_tellCheapest_74 C hI v1 hi_30 (fun H locs ls h hl => ?_) h (lv_sub hl [1, 2, 0] rfl)
      refine lv_aload_n C.x C.bc dX6_tellCheapest_141 rfl (lv_at hl 0 rfl) ?_
      refine gt_X6_31_68 C hI h dX6_tellCheapest_142 ?_
      refine lv_bipush (v := (10 : Int32)) C.x C.bc dX6_tellCheapest_145 (by decide) ?_
      refine lv_iload_n C.x C.bc dX6_tellCheapest_147 rfl (lv_at hl 1 rfl) ?_
      refine lv_iadd C.x C.bc dX6_tellCheapest_148 ?_
      obtain ⟨d_31, e_31, hx⟩ := nm_x hx
      refine x_ti e_31 ?_
      refine lv_dup2_11 C.x C.bc dX6_tellCheapest_149 rfl rfl ?_
      obtain ⟨g_32, hx⟩ := gd_e hx
      refine x_iald C h 70 46 (hI 70 (by decide)) k_70 g_32 dX6_tellCheapest_150 ?_
      refine lv_iconst (v := (1 : Int32)) C.x C.bc dX6_tellCheapest_151 (by decide) ?_
      refine lv_isub C.x C.bc dX6_tellCheapest_152 ?_
      obtain ⟨g_33, hx⟩ := gd_e hx
      obtain ⟨st_34, e_34, hx⟩ := nm_x hx
      refine y_iast C h 70 46 (hI 70 (by decide)) k_70 g_33 e_34 dX6_tellCheapest_153 (fun H locs h => ?_)
      exact bX6_tellCheapest_154 C hI v1 st_34 hx hG hE0 K h (lv_sub hl [0, 1] rfl)
    · have hx := ge_t hx c_8
      refine lv_goto (tgt := 154) C.x C.bc dX6_tellCheapest_44 (by decide) ?_
      exact bX6_tellCheapest_154 C hI v1 st hx hG hE0 K h (lv_sub hl [0, 1] rfl)
set_option maxHeartbeats 1000000 in
theorem pX6_tellCheapest_30 (C : Cx E s0 b p s m args meth c cX6_tellCheapest 3 "EarthMeshModel" none) (hI : Sx E) {Q : State → Prop} {v1 : Int32} {st : St} {n : Nat} {r : St} (hx : iter (u2 fun v1 st => fX6_tellCheapest_30 v1 st) n (v1, st) = some r) (hE : (fun t => ∀ (H : Heap) (locs : List Loc) (ls : Array Slot), XH E (sg t) s H locs → lv_has ls 3 [] → W p l e rmX6_tellCheapest s m args below meth c H locs 0 0 Q (F0 m 160 ls [])) r) {H : Heap} {locs : List Loc} {ls : Array Slot} (h : XH E (sg st) s H locs) (hl : lv_has ls 3 [(0, .ref (E.ad 68)), (1, .int v1)]) : W p l e rmX6_tellCheapest s m args below meth c H locs 0 0 Q (F0 m 30 ls []) := by
  refine iter_W (G := fun t => ∀ (H : Heap) (locs : List Loc) (ls : Array Slot), XH E (sg t.2) s H locs → lv_has ls 3 [(0, .ref (E.ad 68)), (1, .int t.1)] → W p l e rmX6_tellCheapest s m args below meth c H locs 0 0 Q (F0 m 30 ls [])) (E := fun t => ∀ (H : Heap) (locs : List Loc) (ls : Array Slot), XH E (sg t) s H locs → lv_has ls 3 [] → W p l e rmX6_tellCheapest s m args below meth c H locs 0 0 Q (F0 m 160 ls [])) (fun t x hx K H locs ls h hl => ?_) n _ r hx hE H locs ls h hl
  obtain ⟨v1, st⟩ := t
  exact bX6_tellCheapest_30 C hI v1 st hx (fun _ _ z => z) (fun _ z => z) K h hl
def fX6_tellCheapest (st : St) : Option (St) :=
  nm (uI st 68 32 (-1 : Int32)) fun st_1 =>
  nm (uI st_1 68 33 (-1 : Int32)) fun st_2 =>
  nm (uI st_2 68 34 (-1 : Int32)) fun st_3 =>
  nm (uI st_3 68 35 (-1 : Int32)) fun st_4 =>
  bd (fX6_weighs (0 : Int32) (0 : Int32) (-1 : Int32) (-1 : Int32) st_4) fun st_5 =>
  bd (iter (u2 fun z1 zst => fX6_tellCheapest_30 z1 zst) FU ((0 : Int32), st_5)) (u1 fun st_36 =>
  some st_36)
set_option maxHeartbeats 1000000 in
theorem bX6_tellCheapest (C : Cx E s0 b p s m args meth c cX6_tellCheapest 3 "EarthMeshModel" none) (hI : Sx E) (st : St) {x : St} (hx : fX6_tellCheapest st = some x) {H : Heap} {locs : List Loc} {ls : Array Slot} (h : XH E (sg st) s H locs) (hl : lv_has ls 3 [(0, .ref (E.ad 68))]) : W p l e rmX6_tellCheapest s m args below meth c H locs 0 0 (MQ below (Qx E none (sg x)) args s 0 0 (gA E.HB)) (F0 m 0 ls []) := by
  unfold fX6_tellCheapest at hx
  refine lv_aload_n C.x C.bc dX6_tellCheapest_0 rfl (lv_at hl 0 rfl) ?_
  refine lv_iconst (v := (-1 : Int32)) C.x C.bc dX6_tellCheapest_1 (by decide) ?_
  obtain ⟨st_1, e_1, hx⟩ := nm_x hx
  refine pt_X6_400_68 C hI h e_1 dX6_tellCheapest_2 (fun H locs h => ?_)
  refine lv_aload_n C.x C.bc dX6_tellCheapest_5 rfl (lv_at hl 0 rfl) ?_
  refine lv_iconst (v := (-1 : Int32)) C.x C.bc dX6_tellCheapest_6 (by decide) ?_
  obtain ⟨st_2, e_2, hx⟩ := nm_x hx
  refine pt_X6_402_68 C hI h e_2 dX6_tellCheapest_7 (fun H locs h => ?_)
  refine lv_aload_n C.x C.bc dX6_tellCheapest_10 rfl (lv_at hl 0 rfl) ?_
  refine lv_iconst (v := (-1 : Int32)) C.x C.bc dX6_tellCheapest_11 (by decide) ?_
  obtain ⟨st_3, e_3, hx⟩ := nm_x hx
  refine pt_X6_408_68 C hI h e_3 dX6_tellCheapest_12 (fun H locs h => ?_)
  refine lv_aload_n C.x C.bc dX6_tellCheapest_15 rfl (lv_at hl 0 rfl) ?_
  refine lv_iconst (v := (-1 : Int32)) C.x C.bc dX6_tellCheapest_16 (by decide) ?_
  obtain ⟨st_4, e_4, hx⟩ := nm_x hx
  refine pt_X6_411_68 C hI h e_4 dX6_tellCheapest_17 (fun H locs h => ?_)
  refine lv_aload_n C.x C.bc dX6_tellCheapest_20 rfl (lv_at hl 0 rfl) ?_
  refine lv_iconst (v := (0 : Int32)) C.x C.bc dX6_tellCheapest_21 (by decide) ?_
  refine lv_iconst (v := (0 : Int32)) C.x C.bc dX6_tellCheapest_22 (by decide) ?_
  refine lv_iconst (v := (-1 : Int32)) C.x C.bc dX6_tellCheapest_23 (by decide) ?_
  refine lv_iconst (v := (-1 : Int32)) C.x C.bc dX6_tellCheapest_24 (by decide) ?_
  obtain ⟨st_5, hf_5, hx⟩ := bd_e hx
  refine cX6_414_X6_weighs C hI h hf_5 ⟨Nat.le_of_ble_eq_true rfl, Nat.le_of_ble_eq_true rfl⟩ ⟨Nat.zero_le _, Nat.zero_le _⟩ hl.1 (Nat.le_of_ble_eq_true rfl) dX6_tellCheapest_25 (fun H locs h => ?_)
  refine lv_iconst (v := (0 : Int32)) C.x C.bc dX6_tellCheapest_28 (by decide) ?_
  refine lv_istore_n (lv' := [(1, .int (0 : Int32)), (0, .ref (E.ad 68))]) C.x C.bc dX6_tellCheapest_29 rfl hl (by decide) rfl (fun ls hl => ?_)
  obtain ⟨st_36, hi_36, hx⟩ := bd_e hx
  have hx := u1_e hx
  refine pX6_tellCheapest_30 C hI hi_36 (fun H locs ls h hl => ?_) h (lv_sub hl [1, 0] rfl)
  obtain rfl := Option.some.inj hx
  exact x_vret C h dX6_tellCheapest_160
theorem mX6_tellCheapest (hG : G0 E s0 b) (hI : Sx E)  {x : St} (hx : fX6_tellCheapest st = some x) : Mt l E s0 yX6_tellCheapest cX6_tellCheapest 3 none rmX6_tellCheapest [.ref (E.ad 68)] (sg st) none E (sg x) :=
  Mt.of hG (by decide) (Nat.le_of_ble_eq_true rfl) (fun p e s m below meth c ls C h hl => bX6_tellCheapest C hI st hx h hl)
theorem cX6_424_X6_tellCheapest  {st' : St} (C : Cx E s0 b p s m args meth c cc nL "EarthMeshModel" rt) (hI : Sx E) (h : XH E (sg st) s H locs) (hf : fX6_tellCheapest st = some st') (hR : rmX6_tellCheapest.frames + 1 ≤ R.frames ∧ 16 + (3 + 11) + rmX6_tellCheapest.locals ≤ R.locals) (h0 : cells ≤ R.cells ∧ slots ≤ R.slots) (hsz : ls.size = nL) (hcat : (rest.map fun v => v.category).sum ≤ 16) (hdg : decode cc pc = .ok (.invokevirtual 424, 3)) (kk : ∀ (H : Heap) (locs : List Loc), XH E (sg st') s H locs → W p l e R s m args below meth c H locs cells slots Q (F0 m (pc + 3) ls (rest))) : W p l e R s m args below meth c H locs cells slots Q (F0 m pc ls (.ref (E.ad 68) :: rest)) :=
  x_callV (n := 0) (As := []) C h 68 5 (hI 68 (by decide)) k_68 rfl (mX6_tellCheapest C.g hI hf) (lw_V q2074 q2076 qs124 q136 q2077) ⟨rfl, by decide +kernel, by decide +kernel, by decide +kernel⟩ hR ⟨rfl, rfl⟩ h0 rfl hsz rfl hcat hdg kk
abbrev rmX6_cheapest : Room := { frames := 10, cells := 0, slots := 0, locals := 327 }
def fX6_cheapest (v1 : Int32) (st : St) : Option (Int32 × St) :=
  nm (uI st 68 1 (0 : Int32)) fun st_1 =>
  nm (fX6_isIn v1 (0 : Int32) (3 : Int32)) fun r_2 =>
  if r_2 = 0 then
    bd (fX6_fail (1 : Int32) st_1) <| u2 fun r_8 st_8 =>
    some (r_8, st_8)
  else
    bd (fX6_tellCheapest st_1) fun st_4 =>
    if v1 = 0 then
      some ((st_4.1 68 32), st_4)
    else
      if v1 = (1 : Int32) then
        some ((st_4.1 68 33), st_4)
      else
        if v1 = (2 : Int32) then
          some ((st_4.1 68 34), st_4)
        else
          some ((st_4.1 68 35), st_4)
set_option maxHeartbeats 1000000 in
theorem bX6_cheapest (C : Cx E s0 b p s m args meth c cX6_cheapest 2 "EarthMeshModel" (some .int)) (hI : Sx E) (v1 : Int32) (st : St) {x : Int32 × St} (hx : fX6_cheapest v1 st = some x) {H : Heap} {locs : List Loc} {ls : Array Slot} (h : XH E (sg st) s H locs) (hl : lv_has ls 2 [(0, .ref (E.ad 68)), (1, .int v1)]) : W p l e rmX6_cheapest s m args below meth c H locs 0 0 (MQ below (Qx E (some (.int x.1)) (sg x.2)) args s 0 0 (gA E.HB)) (F0 m 0 ls []) := by
  unfold fX6_cheapest at hx
  refine lv_aload_n C.x C.bc dX6_cheapest_0 rfl (lv_at hl 0 rfl) ?_
  refine lv_iconst (v := (0 : Int32)) C.x C.bc dX6_cheapest_1 (by decide) ?_
  obtain ⟨st_1, e_1, hx⟩ := nm_x hx
  refine pt_X6_90_68 C hI h e_1 dX6_cheapest_2 (fun H locs h => ?_)
  refine lv_iload_n C.x C.bc dX6_cheapest_5 rfl (lv_at hl 1 rfl) ?_
  refine lv_iconst (v := (0 : Int32)) C.x C.bc dX6_cheapest_6 (by decide) ?_
  refine lv_iconst (v := (3 : Int32)) C.x C.bc dX6_cheapest_7 (by decide) ?_
  obtain ⟨r_2, e_2, hx⟩ := nm_x hx
  refine cX6_300_X6_isIn C hI h e_2.symm ⟨Nat.le_of_ble_eq_true rfl, Nat.le_of_ble_eq_true rfl⟩ ⟨Nat.zero_le _, Nat.zero_le _⟩ hl.1 (Nat.le_of_ble_eq_true rfl) dX6_cheapest_8 (fun H locs h => ?_)
  refine lv_if_ne (tgt := 20) C.x C.bc dX6_cheapest_11 (by decide) (fun c_3 => ?_) (fun c_3 => ?_)
  · have hx := ge_f hx c_3
    refine lv_aload_n C.x C.bc dX6_cheapest_20 rfl (lv_at hl 0 rfl) ?_
    obtain ⟨st_4, hf_4, hx⟩ := bd_e hx
    refine cX6_424_X6_tellCheapest C hI h hf_4 ⟨Nat.le_of_ble_eq_true rfl, Nat.le_of_ble_eq_true rfl⟩ ⟨Nat.zero_le _, Nat.zero_le _⟩ hl.1 (Nat.le_of_ble_eq_true rfl) dX6_cheapest_21 (fun H locs h => ?_)
    refine lv_iload_n C.x C.bc dX6_cheapest_24 rfl (lv_at hl 1 rfl) ?_
    refine lv_if_ne (tgt := 35) C.x C.bc dX6_cheapest_25 (by decide) (fun c_5 => ?_) (fun c_5 => ?_)
    · have hx := ge_f hx c_5
      refine lv_iload_n C.x C.bc dX6_cheapest_35 rfl (lv_at hl 1 rfl) ?_
      refine lv_iconst (v := (1 : Int32)) C.x C.bc dX6_cheapest_36 (by decide) ?_
      refine lv_icmp_ne (tgt := 47) C.x C.bc dX6_cheapest_37 (by decide) (fun c_6 => ?_) (fun c_6 => ?_)
      · have hx := ge_f hx c_6
        refine lv_iload_n C.x C.bc dX6_cheapest_47 rfl (lv_at hl 1 rfl) ?_
        refine lv_iconst (v := (2 : Int32)) C.x C.bc dX6_cheapest_48 (by decide) ?_
        refine lv_icmp_ne (tgt := 59) C.x C.bc dX6_cheapest_49 (by decide) (fun c_7 => ?_) (fun c_7 => ?_)
        · have hx := ge_f hx c_7
          refine lv_aload_n C.x C.bc dX6_cheapest_59 rfl (lv_at hl 0 rfl) ?_
          refine gt_X6_411_68 C hI h dX6_cheapest_60 ?_
          obtain rfl := Option.some.inj hx
          exact x_iret C h dX6_cheapest_63
        · have hx := ge_t hx c_7
          refine lv_aload_n C.x C.bc dX6_cheapest_52 rfl (lv_at hl 0 rfl) ?_
          refine gt_X6_408_68 C hI h dX6_cheapest_53 ?_
          refine lv_goto (tgt := 63) C.x C.bc dX6_cheapest_56 (by decide) ?_
          obtain rfl := Option.some.inj hx
          exact x_iret C h dX6_cheapest_63
      · have hx := ge_t hx c_6
        refine lv_aload_n C.x C.bc dX6_cheapest_40 rfl (lv_at hl 0 rfl) ?_
        refine gt_X6_402_68 C hI h dX6_cheapest_41 ?_
        refine lv_goto (tgt := 63) C.x C.bc dX6_cheapest_44 (by decide) ?_
        obtain rfl := Option.some.inj hx
        exact x_iret C h dX6_cheapest_63
    · have hx := ge_t hx c_5
      refine lv_aload_n C.x C.bc dX6_cheapest_28 rfl (lv_at hl 0 rfl) ?_
      refine gt_X6_400_68 C hI h dX6_cheapest_29 ?_
      refine lv_goto (tgt := 63) C.x C.bc dX6_cheapest_32 (by decide) ?_
      obtain rfl := Option.some.inj hx
      exact x_iret C h dX6_cheapest_63
  · have hx := ge_t hx c_3
    refine lv_aload_n C.x C.bc dX6_cheapest_14 rfl (lv_at hl 0 rfl) ?_
    refine lv_iconst (v := (1 : Int32)) C.x C.bc dX6_cheapest_15 (by decide) ?_
    obtain ⟨⟨r_8, st_8⟩, hf_8, hx⟩ := bd_e hx
    have hx := u2_e hx
    refine cX6_182_X6_fail C hI h hf_8 ⟨Nat.le_of_ble_eq_true rfl, Nat.le_of_ble_eq_true rfl⟩ ⟨Nat.zero_le _, Nat.zero_le _⟩ hl.1 (Nat.le_of_ble_eq_true rfl) dX6_cheapest_16 (fun H locs h => ?_)
    obtain rfl := Option.some.inj hx
    exact x_iret C h dX6_cheapest_19
theorem mX6_cheapest (hG : G0 E s0 b) (hI : Sx E) {v1 : Int32} {x : Int32 × St} (hx : fX6_cheapest v1 st = some x) : Mt l E s0 yX6_cheapest cX6_cheapest 2 (some .int) rmX6_cheapest [.ref (E.ad 68), .int v1] (sg st) (some (.int x.1)) E (sg x.2) :=
  Mt.of hG (by decide) (Nat.le_of_ble_eq_true rfl) (fun p e s m below meth c ls C h hl => bX6_cheapest C hI v1 st hx h hl)
abbrev rmX6_between : Room := { frames := 5, cells := 0, slots := 0, locals := 176 }
def fX6_between_21 (st : St) : Option (Int64 × St) :=
  bd (fX6_fail (1 : Int32) st) <| u2 fun r_4 st_4 =>
  some ((r_4.toInt64), st_4)
set_option maxHeartbeats 1000000 in
theorem bX6_between_21 (C : Cx E s0 b p s m args meth c cX6_between 6 "EarthMeshModel" (some .long)) (hI : Sx E) (st : St) {x : Int64 × St} (hx : fX6_between_21 st = some x) {H : Heap} {locs : List Loc} {ls : Array Slot} (h : XH E (sg st) s H locs) (hl : lv_has ls 6 [(0, .ref (E.ad 68))]) : W p l e rmX6_between s m args below meth c H locs 0 0 (MQ below (Qx E (some (.long x.1)) (sg x.2)) args s 0 0 (gA E.HB)) (F0 m 21 ls []) := by
  unfold fX6_between_21 at hx
  refine lv_aload_n C.x C.bc dX6_between_21 rfl (lv_at hl 0 rfl) ?_
  refine lv_iconst (v := (1 : Int32)) C.x C.bc dX6_between_22 (by decide) ?_
  obtain ⟨⟨r_4, st_4⟩, hf_4, hx⟩ := bd_e hx
  have hx := u2_e hx
  refine cX6_182_X6_fail C hI h hf_4 ⟨Nat.le_of_ble_eq_true rfl, Nat.le_of_ble_eq_true rfl⟩ ⟨Nat.zero_le _, Nat.zero_le _⟩ hl.1 (Nat.le_of_ble_eq_true rfl) dX6_between_23 (fun H locs h => ?_)
  refine lv_i2l (v := (r_4.toInt64)) C.x C.bc dX6_between_26 rfl ?_
  obtain rfl := Option.some.inj hx
  exact x_lret C h dX6_between_27
def fX6_between_58 (v1 : Int32) (v2 : Int32) (v3 : Int32) (k0 : Int32) (st : St) : Option (Int64 × St) :=
  if k0 = 0 then
    bd (fX6_fail (2 : Int32) st) <| u2 fun r_16 st_16 =>
    some ((r_16.toInt64), st_16)
  else
    if v1 = v2 then
      if v3 = 0 then
        some ((0 : Int64), st)
      else
        some ((1 : Int64), st)
    else
      bd (fX6_solves v1 v2 st) <| u2 fun r_11 st_11 =>
      gd (inB v1 12) <|
      gd (inB v2 12) <|
      bd (fX6_side ((st_11.2.1 76 v1.toNatClampNeg) - (st_11.2.1 76 v2.toNatClampNeg)) (st_11.2.1 68 19) v3) fun r_14 =>
      some (r_14, st_11)
set_option maxHeartbeats 1000000 in
theorem bX6_between_58 (C : Cx E s0 b p s m args meth c cX6_between 6 "EarthMeshModel" (some .long)) (hI : Sx E) (v1 : Int32) (v2 : Int32) (v3 : Int32) (k0 : Int32) (st : St) {x : Int64 × St} (hx : fX6_between_58 v1 v2 v3 k0 st = some x) {H : Heap} {locs : List Loc} {ls : Array Slot} (h : XH E (sg st) s H locs) (hl : lv_has ls 6 [(0, .ref (E.ad 68)), (1, .int v1), (2, .int v2), (3, .int v3)]) : W p l e rmX6_between s m args below meth c H locs 0 0 (MQ below (Qx E (some (.long x.1)) (sg x.2)) args s 0 0 (gA E.HB)) (F0 m 58 ls [.int k0]) := by
  unfold fX6_between_58 at hx
  refine lv_istore (lv' := [(4, .int k0), (0, .ref (E.ad 68)), (1, .int v1), (2, .int v2), (3, .int v3)]) C.x C.bc dX6_between_58 hl (by decide) rfl (fun ls hl => ?_)
  refine lv_iload C.x C.bc dX6_between_60 (lv_at hl 0 rfl) ?_
  refine lv_if_ne (tgt := 72) C.x C.bc dX6_between_62 (by decide) (fun c_9 => ?_) (fun c_9 => ?_)
  · have hx := ge_f hx c_9
    refine lv_iload_n C.x C.bc dX6_between_72 rfl (lv_at hl 2 rfl) ?_
    refine lv_iload_n C.x C.bc dX6_between_73 rfl (lv_at hl 3 rfl) ?_
    refine lv_icmp_ne (tgt := 87) C.x C.bc dX6_between_74 (by decide) (fun c_10 => ?_) (fun c_10 => ?_)
    · have hx := ge_f hx c_10
      refine lv_aload_n C.x C.bc dX6_between_87 rfl (lv_at hl 1 rfl) ?_
      refine lv_iload_n C.x C.bc dX6_between_88 rfl (lv_at hl 2 rfl) ?_
      refine lv_iload_n C.x C.bc dX6_between_89 rfl (lv_at hl 3 rfl) ?_
      obtain ⟨⟨r_11, st_11⟩, hf_11, hx⟩ := bd_e hx
      have hx := u2_e hx
      refine cX6_267_X6_solves C hI h hf_11 ⟨Nat.le_of_ble_eq_true rfl, Nat.le_of_ble_eq_true rfl⟩ ⟨Nat.zero_le _, Nat.zero_le _⟩ hl.1 (Nat.le_of_ble_eq_true rfl) dX6_between_90 (fun H locs h => ?_)
      refine lv_istore (lv' := [(5, .int r_11), (4, .int k0), (0, .ref (E.ad 68)), (1, .int v1), (2, .int v2), (3, .int v3)]) C.x C.bc dX6_between_93 hl (by decide) rfl (fun ls hl => ?_)
      refine lv_aload_n C.x C.bc dX6_between_95 rfl (lv_at hl 2 rfl) ?_
      refine gt_X6_55_68 C hI h dX6_between_96 ?_
      refine lv_iload_n C.x C.bc dX6_between_99 rfl (lv_at hl 3 rfl) ?_
      obtain ⟨g_12, hx⟩ := gd_e hx
      refine x_lald C h 76 12 (hI 76 (by decide)) k_76 g_12 dX6_between_100 ?_
      refine lv_aload_n C.x C.bc dX6_between_101 rfl (lv_at hl 2 rfl) ?_
      refine gt_X6_55_68 C hI h dX6_between_102 ?_
      refine lv_iload_n C.x C.bc dX6_between_105 rfl (lv_at hl 4 rfl) ?_
      obtain ⟨g_13, hx⟩ := gd_e hx
      refine x_lald C h 76 12 (hI 76 (by decide)) k_76 g_13 dX6_between_106 ?_
      refine lv_lsub C.x C.bc dX6_between_107 ?_
      refine lv_aload_n C.x C.bc dX6_between_108 rfl (lv_at hl 2 rfl) ?_
      refine gt_X6_233_68 C hI h dX6_between_109 ?_
      refine lv_iload_n C.x C.bc dX6_between_112 rfl (lv_at hl 5 rfl) ?_
      obtain ⟨r_14, hf_14, hx⟩ := bd_e hx
      refine cX6_307_X6_side C hI h hf_14 ⟨Nat.le_of_ble_eq_true rfl, Nat.le_of_ble_eq_true rfl⟩ ⟨Nat.zero_le _, Nat.zero_le _⟩ hl.1 (Nat.le_of_ble_eq_true rfl) dX6_between_113 (fun H locs h => ?_)
      obtain rfl := Option.some.inj hx
      exact x_lret C h dX6_between_116
    · have hx := ge_t hx c_10
      refine lv_iload_n C.x C.bc dX6_between_77 rfl (lv_at hl 4 rfl) ?_
      refine lv_if_eq (tgt := 85) C.x C.bc dX6_between_78 (by decide) (fun c_15 => ?_) (fun c_15 => ?_)
      · have hx := ge_t hx c_15
        refine lv_lconst (v := (0 : Int64)) C.x C.bc dX6_between_85 (by decide) ?_
        obtain rfl := Option.some.inj hx
        exact x_lret C h dX6_between_86
      · have hx := ge_f hx c_15
        refine lv_lconst (v := (1 : Int64)) C.x C.bc dX6_between_81 (by decide) ?_
        refine lv_goto (tgt := 86) C.x C.bc dX6_between_82 (by decide) ?_
        obtain rfl := Option.some.inj hx
        exact x_lret C h dX6_between_86
  · have hx := ge_t hx c_9
    refine lv_aload_n C.x C.bc dX6_between_65 rfl (lv_at hl 1 rfl) ?_
    refine lv_iconst (v := (2 : Int32)) C.x C.bc dX6_between_66 (by decide) ?_
    obtain ⟨⟨r_16, st_16⟩, hf_16, hx⟩ := bd_e hx
    have hx := u2_e hx
    refine cX6_182_X6_fail C hI h hf_16 ⟨Nat.le_of_ble_eq_true rfl, Nat.le_of_ble_eq_true rfl⟩ ⟨Nat.zero_le _, Nat.zero_le _⟩ hl.1 (Nat.le_of_ble_eq_true rfl) dX6_between_67 (fun H locs h => ?_)
    refine lv_i2l (v := (r_16.toInt64)) C.x C.bc dX6_between_70 rfl ?_
    obtain rfl := Option.some.inj hx
    exact x_lret C h dX6_between_71
def fX6_between_57 (v1 : Int32) (v2 : Int32) (v3 : Int32) (st : St) : Option (Int64 × St) :=
  fX6_between_58 v1 v2 v3 (0 : Int32) st
set_option maxHeartbeats 1000000 in
theorem bX6_between_57 (C : Cx E s0 b p s m args meth c cX6_between 6 "EarthMeshModel" (some .long)) (hI : Sx E) (v1 : Int32) (v2 : Int32) (v3 : Int32) (st : St) {x : Int64 × St} (hx : fX6_between_57 v1 v2 v3 st = some x) {H : Heap} {locs : List Loc} {ls : Array Slot} (h : XH E (sg st) s H locs) (hl : lv_has ls 6 [(0, .ref (E.ad 68)), (1, .int v1), (2, .int v2), (3, .int v3)]) : W p l e rmX6_between s m args below meth c H locs 0 0 (MQ below (Qx E (some (.long x.1)) (sg x.2)) args s 0 0 (gA E.HB)) (F0 m 57 ls []) := by
  unfold fX6_between_57 at hx
  refine lv_iconst (v := (0 : Int32)) C.x C.bc dX6_between_57 (by decide) ?_
  exact bX6_between_58 C hI v1 v2 v3 (0 : Int32) st hx h (lv_sub hl [0, 1, 2, 3] rfl)
def fX6_between (v1 : Int32) (v2 : Int32) (v3 : Int32) (st : St) : Option (Int64 × St) :=
  nm (uI st 68 1 (0 : Int32)) fun st_1 =>
  bd (fX6_isNode v1 st_1) fun r_2 =>
  if r_2 = 0 then
    fX6_between_21 st_1
  else
    bd (fX6_isNode v2 st_1) fun r_5 =>
    if r_5 = 0 then
      fX6_between_21 st_1
    else
      bd (fX6_joinedTo v1 st_1) fun r_7 =>
      if ((r_7 >>> (v2 &&& 31)) &&& (1 : Int32)) = (1 : Int32) then
        bd (fX6_joinedTo v1 st_1) fun r_17 =>
        bd (fX6_leaks r_17 st_1) fun r_18 =>
        if r_18 = 0 then
          fX6_between_57 v1 v2 v3 st_1
        else
          fX6_between_58 v1 v2 v3 (1 : Int32) st_1
      else
        fX6_between_57 v1 v2 v3 st_1
set_option maxHeartbeats 1000000 in
theorem bX6_between (C : Cx E s0 b p s m args meth c cX6_between 6 "EarthMeshModel" (some .long)) (hI : Sx E) (v1 : Int32) (v2 : Int32) (v3 : Int32) (st : St) {x : Int64 × St} (hx : fX6_between v1 v2 v3 st = some x) {H : Heap} {locs : List Loc} {ls : Array Slot} (h : XH E (sg st) s H locs) (hl : lv_has ls 6 [(0, .ref (E.ad 68)), (1, .int v1), (2, .int v2), (3, .int v3)]) : W p l e rmX6_between s m args below meth c H locs 0 0 (MQ below (Qx E (some (.long x.1)) (sg x.2)) args s 0 0 (gA E.HB)) (F0 m 0 ls []) := by
  unfold fX6_between at hx
  refine lv_aload_n C.x C.bc dX6_between_0 rfl (lv_at hl 0 rfl) ?_
  refine lv_iconst (v := (0 : Int32)) C.x C.bc dX6_between_1 (by decide) ?_
  obtain ⟨st_1, e_1, hx⟩ := nm_x hx
  refine pt_X6_90_68 C hI h e_1 dX6_between_2 (fun H locs h => ?_)
  refine lv_aload_n C.x C.bc dX6_between_5 rfl (lv_at hl 0 rfl) ?_
  refine lv_iload_n C.x C.bc dX6_between_6 rfl (lv_at hl 1 rfl) ?_
  obtain ⟨r_2, hf_2, hx⟩ := bd_e hx
  refine cX6_304_X6_isNode C hI h hf_2 ⟨Nat.le_of_ble_eq_true rfl, Nat.le_of_ble_eq_true rfl⟩ ⟨Nat.zero_le _, Nat.zero_le _⟩ hl.1 (Nat.le_of_ble_eq_true rfl) dX6_between_7 (fun H locs h => ?_)
  refine lv_if_eq (tgt := 21) C.x C.bc dX6_between_10 (by decide) (fun c_3 => ?_) (fun c_3 => ?_)
  · have hx := ge_t hx c_3
    exact bX6_between_21 C hI st_1 hx h (lv_sub hl [0] rfl)
  · have hx := ge_f hx c_3
    refine lv_aload_n C.x C.bc dX6_between_13 rfl (lv_at hl 0 rfl) ?_
    refine lv_iload_n C.x C.bc dX6_between_14 rfl (lv_at hl 2 rfl) ?_
    obtain ⟨r_5, hf_5, hx⟩ := bd_e hx
    refine cX6_304_X6_isNode C hI h hf_5 ⟨Nat.le_of_ble_eq_true rfl, Nat.le_of_ble_eq_true rfl⟩ ⟨Nat.zero_le _, Nat.zero_le _⟩ hl.1 (Nat.le_of_ble_eq_true rfl) dX6_between_15 (fun H locs h => ?_)
    refine lv_if_ne (tgt := 28) C.x C.bc dX6_between_18 (by decide) (fun c_6 => ?_) (fun c_6 => ?_)
    · have hx := ge_f hx c_6
      refine lv_aload_n C.x C.bc dX6_between_28 rfl (lv_at hl 0 rfl) ?_
      refine lv_iload_n C.x C.bc dX6_between_29 rfl (lv_at hl 1 rfl) ?_
      obtain ⟨r_7, hf_7, hx⟩ := bd_e hx
      refine cX6_245_X6_joinedTo C hI h hf_7 ⟨Nat.le_of_ble_eq_true rfl, Nat.le_of_ble_eq_true rfl⟩ ⟨Nat.zero_le _, Nat.zero_le _⟩ hl.1 (Nat.le_of_ble_eq_true rfl) dX6_between_30 (fun H locs h => ?_)
      refine lv_iload_n C.x C.bc dX6_between_33 rfl (lv_at hl 2 rfl) ?_
      refine lv_ishr C.x C.bc dX6_between_34 ?_
      refine lv_iconst (v := (1 : Int32)) C.x C.bc dX6_between_35 (by decide) ?_
      refine lv_iand C.x C.bc dX6_between_36 ?_
      refine lv_iconst (v := (1 : Int32)) C.x C.bc dX6_between_37 (by decide) ?_
      refine lv_icmp_ne (tgt := 57) C.x C.bc dX6_between_38 (by decide) (fun c_8 => ?_) (fun c_8 => ?_)
      · have hx := ge_f hx c_8
        exact bX6_between_57 C hI v1 v2 v3 st_1 hx h (lv_sub hl [0, 1, 2, 3] rfl)
      · have hx := ge_t hx c_8
        refine lv_aload_n C.x C.bc dX6_between_41 rfl (lv_at hl 0 rfl) ?_
        refine lv_aload_n C.x C.bc dX6_between_42 rfl (lv_at hl 0 rfl) ?_
        refine lv_iload_n C.x C.bc dX6_between_43 rfl (lv_at hl 1 rfl) ?_
        obtain ⟨r_17, hf_17, hx⟩ := bd_e hx
        refine cX6_245_X6_joinedTo C hI h hf_17 ⟨Nat.le_of_ble_eq_true rfl, Nat.le_of_ble_eq_true rfl⟩ ⟨Nat.zero_le _, Nat.zero_le _⟩ hl.1 (Nat.le_of_ble_eq_true rfl) dX6_between_44 (fun H locs h => ?_)
        obtain ⟨r_18, hf_18, hx⟩ := bd_e hx
        refine cX6_251_X6_leaks C hI h hf_18 ⟨Nat.le_of_ble_eq_true rfl, Nat.le_of_ble_eq_true rfl⟩ ⟨Nat.zero_le _, Nat.zero_le _⟩ hl.1 (Nat.le_of_ble_eq_true rfl) dX6_between_47 (fun H locs h => ?_)
        refine lv_if_eq (tgt := 57) C.x C.bc dX6_between_50 (by decide) (fun c_19 => ?_) (fun c_19 => ?_)
        · have hx := ge_t hx c_19
          exact bX6_between_57 C hI v1 v2 v3 st_1 hx h (lv_sub hl [0, 1, 2, 3] rfl)
        · have hx := ge_f hx c_19
          refine lv_iconst (v := (1 : Int32)) C.x C.bc dX6_between_53 (by decide) ?_
          refine lv_goto (tgt := 58) C.x C.bc dX6_between_54 (by decide) ?_
          exact bX6_between_58 C hI v1 v2 v3 (1 : Int32) st_1 hx h (lv_sub hl [0, 1, 2, 3] rfl)
    · have hx := ge_t hx c_6
      exact bX6_between_21 C hI st_1 hx h (lv_sub hl [0] rfl)
theorem mX6_between (hG : G0 E s0 b) (hI : Sx E) {v1 : Int32} {v2 : Int32} {v3 : Int32} {x : Int64 × St} (hx : fX6_between v1 v2 v3 st = some x) : Mt l E s0 yX6_between cX6_between 6 (some .long) rmX6_between [.ref (E.ad 68), .int v1, .int v2, .int v3] (sg st) (some (.long x.1)) E (sg x.2) :=
  Mt.of hG (by decide) (Nat.le_of_ble_eq_true rfl) (fun p e s m below meth c ls C h hl => bX6_between C hI v1 v2 v3 st hx h hl)
abbrev rmJ13_bitCount : Room := { frames := 0, cells := 0, slots := 0, locals := 0 }
def fJ13_bitCount (v0 : Int32) : Int32 :=
  nm (v0 - ((jiushr v0 (1 : Int32)) &&& (1431655765 : Int32))) fun v0_1 =>
  nm ((v0_1 &&& (858993459 : Int32)) + ((jiushr v0_1 (2 : Int32)) &&& (858993459 : Int32))) fun v0_2 =>
  nm ((v0_2 + (jiushr v0_2 (4 : Int32))) &&& (252645135 : Int32)) fun v0_3 =>
  nm (v0_3 + (jiushr v0_3 (8 : Int32))) fun v0_4 =>
  nm (v0_4 + (jiushr v0_4 (16 : Int32))) fun v0_5 =>
  (v0_5 &&& (63 : Int32))
set_option maxHeartbeats 1000000 in
theorem bJ13_bitCount (C : Cx E s0 b p s m args meth c cJ13_bitCount 1 "java/lang/Integer" (some .int)) (hI : Sx E) (v0 : Int32) {x : Int32} (hx : fJ13_bitCount v0 = x) {H : Heap} {locs : List Loc} {ls : Array Slot} (h : XH E g s H locs) (hl : lv_has ls 1 [(0, .int v0)]) : W p l e rmJ13_bitCount s m args below meth c H locs 0 0 (MQ below (Qx E (some (.int x)) g) args s 0 0 (gA E.HB)) (F0 m 0 ls []) := by
  unfold fJ13_bitCount at hx
  refine lv_iload_n C.x C.bc dJ13_bitCount_0 rfl (lv_at hl 0 rfl) ?_
  refine lv_iload_n C.x C.bc dJ13_bitCount_1 rfl (lv_at hl 0 rfl) ?_
  refine lv_iconst (v := (1 : Int32)) C.x C.bc dJ13_bitCount_2 (by decide) ?_
  refine lv_iushr (v := (jiushr v0 (1 : Int32))) C.x C.bc dJ13_bitCount_3 rfl ?_
  refine lv_ldcw (v := (1431655765 : Int32)) C.x C.bc C.ow (C.ts _ q2104) dJ13_bitCount_4 ?_
  refine lv_iand C.x C.bc dJ13_bitCount_7 ?_
  refine lv_isub C.x C.bc dJ13_bitCount_8 ?_
  obtain ⟨v0_1, e_1, hx⟩ := nm_x hx
  refine x_ti e_1 ?_
  refine lv_istore_n (lv' := [(0, .int v0_1)]) C.x C.bc dJ13_bitCount_9 rfl hl (by decide) rfl (fun ls hl => ?_)
  refine lv_iload_n C.x C.bc dJ13_bitCount_10 rfl (lv_at hl 0 rfl) ?_
  refine lv_ldcw (v := (858993459 : Int32)) C.x C.bc C.ow (C.ts _ q2105) dJ13_bitCount_11 ?_
  refine lv_iand C.x C.bc dJ13_bitCount_14 ?_
  refine lv_iload_n C.x C.bc dJ13_bitCount_15 rfl (lv_at hl 0 rfl) ?_
  refine lv_iconst (v := (2 : Int32)) C.x C.bc dJ13_bitCount_16 (by decide) ?_
  refine lv_iushr (v := (jiushr v0_1 (2 : Int32))) C.x C.bc dJ13_bitCount_17 rfl ?_
  refine lv_ldcw (v := (858993459 : Int32)) C.x C.bc C.ow (C.ts _ q2105) dJ13_bitCount_18 ?_
  refine lv_iand C.x C.bc dJ13_bitCount_21 ?_
  refine lv_iadd C.x C.bc dJ13_bitCount_22 ?_
  obtain ⟨v0_2, e_2, hx⟩ := nm_x hx
  refine x_ti e_2 ?_
  refine lv_istore_n (lv' := [(0, .int v0_2)]) C.x C.bc dJ13_bitCount_23 rfl hl (by decide) rfl (fun ls hl => ?_)
  refine lv_iload_n C.x C.bc dJ13_bitCount_24 rfl (lv_at hl 0 rfl) ?_
  refine lv_iload_n C.x C.bc dJ13_bitCount_25 rfl (lv_at hl 0 rfl) ?_
  refine lv_iconst (v := (4 : Int32)) C.x C.bc dJ13_bitCount_26 (by decide) ?_
  refine lv_iushr (v := (jiushr v0_2 (4 : Int32))) C.x C.bc dJ13_bitCount_27 rfl ?_
  refine lv_iadd C.x C.bc dJ13_bitCount_28 ?_
  refine lv_ldcw (v := (252645135 : Int32)) C.x C.bc C.ow (C.ts _ q2106) dJ13_bitCount_29 ?_
  refine lv_iand C.x C.bc dJ13_bitCount_32 ?_
  obtain ⟨v0_3, e_3, hx⟩ := nm_x hx
  refine x_ti e_3 ?_
  refine lv_istore_n (lv' := [(0, .int v0_3)]) C.x C.bc dJ13_bitCount_33 rfl hl (by decide) rfl (fun ls hl => ?_)
  refine lv_iload_n C.x C.bc dJ13_bitCount_34 rfl (lv_at hl 0 rfl) ?_
  refine lv_iload_n C.x C.bc dJ13_bitCount_35 rfl (lv_at hl 0 rfl) ?_
  refine lv_bipush (v := (8 : Int32)) C.x C.bc dJ13_bitCount_36 (by decide) ?_
  refine lv_iushr (v := (jiushr v0_3 (8 : Int32))) C.x C.bc dJ13_bitCount_38 rfl ?_
  refine lv_iadd C.x C.bc dJ13_bitCount_39 ?_
  obtain ⟨v0_4, e_4, hx⟩ := nm_x hx
  refine x_ti e_4 ?_
  refine lv_istore_n (lv' := [(0, .int v0_4)]) C.x C.bc dJ13_bitCount_40 rfl hl (by decide) rfl (fun ls hl => ?_)
  refine lv_iload_n C.x C.bc dJ13_bitCount_41 rfl (lv_at hl 0 rfl) ?_
  refine lv_iload_n C.x C.bc dJ13_bitCount_42 rfl (lv_at hl 0 rfl) ?_
  refine lv_bipush (v := (16 : Int32)) C.x C.bc dJ13_bitCount_43 (by decide) ?_
  refine lv_iushr (v := (jiushr v0_4 (16 : Int32))) C.x C.bc dJ13_bitCount_45 rfl ?_
  refine lv_iadd C.x C.bc dJ13_bitCount_46 ?_
  obtain ⟨v0_5, e_5, hx⟩ := nm_x hx
  refine x_ti e_5 ?_
  refine lv_istore_n (lv' := [(0, .int v0_5)]) C.x C.bc dJ13_bitCount_47 rfl hl (by decide) rfl (fun ls hl => ?_)
  refine lv_iload_n C.x C.bc dJ13_bitCount_48 rfl (lv_at hl 0 rfl) ?_
  refine lv_bipush (v := (63 : Int32)) C.x C.bc dJ13_bitCount_49 (by decide) ?_
  refine lv_iand C.x C.bc dJ13_bitCount_51 ?_
  subst hx
  exact x_iret C h dJ13_bitCount_52
theorem mJ13_bitCount (hG : G0 E s0 b) (hI : Sx E) {v0 : Int32} {x : Int32} (hx : fJ13_bitCount v0 = x) : Mt l E s0 yJ13_bitCount cJ13_bitCount 1 (some .int) rmJ13_bitCount [.int v0] g (some (.int x)) E g :=
  Mt.of hG (by decide) (Nat.le_of_ble_eq_true rfl) (fun p e s m below meth c ls C h hl => bJ13_bitCount C hI v0 hx h hl)
theorem cX6_427_J13_bitCount {a0 : Int32} {r : Int32} (C : Cx E s0 b p s m args meth c cc nL "EarthMeshModel" rt) (hI : Sx E) (h : XH E g s H locs) (hf : fJ13_bitCount a0 = r) (hR : rmJ13_bitCount.frames + 1 ≤ R.frames ∧ 16 + (1 + 11) + rmJ13_bitCount.locals ≤ R.locals) (h0 : cells ≤ R.cells ∧ slots ≤ R.slots) (hsz : ls.size = nL) (hcat : (rest.map fun v => v.category).sum ≤ 16) (hdg : decode cc pc = .ok (.invokestatic 427, 3)) (kk : ∀ (H : Heap) (locs : List Loc), XH E g s H locs → W p l e R s m args below meth c H locs cells slots Q (F0 m (pc + 3) ls (.int r :: rest))) : W p l e R s m args below meth c H locs cells slots Q (F0 m pc ls (.int a0 :: rest)) :=
  x_callS (n := 1) (As := [.int a0]) C h (mJ13_bitCount C.g hI hf) (lw_S q2101 q2102 q154 q2103) ⟨by decide +kernel, by decide +kernel, by decide +kernel⟩ hR ⟨rfl, rfl⟩ h0 rfl hsz rfl hcat hdg kk
abbrev rmX6_seen : Room := { frames := 6, cells := 0, slots := 0, locals := 204 }
def fX6_seen_34 (st : St) : Option (Int64 × St) :=
  bd (fX6_fail (1 : Int32) st) <| u2 fun r_5 st_5 =>
  some ((r_5.toInt64), st_5)
set_option maxHeartbeats 1000000 in
theorem bX6_seen_34 (C : Cx E s0 b p s m args meth c cX6_seen 11 "EarthMeshModel" (some .long)) (hI : Sx E) (st : St) {x : Int64 × St} (hx : fX6_seen_34 st = some x) {H : Heap} {locs : List Loc} {ls : Array Slot} (h : XH E (sg st) s H locs) (hl : lv_has ls 11 [(0, .ref (E.ad 68))]) : W p l e rmX6_seen s m args below meth c H locs 0 0 (MQ below (Qx E (some (.long x.1)) (sg x.2)) args s 0 0 (gA E.HB)) (F0 m 34 ls []) := by
  unfold fX6_seen_34 at hx
  refine lv_aload_n C.x C.bc dX6_seen_34 rfl (lv_at hl 0 rfl) ?_
  refine lv_iconst (v := (1 : Int32)) C.x C.bc dX6_seen_35 (by decide) ?_
  obtain ⟨⟨r_5, st_5⟩, hf_5, hx⟩ := bd_e hx
  have hx := u2_e hx
  refine cX6_182_X6_fail C hI h hf_5 ⟨Nat.le_of_ble_eq_true rfl, Nat.le_of_ble_eq_true rfl⟩ ⟨Nat.zero_le _, Nat.zero_le _⟩ hl.1 (Nat.le_of_ble_eq_true rfl) dX6_seen_36 (fun H locs h => ?_)
  refine lv_i2l (v := (r_5.toInt64)) C.x C.bc dX6_seen_39 rfl ?_
  obtain rfl := Option.some.inj hx
  exact x_lret C h dX6_seen_40
def fX6_seen_117 (v2 : Int32) (v3 : Int32) (v4 : Int32) (v6 : Int32) (v7 : Int32) (st : St) : Option ((Int32 × St) ⊕ (St)) :=
  nm (fJ13_bitCount v6) fun r_12 =>
  if r_12 ≤ v7 then
    some (.inr st)
  else
    bd (fX6_clears v7 (0 : Int32) st) fun st_14 =>
    nm (v7 + (1 : Int32)) fun v7_15 =>
    some (.inl (v7_15, st_14))
set_option maxHeartbeats 1000000 in
theorem bX6_seen_117 (C : Cx E s0 b p s m args meth c cX6_seen 11 "EarthMeshModel" (some .long)) (hI : Sx E) (v2 : Int32) (v3 : Int32) (v4 : Int32) (v6 : Int32) (v7 : Int32) (st : St) {x : (Int32 × St) ⊕ (St)} (hx : fX6_seen_117 v2 v3 v4 v6 v7 st = some x) {Q : State → Prop} {G : Int32 × St → Prop} {X : St → Prop} (hG : ∀ (w7 : Int32) (wst : St), G (w7, wst) → ∀ (H : Heap) (locs : List Loc) (ls : Array Slot), XH E (sg wst) s H locs → lv_has ls 11 [(0, .ref (E.ad 68)), (2, .int v2), (3, .int v3), (4, .int v4), (6, .int v6), (7, .int w7)] → W p l e rmX6_seen s m args below meth c H locs 0 0 Q (F0 m 117 ls [])) (hE0 : ∀ (wst : St), X wst → ∀ (H : Heap) (locs : List Loc) (ls : Array Slot), XH E (sg wst) s H locs → lv_has ls 11 [(0, .ref (E.ad 68)), (2, .int v2), (3, .int v3), (4, .int v4), (6, .int v6)] → W p l e rmX6_seen s m args below meth c H locs 0 0 Q (F0 m 140 ls [])) (K : Kx G X x) {H : Heap} {locs : List Loc} {ls : Array Slot} (h : XH E (sg st) s H locs) (hl : lv_has ls 11 [(0, .ref (E.ad 68)), (2, .int v2), (3, .int v3), (4, .int v4), (6, .int v6), (7, .int v7)]) : W p l e rmX6_seen s m args below meth c H locs 0 0 Q (F0 m 117 ls []) := by
  unfold fX6_seen_117 at hx
  refine lv_iload C.x C.bc dX6_seen_117 (lv_at hl 5 rfl) ?_
  refine lv_iload C.x C.bc dX6_seen_119 (lv_at hl 4 rfl) ?_
  obtain ⟨r_12, e_12, hx⟩ := nm_x hx
  refine cX6_427_J13_bitCount C hI h e_12.symm ⟨Nat.le_of_ble_eq_true rfl, Nat.le_of_ble_eq_true rfl⟩ ⟨Nat.zero_le _, Nat.zero_le _⟩ hl.1 (Nat.le_of_ble_eq_true rfl) dX6_seen_121 (fun H locs h => ?_)
  refine lv_icmp_ge (tgt := 140) C.x C.bc dX6_seen_124 (by decide) (fun c_13 => ?_) (fun c_13 => ?_)
  · have hx := ge_t hx c_13
    obtain rfl := Option.some.inj hx
    exact hE0 _ K _ _ _ h (lv_sub hl [0, 1, 2, 3, 4] rfl)
  · have hx := ge_f hx c_13
    refine lv_aload_n C.x C.bc dX6_seen_127 rfl (lv_at hl 0 rfl) ?_
    refine lv_iload C.x C.bc dX6_seen_128 (lv_at hl 5 rfl) ?_
    refine lv_iconst (v := (0 : Int32)) C.x C.bc dX6_seen_130 (by decide) ?_
    obtain ⟨st_14, hf_14, hx⟩ := bd_e hx
    refine cX6_263_X6_clears C hI h hf_14 ⟨Nat.le_of_ble_eq_true rfl, Nat.le_of_ble_eq_true rfl⟩ ⟨Nat.zero_le _, Nat.zero_le _⟩ hl.1 (Nat.le_of_ble_eq_true rfl) dX6_seen_131 (fun H locs h => ?_)
    obtain ⟨v7_15, e_15, hx⟩ := nm_x hx
    refine lv_iinc (v := v7_15) (lv' := [(7, .int v7_15), (0, .ref (E.ad 68)), (2, .int v2), (3, .int v3), (4, .int v4), (6, .int v6)]) C.x C.bc dX6_seen_134 hl (k := 5) rfl (by rw [e_15]; rfl) (by decide) rfl (fun ls hl => ?_)
    refine lv_goto (tgt := 117) C.x C.bc dX6_seen_137 (by decide) ?_
    obtain rfl := Option.some.inj hx
    exact hG _ _ K _ _ _ h (lv_sub hl [1, 2, 3, 4, 5, 0] rfl)
set_option maxHeartbeats 1000000 in
theorem pX6_seen_117 (C : Cx E s0 b p s m args meth c cX6_seen 11 "EarthMeshModel" (some .long)) (hI : Sx E) (v2 : Int32) (v3 : Int32) (v4 : Int32) (v6 : Int32) {Q : State → Prop} {v7 : Int32} {st : St} {n : Nat} {r : St} (hx : iter (u2 fun v7 st => fX6_seen_117 v2 v3 v4 v6 v7 st) n (v7, st) = some r) (hE : (fun t => ∀ (H : Heap) (locs : List Loc) (ls : Array Slot), XH E (sg t) s H locs → lv_has ls 11 [(0, .ref (E.ad 68)), (2, .int v2), (3, .int v3), (4, .int v4), (6, .int v6)] → W p l e rmX6_seen s m args below meth c H locs 0 0 Q (F0 m 140 ls [])) r) {H : Heap} {locs : List Loc} {ls : Array Slot} (h : XH E (sg st) s H locs) (hl : lv_has ls 11 [(0, .ref (E.ad 68)), (2, .int v2), (3, .int v3), (4, .int v4), (6, .int v6), (7, .int v7)]) : W p l e rmX6_seen s m args below meth c H locs 0 0 Q (F0 m 117 ls []) := by
  refine iter_W (G := fun t => ∀ (H : Heap) (locs : List Loc) (ls : Array Slot), XH E (sg t.2) s H locs → lv_has ls 11 [(0, .ref (E.ad 68)), (2, .int v2), (3, .int v3), (4, .int v4), (6, .int v6), (7, .int t.1)] → W p l e rmX6_seen s m args below meth c H locs 0 0 Q (F0 m 117 ls [])) (E := fun t => ∀ (H : Heap) (locs : List Loc) (ls : Array Slot), XH E (sg t) s H locs → lv_has ls 11 [(0, .ref (E.ad 68)), (2, .int v2), (3, .int v3), (4, .int v4), (6, .int v6)] → W p l e rmX6_seen s m args below meth c H locs 0 0 Q (F0 m 140 ls [])) (fun t x hx K H locs ls h hl => ?_) n _ r hx hE H locs ls h hl
  obtain ⟨v7, st⟩ := t
  exact bX6_seen_117 C hI v2 v3 v4 v6 v7 st hx (fun _ _ z => z) (fun _ z => z) K h hl
def fX6_seen_177 (v2 : Int32) (v3 : Int32) (v4 : Int32) (v7 : Int32) (v8 : Int64) (v10 : Int32) (st : St) : Option ((Int64 × Int32) ⊕ (Int64)) :=
  if (st.1 68 18) ≤ v10 then
    some (.inr v8)
  else
    if v2 = v3 then
      bd (fX6_cell v7 v10 st) fun r_24 =>
      nm (v8 + r_24) fun v8_25 =>
      nm (v10 + (1 : Int32)) fun v10_26 =>
      some (.inl (v8_25, v10_26))
    else
      some (.inr v8)
set_option maxHeartbeats 1000000 in
theorem bX6_seen_177 (C : Cx E s0 b p s m args meth c cX6_seen 11 "EarthMeshModel" (some .long)) (hI : Sx E) (v2 : Int32) (v3 : Int32) (v4 : Int32) (v7 : Int32) (v8 : Int64) (v10 : Int32) (st : St) {x : (Int64 × Int32) ⊕ (Int64)} (hx : fX6_seen_177 v2 v3 v4 v7 v8 v10 st = some x) {Q : State → Prop} {G : Int64 × Int32 → Prop} {X : Int64 → Prop} (hG : ∀ (w8 : Int64) (w10 : Int32), G (w8, w10) → ∀ (H : Heap) (locs : List Loc) (ls : Array Slot), XH E (sg st) s H locs → lv_has ls 11 [(0, .ref (E.ad 68)), (2, .int v2), (3, .int v3), (4, .int v4), (7, .int v7), (8, .long w8), (10, .int w10)] → W p l e rmX6_seen s m args below meth c H locs 0 0 Q (F0 m 177 ls [])) (hE0 : ∀ (w8 : Int64), X w8 → ∀ (H : Heap) (locs : List Loc) (ls : Array Slot), XH E (sg st) s H locs → lv_has ls 11 [(0, .ref (E.ad 68)), (4, .int v4), (8, .long w8)] → W p l e rmX6_seen s m args below meth c H locs 0 0 Q (F0 m 210 ls [])) (K : Kx G X x) {H : Heap} {locs : List Loc} {ls : Array Slot} (h : XH E (sg st) s H locs) (hl : lv_has ls 11 [(0, .ref (E.ad 68)), (2, .int v2), (3, .int v3), (4, .int v4), (7, .int v7), (8, .long v8), (10, .int v10)]) : W p l e rmX6_seen s m args below meth c H locs 0 0 Q (F0 m 177 ls []) := by
  unfold fX6_seen_177 at hx
  refine lv_iload C.x C.bc dX6_seen_177 (lv_at hl 6 rfl) ?_
  refine lv_aload_n C.x C.bc dX6_seen_179 rfl (lv_at hl 0 rfl) ?_
  refine gt_X6_223_68 C hI h dX6_seen_180 ?_
  refine lv_icmp_ge (tgt := 210) C.x C.bc dX6_seen_183 (by decide) (fun c_22 => ?_) (fun c_22 => ?_)
  · have hx := ge_t hx c_22
    obtain rfl := Option.some.inj hx
    exact hE0 _ K _ _ _ h (lv_sub hl [0, 3, 5] rfl)
  · have hx := ge_f hx c_22
    refine lv_iload_n C.x C.bc dX6_seen_186 rfl (lv_at hl 1 rfl) ?_
    refine lv_iload_n C.x C.bc dX6_seen_187 rfl (lv_at hl 2 rfl) ?_
    refine lv_icmp_ne (tgt := 210) C.x C.bc dX6_seen_188 (by decide) (fun c_23 => ?_) (fun c_23 => ?_)
    · have hx := ge_f hx c_23
      obtain rfl := Option.some.inj hx
      exact hE0 _ K _ _ _ h (lv_sub hl [0, 3, 5] rfl)
    · have hx := ge_t hx c_23
      refine lv_lload C.x C.bc dX6_seen_191 (lv_at hl 5 rfl) ?_
      refine lv_aload_n C.x C.bc dX6_seen_193 rfl (lv_at hl 0 rfl) ?_
      refine lv_iload C.x C.bc dX6_seen_194 (lv_at hl 4 rfl) ?_
      refine lv_iload C.x C.bc dX6_seen_196 (lv_at hl 6 rfl) ?_
      obtain ⟨r_24, hf_24, hx⟩ := bd_e hx
      refine cX6_237_X6_cell C hI h hf_24 ⟨Nat.le_of_ble_eq_true rfl, Nat.le_of_ble_eq_true rfl⟩ ⟨Nat.zero_le _, Nat.zero_le _⟩ hl.1 (Nat.le_of_ble_eq_true rfl) dX6_seen_198 (fun H locs h => ?_)
      refine lv_ladd C.x C.bc dX6_seen_201 ?_
      obtain ⟨v8_25, e_25, hx⟩ := nm_x hx
      refine x_tl e_25 ?_
      refine lv_lstore (lv' := [(8, .long v8_25), (0, .ref (E.ad 68)), (2, .int v2), (3, .int v3), (4, .int v4), (7, .int v7), (10, .int v10)]) C.x C.bc dX6_seen_202 hl (by decide) rfl (fun ls hl => ?_)
      obtain ⟨v10_26, e_26, hx⟩ := nm_x hx
      refine lv_iinc (v := v10_26) (lv' := [(10, .int v10_26), (8, .long v8_25), (0, .ref (E.ad 68)), (2, .int v2), (3, .int v3), (4, .int v4), (7, .int v7)]) C.x C.bc dX6_seen_204 hl (k := 6) rfl (by rw [e_26]; rfl) (by decide) rfl (fun ls hl => ?_)
      refine lv_goto (tgt := 177) C.x C.bc dX6_seen_207 (by decide) ?_
      obtain rfl := Option.some.inj hx
      exact hG _ _ K _ _ _ h (lv_sub hl [2, 3, 4, 5, 6, 1, 0] rfl)
set_option maxHeartbeats 1000000 in
theorem pX6_seen_177 (C : Cx E s0 b p s m args meth c cX6_seen 11 "EarthMeshModel" (some .long)) (hI : Sx E) (v2 : Int32) (v3 : Int32) (v4 : Int32) (v7 : Int32) (st : St) {Q : State → Prop} {v8 : Int64} {v10 : Int32} {n : Nat} {r : Int64} (hx : iter (u2 fun v8 v10 => fX6_seen_177 v2 v3 v4 v7 v8 v10 st) n (v8, v10) = some r) (hE : (fun t => ∀ (H : Heap) (locs : List Loc) (ls : Array Slot), XH E (sg st) s H locs → lv_has ls 11 [(0, .ref (E.ad 68)), (4, .int v4), (8, .long t)] → W p l e rmX6_seen s m args below meth c H locs 0 0 Q (F0 m 210 ls [])) r) {H : Heap} {locs : List Loc} {ls : Array Slot} (h : XH E (sg st) s H locs) (hl : lv_has ls 11 [(0, .ref (E.ad 68)), (2, .int v2), (3, .int v3), (4, .int v4), (7, .int v7), (8, .long v8), (10, .int v10)]) : W p l e rmX6_seen s m args below meth c H locs 0 0 Q (F0 m 177 ls []) := by
  refine iter_W (G := fun t => ∀ (H : Heap) (locs : List Loc) (ls : Array Slot), XH E (sg st) s H locs → lv_has ls 11 [(0, .ref (E.ad 68)), (2, .int v2), (3, .int v3), (4, .int v4), (7, .int v7), (8, .long t.1), (10, .int t.2)] → W p l e rmX6_seen s m args below meth c H locs 0 0 Q (F0 m 177 ls [])) (E := fun t => ∀ (H : Heap) (locs : List Loc) (ls : Array Slot), XH E (sg st) s H locs → lv_has ls 11 [(0, .ref (E.ad 68)), (4, .int v4), (8, .long t)] → W p l e rmX6_seen s m args below meth c H locs 0 0 Q (F0 m 210 ls [])) (fun t x hx K H locs ls h hl => ?_) n _ r hx hE H locs ls h hl
  obtain ⟨v8, v10⟩ := t
  exact bX6_seen_177 C hI v2 v3 v4 v7 v8 v10 st hx (fun _ _ z => z) (fun _ z => z) K h hl
def fX6_seen_168 (v2 : Int32) (v3 : Int32) (v4 : Int32) (v6 : Int32) (v7 : Int32) (k0 : Int64) (st : St) : Option (Int64 × St) :=
  nm (fJ13_bitCount v6) fun r_21 =>
  bd (iter (u2 fun z8 z10 => fX6_seen_177 v2 v3 v4 v7 z8 z10 st) FU (k0, r_21)) (u1 fun v8_27 =>
  bd (fX6_side v8_27 (st.2.1 68 19) v4) fun r_28 =>
  some (r_28, st))
set_option maxHeartbeats 1000000 in
theorem bX6_seen_168 (C : Cx E s0 b p s m args meth c cX6_seen 11 "EarthMeshModel" (some .long)) (hI : Sx E) (v2 : Int32) (v3 : Int32) (v4 : Int32) (v6 : Int32) (v7 : Int32) (k0 : Int64) (st : St) {x : Int64 × St} (hx : fX6_seen_168 v2 v3 v4 v6 v7 k0 st = some x) {H : Heap} {locs : List Loc} {ls : Array Slot} (h : XH E (sg st) s H locs) (hl : lv_has ls 11 [(0, .ref (E.ad 68)), (2, .int v2), (3, .int v3), (4, .int v4), (6, .int v6), (7, .int v7)]) : W p l e rmX6_seen s m args below meth c H locs 0 0 (MQ below (Qx E (some (.long x.1)) (sg x.2)) args s 0 0 (gA E.HB)) (F0 m 168 ls [.long k0]) := by
  unfold fX6_seen_168 at hx
  refine lv_lstore (lv' := [(8, .long k0), (0, .ref (E.ad 68)), (2, .int v2), (3, .int v3), (4, .int v4), (6, .int v6), (7, .int v7)]) C.x C.bc dX6_seen_168 hl (by decide) rfl (fun ls hl => ?_)
  refine lv_iload C.x C.bc dX6_seen_170 (lv_at hl 5 rfl) ?_
  obtain ⟨r_21, e_21, hx⟩ := nm_x hx
  refine cX6_427_J13_bitCount C hI h e_21.symm ⟨Nat.le_of_ble_eq_true rfl, Nat.le_of_ble_eq_true rfl⟩ ⟨Nat.zero_le _, Nat.zero_le _⟩ hl.1 (Nat.le_of_ble_eq_true rfl) dX6_seen_172 (fun H locs h => ?_)
  refine lv_istore (lv' := [(10, .int r_21), (8, .long k0), (0, .ref (E.ad 68)), (2, .int v2), (3, .int v3), (4, .int v4), (6, .int v6), (7, .int v7)]) C.x C.bc dX6_seen_175 hl (by decide) rfl (fun ls hl => ?_)
  obtain ⟨v8_27, hi_27, hx⟩ := bd_e hx
  have hx := u1_e hx
  refine pX6_seen_177 C hI v2 v3 v4 v7 st hi_27 (fun H locs ls h hl => ?_) h (lv_sub hl [2, 3, 4, 5, 7, 1, 0] rfl)
  refine lv_lload C.x C.bc dX6_seen_210 (lv_at hl 2 rfl) ?_
  refine lv_aload_n C.x C.bc dX6_seen_212 rfl (lv_at hl 0 rfl) ?_
  refine gt_X6_233_68 C hI h dX6_seen_213 ?_
  refine lv_iload C.x C.bc dX6_seen_216 (lv_at hl 1 rfl) ?_
  obtain ⟨r_28, hf_28, hx⟩ := bd_e hx
  refine cX6_307_X6_side C hI h hf_28 ⟨Nat.le_of_ble_eq_true rfl, Nat.le_of_ble_eq_true rfl⟩ ⟨Nat.zero_le _, Nat.zero_le _⟩ hl.1 (Nat.le_of_ble_eq_true rfl) dX6_seen_218 (fun H locs h => ?_)
  obtain rfl := Option.some.inj hx
  exact x_lret C h dX6_seen_221
def fX6_seen_80 (v1 : Int32) (v2 : Int32) (v3 : Int32) (v4 : Int32) (k0 : Int32) (st : St) : Option (Int64 × St) :=
  if k0 = 0 then
    bd (fX6_fail (2 : Int32) st) <| u2 fun r_29 st_29 =>
    some ((r_29.toInt64), st_29)
  else
    nm ((st.1 68 21) &&& (v1 ^^^ (-1 : Int32))) fun v6_10 =>
    bd (fX6_layRows (st.1 68 21) v6_10 st) fun st_11 =>
    bd (iter (u2 fun z7 zst => fX6_seen_117 v2 v3 v4 v6_10 z7 zst) FU ((0 : Int32), st_11)) (u1 fun st_16 =>
    bd (fX6_placeOf v2 st_16) fun r_17 =>
    if v2 = v3 then
      fX6_seen_168 v2 v3 v4 v6_10 r_17 (0 : Int64) st_16
    else
      bd (fX6_placeOf v3 st_16) fun r_19 =>
      bd (fX6_cell r_17 r_19 st_16) fun r_20 =>
      fX6_seen_168 v2 v3 v4 v6_10 r_17 (-r_20) st_16)
set_option maxHeartbeats 1000000 in
theorem bX6_seen_80 (C : Cx E s0 b p s m args meth c cX6_seen 11 "EarthMeshModel" (some .long)) (hI : Sx E) (v1 : Int32) (v2 : Int32) (v3 : Int32) (v4 : Int32) (k0 : Int32) (st : St) {x : Int64 × St} (hx : fX6_seen_80 v1 v2 v3 v4 k0 st = some x) {H : Heap} {locs : List Loc} {ls : Array Slot} (h : XH E (sg st) s H locs) (hl : lv_has ls 11 [(0, .ref (E.ad 68)), (1, .int v1), (2, .int v2), (3, .int v3), (4, .int v4)]) : W p l e rmX6_seen s m args below meth c H locs 0 0 (MQ below (Qx E (some (.long x.1)) (sg x.2)) args s 0 0 (gA E.HB)) (F0 m 80 ls [.int k0]) := by
  unfold fX6_seen_80 at hx
  refine lv_istore (lv' := [(5, .int k0), (0, .ref (E.ad 68)), (1, .int v1), (2, .int v2), (3, .int v3), (4, .int v4)]) C.x C.bc dX6_seen_80 hl (by decide) rfl (fun ls hl => ?_)
  refine lv_iload C.x C.bc dX6_seen_82 (lv_at hl 0 rfl) ?_
  refine lv_if_ne (tgt := 94) C.x C.bc dX6_seen_84 (by decide) (fun c_9 => ?_) (fun c_9 => ?_)
  · have hx := ge_f hx c_9
    refine lv_aload_n C.x C.bc dX6_seen_94 rfl (lv_at hl 1 rfl) ?_
    refine gt_X6_248_68 C hI h dX6_seen_95 ?_
    refine lv_iload_n C.x C.bc dX6_seen_98 rfl (lv_at hl 2 rfl) ?_
    refine lv_iconst (v := (-1 : Int32)) C.x C.bc dX6_seen_99 (by decide) ?_
    refine lv_ixor C.x C.bc dX6_seen_100 ?_
    refine lv_iand C.x C.bc dX6_seen_101 ?_
    obtain ⟨v6_10, e_10, hx⟩ := nm_x hx
    refine x_ti e_10 ?_
    refine lv_istore (lv' := [(6, .int v6_10), (5, .int k0), (0, .ref (E.ad 68)), (1, .int v1), (2, .int v2), (3, .int v3), (4, .int v4)]) C.x C.bc dX6_seen_102 hl (by decide) rfl (fun ls hl => ?_)
    refine lv_aload_n C.x C.bc dX6_seen_104 rfl (lv_at hl 2 rfl) ?_
    refine lv_aload_n C.x C.bc dX6_seen_105 rfl (lv_at hl 2 rfl) ?_
    refine gt_X6_248_68 C hI h dX6_seen_106 ?_
    refine lv_iload C.x C.bc dX6_seen_109 (lv_at hl 0 rfl) ?_
    obtain ⟨st_11, hf_11, hx⟩ := bd_e hx
    refine cX6_254_X6_layRows C hI h hf_11 ⟨Nat.le_of_ble_eq_true rfl, Nat.le_of_ble_eq_true rfl⟩ ⟨Nat.zero_le _, Nat.zero_le _⟩ hl.1 (Nat.le_of_ble_eq_true rfl) dX6_seen_111 (fun H locs h => ?_)
    refine lv_iconst (v := (0 : Int32)) C.x C.bc dX6_seen_114 (by decide) ?_
    refine lv_istore (lv' := [(7, .int (0 : Int32)), (6, .int v6_10), (5, .int k0), (0, .ref (E.ad 68)), (1, .int v1), (2, .int v2), (3, .int v3), (4, .int v4)]) C.x C.bc dX6_seen_115 hl (by decide) rfl (fun ls hl => ?_)
    obtain ⟨st_16, hi_16, hx⟩ := bd_e hx
    have hx := u1_e hx
    refine pX6_seen_117 C hI v2 v3 v4 v6_10 hi_16 (fun H locs ls h hl => ?_) h (lv_sub hl [3, 5, 6, 7, 1, 0] rfl)
    refine lv_aload_n C.x C.bc dX6_seen_140 rfl (lv_at hl 0 rfl) ?_
    refine lv_iload_n C.x C.bc dX6_seen_141 rfl (lv_at hl 1 rfl) ?_
    obtain ⟨r_17, hf_17, hx⟩ := bd_e hx
    refine cX6_258_X6_placeOf C hI h hf_17 ⟨Nat.le_of_ble_eq_true rfl, Nat.le_of_ble_eq_true rfl⟩ ⟨Nat.zero_le _, Nat.zero_le _⟩ hl.1 (Nat.le_of_ble_eq_true rfl) dX6_seen_142 (fun H locs h => ?_)
    refine lv_istore (lv' := [(7, .int r_17), (0, .ref (E.ad 68)), (2, .int v2), (3, .int v3), (4, .int v4), (6, .int v6_10)]) C.x C.bc dX6_seen_145 hl (by decide) rfl (fun ls hl => ?_)
    refine lv_iload_n C.x C.bc dX6_seen_147 rfl (lv_at hl 2 rfl) ?_
    refine lv_iload_n C.x C.bc dX6_seen_148 rfl (lv_at hl 3 rfl) ?_
    refine lv_icmp_ne (tgt := 156) C.x C.bc dX6_seen_149 (by decide) (fun c_18 => ?_) (fun c_18 => ?_)
    · have hx := ge_f hx c_18
      refine lv_aload_n C.x C.bc dX6_seen_156 rfl (lv_at hl 1 rfl) ?_
      refine lv_iload C.x C.bc dX6_seen_157 (lv_at hl 0 rfl) ?_
      refine lv_aload_n C.x C.bc dX6_seen_159 rfl (lv_at hl 1 rfl) ?_
      refine lv_iload_n C.x C.bc dX6_seen_160 rfl (lv_at hl 3 rfl) ?_
      obtain ⟨r_19, hf_19, hx⟩ := bd_e hx
      refine cX6_258_X6_placeOf C hI h hf_19 ⟨Nat.le_of_ble_eq_true rfl, Nat.le_of_ble_eq_true rfl⟩ ⟨Nat.zero_le _, Nat.zero_le _⟩ hl.1 (Nat.le_of_ble_eq_true rfl) dX6_seen_161 (fun H locs h => ?_)
      obtain ⟨r_20, hf_20, hx⟩ := bd_e hx
      refine cX6_237_X6_cell C hI h hf_20 ⟨Nat.le_of_ble_eq_true rfl, Nat.le_of_ble_eq_true rfl⟩ ⟨Nat.zero_le _, Nat.zero_le _⟩ hl.1 (Nat.le_of_ble_eq_true rfl) dX6_seen_164 (fun H locs h => ?_)
      refine lv_lneg C.x C.bc dX6_seen_167 ?_
      exact bX6_seen_168 C hI v2 v3 v4 v6_10 r_17 (-r_20) st_16 hx h (lv_sub hl [1, 2, 3, 4, 5, 0] rfl)
    · have hx := ge_t hx c_18
      refine lv_lconst (v := (0 : Int64)) C.x C.bc dX6_seen_152 (by decide) ?_
      refine lv_goto (tgt := 168) C.x C.bc dX6_seen_153 (by decide) ?_
      exact bX6_seen_168 C hI v2 v3 v4 v6_10 r_17 (0 : Int64) st_16 hx h (lv_sub hl [1, 2, 3, 4, 5, 0] rfl)
  · have hx := ge_t hx c_9
    refine lv_aload_n C.x C.bc dX6_seen_87 rfl (lv_at hl 1 rfl) ?_
    refine lv_iconst (v := (2 : Int32)) C.x C.bc dX6_seen_88 (by decide) ?_
    obtain ⟨⟨r_29, st_29⟩, hf_29, hx⟩ := bd_e hx
    have hx := u2_e hx
    refine cX6_182_X6_fail C hI h hf_29 ⟨Nat.le_of_ble_eq_true rfl, Nat.le_of_ble_eq_true rfl⟩ ⟨Nat.zero_le _, Nat.zero_le _⟩ hl.1 (Nat.le_of_ble_eq_true rfl) dX6_seen_89 (fun H locs h => ?_)
    refine lv_i2l (v := (r_29.toInt64)) C.x C.bc dX6_seen_92 rfl ?_
    obtain rfl := Option.some.inj hx
    exact x_lret C h dX6_seen_93
def fX6_seen_79 (v1 : Int32) (v2 : Int32) (v3 : Int32) (v4 : Int32) (st : St) : Option (Int64 × St) :=
  fX6_seen_80 v1 v2 v3 v4 (0 : Int32) st
set_option maxHeartbeats 1000000 in
theorem bX6_seen_79 (C : Cx E s0 b p s m args meth c cX6_seen 11 "EarthMeshModel" (some .long)) (hI : Sx E) (v1 : Int32) (v2 : Int32) (v3 : Int32) (v4 : Int32) (st : St) {x : Int64 × St} (hx : fX6_seen_79 v1 v2 v3 v4 st = some x) {H : Heap} {locs : List Loc} {ls : Array Slot} (h : XH E (sg st) s H locs) (hl : lv_has ls 11 [(0, .ref (E.ad 68)), (1, .int v1), (2, .int v2), (3, .int v3), (4, .int v4)]) : W p l e rmX6_seen s m args below meth c H locs 0 0 (MQ below (Qx E (some (.long x.1)) (sg x.2)) args s 0 0 (gA E.HB)) (F0 m 79 ls []) := by
  unfold fX6_seen_79 at hx
  refine lv_iconst (v := (0 : Int32)) C.x C.bc dX6_seen_79 (by decide) ?_
  exact bX6_seen_80 C hI v1 v2 v3 v4 (0 : Int32) st hx h (lv_sub hl [0, 1, 2, 3, 4] rfl)
def fX6_seen (v1 : Int32) (v2 : Int32) (v3 : Int32) (v4 : Int32) (st : St) : Option (Int64 × St) :=
  nm (uI st 68 1 (0 : Int32)) fun st_1 =>
  bd (fX6_solvesNow st_1) <| u2 fun r_2 st_2 =>
  if r_2 = 0 then
    bd (fX6_fail (3 : Int32) st_2) <| u2 fun r_34 st_34 =>
    some ((r_34.toInt64), st_34)
  else
    if v1 ≤ 0 then
      fX6_seen_34 st_2
    else
      if (v1 &&& ((st_2.1 68 21) ^^^ (-1 : Int32))) = 0 then
        bd (fX6_isNode v2 st_2) fun r_7 =>
        if r_7 = 0 then
          fX6_seen_79 v1 v2 v3 v4 st_2
        else
          bd (fX6_isNode v3 st_2) fun r_30 =>
          if r_30 = 0 then
            fX6_seen_79 v1 v2 v3 v4 st_2
          else
            if ((v1 >>> (v2 &&& 31)) &&& (1 : Int32)) = (1 : Int32) then
              if ((v1 >>> (v3 &&& 31)) &&& (1 : Int32)) = (1 : Int32) then
                fX6_seen_80 v1 v2 v3 v4 (1 : Int32) st_2
              else
                fX6_seen_79 v1 v2 v3 v4 st_2
            else
              fX6_seen_79 v1 v2 v3 v4 st_2
      else
        fX6_seen_34 st_2
set_option maxHeartbeats 1000000 in
theorem bX6_seen (C : Cx E s0 b p s m args meth c cX6_seen 11 "EarthMeshModel" (some .long)) (hI : Sx E) (v1 : Int32) (v2 : Int32) (v3 : Int32) (v4 : Int32) (st : St) {x : Int64 × St} (hx : fX6_seen v1 v2 v3 v4 st = some x) {H : Heap} {locs : List Loc} {ls : Array Slot} (h : XH E (sg st) s H locs) (hl : lv_has ls 11 [(0, .ref (E.ad 68)), (1, .int v1), (2, .int v2), (3, .int v3), (4, .int v4)]) : W p l e rmX6_seen s m args below meth c H locs 0 0 (MQ below (Qx E (some (.long x.1)) (sg x.2)) args s 0 0 (gA E.HB)) (F0 m 0 ls []) := by
  unfold fX6_seen at hx
  refine lv_aload_n C.x C.bc dX6_seen_0 rfl (lv_at hl 0 rfl) ?_
  refine lv_iconst (v := (0 : Int32)) C.x C.bc dX6_seen_1 (by decide) ?_
  obtain ⟨st_1, e_1, hx⟩ := nm_x hx
  refine pt_X6_90_68 C hI h e_1 dX6_seen_2 (fun H locs h => ?_)
  refine lv_aload_n C.x C.bc dX6_seen_5 rfl (lv_at hl 0 rfl) ?_
  obtain ⟨⟨r_2, st_2⟩, hf_2, hx⟩ := bd_e hx
  have hx := u2_e hx
  refine cX6_274_X6_solvesNow C hI h hf_2 ⟨Nat.le_of_ble_eq_true rfl, Nat.le_of_ble_eq_true rfl⟩ ⟨Nat.zero_le _, Nat.zero_le _⟩ hl.1 (Nat.le_of_ble_eq_true rfl) dX6_seen_6 (fun H locs h => ?_)
  refine lv_if_ne (tgt := 19) C.x C.bc dX6_seen_9 (by decide) (fun c_3 => ?_) (fun c_3 => ?_)
  · have hx := ge_f hx c_3
    refine lv_iload_n C.x C.bc dX6_seen_19 rfl (lv_at hl 1 rfl) ?_
    refine lv_if_le (tgt := 34) C.x C.bc dX6_seen_20 (by decide) (fun c_4 => ?_) (fun c_4 => ?_)
    · have hx := ge_t hx c_4
      exact bX6_seen_34 C hI st_2 hx h (lv_sub hl [0] rfl)
    · have hx := ge_f hx c_4
      refine lv_iload_n C.x C.bc dX6_seen_23 rfl (lv_at hl 1 rfl) ?_
      refine lv_aload_n C.x C.bc dX6_seen_24 rfl (lv_at hl 0 rfl) ?_
      refine gt_X6_248_68 C hI h dX6_seen_25 ?_
      refine lv_iconst (v := (-1 : Int32)) C.x C.bc dX6_seen_28 (by decide) ?_
      refine lv_ixor C.x C.bc dX6_seen_29 ?_
      refine lv_iand C.x C.bc dX6_seen_30 ?_
      refine lv_if_eq (tgt := 41) C.x C.bc dX6_seen_31 (by decide) (fun c_6 => ?_) (fun c_6 => ?_)
      · have hx := ge_t hx c_6
        refine lv_aload_n C.x C.bc dX6_seen_41 rfl (lv_at hl 0 rfl) ?_
        refine lv_iload_n C.x C.bc dX6_seen_42 rfl (lv_at hl 2 rfl) ?_
        obtain ⟨r_7, hf_7, hx⟩ := bd_e hx
        refine cX6_304_X6_isNode C hI h hf_7 ⟨Nat.le_of_ble_eq_true rfl, Nat.le_of_ble_eq_true rfl⟩ ⟨Nat.zero_le _, Nat.zero_le _⟩ hl.1 (Nat.le_of_ble_eq_true rfl) dX6_seen_43 (fun H locs h => ?_)
        refine lv_if_eq (tgt := 79) C.x C.bc dX6_seen_46 (by decide) (fun c_8 => ?_) (fun c_8 => ?_)
        · have hx := ge_t hx c_8
          exact bX6_seen_79 C hI v1 v2 v3 v4 st_2 hx h (lv_sub hl [0, 1, 2, 3, 4] rfl)
        · have hx := ge_f hx c_8
          refine lv_aload_n C.x C.bc dX6_seen_49 rfl (lv_at hl 0 rfl) ?_
          refine lv_iload_n C.x C.bc dX6_seen_50 rfl (lv_at hl 3 rfl) ?_
          obtain ⟨r_30, hf_30, hx⟩ := bd_e hx
          refine cX6_304_X6_isNode C hI h hf_30 ⟨Nat.le_of_ble_eq_true rfl, Nat.le_of_ble_eq_true rfl⟩ ⟨Nat.zero_le _, Nat.zero_le _⟩ hl.1 (Nat.le_of_ble_eq_true rfl) dX6_seen_51 (fun H locs h => ?_)
          refine lv_if_eq (tgt := 79) C.x C.bc dX6_seen_54 (by decide) (fun c_31 => ?_) (fun c_31 => ?_)
          · have hx := ge_t hx c_31
            exact bX6_seen_79 C hI v1 v2 v3 v4 st_2 hx h (lv_sub hl [0, 1, 2, 3, 4] rfl)
          · have hx := ge_f hx c_31
            refine lv_iload_n C.x C.bc dX6_seen_57 rfl (lv_at hl 1 rfl) ?_
            refine lv_iload_n C.x C.bc dX6_seen_58 rfl (lv_at hl 2 rfl) ?_
            refine lv_ishr C.x C.bc dX6_seen_59 ?_
            refine lv_iconst (v := (1 : Int32)) C.x C.bc dX6_seen_60 (by decide) ?_
            refine lv_iand C.x C.bc dX6_seen_61 ?_
            refine lv_iconst (v := (1 : Int32)) C.x C.bc dX6_seen_62 (by decide) ?_
            refine lv_icmp_ne (tgt := 79) C.x C.bc dX6_seen_63 (by decide) (fun c_32 => ?_) (fun c_32 => ?_)
            · have hx := ge_f hx c_32
              exact bX6_seen_79 C hI v1 v2 v3 v4 st_2 hx h (lv_sub hl [0, 1, 2, 3, 4] rfl)
            · have hx := ge_t hx c_32
              refine lv_iload_n C.x C.bc dX6_seen_66 rfl (lv_at hl 1 rfl) ?_
              refine lv_iload_n C.x C.bc dX6_seen_67 rfl (lv_at hl 3 rfl) ?_
              refine lv_ishr C.x C.bc dX6_seen_68 ?_
              refine lv_iconst (v := (1 : Int32)) C.x C.bc dX6_seen_69 (by decide) ?_
              refine lv_iand C.x C.bc dX6_seen_70 ?_
              refine lv_iconst (v := (1 : Int32)) C.x C.bc dX6_seen_71 (by decide) ?_
              refine lv_icmp_ne (tgt := 79) C.x C.bc dX6_seen_72 (by decide) (fun c_33 => ?_) (fun c_33 => ?_)
              · have hx := ge_f hx c_33
                exact bX6_seen_79 C hI v1 v2 v3 v4 st_2 hx h (lv_sub hl [0, 1, 2, 3, 4] rfl)
              · have hx := ge_t hx c_33
                refine lv_iconst (v := (1 : Int32)) C.x C.bc dX6_seen_75 (by decide) ?_
                refine lv_goto (tgt := 80) C.x C.bc dX6_seen_76 (by decide) ?_
                exact bX6_seen_80 C hI v1 v2 v3 v4 (1 : Int32) st_2 hx h (lv_sub hl [0, 1, 2, 3, 4] rfl)
      · have hx := ge_f hx c_6
        exact bX6_seen_34 C hI st_2 hx h (lv_sub hl [0] rfl)
  · have hx := ge_t hx c_3
    refine lv_aload_n C.x C.bc dX6_seen_12 rfl (lv_at hl 0 rfl) ?_
    refine lv_iconst (v := (3 : Int32)) C.x C.bc dX6_seen_13 (by decide) ?_
    obtain ⟨⟨r_34, st_34⟩, hf_34, hx⟩ := bd_e hx
    have hx := u2_e hx
    refine cX6_182_X6_fail C hI h hf_34 ⟨Nat.le_of_ble_eq_true rfl, Nat.le_of_ble_eq_true rfl⟩ ⟨Nat.zero_le _, Nat.zero_le _⟩ hl.1 (Nat.le_of_ble_eq_true rfl) dX6_seen_14 (fun H locs h => ?_)
    refine lv_i2l (v := (r_34.toInt64)) C.x C.bc dX6_seen_17 rfl ?_
    obtain rfl := Option.some.inj hx
    exact x_lret C h dX6_seen_18
theorem mX6_seen (hG : G0 E s0 b) (hI : Sx E) {v1 : Int32} {v2 : Int32} {v3 : Int32} {v4 : Int32} {x : Int64 × St} (hx : fX6_seen v1 v2 v3 v4 st = some x) : Mt l E s0 yX6_seen cX6_seen 11 (some .long) rmX6_seen [.ref (E.ad 68), .int v1, .int v2, .int v3, .int v4] (sg st) (some (.long x.1)) E (sg x.2) :=
  Mt.of hG (by decide) (Nat.le_of_ble_eq_true rfl) (fun p e s m below meth c ls C h hl => bX6_seen C hI v1 v2 v3 v4 st hx h hl)
abbrev rmX6_tell : Room := { frames := 2, cells := 0, slots := 0, locals := 59 }
def fX6_tell (v1 : Int32) (v2 : Int32) (v3 : Int32) (st : St) : Option (Int32 × St) :=
  nm (uI st 68 1 (0 : Int32)) fun st_1 =>
  bd (fX6_isNode v1 st_1) fun r_2 =>
  if r_2 = 0 then
    bd (fX6_refuse st_1) <| u2 fun r_4 st_4 =>
    some (r_4, st_4)
  else
    nm (fX6_isIn v2 (0 : Int32) (2 : Int32)) fun r_5 =>
    if r_5 = 0 then
      bd (fX6_refuse st_1) <| u2 fun r_7 st_7 =>
      some (r_7, st_7)
    else
      bd (fX6_mayBe_70 v1 v2 st_1) fun r_8 =>
      if r_8 = 0 then
        bd (fX6_refuse st_1) <| u2 fun r_10 st_10 =>
        some (r_10, st_10)
      else
        nm (fX6_isIn v3 (0 : Int32) (3 : Int32)) fun r_11 =>
        if r_11 = 0 then
          bd (fX6_refuse st_1) <| u2 fun r_13 st_13 =>
          some (r_13, st_13)
        else
          bd (fX6_part v1 v2 st_1) fun r_14 =>
          if r_14 = v3 then
            bd (fX6_refuse st_1) <| u2 fun r_19 st_19 =>
            some (r_19, st_19)
          else
            bd (fX6_part v1 v2 st_1) fun r_16 =>
            gd (inB (((10 : Int32) + ((12 : Int32) * v2)) + v1) 46) <|
            nm (uI st_1 70 (((10 : Int32) + ((12 : Int32) * v2)) + v1).toNatClampNeg v3) fun st_18 =>
            some (r_16, st_18)
set_option maxHeartbeats 1000000 in
theorem bX6_tell (C : Cx E s0 b p s m args meth c cX6_tell 5 "EarthMeshModel" (some .int)) (hI : Sx E) (v1 : Int32) (v2 : Int32) (v3 : Int32) (st : St) {x : Int32 × St} (hx : fX6_tell v1 v2 v3 st = some x) {H : Heap} {locs : List Loc} {ls : Array Slot} (h : XH E (sg st) s H locs) (hl : lv_has ls 5 [(0, .ref (E.ad 68)), (1, .int v1), (2, .int v2), (3, .int v3)]) : W p l e rmX6_tell s m args below meth c H locs 0 0 (MQ below (Qx E (some (.int x.1)) (sg x.2)) args s 0 0 (gA E.HB)) (F0 m 0 ls []) := by
  unfold fX6_tell at hx
  refine lv_aload_n C.x C.bc dX6_tell_0 rfl (lv_at hl 0 rfl) ?_
  refine lv_iconst (v := (0 : Int32)) C.x C.bc dX6_tell_1 (by decide) ?_
  obtain ⟨st_1, e_1, hx⟩ := nm_x hx
  refine pt_X6_90_68 C hI h e_1 dX6_tell_2 (fun H locs h => ?_)
  refine lv_aload_n C.x C.bc dX6_tell_5 rfl (lv_at hl 0 rfl) ?_
  refine lv_iload_n C.x C.bc dX6_tell_6 rfl (lv_at hl 1 rfl) ?_
  obtain ⟨r_2, hf_2, hx⟩ := bd_e hx
  refine cX6_304_X6_isNode C hI h hf_2 ⟨Nat.le_of_ble_eq_true rfl, Nat.le_of_ble_eq_true rfl⟩ ⟨Nat.zero_le _, Nat.zero_le _⟩ hl.1 (Nat.le_of_ble_eq_true rfl) dX6_tell_7 (fun H locs h => ?_)
  refine lv_if_eq (tgt := 53) C.x C.bc dX6_tell_10 (by decide) (fun c_3 => ?_) (fun c_3 => ?_)
  · have hx := ge_t hx c_3
    refine lv_aload_n C.x C.bc dX6_tell_53 rfl (lv_at hl 0 rfl) ?_
    obtain ⟨⟨r_4, st_4⟩, hf_4, hx⟩ := bd_e hx
    have hx := u2_e hx
    refine cX6_96_X6_refuse C hI h hf_4 ⟨Nat.le_of_ble_eq_true rfl, Nat.le_of_ble_eq_true rfl⟩ ⟨Nat.zero_le _, Nat.zero_le _⟩ hl.1 (Nat.le_of_ble_eq_true rfl) dX6_tell_54 (fun H locs h => ?_)
    obtain rfl := Option.some.inj hx
    exact x_iret C h dX6_tell_57
  · have hx := ge_f hx c_3
    refine lv_iload_n C.x C.bc dX6_tell_13 rfl (lv_at hl 2 rfl) ?_
    refine lv_iconst (v := (0 : Int32)) C.x C.bc dX6_tell_14 (by decide) ?_
    refine lv_iconst (v := (2 : Int32)) C.x C.bc dX6_tell_15 (by decide) ?_
    obtain ⟨r_5, e_5, hx⟩ := nm_x hx
    refine cX6_300_X6_isIn C hI h e_5.symm ⟨Nat.le_of_ble_eq_true rfl, Nat.le_of_ble_eq_true rfl⟩ ⟨Nat.zero_le _, Nat.zero_le _⟩ hl.1 (Nat.le_of_ble_eq_true rfl) dX6_tell_16 (fun H locs h => ?_)
    refine lv_if_eq (tgt := 53) C.x C.bc dX6_tell_19 (by decide) (fun c_6 => ?_) (fun c_6 => ?_)
    · have hx := ge_t hx c_6
      refine lv_aload_n C.x C.bc dX6_tell_53 rfl (lv_at hl 0 rfl) ?_
      obtain ⟨⟨r_7, st_7⟩, hf_7, hx⟩ := bd_e hx
      have hx := u2_e hx
      refine cX6_96_X6_refuse C hI h hf_7 ⟨Nat.le_of_ble_eq_true rfl, Nat.le_of_ble_eq_true rfl⟩ ⟨Nat.zero_le _, Nat.zero_le _⟩ hl.1 (Nat.le_of_ble_eq_true rfl) dX6_tell_54 (fun H locs h => ?_)
      obtain rfl := Option.some.inj hx
      exact x_iret C h dX6_tell_57
    · have hx := ge_f hx c_6
      refine lv_aload_n C.x C.bc dX6_tell_22 rfl (lv_at hl 0 rfl) ?_
      refine gt_X6_31_68 C hI h dX6_tell_23 ?_
      refine lv_iload_n C.x C.bc dX6_tell_26 rfl (lv_at hl 1 rfl) ?_
      refine lv_iload_n C.x C.bc dX6_tell_27 rfl (lv_at hl 2 rfl) ?_
      obtain ⟨r_8, hf_8, hx⟩ := bd_e hx
      refine cX6_166_X6_mayBe_70 C hI h hf_8 ⟨Nat.le_of_ble_eq_true rfl, Nat.le_of_ble_eq_true rfl⟩ ⟨Nat.zero_le _, Nat.zero_le _⟩ hl.1 (Nat.le_of_ble_eq_true rfl) dX6_tell_28 (fun H locs h => ?_)
      refine lv_if_eq (tgt := 53) C.x C.bc dX6_tell_31 (by decide) (fun c_9 => ?_) (fun c_9 => ?_)
      · have hx := ge_t hx c_9
        refine lv_aload_n C.x C.bc dX6_tell_53 rfl (lv_at hl 0 rfl) ?_
        obtain ⟨⟨r_10, st_10⟩, hf_10, hx⟩ := bd_e hx
        have hx := u2_e hx
        refine cX6_96_X6_refuse C hI h hf_10 ⟨Nat.le_of_ble_eq_true rfl, Nat.le_of_ble_eq_true rfl⟩ ⟨Nat.zero_le _, Nat.zero_le _⟩ hl.1 (Nat.le_of_ble_eq_true rfl) dX6_tell_54 (fun H locs h => ?_)
        obtain rfl := Option.some.inj hx
        exact x_iret C h dX6_tell_57
      · have hx := ge_f hx c_9
        refine lv_iload_n C.x C.bc dX6_tell_34 rfl (lv_at hl 3 rfl) ?_
        refine lv_iconst (v := (0 : Int32)) C.x C.bc dX6_tell_35 (by decide) ?_
        refine lv_iconst (v := (3 : Int32)) C.x C.bc dX6_tell_36 (by decide) ?_
        obtain ⟨r_11, e_11, hx⟩ := nm_x hx
        refine cX6_300_X6_isIn C hI h e_11.symm ⟨Nat.le_of_ble_eq_true rfl, Nat.le_of_ble_eq_true rfl⟩ ⟨Nat.zero_le _, Nat.zero_le _⟩ hl.1 (Nat.le_of_ble_eq_true rfl) dX6_tell_37 (fun H locs h => ?_)
        refine lv_if_eq (tgt := 53) C.x C.bc dX6_tell_40 (by decide) (fun c_12 => ?_) (fun c_12 => ?_)
        · have hx := ge_t hx c_12
          refine lv_aload_n C.x C.bc dX6_tell_53 rfl (lv_at hl 0 rfl) ?_
          obtain ⟨⟨r_13, st_13⟩, hf_13, hx⟩ := bd_e hx
          have hx := u2_e hx
          refine cX6_96_X6_refuse C hI h hf_13 ⟨Nat.le_of_ble_eq_true rfl, Nat.le_of_ble_eq_true rfl⟩ ⟨Nat.zero_le _, Nat.zero_le _⟩ hl.1 (Nat.le_of_ble_eq_true rfl) dX6_tell_54 (fun H locs h => ?_)
          obtain rfl := Option.some.inj hx
          exact x_iret C h dX6_tell_57
        · have hx := ge_f hx c_12
          refine lv_aload_n C.x C.bc dX6_tell_43 rfl (lv_at hl 0 rfl) ?_
          refine lv_iload_n C.x C.bc dX6_tell_44 rfl (lv_at hl 1 rfl) ?_
          refine lv_iload_n C.x C.bc dX6_tell_45 rfl (lv_at hl 2 rfl) ?_
          obtain ⟨r_14, hf_14, hx⟩ := bd_e hx
          refine cX6_194_X6_part C hI h hf_14 ⟨Nat.le_of_ble_eq_true rfl, Nat.le_of_ble_eq_true rfl⟩ ⟨Nat.zero_le _, Nat.zero_le _⟩ hl.1 (Nat.le_of_ble_eq_true rfl) dX6_tell_46 (fun H locs h => ?_)
          refine lv_iload_n C.x C.bc dX6_tell_49 rfl (lv_at hl 3 rfl) ?_
          refine lv_icmp_ne (tgt := 58) C.x C.bc dX6_tell_50 (by decide) (fun c_15 => ?_) (fun c_15 => ?_)
          · have hx := ge_f hx c_15
            refine lv_aload_n C.x C.bc dX6_tell_58 rfl (lv_at hl 0 rfl) ?_
            refine lv_iload_n C.x C.bc dX6_tell_59 rfl (lv_at hl 1 rfl) ?_
            refine lv_iload_n C.x C.bc dX6_tell_60 rfl (lv_at hl 2 rfl) ?_
            obtain ⟨r_16, hf_16, hx⟩ := bd_e hx
            refine cX6_194_X6_part C hI h hf_16 ⟨Nat.le_of_ble_eq_true rfl, Nat.le_of_ble_eq_true rfl⟩ ⟨Nat.zero_le _, Nat.zero_le _⟩ hl.1 (Nat.le_of_ble_eq_true rfl) dX6_tell_61 (fun H locs h => ?_)
            refine lv_istore (lv' := [(4, .int r_16), (0, .ref (E.ad 68)), (1, .int v1), (2, .int v2), (3, .int v3)]) C.x C.bc dX6_tell_64 hl (by decide) rfl (fun ls hl => ?_)
            refine lv_aload_n C.x C.bc dX6_tell_66 rfl (lv_at hl 1 rfl) ?_
            refine gt_X6_31_68 C hI h dX6_tell_67 ?_
            refine lv_bipush (v := (10 : Int32)) C.x C.bc dX6_tell_70 (by decide) ?_
            refine lv_bipush (v := (12 : Int32)) C.x C.bc dX6_tell_72 (by decide) ?_
            refine lv_iload_n C.x C.bc dX6_tell_74 rfl (lv_at hl 3 rfl) ?_
            refine lv_imul C.x C.bc dX6_tell_75 ?_
            refine lv_iadd C.x C.bc dX6_tell_76 ?_
            refine lv_iload_n C.x C.bc dX6_tell_77 rfl (lv_at hl 2 rfl) ?_
            refine lv_iadd C.x C.bc dX6_tell_78 ?_
            refine lv_iload_n C.x C.bc dX6_tell_79 rfl (lv_at hl 4 rfl) ?_
            obtain ⟨g_17, hx⟩ := gd_e hx
            obtain ⟨st_18, e_18, hx⟩ := nm_x hx
            refine y_iast C h 70 46 (hI 70 (by decide)) k_70 g_17 e_18 dX6_tell_80 (fun H locs h => ?_)
            refine lv_iload C.x C.bc dX6_tell_81 (lv_at hl 0 rfl) ?_
            obtain rfl := Option.some.inj hx
            exact x_iret C h dX6_tell_83
          · have hx := ge_t hx c_15
            refine lv_aload_n C.x C.bc dX6_tell_53 rfl (lv_at hl 0 rfl) ?_
            obtain ⟨⟨r_19, st_19⟩, hf_19, hx⟩ := bd_e hx
            have hx := u2_e hx
            refine cX6_96_X6_refuse C hI h hf_19 ⟨Nat.le_of_ble_eq_true rfl, Nat.le_of_ble_eq_true rfl⟩ ⟨Nat.zero_le _, Nat.zero_le _⟩ hl.1 (Nat.le_of_ble_eq_true rfl) dX6_tell_54 (fun H locs h => ?_)
            obtain rfl := Option.some.inj hx
            exact x_iret C h dX6_tell_57
theorem mX6_tell (hG : G0 E s0 b) (hI : Sx E) {v1 : Int32} {v2 : Int32} {v3 : Int32} {x : Int32 × St} (hx : fX6_tell v1 v2 v3 st = some x) : Mt l E s0 yX6_tell cX6_tell 5 (some .int) rmX6_tell [.ref (E.ad 68), .int v1, .int v2, .int v3] (sg st) (some (.int x.1)) E (sg x.2) :=
  Mt.of hG (by decide) (Nat.le_of_ble_eq_true rfl) (fun p e s m below meth c ls C h hl => bX6_tell C hI v1 v2 v3 st hx h hl)
abbrev rmX6_comes : Room := { frames := 2, cells := 0, slots := 0, locals := 59 }
def fX6_comes_48 (v1 : Int32) (v2 : Int32) (st : St) : Option (Int32 × St) :=
  gd (inB (2 : Int32) 46) <|
  nm (st.1 70 (2 : Int32).toNatClampNeg) fun v3_11 =>
  gd (inB (2 : Int32) 46) <|
  nm (uI st 70 (2 : Int32).toNatClampNeg v1) fun st_13 =>
  gd (inB (3 : Int32) 46) <|
  nm (uI st_13 70 (3 : Int32).toNatClampNeg v2) fun st_15 =>
  some (v3_11, st_15)
set_option maxHeartbeats 1000000 in
theorem bX6_comes_48 (C : Cx E s0 b p s m args meth c cX6_comes 4 "EarthMeshModel" (some .int)) (hI : Sx E) (v1 : Int32) (v2 : Int32) (st : St) {x : Int32 × St} (hx : fX6_comes_48 v1 v2 st = some x) {H : Heap} {locs : List Loc} {ls : Array Slot} (h : XH E (sg st) s H locs) (hl : lv_has ls 4 [(0, .ref (E.ad 68)), (1, .int v1), (2, .int v2)]) : W p l e rmX6_comes s m args below meth c H locs 0 0 (MQ below (Qx E (some (.int x.1)) (sg x.2)) args s 0 0 (gA E.HB)) (F0 m 48 ls []) := by
  unfold fX6_comes_48 at hx
  refine lv_aload_n C.x C.bc dX6_comes_48 rfl (lv_at hl 0 rfl) ?_
  refine gt_X6_31_68 C hI h dX6_comes_49 ?_
  refine lv_iconst (v := (2 : Int32)) C.x C.bc dX6_comes_52 (by decide) ?_
  obtain ⟨g_10, hx⟩ := gd_e hx
  refine x_iald C h 70 46 (hI 70 (by decide)) k_70 g_10 dX6_comes_53 ?_
  obtain ⟨v3_11, e_11, hx⟩ := nm_x hx
  refine x_ti e_11 ?_
  refine lv_istore_n (lv' := [(3, .int v3_11), (0, .ref (E.ad 68)), (1, .int v1), (2, .int v2)]) C.x C.bc dX6_comes_54 rfl hl (by decide) rfl (fun ls hl => ?_)
  refine lv_aload_n C.x C.bc dX6_comes_55 rfl (lv_at hl 1 rfl) ?_
  refine gt_X6_31_68 C hI h dX6_comes_56 ?_
  refine lv_iconst (v := (2 : Int32)) C.x C.bc dX6_comes_59 (by decide) ?_
  refine lv_iload_n C.x C.bc dX6_comes_60 rfl (lv_at hl 2 rfl) ?_
  obtain ⟨g_12, hx⟩ := gd_e hx
  obtain ⟨st_13, e_13, hx⟩ := nm_x hx
  refine y_iast C h 70 46 (hI 70 (by decide)) k_70 g_12 e_13 dX6_comes_61 (fun H locs h => ?_)
  refine lv_aload_n C.x C.bc dX6_comes_62 rfl (lv_at hl 1 rfl) ?_
  refine gt_X6_31_68 C hI h dX6_comes_63 ?_
  refine lv_iconst (v := (3 : Int32)) C.x C.bc dX6_comes_66 (by decide) ?_
  refine lv_iload_n C.x C.bc dX6_comes_67 rfl (lv_at hl 3 rfl) ?_
  obtain ⟨g_14, hx⟩ := gd_e hx
  obtain ⟨st_15, e_15, hx⟩ := nm_x hx
  refine y_iast C h 70 46 (hI 70 (by decide)) k_70 g_14 e_15 dX6_comes_68 (fun H locs h => ?_)
  refine lv_iload_n C.x C.bc dX6_comes_69 rfl (lv_at hl 0 rfl) ?_
  obtain rfl := Option.some.inj hx
  exact x_iret C h dX6_comes_70
def fX6_comes (v1 : Int32) (v2 : Int32) (st : St) : Option (Int32 × St) :=
  nm (uI st 68 1 (0 : Int32)) fun st_1 =>
  bd (fX6_isNode v1 st_1) fun r_2 =>
  if r_2 = 0 then
    bd (fX6_refuse st_1) <| u2 fun r_4 st_4 =>
    some (r_4, st_4)
  else
    nm (fX6_isIn v2 (1 : Int32) (99 : Int32)) fun r_5 =>
    if r_5 = 0 then
      bd (fX6_refuse st_1) <| u2 fun r_7 st_7 =>
      some (r_7, st_7)
    else
      gd (inB (2 : Int32) 46) <|
      if (st_1.1 70 (2 : Int32).toNatClampNeg) = v1 then
        gd (inB (3 : Int32) 46) <|
        if (st_1.1 70 (3 : Int32).toNatClampNeg) = v2 then
          bd (fX6_refuse st_1) <| u2 fun r_18 st_18 =>
          some (r_18, st_18)
        else
          fX6_comes_48 v1 v2 st_1
      else
        fX6_comes_48 v1 v2 st_1
set_option maxHeartbeats 1000000 in
theorem bX6_comes (C : Cx E s0 b p s m args meth c cX6_comes 4 "EarthMeshModel" (some .int)) (hI : Sx E) (v1 : Int32) (v2 : Int32) (st : St) {x : Int32 × St} (hx : fX6_comes v1 v2 st = some x) {H : Heap} {locs : List Loc} {ls : Array Slot} (h : XH E (sg st) s H locs) (hl : lv_has ls 4 [(0, .ref (E.ad 68)), (1, .int v1), (2, .int v2)]) : W p l e rmX6_comes s m args below meth c H locs 0 0 (MQ below (Qx E (some (.int x.1)) (sg x.2)) args s 0 0 (gA E.HB)) (F0 m 0 ls []) := by
  unfold fX6_comes at hx
  refine lv_aload_n C.x C.bc dX6_comes_0 rfl (lv_at hl 0 rfl) ?_
  refine lv_iconst (v := (0 : Int32)) C.x C.bc dX6_comes_1 (by decide) ?_
  obtain ⟨st_1, e_1, hx⟩ := nm_x hx
  refine pt_X6_90_68 C hI h e_1 dX6_comes_2 (fun H locs h => ?_)
  refine lv_aload_n C.x C.bc dX6_comes_5 rfl (lv_at hl 0 rfl) ?_
  refine lv_iload_n C.x C.bc dX6_comes_6 rfl (lv_at hl 1 rfl) ?_
  obtain ⟨r_2, hf_2, hx⟩ := bd_e hx
  refine cX6_304_X6_isNode C hI h hf_2 ⟨Nat.le_of_ble_eq_true rfl, Nat.le_of_ble_eq_true rfl⟩ ⟨Nat.zero_le _, Nat.zero_le _⟩ hl.1 (Nat.le_of_ble_eq_true rfl) dX6_comes_7 (fun H locs h => ?_)
  refine lv_if_eq (tgt := 43) C.x C.bc dX6_comes_10 (by decide) (fun c_3 => ?_) (fun c_3 => ?_)
  · have hx := ge_t hx c_3
    refine lv_aload_n C.x C.bc dX6_comes_43 rfl (lv_at hl 0 rfl) ?_
    obtain ⟨⟨r_4, st_4⟩, hf_4, hx⟩ := bd_e hx
    have hx := u2_e hx
    refine cX6_96_X6_refuse C hI h hf_4 ⟨Nat.le_of_ble_eq_true rfl, Nat.le_of_ble_eq_true rfl⟩ ⟨Nat.zero_le _, Nat.zero_le _⟩ hl.1 (Nat.le_of_ble_eq_true rfl) dX6_comes_44 (fun H locs h => ?_)
    obtain rfl := Option.some.inj hx
    exact x_iret C h dX6_comes_47
  · have hx := ge_f hx c_3
    refine lv_iload_n C.x C.bc dX6_comes_13 rfl (lv_at hl 2 rfl) ?_
    refine lv_iconst (v := (1 : Int32)) C.x C.bc dX6_comes_14 (by decide) ?_
    refine lv_bipush (v := (99 : Int32)) C.x C.bc dX6_comes_15 (by decide) ?_
    obtain ⟨r_5, e_5, hx⟩ := nm_x hx
    refine cX6_300_X6_isIn C hI h e_5.symm ⟨Nat.le_of_ble_eq_true rfl, Nat.le_of_ble_eq_true rfl⟩ ⟨Nat.zero_le _, Nat.zero_le _⟩ hl.1 (Nat.le_of_ble_eq_true rfl) dX6_comes_17 (fun H locs h => ?_)
    refine lv_if_eq (tgt := 43) C.x C.bc dX6_comes_20 (by decide) (fun c_6 => ?_) (fun c_6 => ?_)
    · have hx := ge_t hx c_6
      refine lv_aload_n C.x C.bc dX6_comes_43 rfl (lv_at hl 0 rfl) ?_
      obtain ⟨⟨r_7, st_7⟩, hf_7, hx⟩ := bd_e hx
      have hx := u2_e hx
      refine cX6_96_X6_refuse C hI h hf_7 ⟨Nat.le_of_ble_eq_true rfl, Nat.le_of_ble_eq_true rfl⟩ ⟨Nat.zero_le _, Nat.zero_le _⟩ hl.1 (Nat.le_of_ble_eq_true rfl) dX6_comes_44 (fun H locs h => ?_)
      obtain rfl := Option.some.inj hx
      exact x_iret C h dX6_comes_47
    · have hx := ge_f hx c_6
      refine lv_aload_n C.x C.bc dX6_comes_23 rfl (lv_at hl 0 rfl) ?_
      refine gt_X6_31_68 C hI h dX6_comes_24 ?_
      refine lv_iconst (v := (2 : Int32)) C.x C.bc dX6_comes_27 (by decide) ?_
      obtain ⟨g_8, hx⟩ := gd_e hx
      refine x_iald C h 70 46 (hI 70 (by decide)) k_70 g_8 dX6_comes_28 ?_
      refine lv_iload_n C.x C.bc dX6_comes_29 rfl (lv_at hl 1 rfl) ?_
      refine lv_icmp_ne (tgt := 48) C.x C.bc dX6_comes_30 (by decide) (fun c_9 => ?_) (fun c_9 => ?_)
      · have hx := ge_f hx c_9
        exact bX6_comes_48 C hI v1 v2 st_1 hx h (lv_sub hl [0, 1, 2] rfl)
      · have hx := ge_t hx c_9
        refine lv_aload_n C.x C.bc dX6_comes_33 rfl (lv_at hl 0 rfl) ?_
        refine gt_X6_31_68 C hI h dX6_comes_34 ?_
        refine lv_iconst (v := (3 : Int32)) C.x C.bc dX6_comes_37 (by decide) ?_
        obtain ⟨g_16, hx⟩ := gd_e hx
        refine x_iald C h 70 46 (hI 70 (by decide)) k_70 g_16 dX6_comes_38 ?_
        refine lv_iload_n C.x C.bc dX6_comes_39 rfl (lv_at hl 2 rfl) ?_
        refine lv_icmp_ne (tgt := 48) C.x C.bc dX6_comes_40 (by decide) (fun c_17 => ?_) (fun c_17 => ?_)
        · have hx := ge_f hx c_17
          exact bX6_comes_48 C hI v1 v2 st_1 hx h (lv_sub hl [0, 1, 2] rfl)
        · have hx := ge_t hx c_17
          refine lv_aload_n C.x C.bc dX6_comes_43 rfl (lv_at hl 0 rfl) ?_
          obtain ⟨⟨r_18, st_18⟩, hf_18, hx⟩ := bd_e hx
          have hx := u2_e hx
          refine cX6_96_X6_refuse C hI h hf_18 ⟨Nat.le_of_ble_eq_true rfl, Nat.le_of_ble_eq_true rfl⟩ ⟨Nat.zero_le _, Nat.zero_le _⟩ hl.1 (Nat.le_of_ble_eq_true rfl) dX6_comes_44 (fun H locs h => ?_)
          obtain rfl := Option.some.inj hx
          exact x_iret C h dX6_comes_47
theorem mX6_comes (hG : G0 E s0 b) (hI : Sx E) {v1 : Int32} {v2 : Int32} {x : Int32 × St} (hx : fX6_comes v1 v2 st = some x) : Mt l E s0 yX6_comes cX6_comes 4 (some .int) rmX6_comes [.ref (E.ad 68), .int v1, .int v2] (sg st) (some (.int x.1)) E (sg x.2) :=
  Mt.of hG (by decide) (Nat.le_of_ble_eq_true rfl) (fun p e s m below meth c ls C h hl => bX6_comes C hI v1 v2 st hx h hl)
abbrev rmX6_freeIn : Room := { frames := 0, cells := 0, slots := 0, locals := 0 }
def fX6_freeIn_2 (v1 : Int32) (v2 : Int32) (st : St) : Option ((Int32) ⊕ ((Int32) ⊕ (Unit))) :=
  if (6 : Int32) ≤ v2 then
    some (.inr (.inr ()))
  else
    gd (inB (((6 : Int32) * v1) + v2) 12) <|
    if (st.1 85 (((6 : Int32) * v1) + v2).toNatClampNeg) = 0 then
      some (.inr (.inl v2))
    else
      nm (v2 + (1 : Int32)) fun v2_4 =>
      some (.inl v2_4)
set_option maxHeartbeats 1000000 in
theorem bX6_freeIn_2 (C : Cx E s0 b p s m args meth c cX6_freeIn 3 "EarthMeshModel" (some .int)) (hI : Sx E) (v1 : Int32) (v2 : Int32) (st : St) {x : (Int32) ⊕ ((Int32) ⊕ (Unit))} (hx : fX6_freeIn_2 v1 v2 st = some x) {Q : State → Prop} {G : Int32 → Prop} {X : (Int32) ⊕ (Unit) → Prop} (hG : ∀ (w2 : Int32), G w2 → ∀ (H : Heap) (locs : List Loc) (ls : Array Slot), XH E (sg st) s H locs → lv_has ls 3 [(0, .ref (E.ad 68)), (1, .int v1), (2, .int w2)] → W p l e rmX6_freeIn s m args below meth c H locs 0 0 Q (F0 m 2 ls [])) (hE0 : ∀ (w2 : Int32), X (.inl w2) → ∀ (H : Heap) (locs : List Loc) (ls : Array Slot), XH E (sg st) s H locs → lv_has ls 3 [(2, .int w2)] → W p l e rmX6_freeIn s m args below meth c H locs 0 0 Q (F0 m 22 ls [])) (hE1 : X (.inr ()) → ∀ (H : Heap) (locs : List Loc) (ls : Array Slot), XH E (sg st) s H locs → lv_has ls 3 [] → W p l e rmX6_freeIn s m args below meth c H locs 0 0 Q (F0 m 30 ls [])) (K : Kx G X x) {H : Heap} {locs : List Loc} {ls : Array Slot} (h : XH E (sg st) s H locs) (hl : lv_has ls 3 [(0, .ref (E.ad 68)), (1, .int v1), (2, .int v2)]) : W p l e rmX6_freeIn s m args below meth c H locs 0 0 Q (F0 m 2 ls []) := by
  unfold fX6_freeIn_2 at hx
  refine lv_iload_n C.x C.bc dX6_freeIn_2 rfl (lv_at hl 2 rfl) ?_
  refine lv_bipush (v := (6 : Int32)) C.x C.bc dX6_freeIn_3 (by decide) ?_
  refine lv_icmp_ge (tgt := 30) C.x C.bc dX6_freeIn_5 (by decide) (fun c_1 => ?_) (fun c_1 => ?_)
  · have hx := ge_t hx c_1
    obtain rfl := Option.some.inj hx
    exact hE1  K _ _ _ h (lv_sub hl [] rfl)
  · have hx := ge_f hx c_1
    refine lv_aload_n C.x C.bc dX6_freeIn_8 rfl (lv_at hl 0 rfl) ?_
    refine gt_X6_83_68 C hI h dX6_freeIn_9 ?_
    refine lv_bipush (v := (6 : Int32)) C.x C.bc dX6_freeIn_12 (by decide) ?_
    refine lv_iload_n C.x C.bc dX6_freeIn_14 rfl (lv_at hl 1 rfl) ?_
    refine lv_imul C.x C.bc dX6_freeIn_15 ?_
    refine lv_iload_n C.x C.bc dX6_freeIn_16 rfl (lv_at hl 2 rfl) ?_
    refine lv_iadd C.x C.bc dX6_freeIn_17 ?_
    obtain ⟨g_2, hx⟩ := gd_e hx
    refine x_iald C h 85 12 (hI 85 (by decide)) k_85 g_2 dX6_freeIn_18 ?_
    refine lv_if_ne (tgt := 24) C.x C.bc dX6_freeIn_19 (by decide) (fun c_3 => ?_) (fun c_3 => ?_)
    · have hx := ge_f hx c_3
      obtain ⟨v2_4, e_4, hx⟩ := nm_x hx
      refine lv_iinc (v := v2_4) (lv' := [(2, .int v2_4), (0, .ref (E.ad 68)), (1, .int v1)]) C.x C.bc dX6_freeIn_24 hl (k := 2) rfl (by rw [e_4]; rfl) (by decide) rfl (fun ls hl => ?_)
      refine lv_goto (tgt := 2) C.x C.bc dX6_freeIn_27 (by decide) ?_
      obtain rfl := Option.some.inj hx
      exact hG _ K _ _ _ h (lv_sub hl [1, 2, 0] rfl)
    · have hx := ge_t hx c_3
      obtain rfl := Option.some.inj hx
      exact hE0 _ K _ _ _ h (lv_sub hl [2] rfl)
set_option maxHeartbeats 1000000 in
theorem pX6_freeIn_2 (C : Cx E s0 b p s m args meth c cX6_freeIn 3 "EarthMeshModel" (some .int)) (hI : Sx E) (v1 : Int32) (st : St) {Q : State → Prop} {v2 : Int32} {n : Nat} {r : (Int32) ⊕ (Unit)} (hx : iter (u1 fun v2 => fX6_freeIn_2 v1 v2 st) n v2 = some r) (hE : (fun t => match t with | (.inl t) => (∀ (H : Heap) (locs : List Loc) (ls : Array Slot), XH E (sg st) s H locs → lv_has ls 3 [(2, .int t)] → W p l e rmX6_freeIn s m args below meth c H locs 0 0 Q (F0 m 22 ls [])) | (.inr t) => (∀ (H : Heap) (locs : List Loc) (ls : Array Slot), XH E (sg st) s H locs → lv_has ls 3 [] → W p l e rmX6_freeIn s m args below meth c H locs 0 0 Q (F0 m 30 ls []))) r) {H : Heap} {locs : List Loc} {ls : Array Slot} (h : XH E (sg st) s H locs) (hl : lv_has ls 3 [(0, .ref (E.ad 68)), (1, .int v1), (2, .int v2)]) : W p l e rmX6_freeIn s m args below meth c H locs 0 0 Q (F0 m 2 ls []) := by
  refine iter_W (G := fun t => ∀ (H : Heap) (locs : List Loc) (ls : Array Slot), XH E (sg st) s H locs → lv_has ls 3 [(0, .ref (E.ad 68)), (1, .int v1), (2, .int t)] → W p l e rmX6_freeIn s m args below meth c H locs 0 0 Q (F0 m 2 ls [])) (E := fun t => match t with | (.inl t) => (∀ (H : Heap) (locs : List Loc) (ls : Array Slot), XH E (sg st) s H locs → lv_has ls 3 [(2, .int t)] → W p l e rmX6_freeIn s m args below meth c H locs 0 0 Q (F0 m 22 ls [])) | (.inr t) => (∀ (H : Heap) (locs : List Loc) (ls : Array Slot), XH E (sg st) s H locs → lv_has ls 3 [] → W p l e rmX6_freeIn s m args below meth c H locs 0 0 Q (F0 m 30 ls []))) (fun v2 x hx K H locs ls h hl => ?_) n _ r hx hE H locs ls h hl
  exact bX6_freeIn_2 C hI v1 v2 st hx (fun _ z => z) (fun _ z => z) (fun z => z) K h hl
def fX6_freeIn (v1 : Int32) (st : St) : Option (Int32) :=
  bd (iter (u1 fun z2 => fX6_freeIn_2 v1 z2 st) FU (0 : Int32)) (Sum.elim (u1 fun v2_5 =>
    some v2_5) (u1 fun _ =>
    some (-1 : Int32)))
set_option maxHeartbeats 1000000 in
theorem bX6_freeIn (C : Cx E s0 b p s m args meth c cX6_freeIn 3 "EarthMeshModel" (some .int)) (hI : Sx E) (v1 : Int32) (st : St) {x : Int32} (hx : fX6_freeIn v1 st = some x) {H : Heap} {locs : List Loc} {ls : Array Slot} (h : XH E (sg st) s H locs) (hl : lv_has ls 3 [(0, .ref (E.ad 68)), (1, .int v1)]) : W p l e rmX6_freeIn s m args below meth c H locs 0 0 (MQ below (Qx E (some (.int x)) (sg st)) args s 0 0 (gA E.HB)) (F0 m 0 ls []) := by
  unfold fX6_freeIn at hx
  refine lv_iconst (v := (0 : Int32)) C.x C.bc dX6_freeIn_0 (by decide) ?_
  refine lv_istore_n (lv' := [(2, .int (0 : Int32)), (0, .ref (E.ad 68)), (1, .int v1)]) C.x C.bc dX6_freeIn_1 rfl hl (by decide) rfl (fun ls hl => ?_)
  obtain ⟨r_5, hi_5, hx⟩ := bd_e hx
  rcases r_5 with v2_5 | _
  · have hx := sl_e hx; have hx := u1_e hx
    refine pX6_freeIn_2 C hI v1 st hi_5 (fun H locs ls h hl => ?_) h (lv_sub hl [1, 2, 0] rfl)
    refine lv_iload_n C.x C.bc dX6_freeIn_22 rfl (lv_at hl 0 rfl) ?_
    obtain rfl := Option.some.inj hx
    exact x_iret C h dX6_freeIn_23
  · have hx := sr_e hx; have hx := u1_e hx
    refine pX6_freeIn_2 C hI v1 st hi_5 (fun H locs ls h hl => ?_) h (lv_sub hl [1, 2, 0] rfl)
    refine lv_iconst (v := (-1 : Int32)) C.x C.bc dX6_freeIn_30 (by decide) ?_
    obtain rfl := Option.some.inj hx
    exact x_iret C h dX6_freeIn_31
theorem mX6_freeIn (hG : G0 E s0 b) (hI : Sx E) {v1 : Int32} {x : Int32} (hx : fX6_freeIn v1 st = some x) : Mt l E s0 yX6_freeIn cX6_freeIn 3 (some .int) rmX6_freeIn [.ref (E.ad 68), .int v1] (sg st) (some (.int x)) E (sg st) :=
  Mt.of hG (by decide) (Nat.le_of_ble_eq_true rfl) (fun p e s m below meth c ls C h hl => bX6_freeIn C hI v1 st hx h hl)
theorem cX6_432_X6_freeIn {a0 : Int32} {r : Int32} (C : Cx E s0 b p s m args meth c cc nL "EarthMeshModel" rt) (hI : Sx E) (h : XH E (sg st) s H locs) (hf : fX6_freeIn a0 st = some r) (hR : rmX6_freeIn.frames + 1 ≤ R.frames ∧ 16 + (3 + 11) + rmX6_freeIn.locals ≤ R.locals) (h0 : cells ≤ R.cells ∧ slots ≤ R.slots) (hsz : ls.size = nL) (hcat : (rest.map fun v => v.category).sum ≤ 16) (hdg : decode cc pc = .ok (.invokevirtual 432, 3)) (kk : ∀ (H : Heap) (locs : List Loc), XH E (sg st) s H locs → W p l e R s m args below meth c H locs cells slots Q (F0 m (pc + 3) ls (.int r :: rest))) : W p l e R s m args below meth c H locs cells slots Q (F0 m pc ls (.int a0 :: .ref (E.ad 68) :: rest)) :=
  x_callV (n := 1) (As := [.int a0]) C h 68 5 (hI 68 (by decide)) k_68 rfl (mX6_freeIn C.g hI hf) (lw_V q2119 q2121 qs128 q136 q2122) ⟨rfl, by decide +kernel, by decide +kernel, by decide +kernel⟩ hR ⟨rfl, rfl⟩ h0 rfl hsz rfl hcat hdg kk
end
