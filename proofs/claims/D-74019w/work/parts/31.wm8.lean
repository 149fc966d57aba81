set_option maxRecDepth 100000
section
variable {p : Program} {l : Launch} {e : Env} {R : Room} {s : State} {m : MethodId} {args : Array Value} {below : List Frame} {meth : Method} {c : Code} {H : Heap} {locs : List Loc} {cells slots : Nat} {Q : State → Prop}
variable {cc : ByteArray} {pc : Nat} {ls : Array Slot} {rest : List Value} {E : Wd} {s0 : State} {b nL : Nat} {rt : Option FieldType} {g st : St}
abbrev rmX6_put : Room := { frames := 1, cells := 0, slots := 0, locals := 30 }
def fX6_put_48 (v1 : Int32) (v3 : Int32) (k0 : Int32) (k1 : Int32) (st : St) : Option (Int32 × St) :=
  if k0 = k1 then
    bd (fX6_freeIn v1 st) fun r_12 =>
    gd (inB (((6 : Int32) * v1) + r_12) 12) <|
    nm (uI st 85 (((6 : Int32) * v1) + r_12).toNatClampNeg v3) fun st_14 =>
    some (r_12, st_14)
  else
    bd (fX6_refuse st) <| u2 fun r_15 st_15 =>
    some ((r_15 - (1 : Int32)), st_15)
set_option maxHeartbeats 1000000 in
theorem bX6_put_48 (C : Cx E s0 b p s m args meth c cX6_put 5 "EarthMeshModel" (some .int)) (hI : Sx E) (v1 : Int32) (v3 : Int32) (k0 : Int32) (k1 : Int32) (st : St) {x : Int32 × St} (hx : fX6_put_48 v1 v3 k0 k1 st = some x) {H : Heap} {locs : List Loc} {ls : Array Slot} (h : XH E (sg st) s H locs) (hl : lv_has ls 5 [(0, .ref (E.ad 68)), (1, .int v1), (3, .int v3)]) : W p l e rmX6_put s m args below meth c H locs 0 0 (MQ below (Qx E (some (.int x.1)) (sg x.2)) args s 0 0 (gA E.HB)) (F0 m 48 ls [.int k1, .int k0]) := by
  unfold fX6_put_48 at hx
  refine lv_icmp_eq (tgt := 58) C.x C.bc dX6_put_48 (by decide) (fun c_11 => ?_) (fun c_11 => ?_)
  · have hx := ge_t hx c_11
    refine lv_aload_n C.x C.bc dX6_put_58 rfl (lv_at hl 0 rfl) ?_
    refine lv_iload_n C.x C.bc dX6_put_59 rfl (lv_at hl 1 rfl) ?_
    obtain ⟨r_12, hf_12, hx⟩ := bd_e hx
    refine cX6_432_X6_freeIn C hI h hf_12 ⟨Nat.le_of_ble_eq_true rfl, Nat.le_of_ble_eq_true rfl⟩ ⟨Nat.zero_le _, Nat.zero_le _⟩ hl.1 (Nat.le_of_ble_eq_true rfl) dX6_put_60 (fun H locs h => ?_)
    refine lv_istore (lv' := [(4, .int r_12), (0, .ref (E.ad 68)), (1, .int v1), (3, .int v3)]) C.x C.bc dX6_put_63 hl (by decide) rfl (fun ls hl => ?_)
    refine lv_aload_n C.x C.bc dX6_put_65 rfl (lv_at hl 1 rfl) ?_
    refine gt_X6_83_68 C hI h dX6_put_66 ?_
    refine lv_bipush (v := (6 : Int32)) C.x C.bc dX6_put_69 (by decide) ?_
    refine lv_iload_n C.x C.bc dX6_put_71 rfl (lv_at hl 2 rfl) ?_
    refine lv_imul C.x C.bc dX6_put_72 ?_
    refine lv_iload C.x C.bc dX6_put_73 (lv_at hl 0 rfl) ?_
    refine lv_iadd C.x C.bc dX6_put_75 ?_
    refine lv_iload_n C.x C.bc dX6_put_76 rfl (lv_at hl 3 rfl) ?_
    obtain ⟨g_13, hx⟩ := gd_e hx
    obtain ⟨st_14, e_14, hx⟩ := nm_x hx
    refine y_iast C h 85 12 (hI 85 (by decide)) k_85 g_13 e_14 dX6_put_77 (fun H locs h => ?_)
    refine lv_iload C.x C.bc dX6_put_78 (lv_at hl 0 rfl) ?_
    obtain rfl := Option.some.inj hx
    exact x_iret C h dX6_put_80
  · have hx := ge_f hx c_11
    refine lv_aload_n C.x C.bc dX6_put_51 rfl (lv_at hl 0 rfl) ?_
    obtain ⟨⟨r_15, st_15⟩, hf_15, hx⟩ := bd_e hx
    have hx := u2_e hx
    refine cX6_96_X6_refuse C hI h hf_15 ⟨Nat.le_of_ble_eq_true rfl, Nat.le_of_ble_eq_true rfl⟩ ⟨Nat.zero_le _, Nat.zero_le _⟩ hl.1 (Nat.le_of_ble_eq_true rfl) dX6_put_52 (fun H locs h => ?_)
    refine lv_iconst (v := (1 : Int32)) C.x C.bc dX6_put_55 (by decide) ?_
    refine lv_isub C.x C.bc dX6_put_56 ?_
    obtain rfl := Option.some.inj hx
    exact x_iret C h dX6_put_57
def fX6_put (v1 : Int32) (v2 : Int32) (v3 : Int32) (st : St) : Option (Int32 × St) :=
  nm (uI st 68 1 (0 : Int32)) fun st_1 =>
  nm (fX6_isIn v1 (0 : Int32) (1 : Int32)) fun r_2 =>
  if r_2 = 0 then
    bd (fX6_refuse st_1) <| u2 fun r_4 st_4 =>
    some (r_4, st_4)
  else
    nm (fX6_isIn v3 (1 : Int32) (3 : Int32)) fun r_5 =>
    if r_5 = 0 then
      bd (fX6_refuse st_1) <| u2 fun r_7 st_7 =>
      some (r_7, st_7)
    else
      bd (fX6_freeIn v1 st_1) fun r_8 =>
      if r_8 = (-1 : Int32) then
        bd (fX6_refuse st_1) <| u2 fun r_16 st_16 =>
        some (r_16, st_16)
      else
        if v1 = (1 : Int32) then
          fX6_put_48 v1 v3 v2 (1 : Int32) st_1
        else
          fX6_put_48 v1 v3 v2 (0 : Int32) st_1
set_option maxHeartbeats 1000000 in
theorem bX6_put (C : Cx E s0 b p s m args meth c cX6_put 5 "EarthMeshModel" (some .int)) (hI : Sx E) (v1 : Int32) (v2 : Int32) (v3 : Int32) (st : St) {x : Int32 × St} (hx : fX6_put v1 v2 v3 st = some x) {H : Heap} {locs : List Loc} {ls : Array Slot} (h : XH E (sg st) s H locs) (hl : lv_has ls 5 [(0, .ref (E.ad 68)), (1, .int v1), (2, .int v2), (3, .int v3)]) : W p l e rmX6_put s m args below meth c H locs 0 0 (MQ below (Qx E (some (.int x.1)) (sg x.2)) args s 0 0 (gA E.HB)) (F0 m 0 ls []) := by
  unfold fX6_put at hx
  refine lv_aload_n C.x C.bc dX6_put_0 rfl (lv_at hl 0 rfl) ?_
  refine lv_iconst (v := (0 : Int32)) C.x C.bc dX6_put_1 (by decide) ?_
  obtain ⟨st_1, e_1, hx⟩ := nm_x hx
  refine pt_X6_90_68 C hI h e_1 dX6_put_2 (fun H locs h => ?_)
  refine lv_iload_n C.x C.bc dX6_put_5 rfl (lv_at hl 1 rfl) ?_
  refine lv_iconst (v := (0 : Int32)) C.x C.bc dX6_put_6 (by decide) ?_
  refine lv_iconst (v := (1 : Int32)) C.x C.bc dX6_put_7 (by decide) ?_
  obtain ⟨r_2, e_2, hx⟩ := nm_x hx
  refine cX6_300_X6_isIn C hI h e_2.symm ⟨Nat.le_of_ble_eq_true rfl, Nat.le_of_ble_eq_true rfl⟩ ⟨Nat.zero_le _, Nat.zero_le _⟩ hl.1 (Nat.le_of_ble_eq_true rfl) dX6_put_8 (fun H locs h => ?_)
  refine lv_if_eq (tgt := 32) C.x C.bc dX6_put_11 (by decide) (fun c_3 => ?_) (fun c_3 => ?_)
  · have hx := ge_t hx c_3
    refine lv_aload_n C.x C.bc dX6_put_32 rfl (lv_at hl 0 rfl) ?_
    obtain ⟨⟨r_4, st_4⟩, hf_4, hx⟩ := bd_e hx
    have hx := u2_e hx
    refine cX6_96_X6_refuse C hI h hf_4 ⟨Nat.le_of_ble_eq_true rfl, Nat.le_of_ble_eq_true rfl⟩ ⟨Nat.zero_le _, Nat.zero_le _⟩ hl.1 (Nat.le_of_ble_eq_true rfl) dX6_put_33 (fun H locs h => ?_)
    obtain rfl := Option.some.inj hx
    exact x_iret C h dX6_put_36
  · have hx := ge_f hx c_3
    refine lv_iload_n C.x C.bc dX6_put_14 rfl (lv_at hl 3 rfl) ?_
    refine lv_iconst (v := (1 : Int32)) C.x C.bc dX6_put_15 (by decide) ?_
    refine lv_iconst (v := (3 : Int32)) C.x C.bc dX6_put_16 (by decide) ?_
    obtain ⟨r_5, e_5, hx⟩ := nm_x hx
    refine cX6_300_X6_isIn C hI h e_5.symm ⟨Nat.le_of_ble_eq_true rfl, Nat.le_of_ble_eq_true rfl⟩ ⟨Nat.zero_le _, Nat.zero_le _⟩ hl.1 (Nat.le_of_ble_eq_true rfl) dX6_put_17 (fun H locs h => ?_)
    refine lv_if_eq (tgt := 32) C.x C.bc dX6_put_20 (by decide) (fun c_6 => ?_) (fun c_6 => ?_)
    · have hx := ge_t hx c_6
      refine lv_aload_n C.x C.bc dX6_put_32 rfl (lv_at hl 0 rfl) ?_
      obtain ⟨⟨r_7, st_7⟩, hf_7, hx⟩ := bd_e hx
      have hx := u2_e hx
      refine cX6_96_X6_refuse C hI h hf_7 ⟨Nat.le_of_ble_eq_true rfl, Nat.le_of_ble_eq_true rfl⟩ ⟨Nat.zero_le _, Nat.zero_le _⟩ hl.1 (Nat.le_of_ble_eq_true rfl) dX6_put_33 (fun H locs h => ?_)
      obtain rfl := Option.some.inj hx
      exact x_iret C h dX6_put_36
    · have hx := ge_f hx c_6
      refine lv_aload_n C.x C.bc dX6_put_23 rfl (lv_at hl 0 rfl) ?_
      refine lv_iload_n C.x C.bc dX6_put_24 rfl (lv_at hl 1 rfl) ?_
      obtain ⟨r_8, hf_8, hx⟩ := bd_e hx
      refine cX6_432_X6_freeIn C hI h hf_8 ⟨Nat.le_of_ble_eq_true rfl, Nat.le_of_ble_eq_true rfl⟩ ⟨Nat.zero_le _, Nat.zero_le _⟩ hl.1 (Nat.le_of_ble_eq_true rfl) dX6_put_25 (fun H locs h => ?_)
      refine lv_iconst (v := (-1 : Int32)) C.x C.bc dX6_put_28 (by decide) ?_
      refine lv_icmp_ne (tgt := 37) C.x C.bc dX6_put_29 (by decide) (fun c_9 => ?_) (fun c_9 => ?_)
      · have hx := ge_f hx c_9
        refine lv_iload_n C.x C.bc dX6_put_37 rfl (lv_at hl 2 rfl) ?_
        refine lv_iload_n C.x C.bc dX6_put_38 rfl (lv_at hl 1 rfl) ?_
        refine lv_iconst (v := (1 : Int32)) C.x C.bc dX6_put_39 (by decide) ?_
        refine lv_icmp_ne (tgt := 47) C.x C.bc dX6_put_40 (by decide) (fun c_10 => ?_) (fun c_10 => ?_)
        · have hx := ge_f hx c_10
          refine lv_iconst (v := (0 : Int32)) C.x C.bc dX6_put_47 (by decide) ?_
          exact bX6_put_48 C hI v1 v3 v2 (0 : Int32) st_1 hx h (lv_sub hl [0, 1, 3] rfl)
        · have hx := ge_t hx c_10
          refine lv_iconst (v := (1 : Int32)) C.x C.bc dX6_put_43 (by decide) ?_
          refine lv_goto (tgt := 48) C.x C.bc dX6_put_44 (by decide) ?_
          exact bX6_put_48 C hI v1 v3 v2 (1 : Int32) st_1 hx h (lv_sub hl [0, 1, 3] rfl)
      · have hx := ge_t hx c_9
        refine lv_aload_n C.x C.bc dX6_put_32 rfl (lv_at hl 0 rfl) ?_
        obtain ⟨⟨r_16, st_16⟩, hf_16, hx⟩ := bd_e hx
        have hx := u2_e hx
        refine cX6_96_X6_refuse C hI h hf_16 ⟨Nat.le_of_ble_eq_true rfl, Nat.le_of_ble_eq_true rfl⟩ ⟨Nat.zero_le _, Nat.zero_le _⟩ hl.1 (Nat.le_of_ble_eq_true rfl) dX6_put_33 (fun H locs h => ?_)
        obtain rfl := Option.some.inj hx
        exact x_iret C h dX6_put_36
theorem mX6_put (hG : G0 E s0 b) (hI : Sx E) {v1 : Int32} {v2 : Int32} {v3 : Int32} {x : Int32 × St} (hx : fX6_put v1 v2 v3 st = some x) : Mt l E s0 yX6_put cX6_put 5 (some .int) rmX6_put [.ref (E.ad 68), .int v1, .int v2, .int v3] (sg st) (some (.int x.1)) E (sg x.2) :=
  Mt.of hG (by decide) (Nat.le_of_ble_eq_true rfl) (fun p e s m below meth c ls C h hl => bX6_put C hI v1 v2 v3 st hx h hl)
abbrev rmX6_isPlace : Room := { frames := 1, cells := 0, slots := 0, locals := 30 }
def fX6_isPlace_22 : Int32 :=
  (0 : Int32)
set_option maxHeartbeats 1000000 in
theorem bX6_isPlace_22 (C : Cx E s0 b p s m args meth c cX6_isPlace 2 "EarthMeshModel" (some .boolean)) (hI : Sx E) {x : Int32} (hx : fX6_isPlace_22 = x) {H : Heap} {locs : List Loc} {ls : Array Slot} (h : XH E g s H locs) (hl : lv_has ls 2 []) : W p l e rmX6_isPlace s m args below meth c H locs 0 0 (MQ below (Qx E (some (.int x)) g) args s 0 0 (gA E.HB)) (F0 m 22 ls []) := by
  unfold fX6_isPlace_22 at hx
  refine lv_iconst (v := (0 : Int32)) C.x C.bc dX6_isPlace_22 (by decide) ?_
  subst hx
  exact x_zret (v := (0 : Int32)) C h rfl dX6_isPlace_23
def fX6_isPlace (v0 : Int32) (v1 : Int32) : Int32 :=
  nm (fX6_isIn v0 (0 : Int32) (1 : Int32)) fun r_1 =>
  if r_1 = 0 then
    fX6_isPlace_22
  else
    nm (fX6_isIn v1 (0 : Int32) (5 : Int32)) fun r_3 =>
    if r_3 = 0 then
      fX6_isPlace_22
    else
      (1 : Int32)
set_option maxHeartbeats 1000000 in
theorem bX6_isPlace (C : Cx E s0 b p s m args meth c cX6_isPlace 2 "EarthMeshModel" (some .boolean)) (hI : Sx E) (v0 : Int32) (v1 : Int32) {x : Int32} (hx : fX6_isPlace v0 v1 = x) {H : Heap} {locs : List Loc} {ls : Array Slot} (h : XH E g s H locs) (hl : lv_has ls 2 [(0, .int v0), (1, .int v1)]) : W p l e rmX6_isPlace s m args below meth c H locs 0 0 (MQ below (Qx E (some (.int x)) g) args s 0 0 (gA E.HB)) (F0 m 0 ls []) := by
  unfold fX6_isPlace at hx
  refine lv_iload_n C.x C.bc dX6_isPlace_0 rfl (lv_at hl 0 rfl) ?_
  refine lv_iconst (v := (0 : Int32)) C.x C.bc dX6_isPlace_1 (by decide) ?_
  refine lv_iconst (v := (1 : Int32)) C.x C.bc dX6_isPlace_2 (by decide) ?_
  obtain ⟨r_1, e_1, hx⟩ := nm_x hx
  refine cX6_300_X6_isIn C hI h e_1.symm ⟨Nat.le_of_ble_eq_true rfl, Nat.le_of_ble_eq_true rfl⟩ ⟨Nat.zero_le _, Nat.zero_le _⟩ hl.1 (Nat.le_of_ble_eq_true rfl) dX6_isPlace_3 (fun H locs h => ?_)
  refine lv_if_eq (tgt := 22) C.x C.bc dX6_isPlace_6 (by decide) (fun c_2 => ?_) (fun c_2 => ?_)
  · have hx := ge_t hx c_2
    exact bX6_isPlace_22 C hI hx h (lv_sub hl [] rfl)
  · have hx := ge_f hx c_2
    refine lv_iload_n C.x C.bc dX6_isPlace_9 rfl (lv_at hl 1 rfl) ?_
    refine lv_iconst (v := (0 : Int32)) C.x C.bc dX6_isPlace_10 (by decide) ?_
    refine lv_iconst (v := (5 : Int32)) C.x C.bc dX6_isPlace_11 (by decide) ?_
    obtain ⟨r_3, e_3, hx⟩ := nm_x hx
    refine cX6_300_X6_isIn C hI h e_3.symm ⟨Nat.le_of_ble_eq_true rfl, Nat.le_of_ble_eq_true rfl⟩ ⟨Nat.zero_le _, Nat.zero_le _⟩ hl.1 (Nat.le_of_ble_eq_true rfl) dX6_isPlace_12 (fun H locs h => ?_)
    refine lv_if_eq (tgt := 22) C.x C.bc dX6_isPlace_15 (by decide) (fun c_4 => ?_) (fun c_4 => ?_)
    · have hx := ge_t hx c_4
      exact bX6_isPlace_22 C hI hx h (lv_sub hl [] rfl)
    · have hx := ge_f hx c_4
      refine lv_iconst (v := (1 : Int32)) C.x C.bc dX6_isPlace_18 (by decide) ?_
      refine lv_goto (tgt := 23) C.x C.bc dX6_isPlace_19 (by decide) ?_
      subst hx
      exact x_zret (v := (1 : Int32)) C h rfl dX6_isPlace_23
theorem mX6_isPlace (hG : G0 E s0 b) (hI : Sx E) {v0 : Int32} {v1 : Int32} {x : Int32} (hx : fX6_isPlace v0 v1 = x) : Mt l E s0 yX6_isPlace cX6_isPlace 2 (some .boolean) rmX6_isPlace [.int v0, .int v1] g (some (.int x)) E g :=
  Mt.of hG (by decide) (Nat.le_of_ble_eq_true rfl) (fun p e s m below meth c ls C h hl => bX6_isPlace C hI v0 v1 hx h hl)
theorem cX6_435_X6_isPlace {a0 : Int32} {a1 : Int32} {r : Int32} (C : Cx E s0 b p s m args meth c cc nL "EarthMeshModel" rt) (hI : Sx E) (h : XH E g s H locs) (hf : fX6_isPlace a0 a1 = r) (hR : rmX6_isPlace.frames + 1 ≤ R.frames ∧ 16 + (2 + 11) + rmX6_isPlace.locals ≤ R.locals) (h0 : cells ≤ R.cells ∧ slots ≤ R.slots) (hsz : ls.size = nL) (hcat : (rest.map fun v => v.category).sum ≤ 16) (hdg : decode cc pc = .ok (.invokestatic 435, 3)) (kk : ∀ (H : Heap) (locs : List Loc), XH E g s H locs → W p l e R s m args below meth c H locs cells slots Q (F0 m (pc + 3) ls (.int r :: rest))) : W p l e R s m args below meth c H locs cells slots Q (F0 m pc ls (.int a1 :: .int a0 :: rest)) :=
  x_callS (n := 2) (As := [.int a0, .int a1]) C h (mX6_isPlace C.g hI hf) (lw_S q2127 q2128 q136 q2129) ⟨by decide +kernel, by decide +kernel, by decide +kernel⟩ hR ⟨rfl, rfl⟩ h0 rfl hsz rfl hcat hdg kk
abbrev rmX6_stored : Room := { frames := 2, cells := 0, slots := 0, locals := 59 }
def fX6_stored (v1 : Int32) (v2 : Int32) (st : St) : Option (Int32 × St) :=
  nm (uI st 68 1 (0 : Int32)) fun st_1 =>
  nm (fX6_isPlace v1 v2) fun r_2 =>
  if r_2 = 0 then
    bd (fX6_fail (1 : Int32) st_1) <| u2 fun r_4 st_4 =>
    some (r_4, st_4)
  else
    gd (inB (((6 : Int32) * v1) + v2) 12) <|
    some ((st_1.1 85 (((6 : Int32) * v1) + v2).toNatClampNeg), st_1)
set_option maxHeartbeats 1000000 in
theorem bX6_stored (C : Cx E s0 b p s m args meth c cX6_stored 3 "EarthMeshModel" (some .int)) (hI : Sx E) (v1 : Int32) (v2 : Int32) (st : St) {x : Int32 × St} (hx : fX6_stored v1 v2 st = some x) {H : Heap} {locs : List Loc} {ls : Array Slot} (h : XH E (sg st) s H locs) (hl : lv_has ls 3 [(0, .ref (E.ad 68)), (1, .int v1), (2, .int v2)]) : W p l e rmX6_stored s m args below meth c H locs 0 0 (MQ below (Qx E (some (.int x.1)) (sg x.2)) args s 0 0 (gA E.HB)) (F0 m 0 ls []) := by
  unfold fX6_stored at hx
  refine lv_aload_n C.x C.bc dX6_stored_0 rfl (lv_at hl 0 rfl) ?_
  refine lv_iconst (v := (0 : Int32)) C.x C.bc dX6_stored_1 (by decide) ?_
  obtain ⟨st_1, e_1, hx⟩ := nm_x hx
  refine pt_X6_90_68 C hI h e_1 dX6_stored_2 (fun H locs h => ?_)
  refine lv_iload_n C.x C.bc dX6_stored_5 rfl (lv_at hl 1 rfl) ?_
  refine lv_iload_n C.x C.bc dX6_stored_6 rfl (lv_at hl 2 rfl) ?_
  obtain ⟨r_2, e_2, hx⟩ := nm_x hx
  refine cX6_435_X6_isPlace C hI h e_2.symm ⟨Nat.le_of_ble_eq_true rfl, Nat.le_of_ble_eq_true rfl⟩ ⟨Nat.zero_le _, Nat.zero_le _⟩ hl.1 (Nat.le_of_ble_eq_true rfl) dX6_stored_7 (fun H locs h => ?_)
  refine lv_if_eq (tgt := 27) C.x C.bc dX6_stored_10 (by decide) (fun c_3 => ?_) (fun c_3 => ?_)
  · have hx := ge_t hx c_3
    refine lv_aload_n C.x C.bc dX6_stored_27 rfl (lv_at hl 0 rfl) ?_
    refine lv_iconst (v := (1 : Int32)) C.x C.bc dX6_stored_28 (by decide) ?_
    obtain ⟨⟨r_4, st_4⟩, hf_4, hx⟩ := bd_e hx
    have hx := u2_e hx
    refine cX6_182_X6_fail C hI h hf_4 ⟨Nat.le_of_ble_eq_true rfl, Nat.le_of_ble_eq_true rfl⟩ ⟨Nat.zero_le _, Nat.zero_le _⟩ hl.1 (Nat.le_of_ble_eq_true rfl) dX6_stored_29 (fun H locs h => ?_)
    obtain rfl := Option.some.inj hx
    exact x_iret C h dX6_stored_32
  · have hx := ge_f hx c_3
    refine lv_aload_n C.x C.bc dX6_stored_13 rfl (lv_at hl 0 rfl) ?_
    refine gt_X6_83_68 C hI h dX6_stored_14 ?_
    refine lv_bipush (v := (6 : Int32)) C.x C.bc dX6_stored_17 (by decide) ?_
    refine lv_iload_n C.x C.bc dX6_stored_19 rfl (lv_at hl 1 rfl) ?_
    refine lv_imul C.x C.bc dX6_stored_20 ?_
    refine lv_iload_n C.x C.bc dX6_stored_21 rfl (lv_at hl 2 rfl) ?_
    refine lv_iadd C.x C.bc dX6_stored_22 ?_
    obtain ⟨g_5, hx⟩ := gd_e hx
    refine x_iald C h 85 12 (hI 85 (by decide)) k_85 g_5 dX6_stored_23 ?_
    refine lv_goto (tgt := 32) C.x C.bc dX6_stored_24 (by decide) ?_
    obtain rfl := Option.some.inj hx
    exact x_iret C h dX6_stored_32
theorem mX6_stored (hG : G0 E s0 b) (hI : Sx E) {v1 : Int32} {v2 : Int32} {x : Int32 × St} (hx : fX6_stored v1 v2 st = some x) : Mt l E s0 yX6_stored cX6_stored 3 (some .int) rmX6_stored [.ref (E.ad 68), .int v1, .int v2] (sg st) (some (.int x.1)) E (sg x.2) :=
  Mt.of hG (by decide) (Nat.le_of_ble_eq_true rfl) (fun p e s m below meth c ls C h hl => bX6_stored C hI v1 v2 st hx h hl)
abbrev rmX6_build : Room := { frames := 2, cells := 0, slots := 0, locals := 59 }
def fX6_build_59 (v1 : Int32) (v2 : Int32) (v3 : Int32) (k0 : Int32) (st : St) : Option (Int32 × St) :=
  bd (fX6_part v3 k0 st) fun r_12 =>
  gd (inB (((6 : Int32) * v1) + v2) 12) <|
  nm (r_12 + (st.1 85 (((6 : Int32) * v1) + v2).toNatClampNeg)) fun v6_14 =>
  bd (fX6_mayBe_70 v3 k0 st) fun r_15 =>
  if r_15 = 0 then
    bd (fX6_refuse st) <| u2 fun r_17 st_17 =>
    some (r_17, st_17)
  else
    if v6_14 ≤ (3 : Int32) then
      gd (inB (((10 : Int32) + ((12 : Int32) * k0)) + v3) 46) <|
      nm (uI st 70 (((10 : Int32) + ((12 : Int32) * k0)) + v3).toNatClampNeg v6_14) fun st_20 =>
      gd (inB (((6 : Int32) * v1) + v2) 12) <|
      nm (uI st_20 85 (((6 : Int32) * v1) + v2).toNatClampNeg (0 : Int32)) fun st_22 =>
      some (v6_14, st_22)
    else
      bd (fX6_refuse st) <| u2 fun r_23 st_23 =>
      some (r_23, st_23)
set_option maxHeartbeats 1000000 in
theorem bX6_build_59 (C : Cx E s0 b p s m args meth c cX6_build 7 "EarthMeshModel" (some .int)) (hI : Sx E) (v1 : Int32) (v2 : Int32) (v3 : Int32) (k0 : Int32) (st : St) {x : Int32 × St} (hx : fX6_build_59 v1 v2 v3 k0 st = some x) {H : Heap} {locs : List Loc} {ls : Array Slot} (h : XH E (sg st) s H locs) (hl : lv_has ls 7 [(0, .ref (E.ad 68)), (1, .int v1), (2, .int v2), (3, .int v3)]) : W p l e rmX6_build s m args below meth c H locs 0 0 (MQ below (Qx E (some (.int x.1)) (sg x.2)) args s 0 0 (gA E.HB)) (F0 m 59 ls [.int k0]) := by
  unfold fX6_build_59 at hx
  refine lv_istore (lv' := [(5, .int k0), (0, .ref (E.ad 68)), (1, .int v1), (2, .int v2), (3, .int v3)]) C.x C.bc dX6_build_59 hl (by decide) rfl (fun ls hl => ?_)
  refine lv_aload_n C.x C.bc dX6_build_61 rfl (lv_at hl 1 rfl) ?_
  refine lv_iload_n C.x C.bc dX6_build_62 rfl (lv_at hl 4 rfl) ?_
  refine lv_iload C.x C.bc dX6_build_63 (lv_at hl 0 rfl) ?_
  obtain ⟨r_12, hf_12, hx⟩ := bd_e hx
  refine cX6_194_X6_part C hI h hf_12 ⟨Nat.le_of_ble_eq_true rfl, Nat.le_of_ble_eq_true rfl⟩ ⟨Nat.zero_le _, Nat.zero_le _⟩ hl.1 (Nat.le_of_ble_eq_true rfl) dX6_build_65 (fun H locs h => ?_)
  refine lv_aload_n C.x C.bc dX6_build_68 rfl (lv_at hl 1 rfl) ?_
  refine gt_X6_83_68 C hI h dX6_build_69 ?_
  refine lv_bipush (v := (6 : Int32)) C.x C.bc dX6_build_72 (by decide) ?_
  refine lv_iload_n C.x C.bc dX6_build_74 rfl (lv_at hl 2 rfl) ?_
  refine lv_imul C.x C.bc dX6_build_75 ?_
  refine lv_iload_n C.x C.bc dX6_build_76 rfl (lv_at hl 3 rfl) ?_
  refine lv_iadd C.x C.bc dX6_build_77 ?_
  obtain ⟨g_13, hx⟩ := gd_e hx
  refine x_iald C h 85 12 (hI 85 (by decide)) k_85 g_13 dX6_build_78 ?_
  refine lv_iadd C.x C.bc dX6_build_79 ?_
  obtain ⟨v6_14, e_14, hx⟩ := nm_x hx
  refine x_ti e_14 ?_
  refine lv_istore (lv' := [(6, .int v6_14), (5, .int k0), (0, .ref (E.ad 68)), (1, .int v1), (2, .int v2), (3, .int v3)]) C.x C.bc dX6_build_80 hl (by decide) rfl (fun ls hl => ?_)
  refine lv_aload_n C.x C.bc dX6_build_82 rfl (lv_at hl 2 rfl) ?_
  refine gt_X6_31_68 C hI h dX6_build_83 ?_
  refine lv_iload_n C.x C.bc dX6_build_86 rfl (lv_at hl 5 rfl) ?_
  refine lv_iload C.x C.bc dX6_build_87 (lv_at hl 1 rfl) ?_
  obtain ⟨r_15, hf_15, hx⟩ := bd_e hx
  refine cX6_166_X6_mayBe_70 C hI h hf_15 ⟨Nat.le_of_ble_eq_true rfl, Nat.le_of_ble_eq_true rfl⟩ ⟨Nat.zero_le _, Nat.zero_le _⟩ hl.1 (Nat.le_of_ble_eq_true rfl) dX6_build_89 (fun H locs h => ?_)
  refine lv_if_eq (tgt := 101) C.x C.bc dX6_build_92 (by decide) (fun c_16 => ?_) (fun c_16 => ?_)
  · have hx := ge_t hx c_16
    refine lv_aload_n C.x C.bc dX6_build_101 rfl (lv_at hl 2 rfl) ?_
    obtain ⟨⟨r_17, st_17⟩, hf_17, hx⟩ := bd_e hx
    have hx := u2_e hx
    refine cX6_96_X6_refuse C hI h hf_17 ⟨Nat.le_of_ble_eq_true rfl, Nat.le_of_ble_eq_true rfl⟩ ⟨Nat.zero_le _, Nat.zero_le _⟩ hl.1 (Nat.le_of_ble_eq_true rfl) dX6_build_102 (fun H locs h => ?_)
    obtain rfl := Option.some.inj hx
    exact x_iret C h dX6_build_105
  · have hx := ge_f hx c_16
    refine lv_iload C.x C.bc dX6_build_95 (lv_at hl 0 rfl) ?_
    refine lv_iconst (v := (3 : Int32)) C.x C.bc dX6_build_97 (by decide) ?_
    refine lv_icmp_le (tgt := 106) C.x C.bc dX6_build_98 (by decide) (fun c_18 => ?_) (fun c_18 => ?_)
    · have hx := ge_t hx c_18
      refine lv_aload_n C.x C.bc dX6_build_106 rfl (lv_at hl 2 rfl) ?_
      refine gt_X6_31_68 C hI h dX6_build_107 ?_
      refine lv_bipush (v := (10 : Int32)) C.x C.bc dX6_build_110 (by decide) ?_
      refine lv_bipush (v := (12 : Int32)) C.x C.bc dX6_build_112 (by decide) ?_
      refine lv_iload C.x C.bc dX6_build_114 (lv_at hl 1 rfl) ?_
      refine lv_imul C.x C.bc dX6_build_116 ?_
      refine lv_iadd C.x C.bc dX6_build_117 ?_
      refine lv_iload_n C.x C.bc dX6_build_118 rfl (lv_at hl 5 rfl) ?_
      refine lv_iadd C.x C.bc dX6_build_119 ?_
      refine lv_iload C.x C.bc dX6_build_120 (lv_at hl 0 rfl) ?_
      obtain ⟨g_19, hx⟩ := gd_e hx
      obtain ⟨st_20, e_20, hx⟩ := nm_x hx
      refine y_iast C h 70 46 (hI 70 (by decide)) k_70 g_19 e_20 dX6_build_122 (fun H locs h => ?_)
      refine lv_aload_n C.x C.bc dX6_build_123 rfl (lv_at hl 2 rfl) ?_
      refine gt_X6_83_68 C hI h dX6_build_124 ?_
      refine lv_bipush (v := (6 : Int32)) C.x C.bc dX6_build_127 (by decide) ?_
      refine lv_iload_n C.x C.bc dX6_build_129 rfl (lv_at hl 3 rfl) ?_
      refine lv_imul C.x C.bc dX6_build_130 ?_
      refine lv_iload_n C.x C.bc dX6_build_131 rfl (lv_at hl 4 rfl) ?_
      refine lv_iadd C.x C.bc dX6_build_132 ?_
      refine lv_iconst (v := (0 : Int32)) C.x C.bc dX6_build_133 (by decide) ?_
      obtain ⟨g_21, hx⟩ := gd_e hx
      obtain ⟨st_22, e_22, hx⟩ := nm_x hx
      refine y_iast C h 85 12 (hI 85 (by decide)) k_85 g_21 e_22 dX6_build_134 (fun H locs h => ?_)
      refine lv_iload C.x C.bc dX6_build_135 (lv_at hl 0 rfl) ?_
      obtain rfl := Option.some.inj hx
      exact x_iret C h dX6_build_137
    · have hx := ge_f hx c_18
      refine lv_aload_n C.x C.bc dX6_build_101 rfl (lv_at hl 2 rfl) ?_
      obtain ⟨⟨r_23, st_23⟩, hf_23, hx⟩ := bd_e hx
      have hx := u2_e hx
      refine cX6_96_X6_refuse C hI h hf_23 ⟨Nat.le_of_ble_eq_true rfl, Nat.le_of_ble_eq_true rfl⟩ ⟨Nat.zero_le _, Nat.zero_le _⟩ hl.1 (Nat.le_of_ble_eq_true rfl) dX6_build_102 (fun H locs h => ?_)
      obtain rfl := Option.some.inj hx
      exact x_iret C h dX6_build_105
def fX6_build (v1 : Int32) (v2 : Int32) (v3 : Int32) (v4 : Int32) (st : St) : Option (Int32 × St) :=
  nm (uI st 68 1 (0 : Int32)) fun st_1 =>
  nm (fX6_isPlace v1 v2) fun r_2 =>
  if r_2 = 0 then
    bd (fX6_refuse st_1) <| u2 fun r_4 st_4 =>
    some (r_4, st_4)
  else
    gd (inB (((6 : Int32) * v1) + v2) 12) <|
    if (st_1.1 85 (((6 : Int32) * v1) + v2).toNatClampNeg) = 0 then
      bd (fX6_refuse st_1) <| u2 fun r_7 st_7 =>
      some (r_7, st_7)
    else
      bd (fX6_isNode v3 st_1) fun r_8 =>
      if r_8 = 0 then
        bd (fX6_refuse st_1) <| u2 fun r_24 st_24 =>
        some (r_24, st_24)
      else
        if v1 = (1 : Int32) then
          fX6_build_59 v1 v2 v3 (2 : Int32) st_1
        else
          if v4 = 0 then
            fX6_build_59 v1 v2 v3 (0 : Int32) st_1
          else
            fX6_build_59 v1 v2 v3 (1 : Int32) st_1
set_option maxHeartbeats 1000000 in
theorem bX6_build (C : Cx E s0 b p s m args meth c cX6_build 7 "EarthMeshModel" (some .int)) (hI : Sx E) (v1 : Int32) (v2 : Int32) (v3 : Int32) (v4 : Int32) (st : St) {x : Int32 × St} (hx : fX6_build v1 v2 v3 v4 st = some x) {H : Heap} {locs : List Loc} {ls : Array Slot} (h : XH E (sg st) s H locs) (hl : lv_has ls 7 [(0, .ref (E.ad 68)), (1, .int v1), (2, .int v2), (3, .int v3), (4, .int v4)]) : W p l e rmX6_build s m args below meth c H locs 0 0 (MQ below (Qx E (some (.int x.1)) (sg x.2)) args s 0 0 (gA E.HB)) (F0 m 0 ls []) := by
  unfold fX6_build at hx
  refine lv_aload_n C.x C.bc dX6_build_0 rfl (lv_at hl 0 rfl) ?_
  refine lv_iconst (v := (0 : Int32)) C.x C.bc dX6_build_1 (by decide) ?_
  obtain ⟨st_1, e_1, hx⟩ := nm_x hx
  refine pt_X6_90_68 C hI h e_1 dX6_build_2 (fun H locs h => ?_)
  refine lv_iload_n C.x C.bc dX6_build_5 rfl (lv_at hl 1 rfl) ?_
  refine lv_iload_n C.x C.bc dX6_build_6 rfl (lv_at hl 2 rfl) ?_
  obtain ⟨r_2, e_2, hx⟩ := nm_x hx
  refine cX6_435_X6_isPlace C hI h e_2.symm ⟨Nat.le_of_ble_eq_true rfl, Nat.le_of_ble_eq_true rfl⟩ ⟨Nat.zero_le _, Nat.zero_le _⟩ hl.1 (Nat.le_of_ble_eq_true rfl) dX6_build_7 (fun H locs h => ?_)
  refine lv_if_eq (tgt := 35) C.x C.bc dX6_build_10 (by decide) (fun c_3 => ?_) (fun c_3 => ?_)
  · have hx := ge_t hx c_3
    refine lv_aload_n C.x C.bc dX6_build_35 rfl (lv_at hl 0 rfl) ?_
    obtain ⟨⟨r_4, st_4⟩, hf_4, hx⟩ := bd_e hx
    have hx := u2_e hx
    refine cX6_96_X6_refuse C hI h hf_4 ⟨Nat.le_of_ble_eq_true rfl, Nat.le_of_ble_eq_true rfl⟩ ⟨Nat.zero_le _, Nat.zero_le _⟩ hl.1 (Nat.le_of_ble_eq_true rfl) dX6_build_36 (fun H locs h => ?_)
    obtain rfl := Option.some.inj hx
    exact x_iret C h dX6_build_39
  · have hx := ge_f hx c_3
    refine lv_aload_n C.x C.bc dX6_build_13 rfl (lv_at hl 0 rfl) ?_
    refine gt_X6_83_68 C hI h dX6_build_14 ?_
    refine lv_bipush (v := (6 : Int32)) C.x C.bc dX6_build_17 (by decide) ?_
    refine lv_iload_n C.x C.bc dX6_build_19 rfl (lv_at hl 1 rfl) ?_
    refine lv_imul C.x C.bc dX6_build_20 ?_
    refine lv_iload_n C.x C.bc dX6_build_21 rfl (lv_at hl 2 rfl) ?_
    refine lv_iadd C.x C.bc dX6_build_22 ?_
    obtain ⟨g_5, hx⟩ := gd_e hx
    refine x_iald C h 85 12 (hI 85 (by decide)) k_85 g_5 dX6_build_23 ?_
    refine lv_if_eq (tgt := 35) C.x C.bc dX6_build_24 (by decide) (fun c_6 => ?_) (fun c_6 => ?_)
    · have hx := ge_t hx c_6
      refine lv_aload_n C.x C.bc dX6_build_35 rfl (lv_at hl 0 rfl) ?_
      obtain ⟨⟨r_7, st_7⟩, hf_7, hx⟩ := bd_e hx
      have hx := u2_e hx
      refine cX6_96_X6_refuse C hI h hf_7 ⟨Nat.le_of_ble_eq_true rfl, Nat.le_of_ble_eq_true rfl⟩ ⟨Nat.zero_le _, Nat.zero_le _⟩ hl.1 (Nat.le_of_ble_eq_true rfl) dX6_build_36 (fun H locs h => ?_)
      obtain rfl := Option.some.inj hx
      exact x_iret C h dX6_build_39
    · have hx := ge_f hx c_6
      refine lv_aload_n C.x C.bc dX6_build_27 rfl (lv_at hl 0 rfl) ?_
      refine lv_iload_n C.x C.bc dX6_build_28 rfl (lv_at hl 3 rfl) ?_
      obtain ⟨r_8, hf_8, hx⟩ := bd_e hx
      refine cX6_304_X6_isNode C hI h hf_8 ⟨Nat.le_of_ble_eq_true rfl, Nat.le_of_ble_eq_true rfl⟩ ⟨Nat.zero_le _, Nat.zero_le _⟩ hl.1 (Nat.le_of_ble_eq_true rfl) dX6_build_29 (fun H locs h => ?_)
      refine lv_if_ne (tgt := 40) C.x C.bc dX6_build_32 (by decide) (fun c_9 => ?_) (fun c_9 => ?_)
      · have hx := ge_f hx c_9
        refine lv_iload_n C.x C.bc dX6_build_40 rfl (lv_at hl 1 rfl) ?_
        refine lv_iconst (v := (1 : Int32)) C.x C.bc dX6_build_41 (by decide) ?_
        refine lv_icmp_ne (tgt := 49) C.x C.bc dX6_build_42 (by decide) (fun c_10 => ?_) (fun c_10 => ?_)
        · have hx := ge_f hx c_10
          refine lv_iload C.x C.bc dX6_build_49 (lv_at hl 4 rfl) ?_
          refine lv_if_eq (tgt := 58) C.x C.bc dX6_build_51 (by decide) (fun c_11 => ?_) (fun c_11 => ?_)
          · have hx := ge_t hx c_11
            refine lv_iconst (v := (0 : Int32)) C.x C.bc dX6_build_58 (by decide) ?_
            exact bX6_build_59 C hI v1 v2 v3 (0 : Int32) st_1 hx h (lv_sub hl [0, 1, 2, 3] rfl)
          · have hx := ge_f hx c_11
            refine lv_iconst (v := (1 : Int32)) C.x C.bc dX6_build_54 (by decide) ?_
            refine lv_goto (tgt := 59) C.x C.bc dX6_build_55 (by decide) ?_
            exact bX6_build_59 C hI v1 v2 v3 (1 : Int32) st_1 hx h (lv_sub hl [0, 1, 2, 3] rfl)
        · have hx := ge_t hx c_10
          refine lv_iconst (v := (2 : Int32)) C.x C.bc dX6_build_45 (by decide) ?_
          refine lv_goto (tgt := 59) C.x C.bc dX6_build_46 (by decide) ?_
          exact bX6_build_59 C hI v1 v2 v3 (2 : Int32) st_1 hx h (lv_sub hl [0, 1, 2, 3] rfl)
      · have hx := ge_t hx c_9
        refine lv_aload_n C.x C.bc dX6_build_35 rfl (lv_at hl 0 rfl) ?_
        obtain ⟨⟨r_24, st_24⟩, hf_24, hx⟩ := bd_e hx
        have hx := u2_e hx
        refine cX6_96_X6_refuse C hI h hf_24 ⟨Nat.le_of_ble_eq_true rfl, Nat.le_of_ble_eq_true rfl⟩ ⟨Nat.zero_le _, Nat.zero_le _⟩ hl.1 (Nat.le_of_ble_eq_true rfl) dX6_build_36 (fun H locs h => ?_)
        obtain rfl := Option.some.inj hx
        exact x_iret C h dX6_build_39
theorem mX6_build (hG : G0 E s0 b) (hI : Sx E) {v1 : Int32} {v2 : Int32} {v3 : Int32} {v4 : Int32} {x : Int32 × St} (hx : fX6_build v1 v2 v3 v4 st = some x) : Mt l E s0 yX6_build cX6_build 7 (some .int) rmX6_build [.ref (E.ad 68), .int v1, .int v2, .int v3, .int v4] (sg st) (some (.int x.1)) E (sg x.2) :=
  Mt.of hG (by decide) (Nat.le_of_ble_eq_true rfl) (fun p e s m below meth c ls C h hl => bX6_build C hI v1 v2 v3 v4 st hx h hl)
end
