set_option maxRecDepth 100000
section
variable {p : Program} {l : Launch} {e : Env} {R : Room} {s : State} {m : MethodId} {args : Array Value} {below : List Frame} {meth : Method} {c : Code} {H : Heap} {locs : List Loc} {cells slots : Nat} {Q : State → Prop}
variable {cc : ByteArray} {pc : Nat} {ls : Array Slot} {rest : List Value} {E : Wd} {s0 : State} {b nL : Nat} {rt : Option FieldType} {g st : St}
abbrev rmX1_isTooMuch : Room := { frames := 1, cells := 0, slots := 0, locals := 30 }
def fX1_isTooMuch_59 (st : St) : Option (Int32) :=
  some (0 : Int32)
set_option maxHeartbeats 1000000 in
theorem bX1_isTooMuch_59 (C : Cx E s0 b p s m args meth c cX1_isTooMuch 3 "EarthMesh" (some .boolean)) (hI : Sx E) (st : St) {x : Int32} (hx : fX1_isTooMuch_59 st = some x) {H : Heap} {locs : List Loc} {ls : Array Slot} (h : XH E (sg st) s H locs) (hl : lv_has ls 3 []) : W p l e rmX1_isTooMuch s m args below meth c H locs 0 0 (MQ below (Qx E (some (.int x)) (sg st)) args s 0 0 (gA E.HB)) (F0 m 59 ls []) := by
  unfold fX1_isTooMuch_59 at hx
  refine lv_iconst (v := (0 : Int32)) C.x C.bc dX1_isTooMuch_59 (by decide) ?_
  obtain rfl := Option.some.inj hx
  exact x_zret (v := (0 : Int32)) C h rfl dX1_isTooMuch_60
def fX1_isTooMuch (v1 : Int32) (v2 : Int32) (st : St) : Option (Int32) :=
  gd (inB v2 3) <|
  gd (inB v1 12) <|
  if (st.1 (3 + v2.toNatClampNeg) v1.toNatClampNeg) ≤ 0 then
    fX1_isTooMuch_59 st
  else
    gd (inB v1 12) <|
    nm (fX2_end_1 v1 v2 st) fun r_5 =>
    gd (inB r_5 12) <|
    if (((st.1 1 9).toInt64) * (st.2.1 0 3)) < (jabsl ((st.2.1 52 v1.toNatClampNeg) - (st.2.1 52 r_5.toNatClampNeg))) then
      some (1 : Int32)
    else
      fX1_isTooMuch_59 st
set_option maxHeartbeats 1000000 in
theorem bX1_isTooMuch (C : Cx E s0 b p s m args meth c cX1_isTooMuch 3 "EarthMesh" (some .boolean)) (hI : Sx E) (v1 : Int32) (v2 : Int32) (st : St) {x : Int32} (hx : fX1_isTooMuch v1 v2 st = some x) {H : Heap} {locs : List Loc} {ls : Array Slot} (h : XH E (sg st) s H locs) (hl : lv_has ls 3 [(0, .ref (E.ad 0)), (1, .int v1), (2, .int v2)]) : W p l e rmX1_isTooMuch s m args below meth c H locs 0 0 (MQ below (Qx E (some (.int x)) (sg st)) args s 0 0 (gA E.HB)) (F0 m 0 ls []) := by
  unfold fX1_isTooMuch at hx
  refine lv_aload_n C.x C.bc dX1_isTooMuch_0 rfl (lv_at hl 0 rfl) ?_
  refine gt_X1_1_0 C hI h dX1_isTooMuch_1 ?_
  refine gt_X1_238_1 C hI h dX1_isTooMuch_4 ?_
  refine lv_iload_n C.x C.bc dX1_isTooMuch_7 rfl (lv_at hl 2 rfl) ?_
  obtain ⟨g_1, hx⟩ := gd_e hx
  refine y_row C h 2 3 4 3 (hI 2 (by decide)) k_2 (by decide) rfl rfl (fun _ _ => rfl) g_1 dX1_isTooMuch_8 ?_
  refine lv_iload_n C.x C.bc dX1_isTooMuch_9 rfl (lv_at hl 1 rfl) ?_
  obtain ⟨g_2, hx⟩ := gd_e hx
  refine x_iald C h (3 + v2.toNatClampNeg) 12 (hI _ (by have := inB_lt g_1; omega)) (kg_3 _ (inB_lt g_1)) g_2 dX1_isTooMuch_10 ?_
  refine lv_if_le (tgt := 59) C.x C.bc dX1_isTooMuch_11 (by decide) (fun c_3 => ?_) (fun c_3 => ?_)
  · have hx := ge_t hx c_3
    exact bX1_isTooMuch_59 C hI st hx h (lv_sub hl [] rfl)
  · have hx := ge_f hx c_3
    refine lv_aload_n C.x C.bc dX1_isTooMuch_14 rfl (lv_at hl 0 rfl) ?_
    refine gt_X1_47_0 C hI h dX1_isTooMuch_15 ?_
    refine lv_iload_n C.x C.bc dX1_isTooMuch_18 rfl (lv_at hl 1 rfl) ?_
    obtain ⟨g_4, hx⟩ := gd_e hx
    refine x_lald C h 52 12 (hI 52 (by decide)) k_52 g_4 dX1_isTooMuch_19 ?_
    refine lv_aload_n C.x C.bc dX1_isTooMuch_20 rfl (lv_at hl 0 rfl) ?_
    refine gt_X1_47_0 C hI h dX1_isTooMuch_21 ?_
    refine lv_aload_n C.x C.bc dX1_isTooMuch_24 rfl (lv_at hl 0 rfl) ?_
    refine gt_X1_1_0 C hI h dX1_isTooMuch_25 ?_
    refine lv_iload_n C.x C.bc dX1_isTooMuch_28 rfl (lv_at hl 1 rfl) ?_
    refine lv_iload_n C.x C.bc dX1_isTooMuch_29 rfl (lv_at hl 2 rfl) ?_
    obtain ⟨r_5, e_5, hx⟩ := nm_x hx
    refine cX1_296_X2_end_1 C hI h e_5.symm ⟨Nat.le_of_ble_eq_true rfl, Nat.le_of_ble_eq_true rfl⟩ ⟨Nat.zero_le _, Nat.zero_le _⟩ hl.1 (Nat.le_of_ble_eq_true rfl) dX1_isTooMuch_30 (fun H locs h => ?_)
    obtain ⟨g_6, hx⟩ := gd_e hx
    refine x_lald C h 52 12 (hI 52 (by decide)) k_52 g_6 dX1_isTooMuch_33 ?_
    refine lv_lsub C.x C.bc dX1_isTooMuch_34 ?_
    refine va_mabs_long C.x C.bc (C.ml.trans hl.1.symm) C.ow (C.ts _ q332) (C.ts _ q333) (C.ts _ q134) (C.ts _ q334) (Nat.le_of_ble_eq_true rfl) (Nat.le_of_ble_eq_true rfl) (Nat.zero_le _) (Nat.zero_le _) dX1_isTooMuch_35 ?_
    refine lv_aload_n C.x C.bc dX1_isTooMuch_38 rfl (lv_at hl 0 rfl) ?_
    refine gt_X1_1_0 C hI h dX1_isTooMuch_39 ?_
    refine gt_X1_273_1 C hI h dX1_isTooMuch_42 ?_
    refine lv_i2l (v := ((st.1 1 9).toInt64)) C.x C.bc dX1_isTooMuch_45 rfl ?_
    refine lv_aload_n C.x C.bc dX1_isTooMuch_46 rfl (lv_at hl 0 rfl) ?_
    refine gt_X1_44_0 C hI h dX1_isTooMuch_47 ?_
    refine lv_lmul C.x C.bc dX1_isTooMuch_50 ?_
    refine W.lcmp C.x C.bc dX1_isTooMuch_51 ?_
    refine lv_if_le (tgt := 59) C.x C.bc dX1_isTooMuch_52 (by decide) (fun c_7 => ?_) (fun c_7 => ?_)
    · have c_7 := (lc_le _ _).mp c_7
      have hx := ge_f hx c_7
      exact bX1_isTooMuch_59 C hI st hx h (lv_sub hl [] rfl)
    · have c_7 := Classical.not_not.mp ((not_congr (lc_le _ _)).mp c_7)
      have hx := ge_t hx c_7
      refine lv_iconst (v := (1 : Int32)) C.x C.bc dX1_isTooMuch_55 (by decide) ?_
      refine lv_goto (tgt := 60) C.x C.bc dX1_isTooMuch_56 (by decide) ?_
      obtain rfl := Option.some.inj hx
      exact x_zret (v := (1 : Int32)) C h rfl dX1_isTooMuch_60
theorem mX1_isTooMuch (hG : G0 E s0 b) (hI : Sx E) {v1 : Int32} {v2 : Int32} {x : Int32} (hx : fX1_isTooMuch v1 v2 st = some x) : Mt l E s0 yX1_isTooMuch cX1_isTooMuch 3 (some .boolean) rmX1_isTooMuch [.ref (E.ad 0), .int v1, .int v2] (sg st) (some (.int x)) E (sg st) :=
  Mt.of hG (by decide) (Nat.le_of_ble_eq_true rfl) (fun p e s m below meth c ls C h hl => bX1_isTooMuch C hI v1 v2 st hx h hl)
theorem cX1_399_X1_isTooMuch {a0 : Int32} {a1 : Int32} {r : Int32} (C : Cx E s0 b p s m args meth c cc nL "EarthMesh" rt) (hI : Sx E) (h : XH E (sg st) s H locs) (hf : fX1_isTooMuch a0 a1 st = some r) (hR : rmX1_isTooMuch.frames + 1 ≤ R.frames ∧ 16 + (3 + 11) + rmX1_isTooMuch.locals ≤ R.locals) (h0 : cells ≤ R.cells ∧ slots ≤ R.slots) (hsz : ls.size = nL) (hcat : (rest.map fun v => v.category).sum ≤ 16) (hdg : decode cc pc = .ok (.invokevirtual 399, 3)) (kk : ∀ (H : Heap) (locs : List Loc), XH E (sg st) s H locs → W p l e R s m args below meth c H locs cells slots Q (F0 m (pc + 3) ls (.int r :: rest))) : W p l e R s m args below meth c H locs cells slots Q (F0 m pc ls (.int a1 :: .int a0 :: .ref (E.ad 0) :: rest)) :=
  x_callV (n := 2) (As := [.int a0, .int a1]) C h 0 0 (hI 0 (by decide)) k_0 rfl (mX1_isTooMuch C.g hI hf) (lw_V q1502 q1504 qs62 q130 q1505) ⟨rfl, by decide +kernel, by decide +kernel, by decide +kernel⟩ hR ⟨rfl, rfl⟩ h0 rfl hsz rfl hcat hdg kk
abbrev rmX1_melts : Room := { frames := 2, cells := 0, slots := 0, locals := 60 }
def fX1_melts_48 (v1 : Int32) (v2 : Int32) (v3 : Int32) (st : St) : Option ((Int32 × Int32 × St) ⊕ (Int32 × St)) :=
  nm (v3 + (1 : Int32)) fun v3_9 =>
  some (.inl (v1, v3_9, st))
set_option maxHeartbeats 1000000 in
theorem bX1_melts_48 (C : Cx E s0 b p s m args meth c cX1_melts 4 "EarthMesh" (some .boolean)) (hI : Sx E) (v1 : Int32) (v2 : Int32) (v3 : Int32) (st : St) {x : (Int32 × Int32 × St) ⊕ (Int32 × St)} (hx : fX1_melts_48 v1 v2 v3 st = some x) {Q : State → Prop} {G : Int32 × Int32 × St → Prop} {X : Int32 × St → Prop} (hG : ∀ (w1 : Int32) (w3 : Int32) (wst : St), G (w1, w3, wst) → ∀ (H : Heap) (locs : List Loc) (ls : Array Slot), XH E (sg wst) s H locs → lv_has ls 4 [(0, .ref (E.ad 0)), (1, .int w1), (2, .int v2), (3, .int w3)] → W p l e rmX1_melts s m args below meth c H locs 0 0 Q (F0 m 11 ls [])) (hE0 : ∀ (w1 : Int32) (wst : St), X (w1, wst) → ∀ (H : Heap) (locs : List Loc) (ls : Array Slot), XH E (sg wst) s H locs → lv_has ls 4 [(0, .ref (E.ad 0)), (1, .int w1), (2, .int v2)] → W p l e rmX1_melts s m args below meth c H locs 0 0 Q (F0 m 54 ls [])) (K : Kx G X x) {H : Heap} {locs : List Loc} {ls : Array Slot} (h : XH E (sg st) s H locs) (hl : lv_has ls 4 [(0, .ref (E.ad 0)), (1, .int v1), (2, .int v2), (3, .int v3)]) : W p l e rmX1_melts s m args below meth c H locs 0 0 Q (F0 m 48 ls []) := by
  unfold fX1_melts_48 at hx
  obtain ⟨v3_9, e_9, hx⟩ := nm_x hx
  refine lv_iinc (v := v3_9) (lv' := [(3, .int v3_9), (0, .ref (E.ad 0)), (1, .int v1), (2, .int v2)]) C.x C.bc dX1_melts_48 hl (k := 3) rfl (by rw [e_9]; rfl) (by decide) rfl (fun ls hl => ?_)
  refine lv_goto (tgt := 11) C.x C.bc dX1_melts_51 (by decide) ?_
  obtain rfl := Option.some.inj hx
  exact hG _ _ _ K _ _ _ h (lv_sub hl [1, 2, 3, 0] rfl)
def fX1_melts_11 (v1 : Int32) (v2 : Int32) (v3 : Int32) (st : St) : Option ((Int32 × Int32 × St) ⊕ (Int32 × St)) :=
  nm (fX2_nodes_1 st) fun r_2 =>
  if r_2 ≤ v3 then
    some (.inr (v1, st))
  else
    bd (fX1_isTooMuch v3 v2 st) fun r_4 =>
    if r_4 = 0 then
      fX1_melts_48 v1 v2 v3 st
    else
      gd (inB v2 3) <|
      gd (inB v3 12) <|
      nm (uI st (3 + v2.toNatClampNeg) v3.toNatClampNeg (0 : Int32)) fun st_8 =>
      fX1_melts_48 (1 : Int32) v2 v3 st_8
set_option maxHeartbeats 1000000 in
theorem bX1_melts_11 (C : Cx E s0 b p s m args meth c cX1_melts 4 "EarthMesh" (some .boolean)) (hI : Sx E) (v1 : Int32) (v2 : Int32) (v3 : Int32) (st : St) {x : (Int32 × Int32 × St) ⊕ (Int32 × St)} (hx : fX1_melts_11 v1 v2 v3 st = some x) {Q : State → Prop} {G : Int32 × Int32 × St → Prop} {X : Int32 × St → Prop} (hG : ∀ (w1 : Int32) (w3 : Int32) (wst : St), G (w1, w3, wst) → ∀ (H : Heap) (locs : List Loc) (ls : Array Slot), XH E (sg wst) s H locs → lv_has ls 4 [(0, .ref (E.ad 0)), (1, .int w1), (2, .int v2), (3, .int w3)] → W p l e rmX1_melts s m args below meth c H locs 0 0 Q (F0 m 11 ls [])) (hE0 : ∀ (w1 : Int32) (wst : St), X (w1, wst) → ∀ (H : Heap) (locs : List Loc) (ls : Array Slot), XH E (sg wst) s H locs → lv_has ls 4 [(0, .ref (E.ad 0)), (1, .int w1), (2, .int v2)] → W p l e rmX1_melts s m args below meth c H locs 0 0 Q (F0 m 54 ls [])) (K : Kx G X x) {H : Heap} {locs : List Loc} {ls : Array Slot} (h : XH E (sg st) s H locs) (hl : lv_has ls 4 [(0, .ref (E.ad 0)), (1, .int v1), (2, .int v2), (3, .int v3)]) : W p l e rmX1_melts s m args below meth c H locs 0 0 Q (F0 m 11 ls []) := by
  unfold fX1_melts_11 at hx
  refine lv_iload_n C.x C.bc dX1_melts_11 rfl (lv_at hl 3 rfl) ?_
  refine lv_aload_n C.x C.bc dX1_melts_12 rfl (lv_at hl 0 rfl) ?_
  refine gt_X1_1_0 C hI h dX1_melts_13 ?_
  obtain ⟨r_2, e_2, hx⟩ := nm_x hx
  refine cX1_55_X2_nodes_1 C hI h e_2.symm ⟨Nat.le_of_ble_eq_true rfl, Nat.le_of_ble_eq_true rfl⟩ ⟨Nat.zero_le _, Nat.zero_le _⟩ hl.1 (Nat.le_of_ble_eq_true rfl) dX1_melts_16 (fun H locs h => ?_)
  refine lv_icmp_ge (tgt := 54) C.x C.bc dX1_melts_19 (by decide) (fun c_3 => ?_) (fun c_3 => ?_)
  · have hx := ge_t hx c_3
    obtain rfl := Option.some.inj hx
    exact hE0 _ _ K _ _ _ h (lv_sub hl [0, 1, 2] rfl)
  · have hx := ge_f hx c_3
    refine lv_aload_n C.x C.bc dX1_melts_22 rfl (lv_at hl 0 rfl) ?_
    refine lv_iload_n C.x C.bc dX1_melts_23 rfl (lv_at hl 3 rfl) ?_
    refine lv_iload_n C.x C.bc dX1_melts_24 rfl (lv_at hl 2 rfl) ?_
    obtain ⟨r_4, hf_4, hx⟩ := bd_e hx
    refine cX1_399_X1_isTooMuch C hI h hf_4 ⟨Nat.le_of_ble_eq_true rfl, Nat.le_of_ble_eq_true rfl⟩ ⟨Nat.zero_le _, Nat.zero_le _⟩ hl.1 (Nat.le_of_ble_eq_true rfl) dX1_melts_25 (fun H locs h => ?_)
    refine lv_if_ne (tgt := 34) C.x C.bc dX1_melts_28 (by decide) (fun c_5 => ?_) (fun c_5 => ?_)
    · have hx := ge_f hx c_5
      refine lv_aload_n C.x C.bc dX1_melts_34 rfl (lv_at hl 0 rfl) ?_
      refine gt_X1_1_0 C hI h dX1_melts_35 ?_
      refine gt_X1_238_1 C hI h dX1_melts_38 ?_
      refine lv_iload_n C.x C.bc dX1_melts_41 rfl (lv_at hl 2 rfl) ?_
      obtain ⟨g_6, hx⟩ := gd_e hx
      refine y_row C h 2 3 4 3 (hI 2 (by decide)) k_2 (by decide) rfl rfl (fun _ _ => rfl) g_6 dX1_melts_42 ?_
      refine lv_iload_n C.x C.bc dX1_melts_43 rfl (lv_at hl 3 rfl) ?_
      refine lv_iconst (v := (0 : Int32)) C.x C.bc dX1_melts_44 (by decide) ?_
      obtain ⟨g_7, hx⟩ := gd_e hx
      obtain ⟨st_8, e_8, hx⟩ := nm_x hx
      refine y_iast C h (3 + v2.toNatClampNeg) 12 (hI _ (by have := inB_lt g_6; omega)) (kg_3 _ (inB_lt g_6)) g_7 e_8 dX1_melts_45 (fun H locs h => ?_)
      refine lv_iconst (v := (1 : Int32)) C.x C.bc dX1_melts_46 (by decide) ?_
      refine lv_istore_n (lv' := [(1, .int (1 : Int32)), (0, .ref (E.ad 0)), (2, .int v2), (3, .int v3)]) C.x C.bc dX1_melts_47 rfl hl (by decide) rfl (fun ls hl => ?_)
      exact bX1_melts_48 C hI (1 : Int32) v2 v3 st_8 hx hG hE0 K h (lv_sub hl [1, 0, 2, 3] rfl)
    · have hx := ge_t hx c_5
      refine lv_goto (tgt := 48) C.x C.bc dX1_melts_31 (by decide) ?_
      exact bX1_melts_48 C hI v1 v2 v3 st hx hG hE0 K h (lv_sub hl [0, 1, 2, 3] rfl)
set_option maxHeartbeats 1000000 in
theorem pX1_melts_11 (C : Cx E s0 b p s m args meth c cX1_melts 4 "EarthMesh" (some .boolean)) (hI : Sx E) (v2 : Int32) {Q : State → Prop} {v1 : Int32} {v3 : Int32} {st : St} {n : Nat} {r : Int32 × St} (hx : iter (u3 fun v1 v3 st => fX1_melts_11 v1 v2 v3 st) n (v1, v3, st) = some r) (hE : (fun t => ∀ (H : Heap) (locs : List Loc) (ls : Array Slot), XH E (sg t.2) s H locs → lv_has ls 4 [(0, .ref (E.ad 0)), (1, .int t.1), (2, .int v2)] → W p l e rmX1_melts s m args below meth c H locs 0 0 Q (F0 m 54 ls [])) r) {H : Heap} {locs : List Loc} {ls : Array Slot} (h : XH E (sg st) s H locs) (hl : lv_has ls 4 [(0, .ref (E.ad 0)), (1, .int v1), (2, .int v2), (3, .int v3)]) : W p l e rmX1_melts s m args below meth c H locs 0 0 Q (F0 m 11 ls []) := by
  refine iter_W (G := fun t => ∀ (H : Heap) (locs : List Loc) (ls : Array Slot), XH E (sg t.2.2) s H locs → lv_has ls 4 [(0, .ref (E.ad 0)), (1, .int t.1), (2, .int v2), (3, .int t.2.1)] → W p l e rmX1_melts s m args below meth c H locs 0 0 Q (F0 m 11 ls [])) (E := fun t => ∀ (H : Heap) (locs : List Loc) (ls : Array Slot), XH E (sg t.2) s H locs → lv_has ls 4 [(0, .ref (E.ad 0)), (1, .int t.1), (2, .int v2)] → W p l e rmX1_melts s m args below meth c H locs 0 0 Q (F0 m 54 ls [])) (fun t x hx K H locs ls h hl => ?_) n _ r hx hE H locs ls h hl
  obtain ⟨v1, v3, st⟩ := t
  exact bX1_melts_11 C hI v1 v2 v3 st hx (fun _ _ _ z => z) (fun _ _ z => z) K h hl
def fX1_melts_4 (v1 : Int32) (v2 : Int32) (st : St) : Option ((Int32 × Int32 × St) ⊕ (Int32 × St)) :=
  if (1 : Int32) < v2 then
    some (.inr (v1, st))
  else
    bd (iter (u3 fun z1 z3 zst => fX1_melts_11 z1 v2 z3 zst) FU (v1, (0 : Int32), st)) (u2 fun v1_10 st_10 =>
    nm (v2 + (1 : Int32)) fun v2_11 =>
    some (.inl (v1_10, v2_11, st_10)))
set_option maxHeartbeats 1000000 in
theorem bX1_melts_4 (C : Cx E s0 b p s m args meth c cX1_melts 4 "EarthMesh" (some .boolean)) (hI : Sx E) (v1 : Int32) (v2 : Int32) (st : St) {x : (Int32 × Int32 × St) ⊕ (Int32 × St)} (hx : fX1_melts_4 v1 v2 st = some x) {Q : State → Prop} {G : Int32 × Int32 × St → Prop} {X : Int32 × St → Prop} (hG : ∀ (w1 : Int32) (w2 : Int32) (wst : St), G (w1, w2, wst) → ∀ (H : Heap) (locs : List Loc) (ls : Array Slot), XH E (sg wst) s H locs → lv_has ls 4 [(0, .ref (E.ad 0)), (1, .int w1), (2, .int w2)] → W p l e rmX1_melts s m args below meth c H locs 0 0 Q (F0 m 4 ls [])) (hE0 : ∀ (w1 : Int32) (wst : St), X (w1, wst) → ∀ (H : Heap) (locs : List Loc) (ls : Array Slot), XH E (sg wst) s H locs → lv_has ls 4 [(1, .int w1)] → W p l e rmX1_melts s m args below meth c H locs 0 0 Q (F0 m 60 ls [])) (K : Kx G X x) {H : Heap} {locs : List Loc} {ls : Array Slot} (h : XH E (sg st) s H locs) (hl : lv_has ls 4 [(0, .ref (E.ad 0)), (1, .int v1), (2, .int v2)]) : W p l e rmX1_melts s m args below meth c H locs 0 0 Q (F0 m 4 ls []) := by
  unfold fX1_melts_4 at hx
  refine lv_iload_n C.x C.bc dX1_melts_4 rfl (lv_at hl 2 rfl) ?_
  refine lv_iconst (v := (1 : Int32)) C.x C.bc dX1_melts_5 (by decide) ?_
  refine lv_icmp_gt (tgt := 60) C.x C.bc dX1_melts_6 (by decide) (fun c_1 => ?_) (fun c_1 => ?_)
  · have hx := ge_t hx c_1
    obtain rfl := Option.some.inj hx
    exact hE0 _ _ K _ _ _ h (lv_sub hl [1] rfl)
  · have hx := ge_f hx c_1
    refine lv_iconst (v := (0 : Int32)) C.x C.bc dX1_melts_9 (by decide) ?_
    refine lv_istore_n (lv' := [(3, .int (0 : Int32)), (0, .ref (E.ad 0)), (1, .int v1), (2, .int v2)]) C.x C.bc dX1_melts_10 rfl hl (by decide) rfl (fun ls hl => ?_)
    obtain ⟨⟨v1_10, st_10⟩, hi_10, hx⟩ := bd_e hx
    have hx := u2_e hx
    refine pX1_melts_11 C hI v2 hi_10 (fun H locs ls h hl => ?_) h (lv_sub hl [1, 2, 3, 0] rfl)
    obtain ⟨v2_11, e_11, hx⟩ := nm_x hx
    refine lv_iinc (v := v2_11) (lv' := [(2, .int v2_11), (0, .ref (E.ad 0)), (1, .int v1_10)]) C.x C.bc dX1_melts_54 hl (k := 2) rfl (by rw [e_11]; rfl) (by decide) rfl (fun ls hl => ?_)
    refine lv_goto (tgt := 4) C.x C.bc dX1_melts_57 (by decide) ?_
    obtain rfl := Option.some.inj hx
    exact hG _ _ _ K _ _ _ h (lv_sub hl [1, 2, 0] rfl)
set_option maxHeartbeats 1000000 in
theorem pX1_melts_4 (C : Cx E s0 b p s m args meth c cX1_melts 4 "EarthMesh" (some .boolean)) (hI : Sx E) {Q : State → Prop} {v1 : Int32} {v2 : Int32} {st : St} {n : Nat} {r : Int32 × St} (hx : iter (u3 fun v1 v2 st => fX1_melts_4 v1 v2 st) n (v1, v2, st) = some r) (hE : (fun t => ∀ (H : Heap) (locs : List Loc) (ls : Array Slot), XH E (sg t.2) s H locs → lv_has ls 4 [(1, .int t.1)] → W p l e rmX1_melts s m args below meth c H locs 0 0 Q (F0 m 60 ls [])) r) {H : Heap} {locs : List Loc} {ls : Array Slot} (h : XH E (sg st) s H locs) (hl : lv_has ls 4 [(0, .ref (E.ad 0)), (1, .int v1), (2, .int v2)]) : W p l e rmX1_melts s m args below meth c H locs 0 0 Q (F0 m 4 ls []) := by
  refine iter_W (G := fun t => ∀ (H : Heap) (locs : List Loc) (ls : Array Slot), XH E (sg t.2.2) s H locs → lv_has ls 4 [(0, .ref (E.ad 0)), (1, .int t.1), (2, .int t.2.1)] → W p l e rmX1_melts s m args below meth c H locs 0 0 Q (F0 m 4 ls [])) (E := fun t => ∀ (H : Heap) (locs : List Loc) (ls : Array Slot), XH E (sg t.2) s H locs → lv_has ls 4 [(1, .int t.1)] → W p l e rmX1_melts s m args below meth c H locs 0 0 Q (F0 m 60 ls [])) (fun t x hx K H locs ls h hl => ?_) n _ r hx hE H locs ls h hl
  obtain ⟨v1, v2, st⟩ := t
  exact bX1_melts_4 C hI v1 v2 st hx (fun _ _ _ z => z) (fun _ _ z => z) K h hl
def fX1_melts (st : St) : Option (Int32 × St) :=
  bd (iter (u3 fun z1 z2 zst => fX1_melts_4 z1 z2 zst) FU ((0 : Int32), (0 : Int32), st)) (u2 fun v1_12 st_12 =>
  gd (vp_nar .boolean v1_12 = v1_12) <|
  some (v1_12, st_12))
set_option maxHeartbeats 1000000 in
theorem bX1_melts (C : Cx E s0 b p s m args meth c cX1_melts 4 "EarthMesh" (some .boolean)) (hI : Sx E) (st : St) {x : Int32 × St} (hx : fX1_melts st = some x) {H : Heap} {locs : List Loc} {ls : Array Slot} (h : XH E (sg st) s H locs) (hl : lv_has ls 4 [(0, .ref (E.ad 0))]) : W p l e rmX1_melts s m args below meth c H locs 0 0 (MQ below (Qx E (some (.int x.1)) (sg x.2)) args s 0 0 (gA E.HB)) (F0 m 0 ls []) := by
  unfold fX1_melts at hx
  refine lv_iconst (v := (0 : Int32)) C.x C.bc dX1_melts_0 (by decide) ?_
  refine lv_istore_n (lv' := [(1, .int (0 : Int32)), (0, .ref (E.ad 0))]) C.x C.bc dX1_melts_1 rfl hl (by decide) rfl (fun ls hl => ?_)
  refine lv_iconst (v := (0 : Int32)) C.x C.bc dX1_melts_2 (by decide) ?_
  refine lv_istore_n (lv' := [(2, .int (0 : Int32)), (1, .int (0 : Int32)), (0, .ref (E.ad 0))]) C.x C.bc dX1_melts_3 rfl hl (by decide) rfl (fun ls hl => ?_)
  obtain ⟨⟨v1_12, st_12⟩, hi_12, hx⟩ := bd_e hx
  have hx := u2_e hx
  refine pX1_melts_4 C hI hi_12 (fun H locs ls h hl => ?_) h (lv_sub hl [2, 1, 0] rfl)
  refine lv_iload_n C.x C.bc dX1_melts_60 rfl (lv_at hl 0 rfl) ?_
  obtain ⟨g_13, hx⟩ := gd_e hx
  obtain rfl := Option.some.inj hx
  exact x_zret (v := v1_12) C h (nar_z g_13) dX1_melts_61
theorem mX1_melts (hG : G0 E s0 b) (hI : Sx E)  {x : Int32 × St} (hx : fX1_melts st = some x) : Mt l E s0 yX1_melts cX1_melts 4 (some .boolean) rmX1_melts [.ref (E.ad 0)] (sg st) (some (.int x.1)) E (sg x.2) :=
  Mt.of hG (by decide) (Nat.le_of_ble_eq_true rfl) (fun p e s m below meth c ls C h hl => bX1_melts C hI st hx h hl)
abbrev rmX1_bars : Room := { frames := 1, cells := 0, slots := 0, locals := 28 }
def fX1_bars_54 (v2 : Int32) (k0 : Int32) (k1 : Int32) (k2 : Int32) (st : St) : Option ((Int32 × Int32) ⊕ (Int32)) :=
  nm (k0 + (k1 + k2)) fun v1_9 =>
  nm (v2 + (1 : Int32)) fun v2_10 =>
  some (.inl (v1_9, v2_10))
set_option maxHeartbeats 1000000 in
theorem bX1_bars_54 (C : Cx E s0 b p s m args meth c cX1_bars 3 "EarthMesh" (some .int)) (hI : Sx E) (v2 : Int32) (k0 : Int32) (k1 : Int32) (k2 : Int32) (st : St) {x : (Int32 × Int32) ⊕ (Int32)} (hx : fX1_bars_54 v2 k0 k1 k2 st = some x) {Q : State → Prop} {G : Int32 × Int32 → Prop} {X : Int32 → Prop} (hG : ∀ (w1 : Int32) (w2 : Int32), G (w1, w2) → ∀ (H : Heap) (locs : List Loc) (ls : Array Slot), XH E (sg st) s H locs → lv_has ls 3 [(0, .ref (E.ad 0)), (1, .int w1), (2, .int w2)] → W p l e rmX1_bars s m args below meth c H locs 0 0 Q (F0 m 4 ls [])) (hE0 : ∀ (w1 : Int32), X w1 → ∀ (H : Heap) (locs : List Loc) (ls : Array Slot), XH E (sg st) s H locs → lv_has ls 3 [(1, .int w1)] → W p l e rmX1_bars s m args below meth c H locs 0 0 Q (F0 m 63 ls [])) (K : Kx G X x) {H : Heap} {locs : List Loc} {ls : Array Slot} (h : XH E (sg st) s H locs) (hl : lv_has ls 3 [(0, .ref (E.ad 0)), (2, .int v2)]) : W p l e rmX1_bars s m args below meth c H locs 0 0 Q (F0 m 54 ls [.int k2, .int k1, .int k0]) := by
  unfold fX1_bars_54 at hx
  refine lv_iadd C.x C.bc dX1_bars_54 ?_
  refine lv_iadd C.x C.bc dX1_bars_55 ?_
  obtain ⟨v1_9, e_9, hx⟩ := nm_x hx
  refine x_ti e_9 ?_
  refine lv_istore_n (lv' := [(1, .int v1_9), (0, .ref (E.ad 0)), (2, .int v2)]) C.x C.bc dX1_bars_56 rfl hl (by decide) rfl (fun ls hl => ?_)
  obtain ⟨v2_10, e_10, hx⟩ := nm_x hx
  refine lv_iinc (v := v2_10) (lv' := [(2, .int v2_10), (1, .int v1_9), (0, .ref (E.ad 0))]) C.x C.bc dX1_bars_57 hl (k := 2) rfl (by rw [e_10]; rfl) (by decide) rfl (fun ls hl => ?_)
  refine lv_goto (tgt := 4) C.x C.bc dX1_bars_60 (by decide) ?_
  obtain rfl := Option.some.inj hx
  exact hG _ _ K _ _ _ h (lv_sub hl [2, 1, 0] rfl)
def fX1_bars_35 (v2 : Int32) (k0 : Int32) (k1 : Int32) (st : St) : Option ((Int32 × Int32) ⊕ (Int32)) :=
  gd (inB (1 : Int32) 3) <|
  gd (inB v2 12) <|
  if (st.1 (3 + (1 : Int32).toNatClampNeg) v2.toNatClampNeg) ≤ 0 then
    fX1_bars_54 v2 k0 k1 (0 : Int32) st
  else
    fX1_bars_54 v2 k0 k1 (1 : Int32) st
set_option maxHeartbeats 1000000 in
theorem bX1_bars_35 (C : Cx E s0 b p s m args meth c cX1_bars 3 "EarthMesh" (some .int)) (hI : Sx E) (v2 : Int32) (k0 : Int32) (k1 : Int32) (st : St) {x : (Int32 × Int32) ⊕ (Int32)} (hx : fX1_bars_35 v2 k0 k1 st = some x) {Q : State → Prop} {G : Int32 × Int32 → Prop} {X : Int32 → Prop} (hG : ∀ (w1 : Int32) (w2 : Int32), G (w1, w2) → ∀ (H : Heap) (locs : List Loc) (ls : Array Slot), XH E (sg st) s H locs → lv_has ls 3 [(0, .ref (E.ad 0)), (1, .int w1), (2, .int w2)] → W p l e rmX1_bars s m args below meth c H locs 0 0 Q (F0 m 4 ls [])) (hE0 : ∀ (w1 : Int32), X w1 → ∀ (H : Heap) (locs : List Loc) (ls : Array Slot), XH E (sg st) s H locs → lv_has ls 3 [(1, .int w1)] → W p l e rmX1_bars s m args below meth c H locs 0 0 Q (F0 m 63 ls [])) (K : Kx G X x) {H : Heap} {locs : List Loc} {ls : Array Slot} (h : XH E (sg st) s H locs) (hl : lv_has ls 3 [(0, .ref (E.ad 0)), (2, .int v2)]) : W p l e rmX1_bars s m args below meth c H locs 0 0 Q (F0 m 35 ls [.int k1, .int k0]) := by
  unfold fX1_bars_35 at hx
  refine lv_aload_n C.x C.bc dX1_bars_35 rfl (lv_at hl 0 rfl) ?_
  refine gt_X1_1_0 C hI h dX1_bars_36 ?_
  refine gt_X1_238_1 C hI h dX1_bars_39 ?_
  refine lv_iconst (v := (1 : Int32)) C.x C.bc dX1_bars_42 (by decide) ?_
  obtain ⟨g_6, hx⟩ := gd_e hx
  refine y_row C h 2 3 4 3 (hI 2 (by decide)) k_2 (by decide) rfl rfl (fun _ _ => rfl) g_6 dX1_bars_43 ?_
  refine lv_iload_n C.x C.bc dX1_bars_44 rfl (lv_at hl 1 rfl) ?_
  obtain ⟨g_7, hx⟩ := gd_e hx
  refine x_iald C h (3 + (1 : Int32).toNatClampNeg) 12 (hI _ (by have := inB_lt g_6; omega)) (kg_3 _ (inB_lt g_6)) g_7 dX1_bars_45 ?_
  refine lv_if_le (tgt := 53) C.x C.bc dX1_bars_46 (by decide) (fun c_8 => ?_) (fun c_8 => ?_)
  · have hx := ge_t hx c_8
    refine lv_iconst (v := (0 : Int32)) C.x C.bc dX1_bars_53 (by decide) ?_
    exact bX1_bars_54 C hI v2 k0 k1 (0 : Int32) st hx hG hE0 K h (lv_sub hl [0, 1] rfl)
  · have hx := ge_f hx c_8
    refine lv_iconst (v := (1 : Int32)) C.x C.bc dX1_bars_49 (by decide) ?_
    refine lv_goto (tgt := 54) C.x C.bc dX1_bars_50 (by decide) ?_
    exact bX1_bars_54 C hI v2 k0 k1 (1 : Int32) st hx hG hE0 K h (lv_sub hl [0, 1] rfl)
def fX1_bars_4 (v1 : Int32) (v2 : Int32) (st : St) : Option ((Int32 × Int32) ⊕ (Int32)) :=
  nm (fX2_nodes_1 st) fun r_1 =>
  if r_1 ≤ v2 then
    some (.inr v1)
  else
    gd (inB (0 : Int32) 3) <|
    gd (inB v2 12) <|
    if (st.1 (3 + (0 : Int32).toNatClampNeg) v2.toNatClampNeg) ≤ 0 then
      fX1_bars_35 v2 v1 (0 : Int32) st
    else
      fX1_bars_35 v2 v1 (1 : Int32) st
set_option maxHeartbeats 1000000 in
theorem bX1_bars_4 (C : Cx E s0 b p s m args meth c cX1_bars 3 "EarthMesh" (some .int)) (hI : Sx E) (v1 : Int32) (v2 : Int32) (st : St) {x : (Int32 × Int32) ⊕ (Int32)} (hx : fX1_bars_4 v1 v2 st = some x) {Q : State → Prop} {G : Int32 × Int32 → Prop} {X : Int32 → Prop} (hG : ∀ (w1 : Int32) (w2 : Int32), G (w1, w2) → ∀ (H : Heap) (locs : List Loc) (ls : Array Slot), XH E (sg st) s H locs → lv_has ls 3 [(0, .ref (E.ad 0)), (1, .int w1), (2, .int w2)] → W p l e rmX1_bars s m args below meth c H locs 0 0 Q (F0 m 4 ls [])) (hE0 : ∀ (w1 : Int32), X w1 → ∀ (H : Heap) (locs : List Loc) (ls : Array Slot), XH E (sg st) s H locs → lv_has ls 3 [(1, .int w1)] → W p l e rmX1_bars s m args below meth c H locs 0 0 Q (F0 m 63 ls [])) (K : Kx G X x) {H : Heap} {locs : List Loc} {ls : Array Slot} (h : XH E (sg st) s H locs) (hl : lv_has ls 3 [(0, .ref (E.ad 0)), (1, .int v1), (2, .int v2)]) : W p l e rmX1_bars s m args below meth c H locs 0 0 Q (F0 m 4 ls []) := by
  unfold fX1_bars_4 at hx
  refine lv_iload_n C.x C.bc dX1_bars_4 rfl (lv_at hl 2 rfl) ?_
  refine lv_aload_n C.x C.bc dX1_bars_5 rfl (lv_at hl 0 rfl) ?_
  refine gt_X1_1_0 C hI h dX1_bars_6 ?_
  obtain ⟨r_1, e_1, hx⟩ := nm_x hx
  refine cX1_55_X2_nodes_1 C hI h e_1.symm ⟨Nat.le_of_ble_eq_true rfl, Nat.le_of_ble_eq_true rfl⟩ ⟨Nat.zero_le _, Nat.zero_le _⟩ hl.1 (Nat.le_of_ble_eq_true rfl) dX1_bars_9 (fun H locs h => ?_)
  refine lv_icmp_ge (tgt := 63) C.x C.bc dX1_bars_12 (by decide) (fun c_2 => ?_) (fun c_2 => ?_)
  · have hx := ge_t hx c_2
    obtain rfl := Option.some.inj hx
    exact hE0 _ K _ _ _ h (lv_sub hl [1] rfl)
  · have hx := ge_f hx c_2
    refine lv_iload_n C.x C.bc dX1_bars_15 rfl (lv_at hl 1 rfl) ?_
    refine lv_aload_n C.x C.bc dX1_bars_16 rfl (lv_at hl 0 rfl) ?_
    refine gt_X1_1_0 C hI h dX1_bars_17 ?_
    refine gt_X1_238_1 C hI h dX1_bars_20 ?_
    refine lv_iconst (v := (0 : Int32)) C.x C.bc dX1_bars_23 (by decide) ?_
    obtain ⟨g_3, hx⟩ := gd_e hx
    refine y_row C h 2 3 4 3 (hI 2 (by decide)) k_2 (by decide) rfl rfl (fun _ _ => rfl) g_3 dX1_bars_24 ?_
    refine lv_iload_n C.x C.bc dX1_bars_25 rfl (lv_at hl 2 rfl) ?_
    obtain ⟨g_4, hx⟩ := gd_e hx
    refine x_iald C h (3 + (0 : Int32).toNatClampNeg) 12 (hI _ (by have := inB_lt g_3; omega)) (kg_3 _ (inB_lt g_3)) g_4 dX1_bars_26 ?_
    refine lv_if_le (tgt := 34) C.x C.bc dX1_bars_27 (by decide) (fun c_5 => ?_) (fun c_5 => ?_)
    · have hx := ge_t hx c_5
      refine lv_iconst (v := (0 : Int32)) C.x C.bc dX1_bars_34 (by decide) ?_
      exact bX1_bars_35 C hI v2 v1 (0 : Int32) st hx hG hE0 K h (lv_sub hl [0, 2] rfl)
    · have hx := ge_f hx c_5
      refine lv_iconst (v := (1 : Int32)) C.x C.bc dX1_bars_30 (by decide) ?_
      refine lv_goto (tgt := 35) C.x C.bc dX1_bars_31 (by decide) ?_
      exact bX1_bars_35 C hI v2 v1 (1 : Int32) st hx hG hE0 K h (lv_sub hl [0, 2] rfl)
set_option maxHeartbeats 1000000 in
theorem pX1_bars_4 (C : Cx E s0 b p s m args meth c cX1_bars 3 "EarthMesh" (some .int)) (hI : Sx E) (st : St) {Q : State → Prop} {v1 : Int32} {v2 : Int32} {n : Nat} {r : Int32} (hx : iter (u2 fun v1 v2 => fX1_bars_4 v1 v2 st) n (v1, v2) = some r) (hE : (fun t => ∀ (H : Heap) (locs : List Loc) (ls : Array Slot), XH E (sg st) s H locs → lv_has ls 3 [(1, .int t)] → W p l e rmX1_bars s m args below meth c H locs 0 0 Q (F0 m 63 ls [])) r) {H : Heap} {locs : List Loc} {ls : Array Slot} (h : XH E (sg st) s H locs) (hl : lv_has ls 3 [(0, .ref (E.ad 0)), (1, .int v1), (2, .int v2)]) : W p l e rmX1_bars s m args below meth c H locs 0 0 Q (F0 m 4 ls []) := by
  refine iter_W (G := fun t => ∀ (H : Heap) (locs : List Loc) (ls : Array Slot), XH E (sg st) s H locs → lv_has ls 3 [(0, .ref (E.ad 0)), (1, .int t.1), (2, .int t.2)] → W p l e rmX1_bars s m args below meth c H locs 0 0 Q (F0 m 4 ls [])) (E := fun t => ∀ (H : Heap) (locs : List Loc) (ls : Array Slot), XH E (sg st) s H locs → lv_has ls 3 [(1, .int t)] → W p l e rmX1_bars s m args below meth c H locs 0 0 Q (F0 m 63 ls [])) (fun t x hx K H locs ls h hl => ?_) n _ r hx hE H locs ls h hl
  obtain ⟨v1, v2⟩ := t
  exact bX1_bars_4 C hI v1 v2 st hx (fun _ _ z => z) (fun _ z => z) K h hl
def fX1_bars (st : St) : Option (Int32) :=
  bd (iter (u2 fun z1 z2 => fX1_bars_4 z1 z2 st) FU ((0 : Int32), (0 : Int32))) (u1 fun v1_11 =>
  some v1_11)
set_option maxHeartbeats 1000000 in
theorem bX1_bars (C : Cx E s0 b p s m args meth c cX1_bars 3 "EarthMesh" (some .int)) (hI : Sx E) (st : St) {x : Int32} (hx : fX1_bars st = some x) {H : Heap} {locs : List Loc} {ls : Array Slot} (h : XH E (sg st) s H locs) (hl : lv_has ls 3 [(0, .ref (E.ad 0))]) : W p l e rmX1_bars s m args below meth c H locs 0 0 (MQ below (Qx E (some (.int x)) (sg st)) args s 0 0 (gA E.HB)) (F0 m 0 ls []) := by
  unfold fX1_bars at hx
  refine lv_iconst (v := (0 : Int32)) C.x C.bc dX1_bars_0 (by decide) ?_
  refine lv_istore_n (lv' := [(1, .int (0 : Int32)), (0, .ref (E.ad 0))]) C.x C.bc dX1_bars_1 rfl hl (by decide) rfl (fun ls hl => ?_)
  refine lv_iconst (v := (0 : Int32)) C.x C.bc dX1_bars_2 (by decide) ?_
  refine lv_istore_n (lv' := [(2, .int (0 : Int32)), (1, .int (0 : Int32)), (0, .ref (E.ad 0))]) C.x C.bc dX1_bars_3 rfl hl (by decide) rfl (fun ls hl => ?_)
  obtain ⟨v1_11, hi_11, hx⟩ := bd_e hx
  have hx := u1_e hx
  refine pX1_bars_4 C hI st hi_11 (fun H locs ls h hl => ?_) h (lv_sub hl [2, 1, 0] rfl)
  refine lv_iload_n C.x C.bc dX1_bars_63 rfl (lv_at hl 0 rfl) ?_
  obtain rfl := Option.some.inj hx
  exact x_iret C h dX1_bars_64
theorem mX1_bars (hG : G0 E s0 b) (hI : Sx E)  {x : Int32} (hx : fX1_bars st = some x) : Mt l E s0 yX1_bars cX1_bars 3 (some .int) rmX1_bars [.ref (E.ad 0)] (sg st) (some (.int x)) E (sg st) :=
  Mt.of hG (by decide) (Nat.le_of_ble_eq_true rfl) (fun p e s m below meth c ls C h hl => bX1_bars C hI st hx h hl)
abbrev rmX1_rods : Room := { frames := 1, cells := 0, slots := 0, locals := 28 }
def fX1_rods_35 (v2 : Int32) (k0 : Int32) (k1 : Int32) (st : St) : Option ((Int32 × Int32) ⊕ (Int32)) :=
  nm (k0 + k1) fun v1_6 =>
  nm (v2 + (1 : Int32)) fun v2_7 =>
  some (.inl (v1_6, v2_7))
set_option maxHeartbeats 1000000 in
theorem bX1_rods_35 (C : Cx E s0 b p s m args meth c cX1_rods 3 "EarthMesh" (some .int)) (hI : Sx E) (v2 : Int32) (k0 : Int32) (k1 : Int32) (st : St) {x : (Int32 × Int32) ⊕ (Int32)} (hx : fX1_rods_35 v2 k0 k1 st = some x) {Q : State → Prop} {G : Int32 × Int32 → Prop} {X : Int32 → Prop} (hG : ∀ (w1 : Int32) (w2 : Int32), G (w1, w2) → ∀ (H : Heap) (locs : List Loc) (ls : Array Slot), XH E (sg st) s H locs → lv_has ls 3 [(0, .ref (E.ad 0)), (1, .int w1), (2, .int w2)] → W p l e rmX1_rods s m args below meth c H locs 0 0 Q (F0 m 4 ls [])) (hE0 : ∀ (w1 : Int32), X w1 → ∀ (H : Heap) (locs : List Loc) (ls : Array Slot), XH E (sg st) s H locs → lv_has ls 3 [(1, .int w1)] → W p l e rmX1_rods s m args below meth c H locs 0 0 Q (F0 m 43 ls [])) (K : Kx G X x) {H : Heap} {locs : List Loc} {ls : Array Slot} (h : XH E (sg st) s H locs) (hl : lv_has ls 3 [(0, .ref (E.ad 0)), (2, .int v2)]) : W p l e rmX1_rods s m args below meth c H locs 0 0 Q (F0 m 35 ls [.int k1, .int k0]) := by
  unfold fX1_rods_35 at hx
  refine lv_iadd C.x C.bc dX1_rods_35 ?_
  obtain ⟨v1_6, e_6, hx⟩ := nm_x hx
  refine x_ti e_6 ?_
  refine lv_istore_n (lv' := [(1, .int v1_6), (0, .ref (E.ad 0)), (2, .int v2)]) C.x C.bc dX1_rods_36 rfl hl (by decide) rfl (fun ls hl => ?_)
  obtain ⟨v2_7, e_7, hx⟩ := nm_x hx
  refine lv_iinc (v := v2_7) (lv' := [(2, .int v2_7), (1, .int v1_6), (0, .ref (E.ad 0))]) C.x C.bc dX1_rods_37 hl (k := 2) rfl (by rw [e_7]; rfl) (by decide) rfl (fun ls hl => ?_)
  refine lv_goto (tgt := 4) C.x C.bc dX1_rods_40 (by decide) ?_
  obtain rfl := Option.some.inj hx
  exact hG _ _ K _ _ _ h (lv_sub hl [2, 1, 0] rfl)
def fX1_rods_4 (v1 : Int32) (v2 : Int32) (st : St) : Option ((Int32 × Int32) ⊕ (Int32)) :=
  nm (fX2_nodes_1 st) fun r_1 =>
  if r_1 ≤ v2 then
    some (.inr v1)
  else
    gd (inB (2 : Int32) 3) <|
    gd (inB v2 12) <|
    if (st.1 (3 + (2 : Int32).toNatClampNeg) v2.toNatClampNeg) ≤ 0 then
      fX1_rods_35 v2 v1 (0 : Int32) st
    else
      fX1_rods_35 v2 v1 (1 : Int32) st
set_option maxHeartbeats 1000000 in
theorem bX1_rods_4 (C : Cx E s0 b p s m args meth c cX1_rods 3 "EarthMesh" (some .int)) (hI : Sx E) (v1 : Int32) (v2 : Int32) (st : St) {x : (Int32 × Int32) ⊕ (Int32)} (hx : fX1_rods_4 v1 v2 st = some x) {Q : State → Prop} {G : Int32 × Int32 → Prop} {X : Int32 → Prop} (hG : ∀ (w1 : Int32) (w2 : Int32), G (w1, w2) → ∀ (H : Heap) (locs : List Loc) (ls : Array Slot), XH E (sg st) s H locs → lv_has ls 3 [(0, .ref (E.ad 0)), (1, .int w1), (2, .int w2)] → W p l e rmX1_rods s m args below meth c H locs 0 0 Q (F0 m 4 ls [])) (hE0 : ∀ (w1 : Int32), X w1 → ∀ (H : Heap) (locs : List Loc) (ls : Array Slot), XH E (sg st) s H locs → lv_has ls 3 [(1, .int w1)] → W p l e rmX1_rods s m args below meth c H locs 0 0 Q (F0 m 43 ls [])) (K : Kx G X x) {H : Heap} {locs : List Loc} {ls : Array Slot} (h : XH E (sg st) s H locs) (hl : lv_has ls 3 [(0, .ref (E.ad 0)), (1, .int v1), (2, .int v2)]) : W p l e rmX1_rods s m args below meth c H locs 0 0 Q (F0 m 4 ls []) := by
  unfold fX1_rods_4 at hx
  refine lv_iload_n C.x C.bc dX1_rods_4 rfl (lv_at hl 2 rfl) ?_
  refine lv_aload_n C.x C.bc dX1_rods_5 rfl (lv_at hl 0 rfl) ?_
  refine gt_X1_1_0 C hI h dX1_rods_6 ?_
  obtain ⟨r_1, e_1, hx⟩ := nm_x hx
  refine cX1_55_X2_nodes_1 C hI h e_1.symm ⟨Nat.le_of_ble_eq_true rfl, Nat.le_of_ble_eq_true rfl⟩ ⟨Nat.zero_le _, Nat.zero_le _⟩ hl.1 (Nat.le_of_ble_eq_true rfl) dX1_rods_9 (fun H locs h => ?_)
  refine lv_icmp_ge (tgt := 43) C.x C.bc dX1_rods_12 (by decide) (fun c_2 => ?_) (fun c_2 => ?_)
  · have hx := ge_t hx c_2
    obtain rfl := Option.some.inj hx
    exact hE0 _ K _ _ _ h (lv_sub hl [1] rfl)
  · have hx := ge_f hx c_2
    refine lv_iload_n C.x C.bc dX1_rods_15 rfl (lv_at hl 1 rfl) ?_
    refine lv_aload_n C.x C.bc dX1_rods_16 rfl (lv_at hl 0 rfl) ?_
    refine gt_X1_1_0 C hI h dX1_rods_17 ?_
    refine gt_X1_238_1 C hI h dX1_rods_20 ?_
    refine lv_iconst (v := (2 : Int32)) C.x C.bc dX1_rods_23 (by decide) ?_
    obtain ⟨g_3, hx⟩ := gd_e hx
    refine y_row C h 2 3 4 3 (hI 2 (by decide)) k_2 (by decide) rfl rfl (fun _ _ => rfl) g_3 dX1_rods_24 ?_
    refine lv_iload_n C.x C.bc dX1_rods_25 rfl (lv_at hl 2 rfl) ?_
    obtain ⟨g_4, hx⟩ := gd_e hx
    refine x_iald C h (3 + (2 : Int32).toNatClampNeg) 12 (hI _ (by have := inB_lt g_3; omega)) (kg_3 _ (inB_lt g_3)) g_4 dX1_rods_26 ?_
    refine lv_if_le (tgt := 34) C.x C.bc dX1_rods_27 (by decide) (fun c_5 => ?_) (fun c_5 => ?_)
    · have hx := ge_t hx c_5
      refine lv_iconst (v := (0 : Int32)) C.x C.bc dX1_rods_34 (by decide) ?_
      exact bX1_rods_35 C hI v2 v1 (0 : Int32) st hx hG hE0 K h (lv_sub hl [0, 2] rfl)
    · have hx := ge_f hx c_5
      refine lv_iconst (v := (1 : Int32)) C.x C.bc dX1_rods_30 (by decide) ?_
      refine lv_goto (tgt := 35) C.x C.bc dX1_rods_31 (by decide) ?_
      exact bX1_rods_35 C hI v2 v1 (1 : Int32) st hx hG hE0 K h (lv_sub hl [0, 2] rfl)
set_option maxHeartbeats 1000000 in
theorem pX1_rods_4 (C : Cx E s0 b p s m args meth c cX1_rods 3 "EarthMesh" (some .int)) (hI : Sx E) (st : St) {Q : State → Prop} {v1 : Int32} {v2 : Int32} {n : Nat} {r : Int32} (hx : iter (u2 fun v1 v2 => fX1_rods_4 v1 v2 st) n (v1, v2) = some r) (hE : (fun t => ∀ (H : Heap) (locs : List Loc) (ls : Array Slot), XH E (sg st) s H locs → lv_has ls 3 [(1, .int t)] → W p l e rmX1_rods s m args below meth c H locs 0 0 Q (F0 m 43 ls [])) r) {H : Heap} {locs : List Loc} {ls : Array Slot} (h : XH E (sg st) s H locs) (hl : lv_has ls 3 [(0, .ref (E.ad 0)), (1, .int v1), (2, .int v2)]) : W p l e rmX1_rods s m args below meth c H locs 0 0 Q (F0 m 4 ls []) := by
  refine iter_W (G := fun t => ∀ (H : Heap) (locs : List Loc) (ls : Array Slot), XH E (sg st) s H locs → lv_has ls 3 [(0, .ref (E.ad 0)), (1, .int t.1), (2, .int t.2)] → W p l e rmX1_rods s m args below meth c H locs 0 0 Q (F0 m 4 ls [])) (E := fun t => ∀ (H : Heap) (locs : List Loc) (ls : Array Slot), XH E (sg st) s H locs → lv_has ls 3 [(1, .int t)] → W p l e rmX1_rods s m args below meth c H locs 0 0 Q (F0 m 43 ls [])) (fun t x hx K H locs ls h hl => ?_) n _ r hx hE H locs ls h hl
  obtain ⟨v1, v2⟩ := t
  exact bX1_rods_4 C hI v1 v2 st hx (fun _ _ z => z) (fun _ z => z) K h hl
def fX1_rods (st : St) : Option (Int32) :=
  bd (iter (u2 fun z1 z2 => fX1_rods_4 z1 z2 st) FU ((0 : Int32), (0 : Int32))) (u1 fun v1_8 =>
  some v1_8)
set_option maxHeartbeats 1000000 in
theorem bX1_rods (C : Cx E s0 b p s m args meth c cX1_rods 3 "EarthMesh" (some .int)) (hI : Sx E) (st : St) {x : Int32} (hx : fX1_rods st = some x) {H : Heap} {locs : List Loc} {ls : Array Slot} (h : XH E (sg st) s H locs) (hl : lv_has ls 3 [(0, .ref (E.ad 0))]) : W p l e rmX1_rods s m args below meth c H locs 0 0 (MQ below (Qx E (some (.int x)) (sg st)) args s 0 0 (gA E.HB)) (F0 m 0 ls []) := by
  unfold fX1_rods at hx
  refine lv_iconst (v := (0 : Int32)) C.x C.bc dX1_rods_0 (by decide) ?_
  refine lv_istore_n (lv' := [(1, .int (0 : Int32)), (0, .ref (E.ad 0))]) C.x C.bc dX1_rods_1 rfl hl (by decide) rfl (fun ls hl => ?_)
  refine lv_iconst (v := (0 : Int32)) C.x C.bc dX1_rods_2 (by decide) ?_
  refine lv_istore_n (lv' := [(2, .int (0 : Int32)), (1, .int (0 : Int32)), (0, .ref (E.ad 0))]) C.x C.bc dX1_rods_3 rfl hl (by decide) rfl (fun ls hl => ?_)
  obtain ⟨v1_8, hi_8, hx⟩ := bd_e hx
  have hx := u1_e hx
  refine pX1_rods_4 C hI st hi_8 (fun H locs ls h hl => ?_) h (lv_sub hl [2, 1, 0] rfl)
  refine lv_iload_n C.x C.bc dX1_rods_43 rfl (lv_at hl 0 rfl) ?_
  obtain rfl := Option.some.inj hx
  exact x_iret C h dX1_rods_44
theorem mX1_rods (hG : G0 E s0 b) (hI : Sx E)  {x : Int32} (hx : fX1_rods st = some x) : Mt l E s0 yX1_rods cX1_rods 3 (some .int) rmX1_rods [.ref (E.ad 0)] (sg st) (some (.int x)) E (sg st) :=
  Mt.of hG (by decide) (Nat.le_of_ble_eq_true rfl) (fun p e s m below meth c ls C h hl => bX1_rods C hI st hx h hl)
abbrev rmX1_leaked : Room := { frames := 5, cells := 0, slots := 0, locals := 175 }
def fX1_leaked_41 (v1 : Int32) (v2 : Int32) (v3 : Int64) (v5 : Int32) (st : St) : Option ((Int64 × Int32 × St) ⊕ (Int64 × St)) :=
  nm (v5 + (1 : Int32)) fun v5_4 =>
  some (.inl (v3, v5_4, st))
set_option maxHeartbeats 1000000 in
theorem bX1_leaked_41 (C : Cx E s0 b p s m args meth c cX1_leaked 6 "EarthMesh" (some .long)) (hI : Sx E) (v1 : Int32) (v2 : Int32) (v3 : Int64) (v5 : Int32) (st : St) {x : (Int64 × Int32 × St) ⊕ (Int64 × St)} (hx : fX1_leaked_41 v1 v2 v3 v5 st = some x) {Q : State → Prop} {G : Int64 × Int32 × St → Prop} {X : Int64 × St → Prop} (hG : ∀ (w3 : Int64) (w5 : Int32) (wst : St), G (w3, w5, wst) → ∀ (H : Heap) (locs : List Loc) (ls : Array Slot), XH E (sg wst) s H locs → lv_has ls 6 [(0, .ref (E.ad 0)), (1, .int v1), (2, .int v2), (3, .long w3), (5, .int w5)] → W p l e rmX1_leaked s m args below meth c H locs 0 0 Q (F0 m 5 ls [])) (hE0 : ∀ (w3 : Int64) (wst : St), X (w3, wst) → ∀ (H : Heap) (locs : List Loc) (ls : Array Slot), XH E (sg wst) s H locs → lv_has ls 6 [(3, .long w3)] → W p l e rmX1_leaked s m args below meth c H locs 0 0 Q (F0 m 47 ls [])) (K : Kx G X x) {H : Heap} {locs : List Loc} {ls : Array Slot} (h : XH E (sg st) s H locs) (hl : lv_has ls 6 [(0, .ref (E.ad 0)), (1, .int v1), (2, .int v2), (3, .long v3), (5, .int v5)]) : W p l e rmX1_leaked s m args below meth c H locs 0 0 Q (F0 m 41 ls []) := by
  unfold fX1_leaked_41 at hx
  obtain ⟨v5_4, e_4, hx⟩ := nm_x hx
  refine lv_iinc (v := v5_4) (lv' := [(5, .int v5_4), (0, .ref (E.ad 0)), (1, .int v1), (2, .int v2), (3, .long v3)]) C.x C.bc dX1_leaked_41 hl (k := 4) rfl (by rw [e_4]; rfl) (by decide) rfl (fun ls hl => ?_)
  refine lv_goto (tgt := 5) C.x C.bc dX1_leaked_44 (by decide) ?_
  obtain rfl := Option.some.inj hx
  exact hG _ _ _ K _ _ _ h (lv_sub hl [1, 2, 3, 4, 0] rfl)
def fX1_leaked_5 (v1 : Int32) (v2 : Int32) (v3 : Int64) (v5 : Int32) (st : St) : Option ((Int64 × Int32 × St) ⊕ (Int64 × St)) :=
  nm (fX2_nodes_1 st) fun r_1 =>
  if r_1 ≤ v5 then
    some (.inr (v3, st))
  else
    if ((v1 >>> (v5 &&& 31)) &&& (1 : Int32)) = (1 : Int32) then
      bd (fX3_bordered v1 v2 v5 st) <| u2 fun r_5 st_5 =>
      nm (v3 + r_5) fun v3_6 =>
      fX1_leaked_41 v1 v2 v3_6 v5 st_5
    else
      fX1_leaked_41 v1 v2 v3 v5 st
set_option maxHeartbeats 1000000 in
theorem bX1_leaked_5 (C : Cx E s0 b p s m args meth c cX1_leaked 6 "EarthMesh" (some .long)) (hI : Sx E) (v1 : Int32) (v2 : Int32) (v3 : Int64) (v5 : Int32) (st : St) {x : (Int64 × Int32 × St) ⊕ (Int64 × St)} (hx : fX1_leaked_5 v1 v2 v3 v5 st = some x) {Q : State → Prop} {G : Int64 × Int32 × St → Prop} {X : Int64 × St → Prop} (hG : ∀ (w3 : Int64) (w5 : Int32) (wst : St), G (w3, w5, wst) → ∀ (H : Heap) (locs : List Loc) (ls : Array Slot), XH E (sg wst) s H locs → lv_has ls 6 [(0, .ref (E.ad 0)), (1, .int v1), (2, .int v2), (3, .long w3), (5, .int w5)] → W p l e rmX1_leaked s m args below meth c H locs 0 0 Q (F0 m 5 ls [])) (hE0 : ∀ (w3 : Int64) (wst : St), X (w3, wst) → ∀ (H : Heap) (locs : List Loc) (ls : Array Slot), XH E (sg wst) s H locs → lv_has ls 6 [(3, .long w3)] → W p l e rmX1_leaked s m args below meth c H locs 0 0 Q (F0 m 47 ls [])) (K : Kx G X x) {H : Heap} {locs : List Loc} {ls : Array Slot} (h : XH E (sg st) s H locs) (hl : lv_has ls 6 [(0, .ref (E.ad 0)), (1, .int v1), (2, .int v2), (3, .long v3), (5, .int v5)]) : W p l e rmX1_leaked s m args below meth c H locs 0 0 Q (F0 m 5 ls []) := by
  unfold fX1_leaked_5 at hx
  refine lv_iload C.x C.bc dX1_leaked_5 (lv_at hl 4 rfl) ?_
  refine lv_aload_n C.x C.bc dX1_leaked_7 rfl (lv_at hl 0 rfl) ?_
  refine gt_X1_1_0 C hI h dX1_leaked_8 ?_
  obtain ⟨r_1, e_1, hx⟩ := nm_x hx
  refine cX1_55_X2_nodes_1 C hI h e_1.symm ⟨Nat.le_of_ble_eq_true rfl, Nat.le_of_ble_eq_true rfl⟩ ⟨Nat.zero_le _, Nat.zero_le _⟩ hl.1 (Nat.le_of_ble_eq_true rfl) dX1_leaked_11 (fun H locs h => ?_)
  refine lv_icmp_ge (tgt := 47) C.x C.bc dX1_leaked_14 (by decide) (fun c_2 => ?_) (fun c_2 => ?_)
  · have hx := ge_t hx c_2
    obtain rfl := Option.some.inj hx
    exact hE0 _ _ K _ _ _ h (lv_sub hl [3] rfl)
  · have hx := ge_f hx c_2
    refine lv_iload_n C.x C.bc dX1_leaked_17 rfl (lv_at hl 1 rfl) ?_
    refine lv_iload C.x C.bc dX1_leaked_18 (lv_at hl 4 rfl) ?_
    refine lv_ishr C.x C.bc dX1_leaked_20 ?_
    refine lv_iconst (v := (1 : Int32)) C.x C.bc dX1_leaked_21 (by decide) ?_
    refine lv_iand C.x C.bc dX1_leaked_22 ?_
    refine lv_iconst (v := (1 : Int32)) C.x C.bc dX1_leaked_23 (by decide) ?_
    refine lv_icmp_ne (tgt := 41) C.x C.bc dX1_leaked_24 (by decide) (fun c_3 => ?_) (fun c_3 => ?_)
    · have hx := ge_f hx c_3
      exact bX1_leaked_41 C hI v1 v2 v3 v5 st hx hG hE0 K h (lv_sub hl [0, 1, 2, 3, 4] rfl)
    · have hx := ge_t hx c_3
      refine lv_lload_n C.x C.bc dX1_leaked_27 rfl (lv_at hl 3 rfl) ?_
      refine lv_aload_n C.x C.bc dX1_leaked_28 rfl (lv_at hl 0 rfl) ?_
      refine gt_X1_30_0 C hI h dX1_leaked_29 ?_
      refine lv_iload_n C.x C.bc dX1_leaked_32 rfl (lv_at hl 1 rfl) ?_
      refine lv_iload_n C.x C.bc dX1_leaked_33 rfl (lv_at hl 2 rfl) ?_
      refine lv_iload C.x C.bc dX1_leaked_34 (lv_at hl 4 rfl) ?_
      obtain ⟨⟨r_5, st_5⟩, hf_5, hx⟩ := bd_e hx
      have hx := u2_e hx
      refine cX1_415_X3_bordered C hI h hf_5 ⟨Nat.le_of_ble_eq_true rfl, Nat.le_of_ble_eq_true rfl⟩ ⟨Nat.zero_le _, Nat.zero_le _⟩ hl.1 (Nat.le_of_ble_eq_true rfl) dX1_leaked_36 (fun H locs h => ?_)
      refine lv_ladd C.x C.bc dX1_leaked_39 ?_
      obtain ⟨v3_6, e_6, hx⟩ := nm_x hx
      refine x_tl e_6 ?_
      refine lv_lstore_n (lv' := [(3, .long v3_6), (0, .ref (E.ad 0)), (1, .int v1), (2, .int v2), (5, .int v5)]) C.x C.bc dX1_leaked_40 rfl hl (by decide) rfl (fun ls hl => ?_)
      exact bX1_leaked_41 C hI v1 v2 v3_6 v5 st_5 hx hG hE0 K h (lv_sub hl [1, 2, 3, 0, 4] rfl)
set_option maxHeartbeats 1000000 in
theorem pX1_leaked_5 (C : Cx E s0 b p s m args meth c cX1_leaked 6 "EarthMesh" (some .long)) (hI : Sx E) (v1 : Int32) (v2 : Int32) {Q : State → Prop} {v3 : Int64} {v5 : Int32} {st : St} {n : Nat} {r : Int64 × St} (hx : iter (u3 fun v3 v5 st => fX1_leaked_5 v1 v2 v3 v5 st) n (v3, v5, st) = some r) (hE : (fun t => ∀ (H : Heap) (locs : List Loc) (ls : Array Slot), XH E (sg t.2) s H locs → lv_has ls 6 [(3, .long t.1)] → W p l e rmX1_leaked s m args below meth c H locs 0 0 Q (F0 m 47 ls [])) r) {H : Heap} {locs : List Loc} {ls : Array Slot} (h : XH E (sg st) s H locs) (hl : lv_has ls 6 [(0, .ref (E.ad 0)), (1, .int v1), (2, .int v2), (3, .long v3), (5, .int v5)]) : W p l e rmX1_leaked s m args below meth c H locs 0 0 Q (F0 m 5 ls []) := by
  refine iter_W (G := fun t => ∀ (H : Heap) (locs : List Loc) (ls : Array Slot), XH E (sg t.2.2) s H locs → lv_has ls 6 [(0, .ref (E.ad 0)), (1, .int v1), (2, .int v2), (3, .long t.1), (5, .int t.2.1)] → W p l e rmX1_leaked s m args below meth c H locs 0 0 Q (F0 m 5 ls [])) (E := fun t => ∀ (H : Heap) (locs : List Loc) (ls : Array Slot), XH E (sg t.2) s H locs → lv_has ls 6 [(3, .long t.1)] → W p l e rmX1_leaked s m args below meth c H locs 0 0 Q (F0 m 47 ls [])) (fun t x hx K H locs ls h hl => ?_) n _ r hx hE H locs ls h hl
  obtain ⟨v3, v5, st⟩ := t
  exact bX1_leaked_5 C hI v1 v2 v3 v5 st hx (fun _ _ _ z => z) (fun _ _ z => z) K h hl
def fX1_leaked (v1 : Int32) (v2 : Int32) (st : St) : Option (Int64 × St) :=
  bd (iter (u3 fun z3 z5 zst => fX1_leaked_5 v1 v2 z3 z5 zst) FU ((0 : Int64), (0 : Int32), st)) (u2 fun v3_7 st_7 =>
  some (v3_7, st_7))
set_option maxHeartbeats 1000000 in
theorem bX1_leaked (C : Cx E s0 b p s m args meth c cX1_leaked 6 "EarthMesh" (some .long)) (hI : Sx E) (v1 : Int32) (v2 : Int32) (st : St) {x : Int64 × St} (hx : fX1_leaked v1 v2 st = some x) {H : Heap} {locs : List Loc} {ls : Array Slot} (h : XH E (sg st) s H locs) (hl : lv_has ls 6 [(0, .ref (E.ad 0)), (1, .int v1), (2, .int v2)]) : W p l e rmX1_leaked s m args below meth c H locs 0 0 (MQ below (Qx E (some (.long x.1)) (sg x.2)) args s 0 0 (gA E.HB)) (F0 m 0 ls []) := by
  unfold fX1_leaked at hx
  refine lv_lconst (v := (0 : Int64)) C.x C.bc dX1_leaked_0 (by decide) ?_
  refine lv_lstore_n (lv' := [(3, .long (0 : Int64)), (0, .ref (E.ad 0)), (1, .int v1), (2, .int v2)]) C.x C.bc dX1_leaked_1 rfl hl (by decide) rfl (fun ls hl => ?_)
  refine lv_iconst (v := (0 : Int32)) C.x C.bc dX1_leaked_2 (by decide) ?_
  refine lv_istore (lv' := [(5, .int (0 : Int32)), (3, .long (0 : Int64)), (0, .ref (E.ad 0)), (1, .int v1), (2, .int v2)]) C.x C.bc dX1_leaked_3 hl (by decide) rfl (fun ls hl => ?_)
  obtain ⟨⟨v3_7, st_7⟩, hi_7, hx⟩ := bd_e hx
  have hx := u2_e hx
  refine pX1_leaked_5 C hI v1 v2 hi_7 (fun H locs ls h hl => ?_) h (lv_sub hl [2, 3, 4, 1, 0] rfl)
  refine lv_lload_n C.x C.bc dX1_leaked_47 rfl (lv_at hl 0 rfl) ?_
  obtain rfl := Option.some.inj hx
  exact x_lret C h dX1_leaked_48
theorem mX1_leaked (hG : G0 E s0 b) (hI : Sx E) {v1 : Int32} {v2 : Int32} {x : Int64 × St} (hx : fX1_leaked v1 v2 st = some x) : Mt l E s0 yX1_leaked cX1_leaked 6 (some .long) rmX1_leaked [.ref (E.ad 0), .int v1, .int v2] (sg st) (some (.long x.1)) E (sg x.2) :=
  Mt.of hG (by decide) (Nat.le_of_ble_eq_true rfl) (fun p e s m below meth c ls C h hl => bX1_leaked C hI v1 v2 st hx h hl)
abbrev rmX1_canAdd : Room := { frames := 1, cells := 0, slots := 0, locals := 30 }
def fX1_canAdd_31 (st : St) : Option (Int32) :=
  some (0 : Int32)
set_option maxHeartbeats 1000000 in
theorem bX1_canAdd_31 (C : Cx E s0 b p s m args meth c cX1_canAdd 3 "EarthMesh" (some .boolean)) (hI : Sx E) (st : St) {x : Int32} (hx : fX1_canAdd_31 st = some x) {H : Heap} {locs : List Loc} {ls : Array Slot} (h : XH E (sg st) s H locs) (hl : lv_has ls 3 []) : W p l e rmX1_canAdd s m args below meth c H locs 0 0 (MQ below (Qx E (some (.int x)) (sg st)) args s 0 0 (gA E.HB)) (F0 m 31 ls []) := by
  unfold fX1_canAdd_31 at hx
  refine lv_iconst (v := (0 : Int32)) C.x C.bc dX1_canAdd_31 (by decide) ?_
  obtain rfl := Option.some.inj hx
  exact x_zret (v := (0 : Int32)) C h rfl dX1_canAdd_32
def fX1_canAdd (v1 : Int32) (v2 : Int32) (st : St) : Option (Int32) :=
  bd (fX2_hasPlace_1 v2 v1 st) fun r_1 =>
  if r_1 = 0 then
    fX1_canAdd_31 st
  else
    gd (inB v1 3) <|
    gd (inB v2 12) <|
    if (3 : Int32) ≤ (st.1 (3 + v1.toNatClampNeg) v2.toNatClampNeg) then
      fX1_canAdd_31 st
    else
      some (1 : Int32)
set_option maxHeartbeats 1000000 in
theorem bX1_canAdd (C : Cx E s0 b p s m args meth c cX1_canAdd 3 "EarthMesh" (some .boolean)) (hI : Sx E) (v1 : Int32) (v2 : Int32) (st : St) {x : Int32} (hx : fX1_canAdd v1 v2 st = some x) {H : Heap} {locs : List Loc} {ls : Array Slot} (h : XH E (sg st) s H locs) (hl : lv_has ls 3 [(0, .ref (E.ad 0)), (1, .int v1), (2, .int v2)]) : W p l e rmX1_canAdd s m args below meth c H locs 0 0 (MQ below (Qx E (some (.int x)) (sg st)) args s 0 0 (gA E.HB)) (F0 m 0 ls []) := by
  unfold fX1_canAdd at hx
  refine lv_aload_n C.x C.bc dX1_canAdd_0 rfl (lv_at hl 0 rfl) ?_
  refine gt_X1_1_0 C hI h dX1_canAdd_1 ?_
  refine lv_iload_n C.x C.bc dX1_canAdd_4 rfl (lv_at hl 2 rfl) ?_
  refine lv_iload_n C.x C.bc dX1_canAdd_5 rfl (lv_at hl 1 rfl) ?_
  obtain ⟨r_1, hf_1, hx⟩ := bd_e hx
  refine cX1_422_X2_hasPlace_1 C hI h hf_1 ⟨Nat.le_of_ble_eq_true rfl, Nat.le_of_ble_eq_true rfl⟩ ⟨Nat.zero_le _, Nat.zero_le _⟩ hl.1 (Nat.le_of_ble_eq_true rfl) dX1_canAdd_6 (fun H locs h => ?_)
  refine lv_if_eq (tgt := 31) C.x C.bc dX1_canAdd_9 (by decide) (fun c_2 => ?_) (fun c_2 => ?_)
  · have hx := ge_t hx c_2
    exact bX1_canAdd_31 C hI st hx h (lv_sub hl [] rfl)
  · have hx := ge_f hx c_2
    refine lv_aload_n C.x C.bc dX1_canAdd_12 rfl (lv_at hl 0 rfl) ?_
    refine gt_X1_1_0 C hI h dX1_canAdd_13 ?_
    refine gt_X1_238_1 C hI h dX1_canAdd_16 ?_
    refine lv_iload_n C.x C.bc dX1_canAdd_19 rfl (lv_at hl 1 rfl) ?_
    obtain ⟨g_3, hx⟩ := gd_e hx
    refine y_row C h 2 3 4 3 (hI 2 (by decide)) k_2 (by decide) rfl rfl (fun _ _ => rfl) g_3 dX1_canAdd_20 ?_
    refine lv_iload_n C.x C.bc dX1_canAdd_21 rfl (lv_at hl 2 rfl) ?_
    obtain ⟨g_4, hx⟩ := gd_e hx
    refine x_iald C h (3 + v1.toNatClampNeg) 12 (hI _ (by have := inB_lt g_3; omega)) (kg_3 _ (inB_lt g_3)) g_4 dX1_canAdd_22 ?_
    refine lv_iconst (v := (3 : Int32)) C.x C.bc dX1_canAdd_23 (by decide) ?_
    refine lv_icmp_ge (tgt := 31) C.x C.bc dX1_canAdd_24 (by decide) (fun c_5 => ?_) (fun c_5 => ?_)
    · have hx := ge_t hx c_5
      exact bX1_canAdd_31 C hI st hx h (lv_sub hl [] rfl)
    · have hx := ge_f hx c_5
      refine lv_iconst (v := (1 : Int32)) C.x C.bc dX1_canAdd_27 (by decide) ?_
      refine lv_goto (tgt := 32) C.x C.bc dX1_canAdd_28 (by decide) ?_
      obtain rfl := Option.some.inj hx
      exact x_zret (v := (1 : Int32)) C h rfl dX1_canAdd_32
theorem mX1_canAdd (hG : G0 E s0 b) (hI : Sx E) {v1 : Int32} {v2 : Int32} {x : Int32} (hx : fX1_canAdd v1 v2 st = some x) : Mt l E s0 yX1_canAdd cX1_canAdd 3 (some .boolean) rmX1_canAdd [.ref (E.ad 0), .int v1, .int v2] (sg st) (some (.int x)) E (sg st) :=
  Mt.of hG (by decide) (Nat.le_of_ble_eq_true rfl) (fun p e s m below meth c ls C h hl => bX1_canAdd C hI v1 v2 st hx h hl)
abbrev rmX1_told : Room := { frames := 0, cells := 0, slots := 0, locals := 0 }
def fX1_told (v0 : Int32) : Int32 :=
  (((100 : Int32) * ((v0 / (12 : Int32)) + (1 : Int32))) + (jrem v0 (12 : Int32)))
set_option maxHeartbeats 1000000 in
theorem bX1_told (C : Cx E s0 b p s m args meth c cX1_told 1 "EarthMesh" (some .int)) (hI : Sx E) (v0 : Int32) {x : Int32} (hx : fX1_told v0 = x) {H : Heap} {locs : List Loc} {ls : Array Slot} (h : XH E g s H locs) (hl : lv_has ls 1 [(0, .int v0)]) : W p l e rmX1_told s m args below meth c H locs 0 0 (MQ below (Qx E (some (.int x)) g) args s 0 0 (gA E.HB)) (F0 m 0 ls []) := by
  unfold fX1_told at hx
  refine lv_bipush (v := (100 : Int32)) C.x C.bc dX1_told_0 (by decide) ?_
  refine lv_iload_n C.x C.bc dX1_told_2 rfl (lv_at hl 0 rfl) ?_
  refine lv_bipush (v := (12 : Int32)) C.x C.bc dX1_told_3 (by decide) ?_
  refine lv_idiv C.x C.bc dX1_told_5 (by decide) ?_
  refine lv_iconst (v := (1 : Int32)) C.x C.bc dX1_told_6 (by decide) ?_
  refine lv_iadd C.x C.bc dX1_told_7 ?_
  refine lv_imul C.x C.bc dX1_told_8 ?_
  refine lv_iload_n C.x C.bc dX1_told_9 rfl (lv_at hl 0 rfl) ?_
  refine lv_bipush (v := (12 : Int32)) C.x C.bc dX1_told_10 (by decide) ?_
  refine y_irem C.x C.bc dX1_told_12 (by decide) ?_
  refine lv_iadd C.x C.bc dX1_told_13 ?_
  subst hx
  exact x_iret C h dX1_told_14
theorem mX1_told (hG : G0 E s0 b) (hI : Sx E) {v0 : Int32} {x : Int32} (hx : fX1_told v0 = x) : Mt l E s0 yX1_told cX1_told 1 (some .int) rmX1_told [.int v0] g (some (.int x)) E g :=
  Mt.of hG (by decide) (Nat.le_of_ble_eq_true rfl) (fun p e s m below meth c ls C h hl => bX1_told C hI v0 hx h hl)
abbrev rmX1_tell : Room := { frames := 2, cells := 0, slots := 0, locals := 57 }
def fX1_tell_53 (st : St) : Option (Int32 × St) :=
  bd (fX1_refuses (-1 : Int32) st) <| u2 fun r_3 st_3 =>
  some (r_3, st_3)
set_option maxHeartbeats 1000000 in
theorem bX1_tell_53 (C : Cx E s0 b p s m args meth c cX1_tell 5 "EarthMesh" (some .int)) (hI : Sx E) (st : St) {x : Int32 × St} (hx : fX1_tell_53 st = some x) {H : Heap} {locs : List Loc} {ls : Array Slot} (h : XH E (sg st) s H locs) (hl : lv_has ls 5 [(0, .ref (E.ad 0))]) : W p l e rmX1_tell s m args below meth c H locs 0 0 (MQ below (Qx E (some (.int x.1)) (sg x.2)) args s 0 0 (gA E.HB)) (F0 m 53 ls []) := by
  unfold fX1_tell_53 at hx
  refine lv_aload_n C.x C.bc dX1_tell_53 rfl (lv_at hl 0 rfl) ?_
  refine lv_iconst (v := (-1 : Int32)) C.x C.bc dX1_tell_54 (by decide) ?_
  obtain ⟨⟨r_3, st_3⟩, hf_3, hx⟩ := bd_e hx
  have hx := u2_e hx
  refine cX1_205_X1_refuses C hI h hf_3 ⟨Nat.le_of_ble_eq_true rfl, Nat.le_of_ble_eq_true rfl⟩ ⟨Nat.zero_le _, Nat.zero_le _⟩ hl.1 (Nat.le_of_ble_eq_true rfl) dX1_tell_55 (fun H locs h => ?_)
  obtain rfl := Option.some.inj hx
  exact x_iret C h dX1_tell_58
def fX1_tell (v1 : Int32) (v2 : Int32) (v3 : Int32) (st : St) : Option (Int32 × St) :=
  nm (fX1_isNode v1 st) fun r_1 =>
  if r_1 = 0 then
    fX1_tell_53 st
  else
    nm (fX1_within v2 (0 : Int32) (2 : Int32)) fun r_4 =>
    if r_4 = 0 then
      fX1_tell_53 st
    else
      bd (fX2_hasPlace_1 v1 v2 st) fun r_6 =>
      if r_6 = 0 then
        fX1_tell_53 st
      else
        nm (fX1_within v3 (0 : Int32) (3 : Int32)) fun r_8 =>
        if r_8 = 0 then
          fX1_tell_53 st
        else
          gd (inB v2 3) <|
          gd (inB v1 12) <|
          if (st.1 (3 + v2.toNatClampNeg) v1.toNatClampNeg) = v3 then
            fX1_tell_53 st
          else
            gd (inB v2 3) <|
            gd (inB v1 12) <|
            nm (st.1 (3 + v2.toNatClampNeg) v1.toNatClampNeg) fun v4_15 =>
            gd (inB v2 3) <|
            gd (inB v1 12) <|
            nm (uI st (3 + v2.toNatClampNeg) v1.toNatClampNeg v3) fun st_18 =>
            some (v4_15, st_18)
set_option maxHeartbeats 1000000 in
theorem bX1_tell (C : Cx E s0 b p s m args meth c cX1_tell 5 "EarthMesh" (some .int)) (hI : Sx E) (v1 : Int32) (v2 : Int32) (v3 : Int32) (st : St) {x : Int32 × St} (hx : fX1_tell v1 v2 v3 st = some x) {H : Heap} {locs : List Loc} {ls : Array Slot} (h : XH E (sg st) s H locs) (hl : lv_has ls 5 [(0, .ref (E.ad 0)), (1, .int v1), (2, .int v2), (3, .int v3)]) : W p l e rmX1_tell s m args below meth c H locs 0 0 (MQ below (Qx E (some (.int x.1)) (sg x.2)) args s 0 0 (gA E.HB)) (F0 m 0 ls []) := by
  unfold fX1_tell at hx
  refine lv_aload_n C.x C.bc dX1_tell_0 rfl (lv_at hl 0 rfl) ?_
  refine lv_iload_n C.x C.bc dX1_tell_1 rfl (lv_at hl 1 rfl) ?_
  obtain ⟨r_1, e_1, hx⟩ := nm_x hx
  refine cX1_293_X1_isNode C hI h e_1.symm ⟨Nat.le_of_ble_eq_true rfl, Nat.le_of_ble_eq_true rfl⟩ ⟨Nat.zero_le _, Nat.zero_le _⟩ hl.1 (Nat.le_of_ble_eq_true rfl) dX1_tell_2 (fun H locs h => ?_)
  refine lv_if_eq (tgt := 53) C.x C.bc dX1_tell_5 (by decide) (fun c_2 => ?_) (fun c_2 => ?_)
  · have hx := ge_t hx c_2
    exact bX1_tell_53 C hI st hx h (lv_sub hl [0] rfl)
  · have hx := ge_f hx c_2
    refine lv_iload_n C.x C.bc dX1_tell_8 rfl (lv_at hl 2 rfl) ?_
    refine lv_iconst (v := (0 : Int32)) C.x C.bc dX1_tell_9 (by decide) ?_
    refine lv_iconst (v := (2 : Int32)) C.x C.bc dX1_tell_10 (by decide) ?_
    obtain ⟨r_4, e_4, hx⟩ := nm_x hx
    refine cX1_253_X1_within C hI h e_4.symm ⟨Nat.le_of_ble_eq_true rfl, Nat.le_of_ble_eq_true rfl⟩ ⟨Nat.zero_le _, Nat.zero_le _⟩ hl.1 (Nat.le_of_ble_eq_true rfl) dX1_tell_11 (fun H locs h => ?_)
    refine lv_if_eq (tgt := 53) C.x C.bc dX1_tell_14 (by decide) (fun c_5 => ?_) (fun c_5 => ?_)
    · have hx := ge_t hx c_5
      exact bX1_tell_53 C hI st hx h (lv_sub hl [0] rfl)
    · have hx := ge_f hx c_5
      refine lv_aload_n C.x C.bc dX1_tell_17 rfl (lv_at hl 0 rfl) ?_
      refine gt_X1_1_0 C hI h dX1_tell_18 ?_
      refine lv_iload_n C.x C.bc dX1_tell_21 rfl (lv_at hl 1 rfl) ?_
      refine lv_iload_n C.x C.bc dX1_tell_22 rfl (lv_at hl 2 rfl) ?_
      obtain ⟨r_6, hf_6, hx⟩ := bd_e hx
      refine cX1_422_X2_hasPlace_1 C hI h hf_6 ⟨Nat.le_of_ble_eq_true rfl, Nat.le_of_ble_eq_true rfl⟩ ⟨Nat.zero_le _, Nat.zero_le _⟩ hl.1 (Nat.le_of_ble_eq_true rfl) dX1_tell_23 (fun H locs h => ?_)
      refine lv_if_eq (tgt := 53) C.x C.bc dX1_tell_26 (by decide) (fun c_7 => ?_) (fun c_7 => ?_)
      · have hx := ge_t hx c_7
        exact bX1_tell_53 C hI st hx h (lv_sub hl [0] rfl)
      · have hx := ge_f hx c_7
        refine lv_iload_n C.x C.bc dX1_tell_29 rfl (lv_at hl 3 rfl) ?_
        refine lv_iconst (v := (0 : Int32)) C.x C.bc dX1_tell_30 (by decide) ?_
        refine lv_iconst (v := (3 : Int32)) C.x C.bc dX1_tell_31 (by decide) ?_
        obtain ⟨r_8, e_8, hx⟩ := nm_x hx
        refine cX1_253_X1_within C hI h e_8.symm ⟨Nat.le_of_ble_eq_true rfl, Nat.le_of_ble_eq_true rfl⟩ ⟨Nat.zero_le _, Nat.zero_le _⟩ hl.1 (Nat.le_of_ble_eq_true rfl) dX1_tell_32 (fun H locs h => ?_)
        refine lv_if_eq (tgt := 53) C.x C.bc dX1_tell_35 (by decide) (fun c_9 => ?_) (fun c_9 => ?_)
        · have hx := ge_t hx c_9
          exact bX1_tell_53 C hI st hx h (lv_sub hl [0] rfl)
        · have hx := ge_f hx c_9
          refine lv_aload_n C.x C.bc dX1_tell_38 rfl (lv_at hl 0 rfl) ?_
          refine gt_X1_1_0 C hI h dX1_tell_39 ?_
          refine gt_X1_238_1 C hI h dX1_tell_42 ?_
          refine lv_iload_n C.x C.bc dX1_tell_45 rfl (lv_at hl 2 rfl) ?_
          obtain ⟨g_10, hx⟩ := gd_e hx
          refine y_row C h 2 3 4 3 (hI 2 (by decide)) k_2 (by decide) rfl rfl (fun _ _ => rfl) g_10 dX1_tell_46 ?_
          refine lv_iload_n C.x C.bc dX1_tell_47 rfl (lv_at hl 1 rfl) ?_
          obtain ⟨g_11, hx⟩ := gd_e hx
          refine x_iald C h (3 + v2.toNatClampNeg) 12 (hI _ (by have := inB_lt g_10; omega)) (kg_3 _ (inB_lt g_10)) g_11 dX1_tell_48 ?_
          refine lv_iload_n C.x C.bc dX1_tell_49 rfl (lv_at hl 3 rfl) ?_
          refine lv_icmp_ne (tgt := 59) C.x C.bc dX1_tell_50 (by decide) (fun c_12 => ?_) (fun c_12 => ?_)
          · have hx := ge_f hx c_12
            refine lv_aload_n C.x C.bc dX1_tell_59 rfl (lv_at hl 0 rfl) ?_
            refine gt_X1_1_0 C hI h dX1_tell_60 ?_
            refine gt_X1_238_1 C hI h dX1_tell_63 ?_
            refine lv_iload_n C.x C.bc dX1_tell_66 rfl (lv_at hl 2 rfl) ?_
            obtain ⟨g_13, hx⟩ := gd_e hx
            refine y_row C h 2 3 4 3 (hI 2 (by decide)) k_2 (by decide) rfl rfl (fun _ _ => rfl) g_13 dX1_tell_67 ?_
            refine lv_iload_n C.x C.bc dX1_tell_68 rfl (lv_at hl 1 rfl) ?_
            obtain ⟨g_14, hx⟩ := gd_e hx
            refine x_iald C h (3 + v2.toNatClampNeg) 12 (hI _ (by have := inB_lt g_13; omega)) (kg_3 _ (inB_lt g_13)) g_14 dX1_tell_69 ?_
            obtain ⟨v4_15, e_15, hx⟩ := nm_x hx
            refine x_ti e_15 ?_
            refine lv_istore (lv' := [(4, .int v4_15), (0, .ref (E.ad 0)), (1, .int v1), (2, .int v2), (3, .int v3)]) C.x C.bc dX1_tell_70 hl (by decide) rfl (fun ls hl => ?_)
            refine lv_aload_n C.x C.bc dX1_tell_72 rfl (lv_at hl 1 rfl) ?_
            refine gt_X1_1_0 C hI h dX1_tell_73 ?_
            refine gt_X1_238_1 C hI h dX1_tell_76 ?_
            refine lv_iload_n C.x C.bc dX1_tell_79 rfl (lv_at hl 3 rfl) ?_
            obtain ⟨g_16, hx⟩ := gd_e hx
            refine y_row C h 2 3 4 3 (hI 2 (by decide)) k_2 (by decide) rfl rfl (fun _ _ => rfl) g_16 dX1_tell_80 ?_
            refine lv_iload_n C.x C.bc dX1_tell_81 rfl (lv_at hl 2 rfl) ?_
            refine lv_iload_n C.x C.bc dX1_tell_82 rfl (lv_at hl 4 rfl) ?_
            obtain ⟨g_17, hx⟩ := gd_e hx
            obtain ⟨st_18, e_18, hx⟩ := nm_x hx
            refine y_iast C h (3 + v2.toNatClampNeg) 12 (hI _ (by have := inB_lt g_16; omega)) (kg_3 _ (inB_lt g_16)) g_17 e_18 dX1_tell_83 (fun H locs h => ?_)
            refine lv_iload C.x C.bc dX1_tell_84 (lv_at hl 0 rfl) ?_
            obtain rfl := Option.some.inj hx
            exact x_iret C h dX1_tell_86
          · have hx := ge_t hx c_12
            exact bX1_tell_53 C hI st hx h (lv_sub hl [0] rfl)
theorem mX1_tell (hG : G0 E s0 b) (hI : Sx E) {v1 : Int32} {v2 : Int32} {v3 : Int32} {x : Int32 × St} (hx : fX1_tell v1 v2 v3 st = some x) : Mt l E s0 yX1_tell cX1_tell 5 (some .int) rmX1_tell [.ref (E.ad 0), .int v1, .int v2, .int v3] (sg st) (some (.int x.1)) E (sg x.2) :=
  Mt.of hG (by decide) (Nat.le_of_ble_eq_true rfl) (fun p e s m below meth c ls C h hl => bX1_tell C hI v1 v2 v3 st hx h hl)
abbrev rmX1_comes : Room := { frames := 2, cells := 0, slots := 0, locals := 57 }
def fX1_comes_40 (st : St) : Option (Int32 × St) :=
  bd (fX1_refuses (-1 : Int32) st) <| u2 fun r_3 st_3 =>
  some (r_3, st_3)
set_option maxHeartbeats 1000000 in
theorem bX1_comes_40 (C : Cx E s0 b p s m args meth c cX1_comes 4 "EarthMesh" (some .int)) (hI : Sx E) (st : St) {x : Int32 × St} (hx : fX1_comes_40 st = some x) {H : Heap} {locs : List Loc} {ls : Array Slot} (h : XH E (sg st) s H locs) (hl : lv_has ls 4 [(0, .ref (E.ad 0))]) : W p l e rmX1_comes s m args below meth c H locs 0 0 (MQ below (Qx E (some (.int x.1)) (sg x.2)) args s 0 0 (gA E.HB)) (F0 m 40 ls []) := by
  unfold fX1_comes_40 at hx
  refine lv_aload_n C.x C.bc dX1_comes_40 rfl (lv_at hl 0 rfl) ?_
  refine lv_iconst (v := (-1 : Int32)) C.x C.bc dX1_comes_41 (by decide) ?_
  obtain ⟨⟨r_3, st_3⟩, hf_3, hx⟩ := bd_e hx
  have hx := u2_e hx
  refine cX1_205_X1_refuses C hI h hf_3 ⟨Nat.le_of_ble_eq_true rfl, Nat.le_of_ble_eq_true rfl⟩ ⟨Nat.zero_le _, Nat.zero_le _⟩ hl.1 (Nat.le_of_ble_eq_true rfl) dX1_comes_42 (fun H locs h => ?_)
  obtain rfl := Option.some.inj hx
  exact x_iret C h dX1_comes_45
def fX1_comes_46 (v1 : Int32) (v2 : Int32) (st : St) : Option (Int32 × St) :=
  nm (st.1 1 2) fun v3_7 =>
  nm (uI st 1 2 v1) fun st_8 =>
  nm (uI st_8 1 3 v2) fun st_9 =>
  some (v3_7, st_9)
set_option maxHeartbeats 1000000 in
theorem bX1_comes_46 (C : Cx E s0 b p s m args meth c cX1_comes 4 "EarthMesh" (some .int)) (hI : Sx E) (v1 : Int32) (v2 : Int32) (st : St) {x : Int32 × St} (hx : fX1_comes_46 v1 v2 st = some x) {H : Heap} {locs : List Loc} {ls : Array Slot} (h : XH E (sg st) s H locs) (hl : lv_has ls 4 [(0, .ref (E.ad 0)), (1, .int v1), (2, .int v2)]) : W p l e rmX1_comes s m args below meth c H locs 0 0 (MQ below (Qx E (some (.int x.1)) (sg x.2)) args s 0 0 (gA E.HB)) (F0 m 46 ls []) := by
  unfold fX1_comes_46 at hx
  refine lv_aload_n C.x C.bc dX1_comes_46 rfl (lv_at hl 0 rfl) ?_
  refine gt_X1_1_0 C hI h dX1_comes_47 ?_
  refine gt_X1_7_1 C hI h dX1_comes_50 ?_
  obtain ⟨v3_7, e_7, hx⟩ := nm_x hx
  refine x_ti e_7 ?_
  refine lv_istore_n (lv' := [(3, .int v3_7), (0, .ref (E.ad 0)), (1, .int v1), (2, .int v2)]) C.x C.bc dX1_comes_53 rfl hl (by decide) rfl (fun ls hl => ?_)
  refine lv_aload_n C.x C.bc dX1_comes_54 rfl (lv_at hl 1 rfl) ?_
  refine gt_X1_1_0 C hI h dX1_comes_55 ?_
  refine lv_iload_n C.x C.bc dX1_comes_58 rfl (lv_at hl 2 rfl) ?_
  obtain ⟨st_8, e_8, hx⟩ := nm_x hx
  refine pt_X1_7_1 C hI h e_8 dX1_comes_59 (fun H locs h => ?_)
  refine lv_aload_n C.x C.bc dX1_comes_62 rfl (lv_at hl 1 rfl) ?_
  refine gt_X1_1_0 C hI h dX1_comes_63 ?_
  refine lv_iload_n C.x C.bc dX1_comes_66 rfl (lv_at hl 3 rfl) ?_
  obtain ⟨st_9, e_9, hx⟩ := nm_x hx
  refine pt_X1_59_1 C hI h e_9 dX1_comes_67 (fun H locs h => ?_)
  refine lv_iload_n C.x C.bc dX1_comes_70 rfl (lv_at hl 0 rfl) ?_
  obtain rfl := Option.some.inj hx
  exact x_iret C h dX1_comes_71
def fX1_comes (v1 : Int32) (v2 : Int32) (st : St) : Option (Int32 × St) :=
  nm (fX1_isNode v1 st) fun r_1 =>
  if r_1 = 0 then
    fX1_comes_40 st
  else
    nm (fX1_within v2 (1 : Int32) (99 : Int32)) fun r_4 =>
    if r_4 = 0 then
      fX1_comes_40 st
    else
      if (st.1 1 2) = v1 then
        if (st.1 1 3) = v2 then
          fX1_comes_40 st
        else
          fX1_comes_46 v1 v2 st
      else
        fX1_comes_46 v1 v2 st
set_option maxHeartbeats 1000000 in
theorem bX1_comes (C : Cx E s0 b p s m args meth c cX1_comes 4 "EarthMesh" (some .int)) (hI : Sx E) (v1 : Int32) (v2 : Int32) (st : St) {x : Int32 × St} (hx : fX1_comes v1 v2 st = some x) {H : Heap} {locs : List Loc} {ls : Array Slot} (h : XH E (sg st) s H locs) (hl : lv_has ls 4 [(0, .ref (E.ad 0)), (1, .int v1), (2, .int v2)]) : W p l e rmX1_comes s m args below meth c H locs 0 0 (MQ below (Qx E (some (.int x.1)) (sg x.2)) args s 0 0 (gA E.HB)) (F0 m 0 ls []) := by
  unfold fX1_comes at hx
  refine lv_aload_n C.x C.bc dX1_comes_0 rfl (lv_at hl 0 rfl) ?_
  refine lv_iload_n C.x C.bc dX1_comes_1 rfl (lv_at hl 1 rfl) ?_
  obtain ⟨r_1, e_1, hx⟩ := nm_x hx
  refine cX1_293_X1_isNode C hI h e_1.symm ⟨Nat.le_of_ble_eq_true rfl, Nat.le_of_ble_eq_true rfl⟩ ⟨Nat.zero_le _, Nat.zero_le _⟩ hl.1 (Nat.le_of_ble_eq_true rfl) dX1_comes_2 (fun H locs h => ?_)
  refine lv_if_eq (tgt := 40) C.x C.bc dX1_comes_5 (by decide) (fun c_2 => ?_) (fun c_2 => ?_)
  · have hx := ge_t hx c_2
    exact bX1_comes_40 C hI st hx h (lv_sub hl [0] rfl)
  · have hx := ge_f hx c_2
    refine lv_iload_n C.x C.bc dX1_comes_8 rfl (lv_at hl 2 rfl) ?_
    refine lv_iconst (v := (1 : Int32)) C.x C.bc dX1_comes_9 (by decide) ?_
    refine lv_bipush (v := (99 : Int32)) C.x C.bc dX1_comes_10 (by decide) ?_
    obtain ⟨r_4, e_4, hx⟩ := nm_x hx
    refine cX1_253_X1_within C hI h e_4.symm ⟨Nat.le_of_ble_eq_true rfl, Nat.le_of_ble_eq_true rfl⟩ ⟨Nat.zero_le _, Nat.zero_le _⟩ hl.1 (Nat.le_of_ble_eq_true rfl) dX1_comes_12 (fun H locs h => ?_)
    refine lv_if_eq (tgt := 40) C.x C.bc dX1_comes_15 (by decide) (fun c_5 => ?_) (fun c_5 => ?_)
    · have hx := ge_t hx c_5
      exact bX1_comes_40 C hI st hx h (lv_sub hl [0] rfl)
    · have hx := ge_f hx c_5
      refine lv_aload_n C.x C.bc dX1_comes_18 rfl (lv_at hl 0 rfl) ?_
      refine gt_X1_1_0 C hI h dX1_comes_19 ?_
      refine gt_X1_7_1 C hI h dX1_comes_22 ?_
      refine lv_iload_n C.x C.bc dX1_comes_25 rfl (lv_at hl 1 rfl) ?_
      refine lv_icmp_ne (tgt := 46) C.x C.bc dX1_comes_26 (by decide) (fun c_6 => ?_) (fun c_6 => ?_)
      · have hx := ge_f hx c_6
        exact bX1_comes_46 C hI v1 v2 st hx h (lv_sub hl [0, 1, 2] rfl)
      · have hx := ge_t hx c_6
        refine lv_aload_n C.x C.bc dX1_comes_29 rfl (lv_at hl 0 rfl) ?_
        refine gt_X1_1_0 C hI h dX1_comes_30 ?_
        refine gt_X1_59_1 C hI h dX1_comes_33 ?_
        refine lv_iload_n C.x C.bc dX1_comes_36 rfl (lv_at hl 2 rfl) ?_
        refine lv_icmp_ne (tgt := 46) C.x C.bc dX1_comes_37 (by decide) (fun c_10 => ?_) (fun c_10 => ?_)
        · have hx := ge_f hx c_10
          exact bX1_comes_46 C hI v1 v2 st hx h (lv_sub hl [0, 1, 2] rfl)
        · have hx := ge_t hx c_10
          exact bX1_comes_40 C hI st hx h (lv_sub hl [0] rfl)
theorem mX1_comes (hG : G0 E s0 b) (hI : Sx E) {v1 : Int32} {v2 : Int32} {x : Int32 × St} (hx : fX1_comes v1 v2 st = some x) : Mt l E s0 yX1_comes cX1_comes 4 (some .int) rmX1_comes [.ref (E.ad 0), .int v1, .int v2] (sg st) (some (.int x.1)) E (sg x.2) :=
  Mt.of hG (by decide) (Nat.le_of_ble_eq_true rfl) (fun p e s m below meth c ls C h hl => bX1_comes C hI v1 v2 st hx h hl)
abbrev rmX1_lambda_walked_2 : Room := { frames := 0, cells := 0, slots := 0, locals := 0 }
def fX1_lambda_walked_2 (v0 : Int64) (v2 : Int64) : Int64 :=
  (v0 + (1 : Int64))
set_option maxHeartbeats 1000000 in
theorem bX1_lambda_walked_2 (C : Cx E s0 b p s m args meth c cX1_lambda_walked_2 4 "EarthMesh" (some .long)) (hI : Sx E) (v0 : Int64) (v2 : Int64) {x : Int64} (hx : fX1_lambda_walked_2 v0 v2 = x) {H : Heap} {locs : List Loc} {ls : Array Slot} (h : XH E g s H locs) (hl : lv_has ls 4 [(0, .long v0), (2, .long v2)]) : W p l e rmX1_lambda_walked_2 s m args below meth c H locs 0 0 (MQ below (Qx E (some (.long x)) g) args s 0 0 (gA E.HB)) (F0 m 0 ls []) := by
  unfold fX1_lambda_walked_2 at hx
  refine lv_lload_n C.x C.bc dX1_lambda_walked_2_0 rfl (lv_at hl 0 rfl) ?_
  refine lv_lconst (v := (1 : Int64)) C.x C.bc dX1_lambda_walked_2_1 (by decide) ?_
  refine lv_ladd C.x C.bc dX1_lambda_walked_2_2 ?_
  subst hx
  exact x_lret C h dX1_lambda_walked_2_3
theorem mX1_lambda_walked_2 (hG : G0 E s0 b) (hI : Sx E) {v0 : Int64} {v2 : Int64} {x : Int64} (hx : fX1_lambda_walked_2 v0 v2 = x) : Mt l E s0 yX1_lambda_walked_2 cX1_lambda_walked_2 4 (some .long) rmX1_lambda_walked_2 [.long v0, .long v2] g (some (.long x)) E g :=
  Mt.of hG (by decide) (Nat.le_of_ble_eq_true rfl) (fun p e s m below meth c ls C h hl => bX1_lambda_walked_2 C hI v0 v2 hx h hl)
abbrev rmX1_lambda_leastToll_1 : Room := { frames := 1, cells := 0, slots := 0, locals := 23 }
def fX1_lambda_leastToll_1 (v0 : Int64) (v2 : Int64) : Int64 :=
  (jmaxl v0 v2)
set_option maxHeartbeats 1000000 in
theorem bX1_lambda_leastToll_1 (C : Cx E s0 b p s m args meth c cX1_lambda_leastToll_1 4 "EarthMesh" (some .long)) (hI : Sx E) (v0 : Int64) (v2 : Int64) {x : Int64} (hx : fX1_lambda_leastToll_1 v0 v2 = x) {H : Heap} {locs : List Loc} {ls : Array Slot} (h : XH E g s H locs) (hl : lv_has ls 4 [(0, .long v0), (2, .long v2)]) : W p l e rmX1_lambda_leastToll_1 s m args below meth c H locs 0 0 (MQ below (Qx E (some (.long x)) g) args s 0 0 (gA E.HB)) (F0 m 0 ls []) := by
  unfold fX1_lambda_leastToll_1 at hx
  refine lv_lload_n C.x C.bc dX1_lambda_leastToll_1_0 rfl (lv_at hl 0 rfl) ?_
  refine lv_lload_n C.x C.bc dX1_lambda_leastToll_1_1 rfl (lv_at hl 1 rfl) ?_
  refine va_mmax_long C.x C.bc (C.ml.trans hl.1.symm) C.ow (C.ts _ q339) (C.ts _ q340) (C.ts _ q134) (C.ts _ q341) (Nat.le_of_ble_eq_true rfl) (Nat.le_of_ble_eq_true rfl) (Nat.zero_le _) (Nat.zero_le _) dX1_lambda_leastToll_1_2 ?_
  subst hx
  exact x_lret C h dX1_lambda_leastToll_1_5
theorem mX1_lambda_leastToll_1 (hG : G0 E s0 b) (hI : Sx E) {v0 : Int64} {v2 : Int64} {x : Int64} (hx : fX1_lambda_leastToll_1 v0 v2 = x) : Mt l E s0 yX1_lambda_leastToll_1 cX1_lambda_leastToll_1 4 (some .long) rmX1_lambda_leastToll_1 [.long v0, .long v2] g (some (.long x)) E g :=
  Mt.of hG (by decide) (Nat.le_of_ble_eq_true rfl) (fun p e s m below meth c ls C h hl => bX1_lambda_leastToll_1 C hI v0 v2 hx h hl)
abbrev rmX1_lambda_new_0 : Room := { frames := 4, cells := 0, slots := 0, locals := 122 }
def fX1_lambda_new_0 (v1 : Int32) (st : St) : Option (Int64) :=
  bd (fX1_step (v1 / (10 : Int32)) (jrem v1 (10 : Int32)) st) fun r_1 =>
  some r_1
set_option maxHeartbeats 1000000 in
theorem bX1_lambda_new_0 (C : Cx E s0 b p s m args meth c cX1_lambda_new_0 2 "EarthMesh" (some .long)) (hI : Sx E) (v1 : Int32) (st : St) {x : Int64} (hx : fX1_lambda_new_0 v1 st = some x) {H : Heap} {locs : List Loc} {ls : Array Slot} (h : XH E (sg st) s H locs) (hl : lv_has ls 2 [(0, .ref (E.ad 0)), (1, .int v1)]) : W p l e rmX1_lambda_new_0 s m args below meth c H locs 0 0 (MQ below (Qx E (some (.long x)) (sg st)) args s 0 0 (gA E.HB)) (F0 m 0 ls []) := by
  unfold fX1_lambda_new_0 at hx
  refine lv_aload_n C.x C.bc dX1_lambda_new_0_0 rfl (lv_at hl 0 rfl) ?_
  refine lv_iload_n C.x C.bc dX1_lambda_new_0_1 rfl (lv_at hl 1 rfl) ?_
  refine lv_bipush (v := (10 : Int32)) C.x C.bc dX1_lambda_new_0_2 (by decide) ?_
  refine lv_idiv C.x C.bc dX1_lambda_new_0_4 (by decide) ?_
  refine lv_iload_n C.x C.bc dX1_lambda_new_0_5 rfl (lv_at hl 1 rfl) ?_
  refine lv_bipush (v := (10 : Int32)) C.x C.bc dX1_lambda_new_0_6 (by decide) ?_
  refine y_irem C.x C.bc dX1_lambda_new_0_8 (by decide) ?_
  obtain ⟨r_1, hf_1, hx⟩ := bd_e hx
  refine cX1_326_X1_step C hI h hf_1 ⟨Nat.le_of_ble_eq_true rfl, Nat.le_of_ble_eq_true rfl⟩ ⟨Nat.zero_le _, Nat.zero_le _⟩ hl.1 (Nat.le_of_ble_eq_true rfl) dX1_lambda_new_0_9 (fun H locs h => ?_)
  obtain rfl := Option.some.inj hx
  exact x_lret C h dX1_lambda_new_0_12
theorem mX1_lambda_new_0 (hG : G0 E s0 b) (hI : Sx E) {v1 : Int32} {x : Int64} (hx : fX1_lambda_new_0 v1 st = some x) : Mt l E s0 yX1_lambda_new_0 cX1_lambda_new_0 2 (some .long) rmX1_lambda_new_0 [.ref (E.ad 0), .int v1] (sg st) (some (.long x)) E (sg st) :=
  Mt.of hG (by decide) (Nat.le_of_ble_eq_true rfl) (fun p e s m below meth c ls C h hl => bX1_lambda_new_0 C hI v1 st hx h hl)
end
