set_option maxRecDepth 100000
section
variable {p : Program} {l : Launch} {e : Env} {R : Room} {s : State} {m : MethodId} {args : Array Value} {below : List Frame} {meth : Method} {c : Code} {H : Heap} {locs : List Loc} {cells slots : Nat} {Q : State → Prop}
variable {cc : ByteArray} {pc : Nat} {ls : Array Slot} {rest : List Value} {E : Wd} {s0 : State} {b nL : Nat} {rt : Option FieldType} {g st : St}
abbrev rmX4_of_7 : Room := { frames := 3, cells := 0, slots := 0, locals := 111 }
def fX4_of_7 (v2 : Int32) (st : St) : Option (Int64 × St) :=
  bd (fX4_left_7 v2 (-1 : Int32) (2147483647 : Int64) st) <| u2 fun r_1 st_1 =>
  bd (fX4_left_7 v2 (-1 : Int32) (2147483629 : Int64) st_1) <| u2 fun r_2 st_2 =>
  bd (fX4_both r_1 r_2 st_2) fun r_3 =>
  some (r_3, st_2)
set_option maxHeartbeats 1000000 in
theorem bX4_of_7 (C : Cx E s0 b p s m args meth c cX4_of 3 "EarthMesh$Determinant" (some .long)) (hI : Sx E) (v2 : Int32) (st : St) {x : Int64 × St} (hx : fX4_of_7 v2 st = some x) {H : Heap} {locs : List Loc} {ls : Array Slot} (h : XH E (sg st) s H locs) (hl : lv_has ls 3 [(0, .ref (E.ad 33)), (1, .ref (E.ad 7)), (2, .int v2)]) : W p l e rmX4_of_7 s m args below meth c H locs 0 0 (MQ below (Qx E (some (.long x.1)) (sg x.2)) args s 0 0 (gA E.HB)) (F0 m 0 ls []) := by
  unfold fX4_of_7 at hx
  refine lv_aload_n C.x C.bc dX4_of_0 rfl (lv_at hl 0 rfl) ?_
  refine lv_aload_n C.x C.bc dX4_of_1 rfl (lv_at hl 0 rfl) ?_
  refine lv_aload_n C.x C.bc dX4_of_2 rfl (lv_at hl 1 rfl) ?_
  refine lv_iload_n C.x C.bc dX4_of_3 rfl (lv_at hl 2 rfl) ?_
  refine lv_iconst (v := (-1 : Int32)) C.x C.bc dX4_of_4 (by decide) ?_
  refine lv_ldc2 (v := (2147483647 : Int64)) C.x C.bc C.ow (C.ts _ q1154) dX4_of_5 ?_
  obtain ⟨⟨r_1, st_1⟩, hf_1, hx⟩ := bd_e hx
  have hx := u2_e hx
  refine cX4_63_X4_left_7 C hI h hf_1 ⟨Nat.le_of_ble_eq_true rfl, Nat.le_of_ble_eq_true rfl⟩ ⟨Nat.zero_le _, Nat.zero_le _⟩ hl.1 (Nat.le_of_ble_eq_true rfl) dX4_of_8 (fun H locs h => ?_)
  refine lv_aload_n C.x C.bc dX4_of_11 rfl (lv_at hl 0 rfl) ?_
  refine lv_aload_n C.x C.bc dX4_of_12 rfl (lv_at hl 1 rfl) ?_
  refine lv_iload_n C.x C.bc dX4_of_13 rfl (lv_at hl 2 rfl) ?_
  refine lv_iconst (v := (-1 : Int32)) C.x C.bc dX4_of_14 (by decide) ?_
  refine lv_ldc2 (v := (2147483629 : Int64)) C.x C.bc C.ow (C.ts _ q256) dX4_of_15 ?_
  obtain ⟨⟨r_2, st_2⟩, hf_2, hx⟩ := bd_e hx
  have hx := u2_e hx
  refine cX4_63_X4_left_7 C hI h hf_2 ⟨Nat.le_of_ble_eq_true rfl, Nat.le_of_ble_eq_true rfl⟩ ⟨Nat.zero_le _, Nat.zero_le _⟩ hl.1 (Nat.le_of_ble_eq_true rfl) dX4_of_18 (fun H locs h => ?_)
  obtain ⟨r_3, hf_3, hx⟩ := bd_e hx
  refine cX4_67_X4_both C hI h hf_3 ⟨Nat.le_of_ble_eq_true rfl, Nat.le_of_ble_eq_true rfl⟩ ⟨Nat.zero_le _, Nat.zero_le _⟩ hl.1 (Nat.le_of_ble_eq_true rfl) dX4_of_21 (fun H locs h => ?_)
  obtain rfl := Option.some.inj hx
  exact x_lret C h dX4_of_24
theorem mX4_of_7 (hG : G0 E s0 b) (hI : Sx E) {v2 : Int32} {x : Int64 × St} (hx : fX4_of_7 v2 st = some x) : Mt l E s0 yX4_of cX4_of 3 (some .long) rmX4_of_7 [.ref (E.ad 33), .ref (E.ad 7), .int v2] (sg st) (some (.long x.1)) E (sg x.2) :=
  Mt.of hG (by decide) (Nat.le_of_ble_eq_true rfl) (fun p e s m below meth c ls C h hl => bX4_of_7 C hI v2 st hx h hl)
theorem cX3_63_X4_of_7 {a1 : Int32} {r : Int64} {st' : St} (C : Cx E s0 b p s m args meth c cc nL "EarthMesh$Equations" rt) (hI : Sx E) (h : XH E (sg st) s H locs) (hf : fX4_of_7 a1 st = some (r, st')) (hR : rmX4_of_7.frames + 1 ≤ R.frames ∧ 16 + (3 + 11) + rmX4_of_7.locals ≤ R.locals) (h0 : cells ≤ R.cells ∧ slots ≤ R.slots) (hsz : ls.size = nL) (hcat : (rest.map fun v => v.category).sum ≤ 16) (hdg : decode cc pc = .ok (.invokevirtual 63, 3)) (kk : ∀ (H : Heap) (locs : List Loc), XH E (sg st') s H locs → W p l e R s m args below meth c H locs cells slots Q (F0 m (pc + 3) ls (.long r :: rest))) : W p l e R s m args below meth c H locs cells slots Q (F0 m pc ls (.int a1 :: .ref (E.ad 7) :: .ref (E.ad 33) :: rest)) :=
  x_callV (n := 2) (As := [.ref (E.ad 7), .int a1]) C h 33 3 (hI 33 (by decide)) k_33 rfl (mX4_of_7 C.g hI hf) (lw_V q1150 q1151 q1152 q133 q1153) ⟨rfl, by decide +kernel, by decide +kernel, by decide +kernel⟩ hR ⟨rfl, rfl⟩ h0 rfl hsz rfl hcat hdg kk
abbrev rmX3_lays : Room := { frames := 4, cells := 0, slots := 0, locals := 141 }
def fX3_lays_61 (v1 : Int32) (v2 : Int32) (st : St) : Option ((Int32 × St) ⊕ (St)) :=
  nm (v2 + (1 : Int32)) fun v2_11 =>
  some (.inl (v2_11, st))
set_option maxHeartbeats 1000000 in
theorem bX3_lays_61 (C : Cx E s0 b p s m args meth c cX3_lays 4 "EarthMesh$Equations" none) (hI : Sx E) (v1 : Int32) (v2 : Int32) (st : St) {x : (Int32 × St) ⊕ (St)} (hx : fX3_lays_61 v1 v2 st = some x) {Q : State → Prop} {G : Int32 × St → Prop} {X : St → Prop} (hG : ∀ (w2 : Int32) (wst : St), G (w2, wst) → ∀ (H : Heap) (locs : List Loc) (ls : Array Slot), XH E (sg wst) s H locs → lv_has ls 4 [(0, .ref (E.ad 6)), (1, .int v1), (2, .int w2)] → W p l e rmX3_lays s m args below meth c H locs 0 0 Q (F0 m 7 ls [])) (hE0 : ∀ (wst : St), X wst → ∀ (H : Heap) (locs : List Loc) (ls : Array Slot), XH E (sg wst) s H locs → lv_has ls 4 [(0, .ref (E.ad 6))] → W p l e rmX3_lays s m args below meth c H locs 0 0 Q (F0 m 67 ls [])) (K : Kx G X x) {H : Heap} {locs : List Loc} {ls : Array Slot} (h : XH E (sg st) s H locs) (hl : lv_has ls 4 [(0, .ref (E.ad 6)), (1, .int v1), (2, .int v2)]) : W p l e rmX3_lays s m args below meth c H locs 0 0 Q (F0 m 61 ls []) := by
  unfold fX3_lays_61 at hx
  obtain ⟨v2_11, e_11, hx⟩ := nm_x hx
  refine lv_iinc (v := v2_11) (lv' := [(2, .int v2_11), (0, .ref (E.ad 6)), (1, .int v1)]) C.x C.bc dX3_lays_61 hl (k := 2) rfl (by rw [e_11]; rfl) (by decide) rfl (fun ls hl => ?_)
  refine lv_goto (tgt := 7) C.x C.bc dX3_lays_64 (by decide) ?_
  obtain rfl := Option.some.inj hx
  exact hG _ _ K _ _ _ h (lv_sub hl [1, 2, 0] rfl)
def fX3_lays_7 (v1 : Int32) (v2 : Int32) (st : St) : Option ((Int32 × St) ⊕ (St)) :=
  if (12 : Int32) ≤ v2 then
    some (.inr st)
  else
    gd (inB v2 12) <|
    nm (uI st 50 v2.toNatClampNeg (-1 : Int32)) fun st_4 =>
    if ((v1 >>> (v2 &&& 31)) &&& (1 : Int32)) = 0 then
      fX3_lays_61 v1 v2 st_4
    else
      gd (inB (st_4.1 6 5) 12) <|
      nm (uI st_4 49 (st_4.1 6 5).toNatClampNeg v2) fun st_7 =>
      gd (inB v2 12) <|
      nm (uI st_7 50 v2.toNatClampNeg (st_7.1 6 5)) fun st_9 =>
      nm (uI st_9 6 5 ((st_9.1 6 5) + (1 : Int32))) fun st_10 =>
      fX3_lays_61 v1 v2 st_10
set_option maxHeartbeats 1000000 in
theorem bX3_lays_7 (C : Cx E s0 b p s m args meth c cX3_lays 4 "EarthMesh$Equations" none) (hI : Sx E) (v1 : Int32) (v2 : Int32) (st : St) {x : (Int32 × St) ⊕ (St)} (hx : fX3_lays_7 v1 v2 st = some x) {Q : State → Prop} {G : Int32 × St → Prop} {X : St → Prop} (hG : ∀ (w2 : Int32) (wst : St), G (w2, wst) → ∀ (H : Heap) (locs : List Loc) (ls : Array Slot), XH E (sg wst) s H locs → lv_has ls 4 [(0, .ref (E.ad 6)), (1, .int v1), (2, .int w2)] → W p l e rmX3_lays s m args below meth c H locs 0 0 Q (F0 m 7 ls [])) (hE0 : ∀ (wst : St), X wst → ∀ (H : Heap) (locs : List Loc) (ls : Array Slot), XH E (sg wst) s H locs → lv_has ls 4 [(0, .ref (E.ad 6))] → W p l e rmX3_lays s m args below meth c H locs 0 0 Q (F0 m 67 ls [])) (K : Kx G X x) {H : Heap} {locs : List Loc} {ls : Array Slot} (h : XH E (sg st) s H locs) (hl : lv_has ls 4 [(0, .ref (E.ad 6)), (1, .int v1), (2, .int v2)]) : W p l e rmX3_lays s m args below meth c H locs 0 0 Q (F0 m 7 ls []) := by
  unfold fX3_lays_7 at hx
  refine lv_iload_n C.x C.bc dX3_lays_7 rfl (lv_at hl 2 rfl) ?_
  refine lv_bipush (v := (12 : Int32)) C.x C.bc dX3_lays_8 (by decide) ?_
  refine lv_icmp_ge (tgt := 67) C.x C.bc dX3_lays_10 (by decide) (fun c_2 => ?_) (fun c_2 => ?_)
  · have hx := ge_t hx c_2
    obtain rfl := Option.some.inj hx
    exact hE0 _ K _ _ _ h (lv_sub hl [0] rfl)
  · have hx := ge_f hx c_2
    refine lv_aload_n C.x C.bc dX3_lays_13 rfl (lv_at hl 0 rfl) ?_
    refine gt_X3_34_6 C hI h dX3_lays_14 ?_
    refine lv_iload_n C.x C.bc dX3_lays_17 rfl (lv_at hl 2 rfl) ?_
    refine lv_iconst (v := (-1 : Int32)) C.x C.bc dX3_lays_18 (by decide) ?_
    obtain ⟨g_3, hx⟩ := gd_e hx
    obtain ⟨st_4, e_4, hx⟩ := nm_x hx
    refine y_iast C h 50 12 (hI 50 (by decide)) k_50 g_3 e_4 dX3_lays_19 (fun H locs h => ?_)
    refine lv_iload_n C.x C.bc dX3_lays_20 rfl (lv_at hl 1 rfl) ?_
    refine lv_iload_n C.x C.bc dX3_lays_21 rfl (lv_at hl 2 rfl) ?_
    refine lv_ishr C.x C.bc dX3_lays_22 ?_
    refine lv_iconst (v := (1 : Int32)) C.x C.bc dX3_lays_23 (by decide) ?_
    refine lv_iand C.x C.bc dX3_lays_24 ?_
    refine lv_if_ne (tgt := 31) C.x C.bc dX3_lays_25 (by decide) (fun c_5 => ?_) (fun c_5 => ?_)
    · have hx := ge_f hx c_5
      refine lv_aload_n C.x C.bc dX3_lays_31 rfl (lv_at hl 0 rfl) ?_
      refine gt_X3_30_6 C hI h dX3_lays_32 ?_
      refine lv_aload_n C.x C.bc dX3_lays_35 rfl (lv_at hl 0 rfl) ?_
      refine gt_X3_41_6 C hI h dX3_lays_36 ?_
      refine lv_iload_n C.x C.bc dX3_lays_39 rfl (lv_at hl 2 rfl) ?_
      obtain ⟨g_6, hx⟩ := gd_e hx
      obtain ⟨st_7, e_7, hx⟩ := nm_x hx
      refine y_iast C h 49 12 (hI 49 (by decide)) k_49 g_6 e_7 dX3_lays_40 (fun H locs h => ?_)
      refine lv_aload_n C.x C.bc dX3_lays_41 rfl (lv_at hl 0 rfl) ?_
      refine gt_X3_34_6 C hI h dX3_lays_42 ?_
      refine lv_iload_n C.x C.bc dX3_lays_45 rfl (lv_at hl 2 rfl) ?_
      refine lv_aload_n C.x C.bc dX3_lays_46 rfl (lv_at hl 0 rfl) ?_
      refine gt_X3_41_6 C hI h dX3_lays_47 ?_
      obtain ⟨g_8, hx⟩ := gd_e hx
      obtain ⟨st_9, e_9, hx⟩ := nm_x hx
      refine y_iast C h 50 12 (hI 50 (by decide)) k_50 g_8 e_9 dX3_lays_50 (fun H locs h => ?_)
      refine lv_aload_n C.x C.bc dX3_lays_51 rfl (lv_at hl 0 rfl) ?_
      refine lv_dup C.x C.bc dX3_lays_52 rfl ?_
      refine gt_X3_41_6 C hI h dX3_lays_53 ?_
      refine lv_iconst (v := (1 : Int32)) C.x C.bc dX3_lays_56 (by decide) ?_
      refine lv_iadd C.x C.bc dX3_lays_57 ?_
      obtain ⟨st_10, e_10, hx⟩ := nm_x hx
      refine pt_X3_41_6 C hI h e_10 dX3_lays_58 (fun H locs h => ?_)
      exact bX3_lays_61 C hI v1 v2 st_10 hx hG hE0 K h (lv_sub hl [0, 1, 2] rfl)
    · have hx := ge_t hx c_5
      refine lv_goto (tgt := 61) C.x C.bc dX3_lays_28 (by decide) ?_
      exact bX3_lays_61 C hI v1 v2 st_4 hx hG hE0 K h (lv_sub hl [0, 1, 2] rfl)
set_option maxHeartbeats 1000000 in
theorem pX3_lays_7 (C : Cx E s0 b p s m args meth c cX3_lays 4 "EarthMesh$Equations" none) (hI : Sx E) (v1 : Int32) {Q : State → Prop} {v2 : Int32} {st : St} {n : Nat} {r : St} (hx : iter (u2 fun v2 st => fX3_lays_7 v1 v2 st) n (v2, st) = some r) (hE : (fun t => ∀ (H : Heap) (locs : List Loc) (ls : Array Slot), XH E (sg t) s H locs → lv_has ls 4 [(0, .ref (E.ad 6))] → W p l e rmX3_lays s m args below meth c H locs 0 0 Q (F0 m 67 ls [])) r) {H : Heap} {locs : List Loc} {ls : Array Slot} (h : XH E (sg st) s H locs) (hl : lv_has ls 4 [(0, .ref (E.ad 6)), (1, .int v1), (2, .int v2)]) : W p l e rmX3_lays s m args below meth c H locs 0 0 Q (F0 m 7 ls []) := by
  refine iter_W (G := fun t => ∀ (H : Heap) (locs : List Loc) (ls : Array Slot), XH E (sg t.2) s H locs → lv_has ls 4 [(0, .ref (E.ad 6)), (1, .int v1), (2, .int t.1)] → W p l e rmX3_lays s m args below meth c H locs 0 0 Q (F0 m 7 ls [])) (E := fun t => ∀ (H : Heap) (locs : List Loc) (ls : Array Slot), XH E (sg t) s H locs → lv_has ls 4 [(0, .ref (E.ad 6))] → W p l e rmX3_lays s m args below meth c H locs 0 0 Q (F0 m 67 ls [])) (fun t x hx K H locs ls h hl => ?_) n _ r hx hE H locs ls h hl
  obtain ⟨v2, st⟩ := t
  exact bX3_lays_7 C hI v1 v2 st hx (fun _ _ z => z) (fun _ z => z) K h hl
def fX3_lays_162 (v2 : Int32) (v3 : Int32) (k0 : Nat) (k1 : Int32) (k2 : Int64) (k3 : Int64) (st : St) : Option ((Int32 × St) ⊕ (St)) :=
  gd (inG k0 8 12) <|
  gd (inB k1 12) <|
  nm (uL st k0 k1.toNatClampNeg (k2 + k3)) fun st_30 =>
  nm (v3 + (1 : Int32)) fun v3_31 =>
  some (.inl (v3_31, st_30))
set_option maxHeartbeats 1000000 in
theorem bX3_lays_162 (C : Cx E s0 b p s m args meth c cX3_lays 4 "EarthMesh$Equations" none) (hI : Sx E) (v2 : Int32) (v3 : Int32) (k0 : Nat) (k1 : Int32) (k2 : Int64) (k3 : Int64) (st : St) {x : (Int32 × St) ⊕ (St)} (hx : fX3_lays_162 v2 v3 k0 k1 k2 k3 st = some x) {Q : State → Prop} {G : Int32 × St → Prop} {X : St → Prop} (hG : ∀ (w3 : Int32) (wst : St), G (w3, wst) → ∀ (H : Heap) (locs : List Loc) (ls : Array Slot), XH E (sg wst) s H locs → lv_has ls 4 [(0, .ref (E.ad 6)), (2, .int v2), (3, .int w3)] → W p l e rmX3_lays s m args below meth c H locs 0 0 Q (F0 m 107 ls [])) (hE0 : ∀ (wst : St), X wst → ∀ (H : Heap) (locs : List Loc) (ls : Array Slot), XH E (sg wst) s H locs → lv_has ls 4 [(0, .ref (E.ad 6)), (2, .int v2)] → W p l e rmX3_lays s m args below meth c H locs 0 0 Q (F0 m 170 ls [])) (K : Kx G X x) {H : Heap} {locs : List Loc} {ls : Array Slot} (h : XH E (sg st) s H locs) (hl : lv_has ls 4 [(0, .ref (E.ad 6)), (2, .int v2), (3, .int v3)]) : W p l e rmX3_lays s m args below meth c H locs 0 0 Q (F0 m 162 ls [.long k3, .long k2, .int k1, .ref (E.ad k0)]) := by
  unfold fX3_lays_162 at hx
  refine lv_ladd C.x C.bc dX3_lays_162 ?_
  obtain ⟨g_28, hx⟩ := gd_e hx
  obtain ⟨g_29, hx⟩ := gd_e hx
  obtain ⟨st_30, e_30, hx⟩ := nm_x hx
  refine y_last C h k0 12 (hI _ (by have := g_28; omega)) (kg_v g_28 kg_8) g_29 e_30 dX3_lays_163 (fun H locs h => ?_)
  obtain ⟨v3_31, e_31, hx⟩ := nm_x hx
  refine lv_iinc (v := v3_31) (lv' := [(3, .int v3_31), (0, .ref (E.ad 6)), (2, .int v2)]) C.x C.bc dX3_lays_164 hl (k := 2) rfl (by rw [e_31]; rfl) (by decide) rfl (fun ls hl => ?_)
  refine lv_goto (tgt := 107) C.x C.bc dX3_lays_167 (by decide) ?_
  obtain rfl := Option.some.inj hx
  exact hG _ _ K _ _ _ h (lv_sub hl [1, 2, 0] rfl)
def fX3_lays_107 (v2 : Int32) (v3 : Int32) (st : St) : Option ((Int32 × St) ⊕ (St)) :=
  nm (fX2_nodes_1 st) fun r_20 =>
  if r_20 ≤ v3 then
    some (.inr st)
  else
    gd (inB v2 12) <|
    gd (inB v2 12) <|
    gd (inB v2 12) <|
    if v3 = (st.1 49 v2.toNatClampNeg) then
      fX3_lays_162 v2 v3 (8 + v2.toNatClampNeg) v2 (st.2.1 (8 + v2.toNatClampNeg) v2.toNatClampNeg) (0 : Int64) st
    else
      gd (inB v2 12) <|
      bd (fX2_between_1 (st.1 49 v2.toNatClampNeg) v3 st) fun r_27 =>
      fX3_lays_162 v2 v3 (8 + v2.toNatClampNeg) v2 (st.2.1 (8 + v2.toNatClampNeg) v2.toNatClampNeg) (r_27.toInt64) st
set_option maxHeartbeats 1000000 in
theorem bX3_lays_107 (C : Cx E s0 b p s m args meth c cX3_lays 4 "EarthMesh$Equations" none) (hI : Sx E) (v2 : Int32) (v3 : Int32) (st : St) {x : (Int32 × St) ⊕ (St)} (hx : fX3_lays_107 v2 v3 st = some x) {Q : State → Prop} {G : Int32 × St → Prop} {X : St → Prop} (hG : ∀ (w3 : Int32) (wst : St), G (w3, wst) → ∀ (H : Heap) (locs : List Loc) (ls : Array Slot), XH E (sg wst) s H locs → lv_has ls 4 [(0, .ref (E.ad 6)), (2, .int v2), (3, .int w3)] → W p l e rmX3_lays s m args below meth c H locs 0 0 Q (F0 m 107 ls [])) (hE0 : ∀ (wst : St), X wst → ∀ (H : Heap) (locs : List Loc) (ls : Array Slot), XH E (sg wst) s H locs → lv_has ls 4 [(0, .ref (E.ad 6)), (2, .int v2)] → W p l e rmX3_lays s m args below meth c H locs 0 0 Q (F0 m 170 ls [])) (K : Kx G X x) {H : Heap} {locs : List Loc} {ls : Array Slot} (h : XH E (sg st) s H locs) (hl : lv_has ls 4 [(0, .ref (E.ad 6)), (2, .int v2), (3, .int v3)]) : W p l e rmX3_lays s m args below meth c H locs 0 0 Q (F0 m 107 ls []) := by
  unfold fX3_lays_107 at hx
  refine lv_iload_n C.x C.bc dX3_lays_107 rfl (lv_at hl 2 rfl) ?_
  refine lv_aload_n C.x C.bc dX3_lays_108 rfl (lv_at hl 0 rfl) ?_
  refine gt_X3_3_6 C hI h dX3_lays_109 ?_
  refine gt_X3_45_0 C hI h dX3_lays_112 ?_
  obtain ⟨r_20, e_20, hx⟩ := nm_x hx
  refine cX3_55_X2_nodes_1 C hI h e_20.symm ⟨Nat.le_of_ble_eq_true rfl, Nat.le_of_ble_eq_true rfl⟩ ⟨Nat.zero_le _, Nat.zero_le _⟩ hl.1 (Nat.le_of_ble_eq_true rfl) dX3_lays_115 (fun H locs h => ?_)
  refine lv_icmp_ge (tgt := 170) C.x C.bc dX3_lays_118 (by decide) (fun c_21 => ?_) (fun c_21 => ?_)
  · have hx := ge_t hx c_21
    obtain rfl := Option.some.inj hx
    exact hE0 _ K _ _ _ h (lv_sub hl [0, 1] rfl)
  · have hx := ge_f hx c_21
    refine lv_aload_n C.x C.bc dX3_lays_121 rfl (lv_at hl 0 rfl) ?_
    refine gt_X3_17_6 C hI h dX3_lays_122 ?_
    refine lv_iload_n C.x C.bc dX3_lays_125 rfl (lv_at hl 1 rfl) ?_
    obtain ⟨g_22, hx⟩ := gd_e hx
    refine y_row C h 7 8 5 12 (hI 7 (by decide)) k_7 (by decide) rfl rfl (fun _ _ => rfl) g_22 dX3_lays_126 ?_
    refine lv_iload_n C.x C.bc dX3_lays_127 rfl (lv_at hl 1 rfl) ?_
    refine lv_dup2_11 C.x C.bc dX3_lays_128 rfl rfl ?_
    obtain ⟨g_23, hx⟩ := gd_e hx
    refine x_lald C h (8 + v2.toNatClampNeg) 12 (hI _ (by have := inB_lt g_22; omega)) (kg_8 _ (inB_lt g_22)) g_23 dX3_lays_129 ?_
    refine lv_iload_n C.x C.bc dX3_lays_130 rfl (lv_at hl 2 rfl) ?_
    refine lv_aload_n C.x C.bc dX3_lays_131 rfl (lv_at hl 0 rfl) ?_
    refine gt_X3_30_6 C hI h dX3_lays_132 ?_
    refine lv_iload_n C.x C.bc dX3_lays_135 rfl (lv_at hl 1 rfl) ?_
    obtain ⟨g_24, hx⟩ := gd_e hx
    refine x_iald C h 49 12 (hI 49 (by decide)) k_49 g_24 dX3_lays_136 ?_
    refine lv_icmp_ne (tgt := 144) C.x C.bc dX3_lays_137 (by decide) (fun c_25 => ?_) (fun c_25 => ?_)
    · have hx := ge_f hx c_25
      refine lv_aload_n C.x C.bc dX3_lays_144 rfl (lv_at hl 0 rfl) ?_
      refine gt_X3_3_6 C hI h dX3_lays_145 ?_
      refine gt_X3_45_0 C hI h dX3_lays_148 ?_
      refine lv_aload_n C.x C.bc dX3_lays_151 rfl (lv_at hl 0 rfl) ?_
      refine gt_X3_30_6 C hI h dX3_lays_152 ?_
      refine lv_iload_n C.x C.bc dX3_lays_155 rfl (lv_at hl 1 rfl) ?_
      obtain ⟨g_26, hx⟩ := gd_e hx
      refine x_iald C h 49 12 (hI 49 (by decide)) k_49 g_26 dX3_lays_156 ?_
      refine lv_iload_n C.x C.bc dX3_lays_157 rfl (lv_at hl 2 rfl) ?_
      obtain ⟨r_27, hf_27, hx⟩ := bd_e hx
      refine cX3_59_X2_between_1 C hI h hf_27 ⟨Nat.le_of_ble_eq_true rfl, Nat.le_of_ble_eq_true rfl⟩ ⟨Nat.zero_le _, Nat.zero_le _⟩ hl.1 (Nat.le_of_ble_eq_true rfl) dX3_lays_158 (fun H locs h => ?_)
      refine lv_i2l (v := (r_27.toInt64)) C.x C.bc dX3_lays_161 rfl ?_
      exact bX3_lays_162 C hI v2 v3 (8 + v2.toNatClampNeg) v2 (st.2.1 (8 + v2.toNatClampNeg) v2.toNatClampNeg) (r_27.toInt64) st hx hG hE0 K h (lv_sub hl [0, 1, 2] rfl)
    · have hx := ge_t hx c_25
      refine lv_lconst (v := (0 : Int64)) C.x C.bc dX3_lays_140 (by decide) ?_
      refine lv_goto (tgt := 162) C.x C.bc dX3_lays_141 (by decide) ?_
      exact bX3_lays_162 C hI v2 v3 (8 + v2.toNatClampNeg) v2 (st.2.1 (8 + v2.toNatClampNeg) v2.toNatClampNeg) (0 : Int64) st hx hG hE0 K h (lv_sub hl [0, 1, 2] rfl)
set_option maxHeartbeats 1000000 in
theorem pX3_lays_107 (C : Cx E s0 b p s m args meth c cX3_lays 4 "EarthMesh$Equations" none) (hI : Sx E) (v2 : Int32) {Q : State → Prop} {v3 : Int32} {st : St} {n : Nat} {r : St} (hx : iter (u2 fun v3 st => fX3_lays_107 v2 v3 st) n (v3, st) = some r) (hE : (fun t => ∀ (H : Heap) (locs : List Loc) (ls : Array Slot), XH E (sg t) s H locs → lv_has ls 4 [(0, .ref (E.ad 6)), (2, .int v2)] → W p l e rmX3_lays s m args below meth c H locs 0 0 Q (F0 m 170 ls [])) r) {H : Heap} {locs : List Loc} {ls : Array Slot} (h : XH E (sg st) s H locs) (hl : lv_has ls 4 [(0, .ref (E.ad 6)), (2, .int v2), (3, .int v3)]) : W p l e rmX3_lays s m args below meth c H locs 0 0 Q (F0 m 107 ls []) := by
  refine iter_W (G := fun t => ∀ (H : Heap) (locs : List Loc) (ls : Array Slot), XH E (sg t.2) s H locs → lv_has ls 4 [(0, .ref (E.ad 6)), (2, .int v2), (3, .int t.1)] → W p l e rmX3_lays s m args below meth c H locs 0 0 Q (F0 m 107 ls [])) (E := fun t => ∀ (H : Heap) (locs : List Loc) (ls : Array Slot), XH E (sg t) s H locs → lv_has ls 4 [(0, .ref (E.ad 6)), (2, .int v2)] → W p l e rmX3_lays s m args below meth c H locs 0 0 Q (F0 m 170 ls [])) (fun t x hx K H locs ls h hl => ?_) n _ r hx hE H locs ls h hl
  obtain ⟨v3, st⟩ := t
  exact bX3_lays_107 C hI v2 v3 st hx (fun _ _ z => z) (fun _ z => z) K h hl
def fX3_lays_217 (v2 : Int32) (v3 : Int32) (st : St) : Option ((Int32 × St) ⊕ (St)) :=
  nm (v3 + (1 : Int32)) fun v3_35 =>
  some (.inl (v3_35, st))
set_option maxHeartbeats 1000000 in
theorem bX3_lays_217 (C : Cx E s0 b p s m args meth c cX3_lays 4 "EarthMesh$Equations" none) (hI : Sx E) (v2 : Int32) (v3 : Int32) (st : St) {x : (Int32 × St) ⊕ (St)} (hx : fX3_lays_217 v2 v3 st = some x) {Q : State → Prop} {G : Int32 × St → Prop} {X : St → Prop} (hG : ∀ (w3 : Int32) (wst : St), G (w3, wst) → ∀ (H : Heap) (locs : List Loc) (ls : Array Slot), XH E (sg wst) s H locs → lv_has ls 4 [(0, .ref (E.ad 6)), (2, .int v2), (3, .int w3)] → W p l e rmX3_lays s m args below meth c H locs 0 0 Q (F0 m 172 ls [])) (hE0 : ∀ (wst : St), X wst → ∀ (H : Heap) (locs : List Loc) (ls : Array Slot), XH E (sg wst) s H locs → lv_has ls 4 [(0, .ref (E.ad 6)), (2, .int v2)] → W p l e rmX3_lays s m args below meth c H locs 0 0 Q (F0 m 223 ls [])) (K : Kx G X x) {H : Heap} {locs : List Loc} {ls : Array Slot} (h : XH E (sg st) s H locs) (hl : lv_has ls 4 [(0, .ref (E.ad 6)), (2, .int v2), (3, .int v3)]) : W p l e rmX3_lays s m args below meth c H locs 0 0 Q (F0 m 217 ls []) := by
  unfold fX3_lays_217 at hx
  obtain ⟨v3_35, e_35, hx⟩ := nm_x hx
  refine lv_iinc (v := v3_35) (lv' := [(3, .int v3_35), (0, .ref (E.ad 6)), (2, .int v2)]) C.x C.bc dX3_lays_217 hl (k := 2) rfl (by rw [e_35]; rfl) (by decide) rfl (fun ls hl => ?_)
  refine lv_goto (tgt := 172) C.x C.bc dX3_lays_220 (by decide) ?_
  obtain rfl := Option.some.inj hx
  exact hG _ _ K _ _ _ h (lv_sub hl [1, 2, 0] rfl)
def fX3_lays_172 (v2 : Int32) (v3 : Int32) (st : St) : Option ((Int32 × St) ⊕ (St)) :=
  if (st.1 6 5) ≤ v3 then
    some (.inr st)
  else
    if v2 = v3 then
      fX3_lays_217 v2 v3 st
    else
      gd (inB v2 12) <|
      gd (inB v2 12) <|
      gd (inB v3 12) <|
      bd (fX2_between_1 (st.1 49 v2.toNatClampNeg) (st.1 49 v3.toNatClampNeg) st) fun r_39 =>
      gd (inB v3 12) <|
      nm (uL st (8 + v2.toNatClampNeg) v3.toNatClampNeg ((-r_39).toInt64)) fun st_41 =>
      fX3_lays_217 v2 v3 st_41
set_option maxHeartbeats 1000000 in
theorem bX3_lays_172 (C : Cx E s0 b p s m args meth c cX3_lays 4 "EarthMesh$Equations" none) (hI : Sx E) (v2 : Int32) (v3 : Int32) (st : St) {x : (Int32 × St) ⊕ (St)} (hx : fX3_lays_172 v2 v3 st = some x) {Q : State → Prop} {G : Int32 × St → Prop} {X : St → Prop} (hG : ∀ (w3 : Int32) (wst : St), G (w3, wst) → ∀ (H : Heap) (locs : List Loc) (ls : Array Slot), XH E (sg wst) s H locs → lv_has ls 4 [(0, .ref (E.ad 6)), (2, .int v2), (3, .int w3)] → W p l e rmX3_lays s m args below meth c H locs 0 0 Q (F0 m 172 ls [])) (hE0 : ∀ (wst : St), X wst → ∀ (H : Heap) (locs : List Loc) (ls : Array Slot), XH E (sg wst) s H locs → lv_has ls 4 [(0, .ref (E.ad 6)), (2, .int v2)] → W p l e rmX3_lays s m args below meth c H locs 0 0 Q (F0 m 223 ls [])) (K : Kx G X x) {H : Heap} {locs : List Loc} {ls : Array Slot} (h : XH E (sg st) s H locs) (hl : lv_has ls 4 [(0, .ref (E.ad 6)), (2, .int v2), (3, .int v3)]) : W p l e rmX3_lays s m args below meth c H locs 0 0 Q (F0 m 172 ls []) := by
  unfold fX3_lays_172 at hx
  refine lv_iload_n C.x C.bc dX3_lays_172 rfl (lv_at hl 2 rfl) ?_
  refine lv_aload_n C.x C.bc dX3_lays_173 rfl (lv_at hl 0 rfl) ?_
  refine gt_X3_41_6 C hI h dX3_lays_174 ?_
  refine lv_icmp_ge (tgt := 223) C.x C.bc dX3_lays_177 (by decide) (fun c_33 => ?_) (fun c_33 => ?_)
  · have hx := ge_t hx c_33
    obtain rfl := Option.some.inj hx
    exact hE0 _ K _ _ _ h (lv_sub hl [0, 1] rfl)
  · have hx := ge_f hx c_33
    refine lv_iload_n C.x C.bc dX3_lays_180 rfl (lv_at hl 1 rfl) ?_
    refine lv_iload_n C.x C.bc dX3_lays_181 rfl (lv_at hl 2 rfl) ?_
    refine lv_icmp_eq (tgt := 217) C.x C.bc dX3_lays_182 (by decide) (fun c_34 => ?_) (fun c_34 => ?_)
    · have hx := ge_t hx c_34
      exact bX3_lays_217 C hI v2 v3 st hx hG hE0 K h (lv_sub hl [0, 1, 2] rfl)
    · have hx := ge_f hx c_34
      refine lv_aload_n C.x C.bc dX3_lays_185 rfl (lv_at hl 0 rfl) ?_
      refine gt_X3_17_6 C hI h dX3_lays_186 ?_
      refine lv_iload_n C.x C.bc dX3_lays_189 rfl (lv_at hl 1 rfl) ?_
      obtain ⟨g_36, hx⟩ := gd_e hx
      refine y_row C h 7 8 5 12 (hI 7 (by decide)) k_7 (by decide) rfl rfl (fun _ _ => rfl) g_36 dX3_lays_190 ?_
      refine lv_iload_n C.x C.bc dX3_lays_191 rfl (lv_at hl 2 rfl) ?_
      refine lv_aload_n C.x C.bc dX3_lays_192 rfl (lv_at hl 0 rfl) ?_
      refine gt_X3_3_6 C hI h dX3_lays_193 ?_
      refine gt_X3_45_0 C hI h dX3_lays_196 ?_
      refine lv_aload_n C.x C.bc dX3_lays_199 rfl (lv_at hl 0 rfl) ?_
      refine gt_X3_30_6 C hI h dX3_lays_200 ?_
      refine lv_iload_n C.x C.bc dX3_lays_203 rfl (lv_at hl 1 rfl) ?_
      obtain ⟨g_37, hx⟩ := gd_e hx
      refine x_iald C h 49 12 (hI 49 (by decide)) k_49 g_37 dX3_lays_204 ?_
      refine lv_aload_n C.x C.bc dX3_lays_205 rfl (lv_at hl 0 rfl) ?_
      refine gt_X3_30_6 C hI h dX3_lays_206 ?_
      refine lv_iload_n C.x C.bc dX3_lays_209 rfl (lv_at hl 2 rfl) ?_
      obtain ⟨g_38, hx⟩ := gd_e hx
      refine x_iald C h 49 12 (hI 49 (by decide)) k_49 g_38 dX3_lays_210 ?_
      obtain ⟨r_39, hf_39, hx⟩ := bd_e hx
      refine cX3_59_X2_between_1 C hI h hf_39 ⟨Nat.le_of_ble_eq_true rfl, Nat.le_of_ble_eq_true rfl⟩ ⟨Nat.zero_le _, Nat.zero_le _⟩ hl.1 (Nat.le_of_ble_eq_true rfl) dX3_lays_211 (fun H locs h => ?_)
      refine lv_ineg C.x C.bc dX3_lays_214 ?_
      refine lv_i2l (v := ((-r_39).toInt64)) C.x C.bc dX3_lays_215 rfl ?_
      obtain ⟨g_40, hx⟩ := gd_e hx
      obtain ⟨st_41, e_41, hx⟩ := nm_x hx
      refine y_last C h (8 + v2.toNatClampNeg) 12 (hI _ (by have := inB_lt g_36; omega)) (kg_8 _ (inB_lt g_36)) g_40 e_41 dX3_lays_216 (fun H locs h => ?_)
      exact bX3_lays_217 C hI v2 v3 st_41 hx hG hE0 K h (lv_sub hl [0, 1, 2] rfl)
set_option maxHeartbeats 1000000 in
theorem pX3_lays_172 (C : Cx E s0 b p s m args meth c cX3_lays 4 "EarthMesh$Equations" none) (hI : Sx E) (v2 : Int32) {Q : State → Prop} {v3 : Int32} {st : St} {n : Nat} {r : St} (hx : iter (u2 fun v3 st => fX3_lays_172 v2 v3 st) n (v3, st) = some r) (hE : (fun t => ∀ (H : Heap) (locs : List Loc) (ls : Array Slot), XH E (sg t) s H locs → lv_has ls 4 [(0, .ref (E.ad 6)), (2, .int v2)] → W p l e rmX3_lays s m args below meth c H locs 0 0 Q (F0 m 223 ls [])) r) {H : Heap} {locs : List Loc} {ls : Array Slot} (h : XH E (sg st) s H locs) (hl : lv_has ls 4 [(0, .ref (E.ad 6)), (2, .int v2), (3, .int v3)]) : W p l e rmX3_lays s m args below meth c H locs 0 0 Q (F0 m 172 ls []) := by
  refine iter_W (G := fun t => ∀ (H : Heap) (locs : List Loc) (ls : Array Slot), XH E (sg t.2) s H locs → lv_has ls 4 [(0, .ref (E.ad 6)), (2, .int v2), (3, .int t.1)] → W p l e rmX3_lays s m args below meth c H locs 0 0 Q (F0 m 172 ls [])) (E := fun t => ∀ (H : Heap) (locs : List Loc) (ls : Array Slot), XH E (sg t) s H locs → lv_has ls 4 [(0, .ref (E.ad 6)), (2, .int v2)] → W p l e rmX3_lays s m args below meth c H locs 0 0 Q (F0 m 223 ls [])) (fun t x hx K H locs ls h hl => ?_) n _ r hx hE H locs ls h hl
  obtain ⟨v3, st⟩ := t
  exact bX3_lays_172 C hI v2 v3 st hx (fun _ _ z => z) (fun _ z => z) K h hl
def fX3_lays_69 (v2 : Int32) (st : St) : Option ((Int32 × St) ⊕ (St)) :=
  if (st.1 6 5) ≤ v2 then
    some (.inr st)
  else
    gd (inB v2 12) <|
    gd (inB (2 : Int32) 3) <|
    gd (inB v2 12) <|
    gd (inB (st.1 49 v2.toNatClampNeg) 12) <|
    gd (inB v2 12) <|
    nm (uL st (8 + v2.toNatClampNeg) v2.toNatClampNeg ((st.1 (3 + (2 : Int32).toNatClampNeg) (st.1 49 v2.toNatClampNeg).toNatClampNeg).toInt64)) fun st_19 =>
    bd (iter (u2 fun z3 zst => fX3_lays_107 v2 z3 zst) FU ((0 : Int32), st_19)) (u1 fun st_32 =>
    bd (iter (u2 fun z3 zst => fX3_lays_172 v2 z3 zst) FU ((0 : Int32), st_32)) (u1 fun st_42 =>
    nm (v2 + (1 : Int32)) fun v2_43 =>
    some (.inl (v2_43, st_42))))
set_option maxHeartbeats 1000000 in
theorem bX3_lays_69 (C : Cx E s0 b p s m args meth c cX3_lays 4 "EarthMesh$Equations" none) (hI : Sx E) (v2 : Int32) (st : St) {x : (Int32 × St) ⊕ (St)} (hx : fX3_lays_69 v2 st = some x) {Q : State → Prop} {G : Int32 × St → Prop} {X : St → Prop} (hG : ∀ (w2 : Int32) (wst : St), G (w2, wst) → ∀ (H : Heap) (locs : List Loc) (ls : Array Slot), XH E (sg wst) s H locs → lv_has ls 4 [(0, .ref (E.ad 6)), (2, .int w2)] → W p l e rmX3_lays s m args below meth c H locs 0 0 Q (F0 m 69 ls [])) (hE0 : ∀ (wst : St), X wst → ∀ (H : Heap) (locs : List Loc) (ls : Array Slot), XH E (sg wst) s H locs → lv_has ls 4 [(0, .ref (E.ad 6))] → W p l e rmX3_lays s m args below meth c H locs 0 0 Q (F0 m 229 ls [])) (K : Kx G X x) {H : Heap} {locs : List Loc} {ls : Array Slot} (h : XH E (sg st) s H locs) (hl : lv_has ls 4 [(0, .ref (E.ad 6)), (2, .int v2)]) : W p l e rmX3_lays s m args below meth c H locs 0 0 Q (F0 m 69 ls []) := by
  unfold fX3_lays_69 at hx
  refine lv_iload_n C.x C.bc dX3_lays_69 rfl (lv_at hl 1 rfl) ?_
  refine lv_aload_n C.x C.bc dX3_lays_70 rfl (lv_at hl 0 rfl) ?_
  refine gt_X3_41_6 C hI h dX3_lays_71 ?_
  refine lv_icmp_ge (tgt := 229) C.x C.bc dX3_lays_74 (by decide) (fun c_13 => ?_) (fun c_13 => ?_)
  · have hx := ge_t hx c_13
    obtain rfl := Option.some.inj hx
    exact hE0 _ K _ _ _ h (lv_sub hl [0] rfl)
  · have hx := ge_f hx c_13
    refine lv_aload_n C.x C.bc dX3_lays_77 rfl (lv_at hl 0 rfl) ?_
    refine gt_X3_17_6 C hI h dX3_lays_78 ?_
    refine lv_iload_n C.x C.bc dX3_lays_81 rfl (lv_at hl 1 rfl) ?_
    obtain ⟨g_14, hx⟩ := gd_e hx
    refine y_row C h 7 8 5 12 (hI 7 (by decide)) k_7 (by decide) rfl rfl (fun _ _ => rfl) g_14 dX3_lays_82 ?_
    refine lv_iload_n C.x C.bc dX3_lays_83 rfl (lv_at hl 1 rfl) ?_
    refine lv_aload_n C.x C.bc dX3_lays_84 rfl (lv_at hl 0 rfl) ?_
    refine gt_X3_3_6 C hI h dX3_lays_85 ?_
    refine gt_X3_45_0 C hI h dX3_lays_88 ?_
    refine gt_X3_49_1 C hI h dX3_lays_91 ?_
    refine lv_iconst (v := (2 : Int32)) C.x C.bc dX3_lays_94 (by decide) ?_
    obtain ⟨g_15, hx⟩ := gd_e hx
    refine y_row C h 2 3 4 3 (hI 2 (by decide)) k_2 (by decide) rfl rfl (fun _ _ => rfl) g_15 dX3_lays_95 ?_
    refine lv_aload_n C.x C.bc dX3_lays_96 rfl (lv_at hl 0 rfl) ?_
    refine gt_X3_30_6 C hI h dX3_lays_97 ?_
    refine lv_iload_n C.x C.bc dX3_lays_100 rfl (lv_at hl 1 rfl) ?_
    obtain ⟨g_16, hx⟩ := gd_e hx
    refine x_iald C h 49 12 (hI 49 (by decide)) k_49 g_16 dX3_lays_101 ?_
    obtain ⟨g_17, hx⟩ := gd_e hx
    refine x_iald C h (3 + (2 : Int32).toNatClampNeg) 12 (hI _ (by have := inB_lt g_15; omega)) (kg_3 _ (inB_lt g_15)) g_17 dX3_lays_102 ?_
    refine lv_i2l (v := ((st.1 (3 + (2 : Int32).toNatClampNeg) (st.1 49 v2.toNatClampNeg).toNatClampNeg).toInt64)) C.x C.bc dX3_lays_103 rfl ?_
    obtain ⟨g_18, hx⟩ := gd_e hx
    obtain ⟨st_19, e_19, hx⟩ := nm_x hx
    refine y_last C h (8 + v2.toNatClampNeg) 12 (hI _ (by have := inB_lt g_14; omega)) (kg_8 _ (inB_lt g_14)) g_18 e_19 dX3_lays_104 (fun H locs h => ?_)
    refine lv_iconst (v := (0 : Int32)) C.x C.bc dX3_lays_105 (by decide) ?_
    refine lv_istore_n (lv' := [(3, .int (0 : Int32)), (0, .ref (E.ad 6)), (2, .int v2)]) C.x C.bc dX3_lays_106 rfl hl (by decide) rfl (fun ls hl => ?_)
    obtain ⟨st_32, hi_32, hx⟩ := bd_e hx
    have hx := u1_e hx
    refine pX3_lays_107 C hI v2 hi_32 (fun H locs ls h hl => ?_) h (lv_sub hl [1, 2, 0] rfl)
    refine lv_iconst (v := (0 : Int32)) C.x C.bc dX3_lays_170 (by decide) ?_
    refine lv_istore_n (lv' := [(3, .int (0 : Int32)), (0, .ref (E.ad 6)), (2, .int v2)]) C.x C.bc dX3_lays_171 rfl hl (by decide) rfl (fun ls hl => ?_)
    obtain ⟨st_42, hi_42, hx⟩ := bd_e hx
    have hx := u1_e hx
    refine pX3_lays_172 C hI v2 hi_42 (fun H locs ls h hl => ?_) h (lv_sub hl [1, 2, 0] rfl)
    obtain ⟨v2_43, e_43, hx⟩ := nm_x hx
    refine lv_iinc (v := v2_43) (lv' := [(2, .int v2_43), (0, .ref (E.ad 6))]) C.x C.bc dX3_lays_223 hl (k := 1) rfl (by rw [e_43]; rfl) (by decide) rfl (fun ls hl => ?_)
    refine lv_goto (tgt := 69) C.x C.bc dX3_lays_226 (by decide) ?_
    obtain rfl := Option.some.inj hx
    exact hG _ _ K _ _ _ h (lv_sub hl [1, 0] rfl)
set_option maxHeartbeats 1000000 in
theorem pX3_lays_69 (C : Cx E s0 b p s m args meth c cX3_lays 4 "EarthMesh$Equations" none) (hI : Sx E) {Q : State → Prop} {v2 : Int32} {st : St} {n : Nat} {r : St} (hx : iter (u2 fun v2 st => fX3_lays_69 v2 st) n (v2, st) = some r) (hE : (fun t => ∀ (H : Heap) (locs : List Loc) (ls : Array Slot), XH E (sg t) s H locs → lv_has ls 4 [(0, .ref (E.ad 6))] → W p l e rmX3_lays s m args below meth c H locs 0 0 Q (F0 m 229 ls [])) r) {H : Heap} {locs : List Loc} {ls : Array Slot} (h : XH E (sg st) s H locs) (hl : lv_has ls 4 [(0, .ref (E.ad 6)), (2, .int v2)]) : W p l e rmX3_lays s m args below meth c H locs 0 0 Q (F0 m 69 ls []) := by
  refine iter_W (G := fun t => ∀ (H : Heap) (locs : List Loc) (ls : Array Slot), XH E (sg t.2) s H locs → lv_has ls 4 [(0, .ref (E.ad 6)), (2, .int t.1)] → W p l e rmX3_lays s m args below meth c H locs 0 0 Q (F0 m 69 ls [])) (E := fun t => ∀ (H : Heap) (locs : List Loc) (ls : Array Slot), XH E (sg t) s H locs → lv_has ls 4 [(0, .ref (E.ad 6))] → W p l e rmX3_lays s m args below meth c H locs 0 0 Q (F0 m 229 ls [])) (fun t x hx K H locs ls h hl => ?_) n _ r hx hE H locs ls h hl
  obtain ⟨v2, st⟩ := t
  exact bX3_lays_69 C hI v2 st hx (fun _ _ z => z) (fun _ z => z) K h hl
def fX3_lays (v1 : Int32) (st : St) : Option (St) :=
  nm (uI st 6 5 (0 : Int32)) fun st_1 =>
  bd (iter (u2 fun z2 zst => fX3_lays_7 v1 z2 zst) FU ((0 : Int32), st_1)) (u1 fun st_12 =>
  bd (iter (u2 fun z2 zst => fX3_lays_69 z2 zst) FU ((0 : Int32), st_12)) (u1 fun st_44 =>
  bd (fX4_of_7 (st_44.1 6 5) st_44) <| u2 fun r_45 st_45 =>
  nm (uL st_45 6 6 r_45) fun st_46 =>
  some st_46))
set_option maxHeartbeats 1000000 in
theorem bX3_lays (C : Cx E s0 b p s m args meth c cX3_lays 4 "EarthMesh$Equations" none) (hI : Sx E) (v1 : Int32) (st : St) {x : St} (hx : fX3_lays v1 st = some x) {H : Heap} {locs : List Loc} {ls : Array Slot} (h : XH E (sg st) s H locs) (hl : lv_has ls 4 [(0, .ref (E.ad 6)), (1, .int v1)]) : W p l e rmX3_lays s m args below meth c H locs 0 0 (MQ below (Qx E none (sg x)) args s 0 0 (gA E.HB)) (F0 m 0 ls []) := by
  unfold fX3_lays at hx
  refine lv_aload_n C.x C.bc dX3_lays_0 rfl (lv_at hl 0 rfl) ?_
  refine lv_iconst (v := (0 : Int32)) C.x C.bc dX3_lays_1 (by decide) ?_
  obtain ⟨st_1, e_1, hx⟩ := nm_x hx
  refine pt_X3_41_6 C hI h e_1 dX3_lays_2 (fun H locs h => ?_)
  refine lv_iconst (v := (0 : Int32)) C.x C.bc dX3_lays_5 (by decide) ?_
  refine lv_istore_n (lv' := [(2, .int (0 : Int32)), (0, .ref (E.ad 6)), (1, .int v1)]) C.x C.bc dX3_lays_6 rfl hl (by decide) rfl (fun ls hl => ?_)
  obtain ⟨st_12, hi_12, hx⟩ := bd_e hx
  have hx := u1_e hx
  refine pX3_lays_7 C hI v1 hi_12 (fun H locs ls h hl => ?_) h (lv_sub hl [1, 2, 0] rfl)
  refine lv_iconst (v := (0 : Int32)) C.x C.bc dX3_lays_67 (by decide) ?_
  refine lv_istore_n (lv' := [(2, .int (0 : Int32)), (0, .ref (E.ad 6))]) C.x C.bc dX3_lays_68 rfl hl (by decide) rfl (fun ls hl => ?_)
  obtain ⟨st_44, hi_44, hx⟩ := bd_e hx
  have hx := u1_e hx
  refine pX3_lays_69 C hI hi_44 (fun H locs ls h hl => ?_) h (lv_sub hl [1, 0] rfl)
  refine lv_aload_n C.x C.bc dX3_lays_229 rfl (lv_at hl 0 rfl) ?_
  refine lv_aload_n C.x C.bc dX3_lays_230 rfl (lv_at hl 0 rfl) ?_
  refine gt_X3_26_6 C hI h dX3_lays_231 ?_
  refine lv_aload_n C.x C.bc dX3_lays_234 rfl (lv_at hl 0 rfl) ?_
  refine gt_X3_17_6 C hI h dX3_lays_235 ?_
  refine lv_aload_n C.x C.bc dX3_lays_238 rfl (lv_at hl 0 rfl) ?_
  refine gt_X3_41_6 C hI h dX3_lays_239 ?_
  obtain ⟨⟨r_45, st_45⟩, hf_45, hx⟩ := bd_e hx
  have hx := u2_e hx
  refine cX3_63_X4_of_7 C hI h hf_45 ⟨Nat.le_of_ble_eq_true rfl, Nat.le_of_ble_eq_true rfl⟩ ⟨Nat.zero_le _, Nat.zero_le _⟩ hl.1 (Nat.le_of_ble_eq_true rfl) dX3_lays_242 (fun H locs h => ?_)
  obtain ⟨st_46, e_46, hx⟩ := nm_x hx
  refine pt_X3_67_6 C hI h e_46 dX3_lays_245 (fun H locs h => ?_)
  obtain rfl := Option.some.inj hx
  exact x_vret C h dX3_lays_248
theorem mX3_lays (hG : G0 E s0 b) (hI : Sx E) {v1 : Int32} {x : St} (hx : fX3_lays v1 st = some x) : Mt l E s0 yX3_lays cX3_lays 4 none rmX3_lays [.ref (E.ad 6), .int v1] (sg st) none E (sg x) :=
  Mt.of hG (by decide) (Nat.le_of_ble_eq_true rfl) (fun p e s m below meth c ls C h hl => bX3_lays C hI v1 st hx h hl)
abbrev rmX4_lays_20 : Room := { frames := 1, cells := 0, slots := 0, locals := 33 }
def fX4_lays_20_12 (v2 : Int32) (v3 : Int64) (v5 : Int32) (v6 : Int32) (st : St) : Option ((Int32 × St) ⊕ (St)) :=
  if v2 ≤ v6 then
    some (.inr st)
  else
    gd (inB v5 12) <|
    bd (st.2.2 34 v5.toNatClampNeg) fun w_4 =>
    gd (inG w_4 35 12) <|
    gd (inB v5 12) <|
    gd (inB v6 12) <|
    bd (fJ0_floorMod (st.2.1 (21 + v5.toNatClampNeg) v6.toNatClampNeg) v3) fun r_8 =>
    gd (inB v6 13) <|
    nm (uL st w_4 v6.toNatClampNeg r_8) fun st_10 =>
    nm (v6 + (1 : Int32)) fun v6_11 =>
    some (.inl (v6_11, st_10))
set_option maxHeartbeats 1000000 in
theorem bX4_lays_20_12 (C : Cx E s0 b p s m args meth c cX4_lays 7 "EarthMesh$Determinant" none) (hI : Sx E) (v2 : Int32) (v3 : Int64) (v5 : Int32) (v6 : Int32) (st : St) {x : (Int32 × St) ⊕ (St)} (hx : fX4_lays_20_12 v2 v3 v5 v6 st = some x) {Q : State → Prop} {G : Int32 × St → Prop} {X : St → Prop} (hG : ∀ (w6 : Int32) (wst : St), G (w6, wst) → ∀ (H : Heap) (locs : List Loc) (ls : Array Slot), XH E (sg wst) s H locs → lv_has ls 7 [(0, .ref (E.ad 33)), (1, .ref (E.ad 20)), (2, .int v2), (3, .long v3), (5, .int v5), (6, .int w6)] → W p l e rmX4_lays_20 s m args below meth c H locs 0 0 Q (F0 m 12 ls [])) (hE0 : ∀ (wst : St), X wst → ∀ (H : Heap) (locs : List Loc) (ls : Array Slot), XH E (sg wst) s H locs → lv_has ls 7 [(0, .ref (E.ad 33)), (1, .ref (E.ad 20)), (2, .int v2), (3, .long v3), (5, .int v5)] → W p l e rmX4_lays_20 s m args below meth c H locs 0 0 Q (F0 m 45 ls [])) (K : Kx G X x) {H : Heap} {locs : List Loc} {ls : Array Slot} (h : XH E (sg st) s H locs) (hl : lv_has ls 7 [(0, .ref (E.ad 33)), (1, .ref (E.ad 20)), (2, .int v2), (3, .long v3), (5, .int v5), (6, .int v6)]) : W p l e rmX4_lays_20 s m args below meth c H locs 0 0 Q (F0 m 12 ls []) := by
  unfold fX4_lays_20_12 at hx
  refine lv_iload C.x C.bc dX4_lays_12 (lv_at hl 5 rfl) ?_
  refine lv_iload_n C.x C.bc dX4_lays_14 rfl (lv_at hl 2 rfl) ?_
  refine lv_icmp_ge (tgt := 45) C.x C.bc dX4_lays_15 (by decide) (fun c_2 => ?_) (fun c_2 => ?_)
  · have hx := ge_t hx c_2
    obtain rfl := Option.some.inj hx
    exact hE0 _ K _ _ _ h (lv_sub hl [0, 1, 2, 3, 4] rfl)
  · have hx := ge_f hx c_2
    refine lv_aload_n C.x C.bc dX4_lays_18 rfl (lv_at hl 0 rfl) ?_
    refine gt_X4_11_33 C hI h dX4_lays_19 ?_
    refine lv_iload C.x C.bc dX4_lays_22 (lv_at hl 4 rfl) ?_
    obtain ⟨g_3, hx⟩ := gd_e hx
    obtain ⟨w_4, hw_4, hx⟩ := bd_e hx
    obtain ⟨g_5, hx⟩ := gd_e hx
    refine y_rowP C h 34 5 12 (hI 34 (by decide)) k_34 (by decide) rfl rfl (P34 g_5) g_3 hw_4 dX4_lays_24 ?_
    refine lv_iload C.x C.bc dX4_lays_25 (lv_at hl 5 rfl) ?_
    refine lv_aload_n C.x C.bc dX4_lays_27 rfl (lv_at hl 1 rfl) ?_
    refine lv_iload C.x C.bc dX4_lays_28 (lv_at hl 4 rfl) ?_
    obtain ⟨g_6, hx⟩ := gd_e hx
    refine y_row C h 20 21 5 12 (hI 20 (by decide)) k_20 (by decide) rfl rfl (fun _ _ => rfl) g_6 dX4_lays_30 ?_
    refine lv_iload C.x C.bc dX4_lays_31 (lv_at hl 5 rfl) ?_
    obtain ⟨g_7, hx⟩ := gd_e hx
    refine x_lald C h (21 + v5.toNatClampNeg) 12 (hI _ (by have := inB_lt g_6; omega)) (kg_21 _ (inB_lt g_6)) g_7 dX4_lays_33 ?_
    refine lv_lload_n C.x C.bc dX4_lays_34 rfl (lv_at hl 3 rfl) ?_
    obtain ⟨r_8, hf_8, hx⟩ := bd_e hx
    refine cX4_37_J0_floorMod C hI h hf_8 ⟨Nat.le_of_ble_eq_true rfl, Nat.le_of_ble_eq_true rfl⟩ ⟨Nat.zero_le _, Nat.zero_le _⟩ hl.1 (Nat.le_of_ble_eq_true rfl) dX4_lays_35 (fun H locs h => ?_)
    obtain ⟨g_9, hx⟩ := gd_e hx
    obtain ⟨st_10, e_10, hx⟩ := nm_x hx
    refine y_last C h w_4 13 (hI _ (by have := g_5; omega)) (kg_v g_5 kg_35) g_9 e_10 dX4_lays_38 (fun H locs h => ?_)
    obtain ⟨v6_11, e_11, hx⟩ := nm_x hx
    refine lv_iinc (v := v6_11) (lv' := [(6, .int v6_11), (0, .ref (E.ad 33)), (1, .ref (E.ad 20)), (2, .int v2), (3, .long v3), (5, .int v5)]) C.x C.bc dX4_lays_39 hl (k := 5) rfl (by rw [e_11]; rfl) (by decide) rfl (fun ls hl => ?_)
    refine lv_goto (tgt := 12) C.x C.bc dX4_lays_42 (by decide) ?_
    obtain rfl := Option.some.inj hx
    exact hG _ _ K _ _ _ h (lv_sub hl [1, 2, 3, 4, 5, 0] rfl)
set_option maxHeartbeats 1000000 in
theorem pX4_lays_20_12 (C : Cx E s0 b p s m args meth c cX4_lays 7 "EarthMesh$Determinant" none) (hI : Sx E) (v2 : Int32) (v3 : Int64) (v5 : Int32) {Q : State → Prop} {v6 : Int32} {st : St} {n : Nat} {r : St} (hx : iter (u2 fun v6 st => fX4_lays_20_12 v2 v3 v5 v6 st) n (v6, st) = some r) (hE : (fun t => ∀ (H : Heap) (locs : List Loc) (ls : Array Slot), XH E (sg t) s H locs → lv_has ls 7 [(0, .ref (E.ad 33)), (1, .ref (E.ad 20)), (2, .int v2), (3, .long v3), (5, .int v5)] → W p l e rmX4_lays_20 s m args below meth c H locs 0 0 Q (F0 m 45 ls [])) r) {H : Heap} {locs : List Loc} {ls : Array Slot} (h : XH E (sg st) s H locs) (hl : lv_has ls 7 [(0, .ref (E.ad 33)), (1, .ref (E.ad 20)), (2, .int v2), (3, .long v3), (5, .int v5), (6, .int v6)]) : W p l e rmX4_lays_20 s m args below meth c H locs 0 0 Q (F0 m 12 ls []) := by
  refine iter_W (G := fun t => ∀ (H : Heap) (locs : List Loc) (ls : Array Slot), XH E (sg t.2) s H locs → lv_has ls 7 [(0, .ref (E.ad 33)), (1, .ref (E.ad 20)), (2, .int v2), (3, .long v3), (5, .int v5), (6, .int t.1)] → W p l e rmX4_lays_20 s m args below meth c H locs 0 0 Q (F0 m 12 ls [])) (E := fun t => ∀ (H : Heap) (locs : List Loc) (ls : Array Slot), XH E (sg t) s H locs → lv_has ls 7 [(0, .ref (E.ad 33)), (1, .ref (E.ad 20)), (2, .int v2), (3, .long v3), (5, .int v5)] → W p l e rmX4_lays_20 s m args below meth c H locs 0 0 Q (F0 m 45 ls [])) (fun t x hx K H locs ls h hl => ?_) n _ r hx hE H locs ls h hl
  obtain ⟨v6, st⟩ := t
  exact bX4_lays_20_12 C hI v2 v3 v5 v6 st hx (fun _ _ z => z) (fun _ z => z) K h hl
def fX4_lays_20_3 (v2 : Int32) (v3 : Int64) (v5 : Int32) (st : St) : Option ((Int32 × St) ⊕ (St)) :=
  if v2 ≤ v5 then
    some (.inr st)
  else
    bd (iter (u2 fun z6 zst => fX4_lays_20_12 v2 v3 v5 z6 zst) FU ((0 : Int32), st)) (u1 fun st_12 =>
    nm (v5 + (1 : Int32)) fun v5_13 =>
    some (.inl (v5_13, st_12)))
set_option maxHeartbeats 1000000 in
theorem bX4_lays_20_3 (C : Cx E s0 b p s m args meth c cX4_lays 7 "EarthMesh$Determinant" none) (hI : Sx E) (v2 : Int32) (v3 : Int64) (v5 : Int32) (st : St) {x : (Int32 × St) ⊕ (St)} (hx : fX4_lays_20_3 v2 v3 v5 st = some x) {Q : State → Prop} {G : Int32 × St → Prop} {X : St → Prop} (hG : ∀ (w5 : Int32) (wst : St), G (w5, wst) → ∀ (H : Heap) (locs : List Loc) (ls : Array Slot), XH E (sg wst) s H locs → lv_has ls 7 [(0, .ref (E.ad 33)), (1, .ref (E.ad 20)), (2, .int v2), (3, .long v3), (5, .int w5)] → W p l e rmX4_lays_20 s m args below meth c H locs 0 0 Q (F0 m 3 ls [])) (hE0 : ∀ (wst : St), X wst → ∀ (H : Heap) (locs : List Loc) (ls : Array Slot), XH E (sg wst) s H locs → lv_has ls 7 [] → W p l e rmX4_lays_20 s m args below meth c H locs 0 0 Q (F0 m 51 ls [])) (K : Kx G X x) {H : Heap} {locs : List Loc} {ls : Array Slot} (h : XH E (sg st) s H locs) (hl : lv_has ls 7 [(0, .ref (E.ad 33)), (1, .ref (E.ad 20)), (2, .int v2), (3, .long v3), (5, .int v5)]) : W p l e rmX4_lays_20 s m args below meth c H locs 0 0 Q (F0 m 3 ls []) := by
  unfold fX4_lays_20_3 at hx
  refine lv_iload C.x C.bc dX4_lays_3 (lv_at hl 4 rfl) ?_
  refine lv_iload_n C.x C.bc dX4_lays_5 rfl (lv_at hl 2 rfl) ?_
  refine lv_icmp_ge (tgt := 51) C.x C.bc dX4_lays_6 (by decide) (fun c_1 => ?_) (fun c_1 => ?_)
  · have hx := ge_t hx c_1
    obtain rfl := Option.some.inj hx
    exact hE0 _ K _ _ _ h (lv_sub hl [] rfl)
  · have hx := ge_f hx c_1
    refine lv_iconst (v := (0 : Int32)) C.x C.bc dX4_lays_9 (by decide) ?_
    refine lv_istore (lv' := [(6, .int (0 : Int32)), (0, .ref (E.ad 33)), (1, .ref (E.ad 20)), (2, .int v2), (3, .long v3), (5, .int v5)]) C.x C.bc dX4_lays_10 hl (by decide) rfl (fun ls hl => ?_)
    obtain ⟨st_12, hi_12, hx⟩ := bd_e hx
    have hx := u1_e hx
    refine pX4_lays_20_12 C hI v2 v3 v5 hi_12 (fun H locs ls h hl => ?_) h (lv_sub hl [1, 2, 3, 4, 5, 0] rfl)
    obtain ⟨v5_13, e_13, hx⟩ := nm_x hx
    refine lv_iinc (v := v5_13) (lv' := [(5, .int v5_13), (0, .ref (E.ad 33)), (1, .ref (E.ad 20)), (2, .int v2), (3, .long v3)]) C.x C.bc dX4_lays_45 hl (k := 4) rfl (by rw [e_13]; rfl) (by decide) rfl (fun ls hl => ?_)
    refine lv_goto (tgt := 3) C.x C.bc dX4_lays_48 (by decide) ?_
    obtain rfl := Option.some.inj hx
    exact hG _ _ K _ _ _ h (lv_sub hl [1, 2, 3, 4, 0] rfl)
set_option maxHeartbeats 1000000 in
theorem pX4_lays_20_3 (C : Cx E s0 b p s m args meth c cX4_lays 7 "EarthMesh$Determinant" none) (hI : Sx E) (v2 : Int32) (v3 : Int64) {Q : State → Prop} {v5 : Int32} {st : St} {n : Nat} {r : St} (hx : iter (u2 fun v5 st => fX4_lays_20_3 v2 v3 v5 st) n (v5, st) = some r) (hE : (fun t => ∀ (H : Heap) (locs : List Loc) (ls : Array Slot), XH E (sg t) s H locs → lv_has ls 7 [] → W p l e rmX4_lays_20 s m args below meth c H locs 0 0 Q (F0 m 51 ls [])) r) {H : Heap} {locs : List Loc} {ls : Array Slot} (h : XH E (sg st) s H locs) (hl : lv_has ls 7 [(0, .ref (E.ad 33)), (1, .ref (E.ad 20)), (2, .int v2), (3, .long v3), (5, .int v5)]) : W p l e rmX4_lays_20 s m args below meth c H locs 0 0 Q (F0 m 3 ls []) := by
  refine iter_W (G := fun t => ∀ (H : Heap) (locs : List Loc) (ls : Array Slot), XH E (sg t.2) s H locs → lv_has ls 7 [(0, .ref (E.ad 33)), (1, .ref (E.ad 20)), (2, .int v2), (3, .long v3), (5, .int t.1)] → W p l e rmX4_lays_20 s m args below meth c H locs 0 0 Q (F0 m 3 ls [])) (E := fun t => ∀ (H : Heap) (locs : List Loc) (ls : Array Slot), XH E (sg t) s H locs → lv_has ls 7 [] → W p l e rmX4_lays_20 s m args below meth c H locs 0 0 Q (F0 m 51 ls [])) (fun t x hx K H locs ls h hl => ?_) n _ r hx hE H locs ls h hl
  obtain ⟨v5, st⟩ := t
  exact bX4_lays_20_3 C hI v2 v3 v5 st hx (fun _ _ z => z) (fun _ z => z) K h hl
def fX4_lays_20 (v2 : Int32) (v3 : Int64) (st : St) : Option (St) :=
  bd (iter (u2 fun z5 zst => fX4_lays_20_3 v2 v3 z5 zst) FU ((0 : Int32), st)) (u1 fun st_14 =>
  some st_14)
set_option maxHeartbeats 1000000 in
theorem bX4_lays_20 (C : Cx E s0 b p s m args meth c cX4_lays 7 "EarthMesh$Determinant" none) (hI : Sx E) (v2 : Int32) (v3 : Int64) (st : St) {x : St} (hx : fX4_lays_20 v2 v3 st = some x) {H : Heap} {locs : List Loc} {ls : Array Slot} (h : XH E (sg st) s H locs) (hl : lv_has ls 7 [(0, .ref (E.ad 33)), (1, .ref (E.ad 20)), (2, .int v2), (3, .long v3)]) : W p l e rmX4_lays_20 s m args below meth c H locs 0 0 (MQ below (Qx E none (sg x)) args s 0 0 (gA E.HB)) (F0 m 0 ls []) := by
  unfold fX4_lays_20 at hx
  refine lv_iconst (v := (0 : Int32)) C.x C.bc dX4_lays_0 (by decide) ?_
  refine lv_istore (lv' := [(5, .int (0 : Int32)), (0, .ref (E.ad 33)), (1, .ref (E.ad 20)), (2, .int v2), (3, .long v3)]) C.x C.bc dX4_lays_1 hl (by decide) rfl (fun ls hl => ?_)
  obtain ⟨st_14, hi_14, hx⟩ := bd_e hx
  have hx := u1_e hx
  refine pX4_lays_20_3 C hI v2 v3 hi_14 (fun H locs ls h hl => ?_) h (lv_sub hl [1, 2, 3, 4, 0] rfl)
  obtain rfl := Option.some.inj hx
  exact x_vret C h dX4_lays_51
theorem mX4_lays_20 (hG : G0 E s0 b) (hI : Sx E) {v2 : Int32} {v3 : Int64} {x : St} (hx : fX4_lays_20 v2 v3 st = some x) : Mt l E s0 yX4_lays cX4_lays 7 none rmX4_lays_20 [.ref (E.ad 33), .ref (E.ad 20), .int v2, .long v3] (sg st) none E (sg x) :=
  Mt.of hG (by decide) (Nat.le_of_ble_eq_true rfl) (fun p e s m below meth c ls C h hl => bX4_lays_20 C hI v2 v3 st hx h hl)
theorem cX4_43_X4_lays_20 {a1 : Int32} {a2 : Int64} {st' : St} (C : Cx E s0 b p s m args meth c cc nL "EarthMesh$Determinant" rt) (hI : Sx E) (h : XH E (sg st) s H locs) (hf : fX4_lays_20 a1 a2 st = some st') (hR : rmX4_lays_20.frames + 1 ≤ R.frames ∧ 16 + (7 + 11) + rmX4_lays_20.locals ≤ R.locals) (h0 : cells ≤ R.cells ∧ slots ≤ R.slots) (hsz : ls.size = nL) (hcat : (rest.map fun v => v.category).sum ≤ 16) (hdg : decode cc pc = .ok (.invokevirtual 43, 3)) (kk : ∀ (H : Heap) (locs : List Loc), XH E (sg st') s H locs → W p l e R s m args below meth c H locs cells slots Q (F0 m (pc + 3) ls (rest))) : W p l e R s m args below meth c H locs cells slots Q (F0 m pc ls (.long a2 :: .int a1 :: .ref (E.ad 20) :: .ref (E.ad 33) :: rest)) :=
  x_callV (n := 3) (As := [.ref (E.ad 20), .int a1, .long a2]) C h 33 3 (hI 33 (by decide)) k_33 rfl (mX4_lays_20 C.g hI hf) (lw_V q1159 q1161 qs26 q133 q1162) ⟨rfl, by decide +kernel, by decide +kernel, by decide +kernel⟩ hR ⟨rfl, rfl⟩ h0 rfl hsz rfl hcat hdg kk
abbrev rmX4_left_20 : Room := { frames := 2, cells := 0, slots := 0, locals := 71 }
def fX4_left_20_36 (v2 : Int32) (v3 : Int32) (v4 : Int64) (v6 : Int32) (k0 : Nat) (k1 : Int32) (k2 : Int64) (st : St) : Option ((Int32 × St) ⊕ (St)) :=
  gd (inG k0 35 12) <|
  gd (inB k1 13) <|
  nm (uL st k0 k1.toNatClampNeg k2) fun st_9 =>
  nm (v6 + (1 : Int32)) fun v6_10 =>
  some (.inl (v6_10, st_9))
set_option maxHeartbeats 1000000 in
theorem bX4_left_20_36 (C : Cx E s0 b p s m args meth c cX4_left 13 "EarthMesh$Determinant" (some .long)) (hI : Sx E) (v2 : Int32) (v3 : Int32) (v4 : Int64) (v6 : Int32) (k0 : Nat) (k1 : Int32) (k2 : Int64) (st : St) {x : (Int32 × St) ⊕ (St)} (hx : fX4_left_20_36 v2 v3 v4 v6 k0 k1 k2 st = some x) {Q : State → Prop} {G : Int32 × St → Prop} {X : St → Prop} (hG : ∀ (w6 : Int32) (wst : St), G (w6, wst) → ∀ (H : Heap) (locs : List Loc) (ls : Array Slot), XH E (sg wst) s H locs → lv_has ls 13 [(0, .ref (E.ad 33)), (2, .int v2), (3, .int v3), (4, .long v4), (6, .int w6)] → W p l e rmX4_left_20 s m args below meth c H locs 0 0 Q (F0 m 11 ls [])) (hE0 : ∀ (wst : St), X wst → ∀ (H : Heap) (locs : List Loc) (ls : Array Slot), XH E (sg wst) s H locs → lv_has ls 13 [(0, .ref (E.ad 33)), (2, .int v2), (4, .long v4)] → W p l e rmX4_left_20 s m args below meth c H locs 0 0 Q (F0 m 43 ls [])) (K : Kx G X x) {H : Heap} {locs : List Loc} {ls : Array Slot} (h : XH E (sg st) s H locs) (hl : lv_has ls 13 [(0, .ref (E.ad 33)), (2, .int v2), (3, .int v3), (4, .long v4), (6, .int v6)]) : W p l e rmX4_left_20 s m args below meth c H locs 0 0 Q (F0 m 36 ls [.long k2, .int k1, .ref (E.ad k0)]) := by
  unfold fX4_left_20_36 at hx
  obtain ⟨g_7, hx⟩ := gd_e hx
  obtain ⟨g_8, hx⟩ := gd_e hx
  obtain ⟨st_9, e_9, hx⟩ := nm_x hx
  refine y_last C h k0 13 (hI _ (by have := g_7; omega)) (kg_v g_7 kg_35) g_8 e_9 dX4_left_36 (fun H locs h => ?_)
  obtain ⟨v6_10, e_10, hx⟩ := nm_x hx
  refine lv_iinc (v := v6_10) (lv' := [(6, .int v6_10), (0, .ref (E.ad 33)), (2, .int v2), (3, .int v3), (4, .long v4)]) C.x C.bc dX4_left_37 hl (k := 4) rfl (by rw [e_10]; rfl) (by decide) rfl (fun ls hl => ?_)
  refine lv_goto (tgt := 11) C.x C.bc dX4_left_40 (by decide) ?_
  obtain rfl := Option.some.inj hx
  exact hG _ _ K _ _ _ h (lv_sub hl [1, 2, 3, 4, 0] rfl)
def fX4_left_20_11 (v2 : Int32) (v3 : Int32) (v4 : Int64) (v6 : Int32) (st : St) : Option ((Int32 × St) ⊕ (St)) :=
  if v2 ≤ v6 then
    some (.inr st)
  else
    gd (inB v6 12) <|
    bd (st.2.2 34 v6.toNatClampNeg) fun w_4 =>
    gd (inG w_4 35 12) <|
    if v6 = v3 then
      fX4_left_20_36 v2 v3 v4 v6 w_4 v2 (1 : Int64) st
    else
      fX4_left_20_36 v2 v3 v4 v6 w_4 v2 (0 : Int64) st
set_option maxHeartbeats 1000000 in
theorem bX4_left_20_11 (C : Cx E s0 b p s m args meth c cX4_left 13 "EarthMesh$Determinant" (some .long)) (hI : Sx E) (v2 : Int32) (v3 : Int32) (v4 : Int64) (v6 : Int32) (st : St) {x : (Int32 × St) ⊕ (St)} (hx : fX4_left_20_11 v2 v3 v4 v6 st = some x) {Q : State → Prop} {G : Int32 × St → Prop} {X : St → Prop} (hG : ∀ (w6 : Int32) (wst : St), G (w6, wst) → ∀ (H : Heap) (locs : List Loc) (ls : Array Slot), XH E (sg wst) s H locs → lv_has ls 13 [(0, .ref (E.ad 33)), (2, .int v2), (3, .int v3), (4, .long v4), (6, .int w6)] → W p l e rmX4_left_20 s m args below meth c H locs 0 0 Q (F0 m 11 ls [])) (hE0 : ∀ (wst : St), X wst → ∀ (H : Heap) (locs : List Loc) (ls : Array Slot), XH E (sg wst) s H locs → lv_has ls 13 [(0, .ref (E.ad 33)), (2, .int v2), (4, .long v4)] → W p l e rmX4_left_20 s m args below meth c H locs 0 0 Q (F0 m 43 ls [])) (K : Kx G X x) {H : Heap} {locs : List Loc} {ls : Array Slot} (h : XH E (sg st) s H locs) (hl : lv_has ls 13 [(0, .ref (E.ad 33)), (2, .int v2), (3, .int v3), (4, .long v4), (6, .int v6)]) : W p l e rmX4_left_20 s m args below meth c H locs 0 0 Q (F0 m 11 ls []) := by
  unfold fX4_left_20_11 at hx
  refine lv_iload C.x C.bc dX4_left_11 (lv_at hl 4 rfl) ?_
  refine lv_iload_n C.x C.bc dX4_left_13 rfl (lv_at hl 1 rfl) ?_
  refine lv_icmp_ge (tgt := 43) C.x C.bc dX4_left_14 (by decide) (fun c_2 => ?_) (fun c_2 => ?_)
  · have hx := ge_t hx c_2
    obtain rfl := Option.some.inj hx
    exact hE0 _ K _ _ _ h (lv_sub hl [0, 1, 3] rfl)
  · have hx := ge_f hx c_2
    refine lv_aload_n C.x C.bc dX4_left_17 rfl (lv_at hl 0 rfl) ?_
    refine gt_X4_11_33 C hI h dX4_left_18 ?_
    refine lv_iload C.x C.bc dX4_left_21 (lv_at hl 4 rfl) ?_
    obtain ⟨g_3, hx⟩ := gd_e hx
    obtain ⟨w_4, hw_4, hx⟩ := bd_e hx
    obtain ⟨g_5, hx⟩ := gd_e hx
    refine y_rowP C h 34 5 12 (hI 34 (by decide)) k_34 (by decide) rfl rfl (P34 g_5) g_3 hw_4 dX4_left_23 ?_
    refine lv_iload_n C.x C.bc dX4_left_24 rfl (lv_at hl 1 rfl) ?_
    refine lv_iload C.x C.bc dX4_left_25 (lv_at hl 4 rfl) ?_
    refine lv_iload_n C.x C.bc dX4_left_27 rfl (lv_at hl 2 rfl) ?_
    refine lv_icmp_ne (tgt := 35) C.x C.bc dX4_left_28 (by decide) (fun c_6 => ?_) (fun c_6 => ?_)
    · have hx := ge_f hx c_6
      refine lv_lconst (v := (0 : Int64)) C.x C.bc dX4_left_35 (by decide) ?_
      exact bX4_left_20_36 C hI v2 v3 v4 v6 w_4 v2 (0 : Int64) st hx hG hE0 K h (lv_sub hl [0, 1, 2, 3, 4] rfl)
    · have hx := ge_t hx c_6
      refine lv_lconst (v := (1 : Int64)) C.x C.bc dX4_left_31 (by decide) ?_
      refine lv_goto (tgt := 36) C.x C.bc dX4_left_32 (by decide) ?_
      exact bX4_left_20_36 C hI v2 v3 v4 v6 w_4 v2 (1 : Int64) st hx hG hE0 K h (lv_sub hl [0, 1, 2, 3, 4] rfl)
set_option maxHeartbeats 1000000 in
theorem pX4_left_20_11 (C : Cx E s0 b p s m args meth c cX4_left 13 "EarthMesh$Determinant" (some .long)) (hI : Sx E) (v2 : Int32) (v3 : Int32) (v4 : Int64) {Q : State → Prop} {v6 : Int32} {st : St} {n : Nat} {r : St} (hx : iter (u2 fun v6 st => fX4_left_20_11 v2 v3 v4 v6 st) n (v6, st) = some r) (hE : (fun t => ∀ (H : Heap) (locs : List Loc) (ls : Array Slot), XH E (sg t) s H locs → lv_has ls 13 [(0, .ref (E.ad 33)), (2, .int v2), (4, .long v4)] → W p l e rmX4_left_20 s m args below meth c H locs 0 0 Q (F0 m 43 ls [])) r) {H : Heap} {locs : List Loc} {ls : Array Slot} (h : XH E (sg st) s H locs) (hl : lv_has ls 13 [(0, .ref (E.ad 33)), (2, .int v2), (3, .int v3), (4, .long v4), (6, .int v6)]) : W p l e rmX4_left_20 s m args below meth c H locs 0 0 Q (F0 m 11 ls []) := by
  refine iter_W (G := fun t => ∀ (H : Heap) (locs : List Loc) (ls : Array Slot), XH E (sg t.2) s H locs → lv_has ls 13 [(0, .ref (E.ad 33)), (2, .int v2), (3, .int v3), (4, .long v4), (6, .int t.1)] → W p l e rmX4_left_20 s m args below meth c H locs 0 0 Q (F0 m 11 ls [])) (E := fun t => ∀ (H : Heap) (locs : List Loc) (ls : Array Slot), XH E (sg t) s H locs → lv_has ls 13 [(0, .ref (E.ad 33)), (2, .int v2), (4, .long v4)] → W p l e rmX4_left_20 s m args below meth c H locs 0 0 Q (F0 m 43 ls [])) (fun t x hx K H locs ls h hl => ?_) n _ r hx hE H locs ls h hl
  obtain ⟨v6, st⟩ := t
  exact bX4_left_20_11 C hI v2 v3 v4 v6 st hx (fun _ _ z => z) (fun _ z => z) K h hl
def fX4_left_20_141 (v2 : Int32) (v4 : Int64) (v6 : Int64) (v8 : Int32) (v10 : Int64) (v12 : Int32) (st : St) : Option ((Int32 × St) ⊕ (St)) :=
  if v2 ≤ v12 then
    some (.inr st)
  else
    bd (fX4_clears v12 v8 v2 v10 v4 st) fun st_29 =>
    nm (v12 + (1 : Int32)) fun v12_30 =>
    some (.inl (v12_30, st_29))
set_option maxHeartbeats 1000000 in
theorem bX4_left_20_141 (C : Cx E s0 b p s m args meth c cX4_left 13 "EarthMesh$Determinant" (some .long)) (hI : Sx E) (v2 : Int32) (v4 : Int64) (v6 : Int64) (v8 : Int32) (v10 : Int64) (v12 : Int32) (st : St) {x : (Int32 × St) ⊕ (St)} (hx : fX4_left_20_141 v2 v4 v6 v8 v10 v12 st = some x) {Q : State → Prop} {G : Int32 × St → Prop} {X : St → Prop} (hG : ∀ (w12 : Int32) (wst : St), G (w12, wst) → ∀ (H : Heap) (locs : List Loc) (ls : Array Slot), XH E (sg wst) s H locs → lv_has ls 13 [(0, .ref (E.ad 33)), (2, .int v2), (4, .long v4), (6, .long v6), (8, .int v8), (10, .long v10), (12, .int w12)] → W p l e rmX4_left_20 s m args below meth c H locs 0 0 Q (F0 m 141 ls [])) (hE0 : ∀ (wst : St), X wst → ∀ (H : Heap) (locs : List Loc) (ls : Array Slot), XH E (sg wst) s H locs → lv_has ls 13 [(0, .ref (E.ad 33)), (2, .int v2), (4, .long v4), (6, .long v6), (8, .int v8)] → W p l e rmX4_left_20 s m args below meth c H locs 0 0 Q (F0 m 166 ls [])) (K : Kx G X x) {H : Heap} {locs : List Loc} {ls : Array Slot} (h : XH E (sg st) s H locs) (hl : lv_has ls 13 [(0, .ref (E.ad 33)), (2, .int v2), (4, .long v4), (6, .long v6), (8, .int v8), (10, .long v10), (12, .int v12)]) : W p l e rmX4_left_20 s m args below meth c H locs 0 0 Q (F0 m 141 ls []) := by
  unfold fX4_left_20_141 at hx
  refine lv_iload C.x C.bc dX4_left_141 (lv_at hl 6 rfl) ?_
  refine lv_iload_n C.x C.bc dX4_left_143 rfl (lv_at hl 1 rfl) ?_
  refine lv_icmp_ge (tgt := 166) C.x C.bc dX4_left_144 (by decide) (fun c_28 => ?_) (fun c_28 => ?_)
  · have hx := ge_t hx c_28
    obtain rfl := Option.some.inj hx
    exact hE0 _ K _ _ _ h (lv_sub hl [0, 1, 2, 3, 4] rfl)
  · have hx := ge_f hx c_28
    refine lv_aload_n C.x C.bc dX4_left_147 rfl (lv_at hl 0 rfl) ?_
    refine lv_iload C.x C.bc dX4_left_148 (lv_at hl 6 rfl) ?_
    refine lv_iload C.x C.bc dX4_left_150 (lv_at hl 4 rfl) ?_
    refine lv_iload_n C.x C.bc dX4_left_152 rfl (lv_at hl 1 rfl) ?_
    refine lv_lload C.x C.bc dX4_left_153 (lv_at hl 5 rfl) ?_
    refine lv_lload C.x C.bc dX4_left_155 (lv_at hl 2 rfl) ?_
    obtain ⟨st_29, hf_29, hx⟩ := bd_e hx
    refine cX4_57_X4_clears C hI h hf_29 ⟨Nat.le_of_ble_eq_true rfl, Nat.le_of_ble_eq_true rfl⟩ ⟨Nat.zero_le _, Nat.zero_le _⟩ hl.1 (Nat.le_of_ble_eq_true rfl) dX4_left_157 (fun H locs h => ?_)
    obtain ⟨v12_30, e_30, hx⟩ := nm_x hx
    refine lv_iinc (v := v12_30) (lv' := [(12, .int v12_30), (0, .ref (E.ad 33)), (2, .int v2), (4, .long v4), (6, .long v6), (8, .int v8), (10, .long v10)]) C.x C.bc dX4_left_160 hl (k := 6) rfl (by rw [e_30]; rfl) (by decide) rfl (fun ls hl => ?_)
    refine lv_goto (tgt := 141) C.x C.bc dX4_left_163 (by decide) ?_
    obtain rfl := Option.some.inj hx
    exact hG _ _ K _ _ _ h (lv_sub hl [1, 2, 3, 4, 5, 6, 0] rfl)
set_option maxHeartbeats 1000000 in
theorem pX4_left_20_141 (C : Cx E s0 b p s m args meth c cX4_left 13 "EarthMesh$Determinant" (some .long)) (hI : Sx E) (v2 : Int32) (v4 : Int64) (v6 : Int64) (v8 : Int32) (v10 : Int64) {Q : State → Prop} {v12 : Int32} {st : St} {n : Nat} {r : St} (hx : iter (u2 fun v12 st => fX4_left_20_141 v2 v4 v6 v8 v10 v12 st) n (v12, st) = some r) (hE : (fun t => ∀ (H : Heap) (locs : List Loc) (ls : Array Slot), XH E (sg t) s H locs → lv_has ls 13 [(0, .ref (E.ad 33)), (2, .int v2), (4, .long v4), (6, .long v6), (8, .int v8)] → W p l e rmX4_left_20 s m args below meth c H locs 0 0 Q (F0 m 166 ls [])) r) {H : Heap} {locs : List Loc} {ls : Array Slot} (h : XH E (sg st) s H locs) (hl : lv_has ls 13 [(0, .ref (E.ad 33)), (2, .int v2), (4, .long v4), (6, .long v6), (8, .int v8), (10, .long v10), (12, .int v12)]) : W p l e rmX4_left_20 s m args below meth c H locs 0 0 Q (F0 m 141 ls []) := by
  refine iter_W (G := fun t => ∀ (H : Heap) (locs : List Loc) (ls : Array Slot), XH E (sg t.2) s H locs → lv_has ls 13 [(0, .ref (E.ad 33)), (2, .int v2), (4, .long v4), (6, .long v6), (8, .int v8), (10, .long v10), (12, .int t.1)] → W p l e rmX4_left_20 s m args below meth c H locs 0 0 Q (F0 m 141 ls [])) (E := fun t => ∀ (H : Heap) (locs : List Loc) (ls : Array Slot), XH E (sg t) s H locs → lv_has ls 13 [(0, .ref (E.ad 33)), (2, .int v2), (4, .long v4), (6, .long v6), (8, .int v8)] → W p l e rmX4_left_20 s m args below meth c H locs 0 0 Q (F0 m 166 ls [])) (fun t x hx K H locs ls h hl => ?_) n _ r hx hE H locs ls h hl
  obtain ⟨v12, st⟩ := t
  exact bX4_left_20_141 C hI v2 v4 v6 v8 v10 v12 st hx (fun _ _ z => z) (fun _ z => z) K h hl
def fX4_left_20_94 (v2 : Int32) (v4 : Int64) (v6 : Int64) (v8 : Int32) (st : St) : Option ((Int64 × Int32 × St) ⊕ ((St) ⊕ (Int64 × St))) :=
  gd (inB v8 12) <|
  bd (st.2.2 34 v8.toNatClampNeg) fun w_17 =>
  gd (inG w_17 35 12) <|
  gd (inB v8 13) <|
  gd (¬ v4 = 0) <|
  nm (jreml (v6 * (st.2.1 w_17 v8.toNatClampNeg)) v4) fun v6_21 =>
  gd (inB v8 12) <|
  bd (st.2.2 34 v8.toNatClampNeg) fun w_23 =>
  gd (inG w_23 35 12) <|
  gd (inB v8 13) <|
  bd (fX4_power (st.2.1 w_23 v8.toNatClampNeg) (v4 - (2 : Int64)) v4) fun r_26 =>
  nm (v8 + (1 : Int32)) fun v12_27 =>
  bd (iter (u2 fun z12 zst => fX4_left_20_141 v2 v4 v6_21 v8 r_26 z12 zst) FU (v12_27, st)) (u1 fun st_31 =>
  nm (v8 + (1 : Int32)) fun v8_32 =>
  some (.inl (v6_21, v8_32, st_31)))
set_option maxHeartbeats 1000000 in
theorem bX4_left_20_94 (C : Cx E s0 b p s m args meth c cX4_left 13 "EarthMesh$Determinant" (some .long)) (hI : Sx E) (v2 : Int32) (v4 : Int64) (v6 : Int64) (v8 : Int32) (st : St) {x : (Int64 × Int32 × St) ⊕ ((St) ⊕ (Int64 × St))} (hx : fX4_left_20_94 v2 v4 v6 v8 st = some x) {Q : State → Prop} {G : Int64 × Int32 × St → Prop} {X : (St) ⊕ (Int64 × St) → Prop} (hG : ∀ (w6 : Int64) (w8 : Int32) (wst : St), G (w6, w8, wst) → ∀ (H : Heap) (locs : List Loc) (ls : Array Slot), XH E (sg wst) s H locs → lv_has ls 13 [(0, .ref (E.ad 33)), (2, .int v2), (4, .long v4), (6, .long w6), (8, .int w8)] → W p l e rmX4_left_20 s m args below meth c H locs 0 0 Q (F0 m 49 ls [])) (hE0 : ∀ (wst : St), X (.inl wst) → ∀ (H : Heap) (locs : List Loc) (ls : Array Slot), XH E (sg wst) s H locs → lv_has ls 13 [] → W p l e rmX4_left_20 s m args below meth c H locs 0 0 Q (F0 m 70 ls [])) (hE1 : ∀ (w6 : Int64) (wst : St), X (.inr (w6, wst)) → ∀ (H : Heap) (locs : List Loc) (ls : Array Slot), XH E (sg wst) s H locs → lv_has ls 13 [(6, .long w6)] → W p l e rmX4_left_20 s m args below meth c H locs 0 0 Q (F0 m 172 ls [])) (K : Kx G X x) {H : Heap} {locs : List Loc} {ls : Array Slot} (h : XH E (sg st) s H locs) (hl : lv_has ls 13 [(0, .ref (E.ad 33)), (2, .int v2), (4, .long v4), (6, .long v6), (8, .int v8)]) : W p l e rmX4_left_20 s m args below meth c H locs 0 0 Q (F0 m 94 ls []) := by
  unfold fX4_left_20_94 at hx
  refine lv_lload C.x C.bc dX4_left_94 (lv_at hl 3 rfl) ?_
  refine lv_aload_n C.x C.bc dX4_left_96 rfl (lv_at hl 0 rfl) ?_
  refine gt_X4_11_33 C hI h dX4_left_97 ?_
  refine lv_iload C.x C.bc dX4_left_100 (lv_at hl 4 rfl) ?_
  obtain ⟨g_16, hx⟩ := gd_e hx
  obtain ⟨w_17, hw_17, hx⟩ := bd_e hx
  obtain ⟨g_18, hx⟩ := gd_e hx
  refine y_rowP C h 34 5 12 (hI 34 (by decide)) k_34 (by decide) rfl rfl (P34 g_18) g_16 hw_17 dX4_left_102 ?_
  refine lv_iload C.x C.bc dX4_left_103 (lv_at hl 4 rfl) ?_
  obtain ⟨g_19, hx⟩ := gd_e hx
  refine x_lald C h w_17 13 (hI _ (by have := g_18; omega)) (kg_v g_18 kg_35) g_19 dX4_left_105 ?_
  refine lv_lmul C.x C.bc dX4_left_106 ?_
  refine lv_lload C.x C.bc dX4_left_107 (lv_at hl 2 rfl) ?_
  obtain ⟨g_20, hx⟩ := gd_e hx
  refine y_lrem C.x C.bc dX4_left_109 g_20 ?_
  obtain ⟨v6_21, e_21, hx⟩ := nm_x hx
  refine x_tl e_21 ?_
  refine lv_lstore (lv' := [(6, .long v6_21), (0, .ref (E.ad 33)), (2, .int v2), (4, .long v4), (8, .int v8)]) C.x C.bc dX4_left_110 hl (by decide) rfl (fun ls hl => ?_)
  refine lv_aload_n C.x C.bc dX4_left_112 rfl (lv_at hl 1 rfl) ?_
  refine gt_X4_11_33 C hI h dX4_left_113 ?_
  refine lv_iload C.x C.bc dX4_left_116 (lv_at hl 4 rfl) ?_
  obtain ⟨g_22, hx⟩ := gd_e hx
  obtain ⟨w_23, hw_23, hx⟩ := bd_e hx
  obtain ⟨g_24, hx⟩ := gd_e hx
  refine y_rowP C h 34 5 12 (hI 34 (by decide)) k_34 (by decide) rfl rfl (P34 g_24) g_22 hw_23 dX4_left_118 ?_
  refine lv_iload C.x C.bc dX4_left_119 (lv_at hl 4 rfl) ?_
  obtain ⟨g_25, hx⟩ := gd_e hx
  refine x_lald C h w_23 13 (hI _ (by have := g_24; omega)) (kg_v g_24 kg_35) g_25 dX4_left_121 ?_
  refine lv_lload C.x C.bc dX4_left_122 (lv_at hl 3 rfl) ?_
  refine lv_ldc2 (v := (2 : Int64)) C.x C.bc C.ow (C.ts _ q1174) dX4_left_124 ?_
  refine lv_lsub C.x C.bc dX4_left_127 ?_
  refine lv_lload C.x C.bc dX4_left_128 (lv_at hl 3 rfl) ?_
  obtain ⟨r_26, hf_26, hx⟩ := bd_e hx
  refine cX4_22_X4_power C hI h hf_26 ⟨Nat.le_of_ble_eq_true rfl, Nat.le_of_ble_eq_true rfl⟩ ⟨Nat.zero_le _, Nat.zero_le _⟩ hl.1 (Nat.le_of_ble_eq_true rfl) dX4_left_130 (fun H locs h => ?_)
  refine lv_lstore (lv' := [(10, .long r_26), (6, .long v6_21), (0, .ref (E.ad 33)), (2, .int v2), (4, .long v4), (8, .int v8)]) C.x C.bc dX4_left_133 hl (by decide) rfl (fun ls hl => ?_)
  refine lv_iload C.x C.bc dX4_left_135 (lv_at hl 5 rfl) ?_
  refine lv_iconst (v := (1 : Int32)) C.x C.bc dX4_left_137 (by decide) ?_
  refine lv_iadd C.x C.bc dX4_left_138 ?_
  obtain ⟨v12_27, e_27, hx⟩ := nm_x hx
  refine x_ti e_27 ?_
  refine lv_istore (lv' := [(12, .int v12_27), (10, .long r_26), (6, .long v6_21), (0, .ref (E.ad 33)), (2, .int v2), (4, .long v4), (8, .int v8)]) C.x C.bc dX4_left_139 hl (by decide) rfl (fun ls hl => ?_)
  obtain ⟨st_31, hi_31, hx⟩ := bd_e hx
  have hx := u1_e hx
  refine pX4_left_20_141 C hI v2 v4 v6_21 v8 r_26 hi_31 (fun H locs ls h hl => ?_) h (lv_sub hl [3, 4, 5, 2, 6, 1, 0] rfl)
  obtain ⟨v8_32, e_32, hx⟩ := nm_x hx
  refine lv_iinc (v := v8_32) (lv' := [(8, .int v8_32), (0, .ref (E.ad 33)), (2, .int v2), (4, .long v4), (6, .long v6_21)]) C.x C.bc dX4_left_166 hl (k := 4) rfl (by rw [e_32]; rfl) (by decide) rfl (fun ls hl => ?_)
  refine lv_goto (tgt := 49) C.x C.bc dX4_left_169 (by decide) ?_
  obtain rfl := Option.some.inj hx
  exact hG _ _ _ K _ _ _ h (lv_sub hl [1, 2, 3, 4, 0] rfl)
def fX4_left_20_49 (v2 : Int32) (v4 : Int64) (v6 : Int64) (v8 : Int32) (st : St) : Option ((Int64 × Int32 × St) ⊕ ((St) ⊕ (Int64 × St))) :=
  if v2 ≤ v8 then
    some (.inr (.inr (v6, st)))
  else
    bd (fX4_pivot v8 v2 st) fun r_13 =>
    if r_13 = (-1 : Int32) then
      some (.inr (.inl st))
    else
      if r_13 = v8 then
        fX4_left_20_94 v2 v4 v6 v8 st
      else
        bd (fX4_swaps r_13 v8 st) fun st_33 =>
        nm (v4 - v6) fun v6_34 =>
        fX4_left_20_94 v2 v4 v6_34 v8 st_33
set_option maxHeartbeats 1000000 in
theorem bX4_left_20_49 (C : Cx E s0 b p s m args meth c cX4_left 13 "EarthMesh$Determinant" (some .long)) (hI : Sx E) (v2 : Int32) (v4 : Int64) (v6 : Int64) (v8 : Int32) (st : St) {x : (Int64 × Int32 × St) ⊕ ((St) ⊕ (Int64 × St))} (hx : fX4_left_20_49 v2 v4 v6 v8 st = some x) {Q : State → Prop} {G : Int64 × Int32 × St → Prop} {X : (St) ⊕ (Int64 × St) → Prop} (hG : ∀ (w6 : Int64) (w8 : Int32) (wst : St), G (w6, w8, wst) → ∀ (H : Heap) (locs : List Loc) (ls : Array Slot), XH E (sg wst) s H locs → lv_has ls 13 [(0, .ref (E.ad 33)), (2, .int v2), (4, .long v4), (6, .long w6), (8, .int w8)] → W p l e rmX4_left_20 s m args below meth c H locs 0 0 Q (F0 m 49 ls [])) (hE0 : ∀ (wst : St), X (.inl wst) → ∀ (H : Heap) (locs : List Loc) (ls : Array Slot), XH E (sg wst) s H locs → lv_has ls 13 [] → W p l e rmX4_left_20 s m args below meth c H locs 0 0 Q (F0 m 70 ls [])) (hE1 : ∀ (w6 : Int64) (wst : St), X (.inr (w6, wst)) → ∀ (H : Heap) (locs : List Loc) (ls : Array Slot), XH E (sg wst) s H locs → lv_has ls 13 [(6, .long w6)] → W p l e rmX4_left_20 s m args below meth c H locs 0 0 Q (F0 m 172 ls [])) (K : Kx G X x) {H : Heap} {locs : List Loc} {ls : Array Slot} (h : XH E (sg st) s H locs) (hl : lv_has ls 13 [(0, .ref (E.ad 33)), (2, .int v2), (4, .long v4), (6, .long v6), (8, .int v8)]) : W p l e rmX4_left_20 s m args below meth c H locs 0 0 Q (F0 m 49 ls []) := by
  unfold fX4_left_20_49 at hx
  refine lv_iload C.x C.bc dX4_left_49 (lv_at hl 4 rfl) ?_
  refine lv_iload_n C.x C.bc dX4_left_51 rfl (lv_at hl 1 rfl) ?_
  refine lv_icmp_ge (tgt := 172) C.x C.bc dX4_left_52 (by decide) (fun c_12 => ?_) (fun c_12 => ?_)
  · have hx := ge_t hx c_12
    obtain rfl := Option.some.inj hx
    exact hE1 _ _ K _ _ _ h (lv_sub hl [3] rfl)
  · have hx := ge_f hx c_12
    refine lv_aload_n C.x C.bc dX4_left_55 rfl (lv_at hl 0 rfl) ?_
    refine lv_iload C.x C.bc dX4_left_56 (lv_at hl 4 rfl) ?_
    refine lv_iload_n C.x C.bc dX4_left_58 rfl (lv_at hl 1 rfl) ?_
    obtain ⟨r_13, hf_13, hx⟩ := bd_e hx
    refine cX4_47_X4_pivot C hI h hf_13 ⟨Nat.le_of_ble_eq_true rfl, Nat.le_of_ble_eq_true rfl⟩ ⟨Nat.zero_le _, Nat.zero_le _⟩ hl.1 (Nat.le_of_ble_eq_true rfl) dX4_left_59 (fun H locs h => ?_)
    refine lv_istore (lv' := [(9, .int r_13), (0, .ref (E.ad 33)), (2, .int v2), (4, .long v4), (6, .long v6), (8, .int v8)]) C.x C.bc dX4_left_62 hl (by decide) rfl (fun ls hl => ?_)
    refine lv_iload C.x C.bc dX4_left_64 (lv_at hl 0 rfl) ?_
    refine lv_iconst (v := (-1 : Int32)) C.x C.bc dX4_left_66 (by decide) ?_
    refine lv_icmp_ne (tgt := 72) C.x C.bc dX4_left_67 (by decide) (fun c_14 => ?_) (fun c_14 => ?_)
    · have hx := ge_f hx c_14
      refine lv_iload C.x C.bc dX4_left_72 (lv_at hl 0 rfl) ?_
      refine lv_iload C.x C.bc dX4_left_74 (lv_at hl 5 rfl) ?_
      refine lv_icmp_eq (tgt := 94) C.x C.bc dX4_left_76 (by decide) (fun c_15 => ?_) (fun c_15 => ?_)
      · have hx := ge_t hx c_15
        exact bX4_left_20_94 C hI v2 v4 v6 v8 st hx hG hE0 hE1 K h (lv_sub hl [1, 2, 3, 4, 5] rfl)
      · have hx := ge_f hx c_15
        refine lv_aload_n C.x C.bc dX4_left_79 rfl (lv_at hl 1 rfl) ?_
        refine lv_iload C.x C.bc dX4_left_80 (lv_at hl 0 rfl) ?_
        refine lv_iload C.x C.bc dX4_left_82 (lv_at hl 5 rfl) ?_
        obtain ⟨st_33, hf_33, hx⟩ := bd_e hx
        refine cX4_51_X4_swaps C hI h hf_33 ⟨Nat.le_of_ble_eq_true rfl, Nat.le_of_ble_eq_true rfl⟩ ⟨Nat.zero_le _, Nat.zero_le _⟩ hl.1 (Nat.le_of_ble_eq_true rfl) dX4_left_84 (fun H locs h => ?_)
        refine lv_lload C.x C.bc dX4_left_87 (lv_at hl 3 rfl) ?_
        refine lv_lload C.x C.bc dX4_left_89 (lv_at hl 4 rfl) ?_
        refine lv_lsub C.x C.bc dX4_left_91 ?_
        obtain ⟨v6_34, e_34, hx⟩ := nm_x hx
        refine x_tl e_34 ?_
        refine lv_lstore (lv' := [(6, .long v6_34), (9, .int r_13), (0, .ref (E.ad 33)), (2, .int v2), (4, .long v4), (8, .int v8)]) C.x C.bc dX4_left_92 hl (by decide) rfl (fun ls hl => ?_)
        exact bX4_left_20_94 C hI v2 v4 v6_34 v8 st_33 hx hG hE0 hE1 K h (lv_sub hl [2, 3, 4, 0, 5] rfl)
    · have hx := ge_t hx c_14
      obtain rfl := Option.some.inj hx
      exact hE0 _ K _ _ _ h (lv_sub hl [] rfl)
set_option maxHeartbeats 1000000 in
theorem pX4_left_20_49 (C : Cx E s0 b p s m args meth c cX4_left 13 "EarthMesh$Determinant" (some .long)) (hI : Sx E) (v2 : Int32) (v4 : Int64) {Q : State → Prop} {v6 : Int64} {v8 : Int32} {st : St} {n : Nat} {r : (St) ⊕ (Int64 × St)} (hx : iter (u3 fun v6 v8 st => fX4_left_20_49 v2 v4 v6 v8 st) n (v6, v8, st) = some r) (hE : (fun t => match t with | (.inl t) => (∀ (H : Heap) (locs : List Loc) (ls : Array Slot), XH E (sg t) s H locs → lv_has ls 13 [] → W p l e rmX4_left_20 s m args below meth c H locs 0 0 Q (F0 m 70 ls [])) | (.inr t) => (∀ (H : Heap) (locs : List Loc) (ls : Array Slot), XH E (sg t.2) s H locs → lv_has ls 13 [(6, .long t.1)] → W p l e rmX4_left_20 s m args below meth c H locs 0 0 Q (F0 m 172 ls []))) r) {H : Heap} {locs : List Loc} {ls : Array Slot} (h : XH E (sg st) s H locs) (hl : lv_has ls 13 [(0, .ref (E.ad 33)), (2, .int v2), (4, .long v4), (6, .long v6), (8, .int v8)]) : W p l e rmX4_left_20 s m args below meth c H locs 0 0 Q (F0 m 49 ls []) := by
  refine iter_W (G := fun t => ∀ (H : Heap) (locs : List Loc) (ls : Array Slot), XH E (sg t.2.2) s H locs → lv_has ls 13 [(0, .ref (E.ad 33)), (2, .int v2), (4, .long v4), (6, .long t.1), (8, .int t.2.1)] → W p l e rmX4_left_20 s m args below meth c H locs 0 0 Q (F0 m 49 ls [])) (E := fun t => match t with | (.inl t) => (∀ (H : Heap) (locs : List Loc) (ls : Array Slot), XH E (sg t) s H locs → lv_has ls 13 [] → W p l e rmX4_left_20 s m args below meth c H locs 0 0 Q (F0 m 70 ls [])) | (.inr t) => (∀ (H : Heap) (locs : List Loc) (ls : Array Slot), XH E (sg t.2) s H locs → lv_has ls 13 [(6, .long t.1)] → W p l e rmX4_left_20 s m args below meth c H locs 0 0 Q (F0 m 172 ls []))) (fun t x hx K H locs ls h hl => ?_) n _ r hx hE H locs ls h hl
  obtain ⟨v6, v8, st⟩ := t
  exact bX4_left_20_49 C hI v2 v4 v6 v8 st hx (fun _ _ _ z => z) (fun _ z => z) (fun _ _ z => z) K h hl
def fX4_left_20 (v2 : Int32) (v3 : Int32) (v4 : Int64) (st : St) : Option (Int64 × St) :=
  bd (fX4_lays_20 v2 v4 st) fun st_1 =>
  bd (iter (u2 fun z6 zst => fX4_left_20_11 v2 v3 v4 z6 zst) FU ((0 : Int32), st_1)) (u1 fun st_11 =>
  bd (iter (u3 fun z6 z8 zst => fX4_left_20_49 v2 v4 z6 z8 zst) FU ((1 : Int64), (0 : Int32), st_11)) (Sum.elim (u1 fun st_35 =>
    some ((0 : Int64), st_35)) (u2 fun v6_35 st_35 =>
    some (v6_35, st_35))))
set_option maxHeartbeats 1000000 in
theorem bX4_left_20 (C : Cx E s0 b p s m args meth c cX4_left 13 "EarthMesh$Determinant" (some .long)) (hI : Sx E) (v2 : Int32) (v3 : Int32) (v4 : Int64) (st : St) {x : Int64 × St} (hx : fX4_left_20 v2 v3 v4 st = some x) {H : Heap} {locs : List Loc} {ls : Array Slot} (h : XH E (sg st) s H locs) (hl : lv_has ls 13 [(0, .ref (E.ad 33)), (1, .ref (E.ad 20)), (2, .int v2), (3, .int v3), (4, .long v4)]) : W p l e rmX4_left_20 s m args below meth c H locs 0 0 (MQ below (Qx E (some (.long x.1)) (sg x.2)) args s 0 0 (gA E.HB)) (F0 m 0 ls []) := by
  unfold fX4_left_20 at hx
  refine lv_aload_n C.x C.bc dX4_left_0 rfl (lv_at hl 0 rfl) ?_
  refine lv_aload_n C.x C.bc dX4_left_1 rfl (lv_at hl 1 rfl) ?_
  refine lv_iload_n C.x C.bc dX4_left_2 rfl (lv_at hl 2 rfl) ?_
  refine lv_lload C.x C.bc dX4_left_3 (lv_at hl 4 rfl) ?_
  obtain ⟨st_1, hf_1, hx⟩ := bd_e hx
  refine cX4_43_X4_lays_20 C hI h hf_1 ⟨Nat.le_of_ble_eq_true rfl, Nat.le_of_ble_eq_true rfl⟩ ⟨Nat.zero_le _, Nat.zero_le _⟩ hl.1 (Nat.le_of_ble_eq_true rfl) dX4_left_5 (fun H locs h => ?_)
  refine lv_iconst (v := (0 : Int32)) C.x C.bc dX4_left_8 (by decide) ?_
  refine lv_istore (lv' := [(6, .int (0 : Int32)), (0, .ref (E.ad 33)), (1, .ref (E.ad 20)), (2, .int v2), (3, .int v3), (4, .long v4)]) C.x C.bc dX4_left_9 hl (by decide) rfl (fun ls hl => ?_)
  obtain ⟨st_11, hi_11, hx⟩ := bd_e hx
  have hx := u1_e hx
  refine pX4_left_20_11 C hI v2 v3 v4 hi_11 (fun H locs ls h hl => ?_) h (lv_sub hl [1, 3, 4, 5, 0] rfl)
  refine lv_lconst (v := (1 : Int64)) C.x C.bc dX4_left_43 (by decide) ?_
  refine lv_lstore (lv' := [(6, .long (1 : Int64)), (0, .ref (E.ad 33)), (2, .int v2), (4, .long v4)]) C.x C.bc dX4_left_44 hl (by decide) rfl (fun ls hl => ?_)
  refine lv_iconst (v := (0 : Int32)) C.x C.bc dX4_left_46 (by decide) ?_
  refine lv_istore (lv' := [(8, .int (0 : Int32)), (6, .long (1 : Int64)), (0, .ref (E.ad 33)), (2, .int v2), (4, .long v4)]) C.x C.bc dX4_left_47 hl (by decide) rfl (fun ls hl => ?_)
  obtain ⟨r_35, hi_35, hx⟩ := bd_e hx
  rcases r_35 with st_35 | ⟨v6_35, st_35⟩
  · have hx := sl_e hx; have hx := u1_e hx
    refine pX4_left_20_49 C hI v2 v4 hi_35 (fun H locs ls h hl => ?_) h (lv_sub hl [2, 3, 4, 1, 0] rfl)
    refine lv_lconst (v := (0 : Int64)) C.x C.bc dX4_left_70 (by decide) ?_
    obtain rfl := Option.some.inj hx
    exact x_lret C h dX4_left_71
  · have hx := sr_e hx; have hx := u2_e hx
    refine pX4_left_20_49 C hI v2 v4 hi_35 (fun H locs ls h hl => ?_) h (lv_sub hl [2, 3, 4, 1, 0] rfl)
    refine lv_lload C.x C.bc dX4_left_172 (lv_at hl 0 rfl) ?_
    obtain rfl := Option.some.inj hx
    exact x_lret C h dX4_left_174
theorem mX4_left_20 (hG : G0 E s0 b) (hI : Sx E) {v2 : Int32} {v3 : Int32} {v4 : Int64} {x : Int64 × St} (hx : fX4_left_20 v2 v3 v4 st = some x) : Mt l E s0 yX4_left cX4_left 13 (some .long) rmX4_left_20 [.ref (E.ad 33), .ref (E.ad 20), .int v2, .int v3, .long v4] (sg st) (some (.long x.1)) E (sg x.2) :=
  Mt.of hG (by decide) (Nat.le_of_ble_eq_true rfl) (fun p e s m below meth c ls C h hl => bX4_left_20 C hI v2 v3 v4 st hx h hl)
theorem cX4_63_X4_left_20 {a1 : Int32} {a2 : Int32} {a3 : Int64} {r : Int64} {st' : St} (C : Cx E s0 b p s m args meth c cc nL "EarthMesh$Determinant" rt) (hI : Sx E) (h : XH E (sg st) s H locs) (hf : fX4_left_20 a1 a2 a3 st = some (r, st')) (hR : rmX4_left_20.frames + 1 ≤ R.frames ∧ 16 + (13 + 11) + rmX4_left_20.locals ≤ R.locals) (h0 : cells ≤ R.cells ∧ slots ≤ R.slots) (hsz : ls.size = nL) (hcat : (rest.map fun v => v.category).sum ≤ 16) (hdg : decode cc pc = .ok (.invokevirtual 63, 3)) (kk : ∀ (H : Heap) (locs : List Loc), XH E (sg st') s H locs → W p l e R s m args below meth c H locs cells slots Q (F0 m (pc + 3) ls (.long r :: rest))) : W p l e R s m args below meth c H locs cells slots Q (F0 m pc ls (.long a3 :: .int a2 :: .int a1 :: .ref (E.ad 20) :: .ref (E.ad 33) :: rest)) :=
  x_callV (n := 4) (As := [.ref (E.ad 20), .int a1, .int a2, .long a3]) C h 33 3 (hI 33 (by decide)) k_33 rfl (mX4_left_20 C.g hI hf) (lw_V q1155 q1157 qs25 q133 q1158) ⟨rfl, by decide +kernel, by decide +kernel, by decide +kernel⟩ hR ⟨rfl, rfl⟩ h0 rfl hsz rfl hcat hdg kk
abbrev rmX4_of_20 : Room := { frames := 3, cells := 0, slots := 0, locals := 111 }
def fX4_of_20 (v2 : Int32) (st : St) : Option (Int64 × St) :=
  bd (fX4_left_20 v2 (-1 : Int32) (2147483647 : Int64) st) <| u2 fun r_1 st_1 =>
  bd (fX4_left_20 v2 (-1 : Int32) (2147483629 : Int64) st_1) <| u2 fun r_2 st_2 =>
  bd (fX4_both r_1 r_2 st_2) fun r_3 =>
  some (r_3, st_2)
set_option maxHeartbeats 1000000 in
theorem bX4_of_20 (C : Cx E s0 b p s m args meth c cX4_of 3 "EarthMesh$Determinant" (some .long)) (hI : Sx E) (v2 : Int32) (st : St) {x : Int64 × St} (hx : fX4_of_20 v2 st = some x) {H : Heap} {locs : List Loc} {ls : Array Slot} (h : XH E (sg st) s H locs) (hl : lv_has ls 3 [(0, .ref (E.ad 33)), (1, .ref (E.ad 20)), (2, .int v2)]) : W p l e rmX4_of_20 s m args below meth c H locs 0 0 (MQ below (Qx E (some (.long x.1)) (sg x.2)) args s 0 0 (gA E.HB)) (F0 m 0 ls []) := by
  unfold fX4_of_20 at hx
  refine lv_aload_n C.x C.bc dX4_of_0 rfl (lv_at hl 0 rfl) ?_
  refine lv_aload_n C.x C.bc dX4_of_1 rfl (lv_at hl 0 rfl) ?_
  refine lv_aload_n C.x C.bc dX4_of_2 rfl (lv_at hl 1 rfl) ?_
  refine lv_iload_n C.x C.bc dX4_of_3 rfl (lv_at hl 2 rfl) ?_
  refine lv_iconst (v := (-1 : Int32)) C.x C.bc dX4_of_4 (by decide) ?_
  refine lv_ldc2 (v := (2147483647 : Int64)) C.x C.bc C.ow (C.ts _ q1154) dX4_of_5 ?_
  obtain ⟨⟨r_1, st_1⟩, hf_1, hx⟩ := bd_e hx
  have hx := u2_e hx
  refine cX4_63_X4_left_20 C hI h hf_1 ⟨Nat.le_of_ble_eq_true rfl, Nat.le_of_ble_eq_true rfl⟩ ⟨Nat.zero_le _, Nat.zero_le _⟩ hl.1 (Nat.le_of_ble_eq_true rfl) dX4_of_8 (fun H locs h => ?_)
  refine lv_aload_n C.x C.bc dX4_of_11 rfl (lv_at hl 0 rfl) ?_
  refine lv_aload_n C.x C.bc dX4_of_12 rfl (lv_at hl 1 rfl) ?_
  refine lv_iload_n C.x C.bc dX4_of_13 rfl (lv_at hl 2 rfl) ?_
  refine lv_iconst (v := (-1 : Int32)) C.x C.bc dX4_of_14 (by decide) ?_
  refine lv_ldc2 (v := (2147483629 : Int64)) C.x C.bc C.ow (C.ts _ q256) dX4_of_15 ?_
  obtain ⟨⟨r_2, st_2⟩, hf_2, hx⟩ := bd_e hx
  have hx := u2_e hx
  refine cX4_63_X4_left_20 C hI h hf_2 ⟨Nat.le_of_ble_eq_true rfl, Nat.le_of_ble_eq_true rfl⟩ ⟨Nat.zero_le _, Nat.zero_le _⟩ hl.1 (Nat.le_of_ble_eq_true rfl) dX4_of_18 (fun H locs h => ?_)
  obtain ⟨r_3, hf_3, hx⟩ := bd_e hx
  refine cX4_67_X4_both C hI h hf_3 ⟨Nat.le_of_ble_eq_true rfl, Nat.le_of_ble_eq_true rfl⟩ ⟨Nat.zero_le _, Nat.zero_le _⟩ hl.1 (Nat.le_of_ble_eq_true rfl) dX4_of_21 (fun H locs h => ?_)
  obtain rfl := Option.some.inj hx
  exact x_lret C h dX4_of_24
theorem mX4_of_20 (hG : G0 E s0 b) (hI : Sx E) {v2 : Int32} {x : Int64 × St} (hx : fX4_of_20 v2 st = some x) : Mt l E s0 yX4_of cX4_of 3 (some .long) rmX4_of_20 [.ref (E.ad 33), .ref (E.ad 20), .int v2] (sg st) (some (.long x.1)) E (sg x.2) :=
  Mt.of hG (by decide) (Nat.le_of_ble_eq_true rfl) (fun p e s m below meth c ls C h hl => bX4_of_20 C hI v2 st hx h hl)
theorem cX3_63_X4_of_20 {a1 : Int32} {r : Int64} {st' : St} (C : Cx E s0 b p s m args meth c cc nL "EarthMesh$Equations" rt) (hI : Sx E) (h : XH E (sg st) s H locs) (hf : fX4_of_20 a1 st = some (r, st')) (hR : rmX4_of_20.frames + 1 ≤ R.frames ∧ 16 + (3 + 11) + rmX4_of_20.locals ≤ R.locals) (h0 : cells ≤ R.cells ∧ slots ≤ R.slots) (hsz : ls.size = nL) (hcat : (rest.map fun v => v.category).sum ≤ 16) (hdg : decode cc pc = .ok (.invokevirtual 63, 3)) (kk : ∀ (H : Heap) (locs : List Loc), XH E (sg st') s H locs → W p l e R s m args below meth c H locs cells slots Q (F0 m (pc + 3) ls (.long r :: rest))) : W p l e R s m args below meth c H locs cells slots Q (F0 m pc ls (.int a1 :: .ref (E.ad 20) :: .ref (E.ad 33) :: rest)) :=
  x_callV (n := 2) (As := [.ref (E.ad 20), .int a1]) C h 33 3 (hI 33 (by decide)) k_33 rfl (mX4_of_20 C.g hI hf) (lw_V q1150 q1151 q1152 q133 q1153) ⟨rfl, by decide +kernel, by decide +kernel, by decide +kernel⟩ hR ⟨rfl, rfl⟩ h0 rfl hsz rfl hcat hdg kk
abbrev rmX3_but : Room := { frames := 4, cells := 0, slots := 0, locals := 141 }
def fX3_but_75 (v1 : Int32) (v2 : Int32) (v3 : Int32) (v4 : Int32) (st : St) : Option ((Int32 × St) ⊕ (St)) :=
  nm (v4 + (1 : Int32)) fun v4_4 =>
  some (.inl (v4_4, st))
set_option maxHeartbeats 1000000 in
theorem bX3_but_75 (C : Cx E s0 b p s m args meth c cX3_but 5 "EarthMesh$Equations" (some .long)) (hI : Sx E) (v1 : Int32) (v2 : Int32) (v3 : Int32) (v4 : Int32) (st : St) {x : (Int32 × St) ⊕ (St)} (hx : fX3_but_75 v1 v2 v3 v4 st = some x) {Q : State → Prop} {G : Int32 × St → Prop} {X : St → Prop} (hG : ∀ (w4 : Int32) (wst : St), G (w4, wst) → ∀ (H : Heap) (locs : List Loc) (ls : Array Slot), XH E (sg wst) s H locs → lv_has ls 5 [(0, .ref (E.ad 6)), (1, .int v1), (2, .int v2), (3, .int v3), (4, .int w4)] → W p l e rmX3_but s m args below meth c H locs 0 0 Q (F0 m 13 ls [])) (hE0 : ∀ (wst : St), X wst → ∀ (H : Heap) (locs : List Loc) (ls : Array Slot), XH E (sg wst) s H locs → lv_has ls 5 [(0, .ref (E.ad 6)), (1, .int v1), (2, .int v2), (3, .int v3)] → W p l e rmX3_but s m args below meth c H locs 0 0 Q (F0 m 81 ls [])) (K : Kx G X x) {H : Heap} {locs : List Loc} {ls : Array Slot} (h : XH E (sg st) s H locs) (hl : lv_has ls 5 [(0, .ref (E.ad 6)), (1, .int v1), (2, .int v2), (3, .int v3), (4, .int v4)]) : W p l e rmX3_but s m args below meth c H locs 0 0 Q (F0 m 75 ls []) := by
  unfold fX3_but_75 at hx
  obtain ⟨v4_4, e_4, hx⟩ := nm_x hx
  refine lv_iinc (v := v4_4) (lv' := [(4, .int v4_4), (0, .ref (E.ad 6)), (1, .int v1), (2, .int v2), (3, .int v3)]) C.x C.bc dX3_but_75 hl (k := 4) rfl (by rw [e_4]; rfl) (by decide) rfl (fun ls hl => ?_)
  refine lv_goto (tgt := 13) C.x C.bc dX3_but_78 (by decide) ?_
  obtain rfl := Option.some.inj hx
  exact hG _ _ K _ _ _ h (lv_sub hl [1, 2, 3, 4, 0] rfl)
def fX3_but_65 (v1 : Int32) (v2 : Int32) (v3 : Int32) (v4 : Int32) (k0 : Nat) (k1 : Int32) (st : St) : Option ((Int32 × St) ⊕ (St)) :=
  gd (inB v3 12) <|
  gd (inB v4 12) <|
  gd (inG k0 21 12) <|
  gd (inB k1 12) <|
  nm (uL st k0 k1.toNatClampNeg (st.2.1 (8 + v3.toNatClampNeg) v4.toNatClampNeg)) fun st_13 =>
  fX3_but_75 v1 v2 v3 v4 st_13
set_option maxHeartbeats 1000000 in
theorem bX3_but_65 (C : Cx E s0 b p s m args meth c cX3_but 5 "EarthMesh$Equations" (some .long)) (hI : Sx E) (v1 : Int32) (v2 : Int32) (v3 : Int32) (v4 : Int32) (k0 : Nat) (k1 : Int32) (st : St) {x : (Int32 × St) ⊕ (St)} (hx : fX3_but_65 v1 v2 v3 v4 k0 k1 st = some x) {Q : State → Prop} {G : Int32 × St → Prop} {X : St → Prop} (hG : ∀ (w4 : Int32) (wst : St), G (w4, wst) → ∀ (H : Heap) (locs : List Loc) (ls : Array Slot), XH E (sg wst) s H locs → lv_has ls 5 [(0, .ref (E.ad 6)), (1, .int v1), (2, .int v2), (3, .int v3), (4, .int w4)] → W p l e rmX3_but s m args below meth c H locs 0 0 Q (F0 m 13 ls [])) (hE0 : ∀ (wst : St), X wst → ∀ (H : Heap) (locs : List Loc) (ls : Array Slot), XH E (sg wst) s H locs → lv_has ls 5 [(0, .ref (E.ad 6)), (1, .int v1), (2, .int v2), (3, .int v3)] → W p l e rmX3_but s m args below meth c H locs 0 0 Q (F0 m 81 ls [])) (K : Kx G X x) {H : Heap} {locs : List Loc} {ls : Array Slot} (h : XH E (sg st) s H locs) (hl : lv_has ls 5 [(0, .ref (E.ad 6)), (1, .int v1), (2, .int v2), (3, .int v3), (4, .int v4)]) : W p l e rmX3_but s m args below meth c H locs 0 0 Q (F0 m 65 ls [.int k1, .ref (E.ad k0)]) := by
  unfold fX3_but_65 at hx
  refine lv_aload_n C.x C.bc dX3_but_65 rfl (lv_at hl 0 rfl) ?_
  refine gt_X3_17_6 C hI h dX3_but_66 ?_
  refine lv_iload_n C.x C.bc dX3_but_69 rfl (lv_at hl 3 rfl) ?_
  obtain ⟨g_9, hx⟩ := gd_e hx
  refine y_row C h 7 8 5 12 (hI 7 (by decide)) k_7 (by decide) rfl rfl (fun _ _ => rfl) g_9 dX3_but_70 ?_
  refine lv_iload C.x C.bc dX3_but_71 (lv_at hl 4 rfl) ?_
  obtain ⟨g_10, hx⟩ := gd_e hx
  refine x_lald C h (8 + v3.toNatClampNeg) 12 (hI _ (by have := inB_lt g_9; omega)) (kg_8 _ (inB_lt g_9)) g_10 dX3_but_73 ?_
  obtain ⟨g_11, hx⟩ := gd_e hx
  obtain ⟨g_12, hx⟩ := gd_e hx
  obtain ⟨st_13, e_13, hx⟩ := nm_x hx
  refine y_last C h k0 12 (hI _ (by have := g_11; omega)) (kg_v g_11 kg_21) g_12 e_13 dX3_but_74 (fun H locs h => ?_)
  exact bX3_but_75 C hI v1 v2 v3 v4 st_13 hx hG hE0 K h (lv_sub hl [0, 1, 2, 3, 4] rfl)
def fX3_but_49 (v1 : Int32) (v2 : Int32) (v3 : Int32) (v4 : Int32) (k1 : Int32) (st : St) : Option ((Int32 × St) ⊕ (St)) :=
  gd (inB k1 12) <|
  if v2 ≤ v4 then
    fX3_but_65 v1 v2 v3 v4 (21 + k1.toNatClampNeg) (v4 - (1 : Int32)) st
  else
    fX3_but_65 v1 v2 v3 v4 (21 + k1.toNatClampNeg) v4 st
set_option maxHeartbeats 1000000 in
theorem bX3_but_49 (C : Cx E s0 b p s m args meth c cX3_but 5 "EarthMesh$Equations" (some .long)) (hI : Sx E) (v1 : Int32) (v2 : Int32) (v3 : Int32) (v4 : Int32) (k1 : Int32) (st : St) {x : (Int32 × St) ⊕ (St)} (hx : fX3_but_49 v1 v2 v3 v4 k1 st = some x) {Q : State → Prop} {G : Int32 × St → Prop} {X : St → Prop} (hG : ∀ (w4 : Int32) (wst : St), G (w4, wst) → ∀ (H : Heap) (locs : List Loc) (ls : Array Slot), XH E (sg wst) s H locs → lv_has ls 5 [(0, .ref (E.ad 6)), (1, .int v1), (2, .int v2), (3, .int v3), (4, .int w4)] → W p l e rmX3_but s m args below meth c H locs 0 0 Q (F0 m 13 ls [])) (hE0 : ∀ (wst : St), X wst → ∀ (H : Heap) (locs : List Loc) (ls : Array Slot), XH E (sg wst) s H locs → lv_has ls 5 [(0, .ref (E.ad 6)), (1, .int v1), (2, .int v2), (3, .int v3)] → W p l e rmX3_but s m args below meth c H locs 0 0 Q (F0 m 81 ls [])) (K : Kx G X x) {H : Heap} {locs : List Loc} {ls : Array Slot} (h : XH E (sg st) s H locs) (hl : lv_has ls 5 [(0, .ref (E.ad 6)), (1, .int v1), (2, .int v2), (3, .int v3), (4, .int v4)]) : W p l e rmX3_but s m args below meth c H locs 0 0 Q (F0 m 49 ls [.int k1, .ref (E.ad 20)]) := by
  unfold fX3_but_49 at hx
  obtain ⟨g_7, hx⟩ := gd_e hx
  refine y_row C h 20 21 5 12 (hI 20 (by decide)) k_20 (by decide) rfl rfl (fun _ _ => rfl) g_7 dX3_but_49 ?_
  refine lv_iload C.x C.bc dX3_but_50 (lv_at hl 4 rfl) ?_
  refine lv_iload_n C.x C.bc dX3_but_52 rfl (lv_at hl 2 rfl) ?_
  refine lv_icmp_ge (tgt := 61) C.x C.bc dX3_but_53 (by decide) (fun c_8 => ?_) (fun c_8 => ?_)
  · have hx := ge_t hx c_8
    refine lv_iload C.x C.bc dX3_but_61 (lv_at hl 4 rfl) ?_
    refine lv_iconst (v := (1 : Int32)) C.x C.bc dX3_but_63 (by decide) ?_
    refine lv_isub C.x C.bc dX3_but_64 ?_
    exact bX3_but_65 C hI v1 v2 v3 v4 (21 + k1.toNatClampNeg) (v4 - (1 : Int32)) st hx hG hE0 K h (lv_sub hl [0, 1, 2, 3, 4] rfl)
  · have hx := ge_f hx c_8
    refine lv_iload C.x C.bc dX3_but_56 (lv_at hl 4 rfl) ?_
    refine lv_goto (tgt := 65) C.x C.bc dX3_but_58 (by decide) ?_
    exact bX3_but_65 C hI v1 v2 v3 v4 (21 + k1.toNatClampNeg) v4 st hx hG hE0 K h (lv_sub hl [0, 1, 2, 3, 4] rfl)
def fX3_but_13 (v1 : Int32) (v2 : Int32) (v3 : Int32) (v4 : Int32) (st : St) : Option ((Int32 × St) ⊕ (St)) :=
  if (st.1 6 5) ≤ v4 then
    some (.inr st)
  else
    if v3 = v1 then
      fX3_but_75 v1 v2 v3 v4 st
    else
      if v4 = v2 then
        fX3_but_75 v1 v2 v3 v4 st
      else
        if v1 ≤ v3 then
          fX3_but_49 v1 v2 v3 v4 (v3 - (1 : Int32)) st
        else
          fX3_but_49 v1 v2 v3 v4 v3 st
set_option maxHeartbeats 1000000 in
theorem bX3_but_13 (C : Cx E s0 b p s m args meth c cX3_but 5 "EarthMesh$Equations" (some .long)) (hI : Sx E) (v1 : Int32) (v2 : Int32) (v3 : Int32) (v4 : Int32) (st : St) {x : (Int32 × St) ⊕ (St)} (hx : fX3_but_13 v1 v2 v3 v4 st = some x) {Q : State → Prop} {G : Int32 × St → Prop} {X : St → Prop} (hG : ∀ (w4 : Int32) (wst : St), G (w4, wst) → ∀ (H : Heap) (locs : List Loc) (ls : Array Slot), XH E (sg wst) s H locs → lv_has ls 5 [(0, .ref (E.ad 6)), (1, .int v1), (2, .int v2), (3, .int v3), (4, .int w4)] → W p l e rmX3_but s m args below meth c H locs 0 0 Q (F0 m 13 ls [])) (hE0 : ∀ (wst : St), X wst → ∀ (H : Heap) (locs : List Loc) (ls : Array Slot), XH E (sg wst) s H locs → lv_has ls 5 [(0, .ref (E.ad 6)), (1, .int v1), (2, .int v2), (3, .int v3)] → W p l e rmX3_but s m args below meth c H locs 0 0 Q (F0 m 81 ls [])) (K : Kx G X x) {H : Heap} {locs : List Loc} {ls : Array Slot} (h : XH E (sg st) s H locs) (hl : lv_has ls 5 [(0, .ref (E.ad 6)), (1, .int v1), (2, .int v2), (3, .int v3), (4, .int v4)]) : W p l e rmX3_but s m args below meth c H locs 0 0 Q (F0 m 13 ls []) := by
  unfold fX3_but_13 at hx
  refine lv_iload C.x C.bc dX3_but_13 (lv_at hl 4 rfl) ?_
  refine lv_aload_n C.x C.bc dX3_but_15 rfl (lv_at hl 0 rfl) ?_
  refine gt_X3_41_6 C hI h dX3_but_16 ?_
  refine lv_icmp_ge (tgt := 81) C.x C.bc dX3_but_19 (by decide) (fun c_2 => ?_) (fun c_2 => ?_)
  · have hx := ge_t hx c_2
    obtain rfl := Option.some.inj hx
    exact hE0 _ K _ _ _ h (lv_sub hl [0, 1, 2, 3] rfl)
  · have hx := ge_f hx c_2
    refine lv_iload_n C.x C.bc dX3_but_22 rfl (lv_at hl 3 rfl) ?_
    refine lv_iload_n C.x C.bc dX3_but_23 rfl (lv_at hl 1 rfl) ?_
    refine lv_icmp_eq (tgt := 75) C.x C.bc dX3_but_24 (by decide) (fun c_3 => ?_) (fun c_3 => ?_)
    · have hx := ge_t hx c_3
      exact bX3_but_75 C hI v1 v2 v3 v4 st hx hG hE0 K h (lv_sub hl [0, 1, 2, 3, 4] rfl)
    · have hx := ge_f hx c_3
      refine lv_iload C.x C.bc dX3_but_27 (lv_at hl 4 rfl) ?_
      refine lv_iload_n C.x C.bc dX3_but_29 rfl (lv_at hl 2 rfl) ?_
      refine lv_icmp_eq (tgt := 75) C.x C.bc dX3_but_30 (by decide) (fun c_5 => ?_) (fun c_5 => ?_)
      · have hx := ge_t hx c_5
        exact bX3_but_75 C hI v1 v2 v3 v4 st hx hG hE0 K h (lv_sub hl [0, 1, 2, 3, 4] rfl)
      · have hx := ge_f hx c_5
        refine lv_aload_n C.x C.bc dX3_but_33 rfl (lv_at hl 0 rfl) ?_
        refine gt_X3_20_6 C hI h dX3_but_34 ?_
        refine lv_iload_n C.x C.bc dX3_but_37 rfl (lv_at hl 3 rfl) ?_
        refine lv_iload_n C.x C.bc dX3_but_38 rfl (lv_at hl 1 rfl) ?_
        refine lv_icmp_ge (tgt := 46) C.x C.bc dX3_but_39 (by decide) (fun c_6 => ?_) (fun c_6 => ?_)
        · have hx := ge_t hx c_6
          refine lv_iload_n C.x C.bc dX3_but_46 rfl (lv_at hl 3 rfl) ?_
          refine lv_iconst (v := (1 : Int32)) C.x C.bc dX3_but_47 (by decide) ?_
          refine lv_isub C.x C.bc dX3_but_48 ?_
          exact bX3_but_49 C hI v1 v2 v3 v4 (v3 - (1 : Int32)) st hx hG hE0 K h (lv_sub hl [0, 1, 2, 3, 4] rfl)
        · have hx := ge_f hx c_6
          refine lv_iload_n C.x C.bc dX3_but_42 rfl (lv_at hl 3 rfl) ?_
          refine lv_goto (tgt := 49) C.x C.bc dX3_but_43 (by decide) ?_
          exact bX3_but_49 C hI v1 v2 v3 v4 v3 st hx hG hE0 K h (lv_sub hl [0, 1, 2, 3, 4] rfl)
set_option maxHeartbeats 1000000 in
theorem pX3_but_13 (C : Cx E s0 b p s m args meth c cX3_but 5 "EarthMesh$Equations" (some .long)) (hI : Sx E) (v1 : Int32) (v2 : Int32) (v3 : Int32) {Q : State → Prop} {v4 : Int32} {st : St} {n : Nat} {r : St} (hx : iter (u2 fun v4 st => fX3_but_13 v1 v2 v3 v4 st) n (v4, st) = some r) (hE : (fun t => ∀ (H : Heap) (locs : List Loc) (ls : Array Slot), XH E (sg t) s H locs → lv_has ls 5 [(0, .ref (E.ad 6)), (1, .int v1), (2, .int v2), (3, .int v3)] → W p l e rmX3_but s m args below meth c H locs 0 0 Q (F0 m 81 ls [])) r) {H : Heap} {locs : List Loc} {ls : Array Slot} (h : XH E (sg st) s H locs) (hl : lv_has ls 5 [(0, .ref (E.ad 6)), (1, .int v1), (2, .int v2), (3, .int v3), (4, .int v4)]) : W p l e rmX3_but s m args below meth c H locs 0 0 Q (F0 m 13 ls []) := by
  refine iter_W (G := fun t => ∀ (H : Heap) (locs : List Loc) (ls : Array Slot), XH E (sg t.2) s H locs → lv_has ls 5 [(0, .ref (E.ad 6)), (1, .int v1), (2, .int v2), (3, .int v3), (4, .int t.1)] → W p l e rmX3_but s m args below meth c H locs 0 0 Q (F0 m 13 ls [])) (E := fun t => ∀ (H : Heap) (locs : List Loc) (ls : Array Slot), XH E (sg t) s H locs → lv_has ls 5 [(0, .ref (E.ad 6)), (1, .int v1), (2, .int v2), (3, .int v3)] → W p l e rmX3_but s m args below meth c H locs 0 0 Q (F0 m 81 ls [])) (fun t x hx K H locs ls h hl => ?_) n _ r hx hE H locs ls h hl
  obtain ⟨v4, st⟩ := t
  exact bX3_but_13 C hI v1 v2 v3 v4 st hx (fun _ _ z => z) (fun _ z => z) K h hl
def fX3_but_2 (v1 : Int32) (v2 : Int32) (v3 : Int32) (st : St) : Option ((Int32 × St) ⊕ (St)) :=
  if (st.1 6 5) ≤ v3 then
    some (.inr st)
  else
    bd (iter (u2 fun z4 zst => fX3_but_13 v1 v2 v3 z4 zst) FU ((0 : Int32), st)) (u1 fun st_14 =>
    nm (v3 + (1 : Int32)) fun v3_15 =>
    some (.inl (v3_15, st_14)))
set_option maxHeartbeats 1000000 in
theorem bX3_but_2 (C : Cx E s0 b p s m args meth c cX3_but 5 "EarthMesh$Equations" (some .long)) (hI : Sx E) (v1 : Int32) (v2 : Int32) (v3 : Int32) (st : St) {x : (Int32 × St) ⊕ (St)} (hx : fX3_but_2 v1 v2 v3 st = some x) {Q : State → Prop} {G : Int32 × St → Prop} {X : St → Prop} (hG : ∀ (w3 : Int32) (wst : St), G (w3, wst) → ∀ (H : Heap) (locs : List Loc) (ls : Array Slot), XH E (sg wst) s H locs → lv_has ls 5 [(0, .ref (E.ad 6)), (1, .int v1), (2, .int v2), (3, .int w3)] → W p l e rmX3_but s m args below meth c H locs 0 0 Q (F0 m 2 ls [])) (hE0 : ∀ (wst : St), X wst → ∀ (H : Heap) (locs : List Loc) (ls : Array Slot), XH E (sg wst) s H locs → lv_has ls 5 [(0, .ref (E.ad 6)), (1, .int v1), (2, .int v2)] → W p l e rmX3_but s m args below meth c H locs 0 0 Q (F0 m 87 ls [])) (K : Kx G X x) {H : Heap} {locs : List Loc} {ls : Array Slot} (h : XH E (sg st) s H locs) (hl : lv_has ls 5 [(0, .ref (E.ad 6)), (1, .int v1), (2, .int v2), (3, .int v3)]) : W p l e rmX3_but s m args below meth c H locs 0 0 Q (F0 m 2 ls []) := by
  unfold fX3_but_2 at hx
  refine lv_iload_n C.x C.bc dX3_but_2 rfl (lv_at hl 3 rfl) ?_
  refine lv_aload_n C.x C.bc dX3_but_3 rfl (lv_at hl 0 rfl) ?_
  refine gt_X3_41_6 C hI h dX3_but_4 ?_
  refine lv_icmp_ge (tgt := 87) C.x C.bc dX3_but_7 (by decide) (fun c_1 => ?_) (fun c_1 => ?_)
  · have hx := ge_t hx c_1
    obtain rfl := Option.some.inj hx
    exact hE0 _ K _ _ _ h (lv_sub hl [0, 1, 2] rfl)
  · have hx := ge_f hx c_1
    refine lv_iconst (v := (0 : Int32)) C.x C.bc dX3_but_10 (by decide) ?_
    refine lv_istore (lv' := [(4, .int (0 : Int32)), (0, .ref (E.ad 6)), (1, .int v1), (2, .int v2), (3, .int v3)]) C.x C.bc dX3_but_11 hl (by decide) rfl (fun ls hl => ?_)
    obtain ⟨st_14, hi_14, hx⟩ := bd_e hx
    have hx := u1_e hx
    refine pX3_but_13 C hI v1 v2 v3 hi_14 (fun H locs ls h hl => ?_) h (lv_sub hl [1, 2, 3, 4, 0] rfl)
    obtain ⟨v3_15, e_15, hx⟩ := nm_x hx
    refine lv_iinc (v := v3_15) (lv' := [(3, .int v3_15), (0, .ref (E.ad 6)), (1, .int v1), (2, .int v2)]) C.x C.bc dX3_but_81 hl (k := 3) rfl (by rw [e_15]; rfl) (by decide) rfl (fun ls hl => ?_)
    refine lv_goto (tgt := 2) C.x C.bc dX3_but_84 (by decide) ?_
    obtain rfl := Option.some.inj hx
    exact hG _ _ K _ _ _ h (lv_sub hl [1, 2, 3, 0] rfl)
set_option maxHeartbeats 1000000 in
theorem pX3_but_2 (C : Cx E s0 b p s m args meth c cX3_but 5 "EarthMesh$Equations" (some .long)) (hI : Sx E) (v1 : Int32) (v2 : Int32) {Q : State → Prop} {v3 : Int32} {st : St} {n : Nat} {r : St} (hx : iter (u2 fun v3 st => fX3_but_2 v1 v2 v3 st) n (v3, st) = some r) (hE : (fun t => ∀ (H : Heap) (locs : List Loc) (ls : Array Slot), XH E (sg t) s H locs → lv_has ls 5 [(0, .ref (E.ad 6)), (1, .int v1), (2, .int v2)] → W p l e rmX3_but s m args below meth c H locs 0 0 Q (F0 m 87 ls [])) r) {H : Heap} {locs : List Loc} {ls : Array Slot} (h : XH E (sg st) s H locs) (hl : lv_has ls 5 [(0, .ref (E.ad 6)), (1, .int v1), (2, .int v2), (3, .int v3)]) : W p l e rmX3_but s m args below meth c H locs 0 0 Q (F0 m 2 ls []) := by
  refine iter_W (G := fun t => ∀ (H : Heap) (locs : List Loc) (ls : Array Slot), XH E (sg t.2) s H locs → lv_has ls 5 [(0, .ref (E.ad 6)), (1, .int v1), (2, .int v2), (3, .int t.1)] → W p l e rmX3_but s m args below meth c H locs 0 0 Q (F0 m 2 ls [])) (E := fun t => ∀ (H : Heap) (locs : List Loc) (ls : Array Slot), XH E (sg t) s H locs → lv_has ls 5 [(0, .ref (E.ad 6)), (1, .int v1), (2, .int v2)] → W p l e rmX3_but s m args below meth c H locs 0 0 Q (F0 m 87 ls [])) (fun t x hx K H locs ls h hl => ?_) n _ r hx hE H locs ls h hl
  obtain ⟨v3, st⟩ := t
  exact bX3_but_2 C hI v1 v2 v3 st hx (fun _ _ z => z) (fun _ z => z) K h hl
def fX3_but (v1 : Int32) (v2 : Int32) (st : St) : Option (Int64 × St) :=
  bd (iter (u2 fun z3 zst => fX3_but_2 v1 v2 z3 zst) FU ((0 : Int32), st)) (u1 fun st_16 =>
  bd (fX4_of_20 ((st_16.1 6 5) - (1 : Int32)) st_16) <| u2 fun r_17 st_17 =>
  if (jrem (v1 + v2) (2 : Int32)) = 0 then
    some (r_17, st_17)
  else
    some ((-r_17), st_17))
set_option maxHeartbeats 1000000 in
theorem bX3_but (C : Cx E s0 b p s m args meth c cX3_but 5 "EarthMesh$Equations" (some .long)) (hI : Sx E) (v1 : Int32) (v2 : Int32) (st : St) {x : Int64 × St} (hx : fX3_but v1 v2 st = some x) {H : Heap} {locs : List Loc} {ls : Array Slot} (h : XH E (sg st) s H locs) (hl : lv_has ls 5 [(0, .ref (E.ad 6)), (1, .int v1), (2, .int v2)]) : W p l e rmX3_but s m args below meth c H locs 0 0 (MQ below (Qx E (some (.long x.1)) (sg x.2)) args s 0 0 (gA E.HB)) (F0 m 0 ls []) := by
  unfold fX3_but at hx
  refine lv_iconst (v := (0 : Int32)) C.x C.bc dX3_but_0 (by decide) ?_
  refine lv_istore_n (lv' := [(3, .int (0 : Int32)), (0, .ref (E.ad 6)), (1, .int v1), (2, .int v2)]) C.x C.bc dX3_but_1 rfl hl (by decide) rfl (fun ls hl => ?_)
  obtain ⟨st_16, hi_16, hx⟩ := bd_e hx
  have hx := u1_e hx
  refine pX3_but_2 C hI v1 v2 hi_16 (fun H locs ls h hl => ?_) h (lv_sub hl [1, 2, 3, 0] rfl)
  refine lv_aload_n C.x C.bc dX3_but_87 rfl (lv_at hl 0 rfl) ?_
  refine gt_X3_26_6 C hI h dX3_but_88 ?_
  refine lv_aload_n C.x C.bc dX3_but_91 rfl (lv_at hl 0 rfl) ?_
  refine gt_X3_20_6 C hI h dX3_but_92 ?_
  refine lv_aload_n C.x C.bc dX3_but_95 rfl (lv_at hl 0 rfl) ?_
  refine gt_X3_41_6 C hI h dX3_but_96 ?_
  refine lv_iconst (v := (1 : Int32)) C.x C.bc dX3_but_99 (by decide) ?_
  refine lv_isub C.x C.bc dX3_but_100 ?_
  obtain ⟨⟨r_17, st_17⟩, hf_17, hx⟩ := bd_e hx
  have hx := u2_e hx
  refine cX3_63_X4_of_20 C hI h hf_17 ⟨Nat.le_of_ble_eq_true rfl, Nat.le_of_ble_eq_true rfl⟩ ⟨Nat.zero_le _, Nat.zero_le _⟩ hl.1 (Nat.le_of_ble_eq_true rfl) dX3_but_101 (fun H locs h => ?_)
  refine lv_lstore_n (lv' := [(3, .long r_17), (0, .ref (E.ad 6)), (1, .int v1), (2, .int v2)]) C.x C.bc dX3_but_104 rfl hl (by decide) rfl (fun ls hl => ?_)
  refine lv_iload_n C.x C.bc dX3_but_105 rfl (lv_at hl 2 rfl) ?_
  refine lv_iload_n C.x C.bc dX3_but_106 rfl (lv_at hl 3 rfl) ?_
  refine lv_iadd C.x C.bc dX3_but_107 ?_
  refine lv_iconst (v := (2 : Int32)) C.x C.bc dX3_but_108 (by decide) ?_
  refine y_irem C.x C.bc dX3_but_109 (by decide) ?_
  refine lv_if_ne (tgt := 117) C.x C.bc dX3_but_110 (by decide) (fun c_18 => ?_) (fun c_18 => ?_)
  · have hx := ge_f hx c_18
    refine lv_lload_n C.x C.bc dX3_but_117 rfl (lv_at hl 0 rfl) ?_
    refine lv_lneg C.x C.bc dX3_but_118 ?_
    obtain rfl := Option.some.inj hx
    exact x_lret C h dX3_but_119
  · have hx := ge_t hx c_18
    refine lv_lload_n C.x C.bc dX3_but_113 rfl (lv_at hl 0 rfl) ?_
    refine lv_goto (tgt := 119) C.x C.bc dX3_but_114 (by decide) ?_
    obtain rfl := Option.some.inj hx
    exact x_lret C h dX3_but_119
theorem mX3_but (hG : G0 E s0 b) (hI : Sx E) {v1 : Int32} {v2 : Int32} {x : Int64 × St} (hx : fX3_but v1 v2 st = some x) : Mt l E s0 yX3_but cX3_but 5 (some .long) rmX3_but [.ref (E.ad 6), .int v1, .int v2] (sg st) (some (.long x.1)) E (sg x.2) :=
  Mt.of hG (by decide) (Nat.le_of_ble_eq_true rfl) (fun p e s m below meth c ls C h hl => bX3_but C hI v1 v2 st hx h hl)
theorem cX3_75_X3_but {a0 : Int32} {a1 : Int32} {r : Int64} {st' : St} (C : Cx E s0 b p s m args meth c cc nL "EarthMesh$Equations" rt) (hI : Sx E) (h : XH E (sg st) s H locs) (hf : fX3_but a0 a1 st = some (r, st')) (hR : rmX3_but.frames + 1 ≤ R.frames ∧ 16 + (5 + 11) + rmX3_but.locals ≤ R.locals) (h0 : cells ≤ R.cells ∧ slots ≤ R.slots) (hsz : ls.size = nL) (hcat : (rest.map fun v => v.category).sum ≤ 16) (hdg : decode cc pc = .ok (.invokevirtual 75, 3)) (kk : ∀ (H : Heap) (locs : List Loc), XH E (sg st') s H locs → W p l e R s m args below meth c H locs cells slots Q (F0 m (pc + 3) ls (.long r :: rest))) : W p l e R s m args below meth c H locs cells slots Q (F0 m pc ls (.int a1 :: .int a0 :: .ref (E.ad 6) :: rest)) :=
  x_callV (n := 2) (As := [.int a0, .int a1]) C h 6 2 (hI 6 (by decide)) k_6 rfl (mX3_but C.g hI hf) (lw_V q1197 q1198 q1199 q132 q1200) ⟨rfl, by decide +kernel, by decide +kernel, by decide +kernel⟩ hR ⟨rfl, rfl⟩ h0 rfl hsz rfl hcat hdg kk
abbrev rmX3_of : Room := { frames := 5, cells := 0, slots := 0, locals := 173 }
def fX3_of (v1 : Int32) (v2 : Int32) (st : St) : Option (Int64 × St) :=
  gd (inB v1 12) <|
  gd (inB v2 12) <|
  bd (fX3_but (st.1 50 v1.toNatClampNeg) (st.1 50 v2.toNatClampNeg) st) <| u2 fun r_3 st_3 =>
  some (r_3, st_3)
set_option maxHeartbeats 1000000 in
theorem bX3_of (C : Cx E s0 b p s m args meth c cX3_of 3 "EarthMesh$Equations" (some .long)) (hI : Sx E) (v1 : Int32) (v2 : Int32) (st : St) {x : Int64 × St} (hx : fX3_of v1 v2 st = some x) {H : Heap} {locs : List Loc} {ls : Array Slot} (h : XH E (sg st) s H locs) (hl : lv_has ls 3 [(0, .ref (E.ad 6)), (1, .int v1), (2, .int v2)]) : W p l e rmX3_of s m args below meth c H locs 0 0 (MQ below (Qx E (some (.long x.1)) (sg x.2)) args s 0 0 (gA E.HB)) (F0 m 0 ls []) := by
  unfold fX3_of at hx
  refine lv_aload_n C.x C.bc dX3_of_0 rfl (lv_at hl 0 rfl) ?_
  refine lv_aload_n C.x C.bc dX3_of_1 rfl (lv_at hl 0 rfl) ?_
  refine gt_X3_34_6 C hI h dX3_of_2 ?_
  refine lv_iload_n C.x C.bc dX3_of_5 rfl (lv_at hl 1 rfl) ?_
  obtain ⟨g_1, hx⟩ := gd_e hx
  refine x_iald C h 50 12 (hI 50 (by decide)) k_50 g_1 dX3_of_6 ?_
  refine lv_aload_n C.x C.bc dX3_of_7 rfl (lv_at hl 0 rfl) ?_
  refine gt_X3_34_6 C hI h dX3_of_8 ?_
  refine lv_iload_n C.x C.bc dX3_of_11 rfl (lv_at hl 2 rfl) ?_
  obtain ⟨g_2, hx⟩ := gd_e hx
  refine x_iald C h 50 12 (hI 50 (by decide)) k_50 g_2 dX3_of_12 ?_
  obtain ⟨⟨r_3, st_3⟩, hf_3, hx⟩ := bd_e hx
  have hx := u2_e hx
  refine cX3_75_X3_but C hI h hf_3 ⟨Nat.le_of_ble_eq_true rfl, Nat.le_of_ble_eq_true rfl⟩ ⟨Nat.zero_le _, Nat.zero_le _⟩ hl.1 (Nat.le_of_ble_eq_true rfl) dX3_of_13 (fun H locs h => ?_)
  obtain rfl := Option.some.inj hx
  exact x_lret C h dX3_of_16
theorem mX3_of (hG : G0 E s0 b) (hI : Sx E) {v1 : Int32} {v2 : Int32} {x : Int64 × St} (hx : fX3_of v1 v2 st = some x) : Mt l E s0 yX3_of cX3_of 3 (some .long) rmX3_of [.ref (E.ad 6), .int v1, .int v2] (sg st) (some (.long x.1)) E (sg x.2) :=
  Mt.of hG (by decide) (Nat.le_of_ble_eq_true rfl) (fun p e s m below meth c ls C h hl => bX3_of C hI v1 v2 st hx h hl)
abbrev rmX3_laysRow : Room := { frames := 0, cells := 0, slots := 0, locals := 0 }
def fX3_laysRow_54 (v1 : Int32) (v2 : Int32) (v3 : Int32) (v4 : Int32) (v5 : Int32) (v6 : Int32) (v7 : Int32) (st : St) : Option ((Int32 × Int32 × St) ⊕ (St)) :=
  nm (v7 + (1 : Int32)) fun v7_10 =>
  some (.inl (v6, v7_10, st))
set_option maxHeartbeats 1000000 in
theorem bX3_laysRow_54 (C : Cx E s0 b p s m args meth c cX3_laysRow 8 "EarthMesh$Equations" none) (hI : Sx E) (v1 : Int32) (v2 : Int32) (v3 : Int32) (v4 : Int32) (v5 : Int32) (v6 : Int32) (v7 : Int32) (st : St) {x : (Int32 × Int32 × St) ⊕ (St)} (hx : fX3_laysRow_54 v1 v2 v3 v4 v5 v6 v7 st = some x) {Q : State → Prop} {G : Int32 × Int32 × St → Prop} {X : St → Prop} (hG : ∀ (w6 : Int32) (w7 : Int32) (wst : St), G (w6, w7, wst) → ∀ (H : Heap) (locs : List Loc) (ls : Array Slot), XH E (sg wst) s H locs → lv_has ls 8 [(0, .ref (E.ad 6)), (1, .int v1), (2, .int v2), (3, .int v3), (4, .int v4), (5, .int v5), (6, .int w6), (7, .int w7)] → W p l e rmX3_laysRow s m args below meth c H locs 0 0 Q (F0 m 6 ls [])) (hE0 : ∀ (wst : St), X wst → ∀ (H : Heap) (locs : List Loc) (ls : Array Slot), XH E (sg wst) s H locs → lv_has ls 8 [(0, .ref (E.ad 6)), (1, .int v1), (2, .int v2), (4, .int v4), (5, .int v5)] → W p l e rmX3_laysRow s m args below meth c H locs 0 0 Q (F0 m 60 ls [])) (K : Kx G X x) {H : Heap} {locs : List Loc} {ls : Array Slot} (h : XH E (sg st) s H locs) (hl : lv_has ls 8 [(0, .ref (E.ad 6)), (1, .int v1), (2, .int v2), (3, .int v3), (4, .int v4), (5, .int v5), (6, .int v6), (7, .int v7)]) : W p l e rmX3_laysRow s m args below meth c H locs 0 0 Q (F0 m 54 ls []) := by
  unfold fX3_laysRow_54 at hx
  obtain ⟨v7_10, e_10, hx⟩ := nm_x hx
  refine lv_iinc (v := v7_10) (lv' := [(7, .int v7_10), (0, .ref (E.ad 6)), (1, .int v1), (2, .int v2), (3, .int v3), (4, .int v4), (5, .int v5), (6, .int v6)]) C.x C.bc dX3_laysRow_54 hl (k := 7) rfl (by rw [e_10]; rfl) (by decide) rfl (fun ls hl => ?_)
  refine lv_goto (tgt := 6) C.x C.bc dX3_laysRow_57 (by decide) ?_
  obtain rfl := Option.some.inj hx
  exact hG _ _ _ K _ _ _ h (lv_sub hl [1, 2, 3, 4, 5, 6, 7, 0] rfl)
def fX3_laysRow_6 (v1 : Int32) (v2 : Int32) (v3 : Int32) (v4 : Int32) (v5 : Int32) (v6 : Int32) (v7 : Int32) (st : St) : Option ((Int32 × Int32 × St) ⊕ (St)) :=
  if (st.1 6 5) ≤ v7 then
    some (.inr st)
  else
    gd (inB v7 12) <|
    if ((v3 >>> ((st.1 49 v7.toNatClampNeg) &&& 31)) &&& (1 : Int32)) = (1 : Int32) then
      fX3_laysRow_54 v1 v2 v3 v4 v5 v6 v7 st
    else
      gd (inB v1 12) <|
      gd (inB v2 12) <|
      gd (inB v7 12) <|
      gd (inB v6 12) <|
      nm (uL st (21 + v1.toNatClampNeg) v6.toNatClampNeg (st.2.1 (8 + v2.toNatClampNeg) v7.toNatClampNeg)) fun st_8 =>
      nm (v6 + (1 : Int32)) fun v6_9 =>
      fX3_laysRow_54 v1 v2 v3 v4 v5 v6_9 v7 st_8
set_option maxHeartbeats 1000000 in
theorem bX3_laysRow_6 (C : Cx E s0 b p s m args meth c cX3_laysRow 8 "EarthMesh$Equations" none) (hI : Sx E) (v1 : Int32) (v2 : Int32) (v3 : Int32) (v4 : Int32) (v5 : Int32) (v6 : Int32) (v7 : Int32) (st : St) {x : (Int32 × Int32 × St) ⊕ (St)} (hx : fX3_laysRow_6 v1 v2 v3 v4 v5 v6 v7 st = some x) {Q : State → Prop} {G : Int32 × Int32 × St → Prop} {X : St → Prop} (hG : ∀ (w6 : Int32) (w7 : Int32) (wst : St), G (w6, w7, wst) → ∀ (H : Heap) (locs : List Loc) (ls : Array Slot), XH E (sg wst) s H locs → lv_has ls 8 [(0, .ref (E.ad 6)), (1, .int v1), (2, .int v2), (3, .int v3), (4, .int v4), (5, .int v5), (6, .int w6), (7, .int w7)] → W p l e rmX3_laysRow s m args below meth c H locs 0 0 Q (F0 m 6 ls [])) (hE0 : ∀ (wst : St), X wst → ∀ (H : Heap) (locs : List Loc) (ls : Array Slot), XH E (sg wst) s H locs → lv_has ls 8 [(0, .ref (E.ad 6)), (1, .int v1), (2, .int v2), (4, .int v4), (5, .int v5)] → W p l e rmX3_laysRow s m args below meth c H locs 0 0 Q (F0 m 60 ls [])) (K : Kx G X x) {H : Heap} {locs : List Loc} {ls : Array Slot} (h : XH E (sg st) s H locs) (hl : lv_has ls 8 [(0, .ref (E.ad 6)), (1, .int v1), (2, .int v2), (3, .int v3), (4, .int v4), (5, .int v5), (6, .int v6), (7, .int v7)]) : W p l e rmX3_laysRow s m args below meth c H locs 0 0 Q (F0 m 6 ls []) := by
  unfold fX3_laysRow_6 at hx
  refine lv_iload C.x C.bc dX3_laysRow_6 (lv_at hl 7 rfl) ?_
  refine lv_aload_n C.x C.bc dX3_laysRow_8 rfl (lv_at hl 0 rfl) ?_
  refine gt_X3_41_6 C hI h dX3_laysRow_9 ?_
  refine lv_icmp_ge (tgt := 60) C.x C.bc dX3_laysRow_12 (by decide) (fun c_1 => ?_) (fun c_1 => ?_)
  · have hx := ge_t hx c_1
    obtain rfl := Option.some.inj hx
    exact hE0 _ K _ _ _ h (lv_sub hl [0, 1, 2, 4, 5] rfl)
  · have hx := ge_f hx c_1
    refine lv_iload_n C.x C.bc dX3_laysRow_15 rfl (lv_at hl 3 rfl) ?_
    refine lv_aload_n C.x C.bc dX3_laysRow_16 rfl (lv_at hl 0 rfl) ?_
    refine gt_X3_30_6 C hI h dX3_laysRow_17 ?_
    refine lv_iload C.x C.bc dX3_laysRow_20 (lv_at hl 7 rfl) ?_
    obtain ⟨g_2, hx⟩ := gd_e hx
    refine x_iald C h 49 12 (hI 49 (by decide)) k_49 g_2 dX3_laysRow_22 ?_
    refine lv_ishr C.x C.bc dX3_laysRow_23 ?_
    refine lv_iconst (v := (1 : Int32)) C.x C.bc dX3_laysRow_24 (by decide) ?_
    refine lv_iand C.x C.bc dX3_laysRow_25 ?_
    refine lv_iconst (v := (1 : Int32)) C.x C.bc dX3_laysRow_26 (by decide) ?_
    refine lv_icmp_ne (tgt := 33) C.x C.bc dX3_laysRow_27 (by decide) (fun c_3 => ?_) (fun c_3 => ?_)
    · have hx := ge_f hx c_3
      refine lv_aload_n C.x C.bc dX3_laysRow_33 rfl (lv_at hl 0 rfl) ?_
      refine gt_X3_20_6 C hI h dX3_laysRow_34 ?_
      refine lv_iload_n C.x C.bc dX3_laysRow_37 rfl (lv_at hl 1 rfl) ?_
      obtain ⟨g_4, hx⟩ := gd_e hx
      refine y_row C h 20 21 5 12 (hI 20 (by decide)) k_20 (by decide) rfl rfl (fun _ _ => rfl) g_4 dX3_laysRow_38 ?_
      refine lv_iload C.x C.bc dX3_laysRow_39 (lv_at hl 6 rfl) ?_
      refine lv_aload_n C.x C.bc dX3_laysRow_41 rfl (lv_at hl 0 rfl) ?_
      refine gt_X3_17_6 C hI h dX3_laysRow_42 ?_
      refine lv_iload_n C.x C.bc dX3_laysRow_45 rfl (lv_at hl 2 rfl) ?_
      obtain ⟨g_5, hx⟩ := gd_e hx
      refine y_row C h 7 8 5 12 (hI 7 (by decide)) k_7 (by decide) rfl rfl (fun _ _ => rfl) g_5 dX3_laysRow_46 ?_
      refine lv_iload C.x C.bc dX3_laysRow_47 (lv_at hl 7 rfl) ?_
      obtain ⟨g_6, hx⟩ := gd_e hx
      refine x_lald C h (8 + v2.toNatClampNeg) 12 (hI _ (by have := inB_lt g_5; omega)) (kg_8 _ (inB_lt g_5)) g_6 dX3_laysRow_49 ?_
      obtain ⟨g_7, hx⟩ := gd_e hx
      obtain ⟨st_8, e_8, hx⟩ := nm_x hx
      refine y_last C h (21 + v1.toNatClampNeg) 12 (hI _ (by have := inB_lt g_4; omega)) (kg_21 _ (inB_lt g_4)) g_7 e_8 dX3_laysRow_50 (fun H locs h => ?_)
      obtain ⟨v6_9, e_9, hx⟩ := nm_x hx
      refine lv_iinc (v := v6_9) (lv' := [(6, .int v6_9), (0, .ref (E.ad 6)), (1, .int v1), (2, .int v2), (3, .int v3), (4, .int v4), (5, .int v5), (7, .int v7)]) C.x C.bc dX3_laysRow_51 hl (k := 6) rfl (by rw [e_9]; rfl) (by decide) rfl (fun ls hl => ?_)
      exact bX3_laysRow_54 C hI v1 v2 v3 v4 v5 v6_9 v7 st_8 hx hG hE0 K h (lv_sub hl [1, 2, 3, 4, 5, 6, 0, 7] rfl)
    · have hx := ge_t hx c_3
      refine lv_goto (tgt := 54) C.x C.bc dX3_laysRow_30 (by decide) ?_
      exact bX3_laysRow_54 C hI v1 v2 v3 v4 v5 v6 v7 st hx hG hE0 K h (lv_sub hl [0, 1, 2, 3, 4, 5, 6, 7] rfl)
set_option maxHeartbeats 1000000 in
theorem pX3_laysRow_6 (C : Cx E s0 b p s m args meth c cX3_laysRow 8 "EarthMesh$Equations" none) (hI : Sx E) (v1 : Int32) (v2 : Int32) (v3 : Int32) (v4 : Int32) (v5 : Int32) {Q : State → Prop} {v6 : Int32} {v7 : Int32} {st : St} {n : Nat} {r : St} (hx : iter (u3 fun v6 v7 st => fX3_laysRow_6 v1 v2 v3 v4 v5 v6 v7 st) n (v6, v7, st) = some r) (hE : (fun t => ∀ (H : Heap) (locs : List Loc) (ls : Array Slot), XH E (sg t) s H locs → lv_has ls 8 [(0, .ref (E.ad 6)), (1, .int v1), (2, .int v2), (4, .int v4), (5, .int v5)] → W p l e rmX3_laysRow s m args below meth c H locs 0 0 Q (F0 m 60 ls [])) r) {H : Heap} {locs : List Loc} {ls : Array Slot} (h : XH E (sg st) s H locs) (hl : lv_has ls 8 [(0, .ref (E.ad 6)), (1, .int v1), (2, .int v2), (3, .int v3), (4, .int v4), (5, .int v5), (6, .int v6), (7, .int v7)]) : W p l e rmX3_laysRow s m args below meth c H locs 0 0 Q (F0 m 6 ls []) := by
  refine iter_W (G := fun t => ∀ (H : Heap) (locs : List Loc) (ls : Array Slot), XH E (sg t.2.2) s H locs → lv_has ls 8 [(0, .ref (E.ad 6)), (1, .int v1), (2, .int v2), (3, .int v3), (4, .int v4), (5, .int v5), (6, .int t.1), (7, .int t.2.1)] → W p l e rmX3_laysRow s m args below meth c H locs 0 0 Q (F0 m 6 ls [])) (E := fun t => ∀ (H : Heap) (locs : List Loc) (ls : Array Slot), XH E (sg t) s H locs → lv_has ls 8 [(0, .ref (E.ad 6)), (1, .int v1), (2, .int v2), (4, .int v4), (5, .int v5)] → W p l e rmX3_laysRow s m args below meth c H locs 0 0 Q (F0 m 60 ls [])) (fun t x hx K H locs ls h hl => ?_) n _ r hx hE H locs ls h hl
  obtain ⟨v6, v7, st⟩ := t
  exact bX3_laysRow_6 C hI v1 v2 v3 v4 v5 v6 v7 st hx (fun _ _ _ z => z) (fun _ z => z) K h hl
def fX3_laysRow (v1 : Int32) (v2 : Int32) (v3 : Int32) (v4 : Int32) (v5 : Int32) (st : St) : Option (St) :=
  bd (iter (u3 fun z6 z7 zst => fX3_laysRow_6 v1 v2 v3 v4 v5 z6 z7 zst) FU ((0 : Int32), (0 : Int32), st)) (u1 fun st_11 =>
  if v5 = (-1 : Int32) then
    some st_11
  else
    gd (inB v1 12) <|
    gd (inB v2 12) <|
    gd (inB v5 12) <|
    gd (inB (st_11.1 50 v5.toNatClampNeg) 12) <|
    gd (inB v4 12) <|
    nm (uL st_11 (21 + v1.toNatClampNeg) v4.toNatClampNeg (st_11.2.1 (8 + v2.toNatClampNeg) (st_11.1 50 v5.toNatClampNeg).toNatClampNeg)) fun st_18 =>
    some st_18)
set_option maxHeartbeats 1000000 in
theorem bX3_laysRow (C : Cx E s0 b p s m args meth c cX3_laysRow 8 "EarthMesh$Equations" none) (hI : Sx E) (v1 : Int32) (v2 : Int32) (v3 : Int32) (v4 : Int32) (v5 : Int32) (st : St) {x : St} (hx : fX3_laysRow v1 v2 v3 v4 v5 st = some x) {H : Heap} {locs : List Loc} {ls : Array Slot} (h : XH E (sg st) s H locs) (hl : lv_has ls 8 [(0, .ref (E.ad 6)), (1, .int v1), (2, .int v2), (3, .int v3), (4, .int v4), (5, .int v5)]) : W p l e rmX3_laysRow s m args below meth c H locs 0 0 (MQ below (Qx E none (sg x)) args s 0 0 (gA E.HB)) (F0 m 0 ls []) := by
  unfold fX3_laysRow at hx
  refine lv_iconst (v := (0 : Int32)) C.x C.bc dX3_laysRow_0 (by decide) ?_
  refine lv_istore (lv' := [(6, .int (0 : Int32)), (0, .ref (E.ad 6)), (1, .int v1), (2, .int v2), (3, .int v3), (4, .int v4), (5, .int v5)]) C.x C.bc dX3_laysRow_1 hl (by decide) rfl (fun ls hl => ?_)
  refine lv_iconst (v := (0 : Int32)) C.x C.bc dX3_laysRow_3 (by decide) ?_
  refine lv_istore (lv' := [(7, .int (0 : Int32)), (6, .int (0 : Int32)), (0, .ref (E.ad 6)), (1, .int v1), (2, .int v2), (3, .int v3), (4, .int v4), (5, .int v5)]) C.x C.bc dX3_laysRow_4 hl (by decide) rfl (fun ls hl => ?_)
  obtain ⟨st_11, hi_11, hx⟩ := bd_e hx
  have hx := u1_e hx
  refine pX3_laysRow_6 C hI v1 v2 v3 v4 v5 hi_11 (fun H locs ls h hl => ?_) h (lv_sub hl [2, 3, 4, 5, 6, 7, 1, 0] rfl)
  refine lv_iload C.x C.bc dX3_laysRow_60 (lv_at hl 4 rfl) ?_
  refine lv_iconst (v := (-1 : Int32)) C.x C.bc dX3_laysRow_62 (by decide) ?_
  refine lv_icmp_eq (tgt := 89) C.x C.bc dX3_laysRow_63 (by decide) (fun c_12 => ?_) (fun c_12 => ?_)
  · have hx := ge_t hx c_12
    obtain rfl := Option.some.inj hx
    exact x_vret C h dX3_laysRow_89
  · have hx := ge_f hx c_12
    refine lv_aload_n C.x C.bc dX3_laysRow_66 rfl (lv_at hl 0 rfl) ?_
    refine gt_X3_20_6 C hI h dX3_laysRow_67 ?_
    refine lv_iload_n C.x C.bc dX3_laysRow_70 rfl (lv_at hl 1 rfl) ?_
    obtain ⟨g_13, hx⟩ := gd_e hx
    refine y_row C h 20 21 5 12 (hI 20 (by decide)) k_20 (by decide) rfl rfl (fun _ _ => rfl) g_13 dX3_laysRow_71 ?_
    refine lv_iload C.x C.bc dX3_laysRow_72 (lv_at hl 3 rfl) ?_
    refine lv_aload_n C.x C.bc dX3_laysRow_74 rfl (lv_at hl 0 rfl) ?_
    refine gt_X3_17_6 C hI h dX3_laysRow_75 ?_
    refine lv_iload_n C.x C.bc dX3_laysRow_78 rfl (lv_at hl 2 rfl) ?_
    obtain ⟨g_14, hx⟩ := gd_e hx
    refine y_row C h 7 8 5 12 (hI 7 (by decide)) k_7 (by decide) rfl rfl (fun _ _ => rfl) g_14 dX3_laysRow_79 ?_
    refine lv_aload_n C.x C.bc dX3_laysRow_80 rfl (lv_at hl 0 rfl) ?_
    refine gt_X3_34_6 C hI h dX3_laysRow_81 ?_
    refine lv_iload C.x C.bc dX3_laysRow_84 (lv_at hl 4 rfl) ?_
    obtain ⟨g_15, hx⟩ := gd_e hx
    refine x_iald C h 50 12 (hI 50 (by decide)) k_50 g_15 dX3_laysRow_86 ?_
    obtain ⟨g_16, hx⟩ := gd_e hx
    refine x_lald C h (8 + v2.toNatClampNeg) 12 (hI _ (by have := inB_lt g_14; omega)) (kg_8 _ (inB_lt g_14)) g_16 dX3_laysRow_87 ?_
    obtain ⟨g_17, hx⟩ := gd_e hx
    obtain ⟨st_18, e_18, hx⟩ := nm_x hx
    refine y_last C h (21 + v1.toNatClampNeg) 12 (hI _ (by have := inB_lt g_13; omega)) (kg_21 _ (inB_lt g_13)) g_17 e_18 dX3_laysRow_88 (fun H locs h => ?_)
    obtain rfl := Option.some.inj hx
    exact x_vret C h dX3_laysRow_89
theorem mX3_laysRow (hG : G0 E s0 b) (hI : Sx E) {v1 : Int32} {v2 : Int32} {v3 : Int32} {v4 : Int32} {v5 : Int32} {x : St} (hx : fX3_laysRow v1 v2 v3 v4 v5 st = some x) : Mt l E s0 yX3_laysRow cX3_laysRow 8 none rmX3_laysRow [.ref (E.ad 6), .int v1, .int v2, .int v3, .int v4, .int v5] (sg st) none E (sg x) :=
  Mt.of hG (by decide) (Nat.le_of_ble_eq_true rfl) (fun p e s m below meth c ls C h hl => bX3_laysRow C hI v1 v2 v3 v4 v5 st hx h hl)
theorem cX3_79_X3_laysRow {a0 : Int32} {a1 : Int32} {a2 : Int32} {a3 : Int32} {a4 : Int32} {st' : St} (C : Cx E s0 b p s m args meth c cc nL "EarthMesh$Equations" rt) (hI : Sx E) (h : XH E (sg st) s H locs) (hf : fX3_laysRow a0 a1 a2 a3 a4 st = some st') (hR : rmX3_laysRow.frames + 1 ≤ R.frames ∧ 16 + (8 + 11) + rmX3_laysRow.locals ≤ R.locals) (h0 : cells ≤ R.cells ∧ slots ≤ R.slots) (hsz : ls.size = nL) (hcat : (rest.map fun v => v.category).sum ≤ 16) (hdg : decode cc pc = .ok (.invokevirtual 79, 3)) (kk : ∀ (H : Heap) (locs : List Loc), XH E (sg st') s H locs → W p l e R s m args below meth c H locs cells slots Q (F0 m (pc + 3) ls (rest))) : W p l e R s m args below meth c H locs cells slots Q (F0 m pc ls (.int a4 :: .int a3 :: .int a2 :: .int a1 :: .int a0 :: .ref (E.ad 6) :: rest)) :=
  x_callV (n := 5) (As := [.int a0, .int a1, .int a2, .int a3, .int a4]) C h 6 2 (hI 6 (by decide)) k_6 rfl (mX3_laysRow C.g hI hf) (lw_V q1559 q1561 qs68 q132 q1562) ⟨rfl, by decide +kernel, by decide +kernel, by decide +kernel⟩ hR ⟨rfl, rfl⟩ h0 rfl hsz rfl hcat hdg kk
abbrev rmX3_bordered : Room := { frames := 4, cells := 0, slots := 0, locals := 141 }
def fX3_bordered_32 (v1 : Int32) (v2 : Int32) (v3 : Int32) (v4 : Int32) (v5 : Int32) (st : St) : Option ((Int32 × Int32) ⊕ (Int32)) :=
  nm (v5 + (1 : Int32)) fun v5_4 =>
  some (.inl (v4, v5_4))
set_option maxHeartbeats 1000000 in
theorem bX3_bordered_32 (C : Cx E s0 b p s m args meth c cX3_bordered 7 "EarthMesh$Equations" (some .long)) (hI : Sx E) (v1 : Int32) (v2 : Int32) (v3 : Int32) (v4 : Int32) (v5 : Int32) (st : St) {x : (Int32 × Int32) ⊕ (Int32)} (hx : fX3_bordered_32 v1 v2 v3 v4 v5 st = some x) {Q : State → Prop} {G : Int32 × Int32 → Prop} {X : Int32 → Prop} (hG : ∀ (w4 : Int32) (w5 : Int32), G (w4, w5) → ∀ (H : Heap) (locs : List Loc) (ls : Array Slot), XH E (sg st) s H locs → lv_has ls 7 [(0, .ref (E.ad 6)), (1, .int v1), (2, .int v2), (3, .int v3), (4, .int w4), (5, .int w5)] → W p l e rmX3_bordered s m args below meth c H locs 0 0 Q (F0 m 6 ls [])) (hE0 : ∀ (w4 : Int32), X w4 → ∀ (H : Heap) (locs : List Loc) (ls : Array Slot), XH E (sg st) s H locs → lv_has ls 7 [(0, .ref (E.ad 6)), (1, .int v1), (2, .int v2), (3, .int v3), (4, .int w4)] → W p l e rmX3_bordered s m args below meth c H locs 0 0 Q (F0 m 38 ls [])) (K : Kx G X x) {H : Heap} {locs : List Loc} {ls : Array Slot} (h : XH E (sg st) s H locs) (hl : lv_has ls 7 [(0, .ref (E.ad 6)), (1, .int v1), (2, .int v2), (3, .int v3), (4, .int v4), (5, .int v5)]) : W p l e rmX3_bordered s m args below meth c H locs 0 0 Q (F0 m 32 ls []) := by
  unfold fX3_bordered_32 at hx
  obtain ⟨v5_4, e_4, hx⟩ := nm_x hx
  refine lv_iinc (v := v5_4) (lv' := [(5, .int v5_4), (0, .ref (E.ad 6)), (1, .int v1), (2, .int v2), (3, .int v3), (4, .int v4)]) C.x C.bc dX3_bordered_32 hl (k := 5) rfl (by rw [e_4]; rfl) (by decide) rfl (fun ls hl => ?_)
  refine lv_goto (tgt := 6) C.x C.bc dX3_bordered_35 (by decide) ?_
  obtain rfl := Option.some.inj hx
  exact hG _ _ K _ _ _ h (lv_sub hl [1, 2, 3, 4, 5, 0] rfl)
def fX3_bordered_6 (v1 : Int32) (v2 : Int32) (v3 : Int32) (v4 : Int32) (v5 : Int32) (st : St) : Option ((Int32 × Int32) ⊕ (Int32)) :=
  if (st.1 6 5) ≤ v5 then
    some (.inr v4)
  else
    gd (inB v5 12) <|
    if ((v1 >>> ((st.1 49 v5.toNatClampNeg) &&& 31)) &&& (1 : Int32)) = 0 then
      nm (v4 + (1 : Int32)) fun v4_5 =>
      fX3_bordered_32 v1 v2 v3 v4_5 v5 st
    else
      fX3_bordered_32 v1 v2 v3 v4 v5 st
set_option maxHeartbeats 1000000 in
theorem bX3_bordered_6 (C : Cx E s0 b p s m args meth c cX3_bordered 7 "EarthMesh$Equations" (some .long)) (hI : Sx E) (v1 : Int32) (v2 : Int32) (v3 : Int32) (v4 : Int32) (v5 : Int32) (st : St) {x : (Int32 × Int32) ⊕ (Int32)} (hx : fX3_bordered_6 v1 v2 v3 v4 v5 st = some x) {Q : State → Prop} {G : Int32 × Int32 → Prop} {X : Int32 → Prop} (hG : ∀ (w4 : Int32) (w5 : Int32), G (w4, w5) → ∀ (H : Heap) (locs : List Loc) (ls : Array Slot), XH E (sg st) s H locs → lv_has ls 7 [(0, .ref (E.ad 6)), (1, .int v1), (2, .int v2), (3, .int v3), (4, .int w4), (5, .int w5)] → W p l e rmX3_bordered s m args below meth c H locs 0 0 Q (F0 m 6 ls [])) (hE0 : ∀ (w4 : Int32), X w4 → ∀ (H : Heap) (locs : List Loc) (ls : Array Slot), XH E (sg st) s H locs → lv_has ls 7 [(0, .ref (E.ad 6)), (1, .int v1), (2, .int v2), (3, .int v3), (4, .int w4)] → W p l e rmX3_bordered s m args below meth c H locs 0 0 Q (F0 m 38 ls [])) (K : Kx G X x) {H : Heap} {locs : List Loc} {ls : Array Slot} (h : XH E (sg st) s H locs) (hl : lv_has ls 7 [(0, .ref (E.ad 6)), (1, .int v1), (2, .int v2), (3, .int v3), (4, .int v4), (5, .int v5)]) : W p l e rmX3_bordered s m args below meth c H locs 0 0 Q (F0 m 6 ls []) := by
  unfold fX3_bordered_6 at hx
  refine lv_iload C.x C.bc dX3_bordered_6 (lv_at hl 5 rfl) ?_
  refine lv_aload_n C.x C.bc dX3_bordered_8 rfl (lv_at hl 0 rfl) ?_
  refine gt_X3_41_6 C hI h dX3_bordered_9 ?_
  refine lv_icmp_ge (tgt := 38) C.x C.bc dX3_bordered_12 (by decide) (fun c_1 => ?_) (fun c_1 => ?_)
  · have hx := ge_t hx c_1
    obtain rfl := Option.some.inj hx
    exact hE0 _ K _ _ _ h (lv_sub hl [0, 1, 2, 3, 4] rfl)
  · have hx := ge_f hx c_1
    refine lv_iload_n C.x C.bc dX3_bordered_15 rfl (lv_at hl 1 rfl) ?_
    refine lv_aload_n C.x C.bc dX3_bordered_16 rfl (lv_at hl 0 rfl) ?_
    refine gt_X3_30_6 C hI h dX3_bordered_17 ?_
    refine lv_iload C.x C.bc dX3_bordered_20 (lv_at hl 5 rfl) ?_
    obtain ⟨g_2, hx⟩ := gd_e hx
    refine x_iald C h 49 12 (hI 49 (by decide)) k_49 g_2 dX3_bordered_22 ?_
    refine lv_ishr C.x C.bc dX3_bordered_23 ?_
    refine lv_iconst (v := (1 : Int32)) C.x C.bc dX3_bordered_24 (by decide) ?_
    refine lv_iand C.x C.bc dX3_bordered_25 ?_
    refine lv_if_ne (tgt := 32) C.x C.bc dX3_bordered_26 (by decide) (fun c_3 => ?_) (fun c_3 => ?_)
    · have hx := ge_f hx c_3
      exact bX3_bordered_32 C hI v1 v2 v3 v4 v5 st hx hG hE0 K h (lv_sub hl [0, 1, 2, 3, 4, 5] rfl)
    · have hx := ge_t hx c_3
      obtain ⟨v4_5, e_5, hx⟩ := nm_x hx
      refine lv_iinc (v := v4_5) (lv' := [(4, .int v4_5), (0, .ref (E.ad 6)), (1, .int v1), (2, .int v2), (3, .int v3), (5, .int v5)]) C.x C.bc dX3_bordered_29 hl (k := 4) rfl (by rw [e_5]; rfl) (by decide) rfl (fun ls hl => ?_)
      exact bX3_bordered_32 C hI v1 v2 v3 v4_5 v5 st hx hG hE0 K h (lv_sub hl [1, 2, 3, 4, 0, 5] rfl)
set_option maxHeartbeats 1000000 in
theorem pX3_bordered_6 (C : Cx E s0 b p s m args meth c cX3_bordered 7 "EarthMesh$Equations" (some .long)) (hI : Sx E) (v1 : Int32) (v2 : Int32) (v3 : Int32) (st : St) {Q : State → Prop} {v4 : Int32} {v5 : Int32} {n : Nat} {r : Int32} (hx : iter (u2 fun v4 v5 => fX3_bordered_6 v1 v2 v3 v4 v5 st) n (v4, v5) = some r) (hE : (fun t => ∀ (H : Heap) (locs : List Loc) (ls : Array Slot), XH E (sg st) s H locs → lv_has ls 7 [(0, .ref (E.ad 6)), (1, .int v1), (2, .int v2), (3, .int v3), (4, .int t)] → W p l e rmX3_bordered s m args below meth c H locs 0 0 Q (F0 m 38 ls [])) r) {H : Heap} {locs : List Loc} {ls : Array Slot} (h : XH E (sg st) s H locs) (hl : lv_has ls 7 [(0, .ref (E.ad 6)), (1, .int v1), (2, .int v2), (3, .int v3), (4, .int v4), (5, .int v5)]) : W p l e rmX3_bordered s m args below meth c H locs 0 0 Q (F0 m 6 ls []) := by
  refine iter_W (G := fun t => ∀ (H : Heap) (locs : List Loc) (ls : Array Slot), XH E (sg st) s H locs → lv_has ls 7 [(0, .ref (E.ad 6)), (1, .int v1), (2, .int v2), (3, .int v3), (4, .int t.1), (5, .int t.2)] → W p l e rmX3_bordered s m args below meth c H locs 0 0 Q (F0 m 6 ls [])) (E := fun t => ∀ (H : Heap) (locs : List Loc) (ls : Array Slot), XH E (sg st) s H locs → lv_has ls 7 [(0, .ref (E.ad 6)), (1, .int v1), (2, .int v2), (3, .int v3), (4, .int t)] → W p l e rmX3_bordered s m args below meth c H locs 0 0 Q (F0 m 38 ls [])) (fun t x hx K H locs ls h hl => ?_) n _ r hx hE H locs ls h hl
  obtain ⟨v4, v5⟩ := t
  exact bX3_bordered_6 C hI v1 v2 v3 v4 v5 st hx (fun _ _ z => z) (fun _ z => z) K h hl
def fX3_bordered_86 (v1 : Int32) (v2 : Int32) (v3 : Int32) (v4 : Int32) (v5 : Int32) (v6 : Int32) (st : St) : Option ((Int32 × Int32 × St) ⊕ (St)) :=
  nm (v6 + (1 : Int32)) fun v6_12 =>
  some (.inl (v5, v6_12, st))
set_option maxHeartbeats 1000000 in
theorem bX3_bordered_86 (C : Cx E s0 b p s m args meth c cX3_bordered 7 "EarthMesh$Equations" (some .long)) (hI : Sx E) (v1 : Int32) (v2 : Int32) (v3 : Int32) (v4 : Int32) (v5 : Int32) (v6 : Int32) (st : St) {x : (Int32 × Int32 × St) ⊕ (St)} (hx : fX3_bordered_86 v1 v2 v3 v4 v5 v6 st = some x) {Q : State → Prop} {G : Int32 × Int32 × St → Prop} {X : St → Prop} (hG : ∀ (w5 : Int32) (w6 : Int32) (wst : St), G (w5, w6, wst) → ∀ (H : Heap) (locs : List Loc) (ls : Array Slot), XH E (sg wst) s H locs → lv_has ls 7 [(0, .ref (E.ad 6)), (1, .int v1), (2, .int v2), (3, .int v3), (4, .int v4), (5, .int w5), (6, .int w6)] → W p l e rmX3_bordered s m args below meth c H locs 0 0 Q (F0 m 44 ls [])) (hE0 : ∀ (wst : St), X wst → ∀ (H : Heap) (locs : List Loc) (ls : Array Slot), XH E (sg wst) s H locs → lv_has ls 7 [(0, .ref (E.ad 6)), (1, .int v1), (2, .int v2), (3, .int v3), (4, .int v4)] → W p l e rmX3_bordered s m args below meth c H locs 0 0 Q (F0 m 92 ls [])) (K : Kx G X x) {H : Heap} {locs : List Loc} {ls : Array Slot} (h : XH E (sg st) s H locs) (hl : lv_has ls 7 [(0, .ref (E.ad 6)), (1, .int v1), (2, .int v2), (3, .int v3), (4, .int v4), (5, .int v5), (6, .int v6)]) : W p l e rmX3_bordered s m args below meth c H locs 0 0 Q (F0 m 86 ls []) := by
  unfold fX3_bordered_86 at hx
  obtain ⟨v6_12, e_12, hx⟩ := nm_x hx
  refine lv_iinc (v := v6_12) (lv' := [(6, .int v6_12), (0, .ref (E.ad 6)), (1, .int v1), (2, .int v2), (3, .int v3), (4, .int v4), (5, .int v5)]) C.x C.bc dX3_bordered_86 hl (k := 6) rfl (by rw [e_12]; rfl) (by decide) rfl (fun ls hl => ?_)
  refine lv_goto (tgt := 44) C.x C.bc dX3_bordered_89 (by decide) ?_
  obtain rfl := Option.some.inj hx
  exact hG _ _ _ K _ _ _ h (lv_sub hl [1, 2, 3, 4, 5, 6, 0] rfl)
def fX3_bordered_44 (v1 : Int32) (v2 : Int32) (v3 : Int32) (v4 : Int32) (v5 : Int32) (v6 : Int32) (st : St) : Option ((Int32 × Int32 × St) ⊕ (St)) :=
  if (st.1 6 5) ≤ v6 then
    some (.inr st)
  else
    gd (inB v6 12) <|
    if ((v1 >>> ((st.1 49 v6.toNatClampNeg) &&& 31)) &&& (1 : Int32)) = (1 : Int32) then
      fX3_bordered_86 v1 v2 v3 v4 v5 v6 st
    else
      bd (fX3_laysRow v5 v6 v1 v4 v3 st) fun st_10 =>
      nm (v5 + (1 : Int32)) fun v5_11 =>
      fX3_bordered_86 v1 v2 v3 v4 v5_11 v6 st_10
set_option maxHeartbeats 1000000 in
theorem bX3_bordered_44 (C : Cx E s0 b p s m args meth c cX3_bordered 7 "EarthMesh$Equations" (some .long)) (hI : Sx E) (v1 : Int32) (v2 : Int32) (v3 : Int32) (v4 : Int32) (v5 : Int32) (v6 : Int32) (st : St) {x : (Int32 × Int32 × St) ⊕ (St)} (hx : fX3_bordered_44 v1 v2 v3 v4 v5 v6 st = some x) {Q : State → Prop} {G : Int32 × Int32 × St → Prop} {X : St → Prop} (hG : ∀ (w5 : Int32) (w6 : Int32) (wst : St), G (w5, w6, wst) → ∀ (H : Heap) (locs : List Loc) (ls : Array Slot), XH E (sg wst) s H locs → lv_has ls 7 [(0, .ref (E.ad 6)), (1, .int v1), (2, .int v2), (3, .int v3), (4, .int v4), (5, .int w5), (6, .int w6)] → W p l e rmX3_bordered s m args below meth c H locs 0 0 Q (F0 m 44 ls [])) (hE0 : ∀ (wst : St), X wst → ∀ (H : Heap) (locs : List Loc) (ls : Array Slot), XH E (sg wst) s H locs → lv_has ls 7 [(0, .ref (E.ad 6)), (1, .int v1), (2, .int v2), (3, .int v3), (4, .int v4)] → W p l e rmX3_bordered s m args below meth c H locs 0 0 Q (F0 m 92 ls [])) (K : Kx G X x) {H : Heap} {locs : List Loc} {ls : Array Slot} (h : XH E (sg st) s H locs) (hl : lv_has ls 7 [(0, .ref (E.ad 6)), (1, .int v1), (2, .int v2), (3, .int v3), (4, .int v4), (5, .int v5), (6, .int v6)]) : W p l e rmX3_bordered s m args below meth c H locs 0 0 Q (F0 m 44 ls []) := by
  unfold fX3_bordered_44 at hx
  refine lv_iload C.x C.bc dX3_bordered_44 (lv_at hl 6 rfl) ?_
  refine lv_aload_n C.x C.bc dX3_bordered_46 rfl (lv_at hl 0 rfl) ?_
  refine gt_X3_41_6 C hI h dX3_bordered_47 ?_
  refine lv_icmp_ge (tgt := 92) C.x C.bc dX3_bordered_50 (by decide) (fun c_7 => ?_) (fun c_7 => ?_)
  · have hx := ge_t hx c_7
    obtain rfl := Option.some.inj hx
    exact hE0 _ K _ _ _ h (lv_sub hl [0, 1, 2, 3, 4] rfl)
  · have hx := ge_f hx c_7
    refine lv_iload_n C.x C.bc dX3_bordered_53 rfl (lv_at hl 1 rfl) ?_
    refine lv_aload_n C.x C.bc dX3_bordered_54 rfl (lv_at hl 0 rfl) ?_
    refine gt_X3_30_6 C hI h dX3_bordered_55 ?_
    refine lv_iload C.x C.bc dX3_bordered_58 (lv_at hl 6 rfl) ?_
    obtain ⟨g_8, hx⟩ := gd_e hx
    refine x_iald C h 49 12 (hI 49 (by decide)) k_49 g_8 dX3_bordered_60 ?_
    refine lv_ishr C.x C.bc dX3_bordered_61 ?_
    refine lv_iconst (v := (1 : Int32)) C.x C.bc dX3_bordered_62 (by decide) ?_
    refine lv_iand C.x C.bc dX3_bordered_63 ?_
    refine lv_iconst (v := (1 : Int32)) C.x C.bc dX3_bordered_64 (by decide) ?_
    refine lv_icmp_ne (tgt := 71) C.x C.bc dX3_bordered_65 (by decide) (fun c_9 => ?_) (fun c_9 => ?_)
    · have hx := ge_f hx c_9
      refine lv_aload_n C.x C.bc dX3_bordered_71 rfl (lv_at hl 0 rfl) ?_
      refine lv_iload C.x C.bc dX3_bordered_72 (lv_at hl 5 rfl) ?_
      refine lv_iload C.x C.bc dX3_bordered_74 (lv_at hl 6 rfl) ?_
      refine lv_iload_n C.x C.bc dX3_bordered_76 rfl (lv_at hl 1 rfl) ?_
      refine lv_iload C.x C.bc dX3_bordered_77 (lv_at hl 4 rfl) ?_
      refine lv_iload_n C.x C.bc dX3_bordered_79 rfl (lv_at hl 3 rfl) ?_
      obtain ⟨st_10, hf_10, hx⟩ := bd_e hx
      refine cX3_79_X3_laysRow C hI h hf_10 ⟨Nat.le_of_ble_eq_true rfl, Nat.le_of_ble_eq_true rfl⟩ ⟨Nat.zero_le _, Nat.zero_le _⟩ hl.1 (Nat.le_of_ble_eq_true rfl) dX3_bordered_80 (fun H locs h => ?_)
      obtain ⟨v5_11, e_11, hx⟩ := nm_x hx
      refine lv_iinc (v := v5_11) (lv' := [(5, .int v5_11), (0, .ref (E.ad 6)), (1, .int v1), (2, .int v2), (3, .int v3), (4, .int v4), (6, .int v6)]) C.x C.bc dX3_bordered_83 hl (k := 5) rfl (by rw [e_11]; rfl) (by decide) rfl (fun ls hl => ?_)
      exact bX3_bordered_86 C hI v1 v2 v3 v4 v5_11 v6 st_10 hx hG hE0 K h (lv_sub hl [1, 2, 3, 4, 5, 0, 6] rfl)
    · have hx := ge_t hx c_9
      refine lv_goto (tgt := 86) C.x C.bc dX3_bordered_68 (by decide) ?_
      exact bX3_bordered_86 C hI v1 v2 v3 v4 v5 v6 st hx hG hE0 K h (lv_sub hl [0, 1, 2, 3, 4, 5, 6] rfl)
set_option maxHeartbeats 1000000 in
theorem pX3_bordered_44 (C : Cx E s0 b p s m args meth c cX3_bordered 7 "EarthMesh$Equations" (some .long)) (hI : Sx E) (v1 : Int32) (v2 : Int32) (v3 : Int32) (v4 : Int32) {Q : State → Prop} {v5 : Int32} {v6 : Int32} {st : St} {n : Nat} {r : St} (hx : iter (u3 fun v5 v6 st => fX3_bordered_44 v1 v2 v3 v4 v5 v6 st) n (v5, v6, st) = some r) (hE : (fun t => ∀ (H : Heap) (locs : List Loc) (ls : Array Slot), XH E (sg t) s H locs → lv_has ls 7 [(0, .ref (E.ad 6)), (1, .int v1), (2, .int v2), (3, .int v3), (4, .int v4)] → W p l e rmX3_bordered s m args below meth c H locs 0 0 Q (F0 m 92 ls [])) r) {H : Heap} {locs : List Loc} {ls : Array Slot} (h : XH E (sg st) s H locs) (hl : lv_has ls 7 [(0, .ref (E.ad 6)), (1, .int v1), (2, .int v2), (3, .int v3), (4, .int v4), (5, .int v5), (6, .int v6)]) : W p l e rmX3_bordered s m args below meth c H locs 0 0 Q (F0 m 44 ls []) := by
  refine iter_W (G := fun t => ∀ (H : Heap) (locs : List Loc) (ls : Array Slot), XH E (sg t.2.2) s H locs → lv_has ls 7 [(0, .ref (E.ad 6)), (1, .int v1), (2, .int v2), (3, .int v3), (4, .int v4), (5, .int t.1), (6, .int t.2.1)] → W p l e rmX3_bordered s m args below meth c H locs 0 0 Q (F0 m 44 ls [])) (E := fun t => ∀ (H : Heap) (locs : List Loc) (ls : Array Slot), XH E (sg t) s H locs → lv_has ls 7 [(0, .ref (E.ad 6)), (1, .int v1), (2, .int v2), (3, .int v3), (4, .int v4)] → W p l e rmX3_bordered s m args below meth c H locs 0 0 Q (F0 m 92 ls [])) (fun t x hx K H locs ls h hl => ?_) n _ r hx hE H locs ls h hl
  obtain ⟨v5, v6, st⟩ := t
  exact bX3_bordered_44 C hI v1 v2 v3 v4 v5 v6 st hx (fun _ _ _ z => z) (fun _ z => z) K h hl
def fX3_bordered (v1 : Int32) (v2 : Int32) (v3 : Int32) (st : St) : Option (Int64 × St) :=
  bd (iter (u2 fun z4 z5 => fX3_bordered_6 v1 v2 v3 z4 z5 st) FU ((0 : Int32), (0 : Int32))) (u1 fun v4_6 =>
  bd (iter (u3 fun z5 z6 zst => fX3_bordered_44 v1 v2 v3 v4_6 z5 z6 zst) FU ((0 : Int32), (0 : Int32), st)) (u1 fun st_13 =>
  if v2 = (-1 : Int32) then
    bd (fX4_of_20 v4_6 st_13) <| u2 fun r_18 st_18 =>
    some (r_18, st_18)
  else
    gd (inB v2 12) <|
    bd (fX3_laysRow v4_6 (st_13.1 50 v2.toNatClampNeg) v1 v4_6 v3 st_13) fun st_16 =>
    bd (fX4_of_20 (v4_6 + (1 : Int32)) st_16) <| u2 fun r_17 st_17 =>
    some (r_17, st_17)))
set_option maxHeartbeats 1000000 in
theorem bX3_bordered (C : Cx E s0 b p s m args meth c cX3_bordered 7 "EarthMesh$Equations" (some .long)) (hI : Sx E) (v1 : Int32) (v2 : Int32) (v3 : Int32) (st : St) {x : Int64 × St} (hx : fX3_bordered v1 v2 v3 st = some x) {H : Heap} {locs : List Loc} {ls : Array Slot} (h : XH E (sg st) s H locs) (hl : lv_has ls 7 [(0, .ref (E.ad 6)), (1, .int v1), (2, .int v2), (3, .int v3)]) : W p l e rmX3_bordered s m args below meth c H locs 0 0 (MQ below (Qx E (some (.long x.1)) (sg x.2)) args s 0 0 (gA E.HB)) (F0 m 0 ls []) := by
  unfold fX3_bordered at hx
  refine lv_iconst (v := (0 : Int32)) C.x C.bc dX3_bordered_0 (by decide) ?_
  refine lv_istore (lv' := [(4, .int (0 : Int32)), (0, .ref (E.ad 6)), (1, .int v1), (2, .int v2), (3, .int v3)]) C.x C.bc dX3_bordered_1 hl (by decide) rfl (fun ls hl => ?_)
  refine lv_iconst (v := (0 : Int32)) C.x C.bc dX3_bordered_3 (by decide) ?_
  refine lv_istore (lv' := [(5, .int (0 : Int32)), (4, .int (0 : Int32)), (0, .ref (E.ad 6)), (1, .int v1), (2, .int v2), (3, .int v3)]) C.x C.bc dX3_bordered_4 hl (by decide) rfl (fun ls hl => ?_)
  obtain ⟨v4_6, hi_6, hx⟩ := bd_e hx
  have hx := u1_e hx
  refine pX3_bordered_6 C hI v1 v2 v3 st hi_6 (fun H locs ls h hl => ?_) h (lv_sub hl [2, 3, 4, 5, 1, 0] rfl)
  refine lv_iconst (v := (0 : Int32)) C.x C.bc dX3_bordered_38 (by decide) ?_
  refine lv_istore (lv' := [(5, .int (0 : Int32)), (0, .ref (E.ad 6)), (1, .int v1), (2, .int v2), (3, .int v3), (4, .int v4_6)]) C.x C.bc dX3_bordered_39 hl (by decide) rfl (fun ls hl => ?_)
  refine lv_iconst (v := (0 : Int32)) C.x C.bc dX3_bordered_41 (by decide) ?_
  refine lv_istore (lv' := [(6, .int (0 : Int32)), (5, .int (0 : Int32)), (0, .ref (E.ad 6)), (1, .int v1), (2, .int v2), (3, .int v3), (4, .int v4_6)]) C.x C.bc dX3_bordered_42 hl (by decide) rfl (fun ls hl => ?_)
  obtain ⟨st_13, hi_13, hx⟩ := bd_e hx
  have hx := u1_e hx
  refine pX3_bordered_44 C hI v1 v2 v3 v4_6 hi_13 (fun H locs ls h hl => ?_) h (lv_sub hl [2, 3, 4, 5, 6, 1, 0] rfl)
  refine lv_iload_n C.x C.bc dX3_bordered_92 rfl (lv_at hl 2 rfl) ?_
  refine lv_iconst (v := (-1 : Int32)) C.x C.bc dX3_bordered_93 (by decide) ?_
  refine lv_icmp_ne (tgt := 111) C.x C.bc dX3_bordered_94 (by decide) (fun c_14 => ?_) (fun c_14 => ?_)
  · have hx := ge_f hx c_14
    refine lv_aload_n C.x C.bc dX3_bordered_111 rfl (lv_at hl 0 rfl) ?_
    refine lv_iload C.x C.bc dX3_bordered_112 (lv_at hl 4 rfl) ?_
    refine lv_aload_n C.x C.bc dX3_bordered_114 rfl (lv_at hl 0 rfl) ?_
    refine gt_X3_34_6 C hI h dX3_bordered_115 ?_
    refine lv_iload_n C.x C.bc dX3_bordered_118 rfl (lv_at hl 2 rfl) ?_
    obtain ⟨g_15, hx⟩ := gd_e hx
    refine x_iald C h 50 12 (hI 50 (by decide)) k_50 g_15 dX3_bordered_119 ?_
    refine lv_iload_n C.x C.bc dX3_bordered_120 rfl (lv_at hl 1 rfl) ?_
    refine lv_iload C.x C.bc dX3_bordered_121 (lv_at hl 4 rfl) ?_
    refine lv_iload_n C.x C.bc dX3_bordered_123 rfl (lv_at hl 3 rfl) ?_
    obtain ⟨st_16, hf_16, hx⟩ := bd_e hx
    refine cX3_79_X3_laysRow C hI h hf_16 ⟨Nat.le_of_ble_eq_true rfl, Nat.le_of_ble_eq_true rfl⟩ ⟨Nat.zero_le _, Nat.zero_le _⟩ hl.1 (Nat.le_of_ble_eq_true rfl) dX3_bordered_124 (fun H locs h => ?_)
    refine lv_aload_n C.x C.bc dX3_bordered_127 rfl (lv_at hl 0 rfl) ?_
    refine gt_X3_26_6 C hI h dX3_bordered_128 ?_
    refine lv_aload_n C.x C.bc dX3_bordered_131 rfl (lv_at hl 0 rfl) ?_
    refine gt_X3_20_6 C hI h dX3_bordered_132 ?_
    refine lv_iload C.x C.bc dX3_bordered_135 (lv_at hl 4 rfl) ?_
    refine lv_iconst (v := (1 : Int32)) C.x C.bc dX3_bordered_137 (by decide) ?_
    refine lv_iadd C.x C.bc dX3_bordered_138 ?_
    obtain ⟨⟨r_17, st_17⟩, hf_17, hx⟩ := bd_e hx
    have hx := u2_e hx
    refine cX3_63_X4_of_20 C hI h hf_17 ⟨Nat.le_of_ble_eq_true rfl, Nat.le_of_ble_eq_true rfl⟩ ⟨Nat.zero_le _, Nat.zero_le _⟩ hl.1 (Nat.le_of_ble_eq_true rfl) dX3_bordered_139 (fun H locs h => ?_)
    obtain rfl := Option.some.inj hx
    exact x_lret C h dX3_bordered_142
  · have hx := ge_t hx c_14
    refine lv_aload_n C.x C.bc dX3_bordered_97 rfl (lv_at hl 0 rfl) ?_
    refine gt_X3_26_6 C hI h dX3_bordered_98 ?_
    refine lv_aload_n C.x C.bc dX3_bordered_101 rfl (lv_at hl 0 rfl) ?_
    refine gt_X3_20_6 C hI h dX3_bordered_102 ?_
    refine lv_iload C.x C.bc dX3_bordered_105 (lv_at hl 4 rfl) ?_
    obtain ⟨⟨r_18, st_18⟩, hf_18, hx⟩ := bd_e hx
    have hx := u2_e hx
    refine cX3_63_X4_of_20 C hI h hf_18 ⟨Nat.le_of_ble_eq_true rfl, Nat.le_of_ble_eq_true rfl⟩ ⟨Nat.zero_le _, Nat.zero_le _⟩ hl.1 (Nat.le_of_ble_eq_true rfl) dX3_bordered_107 (fun H locs h => ?_)
    obtain rfl := Option.some.inj hx
    exact x_lret C h dX3_bordered_110
theorem mX3_bordered (hG : G0 E s0 b) (hI : Sx E) {v1 : Int32} {v2 : Int32} {v3 : Int32} {x : Int64 × St} (hx : fX3_bordered v1 v2 v3 st = some x) : Mt l E s0 yX3_bordered cX3_bordered 7 (some .long) rmX3_bordered [.ref (E.ad 6), .int v1, .int v2, .int v3] (sg st) (some (.long x.1)) E (sg x.2) :=
  Mt.of hG (by decide) (Nat.le_of_ble_eq_true rfl) (fun p e s m below meth c ls C h hl => bX3_bordered C hI v1 v2 v3 st hx h hl)
theorem cX1_415_X3_bordered {a0 : Int32} {a1 : Int32} {a2 : Int32} {r : Int64} {st' : St} (C : Cx E s0 b p s m args meth c cc nL "EarthMesh" rt) (hI : Sx E) (h : XH E (sg st) s H locs) (hf : fX3_bordered a0 a1 a2 st = some (r, st')) (hR : rmX3_bordered.frames + 1 ≤ R.frames ∧ 16 + (7 + 11) + rmX3_bordered.locals ≤ R.locals) (h0 : cells ≤ R.cells ∧ slots ≤ R.slots) (hsz : ls.size = nL) (hcat : (rest.map fun v => v.category).sum ≤ 16) (hdg : decode cc pc = .ok (.invokevirtual 415, 3)) (kk : ∀ (H : Heap) (locs : List Loc), XH E (sg st') s H locs → W p l e R s m args below meth c H locs cells slots Q (F0 m (pc + 3) ls (.long r :: rest))) : W p l e R s m args below meth c H locs cells slots Q (F0 m pc ls (.int a2 :: .int a1 :: .int a0 :: .ref (E.ad 6) :: rest)) :=
  x_callV (n := 3) (As := [.int a0, .int a1, .int a2]) C h 6 2 (hI 6 (by decide)) k_6 rfl (mX3_bordered C.g hI hf) (lw_V q1555 q1556 q1557 q132 q1558) ⟨rfl, by decide +kernel, by decide +kernel, by decide +kernel⟩ hR ⟨rfl, rfl⟩ h0 rfl hsz rfl hcat hdg kk
end
