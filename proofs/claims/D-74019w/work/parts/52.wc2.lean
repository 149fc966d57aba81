set_option maxRecDepth 100000
section
variable {p : Program} {l : Launch} {e : Env} {R : Room} {s : State} {m : MethodId} {args : Array Value} {below : List Frame} {meth : Method} {c : Code} {H : Heap} {locs : List Loc} {cells slots : Nat} {Q : State → Prop}
variable {cc : ByteArray} {pc : Nat} {ls : Array Slot} {rest : List Value} {E : Wd} {s0 : State} {b nL : Nat} {rt : Option FieldType} {g st : St}
abbrev rmX1_pointColumns : Room := { frames := 0, cells := 0, slots := 0, locals := 0 }
def fX1_pointColumns (st : St) : Int32 :=
  (((2 : Int32) * (st.1 1 0)) - (1 : Int32))
set_option maxHeartbeats 1000000 in
theorem bX1_pointColumns (C : Cx E s0 b p s m args meth c cX1_pointColumns 1 "EarthMesh" (some .int)) (hI : Sx E) (st : St) {x : Int32} (hx : fX1_pointColumns st = x) {H : Heap} {locs : List Loc} {ls : Array Slot} (h : XH E (sg st) s H locs) (hl : lv_has ls 1 [(0, .ref (E.ad 0))]) : W p l e rmX1_pointColumns s m args below meth c H locs 0 0 (MQ below (Qx E (some (.int x)) (sg st)) args s 0 0 (gA E.HB)) (F0 m 0 ls []) := by
  unfold fX1_pointColumns at hx
  refine lv_iconst (v := (2 : Int32)) C.x C.bc dX1_pointColumns_0 (by decide) ?_
  refine lv_aload_n C.x C.bc dX1_pointColumns_1 rfl (lv_at hl 0 rfl) ?_
  refine gt_X1_1_0 C hI h dX1_pointColumns_2 ?_
  refine gt_X1_77_1 C hI h dX1_pointColumns_5 ?_
  refine lv_imul C.x C.bc dX1_pointColumns_8 ?_
  refine lv_iconst (v := (1 : Int32)) C.x C.bc dX1_pointColumns_9 (by decide) ?_
  refine lv_isub C.x C.bc dX1_pointColumns_10 ?_
  subst hx
  exact x_iret C h dX1_pointColumns_11
theorem mX1_pointColumns (hG : G0 E s0 b) (hI : Sx E)  {x : Int32} (hx : fX1_pointColumns st = x) : Mt l E s0 yX1_pointColumns cX1_pointColumns 1 (some .int) rmX1_pointColumns [.ref (E.ad 0)] (sg st) (some (.int x)) E (sg st) :=
  Mt.of hG (by decide) (Nat.le_of_ble_eq_true rfl) (fun p e s m below meth c ls C h hl => bX1_pointColumns C hI st hx h hl)
theorem cX1_80_X1_pointColumns  {r : Int32} (C : Cx E s0 b p s m args meth c cc nL "EarthMesh" rt) (hI : Sx E) (h : XH E (sg st) s H locs) (hf : fX1_pointColumns st = r) (hR : rmX1_pointColumns.frames + 1 ≤ R.frames ∧ 16 + (1 + 11) + rmX1_pointColumns.locals ≤ R.locals) (h0 : cells ≤ R.cells ∧ slots ≤ R.slots) (hsz : ls.size = nL) (hcat : (rest.map fun v => v.category).sum ≤ 16) (hdg : decode cc pc = .ok (.invokevirtual 80, 3)) (kk : ∀ (H : Heap) (locs : List Loc), XH E (sg st) s H locs → W p l e R s m args below meth c H locs cells slots Q (F0 m (pc + 3) ls (.int r :: rest))) : W p l e R s m args below meth c H locs cells slots Q (F0 m pc ls (.ref (E.ad 0) :: rest)) :=
  x_callV (n := 0) (As := []) C h 0 0 (hI 0 (by decide)) k_0 rfl (mX1_pointColumns C.g hI hf) (lw_V q316 q318 qs3 q130 q319) ⟨rfl, by decide +kernel, by decide +kernel, by decide +kernel⟩ hR ⟨rfl, rfl⟩ h0 rfl hsz rfl hcat hdg kk
abbrev rmX1_points : Room := { frames := 1, cells := 0, slots := 0, locals := 28 }
def fX1_points (st : St) : Int32 :=
  nm (fX1_pointColumns st) fun r_1 =>
  (r_1 * (((2 : Int32) * (st.1 1 1)) - (1 : Int32)))
set_option maxHeartbeats 1000000 in
theorem bX1_points (C : Cx E s0 b p s m args meth c cX1_points 1 "EarthMesh" (some .int)) (hI : Sx E) (st : St) {x : Int32} (hx : fX1_points st = x) {H : Heap} {locs : List Loc} {ls : Array Slot} (h : XH E (sg st) s H locs) (hl : lv_has ls 1 [(0, .ref (E.ad 0))]) : W p l e rmX1_points s m args below meth c H locs 0 0 (MQ below (Qx E (some (.int x)) (sg st)) args s 0 0 (gA E.HB)) (F0 m 0 ls []) := by
  unfold fX1_points at hx
  refine lv_aload_n C.x C.bc dX1_points_0 rfl (lv_at hl 0 rfl) ?_
  obtain ⟨r_1, e_1, hx⟩ := nm_x hx
  refine cX1_80_X1_pointColumns C hI h e_1.symm ⟨Nat.le_of_ble_eq_true rfl, Nat.le_of_ble_eq_true rfl⟩ ⟨Nat.zero_le _, Nat.zero_le _⟩ hl.1 (Nat.le_of_ble_eq_true rfl) dX1_points_1 (fun H locs h => ?_)
  refine lv_iconst (v := (2 : Int32)) C.x C.bc dX1_points_4 (by decide) ?_
  refine lv_aload_n C.x C.bc dX1_points_5 rfl (lv_at hl 0 rfl) ?_
  refine gt_X1_1_0 C hI h dX1_points_6 ?_
  refine gt_X1_83_1 C hI h dX1_points_9 ?_
  refine lv_imul C.x C.bc dX1_points_12 ?_
  refine lv_iconst (v := (1 : Int32)) C.x C.bc dX1_points_13 (by decide) ?_
  refine lv_isub C.x C.bc dX1_points_14 ?_
  refine lv_imul C.x C.bc dX1_points_15 ?_
  subst hx
  exact x_iret C h dX1_points_16
theorem mX1_points (hG : G0 E s0 b) (hI : Sx E)  {x : Int32} (hx : fX1_points st = x) : Mt l E s0 yX1_points cX1_points 1 (some .int) rmX1_points [.ref (E.ad 0)] (sg st) (some (.int x)) E (sg st) :=
  Mt.of hG (by decide) (Nat.le_of_ble_eq_true rfl) (fun p e s m below meth c ls C h hl => bX1_points C hI st hx h hl)
theorem cX1_122_X1_points  {r : Int32} (C : Cx E s0 b p s m args meth c cc nL "EarthMesh" rt) (hI : Sx E) (h : XH E (sg st) s H locs) (hf : fX1_points st = r) (hR : rmX1_points.frames + 1 ≤ R.frames ∧ 16 + (1 + 11) + rmX1_points.locals ≤ R.locals) (h0 : cells ≤ R.cells ∧ slots ≤ R.slots) (hsz : ls.size = nL) (hcat : (rest.map fun v => v.category).sum ≤ 16) (hdg : decode cc pc = .ok (.invokevirtual 122, 3)) (kk : ∀ (H : Heap) (locs : List Loc), XH E (sg st) s H locs → W p l e R s m args below meth c H locs cells slots Q (F0 m (pc + 3) ls (.int r :: rest))) : W p l e R s m args below meth c H locs cells slots Q (F0 m pc ls (.ref (E.ad 0) :: rest)) :=
  x_callV (n := 0) (As := []) C h 0 0 (hI 0 (by decide)) k_0 rfl (mX1_points C.g hI hf) (lw_V q1209 q1211 qs34 q130 q1212) ⟨rfl, by decide +kernel, by decide +kernel, by decide +kernel⟩ hR ⟨rfl, rfl⟩ h0 rfl hsz rfl hcat hdg kk
abbrev rmX1_nearest : Room := { frames := 1, cells := 0, slots := 0, locals := 28 }
def fX1_nearest (v1 : Int32) (v2 : Int32) (st : St) : Option (Int32) :=
  nm (fX1_pointColumns st) fun r_1 =>
  gd (¬ r_1 = 0) <|
  nm (jrem v1 r_1) fun v3_3 =>
  nm (fX1_pointColumns st) fun r_4 =>
  gd (¬ r_4 = 0) <|
  nm (v1 / r_4) fun v4_6 =>
  some ((((v4_6 + (v2 / (2 : Int32))) / (2 : Int32)) * (st.1 1 0)) + ((v3_3 + (jrem v2 (2 : Int32))) / (2 : Int32)))
set_option maxHeartbeats 1000000 in
theorem bX1_nearest (C : Cx E s0 b p s m args meth c cX1_nearest 5 "EarthMesh" (some .int)) (hI : Sx E) (v1 : Int32) (v2 : Int32) (st : St) {x : Int32} (hx : fX1_nearest v1 v2 st = some x) {H : Heap} {locs : List Loc} {ls : Array Slot} (h : XH E (sg st) s H locs) (hl : lv_has ls 5 [(0, .ref (E.ad 0)), (1, .int v1), (2, .int v2)]) : W p l e rmX1_nearest s m args below meth c H locs 0 0 (MQ below (Qx E (some (.int x)) (sg st)) args s 0 0 (gA E.HB)) (F0 m 0 ls []) := by
  unfold fX1_nearest at hx
  refine lv_iload_n C.x C.bc dX1_nearest_0 rfl (lv_at hl 1 rfl) ?_
  refine lv_aload_n C.x C.bc dX1_nearest_1 rfl (lv_at hl 0 rfl) ?_
  obtain ⟨r_1, e_1, hx⟩ := nm_x hx
  refine cX1_80_X1_pointColumns C hI h e_1.symm ⟨Nat.le_of_ble_eq_true rfl, Nat.le_of_ble_eq_true rfl⟩ ⟨Nat.zero_le _, Nat.zero_le _⟩ hl.1 (Nat.le_of_ble_eq_true rfl) dX1_nearest_2 (fun H locs h => ?_)
  obtain ⟨g_2, hx⟩ := gd_e hx
  refine y_irem C.x C.bc dX1_nearest_5 g_2 ?_
  obtain ⟨v3_3, e_3, hx⟩ := nm_x hx
  refine x_ti e_3 ?_
  refine lv_istore_n (lv' := [(3, .int v3_3), (0, .ref (E.ad 0)), (1, .int v1), (2, .int v2)]) C.x C.bc dX1_nearest_6 rfl hl (by decide) rfl (fun ls hl => ?_)
  refine lv_iload_n C.x C.bc dX1_nearest_7 rfl (lv_at hl 2 rfl) ?_
  refine lv_aload_n C.x C.bc dX1_nearest_8 rfl (lv_at hl 1 rfl) ?_
  obtain ⟨r_4, e_4, hx⟩ := nm_x hx
  refine cX1_80_X1_pointColumns C hI h e_4.symm ⟨Nat.le_of_ble_eq_true rfl, Nat.le_of_ble_eq_true rfl⟩ ⟨Nat.zero_le _, Nat.zero_le _⟩ hl.1 (Nat.le_of_ble_eq_true rfl) dX1_nearest_9 (fun H locs h => ?_)
  obtain ⟨g_5, hx⟩ := gd_e hx
  refine lv_idiv C.x C.bc dX1_nearest_12 g_5 ?_
  obtain ⟨v4_6, e_6, hx⟩ := nm_x hx
  refine x_ti e_6 ?_
  refine lv_istore (lv' := [(4, .int v4_6), (3, .int v3_3), (0, .ref (E.ad 0)), (1, .int v1), (2, .int v2)]) C.x C.bc dX1_nearest_13 hl (by decide) rfl (fun ls hl => ?_)
  refine lv_iload C.x C.bc dX1_nearest_15 (lv_at hl 0 rfl) ?_
  refine lv_iload_n C.x C.bc dX1_nearest_17 rfl (lv_at hl 4 rfl) ?_
  refine lv_iconst (v := (2 : Int32)) C.x C.bc dX1_nearest_18 (by decide) ?_
  refine lv_idiv C.x C.bc dX1_nearest_19 (by decide) ?_
  refine lv_iadd C.x C.bc dX1_nearest_20 ?_
  refine lv_iconst (v := (2 : Int32)) C.x C.bc dX1_nearest_21 (by decide) ?_
  refine lv_idiv C.x C.bc dX1_nearest_22 (by decide) ?_
  refine lv_aload_n C.x C.bc dX1_nearest_23 rfl (lv_at hl 2 rfl) ?_
  refine gt_X1_1_0 C hI h dX1_nearest_24 ?_
  refine gt_X1_77_1 C hI h dX1_nearest_27 ?_
  refine lv_imul C.x C.bc dX1_nearest_30 ?_
  refine lv_iload_n C.x C.bc dX1_nearest_31 rfl (lv_at hl 1 rfl) ?_
  refine lv_iload_n C.x C.bc dX1_nearest_32 rfl (lv_at hl 4 rfl) ?_
  refine lv_iconst (v := (2 : Int32)) C.x C.bc dX1_nearest_33 (by decide) ?_
  refine y_irem C.x C.bc dX1_nearest_34 (by decide) ?_
  refine lv_iadd C.x C.bc dX1_nearest_35 ?_
  refine lv_iconst (v := (2 : Int32)) C.x C.bc dX1_nearest_36 (by decide) ?_
  refine lv_idiv C.x C.bc dX1_nearest_37 (by decide) ?_
  refine lv_iadd C.x C.bc dX1_nearest_38 ?_
  obtain rfl := Option.some.inj hx
  exact x_iret C h dX1_nearest_39
theorem mX1_nearest (hG : G0 E s0 b) (hI : Sx E) {v1 : Int32} {v2 : Int32} {x : Int32} (hx : fX1_nearest v1 v2 st = some x) : Mt l E s0 yX1_nearest cX1_nearest 5 (some .int) rmX1_nearest [.ref (E.ad 0), .int v1, .int v2] (sg st) (some (.int x)) E (sg st) :=
  Mt.of hG (by decide) (Nat.le_of_ble_eq_true rfl) (fun p e s m below meth c ls C h hl => bX1_nearest C hI v1 v2 st hx h hl)
theorem cX1_86_X1_nearest {a0 : Int32} {a1 : Int32} {r : Int32} (C : Cx E s0 b p s m args meth c cc nL "EarthMesh" rt) (hI : Sx E) (h : XH E (sg st) s H locs) (hf : fX1_nearest a0 a1 st = some r) (hR : rmX1_nearest.frames + 1 ≤ R.frames ∧ 16 + (5 + 11) + rmX1_nearest.locals ≤ R.locals) (h0 : cells ≤ R.cells ∧ slots ≤ R.slots) (hsz : ls.size = nL) (hcat : (rest.map fun v => v.category).sum ≤ 16) (hdg : decode cc pc = .ok (.invokevirtual 86, 3)) (kk : ∀ (H : Heap) (locs : List Loc), XH E (sg st) s H locs → W p l e R s m args below meth c H locs cells slots Q (F0 m (pc + 3) ls (.int r :: rest))) : W p l e R s m args below meth c H locs cells slots Q (F0 m pc ls (.int a1 :: .int a0 :: .ref (E.ad 0) :: rest)) :=
  x_callV (n := 2) (As := [.int a0, .int a1]) C h 0 0 (hI 0 (by decide)) k_0 rfl (mX1_nearest C.g hI hf) (lw_V q328 q330 qs6 q130 q331) ⟨rfl, by decide +kernel, by decide +kernel, by decide +kernel⟩ hR ⟨rfl, rfl⟩ h0 rfl hsz rfl hcat hdg kk
abbrev rmX1_ground : Room := { frames := 2, cells := 0, slots := 0, locals := 60 }
def fX1_ground_5 (v1 : Int32) (v2 : Int64) (v4 : Int32) (st : St) : Option ((Int64 × Int32) ⊕ (Int64)) :=
  if (4 : Int32) ≤ v4 then
    some (.inr v2)
  else
    bd (fX1_nearest v1 v4 st) fun r_2 =>
    gd (inB r_2 12) <|
    nm (v2 + (st.2.1 52 r_2.toNatClampNeg)) fun v2_4 =>
    nm (v4 + (1 : Int32)) fun v4_5 =>
    some (.inl (v2_4, v4_5))
set_option maxHeartbeats 1000000 in
theorem bX1_ground_5 (C : Cx E s0 b p s m args meth c cX1_ground 5 "EarthMesh" (some .long)) (hI : Sx E) (v1 : Int32) (v2 : Int64) (v4 : Int32) (st : St) {x : (Int64 × Int32) ⊕ (Int64)} (hx : fX1_ground_5 v1 v2 v4 st = some x) {Q : State → Prop} {G : Int64 × Int32 → Prop} {X : Int64 → Prop} (hG : ∀ (w2 : Int64) (w4 : Int32), G (w2, w4) → ∀ (H : Heap) (locs : List Loc) (ls : Array Slot), XH E (sg st) s H locs → lv_has ls 5 [(0, .ref (E.ad 0)), (1, .int v1), (2, .long w2), (4, .int w4)] → W p l e rmX1_ground s m args below meth c H locs 0 0 Q (F0 m 5 ls [])) (hE0 : ∀ (w2 : Int64), X w2 → ∀ (H : Heap) (locs : List Loc) (ls : Array Slot), XH E (sg st) s H locs → lv_has ls 5 [(0, .ref (E.ad 0)), (2, .long w2)] → W p l e rmX1_ground s m args below meth c H locs 0 0 Q (F0 m 32 ls [])) (K : Kx G X x) {H : Heap} {locs : List Loc} {ls : Array Slot} (h : XH E (sg st) s H locs) (hl : lv_has ls 5 [(0, .ref (E.ad 0)), (1, .int v1), (2, .long v2), (4, .int v4)]) : W p l e rmX1_ground s m args below meth c H locs 0 0 Q (F0 m 5 ls []) := by
  unfold fX1_ground_5 at hx
  refine lv_iload C.x C.bc dX1_ground_5 (lv_at hl 3 rfl) ?_
  refine lv_iconst (v := (4 : Int32)) C.x C.bc dX1_ground_7 (by decide) ?_
  refine lv_icmp_ge (tgt := 32) C.x C.bc dX1_ground_8 (by decide) (fun c_1 => ?_) (fun c_1 => ?_)
  · have hx := ge_t hx c_1
    obtain rfl := Option.some.inj hx
    exact hE0 _ K _ _ _ h (lv_sub hl [0, 2] rfl)
  · have hx := ge_f hx c_1
    refine lv_lload_n C.x C.bc dX1_ground_11 rfl (lv_at hl 2 rfl) ?_
    refine lv_aload_n C.x C.bc dX1_ground_12 rfl (lv_at hl 0 rfl) ?_
    refine gt_X1_47_0 C hI h dX1_ground_13 ?_
    refine lv_aload_n C.x C.bc dX1_ground_16 rfl (lv_at hl 0 rfl) ?_
    refine lv_iload_n C.x C.bc dX1_ground_17 rfl (lv_at hl 1 rfl) ?_
    refine lv_iload C.x C.bc dX1_ground_18 (lv_at hl 3 rfl) ?_
    obtain ⟨r_2, hf_2, hx⟩ := bd_e hx
    refine cX1_86_X1_nearest C hI h hf_2 ⟨Nat.le_of_ble_eq_true rfl, Nat.le_of_ble_eq_true rfl⟩ ⟨Nat.zero_le _, Nat.zero_le _⟩ hl.1 (Nat.le_of_ble_eq_true rfl) dX1_ground_20 (fun H locs h => ?_)
    obtain ⟨g_3, hx⟩ := gd_e hx
    refine x_lald C h 52 12 (hI 52 (by decide)) k_52 g_3 dX1_ground_23 ?_
    refine lv_ladd C.x C.bc dX1_ground_24 ?_
    obtain ⟨v2_4, e_4, hx⟩ := nm_x hx
    refine x_tl e_4 ?_
    refine lv_lstore_n (lv' := [(2, .long v2_4), (0, .ref (E.ad 0)), (1, .int v1), (4, .int v4)]) C.x C.bc dX1_ground_25 rfl hl (by decide) rfl (fun ls hl => ?_)
    obtain ⟨v4_5, e_5, hx⟩ := nm_x hx
    refine lv_iinc (v := v4_5) (lv' := [(4, .int v4_5), (2, .long v2_4), (0, .ref (E.ad 0)), (1, .int v1)]) C.x C.bc dX1_ground_26 hl (k := 3) rfl (by rw [e_5]; rfl) (by decide) rfl (fun ls hl => ?_)
    refine lv_goto (tgt := 5) C.x C.bc dX1_ground_29 (by decide) ?_
    obtain rfl := Option.some.inj hx
    exact hG _ _ K _ _ _ h (lv_sub hl [2, 3, 1, 0] rfl)
set_option maxHeartbeats 1000000 in
theorem pX1_ground_5 (C : Cx E s0 b p s m args meth c cX1_ground 5 "EarthMesh" (some .long)) (hI : Sx E) (v1 : Int32) (st : St) {Q : State → Prop} {v2 : Int64} {v4 : Int32} {n : Nat} {r : Int64} (hx : iter (u2 fun v2 v4 => fX1_ground_5 v1 v2 v4 st) n (v2, v4) = some r) (hE : (fun t => ∀ (H : Heap) (locs : List Loc) (ls : Array Slot), XH E (sg st) s H locs → lv_has ls 5 [(0, .ref (E.ad 0)), (2, .long t)] → W p l e rmX1_ground s m args below meth c H locs 0 0 Q (F0 m 32 ls [])) r) {H : Heap} {locs : List Loc} {ls : Array Slot} (h : XH E (sg st) s H locs) (hl : lv_has ls 5 [(0, .ref (E.ad 0)), (1, .int v1), (2, .long v2), (4, .int v4)]) : W p l e rmX1_ground s m args below meth c H locs 0 0 Q (F0 m 5 ls []) := by
  refine iter_W (G := fun t => ∀ (H : Heap) (locs : List Loc) (ls : Array Slot), XH E (sg st) s H locs → lv_has ls 5 [(0, .ref (E.ad 0)), (1, .int v1), (2, .long t.1), (4, .int t.2)] → W p l e rmX1_ground s m args below meth c H locs 0 0 Q (F0 m 5 ls [])) (E := fun t => ∀ (H : Heap) (locs : List Loc) (ls : Array Slot), XH E (sg st) s H locs → lv_has ls 5 [(0, .ref (E.ad 0)), (2, .long t)] → W p l e rmX1_ground s m args below meth c H locs 0 0 Q (F0 m 32 ls [])) (fun t x hx K H locs ls h hl => ?_) n _ r hx hE H locs ls h hl
  obtain ⟨v2, v4⟩ := t
  exact bX1_ground_5 C hI v1 v2 v4 st hx (fun _ _ z => z) (fun _ z => z) K h hl
def fX1_ground (v1 : Int32) (st : St) : Option (Int64) :=
  bd (iter (u2 fun z2 z4 => fX1_ground_5 v1 z2 z4 st) FU ((0 : Int64), (0 : Int32))) (u1 fun v2_6 =>
  some (v2_6 * ((st.1 1 4).toInt64)))
set_option maxHeartbeats 1000000 in
theorem bX1_ground (C : Cx E s0 b p s m args meth c cX1_ground 5 "EarthMesh" (some .long)) (hI : Sx E) (v1 : Int32) (st : St) {x : Int64} (hx : fX1_ground v1 st = some x) {H : Heap} {locs : List Loc} {ls : Array Slot} (h : XH E (sg st) s H locs) (hl : lv_has ls 5 [(0, .ref (E.ad 0)), (1, .int v1)]) : W p l e rmX1_ground s m args below meth c H locs 0 0 (MQ below (Qx E (some (.long x)) (sg st)) args s 0 0 (gA E.HB)) (F0 m 0 ls []) := by
  unfold fX1_ground at hx
  refine lv_lconst (v := (0 : Int64)) C.x C.bc dX1_ground_0 (by decide) ?_
  refine lv_lstore_n (lv' := [(2, .long (0 : Int64)), (0, .ref (E.ad 0)), (1, .int v1)]) C.x C.bc dX1_ground_1 rfl hl (by decide) rfl (fun ls hl => ?_)
  refine lv_iconst (v := (0 : Int32)) C.x C.bc dX1_ground_2 (by decide) ?_
  refine lv_istore (lv' := [(4, .int (0 : Int32)), (2, .long (0 : Int64)), (0, .ref (E.ad 0)), (1, .int v1)]) C.x C.bc dX1_ground_3 hl (by decide) rfl (fun ls hl => ?_)
  obtain ⟨v2_6, hi_6, hx⟩ := bd_e hx
  have hx := u1_e hx
  refine pX1_ground_5 C hI v1 st hi_6 (fun H locs ls h hl => ?_) h (lv_sub hl [2, 3, 1, 0] rfl)
  refine lv_lload_n C.x C.bc dX1_ground_32 rfl (lv_at hl 1 rfl) ?_
  refine lv_aload_n C.x C.bc dX1_ground_33 rfl (lv_at hl 0 rfl) ?_
  refine gt_X1_1_0 C hI h dX1_ground_34 ?_
  refine gt_X1_90_1 C hI h dX1_ground_37 ?_
  refine lv_i2l (v := ((st.1 1 4).toInt64)) C.x C.bc dX1_ground_40 rfl ?_
  refine lv_lmul C.x C.bc dX1_ground_41 ?_
  obtain rfl := Option.some.inj hx
  exact x_lret C h dX1_ground_42
theorem mX1_ground (hG : G0 E s0 b) (hI : Sx E) {v1 : Int32} {x : Int64} (hx : fX1_ground v1 st = some x) : Mt l E s0 yX1_ground cX1_ground 5 (some .long) rmX1_ground [.ref (E.ad 0), .int v1] (sg st) (some (.long x)) E (sg st) :=
  Mt.of hG (by decide) (Nat.le_of_ble_eq_true rfl) (fun p e s m below meth c ls C h hl => bX1_ground C hI v1 st hx h hl)
theorem cX1_101_X1_ground {a0 : Int32} {r : Int64} (C : Cx E s0 b p s m args meth c cc nL "EarthMesh" rt) (hI : Sx E) (h : XH E (sg st) s H locs) (hf : fX1_ground a0 st = some r) (hR : rmX1_ground.frames + 1 ≤ R.frames ∧ 16 + (5 + 11) + rmX1_ground.locals ≤ R.locals) (h0 : cells ≤ R.cells ∧ slots ≤ R.slots) (hsz : ls.size = nL) (hcat : (rest.map fun v => v.category).sum ≤ 16) (hdg : decode cc pc = .ok (.invokevirtual 101, 3)) (kk : ∀ (H : Heap) (locs : List Loc), XH E (sg st) s H locs → W p l e R s m args below meth c H locs cells slots Q (F0 m (pc + 3) ls (.long r :: rest))) : W p l e R s m args below meth c H locs cells slots Q (F0 m pc ls (.int a0 :: .ref (E.ad 0) :: rest)) :=
  x_callV (n := 1) (As := [.int a0]) C h 0 0 (hI 0 (by decide)) k_0 rfl (mX1_ground C.g hI hf) (lw_V q324 q326 qs5 q130 q327) ⟨rfl, by decide +kernel, by decide +kernel, by decide +kernel⟩ hR ⟨rfl, rfl⟩ h0 rfl hsz rfl hcat hdg kk
abbrev rmX1_touch : Room := { frames := 3, cells := 0, slots := 0, locals := 92 }
def fX1_touch_5 (v1 : Int32) (v2 : Int64) (v4 : Int32) (st : St) : Option ((Int64 × Int32) ⊕ (Int64)) :=
  if (4 : Int32) ≤ v4 then
    some (.inr v2)
  else
    bd (fX1_nearest v1 v4 st) fun r_2 =>
    gd (inB r_2 12) <|
    nm (jmaxl v2 (st.2.1 52 r_2.toNatClampNeg)) fun v2_4 =>
    nm (v4 + (1 : Int32)) fun v4_5 =>
    some (.inl (v2_4, v4_5))
set_option maxHeartbeats 1000000 in
theorem bX1_touch_5 (C : Cx E s0 b p s m args meth c cX1_touch 5 "EarthMesh" (some .long)) (hI : Sx E) (v1 : Int32) (v2 : Int64) (v4 : Int32) (st : St) {x : (Int64 × Int32) ⊕ (Int64)} (hx : fX1_touch_5 v1 v2 v4 st = some x) {Q : State → Prop} {G : Int64 × Int32 → Prop} {X : Int64 → Prop} (hG : ∀ (w2 : Int64) (w4 : Int32), G (w2, w4) → ∀ (H : Heap) (locs : List Loc) (ls : Array Slot), XH E (sg st) s H locs → lv_has ls 5 [(0, .ref (E.ad 0)), (1, .int v1), (2, .long w2), (4, .int w4)] → W p l e rmX1_touch s m args below meth c H locs 0 0 Q (F0 m 5 ls [])) (hE0 : ∀ (w2 : Int64), X w2 → ∀ (H : Heap) (locs : List Loc) (ls : Array Slot), XH E (sg st) s H locs → lv_has ls 5 [(0, .ref (E.ad 0)), (1, .int v1), (2, .long w2)] → W p l e rmX1_touch s m args below meth c H locs 0 0 Q (F0 m 34 ls [])) (K : Kx G X x) {H : Heap} {locs : List Loc} {ls : Array Slot} (h : XH E (sg st) s H locs) (hl : lv_has ls 5 [(0, .ref (E.ad 0)), (1, .int v1), (2, .long v2), (4, .int v4)]) : W p l e rmX1_touch s m args below meth c H locs 0 0 Q (F0 m 5 ls []) := by
  unfold fX1_touch_5 at hx
  refine lv_iload C.x C.bc dX1_touch_5 (lv_at hl 3 rfl) ?_
  refine lv_iconst (v := (4 : Int32)) C.x C.bc dX1_touch_7 (by decide) ?_
  refine lv_icmp_ge (tgt := 34) C.x C.bc dX1_touch_8 (by decide) (fun c_1 => ?_) (fun c_1 => ?_)
  · have hx := ge_t hx c_1
    obtain rfl := Option.some.inj hx
    exact hE0 _ K _ _ _ h (lv_sub hl [0, 1, 2] rfl)
  · have hx := ge_f hx c_1
    refine lv_lload_n C.x C.bc dX1_touch_11 rfl (lv_at hl 2 rfl) ?_
    refine lv_aload_n C.x C.bc dX1_touch_12 rfl (lv_at hl 0 rfl) ?_
    refine gt_X1_47_0 C hI h dX1_touch_13 ?_
    refine lv_aload_n C.x C.bc dX1_touch_16 rfl (lv_at hl 0 rfl) ?_
    refine lv_iload_n C.x C.bc dX1_touch_17 rfl (lv_at hl 1 rfl) ?_
    refine lv_iload C.x C.bc dX1_touch_18 (lv_at hl 3 rfl) ?_
    obtain ⟨r_2, hf_2, hx⟩ := bd_e hx
    refine cX1_86_X1_nearest C hI h hf_2 ⟨Nat.le_of_ble_eq_true rfl, Nat.le_of_ble_eq_true rfl⟩ ⟨Nat.zero_le _, Nat.zero_le _⟩ hl.1 (Nat.le_of_ble_eq_true rfl) dX1_touch_20 (fun H locs h => ?_)
    obtain ⟨g_3, hx⟩ := gd_e hx
    refine x_lald C h 52 12 (hI 52 (by decide)) k_52 g_3 dX1_touch_23 ?_
    refine va_mmax_long C.x C.bc (C.ml.trans hl.1.symm) C.ow (C.ts _ q339) (C.ts _ q340) (C.ts _ q134) (C.ts _ q341) (Nat.le_of_ble_eq_true rfl) (Nat.le_of_ble_eq_true rfl) (Nat.zero_le _) (Nat.zero_le _) dX1_touch_24 ?_
    obtain ⟨v2_4, e_4, hx⟩ := nm_x hx
    refine x_tl e_4 ?_
    refine lv_lstore_n (lv' := [(2, .long v2_4), (0, .ref (E.ad 0)), (1, .int v1), (4, .int v4)]) C.x C.bc dX1_touch_27 rfl hl (by decide) rfl (fun ls hl => ?_)
    obtain ⟨v4_5, e_5, hx⟩ := nm_x hx
    refine lv_iinc (v := v4_5) (lv' := [(4, .int v4_5), (2, .long v2_4), (0, .ref (E.ad 0)), (1, .int v1)]) C.x C.bc dX1_touch_28 hl (k := 3) rfl (by rw [e_5]; rfl) (by decide) rfl (fun ls hl => ?_)
    refine lv_goto (tgt := 5) C.x C.bc dX1_touch_31 (by decide) ?_
    obtain rfl := Option.some.inj hx
    exact hG _ _ K _ _ _ h (lv_sub hl [2, 3, 1, 0] rfl)
set_option maxHeartbeats 1000000 in
theorem pX1_touch_5 (C : Cx E s0 b p s m args meth c cX1_touch 5 "EarthMesh" (some .long)) (hI : Sx E) (v1 : Int32) (st : St) {Q : State → Prop} {v2 : Int64} {v4 : Int32} {n : Nat} {r : Int64} (hx : iter (u2 fun v2 v4 => fX1_touch_5 v1 v2 v4 st) n (v2, v4) = some r) (hE : (fun t => ∀ (H : Heap) (locs : List Loc) (ls : Array Slot), XH E (sg st) s H locs → lv_has ls 5 [(0, .ref (E.ad 0)), (1, .int v1), (2, .long t)] → W p l e rmX1_touch s m args below meth c H locs 0 0 Q (F0 m 34 ls [])) r) {H : Heap} {locs : List Loc} {ls : Array Slot} (h : XH E (sg st) s H locs) (hl : lv_has ls 5 [(0, .ref (E.ad 0)), (1, .int v1), (2, .long v2), (4, .int v4)]) : W p l e rmX1_touch s m args below meth c H locs 0 0 Q (F0 m 5 ls []) := by
  refine iter_W (G := fun t => ∀ (H : Heap) (locs : List Loc) (ls : Array Slot), XH E (sg st) s H locs → lv_has ls 5 [(0, .ref (E.ad 0)), (1, .int v1), (2, .long t.1), (4, .int t.2)] → W p l e rmX1_touch s m args below meth c H locs 0 0 Q (F0 m 5 ls [])) (E := fun t => ∀ (H : Heap) (locs : List Loc) (ls : Array Slot), XH E (sg st) s H locs → lv_has ls 5 [(0, .ref (E.ad 0)), (1, .int v1), (2, .long t)] → W p l e rmX1_touch s m args below meth c H locs 0 0 Q (F0 m 34 ls [])) (fun t x hx K H locs ls h hl => ?_) n _ r hx hE H locs ls h hl
  obtain ⟨v2, v4⟩ := t
  exact bX1_touch_5 C hI v1 v2 v4 st hx (fun _ _ z => z) (fun _ z => z) K h hl
def fX1_touch (v1 : Int32) (st : St) : Option (Int64) :=
  bd (iter (u2 fun z2 z4 => fX1_touch_5 v1 z2 z4 st) FU ((0 : Int64), (0 : Int32))) (u1 fun v2_6 =>
  bd (fX1_ground v1 st) fun r_7 =>
  some (((40 : Int64) * v2_6) - r_7))
set_option maxHeartbeats 1000000 in
theorem bX1_touch (C : Cx E s0 b p s m args meth c cX1_touch 5 "EarthMesh" (some .long)) (hI : Sx E) (v1 : Int32) (st : St) {x : Int64} (hx : fX1_touch v1 st = some x) {H : Heap} {locs : List Loc} {ls : Array Slot} (h : XH E (sg st) s H locs) (hl : lv_has ls 5 [(0, .ref (E.ad 0)), (1, .int v1)]) : W p l e rmX1_touch s m args below meth c H locs 0 0 (MQ below (Qx E (some (.long x)) (sg st)) args s 0 0 (gA E.HB)) (F0 m 0 ls []) := by
  unfold fX1_touch at hx
  refine lv_lconst (v := (0 : Int64)) C.x C.bc dX1_touch_0 (by decide) ?_
  refine lv_lstore_n (lv' := [(2, .long (0 : Int64)), (0, .ref (E.ad 0)), (1, .int v1)]) C.x C.bc dX1_touch_1 rfl hl (by decide) rfl (fun ls hl => ?_)
  refine lv_iconst (v := (0 : Int32)) C.x C.bc dX1_touch_2 (by decide) ?_
  refine lv_istore (lv' := [(4, .int (0 : Int32)), (2, .long (0 : Int64)), (0, .ref (E.ad 0)), (1, .int v1)]) C.x C.bc dX1_touch_3 hl (by decide) rfl (fun ls hl => ?_)
  obtain ⟨v2_6, hi_6, hx⟩ := bd_e hx
  have hx := u1_e hx
  refine pX1_touch_5 C hI v1 st hi_6 (fun H locs ls h hl => ?_) h (lv_sub hl [2, 3, 1, 0] rfl)
  refine lv_ldc2 (v := (40 : Int64)) C.x C.bc C.ow (C.ts _ q342) dX1_touch_34 ?_
  refine lv_lload_n C.x C.bc dX1_touch_37 rfl (lv_at hl 2 rfl) ?_
  refine lv_lmul C.x C.bc dX1_touch_38 ?_
  refine lv_aload_n C.x C.bc dX1_touch_39 rfl (lv_at hl 0 rfl) ?_
  refine lv_iload_n C.x C.bc dX1_touch_40 rfl (lv_at hl 1 rfl) ?_
  obtain ⟨r_7, hf_7, hx⟩ := bd_e hx
  refine cX1_101_X1_ground C hI h hf_7 ⟨Nat.le_of_ble_eq_true rfl, Nat.le_of_ble_eq_true rfl⟩ ⟨Nat.zero_le _, Nat.zero_le _⟩ hl.1 (Nat.le_of_ble_eq_true rfl) dX1_touch_41 (fun H locs h => ?_)
  refine lv_lsub C.x C.bc dX1_touch_44 ?_
  obtain rfl := Option.some.inj hx
  exact x_lret C h dX1_touch_45
theorem mX1_touch (hG : G0 E s0 b) (hI : Sx E) {v1 : Int32} {x : Int64} (hx : fX1_touch v1 st = some x) : Mt l E s0 yX1_touch cX1_touch 5 (some .long) rmX1_touch [.ref (E.ad 0), .int v1] (sg st) (some (.long x)) E (sg st) :=
  Mt.of hG (by decide) (Nat.le_of_ble_eq_true rfl) (fun p e s m below meth c ls C h hl => bX1_touch C hI v1 st hx h hl)
abbrev rmX1_hasNext : Room := { frames := 1, cells := 0, slots := 0, locals := 28 }
def fX1_hasNext (v1 : Int32) (v2 : Int32) (st : St) : Option (Int32) :=
  if v2 = 0 then
    nm (fX1_pointColumns st) fun r_5 =>
    gd (¬ r_5 = 0) <|
    nm (fX1_pointColumns st) fun r_7 =>
    if (r_7 - (1 : Int32)) ≤ (jrem v1 r_5) then
      some (0 : Int32)
    else
      some (1 : Int32)
  else
    nm (fX1_pointColumns st) fun r_2 =>
    gd (¬ r_2 = 0) <|
    if (((2 : Int32) * (st.1 1 1)) - (2 : Int32)) ≤ (v1 / r_2) then
      some (0 : Int32)
    else
      some (1 : Int32)
set_option maxHeartbeats 1000000 in
theorem bX1_hasNext (C : Cx E s0 b p s m args meth c cX1_hasNext 3 "EarthMesh" (some .boolean)) (hI : Sx E) (v1 : Int32) (v2 : Int32) (st : St) {x : Int32} (hx : fX1_hasNext v1 v2 st = some x) {H : Heap} {locs : List Loc} {ls : Array Slot} (h : XH E (sg st) s H locs) (hl : lv_has ls 3 [(0, .ref (E.ad 0)), (1, .int v1), (2, .int v2)]) : W p l e rmX1_hasNext s m args below meth c H locs 0 0 (MQ below (Qx E (some (.int x)) (sg st)) args s 0 0 (gA E.HB)) (F0 m 0 ls []) := by
  unfold fX1_hasNext at hx
  refine lv_iload_n C.x C.bc dX1_hasNext_0 rfl (lv_at hl 2 rfl) ?_
  refine lv_if_ne (tgt := 27) C.x C.bc dX1_hasNext_1 (by decide) (fun c_1 => ?_) (fun c_1 => ?_)
  · have hx := ge_f hx c_1
    refine lv_iload_n C.x C.bc dX1_hasNext_27 rfl (lv_at hl 1 rfl) ?_
    refine lv_aload_n C.x C.bc dX1_hasNext_28 rfl (lv_at hl 0 rfl) ?_
    obtain ⟨r_2, e_2, hx⟩ := nm_x hx
    refine cX1_80_X1_pointColumns C hI h e_2.symm ⟨Nat.le_of_ble_eq_true rfl, Nat.le_of_ble_eq_true rfl⟩ ⟨Nat.zero_le _, Nat.zero_le _⟩ hl.1 (Nat.le_of_ble_eq_true rfl) dX1_hasNext_29 (fun H locs h => ?_)
    obtain ⟨g_3, hx⟩ := gd_e hx
    refine lv_idiv C.x C.bc dX1_hasNext_32 g_3 ?_
    refine lv_iconst (v := (2 : Int32)) C.x C.bc dX1_hasNext_33 (by decide) ?_
    refine lv_aload_n C.x C.bc dX1_hasNext_34 rfl (lv_at hl 0 rfl) ?_
    refine gt_X1_1_0 C hI h dX1_hasNext_35 ?_
    refine gt_X1_83_1 C hI h dX1_hasNext_38 ?_
    refine lv_imul C.x C.bc dX1_hasNext_41 ?_
    refine lv_iconst (v := (2 : Int32)) C.x C.bc dX1_hasNext_42 (by decide) ?_
    refine lv_isub C.x C.bc dX1_hasNext_43 ?_
    refine lv_icmp_ge (tgt := 51) C.x C.bc dX1_hasNext_44 (by decide) (fun c_4 => ?_) (fun c_4 => ?_)
    · have hx := ge_t hx c_4
      refine lv_iconst (v := (0 : Int32)) C.x C.bc dX1_hasNext_51 (by decide) ?_
      obtain rfl := Option.some.inj hx
      exact x_zret (v := (0 : Int32)) C h rfl dX1_hasNext_52
    · have hx := ge_f hx c_4
      refine lv_iconst (v := (1 : Int32)) C.x C.bc dX1_hasNext_47 (by decide) ?_
      refine lv_goto (tgt := 52) C.x C.bc dX1_hasNext_48 (by decide) ?_
      obtain rfl := Option.some.inj hx
      exact x_zret (v := (1 : Int32)) C h rfl dX1_hasNext_52
  · have hx := ge_t hx c_1
    refine lv_iload_n C.x C.bc dX1_hasNext_4 rfl (lv_at hl 1 rfl) ?_
    refine lv_aload_n C.x C.bc dX1_hasNext_5 rfl (lv_at hl 0 rfl) ?_
    obtain ⟨r_5, e_5, hx⟩ := nm_x hx
    refine cX1_80_X1_pointColumns C hI h e_5.symm ⟨Nat.le_of_ble_eq_true rfl, Nat.le_of_ble_eq_true rfl⟩ ⟨Nat.zero_le _, Nat.zero_le _⟩ hl.1 (Nat.le_of_ble_eq_true rfl) dX1_hasNext_6 (fun H locs h => ?_)
    obtain ⟨g_6, hx⟩ := gd_e hx
    refine y_irem C.x C.bc dX1_hasNext_9 g_6 ?_
    refine lv_aload_n C.x C.bc dX1_hasNext_10 rfl (lv_at hl 0 rfl) ?_
    obtain ⟨r_7, e_7, hx⟩ := nm_x hx
    refine cX1_80_X1_pointColumns C hI h e_7.symm ⟨Nat.le_of_ble_eq_true rfl, Nat.le_of_ble_eq_true rfl⟩ ⟨Nat.zero_le _, Nat.zero_le _⟩ hl.1 (Nat.le_of_ble_eq_true rfl) dX1_hasNext_11 (fun H locs h => ?_)
    refine lv_iconst (v := (1 : Int32)) C.x C.bc dX1_hasNext_14 (by decide) ?_
    refine lv_isub C.x C.bc dX1_hasNext_15 ?_
    refine lv_icmp_ge (tgt := 23) C.x C.bc dX1_hasNext_16 (by decide) (fun c_8 => ?_) (fun c_8 => ?_)
    · have hx := ge_t hx c_8
      refine lv_iconst (v := (0 : Int32)) C.x C.bc dX1_hasNext_23 (by decide) ?_
      refine lv_goto (tgt := 52) C.x C.bc dX1_hasNext_24 (by decide) ?_
      obtain rfl := Option.some.inj hx
      exact x_zret (v := (0 : Int32)) C h rfl dX1_hasNext_52
    · have hx := ge_f hx c_8
      refine lv_iconst (v := (1 : Int32)) C.x C.bc dX1_hasNext_19 (by decide) ?_
      refine lv_goto (tgt := 52) C.x C.bc dX1_hasNext_20 (by decide) ?_
      obtain rfl := Option.some.inj hx
      exact x_zret (v := (1 : Int32)) C h rfl dX1_hasNext_52
theorem mX1_hasNext (hG : G0 E s0 b) (hI : Sx E) {v1 : Int32} {v2 : Int32} {x : Int32} (hx : fX1_hasNext v1 v2 st = some x) : Mt l E s0 yX1_hasNext cX1_hasNext 3 (some .boolean) rmX1_hasNext [.ref (E.ad 0), .int v1, .int v2] (sg st) (some (.int x)) E (sg st) :=
  Mt.of hG (by decide) (Nat.le_of_ble_eq_true rfl) (fun p e s m below meth c ls C h hl => bX1_hasNext C hI v1 v2 st hx h hl)
theorem cX1_105_X1_hasNext {a0 : Int32} {a1 : Int32} {r : Int32} (C : Cx E s0 b p s m args meth c cc nL "EarthMesh" rt) (hI : Sx E) (h : XH E (sg st) s H locs) (hf : fX1_hasNext a0 a1 st = some r) (hR : rmX1_hasNext.frames + 1 ≤ R.frames ∧ 16 + (3 + 11) + rmX1_hasNext.locals ≤ R.locals) (h0 : cells ≤ R.cells ∧ slots ≤ R.slots) (hsz : ls.size = nL) (hcat : (rest.map fun v => v.category).sum ≤ 16) (hdg : decode cc pc = .ok (.invokevirtual 105, 3)) (kk : ∀ (H : Heap) (locs : List Loc), XH E (sg st) s H locs → W p l e R s m args below meth c H locs cells slots Q (F0 m (pc + 3) ls (.int r :: rest))) : W p l e R s m args below meth c H locs cells slots Q (F0 m pc ls (.int a1 :: .int a0 :: .ref (E.ad 0) :: rest)) :=
  x_callV (n := 2) (As := [.int a0, .int a1]) C h 0 0 (hI 0 (by decide)) k_0 rfl (mX1_hasNext C.g hI hf) (lw_V q312 q314 qs2 q130 q315) ⟨rfl, by decide +kernel, by decide +kernel, by decide +kernel⟩ hR ⟨rfl, rfl⟩ h0 rfl hsz rfl hcat hdg kk
abbrev rmX1_nextPoint : Room := { frames := 1, cells := 0, slots := 0, locals := 28 }
def fX1_nextPoint (v1 : Int32) (v2 : Int32) (st : St) : Int32 :=
  if v2 = 0 then
    (v1 + (1 : Int32))
  else
    nm (fX1_pointColumns st) fun r_2 =>
    (v1 + r_2)
set_option maxHeartbeats 1000000 in
theorem bX1_nextPoint (C : Cx E s0 b p s m args meth c cX1_nextPoint 3 "EarthMesh" (some .int)) (hI : Sx E) (v1 : Int32) (v2 : Int32) (st : St) {x : Int32} (hx : fX1_nextPoint v1 v2 st = x) {H : Heap} {locs : List Loc} {ls : Array Slot} (h : XH E (sg st) s H locs) (hl : lv_has ls 3 [(0, .ref (E.ad 0)), (1, .int v1), (2, .int v2)]) : W p l e rmX1_nextPoint s m args below meth c H locs 0 0 (MQ below (Qx E (some (.int x)) (sg st)) args s 0 0 (gA E.HB)) (F0 m 0 ls []) := by
  unfold fX1_nextPoint at hx
  refine lv_iload_n C.x C.bc dX1_nextPoint_0 rfl (lv_at hl 2 rfl) ?_
  refine lv_if_ne (tgt := 10) C.x C.bc dX1_nextPoint_1 (by decide) (fun c_1 => ?_) (fun c_1 => ?_)
  · have hx := ge_f hx c_1
    refine lv_iload_n C.x C.bc dX1_nextPoint_10 rfl (lv_at hl 1 rfl) ?_
    refine lv_aload_n C.x C.bc dX1_nextPoint_11 rfl (lv_at hl 0 rfl) ?_
    obtain ⟨r_2, e_2, hx⟩ := nm_x hx
    refine cX1_80_X1_pointColumns C hI h e_2.symm ⟨Nat.le_of_ble_eq_true rfl, Nat.le_of_ble_eq_true rfl⟩ ⟨Nat.zero_le _, Nat.zero_le _⟩ hl.1 (Nat.le_of_ble_eq_true rfl) dX1_nextPoint_12 (fun H locs h => ?_)
    refine lv_iadd C.x C.bc dX1_nextPoint_15 ?_
    subst hx
    exact x_iret C h dX1_nextPoint_16
  · have hx := ge_t hx c_1
    refine lv_iload_n C.x C.bc dX1_nextPoint_4 rfl (lv_at hl 1 rfl) ?_
    refine lv_iconst (v := (1 : Int32)) C.x C.bc dX1_nextPoint_5 (by decide) ?_
    refine lv_iadd C.x C.bc dX1_nextPoint_6 ?_
    refine lv_goto (tgt := 16) C.x C.bc dX1_nextPoint_7 (by decide) ?_
    subst hx
    exact x_iret C h dX1_nextPoint_16
theorem mX1_nextPoint (hG : G0 E s0 b) (hI : Sx E) {v1 : Int32} {v2 : Int32} {x : Int32} (hx : fX1_nextPoint v1 v2 st = x) : Mt l E s0 yX1_nextPoint cX1_nextPoint 3 (some .int) rmX1_nextPoint [.ref (E.ad 0), .int v1, .int v2] (sg st) (some (.int x)) E (sg st) :=
  Mt.of hG (by decide) (Nat.le_of_ble_eq_true rfl) (fun p e s m below meth c ls C h hl => bX1_nextPoint C hI v1 v2 st hx h hl)
theorem cX1_109_X1_nextPoint {a0 : Int32} {a1 : Int32} {r : Int32} (C : Cx E s0 b p s m args meth c cc nL "EarthMesh" rt) (hI : Sx E) (h : XH E (sg st) s H locs) (hf : fX1_nextPoint a0 a1 st = r) (hR : rmX1_nextPoint.frames + 1 ≤ R.frames ∧ 16 + (3 + 11) + rmX1_nextPoint.locals ≤ R.locals) (h0 : cells ≤ R.cells ∧ slots ≤ R.slots) (hsz : ls.size = nL) (hcat : (rest.map fun v => v.category).sum ≤ 16) (hdg : decode cc pc = .ok (.invokevirtual 109, 3)) (kk : ∀ (H : Heap) (locs : List Loc), XH E (sg st) s H locs → W p l e R s m args below meth c H locs cells slots Q (F0 m (pc + 3) ls (.int r :: rest))) : W p l e R s m args below meth c H locs cells slots Q (F0 m pc ls (.int a1 :: .int a0 :: .ref (E.ad 0) :: rest)) :=
  x_callV (n := 2) (As := [.int a0, .int a1]) C h 0 0 (hI 0 (by decide)) k_0 rfl (mX1_nextPoint C.g hI hf) (lw_V q320 q322 qs4 q130 q323) ⟨rfl, by decide +kernel, by decide +kernel, by decide +kernel⟩ hR ⟨rfl, rfl⟩ h0 rfl hsz rfl hcat hdg kk
abbrev rmX1_step : Room := { frames := 3, cells := 0, slots := 0, locals := 92 }
def fX1_step (v1 : Int32) (v2 : Int32) (st : St) : Option (Int64) :=
  bd (fX1_hasNext v1 v2 st) fun r_1 =>
  if r_1 = 0 then
    some (-1 : Int64)
  else
    nm (fX1_nextPoint v1 v2 st) fun r_3 =>
    bd (fX1_ground r_3 st) fun r_4 =>
    bd (fX1_ground v1 st) fun r_5 =>
    some (jabsl (r_4 - r_5))
set_option maxHeartbeats 1000000 in
theorem bX1_step (C : Cx E s0 b p s m args meth c cX1_step 3 "EarthMesh" (some .long)) (hI : Sx E) (v1 : Int32) (v2 : Int32) (st : St) {x : Int64} (hx : fX1_step v1 v2 st = some x) {H : Heap} {locs : List Loc} {ls : Array Slot} (h : XH E (sg st) s H locs) (hl : lv_has ls 3 [(0, .ref (E.ad 0)), (1, .int v1), (2, .int v2)]) : W p l e rmX1_step s m args below meth c H locs 0 0 (MQ below (Qx E (some (.long x)) (sg st)) args s 0 0 (gA E.HB)) (F0 m 0 ls []) := by
  unfold fX1_step at hx
  refine lv_aload_n C.x C.bc dX1_step_0 rfl (lv_at hl 0 rfl) ?_
  refine lv_iload_n C.x C.bc dX1_step_1 rfl (lv_at hl 1 rfl) ?_
  refine lv_iload_n C.x C.bc dX1_step_2 rfl (lv_at hl 2 rfl) ?_
  obtain ⟨r_1, hf_1, hx⟩ := bd_e hx
  refine cX1_105_X1_hasNext C hI h hf_1 ⟨Nat.le_of_ble_eq_true rfl, Nat.le_of_ble_eq_true rfl⟩ ⟨Nat.zero_le _, Nat.zero_le _⟩ hl.1 (Nat.le_of_ble_eq_true rfl) dX1_step_3 (fun H locs h => ?_)
  refine lv_if_eq (tgt := 31) C.x C.bc dX1_step_6 (by decide) (fun c_2 => ?_) (fun c_2 => ?_)
  · have hx := ge_t hx c_2
    refine lv_ldc2 (v := (-1 : Int64)) C.x C.bc C.ow (C.ts _ q335) dX1_step_31 ?_
    obtain rfl := Option.some.inj hx
    exact x_lret C h dX1_step_34
  · have hx := ge_f hx c_2
    refine lv_aload_n C.x C.bc dX1_step_9 rfl (lv_at hl 0 rfl) ?_
    refine lv_aload_n C.x C.bc dX1_step_10 rfl (lv_at hl 0 rfl) ?_
    refine lv_iload_n C.x C.bc dX1_step_11 rfl (lv_at hl 1 rfl) ?_
    refine lv_iload_n C.x C.bc dX1_step_12 rfl (lv_at hl 2 rfl) ?_
    obtain ⟨r_3, e_3, hx⟩ := nm_x hx
    refine cX1_109_X1_nextPoint C hI h e_3.symm ⟨Nat.le_of_ble_eq_true rfl, Nat.le_of_ble_eq_true rfl⟩ ⟨Nat.zero_le _, Nat.zero_le _⟩ hl.1 (Nat.le_of_ble_eq_true rfl) dX1_step_13 (fun H locs h => ?_)
    obtain ⟨r_4, hf_4, hx⟩ := bd_e hx
    refine cX1_101_X1_ground C hI h hf_4 ⟨Nat.le_of_ble_eq_true rfl, Nat.le_of_ble_eq_true rfl⟩ ⟨Nat.zero_le _, Nat.zero_le _⟩ hl.1 (Nat.le_of_ble_eq_true rfl) dX1_step_16 (fun H locs h => ?_)
    refine lv_aload_n C.x C.bc dX1_step_19 rfl (lv_at hl 0 rfl) ?_
    refine lv_iload_n C.x C.bc dX1_step_20 rfl (lv_at hl 1 rfl) ?_
    obtain ⟨r_5, hf_5, hx⟩ := bd_e hx
    refine cX1_101_X1_ground C hI h hf_5 ⟨Nat.le_of_ble_eq_true rfl, Nat.le_of_ble_eq_true rfl⟩ ⟨Nat.zero_le _, Nat.zero_le _⟩ hl.1 (Nat.le_of_ble_eq_true rfl) dX1_step_21 (fun H locs h => ?_)
    refine lv_lsub C.x C.bc dX1_step_24 ?_
    refine va_mabs_long C.x C.bc (C.ml.trans hl.1.symm) C.ow (C.ts _ q332) (C.ts _ q333) (C.ts _ q134) (C.ts _ q334) (Nat.le_of_ble_eq_true rfl) (Nat.le_of_ble_eq_true rfl) (Nat.zero_le _) (Nat.zero_le _) dX1_step_25 ?_
    refine lv_goto (tgt := 34) C.x C.bc dX1_step_28 (by decide) ?_
    obtain rfl := Option.some.inj hx
    exact x_lret C h dX1_step_34
theorem mX1_step (hG : G0 E s0 b) (hI : Sx E) {v1 : Int32} {v2 : Int32} {x : Int64} (hx : fX1_step v1 v2 st = some x) : Mt l E s0 yX1_step cX1_step 3 (some .long) rmX1_step [.ref (E.ad 0), .int v1, .int v2] (sg st) (some (.long x)) E (sg st) :=
  Mt.of hG (by decide) (Nat.le_of_ble_eq_true rfl) (fun p e s m below meth c ls C h hl => bX1_step C hI v1 v2 st hx h hl)
theorem cX1_326_X1_step {a0 : Int32} {a1 : Int32} {r : Int64} (C : Cx E s0 b p s m args meth c cc nL "EarthMesh" rt) (hI : Sx E) (h : XH E (sg st) s H locs) (hf : fX1_step a0 a1 st = some r) (hR : rmX1_step.frames + 1 ≤ R.frames ∧ 16 + (3 + 11) + rmX1_step.locals ≤ R.locals) (h0 : cells ≤ R.cells ∧ slots ≤ R.slots) (hsz : ls.size = nL) (hcat : (rest.map fun v => v.category).sum ≤ 16) (hdg : decode cc pc = .ok (.invokevirtual 326, 3)) (kk : ∀ (H : Heap) (locs : List Loc), XH E (sg st) s H locs → W p l e R s m args below meth c H locs cells slots Q (F0 m (pc + 3) ls (.long r :: rest))) : W p l e R s m args below meth c H locs cells slots Q (F0 m pc ls (.int a1 :: .int a0 :: .ref (E.ad 0) :: rest)) :=
  x_callV (n := 2) (As := [.int a0, .int a1]) C h 0 0 (hI 0 (by decide)) k_0 rfl (mX1_step C.g hI hf) (lw_V q308 q310 qs1 q130 q311) ⟨rfl, by decide +kernel, by decide +kernel, by decide +kernel⟩ hR ⟨rfl, rfl⟩ h0 rfl hsz rfl hcat hdg kk
abbrev rmX1_within : Room := { frames := 0, cells := 0, slots := 0, locals := 0 }
def fX1_within_14 : Int32 :=
  (0 : Int32)
set_option maxHeartbeats 1000000 in
theorem bX1_within_14 (C : Cx E s0 b p s m args meth c cX1_within 3 "EarthMesh" (some .boolean)) (hI : Sx E) {x : Int32} (hx : fX1_within_14 = x) {H : Heap} {locs : List Loc} {ls : Array Slot} (h : XH E g s H locs) (hl : lv_has ls 3 []) : W p l e rmX1_within s m args below meth c H locs 0 0 (MQ below (Qx E (some (.int x)) g) args s 0 0 (gA E.HB)) (F0 m 14 ls []) := by
  unfold fX1_within_14 at hx
  refine lv_iconst (v := (0 : Int32)) C.x C.bc dX1_within_14 (by decide) ?_
  subst hx
  exact x_zret (v := (0 : Int32)) C h rfl dX1_within_15
def fX1_within (v0 : Int32) (v1 : Int32) (v2 : Int32) : Int32 :=
  if v0 < v1 then
    fX1_within_14
  else
    if v2 < v0 then
      fX1_within_14
    else
      (1 : Int32)
set_option maxHeartbeats 1000000 in
theorem bX1_within (C : Cx E s0 b p s m args meth c cX1_within 3 "EarthMesh" (some .boolean)) (hI : Sx E) (v0 : Int32) (v1 : Int32) (v2 : Int32) {x : Int32} (hx : fX1_within v0 v1 v2 = x) {H : Heap} {locs : List Loc} {ls : Array Slot} (h : XH E g s H locs) (hl : lv_has ls 3 [(0, .int v0), (1, .int v1), (2, .int v2)]) : W p l e rmX1_within s m args below meth c H locs 0 0 (MQ below (Qx E (some (.int x)) g) args s 0 0 (gA E.HB)) (F0 m 0 ls []) := by
  unfold fX1_within at hx
  refine lv_iload_n C.x C.bc dX1_within_0 rfl (lv_at hl 0 rfl) ?_
  refine lv_iload_n C.x C.bc dX1_within_1 rfl (lv_at hl 1 rfl) ?_
  refine lv_icmp_lt (tgt := 14) C.x C.bc dX1_within_2 (by decide) (fun c_1 => ?_) (fun c_1 => ?_)
  · have hx := ge_t hx c_1
    exact bX1_within_14 C hI hx h (lv_sub hl [] rfl)
  · have hx := ge_f hx c_1
    refine lv_iload_n C.x C.bc dX1_within_5 rfl (lv_at hl 0 rfl) ?_
    refine lv_iload_n C.x C.bc dX1_within_6 rfl (lv_at hl 2 rfl) ?_
    refine lv_icmp_gt (tgt := 14) C.x C.bc dX1_within_7 (by decide) (fun c_2 => ?_) (fun c_2 => ?_)
    · have hx := ge_t hx c_2
      exact bX1_within_14 C hI hx h (lv_sub hl [] rfl)
    · have hx := ge_f hx c_2
      refine lv_iconst (v := (1 : Int32)) C.x C.bc dX1_within_10 (by decide) ?_
      refine lv_goto (tgt := 15) C.x C.bc dX1_within_11 (by decide) ?_
      subst hx
      exact x_zret (v := (1 : Int32)) C h rfl dX1_within_15
theorem mX1_within (hG : G0 E s0 b) (hI : Sx E) {v0 : Int32} {v1 : Int32} {v2 : Int32} {x : Int32} (hx : fX1_within v0 v1 v2 = x) : Mt l E s0 yX1_within cX1_within 3 (some .boolean) rmX1_within [.int v0, .int v1, .int v2] g (some (.int x)) E g :=
  Mt.of hG (by decide) (Nat.le_of_ble_eq_true rfl) (fun p e s m below meth c ls C h hl => bX1_within C hI v0 v1 v2 hx h hl)
theorem cX1_253_X1_within {a0 : Int32} {a1 : Int32} {a2 : Int32} {r : Int32} (C : Cx E s0 b p s m args meth c cc nL "EarthMesh" rt) (hI : Sx E) (h : XH E g s H locs) (hf : fX1_within a0 a1 a2 = r) (hR : rmX1_within.frames + 1 ≤ R.frames ∧ 16 + (3 + 11) + rmX1_within.locals ≤ R.locals) (h0 : cells ≤ R.cells ∧ slots ≤ R.slots) (hsz : ls.size = nL) (hcat : (rest.map fun v => v.category).sum ≤ 16) (hdg : decode cc pc = .ok (.invokestatic 253, 3)) (kk : ∀ (H : Heap) (locs : List Loc), XH E g s H locs → W p l e R s m args below meth c H locs cells slots Q (F0 m (pc + 3) ls (.int r :: rest))) : W p l e R s m args below meth c H locs cells slots Q (F0 m pc ls (.int a2 :: .int a1 :: .int a0 :: rest)) :=
  x_callS (n := 3) (As := [.int a0, .int a1, .int a2]) C h (mX1_within C.g hI hf) (lw_S q444 q445 q130 q446) ⟨by decide +kernel, by decide +kernel, by decide +kernel⟩ hR ⟨rfl, rfl⟩ h0 rfl hsz rfl hcat hdg kk
abbrev rmX1_refuses : Room := { frames := 0, cells := 0, slots := 0, locals := 0 }
def fX1_refuses (v1 : Int32) (st : St) : Option (Int32 × St) :=
  gd (inB (1 : Int32) 2) <|
  gd (inB (1 : Int32) 2) <|
  nm (uI st 57 (1 : Int32).toNatClampNeg ((st.1 57 (1 : Int32).toNatClampNeg) + (1 : Int32))) fun st_3 =>
  some (v1, st_3)
set_option maxHeartbeats 1000000 in
theorem bX1_refuses (C : Cx E s0 b p s m args meth c cX1_refuses 2 "EarthMesh" (some .int)) (hI : Sx E) (v1 : Int32) (st : St) {x : Int32 × St} (hx : fX1_refuses v1 st = some x) {H : Heap} {locs : List Loc} {ls : Array Slot} (h : XH E (sg st) s H locs) (hl : lv_has ls 2 [(0, .ref (E.ad 0)), (1, .int v1)]) : W p l e rmX1_refuses s m args below meth c H locs 0 0 (MQ below (Qx E (some (.int x.1)) (sg x.2)) args s 0 0 (gA E.HB)) (F0 m 0 ls []) := by
  unfold fX1_refuses at hx
  refine lv_aload_n C.x C.bc dX1_refuses_0 rfl (lv_at hl 0 rfl) ?_
  refine gt_X1_158_0 C hI h dX1_refuses_1 ?_
  refine lv_iconst (v := (1 : Int32)) C.x C.bc dX1_refuses_4 (by decide) ?_
  refine lv_dup2_11 C.x C.bc dX1_refuses_5 rfl rfl ?_
  obtain ⟨g_1, hx⟩ := gd_e hx
  refine x_iald C h 57 2 (hI 57 (by decide)) k_57 g_1 dX1_refuses_6 ?_
  refine lv_iconst (v := (1 : Int32)) C.x C.bc dX1_refuses_7 (by decide) ?_
  refine lv_iadd C.x C.bc dX1_refuses_8 ?_
  obtain ⟨g_2, hx⟩ := gd_e hx
  obtain ⟨st_3, e_3, hx⟩ := nm_x hx
  refine y_iast C h 57 2 (hI 57 (by decide)) k_57 g_2 e_3 dX1_refuses_9 (fun H locs h => ?_)
  refine lv_iload_n C.x C.bc dX1_refuses_10 rfl (lv_at hl 1 rfl) ?_
  obtain rfl := Option.some.inj hx
  exact x_iret C h dX1_refuses_11
theorem mX1_refuses (hG : G0 E s0 b) (hI : Sx E) {v1 : Int32} {x : Int32 × St} (hx : fX1_refuses v1 st = some x) : Mt l E s0 yX1_refuses cX1_refuses 2 (some .int) rmX1_refuses [.ref (E.ad 0), .int v1] (sg st) (some (.int x.1)) E (sg x.2) :=
  Mt.of hG (by decide) (Nat.le_of_ble_eq_true rfl) (fun p e s m below meth c ls C h hl => bX1_refuses C hI v1 st hx h hl)
theorem cX1_205_X1_refuses {a0 : Int32} {r : Int32} {st' : St} (C : Cx E s0 b p s m args meth c cc nL "EarthMesh" rt) (hI : Sx E) (h : XH E (sg st) s H locs) (hf : fX1_refuses a0 st = some (r, st')) (hR : rmX1_refuses.frames + 1 ≤ R.frames ∧ 16 + (2 + 11) + rmX1_refuses.locals ≤ R.locals) (h0 : cells ≤ R.cells ∧ slots ≤ R.slots) (hsz : ls.size = nL) (hcat : (rest.map fun v => v.category).sum ≤ 16) (hdg : decode cc pc = .ok (.invokevirtual 205, 3)) (kk : ∀ (H : Heap) (locs : List Loc), XH E (sg st') s H locs → W p l e R s m args below meth c H locs cells slots Q (F0 m (pc + 3) ls (.int r :: rest))) : W p l e R s m args below meth c H locs cells slots Q (F0 m pc ls (.int a0 :: .ref (E.ad 0) :: rest)) :=
  x_callV (n := 1) (As := [.int a0]) C h 0 0 (hI 0 (by decide)) k_0 rfl (mX1_refuses C.g hI hf) (lw_V q420 q422 qs8 q130 q423) ⟨rfl, by decide +kernel, by decide +kernel, by decide +kernel⟩ hR ⟨rfl, rfl⟩ h0 rfl hsz rfl hcat hdg kk
abbrev rmX1_lay : Room := { frames := 0, cells := 0, slots := 0, locals := 0 }
def fX1_lay_3 (v1 : Int32) (v2 : Int32) (st : St) : Option ((Int32 × St) ⊕ (St)) :=
  if v2 < 0 then
    some (.inr st)
  else
    gd (inB (st.1 0 8) 500) <|
    nm (uI st 56 (st.1 0 8).toNatClampNeg (vp_nar .byte ((v1 >>> (v2 &&& 31)).toInt8.toInt32))) fun st_3 =>
    nm (uI st_3 0 8 ((st_3.1 0 8) + (1 : Int32))) fun st_4 =>
    nm (v2 + (-8 : Int32)) fun v2_5 =>
    some (.inl (v2_5, st_4))
set_option maxHeartbeats 1000000 in
theorem bX1_lay_3 (C : Cx E s0 b p s m args meth c cX1_lay 3 "EarthMesh" none) (hI : Sx E) (v1 : Int32) (v2 : Int32) (st : St) {x : (Int32 × St) ⊕ (St)} (hx : fX1_lay_3 v1 v2 st = some x) {Q : State → Prop} {G : Int32 × St → Prop} {X : St → Prop} (hG : ∀ (w2 : Int32) (wst : St), G (w2, wst) → ∀ (H : Heap) (locs : List Loc) (ls : Array Slot), XH E (sg wst) s H locs → lv_has ls 3 [(0, .ref (E.ad 0)), (1, .int v1), (2, .int w2)] → W p l e rmX1_lay s m args below meth c H locs 0 0 Q (F0 m 3 ls [])) (hE0 : ∀ (wst : St), X wst → ∀ (H : Heap) (locs : List Loc) (ls : Array Slot), XH E (sg wst) s H locs → lv_has ls 3 [] → W p l e rmX1_lay s m args below meth c H locs 0 0 Q (F0 m 36 ls [])) (K : Kx G X x) {H : Heap} {locs : List Loc} {ls : Array Slot} (h : XH E (sg st) s H locs) (hl : lv_has ls 3 [(0, .ref (E.ad 0)), (1, .int v1), (2, .int v2)]) : W p l e rmX1_lay s m args below meth c H locs 0 0 Q (F0 m 3 ls []) := by
  unfold fX1_lay_3 at hx
  refine lv_iload_n C.x C.bc dX1_lay_3 rfl (lv_at hl 2 rfl) ?_
  refine lv_if_lt (tgt := 36) C.x C.bc dX1_lay_4 (by decide) (fun c_1 => ?_) (fun c_1 => ?_)
  · have hx := ge_t hx c_1
    obtain rfl := Option.some.inj hx
    exact hE0 _ K _ _ _ h (lv_sub hl [] rfl)
  · have hx := ge_f hx c_1
    refine lv_aload_n C.x C.bc dX1_lay_7 rfl (lv_at hl 0 rfl) ?_
    refine gt_X1_154_0 C hI h dX1_lay_8 ?_
    refine lv_aload_n C.x C.bc dX1_lay_11 rfl (lv_at hl 0 rfl) ?_
    refine gt_X1_202_0 C hI h dX1_lay_12 ?_
    refine lv_iload_n C.x C.bc dX1_lay_15 rfl (lv_at hl 1 rfl) ?_
    refine lv_iload_n C.x C.bc dX1_lay_16 rfl (lv_at hl 2 rfl) ?_
    refine lv_ishr C.x C.bc dX1_lay_17 ?_
    refine lv_i2b (v := ((v1 >>> (v2 &&& 31)).toInt8.toInt32)) C.x C.bc dX1_lay_18 rfl ?_
    obtain ⟨g_2, hx⟩ := gd_e hx
    obtain ⟨st_3, e_3, hx⟩ := nm_x hx
    refine y_bast C h 56 500 (hI 56 (by decide)) k_56 g_2 e_3 dX1_lay_19 (fun H locs h => ?_)
    refine lv_aload_n C.x C.bc dX1_lay_20 rfl (lv_at hl 0 rfl) ?_
    refine lv_dup C.x C.bc dX1_lay_21 rfl ?_
    refine gt_X1_202_0 C hI h dX1_lay_22 ?_
    refine lv_iconst (v := (1 : Int32)) C.x C.bc dX1_lay_25 (by decide) ?_
    refine lv_iadd C.x C.bc dX1_lay_26 ?_
    obtain ⟨st_4, e_4, hx⟩ := nm_x hx
    refine pt_X1_202_0 C hI h e_4 dX1_lay_27 (fun H locs h => ?_)
    obtain ⟨v2_5, e_5, hx⟩ := nm_x hx
    refine lv_iinc (v := v2_5) (lv' := [(2, .int v2_5), (0, .ref (E.ad 0)), (1, .int v1)]) C.x C.bc dX1_lay_30 hl (k := 2) rfl (by rw [e_5]; rfl) (by decide) rfl (fun ls hl => ?_)
    refine lv_goto (tgt := 3) C.x C.bc dX1_lay_33 (by decide) ?_
    obtain rfl := Option.some.inj hx
    exact hG _ _ K _ _ _ h (lv_sub hl [1, 2, 0] rfl)
set_option maxHeartbeats 1000000 in
theorem pX1_lay_3 (C : Cx E s0 b p s m args meth c cX1_lay 3 "EarthMesh" none) (hI : Sx E) (v1 : Int32) {Q : State → Prop} {v2 : Int32} {st : St} {n : Nat} {r : St} (hx : iter (u2 fun v2 st => fX1_lay_3 v1 v2 st) n (v2, st) = some r) (hE : (fun t => ∀ (H : Heap) (locs : List Loc) (ls : Array Slot), XH E (sg t) s H locs → lv_has ls 3 [] → W p l e rmX1_lay s m args below meth c H locs 0 0 Q (F0 m 36 ls [])) r) {H : Heap} {locs : List Loc} {ls : Array Slot} (h : XH E (sg st) s H locs) (hl : lv_has ls 3 [(0, .ref (E.ad 0)), (1, .int v1), (2, .int v2)]) : W p l e rmX1_lay s m args below meth c H locs 0 0 Q (F0 m 3 ls []) := by
  refine iter_W (G := fun t => ∀ (H : Heap) (locs : List Loc) (ls : Array Slot), XH E (sg t.2) s H locs → lv_has ls 3 [(0, .ref (E.ad 0)), (1, .int v1), (2, .int t.1)] → W p l e rmX1_lay s m args below meth c H locs 0 0 Q (F0 m 3 ls [])) (E := fun t => ∀ (H : Heap) (locs : List Loc) (ls : Array Slot), XH E (sg t) s H locs → lv_has ls 3 [] → W p l e rmX1_lay s m args below meth c H locs 0 0 Q (F0 m 36 ls [])) (fun t x hx K H locs ls h hl => ?_) n _ r hx hE H locs ls h hl
  obtain ⟨v2, st⟩ := t
  exact bX1_lay_3 C hI v1 v2 st hx (fun _ _ z => z) (fun _ z => z) K h hl
def fX1_lay (v1 : Int32) (st : St) : Option (St) :=
  bd (iter (u2 fun z2 zst => fX1_lay_3 v1 z2 zst) FU ((24 : Int32), st)) (u1 fun st_6 =>
  some st_6)
set_option maxHeartbeats 1000000 in
theorem bX1_lay (C : Cx E s0 b p s m args meth c cX1_lay 3 "EarthMesh" none) (hI : Sx E) (v1 : Int32) (st : St) {x : St} (hx : fX1_lay v1 st = some x) {H : Heap} {locs : List Loc} {ls : Array Slot} (h : XH E (sg st) s H locs) (hl : lv_has ls 3 [(0, .ref (E.ad 0)), (1, .int v1)]) : W p l e rmX1_lay s m args below meth c H locs 0 0 (MQ below (Qx E none (sg x)) args s 0 0 (gA E.HB)) (F0 m 0 ls []) := by
  unfold fX1_lay at hx
  refine lv_bipush (v := (24 : Int32)) C.x C.bc dX1_lay_0 (by decide) ?_
  refine lv_istore_n (lv' := [(2, .int (24 : Int32)), (0, .ref (E.ad 0)), (1, .int v1)]) C.x C.bc dX1_lay_2 rfl hl (by decide) rfl (fun ls hl => ?_)
  obtain ⟨st_6, hi_6, hx⟩ := bd_e hx
  have hx := u1_e hx
  refine pX1_lay_3 C hI v1 hi_6 (fun H locs ls h hl => ?_) h (lv_sub hl [1, 2, 0] rfl)
  obtain rfl := Option.some.inj hx
  exact x_vret C h dX1_lay_36
theorem mX1_lay (hG : G0 E s0 b) (hI : Sx E) {v1 : Int32} {x : St} (hx : fX1_lay v1 st = some x) : Mt l E s0 yX1_lay cX1_lay 3 none rmX1_lay [.ref (E.ad 0), .int v1] (sg st) none E (sg x) :=
  Mt.of hG (by decide) (Nat.le_of_ble_eq_true rfl) (fun p e s m below meth c ls C h hl => bX1_lay C hI v1 st hx h hl)
theorem cX1_208_X1_lay {a0 : Int32} {st' : St} (C : Cx E s0 b p s m args meth c cc nL "EarthMesh" rt) (hI : Sx E) (h : XH E (sg st) s H locs) (hf : fX1_lay a0 st = some st') (hR : rmX1_lay.frames + 1 ≤ R.frames ∧ 16 + (3 + 11) + rmX1_lay.locals ≤ R.locals) (h0 : cells ≤ R.cells ∧ slots ≤ R.slots) (hsz : ls.size = nL) (hcat : (rest.map fun v => v.category).sum ≤ 16) (hdg : decode cc pc = .ok (.invokevirtual 208, 3)) (kk : ∀ (H : Heap) (locs : List Loc), XH E (sg st') s H locs → W p l e R s m args below meth c H locs cells slots Q (F0 m (pc + 3) ls (rest))) : W p l e R s m args below meth c H locs cells slots Q (F0 m pc ls (.int a0 :: .ref (E.ad 0) :: rest)) :=
  x_callV (n := 1) (As := [.int a0]) C h 0 0 (hI 0 (by decide)) k_0 rfl (mX1_lay C.g hI hf) (lw_V q424 q426 qs9 q130 q427) ⟨rfl, by decide +kernel, by decide +kernel, by decide +kernel⟩ hR ⟨rfl, rfl⟩ h0 rfl hsz rfl hcat hdg kk
abbrev rmX1_feed : Room := { frames := 1, cells := 0, slots := 0, locals := 30 }
def fX1_feed (v1 : Int32) (v2 : Int32) (v3 : Int32) (v4 : Int32) (v5 : Int32) (st : St) : Option (Int32 × St) :=
  if ((st.1 0 8) + (20 : Int32)) ≤ (500 : Int32) then
    bd (fX1_lay v1 st) fun st_2 =>
    bd (fX1_lay v2 st_2) fun st_3 =>
    bd (fX1_lay v3 st_3) fun st_4 =>
    bd (fX1_lay v4 st_4) fun st_5 =>
    bd (fX1_lay v5 st_5) fun st_6 =>
    some ((st_6.1 0 8), st_6)
  else
    bd (fX1_refuses (-1 : Int32) st) <| u2 fun r_7 st_7 =>
    some (r_7, st_7)
set_option maxHeartbeats 1000000 in
theorem bX1_feed (C : Cx E s0 b p s m args meth c cX1_feed 6 "EarthMesh" (some .int)) (hI : Sx E) (v1 : Int32) (v2 : Int32) (v3 : Int32) (v4 : Int32) (v5 : Int32) (st : St) {x : Int32 × St} (hx : fX1_feed v1 v2 v3 v4 v5 st = some x) {H : Heap} {locs : List Loc} {ls : Array Slot} (h : XH E (sg st) s H locs) (hl : lv_has ls 6 [(0, .ref (E.ad 0)), (1, .int v1), (2, .int v2), (3, .int v3), (4, .int v4), (5, .int v5)]) : W p l e rmX1_feed s m args below meth c H locs 0 0 (MQ below (Qx E (some (.int x.1)) (sg x.2)) args s 0 0 (gA E.HB)) (F0 m 0 ls []) := by
  unfold fX1_feed at hx
  refine lv_aload_n C.x C.bc dX1_feed_0 rfl (lv_at hl 0 rfl) ?_
  refine gt_X1_202_0 C hI h dX1_feed_1 ?_
  refine lv_bipush (v := (20 : Int32)) C.x C.bc dX1_feed_4 (by decide) ?_
  refine lv_iadd C.x C.bc dX1_feed_6 ?_
  refine lv_sipush (v := (500 : Int32)) C.x C.bc dX1_feed_7 (by decide) ?_
  refine lv_icmp_le (tgt := 19) C.x C.bc dX1_feed_10 (by decide) (fun c_1 => ?_) (fun c_1 => ?_)
  · have hx := ge_t hx c_1
    refine lv_aload_n C.x C.bc dX1_feed_19 rfl (lv_at hl 0 rfl) ?_
    refine lv_iload_n C.x C.bc dX1_feed_20 rfl (lv_at hl 1 rfl) ?_
    obtain ⟨st_2, hf_2, hx⟩ := bd_e hx
    refine cX1_208_X1_lay C hI h hf_2 ⟨Nat.le_of_ble_eq_true rfl, Nat.le_of_ble_eq_true rfl⟩ ⟨Nat.zero_le _, Nat.zero_le _⟩ hl.1 (Nat.le_of_ble_eq_true rfl) dX1_feed_21 (fun H locs h => ?_)
    refine lv_aload_n C.x C.bc dX1_feed_24 rfl (lv_at hl 0 rfl) ?_
    refine lv_iload_n C.x C.bc dX1_feed_25 rfl (lv_at hl 2 rfl) ?_
    obtain ⟨st_3, hf_3, hx⟩ := bd_e hx
    refine cX1_208_X1_lay C hI h hf_3 ⟨Nat.le_of_ble_eq_true rfl, Nat.le_of_ble_eq_true rfl⟩ ⟨Nat.zero_le _, Nat.zero_le _⟩ hl.1 (Nat.le_of_ble_eq_true rfl) dX1_feed_26 (fun H locs h => ?_)
    refine lv_aload_n C.x C.bc dX1_feed_29 rfl (lv_at hl 0 rfl) ?_
    refine lv_iload_n C.x C.bc dX1_feed_30 rfl (lv_at hl 3 rfl) ?_
    obtain ⟨st_4, hf_4, hx⟩ := bd_e hx
    refine cX1_208_X1_lay C hI h hf_4 ⟨Nat.le_of_ble_eq_true rfl, Nat.le_of_ble_eq_true rfl⟩ ⟨Nat.zero_le _, Nat.zero_le _⟩ hl.1 (Nat.le_of_ble_eq_true rfl) dX1_feed_31 (fun H locs h => ?_)
    refine lv_aload_n C.x C.bc dX1_feed_34 rfl (lv_at hl 0 rfl) ?_
    refine lv_iload C.x C.bc dX1_feed_35 (lv_at hl 4 rfl) ?_
    obtain ⟨st_5, hf_5, hx⟩ := bd_e hx
    refine cX1_208_X1_lay C hI h hf_5 ⟨Nat.le_of_ble_eq_true rfl, Nat.le_of_ble_eq_true rfl⟩ ⟨Nat.zero_le _, Nat.zero_le _⟩ hl.1 (Nat.le_of_ble_eq_true rfl) dX1_feed_37 (fun H locs h => ?_)
    refine lv_aload_n C.x C.bc dX1_feed_40 rfl (lv_at hl 0 rfl) ?_
    refine lv_iload C.x C.bc dX1_feed_41 (lv_at hl 5 rfl) ?_
    obtain ⟨st_6, hf_6, hx⟩ := bd_e hx
    refine cX1_208_X1_lay C hI h hf_6 ⟨Nat.le_of_ble_eq_true rfl, Nat.le_of_ble_eq_true rfl⟩ ⟨Nat.zero_le _, Nat.zero_le _⟩ hl.1 (Nat.le_of_ble_eq_true rfl) dX1_feed_43 (fun H locs h => ?_)
    refine lv_aload_n C.x C.bc dX1_feed_46 rfl (lv_at hl 0 rfl) ?_
    refine gt_X1_202_0 C hI h dX1_feed_47 ?_
    obtain rfl := Option.some.inj hx
    exact x_iret C h dX1_feed_50
  · have hx := ge_f hx c_1
    refine lv_aload_n C.x C.bc dX1_feed_13 rfl (lv_at hl 0 rfl) ?_
    refine lv_iconst (v := (-1 : Int32)) C.x C.bc dX1_feed_14 (by decide) ?_
    obtain ⟨⟨r_7, st_7⟩, hf_7, hx⟩ := bd_e hx
    have hx := u2_e hx
    refine cX1_205_X1_refuses C hI h hf_7 ⟨Nat.le_of_ble_eq_true rfl, Nat.le_of_ble_eq_true rfl⟩ ⟨Nat.zero_le _, Nat.zero_le _⟩ hl.1 (Nat.le_of_ble_eq_true rfl) dX1_feed_15 (fun H locs h => ?_)
    obtain rfl := Option.some.inj hx
    exact x_iret C h dX1_feed_18
theorem mX1_feed (hG : G0 E s0 b) (hI : Sx E) {v1 : Int32} {v2 : Int32} {v3 : Int32} {v4 : Int32} {v5 : Int32} {x : Int32 × St} (hx : fX1_feed v1 v2 v3 v4 v5 st = some x) : Mt l E s0 yX1_feed cX1_feed 6 (some .int) rmX1_feed [.ref (E.ad 0), .int v1, .int v2, .int v3, .int v4, .int v5] (sg st) (some (.int x.1)) E (sg x.2) :=
  Mt.of hG (by decide) (Nat.le_of_ble_eq_true rfl) (fun p e s m below meth c ls C h hl => bX1_feed C hI v1 v2 v3 v4 v5 st hx h hl)
abbrev rmX1_fault : Room := { frames := 0, cells := 0, slots := 0, locals := 0 }
def fX1_fault (st : St) : Int32 :=
  (st.1 0 9)
set_option maxHeartbeats 1000000 in
theorem bX1_fault (C : Cx E s0 b p s m args meth c cX1_fault 1 "EarthMesh" (some .int)) (hI : Sx E) (st : St) {x : Int32} (hx : fX1_fault st = x) {H : Heap} {locs : List Loc} {ls : Array Slot} (h : XH E (sg st) s H locs) (hl : lv_has ls 1 [(0, .ref (E.ad 0))]) : W p l e rmX1_fault s m args below meth c H locs 0 0 (MQ below (Qx E (some (.int x)) (sg st)) args s 0 0 (gA E.HB)) (F0 m 0 ls []) := by
  unfold fX1_fault at hx
  refine lv_aload_n C.x C.bc dX1_fault_0 rfl (lv_at hl 0 rfl) ?_
  refine gt_X1_162_0 C hI h dX1_fault_1 ?_
  subst hx
  exact x_iret C h dX1_fault_4
theorem mX1_fault (hG : G0 E s0 b) (hI : Sx E)  {x : Int32} (hx : fX1_fault st = x) : Mt l E s0 yX1_fault cX1_fault 1 (some .int) rmX1_fault [.ref (E.ad 0)] (sg st) (some (.int x)) E (sg st) :=
  Mt.of hG (by decide) (Nat.le_of_ble_eq_true rfl) (fun p e s m below meth c ls C h hl => bX1_fault C hI st hx h hl)
abbrev rmX1_isNode : Room := { frames := 1, cells := 0, slots := 0, locals := 28 }
def fX1_isNode_19 (st : St) : Int32 :=
  (0 : Int32)
set_option maxHeartbeats 1000000 in
theorem bX1_isNode_19 (C : Cx E s0 b p s m args meth c cX1_isNode 2 "EarthMesh" (some .boolean)) (hI : Sx E) (st : St) {x : Int32} (hx : fX1_isNode_19 st = x) {H : Heap} {locs : List Loc} {ls : Array Slot} (h : XH E (sg st) s H locs) (hl : lv_has ls 2 []) : W p l e rmX1_isNode s m args below meth c H locs 0 0 (MQ below (Qx E (some (.int x)) (sg st)) args s 0 0 (gA E.HB)) (F0 m 19 ls []) := by
  unfold fX1_isNode_19 at hx
  refine lv_iconst (v := (0 : Int32)) C.x C.bc dX1_isNode_19 (by decide) ?_
  subst hx
  exact x_zret (v := (0 : Int32)) C h rfl dX1_isNode_20
def fX1_isNode (v1 : Int32) (st : St) : Int32 :=
  if v1 < 0 then
    fX1_isNode_19 st
  else
    nm (fX2_nodes_1 st) fun r_2 =>
    if r_2 ≤ v1 then
      fX1_isNode_19 st
    else
      (1 : Int32)
set_option maxHeartbeats 1000000 in
theorem bX1_isNode (C : Cx E s0 b p s m args meth c cX1_isNode 2 "EarthMesh" (some .boolean)) (hI : Sx E) (v1 : Int32) (st : St) {x : Int32} (hx : fX1_isNode v1 st = x) {H : Heap} {locs : List Loc} {ls : Array Slot} (h : XH E (sg st) s H locs) (hl : lv_has ls 2 [(0, .ref (E.ad 0)), (1, .int v1)]) : W p l e rmX1_isNode s m args below meth c H locs 0 0 (MQ below (Qx E (some (.int x)) (sg st)) args s 0 0 (gA E.HB)) (F0 m 0 ls []) := by
  unfold fX1_isNode at hx
  refine lv_iload_n C.x C.bc dX1_isNode_0 rfl (lv_at hl 1 rfl) ?_
  refine lv_if_lt (tgt := 19) C.x C.bc dX1_isNode_1 (by decide) (fun c_1 => ?_) (fun c_1 => ?_)
  · have hx := ge_t hx c_1
    exact bX1_isNode_19 C hI st hx h (lv_sub hl [] rfl)
  · have hx := ge_f hx c_1
    refine lv_iload_n C.x C.bc dX1_isNode_4 rfl (lv_at hl 1 rfl) ?_
    refine lv_aload_n C.x C.bc dX1_isNode_5 rfl (lv_at hl 0 rfl) ?_
    refine gt_X1_1_0 C hI h dX1_isNode_6 ?_
    obtain ⟨r_2, e_2, hx⟩ := nm_x hx
    refine cX1_55_X2_nodes_1 C hI h e_2.symm ⟨Nat.le_of_ble_eq_true rfl, Nat.le_of_ble_eq_true rfl⟩ ⟨Nat.zero_le _, Nat.zero_le _⟩ hl.1 (Nat.le_of_ble_eq_true rfl) dX1_isNode_9 (fun H locs h => ?_)
    refine lv_icmp_ge (tgt := 19) C.x C.bc dX1_isNode_12 (by decide) (fun c_3 => ?_) (fun c_3 => ?_)
    · have hx := ge_t hx c_3
      exact bX1_isNode_19 C hI st hx h (lv_sub hl [] rfl)
    · have hx := ge_f hx c_3
      refine lv_iconst (v := (1 : Int32)) C.x C.bc dX1_isNode_15 (by decide) ?_
      refine lv_goto (tgt := 20) C.x C.bc dX1_isNode_16 (by decide) ?_
      subst hx
      exact x_zret (v := (1 : Int32)) C h rfl dX1_isNode_20
theorem mX1_isNode (hG : G0 E s0 b) (hI : Sx E) {v1 : Int32} {x : Int32} (hx : fX1_isNode v1 st = x) : Mt l E s0 yX1_isNode cX1_isNode 2 (some .boolean) rmX1_isNode [.ref (E.ad 0), .int v1] (sg st) (some (.int x)) E (sg st) :=
  Mt.of hG (by decide) (Nat.le_of_ble_eq_true rfl) (fun p e s m below meth c ls C h hl => bX1_isNode C hI v1 st hx h hl)
theorem cX1_293_X1_isNode {a0 : Int32} {r : Int32} (C : Cx E s0 b p s m args meth c cc nL "EarthMesh" rt) (hI : Sx E) (h : XH E (sg st) s H locs) (hf : fX1_isNode a0 st = r) (hR : rmX1_isNode.frames + 1 ≤ R.frames ∧ 16 + (2 + 11) + rmX1_isNode.locals ≤ R.locals) (h0 : cells ≤ R.cells ∧ slots ≤ R.slots) (hsz : ls.size = nL) (hcat : (rest.map fun v => v.category).sum ≤ 16) (hdg : decode cc pc = .ok (.invokevirtual 293, 3)) (kk : ∀ (H : Heap) (locs : List Loc), XH E (sg st) s H locs → W p l e R s m args below meth c H locs cells slots Q (F0 m (pc + 3) ls (.int r :: rest))) : W p l e R s m args below meth c H locs cells slots Q (F0 m pc ls (.int a0 :: .ref (E.ad 0) :: rest)) :=
  x_callV (n := 1) (As := [.int a0]) C h 0 0 (hI 0 (by decide)) k_0 rfl (mX1_isNode C.g hI hf) (lw_V q436 q438 qs10 q130 q439) ⟨rfl, by decide +kernel, by decide +kernel, by decide +kernel⟩ hR ⟨rfl, rfl⟩ h0 rfl hsz rfl hcat hdg kk
abbrev rmX1_flow : Room := { frames := 1, cells := 0, slots := 0, locals := 30 }
def fX1_flow (v1 : Int32) (v2 : Int32) (st : St) : Option (Int64) :=
  gd (inB v2 3) <|
  gd (inB v1 12) <|
  if (st.1 (3 + v2.toNatClampNeg) v1.toNatClampNeg) = 0 then
    some (0 : Int64)
  else
    gd (inB v2 3) <|
    gd (inB v1 12) <|
    gd (inB v1 12) <|
    nm (fX2_end_1 v1 v2 st) fun r_7 =>
    gd (inB r_7 12) <|
    some (((st.1 (3 + v2.toNatClampNeg) v1.toNatClampNeg).toInt64) * ((st.2.1 52 v1.toNatClampNeg) - (st.2.1 52 r_7.toNatClampNeg)))
set_option maxHeartbeats 1000000 in
theorem bX1_flow (C : Cx E s0 b p s m args meth c cX1_flow 3 "EarthMesh" (some .long)) (hI : Sx E) (v1 : Int32) (v2 : Int32) (st : St) {x : Int64} (hx : fX1_flow v1 v2 st = some x) {H : Heap} {locs : List Loc} {ls : Array Slot} (h : XH E (sg st) s H locs) (hl : lv_has ls 3 [(0, .ref (E.ad 0)), (1, .int v1), (2, .int v2)]) : W p l e rmX1_flow s m args below meth c H locs 0 0 (MQ below (Qx E (some (.long x)) (sg st)) args s 0 0 (gA E.HB)) (F0 m 0 ls []) := by
  unfold fX1_flow at hx
  refine lv_aload_n C.x C.bc dX1_flow_0 rfl (lv_at hl 0 rfl) ?_
  refine gt_X1_1_0 C hI h dX1_flow_1 ?_
  refine gt_X1_238_1 C hI h dX1_flow_4 ?_
  refine lv_iload_n C.x C.bc dX1_flow_7 rfl (lv_at hl 2 rfl) ?_
  obtain ⟨g_1, hx⟩ := gd_e hx
  refine y_row C h 2 3 4 3 (hI 2 (by decide)) k_2 (by decide) rfl rfl (fun _ _ => rfl) g_1 dX1_flow_8 ?_
  refine lv_iload_n C.x C.bc dX1_flow_9 rfl (lv_at hl 1 rfl) ?_
  obtain ⟨g_2, hx⟩ := gd_e hx
  refine x_iald C h (3 + v2.toNatClampNeg) 12 (hI _ (by have := inB_lt g_1; omega)) (kg_3 _ (inB_lt g_1)) g_2 dX1_flow_10 ?_
  refine lv_if_ne (tgt := 16) C.x C.bc dX1_flow_11 (by decide) (fun c_3 => ?_) (fun c_3 => ?_)
  · have hx := ge_f hx c_3
    refine lv_aload_n C.x C.bc dX1_flow_16 rfl (lv_at hl 0 rfl) ?_
    refine gt_X1_1_0 C hI h dX1_flow_17 ?_
    refine gt_X1_238_1 C hI h dX1_flow_20 ?_
    refine lv_iload_n C.x C.bc dX1_flow_23 rfl (lv_at hl 2 rfl) ?_
    obtain ⟨g_4, hx⟩ := gd_e hx
    refine y_row C h 2 3 4 3 (hI 2 (by decide)) k_2 (by decide) rfl rfl (fun _ _ => rfl) g_4 dX1_flow_24 ?_
    refine lv_iload_n C.x C.bc dX1_flow_25 rfl (lv_at hl 1 rfl) ?_
    obtain ⟨g_5, hx⟩ := gd_e hx
    refine x_iald C h (3 + v2.toNatClampNeg) 12 (hI _ (by have := inB_lt g_4; omega)) (kg_3 _ (inB_lt g_4)) g_5 dX1_flow_26 ?_
    refine lv_i2l (v := ((st.1 (3 + v2.toNatClampNeg) v1.toNatClampNeg).toInt64)) C.x C.bc dX1_flow_27 rfl ?_
    refine lv_aload_n C.x C.bc dX1_flow_28 rfl (lv_at hl 0 rfl) ?_
    refine gt_X1_47_0 C hI h dX1_flow_29 ?_
    refine lv_iload_n C.x C.bc dX1_flow_32 rfl (lv_at hl 1 rfl) ?_
    obtain ⟨g_6, hx⟩ := gd_e hx
    refine x_lald C h 52 12 (hI 52 (by decide)) k_52 g_6 dX1_flow_33 ?_
    refine lv_aload_n C.x C.bc dX1_flow_34 rfl (lv_at hl 0 rfl) ?_
    refine gt_X1_47_0 C hI h dX1_flow_35 ?_
    refine lv_aload_n C.x C.bc dX1_flow_38 rfl (lv_at hl 0 rfl) ?_
    refine gt_X1_1_0 C hI h dX1_flow_39 ?_
    refine lv_iload_n C.x C.bc dX1_flow_42 rfl (lv_at hl 1 rfl) ?_
    refine lv_iload_n C.x C.bc dX1_flow_43 rfl (lv_at hl 2 rfl) ?_
    obtain ⟨r_7, e_7, hx⟩ := nm_x hx
    refine cX1_296_X2_end_1 C hI h e_7.symm ⟨Nat.le_of_ble_eq_true rfl, Nat.le_of_ble_eq_true rfl⟩ ⟨Nat.zero_le _, Nat.zero_le _⟩ hl.1 (Nat.le_of_ble_eq_true rfl) dX1_flow_44 (fun H locs h => ?_)
    obtain ⟨g_8, hx⟩ := gd_e hx
    refine x_lald C h 52 12 (hI 52 (by decide)) k_52 g_8 dX1_flow_47 ?_
    refine lv_lsub C.x C.bc dX1_flow_48 ?_
    refine lv_lmul C.x C.bc dX1_flow_49 ?_
    obtain rfl := Option.some.inj hx
    exact x_lret C h dX1_flow_50
  · have hx := ge_t hx c_3
    refine lv_lconst (v := (0 : Int64)) C.x C.bc dX1_flow_14 (by decide) ?_
    obtain rfl := Option.some.inj hx
    exact x_lret C h dX1_flow_15
theorem mX1_flow (hG : G0 E s0 b) (hI : Sx E) {v1 : Int32} {v2 : Int32} {x : Int64} (hx : fX1_flow v1 v2 st = some x) : Mt l E s0 yX1_flow cX1_flow 3 (some .long) rmX1_flow [.ref (E.ad 0), .int v1, .int v2] (sg st) (some (.long x)) E (sg st) :=
  Mt.of hG (by decide) (Nat.le_of_ble_eq_true rfl) (fun p e s m below meth c ls C h hl => bX1_flow C hI v1 v2 st hx h hl)
abbrev rmX1_isAbove : Room := { frames := 4, cells := 0, slots := 0, locals := 122 }
def fX1_isAbove (v1 : Int32) (v2 : Int32) (v3 : Int32) (st : St) : Option (Int32) :=
  bd (fX1_step v1 v2 st) fun r_1 =>
  if (((4 : Int64) * (v3.toInt64)) * (st.2.1 0 3)) < r_1 then
    some (1 : Int32)
  else
    some (0 : Int32)
set_option maxHeartbeats 1000000 in
theorem bX1_isAbove (C : Cx E s0 b p s m args meth c cX1_isAbove 4 "EarthMesh" (some .boolean)) (hI : Sx E) (v1 : Int32) (v2 : Int32) (v3 : Int32) (st : St) {x : Int32} (hx : fX1_isAbove v1 v2 v3 st = some x) {H : Heap} {locs : List Loc} {ls : Array Slot} (h : XH E (sg st) s H locs) (hl : lv_has ls 4 [(0, .ref (E.ad 0)), (1, .int v1), (2, .int v2), (3, .int v3)]) : W p l e rmX1_isAbove s m args below meth c H locs 0 0 (MQ below (Qx E (some (.int x)) (sg st)) args s 0 0 (gA E.HB)) (F0 m 0 ls []) := by
  unfold fX1_isAbove at hx
  refine lv_aload_n C.x C.bc dX1_isAbove_0 rfl (lv_at hl 0 rfl) ?_
  refine lv_iload_n C.x C.bc dX1_isAbove_1 rfl (lv_at hl 1 rfl) ?_
  refine lv_iload_n C.x C.bc dX1_isAbove_2 rfl (lv_at hl 2 rfl) ?_
  obtain ⟨r_1, hf_1, hx⟩ := bd_e hx
  refine cX1_326_X1_step C hI h hf_1 ⟨Nat.le_of_ble_eq_true rfl, Nat.le_of_ble_eq_true rfl⟩ ⟨Nat.zero_le _, Nat.zero_le _⟩ hl.1 (Nat.le_of_ble_eq_true rfl) dX1_isAbove_3 (fun H locs h => ?_)
  refine lv_ldc2 (v := (4 : Int64)) C.x C.bc C.ow (C.ts _ q1217) dX1_isAbove_6 ?_
  refine lv_iload_n C.x C.bc dX1_isAbove_9 rfl (lv_at hl 3 rfl) ?_
  refine lv_i2l (v := (v3.toInt64)) C.x C.bc dX1_isAbove_10 rfl ?_
  refine lv_lmul C.x C.bc dX1_isAbove_11 ?_
  refine lv_aload_n C.x C.bc dX1_isAbove_12 rfl (lv_at hl 0 rfl) ?_
  refine gt_X1_44_0 C hI h dX1_isAbove_13 ?_
  refine lv_lmul C.x C.bc dX1_isAbove_16 ?_
  refine W.lcmp C.x C.bc dX1_isAbove_17 ?_
  refine lv_if_le (tgt := 25) C.x C.bc dX1_isAbove_18 (by decide) (fun c_2 => ?_) (fun c_2 => ?_)
  · have c_2 := (lc_le _ _).mp c_2
    have hx := ge_f hx c_2
    refine lv_iconst (v := (0 : Int32)) C.x C.bc dX1_isAbove_25 (by decide) ?_
    obtain rfl := Option.some.inj hx
    exact x_zret (v := (0 : Int32)) C h rfl dX1_isAbove_26
  · have c_2 := Classical.not_not.mp ((not_congr (lc_le _ _)).mp c_2)
    have hx := ge_t hx c_2
    refine lv_iconst (v := (1 : Int32)) C.x C.bc dX1_isAbove_21 (by decide) ?_
    refine lv_goto (tgt := 26) C.x C.bc dX1_isAbove_22 (by decide) ?_
    obtain rfl := Option.some.inj hx
    exact x_zret (v := (1 : Int32)) C h rfl dX1_isAbove_26
theorem mX1_isAbove (hG : G0 E s0 b) (hI : Sx E) {v1 : Int32} {v2 : Int32} {v3 : Int32} {x : Int32} (hx : fX1_isAbove v1 v2 v3 st = some x) : Mt l E s0 yX1_isAbove cX1_isAbove 4 (some .boolean) rmX1_isAbove [.ref (E.ad 0), .int v1, .int v2, .int v3] (sg st) (some (.int x)) E (sg st) :=
  Mt.of hG (by decide) (Nat.le_of_ble_eq_true rfl) (fun p e s m below meth c ls C h hl => bX1_isAbove C hI v1 v2 v3 st hx h hl)
abbrev rmX1_begins : Room := { frames := 2, cells := 0, slots := 0, locals := 56 }
def fX1_begins_27 (v1 : Int32) (v2 : Int32) (k1 : Int32) (k2 : Int64) (st : St) : Option ((Int32 × St) ⊕ (St)) :=
  gd (inB k1 35) <|
  nm (uL st 58 k1.toNatClampNeg k2) fun st_5 =>
  gd (inB v2 35) <|
  nm (uI st_5 59 v2.toNatClampNeg (vp_nar .boolean (0 : Int32))) fun st_7 =>
  nm (v2 + (1 : Int32)) fun v2_8 =>
  some (.inl (v2_8, st_7))
set_option maxHeartbeats 1000000 in
theorem bX1_begins_27 (C : Cx E s0 b p s m args meth c cX1_begins 3 "EarthMesh" none) (hI : Sx E) (v1 : Int32) (v2 : Int32) (k1 : Int32) (k2 : Int64) (st : St) {x : (Int32 × St) ⊕ (St)} (hx : fX1_begins_27 v1 v2 k1 k2 st = some x) {Q : State → Prop} {G : Int32 × St → Prop} {X : St → Prop} (hG : ∀ (w2 : Int32) (wst : St), G (w2, wst) → ∀ (H : Heap) (locs : List Loc) (ls : Array Slot), XH E (sg wst) s H locs → lv_has ls 3 [(0, .ref (E.ad 0)), (1, .int v1), (2, .int w2)] → W p l e rmX1_begins s m args below meth c H locs 0 0 Q (F0 m 2 ls [])) (hE0 : ∀ (wst : St), X wst → ∀ (H : Heap) (locs : List Loc) (ls : Array Slot), XH E (sg wst) s H locs → lv_has ls 3 [] → W p l e rmX1_begins s m args below meth c H locs 0 0 Q (F0 m 41 ls [])) (K : Kx G X x) {H : Heap} {locs : List Loc} {ls : Array Slot} (h : XH E (sg st) s H locs) (hl : lv_has ls 3 [(0, .ref (E.ad 0)), (1, .int v1), (2, .int v2)]) : W p l e rmX1_begins s m args below meth c H locs 0 0 Q (F0 m 27 ls [.long k2, .int k1, .ref (E.ad 58)]) := by
  unfold fX1_begins_27 at hx
  obtain ⟨g_4, hx⟩ := gd_e hx
  obtain ⟨st_5, e_5, hx⟩ := nm_x hx
  refine y_last C h 58 35 (hI 58 (by decide)) k_58 g_4 e_5 dX1_begins_27 (fun H locs h => ?_)
  refine lv_aload_n C.x C.bc dX1_begins_28 rfl (lv_at hl 0 rfl) ?_
  refine gt_X1_168_0 C hI h dX1_begins_29 ?_
  refine lv_iload_n C.x C.bc dX1_begins_32 rfl (lv_at hl 2 rfl) ?_
  refine lv_iconst (v := (0 : Int32)) C.x C.bc dX1_begins_33 (by decide) ?_
  obtain ⟨g_6, hx⟩ := gd_e hx
  obtain ⟨st_7, e_7, hx⟩ := nm_x hx
  refine y_zast C h 59 35 (hI 59 (by decide)) k_59 g_6 e_7 dX1_begins_34 (fun H locs h => ?_)
  obtain ⟨v2_8, e_8, hx⟩ := nm_x hx
  refine lv_iinc (v := v2_8) (lv' := [(2, .int v2_8), (0, .ref (E.ad 0)), (1, .int v1)]) C.x C.bc dX1_begins_35 hl (k := 2) rfl (by rw [e_8]; rfl) (by decide) rfl (fun ls hl => ?_)
  refine lv_goto (tgt := 2) C.x C.bc dX1_begins_38 (by decide) ?_
  obtain rfl := Option.some.inj hx
  exact hG _ _ K _ _ _ h (lv_sub hl [1, 2, 0] rfl)
def fX1_begins_2 (v1 : Int32) (v2 : Int32) (st : St) : Option ((Int32 × St) ⊕ (St)) :=
  nm (fX1_points st) fun r_1 =>
  if r_1 ≤ v2 then
    some (.inr st)
  else
    if v2 = v1 then
      fX1_begins_27 v1 v2 v2 (0 : Int64) st
    else
      fX1_begins_27 v1 v2 v2 (9223372036854775807 : Int64) st
set_option maxHeartbeats 1000000 in
theorem bX1_begins_2 (C : Cx E s0 b p s m args meth c cX1_begins 3 "EarthMesh" none) (hI : Sx E) (v1 : Int32) (v2 : Int32) (st : St) {x : (Int32 × St) ⊕ (St)} (hx : fX1_begins_2 v1 v2 st = some x) {Q : State → Prop} {G : Int32 × St → Prop} {X : St → Prop} (hG : ∀ (w2 : Int32) (wst : St), G (w2, wst) → ∀ (H : Heap) (locs : List Loc) (ls : Array Slot), XH E (sg wst) s H locs → lv_has ls 3 [(0, .ref (E.ad 0)), (1, .int v1), (2, .int w2)] → W p l e rmX1_begins s m args below meth c H locs 0 0 Q (F0 m 2 ls [])) (hE0 : ∀ (wst : St), X wst → ∀ (H : Heap) (locs : List Loc) (ls : Array Slot), XH E (sg wst) s H locs → lv_has ls 3 [] → W p l e rmX1_begins s m args below meth c H locs 0 0 Q (F0 m 41 ls [])) (K : Kx G X x) {H : Heap} {locs : List Loc} {ls : Array Slot} (h : XH E (sg st) s H locs) (hl : lv_has ls 3 [(0, .ref (E.ad 0)), (1, .int v1), (2, .int v2)]) : W p l e rmX1_begins s m args below meth c H locs 0 0 Q (F0 m 2 ls []) := by
  unfold fX1_begins_2 at hx
  refine lv_iload_n C.x C.bc dX1_begins_2 rfl (lv_at hl 2 rfl) ?_
  refine lv_aload_n C.x C.bc dX1_begins_3 rfl (lv_at hl 0 rfl) ?_
  obtain ⟨r_1, e_1, hx⟩ := nm_x hx
  refine cX1_122_X1_points C hI h e_1.symm ⟨Nat.le_of_ble_eq_true rfl, Nat.le_of_ble_eq_true rfl⟩ ⟨Nat.zero_le _, Nat.zero_le _⟩ hl.1 (Nat.le_of_ble_eq_true rfl) dX1_begins_4 (fun H locs h => ?_)
  refine lv_icmp_ge (tgt := 41) C.x C.bc dX1_begins_7 (by decide) (fun c_2 => ?_) (fun c_2 => ?_)
  · have hx := ge_t hx c_2
    obtain rfl := Option.some.inj hx
    exact hE0 _ K _ _ _ h (lv_sub hl [] rfl)
  · have hx := ge_f hx c_2
    refine lv_aload_n C.x C.bc dX1_begins_10 rfl (lv_at hl 0 rfl) ?_
    refine gt_X1_165_0 C hI h dX1_begins_11 ?_
    refine lv_iload_n C.x C.bc dX1_begins_14 rfl (lv_at hl 2 rfl) ?_
    refine lv_iload_n C.x C.bc dX1_begins_15 rfl (lv_at hl 2 rfl) ?_
    refine lv_iload_n C.x C.bc dX1_begins_16 rfl (lv_at hl 1 rfl) ?_
    refine lv_icmp_ne (tgt := 24) C.x C.bc dX1_begins_17 (by decide) (fun c_3 => ?_) (fun c_3 => ?_)
    · have hx := ge_f hx c_3
      refine lv_ldc2 (v := (9223372036854775807 : Int64)) C.x C.bc C.ow (C.ts _ q1441) dX1_begins_24 ?_
      exact bX1_begins_27 C hI v1 v2 v2 (9223372036854775807 : Int64) st hx hG hE0 K h (lv_sub hl [0, 1, 2] rfl)
    · have hx := ge_t hx c_3
      refine lv_lconst (v := (0 : Int64)) C.x C.bc dX1_begins_20 (by decide) ?_
      refine lv_goto (tgt := 27) C.x C.bc dX1_begins_21 (by decide) ?_
      exact bX1_begins_27 C hI v1 v2 v2 (0 : Int64) st hx hG hE0 K h (lv_sub hl [0, 1, 2] rfl)
set_option maxHeartbeats 1000000 in
theorem pX1_begins_2 (C : Cx E s0 b p s m args meth c cX1_begins 3 "EarthMesh" none) (hI : Sx E) (v1 : Int32) {Q : State → Prop} {v2 : Int32} {st : St} {n : Nat} {r : St} (hx : iter (u2 fun v2 st => fX1_begins_2 v1 v2 st) n (v2, st) = some r) (hE : (fun t => ∀ (H : Heap) (locs : List Loc) (ls : Array Slot), XH E (sg t) s H locs → lv_has ls 3 [] → W p l e rmX1_begins s m args below meth c H locs 0 0 Q (F0 m 41 ls [])) r) {H : Heap} {locs : List Loc} {ls : Array Slot} (h : XH E (sg st) s H locs) (hl : lv_has ls 3 [(0, .ref (E.ad 0)), (1, .int v1), (2, .int v2)]) : W p l e rmX1_begins s m args below meth c H locs 0 0 Q (F0 m 2 ls []) := by
  refine iter_W (G := fun t => ∀ (H : Heap) (locs : List Loc) (ls : Array Slot), XH E (sg t.2) s H locs → lv_has ls 3 [(0, .ref (E.ad 0)), (1, .int v1), (2, .int t.1)] → W p l e rmX1_begins s m args below meth c H locs 0 0 Q (F0 m 2 ls [])) (E := fun t => ∀ (H : Heap) (locs : List Loc) (ls : Array Slot), XH E (sg t) s H locs → lv_has ls 3 [] → W p l e rmX1_begins s m args below meth c H locs 0 0 Q (F0 m 41 ls [])) (fun t x hx K H locs ls h hl => ?_) n _ r hx hE H locs ls h hl
  obtain ⟨v2, st⟩ := t
  exact bX1_begins_2 C hI v1 v2 st hx (fun _ _ z => z) (fun _ z => z) K h hl
def fX1_begins (v1 : Int32) (st : St) : Option (St) :=
  bd (iter (u2 fun z2 zst => fX1_begins_2 v1 z2 zst) FU ((0 : Int32), st)) (u1 fun st_9 =>
  some st_9)
set_option maxHeartbeats 1000000 in
theorem bX1_begins (C : Cx E s0 b p s m args meth c cX1_begins 3 "EarthMesh" none) (hI : Sx E) (v1 : Int32) (st : St) {x : St} (hx : fX1_begins v1 st = some x) {H : Heap} {locs : List Loc} {ls : Array Slot} (h : XH E (sg st) s H locs) (hl : lv_has ls 3 [(0, .ref (E.ad 0)), (1, .int v1)]) : W p l e rmX1_begins s m args below meth c H locs 0 0 (MQ below (Qx E none (sg x)) args s 0 0 (gA E.HB)) (F0 m 0 ls []) := by
  unfold fX1_begins at hx
  refine lv_iconst (v := (0 : Int32)) C.x C.bc dX1_begins_0 (by decide) ?_
  refine lv_istore_n (lv' := [(2, .int (0 : Int32)), (0, .ref (E.ad 0)), (1, .int v1)]) C.x C.bc dX1_begins_1 rfl hl (by decide) rfl (fun ls hl => ?_)
  obtain ⟨st_9, hi_9, hx⟩ := bd_e hx
  have hx := u1_e hx
  refine pX1_begins_2 C hI v1 hi_9 (fun H locs ls h hl => ?_) h (lv_sub hl [1, 2, 0] rfl)
  obtain rfl := Option.some.inj hx
  exact x_vret C h dX1_begins_41
theorem mX1_begins (hG : G0 E s0 b) (hI : Sx E) {v1 : Int32} {x : St} (hx : fX1_begins v1 st = some x) : Mt l E s0 yX1_begins cX1_begins 3 none rmX1_begins [.ref (E.ad 0), .int v1] (sg st) none E (sg x) :=
  Mt.of hG (by decide) (Nat.le_of_ble_eq_true rfl) (fun p e s m below meth c ls C h hl => bX1_begins C hI v1 st hx h hl)
abbrev rmX1_nearestLeft : Room := { frames := 2, cells := 0, slots := 0, locals := 56 }
def fX1_nearestLeft_57 (v1 : Int32) (v2 : Int32) (st : St) : Option ((Int32 × Int32) ⊕ (Int32)) :=
  nm (v2 + (1 : Int32)) fun v2_5 =>
  some (.inl (v1, v2_5))
set_option maxHeartbeats 1000000 in
theorem bX1_nearestLeft_57 (C : Cx E s0 b p s m args meth c cX1_nearestLeft 3 "EarthMesh" (some .int)) (hI : Sx E) (v1 : Int32) (v2 : Int32) (st : St) {x : (Int32 × Int32) ⊕ (Int32)} (hx : fX1_nearestLeft_57 v1 v2 st = some x) {Q : State → Prop} {G : Int32 × Int32 → Prop} {X : Int32 → Prop} (hG : ∀ (w1 : Int32) (w2 : Int32), G (w1, w2) → ∀ (H : Heap) (locs : List Loc) (ls : Array Slot), XH E (sg st) s H locs → lv_has ls 3 [(0, .ref (E.ad 0)), (1, .int w1), (2, .int w2)] → W p l e rmX1_nearestLeft s m args below meth c H locs 0 0 Q (F0 m 4 ls [])) (hE0 : ∀ (w1 : Int32), X w1 → ∀ (H : Heap) (locs : List Loc) (ls : Array Slot), XH E (sg st) s H locs → lv_has ls 3 [(1, .int w1)] → W p l e rmX1_nearestLeft s m args below meth c H locs 0 0 Q (F0 m 63 ls [])) (K : Kx G X x) {H : Heap} {locs : List Loc} {ls : Array Slot} (h : XH E (sg st) s H locs) (hl : lv_has ls 3 [(0, .ref (E.ad 0)), (1, .int v1), (2, .int v2)]) : W p l e rmX1_nearestLeft s m args below meth c H locs 0 0 Q (F0 m 57 ls []) := by
  unfold fX1_nearestLeft_57 at hx
  obtain ⟨v2_5, e_5, hx⟩ := nm_x hx
  refine lv_iinc (v := v2_5) (lv' := [(2, .int v2_5), (0, .ref (E.ad 0)), (1, .int v1)]) C.x C.bc dX1_nearestLeft_57 hl (k := 2) rfl (by rw [e_5]; rfl) (by decide) rfl (fun ls hl => ?_)
  refine lv_goto (tgt := 4) C.x C.bc dX1_nearestLeft_60 (by decide) ?_
  obtain rfl := Option.some.inj hx
  exact hG _ _ K _ _ _ h (lv_sub hl [1, 2, 0] rfl)
def fX1_nearestLeft_55 (v2 : Int32) (st : St) : Option ((Int32 × Int32) ⊕ (Int32)) :=
  fX1_nearestLeft_57 v2 v2 st
set_option maxHeartbeats 1000000 in
theorem bX1_nearestLeft_55 (C : Cx E s0 b p s m args meth c cX1_nearestLeft 3 "EarthMesh" (some .int)) (hI : Sx E) (v2 : Int32) (st : St) {x : (Int32 × Int32) ⊕ (Int32)} (hx : fX1_nearestLeft_55 v2 st = some x) {Q : State → Prop} {G : Int32 × Int32 → Prop} {X : Int32 → Prop} (hG : ∀ (w1 : Int32) (w2 : Int32), G (w1, w2) → ∀ (H : Heap) (locs : List Loc) (ls : Array Slot), XH E (sg st) s H locs → lv_has ls 3 [(0, .ref (E.ad 0)), (1, .int w1), (2, .int w2)] → W p l e rmX1_nearestLeft s m args below meth c H locs 0 0 Q (F0 m 4 ls [])) (hE0 : ∀ (w1 : Int32), X w1 → ∀ (H : Heap) (locs : List Loc) (ls : Array Slot), XH E (sg st) s H locs → lv_has ls 3 [(1, .int w1)] → W p l e rmX1_nearestLeft s m args below meth c H locs 0 0 Q (F0 m 63 ls [])) (K : Kx G X x) {H : Heap} {locs : List Loc} {ls : Array Slot} (h : XH E (sg st) s H locs) (hl : lv_has ls 3 [(0, .ref (E.ad 0)), (2, .int v2)]) : W p l e rmX1_nearestLeft s m args below meth c H locs 0 0 Q (F0 m 55 ls []) := by
  unfold fX1_nearestLeft_55 at hx
  refine lv_iload_n C.x C.bc dX1_nearestLeft_55 rfl (lv_at hl 1 rfl) ?_
  refine lv_istore_n (lv' := [(1, .int v2), (0, .ref (E.ad 0)), (2, .int v2)]) C.x C.bc dX1_nearestLeft_56 rfl hl (by decide) rfl (fun ls hl => ?_)
  exact bX1_nearestLeft_57 C hI v2 v2 st hx hG hE0 K h (lv_sub hl [1, 0, 2] rfl)
def fX1_nearestLeft_4 (v1 : Int32) (v2 : Int32) (st : St) : Option ((Int32 × Int32) ⊕ (Int32)) :=
  nm (fX1_points st) fun r_1 =>
  if r_1 ≤ v2 then
    some (.inr v1)
  else
    gd (inB v2 35) <|
    if (st.1 59 v2.toNatClampNeg) = 0 then
      gd (inB v2 35) <|
      if (st.2.1 58 v2.toNatClampNeg) < (9223372036854775807 : Int64) then
        if v1 = (-1 : Int32) then
          fX1_nearestLeft_55 v2 st
        else
          gd (inB v2 35) <|
          gd (inB v1 35) <|
          if (st.2.1 58 v2.toNatClampNeg) < (st.2.1 58 v1.toNatClampNeg) then
            fX1_nearestLeft_55 v2 st
          else
            fX1_nearestLeft_57 v1 v2 st
      else
        fX1_nearestLeft_57 v1 v2 st
    else
      fX1_nearestLeft_57 v1 v2 st
set_option maxHeartbeats 1000000 in
theorem bX1_nearestLeft_4 (C : Cx E s0 b p s m args meth c cX1_nearestLeft 3 "EarthMesh" (some .int)) (hI : Sx E) (v1 : Int32) (v2 : Int32) (st : St) {x : (Int32 × Int32) ⊕ (Int32)} (hx : fX1_nearestLeft_4 v1 v2 st = some x) {Q : State → Prop} {G : Int32 × Int32 → Prop} {X : Int32 → Prop} (hG : ∀ (w1 : Int32) (w2 : Int32), G (w1, w2) → ∀ (H : Heap) (locs : List Loc) (ls : Array Slot), XH E (sg st) s H locs → lv_has ls 3 [(0, .ref (E.ad 0)), (1, .int w1), (2, .int w2)] → W p l e rmX1_nearestLeft s m args below meth c H locs 0 0 Q (F0 m 4 ls [])) (hE0 : ∀ (w1 : Int32), X w1 → ∀ (H : Heap) (locs : List Loc) (ls : Array Slot), XH E (sg st) s H locs → lv_has ls 3 [(1, .int w1)] → W p l e rmX1_nearestLeft s m args below meth c H locs 0 0 Q (F0 m 63 ls [])) (K : Kx G X x) {H : Heap} {locs : List Loc} {ls : Array Slot} (h : XH E (sg st) s H locs) (hl : lv_has ls 3 [(0, .ref (E.ad 0)), (1, .int v1), (2, .int v2)]) : W p l e rmX1_nearestLeft s m args below meth c H locs 0 0 Q (F0 m 4 ls []) := by
  unfold fX1_nearestLeft_4 at hx
  refine lv_iload_n C.x C.bc dX1_nearestLeft_4 rfl (lv_at hl 2 rfl) ?_
  refine lv_aload_n C.x C.bc dX1_nearestLeft_5 rfl (lv_at hl 0 rfl) ?_
  obtain ⟨r_1, e_1, hx⟩ := nm_x hx
  refine cX1_122_X1_points C hI h e_1.symm ⟨Nat.le_of_ble_eq_true rfl, Nat.le_of_ble_eq_true rfl⟩ ⟨Nat.zero_le _, Nat.zero_le _⟩ hl.1 (Nat.le_of_ble_eq_true rfl) dX1_nearestLeft_6 (fun H locs h => ?_)
  refine lv_icmp_ge (tgt := 63) C.x C.bc dX1_nearestLeft_9 (by decide) (fun c_2 => ?_) (fun c_2 => ?_)
  · have hx := ge_t hx c_2
    obtain rfl := Option.some.inj hx
    exact hE0 _ K _ _ _ h (lv_sub hl [1] rfl)
  · have hx := ge_f hx c_2
    refine lv_aload_n C.x C.bc dX1_nearestLeft_12 rfl (lv_at hl 0 rfl) ?_
    refine gt_X1_168_0 C hI h dX1_nearestLeft_13 ?_
    refine lv_iload_n C.x C.bc dX1_nearestLeft_16 rfl (lv_at hl 2 rfl) ?_
    obtain ⟨g_3, hx⟩ := gd_e hx
    refine x_zald C h 59 35 (hI 59 (by decide)) k_59 g_3 dX1_nearestLeft_17 ?_
    refine lv_if_ne (tgt := 57) C.x C.bc dX1_nearestLeft_18 (by decide) (fun c_4 => ?_) (fun c_4 => ?_)
    · have hx := ge_f hx c_4
      exact bX1_nearestLeft_57 C hI v1 v2 st hx hG hE0 K h (lv_sub hl [0, 1, 2] rfl)
    · have hx := ge_t hx c_4
      refine lv_aload_n C.x C.bc dX1_nearestLeft_21 rfl (lv_at hl 0 rfl) ?_
      refine gt_X1_165_0 C hI h dX1_nearestLeft_22 ?_
      refine lv_iload_n C.x C.bc dX1_nearestLeft_25 rfl (lv_at hl 2 rfl) ?_
      obtain ⟨g_6, hx⟩ := gd_e hx
      refine x_lald C h 58 35 (hI 58 (by decide)) k_58 g_6 dX1_nearestLeft_26 ?_
      refine lv_ldc2 (v := (9223372036854775807 : Int64)) C.x C.bc C.ow (C.ts _ q1441) dX1_nearestLeft_27 ?_
      refine W.lcmp C.x C.bc dX1_nearestLeft_30 ?_
      refine lv_if_ge (tgt := 57) C.x C.bc dX1_nearestLeft_31 (by decide) (fun c_7 => ?_) (fun c_7 => ?_)
      · have c_7 := (lc_ge _ _).mp c_7
        have hx := ge_f hx c_7
        exact bX1_nearestLeft_57 C hI v1 v2 st hx hG hE0 K h (lv_sub hl [0, 1, 2] rfl)
      · have c_7 := Classical.not_not.mp ((not_congr (lc_ge _ _)).mp c_7)
        have hx := ge_t hx c_7
        refine lv_iload_n C.x C.bc dX1_nearestLeft_34 rfl (lv_at hl 1 rfl) ?_
        refine lv_iconst (v := (-1 : Int32)) C.x C.bc dX1_nearestLeft_35 (by decide) ?_
        refine lv_icmp_eq (tgt := 55) C.x C.bc dX1_nearestLeft_36 (by decide) (fun c_8 => ?_) (fun c_8 => ?_)
        · have hx := ge_t hx c_8
          exact bX1_nearestLeft_55 C hI v2 st hx hG hE0 K h (lv_sub hl [0, 2] rfl)
        · have hx := ge_f hx c_8
          refine lv_aload_n C.x C.bc dX1_nearestLeft_39 rfl (lv_at hl 0 rfl) ?_
          refine gt_X1_165_0 C hI h dX1_nearestLeft_40 ?_
          refine lv_iload_n C.x C.bc dX1_nearestLeft_43 rfl (lv_at hl 2 rfl) ?_
          obtain ⟨g_9, hx⟩ := gd_e hx
          refine x_lald C h 58 35 (hI 58 (by decide)) k_58 g_9 dX1_nearestLeft_44 ?_
          refine lv_aload_n C.x C.bc dX1_nearestLeft_45 rfl (lv_at hl 0 rfl) ?_
          refine gt_X1_165_0 C hI h dX1_nearestLeft_46 ?_
          refine lv_iload_n C.x C.bc dX1_nearestLeft_49 rfl (lv_at hl 1 rfl) ?_
          obtain ⟨g_10, hx⟩ := gd_e hx
          refine x_lald C h 58 35 (hI 58 (by decide)) k_58 g_10 dX1_nearestLeft_50 ?_
          refine W.lcmp C.x C.bc dX1_nearestLeft_51 ?_
          refine lv_if_ge (tgt := 57) C.x C.bc dX1_nearestLeft_52 (by decide) (fun c_11 => ?_) (fun c_11 => ?_)
          · have c_11 := (lc_ge _ _).mp c_11
            have hx := ge_f hx c_11
            exact bX1_nearestLeft_57 C hI v1 v2 st hx hG hE0 K h (lv_sub hl [0, 1, 2] rfl)
          · have c_11 := Classical.not_not.mp ((not_congr (lc_ge _ _)).mp c_11)
            have hx := ge_t hx c_11
            exact bX1_nearestLeft_55 C hI v2 st hx hG hE0 K h (lv_sub hl [0, 2] rfl)
set_option maxHeartbeats 1000000 in
theorem pX1_nearestLeft_4 (C : Cx E s0 b p s m args meth c cX1_nearestLeft 3 "EarthMesh" (some .int)) (hI : Sx E) (st : St) {Q : State → Prop} {v1 : Int32} {v2 : Int32} {n : Nat} {r : Int32} (hx : iter (u2 fun v1 v2 => fX1_nearestLeft_4 v1 v2 st) n (v1, v2) = some r) (hE : (fun t => ∀ (H : Heap) (locs : List Loc) (ls : Array Slot), XH E (sg st) s H locs → lv_has ls 3 [(1, .int t)] → W p l e rmX1_nearestLeft s m args below meth c H locs 0 0 Q (F0 m 63 ls [])) r) {H : Heap} {locs : List Loc} {ls : Array Slot} (h : XH E (sg st) s H locs) (hl : lv_has ls 3 [(0, .ref (E.ad 0)), (1, .int v1), (2, .int v2)]) : W p l e rmX1_nearestLeft s m args below meth c H locs 0 0 Q (F0 m 4 ls []) := by
  refine iter_W (G := fun t => ∀ (H : Heap) (locs : List Loc) (ls : Array Slot), XH E (sg st) s H locs → lv_has ls 3 [(0, .ref (E.ad 0)), (1, .int t.1), (2, .int t.2)] → W p l e rmX1_nearestLeft s m args below meth c H locs 0 0 Q (F0 m 4 ls [])) (E := fun t => ∀ (H : Heap) (locs : List Loc) (ls : Array Slot), XH E (sg st) s H locs → lv_has ls 3 [(1, .int t)] → W p l e rmX1_nearestLeft s m args below meth c H locs 0 0 Q (F0 m 63 ls [])) (fun t x hx K H locs ls h hl => ?_) n _ r hx hE H locs ls h hl
  obtain ⟨v1, v2⟩ := t
  exact bX1_nearestLeft_4 C hI v1 v2 st hx (fun _ _ z => z) (fun _ z => z) K h hl
def fX1_nearestLeft (st : St) : Option (Int32) :=
  bd (iter (u2 fun z1 z2 => fX1_nearestLeft_4 z1 z2 st) FU ((-1 : Int32), (0 : Int32))) (u1 fun v1_12 =>
  some v1_12)
set_option maxHeartbeats 1000000 in
theorem bX1_nearestLeft (C : Cx E s0 b p s m args meth c cX1_nearestLeft 3 "EarthMesh" (some .int)) (hI : Sx E) (st : St) {x : Int32} (hx : fX1_nearestLeft st = some x) {H : Heap} {locs : List Loc} {ls : Array Slot} (h : XH E (sg st) s H locs) (hl : lv_has ls 3 [(0, .ref (E.ad 0))]) : W p l e rmX1_nearestLeft s m args below meth c H locs 0 0 (MQ below (Qx E (some (.int x)) (sg st)) args s 0 0 (gA E.HB)) (F0 m 0 ls []) := by
  unfold fX1_nearestLeft at hx
  refine lv_iconst (v := (-1 : Int32)) C.x C.bc dX1_nearestLeft_0 (by decide) ?_
  refine lv_istore_n (lv' := [(1, .int (-1 : Int32)), (0, .ref (E.ad 0))]) C.x C.bc dX1_nearestLeft_1 rfl hl (by decide) rfl (fun ls hl => ?_)
  refine lv_iconst (v := (0 : Int32)) C.x C.bc dX1_nearestLeft_2 (by decide) ?_
  refine lv_istore_n (lv' := [(2, .int (0 : Int32)), (1, .int (-1 : Int32)), (0, .ref (E.ad 0))]) C.x C.bc dX1_nearestLeft_3 rfl hl (by decide) rfl (fun ls hl => ?_)
  obtain ⟨v1_12, hi_12, hx⟩ := bd_e hx
  have hx := u1_e hx
  refine pX1_nearestLeft_4 C hI st hi_12 (fun H locs ls h hl => ?_) h (lv_sub hl [2, 1, 0] rfl)
  refine lv_iload_n C.x C.bc dX1_nearestLeft_63 rfl (lv_at hl 0 rfl) ?_
  obtain rfl := Option.some.inj hx
  exact x_iret C h dX1_nearestLeft_64
theorem mX1_nearestLeft (hG : G0 E s0 b) (hI : Sx E)  {x : Int32} (hx : fX1_nearestLeft st = some x) : Mt l E s0 yX1_nearestLeft cX1_nearestLeft 3 (some .int) rmX1_nearestLeft [.ref (E.ad 0)] (sg st) (some (.int x)) E (sg st) :=
  Mt.of hG (by decide) (Nat.le_of_ble_eq_true rfl) (fun p e s m below meth c ls C h hl => bX1_nearestLeft C hI st hx h hl)
abbrev rmX1_stepBetween : Room := { frames := 4, cells := 0, slots := 0, locals := 122 }
def fX1_stepBetween_48 (v1 : Int32) (v2 : Int32) (v3 : Int32) (v4 : Int32) (st : St) : Option ((Int32) ⊕ ((Int32) ⊕ (Unit))) :=
  nm (v4 + (1 : Int32)) fun v4_5 =>
  some (.inl v4_5)
set_option maxHeartbeats 1000000 in
theorem bX1_stepBetween_48 (C : Cx E s0 b p s m args meth c cX1_stepBetween 5 "EarthMesh" (some .long)) (hI : Sx E) (v1 : Int32) (v2 : Int32) (v3 : Int32) (v4 : Int32) (st : St) {x : (Int32) ⊕ ((Int32) ⊕ (Unit))} (hx : fX1_stepBetween_48 v1 v2 v3 v4 st = some x) {Q : State → Prop} {G : Int32 → Prop} {X : (Int32) ⊕ (Unit) → Prop} (hG : ∀ (w4 : Int32), G w4 → ∀ (H : Heap) (locs : List Loc) (ls : Array Slot), XH E (sg st) s H locs → lv_has ls 5 [(0, .ref (E.ad 0)), (1, .int v1), (2, .int v2), (3, .int v3), (4, .int w4)] → W p l e rmX1_stepBetween s m args below meth c H locs 0 0 Q (F0 m 9 ls [])) (hE0 : ∀ (w4 : Int32), X (.inl w4) → ∀ (H : Heap) (locs : List Loc) (ls : Array Slot), XH E (sg st) s H locs → lv_has ls 5 [(0, .ref (E.ad 0)), (3, .int v3), (4, .int w4)] → W p l e rmX1_stepBetween s m args below meth c H locs 0 0 Q (F0 m 40 ls [])) (hE1 : X (.inr ()) → ∀ (H : Heap) (locs : List Loc) (ls : Array Slot), XH E (sg st) s H locs → lv_has ls 5 [] → W p l e rmX1_stepBetween s m args below meth c H locs 0 0 Q (F0 m 54 ls [])) (K : Kx G X x) {H : Heap} {locs : List Loc} {ls : Array Slot} (h : XH E (sg st) s H locs) (hl : lv_has ls 5 [(0, .ref (E.ad 0)), (1, .int v1), (2, .int v2), (3, .int v3), (4, .int v4)]) : W p l e rmX1_stepBetween s m args below meth c H locs 0 0 Q (F0 m 48 ls []) := by
  unfold fX1_stepBetween_48 at hx
  obtain ⟨v4_5, e_5, hx⟩ := nm_x hx
  refine lv_iinc (v := v4_5) (lv' := [(4, .int v4_5), (0, .ref (E.ad 0)), (1, .int v1), (2, .int v2), (3, .int v3)]) C.x C.bc dX1_stepBetween_48 hl (k := 4) rfl (by rw [e_5]; rfl) (by decide) rfl (fun ls hl => ?_)
  refine lv_goto (tgt := 9) C.x C.bc dX1_stepBetween_51 (by decide) ?_
  obtain rfl := Option.some.inj hx
  exact hG _ K _ _ _ h (lv_sub hl [1, 2, 3, 4, 0] rfl)
def fX1_stepBetween_9 (v1 : Int32) (v2 : Int32) (v3 : Int32) (v4 : Int32) (st : St) : Option ((Int32) ⊕ ((Int32) ⊕ (Unit))) :=
  if (2 : Int32) ≤ v4 then
    some (.inr (.inr ()))
  else
    bd (fX1_hasNext v3 v4 st) fun r_3 =>
    if r_3 = 0 then
      fX1_stepBetween_48 v1 v2 v3 v4 st
    else
      nm (fX1_nextPoint v3 v4 st) fun r_6 =>
      if r_6 = (jmax v1 v2) then
        some (.inr (.inl v4))
      else
        fX1_stepBetween_48 v1 v2 v3 v4 st
set_option maxHeartbeats 1000000 in
theorem bX1_stepBetween_9 (C : Cx E s0 b p s m args meth c cX1_stepBetween 5 "EarthMesh" (some .long)) (hI : Sx E) (v1 : Int32) (v2 : Int32) (v3 : Int32) (v4 : Int32) (st : St) {x : (Int32) ⊕ ((Int32) ⊕ (Unit))} (hx : fX1_stepBetween_9 v1 v2 v3 v4 st = some x) {Q : State → Prop} {G : Int32 → Prop} {X : (Int32) ⊕ (Unit) → Prop} (hG : ∀ (w4 : Int32), G w4 → ∀ (H : Heap) (locs : List Loc) (ls : Array Slot), XH E (sg st) s H locs → lv_has ls 5 [(0, .ref (E.ad 0)), (1, .int v1), (2, .int v2), (3, .int v3), (4, .int w4)] → W p l e rmX1_stepBetween s m args below meth c H locs 0 0 Q (F0 m 9 ls [])) (hE0 : ∀ (w4 : Int32), X (.inl w4) → ∀ (H : Heap) (locs : List Loc) (ls : Array Slot), XH E (sg st) s H locs → lv_has ls 5 [(0, .ref (E.ad 0)), (3, .int v3), (4, .int w4)] → W p l e rmX1_stepBetween s m args below meth c H locs 0 0 Q (F0 m 40 ls [])) (hE1 : X (.inr ()) → ∀ (H : Heap) (locs : List Loc) (ls : Array Slot), XH E (sg st) s H locs → lv_has ls 5 [] → W p l e rmX1_stepBetween s m args below meth c H locs 0 0 Q (F0 m 54 ls [])) (K : Kx G X x) {H : Heap} {locs : List Loc} {ls : Array Slot} (h : XH E (sg st) s H locs) (hl : lv_has ls 5 [(0, .ref (E.ad 0)), (1, .int v1), (2, .int v2), (3, .int v3), (4, .int v4)]) : W p l e rmX1_stepBetween s m args below meth c H locs 0 0 Q (F0 m 9 ls []) := by
  unfold fX1_stepBetween_9 at hx
  refine lv_iload C.x C.bc dX1_stepBetween_9 (lv_at hl 4 rfl) ?_
  refine lv_iconst (v := (2 : Int32)) C.x C.bc dX1_stepBetween_11 (by decide) ?_
  refine lv_icmp_ge (tgt := 54) C.x C.bc dX1_stepBetween_12 (by decide) (fun c_2 => ?_) (fun c_2 => ?_)
  · have hx := ge_t hx c_2
    obtain rfl := Option.some.inj hx
    exact hE1  K _ _ _ h (lv_sub hl [] rfl)
  · have hx := ge_f hx c_2
    refine lv_aload_n C.x C.bc dX1_stepBetween_15 rfl (lv_at hl 0 rfl) ?_
    refine lv_iload_n C.x C.bc dX1_stepBetween_16 rfl (lv_at hl 3 rfl) ?_
    refine lv_iload C.x C.bc dX1_stepBetween_17 (lv_at hl 4 rfl) ?_
    obtain ⟨r_3, hf_3, hx⟩ := bd_e hx
    refine cX1_105_X1_hasNext C hI h hf_3 ⟨Nat.le_of_ble_eq_true rfl, Nat.le_of_ble_eq_true rfl⟩ ⟨Nat.zero_le _, Nat.zero_le _⟩ hl.1 (Nat.le_of_ble_eq_true rfl) dX1_stepBetween_19 (fun H locs h => ?_)
    refine lv_if_eq (tgt := 48) C.x C.bc dX1_stepBetween_22 (by decide) (fun c_4 => ?_) (fun c_4 => ?_)
    · have hx := ge_t hx c_4
      exact bX1_stepBetween_48 C hI v1 v2 v3 v4 st hx hG hE0 hE1 K h (lv_sub hl [0, 1, 2, 3, 4] rfl)
    · have hx := ge_f hx c_4
      refine lv_aload_n C.x C.bc dX1_stepBetween_25 rfl (lv_at hl 0 rfl) ?_
      refine lv_iload_n C.x C.bc dX1_stepBetween_26 rfl (lv_at hl 3 rfl) ?_
      refine lv_iload C.x C.bc dX1_stepBetween_27 (lv_at hl 4 rfl) ?_
      obtain ⟨r_6, e_6, hx⟩ := nm_x hx
      refine cX1_109_X1_nextPoint C hI h e_6.symm ⟨Nat.le_of_ble_eq_true rfl, Nat.le_of_ble_eq_true rfl⟩ ⟨Nat.zero_le _, Nat.zero_le _⟩ hl.1 (Nat.le_of_ble_eq_true rfl) dX1_stepBetween_29 (fun H locs h => ?_)
      refine lv_iload_n C.x C.bc dX1_stepBetween_32 rfl (lv_at hl 1 rfl) ?_
      refine lv_iload_n C.x C.bc dX1_stepBetween_33 rfl (lv_at hl 2 rfl) ?_
      refine va_mmax C.x C.bc (C.ml.trans hl.1.symm) C.ow (C.ts _ q1418) (C.ts _ q691) (C.ts _ q134) (C.ts _ q692) (Nat.le_of_ble_eq_true rfl) (Nat.le_of_ble_eq_true rfl) (Nat.zero_le _) (Nat.zero_le _) dX1_stepBetween_34 ?_
      refine lv_icmp_ne (tgt := 48) C.x C.bc dX1_stepBetween_37 (by decide) (fun c_7 => ?_) (fun c_7 => ?_)
      · have hx := ge_f hx c_7
        exact bX1_stepBetween_48 C hI v1 v2 v3 v4 st hx hG hE0 hE1 K h (lv_sub hl [0, 1, 2, 3, 4] rfl)
      · have hx := ge_t hx c_7
        obtain rfl := Option.some.inj hx
        exact hE0 _ K _ _ _ h (lv_sub hl [0, 3, 4] rfl)
set_option maxHeartbeats 1000000 in
theorem pX1_stepBetween_9 (C : Cx E s0 b p s m args meth c cX1_stepBetween 5 "EarthMesh" (some .long)) (hI : Sx E) (v1 : Int32) (v2 : Int32) (v3 : Int32) (st : St) {Q : State → Prop} {v4 : Int32} {n : Nat} {r : (Int32) ⊕ (Unit)} (hx : iter (u1 fun v4 => fX1_stepBetween_9 v1 v2 v3 v4 st) n v4 = some r) (hE : (fun t => match t with | (.inl t) => (∀ (H : Heap) (locs : List Loc) (ls : Array Slot), XH E (sg st) s H locs → lv_has ls 5 [(0, .ref (E.ad 0)), (3, .int v3), (4, .int t)] → W p l e rmX1_stepBetween s m args below meth c H locs 0 0 Q (F0 m 40 ls [])) | (.inr t) => (∀ (H : Heap) (locs : List Loc) (ls : Array Slot), XH E (sg st) s H locs → lv_has ls 5 [] → W p l e rmX1_stepBetween s m args below meth c H locs 0 0 Q (F0 m 54 ls []))) r) {H : Heap} {locs : List Loc} {ls : Array Slot} (h : XH E (sg st) s H locs) (hl : lv_has ls 5 [(0, .ref (E.ad 0)), (1, .int v1), (2, .int v2), (3, .int v3), (4, .int v4)]) : W p l e rmX1_stepBetween s m args below meth c H locs 0 0 Q (F0 m 9 ls []) := by
  refine iter_W (G := fun t => ∀ (H : Heap) (locs : List Loc) (ls : Array Slot), XH E (sg st) s H locs → lv_has ls 5 [(0, .ref (E.ad 0)), (1, .int v1), (2, .int v2), (3, .int v3), (4, .int t)] → W p l e rmX1_stepBetween s m args below meth c H locs 0 0 Q (F0 m 9 ls [])) (E := fun t => match t with | (.inl t) => (∀ (H : Heap) (locs : List Loc) (ls : Array Slot), XH E (sg st) s H locs → lv_has ls 5 [(0, .ref (E.ad 0)), (3, .int v3), (4, .int t)] → W p l e rmX1_stepBetween s m args below meth c H locs 0 0 Q (F0 m 40 ls [])) | (.inr t) => (∀ (H : Heap) (locs : List Loc) (ls : Array Slot), XH E (sg st) s H locs → lv_has ls 5 [] → W p l e rmX1_stepBetween s m args below meth c H locs 0 0 Q (F0 m 54 ls []))) (fun v4 x hx K H locs ls h hl => ?_) n _ r hx hE H locs ls h hl
  exact bX1_stepBetween_9 C hI v1 v2 v3 v4 st hx (fun _ z => z) (fun _ z => z) (fun z => z) K h hl
def fX1_stepBetween (v1 : Int32) (v2 : Int32) (st : St) : Option (Int64) :=
  nm (jmin v1 v2) fun v3_1 =>
  bd (iter (u1 fun z4 => fX1_stepBetween_9 v1 v2 v3_1 z4 st) FU (0 : Int32)) (Sum.elim (u1 fun v4_8 =>
    bd (fX1_step v3_1 v4_8 st) fun r_9 =>
    some r_9) (u1 fun _ =>
    some (-1 : Int64)))
set_option maxHeartbeats 1000000 in
theorem bX1_stepBetween (C : Cx E s0 b p s m args meth c cX1_stepBetween 5 "EarthMesh" (some .long)) (hI : Sx E) (v1 : Int32) (v2 : Int32) (st : St) {x : Int64} (hx : fX1_stepBetween v1 v2 st = some x) {H : Heap} {locs : List Loc} {ls : Array Slot} (h : XH E (sg st) s H locs) (hl : lv_has ls 5 [(0, .ref (E.ad 0)), (1, .int v1), (2, .int v2)]) : W p l e rmX1_stepBetween s m args below meth c H locs 0 0 (MQ below (Qx E (some (.long x)) (sg st)) args s 0 0 (gA E.HB)) (F0 m 0 ls []) := by
  unfold fX1_stepBetween at hx
  refine lv_iload_n C.x C.bc dX1_stepBetween_0 rfl (lv_at hl 1 rfl) ?_
  refine lv_iload_n C.x C.bc dX1_stepBetween_1 rfl (lv_at hl 2 rfl) ?_
  refine va_mmin C.x C.bc (C.ml.trans hl.1.symm) C.ow (C.ts _ q1417) (C.ts _ q709) (C.ts _ q134) (C.ts _ q710) (Nat.le_of_ble_eq_true rfl) (Nat.le_of_ble_eq_true rfl) (Nat.zero_le _) (Nat.zero_le _) dX1_stepBetween_2 ?_
  obtain ⟨v3_1, e_1, hx⟩ := nm_x hx
  refine x_ti e_1 ?_
  refine lv_istore_n (lv' := [(3, .int v3_1), (0, .ref (E.ad 0)), (1, .int v1), (2, .int v2)]) C.x C.bc dX1_stepBetween_5 rfl hl (by decide) rfl (fun ls hl => ?_)
  refine lv_iconst (v := (0 : Int32)) C.x C.bc dX1_stepBetween_6 (by decide) ?_
  refine lv_istore (lv' := [(4, .int (0 : Int32)), (3, .int v3_1), (0, .ref (E.ad 0)), (1, .int v1), (2, .int v2)]) C.x C.bc dX1_stepBetween_7 hl (by decide) rfl (fun ls hl => ?_)
  obtain ⟨r_8, hi_8, hx⟩ := bd_e hx
  rcases r_8 with v4_8 | _
  · have hx := sl_e hx; have hx := u1_e hx
    refine pX1_stepBetween_9 C hI v1 v2 v3_1 st hi_8 (fun H locs ls h hl => ?_) h (lv_sub hl [2, 3, 4, 1, 0] rfl)
    refine lv_aload_n C.x C.bc dX1_stepBetween_40 rfl (lv_at hl 0 rfl) ?_
    refine lv_iload_n C.x C.bc dX1_stepBetween_41 rfl (lv_at hl 1 rfl) ?_
    refine lv_iload C.x C.bc dX1_stepBetween_42 (lv_at hl 2 rfl) ?_
    obtain ⟨r_9, hf_9, hx⟩ := bd_e hx
    refine cX1_326_X1_step C hI h hf_9 ⟨Nat.le_of_ble_eq_true rfl, Nat.le_of_ble_eq_true rfl⟩ ⟨Nat.zero_le _, Nat.zero_le _⟩ hl.1 (Nat.le_of_ble_eq_true rfl) dX1_stepBetween_44 (fun H locs h => ?_)
    obtain rfl := Option.some.inj hx
    exact x_lret C h dX1_stepBetween_47
  · have hx := sr_e hx; have hx := u1_e hx
    refine pX1_stepBetween_9 C hI v1 v2 v3_1 st hi_8 (fun H locs ls h hl => ?_) h (lv_sub hl [2, 3, 4, 1, 0] rfl)
    refine lv_ldc2 (v := (-1 : Int64)) C.x C.bc C.ow (C.ts _ q335) dX1_stepBetween_54 ?_
    obtain rfl := Option.some.inj hx
    exact x_lret C h dX1_stepBetween_57
theorem mX1_stepBetween (hG : G0 E s0 b) (hI : Sx E) {v1 : Int32} {v2 : Int32} {x : Int64} (hx : fX1_stepBetween v1 v2 st = some x) : Mt l E s0 yX1_stepBetween cX1_stepBetween 5 (some .long) rmX1_stepBetween [.ref (E.ad 0), .int v1, .int v2] (sg st) (some (.long x)) E (sg st) :=
  Mt.of hG (by decide) (Nat.le_of_ble_eq_true rfl) (fun p e s m below meth c ls C h hl => bX1_stepBetween C hI v1 v2 st hx h hl)
theorem cX1_352_X1_stepBetween {a0 : Int32} {a1 : Int32} {r : Int64} (C : Cx E s0 b p s m args meth c cc nL "EarthMesh" rt) (hI : Sx E) (h : XH E (sg st) s H locs) (hf : fX1_stepBetween a0 a1 st = some r) (hR : rmX1_stepBetween.frames + 1 ≤ R.frames ∧ 16 + (5 + 11) + rmX1_stepBetween.locals ≤ R.locals) (h0 : cells ≤ R.cells ∧ slots ≤ R.slots) (hsz : ls.size = nL) (hcat : (rest.map fun v => v.category).sum ≤ 16) (hdg : decode cc pc = .ok (.invokevirtual 352, 3)) (kk : ∀ (H : Heap) (locs : List Loc), XH E (sg st) s H locs → W p l e R s m args below meth c H locs cells slots Q (F0 m (pc + 3) ls (.long r :: rest))) : W p l e R s m args below meth c H locs cells slots Q (F0 m pc ls (.int a1 :: .int a0 :: .ref (E.ad 0) :: rest)) :=
  x_callV (n := 2) (As := [.int a0, .int a1]) C h 0 0 (hI 0 (by decide)) k_0 rfl (mX1_stepBetween C.g hI hf) (lw_V q1452 q1454 qs57 q130 q1455) ⟨rfl, by decide +kernel, by decide +kernel, by decide +kernel⟩ hR ⟨rfl, rfl⟩ h0 rfl hsz rfl hcat hdg kk
abbrev rmX1_isRim : Room := { frames := 1, cells := 0, slots := 0, locals := 28 }
def fX1_isRim_47 (st : St) : Option (Int32) :=
  some (1 : Int32)
set_option maxHeartbeats 1000000 in
theorem bX1_isRim_47 (C : Cx E s0 b p s m args meth c cX1_isRim 4 "EarthMesh" (some .boolean)) (hI : Sx E) (st : St) {x : Int32} (hx : fX1_isRim_47 st = some x) {H : Heap} {locs : List Loc} {ls : Array Slot} (h : XH E (sg st) s H locs) (hl : lv_has ls 4 []) : W p l e rmX1_isRim s m args below meth c H locs 0 0 (MQ below (Qx E (some (.int x)) (sg st)) args s 0 0 (gA E.HB)) (F0 m 47 ls []) := by
  unfold fX1_isRim_47 at hx
  refine lv_iconst (v := (1 : Int32)) C.x C.bc dX1_isRim_47 (by decide) ?_
  refine lv_goto (tgt := 52) C.x C.bc dX1_isRim_48 (by decide) ?_
  obtain rfl := Option.some.inj hx
  exact x_zret (v := (1 : Int32)) C h rfl dX1_isRim_52
def fX1_isRim (v1 : Int32) (st : St) : Option (Int32) :=
  nm (fX1_pointColumns st) fun r_1 =>
  gd (¬ r_1 = 0) <|
  nm (jrem v1 r_1) fun v2_3 =>
  nm (fX1_pointColumns st) fun r_4 =>
  gd (¬ r_4 = 0) <|
  nm (v1 / r_4) fun v3_6 =>
  if v2_3 = 0 then
    fX1_isRim_47 st
  else
    if v3_6 = 0 then
      fX1_isRim_47 st
    else
      nm (fX1_pointColumns st) fun r_9 =>
      if v2_3 = (r_9 - (1 : Int32)) then
        fX1_isRim_47 st
      else
        if v3_6 = (((2 : Int32) * (st.1 1 1)) - (2 : Int32)) then
          fX1_isRim_47 st
        else
          some (0 : Int32)
set_option maxHeartbeats 1000000 in
theorem bX1_isRim (C : Cx E s0 b p s m args meth c cX1_isRim 4 "EarthMesh" (some .boolean)) (hI : Sx E) (v1 : Int32) (st : St) {x : Int32} (hx : fX1_isRim v1 st = some x) {H : Heap} {locs : List Loc} {ls : Array Slot} (h : XH E (sg st) s H locs) (hl : lv_has ls 4 [(0, .ref (E.ad 0)), (1, .int v1)]) : W p l e rmX1_isRim s m args below meth c H locs 0 0 (MQ below (Qx E (some (.int x)) (sg st)) args s 0 0 (gA E.HB)) (F0 m 0 ls []) := by
  unfold fX1_isRim at hx
  refine lv_iload_n C.x C.bc dX1_isRim_0 rfl (lv_at hl 1 rfl) ?_
  refine lv_aload_n C.x C.bc dX1_isRim_1 rfl (lv_at hl 0 rfl) ?_
  obtain ⟨r_1, e_1, hx⟩ := nm_x hx
  refine cX1_80_X1_pointColumns C hI h e_1.symm ⟨Nat.le_of_ble_eq_true rfl, Nat.le_of_ble_eq_true rfl⟩ ⟨Nat.zero_le _, Nat.zero_le _⟩ hl.1 (Nat.le_of_ble_eq_true rfl) dX1_isRim_2 (fun H locs h => ?_)
  obtain ⟨g_2, hx⟩ := gd_e hx
  refine y_irem C.x C.bc dX1_isRim_5 g_2 ?_
  obtain ⟨v2_3, e_3, hx⟩ := nm_x hx
  refine x_ti e_3 ?_
  refine lv_istore_n (lv' := [(2, .int v2_3), (0, .ref (E.ad 0)), (1, .int v1)]) C.x C.bc dX1_isRim_6 rfl hl (by decide) rfl (fun ls hl => ?_)
  refine lv_iload_n C.x C.bc dX1_isRim_7 rfl (lv_at hl 2 rfl) ?_
  refine lv_aload_n C.x C.bc dX1_isRim_8 rfl (lv_at hl 1 rfl) ?_
  obtain ⟨r_4, e_4, hx⟩ := nm_x hx
  refine cX1_80_X1_pointColumns C hI h e_4.symm ⟨Nat.le_of_ble_eq_true rfl, Nat.le_of_ble_eq_true rfl⟩ ⟨Nat.zero_le _, Nat.zero_le _⟩ hl.1 (Nat.le_of_ble_eq_true rfl) dX1_isRim_9 (fun H locs h => ?_)
  obtain ⟨g_5, hx⟩ := gd_e hx
  refine lv_idiv C.x C.bc dX1_isRim_12 g_5 ?_
  obtain ⟨v3_6, e_6, hx⟩ := nm_x hx
  refine x_ti e_6 ?_
  refine lv_istore_n (lv' := [(3, .int v3_6), (2, .int v2_3), (0, .ref (E.ad 0)), (1, .int v1)]) C.x C.bc dX1_isRim_13 rfl hl (by decide) rfl (fun ls hl => ?_)
  refine lv_iload_n C.x C.bc dX1_isRim_14 rfl (lv_at hl 1 rfl) ?_
  refine lv_if_eq (tgt := 47) C.x C.bc dX1_isRim_15 (by decide) (fun c_7 => ?_) (fun c_7 => ?_)
  · have hx := ge_t hx c_7
    exact bX1_isRim_47 C hI st hx h (lv_sub hl [] rfl)
  · have hx := ge_f hx c_7
    refine lv_iload_n C.x C.bc dX1_isRim_18 rfl (lv_at hl 0 rfl) ?_
    refine lv_if_eq (tgt := 47) C.x C.bc dX1_isRim_19 (by decide) (fun c_8 => ?_) (fun c_8 => ?_)
    · have hx := ge_t hx c_8
      exact bX1_isRim_47 C hI st hx h (lv_sub hl [] rfl)
    · have hx := ge_f hx c_8
      refine lv_iload_n C.x C.bc dX1_isRim_22 rfl (lv_at hl 1 rfl) ?_
      refine lv_aload_n C.x C.bc dX1_isRim_23 rfl (lv_at hl 2 rfl) ?_
      obtain ⟨r_9, e_9, hx⟩ := nm_x hx
      refine cX1_80_X1_pointColumns C hI h e_9.symm ⟨Nat.le_of_ble_eq_true rfl, Nat.le_of_ble_eq_true rfl⟩ ⟨Nat.zero_le _, Nat.zero_le _⟩ hl.1 (Nat.le_of_ble_eq_true rfl) dX1_isRim_24 (fun H locs h => ?_)
      refine lv_iconst (v := (1 : Int32)) C.x C.bc dX1_isRim_27 (by decide) ?_
      refine lv_isub C.x C.bc dX1_isRim_28 ?_
      refine lv_icmp_eq (tgt := 47) C.x C.bc dX1_isRim_29 (by decide) (fun c_10 => ?_) (fun c_10 => ?_)
      · have hx := ge_t hx c_10
        exact bX1_isRim_47 C hI st hx h (lv_sub hl [] rfl)
      · have hx := ge_f hx c_10
        refine lv_iload_n C.x C.bc dX1_isRim_32 rfl (lv_at hl 0 rfl) ?_
        refine lv_iconst (v := (2 : Int32)) C.x C.bc dX1_isRim_33 (by decide) ?_
        refine lv_aload_n C.x C.bc dX1_isRim_34 rfl (lv_at hl 2 rfl) ?_
        refine gt_X1_1_0 C hI h dX1_isRim_35 ?_
        refine gt_X1_83_1 C hI h dX1_isRim_38 ?_
        refine lv_imul C.x C.bc dX1_isRim_41 ?_
        refine lv_iconst (v := (2 : Int32)) C.x C.bc dX1_isRim_42 (by decide) ?_
        refine lv_isub C.x C.bc dX1_isRim_43 ?_
        refine lv_icmp_ne (tgt := 51) C.x C.bc dX1_isRim_44 (by decide) (fun c_11 => ?_) (fun c_11 => ?_)
        · have hx := ge_f hx c_11
          refine lv_iconst (v := (0 : Int32)) C.x C.bc dX1_isRim_51 (by decide) ?_
          obtain rfl := Option.some.inj hx
          exact x_zret (v := (0 : Int32)) C h rfl dX1_isRim_52
        · have hx := ge_t hx c_11
          exact bX1_isRim_47 C hI st hx h (lv_sub hl [] rfl)
theorem mX1_isRim (hG : G0 E s0 b) (hI : Sx E) {v1 : Int32} {x : Int32} (hx : fX1_isRim v1 st = some x) : Mt l E s0 yX1_isRim cX1_isRim 4 (some .boolean) rmX1_isRim [.ref (E.ad 0), .int v1] (sg st) (some (.int x)) E (sg st) :=
  Mt.of hG (by decide) (Nat.le_of_ble_eq_true rfl) (fun p e s m below meth c ls C h hl => bX1_isRim C hI v1 st hx h hl)
abbrev rmX1_doesCome : Room := { frames := 5, cells := 0, slots := 0, locals := 154 }
def fX1_doesCome_47 (v1 : Int32) (v2 : Int64) (v4 : Int32) (st : St) : Option ((Int32) ⊕ ((Unit) ⊕ (Unit))) :=
  nm (v4 + (1 : Int32)) fun v4_6 =>
  some (.inl v4_6)
set_option maxHeartbeats 1000000 in
theorem bX1_doesCome_47 (C : Cx E s0 b p s m args meth c cX1_doesCome 7 "EarthMesh" (some .boolean)) (hI : Sx E) (v1 : Int32) (v2 : Int64) (v4 : Int32) (st : St) {x : (Int32) ⊕ ((Unit) ⊕ (Unit))} (hx : fX1_doesCome_47 v1 v2 v4 st = some x) {Q : State → Prop} {G : Int32 → Prop} {X : (Unit) ⊕ (Unit) → Prop} (hG : ∀ (w4 : Int32), G w4 → ∀ (H : Heap) (locs : List Loc) (ls : Array Slot), XH E (sg st) s H locs → lv_has ls 7 [(0, .ref (E.ad 0)), (1, .int v1), (2, .long v2), (4, .int w4)] → W p l e rmX1_doesCome s m args below meth c H locs 0 0 Q (F0 m 3 ls [])) (hE0 : X (.inl ()) → ∀ (H : Heap) (locs : List Loc) (ls : Array Slot), XH E (sg st) s H locs → lv_has ls 7 [] → W p l e rmX1_doesCome s m args below meth c H locs 0 0 Q (F0 m 45 ls [])) (hE1 : X (.inr ()) → ∀ (H : Heap) (locs : List Loc) (ls : Array Slot), XH E (sg st) s H locs → lv_has ls 7 [] → W p l e rmX1_doesCome s m args below meth c H locs 0 0 Q (F0 m 53 ls [])) (K : Kx G X x) {H : Heap} {locs : List Loc} {ls : Array Slot} (h : XH E (sg st) s H locs) (hl : lv_has ls 7 [(0, .ref (E.ad 0)), (1, .int v1), (2, .long v2), (4, .int v4)]) : W p l e rmX1_doesCome s m args below meth c H locs 0 0 Q (F0 m 47 ls []) := by
  unfold fX1_doesCome_47 at hx
  obtain ⟨v4_6, e_6, hx⟩ := nm_x hx
  refine lv_iinc (v := v4_6) (lv' := [(4, .int v4_6), (0, .ref (E.ad 0)), (1, .int v1), (2, .long v2)]) C.x C.bc dX1_doesCome_47 hl (k := 3) rfl (by rw [e_6]; rfl) (by decide) rfl (fun ls hl => ?_)
  refine lv_goto (tgt := 3) C.x C.bc dX1_doesCome_50 (by decide) ?_
  obtain rfl := Option.some.inj hx
  exact hG _ K _ _ _ h (lv_sub hl [1, 2, 3, 0] rfl)
def fX1_doesCome_3 (v1 : Int32) (v2 : Int64) (v4 : Int32) (st : St) : Option ((Int32) ⊕ ((Unit) ⊕ (Unit))) :=
  nm (fX1_points st) fun r_1 =>
  if r_1 ≤ v4 then
    some (.inr (.inr ()))
  else
    bd (fX1_stepBetween v1 v4 st) fun r_3 =>
    gd (inB v4 35) <|
    if (st.1 59 v4.toNatClampNeg) = 0 then
      fX1_doesCome_47 v1 v2 v4 st
    else
      if r_3 < (0 : Int64) then
        fX1_doesCome_47 v1 v2 v4 st
      else
        if v2 < r_3 then
          fX1_doesCome_47 v1 v2 v4 st
        else
          some (.inr (.inl ()))
set_option maxHeartbeats 1000000 in
theorem bX1_doesCome_3 (C : Cx E s0 b p s m args meth c cX1_doesCome 7 "EarthMesh" (some .boolean)) (hI : Sx E) (v1 : Int32) (v2 : Int64) (v4 : Int32) (st : St) {x : (Int32) ⊕ ((Unit) ⊕ (Unit))} (hx : fX1_doesCome_3 v1 v2 v4 st = some x) {Q : State → Prop} {G : Int32 → Prop} {X : (Unit) ⊕ (Unit) → Prop} (hG : ∀ (w4 : Int32), G w4 → ∀ (H : Heap) (locs : List Loc) (ls : Array Slot), XH E (sg st) s H locs → lv_has ls 7 [(0, .ref (E.ad 0)), (1, .int v1), (2, .long v2), (4, .int w4)] → W p l e rmX1_doesCome s m args below meth c H locs 0 0 Q (F0 m 3 ls [])) (hE0 : X (.inl ()) → ∀ (H : Heap) (locs : List Loc) (ls : Array Slot), XH E (sg st) s H locs → lv_has ls 7 [] → W p l e rmX1_doesCome s m args below meth c H locs 0 0 Q (F0 m 45 ls [])) (hE1 : X (.inr ()) → ∀ (H : Heap) (locs : List Loc) (ls : Array Slot), XH E (sg st) s H locs → lv_has ls 7 [] → W p l e rmX1_doesCome s m args below meth c H locs 0 0 Q (F0 m 53 ls [])) (K : Kx G X x) {H : Heap} {locs : List Loc} {ls : Array Slot} (h : XH E (sg st) s H locs) (hl : lv_has ls 7 [(0, .ref (E.ad 0)), (1, .int v1), (2, .long v2), (4, .int v4)]) : W p l e rmX1_doesCome s m args below meth c H locs 0 0 Q (F0 m 3 ls []) := by
  unfold fX1_doesCome_3 at hx
  refine lv_iload C.x C.bc dX1_doesCome_3 (lv_at hl 3 rfl) ?_
  refine lv_aload_n C.x C.bc dX1_doesCome_5 rfl (lv_at hl 0 rfl) ?_
  obtain ⟨r_1, e_1, hx⟩ := nm_x hx
  refine cX1_122_X1_points C hI h e_1.symm ⟨Nat.le_of_ble_eq_true rfl, Nat.le_of_ble_eq_true rfl⟩ ⟨Nat.zero_le _, Nat.zero_le _⟩ hl.1 (Nat.le_of_ble_eq_true rfl) dX1_doesCome_6 (fun H locs h => ?_)
  refine lv_icmp_ge (tgt := 53) C.x C.bc dX1_doesCome_9 (by decide) (fun c_2 => ?_) (fun c_2 => ?_)
  · have hx := ge_t hx c_2
    obtain rfl := Option.some.inj hx
    exact hE1  K _ _ _ h (lv_sub hl [] rfl)
  · have hx := ge_f hx c_2
    refine lv_aload_n C.x C.bc dX1_doesCome_12 rfl (lv_at hl 0 rfl) ?_
    refine lv_iload_n C.x C.bc dX1_doesCome_13 rfl (lv_at hl 1 rfl) ?_
    refine lv_iload C.x C.bc dX1_doesCome_14 (lv_at hl 3 rfl) ?_
    obtain ⟨r_3, hf_3, hx⟩ := bd_e hx
    refine cX1_352_X1_stepBetween C hI h hf_3 ⟨Nat.le_of_ble_eq_true rfl, Nat.le_of_ble_eq_true rfl⟩ ⟨Nat.zero_le _, Nat.zero_le _⟩ hl.1 (Nat.le_of_ble_eq_true rfl) dX1_doesCome_16 (fun H locs h => ?_)
    refine lv_lstore (lv' := [(5, .long r_3), (0, .ref (E.ad 0)), (1, .int v1), (2, .long v2), (4, .int v4)]) C.x C.bc dX1_doesCome_19 hl (by decide) rfl (fun ls hl => ?_)
    refine lv_aload_n C.x C.bc dX1_doesCome_21 rfl (lv_at hl 1 rfl) ?_
    refine gt_X1_168_0 C hI h dX1_doesCome_22 ?_
    refine lv_iload C.x C.bc dX1_doesCome_25 (lv_at hl 4 rfl) ?_
    obtain ⟨g_4, hx⟩ := gd_e hx
    refine x_zald C h 59 35 (hI 59 (by decide)) k_59 g_4 dX1_doesCome_27 ?_
    refine lv_if_eq (tgt := 47) C.x C.bc dX1_doesCome_28 (by decide) (fun c_5 => ?_) (fun c_5 => ?_)
    · have hx := ge_t hx c_5
      exact bX1_doesCome_47 C hI v1 v2 v4 st hx hG hE0 hE1 K h (lv_sub hl [1, 2, 3, 4] rfl)
    · have hx := ge_f hx c_5
      refine lv_lload C.x C.bc dX1_doesCome_31 (lv_at hl 0 rfl) ?_
      refine lv_lconst (v := (0 : Int64)) C.x C.bc dX1_doesCome_33 (by decide) ?_
      refine W.lcmp C.x C.bc dX1_doesCome_34 ?_
      refine lv_if_lt (tgt := 47) C.x C.bc dX1_doesCome_35 (by decide) (fun c_7 => ?_) (fun c_7 => ?_)
      · have c_7 := (lc_lt _ _).mp c_7
        have hx := ge_t hx c_7
        exact bX1_doesCome_47 C hI v1 v2 v4 st hx hG hE0 hE1 K h (lv_sub hl [1, 2, 3, 4] rfl)
      · have c_7 := (not_congr (lc_lt _ _)).mp c_7
        have hx := ge_f hx c_7
        refine lv_lload C.x C.bc dX1_doesCome_38 (lv_at hl 0 rfl) ?_
        refine lv_lload_n C.x C.bc dX1_doesCome_40 rfl (lv_at hl 3 rfl) ?_
        refine W.lcmp C.x C.bc dX1_doesCome_41 ?_
        refine lv_if_gt (tgt := 47) C.x C.bc dX1_doesCome_42 (by decide) (fun c_8 => ?_) (fun c_8 => ?_)
        · have c_8 := (lc_gt _ _).mp c_8
          have hx := ge_t hx c_8
          exact bX1_doesCome_47 C hI v1 v2 v4 st hx hG hE0 hE1 K h (lv_sub hl [1, 2, 3, 4] rfl)
        · have c_8 := (not_congr (lc_gt _ _)).mp c_8
          have hx := ge_f hx c_8
          obtain rfl := Option.some.inj hx
          exact hE0  K _ _ _ h (lv_sub hl [] rfl)
set_option maxHeartbeats 1000000 in
theorem pX1_doesCome_3 (C : Cx E s0 b p s m args meth c cX1_doesCome 7 "EarthMesh" (some .boolean)) (hI : Sx E) (v1 : Int32) (v2 : Int64) (st : St) {Q : State → Prop} {v4 : Int32} {n : Nat} {r : (Unit) ⊕ (Unit)} (hx : iter (u1 fun v4 => fX1_doesCome_3 v1 v2 v4 st) n v4 = some r) (hE : (fun t => match t with | (.inl t) => (∀ (H : Heap) (locs : List Loc) (ls : Array Slot), XH E (sg st) s H locs → lv_has ls 7 [] → W p l e rmX1_doesCome s m args below meth c H locs 0 0 Q (F0 m 45 ls [])) | (.inr t) => (∀ (H : Heap) (locs : List Loc) (ls : Array Slot), XH E (sg st) s H locs → lv_has ls 7 [] → W p l e rmX1_doesCome s m args below meth c H locs 0 0 Q (F0 m 53 ls []))) r) {H : Heap} {locs : List Loc} {ls : Array Slot} (h : XH E (sg st) s H locs) (hl : lv_has ls 7 [(0, .ref (E.ad 0)), (1, .int v1), (2, .long v2), (4, .int v4)]) : W p l e rmX1_doesCome s m args below meth c H locs 0 0 Q (F0 m 3 ls []) := by
  refine iter_W (G := fun t => ∀ (H : Heap) (locs : List Loc) (ls : Array Slot), XH E (sg st) s H locs → lv_has ls 7 [(0, .ref (E.ad 0)), (1, .int v1), (2, .long v2), (4, .int t)] → W p l e rmX1_doesCome s m args below meth c H locs 0 0 Q (F0 m 3 ls [])) (E := fun t => match t with | (.inl t) => (∀ (H : Heap) (locs : List Loc) (ls : Array Slot), XH E (sg st) s H locs → lv_has ls 7 [] → W p l e rmX1_doesCome s m args below meth c H locs 0 0 Q (F0 m 45 ls [])) | (.inr t) => (∀ (H : Heap) (locs : List Loc) (ls : Array Slot), XH E (sg st) s H locs → lv_has ls 7 [] → W p l e rmX1_doesCome s m args below meth c H locs 0 0 Q (F0 m 53 ls []))) (fun v4 x hx K H locs ls h hl => ?_) n _ r hx hE H locs ls h hl
  exact bX1_doesCome_3 C hI v1 v2 v4 st hx (fun _ z => z) (fun z => z) (fun z => z) K h hl
def fX1_doesCome (v1 : Int32) (v2 : Int64) (st : St) : Option (Int32) :=
  bd (iter (u1 fun z4 => fX1_doesCome_3 v1 v2 z4 st) FU (0 : Int32)) (Sum.elim (u1 fun _ =>
    some (1 : Int32)) (u1 fun _ =>
    some (0 : Int32)))
set_option maxHeartbeats 1000000 in
theorem bX1_doesCome (C : Cx E s0 b p s m args meth c cX1_doesCome 7 "EarthMesh" (some .boolean)) (hI : Sx E) (v1 : Int32) (v2 : Int64) (st : St) {x : Int32} (hx : fX1_doesCome v1 v2 st = some x) {H : Heap} {locs : List Loc} {ls : Array Slot} (h : XH E (sg st) s H locs) (hl : lv_has ls 7 [(0, .ref (E.ad 0)), (1, .int v1), (2, .long v2)]) : W p l e rmX1_doesCome s m args below meth c H locs 0 0 (MQ below (Qx E (some (.int x)) (sg st)) args s 0 0 (gA E.HB)) (F0 m 0 ls []) := by
  unfold fX1_doesCome at hx
  refine lv_iconst (v := (0 : Int32)) C.x C.bc dX1_doesCome_0 (by decide) ?_
  refine lv_istore (lv' := [(4, .int (0 : Int32)), (0, .ref (E.ad 0)), (1, .int v1), (2, .long v2)]) C.x C.bc dX1_doesCome_1 hl (by decide) rfl (fun ls hl => ?_)
  obtain ⟨r_9, hi_9, hx⟩ := bd_e hx
  rcases r_9 with _ | _
  · have hx := sl_e hx; have hx := u1_e hx
    refine pX1_doesCome_3 C hI v1 v2 st hi_9 (fun H locs ls h hl => ?_) h (lv_sub hl [1, 2, 3, 0] rfl)
    refine lv_iconst (v := (1 : Int32)) C.x C.bc dX1_doesCome_45 (by decide) ?_
    obtain rfl := Option.some.inj hx
    exact x_zret (v := (1 : Int32)) C h rfl dX1_doesCome_46
  · have hx := sr_e hx; have hx := u1_e hx
    refine pX1_doesCome_3 C hI v1 v2 st hi_9 (fun H locs ls h hl => ?_) h (lv_sub hl [1, 2, 3, 0] rfl)
    refine lv_iconst (v := (0 : Int32)) C.x C.bc dX1_doesCome_53 (by decide) ?_
    obtain rfl := Option.some.inj hx
    exact x_zret (v := (0 : Int32)) C h rfl dX1_doesCome_54
theorem mX1_doesCome (hG : G0 E s0 b) (hI : Sx E) {v1 : Int32} {v2 : Int64} {x : Int32} (hx : fX1_doesCome v1 v2 st = some x) : Mt l E s0 yX1_doesCome cX1_doesCome 7 (some .boolean) rmX1_doesCome [.ref (E.ad 0), .int v1, .long v2] (sg st) (some (.int x)) E (sg st) :=
  Mt.of hG (by decide) (Nat.le_of_ble_eq_true rfl) (fun p e s m below meth c ls C h hl => bX1_doesCome C hI v1 v2 st hx h hl)
abbrev rmX1_laysShares : Room := { frames := 1, cells := 0, slots := 0, locals := 28 }
def fX1_laysShares_5 (v1 : Int32) (v2 : Int32) (st : St) : Option ((Int32 × Int32 × St) ⊕ (Int32 × St)) :=
  nm (fX2_nodes_1 st) fun r_1 =>
  if r_1 ≤ v2 then
    some (.inr (v1, st))
  else
    gd (inB (2 : Int32) 3) <|
    gd (inB v2 12) <|
    gd (inB v2 12) <|
    nm ((((100 : Int32) * (st.1 (3 + (2 : Int32).toNatClampNeg) v2.toNatClampNeg)).toInt64) * (st.2.1 52 v2.toNatClampNeg)) fun v3_6 =>
    gd (¬ (((st.1 1 3).toInt64) * (st.2.1 0 3)) = 0) <|
    gd (inB v2 12) <|
    nm (uI st 61 v2.toNatClampNeg ((v3_6 / (((st.1 1 3).toInt64) * (st.2.1 0 3))).toInt32)) fun st_9 =>
    gd (¬ (((st_9.1 1 3).toInt64) * (st_9.2.1 0 3)) = 0) <|
    gd (inB v2 12) <|
    nm (uL st_9 60 v2.toNatClampNeg (jreml v3_6 (((st_9.1 1 3).toInt64) * (st_9.2.1 0 3)))) fun st_12 =>
    gd (inB v2 12) <|
    nm (v1 - (st_12.1 61 v2.toNatClampNeg)) fun v1_14 =>
    nm (v2 + (1 : Int32)) fun v2_15 =>
    some (.inl (v1_14, v2_15, st_12))
set_option maxHeartbeats 1000000 in
theorem bX1_laysShares_5 (C : Cx E s0 b p s m args meth c cX1_laysShares 5 "EarthMesh" none) (hI : Sx E) (v1 : Int32) (v2 : Int32) (st : St) {x : (Int32 × Int32 × St) ⊕ (Int32 × St)} (hx : fX1_laysShares_5 v1 v2 st = some x) {Q : State → Prop} {G : Int32 × Int32 × St → Prop} {X : Int32 × St → Prop} (hG : ∀ (w1 : Int32) (w2 : Int32) (wst : St), G (w1, w2, wst) → ∀ (H : Heap) (locs : List Loc) (ls : Array Slot), XH E (sg wst) s H locs → lv_has ls 5 [(0, .ref (E.ad 0)), (1, .int w1), (2, .int w2)] → W p l e rmX1_laysShares s m args below meth c H locs 0 0 Q (F0 m 5 ls [])) (hE0 : ∀ (w1 : Int32) (wst : St), X (w1, wst) → ∀ (H : Heap) (locs : List Loc) (ls : Array Slot), XH E (sg wst) s H locs → lv_has ls 5 [(0, .ref (E.ad 0)), (1, .int w1)] → W p l e rmX1_laysShares s m args below meth c H locs 0 0 Q (F0 m 97 ls [])) (K : Kx G X x) {H : Heap} {locs : List Loc} {ls : Array Slot} (h : XH E (sg st) s H locs) (hl : lv_has ls 5 [(0, .ref (E.ad 0)), (1, .int v1), (2, .int v2)]) : W p l e rmX1_laysShares s m args below meth c H locs 0 0 Q (F0 m 5 ls []) := by
  unfold fX1_laysShares_5 at hx
  refine lv_iload_n C.x C.bc dX1_laysShares_5 rfl (lv_at hl 2 rfl) ?_
  refine lv_aload_n C.x C.bc dX1_laysShares_6 rfl (lv_at hl 0 rfl) ?_
  refine gt_X1_1_0 C hI h dX1_laysShares_7 ?_
  obtain ⟨r_1, e_1, hx⟩ := nm_x hx
  refine cX1_55_X2_nodes_1 C hI h e_1.symm ⟨Nat.le_of_ble_eq_true rfl, Nat.le_of_ble_eq_true rfl⟩ ⟨Nat.zero_le _, Nat.zero_le _⟩ hl.1 (Nat.le_of_ble_eq_true rfl) dX1_laysShares_10 (fun H locs h => ?_)
  refine lv_icmp_ge (tgt := 97) C.x C.bc dX1_laysShares_13 (by decide) (fun c_2 => ?_) (fun c_2 => ?_)
  · have hx := ge_t hx c_2
    obtain rfl := Option.some.inj hx
    exact hE0 _ _ K _ _ _ h (lv_sub hl [0, 1] rfl)
  · have hx := ge_f hx c_2
    refine lv_bipush (v := (100 : Int32)) C.x C.bc dX1_laysShares_16 (by decide) ?_
    refine lv_aload_n C.x C.bc dX1_laysShares_18 rfl (lv_at hl 0 rfl) ?_
    refine gt_X1_1_0 C hI h dX1_laysShares_19 ?_
    refine gt_X1_238_1 C hI h dX1_laysShares_22 ?_
    refine lv_iconst (v := (2 : Int32)) C.x C.bc dX1_laysShares_25 (by decide) ?_
    obtain ⟨g_3, hx⟩ := gd_e hx
    refine y_row C h 2 3 4 3 (hI 2 (by decide)) k_2 (by decide) rfl rfl (fun _ _ => rfl) g_3 dX1_laysShares_26 ?_
    refine lv_iload_n C.x C.bc dX1_laysShares_27 rfl (lv_at hl 2 rfl) ?_
    obtain ⟨g_4, hx⟩ := gd_e hx
    refine x_iald C h (3 + (2 : Int32).toNatClampNeg) 12 (hI _ (by have := inB_lt g_3; omega)) (kg_3 _ (inB_lt g_3)) g_4 dX1_laysShares_28 ?_
    refine lv_imul C.x C.bc dX1_laysShares_29 ?_
    refine lv_i2l (v := (((100 : Int32) * (st.1 (3 + (2 : Int32).toNatClampNeg) v2.toNatClampNeg)).toInt64)) C.x C.bc dX1_laysShares_30 rfl ?_
    refine lv_aload_n C.x C.bc dX1_laysShares_31 rfl (lv_at hl 0 rfl) ?_
    refine gt_X1_47_0 C hI h dX1_laysShares_32 ?_
    refine lv_iload_n C.x C.bc dX1_laysShares_35 rfl (lv_at hl 2 rfl) ?_
    obtain ⟨g_5, hx⟩ := gd_e hx
    refine x_lald C h 52 12 (hI 52 (by decide)) k_52 g_5 dX1_laysShares_36 ?_
    refine lv_lmul C.x C.bc dX1_laysShares_37 ?_
    obtain ⟨v3_6, e_6, hx⟩ := nm_x hx
    refine x_tl e_6 ?_
    refine lv_lstore_n (lv' := [(3, .long v3_6), (0, .ref (E.ad 0)), (1, .int v1), (2, .int v2)]) C.x C.bc dX1_laysShares_38 rfl hl (by decide) rfl (fun ls hl => ?_)
    refine lv_aload_n C.x C.bc dX1_laysShares_39 rfl (lv_at hl 1 rfl) ?_
    refine gt_X1_175_0 C hI h dX1_laysShares_40 ?_
    refine lv_iload_n C.x C.bc dX1_laysShares_43 rfl (lv_at hl 3 rfl) ?_
    refine lv_lload_n C.x C.bc dX1_laysShares_44 rfl (lv_at hl 0 rfl) ?_
    refine lv_aload_n C.x C.bc dX1_laysShares_45 rfl (lv_at hl 1 rfl) ?_
    refine gt_X1_1_0 C hI h dX1_laysShares_46 ?_
    refine gt_X1_59_1 C hI h dX1_laysShares_49 ?_
    refine lv_i2l (v := ((st.1 1 3).toInt64)) C.x C.bc dX1_laysShares_52 rfl ?_
    refine lv_aload_n C.x C.bc dX1_laysShares_53 rfl (lv_at hl 1 rfl) ?_
    refine gt_X1_44_0 C hI h dX1_laysShares_54 ?_
    refine lv_lmul C.x C.bc dX1_laysShares_57 ?_
    obtain ⟨g_7, hx⟩ := gd_e hx
    refine lv_ldiv C.x C.bc dX1_laysShares_58 g_7 ?_
    refine lv_l2i (v := ((v3_6 / (((st.1 1 3).toInt64) * (st.2.1 0 3))).toInt32)) C.x C.bc dX1_laysShares_59 rfl ?_
    obtain ⟨g_8, hx⟩ := gd_e hx
    obtain ⟨st_9, e_9, hx⟩ := nm_x hx
    refine y_iast C h 61 12 (hI 61 (by decide)) k_61 g_8 e_9 dX1_laysShares_60 (fun H locs h => ?_)
    refine lv_aload_n C.x C.bc dX1_laysShares_61 rfl (lv_at hl 1 rfl) ?_
    refine gt_X1_172_0 C hI h dX1_laysShares_62 ?_
    refine lv_iload_n C.x C.bc dX1_laysShares_65 rfl (lv_at hl 3 rfl) ?_
    refine lv_lload_n C.x C.bc dX1_laysShares_66 rfl (lv_at hl 0 rfl) ?_
    refine lv_aload_n C.x C.bc dX1_laysShares_67 rfl (lv_at hl 1 rfl) ?_
    refine gt_X1_1_0 C hI h dX1_laysShares_68 ?_
    refine gt_X1_59_1 C hI h dX1_laysShares_71 ?_
    refine lv_i2l (v := ((st_9.1 1 3).toInt64)) C.x C.bc dX1_laysShares_74 rfl ?_
    refine lv_aload_n C.x C.bc dX1_laysShares_75 rfl (lv_at hl 1 rfl) ?_
    refine gt_X1_44_0 C hI h dX1_laysShares_76 ?_
    refine lv_lmul C.x C.bc dX1_laysShares_79 ?_
    obtain ⟨g_10, hx⟩ := gd_e hx
    refine y_lrem C.x C.bc dX1_laysShares_80 g_10 ?_
    obtain ⟨g_11, hx⟩ := gd_e hx
    obtain ⟨st_12, e_12, hx⟩ := nm_x hx
    refine y_last C h 60 12 (hI 60 (by decide)) k_60 g_11 e_12 dX1_laysShares_81 (fun H locs h => ?_)
    refine lv_iload_n C.x C.bc dX1_laysShares_82 rfl (lv_at hl 2 rfl) ?_
    refine lv_aload_n C.x C.bc dX1_laysShares_83 rfl (lv_at hl 1 rfl) ?_
    refine gt_X1_175_0 C hI h dX1_laysShares_84 ?_
    refine lv_iload_n C.x C.bc dX1_laysShares_87 rfl (lv_at hl 3 rfl) ?_
    obtain ⟨g_13, hx⟩ := gd_e hx
    refine x_iald C h 61 12 (hI 61 (by decide)) k_61 g_13 dX1_laysShares_88 ?_
    refine lv_isub C.x C.bc dX1_laysShares_89 ?_
    obtain ⟨v1_14, e_14, hx⟩ := nm_x hx
    refine x_ti e_14 ?_
    refine lv_istore_n (lv' := [(1, .int v1_14), (3, .long v3_6), (0, .ref (E.ad 0)), (2, .int v2)]) C.x C.bc dX1_laysShares_90 rfl hl (by decide) rfl (fun ls hl => ?_)
    obtain ⟨v2_15, e_15, hx⟩ := nm_x hx
    refine lv_iinc (v := v2_15) (lv' := [(2, .int v2_15), (1, .int v1_14), (3, .long v3_6), (0, .ref (E.ad 0))]) C.x C.bc dX1_laysShares_91 hl (k := 3) rfl (by rw [e_15]; rfl) (by decide) rfl (fun ls hl => ?_)
    refine lv_goto (tgt := 5) C.x C.bc dX1_laysShares_94 (by decide) ?_
    obtain rfl := Option.some.inj hx
    exact hG _ _ _ K _ _ _ h (lv_sub hl [3, 1, 0] rfl)
set_option maxHeartbeats 1000000 in
theorem pX1_laysShares_5 (C : Cx E s0 b p s m args meth c cX1_laysShares 5 "EarthMesh" none) (hI : Sx E) {Q : State → Prop} {v1 : Int32} {v2 : Int32} {st : St} {n : Nat} {r : Int32 × St} (hx : iter (u3 fun v1 v2 st => fX1_laysShares_5 v1 v2 st) n (v1, v2, st) = some r) (hE : (fun t => ∀ (H : Heap) (locs : List Loc) (ls : Array Slot), XH E (sg t.2) s H locs → lv_has ls 5 [(0, .ref (E.ad 0)), (1, .int t.1)] → W p l e rmX1_laysShares s m args below meth c H locs 0 0 Q (F0 m 97 ls [])) r) {H : Heap} {locs : List Loc} {ls : Array Slot} (h : XH E (sg st) s H locs) (hl : lv_has ls 5 [(0, .ref (E.ad 0)), (1, .int v1), (2, .int v2)]) : W p l e rmX1_laysShares s m args below meth c H locs 0 0 Q (F0 m 5 ls []) := by
  refine iter_W (G := fun t => ∀ (H : Heap) (locs : List Loc) (ls : Array Slot), XH E (sg t.2.2) s H locs → lv_has ls 5 [(0, .ref (E.ad 0)), (1, .int t.1), (2, .int t.2.1)] → W p l e rmX1_laysShares s m args below meth c H locs 0 0 Q (F0 m 5 ls [])) (E := fun t => ∀ (H : Heap) (locs : List Loc) (ls : Array Slot), XH E (sg t.2) s H locs → lv_has ls 5 [(0, .ref (E.ad 0)), (1, .int t.1)] → W p l e rmX1_laysShares s m args below meth c H locs 0 0 Q (F0 m 97 ls [])) (fun t x hx K H locs ls h hl => ?_) n _ r hx hE H locs ls h hl
  obtain ⟨v1, v2, st⟩ := t
  exact bX1_laysShares_5 C hI v1 v2 st hx (fun _ _ _ z => z) (fun _ _ z => z) K h hl
def fX1_laysShares_134 (v1 : Int32) (v2 : Int32) (v3 : Int32) (st : St) : Option ((Int32 × Int32) ⊕ (Int32)) :=
  nm (v3 + (1 : Int32)) fun v3_23 =>
  some (.inl (v2, v3_23))
set_option maxHeartbeats 1000000 in
theorem bX1_laysShares_134 (C : Cx E s0 b p s m args meth c cX1_laysShares 5 "EarthMesh" none) (hI : Sx E) (v1 : Int32) (v2 : Int32) (v3 : Int32) (st : St) {x : (Int32 × Int32) ⊕ (Int32)} (hx : fX1_laysShares_134 v1 v2 v3 st = some x) {Q : State → Prop} {G : Int32 × Int32 → Prop} {X : Int32 → Prop} (hG : ∀ (w2 : Int32) (w3 : Int32), G (w2, w3) → ∀ (H : Heap) (locs : List Loc) (ls : Array Slot), XH E (sg st) s H locs → lv_has ls 5 [(0, .ref (E.ad 0)), (1, .int v1), (2, .int w2), (3, .int w3)] → W p l e rmX1_laysShares s m args below meth c H locs 0 0 Q (F0 m 105 ls [])) (hE0 : ∀ (w2 : Int32), X w2 → ∀ (H : Heap) (locs : List Loc) (ls : Array Slot), XH E (sg st) s H locs → lv_has ls 5 [(0, .ref (E.ad 0)), (1, .int v1), (2, .int w2)] → W p l e rmX1_laysShares s m args below meth c H locs 0 0 Q (F0 m 140 ls [])) (K : Kx G X x) {H : Heap} {locs : List Loc} {ls : Array Slot} (h : XH E (sg st) s H locs) (hl : lv_has ls 5 [(0, .ref (E.ad 0)), (1, .int v1), (2, .int v2), (3, .int v3)]) : W p l e rmX1_laysShares s m args below meth c H locs 0 0 Q (F0 m 134 ls []) := by
  unfold fX1_laysShares_134 at hx
  obtain ⟨v3_23, e_23, hx⟩ := nm_x hx
  refine lv_iinc (v := v3_23) (lv' := [(3, .int v3_23), (0, .ref (E.ad 0)), (1, .int v1), (2, .int v2)]) C.x C.bc dX1_laysShares_134 hl (k := 3) rfl (by rw [e_23]; rfl) (by decide) rfl (fun ls hl => ?_)
  refine lv_goto (tgt := 105) C.x C.bc dX1_laysShares_137 (by decide) ?_
  obtain rfl := Option.some.inj hx
  exact hG _ _ K _ _ _ h (lv_sub hl [1, 2, 3, 0] rfl)
def fX1_laysShares_105 (v1 : Int32) (v2 : Int32) (v3 : Int32) (st : St) : Option ((Int32 × Int32) ⊕ (Int32)) :=
  nm (fX2_nodes_1 st) fun r_18 =>
  if r_18 ≤ v3 then
    some (.inr v2)
  else
    gd (inB v3 12) <|
    gd (inB v2 12) <|
    if (st.2.1 60 v2.toNatClampNeg) < (st.2.1 60 v3.toNatClampNeg) then
      fX1_laysShares_134 v1 v3 v3 st
    else
      fX1_laysShares_134 v1 v2 v3 st
set_option maxHeartbeats 1000000 in
theorem bX1_laysShares_105 (C : Cx E s0 b p s m args meth c cX1_laysShares 5 "EarthMesh" none) (hI : Sx E) (v1 : Int32) (v2 : Int32) (v3 : Int32) (st : St) {x : (Int32 × Int32) ⊕ (Int32)} (hx : fX1_laysShares_105 v1 v2 v3 st = some x) {Q : State → Prop} {G : Int32 × Int32 → Prop} {X : Int32 → Prop} (hG : ∀ (w2 : Int32) (w3 : Int32), G (w2, w3) → ∀ (H : Heap) (locs : List Loc) (ls : Array Slot), XH E (sg st) s H locs → lv_has ls 5 [(0, .ref (E.ad 0)), (1, .int v1), (2, .int w2), (3, .int w3)] → W p l e rmX1_laysShares s m args below meth c H locs 0 0 Q (F0 m 105 ls [])) (hE0 : ∀ (w2 : Int32), X w2 → ∀ (H : Heap) (locs : List Loc) (ls : Array Slot), XH E (sg st) s H locs → lv_has ls 5 [(0, .ref (E.ad 0)), (1, .int v1), (2, .int w2)] → W p l e rmX1_laysShares s m args below meth c H locs 0 0 Q (F0 m 140 ls [])) (K : Kx G X x) {H : Heap} {locs : List Loc} {ls : Array Slot} (h : XH E (sg st) s H locs) (hl : lv_has ls 5 [(0, .ref (E.ad 0)), (1, .int v1), (2, .int v2), (3, .int v3)]) : W p l e rmX1_laysShares s m args below meth c H locs 0 0 Q (F0 m 105 ls []) := by
  unfold fX1_laysShares_105 at hx
  refine lv_iload_n C.x C.bc dX1_laysShares_105 rfl (lv_at hl 3 rfl) ?_
  refine lv_aload_n C.x C.bc dX1_laysShares_106 rfl (lv_at hl 0 rfl) ?_
  refine gt_X1_1_0 C hI h dX1_laysShares_107 ?_
  obtain ⟨r_18, e_18, hx⟩ := nm_x hx
  refine cX1_55_X2_nodes_1 C hI h e_18.symm ⟨Nat.le_of_ble_eq_true rfl, Nat.le_of_ble_eq_true rfl⟩ ⟨Nat.zero_le _, Nat.zero_le _⟩ hl.1 (Nat.le_of_ble_eq_true rfl) dX1_laysShares_110 (fun H locs h => ?_)
  refine lv_icmp_ge (tgt := 140) C.x C.bc dX1_laysShares_113 (by decide) (fun c_19 => ?_) (fun c_19 => ?_)
  · have hx := ge_t hx c_19
    obtain rfl := Option.some.inj hx
    exact hE0 _ K _ _ _ h (lv_sub hl [0, 1, 2] rfl)
  · have hx := ge_f hx c_19
    refine lv_aload_n C.x C.bc dX1_laysShares_116 rfl (lv_at hl 0 rfl) ?_
    refine gt_X1_172_0 C hI h dX1_laysShares_117 ?_
    refine lv_iload_n C.x C.bc dX1_laysShares_120 rfl (lv_at hl 3 rfl) ?_
    obtain ⟨g_20, hx⟩ := gd_e hx
    refine x_lald C h 60 12 (hI 60 (by decide)) k_60 g_20 dX1_laysShares_121 ?_
    refine lv_aload_n C.x C.bc dX1_laysShares_122 rfl (lv_at hl 0 rfl) ?_
    refine gt_X1_172_0 C hI h dX1_laysShares_123 ?_
    refine lv_iload_n C.x C.bc dX1_laysShares_126 rfl (lv_at hl 2 rfl) ?_
    obtain ⟨g_21, hx⟩ := gd_e hx
    refine x_lald C h 60 12 (hI 60 (by decide)) k_60 g_21 dX1_laysShares_127 ?_
    refine W.lcmp C.x C.bc dX1_laysShares_128 ?_
    refine lv_if_le (tgt := 134) C.x C.bc dX1_laysShares_129 (by decide) (fun c_22 => ?_) (fun c_22 => ?_)
    · have c_22 := (lc_le _ _).mp c_22
      have hx := ge_f hx c_22
      exact bX1_laysShares_134 C hI v1 v2 v3 st hx hG hE0 K h (lv_sub hl [0, 1, 2, 3] rfl)
    · have c_22 := Classical.not_not.mp ((not_congr (lc_le _ _)).mp c_22)
      have hx := ge_t hx c_22
      refine lv_iload_n C.x C.bc dX1_laysShares_132 rfl (lv_at hl 3 rfl) ?_
      refine lv_istore_n (lv' := [(2, .int v3), (0, .ref (E.ad 0)), (1, .int v1), (3, .int v3)]) C.x C.bc dX1_laysShares_133 rfl hl (by decide) rfl (fun ls hl => ?_)
      exact bX1_laysShares_134 C hI v1 v3 v3 st hx hG hE0 K h (lv_sub hl [1, 2, 0, 3] rfl)
set_option maxHeartbeats 1000000 in
theorem pX1_laysShares_105 (C : Cx E s0 b p s m args meth c cX1_laysShares 5 "EarthMesh" none) (hI : Sx E) (v1 : Int32) (st : St) {Q : State → Prop} {v2 : Int32} {v3 : Int32} {n : Nat} {r : Int32} (hx : iter (u2 fun v2 v3 => fX1_laysShares_105 v1 v2 v3 st) n (v2, v3) = some r) (hE : (fun t => ∀ (H : Heap) (locs : List Loc) (ls : Array Slot), XH E (sg st) s H locs → lv_has ls 5 [(0, .ref (E.ad 0)), (1, .int v1), (2, .int t)] → W p l e rmX1_laysShares s m args below meth c H locs 0 0 Q (F0 m 140 ls [])) r) {H : Heap} {locs : List Loc} {ls : Array Slot} (h : XH E (sg st) s H locs) (hl : lv_has ls 5 [(0, .ref (E.ad 0)), (1, .int v1), (2, .int v2), (3, .int v3)]) : W p l e rmX1_laysShares s m args below meth c H locs 0 0 Q (F0 m 105 ls []) := by
  refine iter_W (G := fun t => ∀ (H : Heap) (locs : List Loc) (ls : Array Slot), XH E (sg st) s H locs → lv_has ls 5 [(0, .ref (E.ad 0)), (1, .int v1), (2, .int t.1), (3, .int t.2)] → W p l e rmX1_laysShares s m args below meth c H locs 0 0 Q (F0 m 105 ls [])) (E := fun t => ∀ (H : Heap) (locs : List Loc) (ls : Array Slot), XH E (sg st) s H locs → lv_has ls 5 [(0, .ref (E.ad 0)), (1, .int v1), (2, .int t)] → W p l e rmX1_laysShares s m args below meth c H locs 0 0 Q (F0 m 140 ls [])) (fun t x hx K H locs ls h hl => ?_) n _ r hx hE H locs ls h hl
  obtain ⟨v2, v3⟩ := t
  exact bX1_laysShares_105 C hI v1 v2 v3 st hx (fun _ _ z => z) (fun _ z => z) K h hl
def fX1_laysShares_97 (v1 : Int32) (st : St) : Option ((Int32 × St) ⊕ (St)) :=
  if v1 ≤ 0 then
    some (.inr st)
  else
    bd (iter (u2 fun z2 z3 => fX1_laysShares_105 v1 z2 z3 st) FU ((0 : Int32), (1 : Int32))) (u1 fun v2_24 =>
    gd (inB v2_24 12) <|
    gd (inB v2_24 12) <|
    nm (uI st 61 v2_24.toNatClampNeg ((st.1 61 v2_24.toNatClampNeg) + (1 : Int32))) fun st_27 =>
    gd (inB v2_24 12) <|
    nm (uL st_27 60 v2_24.toNatClampNeg (-1 : Int64)) fun st_29 =>
    nm (v1 + (-1 : Int32)) fun v1_30 =>
    some (.inl (v1_30, st_29)))
set_option maxHeartbeats 1000000 in
theorem bX1_laysShares_97 (C : Cx E s0 b p s m args meth c cX1_laysShares 5 "EarthMesh" none) (hI : Sx E) (v1 : Int32) (st : St) {x : (Int32 × St) ⊕ (St)} (hx : fX1_laysShares_97 v1 st = some x) {Q : State → Prop} {G : Int32 × St → Prop} {X : St → Prop} (hG : ∀ (w1 : Int32) (wst : St), G (w1, wst) → ∀ (H : Heap) (locs : List Loc) (ls : Array Slot), XH E (sg wst) s H locs → lv_has ls 5 [(0, .ref (E.ad 0)), (1, .int w1)] → W p l e rmX1_laysShares s m args below meth c H locs 0 0 Q (F0 m 97 ls [])) (hE0 : ∀ (wst : St), X wst → ∀ (H : Heap) (locs : List Loc) (ls : Array Slot), XH E (sg wst) s H locs → lv_has ls 5 [] → W p l e rmX1_laysShares s m args below meth c H locs 0 0 Q (F0 m 165 ls [])) (K : Kx G X x) {H : Heap} {locs : List Loc} {ls : Array Slot} (h : XH E (sg st) s H locs) (hl : lv_has ls 5 [(0, .ref (E.ad 0)), (1, .int v1)]) : W p l e rmX1_laysShares s m args below meth c H locs 0 0 Q (F0 m 97 ls []) := by
  unfold fX1_laysShares_97 at hx
  refine lv_iload_n C.x C.bc dX1_laysShares_97 rfl (lv_at hl 1 rfl) ?_
  refine lv_if_le (tgt := 165) C.x C.bc dX1_laysShares_98 (by decide) (fun c_17 => ?_) (fun c_17 => ?_)
  · have hx := ge_t hx c_17
    obtain rfl := Option.some.inj hx
    exact hE0 _ K _ _ _ h (lv_sub hl [] rfl)
  · have hx := ge_f hx c_17
    refine lv_iconst (v := (0 : Int32)) C.x C.bc dX1_laysShares_101 (by decide) ?_
    refine lv_istore_n (lv' := [(2, .int (0 : Int32)), (0, .ref (E.ad 0)), (1, .int v1)]) C.x C.bc dX1_laysShares_102 rfl hl (by decide) rfl (fun ls hl => ?_)
    refine lv_iconst (v := (1 : Int32)) C.x C.bc dX1_laysShares_103 (by decide) ?_
    refine lv_istore_n (lv' := [(3, .int (1 : Int32)), (2, .int (0 : Int32)), (0, .ref (E.ad 0)), (1, .int v1)]) C.x C.bc dX1_laysShares_104 rfl hl (by decide) rfl (fun ls hl => ?_)
    obtain ⟨v2_24, hi_24, hx⟩ := bd_e hx
    have hx := u1_e hx
    refine pX1_laysShares_105 C hI v1 st hi_24 (fun H locs ls h hl => ?_) h (lv_sub hl [2, 3, 1, 0] rfl)
    refine lv_aload_n C.x C.bc dX1_laysShares_140 rfl (lv_at hl 0 rfl) ?_
    refine gt_X1_175_0 C hI h dX1_laysShares_141 ?_
    refine lv_iload_n C.x C.bc dX1_laysShares_144 rfl (lv_at hl 2 rfl) ?_
    refine lv_dup2_11 C.x C.bc dX1_laysShares_145 rfl rfl ?_
    obtain ⟨g_25, hx⟩ := gd_e hx
    refine x_iald C h 61 12 (hI 61 (by decide)) k_61 g_25 dX1_laysShares_146 ?_
    refine lv_iconst (v := (1 : Int32)) C.x C.bc dX1_laysShares_147 (by decide) ?_
    refine lv_iadd C.x C.bc dX1_laysShares_148 ?_
    obtain ⟨g_26, hx⟩ := gd_e hx
    obtain ⟨st_27, e_27, hx⟩ := nm_x hx
    refine y_iast C h 61 12 (hI 61 (by decide)) k_61 g_26 e_27 dX1_laysShares_149 (fun H locs h => ?_)
    refine lv_aload_n C.x C.bc dX1_laysShares_150 rfl (lv_at hl 0 rfl) ?_
    refine gt_X1_172_0 C hI h dX1_laysShares_151 ?_
    refine lv_iload_n C.x C.bc dX1_laysShares_154 rfl (lv_at hl 2 rfl) ?_
    refine lv_ldc2 (v := (-1 : Int64)) C.x C.bc C.ow (C.ts _ q335) dX1_laysShares_155 ?_
    obtain ⟨g_28, hx⟩ := gd_e hx
    obtain ⟨st_29, e_29, hx⟩ := nm_x hx
    refine y_last C h 60 12 (hI 60 (by decide)) k_60 g_28 e_29 dX1_laysShares_158 (fun H locs h => ?_)
    obtain ⟨v1_30, e_30, hx⟩ := nm_x hx
    refine lv_iinc (v := v1_30) (lv' := [(1, .int v1_30), (0, .ref (E.ad 0)), (2, .int v2_24)]) C.x C.bc dX1_laysShares_159 hl (k := 1) rfl (by rw [e_30]; rfl) (by decide) rfl (fun ls hl => ?_)
    refine lv_goto (tgt := 97) C.x C.bc dX1_laysShares_162 (by decide) ?_
    obtain rfl := Option.some.inj hx
    exact hG _ _ K _ _ _ h (lv_sub hl [1, 0] rfl)
set_option maxHeartbeats 1000000 in
theorem pX1_laysShares_97 (C : Cx E s0 b p s m args meth c cX1_laysShares 5 "EarthMesh" none) (hI : Sx E) {Q : State → Prop} {v1 : Int32} {st : St} {n : Nat} {r : St} (hx : iter (u2 fun v1 st => fX1_laysShares_97 v1 st) n (v1, st) = some r) (hE : (fun t => ∀ (H : Heap) (locs : List Loc) (ls : Array Slot), XH E (sg t) s H locs → lv_has ls 5 [] → W p l e rmX1_laysShares s m args below meth c H locs 0 0 Q (F0 m 165 ls [])) r) {H : Heap} {locs : List Loc} {ls : Array Slot} (h : XH E (sg st) s H locs) (hl : lv_has ls 5 [(0, .ref (E.ad 0)), (1, .int v1)]) : W p l e rmX1_laysShares s m args below meth c H locs 0 0 Q (F0 m 97 ls []) := by
  refine iter_W (G := fun t => ∀ (H : Heap) (locs : List Loc) (ls : Array Slot), XH E (sg t.2) s H locs → lv_has ls 5 [(0, .ref (E.ad 0)), (1, .int t.1)] → W p l e rmX1_laysShares s m args below meth c H locs 0 0 Q (F0 m 97 ls [])) (E := fun t => ∀ (H : Heap) (locs : List Loc) (ls : Array Slot), XH E (sg t) s H locs → lv_has ls 5 [] → W p l e rmX1_laysShares s m args below meth c H locs 0 0 Q (F0 m 165 ls [])) (fun t x hx K H locs ls h hl => ?_) n _ r hx hE H locs ls h hl
  obtain ⟨v1, st⟩ := t
  exact bX1_laysShares_97 C hI v1 st hx (fun _ _ z => z) (fun _ z => z) K h hl
def fX1_laysShares (st : St) : Option (St) :=
  bd (iter (u3 fun z1 z2 zst => fX1_laysShares_5 z1 z2 zst) FU ((100 : Int32), (0 : Int32), st)) (u2 fun v1_16 st_16 =>
  bd (iter (u2 fun z1 zst => fX1_laysShares_97 z1 zst) FU (v1_16, st_16)) (u1 fun st_31 =>
  some st_31))
set_option maxHeartbeats 1000000 in
theorem bX1_laysShares (C : Cx E s0 b p s m args meth c cX1_laysShares 5 "EarthMesh" none) (hI : Sx E) (st : St) {x : St} (hx : fX1_laysShares st = some x) {H : Heap} {locs : List Loc} {ls : Array Slot} (h : XH E (sg st) s H locs) (hl : lv_has ls 5 [(0, .ref (E.ad 0))]) : W p l e rmX1_laysShares s m args below meth c H locs 0 0 (MQ below (Qx E none (sg x)) args s 0 0 (gA E.HB)) (F0 m 0 ls []) := by
  unfold fX1_laysShares at hx
  refine lv_bipush (v := (100 : Int32)) C.x C.bc dX1_laysShares_0 (by decide) ?_
  refine lv_istore_n (lv' := [(1, .int (100 : Int32)), (0, .ref (E.ad 0))]) C.x C.bc dX1_laysShares_2 rfl hl (by decide) rfl (fun ls hl => ?_)
  refine lv_iconst (v := (0 : Int32)) C.x C.bc dX1_laysShares_3 (by decide) ?_
  refine lv_istore_n (lv' := [(2, .int (0 : Int32)), (1, .int (100 : Int32)), (0, .ref (E.ad 0))]) C.x C.bc dX1_laysShares_4 rfl hl (by decide) rfl (fun ls hl => ?_)
  obtain ⟨⟨v1_16, st_16⟩, hi_16, hx⟩ := bd_e hx
  have hx := u2_e hx
  refine pX1_laysShares_5 C hI hi_16 (fun H locs ls h hl => ?_) h (lv_sub hl [2, 1, 0] rfl)
  obtain ⟨st_31, hi_31, hx⟩ := bd_e hx
  have hx := u1_e hx
  refine pX1_laysShares_97 C hI hi_31 (fun H locs ls h hl => ?_) h (lv_sub hl [0, 1] rfl)
  obtain rfl := Option.some.inj hx
  exact x_vret C h dX1_laysShares_165
theorem mX1_laysShares (hG : G0 E s0 b) (hI : Sx E)  {x : St} (hx : fX1_laysShares st = some x) : Mt l E s0 yX1_laysShares cX1_laysShares 5 none rmX1_laysShares [.ref (E.ad 0)] (sg st) none E (sg x) :=
  Mt.of hG (by decide) (Nat.le_of_ble_eq_true rfl) (fun p e s m below meth c ls C h hl => bX1_laysShares C hI st hx h hl)
end
