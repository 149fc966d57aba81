set_option maxRecDepth 100000
section
variable {p : Program} {l : Launch} {e : Env} {R : Room} {s : State} {m : MethodId} {args : Array Value} {below : List Frame} {meth : Method} {c : Code} {H : Heap} {locs : List Loc} {cells slots : Nat} {Q : State → Prop}
variable {cc : ByteArray} {pc : Nat} {ls : Array Slot} {rest : List Value} {E : Wd} {s0 : State} {b nL : Nat} {rt : Option FieldType} {g st : St}
abbrev rmX6_placeOf : Room := { frames := 0, cells := 0, slots := 0, locals := 0 }
def fX6_placeOf_2 (v1 : Int32) (v2 : Int32) (st : St) : Option ((Int32) ⊕ ((Int32) ⊕ (Unit))) :=
  if (st.1 68 18) ≤ v2 then
    some (.inr (.inr ()))
  else
    gd (inB v2 12) <|
    if (st.1 75 v2.toNatClampNeg) = v1 then
      some (.inr (.inl v2))
    else
      nm (v2 + (1 : Int32)) fun v2_4 =>
      some (.inl v2_4)
set_option maxHeartbeats 1000000 in
theorem bX6_placeOf_2 (C : Cx E s0 b p s m args meth c cX6_placeOf 3 "EarthMeshModel" (some .int)) (hI : Sx E) (v1 : Int32) (v2 : Int32) (st : St) {x : (Int32) ⊕ ((Int32) ⊕ (Unit))} (hx : fX6_placeOf_2 v1 v2 st = some x) {Q : State → Prop} {G : Int32 → Prop} {X : (Int32) ⊕ (Unit) → Prop} (hG : ∀ (w2 : Int32), G w2 → ∀ (H : Heap) (locs : List Loc) (ls : Array Slot), XH E (sg st) s H locs → lv_has ls 3 [(0, .ref (E.ad 68)), (1, .int v1), (2, .int w2)] → W p l e rmX6_placeOf s m args below meth c H locs 0 0 Q (F0 m 2 ls [])) (hE0 : ∀ (w2 : Int32), X (.inl w2) → ∀ (H : Heap) (locs : List Loc) (ls : Array Slot), XH E (sg st) s H locs → lv_has ls 3 [(2, .int w2)] → W p l e rmX6_placeOf s m args below meth c H locs 0 0 Q (F0 m 20 ls [])) (hE1 : X (.inr ()) → ∀ (H : Heap) (locs : List Loc) (ls : Array Slot), XH E (sg st) s H locs → lv_has ls 3 [] → W p l e rmX6_placeOf s m args below meth c H locs 0 0 Q (F0 m 28 ls [])) (K : Kx G X x) {H : Heap} {locs : List Loc} {ls : Array Slot} (h : XH E (sg st) s H locs) (hl : lv_has ls 3 [(0, .ref (E.ad 68)), (1, .int v1), (2, .int v2)]) : W p l e rmX6_placeOf s m args below meth c H locs 0 0 Q (F0 m 2 ls []) := by
  unfold fX6_placeOf_2 at hx
  refine lv_iload_n C.x C.bc dX6_placeOf_2 rfl (lv_at hl 2 rfl) ?_
  refine lv_aload_n C.x C.bc dX6_placeOf_3 rfl (lv_at hl 0 rfl) ?_
  refine gt_X6_223_68 C hI h dX6_placeOf_4 ?_
  refine lv_icmp_ge (tgt := 28) C.x C.bc dX6_placeOf_7 (by decide) (fun c_1 => ?_) (fun c_1 => ?_)
  · have hx := ge_t hx c_1
    obtain rfl := Option.some.inj hx
    exact hE1  K _ _ _ h (lv_sub hl [] rfl)
  · have hx := ge_f hx c_1
    refine lv_aload_n C.x C.bc dX6_placeOf_10 rfl (lv_at hl 0 rfl) ?_
    refine gt_X6_52_68 C hI h dX6_placeOf_11 ?_
    refine lv_iload_n C.x C.bc dX6_placeOf_14 rfl (lv_at hl 2 rfl) ?_
    obtain ⟨g_2, hx⟩ := gd_e hx
    refine x_iald C h 75 12 (hI 75 (by decide)) k_75 g_2 dX6_placeOf_15 ?_
    refine lv_iload_n C.x C.bc dX6_placeOf_16 rfl (lv_at hl 1 rfl) ?_
    refine lv_icmp_ne (tgt := 22) C.x C.bc dX6_placeOf_17 (by decide) (fun c_3 => ?_) (fun c_3 => ?_)
    · have hx := ge_f hx c_3
      obtain ⟨v2_4, e_4, hx⟩ := nm_x hx
      refine lv_iinc (v := v2_4) (lv' := [(2, .int v2_4), (0, .ref (E.ad 68)), (1, .int v1)]) C.x C.bc dX6_placeOf_22 hl (k := 2) rfl (by rw [e_4]; rfl) (by decide) rfl (fun ls hl => ?_)
      refine lv_goto (tgt := 2) C.x C.bc dX6_placeOf_25 (by decide) ?_
      obtain rfl := Option.some.inj hx
      exact hG _ K _ _ _ h (lv_sub hl [1, 2, 0] rfl)
    · have hx := ge_t hx c_3
      obtain rfl := Option.some.inj hx
      exact hE0 _ K _ _ _ h (lv_sub hl [2] rfl)
set_option maxHeartbeats 1000000 in
theorem pX6_placeOf_2 (C : Cx E s0 b p s m args meth c cX6_placeOf 3 "EarthMeshModel" (some .int)) (hI : Sx E) (v1 : Int32) (st : St) {Q : State → Prop} {v2 : Int32} {n : Nat} {r : (Int32) ⊕ (Unit)} (hx : iter (u1 fun v2 => fX6_placeOf_2 v1 v2 st) n v2 = some r) (hE : (fun t => match t with | (.inl t) => (∀ (H : Heap) (locs : List Loc) (ls : Array Slot), XH E (sg st) s H locs → lv_has ls 3 [(2, .int t)] → W p l e rmX6_placeOf s m args below meth c H locs 0 0 Q (F0 m 20 ls [])) | (.inr t) => (∀ (H : Heap) (locs : List Loc) (ls : Array Slot), XH E (sg st) s H locs → lv_has ls 3 [] → W p l e rmX6_placeOf s m args below meth c H locs 0 0 Q (F0 m 28 ls []))) r) {H : Heap} {locs : List Loc} {ls : Array Slot} (h : XH E (sg st) s H locs) (hl : lv_has ls 3 [(0, .ref (E.ad 68)), (1, .int v1), (2, .int v2)]) : W p l e rmX6_placeOf s m args below meth c H locs 0 0 Q (F0 m 2 ls []) := by
  refine iter_W (G := fun t => ∀ (H : Heap) (locs : List Loc) (ls : Array Slot), XH E (sg st) s H locs → lv_has ls 3 [(0, .ref (E.ad 68)), (1, .int v1), (2, .int t)] → W p l e rmX6_placeOf s m args below meth c H locs 0 0 Q (F0 m 2 ls [])) (E := fun t => match t with | (.inl t) => (∀ (H : Heap) (locs : List Loc) (ls : Array Slot), XH E (sg st) s H locs → lv_has ls 3 [(2, .int t)] → W p l e rmX6_placeOf s m args below meth c H locs 0 0 Q (F0 m 20 ls [])) | (.inr t) => (∀ (H : Heap) (locs : List Loc) (ls : Array Slot), XH E (sg st) s H locs → lv_has ls 3 [] → W p l e rmX6_placeOf s m args below meth c H locs 0 0 Q (F0 m 28 ls []))) (fun v2 x hx K H locs ls h hl => ?_) n _ r hx hE H locs ls h hl
  exact bX6_placeOf_2 C hI v1 v2 st hx (fun _ z => z) (fun _ z => z) (fun z => z) K h hl
def fX6_placeOf (v1 : Int32) (st : St) : Option (Int32) :=
  bd (iter (u1 fun z2 => fX6_placeOf_2 v1 z2 st) FU (0 : Int32)) (Sum.elim (u1 fun v2_5 =>
    some v2_5) (u1 fun _ =>
    some (-1 : Int32)))
set_option maxHeartbeats 1000000 in
theorem bX6_placeOf (C : Cx E s0 b p s m args meth c cX6_placeOf 3 "EarthMeshModel" (some .int)) (hI : Sx E) (v1 : Int32) (st : St) {x : Int32} (hx : fX6_placeOf v1 st = some x) {H : Heap} {locs : List Loc} {ls : Array Slot} (h : XH E (sg st) s H locs) (hl : lv_has ls 3 [(0, .ref (E.ad 68)), (1, .int v1)]) : W p l e rmX6_placeOf s m args below meth c H locs 0 0 (MQ below (Qx E (some (.int x)) (sg st)) args s 0 0 (gA E.HB)) (F0 m 0 ls []) := by
  unfold fX6_placeOf at hx
  refine lv_iconst (v := (0 : Int32)) C.x C.bc dX6_placeOf_0 (by decide) ?_
  refine lv_istore_n (lv' := [(2, .int (0 : Int32)), (0, .ref (E.ad 68)), (1, .int v1)]) C.x C.bc dX6_placeOf_1 rfl hl (by decide) rfl (fun ls hl => ?_)
  obtain ⟨r_5, hi_5, hx⟩ := bd_e hx
  rcases r_5 with v2_5 | _
  · have hx := sl_e hx; have hx := u1_e hx
    refine pX6_placeOf_2 C hI v1 st hi_5 (fun H locs ls h hl => ?_) h (lv_sub hl [1, 2, 0] rfl)
    refine lv_iload_n C.x C.bc dX6_placeOf_20 rfl (lv_at hl 0 rfl) ?_
    obtain rfl := Option.some.inj hx
    exact x_iret C h dX6_placeOf_21
  · have hx := sr_e hx; have hx := u1_e hx
    refine pX6_placeOf_2 C hI v1 st hi_5 (fun H locs ls h hl => ?_) h (lv_sub hl [1, 2, 0] rfl)
    refine lv_iconst (v := (-1 : Int32)) C.x C.bc dX6_placeOf_28 (by decide) ?_
    obtain rfl := Option.some.inj hx
    exact x_iret C h dX6_placeOf_29
theorem mX6_placeOf (hG : G0 E s0 b) (hI : Sx E) {v1 : Int32} {x : Int32} (hx : fX6_placeOf v1 st = some x) : Mt l E s0 yX6_placeOf cX6_placeOf 3 (some .int) rmX6_placeOf [.ref (E.ad 68), .int v1] (sg st) (some (.int x)) E (sg st) :=
  Mt.of hG (by decide) (Nat.le_of_ble_eq_true rfl) (fun p e s m below meth c ls C h hl => bX6_placeOf C hI v1 st hx h hl)
theorem cX6_258_X6_placeOf {a0 : Int32} {r : Int32} (C : Cx E s0 b p s m args meth c cc nL "EarthMeshModel" rt) (hI : Sx E) (h : XH E (sg st) s H locs) (hf : fX6_placeOf a0 st = some r) (hR : rmX6_placeOf.frames + 1 ≤ R.frames ∧ 16 + (3 + 11) + rmX6_placeOf.locals ≤ R.locals) (h0 : cells ≤ R.cells ∧ slots ≤ R.slots) (hsz : ls.size = nL) (hcat : (rest.map fun v => v.category).sum ≤ 16) (hdg : decode cc pc = .ok (.invokevirtual 258, 3)) (kk : ∀ (H : Heap) (locs : List Loc), XH E (sg st) s H locs → W p l e R s m args below meth c H locs cells slots Q (F0 m (pc + 3) ls (.int r :: rest))) : W p l e R s m args below meth c H locs cells slots Q (F0 m pc ls (.int a0 :: .ref (E.ad 68) :: rest)) :=
  x_callV (n := 1) (As := [.int a0]) C h 68 5 (hI 68 (by decide)) k_68 rfl (mX6_placeOf C.g hI hf) (lw_V q1860 q1862 qs94 q136 q1863) ⟨rfl, by decide +kernel, by decide +kernel, by decide +kernel⟩ hR ⟨rfl, rfl⟩ h0 rfl hsz rfl hcat hdg kk
abbrev rmX6_solves : Room := { frames := 4, cells := 0, slots := 0, locals := 145 }
def fX6_solves_11 (v1 : Int32) (v2 : Int32) (v3 : Int32) (st : St) : Option ((Int32 × St) ⊕ (St)) :=
  if (12 : Int32) ≤ v3 then
    some (.inr st)
  else
    gd (inB v3 12) <|
    nm (uL st 76 v3.toNatClampNeg (0 : Int64)) fun st_5 =>
    nm (v3 + (1 : Int32)) fun v3_6 =>
    some (.inl (v3_6, st_5))
set_option maxHeartbeats 1000000 in
theorem bX6_solves_11 (C : Cx E s0 b p s m args meth c cX6_solves 4 "EarthMeshModel" (some .boolean)) (hI : Sx E) (v1 : Int32) (v2 : Int32) (v3 : Int32) (st : St) {x : (Int32 × St) ⊕ (St)} (hx : fX6_solves_11 v1 v2 v3 st = some x) {Q : State → Prop} {G : Int32 × St → Prop} {X : St → Prop} (hG : ∀ (w3 : Int32) (wst : St), G (w3, wst) → ∀ (H : Heap) (locs : List Loc) (ls : Array Slot), XH E (sg wst) s H locs → lv_has ls 4 [(0, .ref (E.ad 68)), (1, .int v1), (2, .int v2), (3, .int w3)] → W p l e rmX6_solves s m args below meth c H locs 0 0 Q (F0 m 11 ls [])) (hE0 : ∀ (wst : St), X wst → ∀ (H : Heap) (locs : List Loc) (ls : Array Slot), XH E (sg wst) s H locs → lv_has ls 4 [(0, .ref (E.ad 68)), (1, .int v1), (2, .int v2)] → W p l e rmX6_solves s m args below meth c H locs 0 0 Q (F0 m 30 ls [])) (K : Kx G X x) {H : Heap} {locs : List Loc} {ls : Array Slot} (h : XH E (sg st) s H locs) (hl : lv_has ls 4 [(0, .ref (E.ad 68)), (1, .int v1), (2, .int v2), (3, .int v3)]) : W p l e rmX6_solves s m args below meth c H locs 0 0 Q (F0 m 11 ls []) := by
  unfold fX6_solves_11 at hx
  refine lv_iload_n C.x C.bc dX6_solves_11 rfl (lv_at hl 3 rfl) ?_
  refine lv_bipush (v := (12 : Int32)) C.x C.bc dX6_solves_12 (by decide) ?_
  refine lv_icmp_ge (tgt := 30) C.x C.bc dX6_solves_14 (by decide) (fun c_3 => ?_) (fun c_3 => ?_)
  · have hx := ge_t hx c_3
    obtain rfl := Option.some.inj hx
    exact hE0 _ K _ _ _ h (lv_sub hl [0, 1, 2] rfl)
  · have hx := ge_f hx c_3
    refine lv_aload_n C.x C.bc dX6_solves_17 rfl (lv_at hl 0 rfl) ?_
    refine gt_X6_55_68 C hI h dX6_solves_18 ?_
    refine lv_iload_n C.x C.bc dX6_solves_21 rfl (lv_at hl 3 rfl) ?_
    refine lv_lconst (v := (0 : Int64)) C.x C.bc dX6_solves_22 (by decide) ?_
    obtain ⟨g_4, hx⟩ := gd_e hx
    obtain ⟨st_5, e_5, hx⟩ := nm_x hx
    refine y_last C h 76 12 (hI 76 (by decide)) k_76 g_4 e_5 dX6_solves_23 (fun H locs h => ?_)
    obtain ⟨v3_6, e_6, hx⟩ := nm_x hx
    refine lv_iinc (v := v3_6) (lv' := [(3, .int v3_6), (0, .ref (E.ad 68)), (1, .int v1), (2, .int v2)]) C.x C.bc dX6_solves_24 hl (k := 3) rfl (by rw [e_6]; rfl) (by decide) rfl (fun ls hl => ?_)
    refine lv_goto (tgt := 11) C.x C.bc dX6_solves_27 (by decide) ?_
    obtain rfl := Option.some.inj hx
    exact hG _ _ K _ _ _ h (lv_sub hl [1, 2, 3, 0] rfl)
set_option maxHeartbeats 1000000 in
theorem pX6_solves_11 (C : Cx E s0 b p s m args meth c cX6_solves 4 "EarthMeshModel" (some .boolean)) (hI : Sx E) (v1 : Int32) (v2 : Int32) {Q : State → Prop} {v3 : Int32} {st : St} {n : Nat} {r : St} (hx : iter (u2 fun v3 st => fX6_solves_11 v1 v2 v3 st) n (v3, st) = some r) (hE : (fun t => ∀ (H : Heap) (locs : List Loc) (ls : Array Slot), XH E (sg t) s H locs → lv_has ls 4 [(0, .ref (E.ad 68)), (1, .int v1), (2, .int v2)] → W p l e rmX6_solves s m args below meth c H locs 0 0 Q (F0 m 30 ls [])) r) {H : Heap} {locs : List Loc} {ls : Array Slot} (h : XH E (sg st) s H locs) (hl : lv_has ls 4 [(0, .ref (E.ad 68)), (1, .int v1), (2, .int v2), (3, .int v3)]) : W p l e rmX6_solves s m args below meth c H locs 0 0 Q (F0 m 11 ls []) := by
  refine iter_W (G := fun t => ∀ (H : Heap) (locs : List Loc) (ls : Array Slot), XH E (sg t.2) s H locs → lv_has ls 4 [(0, .ref (E.ad 68)), (1, .int v1), (2, .int v2), (3, .int t.1)] → W p l e rmX6_solves s m args below meth c H locs 0 0 Q (F0 m 11 ls [])) (E := fun t => ∀ (H : Heap) (locs : List Loc) (ls : Array Slot), XH E (sg t) s H locs → lv_has ls 4 [(0, .ref (E.ad 68)), (1, .int v1), (2, .int v2)] → W p l e rmX6_solves s m args below meth c H locs 0 0 Q (F0 m 30 ls [])) (fun t x hx K H locs ls h hl => ?_) n _ r hx hE H locs ls h hl
  obtain ⟨v3, st⟩ := t
  exact bX6_solves_11 C hI v1 v2 v3 st hx (fun _ _ z => z) (fun _ z => z) K h hl
def fX6_solves_85 (v3 : Int32) (st : St) : Option ((Int32 × St) ⊕ (St)) :=
  if (st.1 68 18) ≤ v3 then
    some (.inr st)
  else
    bd (fX6_clears v3 (1 : Int32) st) fun st_15 =>
    nm (v3 + (1 : Int32)) fun v3_16 =>
    some (.inl (v3_16, st_15))
set_option maxHeartbeats 1000000 in
theorem bX6_solves_85 (C : Cx E s0 b p s m args meth c cX6_solves 4 "EarthMeshModel" (some .boolean)) (hI : Sx E) (v3 : Int32) (st : St) {x : (Int32 × St) ⊕ (St)} (hx : fX6_solves_85 v3 st = some x) {Q : State → Prop} {G : Int32 × St → Prop} {X : St → Prop} (hG : ∀ (w3 : Int32) (wst : St), G (w3, wst) → ∀ (H : Heap) (locs : List Loc) (ls : Array Slot), XH E (sg wst) s H locs → lv_has ls 4 [(0, .ref (E.ad 68)), (3, .int w3)] → W p l e rmX6_solves s m args below meth c H locs 0 0 Q (F0 m 85 ls [])) (hE0 : ∀ (wst : St), X wst → ∀ (H : Heap) (locs : List Loc) (ls : Array Slot), XH E (sg wst) s H locs → lv_has ls 4 [(0, .ref (E.ad 68))] → W p l e rmX6_solves s m args below meth c H locs 0 0 Q (F0 m 105 ls [])) (K : Kx G X x) {H : Heap} {locs : List Loc} {ls : Array Slot} (h : XH E (sg st) s H locs) (hl : lv_has ls 4 [(0, .ref (E.ad 68)), (3, .int v3)]) : W p l e rmX6_solves s m args below meth c H locs 0 0 Q (F0 m 85 ls []) := by
  unfold fX6_solves_85 at hx
  refine lv_iload_n C.x C.bc dX6_solves_85 rfl (lv_at hl 1 rfl) ?_
  refine lv_aload_n C.x C.bc dX6_solves_86 rfl (lv_at hl 0 rfl) ?_
  refine gt_X6_223_68 C hI h dX6_solves_87 ?_
  refine lv_icmp_ge (tgt := 105) C.x C.bc dX6_solves_90 (by decide) (fun c_14 => ?_) (fun c_14 => ?_)
  · have hx := ge_t hx c_14
    obtain rfl := Option.some.inj hx
    exact hE0 _ K _ _ _ h (lv_sub hl [0] rfl)
  · have hx := ge_f hx c_14
    refine lv_aload_n C.x C.bc dX6_solves_93 rfl (lv_at hl 0 rfl) ?_
    refine lv_iload_n C.x C.bc dX6_solves_94 rfl (lv_at hl 1 rfl) ?_
    refine lv_iconst (v := (1 : Int32)) C.x C.bc dX6_solves_95 (by decide) ?_
    obtain ⟨st_15, hf_15, hx⟩ := bd_e hx
    refine cX6_263_X6_clears C hI h hf_15 ⟨Nat.le_of_ble_eq_true rfl, Nat.le_of_ble_eq_true rfl⟩ ⟨Nat.zero_le _, Nat.zero_le _⟩ hl.1 (Nat.le_of_ble_eq_true rfl) dX6_solves_96 (fun H locs h => ?_)
    obtain ⟨v3_16, e_16, hx⟩ := nm_x hx
    refine lv_iinc (v := v3_16) (lv' := [(3, .int v3_16), (0, .ref (E.ad 68))]) C.x C.bc dX6_solves_99 hl (k := 1) rfl (by rw [e_16]; rfl) (by decide) rfl (fun ls hl => ?_)
    refine lv_goto (tgt := 85) C.x C.bc dX6_solves_102 (by decide) ?_
    obtain rfl := Option.some.inj hx
    exact hG _ _ K _ _ _ h (lv_sub hl [1, 0] rfl)
set_option maxHeartbeats 1000000 in
theorem pX6_solves_85 (C : Cx E s0 b p s m args meth c cX6_solves 4 "EarthMeshModel" (some .boolean)) (hI : Sx E) {Q : State → Prop} {v3 : Int32} {st : St} {n : Nat} {r : St} (hx : iter (u2 fun v3 st => fX6_solves_85 v3 st) n (v3, st) = some r) (hE : (fun t => ∀ (H : Heap) (locs : List Loc) (ls : Array Slot), XH E (sg t) s H locs → lv_has ls 4 [(0, .ref (E.ad 68))] → W p l e rmX6_solves s m args below meth c H locs 0 0 Q (F0 m 105 ls [])) r) {H : Heap} {locs : List Loc} {ls : Array Slot} (h : XH E (sg st) s H locs) (hl : lv_has ls 4 [(0, .ref (E.ad 68)), (3, .int v3)]) : W p l e rmX6_solves s m args below meth c H locs 0 0 Q (F0 m 85 ls []) := by
  refine iter_W (G := fun t => ∀ (H : Heap) (locs : List Loc) (ls : Array Slot), XH E (sg t.2) s H locs → lv_has ls 4 [(0, .ref (E.ad 68)), (3, .int t.1)] → W p l e rmX6_solves s m args below meth c H locs 0 0 Q (F0 m 85 ls [])) (E := fun t => ∀ (H : Heap) (locs : List Loc) (ls : Array Slot), XH E (sg t) s H locs → lv_has ls 4 [(0, .ref (E.ad 68))] → W p l e rmX6_solves s m args below meth c H locs 0 0 Q (F0 m 105 ls [])) (fun t x hx K H locs ls h hl => ?_) n _ r hx hE H locs ls h hl
  obtain ⟨v3, st⟩ := t
  exact bX6_solves_85 C hI v3 st hx (fun _ _ z => z) (fun _ z => z) K h hl
def fX6_solves_107 (v3 : Int32) (st : St) : Option ((Int32 × St) ⊕ (St)) :=
  if (st.1 68 18) ≤ v3 then
    some (.inr st)
  else
    gd (inB v3 12) <|
    bd (fX6_cell v3 (12 : Int32) st) fun r_20 =>
    gd (inB (st.1 75 v3.toNatClampNeg) 12) <|
    nm (uL st 76 (st.1 75 v3.toNatClampNeg).toNatClampNeg r_20) fun st_22 =>
    nm (v3 + (1 : Int32)) fun v3_23 =>
    some (.inl (v3_23, st_22))
set_option maxHeartbeats 1000000 in
theorem bX6_solves_107 (C : Cx E s0 b p s m args meth c cX6_solves 4 "EarthMeshModel" (some .boolean)) (hI : Sx E) (v3 : Int32) (st : St) {x : (Int32 × St) ⊕ (St)} (hx : fX6_solves_107 v3 st = some x) {Q : State → Prop} {G : Int32 × St → Prop} {X : St → Prop} (hG : ∀ (w3 : Int32) (wst : St), G (w3, wst) → ∀ (H : Heap) (locs : List Loc) (ls : Array Slot), XH E (sg wst) s H locs → lv_has ls 4 [(0, .ref (E.ad 68)), (3, .int w3)] → W p l e rmX6_solves s m args below meth c H locs 0 0 Q (F0 m 107 ls [])) (hE0 : ∀ (wst : St), X wst → ∀ (H : Heap) (locs : List Loc) (ls : Array Slot), XH E (sg wst) s H locs → lv_has ls 4 [] → W p l e rmX6_solves s m args below meth c H locs 0 0 Q (F0 m 139 ls [])) (K : Kx G X x) {H : Heap} {locs : List Loc} {ls : Array Slot} (h : XH E (sg st) s H locs) (hl : lv_has ls 4 [(0, .ref (E.ad 68)), (3, .int v3)]) : W p l e rmX6_solves s m args below meth c H locs 0 0 Q (F0 m 107 ls []) := by
  unfold fX6_solves_107 at hx
  refine lv_iload_n C.x C.bc dX6_solves_107 rfl (lv_at hl 1 rfl) ?_
  refine lv_aload_n C.x C.bc dX6_solves_108 rfl (lv_at hl 0 rfl) ?_
  refine gt_X6_223_68 C hI h dX6_solves_109 ?_
  refine lv_icmp_ge (tgt := 139) C.x C.bc dX6_solves_112 (by decide) (fun c_18 => ?_) (fun c_18 => ?_)
  · have hx := ge_t hx c_18
    obtain rfl := Option.some.inj hx
    exact hE0 _ K _ _ _ h (lv_sub hl [] rfl)
  · have hx := ge_f hx c_18
    refine lv_aload_n C.x C.bc dX6_solves_115 rfl (lv_at hl 0 rfl) ?_
    refine gt_X6_55_68 C hI h dX6_solves_116 ?_
    refine lv_aload_n C.x C.bc dX6_solves_119 rfl (lv_at hl 0 rfl) ?_
    refine gt_X6_52_68 C hI h dX6_solves_120 ?_
    refine lv_iload_n C.x C.bc dX6_solves_123 rfl (lv_at hl 1 rfl) ?_
    obtain ⟨g_19, hx⟩ := gd_e hx
    refine x_iald C h 75 12 (hI 75 (by decide)) k_75 g_19 dX6_solves_124 ?_
    refine lv_aload_n C.x C.bc dX6_solves_125 rfl (lv_at hl 0 rfl) ?_
    refine lv_iload_n C.x C.bc dX6_solves_126 rfl (lv_at hl 1 rfl) ?_
    refine lv_bipush (v := (12 : Int32)) C.x C.bc dX6_solves_127 (by decide) ?_
    obtain ⟨r_20, hf_20, hx⟩ := bd_e hx
    refine cX6_237_X6_cell C hI h hf_20 ⟨Nat.le_of_ble_eq_true rfl, Nat.le_of_ble_eq_true rfl⟩ ⟨Nat.zero_le _, Nat.zero_le _⟩ hl.1 (Nat.le_of_ble_eq_true rfl) dX6_solves_129 (fun H locs h => ?_)
    obtain ⟨g_21, hx⟩ := gd_e hx
    obtain ⟨st_22, e_22, hx⟩ := nm_x hx
    refine y_last C h 76 12 (hI 76 (by decide)) k_76 g_21 e_22 dX6_solves_132 (fun H locs h => ?_)
    obtain ⟨v3_23, e_23, hx⟩ := nm_x hx
    refine lv_iinc (v := v3_23) (lv' := [(3, .int v3_23), (0, .ref (E.ad 68))]) C.x C.bc dX6_solves_133 hl (k := 1) rfl (by rw [e_23]; rfl) (by decide) rfl (fun ls hl => ?_)
    refine lv_goto (tgt := 107) C.x C.bc dX6_solves_136 (by decide) ?_
    obtain rfl := Option.some.inj hx
    exact hG _ _ K _ _ _ h (lv_sub hl [1, 0] rfl)
set_option maxHeartbeats 1000000 in
theorem pX6_solves_107 (C : Cx E s0 b p s m args meth c cX6_solves 4 "EarthMeshModel" (some .boolean)) (hI : Sx E) {Q : State → Prop} {v3 : Int32} {st : St} {n : Nat} {r : St} (hx : iter (u2 fun v3 st => fX6_solves_107 v3 st) n (v3, st) = some r) (hE : (fun t => ∀ (H : Heap) (locs : List Loc) (ls : Array Slot), XH E (sg t) s H locs → lv_has ls 4 [] → W p l e rmX6_solves s m args below meth c H locs 0 0 Q (F0 m 139 ls [])) r) {H : Heap} {locs : List Loc} {ls : Array Slot} (h : XH E (sg st) s H locs) (hl : lv_has ls 4 [(0, .ref (E.ad 68)), (3, .int v3)]) : W p l e rmX6_solves s m args below meth c H locs 0 0 Q (F0 m 107 ls []) := by
  refine iter_W (G := fun t => ∀ (H : Heap) (locs : List Loc) (ls : Array Slot), XH E (sg t.2) s H locs → lv_has ls 4 [(0, .ref (E.ad 68)), (3, .int t.1)] → W p l e rmX6_solves s m args below meth c H locs 0 0 Q (F0 m 107 ls [])) (E := fun t => ∀ (H : Heap) (locs : List Loc) (ls : Array Slot), XH E (sg t) s H locs → lv_has ls 4 [] → W p l e rmX6_solves s m args below meth c H locs 0 0 Q (F0 m 139 ls [])) (fun t x hx K H locs ls h hl => ?_) n _ r hx hE H locs ls h hl
  obtain ⟨v3, st⟩ := t
  exact bX6_solves_107 C hI v3 st hx (fun _ _ z => z) (fun _ z => z) K h hl
def fX6_solves_83 (st : St) : Option (Int32 × St) :=
  bd (iter (u2 fun z3 zst => fX6_solves_85 z3 zst) FU ((0 : Int32), st)) (u1 fun st_17 =>
  bd (iter (u2 fun z3 zst => fX6_solves_107 z3 zst) FU ((0 : Int32), st_17)) (u1 fun st_24 =>
  some ((1 : Int32), st_24)))
set_option maxHeartbeats 1000000 in
theorem bX6_solves_83 (C : Cx E s0 b p s m args meth c cX6_solves 4 "EarthMeshModel" (some .boolean)) (hI : Sx E) (st : St) {x : Int32 × St} (hx : fX6_solves_83 st = some x) {H : Heap} {locs : List Loc} {ls : Array Slot} (h : XH E (sg st) s H locs) (hl : lv_has ls 4 [(0, .ref (E.ad 68))]) : W p l e rmX6_solves s m args below meth c H locs 0 0 (MQ below (Qx E (some (.int x.1)) (sg x.2)) args s 0 0 (gA E.HB)) (F0 m 83 ls []) := by
  unfold fX6_solves_83 at hx
  refine lv_iconst (v := (0 : Int32)) C.x C.bc dX6_solves_83 (by decide) ?_
  refine lv_istore_n (lv' := [(3, .int (0 : Int32)), (0, .ref (E.ad 68))]) C.x C.bc dX6_solves_84 rfl hl (by decide) rfl (fun ls hl => ?_)
  obtain ⟨st_17, hi_17, hx⟩ := bd_e hx
  have hx := u1_e hx
  refine pX6_solves_85 C hI hi_17 (fun H locs ls h hl => ?_) h (lv_sub hl [1, 0] rfl)
  refine lv_iconst (v := (0 : Int32)) C.x C.bc dX6_solves_105 (by decide) ?_
  refine lv_istore_n (lv' := [(3, .int (0 : Int32)), (0, .ref (E.ad 68))]) C.x C.bc dX6_solves_106 rfl hl (by decide) rfl (fun ls hl => ?_)
  obtain ⟨st_24, hi_24, hx⟩ := bd_e hx
  have hx := u1_e hx
  refine pX6_solves_107 C hI hi_24 (fun H locs ls h hl => ?_) h (lv_sub hl [1, 0] rfl)
  refine lv_iconst (v := (1 : Int32)) C.x C.bc dX6_solves_139 (by decide) ?_
  obtain rfl := Option.some.inj hx
  exact x_zret (v := (1 : Int32)) C h rfl dX6_solves_140
def fX6_solves (v1 : Int32) (v2 : Int32) (st : St) : Option (Int32 × St) :=
  bd (fX6_joinedTo v1 st) fun r_1 =>
  nm (uI st 68 21 r_1) fun st_2 =>
  bd (iter (u2 fun z3 zst => fX6_solves_11 v1 v2 z3 zst) FU ((0 : Int32), st_2)) (u1 fun st_7 =>
  bd (fX6_leaks (st_7.1 68 21) st_7) fun r_8 =>
  if r_8 = 0 then
    some ((0 : Int32), st_7)
  else
    bd (fX6_layRows (st_7.1 68 21) (0 : Int32) st_7) fun st_10 =>
    bd (fX6_placeOf v1 st_10) fun r_11 =>
    bd (fX6_lay r_11 (12 : Int32) (1 : Int64) st_10) fun st_12 =>
    if v2 = (-1 : Int32) then
      fX6_solves_83 st_12
    else
      bd (fX6_placeOf v2 st_12) fun r_25 =>
      bd (fX6_lay r_25 (12 : Int32) (-1 : Int64) st_12) fun st_26 =>
      fX6_solves_83 st_26)
set_option maxHeartbeats 1000000 in
theorem bX6_solves (C : Cx E s0 b p s m args meth c cX6_solves 4 "EarthMeshModel" (some .boolean)) (hI : Sx E) (v1 : Int32) (v2 : Int32) (st : St) {x : Int32 × St} (hx : fX6_solves v1 v2 st = some x) {H : Heap} {locs : List Loc} {ls : Array Slot} (h : XH E (sg st) s H locs) (hl : lv_has ls 4 [(0, .ref (E.ad 68)), (1, .int v1), (2, .int v2)]) : W p l e rmX6_solves s m args below meth c H locs 0 0 (MQ below (Qx E (some (.int x.1)) (sg x.2)) args s 0 0 (gA E.HB)) (F0 m 0 ls []) := by
  unfold fX6_solves at hx
  refine lv_aload_n C.x C.bc dX6_solves_0 rfl (lv_at hl 0 rfl) ?_
  refine lv_aload_n C.x C.bc dX6_solves_1 rfl (lv_at hl 0 rfl) ?_
  refine lv_iload_n C.x C.bc dX6_solves_2 rfl (lv_at hl 1 rfl) ?_
  obtain ⟨r_1, hf_1, hx⟩ := bd_e hx
  refine cX6_245_X6_joinedTo C hI h hf_1 ⟨Nat.le_of_ble_eq_true rfl, Nat.le_of_ble_eq_true rfl⟩ ⟨Nat.zero_le _, Nat.zero_le _⟩ hl.1 (Nat.le_of_ble_eq_true rfl) dX6_solves_3 (fun H locs h => ?_)
  obtain ⟨st_2, e_2, hx⟩ := nm_x hx
  refine pt_X6_248_68 C hI h e_2 dX6_solves_6 (fun H locs h => ?_)
  refine lv_iconst (v := (0 : Int32)) C.x C.bc dX6_solves_9 (by decide) ?_
  refine lv_istore_n (lv' := [(3, .int (0 : Int32)), (0, .ref (E.ad 68)), (1, .int v1), (2, .int v2)]) C.x C.bc dX6_solves_10 rfl hl (by decide) rfl (fun ls hl => ?_)
  obtain ⟨st_7, hi_7, hx⟩ := bd_e hx
  have hx := u1_e hx
  refine pX6_solves_11 C hI v1 v2 hi_7 (fun H locs ls h hl => ?_) h (lv_sub hl [1, 2, 3, 0] rfl)
  refine lv_aload_n C.x C.bc dX6_solves_30 rfl (lv_at hl 0 rfl) ?_
  refine lv_aload_n C.x C.bc dX6_solves_31 rfl (lv_at hl 0 rfl) ?_
  refine gt_X6_248_68 C hI h dX6_solves_32 ?_
  obtain ⟨r_8, hf_8, hx⟩ := bd_e hx
  refine cX6_251_X6_leaks C hI h hf_8 ⟨Nat.le_of_ble_eq_true rfl, Nat.le_of_ble_eq_true rfl⟩ ⟨Nat.zero_le _, Nat.zero_le _⟩ hl.1 (Nat.le_of_ble_eq_true rfl) dX6_solves_35 (fun H locs h => ?_)
  refine lv_if_ne (tgt := 43) C.x C.bc dX6_solves_38 (by decide) (fun c_9 => ?_) (fun c_9 => ?_)
  · have hx := ge_f hx c_9
    refine lv_aload_n C.x C.bc dX6_solves_43 rfl (lv_at hl 0 rfl) ?_
    refine lv_aload_n C.x C.bc dX6_solves_44 rfl (lv_at hl 0 rfl) ?_
    refine gt_X6_248_68 C hI h dX6_solves_45 ?_
    refine lv_iconst (v := (0 : Int32)) C.x C.bc dX6_solves_48 (by decide) ?_
    obtain ⟨st_10, hf_10, hx⟩ := bd_e hx
    refine cX6_254_X6_layRows C hI h hf_10 ⟨Nat.le_of_ble_eq_true rfl, Nat.le_of_ble_eq_true rfl⟩ ⟨Nat.zero_le _, Nat.zero_le _⟩ hl.1 (Nat.le_of_ble_eq_true rfl) dX6_solves_49 (fun H locs h => ?_)
    refine lv_aload_n C.x C.bc dX6_solves_52 rfl (lv_at hl 0 rfl) ?_
    refine lv_aload_n C.x C.bc dX6_solves_53 rfl (lv_at hl 0 rfl) ?_
    refine lv_iload_n C.x C.bc dX6_solves_54 rfl (lv_at hl 1 rfl) ?_
    obtain ⟨r_11, hf_11, hx⟩ := bd_e hx
    refine cX6_258_X6_placeOf C hI h hf_11 ⟨Nat.le_of_ble_eq_true rfl, Nat.le_of_ble_eq_true rfl⟩ ⟨Nat.zero_le _, Nat.zero_le _⟩ hl.1 (Nat.le_of_ble_eq_true rfl) dX6_solves_55 (fun H locs h => ?_)
    refine lv_bipush (v := (12 : Int32)) C.x C.bc dX6_solves_58 (by decide) ?_
    refine lv_lconst (v := (1 : Int64)) C.x C.bc dX6_solves_60 (by decide) ?_
    obtain ⟨st_12, hf_12, hx⟩ := bd_e hx
    refine cX6_229_X6_lay C hI h hf_12 ⟨Nat.le_of_ble_eq_true rfl, Nat.le_of_ble_eq_true rfl⟩ ⟨Nat.zero_le _, Nat.zero_le _⟩ hl.1 (Nat.le_of_ble_eq_true rfl) dX6_solves_61 (fun H locs h => ?_)
    refine lv_iload_n C.x C.bc dX6_solves_64 rfl (lv_at hl 2 rfl) ?_
    refine lv_iconst (v := (-1 : Int32)) C.x C.bc dX6_solves_65 (by decide) ?_
    refine lv_icmp_eq (tgt := 83) C.x C.bc dX6_solves_66 (by decide) (fun c_13 => ?_) (fun c_13 => ?_)
    · have hx := ge_t hx c_13
      exact bX6_solves_83 C hI st_12 hx h (lv_sub hl [0] rfl)
    · have hx := ge_f hx c_13
      refine lv_aload_n C.x C.bc dX6_solves_69 rfl (lv_at hl 0 rfl) ?_
      refine lv_aload_n C.x C.bc dX6_solves_70 rfl (lv_at hl 0 rfl) ?_
      refine lv_iload_n C.x C.bc dX6_solves_71 rfl (lv_at hl 2 rfl) ?_
      obtain ⟨r_25, hf_25, hx⟩ := bd_e hx
      refine cX6_258_X6_placeOf C hI h hf_25 ⟨Nat.le_of_ble_eq_true rfl, Nat.le_of_ble_eq_true rfl⟩ ⟨Nat.zero_le _, Nat.zero_le _⟩ hl.1 (Nat.le_of_ble_eq_true rfl) dX6_solves_72 (fun H locs h => ?_)
      refine lv_bipush (v := (12 : Int32)) C.x C.bc dX6_solves_75 (by decide) ?_
      refine lv_ldc2 (v := (-1 : Int64)) C.x C.bc C.ow (C.ts _ q1864) dX6_solves_77 ?_
      obtain ⟨st_26, hf_26, hx⟩ := bd_e hx
      refine cX6_229_X6_lay C hI h hf_26 ⟨Nat.le_of_ble_eq_true rfl, Nat.le_of_ble_eq_true rfl⟩ ⟨Nat.zero_le _, Nat.zero_le _⟩ hl.1 (Nat.le_of_ble_eq_true rfl) dX6_solves_80 (fun H locs h => ?_)
      exact bX6_solves_83 C hI st_26 hx h (lv_sub hl [0] rfl)
  · have hx := ge_t hx c_9
    refine lv_iconst (v := (0 : Int32)) C.x C.bc dX6_solves_41 (by decide) ?_
    obtain rfl := Option.some.inj hx
    exact x_zret (v := (0 : Int32)) C h rfl dX6_solves_42
theorem mX6_solves (hG : G0 E s0 b) (hI : Sx E) {v1 : Int32} {v2 : Int32} {x : Int32 × St} (hx : fX6_solves v1 v2 st = some x) : Mt l E s0 yX6_solves cX6_solves 4 (some .boolean) rmX6_solves [.ref (E.ad 68), .int v1, .int v2] (sg st) (some (.int x.1)) E (sg x.2) :=
  Mt.of hG (by decide) (Nat.le_of_ble_eq_true rfl) (fun p e s m below meth c ls C h hl => bX6_solves C hI v1 v2 st hx h hl)
theorem cX6_267_X6_solves {a0 : Int32} {a1 : Int32} {r : Int32} {st' : St} (C : Cx E s0 b p s m args meth c cc nL "EarthMeshModel" rt) (hI : Sx E) (h : XH E (sg st) s H locs) (hf : fX6_solves a0 a1 st = some (r, st')) (hR : rmX6_solves.frames + 1 ≤ R.frames ∧ 16 + (4 + 11) + rmX6_solves.locals ≤ R.locals) (h0 : cells ≤ R.cells ∧ slots ≤ R.slots) (hsz : ls.size = nL) (hcat : (rest.map fun v => v.category).sum ≤ 16) (hdg : decode cc pc = .ok (.invokevirtual 267, 3)) (kk : ∀ (H : Heap) (locs : List Loc), XH E (sg st') s H locs → W p l e R s m args below meth c H locs cells slots Q (F0 m (pc + 3) ls (.int r :: rest))) : W p l e R s m args below meth c H locs cells slots Q (F0 m pc ls (.int a1 :: .int a0 :: .ref (E.ad 68) :: rest)) :=
  x_callV (n := 2) (As := [.int a0, .int a1]) C h 68 5 (hI 68 (by decide)) k_68 rfl (mX6_solves C.g hI hf) (lw_V q1839 q1841 qs89 q136 q1842) ⟨rfl, by decide +kernel, by decide +kernel, by decide +kernel⟩ hR ⟨rfl, rfl⟩ h0 rfl hsz rfl hcat hdg kk
abbrev rmX6_solvesNow : Room := { frames := 5, cells := 0, slots := 0, locals := 176 }
def fX6_solvesNow (st : St) : Option (Int32 × St) :=
  gd (inB (2 : Int32) 46) <|
  bd (fX6_solves (st.1 70 (2 : Int32).toNatClampNeg) (-1 : Int32) st) <| u2 fun r_2 st_2 =>
  gd (vp_nar .boolean r_2 = r_2) <|
  some (r_2, st_2)
set_option maxHeartbeats 1000000 in
theorem bX6_solvesNow (C : Cx E s0 b p s m args meth c cX6_solvesNow 1 "EarthMeshModel" (some .boolean)) (hI : Sx E) (st : St) {x : Int32 × St} (hx : fX6_solvesNow st = some x) {H : Heap} {locs : List Loc} {ls : Array Slot} (h : XH E (sg st) s H locs) (hl : lv_has ls 1 [(0, .ref (E.ad 68))]) : W p l e rmX6_solvesNow s m args below meth c H locs 0 0 (MQ below (Qx E (some (.int x.1)) (sg x.2)) args s 0 0 (gA E.HB)) (F0 m 0 ls []) := by
  unfold fX6_solvesNow at hx
  refine lv_aload_n C.x C.bc dX6_solvesNow_0 rfl (lv_at hl 0 rfl) ?_
  refine lv_aload_n C.x C.bc dX6_solvesNow_1 rfl (lv_at hl 0 rfl) ?_
  refine gt_X6_31_68 C hI h dX6_solvesNow_2 ?_
  refine lv_iconst (v := (2 : Int32)) C.x C.bc dX6_solvesNow_5 (by decide) ?_
  obtain ⟨g_1, hx⟩ := gd_e hx
  refine x_iald C h 70 46 (hI 70 (by decide)) k_70 g_1 dX6_solvesNow_6 ?_
  refine lv_iconst (v := (-1 : Int32)) C.x C.bc dX6_solvesNow_7 (by decide) ?_
  obtain ⟨⟨r_2, st_2⟩, hf_2, hx⟩ := bd_e hx
  have hx := u2_e hx
  refine cX6_267_X6_solves C hI h hf_2 ⟨Nat.le_of_ble_eq_true rfl, Nat.le_of_ble_eq_true rfl⟩ ⟨Nat.zero_le _, Nat.zero_le _⟩ hl.1 (Nat.le_of_ble_eq_true rfl) dX6_solvesNow_8 (fun H locs h => ?_)
  obtain ⟨g_3, hx⟩ := gd_e hx
  obtain rfl := Option.some.inj hx
  exact x_zret (v := r_2) C h (nar_z g_3) dX6_solvesNow_11
theorem mX6_solvesNow (hG : G0 E s0 b) (hI : Sx E)  {x : Int32 × St} (hx : fX6_solvesNow st = some x) : Mt l E s0 yX6_solvesNow cX6_solvesNow 1 (some .boolean) rmX6_solvesNow [.ref (E.ad 68)] (sg st) (some (.int x.1)) E (sg x.2) :=
  Mt.of hG (by decide) (Nat.le_of_ble_eq_true rfl) (fun p e s m below meth c ls C h hl => bX6_solvesNow C hI st hx h hl)
theorem cX6_274_X6_solvesNow  {r : Int32} {st' : St} (C : Cx E s0 b p s m args meth c cc nL "EarthMeshModel" rt) (hI : Sx E) (h : XH E (sg st) s H locs) (hf : fX6_solvesNow st = some (r, st')) (hR : rmX6_solvesNow.frames + 1 ≤ R.frames ∧ 16 + (1 + 11) + rmX6_solvesNow.locals ≤ R.locals) (h0 : cells ≤ R.cells ∧ slots ≤ R.slots) (hsz : ls.size = nL) (hcat : (rest.map fun v => v.category).sum ≤ 16) (hdg : decode cc pc = .ok (.invokevirtual 274, 3)) (kk : ∀ (H : Heap) (locs : List Loc), XH E (sg st') s H locs → W p l e R s m args below meth c H locs cells slots Q (F0 m (pc + 3) ls (.int r :: rest))) : W p l e R s m args below meth c H locs cells slots Q (F0 m pc ls (.ref (E.ad 68) :: rest)) :=
  x_callV (n := 0) (As := []) C h 68 5 (hI 68 (by decide)) k_68 rfl (mX6_solvesNow C.g hI hf) (lw_V q1835 q1837 qs88 q136 q1838) ⟨rfl, by decide +kernel, by decide +kernel, by decide +kernel⟩ hR ⟨rfl, rfl⟩ h0 rfl hsz rfl hcat hdg kk
abbrev rmX6_common : Room := { frames := 0, cells := 0, slots := 0, locals := 0 }
def fX6_common_17 (v4 : Int64) (v6 : Int64) : Option ((Int64 × Int64) ⊕ (Int64)) :=
  if v6 = (0 : Int64) then
    some (.inr v4)
  else
    gd (¬ v6 = 0) <|
    nm (jreml v4 v6) fun v8_4 =>
    some (.inl (v6, v8_4))
set_option maxHeartbeats 1000000 in
theorem bX6_common_17 (C : Cx E s0 b p s m args meth c cX6_common 10 "EarthMeshModel" (some .long)) (hI : Sx E) (v4 : Int64) (v6 : Int64) {x : (Int64 × Int64) ⊕ (Int64)} (hx : fX6_common_17 v4 v6 = some x) {Q : State → Prop} {G : Int64 × Int64 → Prop} {X : Int64 → Prop} (hG : ∀ (w4 : Int64) (w6 : Int64), G (w4, w6) → ∀ (H : Heap) (locs : List Loc) (ls : Array Slot), XH E g s H locs → lv_has ls 10 [(4, .long w4), (6, .long w6)] → W p l e rmX6_common s m args below meth c H locs 0 0 Q (F0 m 17 ls [])) (hE0 : ∀ (w4 : Int64), X w4 → ∀ (H : Heap) (locs : List Loc) (ls : Array Slot), XH E g s H locs → lv_has ls 10 [(4, .long w4)] → W p l e rmX6_common s m args below meth c H locs 0 0 Q (F0 m 42 ls [])) (K : Kx G X x) {H : Heap} {locs : List Loc} {ls : Array Slot} (h : XH E g s H locs) (hl : lv_has ls 10 [(4, .long v4), (6, .long v6)]) : W p l e rmX6_common s m args below meth c H locs 0 0 Q (F0 m 17 ls []) := by
  unfold fX6_common_17 at hx
  refine lv_lload C.x C.bc dX6_common_17 (lv_at hl 1 rfl) ?_
  refine lv_lconst (v := (0 : Int64)) C.x C.bc dX6_common_19 (by decide) ?_
  refine W.lcmp C.x C.bc dX6_common_20 ?_
  refine lv_if_eq (tgt := 42) C.x C.bc dX6_common_21 (by decide) (fun c_2 => ?_) (fun c_2 => ?_)
  · have c_2 := (lc_eq _ _).mp c_2
    have hx := ge_t hx c_2
    obtain rfl := Option.some.inj hx
    exact hE0 _ K _ _ _ h (lv_sub hl [0] rfl)
  · have c_2 := (not_congr (lc_eq _ _)).mp c_2
    have hx := ge_f hx c_2
    refine lv_lload C.x C.bc dX6_common_24 (lv_at hl 0 rfl) ?_
    refine lv_lload C.x C.bc dX6_common_26 (lv_at hl 1 rfl) ?_
    obtain ⟨g_3, hx⟩ := gd_e hx
    refine y_lrem C.x C.bc dX6_common_28 g_3 ?_
    obtain ⟨v8_4, e_4, hx⟩ := nm_x hx
    refine x_tl e_4 ?_
    refine lv_lstore (lv' := [(8, .long v8_4), (4, .long v4), (6, .long v6)]) C.x C.bc dX6_common_29 hl (by decide) rfl (fun ls hl => ?_)
    refine lv_lload C.x C.bc dX6_common_31 (lv_at hl 2 rfl) ?_
    refine lv_lstore (lv' := [(4, .long v6), (8, .long v8_4), (6, .long v6)]) C.x C.bc dX6_common_33 hl (by decide) rfl (fun ls hl => ?_)
    refine lv_lload C.x C.bc dX6_common_35 (lv_at hl 1 rfl) ?_
    refine lv_lstore (lv' := [(6, .long v8_4), (4, .long v6), (8, .long v8_4)]) C.x C.bc dX6_common_37 hl (by decide) rfl (fun ls hl => ?_)
    refine lv_goto (tgt := 17) C.x C.bc dX6_common_39 (by decide) ?_
    obtain rfl := Option.some.inj hx
    exact hG _ _ K _ _ _ h (lv_sub hl [1, 0] rfl)
set_option maxHeartbeats 1000000 in
theorem pX6_common_17 (C : Cx E s0 b p s m args meth c cX6_common 10 "EarthMeshModel" (some .long)) (hI : Sx E) {Q : State → Prop} {v4 : Int64} {v6 : Int64} {n : Nat} {r : Int64} (hx : iter (u2 fun v4 v6 => fX6_common_17 v4 v6) n (v4, v6) = some r) (hE : (fun t => ∀ (H : Heap) (locs : List Loc) (ls : Array Slot), XH E g s H locs → lv_has ls 10 [(4, .long t)] → W p l e rmX6_common s m args below meth c H locs 0 0 Q (F0 m 42 ls [])) r) {H : Heap} {locs : List Loc} {ls : Array Slot} (h : XH E g s H locs) (hl : lv_has ls 10 [(4, .long v4), (6, .long v6)]) : W p l e rmX6_common s m args below meth c H locs 0 0 Q (F0 m 17 ls []) := by
  refine iter_W (G := fun t => ∀ (H : Heap) (locs : List Loc) (ls : Array Slot), XH E g s H locs → lv_has ls 10 [(4, .long t.1), (6, .long t.2)] → W p l e rmX6_common s m args below meth c H locs 0 0 Q (F0 m 17 ls [])) (E := fun t => ∀ (H : Heap) (locs : List Loc) (ls : Array Slot), XH E g s H locs → lv_has ls 10 [(4, .long t)] → W p l e rmX6_common s m args below meth c H locs 0 0 Q (F0 m 42 ls [])) (fun t x hx K H locs ls h hl => ?_) n _ r hx hE H locs ls h hl
  obtain ⟨v4, v6⟩ := t
  exact bX6_common_17 C hI v4 v6 hx (fun _ _ z => z) (fun _ z => z) K h hl
def fX6_common_12 (v2 : Int64) (k0 : Int64) : Option (Int64) :=
  bd (iter (u2 fun z4 z6 => fX6_common_17 z4 z6) FU (k0, v2)) (u1 fun v4_5 =>
  some v4_5)
set_option maxHeartbeats 1000000 in
theorem bX6_common_12 (C : Cx E s0 b p s m args meth c cX6_common 10 "EarthMeshModel" (some .long)) (hI : Sx E) (v2 : Int64) (k0 : Int64) {x : Int64} (hx : fX6_common_12 v2 k0 = some x) {H : Heap} {locs : List Loc} {ls : Array Slot} (h : XH E g s H locs) (hl : lv_has ls 10 [(2, .long v2)]) : W p l e rmX6_common s m args below meth c H locs 0 0 (MQ below (Qx E (some (.long x)) g) args s 0 0 (gA E.HB)) (F0 m 12 ls [.long k0]) := by
  unfold fX6_common_12 at hx
  refine lv_lstore (lv' := [(4, .long k0), (2, .long v2)]) C.x C.bc dX6_common_12 hl (by decide) rfl (fun ls hl => ?_)
  refine lv_lload_n C.x C.bc dX6_common_14 rfl (lv_at hl 1 rfl) ?_
  refine lv_lstore (lv' := [(6, .long v2), (4, .long k0), (2, .long v2)]) C.x C.bc dX6_common_15 hl (by decide) rfl (fun ls hl => ?_)
  obtain ⟨v4_5, hi_5, hx⟩ := bd_e hx
  have hx := u1_e hx
  refine pX6_common_17 C hI hi_5 (fun H locs ls h hl => ?_) h (lv_sub hl [1, 0] rfl)
  refine lv_lload C.x C.bc dX6_common_42 (lv_at hl 0 rfl) ?_
  obtain rfl := Option.some.inj hx
  exact x_lret C h dX6_common_44
def fX6_common (v0 : Int64) (v2 : Int64) : Option (Int64) :=
  if v0 < (0 : Int64) then
    fX6_common_12 v2 (-v0)
  else
    fX6_common_12 v2 v0
set_option maxHeartbeats 1000000 in
theorem bX6_common (C : Cx E s0 b p s m args meth c cX6_common 10 "EarthMeshModel" (some .long)) (hI : Sx E) (v0 : Int64) (v2 : Int64) {x : Int64} (hx : fX6_common v0 v2 = some x) {H : Heap} {locs : List Loc} {ls : Array Slot} (h : XH E g s H locs) (hl : lv_has ls 10 [(0, .long v0), (2, .long v2)]) : W p l e rmX6_common s m args below meth c H locs 0 0 (MQ below (Qx E (some (.long x)) g) args s 0 0 (gA E.HB)) (F0 m 0 ls []) := by
  unfold fX6_common at hx
  refine lv_lload_n C.x C.bc dX6_common_0 rfl (lv_at hl 0 rfl) ?_
  refine lv_lconst (v := (0 : Int64)) C.x C.bc dX6_common_1 (by decide) ?_
  refine W.lcmp C.x C.bc dX6_common_2 ?_
  refine lv_if_ge (tgt := 11) C.x C.bc dX6_common_3 (by decide) (fun c_1 => ?_) (fun c_1 => ?_)
  · have c_1 := (lc_ge _ _).mp c_1
    have hx := ge_f hx c_1
    refine lv_lload_n C.x C.bc dX6_common_11 rfl (lv_at hl 0 rfl) ?_
    exact bX6_common_12 C hI v2 v0 hx h (lv_sub hl [1] rfl)
  · have c_1 := Classical.not_not.mp ((not_congr (lc_ge _ _)).mp c_1)
    have hx := ge_t hx c_1
    refine lv_lload_n C.x C.bc dX6_common_6 rfl (lv_at hl 0 rfl) ?_
    refine lv_lneg C.x C.bc dX6_common_7 ?_
    refine lv_goto (tgt := 12) C.x C.bc dX6_common_8 (by decide) ?_
    exact bX6_common_12 C hI v2 (-v0) hx h (lv_sub hl [1] rfl)
theorem mX6_common (hG : G0 E s0 b) (hI : Sx E) {v0 : Int64} {v2 : Int64} {x : Int64} (hx : fX6_common v0 v2 = some x) : Mt l E s0 yX6_common cX6_common 10 (some .long) rmX6_common [.long v0, .long v2] g (some (.long x)) E g :=
  Mt.of hG (by decide) (Nat.le_of_ble_eq_true rfl) (fun p e s m below meth c ls C h hl => bX6_common C hI v0 v2 hx h hl)
theorem cX6_271_X6_common {a0 : Int64} {a1 : Int64} {r : Int64} (C : Cx E s0 b p s m args meth c cc nL "EarthMeshModel" rt) (hI : Sx E) (h : XH E g s H locs) (hf : fX6_common a0 a1 = some r) (hR : rmX6_common.frames + 1 ≤ R.frames ∧ 16 + (10 + 11) + rmX6_common.locals ≤ R.locals) (h0 : cells ≤ R.cells ∧ slots ≤ R.slots) (hsz : ls.size = nL) (hcat : (rest.map fun v => v.category).sum ≤ 16) (hdg : decode cc pc = .ok (.invokestatic 271, 3)) (kk : ∀ (H : Heap) (locs : List Loc), XH E g s H locs → W p l e R s m args below meth c H locs cells slots Q (F0 m (pc + 3) ls (.long r :: rest))) : W p l e R s m args below meth c H locs cells slots Q (F0 m pc ls (.long a1 :: .long a0 :: rest)) :=
  x_callS (n := 2) (As := [.long a0, .long a1]) C h (mX6_common C.g hI hf) (lw_S q1984 q1985 q136 q1986) ⟨by decide +kernel, by decide +kernel, by decide +kernel⟩ hR ⟨rfl, rfl⟩ h0 rfl hsz rfl hcat hdg kk
abbrev rmX6_side : Room := { frames := 1, cells := 0, slots := 0, locals := 37 }
def fX6_side (v0 : Int64) (v2 : Int64) (v4 : Int32) : Option (Int64) :=
  bd (fX6_common v0 v2) fun r_1 =>
  if v4 = 0 then
    gd (¬ r_1 = 0) <|
    some (v0 / r_1)
  else
    gd (¬ r_1 = 0) <|
    some (v2 / r_1)
set_option maxHeartbeats 1000000 in
theorem bX6_side (C : Cx E s0 b p s m args meth c cX6_side 7 "EarthMeshModel" (some .long)) (hI : Sx E) (v0 : Int64) (v2 : Int64) (v4 : Int32) {x : Int64} (hx : fX6_side v0 v2 v4 = some x) {H : Heap} {locs : List Loc} {ls : Array Slot} (h : XH E g s H locs) (hl : lv_has ls 7 [(0, .long v0), (2, .long v2), (4, .int v4)]) : W p l e rmX6_side s m args below meth c H locs 0 0 (MQ below (Qx E (some (.long x)) g) args s 0 0 (gA E.HB)) (F0 m 0 ls []) := by
  unfold fX6_side at hx
  refine lv_lload_n C.x C.bc dX6_side_0 rfl (lv_at hl 0 rfl) ?_
  refine lv_lload_n C.x C.bc dX6_side_1 rfl (lv_at hl 1 rfl) ?_
  obtain ⟨r_1, hf_1, hx⟩ := bd_e hx
  refine cX6_271_X6_common C hI h hf_1 ⟨Nat.le_of_ble_eq_true rfl, Nat.le_of_ble_eq_true rfl⟩ ⟨Nat.zero_le _, Nat.zero_le _⟩ hl.1 (Nat.le_of_ble_eq_true rfl) dX6_side_2 (fun H locs h => ?_)
  refine lv_lstore (lv' := [(5, .long r_1), (0, .long v0), (2, .long v2), (4, .int v4)]) C.x C.bc dX6_side_5 hl (by decide) rfl (fun ls hl => ?_)
  refine lv_iload C.x C.bc dX6_side_7 (lv_at hl 3 rfl) ?_
  refine lv_if_eq (tgt := 19) C.x C.bc dX6_side_9 (by decide) (fun c_2 => ?_) (fun c_2 => ?_)
  · have hx := ge_t hx c_2
    refine lv_lload_n C.x C.bc dX6_side_19 rfl (lv_at hl 1 rfl) ?_
    refine lv_lload C.x C.bc dX6_side_20 (lv_at hl 0 rfl) ?_
    obtain ⟨g_3, hx⟩ := gd_e hx
    refine lv_ldiv C.x C.bc dX6_side_22 g_3 ?_
    obtain rfl := Option.some.inj hx
    exact x_lret C h dX6_side_23
  · have hx := ge_f hx c_2
    refine lv_lload_n C.x C.bc dX6_side_12 rfl (lv_at hl 2 rfl) ?_
    refine lv_lload C.x C.bc dX6_side_13 (lv_at hl 0 rfl) ?_
    obtain ⟨g_4, hx⟩ := gd_e hx
    refine lv_ldiv C.x C.bc dX6_side_15 g_4 ?_
    refine lv_goto (tgt := 23) C.x C.bc dX6_side_16 (by decide) ?_
    obtain rfl := Option.some.inj hx
    exact x_lret C h dX6_side_23
theorem mX6_side (hG : G0 E s0 b) (hI : Sx E) {v0 : Int64} {v2 : Int64} {v4 : Int32} {x : Int64} (hx : fX6_side v0 v2 v4 = some x) : Mt l E s0 yX6_side cX6_side 7 (some .long) rmX6_side [.long v0, .long v2, .int v4] g (some (.long x)) E g :=
  Mt.of hG (by decide) (Nat.le_of_ble_eq_true rfl) (fun p e s m below meth c ls C h hl => bX6_side C hI v0 v2 v4 hx h hl)
theorem cX6_307_X6_side {a0 : Int64} {a1 : Int64} {a2 : Int32} {r : Int64} (C : Cx E s0 b p s m args meth c cc nL "EarthMeshModel" rt) (hI : Sx E) (h : XH E g s H locs) (hf : fX6_side a0 a1 a2 = some r) (hR : rmX6_side.frames + 1 ≤ R.frames ∧ 16 + (7 + 11) + rmX6_side.locals ≤ R.locals) (h0 : cells ≤ R.cells ∧ slots ≤ R.slots) (hsz : ls.size = nL) (hcat : (rest.map fun v => v.category).sum ≤ 16) (hdg : decode cc pc = .ok (.invokestatic 307, 3)) (kk : ∀ (H : Heap) (locs : List Loc), XH E g s H locs → W p l e R s m args below meth c H locs cells slots Q (F0 m (pc + 3) ls (.long r :: rest))) : W p l e R s m args below meth c H locs cells slots Q (F0 m pc ls (.int a2 :: .long a1 :: .long a0 :: rest)) :=
  x_callS (n := 3) (As := [.long a0, .long a1, .int a2]) C h (mX6_side C.g hI hf) (lw_S q1981 q1982 q136 q1983) ⟨by decide +kernel, by decide +kernel, by decide +kernel⟩ hR ⟨rfl, rfl⟩ h0 rfl hsz rfl hcat hdg kk
abbrev rmX6_compare : Room := { frames := 0, cells := 0, slots := 0, locals := 0 }
def fX6_compare_17 (v8 : Int64) (v10 : Int64) (v12 : Int64) (v14 : Int64) (v16 : Int32) : Option ((Int64 × Int64 × Int64 × Int64 × Int32) ⊕ ((Int32 × Int64 × Int64) ⊕ (Int64 × Int64 × Int32))) :=
  gd (¬ v10 = 0) <|
  nm (v8 / v10) fun v17_2 =>
  gd (¬ v14 = 0) <|
  nm (v12 / v14) fun v19_4 =>
  if v17_2 = v19_4 then
    nm (v8 - (v17_2 * v10)) fun v8_6 =>
    nm (v12 - (v19_4 * v14)) fun v12_7 =>
    if v8_6 = (0 : Int64) then
      some (.inr (.inr (v8_6, v12_7, v16)))
    else
      if v12_7 = (0 : Int64) then
        some (.inr (.inr (v8_6, v12_7, v16)))
      else
        nm (-v16) fun v16_10 =>
        some (.inl (v10, v8_6, v14, v12_7, v16_10))
  else
    some (.inr (.inl (v16, v17_2, v19_4)))
set_option maxHeartbeats 1000000 in
theorem bX6_compare_17 (C : Cx E s0 b p s m args meth c cX6_compare 23 "EarthMeshModel" (some .int)) (hI : Sx E) (v8 : Int64) (v10 : Int64) (v12 : Int64) (v14 : Int64) (v16 : Int32) {x : (Int64 × Int64 × Int64 × Int64 × Int32) ⊕ ((Int32 × Int64 × Int64) ⊕ (Int64 × Int64 × Int32))} (hx : fX6_compare_17 v8 v10 v12 v14 v16 = some x) {Q : State → Prop} {G : Int64 × Int64 × Int64 × Int64 × Int32 → Prop} {X : (Int32 × Int64 × Int64) ⊕ (Int64 × Int64 × Int32) → Prop} (hG : ∀ (w8 : Int64) (w10 : Int64) (w12 : Int64) (w14 : Int64) (w16 : Int32), G (w8, w10, w12, w14, w16) → ∀ (H : Heap) (locs : List Loc) (ls : Array Slot), XH E g s H locs → lv_has ls 23 [(8, .long w8), (10, .long w10), (12, .long w12), (14, .long w14), (16, .int w16)] → W p l e rmX6_compare s m args below meth c H locs 0 0 Q (F0 m 17 ls [])) (hE0 : ∀ (w16 : Int32) (w17 : Int64) (w19 : Int64), X (.inl (w16, w17, w19)) → ∀ (H : Heap) (locs : List Loc) (ls : Array Slot), XH E g s H locs → lv_has ls 23 [(16, .int w16), (17, .long w17), (19, .long w19)] → W p l e rmX6_compare s m args below meth c H locs 0 0 Q (F0 m 39 ls [])) (hE1 : ∀ (w8 : Int64) (w12 : Int64) (w16 : Int32), X (.inr (w8, w12, w16)) → ∀ (H : Heap) (locs : List Loc) (ls : Array Slot), XH E g s H locs → lv_has ls 23 [(8, .long w8), (12, .long w12), (16, .int w16)] → W p l e rmX6_compare s m args below meth c H locs 0 0 Q (F0 m 90 ls [])) (K : Kx G X x) {H : Heap} {locs : List Loc} {ls : Array Slot} (h : XH E g s H locs) (hl : lv_has ls 23 [(8, .long v8), (10, .long v10), (12, .long v12), (14, .long v14), (16, .int v16)]) : W p l e rmX6_compare s m args below meth c H locs 0 0 Q (F0 m 17 ls []) := by
  unfold fX6_compare_17 at hx
  refine lv_lload C.x C.bc dX6_compare_17 (lv_at hl 0 rfl) ?_
  refine lv_lload C.x C.bc dX6_compare_19 (lv_at hl 1 rfl) ?_
  obtain ⟨g_1, hx⟩ := gd_e hx
  refine lv_ldiv C.x C.bc dX6_compare_21 g_1 ?_
  obtain ⟨v17_2, e_2, hx⟩ := nm_x hx
  refine x_tl e_2 ?_
  refine lv_lstore (lv' := [(17, .long v17_2), (8, .long v8), (10, .long v10), (12, .long v12), (14, .long v14), (16, .int v16)]) C.x C.bc dX6_compare_22 hl (by decide) rfl (fun ls hl => ?_)
  refine lv_lload C.x C.bc dX6_compare_24 (lv_at hl 3 rfl) ?_
  refine lv_lload C.x C.bc dX6_compare_26 (lv_at hl 4 rfl) ?_
  obtain ⟨g_3, hx⟩ := gd_e hx
  refine lv_ldiv C.x C.bc dX6_compare_28 g_3 ?_
  obtain ⟨v19_4, e_4, hx⟩ := nm_x hx
  refine x_tl e_4 ?_
  refine lv_lstore (lv' := [(19, .long v19_4), (17, .long v17_2), (8, .long v8), (10, .long v10), (12, .long v12), (14, .long v14), (16, .int v16)]) C.x C.bc dX6_compare_29 hl (by decide) rfl (fun ls hl => ?_)
  refine lv_lload C.x C.bc dX6_compare_31 (lv_at hl 1 rfl) ?_
  refine lv_lload C.x C.bc dX6_compare_33 (lv_at hl 0 rfl) ?_
  refine W.lcmp C.x C.bc dX6_compare_35 ?_
  refine lv_if_eq (tgt := 56) C.x C.bc dX6_compare_36 (by decide) (fun c_5 => ?_) (fun c_5 => ?_)
  · have c_5 := (lc_eq _ _).mp c_5
    have hx := ge_t hx c_5
    refine lv_lload C.x C.bc dX6_compare_56 (lv_at hl 2 rfl) ?_
    refine lv_lload C.x C.bc dX6_compare_58 (lv_at hl 1 rfl) ?_
    refine lv_lload C.x C.bc dX6_compare_60 (lv_at hl 3 rfl) ?_
    refine lv_lmul C.x C.bc dX6_compare_62 ?_
    refine lv_lsub C.x C.bc dX6_compare_63 ?_
    obtain ⟨v8_6, e_6, hx⟩ := nm_x hx
    refine x_tl e_6 ?_
    refine lv_lstore (lv' := [(8, .long v8_6), (19, .long v19_4), (17, .long v17_2), (10, .long v10), (12, .long v12), (14, .long v14), (16, .int v16)]) C.x C.bc dX6_compare_64 hl (by decide) rfl (fun ls hl => ?_)
    refine lv_lload C.x C.bc dX6_compare_66 (lv_at hl 4 rfl) ?_
    refine lv_lload C.x C.bc dX6_compare_68 (lv_at hl 1 rfl) ?_
    refine lv_lload C.x C.bc dX6_compare_70 (lv_at hl 5 rfl) ?_
    refine lv_lmul C.x C.bc dX6_compare_72 ?_
    refine lv_lsub C.x C.bc dX6_compare_73 ?_
    obtain ⟨v12_7, e_7, hx⟩ := nm_x hx
    refine x_tl e_7 ?_
    refine lv_lstore (lv' := [(12, .long v12_7), (8, .long v8_6), (19, .long v19_4), (17, .long v17_2), (10, .long v10), (14, .long v14), (16, .int v16)]) C.x C.bc dX6_compare_74 hl (by decide) rfl (fun ls hl => ?_)
    refine lv_lload C.x C.bc dX6_compare_76 (lv_at hl 1 rfl) ?_
    refine lv_lconst (v := (0 : Int64)) C.x C.bc dX6_compare_78 (by decide) ?_
    refine W.lcmp C.x C.bc dX6_compare_79 ?_
    refine lv_if_eq (tgt := 90) C.x C.bc dX6_compare_80 (by decide) (fun c_8 => ?_) (fun c_8 => ?_)
    · have c_8 := (lc_eq _ _).mp c_8
      have hx := ge_t hx c_8
      obtain rfl := Option.some.inj hx
      exact hE1 _ _ _ K _ _ _ h (lv_sub hl [1, 0, 6] rfl)
    · have c_8 := (not_congr (lc_eq _ _)).mp c_8
      have hx := ge_f hx c_8
      refine lv_lload C.x C.bc dX6_compare_83 (lv_at hl 0 rfl) ?_
      refine lv_lconst (v := (0 : Int64)) C.x C.bc dX6_compare_85 (by decide) ?_
      refine W.lcmp C.x C.bc dX6_compare_86 ?_
      refine lv_if_ne (tgt := 118) C.x C.bc dX6_compare_87 (by decide) (fun c_9 => ?_) (fun c_9 => ?_)
      · have c_9 := (not_congr (lc_eq _ _)).mp c_9
        have hx := ge_f hx c_9
        refine lv_lload C.x C.bc dX6_compare_118 (lv_at hl 1 rfl) ?_
        refine lv_lstore (lv' := [(21, .long v8_6), (12, .long v12_7), (8, .long v8_6), (19, .long v19_4), (17, .long v17_2), (10, .long v10), (14, .long v14), (16, .int v16)]) C.x C.bc dX6_compare_120 hl (by decide) rfl (fun ls hl => ?_)
        refine lv_lload C.x C.bc dX6_compare_122 (lv_at hl 5 rfl) ?_
        refine lv_lstore (lv' := [(8, .long v10), (21, .long v8_6), (12, .long v12_7), (19, .long v19_4), (17, .long v17_2), (10, .long v10), (14, .long v14), (16, .int v16)]) C.x C.bc dX6_compare_124 hl (by decide) rfl (fun ls hl => ?_)
        refine lv_lload C.x C.bc dX6_compare_126 (lv_at hl 1 rfl) ?_
        refine lv_lstore (lv' := [(10, .long v8_6), (8, .long v10), (21, .long v8_6), (12, .long v12_7), (19, .long v19_4), (17, .long v17_2), (14, .long v14), (16, .int v16)]) C.x C.bc dX6_compare_128 hl (by decide) rfl (fun ls hl => ?_)
        refine lv_lload C.x C.bc dX6_compare_130 (lv_at hl 3 rfl) ?_
        refine lv_lstore (lv' := [(21, .long v12_7), (10, .long v8_6), (8, .long v10), (12, .long v12_7), (19, .long v19_4), (17, .long v17_2), (14, .long v14), (16, .int v16)]) C.x C.bc dX6_compare_132 hl (by decide) rfl (fun ls hl => ?_)
        refine lv_lload C.x C.bc dX6_compare_134 (lv_at hl 6 rfl) ?_
        refine lv_lstore (lv' := [(12, .long v14), (21, .long v12_7), (10, .long v8_6), (8, .long v10), (19, .long v19_4), (17, .long v17_2), (14, .long v14), (16, .int v16)]) C.x C.bc dX6_compare_136 hl (by decide) rfl (fun ls hl => ?_)
        refine lv_lload C.x C.bc dX6_compare_138 (lv_at hl 1 rfl) ?_
        refine lv_lstore (lv' := [(14, .long v12_7), (12, .long v14), (21, .long v12_7), (10, .long v8_6), (8, .long v10), (19, .long v19_4), (17, .long v17_2), (16, .int v16)]) C.x C.bc dX6_compare_140 hl (by decide) rfl (fun ls hl => ?_)
        refine lv_iload C.x C.bc dX6_compare_142 (lv_at hl 7 rfl) ?_
        refine lv_ineg C.x C.bc dX6_compare_144 ?_
        obtain ⟨v16_10, e_10, hx⟩ := nm_x hx
        refine x_ti e_10 ?_
        refine lv_istore (lv' := [(16, .int v16_10), (14, .long v12_7), (12, .long v14), (21, .long v12_7), (10, .long v8_6), (8, .long v10), (19, .long v19_4), (17, .long v17_2)]) C.x C.bc dX6_compare_145 hl (by decide) rfl (fun ls hl => ?_)
        refine lv_goto (tgt := 17) C.x C.bc dX6_compare_147 (by decide) ?_
        obtain rfl := Option.some.inj hx
        exact hG _ _ _ _ _ K _ _ _ h (lv_sub hl [5, 4, 2, 1, 0] rfl)
      · have c_9 := (lc_eq _ _).mp c_9
        have hx := ge_t hx c_9
        obtain rfl := Option.some.inj hx
        exact hE1 _ _ _ K _ _ _ h (lv_sub hl [1, 0, 6] rfl)
  · have c_5 := (not_congr (lc_eq _ _)).mp c_5
    have hx := ge_f hx c_5
    obtain rfl := Option.some.inj hx
    exact hE0 _ _ _ K _ _ _ h (lv_sub hl [6, 1, 0] rfl)
set_option maxHeartbeats 1000000 in
theorem pX6_compare_17 (C : Cx E s0 b p s m args meth c cX6_compare 23 "EarthMeshModel" (some .int)) (hI : Sx E) {Q : State → Prop} {v8 : Int64} {v10 : Int64} {v12 : Int64} {v14 : Int64} {v16 : Int32} {n : Nat} {r : (Int32 × Int64 × Int64) ⊕ (Int64 × Int64 × Int32)} (hx : iter (u5 fun v8 v10 v12 v14 v16 => fX6_compare_17 v8 v10 v12 v14 v16) n (v8, v10, v12, v14, v16) = some r) (hE : (fun t => match t with | (.inl t) => (∀ (H : Heap) (locs : List Loc) (ls : Array Slot), XH E g s H locs → lv_has ls 23 [(16, .int t.1), (17, .long t.2.1), (19, .long t.2.2)] → W p l e rmX6_compare s m args below meth c H locs 0 0 Q (F0 m 39 ls [])) | (.inr t) => (∀ (H : Heap) (locs : List Loc) (ls : Array Slot), XH E g s H locs → lv_has ls 23 [(8, .long t.1), (12, .long t.2.1), (16, .int t.2.2)] → W p l e rmX6_compare s m args below meth c H locs 0 0 Q (F0 m 90 ls []))) r) {H : Heap} {locs : List Loc} {ls : Array Slot} (h : XH E g s H locs) (hl : lv_has ls 23 [(8, .long v8), (10, .long v10), (12, .long v12), (14, .long v14), (16, .int v16)]) : W p l e rmX6_compare s m args below meth c H locs 0 0 Q (F0 m 17 ls []) := by
  refine iter_W (G := fun t => ∀ (H : Heap) (locs : List Loc) (ls : Array Slot), XH E g s H locs → lv_has ls 23 [(8, .long t.1), (10, .long t.2.1), (12, .long t.2.2.1), (14, .long t.2.2.2.1), (16, .int t.2.2.2.2)] → W p l e rmX6_compare s m args below meth c H locs 0 0 Q (F0 m 17 ls [])) (E := fun t => match t with | (.inl t) => (∀ (H : Heap) (locs : List Loc) (ls : Array Slot), XH E g s H locs → lv_has ls 23 [(16, .int t.1), (17, .long t.2.1), (19, .long t.2.2)] → W p l e rmX6_compare s m args below meth c H locs 0 0 Q (F0 m 39 ls [])) | (.inr t) => (∀ (H : Heap) (locs : List Loc) (ls : Array Slot), XH E g s H locs → lv_has ls 23 [(8, .long t.1), (12, .long t.2.1), (16, .int t.2.2)] → W p l e rmX6_compare s m args below meth c H locs 0 0 Q (F0 m 90 ls []))) (fun t x hx K H locs ls h hl => ?_) n _ r hx hE H locs ls h hl
  obtain ⟨v8, v10, v12, v14, v16⟩ := t
  exact bX6_compare_17 C hI v8 v10 v12 v14 v16 hx (fun _ _ _ _ _ z => z) (fun _ _ _ z => z) (fun _ _ _ z => z) K h hl
def fX6_compare (v0 : Int64) (v2 : Int64) (v4 : Int64) (v6 : Int64) : Option (Int32) :=
  bd (iter (u5 fun z8 z10 z12 z14 z16 => fX6_compare_17 z8 z10 z12 z14 z16) FU (v0, v2, v4, v6, (1 : Int32))) (Sum.elim (u3 fun v16_11 v17_11 v19_11 =>
    if v17_11 < v19_11 then
      some (-v16_11)
    else
      some v16_11) (u3 fun v8_11 v12_11 v16_11 =>
    if v8_11 = v12_11 then
      some (0 : Int32)
    else
      if v8_11 = (0 : Int64) then
        some (-v16_11)
      else
        some v16_11))
set_option maxHeartbeats 1000000 in
theorem bX6_compare (C : Cx E s0 b p s m args meth c cX6_compare 23 "EarthMeshModel" (some .int)) (hI : Sx E) (v0 : Int64) (v2 : Int64) (v4 : Int64) (v6 : Int64) {x : Int32} (hx : fX6_compare v0 v2 v4 v6 = some x) {H : Heap} {locs : List Loc} {ls : Array Slot} (h : XH E g s H locs) (hl : lv_has ls 23 [(0, .long v0), (2, .long v2), (4, .long v4), (6, .long v6)]) : W p l e rmX6_compare s m args below meth c H locs 0 0 (MQ below (Qx E (some (.int x)) g) args s 0 0 (gA E.HB)) (F0 m 0 ls []) := by
  unfold fX6_compare at hx
  refine lv_lload_n C.x C.bc dX6_compare_0 rfl (lv_at hl 0 rfl) ?_
  refine lv_lstore (lv' := [(8, .long v0), (0, .long v0), (2, .long v2), (4, .long v4), (6, .long v6)]) C.x C.bc dX6_compare_1 hl (by decide) rfl (fun ls hl => ?_)
  refine lv_lload_n C.x C.bc dX6_compare_3 rfl (lv_at hl 2 rfl) ?_
  refine lv_lstore (lv' := [(10, .long v2), (8, .long v0), (0, .long v0), (2, .long v2), (4, .long v4), (6, .long v6)]) C.x C.bc dX6_compare_4 hl (by decide) rfl (fun ls hl => ?_)
  refine lv_lload C.x C.bc dX6_compare_6 (lv_at hl 4 rfl) ?_
  refine lv_lstore (lv' := [(12, .long v4), (10, .long v2), (8, .long v0), (0, .long v0), (2, .long v2), (4, .long v4), (6, .long v6)]) C.x C.bc dX6_compare_8 hl (by decide) rfl (fun ls hl => ?_)
  refine lv_lload C.x C.bc dX6_compare_10 (lv_at hl 6 rfl) ?_
  refine lv_lstore (lv' := [(14, .long v6), (12, .long v4), (10, .long v2), (8, .long v0), (0, .long v0), (2, .long v2), (4, .long v4), (6, .long v6)]) C.x C.bc dX6_compare_12 hl (by decide) rfl (fun ls hl => ?_)
  refine lv_iconst (v := (1 : Int32)) C.x C.bc dX6_compare_14 (by decide) ?_
  refine lv_istore (lv' := [(16, .int (1 : Int32)), (14, .long v6), (12, .long v4), (10, .long v2), (8, .long v0), (0, .long v0), (2, .long v2), (4, .long v4), (6, .long v6)]) C.x C.bc dX6_compare_15 hl (by decide) rfl (fun ls hl => ?_)
  obtain ⟨r_11, hi_11, hx⟩ := bd_e hx
  rcases r_11 with ⟨v16_11, v17_11, v19_11⟩ | ⟨v8_11, v12_11, v16_11⟩
  · have hx := sl_e hx; have hx := u3_e hx
    refine pX6_compare_17 C hI hi_11 (fun H locs ls h hl => ?_) h (lv_sub hl [4, 3, 2, 1, 0] rfl)
    refine lv_lload C.x C.bc dX6_compare_39 (lv_at hl 1 rfl) ?_
    refine lv_lload C.x C.bc dX6_compare_41 (lv_at hl 2 rfl) ?_
    refine W.lcmp C.x C.bc dX6_compare_43 ?_
    refine lv_if_ge (tgt := 53) C.x C.bc dX6_compare_44 (by decide) (fun c_12 => ?_) (fun c_12 => ?_)
    · have c_12 := (lc_ge _ _).mp c_12
      have hx := ge_f hx c_12
      refine lv_iload C.x C.bc dX6_compare_53 (lv_at hl 0 rfl) ?_
      obtain rfl := Option.some.inj hx
      exact x_iret C h dX6_compare_55
    · have c_12 := Classical.not_not.mp ((not_congr (lc_ge _ _)).mp c_12)
      have hx := ge_t hx c_12
      refine lv_iload C.x C.bc dX6_compare_47 (lv_at hl 0 rfl) ?_
      refine lv_ineg C.x C.bc dX6_compare_49 ?_
      refine lv_goto (tgt := 55) C.x C.bc dX6_compare_50 (by decide) ?_
      obtain rfl := Option.some.inj hx
      exact x_iret C h dX6_compare_55
  · have hx := sr_e hx; have hx := u3_e hx
    refine pX6_compare_17 C hI hi_11 (fun H locs ls h hl => ?_) h (lv_sub hl [4, 3, 2, 1, 0] rfl)
    refine lv_lload C.x C.bc dX6_compare_90 (lv_at hl 0 rfl) ?_
    refine lv_lload C.x C.bc dX6_compare_92 (lv_at hl 1 rfl) ?_
    refine W.lcmp C.x C.bc dX6_compare_94 ?_
    refine lv_if_ne (tgt := 102) C.x C.bc dX6_compare_95 (by decide) (fun c_13 => ?_) (fun c_13 => ?_)
    · have c_13 := (not_congr (lc_eq _ _)).mp c_13
      have hx := ge_f hx c_13
      refine lv_lload C.x C.bc dX6_compare_102 (lv_at hl 0 rfl) ?_
      refine lv_lconst (v := (0 : Int64)) C.x C.bc dX6_compare_104 (by decide) ?_
      refine W.lcmp C.x C.bc dX6_compare_105 ?_
      refine lv_if_ne (tgt := 115) C.x C.bc dX6_compare_106 (by decide) (fun c_14 => ?_) (fun c_14 => ?_)
      · have c_14 := (not_congr (lc_eq _ _)).mp c_14
        have hx := ge_f hx c_14
        refine lv_iload C.x C.bc dX6_compare_115 (lv_at hl 2 rfl) ?_
        obtain rfl := Option.some.inj hx
        exact x_iret C h dX6_compare_117
      · have c_14 := (lc_eq _ _).mp c_14
        have hx := ge_t hx c_14
        refine lv_iload C.x C.bc dX6_compare_109 (lv_at hl 2 rfl) ?_
        refine lv_ineg C.x C.bc dX6_compare_111 ?_
        refine lv_goto (tgt := 117) C.x C.bc dX6_compare_112 (by decide) ?_
        obtain rfl := Option.some.inj hx
        exact x_iret C h dX6_compare_117
    · have c_13 := (lc_eq _ _).mp c_13
      have hx := ge_t hx c_13
      refine lv_iconst (v := (0 : Int32)) C.x C.bc dX6_compare_98 (by decide) ?_
      refine lv_goto (tgt := 117) C.x C.bc dX6_compare_99 (by decide) ?_
      obtain rfl := Option.some.inj hx
      exact x_iret C h dX6_compare_117
theorem mX6_compare (hG : G0 E s0 b) (hI : Sx E) {v0 : Int64} {v2 : Int64} {v4 : Int64} {v6 : Int64} {x : Int32} (hx : fX6_compare v0 v2 v4 v6 = some x) : Mt l E s0 yX6_compare cX6_compare 23 (some .int) rmX6_compare [.long v0, .long v2, .long v4, .long v6] g (some (.int x)) E g :=
  Mt.of hG (by decide) (Nat.le_of_ble_eq_true rfl) (fun p e s m below meth c ls C h hl => bX6_compare C hI v0 v2 v4 v6 hx h hl)
theorem cX6_374_X6_compare {a0 : Int64} {a1 : Int64} {a2 : Int64} {a3 : Int64} {r : Int32} (C : Cx E s0 b p s m args meth c cc nL "EarthMeshModel" rt) (hI : Sx E) (h : XH E g s H locs) (hf : fX6_compare a0 a1 a2 a3 = some r) (hR : rmX6_compare.frames + 1 ≤ R.frames ∧ 16 + (23 + 11) + rmX6_compare.locals ≤ R.locals) (h0 : cells ≤ R.cells ∧ slots ≤ R.slots) (hsz : ls.size = nL) (hcat : (rest.map fun v => v.category).sum ≤ 16) (hdg : decode cc pc = .ok (.invokestatic 374, 3)) (kk : ∀ (H : Heap) (locs : List Loc), XH E g s H locs → W p l e R s m args below meth c H locs cells slots Q (F0 m (pc + 3) ls (.int r :: rest))) : W p l e R s m args below meth c H locs cells slots Q (F0 m pc ls (.long a3 :: .long a2 :: .long a1 :: .long a0 :: rest)) :=
  x_callS (n := 4) (As := [.long a0, .long a1, .long a2, .long a3]) C h (mX6_compare C.g hI hf) (lw_S q1931 q1932 q136 q1933) ⟨by decide +kernel, by decide +kernel, by decide +kernel⟩ hR ⟨rfl, rfl⟩ h0 rfl hsz rfl hcat hdg kk
abbrev rmX6_tries : Room := { frames := 0, cells := 0, slots := 0, locals := 0 }
def fX6_tries_2 (v1 : Int32) (st : St) : Option ((Int32 × St) ⊕ (St)) :=
  if (46 : Int32) ≤ v1 then
    some (.inr st)
  else
    gd (inB v1 46) <|
    gd (inB v1 46) <|
    nm (uI st 83 v1.toNatClampNeg (st.1 70 v1.toNatClampNeg)) fun st_4 =>
    nm (v1 + (1 : Int32)) fun v1_5 =>
    some (.inl (v1_5, st_4))
set_option maxHeartbeats 1000000 in
theorem bX6_tries_2 (C : Cx E s0 b p s m args meth c cX6_tries 2 "EarthMeshModel" none) (hI : Sx E) (v1 : Int32) (st : St) {x : (Int32 × St) ⊕ (St)} (hx : fX6_tries_2 v1 st = some x) {Q : State → Prop} {G : Int32 × St → Prop} {X : St → Prop} (hG : ∀ (w1 : Int32) (wst : St), G (w1, wst) → ∀ (H : Heap) (locs : List Loc) (ls : Array Slot), XH E (sg wst) s H locs → lv_has ls 2 [(0, .ref (E.ad 68)), (1, .int w1)] → W p l e rmX6_tries s m args below meth c H locs 0 0 Q (F0 m 2 ls [])) (hE0 : ∀ (wst : St), X wst → ∀ (H : Heap) (locs : List Loc) (ls : Array Slot), XH E (sg wst) s H locs → lv_has ls 2 [] → W p l e rmX6_tries s m args below meth c H locs 0 0 Q (F0 m 26 ls [])) (K : Kx G X x) {H : Heap} {locs : List Loc} {ls : Array Slot} (h : XH E (sg st) s H locs) (hl : lv_has ls 2 [(0, .ref (E.ad 68)), (1, .int v1)]) : W p l e rmX6_tries s m args below meth c H locs 0 0 Q (F0 m 2 ls []) := by
  unfold fX6_tries_2 at hx
  refine lv_iload_n C.x C.bc dX6_tries_2 rfl (lv_at hl 1 rfl) ?_
  refine lv_bipush (v := (46 : Int32)) C.x C.bc dX6_tries_3 (by decide) ?_
  refine lv_icmp_ge (tgt := 26) C.x C.bc dX6_tries_5 (by decide) (fun c_1 => ?_) (fun c_1 => ?_)
  · have hx := ge_t hx c_1
    obtain rfl := Option.some.inj hx
    exact hE0 _ K _ _ _ h (lv_sub hl [] rfl)
  · have hx := ge_f hx c_1
    refine lv_aload_n C.x C.bc dX6_tries_8 rfl (lv_at hl 0 rfl) ?_
    refine gt_X6_76_68 C hI h dX6_tries_9 ?_
    refine lv_iload_n C.x C.bc dX6_tries_12 rfl (lv_at hl 1 rfl) ?_
    refine lv_aload_n C.x C.bc dX6_tries_13 rfl (lv_at hl 0 rfl) ?_
    refine gt_X6_31_68 C hI h dX6_tries_14 ?_
    refine lv_iload_n C.x C.bc dX6_tries_17 rfl (lv_at hl 1 rfl) ?_
    obtain ⟨g_2, hx⟩ := gd_e hx
    refine x_iald C h 70 46 (hI 70 (by decide)) k_70 g_2 dX6_tries_18 ?_
    obtain ⟨g_3, hx⟩ := gd_e hx
    obtain ⟨st_4, e_4, hx⟩ := nm_x hx
    refine y_iast C h 83 46 (hI 83 (by decide)) k_83 g_3 e_4 dX6_tries_19 (fun H locs h => ?_)
    obtain ⟨v1_5, e_5, hx⟩ := nm_x hx
    refine lv_iinc (v := v1_5) (lv' := [(1, .int v1_5), (0, .ref (E.ad 68))]) C.x C.bc dX6_tries_20 hl (k := 1) rfl (by rw [e_5]; rfl) (by decide) rfl (fun ls hl => ?_)
    refine lv_goto (tgt := 2) C.x C.bc dX6_tries_23 (by decide) ?_
    obtain rfl := Option.some.inj hx
    exact hG _ _ K _ _ _ h (lv_sub hl [1, 0] rfl)
set_option maxHeartbeats 1000000 in
theorem pX6_tries_2 (C : Cx E s0 b p s m args meth c cX6_tries 2 "EarthMeshModel" none) (hI : Sx E) {Q : State → Prop} {v1 : Int32} {st : St} {n : Nat} {r : St} (hx : iter (u2 fun v1 st => fX6_tries_2 v1 st) n (v1, st) = some r) (hE : (fun t => ∀ (H : Heap) (locs : List Loc) (ls : Array Slot), XH E (sg t) s H locs → lv_has ls 2 [] → W p l e rmX6_tries s m args below meth c H locs 0 0 Q (F0 m 26 ls [])) r) {H : Heap} {locs : List Loc} {ls : Array Slot} (h : XH E (sg st) s H locs) (hl : lv_has ls 2 [(0, .ref (E.ad 68)), (1, .int v1)]) : W p l e rmX6_tries s m args below meth c H locs 0 0 Q (F0 m 2 ls []) := by
  refine iter_W (G := fun t => ∀ (H : Heap) (locs : List Loc) (ls : Array Slot), XH E (sg t.2) s H locs → lv_has ls 2 [(0, .ref (E.ad 68)), (1, .int t.1)] → W p l e rmX6_tries s m args below meth c H locs 0 0 Q (F0 m 2 ls [])) (E := fun t => ∀ (H : Heap) (locs : List Loc) (ls : Array Slot), XH E (sg t) s H locs → lv_has ls 2 [] → W p l e rmX6_tries s m args below meth c H locs 0 0 Q (F0 m 26 ls [])) (fun t x hx K H locs ls h hl => ?_) n _ r hx hE H locs ls h hl
  obtain ⟨v1, st⟩ := t
  exact bX6_tries_2 C hI v1 st hx (fun _ _ z => z) (fun _ z => z) K h hl
def fX6_tries (st : St) : Option (St) :=
  bd (iter (u2 fun z1 zst => fX6_tries_2 z1 zst) FU ((0 : Int32), st)) (u1 fun st_6 =>
  some st_6)
set_option maxHeartbeats 1000000 in
theorem bX6_tries (C : Cx E s0 b p s m args meth c cX6_tries 2 "EarthMeshModel" none) (hI : Sx E) (st : St) {x : St} (hx : fX6_tries st = some x) {H : Heap} {locs : List Loc} {ls : Array Slot} (h : XH E (sg st) s H locs) (hl : lv_has ls 2 [(0, .ref (E.ad 68))]) : W p l e rmX6_tries s m args below meth c H locs 0 0 (MQ below (Qx E none (sg x)) args s 0 0 (gA E.HB)) (F0 m 0 ls []) := by
  unfold fX6_tries at hx
  refine lv_iconst (v := (0 : Int32)) C.x C.bc dX6_tries_0 (by decide) ?_
  refine lv_istore_n (lv' := [(1, .int (0 : Int32)), (0, .ref (E.ad 68))]) C.x C.bc dX6_tries_1 rfl hl (by decide) rfl (fun ls hl => ?_)
  obtain ⟨st_6, hi_6, hx⟩ := bd_e hx
  have hx := u1_e hx
  refine pX6_tries_2 C hI hi_6 (fun H locs ls h hl => ?_) h (lv_sub hl [1, 0] rfl)
  obtain rfl := Option.some.inj hx
  exact x_vret C h dX6_tries_26
theorem mX6_tries (hG : G0 E s0 b) (hI : Sx E)  {x : St} (hx : fX6_tries st = some x) : Mt l E s0 yX6_tries cX6_tries 2 none rmX6_tries [.ref (E.ad 68)] (sg st) none E (sg x) :=
  Mt.of hG (by decide) (Nat.le_of_ble_eq_true rfl) (fun p e s m below meth c ls C h hl => bX6_tries C hI st hx h hl)
theorem cX6_384_X6_tries  {st' : St} (C : Cx E s0 b p s m args meth c cc nL "EarthMeshModel" rt) (hI : Sx E) (h : XH E (sg st) s H locs) (hf : fX6_tries st = some st') (hR : rmX6_tries.frames + 1 ≤ R.frames ∧ 16 + (2 + 11) + rmX6_tries.locals ≤ R.locals) (h0 : cells ≤ R.cells ∧ slots ≤ R.slots) (hsz : ls.size = nL) (hcat : (rest.map fun v => v.category).sum ≤ 16) (hdg : decode cc pc = .ok (.invokevirtual 384, 3)) (kk : ∀ (H : Heap) (locs : List Loc), XH E (sg st') s H locs → W p l e R s m args below meth c H locs cells slots Q (F0 m (pc + 3) ls (rest))) : W p l e R s m args below meth c H locs cells slots Q (F0 m pc ls (.ref (E.ad 68) :: rest)) :=
  x_callV (n := 0) (As := []) C h 68 5 (hI 68 (by decide)) k_68 rfl (mX6_tries C.g hI hf) (lw_V q1958 q1960 qs112 q136 q1961) ⟨rfl, by decide +kernel, by decide +kernel, by decide +kernel⟩ hR ⟨rfl, rfl⟩ h0 rfl hsz rfl hcat hdg kk
abbrev rmX6_pointsWide : Room := { frames := 0, cells := 0, slots := 0, locals := 0 }
def fX6_pointsWide (st : St) : Option (Int32) :=
  gd (inB (0 : Int32) 46) <|
  some (((2 : Int32) * (st.1 70 (0 : Int32).toNatClampNeg)) - (1 : Int32))
set_option maxHeartbeats 1000000 in
theorem bX6_pointsWide (C : Cx E s0 b p s m args meth c cX6_pointsWide 1 "EarthMeshModel" (some .int)) (hI : Sx E) (st : St) {x : Int32} (hx : fX6_pointsWide st = some x) {H : Heap} {locs : List Loc} {ls : Array Slot} (h : XH E (sg st) s H locs) (hl : lv_has ls 1 [(0, .ref (E.ad 68))]) : W p l e rmX6_pointsWide s m args below meth c H locs 0 0 (MQ below (Qx E (some (.int x)) (sg st)) args s 0 0 (gA E.HB)) (F0 m 0 ls []) := by
  unfold fX6_pointsWide at hx
  refine lv_iconst (v := (2 : Int32)) C.x C.bc dX6_pointsWide_0 (by decide) ?_
  refine lv_aload_n C.x C.bc dX6_pointsWide_1 rfl (lv_at hl 0 rfl) ?_
  refine gt_X6_31_68 C hI h dX6_pointsWide_2 ?_
  refine lv_iconst (v := (0 : Int32)) C.x C.bc dX6_pointsWide_5 (by decide) ?_
  obtain ⟨g_1, hx⟩ := gd_e hx
  refine x_iald C h 70 46 (hI 70 (by decide)) k_70 g_1 dX6_pointsWide_6 ?_
  refine lv_imul C.x C.bc dX6_pointsWide_7 ?_
  refine lv_iconst (v := (1 : Int32)) C.x C.bc dX6_pointsWide_8 (by decide) ?_
  refine lv_isub C.x C.bc dX6_pointsWide_9 ?_
  obtain rfl := Option.some.inj hx
  exact x_iret C h dX6_pointsWide_10
theorem mX6_pointsWide (hG : G0 E s0 b) (hI : Sx E)  {x : Int32} (hx : fX6_pointsWide st = some x) : Mt l E s0 yX6_pointsWide cX6_pointsWide 1 (some .int) rmX6_pointsWide [.ref (E.ad 68)] (sg st) (some (.int x)) E (sg st) :=
  Mt.of hG (by decide) (Nat.le_of_ble_eq_true rfl) (fun p e s m below meth c ls C h hl => bX6_pointsWide C hI st hx h hl)
theorem cX6_325_X6_pointsWide  {r : Int32} (C : Cx E s0 b p s m args meth c cc nL "EarthMeshModel" rt) (hI : Sx E) (h : XH E (sg st) s H locs) (hf : fX6_pointsWide st = some r) (hR : rmX6_pointsWide.frames + 1 ≤ R.frames ∧ 16 + (1 + 11) + rmX6_pointsWide.locals ≤ R.locals) (h0 : cells ≤ R.cells ∧ slots ≤ R.slots) (hsz : ls.size = nL) (hcat : (rest.map fun v => v.category).sum ≤ 16) (hdg : decode cc pc = .ok (.invokevirtual 325, 3)) (kk : ∀ (H : Heap) (locs : List Loc), XH E (sg st) s H locs → W p l e R s m args below meth c H locs cells slots Q (F0 m (pc + 3) ls (.int r :: rest))) : W p l e R s m args below meth c H locs cells slots Q (F0 m pc ls (.ref (E.ad 68) :: rest)) :=
  x_callV (n := 0) (As := []) C h 68 5 (hI 68 (by decide)) k_68 rfl (mX6_pointsWide C.g hI hf) (lw_V q1904 q1906 qs100 q136 q1907) ⟨rfl, by decide +kernel, by decide +kernel, by decide +kernel⟩ hR ⟨rfl, rfl⟩ h0 rfl hsz rfl hcat hdg kk
abbrev rmX6_points : Room := { frames := 1, cells := 0, slots := 0, locals := 28 }
def fX6_points (st : St) : Option (Int32) :=
  bd (fX6_pointsWide st) fun r_1 =>
  gd (inB (1 : Int32) 46) <|
  some (r_1 * (((2 : Int32) * (st.1 70 (1 : Int32).toNatClampNeg)) - (1 : Int32)))
set_option maxHeartbeats 1000000 in
theorem bX6_points (C : Cx E s0 b p s m args meth c cX6_points 1 "EarthMeshModel" (some .int)) (hI : Sx E) (st : St) {x : Int32} (hx : fX6_points st = some x) {H : Heap} {locs : List Loc} {ls : Array Slot} (h : XH E (sg st) s H locs) (hl : lv_has ls 1 [(0, .ref (E.ad 68))]) : W p l e rmX6_points s m args below meth c H locs 0 0 (MQ below (Qx E (some (.int x)) (sg st)) args s 0 0 (gA E.HB)) (F0 m 0 ls []) := by
  unfold fX6_points at hx
  refine lv_aload_n C.x C.bc dX6_points_0 rfl (lv_at hl 0 rfl) ?_
  obtain ⟨r_1, hf_1, hx⟩ := bd_e hx
  refine cX6_325_X6_pointsWide C hI h hf_1 ⟨Nat.le_of_ble_eq_true rfl, Nat.le_of_ble_eq_true rfl⟩ ⟨Nat.zero_le _, Nat.zero_le _⟩ hl.1 (Nat.le_of_ble_eq_true rfl) dX6_points_1 (fun H locs h => ?_)
  refine lv_iconst (v := (2 : Int32)) C.x C.bc dX6_points_4 (by decide) ?_
  refine lv_aload_n C.x C.bc dX6_points_5 rfl (lv_at hl 0 rfl) ?_
  refine gt_X6_31_68 C hI h dX6_points_6 ?_
  refine lv_iconst (v := (1 : Int32)) C.x C.bc dX6_points_9 (by decide) ?_
  obtain ⟨g_2, hx⟩ := gd_e hx
  refine x_iald C h 70 46 (hI 70 (by decide)) k_70 g_2 dX6_points_10 ?_
  refine lv_imul C.x C.bc dX6_points_11 ?_
  refine lv_iconst (v := (1 : Int32)) C.x C.bc dX6_points_12 (by decide) ?_
  refine lv_isub C.x C.bc dX6_points_13 ?_
  refine lv_imul C.x C.bc dX6_points_14 ?_
  obtain rfl := Option.some.inj hx
  exact x_iret C h dX6_points_15
theorem mX6_points (hG : G0 E s0 b) (hI : Sx E)  {x : Int32} (hx : fX6_points st = some x) : Mt l E s0 yX6_points cX6_points 1 (some .int) rmX6_points [.ref (E.ad 68)] (sg st) (some (.int x)) E (sg st) :=
  Mt.of hG (by decide) (Nat.le_of_ble_eq_true rfl) (fun p e s m below meth c ls C h hl => bX6_points C hI st hx h hl)
theorem cX6_332_X6_points  {r : Int32} (C : Cx E s0 b p s m args meth c cc nL "EarthMeshModel" rt) (hI : Sx E) (h : XH E (sg st) s H locs) (hf : fX6_points st = some r) (hR : rmX6_points.frames + 1 ≤ R.frames ∧ 16 + (1 + 11) + rmX6_points.locals ≤ R.locals) (h0 : cells ≤ R.cells ∧ slots ≤ R.slots) (hsz : ls.size = nL) (hcat : (rest.map fun v => v.category).sum ≤ 16) (hdg : decode cc pc = .ok (.invokevirtual 332, 3)) (kk : ∀ (H : Heap) (locs : List Loc), XH E (sg st) s H locs → W p l e R s m args below meth c H locs cells slots Q (F0 m (pc + 3) ls (.int r :: rest))) : W p l e R s m args below meth c H locs cells slots Q (F0 m pc ls (.ref (E.ad 68) :: rest)) :=
  x_callV (n := 0) (As := []) C h 68 5 (hI 68 (by decide)) k_68 rfl (mX6_points C.g hI hf) (lw_V q1900 q1902 qs99 q136 q1903) ⟨rfl, by decide +kernel, by decide +kernel, by decide +kernel⟩ hR ⟨rfl, rfl⟩ h0 rfl hsz rfl hcat hdg kk
abbrev rmX6_tellGround : Room := { frames := 1, cells := 0, slots := 0, locals := 28 }
def fX6_tellGround_43 (v1 : Int32) (v2 : Int32) (v3 : Int32) (v4 : Int64) (v6 : Int64) (v8 : Int32) (v9 : Int32) (v10 : Int32) (st : St) : Option ((Int64 × Int64 × Int32 × Int32 × St) ⊕ (Int64 × Int64 × Int32 × St)) :=
  if ((v2 + (1 : Int32)) / (2 : Int32)) < v10 then
    some (.inr (v4, v6, v8, st))
  else
    gd (inB (0 : Int32) 46) <|
    gd (inB ((v9 * (st.1 70 (0 : Int32).toNatClampNeg)) + v10) 12) <|
    nm (st.2.1 76 ((v9 * (st.1 70 (0 : Int32).toNatClampNeg)) + v10).toNatClampNeg) fun v11_13 =>
    nm (v4 + v11_13) fun v4_14 =>
    nm (jmaxl v6 v11_13) fun v6_15 =>
    nm (v8 + (1 : Int32)) fun v8_16 =>
    nm (v10 + (1 : Int32)) fun v10_17 =>
    some (.inl (v4_14, v6_15, v8_16, v10_17, st))
set_option maxHeartbeats 1000000 in
theorem bX6_tellGround_43 (C : Cx E s0 b p s m args meth c cX6_tellGround 13 "EarthMeshModel" none) (hI : Sx E) (v1 : Int32) (v2 : Int32) (v3 : Int32) (v4 : Int64) (v6 : Int64) (v8 : Int32) (v9 : Int32) (v10 : Int32) (st : St) {x : (Int64 × Int64 × Int32 × Int32 × St) ⊕ (Int64 × Int64 × Int32 × St)} (hx : fX6_tellGround_43 v1 v2 v3 v4 v6 v8 v9 v10 st = some x) {Q : State → Prop} {G : Int64 × Int64 × Int32 × Int32 × St → Prop} {X : Int64 × Int64 × Int32 × St → Prop} (hG : ∀ (w4 : Int64) (w6 : Int64) (w8 : Int32) (w10 : Int32) (wst : St), G (w4, w6, w8, w10, wst) → ∀ (H : Heap) (locs : List Loc) (ls : Array Slot), XH E (sg wst) s H locs → lv_has ls 13 [(0, .ref (E.ad 68)), (1, .int v1), (2, .int v2), (3, .int v3), (4, .long w4), (6, .long w6), (8, .int w8), (9, .int v9), (10, .int w10)] → W p l e rmX6_tellGround s m args below meth c H locs 0 0 Q (F0 m 43 ls [])) (hE0 : ∀ (w4 : Int64) (w6 : Int64) (w8 : Int32) (wst : St), X (w4, w6, w8, wst) → ∀ (H : Heap) (locs : List Loc) (ls : Array Slot), XH E (sg wst) s H locs → lv_has ls 13 [(0, .ref (E.ad 68)), (1, .int v1), (2, .int v2), (3, .int v3), (4, .long w4), (6, .long w6), (8, .int w8), (9, .int v9)] → W p l e rmX6_tellGround s m args below meth c H locs 0 0 Q (F0 m 97 ls [])) (K : Kx G X x) {H : Heap} {locs : List Loc} {ls : Array Slot} (h : XH E (sg st) s H locs) (hl : lv_has ls 13 [(0, .ref (E.ad 68)), (1, .int v1), (2, .int v2), (3, .int v3), (4, .long v4), (6, .long v6), (8, .int v8), (9, .int v9), (10, .int v10)]) : W p l e rmX6_tellGround s m args below meth c H locs 0 0 Q (F0 m 43 ls []) := by
  unfold fX6_tellGround_43 at hx
  refine lv_iload C.x C.bc dX6_tellGround_43 (lv_at hl 8 rfl) ?_
  refine lv_iload_n C.x C.bc dX6_tellGround_45 rfl (lv_at hl 2 rfl) ?_
  refine lv_iconst (v := (1 : Int32)) C.x C.bc dX6_tellGround_46 (by decide) ?_
  refine lv_iadd C.x C.bc dX6_tellGround_47 ?_
  refine lv_iconst (v := (2 : Int32)) C.x C.bc dX6_tellGround_48 (by decide) ?_
  refine lv_idiv C.x C.bc dX6_tellGround_49 (by decide) ?_
  refine lv_icmp_gt (tgt := 97) C.x C.bc dX6_tellGround_50 (by decide) (fun c_10 => ?_) (fun c_10 => ?_)
  · have hx := ge_t hx c_10
    obtain rfl := Option.some.inj hx
    exact hE0 _ _ _ _ K _ _ _ h (lv_sub hl [0, 1, 2, 3, 4, 5, 6, 7] rfl)
  · have hx := ge_f hx c_10
    refine lv_aload_n C.x C.bc dX6_tellGround_53 rfl (lv_at hl 0 rfl) ?_
    refine gt_X6_55_68 C hI h dX6_tellGround_54 ?_
    refine lv_iload C.x C.bc dX6_tellGround_57 (lv_at hl 7 rfl) ?_
    refine lv_aload_n C.x C.bc dX6_tellGround_59 rfl (lv_at hl 0 rfl) ?_
    refine gt_X6_31_68 C hI h dX6_tellGround_60 ?_
    refine lv_iconst (v := (0 : Int32)) C.x C.bc dX6_tellGround_63 (by decide) ?_
    obtain ⟨g_11, hx⟩ := gd_e hx
    refine x_iald C h 70 46 (hI 70 (by decide)) k_70 g_11 dX6_tellGround_64 ?_
    refine lv_imul C.x C.bc dX6_tellGround_65 ?_
    refine lv_iload C.x C.bc dX6_tellGround_66 (lv_at hl 8 rfl) ?_
    refine lv_iadd C.x C.bc dX6_tellGround_68 ?_
    obtain ⟨g_12, hx⟩ := gd_e hx
    refine x_lald C h 76 12 (hI 76 (by decide)) k_76 g_12 dX6_tellGround_69 ?_
    obtain ⟨v11_13, e_13, hx⟩ := nm_x hx
    refine x_tl e_13 ?_
    refine lv_lstore (lv' := [(11, .long v11_13), (0, .ref (E.ad 68)), (1, .int v1), (2, .int v2), (3, .int v3), (4, .long v4), (6, .long v6), (8, .int v8), (9, .int v9), (10, .int v10)]) C.x C.bc dX6_tellGround_70 hl (by decide) rfl (fun ls hl => ?_)
    refine lv_lload C.x C.bc dX6_tellGround_72 (lv_at hl 5 rfl) ?_
    refine lv_lload C.x C.bc dX6_tellGround_74 (lv_at hl 0 rfl) ?_
    refine lv_ladd C.x C.bc dX6_tellGround_76 ?_
    obtain ⟨v4_14, e_14, hx⟩ := nm_x hx
    refine x_tl e_14 ?_
    refine lv_lstore (lv' := [(4, .long v4_14), (11, .long v11_13), (0, .ref (E.ad 68)), (1, .int v1), (2, .int v2), (3, .int v3), (6, .long v6), (8, .int v8), (9, .int v9), (10, .int v10)]) C.x C.bc dX6_tellGround_77 hl (by decide) rfl (fun ls hl => ?_)
    refine lv_lload C.x C.bc dX6_tellGround_79 (lv_at hl 6 rfl) ?_
    refine lv_lload C.x C.bc dX6_tellGround_81 (lv_at hl 1 rfl) ?_
    refine va_mmax_long C.x C.bc (C.ml.trans hl.1.symm) C.ow (C.ts _ q1912) (C.ts _ q340) (C.ts _ q134) (C.ts _ q341) (Nat.le_of_ble_eq_true rfl) (Nat.le_of_ble_eq_true rfl) (Nat.zero_le _) (Nat.zero_le _) dX6_tellGround_83 ?_
    obtain ⟨v6_15, e_15, hx⟩ := nm_x hx
    refine x_tl e_15 ?_
    refine lv_lstore (lv' := [(6, .long v6_15), (4, .long v4_14), (11, .long v11_13), (0, .ref (E.ad 68)), (1, .int v1), (2, .int v2), (3, .int v3), (8, .int v8), (9, .int v9), (10, .int v10)]) C.x C.bc dX6_tellGround_86 hl (by decide) rfl (fun ls hl => ?_)
    obtain ⟨v8_16, e_16, hx⟩ := nm_x hx
    refine lv_iinc (v := v8_16) (lv' := [(8, .int v8_16), (6, .long v6_15), (4, .long v4_14), (11, .long v11_13), (0, .ref (E.ad 68)), (1, .int v1), (2, .int v2), (3, .int v3), (9, .int v9), (10, .int v10)]) C.x C.bc dX6_tellGround_88 hl (k := 7) rfl (by rw [e_16]; rfl) (by decide) rfl (fun ls hl => ?_)
    obtain ⟨v10_17, e_17, hx⟩ := nm_x hx
    refine lv_iinc (v := v10_17) (lv' := [(10, .int v10_17), (8, .int v8_16), (6, .long v6_15), (4, .long v4_14), (11, .long v11_13), (0, .ref (E.ad 68)), (1, .int v1), (2, .int v2), (3, .int v3), (9, .int v9)]) C.x C.bc dX6_tellGround_91 hl (k := 9) rfl (by rw [e_17]; rfl) (by decide) rfl (fun ls hl => ?_)
    refine lv_goto (tgt := 43) C.x C.bc dX6_tellGround_94 (by decide) ?_
    obtain rfl := Option.some.inj hx
    exact hG _ _ _ _ _ K _ _ _ h (lv_sub hl [5, 6, 7, 8, 3, 2, 1, 9, 0] rfl)
set_option maxHeartbeats 1000000 in
theorem pX6_tellGround_43 (C : Cx E s0 b p s m args meth c cX6_tellGround 13 "EarthMeshModel" none) (hI : Sx E) (v1 : Int32) (v2 : Int32) (v3 : Int32) (v9 : Int32) {Q : State → Prop} {v4 : Int64} {v6 : Int64} {v8 : Int32} {v10 : Int32} {st : St} {n : Nat} {r : Int64 × Int64 × Int32 × St} (hx : iter (u5 fun v4 v6 v8 v10 st => fX6_tellGround_43 v1 v2 v3 v4 v6 v8 v9 v10 st) n (v4, v6, v8, v10, st) = some r) (hE : (fun t => ∀ (H : Heap) (locs : List Loc) (ls : Array Slot), XH E (sg t.2.2.2) s H locs → lv_has ls 13 [(0, .ref (E.ad 68)), (1, .int v1), (2, .int v2), (3, .int v3), (4, .long t.1), (6, .long t.2.1), (8, .int t.2.2.1), (9, .int v9)] → W p l e rmX6_tellGround s m args below meth c H locs 0 0 Q (F0 m 97 ls [])) r) {H : Heap} {locs : List Loc} {ls : Array Slot} (h : XH E (sg st) s H locs) (hl : lv_has ls 13 [(0, .ref (E.ad 68)), (1, .int v1), (2, .int v2), (3, .int v3), (4, .long v4), (6, .long v6), (8, .int v8), (9, .int v9), (10, .int v10)]) : W p l e rmX6_tellGround s m args below meth c H locs 0 0 Q (F0 m 43 ls []) := by
  refine iter_W (G := fun t => ∀ (H : Heap) (locs : List Loc) (ls : Array Slot), XH E (sg t.2.2.2.2) s H locs → lv_has ls 13 [(0, .ref (E.ad 68)), (1, .int v1), (2, .int v2), (3, .int v3), (4, .long t.1), (6, .long t.2.1), (8, .int t.2.2.1), (9, .int v9), (10, .int t.2.2.2.1)] → W p l e rmX6_tellGround s m args below meth c H locs 0 0 Q (F0 m 43 ls [])) (E := fun t => ∀ (H : Heap) (locs : List Loc) (ls : Array Slot), XH E (sg t.2.2.2) s H locs → lv_has ls 13 [(0, .ref (E.ad 68)), (1, .int v1), (2, .int v2), (3, .int v3), (4, .long t.1), (6, .long t.2.1), (8, .int t.2.2.1), (9, .int v9)] → W p l e rmX6_tellGround s m args below meth c H locs 0 0 Q (F0 m 97 ls [])) (fun t x hx K H locs ls h hl => ?_) n _ r hx hE H locs ls h hl
  obtain ⟨v4, v6, v8, v10, st⟩ := t
  exact bX6_tellGround_43 C hI v1 v2 v3 v4 v6 v8 v9 v10 st hx (fun _ _ _ _ _ z => z) (fun _ _ _ _ z => z) K h hl
def fX6_tellGround_28 (v1 : Int32) (v2 : Int32) (v3 : Int32) (v4 : Int64) (v6 : Int64) (v8 : Int32) (v9 : Int32) (st : St) : Option ((Int64 × Int64 × Int32 × Int32 × St) ⊕ (Int64 × Int64 × Int32 × St)) :=
  if ((v3 + (1 : Int32)) / (2 : Int32)) < v9 then
    some (.inr (v4, v6, v8, st))
  else
    nm (v2 / (2 : Int32)) fun v10_9 =>
    bd (iter (u5 fun z4 z6 z8 z10 zst => fX6_tellGround_43 v1 v2 v3 z4 z6 z8 v9 z10 zst) FU (v4, v6, v8, v10_9, st)) (u4 fun v4_18 v6_18 v8_18 st_18 =>
    nm (v9 + (1 : Int32)) fun v9_19 =>
    some (.inl (v4_18, v6_18, v8_18, v9_19, st_18)))
set_option maxHeartbeats 1000000 in
theorem bX6_tellGround_28 (C : Cx E s0 b p s m args meth c cX6_tellGround 13 "EarthMeshModel" none) (hI : Sx E) (v1 : Int32) (v2 : Int32) (v3 : Int32) (v4 : Int64) (v6 : Int64) (v8 : Int32) (v9 : Int32) (st : St) {x : (Int64 × Int64 × Int32 × Int32 × St) ⊕ (Int64 × Int64 × Int32 × St)} (hx : fX6_tellGround_28 v1 v2 v3 v4 v6 v8 v9 st = some x) {Q : State → Prop} {G : Int64 × Int64 × Int32 × Int32 × St → Prop} {X : Int64 × Int64 × Int32 × St → Prop} (hG : ∀ (w4 : Int64) (w6 : Int64) (w8 : Int32) (w9 : Int32) (wst : St), G (w4, w6, w8, w9, wst) → ∀ (H : Heap) (locs : List Loc) (ls : Array Slot), XH E (sg wst) s H locs → lv_has ls 13 [(0, .ref (E.ad 68)), (1, .int v1), (2, .int v2), (3, .int v3), (4, .long w4), (6, .long w6), (8, .int w8), (9, .int w9)] → W p l e rmX6_tellGround s m args below meth c H locs 0 0 Q (F0 m 28 ls [])) (hE0 : ∀ (w4 : Int64) (w6 : Int64) (w8 : Int32) (wst : St), X (w4, w6, w8, wst) → ∀ (H : Heap) (locs : List Loc) (ls : Array Slot), XH E (sg wst) s H locs → lv_has ls 13 [(0, .ref (E.ad 68)), (1, .int v1), (4, .long w4), (6, .long w6), (8, .int w8)] → W p l e rmX6_tellGround s m args below meth c H locs 0 0 Q (F0 m 103 ls [])) (K : Kx G X x) {H : Heap} {locs : List Loc} {ls : Array Slot} (h : XH E (sg st) s H locs) (hl : lv_has ls 13 [(0, .ref (E.ad 68)), (1, .int v1), (2, .int v2), (3, .int v3), (4, .long v4), (6, .long v6), (8, .int v8), (9, .int v9)]) : W p l e rmX6_tellGround s m args below meth c H locs 0 0 Q (F0 m 28 ls []) := by
  unfold fX6_tellGround_28 at hx
  refine lv_iload C.x C.bc dX6_tellGround_28 (lv_at hl 7 rfl) ?_
  refine lv_iload_n C.x C.bc dX6_tellGround_30 rfl (lv_at hl 3 rfl) ?_
  refine lv_iconst (v := (1 : Int32)) C.x C.bc dX6_tellGround_31 (by decide) ?_
  refine lv_iadd C.x C.bc dX6_tellGround_32 ?_
  refine lv_iconst (v := (2 : Int32)) C.x C.bc dX6_tellGround_33 (by decide) ?_
  refine lv_idiv C.x C.bc dX6_tellGround_34 (by decide) ?_
  refine lv_icmp_gt (tgt := 103) C.x C.bc dX6_tellGround_35 (by decide) (fun c_8 => ?_) (fun c_8 => ?_)
  · have hx := ge_t hx c_8
    obtain rfl := Option.some.inj hx
    exact hE0 _ _ _ _ K _ _ _ h (lv_sub hl [0, 1, 4, 5, 6] rfl)
  · have hx := ge_f hx c_8
    refine lv_iload_n C.x C.bc dX6_tellGround_38 rfl (lv_at hl 2 rfl) ?_
    refine lv_iconst (v := (2 : Int32)) C.x C.bc dX6_tellGround_39 (by decide) ?_
    refine lv_idiv C.x C.bc dX6_tellGround_40 (by decide) ?_
    obtain ⟨v10_9, e_9, hx⟩ := nm_x hx
    refine x_ti e_9 ?_
    refine lv_istore (lv' := [(10, .int v10_9), (0, .ref (E.ad 68)), (1, .int v1), (2, .int v2), (3, .int v3), (4, .long v4), (6, .long v6), (8, .int v8), (9, .int v9)]) C.x C.bc dX6_tellGround_41 hl (by decide) rfl (fun ls hl => ?_)
    obtain ⟨⟨v4_18, v6_18, v8_18, st_18⟩, hi_18, hx⟩ := bd_e hx
    have hx := u4_e hx
    refine pX6_tellGround_43 C hI v1 v2 v3 v9 hi_18 (fun H locs ls h hl => ?_) h (lv_sub hl [1, 2, 3, 4, 5, 6, 7, 8, 0] rfl)
    obtain ⟨v9_19, e_19, hx⟩ := nm_x hx
    refine lv_iinc (v := v9_19) (lv' := [(9, .int v9_19), (0, .ref (E.ad 68)), (1, .int v1), (2, .int v2), (3, .int v3), (4, .long v4_18), (6, .long v6_18), (8, .int v8_18)]) C.x C.bc dX6_tellGround_97 hl (k := 7) rfl (by rw [e_19]; rfl) (by decide) rfl (fun ls hl => ?_)
    refine lv_goto (tgt := 28) C.x C.bc dX6_tellGround_100 (by decide) ?_
    obtain rfl := Option.some.inj hx
    exact hG _ _ _ _ _ K _ _ _ h (lv_sub hl [1, 2, 3, 4, 5, 6, 7, 0] rfl)
set_option maxHeartbeats 1000000 in
theorem pX6_tellGround_28 (C : Cx E s0 b p s m args meth c cX6_tellGround 13 "EarthMeshModel" none) (hI : Sx E) (v1 : Int32) (v2 : Int32) (v3 : Int32) {Q : State → Prop} {v4 : Int64} {v6 : Int64} {v8 : Int32} {v9 : Int32} {st : St} {n : Nat} {r : Int64 × Int64 × Int32 × St} (hx : iter (u5 fun v4 v6 v8 v9 st => fX6_tellGround_28 v1 v2 v3 v4 v6 v8 v9 st) n (v4, v6, v8, v9, st) = some r) (hE : (fun t => ∀ (H : Heap) (locs : List Loc) (ls : Array Slot), XH E (sg t.2.2.2) s H locs → lv_has ls 13 [(0, .ref (E.ad 68)), (1, .int v1), (4, .long t.1), (6, .long t.2.1), (8, .int t.2.2.1)] → W p l e rmX6_tellGround s m args below meth c H locs 0 0 Q (F0 m 103 ls [])) r) {H : Heap} {locs : List Loc} {ls : Array Slot} (h : XH E (sg st) s H locs) (hl : lv_has ls 13 [(0, .ref (E.ad 68)), (1, .int v1), (2, .int v2), (3, .int v3), (4, .long v4), (6, .long v6), (8, .int v8), (9, .int v9)]) : W p l e rmX6_tellGround s m args below meth c H locs 0 0 Q (F0 m 28 ls []) := by
  refine iter_W (G := fun t => ∀ (H : Heap) (locs : List Loc) (ls : Array Slot), XH E (sg t.2.2.2.2) s H locs → lv_has ls 13 [(0, .ref (E.ad 68)), (1, .int v1), (2, .int v2), (3, .int v3), (4, .long t.1), (6, .long t.2.1), (8, .int t.2.2.1), (9, .int t.2.2.2.1)] → W p l e rmX6_tellGround s m args below meth c H locs 0 0 Q (F0 m 28 ls [])) (E := fun t => ∀ (H : Heap) (locs : List Loc) (ls : Array Slot), XH E (sg t.2.2.2) s H locs → lv_has ls 13 [(0, .ref (E.ad 68)), (1, .int v1), (4, .long t.1), (6, .long t.2.1), (8, .int t.2.2.1)] → W p l e rmX6_tellGround s m args below meth c H locs 0 0 Q (F0 m 103 ls [])) (fun t x hx K H locs ls h hl => ?_) n _ r hx hE H locs ls h hl
  obtain ⟨v4, v6, v8, v9, st⟩ := t
  exact bX6_tellGround_28 C hI v1 v2 v3 v4 v6 v8 v9 st hx (fun _ _ _ _ _ z => z) (fun _ _ _ _ z => z) K h hl
def fX6_tellGround (v1 : Int32) (st : St) : Option (St) :=
  bd (fX6_pointsWide st) fun r_1 =>
  gd (¬ r_1 = 0) <|
  nm (jrem v1 r_1) fun v2_3 =>
  bd (fX6_pointsWide st) fun r_4 =>
  gd (¬ r_4 = 0) <|
  nm (v1 / r_4) fun v3_6 =>
  nm (v3_6 / (2 : Int32)) fun v9_7 =>
  bd (iter (u5 fun z4 z6 z8 z9 zst => fX6_tellGround_28 v1 v2_3 v3_6 z4 z6 z8 z9 zst) FU ((0 : Int64), (0 : Int64), (0 : Int32), v9_7, st)) (u4 fun v4_20 v6_20 v8_20 st_20 =>
  gd (¬ v8_20 = 0) <|
  gd (inB (3 : Int32) 46) <|
  gd (inB (4 : Int32) 46) <|
  gd (inB v1 35) <|
  nm (uL st_20 79 v1.toNatClampNeg (((v4_20 * (((4 : Int32) / v8_20).toInt64)) * ((st_20.1 70 (3 : Int32).toNatClampNeg).toInt64)) * ((st_20.1 70 (4 : Int32).toNatClampNeg).toInt64))) fun st_25 =>
  gd (inB (3 : Int32) 46) <|
  gd (inB v1 35) <|
  gd (inB v1 35) <|
  nm (uL st_25 80 v1.toNatClampNeg ((((40 : Int64) * ((st_25.1 70 (3 : Int32).toNatClampNeg).toInt64)) * v6_20) - (st_25.2.1 79 v1.toNatClampNeg))) fun st_29 =>
  some st_29)
set_option maxHeartbeats 1000000 in
theorem bX6_tellGround (C : Cx E s0 b p s m args meth c cX6_tellGround 13 "EarthMeshModel" none) (hI : Sx E) (v1 : Int32) (st : St) {x : St} (hx : fX6_tellGround v1 st = some x) {H : Heap} {locs : List Loc} {ls : Array Slot} (h : XH E (sg st) s H locs) (hl : lv_has ls 13 [(0, .ref (E.ad 68)), (1, .int v1)]) : W p l e rmX6_tellGround s m args below meth c H locs 0 0 (MQ below (Qx E none (sg x)) args s 0 0 (gA E.HB)) (F0 m 0 ls []) := by
  unfold fX6_tellGround at hx
  refine lv_iload_n C.x C.bc dX6_tellGround_0 rfl (lv_at hl 1 rfl) ?_
  refine lv_aload_n C.x C.bc dX6_tellGround_1 rfl (lv_at hl 0 rfl) ?_
  obtain ⟨r_1, hf_1, hx⟩ := bd_e hx
  refine cX6_325_X6_pointsWide C hI h hf_1 ⟨Nat.le_of_ble_eq_true rfl, Nat.le_of_ble_eq_true rfl⟩ ⟨Nat.zero_le _, Nat.zero_le _⟩ hl.1 (Nat.le_of_ble_eq_true rfl) dX6_tellGround_2 (fun H locs h => ?_)
  obtain ⟨g_2, hx⟩ := gd_e hx
  refine y_irem C.x C.bc dX6_tellGround_5 g_2 ?_
  obtain ⟨v2_3, e_3, hx⟩ := nm_x hx
  refine x_ti e_3 ?_
  refine lv_istore_n (lv' := [(2, .int v2_3), (0, .ref (E.ad 68)), (1, .int v1)]) C.x C.bc dX6_tellGround_6 rfl hl (by decide) rfl (fun ls hl => ?_)
  refine lv_iload_n C.x C.bc dX6_tellGround_7 rfl (lv_at hl 2 rfl) ?_
  refine lv_aload_n C.x C.bc dX6_tellGround_8 rfl (lv_at hl 1 rfl) ?_
  obtain ⟨r_4, hf_4, hx⟩ := bd_e hx
  refine cX6_325_X6_pointsWide C hI h hf_4 ⟨Nat.le_of_ble_eq_true rfl, Nat.le_of_ble_eq_true rfl⟩ ⟨Nat.zero_le _, Nat.zero_le _⟩ hl.1 (Nat.le_of_ble_eq_true rfl) dX6_tellGround_9 (fun H locs h => ?_)
  obtain ⟨g_5, hx⟩ := gd_e hx
  refine lv_idiv C.x C.bc dX6_tellGround_12 g_5 ?_
  obtain ⟨v3_6, e_6, hx⟩ := nm_x hx
  refine x_ti e_6 ?_
  refine lv_istore_n (lv' := [(3, .int v3_6), (2, .int v2_3), (0, .ref (E.ad 68)), (1, .int v1)]) C.x C.bc dX6_tellGround_13 rfl hl (by decide) rfl (fun ls hl => ?_)
  refine lv_lconst (v := (0 : Int64)) C.x C.bc dX6_tellGround_14 (by decide) ?_
  refine lv_lstore (lv' := [(4, .long (0 : Int64)), (3, .int v3_6), (2, .int v2_3), (0, .ref (E.ad 68)), (1, .int v1)]) C.x C.bc dX6_tellGround_15 hl (by decide) rfl (fun ls hl => ?_)
  refine lv_lconst (v := (0 : Int64)) C.x C.bc dX6_tellGround_17 (by decide) ?_
  refine lv_lstore (lv' := [(6, .long (0 : Int64)), (4, .long (0 : Int64)), (3, .int v3_6), (2, .int v2_3), (0, .ref (E.ad 68)), (1, .int v1)]) C.x C.bc dX6_tellGround_18 hl (by decide) rfl (fun ls hl => ?_)
  refine lv_iconst (v := (0 : Int32)) C.x C.bc dX6_tellGround_20 (by decide) ?_
  refine lv_istore (lv' := [(8, .int (0 : Int32)), (6, .long (0 : Int64)), (4, .long (0 : Int64)), (3, .int v3_6), (2, .int v2_3), (0, .ref (E.ad 68)), (1, .int v1)]) C.x C.bc dX6_tellGround_21 hl (by decide) rfl (fun ls hl => ?_)
  refine lv_iload_n C.x C.bc dX6_tellGround_23 rfl (lv_at hl 3 rfl) ?_
  refine lv_iconst (v := (2 : Int32)) C.x C.bc dX6_tellGround_24 (by decide) ?_
  refine lv_idiv C.x C.bc dX6_tellGround_25 (by decide) ?_
  obtain ⟨v9_7, e_7, hx⟩ := nm_x hx
  refine x_ti e_7 ?_
  refine lv_istore (lv' := [(9, .int v9_7), (8, .int (0 : Int32)), (6, .long (0 : Int64)), (4, .long (0 : Int64)), (3, .int v3_6), (2, .int v2_3), (0, .ref (E.ad 68)), (1, .int v1)]) C.x C.bc dX6_tellGround_26 hl (by decide) rfl (fun ls hl => ?_)
  obtain ⟨⟨v4_20, v6_20, v8_20, st_20⟩, hi_20, hx⟩ := bd_e hx
  have hx := u4_e hx
  refine pX6_tellGround_28 C hI v1 v2_3 v3_6 hi_20 (fun H locs ls h hl => ?_) h (lv_sub hl [6, 7, 5, 4, 3, 2, 1, 0] rfl)
  refine lv_aload_n C.x C.bc dX6_tellGround_103 rfl (lv_at hl 0 rfl) ?_
  refine gt_X6_64_68 C hI h dX6_tellGround_104 ?_
  refine lv_iload_n C.x C.bc dX6_tellGround_107 rfl (lv_at hl 1 rfl) ?_
  refine lv_lload C.x C.bc dX6_tellGround_108 (lv_at hl 2 rfl) ?_
  refine lv_iconst (v := (4 : Int32)) C.x C.bc dX6_tellGround_110 (by decide) ?_
  refine lv_iload C.x C.bc dX6_tellGround_111 (lv_at hl 4 rfl) ?_
  obtain ⟨g_21, hx⟩ := gd_e hx
  refine lv_idiv C.x C.bc dX6_tellGround_113 g_21 ?_
  refine lv_i2l (v := (((4 : Int32) / v8_20).toInt64)) C.x C.bc dX6_tellGround_114 rfl ?_
  refine lv_lmul C.x C.bc dX6_tellGround_115 ?_
  refine lv_aload_n C.x C.bc dX6_tellGround_116 rfl (lv_at hl 0 rfl) ?_
  refine gt_X6_31_68 C hI h dX6_tellGround_117 ?_
  refine lv_iconst (v := (3 : Int32)) C.x C.bc dX6_tellGround_120 (by decide) ?_
  obtain ⟨g_22, hx⟩ := gd_e hx
  refine x_iald C h 70 46 (hI 70 (by decide)) k_70 g_22 dX6_tellGround_121 ?_
  refine lv_i2l (v := ((st_20.1 70 (3 : Int32).toNatClampNeg).toInt64)) C.x C.bc dX6_tellGround_122 rfl ?_
  refine lv_lmul C.x C.bc dX6_tellGround_123 ?_
  refine lv_aload_n C.x C.bc dX6_tellGround_124 rfl (lv_at hl 0 rfl) ?_
  refine gt_X6_31_68 C hI h dX6_tellGround_125 ?_
  refine lv_iconst (v := (4 : Int32)) C.x C.bc dX6_tellGround_128 (by decide) ?_
  obtain ⟨g_23, hx⟩ := gd_e hx
  refine x_iald C h 70 46 (hI 70 (by decide)) k_70 g_23 dX6_tellGround_129 ?_
  refine lv_i2l (v := ((st_20.1 70 (4 : Int32).toNatClampNeg).toInt64)) C.x C.bc dX6_tellGround_130 rfl ?_
  refine lv_lmul C.x C.bc dX6_tellGround_131 ?_
  obtain ⟨g_24, hx⟩ := gd_e hx
  obtain ⟨st_25, e_25, hx⟩ := nm_x hx
  refine y_last C h 79 35 (hI 79 (by decide)) k_79 g_24 e_25 dX6_tellGround_132 (fun H locs h => ?_)
  refine lv_aload_n C.x C.bc dX6_tellGround_133 rfl (lv_at hl 0 rfl) ?_
  refine gt_X6_67_68 C hI h dX6_tellGround_134 ?_
  refine lv_iload_n C.x C.bc dX6_tellGround_137 rfl (lv_at hl 1 rfl) ?_
  refine lv_ldc2 (v := (40 : Int64)) C.x C.bc C.ow (C.ts _ q1913) dX6_tellGround_138 ?_
  refine lv_aload_n C.x C.bc dX6_tellGround_141 rfl (lv_at hl 0 rfl) ?_
  refine gt_X6_31_68 C hI h dX6_tellGround_142 ?_
  refine lv_iconst (v := (3 : Int32)) C.x C.bc dX6_tellGround_145 (by decide) ?_
  obtain ⟨g_26, hx⟩ := gd_e hx
  refine x_iald C h 70 46 (hI 70 (by decide)) k_70 g_26 dX6_tellGround_146 ?_
  refine lv_i2l (v := ((st_25.1 70 (3 : Int32).toNatClampNeg).toInt64)) C.x C.bc dX6_tellGround_147 rfl ?_
  refine lv_lmul C.x C.bc dX6_tellGround_148 ?_
  refine lv_lload C.x C.bc dX6_tellGround_149 (lv_at hl 3 rfl) ?_
  refine lv_lmul C.x C.bc dX6_tellGround_151 ?_
  refine lv_aload_n C.x C.bc dX6_tellGround_152 rfl (lv_at hl 0 rfl) ?_
  refine gt_X6_64_68 C hI h dX6_tellGround_153 ?_
  refine lv_iload_n C.x C.bc dX6_tellGround_156 rfl (lv_at hl 1 rfl) ?_
  obtain ⟨g_27, hx⟩ := gd_e hx
  refine x_lald C h 79 35 (hI 79 (by decide)) k_79 g_27 dX6_tellGround_157 ?_
  refine lv_lsub C.x C.bc dX6_tellGround_158 ?_
  obtain ⟨g_28, hx⟩ := gd_e hx
  obtain ⟨st_29, e_29, hx⟩ := nm_x hx
  refine y_last C h 80 35 (hI 80 (by decide)) k_80 g_28 e_29 dX6_tellGround_159 (fun H locs h => ?_)
  obtain rfl := Option.some.inj hx
  exact x_vret C h dX6_tellGround_160
theorem mX6_tellGround (hG : G0 E s0 b) (hI : Sx E) {v1 : Int32} {x : St} (hx : fX6_tellGround v1 st = some x) : Mt l E s0 yX6_tellGround cX6_tellGround 13 none rmX6_tellGround [.ref (E.ad 68), .int v1] (sg st) none E (sg x) :=
  Mt.of hG (by decide) (Nat.le_of_ble_eq_true rfl) (fun p e s m below meth c ls C h hl => bX6_tellGround C hI v1 st hx h hl)
theorem cX6_335_X6_tellGround {a0 : Int32} {st' : St} (C : Cx E s0 b p s m args meth c cc nL "EarthMeshModel" rt) (hI : Sx E) (h : XH E (sg st) s H locs) (hf : fX6_tellGround a0 st = some st') (hR : rmX6_tellGround.frames + 1 ≤ R.frames ∧ 16 + (13 + 11) + rmX6_tellGround.locals ≤ R.locals) (h0 : cells ≤ R.cells ∧ slots ≤ R.slots) (hsz : ls.size = nL) (hcat : (rest.map fun v => v.category).sum ≤ 16) (hdg : decode cc pc = .ok (.invokevirtual 335, 3)) (kk : ∀ (H : Heap) (locs : List Loc), XH E (sg st') s H locs → W p l e R s m args below meth c H locs cells slots Q (F0 m (pc + 3) ls (rest))) : W p l e R s m args below meth c H locs cells slots Q (F0 m pc ls (.int a0 :: .ref (E.ad 68) :: rest)) :=
  x_callV (n := 1) (As := [.int a0]) C h 68 5 (hI 68 (by decide)) k_68 rfl (mX6_tellGround C.g hI hf) (lw_V q1908 q1910 qs101 q136 q1911) ⟨rfl, by decide +kernel, by decide +kernel, by decide +kernel⟩ hR ⟨rfl, rfl⟩ h0 rfl hsz rfl hcat hdg kk
abbrev rmX6_tellsGround : Room := { frames := 6, cells := 0, slots := 0, locals := 204 }
def fX6_tellsGround_11 (v1 : Int32) (st : St) : Option ((Int32 × St) ⊕ (St)) :=
  bd (fX6_points st) fun r_3 =>
  if r_3 ≤ v1 then
    some (.inr st)
  else
    bd (fX6_tellGround v1 st) fun st_5 =>
    nm (v1 + (1 : Int32)) fun v1_6 =>
    some (.inl (v1_6, st_5))
set_option maxHeartbeats 1000000 in
theorem bX6_tellsGround_11 (C : Cx E s0 b p s m args meth c cX6_tellsGround 2 "EarthMeshModel" (some .boolean)) (hI : Sx E) (v1 : Int32) (st : St) {x : (Int32 × St) ⊕ (St)} (hx : fX6_tellsGround_11 v1 st = some x) {Q : State → Prop} {G : Int32 × St → Prop} {X : St → Prop} (hG : ∀ (w1 : Int32) (wst : St), G (w1, wst) → ∀ (H : Heap) (locs : List Loc) (ls : Array Slot), XH E (sg wst) s H locs → lv_has ls 2 [(0, .ref (E.ad 68)), (1, .int w1)] → W p l e rmX6_tellsGround s m args below meth c H locs 0 0 Q (F0 m 11 ls [])) (hE0 : ∀ (wst : St), X wst → ∀ (H : Heap) (locs : List Loc) (ls : Array Slot), XH E (sg wst) s H locs → lv_has ls 2 [] → W p l e rmX6_tellsGround s m args below meth c H locs 0 0 Q (F0 m 30 ls [])) (K : Kx G X x) {H : Heap} {locs : List Loc} {ls : Array Slot} (h : XH E (sg st) s H locs) (hl : lv_has ls 2 [(0, .ref (E.ad 68)), (1, .int v1)]) : W p l e rmX6_tellsGround s m args below meth c H locs 0 0 Q (F0 m 11 ls []) := by
  unfold fX6_tellsGround_11 at hx
  refine lv_iload_n C.x C.bc dX6_tellsGround_11 rfl (lv_at hl 1 rfl) ?_
  refine lv_aload_n C.x C.bc dX6_tellsGround_12 rfl (lv_at hl 0 rfl) ?_
  obtain ⟨r_3, hf_3, hx⟩ := bd_e hx
  refine cX6_332_X6_points C hI h hf_3 ⟨Nat.le_of_ble_eq_true rfl, Nat.le_of_ble_eq_true rfl⟩ ⟨Nat.zero_le _, Nat.zero_le _⟩ hl.1 (Nat.le_of_ble_eq_true rfl) dX6_tellsGround_13 (fun H locs h => ?_)
  refine lv_icmp_ge (tgt := 30) C.x C.bc dX6_tellsGround_16 (by decide) (fun c_4 => ?_) (fun c_4 => ?_)
  · have hx := ge_t hx c_4
    obtain rfl := Option.some.inj hx
    exact hE0 _ K _ _ _ h (lv_sub hl [] rfl)
  · have hx := ge_f hx c_4
    refine lv_aload_n C.x C.bc dX6_tellsGround_19 rfl (lv_at hl 0 rfl) ?_
    refine lv_iload_n C.x C.bc dX6_tellsGround_20 rfl (lv_at hl 1 rfl) ?_
    obtain ⟨st_5, hf_5, hx⟩ := bd_e hx
    refine cX6_335_X6_tellGround C hI h hf_5 ⟨Nat.le_of_ble_eq_true rfl, Nat.le_of_ble_eq_true rfl⟩ ⟨Nat.zero_le _, Nat.zero_le _⟩ hl.1 (Nat.le_of_ble_eq_true rfl) dX6_tellsGround_21 (fun H locs h => ?_)
    obtain ⟨v1_6, e_6, hx⟩ := nm_x hx
    refine lv_iinc (v := v1_6) (lv' := [(1, .int v1_6), (0, .ref (E.ad 68))]) C.x C.bc dX6_tellsGround_24 hl (k := 1) rfl (by rw [e_6]; rfl) (by decide) rfl (fun ls hl => ?_)
    refine lv_goto (tgt := 11) C.x C.bc dX6_tellsGround_27 (by decide) ?_
    obtain rfl := Option.some.inj hx
    exact hG _ _ K _ _ _ h (lv_sub hl [1, 0] rfl)
set_option maxHeartbeats 1000000 in
theorem pX6_tellsGround_11 (C : Cx E s0 b p s m args meth c cX6_tellsGround 2 "EarthMeshModel" (some .boolean)) (hI : Sx E) {Q : State → Prop} {v1 : Int32} {st : St} {n : Nat} {r : St} (hx : iter (u2 fun v1 st => fX6_tellsGround_11 v1 st) n (v1, st) = some r) (hE : (fun t => ∀ (H : Heap) (locs : List Loc) (ls : Array Slot), XH E (sg t) s H locs → lv_has ls 2 [] → W p l e rmX6_tellsGround s m args below meth c H locs 0 0 Q (F0 m 30 ls [])) r) {H : Heap} {locs : List Loc} {ls : Array Slot} (h : XH E (sg st) s H locs) (hl : lv_has ls 2 [(0, .ref (E.ad 68)), (1, .int v1)]) : W p l e rmX6_tellsGround s m args below meth c H locs 0 0 Q (F0 m 11 ls []) := by
  refine iter_W (G := fun t => ∀ (H : Heap) (locs : List Loc) (ls : Array Slot), XH E (sg t.2) s H locs → lv_has ls 2 [(0, .ref (E.ad 68)), (1, .int t.1)] → W p l e rmX6_tellsGround s m args below meth c H locs 0 0 Q (F0 m 11 ls [])) (E := fun t => ∀ (H : Heap) (locs : List Loc) (ls : Array Slot), XH E (sg t) s H locs → lv_has ls 2 [] → W p l e rmX6_tellsGround s m args below meth c H locs 0 0 Q (F0 m 30 ls [])) (fun t x hx K H locs ls h hl => ?_) n _ r hx hE H locs ls h hl
  obtain ⟨v1, st⟩ := t
  exact bX6_tellsGround_11 C hI v1 st hx (fun _ _ z => z) (fun _ z => z) K h hl
def fX6_tellsGround (st : St) : Option (Int32 × St) :=
  bd (fX6_solvesNow st) <| u2 fun r_1 st_1 =>
  if r_1 = 0 then
    some ((0 : Int32), st_1)
  else
    bd (iter (u2 fun z1 zst => fX6_tellsGround_11 z1 zst) FU ((0 : Int32), st_1)) (u1 fun st_7 =>
    some ((1 : Int32), st_7))
set_option maxHeartbeats 1000000 in
theorem bX6_tellsGround (C : Cx E s0 b p s m args meth c cX6_tellsGround 2 "EarthMeshModel" (some .boolean)) (hI : Sx E) (st : St) {x : Int32 × St} (hx : fX6_tellsGround st = some x) {H : Heap} {locs : List Loc} {ls : Array Slot} (h : XH E (sg st) s H locs) (hl : lv_has ls 2 [(0, .ref (E.ad 68))]) : W p l e rmX6_tellsGround s m args below meth c H locs 0 0 (MQ below (Qx E (some (.int x.1)) (sg x.2)) args s 0 0 (gA E.HB)) (F0 m 0 ls []) := by
  unfold fX6_tellsGround at hx
  refine lv_aload_n C.x C.bc dX6_tellsGround_0 rfl (lv_at hl 0 rfl) ?_
  obtain ⟨⟨r_1, st_1⟩, hf_1, hx⟩ := bd_e hx
  have hx := u2_e hx
  refine cX6_274_X6_solvesNow C hI h hf_1 ⟨Nat.le_of_ble_eq_true rfl, Nat.le_of_ble_eq_true rfl⟩ ⟨Nat.zero_le _, Nat.zero_le _⟩ hl.1 (Nat.le_of_ble_eq_true rfl) dX6_tellsGround_1 (fun H locs h => ?_)
  refine lv_if_ne (tgt := 9) C.x C.bc dX6_tellsGround_4 (by decide) (fun c_2 => ?_) (fun c_2 => ?_)
  · have hx := ge_f hx c_2
    refine lv_iconst (v := (0 : Int32)) C.x C.bc dX6_tellsGround_9 (by decide) ?_
    refine lv_istore_n (lv' := [(1, .int (0 : Int32)), (0, .ref (E.ad 68))]) C.x C.bc dX6_tellsGround_10 rfl hl (by decide) rfl (fun ls hl => ?_)
    obtain ⟨st_7, hi_7, hx⟩ := bd_e hx
    have hx := u1_e hx
    refine pX6_tellsGround_11 C hI hi_7 (fun H locs ls h hl => ?_) h (lv_sub hl [1, 0] rfl)
    refine lv_iconst (v := (1 : Int32)) C.x C.bc dX6_tellsGround_30 (by decide) ?_
    obtain rfl := Option.some.inj hx
    exact x_zret (v := (1 : Int32)) C h rfl dX6_tellsGround_31
  · have hx := ge_t hx c_2
    refine lv_iconst (v := (0 : Int32)) C.x C.bc dX6_tellsGround_7 (by decide) ?_
    obtain rfl := Option.some.inj hx
    exact x_zret (v := (0 : Int32)) C h rfl dX6_tellsGround_8
theorem mX6_tellsGround (hG : G0 E s0 b) (hI : Sx E)  {x : Int32 × St} (hx : fX6_tellsGround st = some x) : Mt l E s0 yX6_tellsGround cX6_tellsGround 2 (some .boolean) rmX6_tellsGround [.ref (E.ad 68)] (sg st) (some (.int x.1)) E (sg x.2) :=
  Mt.of hG (by decide) (Nat.le_of_ble_eq_true rfl) (fun p e s m below meth c ls C h hl => bX6_tellsGround C hI st hx h hl)
theorem cX6_344_X6_tellsGround  {r : Int32} {st' : St} (C : Cx E s0 b p s m args meth c cc nL "EarthMeshModel" rt) (hI : Sx E) (h : XH E (sg st) s H locs) (hf : fX6_tellsGround st = some (r, st')) (hR : rmX6_tellsGround.frames + 1 ≤ R.frames ∧ 16 + (2 + 11) + rmX6_tellsGround.locals ≤ R.locals) (h0 : cells ≤ R.cells ∧ slots ≤ R.slots) (hsz : ls.size = nL) (hcat : (rest.map fun v => v.category).sum ≤ 16) (hdg : decode cc pc = .ok (.invokevirtual 344, 3)) (kk : ∀ (H : Heap) (locs : List Loc), XH E (sg st') s H locs → W p l e R s m args below meth c H locs cells slots Q (F0 m (pc + 3) ls (.int r :: rest))) : W p l e R s m args below meth c H locs cells slots Q (F0 m pc ls (.ref (E.ad 68) :: rest)) :=
  x_callV (n := 0) (As := []) C h 68 5 (hI 68 (by decide)) k_68 rfl (mX6_tellsGround C.g hI hf) (lw_V q1896 q1898 qs98 q136 q1899) ⟨rfl, by decide +kernel, by decide +kernel, by decide +kernel⟩ hR ⟨rfl, rfl⟩ h0 rfl hsz rfl hcat hdg kk
abbrev rmX6_beside : Room := { frames := 2, cells := 0, slots := 0, locals := 56 }
def fX6_beside (v1 : Int32) (v2 : Int32) (st : St) : Option (Int32) :=
  if v2 = 0 then
    bd (fX6_pointsWide st) fun r_6 =>
    gd (¬ r_6 = 0) <|
    bd (fX6_pointsWide st) fun r_8 =>
    if r_8 ≤ ((jrem v1 r_6) + (1 : Int32)) then
      some (-1 : Int32)
    else
      some (v1 + (1 : Int32))
  else
    bd (fX6_pointsWide st) fun r_2 =>
    bd (fX6_points st) fun r_3 =>
    if r_3 ≤ (v1 + r_2) then
      some (-1 : Int32)
    else
      bd (fX6_pointsWide st) fun r_5 =>
      some (v1 + r_5)
set_option maxHeartbeats 1000000 in
theorem bX6_beside (C : Cx E s0 b p s m args meth c cX6_beside 3 "EarthMeshModel" (some .int)) (hI : Sx E) (v1 : Int32) (v2 : Int32) (st : St) {x : Int32} (hx : fX6_beside v1 v2 st = some x) {H : Heap} {locs : List Loc} {ls : Array Slot} (h : XH E (sg st) s H locs) (hl : lv_has ls 3 [(0, .ref (E.ad 68)), (1, .int v1), (2, .int v2)]) : W p l e rmX6_beside s m args below meth c H locs 0 0 (MQ below (Qx E (some (.int x)) (sg st)) args s 0 0 (gA E.HB)) (F0 m 0 ls []) := by
  unfold fX6_beside at hx
  refine lv_iload_n C.x C.bc dX6_beside_0 rfl (lv_at hl 2 rfl) ?_
  refine lv_if_ne (tgt := 27) C.x C.bc dX6_beside_1 (by decide) (fun c_1 => ?_) (fun c_1 => ?_)
  · have hx := ge_f hx c_1
    refine lv_iload_n C.x C.bc dX6_beside_27 rfl (lv_at hl 1 rfl) ?_
    refine lv_aload_n C.x C.bc dX6_beside_28 rfl (lv_at hl 0 rfl) ?_
    obtain ⟨r_2, hf_2, hx⟩ := bd_e hx
    refine cX6_325_X6_pointsWide C hI h hf_2 ⟨Nat.le_of_ble_eq_true rfl, Nat.le_of_ble_eq_true rfl⟩ ⟨Nat.zero_le _, Nat.zero_le _⟩ hl.1 (Nat.le_of_ble_eq_true rfl) dX6_beside_29 (fun H locs h => ?_)
    refine lv_iadd C.x C.bc dX6_beside_32 ?_
    refine lv_aload_n C.x C.bc dX6_beside_33 rfl (lv_at hl 0 rfl) ?_
    obtain ⟨r_3, hf_3, hx⟩ := bd_e hx
    refine cX6_332_X6_points C hI h hf_3 ⟨Nat.le_of_ble_eq_true rfl, Nat.le_of_ble_eq_true rfl⟩ ⟨Nat.zero_le _, Nat.zero_le _⟩ hl.1 (Nat.le_of_ble_eq_true rfl) dX6_beside_34 (fun H locs h => ?_)
    refine lv_icmp_ge (tgt := 49) C.x C.bc dX6_beside_37 (by decide) (fun c_4 => ?_) (fun c_4 => ?_)
    · have hx := ge_t hx c_4
      refine lv_iconst (v := (-1 : Int32)) C.x C.bc dX6_beside_49 (by decide) ?_
      obtain rfl := Option.some.inj hx
      exact x_iret C h dX6_beside_50
    · have hx := ge_f hx c_4
      refine lv_iload_n C.x C.bc dX6_beside_40 rfl (lv_at hl 1 rfl) ?_
      refine lv_aload_n C.x C.bc dX6_beside_41 rfl (lv_at hl 0 rfl) ?_
      obtain ⟨r_5, hf_5, hx⟩ := bd_e hx
      refine cX6_325_X6_pointsWide C hI h hf_5 ⟨Nat.le_of_ble_eq_true rfl, Nat.le_of_ble_eq_true rfl⟩ ⟨Nat.zero_le _, Nat.zero_le _⟩ hl.1 (Nat.le_of_ble_eq_true rfl) dX6_beside_42 (fun H locs h => ?_)
      refine lv_iadd C.x C.bc dX6_beside_45 ?_
      refine lv_goto (tgt := 50) C.x C.bc dX6_beside_46 (by decide) ?_
      obtain rfl := Option.some.inj hx
      exact x_iret C h dX6_beside_50
  · have hx := ge_t hx c_1
    refine lv_iload_n C.x C.bc dX6_beside_4 rfl (lv_at hl 1 rfl) ?_
    refine lv_aload_n C.x C.bc dX6_beside_5 rfl (lv_at hl 0 rfl) ?_
    obtain ⟨r_6, hf_6, hx⟩ := bd_e hx
    refine cX6_325_X6_pointsWide C hI h hf_6 ⟨Nat.le_of_ble_eq_true rfl, Nat.le_of_ble_eq_true rfl⟩ ⟨Nat.zero_le _, Nat.zero_le _⟩ hl.1 (Nat.le_of_ble_eq_true rfl) dX6_beside_6 (fun H locs h => ?_)
    obtain ⟨g_7, hx⟩ := gd_e hx
    refine y_irem C.x C.bc dX6_beside_9 g_7 ?_
    refine lv_iconst (v := (1 : Int32)) C.x C.bc dX6_beside_10 (by decide) ?_
    refine lv_iadd C.x C.bc dX6_beside_11 ?_
    refine lv_aload_n C.x C.bc dX6_beside_12 rfl (lv_at hl 0 rfl) ?_
    obtain ⟨r_8, hf_8, hx⟩ := bd_e hx
    refine cX6_325_X6_pointsWide C hI h hf_8 ⟨Nat.le_of_ble_eq_true rfl, Nat.le_of_ble_eq_true rfl⟩ ⟨Nat.zero_le _, Nat.zero_le _⟩ hl.1 (Nat.le_of_ble_eq_true rfl) dX6_beside_13 (fun H locs h => ?_)
    refine lv_icmp_ge (tgt := 25) C.x C.bc dX6_beside_16 (by decide) (fun c_9 => ?_) (fun c_9 => ?_)
    · have hx := ge_t hx c_9
      refine lv_iconst (v := (-1 : Int32)) C.x C.bc dX6_beside_25 (by decide) ?_
      obtain rfl := Option.some.inj hx
      exact x_iret C h dX6_beside_26
    · have hx := ge_f hx c_9
      refine lv_iload_n C.x C.bc dX6_beside_19 rfl (lv_at hl 1 rfl) ?_
      refine lv_iconst (v := (1 : Int32)) C.x C.bc dX6_beside_20 (by decide) ?_
      refine lv_iadd C.x C.bc dX6_beside_21 ?_
      refine lv_goto (tgt := 26) C.x C.bc dX6_beside_22 (by decide) ?_
      obtain rfl := Option.some.inj hx
      exact x_iret C h dX6_beside_26
theorem mX6_beside (hG : G0 E s0 b) (hI : Sx E) {v1 : Int32} {v2 : Int32} {x : Int32} (hx : fX6_beside v1 v2 st = some x) : Mt l E s0 yX6_beside cX6_beside 3 (some .int) rmX6_beside [.ref (E.ad 68), .int v1, .int v2] (sg st) (some (.int x)) E (sg st) :=
  Mt.of hG (by decide) (Nat.le_of_ble_eq_true rfl) (fun p e s m below meth c ls C h hl => bX6_beside C hI v1 v2 st hx h hl)
theorem cX6_338_X6_beside {a0 : Int32} {a1 : Int32} {r : Int32} (C : Cx E s0 b p s m args meth c cc nL "EarthMeshModel" rt) (hI : Sx E) (h : XH E (sg st) s H locs) (hf : fX6_beside a0 a1 st = some r) (hR : rmX6_beside.frames + 1 ≤ R.frames ∧ 16 + (3 + 11) + rmX6_beside.locals ≤ R.locals) (h0 : cells ≤ R.cells ∧ slots ≤ R.slots) (hsz : ls.size = nL) (hcat : (rest.map fun v => v.category).sum ≤ 16) (hdg : decode cc pc = .ok (.invokevirtual 338, 3)) (kk : ∀ (H : Heap) (locs : List Loc), XH E (sg st) s H locs → W p l e R s m args below meth c H locs cells slots Q (F0 m (pc + 3) ls (.int r :: rest))) : W p l e R s m args below meth c H locs cells slots Q (F0 m pc ls (.int a1 :: .int a0 :: .ref (E.ad 68) :: rest)) :=
  x_callV (n := 2) (As := [.int a0, .int a1]) C h 68 5 (hI 68 (by decide)) k_68 rfl (mX6_beside C.g hI hf) (lw_V q1915 q1917 qs102 q136 q1918) ⟨rfl, by decide +kernel, by decide +kernel, by decide +kernel⟩ hR ⟨rfl, rfl⟩ h0 rfl hsz rfl hcat hdg kk
abbrev rmX6_step : Room := { frames := 3, cells := 0, slots := 0, locals := 86 }
def fX6_step (v1 : Int32) (v2 : Int32) (st : St) : Option (Int64) :=
  gd (inB v1 35) <|
  bd (fX6_beside v1 v2 st) fun r_2 =>
  gd (inB r_2 35) <|
  nm ((st.2.1 79 v1.toNatClampNeg) - (st.2.1 79 r_2.toNatClampNeg)) fun v3_4 =>
  if v3_4 < (0 : Int64) then
    some (-v3_4)
  else
    some v3_4
set_option maxHeartbeats 1000000 in
theorem bX6_step (C : Cx E s0 b p s m args meth c cX6_step 5 "EarthMeshModel" (some .long)) (hI : Sx E) (v1 : Int32) (v2 : Int32) (st : St) {x : Int64} (hx : fX6_step v1 v2 st = some x) {H : Heap} {locs : List Loc} {ls : Array Slot} (h : XH E (sg st) s H locs) (hl : lv_has ls 5 [(0, .ref (E.ad 68)), (1, .int v1), (2, .int v2)]) : W p l e rmX6_step s m args below meth c H locs 0 0 (MQ below (Qx E (some (.long x)) (sg st)) args s 0 0 (gA E.HB)) (F0 m 0 ls []) := by
  unfold fX6_step at hx
  refine lv_aload_n C.x C.bc dX6_step_0 rfl (lv_at hl 0 rfl) ?_
  refine gt_X6_64_68 C hI h dX6_step_1 ?_
  refine lv_iload_n C.x C.bc dX6_step_4 rfl (lv_at hl 1 rfl) ?_
  obtain ⟨g_1, hx⟩ := gd_e hx
  refine x_lald C h 79 35 (hI 79 (by decide)) k_79 g_1 dX6_step_5 ?_
  refine lv_aload_n C.x C.bc dX6_step_6 rfl (lv_at hl 0 rfl) ?_
  refine gt_X6_64_68 C hI h dX6_step_7 ?_
  refine lv_aload_n C.x C.bc dX6_step_10 rfl (lv_at hl 0 rfl) ?_
  refine lv_iload_n C.x C.bc dX6_step_11 rfl (lv_at hl 1 rfl) ?_
  refine lv_iload_n C.x C.bc dX6_step_12 rfl (lv_at hl 2 rfl) ?_
  obtain ⟨r_2, hf_2, hx⟩ := bd_e hx
  refine cX6_338_X6_beside C hI h hf_2 ⟨Nat.le_of_ble_eq_true rfl, Nat.le_of_ble_eq_true rfl⟩ ⟨Nat.zero_le _, Nat.zero_le _⟩ hl.1 (Nat.le_of_ble_eq_true rfl) dX6_step_13 (fun H locs h => ?_)
  obtain ⟨g_3, hx⟩ := gd_e hx
  refine x_lald C h 79 35 (hI 79 (by decide)) k_79 g_3 dX6_step_16 ?_
  refine lv_lsub C.x C.bc dX6_step_17 ?_
  obtain ⟨v3_4, e_4, hx⟩ := nm_x hx
  refine x_tl e_4 ?_
  refine lv_lstore_n (lv' := [(3, .long v3_4), (0, .ref (E.ad 68)), (1, .int v1), (2, .int v2)]) C.x C.bc dX6_step_18 rfl hl (by decide) rfl (fun ls hl => ?_)
  refine lv_lload_n C.x C.bc dX6_step_19 rfl (lv_at hl 0 rfl) ?_
  refine lv_lconst (v := (0 : Int64)) C.x C.bc dX6_step_20 (by decide) ?_
  refine W.lcmp C.x C.bc dX6_step_21 ?_
  refine lv_if_ge (tgt := 30) C.x C.bc dX6_step_22 (by decide) (fun c_5 => ?_) (fun c_5 => ?_)
  · have c_5 := (lc_ge _ _).mp c_5
    have hx := ge_f hx c_5
    refine lv_lload_n C.x C.bc dX6_step_30 rfl (lv_at hl 0 rfl) ?_
    obtain rfl := Option.some.inj hx
    exact x_lret C h dX6_step_31
  · have c_5 := Classical.not_not.mp ((not_congr (lc_ge _ _)).mp c_5)
    have hx := ge_t hx c_5
    refine lv_lload_n C.x C.bc dX6_step_25 rfl (lv_at hl 0 rfl) ?_
    refine lv_lneg C.x C.bc dX6_step_26 ?_
    refine lv_goto (tgt := 31) C.x C.bc dX6_step_27 (by decide) ?_
    obtain rfl := Option.some.inj hx
    exact x_lret C h dX6_step_31
theorem mX6_step (hG : G0 E s0 b) (hI : Sx E) {v1 : Int32} {v2 : Int32} {x : Int64} (hx : fX6_step v1 v2 st = some x) : Mt l E s0 yX6_step cX6_step 5 (some .long) rmX6_step [.ref (E.ad 68), .int v1, .int v2] (sg st) (some (.long x)) E (sg st) :=
  Mt.of hG (by decide) (Nat.le_of_ble_eq_true rfl) (fun p e s m below meth c ls C h hl => bX6_step C hI v1 v2 st hx h hl)
theorem cX6_347_X6_step {a0 : Int32} {a1 : Int32} {r : Int64} (C : Cx E s0 b p s m args meth c cc nL "EarthMeshModel" rt) (hI : Sx E) (h : XH E (sg st) s H locs) (hf : fX6_step a0 a1 st = some r) (hR : rmX6_step.frames + 1 ≤ R.frames ∧ 16 + (5 + 11) + rmX6_step.locals ≤ R.locals) (h0 : cells ≤ R.cells ∧ slots ≤ R.slots) (hsz : ls.size = nL) (hcat : (rest.map fun v => v.category).sum ≤ 16) (hdg : decode cc pc = .ok (.invokevirtual 347, 3)) (kk : ∀ (H : Heap) (locs : List Loc), XH E (sg st) s H locs → W p l e R s m args below meth c H locs cells slots Q (F0 m (pc + 3) ls (.long r :: rest))) : W p l e R s m args below meth c H locs cells slots Q (F0 m pc ls (.int a1 :: .int a0 :: .ref (E.ad 68) :: rest)) :=
  x_callV (n := 2) (As := [.int a0, .int a1]) C h 68 5 (hI 68 (by decide)) k_68 rfl (mX6_step C.g hI hf) (lw_V q1919 q1921 qs103 q136 q1922) ⟨rfl, by decide +kernel, by decide +kernel, by decide +kernel⟩ hR ⟨rfl, rfl⟩ h0 rfl hsz rfl hcat hdg kk
abbrev rmX6_isSafe : Room := { frames := 7, cells := 0, slots := 0, locals := 233 }
def fX6_isSafe_110 (v2 : Int32) (v3 : Int32) (k0 : Int32) (st : St) : Option ((Int32 × Int32) ⊕ (Int32)) :=
  nm (v3 + (1 : Int32)) fun v3_13 =>
  some (.inl (k0, v3_13))
set_option maxHeartbeats 1000000 in
theorem bX6_isSafe_110 (C : Cx E s0 b p s m args meth c cX6_isSafe 4 "EarthMeshModel" (some .boolean)) (hI : Sx E) (v2 : Int32) (v3 : Int32) (k0 : Int32) (st : St) {x : (Int32 × Int32) ⊕ (Int32)} (hx : fX6_isSafe_110 v2 v3 k0 st = some x) {Q : State → Prop} {G : Int32 × Int32 → Prop} {X : Int32 → Prop} (hG : ∀ (w1 : Int32) (w3 : Int32), G (w1, w3) → ∀ (H : Heap) (locs : List Loc) (ls : Array Slot), XH E (sg st) s H locs → lv_has ls 4 [(0, .ref (E.ad 68)), (1, .int w1), (2, .int v2), (3, .int w3)] → W p l e rmX6_isSafe s m args below meth c H locs 0 0 Q (F0 m 60 ls [])) (hE0 : ∀ (w1 : Int32), X w1 → ∀ (H : Heap) (locs : List Loc) (ls : Array Slot), XH E (sg st) s H locs → lv_has ls 4 [(0, .ref (E.ad 68)), (1, .int w1), (2, .int v2)] → W p l e rmX6_isSafe s m args below meth c H locs 0 0 Q (F0 m 117 ls [])) (K : Kx G X x) {H : Heap} {locs : List Loc} {ls : Array Slot} (h : XH E (sg st) s H locs) (hl : lv_has ls 4 [(0, .ref (E.ad 68)), (2, .int v2), (3, .int v3)]) : W p l e rmX6_isSafe s m args below meth c H locs 0 0 Q (F0 m 110 ls [.int k0]) := by
  unfold fX6_isSafe_110 at hx
  refine lv_istore_n (lv' := [(1, .int k0), (0, .ref (E.ad 68)), (2, .int v2), (3, .int v3)]) C.x C.bc dX6_isSafe_110 rfl hl (by decide) rfl (fun ls hl => ?_)
  obtain ⟨v3_13, e_13, hx⟩ := nm_x hx
  refine lv_iinc (v := v3_13) (lv' := [(3, .int v3_13), (1, .int k0), (0, .ref (E.ad 68)), (2, .int v2)]) C.x C.bc dX6_isSafe_111 hl (k := 3) rfl (by rw [e_13]; rfl) (by decide) rfl (fun ls hl => ?_)
  refine lv_goto (tgt := 60) C.x C.bc dX6_isSafe_114 (by decide) ?_
  obtain rfl := Option.some.inj hx
  exact hG _ _ K _ _ _ h (lv_sub hl [2, 1, 3, 0] rfl)
def fX6_isSafe_105 (v2 : Int32) (v3 : Int32) (st : St) : Option ((Int32 × Int32) ⊕ (Int32)) :=
  fX6_isSafe_110 v2 v3 (1 : Int32) st
set_option maxHeartbeats 1000000 in
theorem bX6_isSafe_105 (C : Cx E s0 b p s m args meth c cX6_isSafe 4 "EarthMeshModel" (some .boolean)) (hI : Sx E) (v2 : Int32) (v3 : Int32) (st : St) {x : (Int32 × Int32) ⊕ (Int32)} (hx : fX6_isSafe_105 v2 v3 st = some x) {Q : State → Prop} {G : Int32 × Int32 → Prop} {X : Int32 → Prop} (hG : ∀ (w1 : Int32) (w3 : Int32), G (w1, w3) → ∀ (H : Heap) (locs : List Loc) (ls : Array Slot), XH E (sg st) s H locs → lv_has ls 4 [(0, .ref (E.ad 68)), (1, .int w1), (2, .int v2), (3, .int w3)] → W p l e rmX6_isSafe s m args below meth c H locs 0 0 Q (F0 m 60 ls [])) (hE0 : ∀ (w1 : Int32), X w1 → ∀ (H : Heap) (locs : List Loc) (ls : Array Slot), XH E (sg st) s H locs → lv_has ls 4 [(0, .ref (E.ad 68)), (1, .int w1), (2, .int v2)] → W p l e rmX6_isSafe s m args below meth c H locs 0 0 Q (F0 m 117 ls [])) (K : Kx G X x) {H : Heap} {locs : List Loc} {ls : Array Slot} (h : XH E (sg st) s H locs) (hl : lv_has ls 4 [(0, .ref (E.ad 68)), (2, .int v2), (3, .int v3)]) : W p l e rmX6_isSafe s m args below meth c H locs 0 0 Q (F0 m 105 ls []) := by
  unfold fX6_isSafe_105 at hx
  refine lv_iconst (v := (1 : Int32)) C.x C.bc dX6_isSafe_105 (by decide) ?_
  refine lv_goto (tgt := 110) C.x C.bc dX6_isSafe_106 (by decide) ?_
  exact bX6_isSafe_110 C hI v2 v3 (1 : Int32) st hx hG hE0 K h (lv_sub hl [0, 1, 2] rfl)
def fX6_isSafe_60 (v1 : Int32) (v2 : Int32) (v3 : Int32) (st : St) : Option ((Int32 × Int32) ⊕ (Int32)) :=
  if (1 : Int32) < v3 then
    some (.inr v1)
  else
    if v1 = 0 then
      some (.inr v1)
    else
      bd (fX6_beside v2 v3 st) fun r_11 =>
      if r_11 = (-1 : Int32) then
        fX6_isSafe_105 v2 v3 st
      else
        bd (fX6_step v2 v3 st) fun r_14 =>
        gd (inB (5 : Int32) 46) <|
        if (((4 : Int64) * ((st.1 70 (5 : Int32).toNatClampNeg).toInt64)) * (st.2.1 68 19)) < r_14 then
          fX6_isSafe_110 v2 v3 (0 : Int32) st
        else
          fX6_isSafe_105 v2 v3 st
set_option maxHeartbeats 1000000 in
theorem bX6_isSafe_60 (C : Cx E s0 b p s m args meth c cX6_isSafe 4 "EarthMeshModel" (some .boolean)) (hI : Sx E) (v1 : Int32) (v2 : Int32) (v3 : Int32) (st : St) {x : (Int32 × Int32) ⊕ (Int32)} (hx : fX6_isSafe_60 v1 v2 v3 st = some x) {Q : State → Prop} {G : Int32 × Int32 → Prop} {X : Int32 → Prop} (hG : ∀ (w1 : Int32) (w3 : Int32), G (w1, w3) → ∀ (H : Heap) (locs : List Loc) (ls : Array Slot), XH E (sg st) s H locs → lv_has ls 4 [(0, .ref (E.ad 68)), (1, .int w1), (2, .int v2), (3, .int w3)] → W p l e rmX6_isSafe s m args below meth c H locs 0 0 Q (F0 m 60 ls [])) (hE0 : ∀ (w1 : Int32), X w1 → ∀ (H : Heap) (locs : List Loc) (ls : Array Slot), XH E (sg st) s H locs → lv_has ls 4 [(0, .ref (E.ad 68)), (1, .int w1), (2, .int v2)] → W p l e rmX6_isSafe s m args below meth c H locs 0 0 Q (F0 m 117 ls [])) (K : Kx G X x) {H : Heap} {locs : List Loc} {ls : Array Slot} (h : XH E (sg st) s H locs) (hl : lv_has ls 4 [(0, .ref (E.ad 68)), (1, .int v1), (2, .int v2), (3, .int v3)]) : W p l e rmX6_isSafe s m args below meth c H locs 0 0 Q (F0 m 60 ls []) := by
  unfold fX6_isSafe_60 at hx
  refine lv_iload_n C.x C.bc dX6_isSafe_60 rfl (lv_at hl 3 rfl) ?_
  refine lv_iconst (v := (1 : Int32)) C.x C.bc dX6_isSafe_61 (by decide) ?_
  refine lv_icmp_gt (tgt := 117) C.x C.bc dX6_isSafe_62 (by decide) (fun c_9 => ?_) (fun c_9 => ?_)
  · have hx := ge_t hx c_9
    obtain rfl := Option.some.inj hx
    exact hE0 _ K _ _ _ h (lv_sub hl [0, 1, 2] rfl)
  · have hx := ge_f hx c_9
    refine lv_iload_n C.x C.bc dX6_isSafe_65 rfl (lv_at hl 1 rfl) ?_
    refine lv_if_eq (tgt := 117) C.x C.bc dX6_isSafe_66 (by decide) (fun c_10 => ?_) (fun c_10 => ?_)
    · have hx := ge_t hx c_10
      obtain rfl := Option.some.inj hx
      exact hE0 _ K _ _ _ h (lv_sub hl [0, 1, 2] rfl)
    · have hx := ge_f hx c_10
      refine lv_aload_n C.x C.bc dX6_isSafe_69 rfl (lv_at hl 0 rfl) ?_
      refine lv_iload_n C.x C.bc dX6_isSafe_70 rfl (lv_at hl 2 rfl) ?_
      refine lv_iload_n C.x C.bc dX6_isSafe_71 rfl (lv_at hl 3 rfl) ?_
      obtain ⟨r_11, hf_11, hx⟩ := bd_e hx
      refine cX6_338_X6_beside C hI h hf_11 ⟨Nat.le_of_ble_eq_true rfl, Nat.le_of_ble_eq_true rfl⟩ ⟨Nat.zero_le _, Nat.zero_le _⟩ hl.1 (Nat.le_of_ble_eq_true rfl) dX6_isSafe_72 (fun H locs h => ?_)
      refine lv_iconst (v := (-1 : Int32)) C.x C.bc dX6_isSafe_75 (by decide) ?_
      refine lv_icmp_eq (tgt := 105) C.x C.bc dX6_isSafe_76 (by decide) (fun c_12 => ?_) (fun c_12 => ?_)
      · have hx := ge_t hx c_12
        exact bX6_isSafe_105 C hI v2 v3 st hx hG hE0 K h (lv_sub hl [0, 2, 3] rfl)
      · have hx := ge_f hx c_12
        refine lv_aload_n C.x C.bc dX6_isSafe_79 rfl (lv_at hl 0 rfl) ?_
        refine lv_iload_n C.x C.bc dX6_isSafe_80 rfl (lv_at hl 2 rfl) ?_
        refine lv_iload_n C.x C.bc dX6_isSafe_81 rfl (lv_at hl 3 rfl) ?_
        obtain ⟨r_14, hf_14, hx⟩ := bd_e hx
        refine cX6_347_X6_step C hI h hf_14 ⟨Nat.le_of_ble_eq_true rfl, Nat.le_of_ble_eq_true rfl⟩ ⟨Nat.zero_le _, Nat.zero_le _⟩ hl.1 (Nat.le_of_ble_eq_true rfl) dX6_isSafe_82 (fun H locs h => ?_)
        refine lv_ldc2 (v := (4 : Int64)) C.x C.bc C.ow (C.ts _ q1914) dX6_isSafe_85 ?_
        refine lv_aload_n C.x C.bc dX6_isSafe_88 rfl (lv_at hl 0 rfl) ?_
        refine gt_X6_31_68 C hI h dX6_isSafe_89 ?_
        refine lv_iconst (v := (5 : Int32)) C.x C.bc dX6_isSafe_92 (by decide) ?_
        obtain ⟨g_15, hx⟩ := gd_e hx
        refine x_iald C h 70 46 (hI 70 (by decide)) k_70 g_15 dX6_isSafe_93 ?_
        refine lv_i2l (v := ((st.1 70 (5 : Int32).toNatClampNeg).toInt64)) C.x C.bc dX6_isSafe_94 rfl ?_
        refine lv_lmul C.x C.bc dX6_isSafe_95 ?_
        refine lv_aload_n C.x C.bc dX6_isSafe_96 rfl (lv_at hl 0 rfl) ?_
        refine gt_X6_233_68 C hI h dX6_isSafe_97 ?_
        refine lv_lmul C.x C.bc dX6_isSafe_100 ?_
        refine W.lcmp C.x C.bc dX6_isSafe_101 ?_
        refine lv_if_gt (tgt := 109) C.x C.bc dX6_isSafe_102 (by decide) (fun c_16 => ?_) (fun c_16 => ?_)
        · have c_16 := (lc_gt _ _).mp c_16
          have hx := ge_t hx c_16
          refine lv_iconst (v := (0 : Int32)) C.x C.bc dX6_isSafe_109 (by decide) ?_
          exact bX6_isSafe_110 C hI v2 v3 (0 : Int32) st hx hG hE0 K h (lv_sub hl [0, 2, 3] rfl)
        · have c_16 := (not_congr (lc_gt _ _)).mp c_16
          have hx := ge_f hx c_16
          exact bX6_isSafe_105 C hI v2 v3 st hx hG hE0 K h (lv_sub hl [0, 2, 3] rfl)
set_option maxHeartbeats 1000000 in
theorem pX6_isSafe_60 (C : Cx E s0 b p s m args meth c cX6_isSafe 4 "EarthMeshModel" (some .boolean)) (hI : Sx E) (v2 : Int32) (st : St) {Q : State → Prop} {v1 : Int32} {v3 : Int32} {n : Nat} {r : Int32} (hx : iter (u2 fun v1 v3 => fX6_isSafe_60 v1 v2 v3 st) n (v1, v3) = some r) (hE : (fun t => ∀ (H : Heap) (locs : List Loc) (ls : Array Slot), XH E (sg st) s H locs → lv_has ls 4 [(0, .ref (E.ad 68)), (1, .int t), (2, .int v2)] → W p l e rmX6_isSafe s m args below meth c H locs 0 0 Q (F0 m 117 ls [])) r) {H : Heap} {locs : List Loc} {ls : Array Slot} (h : XH E (sg st) s H locs) (hl : lv_has ls 4 [(0, .ref (E.ad 68)), (1, .int v1), (2, .int v2), (3, .int v3)]) : W p l e rmX6_isSafe s m args below meth c H locs 0 0 Q (F0 m 60 ls []) := by
  refine iter_W (G := fun t => ∀ (H : Heap) (locs : List Loc) (ls : Array Slot), XH E (sg st) s H locs → lv_has ls 4 [(0, .ref (E.ad 68)), (1, .int t.1), (2, .int v2), (3, .int t.2)] → W p l e rmX6_isSafe s m args below meth c H locs 0 0 Q (F0 m 60 ls [])) (E := fun t => ∀ (H : Heap) (locs : List Loc) (ls : Array Slot), XH E (sg st) s H locs → lv_has ls 4 [(0, .ref (E.ad 68)), (1, .int t), (2, .int v2)] → W p l e rmX6_isSafe s m args below meth c H locs 0 0 Q (F0 m 117 ls [])) (fun t x hx K H locs ls h hl => ?_) n _ r hx hE H locs ls h hl
  obtain ⟨v1, v3⟩ := t
  exact bX6_isSafe_60 C hI v1 v2 v3 st hx (fun _ _ z => z) (fun _ z => z) K h hl
def fX6_isSafe_57 (v2 : Int32) (k0 : Int32) (st : St) : Option ((Int32 × Int32) ⊕ (Int32)) :=
  bd (iter (u2 fun z1 z3 => fX6_isSafe_60 z1 v2 z3 st) FU (k0, (0 : Int32))) (u1 fun v1_17 =>
  nm (v2 + (1 : Int32)) fun v2_18 =>
  some (.inl (v1_17, v2_18)))
set_option maxHeartbeats 1000000 in
theorem bX6_isSafe_57 (C : Cx E s0 b p s m args meth c cX6_isSafe 4 "EarthMeshModel" (some .boolean)) (hI : Sx E) (v2 : Int32) (k0 : Int32) (st : St) {x : (Int32 × Int32) ⊕ (Int32)} (hx : fX6_isSafe_57 v2 k0 st = some x) {Q : State → Prop} {G : Int32 × Int32 → Prop} {X : Int32 → Prop} (hG : ∀ (w1 : Int32) (w2 : Int32), G (w1, w2) → ∀ (H : Heap) (locs : List Loc) (ls : Array Slot), XH E (sg st) s H locs → lv_has ls 4 [(0, .ref (E.ad 68)), (1, .int w1), (2, .int w2)] → W p l e rmX6_isSafe s m args below meth c H locs 0 0 Q (F0 m 13 ls [])) (hE0 : ∀ (w1 : Int32), X w1 → ∀ (H : Heap) (locs : List Loc) (ls : Array Slot), XH E (sg st) s H locs → lv_has ls 4 [(1, .int w1)] → W p l e rmX6_isSafe s m args below meth c H locs 0 0 Q (F0 m 123 ls [])) (K : Kx G X x) {H : Heap} {locs : List Loc} {ls : Array Slot} (h : XH E (sg st) s H locs) (hl : lv_has ls 4 [(0, .ref (E.ad 68)), (2, .int v2)]) : W p l e rmX6_isSafe s m args below meth c H locs 0 0 Q (F0 m 57 ls [.int k0]) := by
  unfold fX6_isSafe_57 at hx
  refine lv_istore_n (lv' := [(1, .int k0), (0, .ref (E.ad 68)), (2, .int v2)]) C.x C.bc dX6_isSafe_57 rfl hl (by decide) rfl (fun ls hl => ?_)
  refine lv_iconst (v := (0 : Int32)) C.x C.bc dX6_isSafe_58 (by decide) ?_
  refine lv_istore_n (lv' := [(3, .int (0 : Int32)), (1, .int k0), (0, .ref (E.ad 68)), (2, .int v2)]) C.x C.bc dX6_isSafe_59 rfl hl (by decide) rfl (fun ls hl => ?_)
  obtain ⟨v1_17, hi_17, hx⟩ := bd_e hx
  have hx := u1_e hx
  refine pX6_isSafe_60 C hI v2 st hi_17 (fun H locs ls h hl => ?_) h (lv_sub hl [2, 1, 3, 0] rfl)
  obtain ⟨v2_18, e_18, hx⟩ := nm_x hx
  refine lv_iinc (v := v2_18) (lv' := [(2, .int v2_18), (0, .ref (E.ad 68)), (1, .int v1_17)]) C.x C.bc dX6_isSafe_117 hl (k := 2) rfl (by rw [e_18]; rfl) (by decide) rfl (fun ls hl => ?_)
  refine lv_goto (tgt := 13) C.x C.bc dX6_isSafe_120 (by decide) ?_
  obtain rfl := Option.some.inj hx
  exact hG _ _ K _ _ _ h (lv_sub hl [1, 2, 0] rfl)
def fX6_isSafe_13 (v1 : Int32) (v2 : Int32) (st : St) : Option ((Int32 × Int32) ⊕ (Int32)) :=
  bd (fX6_points st) fun r_3 =>
  if r_3 ≤ v2 then
    some (.inr v1)
  else
    if v1 = 0 then
      some (.inr v1)
    else
      gd (inB v2 35) <|
      gd (inB (6 : Int32) 46) <|
      if (((4 : Int64) * ((st.1 70 (6 : Int32).toNatClampNeg).toInt64)) * (st.2.1 68 19)) < (st.2.1 80 v2.toNatClampNeg) then
        fX6_isSafe_57 v2 (0 : Int32) st
      else
        fX6_isSafe_57 v2 (1 : Int32) st
set_option maxHeartbeats 1000000 in
theorem bX6_isSafe_13 (C : Cx E s0 b p s m args meth c cX6_isSafe 4 "EarthMeshModel" (some .boolean)) (hI : Sx E) (v1 : Int32) (v2 : Int32) (st : St) {x : (Int32 × Int32) ⊕ (Int32)} (hx : fX6_isSafe_13 v1 v2 st = some x) {Q : State → Prop} {G : Int32 × Int32 → Prop} {X : Int32 → Prop} (hG : ∀ (w1 : Int32) (w2 : Int32), G (w1, w2) → ∀ (H : Heap) (locs : List Loc) (ls : Array Slot), XH E (sg st) s H locs → lv_has ls 4 [(0, .ref (E.ad 68)), (1, .int w1), (2, .int w2)] → W p l e rmX6_isSafe s m args below meth c H locs 0 0 Q (F0 m 13 ls [])) (hE0 : ∀ (w1 : Int32), X w1 → ∀ (H : Heap) (locs : List Loc) (ls : Array Slot), XH E (sg st) s H locs → lv_has ls 4 [(1, .int w1)] → W p l e rmX6_isSafe s m args below meth c H locs 0 0 Q (F0 m 123 ls [])) (K : Kx G X x) {H : Heap} {locs : List Loc} {ls : Array Slot} (h : XH E (sg st) s H locs) (hl : lv_has ls 4 [(0, .ref (E.ad 68)), (1, .int v1), (2, .int v2)]) : W p l e rmX6_isSafe s m args below meth c H locs 0 0 Q (F0 m 13 ls []) := by
  unfold fX6_isSafe_13 at hx
  refine lv_iload_n C.x C.bc dX6_isSafe_13 rfl (lv_at hl 2 rfl) ?_
  refine lv_aload_n C.x C.bc dX6_isSafe_14 rfl (lv_at hl 0 rfl) ?_
  obtain ⟨r_3, hf_3, hx⟩ := bd_e hx
  refine cX6_332_X6_points C hI h hf_3 ⟨Nat.le_of_ble_eq_true rfl, Nat.le_of_ble_eq_true rfl⟩ ⟨Nat.zero_le _, Nat.zero_le _⟩ hl.1 (Nat.le_of_ble_eq_true rfl) dX6_isSafe_15 (fun H locs h => ?_)
  refine lv_icmp_ge (tgt := 123) C.x C.bc dX6_isSafe_18 (by decide) (fun c_4 => ?_) (fun c_4 => ?_)
  · have hx := ge_t hx c_4
    obtain rfl := Option.some.inj hx
    exact hE0 _ K _ _ _ h (lv_sub hl [1] rfl)
  · have hx := ge_f hx c_4
    refine lv_iload_n C.x C.bc dX6_isSafe_21 rfl (lv_at hl 1 rfl) ?_
    refine lv_if_eq (tgt := 123) C.x C.bc dX6_isSafe_22 (by decide) (fun c_5 => ?_) (fun c_5 => ?_)
    · have hx := ge_t hx c_5
      obtain rfl := Option.some.inj hx
      exact hE0 _ K _ _ _ h (lv_sub hl [1] rfl)
    · have hx := ge_f hx c_5
      refine lv_aload_n C.x C.bc dX6_isSafe_25 rfl (lv_at hl 0 rfl) ?_
      refine gt_X6_67_68 C hI h dX6_isSafe_26 ?_
      refine lv_iload_n C.x C.bc dX6_isSafe_29 rfl (lv_at hl 2 rfl) ?_
      obtain ⟨g_6, hx⟩ := gd_e hx
      refine x_lald C h 80 35 (hI 80 (by decide)) k_80 g_6 dX6_isSafe_30 ?_
      refine lv_ldc2 (v := (4 : Int64)) C.x C.bc C.ow (C.ts _ q1914) dX6_isSafe_31 ?_
      refine lv_aload_n C.x C.bc dX6_isSafe_34 rfl (lv_at hl 0 rfl) ?_
      refine gt_X6_31_68 C hI h dX6_isSafe_35 ?_
      refine lv_bipush (v := (6 : Int32)) C.x C.bc dX6_isSafe_38 (by decide) ?_
      obtain ⟨g_7, hx⟩ := gd_e hx
      refine x_iald C h 70 46 (hI 70 (by decide)) k_70 g_7 dX6_isSafe_40 ?_
      refine lv_i2l (v := ((st.1 70 (6 : Int32).toNatClampNeg).toInt64)) C.x C.bc dX6_isSafe_41 rfl ?_
      refine lv_lmul C.x C.bc dX6_isSafe_42 ?_
      refine lv_aload_n C.x C.bc dX6_isSafe_43 rfl (lv_at hl 0 rfl) ?_
      refine gt_X6_233_68 C hI h dX6_isSafe_44 ?_
      refine lv_lmul C.x C.bc dX6_isSafe_47 ?_
      refine W.lcmp C.x C.bc dX6_isSafe_48 ?_
      refine lv_if_gt (tgt := 56) C.x C.bc dX6_isSafe_49 (by decide) (fun c_8 => ?_) (fun c_8 => ?_)
      · have c_8 := (lc_gt _ _).mp c_8
        have hx := ge_t hx c_8
        refine lv_iconst (v := (0 : Int32)) C.x C.bc dX6_isSafe_56 (by decide) ?_
        exact bX6_isSafe_57 C hI v2 (0 : Int32) st hx hG hE0 K h (lv_sub hl [0, 2] rfl)
      · have c_8 := (not_congr (lc_gt _ _)).mp c_8
        have hx := ge_f hx c_8
        refine lv_iconst (v := (1 : Int32)) C.x C.bc dX6_isSafe_52 (by decide) ?_
        refine lv_goto (tgt := 57) C.x C.bc dX6_isSafe_53 (by decide) ?_
        exact bX6_isSafe_57 C hI v2 (1 : Int32) st hx hG hE0 K h (lv_sub hl [0, 2] rfl)
set_option maxHeartbeats 1000000 in
theorem pX6_isSafe_13 (C : Cx E s0 b p s m args meth c cX6_isSafe 4 "EarthMeshModel" (some .boolean)) (hI : Sx E) (st : St) {Q : State → Prop} {v1 : Int32} {v2 : Int32} {n : Nat} {r : Int32} (hx : iter (u2 fun v1 v2 => fX6_isSafe_13 v1 v2 st) n (v1, v2) = some r) (hE : (fun t => ∀ (H : Heap) (locs : List Loc) (ls : Array Slot), XH E (sg st) s H locs → lv_has ls 4 [(1, .int t)] → W p l e rmX6_isSafe s m args below meth c H locs 0 0 Q (F0 m 123 ls [])) r) {H : Heap} {locs : List Loc} {ls : Array Slot} (h : XH E (sg st) s H locs) (hl : lv_has ls 4 [(0, .ref (E.ad 68)), (1, .int v1), (2, .int v2)]) : W p l e rmX6_isSafe s m args below meth c H locs 0 0 Q (F0 m 13 ls []) := by
  refine iter_W (G := fun t => ∀ (H : Heap) (locs : List Loc) (ls : Array Slot), XH E (sg st) s H locs → lv_has ls 4 [(0, .ref (E.ad 68)), (1, .int t.1), (2, .int t.2)] → W p l e rmX6_isSafe s m args below meth c H locs 0 0 Q (F0 m 13 ls [])) (E := fun t => ∀ (H : Heap) (locs : List Loc) (ls : Array Slot), XH E (sg st) s H locs → lv_has ls 4 [(1, .int t)] → W p l e rmX6_isSafe s m args below meth c H locs 0 0 Q (F0 m 123 ls [])) (fun t x hx K H locs ls h hl => ?_) n _ r hx hE H locs ls h hl
  obtain ⟨v1, v2⟩ := t
  exact bX6_isSafe_13 C hI v1 v2 st hx (fun _ _ z => z) (fun _ z => z) K h hl
def fX6_isSafe (st : St) : Option (Int32 × St) :=
  bd (fX6_tellsGround st) <| u2 fun r_1 st_1 =>
  if r_1 = 0 then
    some ((0 : Int32), st_1)
  else
    bd (iter (u2 fun z1 z2 => fX6_isSafe_13 z1 z2 st_1) FU ((1 : Int32), (0 : Int32))) (u1 fun v1_19 =>
    gd (vp_nar .boolean v1_19 = v1_19) <|
    some (v1_19, st_1))
set_option maxHeartbeats 1000000 in
theorem bX6_isSafe (C : Cx E s0 b p s m args meth c cX6_isSafe 4 "EarthMeshModel" (some .boolean)) (hI : Sx E) (st : St) {x : Int32 × St} (hx : fX6_isSafe st = some x) {H : Heap} {locs : List Loc} {ls : Array Slot} (h : XH E (sg st) s H locs) (hl : lv_has ls 4 [(0, .ref (E.ad 68))]) : W p l e rmX6_isSafe s m args below meth c H locs 0 0 (MQ below (Qx E (some (.int x.1)) (sg x.2)) args s 0 0 (gA E.HB)) (F0 m 0 ls []) := by
  unfold fX6_isSafe at hx
  refine lv_aload_n C.x C.bc dX6_isSafe_0 rfl (lv_at hl 0 rfl) ?_
  obtain ⟨⟨r_1, st_1⟩, hf_1, hx⟩ := bd_e hx
  have hx := u2_e hx
  refine cX6_344_X6_tellsGround C hI h hf_1 ⟨Nat.le_of_ble_eq_true rfl, Nat.le_of_ble_eq_true rfl⟩ ⟨Nat.zero_le _, Nat.zero_le _⟩ hl.1 (Nat.le_of_ble_eq_true rfl) dX6_isSafe_1 (fun H locs h => ?_)
  refine lv_if_ne (tgt := 9) C.x C.bc dX6_isSafe_4 (by decide) (fun c_2 => ?_) (fun c_2 => ?_)
  · have hx := ge_f hx c_2
    refine lv_iconst (v := (1 : Int32)) C.x C.bc dX6_isSafe_9 (by decide) ?_
    refine lv_istore_n (lv' := [(1, .int (1 : Int32)), (0, .ref (E.ad 68))]) C.x C.bc dX6_isSafe_10 rfl hl (by decide) rfl (fun ls hl => ?_)
    refine lv_iconst (v := (0 : Int32)) C.x C.bc dX6_isSafe_11 (by decide) ?_
    refine lv_istore_n (lv' := [(2, .int (0 : Int32)), (1, .int (1 : Int32)), (0, .ref (E.ad 68))]) C.x C.bc dX6_isSafe_12 rfl hl (by decide) rfl (fun ls hl => ?_)
    obtain ⟨v1_19, hi_19, hx⟩ := bd_e hx
    have hx := u1_e hx
    refine pX6_isSafe_13 C hI st_1 hi_19 (fun H locs ls h hl => ?_) h (lv_sub hl [2, 1, 0] rfl)
    refine lv_iload_n C.x C.bc dX6_isSafe_123 rfl (lv_at hl 0 rfl) ?_
    obtain ⟨g_20, hx⟩ := gd_e hx
    obtain rfl := Option.some.inj hx
    exact x_zret (v := v1_19) C h (nar_z g_20) dX6_isSafe_124
  · have hx := ge_t hx c_2
    refine lv_iconst (v := (0 : Int32)) C.x C.bc dX6_isSafe_7 (by decide) ?_
    obtain rfl := Option.some.inj hx
    exact x_zret (v := (0 : Int32)) C h rfl dX6_isSafe_8
theorem mX6_isSafe (hG : G0 E s0 b) (hI : Sx E)  {x : Int32 × St} (hx : fX6_isSafe st = some x) : Mt l E s0 yX6_isSafe cX6_isSafe 4 (some .boolean) rmX6_isSafe [.ref (E.ad 68)] (sg st) (some (.int x.1)) E (sg x.2) :=
  Mt.of hG (by decide) (Nat.le_of_ble_eq_true rfl) (fun p e s m below meth c ls C h hl => bX6_isSafe C hI st hx h hl)
theorem cX6_278_X6_isSafe  {r : Int32} {st' : St} (C : Cx E s0 b p s m args meth c cc nL "EarthMeshModel" rt) (hI : Sx E) (h : XH E (sg st) s H locs) (hf : fX6_isSafe st = some (r, st')) (hR : rmX6_isSafe.frames + 1 ≤ R.frames ∧ 16 + (4 + 11) + rmX6_isSafe.locals ≤ R.locals) (h0 : cells ≤ R.cells ∧ slots ≤ R.slots) (hsz : ls.size = nL) (hcat : (rest.map fun v => v.category).sum ≤ 16) (hdg : decode cc pc = .ok (.invokevirtual 278, 3)) (kk : ∀ (H : Heap) (locs : List Loc), XH E (sg st') s H locs → W p l e R s m args below meth c H locs cells slots Q (F0 m (pc + 3) ls (.int r :: rest))) : W p l e R s m args below meth c H locs cells slots Q (F0 m pc ls (.ref (E.ad 68) :: rest)) :=
  x_callV (n := 0) (As := []) C h 68 5 (hI 68 (by decide)) k_68 rfl (mX6_isSafe C.g hI hf) (lw_V q1892 q1894 qs97 q136 q1895) ⟨rfl, by decide +kernel, by decide +kernel, by decide +kernel⟩ hR ⟨rfl, rfl⟩ h0 rfl hsz rfl hcat hdg kk
end
