set_option maxRecDepth 100000
section
variable {p : Program} {l : Launch} {e : Env} {R : Room} {s : State} {m : MethodId} {args : Array Value} {below : List Frame} {meth : Method} {c : Code} {H : Heap} {locs : List Loc} {cells slots : Nat} {Q : State → Prop}
variable {cc : ByteArray} {pc : Nat} {ls : Array Slot} {rest : List Value} {E : Wd} {s0 : State} {b nL : Nat} {rt : Option FieldType} {g st : St}
abbrev rmX6_leaks : Room := { frames := 1, cells := 0, slots := 0, locals := 30 }
def fX6_leaks_42 (v1 : Int32) (v3 : Int32) (k0 : Int32) (st : St) : Option ((Int32 × Int32) ⊕ (Int32)) :=
  nm (v3 + (1 : Int32)) fun v3_4 =>
  some (.inl (k0, v3_4))
set_option maxHeartbeats 1000000 in
theorem bX6_leaks_42 (C : Cx E s0 b p s m args meth c cX6_leaks 4 "EarthMeshModel" (some .boolean)) (hI : Sx E) (v1 : Int32) (v3 : Int32) (k0 : Int32) (st : St) {x : (Int32 × Int32) ⊕ (Int32)} (hx : fX6_leaks_42 v1 v3 k0 st = some x) {Q : State → Prop} {G : Int32 × Int32 → Prop} {X : Int32 → Prop} (hG : ∀ (w2 : Int32) (w3 : Int32), G (w2, w3) → ∀ (H : Heap) (locs : List Loc) (ls : Array Slot), XH E (sg st) s H locs → lv_has ls 4 [(0, .ref (E.ad 68)), (1, .int v1), (2, .int w2), (3, .int w3)] → W p l e rmX6_leaks s m args below meth c H locs 0 0 Q (F0 m 4 ls [])) (hE0 : ∀ (w2 : Int32), X w2 → ∀ (H : Heap) (locs : List Loc) (ls : Array Slot), XH E (sg st) s H locs → lv_has ls 4 [(2, .int w2)] → W p l e rmX6_leaks s m args below meth c H locs 0 0 Q (F0 m 49 ls [])) (K : Kx G X x) {H : Heap} {locs : List Loc} {ls : Array Slot} (h : XH E (sg st) s H locs) (hl : lv_has ls 4 [(0, .ref (E.ad 68)), (1, .int v1), (3, .int v3)]) : W p l e rmX6_leaks s m args below meth c H locs 0 0 Q (F0 m 42 ls [.int k0]) := by
  unfold fX6_leaks_42 at hx
  refine lv_istore_n (lv' := [(2, .int k0), (0, .ref (E.ad 68)), (1, .int v1), (3, .int v3)]) C.x C.bc dX6_leaks_42 rfl hl (by decide) rfl (fun ls hl => ?_)
  obtain ⟨v3_4, e_4, hx⟩ := nm_x hx
  refine lv_iinc (v := v3_4) (lv' := [(3, .int v3_4), (2, .int k0), (0, .ref (E.ad 68)), (1, .int v1)]) C.x C.bc dX6_leaks_43 hl (k := 3) rfl (by rw [e_4]; rfl) (by decide) rfl (fun ls hl => ?_)
  refine lv_goto (tgt := 4) C.x C.bc dX6_leaks_46 (by decide) ?_
  obtain rfl := Option.some.inj hx
  exact hG _ _ K _ _ _ h (lv_sub hl [2, 3, 1, 0] rfl)
def fX6_leaks_37 (v1 : Int32) (v3 : Int32) (st : St) : Option ((Int32 × Int32) ⊕ (Int32)) :=
  fX6_leaks_42 v1 v3 (1 : Int32) st
set_option maxHeartbeats 1000000 in
theorem bX6_leaks_37 (C : Cx E s0 b p s m args meth c cX6_leaks 4 "EarthMeshModel" (some .boolean)) (hI : Sx E) (v1 : Int32) (v3 : Int32) (st : St) {x : (Int32 × Int32) ⊕ (Int32)} (hx : fX6_leaks_37 v1 v3 st = some x) {Q : State → Prop} {G : Int32 × Int32 → Prop} {X : Int32 → Prop} (hG : ∀ (w2 : Int32) (w3 : Int32), G (w2, w3) → ∀ (H : Heap) (locs : List Loc) (ls : Array Slot), XH E (sg st) s H locs → lv_has ls 4 [(0, .ref (E.ad 68)), (1, .int v1), (2, .int w2), (3, .int w3)] → W p l e rmX6_leaks s m args below meth c H locs 0 0 Q (F0 m 4 ls [])) (hE0 : ∀ (w2 : Int32), X w2 → ∀ (H : Heap) (locs : List Loc) (ls : Array Slot), XH E (sg st) s H locs → lv_has ls 4 [(2, .int w2)] → W p l e rmX6_leaks s m args below meth c H locs 0 0 Q (F0 m 49 ls [])) (K : Kx G X x) {H : Heap} {locs : List Loc} {ls : Array Slot} (h : XH E (sg st) s H locs) (hl : lv_has ls 4 [(0, .ref (E.ad 68)), (1, .int v1), (3, .int v3)]) : W p l e rmX6_leaks s m args below meth c H locs 0 0 Q (F0 m 37 ls []) := by
  unfold fX6_leaks_37 at hx
  refine lv_iconst (v := (1 : Int32)) C.x C.bc dX6_leaks_37 (by decide) ?_
  refine lv_goto (tgt := 42) C.x C.bc dX6_leaks_38 (by decide) ?_
  exact bX6_leaks_42 C hI v1 v3 (1 : Int32) st hx hG hE0 K h (lv_sub hl [0, 1, 2] rfl)
def fX6_leaks_41 (v1 : Int32) (v3 : Int32) (st : St) : Option ((Int32 × Int32) ⊕ (Int32)) :=
  fX6_leaks_42 v1 v3 (0 : Int32) st
set_option maxHeartbeats 1000000 in
theorem bX6_leaks_41 (C : Cx E s0 b p s m args meth c cX6_leaks 4 "EarthMeshModel" (some .boolean)) (hI : Sx E) (v1 : Int32) (v3 : Int32) (st : St) {x : (Int32 × Int32) ⊕ (Int32)} (hx : fX6_leaks_41 v1 v3 st = some x) {Q : State → Prop} {G : Int32 × Int32 → Prop} {X : Int32 → Prop} (hG : ∀ (w2 : Int32) (w3 : Int32), G (w2, w3) → ∀ (H : Heap) (locs : List Loc) (ls : Array Slot), XH E (sg st) s H locs → lv_has ls 4 [(0, .ref (E.ad 68)), (1, .int v1), (2, .int w2), (3, .int w3)] → W p l e rmX6_leaks s m args below meth c H locs 0 0 Q (F0 m 4 ls [])) (hE0 : ∀ (w2 : Int32), X w2 → ∀ (H : Heap) (locs : List Loc) (ls : Array Slot), XH E (sg st) s H locs → lv_has ls 4 [(2, .int w2)] → W p l e rmX6_leaks s m args below meth c H locs 0 0 Q (F0 m 49 ls [])) (K : Kx G X x) {H : Heap} {locs : List Loc} {ls : Array Slot} (h : XH E (sg st) s H locs) (hl : lv_has ls 4 [(0, .ref (E.ad 68)), (1, .int v1), (3, .int v3)]) : W p l e rmX6_leaks s m args below meth c H locs 0 0 Q (F0 m 41 ls []) := by
  unfold fX6_leaks_41 at hx
  refine lv_iconst (v := (0 : Int32)) C.x C.bc dX6_leaks_41 (by decide) ?_
  exact bX6_leaks_42 C hI v1 v3 (0 : Int32) st hx hG hE0 K h (lv_sub hl [0, 1, 2] rfl)
def fX6_leaks_4 (v1 : Int32) (v2 : Int32) (v3 : Int32) (st : St) : Option ((Int32 × Int32) ⊕ (Int32)) :=
  bd (fX6_nodes_70 st) fun r_1 =>
  if r_1 ≤ v3 then
    some (.inr v2)
  else
    if v2 = 0 then
      if ((v1 >>> (v3 &&& 31)) &&& (1 : Int32)) = (1 : Int32) then
        bd (fX6_part v3 (2 : Int32) st) fun r_6 =>
        if r_6 ≤ 0 then
          fX6_leaks_41 v1 v3 st
        else
          fX6_leaks_37 v1 v3 st
      else
        fX6_leaks_41 v1 v3 st
    else
      fX6_leaks_37 v1 v3 st
set_option maxHeartbeats 1000000 in
theorem bX6_leaks_4 (C : Cx E s0 b p s m args meth c cX6_leaks 4 "EarthMeshModel" (some .boolean)) (hI : Sx E) (v1 : Int32) (v2 : Int32) (v3 : Int32) (st : St) {x : (Int32 × Int32) ⊕ (Int32)} (hx : fX6_leaks_4 v1 v2 v3 st = some x) {Q : State → Prop} {G : Int32 × Int32 → Prop} {X : Int32 → Prop} (hG : ∀ (w2 : Int32) (w3 : Int32), G (w2, w3) → ∀ (H : Heap) (locs : List Loc) (ls : Array Slot), XH E (sg st) s H locs → lv_has ls 4 [(0, .ref (E.ad 68)), (1, .int v1), (2, .int w2), (3, .int w3)] → W p l e rmX6_leaks s m args below meth c H locs 0 0 Q (F0 m 4 ls [])) (hE0 : ∀ (w2 : Int32), X w2 → ∀ (H : Heap) (locs : List Loc) (ls : Array Slot), XH E (sg st) s H locs → lv_has ls 4 [(2, .int w2)] → W p l e rmX6_leaks s m args below meth c H locs 0 0 Q (F0 m 49 ls [])) (K : Kx G X x) {H : Heap} {locs : List Loc} {ls : Array Slot} (h : XH E (sg st) s H locs) (hl : lv_has ls 4 [(0, .ref (E.ad 68)), (1, .int v1), (2, .int v2), (3, .int v3)]) : W p l e rmX6_leaks s m args below meth c H locs 0 0 Q (F0 m 4 ls []) := by
  unfold fX6_leaks_4 at hx
  refine lv_iload_n C.x C.bc dX6_leaks_4 rfl (lv_at hl 3 rfl) ?_
  refine lv_aload_n C.x C.bc dX6_leaks_5 rfl (lv_at hl 0 rfl) ?_
  refine gt_X6_31_68 C hI h dX6_leaks_6 ?_
  obtain ⟨r_1, hf_1, hx⟩ := bd_e hx
  refine cX6_190_X6_nodes_70 C hI h hf_1 ⟨Nat.le_of_ble_eq_true rfl, Nat.le_of_ble_eq_true rfl⟩ ⟨Nat.zero_le _, Nat.zero_le _⟩ hl.1 (Nat.le_of_ble_eq_true rfl) dX6_leaks_9 (fun H locs h => ?_)
  refine lv_icmp_ge (tgt := 49) C.x C.bc dX6_leaks_12 (by decide) (fun c_2 => ?_) (fun c_2 => ?_)
  · have hx := ge_t hx c_2
    obtain rfl := Option.some.inj hx
    exact hE0 _ K _ _ _ h (lv_sub hl [2] rfl)
  · have hx := ge_f hx c_2
    refine lv_iload_n C.x C.bc dX6_leaks_15 rfl (lv_at hl 2 rfl) ?_
    refine lv_if_ne (tgt := 37) C.x C.bc dX6_leaks_16 (by decide) (fun c_3 => ?_) (fun c_3 => ?_)
    · have hx := ge_f hx c_3
      exact bX6_leaks_37 C hI v1 v3 st hx hG hE0 K h (lv_sub hl [0, 1, 3] rfl)
    · have hx := ge_t hx c_3
      refine lv_iload_n C.x C.bc dX6_leaks_19 rfl (lv_at hl 1 rfl) ?_
      refine lv_iload_n C.x C.bc dX6_leaks_20 rfl (lv_at hl 3 rfl) ?_
      refine lv_ishr C.x C.bc dX6_leaks_21 ?_
      refine lv_iconst (v := (1 : Int32)) C.x C.bc dX6_leaks_22 (by decide) ?_
      refine lv_iand C.x C.bc dX6_leaks_23 ?_
      refine lv_iconst (v := (1 : Int32)) C.x C.bc dX6_leaks_24 (by decide) ?_
      refine lv_icmp_ne (tgt := 41) C.x C.bc dX6_leaks_25 (by decide) (fun c_5 => ?_) (fun c_5 => ?_)
      · have hx := ge_f hx c_5
        exact bX6_leaks_41 C hI v1 v3 st hx hG hE0 K h (lv_sub hl [0, 1, 3] rfl)
      · have hx := ge_t hx c_5
        refine lv_aload_n C.x C.bc dX6_leaks_28 rfl (lv_at hl 0 rfl) ?_
        refine lv_iload_n C.x C.bc dX6_leaks_29 rfl (lv_at hl 3 rfl) ?_
        refine lv_iconst (v := (2 : Int32)) C.x C.bc dX6_leaks_30 (by decide) ?_
        obtain ⟨r_6, hf_6, hx⟩ := bd_e hx
        refine cX6_194_X6_part C hI h hf_6 ⟨Nat.le_of_ble_eq_true rfl, Nat.le_of_ble_eq_true rfl⟩ ⟨Nat.zero_le _, Nat.zero_le _⟩ hl.1 (Nat.le_of_ble_eq_true rfl) dX6_leaks_31 (fun H locs h => ?_)
        refine lv_if_le (tgt := 41) C.x C.bc dX6_leaks_34 (by decide) (fun c_7 => ?_) (fun c_7 => ?_)
        · have hx := ge_t hx c_7
          exact bX6_leaks_41 C hI v1 v3 st hx hG hE0 K h (lv_sub hl [0, 1, 3] rfl)
        · have hx := ge_f hx c_7
          exact bX6_leaks_37 C hI v1 v3 st hx hG hE0 K h (lv_sub hl [0, 1, 3] rfl)
set_option maxHeartbeats 1000000 in
theorem pX6_leaks_4 (C : Cx E s0 b p s m args meth c cX6_leaks 4 "EarthMeshModel" (some .boolean)) (hI : Sx E) (v1 : Int32) (st : St) {Q : State → Prop} {v2 : Int32} {v3 : Int32} {n : Nat} {r : Int32} (hx : iter (u2 fun v2 v3 => fX6_leaks_4 v1 v2 v3 st) n (v2, v3) = some r) (hE : (fun t => ∀ (H : Heap) (locs : List Loc) (ls : Array Slot), XH E (sg st) s H locs → lv_has ls 4 [(2, .int t)] → W p l e rmX6_leaks s m args below meth c H locs 0 0 Q (F0 m 49 ls [])) r) {H : Heap} {locs : List Loc} {ls : Array Slot} (h : XH E (sg st) s H locs) (hl : lv_has ls 4 [(0, .ref (E.ad 68)), (1, .int v1), (2, .int v2), (3, .int v3)]) : W p l e rmX6_leaks s m args below meth c H locs 0 0 Q (F0 m 4 ls []) := by
  refine iter_W (G := fun t => ∀ (H : Heap) (locs : List Loc) (ls : Array Slot), XH E (sg st) s H locs → lv_has ls 4 [(0, .ref (E.ad 68)), (1, .int v1), (2, .int t.1), (3, .int t.2)] → W p l e rmX6_leaks s m args below meth c H locs 0 0 Q (F0 m 4 ls [])) (E := fun t => ∀ (H : Heap) (locs : List Loc) (ls : Array Slot), XH E (sg st) s H locs → lv_has ls 4 [(2, .int t)] → W p l e rmX6_leaks s m args below meth c H locs 0 0 Q (F0 m 49 ls [])) (fun t x hx K H locs ls h hl => ?_) n _ r hx hE H locs ls h hl
  obtain ⟨v2, v3⟩ := t
  exact bX6_leaks_4 C hI v1 v2 v3 st hx (fun _ _ z => z) (fun _ z => z) K h hl
def fX6_leaks (v1 : Int32) (st : St) : Option (Int32) :=
  bd (iter (u2 fun z2 z3 => fX6_leaks_4 v1 z2 z3 st) FU ((0 : Int32), (0 : Int32))) (u1 fun v2_8 =>
  gd (vp_nar .boolean v2_8 = v2_8) <|
  some v2_8)
set_option maxHeartbeats 1000000 in
theorem bX6_leaks (C : Cx E s0 b p s m args meth c cX6_leaks 4 "EarthMeshModel" (some .boolean)) (hI : Sx E) (v1 : Int32) (st : St) {x : Int32} (hx : fX6_leaks v1 st = some x) {H : Heap} {locs : List Loc} {ls : Array Slot} (h : XH E (sg st) s H locs) (hl : lv_has ls 4 [(0, .ref (E.ad 68)), (1, .int v1)]) : W p l e rmX6_leaks s m args below meth c H locs 0 0 (MQ below (Qx E (some (.int x)) (sg st)) args s 0 0 (gA E.HB)) (F0 m 0 ls []) := by
  unfold fX6_leaks at hx
  refine lv_iconst (v := (0 : Int32)) C.x C.bc dX6_leaks_0 (by decide) ?_
  refine lv_istore_n (lv' := [(2, .int (0 : Int32)), (0, .ref (E.ad 68)), (1, .int v1)]) C.x C.bc dX6_leaks_1 rfl hl (by decide) rfl (fun ls hl => ?_)
  refine lv_iconst (v := (0 : Int32)) C.x C.bc dX6_leaks_2 (by decide) ?_
  refine lv_istore_n (lv' := [(3, .int (0 : Int32)), (2, .int (0 : Int32)), (0, .ref (E.ad 68)), (1, .int v1)]) C.x C.bc dX6_leaks_3 rfl hl (by decide) rfl (fun ls hl => ?_)
  obtain ⟨v2_8, hi_8, hx⟩ := bd_e hx
  have hx := u1_e hx
  refine pX6_leaks_4 C hI v1 st hi_8 (fun H locs ls h hl => ?_) h (lv_sub hl [2, 3, 1, 0] rfl)
  refine lv_iload_n C.x C.bc dX6_leaks_49 rfl (lv_at hl 0 rfl) ?_
  obtain ⟨g_9, hx⟩ := gd_e hx
  obtain rfl := Option.some.inj hx
  exact x_zret (v := v2_8) C h (nar_z g_9) dX6_leaks_50
theorem mX6_leaks (hG : G0 E s0 b) (hI : Sx E) {v1 : Int32} {x : Int32} (hx : fX6_leaks v1 st = some x) : Mt l E s0 yX6_leaks cX6_leaks 4 (some .boolean) rmX6_leaks [.ref (E.ad 68), .int v1] (sg st) (some (.int x)) E (sg st) :=
  Mt.of hG (by decide) (Nat.le_of_ble_eq_true rfl) (fun p e s m below meth c ls C h hl => bX6_leaks C hI v1 st hx h hl)
theorem cX6_251_X6_leaks {a0 : Int32} {r : Int32} (C : Cx E s0 b p s m args meth c cc nL "EarthMeshModel" rt) (hI : Sx E) (h : XH E (sg st) s H locs) (hf : fX6_leaks a0 st = some r) (hR : rmX6_leaks.frames + 1 ≤ R.frames ∧ 16 + (4 + 11) + rmX6_leaks.locals ≤ R.locals) (h0 : cells ≤ R.cells ∧ slots ≤ R.slots) (hsz : ls.size = nL) (hcat : (rest.map fun v => v.category).sum ≤ 16) (hdg : decode cc pc = .ok (.invokevirtual 251, 3)) (kk : ∀ (H : Heap) (locs : List Loc), XH E (sg st) s H locs → W p l e R s m args below meth c H locs cells slots Q (F0 m (pc + 3) ls (.int r :: rest))) : W p l e R s m args below meth c H locs cells slots Q (F0 m pc ls (.int a0 :: .ref (E.ad 68) :: rest)) :=
  x_callV (n := 1) (As := [.int a0]) C h 68 5 (hI 68 (by decide)) k_68 rfl (mX6_leaks C.g hI hf) (lw_V q1843 q1845 qs90 q136 q1846) ⟨rfl, by decide +kernel, by decide +kernel, by decide +kernel⟩ hR ⟨rfl, rfl⟩ h0 rfl hsz rfl hcat hdg kk
abbrev rmX6_highOf : Room := { frames := 0, cells := 0, slots := 0, locals := 0 }
def fX6_highOf (v0 : Int64) (v2 : Int64) : Int64 :=
  nm (v0 &&& (4294967295 : Int64)) fun v4_1 =>
  nm (jlshr v0 (32 : Int32)) fun v6_2 =>
  nm (v2 &&& (4294967295 : Int64)) fun v8_3 =>
  nm (jlshr v2 (32 : Int32)) fun v10_4 =>
  nm ((v6_2 * v8_3) + (jlushr (v4_1 * v8_3) (32 : Int32))) fun v12_5 =>
  (((v6_2 * v10_4) + (jlshr v12_5 (32 : Int32))) + (jlshr ((v4_1 * v10_4) + (v12_5 &&& (4294967295 : Int64))) (32 : Int32)))
set_option maxHeartbeats 1000000 in
theorem bX6_highOf (C : Cx E s0 b p s m args meth c cX6_highOf 14 "EarthMeshModel" (some .long)) (hI : Sx E) (v0 : Int64) (v2 : Int64) {x : Int64} (hx : fX6_highOf v0 v2 = x) {H : Heap} {locs : List Loc} {ls : Array Slot} (h : XH E g s H locs) (hl : lv_has ls 14 [(0, .long v0), (2, .long v2)]) : W p l e rmX6_highOf s m args below meth c H locs 0 0 (MQ below (Qx E (some (.long x)) g) args s 0 0 (gA E.HB)) (F0 m 0 ls []) := by
  unfold fX6_highOf at hx
  refine lv_lload_n C.x C.bc dX6_highOf_0 rfl (lv_at hl 0 rfl) ?_
  refine lv_ldc2 (v := (4294967295 : Int64)) C.x C.bc C.ow (C.ts _ q1880) dX6_highOf_1 ?_
  refine lv_land C.x C.bc dX6_highOf_4 ?_
  obtain ⟨v4_1, e_1, hx⟩ := nm_x hx
  refine x_tl e_1 ?_
  refine lv_lstore (lv' := [(4, .long v4_1), (0, .long v0), (2, .long v2)]) C.x C.bc dX6_highOf_5 hl (by decide) rfl (fun ls hl => ?_)
  refine lv_lload_n C.x C.bc dX6_highOf_7 rfl (lv_at hl 1 rfl) ?_
  refine lv_bipush (v := (32 : Int32)) C.x C.bc dX6_highOf_8 (by decide) ?_
  refine lv_lshr (v := (jlshr v0 (32 : Int32))) C.x C.bc dX6_highOf_10 rfl ?_
  obtain ⟨v6_2, e_2, hx⟩ := nm_x hx
  refine x_tl e_2 ?_
  refine lv_lstore (lv' := [(6, .long v6_2), (4, .long v4_1), (0, .long v0), (2, .long v2)]) C.x C.bc dX6_highOf_11 hl (by decide) rfl (fun ls hl => ?_)
  refine lv_lload_n C.x C.bc dX6_highOf_13 rfl (lv_at hl 3 rfl) ?_
  refine lv_ldc2 (v := (4294967295 : Int64)) C.x C.bc C.ow (C.ts _ q1880) dX6_highOf_14 ?_
  refine lv_land C.x C.bc dX6_highOf_17 ?_
  obtain ⟨v8_3, e_3, hx⟩ := nm_x hx
  refine x_tl e_3 ?_
  refine lv_lstore (lv' := [(8, .long v8_3), (6, .long v6_2), (4, .long v4_1), (0, .long v0), (2, .long v2)]) C.x C.bc dX6_highOf_18 hl (by decide) rfl (fun ls hl => ?_)
  refine lv_lload_n C.x C.bc dX6_highOf_20 rfl (lv_at hl 4 rfl) ?_
  refine lv_bipush (v := (32 : Int32)) C.x C.bc dX6_highOf_21 (by decide) ?_
  refine lv_lshr (v := (jlshr v2 (32 : Int32))) C.x C.bc dX6_highOf_23 rfl ?_
  obtain ⟨v10_4, e_4, hx⟩ := nm_x hx
  refine x_tl e_4 ?_
  refine lv_lstore (lv' := [(10, .long v10_4), (8, .long v8_3), (6, .long v6_2), (4, .long v4_1), (0, .long v0), (2, .long v2)]) C.x C.bc dX6_highOf_24 hl (by decide) rfl (fun ls hl => ?_)
  refine lv_lload C.x C.bc dX6_highOf_26 (lv_at hl 2 rfl) ?_
  refine lv_lload C.x C.bc dX6_highOf_28 (lv_at hl 1 rfl) ?_
  refine lv_lmul C.x C.bc dX6_highOf_30 ?_
  refine lv_lload C.x C.bc dX6_highOf_31 (lv_at hl 3 rfl) ?_
  refine lv_lload C.x C.bc dX6_highOf_33 (lv_at hl 1 rfl) ?_
  refine lv_lmul C.x C.bc dX6_highOf_35 ?_
  refine lv_bipush (v := (32 : Int32)) C.x C.bc dX6_highOf_36 (by decide) ?_
  refine lv_lushr (v := (jlushr (v4_1 * v8_3) (32 : Int32))) C.x C.bc dX6_highOf_38 rfl ?_
  refine lv_ladd C.x C.bc dX6_highOf_39 ?_
  obtain ⟨v12_5, e_5, hx⟩ := nm_x hx
  refine x_tl e_5 ?_
  refine lv_lstore (lv' := [(12, .long v12_5), (10, .long v10_4), (8, .long v8_3), (6, .long v6_2), (4, .long v4_1), (0, .long v0), (2, .long v2)]) C.x C.bc dX6_highOf_40 hl (by decide) rfl (fun ls hl => ?_)
  refine lv_lload C.x C.bc dX6_highOf_42 (lv_at hl 3 rfl) ?_
  refine lv_lload C.x C.bc dX6_highOf_44 (lv_at hl 1 rfl) ?_
  refine lv_lmul C.x C.bc dX6_highOf_46 ?_
  refine lv_lload C.x C.bc dX6_highOf_47 (lv_at hl 0 rfl) ?_
  refine lv_bipush (v := (32 : Int32)) C.x C.bc dX6_highOf_49 (by decide) ?_
  refine lv_lshr (v := (jlshr v12_5 (32 : Int32))) C.x C.bc dX6_highOf_51 rfl ?_
  refine lv_ladd C.x C.bc dX6_highOf_52 ?_
  refine lv_lload C.x C.bc dX6_highOf_53 (lv_at hl 4 rfl) ?_
  refine lv_lload C.x C.bc dX6_highOf_55 (lv_at hl 1 rfl) ?_
  refine lv_lmul C.x C.bc dX6_highOf_57 ?_
  refine lv_lload C.x C.bc dX6_highOf_58 (lv_at hl 0 rfl) ?_
  refine lv_ldc2 (v := (4294967295 : Int64)) C.x C.bc C.ow (C.ts _ q1880) dX6_highOf_60 ?_
  refine lv_land C.x C.bc dX6_highOf_63 ?_
  refine lv_ladd C.x C.bc dX6_highOf_64 ?_
  refine lv_bipush (v := (32 : Int32)) C.x C.bc dX6_highOf_65 (by decide) ?_
  refine lv_lshr (v := (jlshr ((v4_1 * v10_4) + (v12_5 &&& (4294967295 : Int64))) (32 : Int32))) C.x C.bc dX6_highOf_67 rfl ?_
  refine lv_ladd C.x C.bc dX6_highOf_68 ?_
  subst hx
  exact x_lret C h dX6_highOf_69
theorem mX6_highOf (hG : G0 E s0 b) (hI : Sx E) {v0 : Int64} {v2 : Int64} {x : Int64} (hx : fX6_highOf v0 v2 = x) : Mt l E s0 yX6_highOf cX6_highOf 14 (some .long) rmX6_highOf [.long v0, .long v2] g (some (.long x)) E g :=
  Mt.of hG (by decide) (Nat.le_of_ble_eq_true rfl) (fun p e s m below meth c ls C h hl => bX6_highOf C hI v0 v2 hx h hl)
theorem cX6_208_X6_highOf {a0 : Int64} {a1 : Int64} {r : Int64} (C : Cx E s0 b p s m args meth c cc nL "EarthMeshModel" rt) (hI : Sx E) (h : XH E g s H locs) (hf : fX6_highOf a0 a1 = r) (hR : rmX6_highOf.frames + 1 ≤ R.frames ∧ 16 + (14 + 11) + rmX6_highOf.locals ≤ R.locals) (h0 : cells ≤ R.cells ∧ slots ≤ R.slots) (hsz : ls.size = nL) (hcat : (rest.map fun v => v.category).sum ≤ 16) (hdg : decode cc pc = .ok (.invokestatic 208, 3)) (kk : ∀ (H : Heap) (locs : List Loc), XH E g s H locs → W p l e R s m args below meth c H locs cells slots Q (F0 m (pc + 3) ls (.long r :: rest))) : W p l e R s m args below meth c H locs cells slots Q (F0 m pc ls (.long a1 :: .long a0 :: rest)) :=
  x_callS (n := 2) (As := [.long a0, .long a1]) C h (mX6_highOf C.g hI hf) (lw_S q1877 q1878 q136 q1879) ⟨by decide +kernel, by decide +kernel, by decide +kernel⟩ hR ⟨rfl, rfl⟩ h0 rfl hsz rfl hcat hdg kk
abbrev rmX6_inverse : Room := { frames := 0, cells := 0, slots := 0, locals := 0 }
def fX6_inverse_5 (v0 : Int64) (v2 : Int64) (v4 : Int32) : Option ((Int64 × Int32) ⊕ (Int64)) :=
  if (5 : Int32) ≤ v4 then
    some (.inr v2)
  else
    nm (v2 * ((2 : Int64) - (v0 * v2))) fun v2_2 =>
    nm (v4 + (1 : Int32)) fun v4_3 =>
    some (.inl (v2_2, v4_3))
set_option maxHeartbeats 1000000 in
theorem bX6_inverse_5 (C : Cx E s0 b p s m args meth c cX6_inverse 5 "EarthMeshModel" (some .long)) (hI : Sx E) (v0 : Int64) (v2 : Int64) (v4 : Int32) {x : (Int64 × Int32) ⊕ (Int64)} (hx : fX6_inverse_5 v0 v2 v4 = some x) {Q : State → Prop} {G : Int64 × Int32 → Prop} {X : Int64 → Prop} (hG : ∀ (w2 : Int64) (w4 : Int32), G (w2, w4) → ∀ (H : Heap) (locs : List Loc) (ls : Array Slot), XH E g s H locs → lv_has ls 5 [(0, .long v0), (2, .long w2), (4, .int w4)] → W p l e rmX6_inverse s m args below meth c H locs 0 0 Q (F0 m 5 ls [])) (hE0 : ∀ (w2 : Int64), X w2 → ∀ (H : Heap) (locs : List Loc) (ls : Array Slot), XH E g s H locs → lv_has ls 5 [(2, .long w2)] → W p l e rmX6_inverse s m args below meth c H locs 0 0 Q (F0 m 27 ls [])) (K : Kx G X x) {H : Heap} {locs : List Loc} {ls : Array Slot} (h : XH E g s H locs) (hl : lv_has ls 5 [(0, .long v0), (2, .long v2), (4, .int v4)]) : W p l e rmX6_inverse s m args below meth c H locs 0 0 Q (F0 m 5 ls []) := by
  unfold fX6_inverse_5 at hx
  refine lv_iload C.x C.bc dX6_inverse_5 (lv_at hl 2 rfl) ?_
  refine lv_iconst (v := (5 : Int32)) C.x C.bc dX6_inverse_7 (by decide) ?_
  refine lv_icmp_ge (tgt := 27) C.x C.bc dX6_inverse_8 (by decide) (fun c_1 => ?_) (fun c_1 => ?_)
  · have hx := ge_t hx c_1
    obtain rfl := Option.some.inj hx
    exact hE0 _ K _ _ _ h (lv_sub hl [1] rfl)
  · have hx := ge_f hx c_1
    refine lv_lload_n C.x C.bc dX6_inverse_11 rfl (lv_at hl 1 rfl) ?_
    refine lv_ldc2 (v := (2 : Int64)) C.x C.bc C.ow (C.ts _ q1891) dX6_inverse_12 ?_
    refine lv_lload_n C.x C.bc dX6_inverse_15 rfl (lv_at hl 0 rfl) ?_
    refine lv_lload_n C.x C.bc dX6_inverse_16 rfl (lv_at hl 1 rfl) ?_
    refine lv_lmul C.x C.bc dX6_inverse_17 ?_
    refine lv_lsub C.x C.bc dX6_inverse_18 ?_
    refine lv_lmul C.x C.bc dX6_inverse_19 ?_
    obtain ⟨v2_2, e_2, hx⟩ := nm_x hx
    refine x_tl e_2 ?_
    refine lv_lstore_n (lv' := [(2, .long v2_2), (0, .long v0), (4, .int v4)]) C.x C.bc dX6_inverse_20 rfl hl (by decide) rfl (fun ls hl => ?_)
    obtain ⟨v4_3, e_3, hx⟩ := nm_x hx
    refine lv_iinc (v := v4_3) (lv' := [(4, .int v4_3), (2, .long v2_2), (0, .long v0)]) C.x C.bc dX6_inverse_21 hl (k := 2) rfl (by rw [e_3]; rfl) (by decide) rfl (fun ls hl => ?_)
    refine lv_goto (tgt := 5) C.x C.bc dX6_inverse_24 (by decide) ?_
    obtain rfl := Option.some.inj hx
    exact hG _ _ K _ _ _ h (lv_sub hl [2, 1, 0] rfl)
set_option maxHeartbeats 1000000 in
theorem pX6_inverse_5 (C : Cx E s0 b p s m args meth c cX6_inverse 5 "EarthMeshModel" (some .long)) (hI : Sx E) (v0 : Int64) {Q : State → Prop} {v2 : Int64} {v4 : Int32} {n : Nat} {r : Int64} (hx : iter (u2 fun v2 v4 => fX6_inverse_5 v0 v2 v4) n (v2, v4) = some r) (hE : (fun t => ∀ (H : Heap) (locs : List Loc) (ls : Array Slot), XH E g s H locs → lv_has ls 5 [(2, .long t)] → W p l e rmX6_inverse s m args below meth c H locs 0 0 Q (F0 m 27 ls [])) r) {H : Heap} {locs : List Loc} {ls : Array Slot} (h : XH E g s H locs) (hl : lv_has ls 5 [(0, .long v0), (2, .long v2), (4, .int v4)]) : W p l e rmX6_inverse s m args below meth c H locs 0 0 Q (F0 m 5 ls []) := by
  refine iter_W (G := fun t => ∀ (H : Heap) (locs : List Loc) (ls : Array Slot), XH E g s H locs → lv_has ls 5 [(0, .long v0), (2, .long t.1), (4, .int t.2)] → W p l e rmX6_inverse s m args below meth c H locs 0 0 Q (F0 m 5 ls [])) (E := fun t => ∀ (H : Heap) (locs : List Loc) (ls : Array Slot), XH E g s H locs → lv_has ls 5 [(2, .long t)] → W p l e rmX6_inverse s m args below meth c H locs 0 0 Q (F0 m 27 ls [])) (fun t x hx K H locs ls h hl => ?_) n _ r hx hE H locs ls h hl
  obtain ⟨v2, v4⟩ := t
  exact bX6_inverse_5 C hI v0 v2 v4 hx (fun _ _ z => z) (fun _ z => z) K h hl
def fX6_inverse (v0 : Int64) : Option (Int64) :=
  bd (iter (u2 fun z2 z4 => fX6_inverse_5 v0 z2 z4) FU (v0, (0 : Int32))) (u1 fun v2_4 =>
  some v2_4)
set_option maxHeartbeats 1000000 in
theorem bX6_inverse (C : Cx E s0 b p s m args meth c cX6_inverse 5 "EarthMeshModel" (some .long)) (hI : Sx E) (v0 : Int64) {x : Int64} (hx : fX6_inverse v0 = some x) {H : Heap} {locs : List Loc} {ls : Array Slot} (h : XH E g s H locs) (hl : lv_has ls 5 [(0, .long v0)]) : W p l e rmX6_inverse s m args below meth c H locs 0 0 (MQ below (Qx E (some (.long x)) g) args s 0 0 (gA E.HB)) (F0 m 0 ls []) := by
  unfold fX6_inverse at hx
  refine lv_lload_n C.x C.bc dX6_inverse_0 rfl (lv_at hl 0 rfl) ?_
  refine lv_lstore_n (lv' := [(2, .long v0), (0, .long v0)]) C.x C.bc dX6_inverse_1 rfl hl (by decide) rfl (fun ls hl => ?_)
  refine lv_iconst (v := (0 : Int32)) C.x C.bc dX6_inverse_2 (by decide) ?_
  refine lv_istore (lv' := [(4, .int (0 : Int32)), (2, .long v0), (0, .long v0)]) C.x C.bc dX6_inverse_3 hl (by decide) rfl (fun ls hl => ?_)
  obtain ⟨v2_4, hi_4, hx⟩ := bd_e hx
  have hx := u1_e hx
  refine pX6_inverse_5 C hI v0 hi_4 (fun H locs ls h hl => ?_) h (lv_sub hl [2, 1, 0] rfl)
  refine lv_lload_n C.x C.bc dX6_inverse_27 rfl (lv_at hl 0 rfl) ?_
  obtain rfl := Option.some.inj hx
  exact x_lret C h dX6_inverse_28
theorem mX6_inverse (hG : G0 E s0 b) (hI : Sx E) {v0 : Int64} {x : Int64} (hx : fX6_inverse v0 = some x) : Mt l E s0 yX6_inverse cX6_inverse 5 (some .long) rmX6_inverse [.long v0] g (some (.long x)) E g :=
  Mt.of hG (by decide) (Nat.le_of_ble_eq_true rfl) (fun p e s m below meth c ls C h hl => bX6_inverse C hI v0 hx h hl)
theorem cX6_216_X6_inverse {a0 : Int64} {r : Int64} (C : Cx E s0 b p s m args meth c cc nL "EarthMeshModel" rt) (hI : Sx E) (h : XH E g s H locs) (hf : fX6_inverse a0 = some r) (hR : rmX6_inverse.frames + 1 ≤ R.frames ∧ 16 + (5 + 11) + rmX6_inverse.locals ≤ R.locals) (h0 : cells ≤ R.cells ∧ slots ≤ R.slots) (hsz : ls.size = nL) (hcat : (rest.map fun v => v.category).sum ≤ 16) (hdg : decode cc pc = .ok (.invokestatic 216, 3)) (kk : ∀ (H : Heap) (locs : List Loc), XH E g s H locs → W p l e R s m args below meth c H locs cells slots Q (F0 m (pc + 3) ls (.long r :: rest))) : W p l e R s m args below meth c H locs cells slots Q (F0 m pc ls (.long a0 :: rest)) :=
  x_callS (n := 1) (As := [.long a0]) C h (mX6_inverse C.g hI hf) (lw_S q1888 q1889 q136 q1890) ⟨by decide +kernel, by decide +kernel, by decide +kernel⟩ hR ⟨rfl, rfl⟩ h0 rfl hsz rfl hcat hdg kk
abbrev rmJ13_numberOfTrailingZeros : Room := { frames := 0, cells := 0, slots := 0, locals := 0 }
def fJ13_numberOfTrailingZeros_74 (v0 : Int32) (v1 : Int32) : Int32 :=
  (v1 + (jiushr v0 (1 : Int32)))
set_option maxHeartbeats 1000000 in
theorem bJ13_numberOfTrailingZeros_74 (C : Cx E s0 b p s m args meth c cJ13_numberOfTrailingZeros 2 "java/lang/Integer" (some .int)) (hI : Sx E) (v0 : Int32) (v1 : Int32) {x : Int32} (hx : fJ13_numberOfTrailingZeros_74 v0 v1 = x) {H : Heap} {locs : List Loc} {ls : Array Slot} (h : XH E g s H locs) (hl : lv_has ls 2 [(0, .int v0), (1, .int v1)]) : W p l e rmJ13_numberOfTrailingZeros s m args below meth c H locs 0 0 (MQ below (Qx E (some (.int x)) g) args s 0 0 (gA E.HB)) (F0 m 74 ls []) := by
  unfold fJ13_numberOfTrailingZeros_74 at hx
  refine lv_iload_n C.x C.bc dJ13_numberOfTrailingZeros_74 rfl (lv_at hl 1 rfl) ?_
  refine lv_iload_n C.x C.bc dJ13_numberOfTrailingZeros_75 rfl (lv_at hl 0 rfl) ?_
  refine lv_iconst (v := (1 : Int32)) C.x C.bc dJ13_numberOfTrailingZeros_76 (by decide) ?_
  refine lv_iushr (v := (jiushr v0 (1 : Int32))) C.x C.bc dJ13_numberOfTrailingZeros_77 rfl ?_
  refine lv_iadd C.x C.bc dJ13_numberOfTrailingZeros_78 ?_
  subst hx
  exact x_iret C h dJ13_numberOfTrailingZeros_79
def fJ13_numberOfTrailingZeros_62 (v0 : Int32) (v1 : Int32) : Int32 :=
  if v0 ≤ (4 : Int32) then
    fJ13_numberOfTrailingZeros_74 v0 v1
  else
    nm (v1 + (2 : Int32)) fun v1_7 =>
    nm (jiushr v0 (2 : Int32)) fun v0_8 =>
    fJ13_numberOfTrailingZeros_74 v0_8 v1_7
set_option maxHeartbeats 1000000 in
theorem bJ13_numberOfTrailingZeros_62 (C : Cx E s0 b p s m args meth c cJ13_numberOfTrailingZeros 2 "java/lang/Integer" (some .int)) (hI : Sx E) (v0 : Int32) (v1 : Int32) {x : Int32} (hx : fJ13_numberOfTrailingZeros_62 v0 v1 = x) {H : Heap} {locs : List Loc} {ls : Array Slot} (h : XH E g s H locs) (hl : lv_has ls 2 [(0, .int v0), (1, .int v1)]) : W p l e rmJ13_numberOfTrailingZeros s m args below meth c H locs 0 0 (MQ below (Qx E (some (.int x)) g) args s 0 0 (gA E.HB)) (F0 m 62 ls []) := by
  unfold fJ13_numberOfTrailingZeros_62 at hx
  refine lv_iload_n C.x C.bc dJ13_numberOfTrailingZeros_62 rfl (lv_at hl 0 rfl) ?_
  refine lv_iconst (v := (4 : Int32)) C.x C.bc dJ13_numberOfTrailingZeros_63 (by decide) ?_
  refine lv_icmp_le (tgt := 74) C.x C.bc dJ13_numberOfTrailingZeros_64 (by decide) (fun c_6 => ?_) (fun c_6 => ?_)
  · have hx := ge_t hx c_6
    exact bJ13_numberOfTrailingZeros_74 C hI v0 v1 hx h (lv_sub hl [0, 1] rfl)
  · have hx := ge_f hx c_6
    obtain ⟨v1_7, e_7, hx⟩ := nm_x hx
    refine lv_iinc (v := v1_7) (lv' := [(1, .int v1_7), (0, .int v0)]) C.x C.bc dJ13_numberOfTrailingZeros_67 hl (k := 1) rfl (by rw [e_7]; rfl) (by decide) rfl (fun ls hl => ?_)
    refine lv_iload_n C.x C.bc dJ13_numberOfTrailingZeros_70 rfl (lv_at hl 1 rfl) ?_
    refine lv_iconst (v := (2 : Int32)) C.x C.bc dJ13_numberOfTrailingZeros_71 (by decide) ?_
    refine lv_iushr (v := (jiushr v0 (2 : Int32))) C.x C.bc dJ13_numberOfTrailingZeros_72 rfl ?_
    obtain ⟨v0_8, e_8, hx⟩ := nm_x hx
    refine x_ti e_8 ?_
    refine lv_istore_n (lv' := [(0, .int v0_8), (1, .int v1_7)]) C.x C.bc dJ13_numberOfTrailingZeros_73 rfl hl (by decide) rfl (fun ls hl => ?_)
    exact bJ13_numberOfTrailingZeros_74 C hI v0_8 v1_7 hx h (lv_sub hl [0, 1] rfl)
def fJ13_numberOfTrailingZeros_49 (v0 : Int32) (v1 : Int32) : Int32 :=
  if v0 ≤ (16 : Int32) then
    fJ13_numberOfTrailingZeros_62 v0 v1
  else
    nm (v1 + (4 : Int32)) fun v1_9 =>
    nm (jiushr v0 (4 : Int32)) fun v0_10 =>
    fJ13_numberOfTrailingZeros_62 v0_10 v1_9
set_option maxHeartbeats 1000000 in
theorem bJ13_numberOfTrailingZeros_49 (C : Cx E s0 b p s m args meth c cJ13_numberOfTrailingZeros 2 "java/lang/Integer" (some .int)) (hI : Sx E) (v0 : Int32) (v1 : Int32) {x : Int32} (hx : fJ13_numberOfTrailingZeros_49 v0 v1 = x) {H : Heap} {locs : List Loc} {ls : Array Slot} (h : XH E g s H locs) (hl : lv_has ls 2 [(0, .int v0), (1, .int v1)]) : W p l e rmJ13_numberOfTrailingZeros s m args below meth c H locs 0 0 (MQ below (Qx E (some (.int x)) g) args s 0 0 (gA E.HB)) (F0 m 49 ls []) := by
  unfold fJ13_numberOfTrailingZeros_49 at hx
  refine lv_iload_n C.x C.bc dJ13_numberOfTrailingZeros_49 rfl (lv_at hl 0 rfl) ?_
  refine lv_bipush (v := (16 : Int32)) C.x C.bc dJ13_numberOfTrailingZeros_50 (by decide) ?_
  refine lv_icmp_le (tgt := 62) C.x C.bc dJ13_numberOfTrailingZeros_52 (by decide) (fun c_5 => ?_) (fun c_5 => ?_)
  · have hx := ge_t hx c_5
    exact bJ13_numberOfTrailingZeros_62 C hI v0 v1 hx h (lv_sub hl [0, 1] rfl)
  · have hx := ge_f hx c_5
    obtain ⟨v1_9, e_9, hx⟩ := nm_x hx
    refine lv_iinc (v := v1_9) (lv' := [(1, .int v1_9), (0, .int v0)]) C.x C.bc dJ13_numberOfTrailingZeros_55 hl (k := 1) rfl (by rw [e_9]; rfl) (by decide) rfl (fun ls hl => ?_)
    refine lv_iload_n C.x C.bc dJ13_numberOfTrailingZeros_58 rfl (lv_at hl 1 rfl) ?_
    refine lv_iconst (v := (4 : Int32)) C.x C.bc dJ13_numberOfTrailingZeros_59 (by decide) ?_
    refine lv_iushr (v := (jiushr v0 (4 : Int32))) C.x C.bc dJ13_numberOfTrailingZeros_60 rfl ?_
    obtain ⟨v0_10, e_10, hx⟩ := nm_x hx
    refine x_ti e_10 ?_
    refine lv_istore_n (lv' := [(0, .int v0_10), (1, .int v1_9)]) C.x C.bc dJ13_numberOfTrailingZeros_61 rfl hl (by decide) rfl (fun ls hl => ?_)
    exact bJ13_numberOfTrailingZeros_62 C hI v0_10 v1_9 hx h (lv_sub hl [0, 1] rfl)
def fJ13_numberOfTrailingZeros_34 (v0 : Int32) (v1 : Int32) : Int32 :=
  if v0 ≤ (256 : Int32) then
    fJ13_numberOfTrailingZeros_49 v0 v1
  else
    nm (v1 + (8 : Int32)) fun v1_11 =>
    nm (jiushr v0 (8 : Int32)) fun v0_12 =>
    fJ13_numberOfTrailingZeros_49 v0_12 v1_11
set_option maxHeartbeats 1000000 in
theorem bJ13_numberOfTrailingZeros_34 (C : Cx E s0 b p s m args meth c cJ13_numberOfTrailingZeros 2 "java/lang/Integer" (some .int)) (hI : Sx E) (v0 : Int32) (v1 : Int32) {x : Int32} (hx : fJ13_numberOfTrailingZeros_34 v0 v1 = x) {H : Heap} {locs : List Loc} {ls : Array Slot} (h : XH E g s H locs) (hl : lv_has ls 2 [(0, .int v0), (1, .int v1)]) : W p l e rmJ13_numberOfTrailingZeros s m args below meth c H locs 0 0 (MQ below (Qx E (some (.int x)) g) args s 0 0 (gA E.HB)) (F0 m 34 ls []) := by
  unfold fJ13_numberOfTrailingZeros_34 at hx
  refine lv_iload_n C.x C.bc dJ13_numberOfTrailingZeros_34 rfl (lv_at hl 0 rfl) ?_
  refine lv_sipush (v := (256 : Int32)) C.x C.bc dJ13_numberOfTrailingZeros_35 (by decide) ?_
  refine lv_icmp_le (tgt := 49) C.x C.bc dJ13_numberOfTrailingZeros_38 (by decide) (fun c_4 => ?_) (fun c_4 => ?_)
  · have hx := ge_t hx c_4
    exact bJ13_numberOfTrailingZeros_49 C hI v0 v1 hx h (lv_sub hl [0, 1] rfl)
  · have hx := ge_f hx c_4
    obtain ⟨v1_11, e_11, hx⟩ := nm_x hx
    refine lv_iinc (v := v1_11) (lv' := [(1, .int v1_11), (0, .int v0)]) C.x C.bc dJ13_numberOfTrailingZeros_41 hl (k := 1) rfl (by rw [e_11]; rfl) (by decide) rfl (fun ls hl => ?_)
    refine lv_iload_n C.x C.bc dJ13_numberOfTrailingZeros_44 rfl (lv_at hl 1 rfl) ?_
    refine lv_bipush (v := (8 : Int32)) C.x C.bc dJ13_numberOfTrailingZeros_45 (by decide) ?_
    refine lv_iushr (v := (jiushr v0 (8 : Int32))) C.x C.bc dJ13_numberOfTrailingZeros_47 rfl ?_
    obtain ⟨v0_12, e_12, hx⟩ := nm_x hx
    refine x_ti e_12 ?_
    refine lv_istore_n (lv' := [(0, .int v0_12), (1, .int v1_11)]) C.x C.bc dJ13_numberOfTrailingZeros_48 rfl hl (by decide) rfl (fun ls hl => ?_)
    exact bJ13_numberOfTrailingZeros_49 C hI v0_12 v1_11 hx h (lv_sub hl [0, 1] rfl)
def fJ13_numberOfTrailingZeros (v0 : Int32) : Int32 :=
  nm ((v0 ^^^ (-1 : Int32)) &&& (v0 - (1 : Int32))) fun v0_1 =>
  if 0 < v0_1 then
    if v0_1 ≤ (65536 : Int32) then
      fJ13_numberOfTrailingZeros_34 v0_1 (1 : Int32)
    else
      nm ((1 : Int32) + (16 : Int32)) fun v1_13 =>
      nm (jiushr v0_1 (16 : Int32)) fun v0_14 =>
      fJ13_numberOfTrailingZeros_34 v0_14 v1_13
  else
    (v0_1 &&& (32 : Int32))
set_option maxHeartbeats 1000000 in
theorem bJ13_numberOfTrailingZeros (C : Cx E s0 b p s m args meth c cJ13_numberOfTrailingZeros 2 "java/lang/Integer" (some .int)) (hI : Sx E) (v0 : Int32) {x : Int32} (hx : fJ13_numberOfTrailingZeros v0 = x) {H : Heap} {locs : List Loc} {ls : Array Slot} (h : XH E g s H locs) (hl : lv_has ls 2 [(0, .int v0)]) : W p l e rmJ13_numberOfTrailingZeros s m args below meth c H locs 0 0 (MQ below (Qx E (some (.int x)) g) args s 0 0 (gA E.HB)) (F0 m 0 ls []) := by
  unfold fJ13_numberOfTrailingZeros at hx
  refine lv_iload_n C.x C.bc dJ13_numberOfTrailingZeros_0 rfl (lv_at hl 0 rfl) ?_
  refine lv_iconst (v := (-1 : Int32)) C.x C.bc dJ13_numberOfTrailingZeros_1 (by decide) ?_
  refine lv_ixor C.x C.bc dJ13_numberOfTrailingZeros_2 ?_
  refine lv_iload_n C.x C.bc dJ13_numberOfTrailingZeros_3 rfl (lv_at hl 0 rfl) ?_
  refine lv_iconst (v := (1 : Int32)) C.x C.bc dJ13_numberOfTrailingZeros_4 (by decide) ?_
  refine lv_isub C.x C.bc dJ13_numberOfTrailingZeros_5 ?_
  refine lv_iand C.x C.bc dJ13_numberOfTrailingZeros_6 ?_
  obtain ⟨v0_1, e_1, hx⟩ := nm_x hx
  refine x_ti e_1 ?_
  refine lv_istore_n (lv' := [(0, .int v0_1)]) C.x C.bc dJ13_numberOfTrailingZeros_7 rfl hl (by decide) rfl (fun ls hl => ?_)
  refine lv_iload_n C.x C.bc dJ13_numberOfTrailingZeros_8 rfl (lv_at hl 0 rfl) ?_
  refine lv_if_gt (tgt := 17) C.x C.bc dJ13_numberOfTrailingZeros_9 (by decide) (fun c_2 => ?_) (fun c_2 => ?_)
  · have hx := ge_t hx c_2
    refine lv_iconst (v := (1 : Int32)) C.x C.bc dJ13_numberOfTrailingZeros_17 (by decide) ?_
    refine lv_istore_n (lv' := [(1, .int (1 : Int32)), (0, .int v0_1)]) C.x C.bc dJ13_numberOfTrailingZeros_18 rfl hl (by decide) rfl (fun ls hl => ?_)
    refine lv_iload_n C.x C.bc dJ13_numberOfTrailingZeros_19 rfl (lv_at hl 1 rfl) ?_
    refine lv_ldcw (v := (65536 : Int32)) C.x C.bc C.ow (C.ts _ q1887) dJ13_numberOfTrailingZeros_20 ?_
    refine lv_icmp_le (tgt := 34) C.x C.bc dJ13_numberOfTrailingZeros_23 (by decide) (fun c_3 => ?_) (fun c_3 => ?_)
    · have hx := ge_t hx c_3
      exact bJ13_numberOfTrailingZeros_34 C hI v0_1 (1 : Int32) hx h (lv_sub hl [1, 0] rfl)
    · have hx := ge_f hx c_3
      obtain ⟨v1_13, e_13, hx⟩ := nm_x hx
      refine lv_iinc (v := v1_13) (lv' := [(1, .int v1_13), (0, .int v0_1)]) C.x C.bc dJ13_numberOfTrailingZeros_26 hl (k := 0) rfl (by rw [e_13]; rfl) (by decide) rfl (fun ls hl => ?_)
      refine lv_iload_n C.x C.bc dJ13_numberOfTrailingZeros_29 rfl (lv_at hl 1 rfl) ?_
      refine lv_bipush (v := (16 : Int32)) C.x C.bc dJ13_numberOfTrailingZeros_30 (by decide) ?_
      refine lv_iushr (v := (jiushr v0_1 (16 : Int32))) C.x C.bc dJ13_numberOfTrailingZeros_32 rfl ?_
      obtain ⟨v0_14, e_14, hx⟩ := nm_x hx
      refine x_ti e_14 ?_
      refine lv_istore_n (lv' := [(0, .int v0_14), (1, .int v1_13)]) C.x C.bc dJ13_numberOfTrailingZeros_33 rfl hl (by decide) rfl (fun ls hl => ?_)
      exact bJ13_numberOfTrailingZeros_34 C hI v0_14 v1_13 hx h (lv_sub hl [0, 1] rfl)
  · have hx := ge_f hx c_2
    refine lv_iload_n C.x C.bc dJ13_numberOfTrailingZeros_12 rfl (lv_at hl 0 rfl) ?_
    refine lv_bipush (v := (32 : Int32)) C.x C.bc dJ13_numberOfTrailingZeros_13 (by decide) ?_
    refine lv_iand C.x C.bc dJ13_numberOfTrailingZeros_15 ?_
    subst hx
    exact x_iret C h dJ13_numberOfTrailingZeros_16
theorem mJ13_numberOfTrailingZeros (hG : G0 E s0 b) (hI : Sx E) {v0 : Int32} {x : Int32} (hx : fJ13_numberOfTrailingZeros v0 = x) : Mt l E s0 yJ13_numberOfTrailingZeros cJ13_numberOfTrailingZeros 2 (some .int) rmJ13_numberOfTrailingZeros [.int v0] g (some (.int x)) E g :=
  Mt.of hG (by decide) (Nat.le_of_ble_eq_true rfl) (fun p e s m below meth c ls C h hl => bJ13_numberOfTrailingZeros C hI v0 hx h hl)
theorem cLong_311_J13_numberOfTrailingZeros {a0 : Int32} {r : Int32} (C : Cx E s0 b p s m args meth c cc nL "java/lang/Long" rt) (hI : Sx E) (h : XH E g s H locs) (hf : fJ13_numberOfTrailingZeros a0 = r) (hR : rmJ13_numberOfTrailingZeros.frames + 1 ≤ R.frames ∧ 16 + (2 + 11) + rmJ13_numberOfTrailingZeros.locals ≤ R.locals) (h0 : cells ≤ R.cells ∧ slots ≤ R.slots) (hsz : ls.size = nL) (hcat : (rest.map fun v => v.category).sum ≤ 16) (hdg : decode cc pc = .ok (.invokestatic 311, 3)) (kk : ∀ (H : Heap) (locs : List Loc), XH E g s H locs → W p l e R s m args below meth c H locs cells slots Q (F0 m (pc + 3) ls (.int r :: rest))) : W p l e R s m args below meth c H locs cells slots Q (F0 m pc ls (.int a0 :: rest)) :=
  x_callS (n := 1) (As := [.int a0]) C h (mJ13_numberOfTrailingZeros C.g hI hf) (lw_S q1884 q1885 q154 q1886) ⟨by decide +kernel, by decide +kernel, by decide +kernel⟩ hR ⟨rfl, rfl⟩ h0 rfl hsz rfl hcat hdg kk
abbrev rmJ15_numberOfTrailingZeros : Room := { frames := 1, cells := 0, slots := 0, locals := 29 }
def fJ15_numberOfTrailingZeros (v0 : Int64) : Int32 :=
  nm (v0.toInt32) fun v2_1 =>
  if v2_1 = 0 then
    nm (fJ13_numberOfTrailingZeros ((jlushr v0 (32 : Int32)).toInt32)) fun r_4 =>
    ((32 : Int32) + r_4)
  else
    nm (fJ13_numberOfTrailingZeros v2_1) fun r_3 =>
    r_3
set_option maxHeartbeats 1000000 in
theorem bJ15_numberOfTrailingZeros (C : Cx E s0 b p s m args meth c cJ15_numberOfTrailingZeros 3 "java/lang/Long" (some .int)) (hI : Sx E) (v0 : Int64) {x : Int32} (hx : fJ15_numberOfTrailingZeros v0 = x) {H : Heap} {locs : List Loc} {ls : Array Slot} (h : XH E g s H locs) (hl : lv_has ls 3 [(0, .long v0)]) : W p l e rmJ15_numberOfTrailingZeros s m args below meth c H locs 0 0 (MQ below (Qx E (some (.int x)) g) args s 0 0 (gA E.HB)) (F0 m 0 ls []) := by
  unfold fJ15_numberOfTrailingZeros at hx
  refine lv_lload_n C.x C.bc dJ15_numberOfTrailingZeros_0 rfl (lv_at hl 0 rfl) ?_
  refine lv_l2i (v := (v0.toInt32)) C.x C.bc dJ15_numberOfTrailingZeros_1 rfl ?_
  obtain ⟨v2_1, e_1, hx⟩ := nm_x hx
  refine x_ti e_1 ?_
  refine lv_istore_n (lv' := [(2, .int v2_1), (0, .long v0)]) C.x C.bc dJ15_numberOfTrailingZeros_2 rfl hl (by decide) rfl (fun ls hl => ?_)
  refine lv_iload_n C.x C.bc dJ15_numberOfTrailingZeros_3 rfl (lv_at hl 0 rfl) ?_
  refine lv_if_ne (tgt := 21) C.x C.bc dJ15_numberOfTrailingZeros_4 (by decide) (fun c_2 => ?_) (fun c_2 => ?_)
  · have hx := ge_f hx c_2
    refine lv_iload_n C.x C.bc dJ15_numberOfTrailingZeros_21 rfl (lv_at hl 0 rfl) ?_
    obtain ⟨r_3, e_3, hx⟩ := nm_x hx
    refine cLong_311_J13_numberOfTrailingZeros C hI h e_3.symm ⟨Nat.le_of_ble_eq_true rfl, Nat.le_of_ble_eq_true rfl⟩ ⟨Nat.zero_le _, Nat.zero_le _⟩ hl.1 (Nat.le_of_ble_eq_true rfl) dJ15_numberOfTrailingZeros_22 (fun H locs h => ?_)
    subst hx
    exact x_iret C h dJ15_numberOfTrailingZeros_25
  · have hx := ge_t hx c_2
    refine lv_bipush (v := (32 : Int32)) C.x C.bc dJ15_numberOfTrailingZeros_7 (by decide) ?_
    refine lv_lload_n C.x C.bc dJ15_numberOfTrailingZeros_9 rfl (lv_at hl 1 rfl) ?_
    refine lv_bipush (v := (32 : Int32)) C.x C.bc dJ15_numberOfTrailingZeros_10 (by decide) ?_
    refine lv_lushr (v := (jlushr v0 (32 : Int32))) C.x C.bc dJ15_numberOfTrailingZeros_12 rfl ?_
    refine lv_l2i (v := ((jlushr v0 (32 : Int32)).toInt32)) C.x C.bc dJ15_numberOfTrailingZeros_13 rfl ?_
    obtain ⟨r_4, e_4, hx⟩ := nm_x hx
    refine cLong_311_J13_numberOfTrailingZeros C hI h e_4.symm ⟨Nat.le_of_ble_eq_true rfl, Nat.le_of_ble_eq_true rfl⟩ ⟨Nat.zero_le _, Nat.zero_le _⟩ hl.1 (Nat.le_of_ble_eq_true rfl) dJ15_numberOfTrailingZeros_14 (fun H locs h => ?_)
    refine lv_iadd C.x C.bc dJ15_numberOfTrailingZeros_17 ?_
    refine lv_goto (tgt := 25) C.x C.bc dJ15_numberOfTrailingZeros_18 (by decide) ?_
    subst hx
    exact x_iret C h dJ15_numberOfTrailingZeros_25
theorem mJ15_numberOfTrailingZeros (hG : G0 E s0 b) (hI : Sx E) {v0 : Int64} {x : Int32} (hx : fJ15_numberOfTrailingZeros v0 = x) : Mt l E s0 yJ15_numberOfTrailingZeros cJ15_numberOfTrailingZeros 3 (some .int) rmJ15_numberOfTrailingZeros [.long v0] g (some (.int x)) E g :=
  Mt.of hG (by decide) (Nat.le_of_ble_eq_true rfl) (fun p e s m below meth c ls C h hl => bJ15_numberOfTrailingZeros C hI v0 hx h hl)
theorem cX6_212_J15_numberOfTrailingZeros {a0 : Int64} {r : Int32} (C : Cx E s0 b p s m args meth c cc nL "EarthMeshModel" rt) (hI : Sx E) (h : XH E g s H locs) (hf : fJ15_numberOfTrailingZeros a0 = r) (hR : rmJ15_numberOfTrailingZeros.frames + 1 ≤ R.frames ∧ 16 + (3 + 11) + rmJ15_numberOfTrailingZeros.locals ≤ R.locals) (h0 : cells ≤ R.cells ∧ slots ≤ R.slots) (hsz : ls.size = nL) (hcat : (rest.map fun v => v.category).sum ≤ 16) (hdg : decode cc pc = .ok (.invokestatic 212, 3)) (kk : ∀ (H : Heap) (locs : List Loc), XH E g s H locs → W p l e R s m args below meth c H locs cells slots Q (F0 m (pc + 3) ls (.int r :: rest))) : W p l e R s m args below meth c H locs cells slots Q (F0 m pc ls (.long a0 :: rest)) :=
  x_callS (n := 1) (As := [.long a0]) C h (mJ15_numberOfTrailingZeros C.g hI hf) (lw_S q1881 q1882 q159 q1883) ⟨by decide +kernel, by decide +kernel, by decide +kernel⟩ hR ⟨rfl, rfl⟩ h0 rfl hsz rfl hcat hdg kk
abbrev rmX6_exactly : Room := { frames := 2, cells := 0, slots := 0, locals := 59 }
def fX6_exactly_91 (v8 : Int64) (v20 : Int32) (k0 : Int64) : Option (Int64) :=
  bd (fX6_inverse (jlshr v8 v20)) fun r_10 =>
  some (k0 * r_10)
set_option maxHeartbeats 1000000 in
theorem bX6_exactly_91 (C : Cx E s0 b p s m args meth c cX6_exactly 23 "EarthMeshModel" (some .long)) (hI : Sx E) (v8 : Int64) (v20 : Int32) (k0 : Int64) {x : Int64} (hx : fX6_exactly_91 v8 v20 k0 = some x) {H : Heap} {locs : List Loc} {ls : Array Slot} (h : XH E g s H locs) (hl : lv_has ls 23 [(8, .long v8), (20, .int v20)]) : W p l e rmX6_exactly s m args below meth c H locs 0 0 (MQ below (Qx E (some (.long x)) g) args s 0 0 (gA E.HB)) (F0 m 91 ls [.long k0]) := by
  unfold fX6_exactly_91 at hx
  refine lv_lstore (lv' := [(21, .long k0), (8, .long v8), (20, .int v20)]) C.x C.bc dX6_exactly_91 hl (by decide) rfl (fun ls hl => ?_)
  refine lv_lload C.x C.bc dX6_exactly_93 (lv_at hl 0 rfl) ?_
  refine lv_lload C.x C.bc dX6_exactly_95 (lv_at hl 1 rfl) ?_
  refine lv_iload C.x C.bc dX6_exactly_97 (lv_at hl 2 rfl) ?_
  refine lv_lshr (v := (jlshr v8 v20)) C.x C.bc dX6_exactly_99 rfl ?_
  obtain ⟨r_10, hf_10, hx⟩ := bd_e hx
  refine cX6_216_X6_inverse C hI h hf_10 ⟨Nat.le_of_ble_eq_true rfl, Nat.le_of_ble_eq_true rfl⟩ ⟨Nat.zero_le _, Nat.zero_le _⟩ hl.1 (Nat.le_of_ble_eq_true rfl) dX6_exactly_100 (fun H locs h => ?_)
  refine lv_lmul C.x C.bc dX6_exactly_103 ?_
  obtain rfl := Option.some.inj hx
  exact x_lret C h dX6_exactly_104
def fX6_exactly_40 (v0 : Int64) (v2 : Int64) (v4 : Int64) (v6 : Int64) (v8 : Int64) (v14 : Int64) (k0 : Int64) : Option (Int64) :=
  nm (fX6_highOf v0 v2) fun r_5 =>
  nm (fX6_highOf v4 v6) fun r_6 =>
  nm ((r_5 - r_6) - k0) fun v18_7 =>
  nm (fJ15_numberOfTrailingZeros v8) fun r_8 =>
  if r_8 = 0 then
    fX6_exactly_91 v8 r_8 v14
  else
    fX6_exactly_91 v8 r_8 ((jlushr v14 r_8) ||| (jlshl v18_7 ((64 : Int32) - r_8)))
set_option maxHeartbeats 1000000 in
theorem bX6_exactly_40 (C : Cx E s0 b p s m args meth c cX6_exactly 23 "EarthMeshModel" (some .long)) (hI : Sx E) (v0 : Int64) (v2 : Int64) (v4 : Int64) (v6 : Int64) (v8 : Int64) (v14 : Int64) (k0 : Int64) {x : Int64} (hx : fX6_exactly_40 v0 v2 v4 v6 v8 v14 k0 = some x) {H : Heap} {locs : List Loc} {ls : Array Slot} (h : XH E g s H locs) (hl : lv_has ls 23 [(0, .long v0), (2, .long v2), (4, .long v4), (6, .long v6), (8, .long v8), (14, .long v14)]) : W p l e rmX6_exactly s m args below meth c H locs 0 0 (MQ below (Qx E (some (.long x)) g) args s 0 0 (gA E.HB)) (F0 m 40 ls [.long k0]) := by
  unfold fX6_exactly_40 at hx
  refine lv_lstore (lv' := [(16, .long k0), (0, .long v0), (2, .long v2), (4, .long v4), (6, .long v6), (8, .long v8), (14, .long v14)]) C.x C.bc dX6_exactly_40 hl (by decide) rfl (fun ls hl => ?_)
  refine lv_lload_n C.x C.bc dX6_exactly_42 rfl (lv_at hl 1 rfl) ?_
  refine lv_lload_n C.x C.bc dX6_exactly_43 rfl (lv_at hl 2 rfl) ?_
  obtain ⟨r_5, e_5, hx⟩ := nm_x hx
  refine cX6_208_X6_highOf C hI h e_5.symm ⟨Nat.le_of_ble_eq_true rfl, Nat.le_of_ble_eq_true rfl⟩ ⟨Nat.zero_le _, Nat.zero_le _⟩ hl.1 (Nat.le_of_ble_eq_true rfl) dX6_exactly_44 (fun H locs h => ?_)
  refine lv_lload C.x C.bc dX6_exactly_47 (lv_at hl 3 rfl) ?_
  refine lv_lload C.x C.bc dX6_exactly_49 (lv_at hl 4 rfl) ?_
  obtain ⟨r_6, e_6, hx⟩ := nm_x hx
  refine cX6_208_X6_highOf C hI h e_6.symm ⟨Nat.le_of_ble_eq_true rfl, Nat.le_of_ble_eq_true rfl⟩ ⟨Nat.zero_le _, Nat.zero_le _⟩ hl.1 (Nat.le_of_ble_eq_true rfl) dX6_exactly_51 (fun H locs h => ?_)
  refine lv_lsub C.x C.bc dX6_exactly_54 ?_
  refine lv_lload C.x C.bc dX6_exactly_55 (lv_at hl 0 rfl) ?_
  refine lv_lsub C.x C.bc dX6_exactly_57 ?_
  obtain ⟨v18_7, e_7, hx⟩ := nm_x hx
  refine x_tl e_7 ?_
  refine lv_lstore (lv' := [(18, .long v18_7), (16, .long k0), (0, .long v0), (2, .long v2), (4, .long v4), (6, .long v6), (8, .long v8), (14, .long v14)]) C.x C.bc dX6_exactly_58 hl (by decide) rfl (fun ls hl => ?_)
  refine lv_lload C.x C.bc dX6_exactly_60 (lv_at hl 6 rfl) ?_
  obtain ⟨r_8, e_8, hx⟩ := nm_x hx
  refine cX6_212_J15_numberOfTrailingZeros C hI h e_8.symm ⟨Nat.le_of_ble_eq_true rfl, Nat.le_of_ble_eq_true rfl⟩ ⟨Nat.zero_le _, Nat.zero_le _⟩ hl.1 (Nat.le_of_ble_eq_true rfl) dX6_exactly_62 (fun H locs h => ?_)
  refine lv_istore (lv' := [(20, .int r_8), (18, .long v18_7), (16, .long k0), (0, .long v0), (2, .long v2), (4, .long v4), (6, .long v6), (8, .long v8), (14, .long v14)]) C.x C.bc dX6_exactly_65 hl (by decide) rfl (fun ls hl => ?_)
  refine lv_iload C.x C.bc dX6_exactly_67 (lv_at hl 0 rfl) ?_
  refine lv_if_ne (tgt := 77) C.x C.bc dX6_exactly_69 (by decide) (fun c_9 => ?_) (fun c_9 => ?_)
  · have hx := ge_f hx c_9
    refine lv_lload C.x C.bc dX6_exactly_77 (lv_at hl 8 rfl) ?_
    refine lv_iload C.x C.bc dX6_exactly_79 (lv_at hl 0 rfl) ?_
    refine lv_lushr (v := (jlushr v14 r_8)) C.x C.bc dX6_exactly_81 rfl ?_
    refine lv_lload C.x C.bc dX6_exactly_82 (lv_at hl 1 rfl) ?_
    refine lv_bipush (v := (64 : Int32)) C.x C.bc dX6_exactly_84 (by decide) ?_
    refine lv_iload C.x C.bc dX6_exactly_86 (lv_at hl 0 rfl) ?_
    refine lv_isub C.x C.bc dX6_exactly_88 ?_
    refine lv_lshl (v := (jlshl v18_7 ((64 : Int32) - r_8))) C.x C.bc dX6_exactly_89 rfl ?_
    refine lv_lor C.x C.bc dX6_exactly_90 ?_
    exact bX6_exactly_91 C hI v8 r_8 ((jlushr v14 r_8) ||| (jlshl v18_7 ((64 : Int32) - r_8))) hx h (lv_sub hl [7, 0] rfl)
  · have hx := ge_t hx c_9
    refine lv_lload C.x C.bc dX6_exactly_72 (lv_at hl 8 rfl) ?_
    refine lv_goto (tgt := 91) C.x C.bc dX6_exactly_74 (by decide) ?_
    exact bX6_exactly_91 C hI v8 r_8 v14 hx h (lv_sub hl [7, 0] rfl)
def fX6_exactly (v0 : Int64) (v2 : Int64) (v4 : Int64) (v6 : Int64) (v8 : Int64) : Option (Int64) :=
  nm (v0 * v2) fun v10_1 =>
  nm (v4 * v6) fun v12_2 =>
  nm (v10_1 - v12_2) fun v14_3 =>
  if (v10_1 ^^^ (-9223372036854775808 : Int64)) < (v12_2 ^^^ (-9223372036854775808 : Int64)) then
    fX6_exactly_40 v0 v2 v4 v6 v8 v14_3 (1 : Int64)
  else
    fX6_exactly_40 v0 v2 v4 v6 v8 v14_3 (0 : Int64)
set_option maxHeartbeats 1000000 in
theorem bX6_exactly (C : Cx E s0 b p s m args meth c cX6_exactly 23 "EarthMeshModel" (some .long)) (hI : Sx E) (v0 : Int64) (v2 : Int64) (v4 : Int64) (v6 : Int64) (v8 : Int64) {x : Int64} (hx : fX6_exactly v0 v2 v4 v6 v8 = some x) {H : Heap} {locs : List Loc} {ls : Array Slot} (h : XH E g s H locs) (hl : lv_has ls 23 [(0, .long v0), (2, .long v2), (4, .long v4), (6, .long v6), (8, .long v8)]) : W p l e rmX6_exactly s m args below meth c H locs 0 0 (MQ below (Qx E (some (.long x)) g) args s 0 0 (gA E.HB)) (F0 m 0 ls []) := by
  unfold fX6_exactly at hx
  refine lv_lload_n C.x C.bc dX6_exactly_0 rfl (lv_at hl 0 rfl) ?_
  refine lv_lload_n C.x C.bc dX6_exactly_1 rfl (lv_at hl 1 rfl) ?_
  refine lv_lmul C.x C.bc dX6_exactly_2 ?_
  obtain ⟨v10_1, e_1, hx⟩ := nm_x hx
  refine x_tl e_1 ?_
  refine lv_lstore (lv' := [(10, .long v10_1), (0, .long v0), (2, .long v2), (4, .long v4), (6, .long v6), (8, .long v8)]) C.x C.bc dX6_exactly_3 hl (by decide) rfl (fun ls hl => ?_)
  refine lv_lload C.x C.bc dX6_exactly_5 (lv_at hl 3 rfl) ?_
  refine lv_lload C.x C.bc dX6_exactly_7 (lv_at hl 4 rfl) ?_
  refine lv_lmul C.x C.bc dX6_exactly_9 ?_
  obtain ⟨v12_2, e_2, hx⟩ := nm_x hx
  refine x_tl e_2 ?_
  refine lv_lstore (lv' := [(12, .long v12_2), (10, .long v10_1), (0, .long v0), (2, .long v2), (4, .long v4), (6, .long v6), (8, .long v8)]) C.x C.bc dX6_exactly_10 hl (by decide) rfl (fun ls hl => ?_)
  refine lv_lload C.x C.bc dX6_exactly_12 (lv_at hl 1 rfl) ?_
  refine lv_lload C.x C.bc dX6_exactly_14 (lv_at hl 0 rfl) ?_
  refine lv_lsub C.x C.bc dX6_exactly_16 ?_
  obtain ⟨v14_3, e_3, hx⟩ := nm_x hx
  refine x_tl e_3 ?_
  refine lv_lstore (lv' := [(14, .long v14_3), (12, .long v12_2), (10, .long v10_1), (0, .long v0), (2, .long v2), (4, .long v4), (6, .long v6), (8, .long v8)]) C.x C.bc dX6_exactly_17 hl (by decide) rfl (fun ls hl => ?_)
  refine lv_lload C.x C.bc dX6_exactly_19 (lv_at hl 2 rfl) ?_
  refine lv_ldc2 (v := (-9223372036854775808 : Int64)) C.x C.bc C.ow (C.ts _ q1876) dX6_exactly_21 ?_
  refine lv_lxor C.x C.bc dX6_exactly_24 ?_
  refine lv_lload C.x C.bc dX6_exactly_25 (lv_at hl 1 rfl) ?_
  refine lv_ldc2 (v := (-9223372036854775808 : Int64)) C.x C.bc C.ow (C.ts _ q1876) dX6_exactly_27 ?_
  refine lv_lxor C.x C.bc dX6_exactly_30 ?_
  refine W.lcmp C.x C.bc dX6_exactly_31 ?_
  refine lv_if_ge (tgt := 39) C.x C.bc dX6_exactly_32 (by decide) (fun c_4 => ?_) (fun c_4 => ?_)
  · have c_4 := (lc_ge _ _).mp c_4
    have hx := ge_f hx c_4
    refine lv_lconst (v := (0 : Int64)) C.x C.bc dX6_exactly_39 (by decide) ?_
    exact bX6_exactly_40 C hI v0 v2 v4 v6 v8 v14_3 (0 : Int64) hx h (lv_sub hl [3, 4, 5, 6, 7, 0] rfl)
  · have c_4 := Classical.not_not.mp ((not_congr (lc_ge _ _)).mp c_4)
    have hx := ge_t hx c_4
    refine lv_lconst (v := (1 : Int64)) C.x C.bc dX6_exactly_35 (by decide) ?_
    refine lv_goto (tgt := 40) C.x C.bc dX6_exactly_36 (by decide) ?_
    exact bX6_exactly_40 C hI v0 v2 v4 v6 v8 v14_3 (1 : Int64) hx h (lv_sub hl [3, 4, 5, 6, 7, 0] rfl)
theorem mX6_exactly (hG : G0 E s0 b) (hI : Sx E) {v0 : Int64} {v2 : Int64} {v4 : Int64} {v6 : Int64} {v8 : Int64} {x : Int64} (hx : fX6_exactly v0 v2 v4 v6 v8 = some x) : Mt l E s0 yX6_exactly cX6_exactly 23 (some .long) rmX6_exactly [.long v0, .long v2, .long v4, .long v6, .long v8] g (some (.long x)) E g :=
  Mt.of hG (by decide) (Nat.le_of_ble_eq_true rfl) (fun p e s m below meth c ls C h hl => bX6_exactly C hI v0 v2 v4 v6 v8 hx h hl)
theorem cX6_241_X6_exactly {a0 : Int64} {a1 : Int64} {a2 : Int64} {a3 : Int64} {a4 : Int64} {r : Int64} (C : Cx E s0 b p s m args meth c cc nL "EarthMeshModel" rt) (hI : Sx E) (h : XH E g s H locs) (hf : fX6_exactly a0 a1 a2 a3 a4 = some r) (hR : rmX6_exactly.frames + 1 ≤ R.frames ∧ 16 + (23 + 11) + rmX6_exactly.locals ≤ R.locals) (h0 : cells ≤ R.cells ∧ slots ≤ R.slots) (hsz : ls.size = nL) (hcat : (rest.map fun v => v.category).sum ≤ 16) (hdg : decode cc pc = .ok (.invokestatic 241, 3)) (kk : ∀ (H : Heap) (locs : List Loc), XH E g s H locs → W p l e R s m args below meth c H locs cells slots Q (F0 m (pc + 3) ls (.long r :: rest))) : W p l e R s m args below meth c H locs cells slots Q (F0 m pc ls (.long a4 :: .long a3 :: .long a2 :: .long a1 :: .long a0 :: rest)) :=
  x_callS (n := 5) (As := [.long a0, .long a1, .long a2, .long a3, .long a4]) C h (mX6_exactly C.g hI hf) (lw_S q1873 q1874 q136 q1875) ⟨by decide +kernel, by decide +kernel, by decide +kernel⟩ hR ⟨rfl, rfl⟩ h0 rfl hsz rfl hcat hdg kk
abbrev rmX6_cell : Room := { frames := 0, cells := 0, slots := 0, locals := 0 }
def fX6_cell (v1 : Int32) (v2 : Int32) (st : St) : Option (Int64) :=
  gd (inB (((13 : Int32) * v1) + v2) 156) <|
  some (st.2.1 74 (((13 : Int32) * v1) + v2).toNatClampNeg)
set_option maxHeartbeats 1000000 in
theorem bX6_cell (C : Cx E s0 b p s m args meth c cX6_cell 3 "EarthMeshModel" (some .long)) (hI : Sx E) (v1 : Int32) (v2 : Int32) (st : St) {x : Int64} (hx : fX6_cell v1 v2 st = some x) {H : Heap} {locs : List Loc} {ls : Array Slot} (h : XH E (sg st) s H locs) (hl : lv_has ls 3 [(0, .ref (E.ad 68)), (1, .int v1), (2, .int v2)]) : W p l e rmX6_cell s m args below meth c H locs 0 0 (MQ below (Qx E (some (.long x)) (sg st)) args s 0 0 (gA E.HB)) (F0 m 0 ls []) := by
  unfold fX6_cell at hx
  refine lv_aload_n C.x C.bc dX6_cell_0 rfl (lv_at hl 0 rfl) ?_
  refine gt_X6_48_68 C hI h dX6_cell_1 ?_
  refine lv_bipush (v := (13 : Int32)) C.x C.bc dX6_cell_4 (by decide) ?_
  refine lv_iload_n C.x C.bc dX6_cell_6 rfl (lv_at hl 1 rfl) ?_
  refine lv_imul C.x C.bc dX6_cell_7 ?_
  refine lv_iload_n C.x C.bc dX6_cell_8 rfl (lv_at hl 2 rfl) ?_
  refine lv_iadd C.x C.bc dX6_cell_9 ?_
  obtain ⟨g_1, hx⟩ := gd_e hx
  refine x_lald C h 74 156 (hI 74 (by decide)) k_74 g_1 dX6_cell_10 ?_
  obtain rfl := Option.some.inj hx
  exact x_lret C h dX6_cell_11
theorem mX6_cell (hG : G0 E s0 b) (hI : Sx E) {v1 : Int32} {v2 : Int32} {x : Int64} (hx : fX6_cell v1 v2 st = some x) : Mt l E s0 yX6_cell cX6_cell 3 (some .long) rmX6_cell [.ref (E.ad 68), .int v1, .int v2] (sg st) (some (.long x)) E (sg st) :=
  Mt.of hG (by decide) (Nat.le_of_ble_eq_true rfl) (fun p e s m below meth c ls C h hl => bX6_cell C hI v1 v2 st hx h hl)
theorem cX6_237_X6_cell {a0 : Int32} {a1 : Int32} {r : Int64} (C : Cx E s0 b p s m args meth c cc nL "EarthMeshModel" rt) (hI : Sx E) (h : XH E (sg st) s H locs) (hf : fX6_cell a0 a1 st = some r) (hR : rmX6_cell.frames + 1 ≤ R.frames ∧ 16 + (3 + 11) + rmX6_cell.locals ≤ R.locals) (h0 : cells ≤ R.cells ∧ slots ≤ R.slots) (hsz : ls.size = nL) (hcat : (rest.map fun v => v.category).sum ≤ 16) (hdg : decode cc pc = .ok (.invokevirtual 237, 3)) (kk : ∀ (H : Heap) (locs : List Loc), XH E (sg st) s H locs → W p l e R s m args below meth c H locs cells slots Q (F0 m (pc + 3) ls (.long r :: rest))) : W p l e R s m args below meth c H locs cells slots Q (F0 m pc ls (.int a1 :: .int a0 :: .ref (E.ad 68) :: rest)) :=
  x_callV (n := 2) (As := [.int a0, .int a1]) C h 68 5 (hI 68 (by decide)) k_68 rfl (mX6_cell C.g hI hf) (lw_V q1869 q1871 qs96 q136 q1872) ⟨rfl, by decide +kernel, by decide +kernel, by decide +kernel⟩ hR ⟨rfl, rfl⟩ h0 rfl hsz rfl hcat hdg kk
abbrev rmX6_lay : Room := { frames := 0, cells := 0, slots := 0, locals := 0 }
def fX6_lay (v1 : Int32) (v2 : Int32) (v3 : Int64) (st : St) : Option (St) :=
  gd (inB (((13 : Int32) * v1) + v2) 156) <|
  nm (uL st 74 (((13 : Int32) * v1) + v2).toNatClampNeg v3) fun st_2 =>
  some st_2
set_option maxHeartbeats 1000000 in
theorem bX6_lay (C : Cx E s0 b p s m args meth c cX6_lay 5 "EarthMeshModel" none) (hI : Sx E) (v1 : Int32) (v2 : Int32) (v3 : Int64) (st : St) {x : St} (hx : fX6_lay v1 v2 v3 st = some x) {H : Heap} {locs : List Loc} {ls : Array Slot} (h : XH E (sg st) s H locs) (hl : lv_has ls 5 [(0, .ref (E.ad 68)), (1, .int v1), (2, .int v2), (3, .long v3)]) : W p l e rmX6_lay s m args below meth c H locs 0 0 (MQ below (Qx E none (sg x)) args s 0 0 (gA E.HB)) (F0 m 0 ls []) := by
  unfold fX6_lay at hx
  refine lv_aload_n C.x C.bc dX6_lay_0 rfl (lv_at hl 0 rfl) ?_
  refine gt_X6_48_68 C hI h dX6_lay_1 ?_
  refine lv_bipush (v := (13 : Int32)) C.x C.bc dX6_lay_4 (by decide) ?_
  refine lv_iload_n C.x C.bc dX6_lay_6 rfl (lv_at hl 1 rfl) ?_
  refine lv_imul C.x C.bc dX6_lay_7 ?_
  refine lv_iload_n C.x C.bc dX6_lay_8 rfl (lv_at hl 2 rfl) ?_
  refine lv_iadd C.x C.bc dX6_lay_9 ?_
  refine lv_lload_n C.x C.bc dX6_lay_10 rfl (lv_at hl 3 rfl) ?_
  obtain ⟨g_1, hx⟩ := gd_e hx
  obtain ⟨st_2, e_2, hx⟩ := nm_x hx
  refine y_last C h 74 156 (hI 74 (by decide)) k_74 g_1 e_2 dX6_lay_11 (fun H locs h => ?_)
  obtain rfl := Option.some.inj hx
  exact x_vret C h dX6_lay_12
theorem mX6_lay (hG : G0 E s0 b) (hI : Sx E) {v1 : Int32} {v2 : Int32} {v3 : Int64} {x : St} (hx : fX6_lay v1 v2 v3 st = some x) : Mt l E s0 yX6_lay cX6_lay 5 none rmX6_lay [.ref (E.ad 68), .int v1, .int v2, .long v3] (sg st) none E (sg x) :=
  Mt.of hG (by decide) (Nat.le_of_ble_eq_true rfl) (fun p e s m below meth c ls C h hl => bX6_lay C hI v1 v2 v3 st hx h hl)
theorem cX6_229_X6_lay {a0 : Int32} {a1 : Int32} {a2 : Int64} {st' : St} (C : Cx E s0 b p s m args meth c cc nL "EarthMeshModel" rt) (hI : Sx E) (h : XH E (sg st) s H locs) (hf : fX6_lay a0 a1 a2 st = some st') (hR : rmX6_lay.frames + 1 ≤ R.frames ∧ 16 + (5 + 11) + rmX6_lay.locals ≤ R.locals) (h0 : cells ≤ R.cells ∧ slots ≤ R.slots) (hsz : ls.size = nL) (hcat : (rest.map fun v => v.category).sum ≤ 16) (hdg : decode cc pc = .ok (.invokevirtual 229, 3)) (kk : ∀ (H : Heap) (locs : List Loc), XH E (sg st') s H locs → W p l e R s m args below meth c H locs cells slots Q (F0 m (pc + 3) ls (rest))) : W p l e R s m args below meth c H locs cells slots Q (F0 m pc ls (.long a2 :: .int a1 :: .int a0 :: .ref (E.ad 68) :: rest)) :=
  x_callV (n := 3) (As := [.int a0, .int a1, .long a2]) C h 68 5 (hI 68 (by decide)) k_68 rfl (mX6_lay C.g hI hf) (lw_V q1856 q1858 qs93 q136 q1859) ⟨rfl, by decide +kernel, by decide +kernel, by decide +kernel⟩ hR ⟨rfl, rfl⟩ h0 rfl hsz rfl hcat hdg kk
abbrev rmX6_mayBe_70 : Room := { frames := 0, cells := 0, slots := 0, locals := 0 }
def fX6_mayBe_70_38 (st : St) : Option (Int32) :=
  some (1 : Int32)
set_option maxHeartbeats 1000000 in
theorem bX6_mayBe_70_38 (C : Cx E s0 b p s m args meth c cX6_mayBe 3 "EarthMeshModel" (some .boolean)) (hI : Sx E) (st : St) {x : Int32} (hx : fX6_mayBe_70_38 st = some x) {H : Heap} {locs : List Loc} {ls : Array Slot} (h : XH E (sg st) s H locs) (hl : lv_has ls 3 []) : W p l e rmX6_mayBe_70 s m args below meth c H locs 0 0 (MQ below (Qx E (some (.int x)) (sg st)) args s 0 0 (gA E.HB)) (F0 m 38 ls []) := by
  unfold fX6_mayBe_70_38 at hx
  refine lv_iconst (v := (1 : Int32)) C.x C.bc dX6_mayBe_38 (by decide) ?_
  refine lv_goto (tgt := 43) C.x C.bc dX6_mayBe_39 (by decide) ?_
  obtain rfl := Option.some.inj hx
  exact x_zret (v := (1 : Int32)) C h rfl dX6_mayBe_43
def fX6_mayBe_70_42 (st : St) : Option (Int32) :=
  some (0 : Int32)
set_option maxHeartbeats 1000000 in
theorem bX6_mayBe_70_42 (C : Cx E s0 b p s m args meth c cX6_mayBe 3 "EarthMeshModel" (some .boolean)) (hI : Sx E) (st : St) {x : Int32} (hx : fX6_mayBe_70_42 st = some x) {H : Heap} {locs : List Loc} {ls : Array Slot} (h : XH E (sg st) s H locs) (hl : lv_has ls 3 []) : W p l e rmX6_mayBe_70 s m args below meth c H locs 0 0 (MQ below (Qx E (some (.int x)) (sg st)) args s 0 0 (gA E.HB)) (F0 m 42 ls []) := by
  unfold fX6_mayBe_70_42 at hx
  refine lv_iconst (v := (0 : Int32)) C.x C.bc dX6_mayBe_42 (by decide) ?_
  obtain rfl := Option.some.inj hx
  exact x_zret (v := (0 : Int32)) C h rfl dX6_mayBe_43
def fX6_mayBe_70 (v1 : Int32) (v2 : Int32) (st : St) : Option (Int32) :=
  if v2 = (2 : Int32) then
    fX6_mayBe_70_38 st
  else
    if v2 = 0 then
      gd (inB (0 : Int32) 46) <|
      gd (¬ (st.1 70 (0 : Int32).toNatClampNeg) = 0) <|
      gd (inB (0 : Int32) 46) <|
      if (st.1 70 (0 : Int32).toNatClampNeg) ≤ ((jrem v1 (st.1 70 (0 : Int32).toNatClampNeg)) + (1 : Int32)) then
        fX6_mayBe_70_42 st
      else
        fX6_mayBe_70_38 st
    else
      gd (inB (0 : Int32) 46) <|
      gd (¬ (st.1 70 (0 : Int32).toNatClampNeg) = 0) <|
      gd (inB (1 : Int32) 46) <|
      if (st.1 70 (1 : Int32).toNatClampNeg) ≤ ((v1 / (st.1 70 (0 : Int32).toNatClampNeg)) + (1 : Int32)) then
        fX6_mayBe_70_42 st
      else
        fX6_mayBe_70_38 st
set_option maxHeartbeats 1000000 in
theorem bX6_mayBe_70 (C : Cx E s0 b p s m args meth c cX6_mayBe 3 "EarthMeshModel" (some .boolean)) (hI : Sx E) (v1 : Int32) (v2 : Int32) (st : St) {x : Int32} (hx : fX6_mayBe_70 v1 v2 st = some x) {H : Heap} {locs : List Loc} {ls : Array Slot} (h : XH E (sg st) s H locs) (hl : lv_has ls 3 [(0, .ref (E.ad 70)), (1, .int v1), (2, .int v2)]) : W p l e rmX6_mayBe_70 s m args below meth c H locs 0 0 (MQ below (Qx E (some (.int x)) (sg st)) args s 0 0 (gA E.HB)) (F0 m 0 ls []) := by
  unfold fX6_mayBe_70 at hx
  refine lv_iload_n C.x C.bc dX6_mayBe_0 rfl (lv_at hl 2 rfl) ?_
  refine lv_iconst (v := (2 : Int32)) C.x C.bc dX6_mayBe_1 (by decide) ?_
  refine lv_icmp_eq (tgt := 38) C.x C.bc dX6_mayBe_2 (by decide) (fun c_1 => ?_) (fun c_1 => ?_)
  · have hx := ge_t hx c_1
    exact bX6_mayBe_70_38 C hI st hx h (lv_sub hl [] rfl)
  · have hx := ge_f hx c_1
    refine lv_iload_n C.x C.bc dX6_mayBe_5 rfl (lv_at hl 2 rfl) ?_
    refine lv_if_ne (tgt := 25) C.x C.bc dX6_mayBe_6 (by decide) (fun c_2 => ?_) (fun c_2 => ?_)
    · have hx := ge_f hx c_2
      refine lv_iload_n C.x C.bc dX6_mayBe_25 rfl (lv_at hl 1 rfl) ?_
      refine lv_aload_n C.x C.bc dX6_mayBe_26 rfl (lv_at hl 0 rfl) ?_
      refine lv_iconst (v := (0 : Int32)) C.x C.bc dX6_mayBe_27 (by decide) ?_
      obtain ⟨g_3, hx⟩ := gd_e hx
      refine x_iald C h 70 46 (hI 70 (by decide)) k_70 g_3 dX6_mayBe_28 ?_
      obtain ⟨g_4, hx⟩ := gd_e hx
      refine lv_idiv C.x C.bc dX6_mayBe_29 g_4 ?_
      refine lv_iconst (v := (1 : Int32)) C.x C.bc dX6_mayBe_30 (by decide) ?_
      refine lv_iadd C.x C.bc dX6_mayBe_31 ?_
      refine lv_aload_n C.x C.bc dX6_mayBe_32 rfl (lv_at hl 0 rfl) ?_
      refine lv_iconst (v := (1 : Int32)) C.x C.bc dX6_mayBe_33 (by decide) ?_
      obtain ⟨g_5, hx⟩ := gd_e hx
      refine x_iald C h 70 46 (hI 70 (by decide)) k_70 g_5 dX6_mayBe_34 ?_
      refine lv_icmp_ge (tgt := 42) C.x C.bc dX6_mayBe_35 (by decide) (fun c_6 => ?_) (fun c_6 => ?_)
      · have hx := ge_t hx c_6
        exact bX6_mayBe_70_42 C hI st hx h (lv_sub hl [] rfl)
      · have hx := ge_f hx c_6
        exact bX6_mayBe_70_38 C hI st hx h (lv_sub hl [] rfl)
    · have hx := ge_t hx c_2
      refine lv_iload_n C.x C.bc dX6_mayBe_9 rfl (lv_at hl 1 rfl) ?_
      refine lv_aload_n C.x C.bc dX6_mayBe_10 rfl (lv_at hl 0 rfl) ?_
      refine lv_iconst (v := (0 : Int32)) C.x C.bc dX6_mayBe_11 (by decide) ?_
      obtain ⟨g_7, hx⟩ := gd_e hx
      refine x_iald C h 70 46 (hI 70 (by decide)) k_70 g_7 dX6_mayBe_12 ?_
      obtain ⟨g_8, hx⟩ := gd_e hx
      refine y_irem C.x C.bc dX6_mayBe_13 g_8 ?_
      refine lv_iconst (v := (1 : Int32)) C.x C.bc dX6_mayBe_14 (by decide) ?_
      refine lv_iadd C.x C.bc dX6_mayBe_15 ?_
      refine lv_aload_n C.x C.bc dX6_mayBe_16 rfl (lv_at hl 0 rfl) ?_
      refine lv_iconst (v := (0 : Int32)) C.x C.bc dX6_mayBe_17 (by decide) ?_
      obtain ⟨g_9, hx⟩ := gd_e hx
      refine x_iald C h 70 46 (hI 70 (by decide)) k_70 g_9 dX6_mayBe_18 ?_
      refine lv_icmp_ge (tgt := 42) C.x C.bc dX6_mayBe_19 (by decide) (fun c_10 => ?_) (fun c_10 => ?_)
      · have hx := ge_t hx c_10
        exact bX6_mayBe_70_42 C hI st hx h (lv_sub hl [] rfl)
      · have hx := ge_f hx c_10
        refine lv_goto (tgt := 38) C.x C.bc dX6_mayBe_22 (by decide) ?_
        exact bX6_mayBe_70_38 C hI st hx h (lv_sub hl [] rfl)
theorem mX6_mayBe_70 (hG : G0 E s0 b) (hI : Sx E) {v1 : Int32} {v2 : Int32} {x : Int32} (hx : fX6_mayBe_70 v1 v2 st = some x) : Mt l E s0 yX6_mayBe cX6_mayBe 3 (some .boolean) rmX6_mayBe_70 [.ref (E.ad 70), .int v1, .int v2] (sg st) (some (.int x)) E (sg st) :=
  Mt.of hG (by decide) (Nat.le_of_ble_eq_true rfl) (fun p e s m below meth c ls C h hl => bX6_mayBe_70 C hI v1 v2 st hx h hl)
theorem cX6_166_X6_mayBe_70 {a1 : Int32} {a2 : Int32} {r : Int32} (C : Cx E s0 b p s m args meth c cc nL "EarthMeshModel" rt) (hI : Sx E) (h : XH E (sg st) s H locs) (hf : fX6_mayBe_70 a1 a2 st = some r) (hR : rmX6_mayBe_70.frames + 1 ≤ R.frames ∧ 16 + (3 + 11) + rmX6_mayBe_70.locals ≤ R.locals) (h0 : cells ≤ R.cells ∧ slots ≤ R.slots) (hsz : ls.size = nL) (hcat : (rest.map fun v => v.category).sum ≤ 16) (hdg : decode cc pc = .ok (.invokestatic 166, 3)) (kk : ∀ (H : Heap) (locs : List Loc), XH E (sg st) s H locs → W p l e R s m args below meth c H locs cells slots Q (F0 m (pc + 3) ls (.int r :: rest))) : W p l e R s m args below meth c H locs cells slots Q (F0 m pc ls (.int a2 :: .int a1 :: .ref (E.ad 70) :: rest)) :=
  x_callS (n := 3) (As := [.ref (E.ad 70), .int a1, .int a2]) C h (mX6_mayBe_70 C.g hI hf) (lw_S q1809 q1810 q136 q1811) ⟨by decide +kernel, by decide +kernel, by decide +kernel⟩ hR ⟨rfl, rfl⟩ h0 rfl hsz rfl hcat hdg kk
abbrev rmX6_gOf : Room := { frames := 1, cells := 0, slots := 0, locals := 30 }
def fX6_gOf_74 (st : St) : Option (Int32) :=
  some (0 : Int32)
set_option maxHeartbeats 1000000 in
theorem bX6_gOf_74 (C : Cx E s0 b p s m args meth c cX6_gOf 5 "EarthMeshModel" (some .int)) (hI : Sx E) (st : St) {x : Int32} (hx : fX6_gOf_74 st = some x) {H : Heap} {locs : List Loc} {ls : Array Slot} (h : XH E (sg st) s H locs) (hl : lv_has ls 5 []) : W p l e rmX6_gOf s m args below meth c H locs 0 0 (MQ below (Qx E (some (.int x)) (sg st)) args s 0 0 (gA E.HB)) (F0 m 74 ls []) := by
  unfold fX6_gOf_74 at hx
  refine lv_iconst (v := (0 : Int32)) C.x C.bc dX6_gOf_74 (by decide) ?_
  obtain rfl := Option.some.inj hx
  exact x_iret C h dX6_gOf_75
def fX6_gOf_40 (v3 : Int32) (v4 : Int32) (st : St) : Option (Int32) :=
  bd (fX6_mayBe_70 v3 (1 : Int32) st) fun r_5 =>
  if r_5 = 0 then
    fX6_gOf_74 st
  else
    gd (inB (0 : Int32) 46) <|
    if v4 = (v3 + (st.1 70 (0 : Int32).toNatClampNeg)) then
      bd (fX6_part v3 (1 : Int32) st) fun r_9 =>
      some r_9
    else
      fX6_gOf_74 st
set_option maxHeartbeats 1000000 in
theorem bX6_gOf_40 (C : Cx E s0 b p s m args meth c cX6_gOf 5 "EarthMeshModel" (some .int)) (hI : Sx E) (v3 : Int32) (v4 : Int32) (st : St) {x : Int32} (hx : fX6_gOf_40 v3 v4 st = some x) {H : Heap} {locs : List Loc} {ls : Array Slot} (h : XH E (sg st) s H locs) (hl : lv_has ls 5 [(0, .ref (E.ad 68)), (3, .int v3), (4, .int v4)]) : W p l e rmX6_gOf s m args below meth c H locs 0 0 (MQ below (Qx E (some (.int x)) (sg st)) args s 0 0 (gA E.HB)) (F0 m 40 ls []) := by
  unfold fX6_gOf_40 at hx
  refine lv_aload_n C.x C.bc dX6_gOf_40 rfl (lv_at hl 0 rfl) ?_
  refine gt_X6_31_68 C hI h dX6_gOf_41 ?_
  refine lv_iload_n C.x C.bc dX6_gOf_44 rfl (lv_at hl 1 rfl) ?_
  refine lv_iconst (v := (1 : Int32)) C.x C.bc dX6_gOf_45 (by decide) ?_
  obtain ⟨r_5, hf_5, hx⟩ := bd_e hx
  refine cX6_166_X6_mayBe_70 C hI h hf_5 ⟨Nat.le_of_ble_eq_true rfl, Nat.le_of_ble_eq_true rfl⟩ ⟨Nat.zero_le _, Nat.zero_le _⟩ hl.1 (Nat.le_of_ble_eq_true rfl) dX6_gOf_46 (fun H locs h => ?_)
  refine lv_if_eq (tgt := 74) C.x C.bc dX6_gOf_49 (by decide) (fun c_6 => ?_) (fun c_6 => ?_)
  · have hx := ge_t hx c_6
    exact bX6_gOf_74 C hI st hx h (lv_sub hl [] rfl)
  · have hx := ge_f hx c_6
    refine lv_iload C.x C.bc dX6_gOf_52 (lv_at hl 2 rfl) ?_
    refine lv_iload_n C.x C.bc dX6_gOf_54 rfl (lv_at hl 1 rfl) ?_
    refine lv_aload_n C.x C.bc dX6_gOf_55 rfl (lv_at hl 0 rfl) ?_
    refine gt_X6_31_68 C hI h dX6_gOf_56 ?_
    refine lv_iconst (v := (0 : Int32)) C.x C.bc dX6_gOf_59 (by decide) ?_
    obtain ⟨g_7, hx⟩ := gd_e hx
    refine x_iald C h 70 46 (hI 70 (by decide)) k_70 g_7 dX6_gOf_60 ?_
    refine lv_iadd C.x C.bc dX6_gOf_61 ?_
    refine lv_icmp_ne (tgt := 74) C.x C.bc dX6_gOf_62 (by decide) (fun c_8 => ?_) (fun c_8 => ?_)
    · have hx := ge_f hx c_8
      exact bX6_gOf_74 C hI st hx h (lv_sub hl [] rfl)
    · have hx := ge_t hx c_8
      refine lv_aload_n C.x C.bc dX6_gOf_65 rfl (lv_at hl 0 rfl) ?_
      refine lv_iload_n C.x C.bc dX6_gOf_66 rfl (lv_at hl 1 rfl) ?_
      refine lv_iconst (v := (1 : Int32)) C.x C.bc dX6_gOf_67 (by decide) ?_
      obtain ⟨r_9, hf_9, hx⟩ := bd_e hx
      refine cX6_194_X6_part C hI h hf_9 ⟨Nat.le_of_ble_eq_true rfl, Nat.le_of_ble_eq_true rfl⟩ ⟨Nat.zero_le _, Nat.zero_le _⟩ hl.1 (Nat.le_of_ble_eq_true rfl) dX6_gOf_68 (fun H locs h => ?_)
      refine lv_goto (tgt := 75) C.x C.bc dX6_gOf_71 (by decide) ?_
      obtain rfl := Option.some.inj hx
      exact x_iret C h dX6_gOf_75
def fX6_gOf (v1 : Int32) (v2 : Int32) (st : St) : Option (Int32) :=
  nm (jmin v1 v2) fun v3_1 =>
  nm (jmax v1 v2) fun v4_2 =>
  bd (fX6_mayBe_70 v3_1 (0 : Int32) st) fun r_3 =>
  if r_3 = 0 then
    fX6_gOf_40 v3_1 v4_2 st
  else
    if v4_2 = (v3_1 + (1 : Int32)) then
      bd (fX6_part v3_1 (0 : Int32) st) fun r_11 =>
      some r_11
    else
      fX6_gOf_40 v3_1 v4_2 st
set_option maxHeartbeats 1000000 in
theorem bX6_gOf (C : Cx E s0 b p s m args meth c cX6_gOf 5 "EarthMeshModel" (some .int)) (hI : Sx E) (v1 : Int32) (v2 : Int32) (st : St) {x : Int32} (hx : fX6_gOf v1 v2 st = some x) {H : Heap} {locs : List Loc} {ls : Array Slot} (h : XH E (sg st) s H locs) (hl : lv_has ls 5 [(0, .ref (E.ad 68)), (1, .int v1), (2, .int v2)]) : W p l e rmX6_gOf s m args below meth c H locs 0 0 (MQ below (Qx E (some (.int x)) (sg st)) args s 0 0 (gA E.HB)) (F0 m 0 ls []) := by
  unfold fX6_gOf at hx
  refine lv_iload_n C.x C.bc dX6_gOf_0 rfl (lv_at hl 1 rfl) ?_
  refine lv_iload_n C.x C.bc dX6_gOf_1 rfl (lv_at hl 2 rfl) ?_
  refine va_mmin C.x C.bc (C.ml.trans hl.1.symm) C.ow (C.ts _ q1759) (C.ts _ q709) (C.ts _ q134) (C.ts _ q710) (Nat.le_of_ble_eq_true rfl) (Nat.le_of_ble_eq_true rfl) (Nat.zero_le _) (Nat.zero_le _) dX6_gOf_2 ?_
  obtain ⟨v3_1, e_1, hx⟩ := nm_x hx
  refine x_ti e_1 ?_
  refine lv_istore_n (lv' := [(3, .int v3_1), (0, .ref (E.ad 68)), (1, .int v1), (2, .int v2)]) C.x C.bc dX6_gOf_5 rfl hl (by decide) rfl (fun ls hl => ?_)
  refine lv_iload_n C.x C.bc dX6_gOf_6 rfl (lv_at hl 2 rfl) ?_
  refine lv_iload_n C.x C.bc dX6_gOf_7 rfl (lv_at hl 3 rfl) ?_
  refine va_mmax C.x C.bc (C.ml.trans hl.1.symm) C.ow (C.ts _ q1855) (C.ts _ q691) (C.ts _ q134) (C.ts _ q692) (Nat.le_of_ble_eq_true rfl) (Nat.le_of_ble_eq_true rfl) (Nat.zero_le _) (Nat.zero_le _) dX6_gOf_8 ?_
  obtain ⟨v4_2, e_2, hx⟩ := nm_x hx
  refine x_ti e_2 ?_
  refine lv_istore (lv' := [(4, .int v4_2), (3, .int v3_1), (0, .ref (E.ad 68)), (1, .int v1), (2, .int v2)]) C.x C.bc dX6_gOf_11 hl (by decide) rfl (fun ls hl => ?_)
  refine lv_aload_n C.x C.bc dX6_gOf_13 rfl (lv_at hl 2 rfl) ?_
  refine gt_X6_31_68 C hI h dX6_gOf_14 ?_
  refine lv_iload_n C.x C.bc dX6_gOf_17 rfl (lv_at hl 1 rfl) ?_
  refine lv_iconst (v := (0 : Int32)) C.x C.bc dX6_gOf_18 (by decide) ?_
  obtain ⟨r_3, hf_3, hx⟩ := bd_e hx
  refine cX6_166_X6_mayBe_70 C hI h hf_3 ⟨Nat.le_of_ble_eq_true rfl, Nat.le_of_ble_eq_true rfl⟩ ⟨Nat.zero_le _, Nat.zero_le _⟩ hl.1 (Nat.le_of_ble_eq_true rfl) dX6_gOf_19 (fun H locs h => ?_)
  refine lv_if_eq (tgt := 40) C.x C.bc dX6_gOf_22 (by decide) (fun c_4 => ?_) (fun c_4 => ?_)
  · have hx := ge_t hx c_4
    exact bX6_gOf_40 C hI v3_1 v4_2 st hx h (lv_sub hl [2, 1, 0] rfl)
  · have hx := ge_f hx c_4
    refine lv_iload C.x C.bc dX6_gOf_25 (lv_at hl 0 rfl) ?_
    refine lv_iload_n C.x C.bc dX6_gOf_27 rfl (lv_at hl 1 rfl) ?_
    refine lv_iconst (v := (1 : Int32)) C.x C.bc dX6_gOf_28 (by decide) ?_
    refine lv_iadd C.x C.bc dX6_gOf_29 ?_
    refine lv_icmp_ne (tgt := 40) C.x C.bc dX6_gOf_30 (by decide) (fun c_10 => ?_) (fun c_10 => ?_)
    · have hx := ge_f hx c_10
      exact bX6_gOf_40 C hI v3_1 v4_2 st hx h (lv_sub hl [2, 1, 0] rfl)
    · have hx := ge_t hx c_10
      refine lv_aload_n C.x C.bc dX6_gOf_33 rfl (lv_at hl 2 rfl) ?_
      refine lv_iload_n C.x C.bc dX6_gOf_34 rfl (lv_at hl 1 rfl) ?_
      refine lv_iconst (v := (0 : Int32)) C.x C.bc dX6_gOf_35 (by decide) ?_
      obtain ⟨r_11, hf_11, hx⟩ := bd_e hx
      refine cX6_194_X6_part C hI h hf_11 ⟨Nat.le_of_ble_eq_true rfl, Nat.le_of_ble_eq_true rfl⟩ ⟨Nat.zero_le _, Nat.zero_le _⟩ hl.1 (Nat.le_of_ble_eq_true rfl) dX6_gOf_36 (fun H locs h => ?_)
      obtain rfl := Option.some.inj hx
      exact x_iret C h dX6_gOf_39
theorem mX6_gOf (hG : G0 E s0 b) (hI : Sx E) {v1 : Int32} {v2 : Int32} {x : Int32} (hx : fX6_gOf v1 v2 st = some x) : Mt l E s0 yX6_gOf cX6_gOf 5 (some .int) rmX6_gOf [.ref (E.ad 68), .int v1, .int v2] (sg st) (some (.int x)) E (sg st) :=
  Mt.of hG (by decide) (Nat.le_of_ble_eq_true rfl) (fun p e s m below meth c ls C h hl => bX6_gOf C hI v1 v2 st hx h hl)
theorem cX6_226_X6_gOf {a0 : Int32} {a1 : Int32} {r : Int32} (C : Cx E s0 b p s m args meth c cc nL "EarthMeshModel" rt) (hI : Sx E) (h : XH E (sg st) s H locs) (hf : fX6_gOf a0 a1 st = some r) (hR : rmX6_gOf.frames + 1 ≤ R.frames ∧ 16 + (5 + 11) + rmX6_gOf.locals ≤ R.locals) (h0 : cells ≤ R.cells ∧ slots ≤ R.slots) (hsz : ls.size = nL) (hcat : (rest.map fun v => v.category).sum ≤ 16) (hdg : decode cc pc = .ok (.invokevirtual 226, 3)) (kk : ∀ (H : Heap) (locs : List Loc), XH E (sg st) s H locs → W p l e R s m args below meth c H locs cells slots Q (F0 m (pc + 3) ls (.int r :: rest))) : W p l e R s m args below meth c H locs cells slots Q (F0 m pc ls (.int a1 :: .int a0 :: .ref (E.ad 68) :: rest)) :=
  x_callV (n := 2) (As := [.int a0, .int a1]) C h 68 5 (hI 68 (by decide)) k_68 rfl (mX6_gOf C.g hI hf) (lw_V q1851 q1853 qs92 q136 q1854) ⟨rfl, by decide +kernel, by decide +kernel, by decide +kernel⟩ hR ⟨rfl, rfl⟩ h0 rfl hsz rfl hcat hdg kk
abbrev rmX6_layRows : Room := { frames := 2, cells := 0, slots := 0, locals := 62 }
def fX6_layRows_100 (v1 : Int32) (v2 : Int32) (v3 : Int32) (v4 : Int32) (st : St) : Option ((Int32 × St) ⊕ (St)) :=
  nm (v4 + (1 : Int32)) fun v4_10 =>
  some (.inl (v4_10, st))
set_option maxHeartbeats 1000000 in
theorem bX6_layRows_100 (C : Cx E s0 b p s m args meth c cX6_layRows 8 "EarthMeshModel" none) (hI : Sx E) (v1 : Int32) (v2 : Int32) (v3 : Int32) (v4 : Int32) (st : St) {x : (Int32 × St) ⊕ (St)} (hx : fX6_layRows_100 v1 v2 v3 v4 st = some x) {Q : State → Prop} {G : Int32 × St → Prop} {X : St → Prop} (hG : ∀ (w4 : Int32) (wst : St), G (w4, wst) → ∀ (H : Heap) (locs : List Loc) (ls : Array Slot), XH E (sg wst) s H locs → lv_has ls 8 [(0, .ref (E.ad 68)), (1, .int v1), (2, .int v2), (3, .int v3), (4, .int w4)] → W p l e rmX6_layRows s m args below meth c H locs 0 0 Q (F0 m 15 ls [])) (hE0 : ∀ (wst : St), X wst → ∀ (H : Heap) (locs : List Loc) (ls : Array Slot), XH E (sg wst) s H locs → lv_has ls 8 [(0, .ref (E.ad 68)), (1, .int v1), (2, .int v2), (3, .int v3)] → W p l e rmX6_layRows s m args below meth c H locs 0 0 Q (F0 m 106 ls [])) (K : Kx G X x) {H : Heap} {locs : List Loc} {ls : Array Slot} (h : XH E (sg st) s H locs) (hl : lv_has ls 8 [(0, .ref (E.ad 68)), (1, .int v1), (2, .int v2), (3, .int v3), (4, .int v4)]) : W p l e rmX6_layRows s m args below meth c H locs 0 0 Q (F0 m 100 ls []) := by
  unfold fX6_layRows_100 at hx
  obtain ⟨v4_10, e_10, hx⟩ := nm_x hx
  refine lv_iinc (v := v4_10) (lv' := [(4, .int v4_10), (0, .ref (E.ad 68)), (1, .int v1), (2, .int v2), (3, .int v3)]) C.x C.bc dX6_layRows_100 hl (k := 4) rfl (by rw [e_10]; rfl) (by decide) rfl (fun ls hl => ?_)
  refine lv_goto (tgt := 15) C.x C.bc dX6_layRows_103 (by decide) ?_
  obtain rfl := Option.some.inj hx
  exact hG _ _ K _ _ _ h (lv_sub hl [1, 2, 3, 4, 0] rfl)
def fX6_layRows_69 (v1 : Int32) (v2 : Int32) (v3 : Int32) (v4 : Int32) (k0 : Int32) (st : St) : Option ((Int32 × St) ⊕ (St)) :=
  if k0 = 0 then
    fX6_layRows_100 v1 v2 v3 v4 st
  else
    gd (inB (st.1 68 18) 12) <|
    nm (uI st 75 (st.1 68 18).toNatClampNeg v4) fun st_8 =>
    nm (uI st_8 68 18 ((st_8.1 68 18) + (1 : Int32))) fun st_9 =>
    fX6_layRows_100 v1 v2 v3 v4 st_9
set_option maxHeartbeats 1000000 in
theorem bX6_layRows_69 (C : Cx E s0 b p s m args meth c cX6_layRows 8 "EarthMeshModel" none) (hI : Sx E) (v1 : Int32) (v2 : Int32) (v3 : Int32) (v4 : Int32) (k0 : Int32) (st : St) {x : (Int32 × St) ⊕ (St)} (hx : fX6_layRows_69 v1 v2 v3 v4 k0 st = some x) {Q : State → Prop} {G : Int32 × St → Prop} {X : St → Prop} (hG : ∀ (w4 : Int32) (wst : St), G (w4, wst) → ∀ (H : Heap) (locs : List Loc) (ls : Array Slot), XH E (sg wst) s H locs → lv_has ls 8 [(0, .ref (E.ad 68)), (1, .int v1), (2, .int v2), (3, .int v3), (4, .int w4)] → W p l e rmX6_layRows s m args below meth c H locs 0 0 Q (F0 m 15 ls [])) (hE0 : ∀ (wst : St), X wst → ∀ (H : Heap) (locs : List Loc) (ls : Array Slot), XH E (sg wst) s H locs → lv_has ls 8 [(0, .ref (E.ad 68)), (1, .int v1), (2, .int v2), (3, .int v3)] → W p l e rmX6_layRows s m args below meth c H locs 0 0 Q (F0 m 106 ls [])) (K : Kx G X x) {H : Heap} {locs : List Loc} {ls : Array Slot} (h : XH E (sg st) s H locs) (hl : lv_has ls 8 [(0, .ref (E.ad 68)), (1, .int v1), (2, .int v2), (3, .int v3), (4, .int v4)]) : W p l e rmX6_layRows s m args below meth c H locs 0 0 Q (F0 m 69 ls [.int k0]) := by
  unfold fX6_layRows_69 at hx
  refine lv_istore (lv' := [(5, .int k0), (0, .ref (E.ad 68)), (1, .int v1), (2, .int v2), (3, .int v3), (4, .int v4)]) C.x C.bc dX6_layRows_69 hl (by decide) rfl (fun ls hl => ?_)
  refine lv_iload C.x C.bc dX6_layRows_71 (lv_at hl 0 rfl) ?_
  refine lv_if_ne (tgt := 79) C.x C.bc dX6_layRows_73 (by decide) (fun c_6 => ?_) (fun c_6 => ?_)
  · have hx := ge_f hx c_6
    refine lv_aload_n C.x C.bc dX6_layRows_79 rfl (lv_at hl 1 rfl) ?_
    refine gt_X6_52_68 C hI h dX6_layRows_80 ?_
    refine lv_aload_n C.x C.bc dX6_layRows_83 rfl (lv_at hl 1 rfl) ?_
    refine gt_X6_223_68 C hI h dX6_layRows_84 ?_
    refine lv_iload C.x C.bc dX6_layRows_87 (lv_at hl 5 rfl) ?_
    obtain ⟨g_7, hx⟩ := gd_e hx
    obtain ⟨st_8, e_8, hx⟩ := nm_x hx
    refine y_iast C h 75 12 (hI 75 (by decide)) k_75 g_7 e_8 dX6_layRows_89 (fun H locs h => ?_)
    refine lv_aload_n C.x C.bc dX6_layRows_90 rfl (lv_at hl 1 rfl) ?_
    refine lv_dup C.x C.bc dX6_layRows_91 rfl ?_
    refine gt_X6_223_68 C hI h dX6_layRows_92 ?_
    refine lv_iconst (v := (1 : Int32)) C.x C.bc dX6_layRows_95 (by decide) ?_
    refine lv_iadd C.x C.bc dX6_layRows_96 ?_
    obtain ⟨st_9, e_9, hx⟩ := nm_x hx
    refine pt_X6_223_68 C hI h e_9 dX6_layRows_97 (fun H locs h => ?_)
    exact bX6_layRows_100 C hI v1 v2 v3 v4 st_9 hx hG hE0 K h (lv_sub hl [1, 2, 3, 4, 5] rfl)
  · have hx := ge_t hx c_6
    refine lv_goto (tgt := 100) C.x C.bc dX6_layRows_76 (by decide) ?_
    exact bX6_layRows_100 C hI v1 v2 v3 v4 st hx hG hE0 K h (lv_sub hl [1, 2, 3, 4, 5] rfl)
def fX6_layRows_68 (v1 : Int32) (v2 : Int32) (v3 : Int32) (v4 : Int32) (st : St) : Option ((Int32 × St) ⊕ (St)) :=
  fX6_layRows_69 v1 v2 v3 v4 (0 : Int32) st
set_option maxHeartbeats 1000000 in
theorem bX6_layRows_68 (C : Cx E s0 b p s m args meth c cX6_layRows 8 "EarthMeshModel" none) (hI : Sx E) (v1 : Int32) (v2 : Int32) (v3 : Int32) (v4 : Int32) (st : St) {x : (Int32 × St) ⊕ (St)} (hx : fX6_layRows_68 v1 v2 v3 v4 st = some x) {Q : State → Prop} {G : Int32 × St → Prop} {X : St → Prop} (hG : ∀ (w4 : Int32) (wst : St), G (w4, wst) → ∀ (H : Heap) (locs : List Loc) (ls : Array Slot), XH E (sg wst) s H locs → lv_has ls 8 [(0, .ref (E.ad 68)), (1, .int v1), (2, .int v2), (3, .int v3), (4, .int w4)] → W p l e rmX6_layRows s m args below meth c H locs 0 0 Q (F0 m 15 ls [])) (hE0 : ∀ (wst : St), X wst → ∀ (H : Heap) (locs : List Loc) (ls : Array Slot), XH E (sg wst) s H locs → lv_has ls 8 [(0, .ref (E.ad 68)), (1, .int v1), (2, .int v2), (3, .int v3)] → W p l e rmX6_layRows s m args below meth c H locs 0 0 Q (F0 m 106 ls [])) (K : Kx G X x) {H : Heap} {locs : List Loc} {ls : Array Slot} (h : XH E (sg st) s H locs) (hl : lv_has ls 8 [(0, .ref (E.ad 68)), (1, .int v1), (2, .int v2), (3, .int v3), (4, .int v4)]) : W p l e rmX6_layRows s m args below meth c H locs 0 0 Q (F0 m 68 ls []) := by
  unfold fX6_layRows_68 at hx
  refine lv_iconst (v := (0 : Int32)) C.x C.bc dX6_layRows_68 (by decide) ?_
  exact bX6_layRows_69 C hI v1 v2 v3 v4 (0 : Int32) st hx hG hE0 K h (lv_sub hl [0, 1, 2, 3, 4] rfl)
def fX6_layRows_61 (v1 : Int32) (v2 : Int32) (v3 : Int32) (v4 : Int32) (k0 : Int32) (k1 : Int32) (st : St) : Option ((Int32 × St) ⊕ (St)) :=
  if k0 = k1 then
    fX6_layRows_69 v1 v2 v3 v4 (1 : Int32) st
  else
    fX6_layRows_68 v1 v2 v3 v4 st
set_option maxHeartbeats 1000000 in
theorem bX6_layRows_61 (C : Cx E s0 b p s m args meth c cX6_layRows 8 "EarthMeshModel" none) (hI : Sx E) (v1 : Int32) (v2 : Int32) (v3 : Int32) (v4 : Int32) (k0 : Int32) (k1 : Int32) (st : St) {x : (Int32 × St) ⊕ (St)} (hx : fX6_layRows_61 v1 v2 v3 v4 k0 k1 st = some x) {Q : State → Prop} {G : Int32 × St → Prop} {X : St → Prop} (hG : ∀ (w4 : Int32) (wst : St), G (w4, wst) → ∀ (H : Heap) (locs : List Loc) (ls : Array Slot), XH E (sg wst) s H locs → lv_has ls 8 [(0, .ref (E.ad 68)), (1, .int v1), (2, .int v2), (3, .int v3), (4, .int w4)] → W p l e rmX6_layRows s m args below meth c H locs 0 0 Q (F0 m 15 ls [])) (hE0 : ∀ (wst : St), X wst → ∀ (H : Heap) (locs : List Loc) (ls : Array Slot), XH E (sg wst) s H locs → lv_has ls 8 [(0, .ref (E.ad 68)), (1, .int v1), (2, .int v2), (3, .int v3)] → W p l e rmX6_layRows s m args below meth c H locs 0 0 Q (F0 m 106 ls [])) (K : Kx G X x) {H : Heap} {locs : List Loc} {ls : Array Slot} (h : XH E (sg st) s H locs) (hl : lv_has ls 8 [(0, .ref (E.ad 68)), (1, .int v1), (2, .int v2), (3, .int v3), (4, .int v4)]) : W p l e rmX6_layRows s m args below meth c H locs 0 0 Q (F0 m 61 ls [.int k1, .int k0]) := by
  unfold fX6_layRows_61 at hx
  refine lv_icmp_ne (tgt := 68) C.x C.bc dX6_layRows_61 (by decide) (fun c_13 => ?_) (fun c_13 => ?_)
  · have hx := ge_f hx c_13
    exact bX6_layRows_68 C hI v1 v2 v3 v4 st hx hG hE0 K h (lv_sub hl [0, 1, 2, 3, 4] rfl)
  · have hx := ge_t hx c_13
    refine lv_iconst (v := (1 : Int32)) C.x C.bc dX6_layRows_64 (by decide) ?_
    refine lv_goto (tgt := 69) C.x C.bc dX6_layRows_65 (by decide) ?_
    exact bX6_layRows_69 C hI v1 v2 v3 v4 (1 : Int32) st hx hG hE0 K h (lv_sub hl [0, 1, 2, 3, 4] rfl)
def fX6_layRows_52 (v1 : Int32) (v2 : Int32) (v3 : Int32) (v4 : Int32) (k0 : Int32) (st : St) : Option ((Int32 × St) ⊕ (St)) :=
  if v3 = 0 then
    fX6_layRows_61 v1 v2 v3 v4 k0 (1 : Int32) st
  else
    fX6_layRows_61 v1 v2 v3 v4 k0 (0 : Int32) st
set_option maxHeartbeats 1000000 in
theorem bX6_layRows_52 (C : Cx E s0 b p s m args meth c cX6_layRows 8 "EarthMeshModel" none) (hI : Sx E) (v1 : Int32) (v2 : Int32) (v3 : Int32) (v4 : Int32) (k0 : Int32) (st : St) {x : (Int32 × St) ⊕ (St)} (hx : fX6_layRows_52 v1 v2 v3 v4 k0 st = some x) {Q : State → Prop} {G : Int32 × St → Prop} {X : St → Prop} (hG : ∀ (w4 : Int32) (wst : St), G (w4, wst) → ∀ (H : Heap) (locs : List Loc) (ls : Array Slot), XH E (sg wst) s H locs → lv_has ls 8 [(0, .ref (E.ad 68)), (1, .int v1), (2, .int v2), (3, .int v3), (4, .int w4)] → W p l e rmX6_layRows s m args below meth c H locs 0 0 Q (F0 m 15 ls [])) (hE0 : ∀ (wst : St), X wst → ∀ (H : Heap) (locs : List Loc) (ls : Array Slot), XH E (sg wst) s H locs → lv_has ls 8 [(0, .ref (E.ad 68)), (1, .int v1), (2, .int v2), (3, .int v3)] → W p l e rmX6_layRows s m args below meth c H locs 0 0 Q (F0 m 106 ls [])) (K : Kx G X x) {H : Heap} {locs : List Loc} {ls : Array Slot} (h : XH E (sg st) s H locs) (hl : lv_has ls 8 [(0, .ref (E.ad 68)), (1, .int v1), (2, .int v2), (3, .int v3), (4, .int v4)]) : W p l e rmX6_layRows s m args below meth c H locs 0 0 Q (F0 m 52 ls [.int k0]) := by
  unfold fX6_layRows_52 at hx
  refine lv_iload_n C.x C.bc dX6_layRows_52 rfl (lv_at hl 3 rfl) ?_
  refine lv_if_ne (tgt := 60) C.x C.bc dX6_layRows_53 (by decide) (fun c_12 => ?_) (fun c_12 => ?_)
  · have hx := ge_f hx c_12
    refine lv_iconst (v := (0 : Int32)) C.x C.bc dX6_layRows_60 (by decide) ?_
    exact bX6_layRows_61 C hI v1 v2 v3 v4 k0 (0 : Int32) st hx hG hE0 K h (lv_sub hl [0, 1, 2, 3, 4] rfl)
  · have hx := ge_t hx c_12
    refine lv_iconst (v := (1 : Int32)) C.x C.bc dX6_layRows_56 (by decide) ?_
    refine lv_goto (tgt := 61) C.x C.bc dX6_layRows_57 (by decide) ?_
    exact bX6_layRows_61 C hI v1 v2 v3 v4 k0 (1 : Int32) st hx hG hE0 K h (lv_sub hl [0, 1, 2, 3, 4] rfl)
def fX6_layRows_15 (v1 : Int32) (v2 : Int32) (v3 : Int32) (v4 : Int32) (st : St) : Option ((Int32 × St) ⊕ (St)) :=
  bd (fX6_nodes_70 st) fun r_3 =>
  if r_3 ≤ v4 then
    some (.inr st)
  else
    if ((v1 >>> (v4 &&& 31)) &&& (1 : Int32)) = (1 : Int32) then
      if ((v2 >>> (v4 &&& 31)) &&& (1 : Int32)) = (1 : Int32) then
        fX6_layRows_52 v1 v2 v3 v4 (1 : Int32) st
      else
        fX6_layRows_52 v1 v2 v3 v4 (0 : Int32) st
    else
      fX6_layRows_68 v1 v2 v3 v4 st
set_option maxHeartbeats 1000000 in
theorem bX6_layRows_15 (C : Cx E s0 b p s m args meth c cX6_layRows 8 "EarthMeshModel" none) (hI : Sx E) (v1 : Int32) (v2 : Int32) (v3 : Int32) (v4 : Int32) (st : St) {x : (Int32 × St) ⊕ (St)} (hx : fX6_layRows_15 v1 v2 v3 v4 st = some x) {Q : State → Prop} {G : Int32 × St → Prop} {X : St → Prop} (hG : ∀ (w4 : Int32) (wst : St), G (w4, wst) → ∀ (H : Heap) (locs : List Loc) (ls : Array Slot), XH E (sg wst) s H locs → lv_has ls 8 [(0, .ref (E.ad 68)), (1, .int v1), (2, .int v2), (3, .int v3), (4, .int w4)] → W p l e rmX6_layRows s m args below meth c H locs 0 0 Q (F0 m 15 ls [])) (hE0 : ∀ (wst : St), X wst → ∀ (H : Heap) (locs : List Loc) (ls : Array Slot), XH E (sg wst) s H locs → lv_has ls 8 [(0, .ref (E.ad 68)), (1, .int v1), (2, .int v2), (3, .int v3)] → W p l e rmX6_layRows s m args below meth c H locs 0 0 Q (F0 m 106 ls [])) (K : Kx G X x) {H : Heap} {locs : List Loc} {ls : Array Slot} (h : XH E (sg st) s H locs) (hl : lv_has ls 8 [(0, .ref (E.ad 68)), (1, .int v1), (2, .int v2), (3, .int v3), (4, .int v4)]) : W p l e rmX6_layRows s m args below meth c H locs 0 0 Q (F0 m 15 ls []) := by
  unfold fX6_layRows_15 at hx
  refine lv_iload C.x C.bc dX6_layRows_15 (lv_at hl 4 rfl) ?_
  refine lv_aload_n C.x C.bc dX6_layRows_17 rfl (lv_at hl 0 rfl) ?_
  refine gt_X6_31_68 C hI h dX6_layRows_18 ?_
  obtain ⟨r_3, hf_3, hx⟩ := bd_e hx
  refine cX6_190_X6_nodes_70 C hI h hf_3 ⟨Nat.le_of_ble_eq_true rfl, Nat.le_of_ble_eq_true rfl⟩ ⟨Nat.zero_le _, Nat.zero_le _⟩ hl.1 (Nat.le_of_ble_eq_true rfl) dX6_layRows_21 (fun H locs h => ?_)
  refine lv_icmp_ge (tgt := 106) C.x C.bc dX6_layRows_24 (by decide) (fun c_4 => ?_) (fun c_4 => ?_)
  · have hx := ge_t hx c_4
    obtain rfl := Option.some.inj hx
    exact hE0 _ K _ _ _ h (lv_sub hl [0, 1, 2, 3] rfl)
  · have hx := ge_f hx c_4
    refine lv_iload_n C.x C.bc dX6_layRows_27 rfl (lv_at hl 1 rfl) ?_
    refine lv_iload C.x C.bc dX6_layRows_28 (lv_at hl 4 rfl) ?_
    refine lv_ishr C.x C.bc dX6_layRows_30 ?_
    refine lv_iconst (v := (1 : Int32)) C.x C.bc dX6_layRows_31 (by decide) ?_
    refine lv_iand C.x C.bc dX6_layRows_32 ?_
    refine lv_iconst (v := (1 : Int32)) C.x C.bc dX6_layRows_33 (by decide) ?_
    refine lv_icmp_ne (tgt := 68) C.x C.bc dX6_layRows_34 (by decide) (fun c_5 => ?_) (fun c_5 => ?_)
    · have hx := ge_f hx c_5
      exact bX6_layRows_68 C hI v1 v2 v3 v4 st hx hG hE0 K h (lv_sub hl [0, 1, 2, 3, 4] rfl)
    · have hx := ge_t hx c_5
      refine lv_iload_n C.x C.bc dX6_layRows_37 rfl (lv_at hl 2 rfl) ?_
      refine lv_iload C.x C.bc dX6_layRows_38 (lv_at hl 4 rfl) ?_
      refine lv_ishr C.x C.bc dX6_layRows_40 ?_
      refine lv_iconst (v := (1 : Int32)) C.x C.bc dX6_layRows_41 (by decide) ?_
      refine lv_iand C.x C.bc dX6_layRows_42 ?_
      refine lv_iconst (v := (1 : Int32)) C.x C.bc dX6_layRows_43 (by decide) ?_
      refine lv_icmp_ne (tgt := 51) C.x C.bc dX6_layRows_44 (by decide) (fun c_11 => ?_) (fun c_11 => ?_)
      · have hx := ge_f hx c_11
        refine lv_iconst (v := (0 : Int32)) C.x C.bc dX6_layRows_51 (by decide) ?_
        exact bX6_layRows_52 C hI v1 v2 v3 v4 (0 : Int32) st hx hG hE0 K h (lv_sub hl [0, 1, 2, 3, 4] rfl)
      · have hx := ge_t hx c_11
        refine lv_iconst (v := (1 : Int32)) C.x C.bc dX6_layRows_47 (by decide) ?_
        refine lv_goto (tgt := 52) C.x C.bc dX6_layRows_48 (by decide) ?_
        exact bX6_layRows_52 C hI v1 v2 v3 v4 (1 : Int32) st hx hG hE0 K h (lv_sub hl [0, 1, 2, 3, 4] rfl)
set_option maxHeartbeats 1000000 in
theorem pX6_layRows_15 (C : Cx E s0 b p s m args meth c cX6_layRows 8 "EarthMeshModel" none) (hI : Sx E) (v1 : Int32) (v2 : Int32) (v3 : Int32) {Q : State → Prop} {v4 : Int32} {st : St} {n : Nat} {r : St} (hx : iter (u2 fun v4 st => fX6_layRows_15 v1 v2 v3 v4 st) n (v4, st) = some r) (hE : (fun t => ∀ (H : Heap) (locs : List Loc) (ls : Array Slot), XH E (sg t) s H locs → lv_has ls 8 [(0, .ref (E.ad 68)), (1, .int v1), (2, .int v2), (3, .int v3)] → W p l e rmX6_layRows s m args below meth c H locs 0 0 Q (F0 m 106 ls [])) r) {H : Heap} {locs : List Loc} {ls : Array Slot} (h : XH E (sg st) s H locs) (hl : lv_has ls 8 [(0, .ref (E.ad 68)), (1, .int v1), (2, .int v2), (3, .int v3), (4, .int v4)]) : W p l e rmX6_layRows s m args below meth c H locs 0 0 Q (F0 m 15 ls []) := by
  refine iter_W (G := fun t => ∀ (H : Heap) (locs : List Loc) (ls : Array Slot), XH E (sg t.2) s H locs → lv_has ls 8 [(0, .ref (E.ad 68)), (1, .int v1), (2, .int v2), (3, .int v3), (4, .int t.1)] → W p l e rmX6_layRows s m args below meth c H locs 0 0 Q (F0 m 15 ls [])) (E := fun t => ∀ (H : Heap) (locs : List Loc) (ls : Array Slot), XH E (sg t) s H locs → lv_has ls 8 [(0, .ref (E.ad 68)), (1, .int v1), (2, .int v2), (3, .int v3)] → W p l e rmX6_layRows s m args below meth c H locs 0 0 Q (F0 m 106 ls [])) (fun t x hx K H locs ls h hl => ?_) n _ r hx hE H locs ls h hl
  obtain ⟨v4, st⟩ := t
  exact bX6_layRows_15 C hI v1 v2 v3 v4 st hx (fun _ _ z => z) (fun _ z => z) K h hl
def fX6_layRows_7 (v1 : Int32) (v2 : Int32) (v3 : Int32) (st : St) : Option ((Int32 × St) ⊕ (St)) :=
  if (2 : Int32) ≤ v3 then
    some (.inr st)
  else
    bd (iter (u2 fun z4 zst => fX6_layRows_15 v1 v2 v3 z4 zst) FU ((0 : Int32), st)) (u1 fun st_14 =>
    nm (v3 + (1 : Int32)) fun v3_15 =>
    some (.inl (v3_15, st_14)))
set_option maxHeartbeats 1000000 in
theorem bX6_layRows_7 (C : Cx E s0 b p s m args meth c cX6_layRows 8 "EarthMeshModel" none) (hI : Sx E) (v1 : Int32) (v2 : Int32) (v3 : Int32) (st : St) {x : (Int32 × St) ⊕ (St)} (hx : fX6_layRows_7 v1 v2 v3 st = some x) {Q : State → Prop} {G : Int32 × St → Prop} {X : St → Prop} (hG : ∀ (w3 : Int32) (wst : St), G (w3, wst) → ∀ (H : Heap) (locs : List Loc) (ls : Array Slot), XH E (sg wst) s H locs → lv_has ls 8 [(0, .ref (E.ad 68)), (1, .int v1), (2, .int v2), (3, .int w3)] → W p l e rmX6_layRows s m args below meth c H locs 0 0 Q (F0 m 7 ls [])) (hE0 : ∀ (wst : St), X wst → ∀ (H : Heap) (locs : List Loc) (ls : Array Slot), XH E (sg wst) s H locs → lv_has ls 8 [(0, .ref (E.ad 68))] → W p l e rmX6_layRows s m args below meth c H locs 0 0 Q (F0 m 112 ls [])) (K : Kx G X x) {H : Heap} {locs : List Loc} {ls : Array Slot} (h : XH E (sg st) s H locs) (hl : lv_has ls 8 [(0, .ref (E.ad 68)), (1, .int v1), (2, .int v2), (3, .int v3)]) : W p l e rmX6_layRows s m args below meth c H locs 0 0 Q (F0 m 7 ls []) := by
  unfold fX6_layRows_7 at hx
  refine lv_iload_n C.x C.bc dX6_layRows_7 rfl (lv_at hl 3 rfl) ?_
  refine lv_iconst (v := (2 : Int32)) C.x C.bc dX6_layRows_8 (by decide) ?_
  refine lv_icmp_ge (tgt := 112) C.x C.bc dX6_layRows_9 (by decide) (fun c_2 => ?_) (fun c_2 => ?_)
  · have hx := ge_t hx c_2
    obtain rfl := Option.some.inj hx
    exact hE0 _ K _ _ _ h (lv_sub hl [0] rfl)
  · have hx := ge_f hx c_2
    refine lv_iconst (v := (0 : Int32)) C.x C.bc dX6_layRows_12 (by decide) ?_
    refine lv_istore (lv' := [(4, .int (0 : Int32)), (0, .ref (E.ad 68)), (1, .int v1), (2, .int v2), (3, .int v3)]) C.x C.bc dX6_layRows_13 hl (by decide) rfl (fun ls hl => ?_)
    obtain ⟨st_14, hi_14, hx⟩ := bd_e hx
    have hx := u1_e hx
    refine pX6_layRows_15 C hI v1 v2 v3 hi_14 (fun H locs ls h hl => ?_) h (lv_sub hl [1, 2, 3, 4, 0] rfl)
    obtain ⟨v3_15, e_15, hx⟩ := nm_x hx
    refine lv_iinc (v := v3_15) (lv' := [(3, .int v3_15), (0, .ref (E.ad 68)), (1, .int v1), (2, .int v2)]) C.x C.bc dX6_layRows_106 hl (k := 3) rfl (by rw [e_15]; rfl) (by decide) rfl (fun ls hl => ?_)
    refine lv_goto (tgt := 7) C.x C.bc dX6_layRows_109 (by decide) ?_
    obtain rfl := Option.some.inj hx
    exact hG _ _ K _ _ _ h (lv_sub hl [1, 2, 3, 0] rfl)
set_option maxHeartbeats 1000000 in
theorem pX6_layRows_7 (C : Cx E s0 b p s m args meth c cX6_layRows 8 "EarthMeshModel" none) (hI : Sx E) (v1 : Int32) (v2 : Int32) {Q : State → Prop} {v3 : Int32} {st : St} {n : Nat} {r : St} (hx : iter (u2 fun v3 st => fX6_layRows_7 v1 v2 v3 st) n (v3, st) = some r) (hE : (fun t => ∀ (H : Heap) (locs : List Loc) (ls : Array Slot), XH E (sg t) s H locs → lv_has ls 8 [(0, .ref (E.ad 68))] → W p l e rmX6_layRows s m args below meth c H locs 0 0 Q (F0 m 112 ls [])) r) {H : Heap} {locs : List Loc} {ls : Array Slot} (h : XH E (sg st) s H locs) (hl : lv_has ls 8 [(0, .ref (E.ad 68)), (1, .int v1), (2, .int v2), (3, .int v3)]) : W p l e rmX6_layRows s m args below meth c H locs 0 0 Q (F0 m 7 ls []) := by
  refine iter_W (G := fun t => ∀ (H : Heap) (locs : List Loc) (ls : Array Slot), XH E (sg t.2) s H locs → lv_has ls 8 [(0, .ref (E.ad 68)), (1, .int v1), (2, .int v2), (3, .int t.1)] → W p l e rmX6_layRows s m args below meth c H locs 0 0 Q (F0 m 7 ls [])) (E := fun t => ∀ (H : Heap) (locs : List Loc) (ls : Array Slot), XH E (sg t) s H locs → lv_has ls 8 [(0, .ref (E.ad 68))] → W p l e rmX6_layRows s m args below meth c H locs 0 0 Q (F0 m 112 ls [])) (fun t x hx K H locs ls h hl => ?_) n _ r hx hE H locs ls h hl
  obtain ⟨v3, st⟩ := t
  exact bX6_layRows_7 C hI v1 v2 v3 st hx (fun _ _ z => z) (fun _ z => z) K h hl
def fX6_layRows_114 (v3 : Int32) (st : St) : Option ((Int32 × St) ⊕ (St)) :=
  if (156 : Int32) ≤ v3 then
    some (.inr st)
  else
    gd (inB v3 156) <|
    nm (uL st 74 v3.toNatClampNeg (0 : Int64)) fun st_19 =>
    nm (v3 + (1 : Int32)) fun v3_20 =>
    some (.inl (v3_20, st_19))
set_option maxHeartbeats 1000000 in
theorem bX6_layRows_114 (C : Cx E s0 b p s m args meth c cX6_layRows 8 "EarthMeshModel" none) (hI : Sx E) (v3 : Int32) (st : St) {x : (Int32 × St) ⊕ (St)} (hx : fX6_layRows_114 v3 st = some x) {Q : State → Prop} {G : Int32 × St → Prop} {X : St → Prop} (hG : ∀ (w3 : Int32) (wst : St), G (w3, wst) → ∀ (H : Heap) (locs : List Loc) (ls : Array Slot), XH E (sg wst) s H locs → lv_has ls 8 [(0, .ref (E.ad 68)), (3, .int w3)] → W p l e rmX6_layRows s m args below meth c H locs 0 0 Q (F0 m 114 ls [])) (hE0 : ∀ (wst : St), X wst → ∀ (H : Heap) (locs : List Loc) (ls : Array Slot), XH E (sg wst) s H locs → lv_has ls 8 [(0, .ref (E.ad 68))] → W p l e rmX6_layRows s m args below meth c H locs 0 0 Q (F0 m 136 ls [])) (K : Kx G X x) {H : Heap} {locs : List Loc} {ls : Array Slot} (h : XH E (sg st) s H locs) (hl : lv_has ls 8 [(0, .ref (E.ad 68)), (3, .int v3)]) : W p l e rmX6_layRows s m args below meth c H locs 0 0 Q (F0 m 114 ls []) := by
  unfold fX6_layRows_114 at hx
  refine lv_iload_n C.x C.bc dX6_layRows_114 rfl (lv_at hl 1 rfl) ?_
  refine lv_aload_n C.x C.bc dX6_layRows_115 rfl (lv_at hl 0 rfl) ?_
  refine gt_X6_48_68 C hI h dX6_layRows_116 ?_
  refine x_alen C h 74 1 156 (hI 74 (by decide)) k_74 rfl (v := (156 : Int32)) rfl dX6_layRows_119 ?_
  refine lv_icmp_ge (tgt := 136) C.x C.bc dX6_layRows_120 (by decide) (fun c_17 => ?_) (fun c_17 => ?_)
  · have hx := ge_t hx c_17
    obtain rfl := Option.some.inj hx
    exact hE0 _ K _ _ _ h (lv_sub hl [0] rfl)
  · have hx := ge_f hx c_17
    refine lv_aload_n C.x C.bc dX6_layRows_123 rfl (lv_at hl 0 rfl) ?_
    refine gt_X6_48_68 C hI h dX6_layRows_124 ?_
    refine lv_iload_n C.x C.bc dX6_layRows_127 rfl (lv_at hl 1 rfl) ?_
    refine lv_lconst (v := (0 : Int64)) C.x C.bc dX6_layRows_128 (by decide) ?_
    obtain ⟨g_18, hx⟩ := gd_e hx
    obtain ⟨st_19, e_19, hx⟩ := nm_x hx
    refine y_last C h 74 156 (hI 74 (by decide)) k_74 g_18 e_19 dX6_layRows_129 (fun H locs h => ?_)
    obtain ⟨v3_20, e_20, hx⟩ := nm_x hx
    refine lv_iinc (v := v3_20) (lv' := [(3, .int v3_20), (0, .ref (E.ad 68))]) C.x C.bc dX6_layRows_130 hl (k := 1) rfl (by rw [e_20]; rfl) (by decide) rfl (fun ls hl => ?_)
    refine lv_goto (tgt := 114) C.x C.bc dX6_layRows_133 (by decide) ?_
    obtain rfl := Option.some.inj hx
    exact hG _ _ K _ _ _ h (lv_sub hl [1, 0] rfl)
set_option maxHeartbeats 1000000 in
theorem pX6_layRows_114 (C : Cx E s0 b p s m args meth c cX6_layRows 8 "EarthMeshModel" none) (hI : Sx E) {Q : State → Prop} {v3 : Int32} {st : St} {n : Nat} {r : St} (hx : iter (u2 fun v3 st => fX6_layRows_114 v3 st) n (v3, st) = some r) (hE : (fun t => ∀ (H : Heap) (locs : List Loc) (ls : Array Slot), XH E (sg t) s H locs → lv_has ls 8 [(0, .ref (E.ad 68))] → W p l e rmX6_layRows s m args below meth c H locs 0 0 Q (F0 m 136 ls [])) r) {H : Heap} {locs : List Loc} {ls : Array Slot} (h : XH E (sg st) s H locs) (hl : lv_has ls 8 [(0, .ref (E.ad 68)), (3, .int v3)]) : W p l e rmX6_layRows s m args below meth c H locs 0 0 Q (F0 m 114 ls []) := by
  refine iter_W (G := fun t => ∀ (H : Heap) (locs : List Loc) (ls : Array Slot), XH E (sg t.2) s H locs → lv_has ls 8 [(0, .ref (E.ad 68)), (3, .int t.1)] → W p l e rmX6_layRows s m args below meth c H locs 0 0 Q (F0 m 114 ls [])) (E := fun t => ∀ (H : Heap) (locs : List Loc) (ls : Array Slot), XH E (sg t) s H locs → lv_has ls 8 [(0, .ref (E.ad 68))] → W p l e rmX6_layRows s m args below meth c H locs 0 0 Q (F0 m 136 ls [])) (fun t x hx K H locs ls h hl => ?_) n _ r hx hE H locs ls h hl
  obtain ⟨v3, st⟩ := t
  exact bX6_layRows_114 C hI v3 st hx (fun _ _ z => z) (fun _ z => z) K h hl
def fX6_layRows_199 (v3 : Int32) (v4 : Int64) (v6 : Int32) (k0 : Int32) (st : St) : Option ((Int64 × Int32 × St) ⊕ (Int64 × St)) :=
  nm (v4 + (k0.toInt64)) fun v4_31 =>
  bd (fX6_lay v3 v6 ((-k0).toInt64) st) fun st_32 =>
  nm (v6 + (1 : Int32)) fun v6_33 =>
  some (.inl (v4_31, v6_33, st_32))
set_option maxHeartbeats 1000000 in
theorem bX6_layRows_199 (C : Cx E s0 b p s m args meth c cX6_layRows 8 "EarthMeshModel" none) (hI : Sx E) (v3 : Int32) (v4 : Int64) (v6 : Int32) (k0 : Int32) (st : St) {x : (Int64 × Int32 × St) ⊕ (Int64 × St)} (hx : fX6_layRows_199 v3 v4 v6 k0 st = some x) {Q : State → Prop} {G : Int64 × Int32 × St → Prop} {X : Int64 × St → Prop} (hG : ∀ (w4 : Int64) (w6 : Int32) (wst : St), G (w4, w6, wst) → ∀ (H : Heap) (locs : List Loc) (ls : Array Slot), XH E (sg wst) s H locs → lv_has ls 8 [(0, .ref (E.ad 68)), (3, .int v3), (4, .long w4), (6, .int w6)] → W p l e rmX6_layRows s m args below meth c H locs 0 0 Q (F0 m 163 ls [])) (hE0 : ∀ (w4 : Int64) (wst : St), X (w4, wst) → ∀ (H : Heap) (locs : List Loc) (ls : Array Slot), XH E (sg wst) s H locs → lv_has ls 8 [(0, .ref (E.ad 68)), (3, .int v3), (4, .long w4)] → W p l e rmX6_layRows s m args below meth c H locs 0 0 Q (F0 m 226 ls [])) (K : Kx G X x) {H : Heap} {locs : List Loc} {ls : Array Slot} (h : XH E (sg st) s H locs) (hl : lv_has ls 8 [(0, .ref (E.ad 68)), (3, .int v3), (4, .long v4), (6, .int v6)]) : W p l e rmX6_layRows s m args below meth c H locs 0 0 Q (F0 m 199 ls [.int k0]) := by
  unfold fX6_layRows_199 at hx
  refine lv_istore (lv' := [(7, .int k0), (0, .ref (E.ad 68)), (3, .int v3), (4, .long v4), (6, .int v6)]) C.x C.bc dX6_layRows_199 hl (by decide) rfl (fun ls hl => ?_)
  refine lv_lload C.x C.bc dX6_layRows_201 (lv_at hl 3 rfl) ?_
  refine lv_iload C.x C.bc dX6_layRows_203 (lv_at hl 0 rfl) ?_
  refine lv_i2l (v := (k0.toInt64)) C.x C.bc dX6_layRows_205 rfl ?_
  refine lv_ladd C.x C.bc dX6_layRows_206 ?_
  obtain ⟨v4_31, e_31, hx⟩ := nm_x hx
  refine x_tl e_31 ?_
  refine lv_lstore (lv' := [(4, .long v4_31), (7, .int k0), (0, .ref (E.ad 68)), (3, .int v3), (6, .int v6)]) C.x C.bc dX6_layRows_207 hl (by decide) rfl (fun ls hl => ?_)
  refine lv_aload_n C.x C.bc dX6_layRows_209 rfl (lv_at hl 2 rfl) ?_
  refine lv_iload_n C.x C.bc dX6_layRows_210 rfl (lv_at hl 3 rfl) ?_
  refine lv_iload C.x C.bc dX6_layRows_211 (lv_at hl 4 rfl) ?_
  refine lv_iload C.x C.bc dX6_layRows_213 (lv_at hl 1 rfl) ?_
  refine lv_ineg C.x C.bc dX6_layRows_215 ?_
  refine lv_i2l (v := ((-k0).toInt64)) C.x C.bc dX6_layRows_216 rfl ?_
  obtain ⟨st_32, hf_32, hx⟩ := bd_e hx
  refine cX6_229_X6_lay C hI h hf_32 ⟨Nat.le_of_ble_eq_true rfl, Nat.le_of_ble_eq_true rfl⟩ ⟨Nat.zero_le _, Nat.zero_le _⟩ hl.1 (Nat.le_of_ble_eq_true rfl) dX6_layRows_217 (fun H locs h => ?_)
  obtain ⟨v6_33, e_33, hx⟩ := nm_x hx
  refine lv_iinc (v := v6_33) (lv' := [(6, .int v6_33), (4, .long v4_31), (7, .int k0), (0, .ref (E.ad 68)), (3, .int v3)]) C.x C.bc dX6_layRows_220 hl (k := 4) rfl (by rw [e_33]; rfl) (by decide) rfl (fun ls hl => ?_)
  refine lv_goto (tgt := 163) C.x C.bc dX6_layRows_223 (by decide) ?_
  obtain rfl := Option.some.inj hx
  exact hG _ _ _ K _ _ _ h (lv_sub hl [3, 4, 1, 0] rfl)
def fX6_layRows_163 (v3 : Int32) (v4 : Int64) (v6 : Int32) (st : St) : Option ((Int64 × Int32 × St) ⊕ (Int64 × St)) :=
  if (st.1 68 18) ≤ v6 then
    some (.inr (v4, st))
  else
    if v3 = v6 then
      fX6_layRows_199 v3 v4 v6 (0 : Int32) st
    else
      gd (inB v3 12) <|
      gd (inB v6 12) <|
      bd (fX6_gOf (st.1 75 v3.toNatClampNeg) (st.1 75 v6.toNatClampNeg) st) fun r_30 =>
      fX6_layRows_199 v3 v4 v6 r_30 st
set_option maxHeartbeats 1000000 in
theorem bX6_layRows_163 (C : Cx E s0 b p s m args meth c cX6_layRows 8 "EarthMeshModel" none) (hI : Sx E) (v3 : Int32) (v4 : Int64) (v6 : Int32) (st : St) {x : (Int64 × Int32 × St) ⊕ (Int64 × St)} (hx : fX6_layRows_163 v3 v4 v6 st = some x) {Q : State → Prop} {G : Int64 × Int32 × St → Prop} {X : Int64 × St → Prop} (hG : ∀ (w4 : Int64) (w6 : Int32) (wst : St), G (w4, w6, wst) → ∀ (H : Heap) (locs : List Loc) (ls : Array Slot), XH E (sg wst) s H locs → lv_has ls 8 [(0, .ref (E.ad 68)), (3, .int v3), (4, .long w4), (6, .int w6)] → W p l e rmX6_layRows s m args below meth c H locs 0 0 Q (F0 m 163 ls [])) (hE0 : ∀ (w4 : Int64) (wst : St), X (w4, wst) → ∀ (H : Heap) (locs : List Loc) (ls : Array Slot), XH E (sg wst) s H locs → lv_has ls 8 [(0, .ref (E.ad 68)), (3, .int v3), (4, .long w4)] → W p l e rmX6_layRows s m args below meth c H locs 0 0 Q (F0 m 226 ls [])) (K : Kx G X x) {H : Heap} {locs : List Loc} {ls : Array Slot} (h : XH E (sg st) s H locs) (hl : lv_has ls 8 [(0, .ref (E.ad 68)), (3, .int v3), (4, .long v4), (6, .int v6)]) : W p l e rmX6_layRows s m args below meth c H locs 0 0 Q (F0 m 163 ls []) := by
  unfold fX6_layRows_163 at hx
  refine lv_iload C.x C.bc dX6_layRows_163 (lv_at hl 3 rfl) ?_
  refine lv_aload_n C.x C.bc dX6_layRows_165 rfl (lv_at hl 0 rfl) ?_
  refine gt_X6_223_68 C hI h dX6_layRows_166 ?_
  refine lv_icmp_ge (tgt := 226) C.x C.bc dX6_layRows_169 (by decide) (fun c_26 => ?_) (fun c_26 => ?_)
  · have hx := ge_t hx c_26
    obtain rfl := Option.some.inj hx
    exact hE0 _ _ K _ _ _ h (lv_sub hl [0, 1, 2] rfl)
  · have hx := ge_f hx c_26
    refine lv_iload_n C.x C.bc dX6_layRows_172 rfl (lv_at hl 1 rfl) ?_
    refine lv_iload C.x C.bc dX6_layRows_173 (lv_at hl 3 rfl) ?_
    refine lv_icmp_ne (tgt := 182) C.x C.bc dX6_layRows_175 (by decide) (fun c_27 => ?_) (fun c_27 => ?_)
    · have hx := ge_f hx c_27
      refine lv_aload_n C.x C.bc dX6_layRows_182 rfl (lv_at hl 0 rfl) ?_
      refine lv_aload_n C.x C.bc dX6_layRows_183 rfl (lv_at hl 0 rfl) ?_
      refine gt_X6_52_68 C hI h dX6_layRows_184 ?_
      refine lv_iload_n C.x C.bc dX6_layRows_187 rfl (lv_at hl 1 rfl) ?_
      obtain ⟨g_28, hx⟩ := gd_e hx
      refine x_iald C h 75 12 (hI 75 (by decide)) k_75 g_28 dX6_layRows_188 ?_
      refine lv_aload_n C.x C.bc dX6_layRows_189 rfl (lv_at hl 0 rfl) ?_
      refine gt_X6_52_68 C hI h dX6_layRows_190 ?_
      refine lv_iload C.x C.bc dX6_layRows_193 (lv_at hl 3 rfl) ?_
      obtain ⟨g_29, hx⟩ := gd_e hx
      refine x_iald C h 75 12 (hI 75 (by decide)) k_75 g_29 dX6_layRows_195 ?_
      obtain ⟨r_30, hf_30, hx⟩ := bd_e hx
      refine cX6_226_X6_gOf C hI h hf_30 ⟨Nat.le_of_ble_eq_true rfl, Nat.le_of_ble_eq_true rfl⟩ ⟨Nat.zero_le _, Nat.zero_le _⟩ hl.1 (Nat.le_of_ble_eq_true rfl) dX6_layRows_196 (fun H locs h => ?_)
      exact bX6_layRows_199 C hI v3 v4 v6 r_30 st hx hG hE0 K h (lv_sub hl [0, 1, 2, 3] rfl)
    · have hx := ge_t hx c_27
      refine lv_iconst (v := (0 : Int32)) C.x C.bc dX6_layRows_178 (by decide) ?_
      refine lv_goto (tgt := 199) C.x C.bc dX6_layRows_179 (by decide) ?_
      exact bX6_layRows_199 C hI v3 v4 v6 (0 : Int32) st hx hG hE0 K h (lv_sub hl [0, 1, 2, 3] rfl)
set_option maxHeartbeats 1000000 in
theorem pX6_layRows_163 (C : Cx E s0 b p s m args meth c cX6_layRows 8 "EarthMeshModel" none) (hI : Sx E) (v3 : Int32) {Q : State → Prop} {v4 : Int64} {v6 : Int32} {st : St} {n : Nat} {r : Int64 × St} (hx : iter (u3 fun v4 v6 st => fX6_layRows_163 v3 v4 v6 st) n (v4, v6, st) = some r) (hE : (fun t => ∀ (H : Heap) (locs : List Loc) (ls : Array Slot), XH E (sg t.2) s H locs → lv_has ls 8 [(0, .ref (E.ad 68)), (3, .int v3), (4, .long t.1)] → W p l e rmX6_layRows s m args below meth c H locs 0 0 Q (F0 m 226 ls [])) r) {H : Heap} {locs : List Loc} {ls : Array Slot} (h : XH E (sg st) s H locs) (hl : lv_has ls 8 [(0, .ref (E.ad 68)), (3, .int v3), (4, .long v4), (6, .int v6)]) : W p l e rmX6_layRows s m args below meth c H locs 0 0 Q (F0 m 163 ls []) := by
  refine iter_W (G := fun t => ∀ (H : Heap) (locs : List Loc) (ls : Array Slot), XH E (sg t.2.2) s H locs → lv_has ls 8 [(0, .ref (E.ad 68)), (3, .int v3), (4, .long t.1), (6, .int t.2.1)] → W p l e rmX6_layRows s m args below meth c H locs 0 0 Q (F0 m 163 ls [])) (E := fun t => ∀ (H : Heap) (locs : List Loc) (ls : Array Slot), XH E (sg t.2) s H locs → lv_has ls 8 [(0, .ref (E.ad 68)), (3, .int v3), (4, .long t.1)] → W p l e rmX6_layRows s m args below meth c H locs 0 0 Q (F0 m 226 ls [])) (fun t x hx K H locs ls h hl => ?_) n _ r hx hE H locs ls h hl
  obtain ⟨v4, v6, st⟩ := t
  exact bX6_layRows_163 C hI v3 v4 v6 st hx (fun _ _ _ z => z) (fun _ _ z => z) K h hl
def fX6_layRows_138 (v3 : Int32) (st : St) : Option ((Int32 × St) ⊕ (St)) :=
  if (st.1 68 18) ≤ v3 then
    some (.inr st)
  else
    gd (inB v3 12) <|
    bd (fX6_part (st.1 75 v3.toNatClampNeg) (2 : Int32) st) fun r_24 =>
    nm (r_24.toInt64) fun v4_25 =>
    bd (iter (u3 fun z4 z6 zst => fX6_layRows_163 v3 z4 z6 zst) FU (v4_25, (0 : Int32), st)) (u2 fun v4_34 st_34 =>
    bd (fX6_lay v3 v3 v4_34 st_34) fun st_35 =>
    nm (v3 + (1 : Int32)) fun v3_36 =>
    some (.inl (v3_36, st_35)))
set_option maxHeartbeats 1000000 in
theorem bX6_layRows_138 (C : Cx E s0 b p s m args meth c cX6_layRows 8 "EarthMeshModel" none) (hI : Sx E) (v3 : Int32) (st : St) {x : (Int32 × St) ⊕ (St)} (hx : fX6_layRows_138 v3 st = some x) {Q : State → Prop} {G : Int32 × St → Prop} {X : St → Prop} (hG : ∀ (w3 : Int32) (wst : St), G (w3, wst) → ∀ (H : Heap) (locs : List Loc) (ls : Array Slot), XH E (sg wst) s H locs → lv_has ls 8 [(0, .ref (E.ad 68)), (3, .int w3)] → W p l e rmX6_layRows s m args below meth c H locs 0 0 Q (F0 m 138 ls [])) (hE0 : ∀ (wst : St), X wst → ∀ (H : Heap) (locs : List Loc) (ls : Array Slot), XH E (sg wst) s H locs → lv_has ls 8 [(0, .ref (E.ad 68))] → W p l e rmX6_layRows s m args below meth c H locs 0 0 Q (F0 m 240 ls [])) (K : Kx G X x) {H : Heap} {locs : List Loc} {ls : Array Slot} (h : XH E (sg st) s H locs) (hl : lv_has ls 8 [(0, .ref (E.ad 68)), (3, .int v3)]) : W p l e rmX6_layRows s m args below meth c H locs 0 0 Q (F0 m 138 ls []) := by
  unfold fX6_layRows_138 at hx
  refine lv_iload_n C.x C.bc dX6_layRows_138 rfl (lv_at hl 1 rfl) ?_
  refine lv_aload_n C.x C.bc dX6_layRows_139 rfl (lv_at hl 0 rfl) ?_
  refine gt_X6_223_68 C hI h dX6_layRows_140 ?_
  refine lv_icmp_ge (tgt := 240) C.x C.bc dX6_layRows_143 (by decide) (fun c_22 => ?_) (fun c_22 => ?_)
  · have hx := ge_t hx c_22
    obtain rfl := Option.some.inj hx
    exact hE0 _ K _ _ _ h (lv_sub hl [0] rfl)
  · have hx := ge_f hx c_22
    refine lv_aload_n C.x C.bc dX6_layRows_146 rfl (lv_at hl 0 rfl) ?_
    refine lv_aload_n C.x C.bc dX6_layRows_147 rfl (lv_at hl 0 rfl) ?_
    refine gt_X6_52_68 C hI h dX6_layRows_148 ?_
    refine lv_iload_n C.x C.bc dX6_layRows_151 rfl (lv_at hl 1 rfl) ?_
    obtain ⟨g_23, hx⟩ := gd_e hx
    refine x_iald C h 75 12 (hI 75 (by decide)) k_75 g_23 dX6_layRows_152 ?_
    refine lv_iconst (v := (2 : Int32)) C.x C.bc dX6_layRows_153 (by decide) ?_
    obtain ⟨r_24, hf_24, hx⟩ := bd_e hx
    refine cX6_194_X6_part C hI h hf_24 ⟨Nat.le_of_ble_eq_true rfl, Nat.le_of_ble_eq_true rfl⟩ ⟨Nat.zero_le _, Nat.zero_le _⟩ hl.1 (Nat.le_of_ble_eq_true rfl) dX6_layRows_154 (fun H locs h => ?_)
    refine lv_i2l (v := (r_24.toInt64)) C.x C.bc dX6_layRows_157 rfl ?_
    obtain ⟨v4_25, e_25, hx⟩ := nm_x hx
    refine x_tl e_25 ?_
    refine lv_lstore (lv' := [(4, .long v4_25), (0, .ref (E.ad 68)), (3, .int v3)]) C.x C.bc dX6_layRows_158 hl (by decide) rfl (fun ls hl => ?_)
    refine lv_iconst (v := (0 : Int32)) C.x C.bc dX6_layRows_160 (by decide) ?_
    refine lv_istore (lv' := [(6, .int (0 : Int32)), (4, .long v4_25), (0, .ref (E.ad 68)), (3, .int v3)]) C.x C.bc dX6_layRows_161 hl (by decide) rfl (fun ls hl => ?_)
    obtain ⟨⟨v4_34, st_34⟩, hi_34, hx⟩ := bd_e hx
    have hx := u2_e hx
    refine pX6_layRows_163 C hI v3 hi_34 (fun H locs ls h hl => ?_) h (lv_sub hl [2, 3, 1, 0] rfl)
    refine lv_aload_n C.x C.bc dX6_layRows_226 rfl (lv_at hl 0 rfl) ?_
    refine lv_iload_n C.x C.bc dX6_layRows_227 rfl (lv_at hl 1 rfl) ?_
    refine lv_iload_n C.x C.bc dX6_layRows_228 rfl (lv_at hl 1 rfl) ?_
    refine lv_lload C.x C.bc dX6_layRows_229 (lv_at hl 2 rfl) ?_
    obtain ⟨st_35, hf_35, hx⟩ := bd_e hx
    refine cX6_229_X6_lay C hI h hf_35 ⟨Nat.le_of_ble_eq_true rfl, Nat.le_of_ble_eq_true rfl⟩ ⟨Nat.zero_le _, Nat.zero_le _⟩ hl.1 (Nat.le_of_ble_eq_true rfl) dX6_layRows_231 (fun H locs h => ?_)
    obtain ⟨v3_36, e_36, hx⟩ := nm_x hx
    refine lv_iinc (v := v3_36) (lv' := [(3, .int v3_36), (0, .ref (E.ad 68)), (4, .long v4_34)]) C.x C.bc dX6_layRows_234 hl (k := 1) rfl (by rw [e_36]; rfl) (by decide) rfl (fun ls hl => ?_)
    refine lv_goto (tgt := 138) C.x C.bc dX6_layRows_237 (by decide) ?_
    obtain rfl := Option.some.inj hx
    exact hG _ _ K _ _ _ h (lv_sub hl [1, 0] rfl)
set_option maxHeartbeats 1000000 in
theorem pX6_layRows_138 (C : Cx E s0 b p s m args meth c cX6_layRows 8 "EarthMeshModel" none) (hI : Sx E) {Q : State → Prop} {v3 : Int32} {st : St} {n : Nat} {r : St} (hx : iter (u2 fun v3 st => fX6_layRows_138 v3 st) n (v3, st) = some r) (hE : (fun t => ∀ (H : Heap) (locs : List Loc) (ls : Array Slot), XH E (sg t) s H locs → lv_has ls 8 [(0, .ref (E.ad 68))] → W p l e rmX6_layRows s m args below meth c H locs 0 0 Q (F0 m 240 ls [])) r) {H : Heap} {locs : List Loc} {ls : Array Slot} (h : XH E (sg st) s H locs) (hl : lv_has ls 8 [(0, .ref (E.ad 68)), (3, .int v3)]) : W p l e rmX6_layRows s m args below meth c H locs 0 0 Q (F0 m 138 ls []) := by
  refine iter_W (G := fun t => ∀ (H : Heap) (locs : List Loc) (ls : Array Slot), XH E (sg t.2) s H locs → lv_has ls 8 [(0, .ref (E.ad 68)), (3, .int t.1)] → W p l e rmX6_layRows s m args below meth c H locs 0 0 Q (F0 m 138 ls [])) (E := fun t => ∀ (H : Heap) (locs : List Loc) (ls : Array Slot), XH E (sg t) s H locs → lv_has ls 8 [(0, .ref (E.ad 68))] → W p l e rmX6_layRows s m args below meth c H locs 0 0 Q (F0 m 240 ls [])) (fun t x hx K H locs ls h hl => ?_) n _ r hx hE H locs ls h hl
  obtain ⟨v3, st⟩ := t
  exact bX6_layRows_138 C hI v3 st hx (fun _ _ z => z) (fun _ z => z) K h hl
def fX6_layRows (v1 : Int32) (v2 : Int32) (st : St) : Option (St) :=
  nm (uI st 68 18 (0 : Int32)) fun st_1 =>
  bd (iter (u2 fun z3 zst => fX6_layRows_7 v1 v2 z3 zst) FU ((0 : Int32), st_1)) (u1 fun st_16 =>
  bd (iter (u2 fun z3 zst => fX6_layRows_114 z3 zst) FU ((0 : Int32), st_16)) (u1 fun st_21 =>
  bd (iter (u2 fun z3 zst => fX6_layRows_138 z3 zst) FU ((0 : Int32), st_21)) (u1 fun st_37 =>
  nm (uL st_37 68 19 (1 : Int64)) fun st_38 =>
  some st_38)))
set_option maxHeartbeats 1000000 in
theorem bX6_layRows (C : Cx E s0 b p s m args meth c cX6_layRows 8 "EarthMeshModel" none) (hI : Sx E) (v1 : Int32) (v2 : Int32) (st : St) {x : St} (hx : fX6_layRows v1 v2 st = some x) {H : Heap} {locs : List Loc} {ls : Array Slot} (h : XH E (sg st) s H locs) (hl : lv_has ls 8 [(0, .ref (E.ad 68)), (1, .int v1), (2, .int v2)]) : W p l e rmX6_layRows s m args below meth c H locs 0 0 (MQ below (Qx E none (sg x)) args s 0 0 (gA E.HB)) (F0 m 0 ls []) := by
  unfold fX6_layRows at hx
  refine lv_aload_n C.x C.bc dX6_layRows_0 rfl (lv_at hl 0 rfl) ?_
  refine lv_iconst (v := (0 : Int32)) C.x C.bc dX6_layRows_1 (by decide) ?_
  obtain ⟨st_1, e_1, hx⟩ := nm_x hx
  refine pt_X6_223_68 C hI h e_1 dX6_layRows_2 (fun H locs h => ?_)
  refine lv_iconst (v := (0 : Int32)) C.x C.bc dX6_layRows_5 (by decide) ?_
  refine lv_istore_n (lv' := [(3, .int (0 : Int32)), (0, .ref (E.ad 68)), (1, .int v1), (2, .int v2)]) C.x C.bc dX6_layRows_6 rfl hl (by decide) rfl (fun ls hl => ?_)
  obtain ⟨st_16, hi_16, hx⟩ := bd_e hx
  have hx := u1_e hx
  refine pX6_layRows_7 C hI v1 v2 hi_16 (fun H locs ls h hl => ?_) h (lv_sub hl [1, 2, 3, 0] rfl)
  refine lv_iconst (v := (0 : Int32)) C.x C.bc dX6_layRows_112 (by decide) ?_
  refine lv_istore_n (lv' := [(3, .int (0 : Int32)), (0, .ref (E.ad 68))]) C.x C.bc dX6_layRows_113 rfl hl (by decide) rfl (fun ls hl => ?_)
  obtain ⟨st_21, hi_21, hx⟩ := bd_e hx
  have hx := u1_e hx
  refine pX6_layRows_114 C hI hi_21 (fun H locs ls h hl => ?_) h (lv_sub hl [1, 0] rfl)
  refine lv_iconst (v := (0 : Int32)) C.x C.bc dX6_layRows_136 (by decide) ?_
  refine lv_istore_n (lv' := [(3, .int (0 : Int32)), (0, .ref (E.ad 68))]) C.x C.bc dX6_layRows_137 rfl hl (by decide) rfl (fun ls hl => ?_)
  obtain ⟨st_37, hi_37, hx⟩ := bd_e hx
  have hx := u1_e hx
  refine pX6_layRows_138 C hI hi_37 (fun H locs ls h hl => ?_) h (lv_sub hl [1, 0] rfl)
  refine lv_aload_n C.x C.bc dX6_layRows_240 rfl (lv_at hl 0 rfl) ?_
  refine lv_lconst (v := (1 : Int64)) C.x C.bc dX6_layRows_241 (by decide) ?_
  obtain ⟨st_38, e_38, hx⟩ := nm_x hx
  refine pt_X6_233_68 C hI h e_38 dX6_layRows_242 (fun H locs h => ?_)
  obtain rfl := Option.some.inj hx
  exact x_vret C h dX6_layRows_245
theorem mX6_layRows (hG : G0 E s0 b) (hI : Sx E) {v1 : Int32} {v2 : Int32} {x : St} (hx : fX6_layRows v1 v2 st = some x) : Mt l E s0 yX6_layRows cX6_layRows 8 none rmX6_layRows [.ref (E.ad 68), .int v1, .int v2] (sg st) none E (sg x) :=
  Mt.of hG (by decide) (Nat.le_of_ble_eq_true rfl) (fun p e s m below meth c ls C h hl => bX6_layRows C hI v1 v2 st hx h hl)
theorem cX6_254_X6_layRows {a0 : Int32} {a1 : Int32} {st' : St} (C : Cx E s0 b p s m args meth c cc nL "EarthMeshModel" rt) (hI : Sx E) (h : XH E (sg st) s H locs) (hf : fX6_layRows a0 a1 st = some st') (hR : rmX6_layRows.frames + 1 ≤ R.frames ∧ 16 + (8 + 11) + rmX6_layRows.locals ≤ R.locals) (h0 : cells ≤ R.cells ∧ slots ≤ R.slots) (hsz : ls.size = nL) (hcat : (rest.map fun v => v.category).sum ≤ 16) (hdg : decode cc pc = .ok (.invokevirtual 254, 3)) (kk : ∀ (H : Heap) (locs : List Loc), XH E (sg st') s H locs → W p l e R s m args below meth c H locs cells slots Q (F0 m (pc + 3) ls (rest))) : W p l e R s m args below meth c H locs cells slots Q (F0 m pc ls (.int a1 :: .int a0 :: .ref (E.ad 68) :: rest)) :=
  x_callV (n := 2) (As := [.int a0, .int a1]) C h 68 5 (hI 68 (by decide)) k_68 rfl (mX6_layRows C.g hI hf) (lw_V q1847 q1849 qs91 q136 q1850) ⟨rfl, by decide +kernel, by decide +kernel, by decide +kernel⟩ hR ⟨rfl, rfl⟩ h0 rfl hsz rfl hcat hdg kk
abbrev rmX6_clears : Room := { frames := 3, cells := 0, slots := 0, locals := 109 }
def fX6_clears_52 (v1 : Int32) (v3 : Int64) (v5 : Int32) (v6 : Int64) (v8 : Int32) (st : St) : Option ((Int32 × St) ⊕ (St)) :=
  if (12 : Int32) < v8 then
    some (.inr st)
  else
    bd (fX6_cell v5 v8 st) fun r_8 =>
    bd (fX6_cell v1 v8 st) fun r_9 =>
    bd (fX6_exactly v3 r_8 v6 r_9 (st.2.1 68 19)) fun r_10 =>
    bd (fX6_lay v5 v8 r_10 st) fun st_11 =>
    nm (v8 + (1 : Int32)) fun v8_12 =>
    some (.inl (v8_12, st_11))
set_option maxHeartbeats 1000000 in
theorem bX6_clears_52 (C : Cx E s0 b p s m args meth c cX6_clears 9 "EarthMeshModel" none) (hI : Sx E) (v1 : Int32) (v3 : Int64) (v5 : Int32) (v6 : Int64) (v8 : Int32) (st : St) {x : (Int32 × St) ⊕ (St)} (hx : fX6_clears_52 v1 v3 v5 v6 v8 st = some x) {Q : State → Prop} {G : Int32 × St → Prop} {X : St → Prop} (hG : ∀ (w8 : Int32) (wst : St), G (w8, wst) → ∀ (H : Heap) (locs : List Loc) (ls : Array Slot), XH E (sg wst) s H locs → lv_has ls 9 [(0, .ref (E.ad 68)), (1, .int v1), (3, .long v3), (5, .int v5), (6, .long v6), (8, .int w8)] → W p l e rmX6_clears s m args below meth c H locs 0 0 Q (F0 m 52 ls [])) (hE0 : ∀ (wst : St), X wst → ∀ (H : Heap) (locs : List Loc) (ls : Array Slot), XH E (sg wst) s H locs → lv_has ls 9 [(0, .ref (E.ad 68)), (1, .int v1), (3, .long v3), (5, .int v5)] → W p l e rmX6_clears s m args below meth c H locs 0 0 Q (F0 m 98 ls [])) (K : Kx G X x) {H : Heap} {locs : List Loc} {ls : Array Slot} (h : XH E (sg st) s H locs) (hl : lv_has ls 9 [(0, .ref (E.ad 68)), (1, .int v1), (3, .long v3), (5, .int v5), (6, .long v6), (8, .int v8)]) : W p l e rmX6_clears s m args below meth c H locs 0 0 Q (F0 m 52 ls []) := by
  unfold fX6_clears_52 at hx
  refine lv_iload C.x C.bc dX6_clears_52 (lv_at hl 5 rfl) ?_
  refine lv_bipush (v := (12 : Int32)) C.x C.bc dX6_clears_54 (by decide) ?_
  refine lv_icmp_gt (tgt := 98) C.x C.bc dX6_clears_56 (by decide) (fun c_7 => ?_) (fun c_7 => ?_)
  · have hx := ge_t hx c_7
    obtain rfl := Option.some.inj hx
    exact hE0 _ K _ _ _ h (lv_sub hl [0, 1, 2, 3] rfl)
  · have hx := ge_f hx c_7
    refine lv_aload_n C.x C.bc dX6_clears_59 rfl (lv_at hl 0 rfl) ?_
    refine lv_iload C.x C.bc dX6_clears_60 (lv_at hl 3 rfl) ?_
    refine lv_iload C.x C.bc dX6_clears_62 (lv_at hl 5 rfl) ?_
    refine lv_lload_n C.x C.bc dX6_clears_64 rfl (lv_at hl 2 rfl) ?_
    refine lv_aload_n C.x C.bc dX6_clears_65 rfl (lv_at hl 0 rfl) ?_
    refine lv_iload C.x C.bc dX6_clears_66 (lv_at hl 3 rfl) ?_
    refine lv_iload C.x C.bc dX6_clears_68 (lv_at hl 5 rfl) ?_
    obtain ⟨r_8, hf_8, hx⟩ := bd_e hx
    refine cX6_237_X6_cell C hI h hf_8 ⟨Nat.le_of_ble_eq_true rfl, Nat.le_of_ble_eq_true rfl⟩ ⟨Nat.zero_le _, Nat.zero_le _⟩ hl.1 (Nat.le_of_ble_eq_true rfl) dX6_clears_70 (fun H locs h => ?_)
    refine lv_lload C.x C.bc dX6_clears_73 (lv_at hl 4 rfl) ?_
    refine lv_aload_n C.x C.bc dX6_clears_75 rfl (lv_at hl 0 rfl) ?_
    refine lv_iload_n C.x C.bc dX6_clears_76 rfl (lv_at hl 1 rfl) ?_
    refine lv_iload C.x C.bc dX6_clears_77 (lv_at hl 5 rfl) ?_
    obtain ⟨r_9, hf_9, hx⟩ := bd_e hx
    refine cX6_237_X6_cell C hI h hf_9 ⟨Nat.le_of_ble_eq_true rfl, Nat.le_of_ble_eq_true rfl⟩ ⟨Nat.zero_le _, Nat.zero_le _⟩ hl.1 (Nat.le_of_ble_eq_true rfl) dX6_clears_79 (fun H locs h => ?_)
    refine lv_aload_n C.x C.bc dX6_clears_82 rfl (lv_at hl 0 rfl) ?_
    refine gt_X6_233_68 C hI h dX6_clears_83 ?_
    obtain ⟨r_10, hf_10, hx⟩ := bd_e hx
    refine cX6_241_X6_exactly C hI h hf_10 ⟨Nat.le_of_ble_eq_true rfl, Nat.le_of_ble_eq_true rfl⟩ ⟨Nat.zero_le _, Nat.zero_le _⟩ hl.1 (Nat.le_of_ble_eq_true rfl) dX6_clears_86 (fun H locs h => ?_)
    obtain ⟨st_11, hf_11, hx⟩ := bd_e hx
    refine cX6_229_X6_lay C hI h hf_11 ⟨Nat.le_of_ble_eq_true rfl, Nat.le_of_ble_eq_true rfl⟩ ⟨Nat.zero_le _, Nat.zero_le _⟩ hl.1 (Nat.le_of_ble_eq_true rfl) dX6_clears_89 (fun H locs h => ?_)
    obtain ⟨v8_12, e_12, hx⟩ := nm_x hx
    refine lv_iinc (v := v8_12) (lv' := [(8, .int v8_12), (0, .ref (E.ad 68)), (1, .int v1), (3, .long v3), (5, .int v5), (6, .long v6)]) C.x C.bc dX6_clears_92 hl (k := 5) rfl (by rw [e_12]; rfl) (by decide) rfl (fun ls hl => ?_)
    refine lv_goto (tgt := 52) C.x C.bc dX6_clears_95 (by decide) ?_
    obtain rfl := Option.some.inj hx
    exact hG _ _ K _ _ _ h (lv_sub hl [1, 2, 3, 4, 5, 0] rfl)
set_option maxHeartbeats 1000000 in
theorem pX6_clears_52 (C : Cx E s0 b p s m args meth c cX6_clears 9 "EarthMeshModel" none) (hI : Sx E) (v1 : Int32) (v3 : Int64) (v5 : Int32) (v6 : Int64) {Q : State → Prop} {v8 : Int32} {st : St} {n : Nat} {r : St} (hx : iter (u2 fun v8 st => fX6_clears_52 v1 v3 v5 v6 v8 st) n (v8, st) = some r) (hE : (fun t => ∀ (H : Heap) (locs : List Loc) (ls : Array Slot), XH E (sg t) s H locs → lv_has ls 9 [(0, .ref (E.ad 68)), (1, .int v1), (3, .long v3), (5, .int v5)] → W p l e rmX6_clears s m args below meth c H locs 0 0 Q (F0 m 98 ls [])) r) {H : Heap} {locs : List Loc} {ls : Array Slot} (h : XH E (sg st) s H locs) (hl : lv_has ls 9 [(0, .ref (E.ad 68)), (1, .int v1), (3, .long v3), (5, .int v5), (6, .long v6), (8, .int v8)]) : W p l e rmX6_clears s m args below meth c H locs 0 0 Q (F0 m 52 ls []) := by
  refine iter_W (G := fun t => ∀ (H : Heap) (locs : List Loc) (ls : Array Slot), XH E (sg t.2) s H locs → lv_has ls 9 [(0, .ref (E.ad 68)), (1, .int v1), (3, .long v3), (5, .int v5), (6, .long v6), (8, .int t.1)] → W p l e rmX6_clears s m args below meth c H locs 0 0 Q (F0 m 52 ls [])) (E := fun t => ∀ (H : Heap) (locs : List Loc) (ls : Array Slot), XH E (sg t) s H locs → lv_has ls 9 [(0, .ref (E.ad 68)), (1, .int v1), (3, .long v3), (5, .int v5)] → W p l e rmX6_clears s m args below meth c H locs 0 0 Q (F0 m 98 ls [])) (fun t x hx K H locs ls h hl => ?_) n _ r hx hE H locs ls h hl
  obtain ⟨v8, st⟩ := t
  exact bX6_clears_52 C hI v1 v3 v5 v6 v8 st hx (fun _ _ z => z) (fun _ z => z) K h hl
def fX6_clears_106 (v1 : Int32) (v3 : Int64) (v5 : Int32) (st : St) : Option ((Int32 × St) ⊕ (St)) :=
  nm (v5 + (1 : Int32)) fun v5_15 =>
  some (.inl (v5_15, st))
set_option maxHeartbeats 1000000 in
theorem bX6_clears_106 (C : Cx E s0 b p s m args meth c cX6_clears 9 "EarthMeshModel" none) (hI : Sx E) (v1 : Int32) (v3 : Int64) (v5 : Int32) (st : St) {x : (Int32 × St) ⊕ (St)} (hx : fX6_clears_106 v1 v3 v5 st = some x) {Q : State → Prop} {G : Int32 × St → Prop} {X : St → Prop} (hG : ∀ (w5 : Int32) (wst : St), G (w5, wst) → ∀ (H : Heap) (locs : List Loc) (ls : Array Slot), XH E (sg wst) s H locs → lv_has ls 9 [(0, .ref (E.ad 68)), (1, .int v1), (3, .long v3), (5, .int w5)] → W p l e rmX6_clears s m args below meth c H locs 0 0 Q (F0 m 20 ls [])) (hE0 : ∀ (wst : St), X wst → ∀ (H : Heap) (locs : List Loc) (ls : Array Slot), XH E (sg wst) s H locs → lv_has ls 9 [(0, .ref (E.ad 68)), (3, .long v3)] → W p l e rmX6_clears s m args below meth c H locs 0 0 Q (F0 m 112 ls [])) (K : Kx G X x) {H : Heap} {locs : List Loc} {ls : Array Slot} (h : XH E (sg st) s H locs) (hl : lv_has ls 9 [(0, .ref (E.ad 68)), (1, .int v1), (3, .long v3), (5, .int v5)]) : W p l e rmX6_clears s m args below meth c H locs 0 0 Q (F0 m 106 ls []) := by
  unfold fX6_clears_106 at hx
  obtain ⟨v5_15, e_15, hx⟩ := nm_x hx
  refine lv_iinc (v := v5_15) (lv' := [(5, .int v5_15), (0, .ref (E.ad 68)), (1, .int v1), (3, .long v3)]) C.x C.bc dX6_clears_106 hl (k := 3) rfl (by rw [e_15]; rfl) (by decide) rfl (fun ls hl => ?_)
  refine lv_goto (tgt := 20) C.x C.bc dX6_clears_109 (by decide) ?_
  obtain rfl := Option.some.inj hx
  exact hG _ _ K _ _ _ h (lv_sub hl [1, 2, 3, 0] rfl)
def fX6_clears_20 (v1 : Int32) (v3 : Int64) (v5 : Int32) (st : St) : Option ((Int32 × St) ⊕ (St)) :=
  if (st.1 68 18) ≤ v5 then
    some (.inr st)
  else
    if v5 = v1 then
      fX6_clears_106 v1 v3 v5 st
    else
      bd (fX6_cell v5 v1 st) fun r_5 =>
      nm (v1 + (1 : Int32)) fun v8_6 =>
      bd (iter (u2 fun z8 zst => fX6_clears_52 v1 v3 v5 r_5 z8 zst) FU (v8_6, st)) (u1 fun st_13 =>
      bd (fX6_lay v5 v1 (0 : Int64) st_13) fun st_14 =>
      fX6_clears_106 v1 v3 v5 st_14)
set_option maxHeartbeats 1000000 in
theorem bX6_clears_20 (C : Cx E s0 b p s m args meth c cX6_clears 9 "EarthMeshModel" none) (hI : Sx E) (v1 : Int32) (v3 : Int64) (v5 : Int32) (st : St) {x : (Int32 × St) ⊕ (St)} (hx : fX6_clears_20 v1 v3 v5 st = some x) {Q : State → Prop} {G : Int32 × St → Prop} {X : St → Prop} (hG : ∀ (w5 : Int32) (wst : St), G (w5, wst) → ∀ (H : Heap) (locs : List Loc) (ls : Array Slot), XH E (sg wst) s H locs → lv_has ls 9 [(0, .ref (E.ad 68)), (1, .int v1), (3, .long v3), (5, .int w5)] → W p l e rmX6_clears s m args below meth c H locs 0 0 Q (F0 m 20 ls [])) (hE0 : ∀ (wst : St), X wst → ∀ (H : Heap) (locs : List Loc) (ls : Array Slot), XH E (sg wst) s H locs → lv_has ls 9 [(0, .ref (E.ad 68)), (3, .long v3)] → W p l e rmX6_clears s m args below meth c H locs 0 0 Q (F0 m 112 ls [])) (K : Kx G X x) {H : Heap} {locs : List Loc} {ls : Array Slot} (h : XH E (sg st) s H locs) (hl : lv_has ls 9 [(0, .ref (E.ad 68)), (1, .int v1), (3, .long v3), (5, .int v5)]) : W p l e rmX6_clears s m args below meth c H locs 0 0 Q (F0 m 20 ls []) := by
  unfold fX6_clears_20 at hx
  refine lv_iload C.x C.bc dX6_clears_20 (lv_at hl 3 rfl) ?_
  refine lv_aload_n C.x C.bc dX6_clears_22 rfl (lv_at hl 0 rfl) ?_
  refine gt_X6_223_68 C hI h dX6_clears_23 ?_
  refine lv_icmp_ge (tgt := 112) C.x C.bc dX6_clears_26 (by decide) (fun c_3 => ?_) (fun c_3 => ?_)
  · have hx := ge_t hx c_3
    obtain rfl := Option.some.inj hx
    exact hE0 _ K _ _ _ h (lv_sub hl [0, 2] rfl)
  · have hx := ge_f hx c_3
    refine lv_iload C.x C.bc dX6_clears_29 (lv_at hl 3 rfl) ?_
    refine lv_iload_n C.x C.bc dX6_clears_31 rfl (lv_at hl 1 rfl) ?_
    refine lv_icmp_ne (tgt := 38) C.x C.bc dX6_clears_32 (by decide) (fun c_4 => ?_) (fun c_4 => ?_)
    · have hx := ge_f hx c_4
      refine lv_aload_n C.x C.bc dX6_clears_38 rfl (lv_at hl 0 rfl) ?_
      refine lv_iload C.x C.bc dX6_clears_39 (lv_at hl 3 rfl) ?_
      refine lv_iload_n C.x C.bc dX6_clears_41 rfl (lv_at hl 1 rfl) ?_
      obtain ⟨r_5, hf_5, hx⟩ := bd_e hx
      refine cX6_237_X6_cell C hI h hf_5 ⟨Nat.le_of_ble_eq_true rfl, Nat.le_of_ble_eq_true rfl⟩ ⟨Nat.zero_le _, Nat.zero_le _⟩ hl.1 (Nat.le_of_ble_eq_true rfl) dX6_clears_42 (fun H locs h => ?_)
      refine lv_lstore (lv' := [(6, .long r_5), (0, .ref (E.ad 68)), (1, .int v1), (3, .long v3), (5, .int v5)]) C.x C.bc dX6_clears_45 hl (by decide) rfl (fun ls hl => ?_)
      refine lv_iload_n C.x C.bc dX6_clears_47 rfl (lv_at hl 2 rfl) ?_
      refine lv_iconst (v := (1 : Int32)) C.x C.bc dX6_clears_48 (by decide) ?_
      refine lv_iadd C.x C.bc dX6_clears_49 ?_
      obtain ⟨v8_6, e_6, hx⟩ := nm_x hx
      refine x_ti e_6 ?_
      refine lv_istore (lv' := [(8, .int v8_6), (6, .long r_5), (0, .ref (E.ad 68)), (1, .int v1), (3, .long v3), (5, .int v5)]) C.x C.bc dX6_clears_50 hl (by decide) rfl (fun ls hl => ?_)
      obtain ⟨st_13, hi_13, hx⟩ := bd_e hx
      have hx := u1_e hx
      refine pX6_clears_52 C hI v1 v3 v5 r_5 hi_13 (fun H locs ls h hl => ?_) h (lv_sub hl [2, 3, 4, 5, 1, 0] rfl)
      refine lv_aload_n C.x C.bc dX6_clears_98 rfl (lv_at hl 0 rfl) ?_
      refine lv_iload C.x C.bc dX6_clears_99 (lv_at hl 3 rfl) ?_
      refine lv_iload_n C.x C.bc dX6_clears_101 rfl (lv_at hl 1 rfl) ?_
      refine lv_lconst (v := (0 : Int64)) C.x C.bc dX6_clears_102 (by decide) ?_
      obtain ⟨st_14, hf_14, hx⟩ := bd_e hx
      refine cX6_229_X6_lay C hI h hf_14 ⟨Nat.le_of_ble_eq_true rfl, Nat.le_of_ble_eq_true rfl⟩ ⟨Nat.zero_le _, Nat.zero_le _⟩ hl.1 (Nat.le_of_ble_eq_true rfl) dX6_clears_103 (fun H locs h => ?_)
      exact bX6_clears_106 C hI v1 v3 v5 st_14 hx hG hE0 K h (lv_sub hl [0, 1, 2, 3] rfl)
    · have hx := ge_t hx c_4
      refine lv_goto (tgt := 106) C.x C.bc dX6_clears_35 (by decide) ?_
      exact bX6_clears_106 C hI v1 v3 v5 st hx hG hE0 K h (lv_sub hl [0, 1, 2, 3] rfl)
set_option maxHeartbeats 1000000 in
theorem pX6_clears_20 (C : Cx E s0 b p s m args meth c cX6_clears 9 "EarthMeshModel" none) (hI : Sx E) (v1 : Int32) (v3 : Int64) {Q : State → Prop} {v5 : Int32} {st : St} {n : Nat} {r : St} (hx : iter (u2 fun v5 st => fX6_clears_20 v1 v3 v5 st) n (v5, st) = some r) (hE : (fun t => ∀ (H : Heap) (locs : List Loc) (ls : Array Slot), XH E (sg t) s H locs → lv_has ls 9 [(0, .ref (E.ad 68)), (3, .long v3)] → W p l e rmX6_clears s m args below meth c H locs 0 0 Q (F0 m 112 ls [])) r) {H : Heap} {locs : List Loc} {ls : Array Slot} (h : XH E (sg st) s H locs) (hl : lv_has ls 9 [(0, .ref (E.ad 68)), (1, .int v1), (3, .long v3), (5, .int v5)]) : W p l e rmX6_clears s m args below meth c H locs 0 0 Q (F0 m 20 ls []) := by
  refine iter_W (G := fun t => ∀ (H : Heap) (locs : List Loc) (ls : Array Slot), XH E (sg t.2) s H locs → lv_has ls 9 [(0, .ref (E.ad 68)), (1, .int v1), (3, .long v3), (5, .int t.1)] → W p l e rmX6_clears s m args below meth c H locs 0 0 Q (F0 m 20 ls [])) (E := fun t => ∀ (H : Heap) (locs : List Loc) (ls : Array Slot), XH E (sg t) s H locs → lv_has ls 9 [(0, .ref (E.ad 68)), (3, .long v3)] → W p l e rmX6_clears s m args below meth c H locs 0 0 Q (F0 m 112 ls [])) (fun t x hx K H locs ls h hl => ?_) n _ r hx hE H locs ls h hl
  obtain ⟨v5, st⟩ := t
  exact bX6_clears_20 C hI v1 v3 v5 st hx (fun _ _ z => z) (fun _ z => z) K h hl
def fX6_clears_18 (v1 : Int32) (v3 : Int64) (k0 : Int32) (st : St) : Option (St) :=
  bd (iter (u2 fun z5 zst => fX6_clears_20 v1 v3 z5 zst) FU (k0, st)) (u1 fun st_16 =>
  nm (uL st_16 68 19 v3) fun st_17 =>
  some st_17)
set_option maxHeartbeats 1000000 in
theorem bX6_clears_18 (C : Cx E s0 b p s m args meth c cX6_clears 9 "EarthMeshModel" none) (hI : Sx E) (v1 : Int32) (v3 : Int64) (k0 : Int32) (st : St) {x : St} (hx : fX6_clears_18 v1 v3 k0 st = some x) {H : Heap} {locs : List Loc} {ls : Array Slot} (h : XH E (sg st) s H locs) (hl : lv_has ls 9 [(0, .ref (E.ad 68)), (1, .int v1), (3, .long v3)]) : W p l e rmX6_clears s m args below meth c H locs 0 0 (MQ below (Qx E none (sg x)) args s 0 0 (gA E.HB)) (F0 m 18 ls [.int k0]) := by
  unfold fX6_clears_18 at hx
  refine lv_istore (lv' := [(5, .int k0), (0, .ref (E.ad 68)), (1, .int v1), (3, .long v3)]) C.x C.bc dX6_clears_18 hl (by decide) rfl (fun ls hl => ?_)
  obtain ⟨st_16, hi_16, hx⟩ := bd_e hx
  have hx := u1_e hx
  refine pX6_clears_20 C hI v1 v3 hi_16 (fun H locs ls h hl => ?_) h (lv_sub hl [1, 2, 3, 0] rfl)
  refine lv_aload_n C.x C.bc dX6_clears_112 rfl (lv_at hl 0 rfl) ?_
  refine lv_lload_n C.x C.bc dX6_clears_113 rfl (lv_at hl 1 rfl) ?_
  obtain ⟨st_17, e_17, hx⟩ := nm_x hx
  refine pt_X6_233_68 C hI h e_17 dX6_clears_114 (fun H locs h => ?_)
  obtain rfl := Option.some.inj hx
  exact x_vret C h dX6_clears_117
def fX6_clears (v1 : Int32) (v2 : Int32) (st : St) : Option (St) :=
  bd (fX6_cell v1 v1 st) fun r_1 =>
  if v2 = 0 then
    fX6_clears_18 v1 r_1 (v1 + (1 : Int32)) st
  else
    fX6_clears_18 v1 r_1 (0 : Int32) st
set_option maxHeartbeats 1000000 in
theorem bX6_clears (C : Cx E s0 b p s m args meth c cX6_clears 9 "EarthMeshModel" none) (hI : Sx E) (v1 : Int32) (v2 : Int32) (st : St) {x : St} (hx : fX6_clears v1 v2 st = some x) {H : Heap} {locs : List Loc} {ls : Array Slot} (h : XH E (sg st) s H locs) (hl : lv_has ls 9 [(0, .ref (E.ad 68)), (1, .int v1), (2, .int v2)]) : W p l e rmX6_clears s m args below meth c H locs 0 0 (MQ below (Qx E none (sg x)) args s 0 0 (gA E.HB)) (F0 m 0 ls []) := by
  unfold fX6_clears at hx
  refine lv_aload_n C.x C.bc dX6_clears_0 rfl (lv_at hl 0 rfl) ?_
  refine lv_iload_n C.x C.bc dX6_clears_1 rfl (lv_at hl 1 rfl) ?_
  refine lv_iload_n C.x C.bc dX6_clears_2 rfl (lv_at hl 1 rfl) ?_
  obtain ⟨r_1, hf_1, hx⟩ := bd_e hx
  refine cX6_237_X6_cell C hI h hf_1 ⟨Nat.le_of_ble_eq_true rfl, Nat.le_of_ble_eq_true rfl⟩ ⟨Nat.zero_le _, Nat.zero_le _⟩ hl.1 (Nat.le_of_ble_eq_true rfl) dX6_clears_3 (fun H locs h => ?_)
  refine lv_lstore_n (lv' := [(3, .long r_1), (0, .ref (E.ad 68)), (1, .int v1), (2, .int v2)]) C.x C.bc dX6_clears_6 rfl hl (by decide) rfl (fun ls hl => ?_)
  refine lv_iload_n C.x C.bc dX6_clears_7 rfl (lv_at hl 3 rfl) ?_
  refine lv_if_eq (tgt := 15) C.x C.bc dX6_clears_8 (by decide) (fun c_2 => ?_) (fun c_2 => ?_)
  · have hx := ge_t hx c_2
    refine lv_iload_n C.x C.bc dX6_clears_15 rfl (lv_at hl 2 rfl) ?_
    refine lv_iconst (v := (1 : Int32)) C.x C.bc dX6_clears_16 (by decide) ?_
    refine lv_iadd C.x C.bc dX6_clears_17 ?_
    exact bX6_clears_18 C hI v1 r_1 (v1 + (1 : Int32)) st hx h (lv_sub hl [1, 2, 0] rfl)
  · have hx := ge_f hx c_2
    refine lv_iconst (v := (0 : Int32)) C.x C.bc dX6_clears_11 (by decide) ?_
    refine lv_goto (tgt := 18) C.x C.bc dX6_clears_12 (by decide) ?_
    exact bX6_clears_18 C hI v1 r_1 (0 : Int32) st hx h (lv_sub hl [1, 2, 0] rfl)
theorem mX6_clears (hG : G0 E s0 b) (hI : Sx E) {v1 : Int32} {v2 : Int32} {x : St} (hx : fX6_clears v1 v2 st = some x) : Mt l E s0 yX6_clears cX6_clears 9 none rmX6_clears [.ref (E.ad 68), .int v1, .int v2] (sg st) none E (sg x) :=
  Mt.of hG (by decide) (Nat.le_of_ble_eq_true rfl) (fun p e s m below meth c ls C h hl => bX6_clears C hI v1 v2 st hx h hl)
theorem cX6_263_X6_clears {a0 : Int32} {a1 : Int32} {st' : St} (C : Cx E s0 b p s m args meth c cc nL "EarthMeshModel" rt) (hI : Sx E) (h : XH E (sg st) s H locs) (hf : fX6_clears a0 a1 st = some st') (hR : rmX6_clears.frames + 1 ≤ R.frames ∧ 16 + (9 + 11) + rmX6_clears.locals ≤ R.locals) (h0 : cells ≤ R.cells ∧ slots ≤ R.slots) (hsz : ls.size = nL) (hcat : (rest.map fun v => v.category).sum ≤ 16) (hdg : decode cc pc = .ok (.invokevirtual 263, 3)) (kk : ∀ (H : Heap) (locs : List Loc), XH E (sg st') s H locs → W p l e R s m args below meth c H locs cells slots Q (F0 m (pc + 3) ls (rest))) : W p l e R s m args below meth c H locs cells slots Q (F0 m pc ls (.int a1 :: .int a0 :: .ref (E.ad 68) :: rest)) :=
  x_callV (n := 2) (As := [.int a0, .int a1]) C h 68 5 (hI 68 (by decide)) k_68 rfl (mX6_clears C.g hI hf) (lw_V q1865 q1867 qs95 q136 q1868) ⟨rfl, by decide +kernel, by decide +kernel, by decide +kernel⟩ hR ⟨rfl, rfl⟩ h0 rfl hsz rfl hcat hdg kk
end
