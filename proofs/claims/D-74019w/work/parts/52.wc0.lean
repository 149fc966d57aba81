set_option maxRecDepth 100000
section
variable {p : Program} {l : Launch} {e : Env} {R : Room} {s : State} {m : MethodId} {args : Array Value} {below : List Frame} {meth : Method} {c : Code} {H : Heap} {locs : List Loc} {cells slots : Nat} {Q : State → Prop}
variable {cc : ByteArray} {pc : Nat} {ls : Array Slot} {rest : List Value} {E : Wd} {s0 : State} {b nL : Nat} {rt : Option FieldType} {g st : St}
abbrev rmX4_power : Room := { frames := 0, cells := 0, slots := 0, locals := 0 }
def fX4_power_35 (v4 : Int64) (v6 : Int64) (v8 : Int64) (v10 : Int64) : Option ((Int64 × Int64 × Int64) ⊕ (Int64)) :=
  gd (¬ v4 = 0) <|
  nm (jreml (v8 * v8) v4) fun v8_4 =>
  nm (jlshr v10 (1 : Int32)) fun v10_5 =>
  some (.inl (v6, v8_4, v10_5))
set_option maxHeartbeats 1000000 in
theorem bX4_power_35 (C : Cx E s0 b p s m args meth c cX4_power 12 "EarthMesh$Determinant" (some .long)) (hI : Sx E) (v4 : Int64) (v6 : Int64) (v8 : Int64) (v10 : Int64) {x : (Int64 × Int64 × Int64) ⊕ (Int64)} (hx : fX4_power_35 v4 v6 v8 v10 = some x) {Q : State → Prop} {G : Int64 × Int64 × Int64 → Prop} {X : Int64 → Prop} (hG : ∀ (w6 : Int64) (w8 : Int64) (w10 : Int64), G (w6, w8, w10) → ∀ (H : Heap) (locs : List Loc) (ls : Array Slot), XH E g s H locs → lv_has ls 12 [(4, .long v4), (6, .long w6), (8, .long w8), (10, .long w10)] → W p l e rmX4_power s m args below meth c H locs 0 0 Q (F0 m 9 ls [])) (hE0 : ∀ (w6 : Int64), X w6 → ∀ (H : Heap) (locs : List Loc) (ls : Array Slot), XH E g s H locs → lv_has ls 12 [(6, .long w6)] → W p l e rmX4_power s m args below meth c H locs 0 0 Q (F0 m 54 ls [])) (K : Kx G X x) {H : Heap} {locs : List Loc} {ls : Array Slot} (h : XH E g s H locs) (hl : lv_has ls 12 [(4, .long v4), (6, .long v6), (8, .long v8), (10, .long v10)]) : W p l e rmX4_power s m args below meth c H locs 0 0 Q (F0 m 35 ls []) := by
  unfold fX4_power_35 at hx
  refine lv_lload C.x C.bc dX4_power_35 (lv_at hl 2 rfl) ?_
  refine lv_lload C.x C.bc dX4_power_37 (lv_at hl 2 rfl) ?_
  refine lv_lmul C.x C.bc dX4_power_39 ?_
  refine lv_lload C.x C.bc dX4_power_40 (lv_at hl 0 rfl) ?_
  obtain ⟨g_3, hx⟩ := gd_e hx
  refine y_lrem C.x C.bc dX4_power_42 g_3 ?_
  obtain ⟨v8_4, e_4, hx⟩ := nm_x hx
  refine x_tl e_4 ?_
  refine lv_lstore (lv' := [(8, .long v8_4), (4, .long v4), (6, .long v6), (10, .long v10)]) C.x C.bc dX4_power_43 hl (by decide) rfl (fun ls hl => ?_)
  refine lv_lload C.x C.bc dX4_power_45 (lv_at hl 3 rfl) ?_
  refine lv_iconst (v := (1 : Int32)) C.x C.bc dX4_power_47 (by decide) ?_
  refine lv_lshr (v := (jlshr v10 (1 : Int32))) C.x C.bc dX4_power_48 rfl ?_
  obtain ⟨v10_5, e_5, hx⟩ := nm_x hx
  refine x_tl e_5 ?_
  refine lv_lstore (lv' := [(10, .long v10_5), (8, .long v8_4), (4, .long v4), (6, .long v6)]) C.x C.bc dX4_power_49 hl (by decide) rfl (fun ls hl => ?_)
  refine lv_goto (tgt := 9) C.x C.bc dX4_power_51 (by decide) ?_
  obtain rfl := Option.some.inj hx
  exact hG _ _ _ K _ _ _ h (lv_sub hl [2, 3, 1, 0] rfl)
def fX4_power_9 (v4 : Int64) (v6 : Int64) (v8 : Int64) (v10 : Int64) : Option ((Int64 × Int64 × Int64) ⊕ (Int64)) :=
  if (0 : Int64) < v10 then
    if (v10 &&& (1 : Int64)) = (1 : Int64) then
      gd (¬ v4 = 0) <|
      nm (jreml (v6 * v8) v4) fun v6_7 =>
      fX4_power_35 v4 v6_7 v8 v10
    else
      fX4_power_35 v4 v6 v8 v10
  else
    some (.inr v6)
set_option maxHeartbeats 1000000 in
theorem bX4_power_9 (C : Cx E s0 b p s m args meth c cX4_power 12 "EarthMesh$Determinant" (some .long)) (hI : Sx E) (v4 : Int64) (v6 : Int64) (v8 : Int64) (v10 : Int64) {x : (Int64 × Int64 × Int64) ⊕ (Int64)} (hx : fX4_power_9 v4 v6 v8 v10 = some x) {Q : State → Prop} {G : Int64 × Int64 × Int64 → Prop} {X : Int64 → Prop} (hG : ∀ (w6 : Int64) (w8 : Int64) (w10 : Int64), G (w6, w8, w10) → ∀ (H : Heap) (locs : List Loc) (ls : Array Slot), XH E g s H locs → lv_has ls 12 [(4, .long v4), (6, .long w6), (8, .long w8), (10, .long w10)] → W p l e rmX4_power s m args below meth c H locs 0 0 Q (F0 m 9 ls [])) (hE0 : ∀ (w6 : Int64), X w6 → ∀ (H : Heap) (locs : List Loc) (ls : Array Slot), XH E g s H locs → lv_has ls 12 [(6, .long w6)] → W p l e rmX4_power s m args below meth c H locs 0 0 Q (F0 m 54 ls [])) (K : Kx G X x) {H : Heap} {locs : List Loc} {ls : Array Slot} (h : XH E g s H locs) (hl : lv_has ls 12 [(4, .long v4), (6, .long v6), (8, .long v8), (10, .long v10)]) : W p l e rmX4_power s m args below meth c H locs 0 0 Q (F0 m 9 ls []) := by
  unfold fX4_power_9 at hx
  refine lv_lload C.x C.bc dX4_power_9 (lv_at hl 3 rfl) ?_
  refine lv_lconst (v := (0 : Int64)) C.x C.bc dX4_power_11 (by decide) ?_
  refine W.lcmp C.x C.bc dX4_power_12 ?_
  refine lv_if_le (tgt := 54) C.x C.bc dX4_power_13 (by decide) (fun c_1 => ?_) (fun c_1 => ?_)
  · have c_1 := (lc_le _ _).mp c_1
    have hx := ge_f hx c_1
    obtain rfl := Option.some.inj hx
    exact hE0 _ K _ _ _ h (lv_sub hl [1] rfl)
  · have c_1 := Classical.not_not.mp ((not_congr (lc_le _ _)).mp c_1)
    have hx := ge_t hx c_1
    refine lv_lload C.x C.bc dX4_power_16 (lv_at hl 3 rfl) ?_
    refine lv_lconst (v := (1 : Int64)) C.x C.bc dX4_power_18 (by decide) ?_
    refine lv_land C.x C.bc dX4_power_19 ?_
    refine lv_lconst (v := (1 : Int64)) C.x C.bc dX4_power_20 (by decide) ?_
    refine W.lcmp C.x C.bc dX4_power_21 ?_
    refine lv_if_ne (tgt := 35) C.x C.bc dX4_power_22 (by decide) (fun c_2 => ?_) (fun c_2 => ?_)
    · have c_2 := (not_congr (lc_eq _ _)).mp c_2
      have hx := ge_f hx c_2
      exact bX4_power_35 C hI v4 v6 v8 v10 hx hG hE0 K h (lv_sub hl [0, 1, 2, 3] rfl)
    · have c_2 := (lc_eq _ _).mp c_2
      have hx := ge_t hx c_2
      refine lv_lload C.x C.bc dX4_power_25 (lv_at hl 1 rfl) ?_
      refine lv_lload C.x C.bc dX4_power_27 (lv_at hl 2 rfl) ?_
      refine lv_lmul C.x C.bc dX4_power_29 ?_
      refine lv_lload C.x C.bc dX4_power_30 (lv_at hl 0 rfl) ?_
      obtain ⟨g_6, hx⟩ := gd_e hx
      refine y_lrem C.x C.bc dX4_power_32 g_6 ?_
      obtain ⟨v6_7, e_7, hx⟩ := nm_x hx
      refine x_tl e_7 ?_
      refine lv_lstore (lv' := [(6, .long v6_7), (4, .long v4), (8, .long v8), (10, .long v10)]) C.x C.bc dX4_power_33 hl (by decide) rfl (fun ls hl => ?_)
      exact bX4_power_35 C hI v4 v6_7 v8 v10 hx hG hE0 K h (lv_sub hl [1, 0, 2, 3] rfl)
set_option maxHeartbeats 1000000 in
theorem pX4_power_9 (C : Cx E s0 b p s m args meth c cX4_power 12 "EarthMesh$Determinant" (some .long)) (hI : Sx E) (v4 : Int64) {Q : State → Prop} {v6 : Int64} {v8 : Int64} {v10 : Int64} {n : Nat} {r : Int64} (hx : iter (u3 fun v6 v8 v10 => fX4_power_9 v4 v6 v8 v10) n (v6, v8, v10) = some r) (hE : (fun t => ∀ (H : Heap) (locs : List Loc) (ls : Array Slot), XH E g s H locs → lv_has ls 12 [(6, .long t)] → W p l e rmX4_power s m args below meth c H locs 0 0 Q (F0 m 54 ls [])) r) {H : Heap} {locs : List Loc} {ls : Array Slot} (h : XH E g s H locs) (hl : lv_has ls 12 [(4, .long v4), (6, .long v6), (8, .long v8), (10, .long v10)]) : W p l e rmX4_power s m args below meth c H locs 0 0 Q (F0 m 9 ls []) := by
  refine iter_W (G := fun t => ∀ (H : Heap) (locs : List Loc) (ls : Array Slot), XH E g s H locs → lv_has ls 12 [(4, .long v4), (6, .long t.1), (8, .long t.2.1), (10, .long t.2.2)] → W p l e rmX4_power s m args below meth c H locs 0 0 Q (F0 m 9 ls [])) (E := fun t => ∀ (H : Heap) (locs : List Loc) (ls : Array Slot), XH E g s H locs → lv_has ls 12 [(6, .long t)] → W p l e rmX4_power s m args below meth c H locs 0 0 Q (F0 m 54 ls [])) (fun t x hx K H locs ls h hl => ?_) n _ r hx hE H locs ls h hl
  obtain ⟨v6, v8, v10⟩ := t
  exact bX4_power_9 C hI v4 v6 v8 v10 hx (fun _ _ _ z => z) (fun _ z => z) K h hl
def fX4_power (v0 : Int64) (v2 : Int64) (v4 : Int64) : Option (Int64) :=
  bd (iter (u3 fun z6 z8 z10 => fX4_power_9 v4 z6 z8 z10) FU ((1 : Int64), v0, v2)) (u1 fun v6_8 =>
  some v6_8)
set_option maxHeartbeats 1000000 in
theorem bX4_power (C : Cx E s0 b p s m args meth c cX4_power 12 "EarthMesh$Determinant" (some .long)) (hI : Sx E) (v0 : Int64) (v2 : Int64) (v4 : Int64) {x : Int64} (hx : fX4_power v0 v2 v4 = some x) {H : Heap} {locs : List Loc} {ls : Array Slot} (h : XH E g s H locs) (hl : lv_has ls 12 [(0, .long v0), (2, .long v2), (4, .long v4)]) : W p l e rmX4_power s m args below meth c H locs 0 0 (MQ below (Qx E (some (.long x)) g) args s 0 0 (gA E.HB)) (F0 m 0 ls []) := by
  unfold fX4_power at hx
  refine lv_lconst (v := (1 : Int64)) C.x C.bc dX4_power_0 (by decide) ?_
  refine lv_lstore (lv' := [(6, .long (1 : Int64)), (0, .long v0), (2, .long v2), (4, .long v4)]) C.x C.bc dX4_power_1 hl (by decide) rfl (fun ls hl => ?_)
  refine lv_lload_n C.x C.bc dX4_power_3 rfl (lv_at hl 1 rfl) ?_
  refine lv_lstore (lv' := [(8, .long v0), (6, .long (1 : Int64)), (0, .long v0), (2, .long v2), (4, .long v4)]) C.x C.bc dX4_power_4 hl (by decide) rfl (fun ls hl => ?_)
  refine lv_lload_n C.x C.bc dX4_power_6 rfl (lv_at hl 3 rfl) ?_
  refine lv_lstore (lv' := [(10, .long v2), (8, .long v0), (6, .long (1 : Int64)), (0, .long v0), (2, .long v2), (4, .long v4)]) C.x C.bc dX4_power_7 hl (by decide) rfl (fun ls hl => ?_)
  obtain ⟨v6_8, hi_8, hx⟩ := bd_e hx
  have hx := u1_e hx
  refine pX4_power_9 C hI v4 hi_8 (fun H locs ls h hl => ?_) h (lv_sub hl [5, 2, 1, 0] rfl)
  refine lv_lload C.x C.bc dX4_power_54 (lv_at hl 0 rfl) ?_
  obtain rfl := Option.some.inj hx
  exact x_lret C h dX4_power_56
theorem mX4_power (hG : G0 E s0 b) (hI : Sx E) {v0 : Int64} {v2 : Int64} {v4 : Int64} {x : Int64} (hx : fX4_power v0 v2 v4 = some x) : Mt l E s0 yX4_power cX4_power 12 (some .long) rmX4_power [.long v0, .long v2, .long v4] g (some (.long x)) E g :=
  Mt.of hG (by decide) (Nat.le_of_ble_eq_true rfl) (fun p e s m below meth c ls C h hl => bX4_power C hI v0 v2 v4 hx h hl)
theorem cX4_22_X4_power {a0 : Int64} {a1 : Int64} {a2 : Int64} {r : Int64} (C : Cx E s0 b p s m args meth c cc nL "EarthMesh$Determinant" rt) (hI : Sx E) (h : XH E g s H locs) (hf : fX4_power a0 a1 a2 = some r) (hR : rmX4_power.frames + 1 ≤ R.frames ∧ 16 + (12 + 11) + rmX4_power.locals ≤ R.locals) (h0 : cells ≤ R.cells ∧ slots ≤ R.slots) (hsz : ls.size = nL) (hcat : (rest.map fun v => v.category).sum ≤ 16) (hdg : decode cc pc = .ok (.invokestatic 22, 3)) (kk : ∀ (H : Heap) (locs : List Loc), XH E g s H locs → W p l e R s m args below meth c H locs cells slots Q (F0 m (pc + 3) ls (.long r :: rest))) : W p l e R s m args below meth c H locs cells slots Q (F0 m pc ls (.long a2 :: .long a1 :: .long a0 :: rest)) :=
  x_callS (n := 3) (As := [.long a0, .long a1, .long a2]) C h (mX4_power C.g hI hf) (lw_S q257 q258 q133 q259) ⟨by decide +kernel, by decide +kernel, by decide +kernel⟩ hR ⟨rfl, rfl⟩ h0 rfl hsz rfl hcat hdg kk
abbrev rmX4_pivot : Room := { frames := 0, cells := 0, slots := 0, locals := 0 }
def fX4_pivot_2 (v1 : Int32) (v2 : Int32) (v3 : Int32) (st : St) : Option ((Int32) ⊕ ((Int32) ⊕ (Unit))) :=
  if v2 ≤ v3 then
    some (.inr (.inr ()))
  else
    gd (inB v3 12) <|
    bd (st.2.2 34 v3.toNatClampNeg) fun w_3 =>
    gd (inG w_3 35 12) <|
    gd (inB v1 13) <|
    if (st.2.1 w_3 v1.toNatClampNeg) = (0 : Int64) then
      nm (v3 + (1 : Int32)) fun v3_7 =>
      some (.inl v3_7)
    else
      some (.inr (.inl v3))
set_option maxHeartbeats 1000000 in
theorem bX4_pivot_2 (C : Cx E s0 b p s m args meth c cX4_pivot 4 "EarthMesh$Determinant" (some .int)) (hI : Sx E) (v1 : Int32) (v2 : Int32) (v3 : Int32) (st : St) {x : (Int32) ⊕ ((Int32) ⊕ (Unit))} (hx : fX4_pivot_2 v1 v2 v3 st = some x) {Q : State → Prop} {G : Int32 → Prop} {X : (Int32) ⊕ (Unit) → Prop} (hG : ∀ (w3 : Int32), G w3 → ∀ (H : Heap) (locs : List Loc) (ls : Array Slot), XH E (sg st) s H locs → lv_has ls 4 [(0, .ref (E.ad 33)), (1, .int v1), (2, .int v2), (3, .int w3)] → W p l e rmX4_pivot s m args below meth c H locs 0 0 Q (F0 m 2 ls [])) (hE0 : ∀ (w3 : Int32), X (.inl w3) → ∀ (H : Heap) (locs : List Loc) (ls : Array Slot), XH E (sg st) s H locs → lv_has ls 4 [(3, .int w3)] → W p l e rmX4_pivot s m args below meth c H locs 0 0 Q (F0 m 20 ls [])) (hE1 : X (.inr ()) → ∀ (H : Heap) (locs : List Loc) (ls : Array Slot), XH E (sg st) s H locs → lv_has ls 4 [] → W p l e rmX4_pivot s m args below meth c H locs 0 0 Q (F0 m 28 ls [])) (K : Kx G X x) {H : Heap} {locs : List Loc} {ls : Array Slot} (h : XH E (sg st) s H locs) (hl : lv_has ls 4 [(0, .ref (E.ad 33)), (1, .int v1), (2, .int v2), (3, .int v3)]) : W p l e rmX4_pivot s m args below meth c H locs 0 0 Q (F0 m 2 ls []) := by
  unfold fX4_pivot_2 at hx
  refine lv_iload_n C.x C.bc dX4_pivot_2 rfl (lv_at hl 3 rfl) ?_
  refine lv_iload_n C.x C.bc dX4_pivot_3 rfl (lv_at hl 2 rfl) ?_
  refine lv_icmp_ge (tgt := 28) C.x C.bc dX4_pivot_4 (by decide) (fun c_1 => ?_) (fun c_1 => ?_)
  · have hx := ge_t hx c_1
    obtain rfl := Option.some.inj hx
    exact hE1  K _ _ _ h (lv_sub hl [] rfl)
  · have hx := ge_f hx c_1
    refine lv_aload_n C.x C.bc dX4_pivot_7 rfl (lv_at hl 0 rfl) ?_
    refine gt_X4_11_33 C hI h dX4_pivot_8 ?_
    refine lv_iload_n C.x C.bc dX4_pivot_11 rfl (lv_at hl 3 rfl) ?_
    obtain ⟨g_2, hx⟩ := gd_e hx
    obtain ⟨w_3, hw_3, hx⟩ := bd_e hx
    obtain ⟨g_4, hx⟩ := gd_e hx
    refine y_rowP C h 34 5 12 (hI 34 (by decide)) k_34 (by decide) rfl rfl (P34 g_4) g_2 hw_3 dX4_pivot_12 ?_
    refine lv_iload_n C.x C.bc dX4_pivot_13 rfl (lv_at hl 1 rfl) ?_
    obtain ⟨g_5, hx⟩ := gd_e hx
    refine x_lald C h w_3 13 (hI _ (by have := g_4; omega)) (kg_v g_4 kg_35) g_5 dX4_pivot_14 ?_
    refine lv_lconst (v := (0 : Int64)) C.x C.bc dX4_pivot_15 (by decide) ?_
    refine W.lcmp C.x C.bc dX4_pivot_16 ?_
    refine lv_if_eq (tgt := 22) C.x C.bc dX4_pivot_17 (by decide) (fun c_6 => ?_) (fun c_6 => ?_)
    · have c_6 := (lc_eq _ _).mp c_6
      have hx := ge_t hx c_6
      obtain ⟨v3_7, e_7, hx⟩ := nm_x hx
      refine lv_iinc (v := v3_7) (lv' := [(3, .int v3_7), (0, .ref (E.ad 33)), (1, .int v1), (2, .int v2)]) C.x C.bc dX4_pivot_22 hl (k := 3) rfl (by rw [e_7]; rfl) (by decide) rfl (fun ls hl => ?_)
      refine lv_goto (tgt := 2) C.x C.bc dX4_pivot_25 (by decide) ?_
      obtain rfl := Option.some.inj hx
      exact hG _ K _ _ _ h (lv_sub hl [1, 2, 3, 0] rfl)
    · have c_6 := (not_congr (lc_eq _ _)).mp c_6
      have hx := ge_f hx c_6
      obtain rfl := Option.some.inj hx
      exact hE0 _ K _ _ _ h (lv_sub hl [3] rfl)
set_option maxHeartbeats 1000000 in
theorem pX4_pivot_2 (C : Cx E s0 b p s m args meth c cX4_pivot 4 "EarthMesh$Determinant" (some .int)) (hI : Sx E) (v1 : Int32) (v2 : Int32) (st : St) {Q : State → Prop} {v3 : Int32} {n : Nat} {r : (Int32) ⊕ (Unit)} (hx : iter (u1 fun v3 => fX4_pivot_2 v1 v2 v3 st) n v3 = some r) (hE : (fun t => match t with | (.inl t) => (∀ (H : Heap) (locs : List Loc) (ls : Array Slot), XH E (sg st) s H locs → lv_has ls 4 [(3, .int t)] → W p l e rmX4_pivot s m args below meth c H locs 0 0 Q (F0 m 20 ls [])) | (.inr t) => (∀ (H : Heap) (locs : List Loc) (ls : Array Slot), XH E (sg st) s H locs → lv_has ls 4 [] → W p l e rmX4_pivot s m args below meth c H locs 0 0 Q (F0 m 28 ls []))) r) {H : Heap} {locs : List Loc} {ls : Array Slot} (h : XH E (sg st) s H locs) (hl : lv_has ls 4 [(0, .ref (E.ad 33)), (1, .int v1), (2, .int v2), (3, .int v3)]) : W p l e rmX4_pivot s m args below meth c H locs 0 0 Q (F0 m 2 ls []) := by
  refine iter_W (G := fun t => ∀ (H : Heap) (locs : List Loc) (ls : Array Slot), XH E (sg st) s H locs → lv_has ls 4 [(0, .ref (E.ad 33)), (1, .int v1), (2, .int v2), (3, .int t)] → W p l e rmX4_pivot s m args below meth c H locs 0 0 Q (F0 m 2 ls [])) (E := fun t => match t with | (.inl t) => (∀ (H : Heap) (locs : List Loc) (ls : Array Slot), XH E (sg st) s H locs → lv_has ls 4 [(3, .int t)] → W p l e rmX4_pivot s m args below meth c H locs 0 0 Q (F0 m 20 ls [])) | (.inr t) => (∀ (H : Heap) (locs : List Loc) (ls : Array Slot), XH E (sg st) s H locs → lv_has ls 4 [] → W p l e rmX4_pivot s m args below meth c H locs 0 0 Q (F0 m 28 ls []))) (fun v3 x hx K H locs ls h hl => ?_) n _ r hx hE H locs ls h hl
  exact bX4_pivot_2 C hI v1 v2 v3 st hx (fun _ z => z) (fun _ z => z) (fun z => z) K h hl
def fX4_pivot (v1 : Int32) (v2 : Int32) (st : St) : Option (Int32) :=
  bd (iter (u1 fun z3 => fX4_pivot_2 v1 v2 z3 st) FU v1) (Sum.elim (u1 fun v3_8 =>
    some v3_8) (u1 fun _ =>
    some (-1 : Int32)))
set_option maxHeartbeats 1000000 in
theorem bX4_pivot (C : Cx E s0 b p s m args meth c cX4_pivot 4 "EarthMesh$Determinant" (some .int)) (hI : Sx E) (v1 : Int32) (v2 : Int32) (st : St) {x : Int32} (hx : fX4_pivot v1 v2 st = some x) {H : Heap} {locs : List Loc} {ls : Array Slot} (h : XH E (sg st) s H locs) (hl : lv_has ls 4 [(0, .ref (E.ad 33)), (1, .int v1), (2, .int v2)]) : W p l e rmX4_pivot s m args below meth c H locs 0 0 (MQ below (Qx E (some (.int x)) (sg st)) args s 0 0 (gA E.HB)) (F0 m 0 ls []) := by
  unfold fX4_pivot at hx
  refine lv_iload_n C.x C.bc dX4_pivot_0 rfl (lv_at hl 1 rfl) ?_
  refine lv_istore_n (lv' := [(3, .int v1), (0, .ref (E.ad 33)), (1, .int v1), (2, .int v2)]) C.x C.bc dX4_pivot_1 rfl hl (by decide) rfl (fun ls hl => ?_)
  obtain ⟨r_8, hi_8, hx⟩ := bd_e hx
  rcases r_8 with v3_8 | _
  · have hx := sl_e hx; have hx := u1_e hx
    refine pX4_pivot_2 C hI v1 v2 st hi_8 (fun H locs ls h hl => ?_) h (lv_sub hl [1, 2, 3, 0] rfl)
    refine lv_iload_n C.x C.bc dX4_pivot_20 rfl (lv_at hl 0 rfl) ?_
    obtain rfl := Option.some.inj hx
    exact x_iret C h dX4_pivot_21
  · have hx := sr_e hx; have hx := u1_e hx
    refine pX4_pivot_2 C hI v1 v2 st hi_8 (fun H locs ls h hl => ?_) h (lv_sub hl [1, 2, 3, 0] rfl)
    refine lv_iconst (v := (-1 : Int32)) C.x C.bc dX4_pivot_28 (by decide) ?_
    obtain rfl := Option.some.inj hx
    exact x_iret C h dX4_pivot_29
theorem mX4_pivot (hG : G0 E s0 b) (hI : Sx E) {v1 : Int32} {v2 : Int32} {x : Int32} (hx : fX4_pivot v1 v2 st = some x) : Mt l E s0 yX4_pivot cX4_pivot 4 (some .int) rmX4_pivot [.ref (E.ad 33), .int v1, .int v2] (sg st) (some (.int x)) E (sg st) :=
  Mt.of hG (by decide) (Nat.le_of_ble_eq_true rfl) (fun p e s m below meth c ls C h hl => bX4_pivot C hI v1 v2 st hx h hl)
theorem cX4_47_X4_pivot {a0 : Int32} {a1 : Int32} {r : Int32} (C : Cx E s0 b p s m args meth c cc nL "EarthMesh$Determinant" rt) (hI : Sx E) (h : XH E (sg st) s H locs) (hf : fX4_pivot a0 a1 st = some r) (hR : rmX4_pivot.frames + 1 ≤ R.frames ∧ 16 + (4 + 11) + rmX4_pivot.locals ≤ R.locals) (h0 : cells ≤ R.cells ∧ slots ≤ R.slots) (hsz : ls.size = nL) (hcat : (rest.map fun v => v.category).sum ≤ 16) (hdg : decode cc pc = .ok (.invokevirtual 47, 3)) (kk : ∀ (H : Heap) (locs : List Loc), XH E (sg st) s H locs → W p l e R s m args below meth c H locs cells slots Q (F0 m (pc + 3) ls (.int r :: rest))) : W p l e R s m args below meth c H locs cells slots Q (F0 m pc ls (.int a1 :: .int a0 :: .ref (E.ad 33) :: rest)) :=
  x_callV (n := 2) (As := [.int a0, .int a1]) C h 33 3 (hI 33 (by decide)) k_33 rfl (mX4_pivot C.g hI hf) (lw_V q1166 q1168 qs27 q133 q1169) ⟨rfl, by decide +kernel, by decide +kernel, by decide +kernel⟩ hR ⟨rfl, rfl⟩ h0 rfl hsz rfl hcat hdg kk
abbrev rmX4_swaps : Room := { frames := 0, cells := 0, slots := 0, locals := 0 }
def fX4_swaps (v1 : Int32) (v2 : Int32) (st : St) : Option (St) :=
  gd (inB v1 12) <|
  bd (st.2.2 34 v1.toNatClampNeg) fun w_2 =>
  gd (inG w_2 35 12) <|
  gd (inB v2 12) <|
  bd (st.2.2 34 v2.toNatClampNeg) fun w_5 =>
  gd (inG w_5 35 12) <|
  gd (inB v1 12) <|
  nm (uP st 34 v1.toNatClampNeg (some w_5)) fun st_8 =>
  gd (inB v2 12) <|
  nm (uP st_8 34 v2.toNatClampNeg (some w_2)) fun st_10 =>
  some st_10
set_option maxHeartbeats 1000000 in
theorem bX4_swaps (C : Cx E s0 b p s m args meth c cX4_swaps 4 "EarthMesh$Determinant" none) (hI : Sx E) (v1 : Int32) (v2 : Int32) (st : St) {x : St} (hx : fX4_swaps v1 v2 st = some x) {H : Heap} {locs : List Loc} {ls : Array Slot} (h : XH E (sg st) s H locs) (hl : lv_has ls 4 [(0, .ref (E.ad 33)), (1, .int v1), (2, .int v2)]) : W p l e rmX4_swaps s m args below meth c H locs 0 0 (MQ below (Qx E none (sg x)) args s 0 0 (gA E.HB)) (F0 m 0 ls []) := by
  unfold fX4_swaps at hx
  refine lv_aload_n C.x C.bc dX4_swaps_0 rfl (lv_at hl 0 rfl) ?_
  refine gt_X4_11_33 C hI h dX4_swaps_1 ?_
  refine lv_iload_n C.x C.bc dX4_swaps_4 rfl (lv_at hl 1 rfl) ?_
  obtain ⟨g_1, hx⟩ := gd_e hx
  obtain ⟨w_2, hw_2, hx⟩ := bd_e hx
  obtain ⟨g_3, hx⟩ := gd_e hx
  refine y_rowP C h 34 5 12 (hI 34 (by decide)) k_34 (by decide) rfl rfl (P34 g_3) g_1 hw_2 dX4_swaps_5 ?_
  refine lv_astore_n (lv' := [(3, .ref (E.ad w_2)), (0, .ref (E.ad 33)), (1, .int v1), (2, .int v2)]) C.x C.bc dX4_swaps_6 rfl hl (by decide) rfl (fun ls hl => ?_)
  refine lv_aload_n C.x C.bc dX4_swaps_7 rfl (lv_at hl 1 rfl) ?_
  refine gt_X4_11_33 C hI h dX4_swaps_8 ?_
  refine lv_iload_n C.x C.bc dX4_swaps_11 rfl (lv_at hl 2 rfl) ?_
  refine lv_aload_n C.x C.bc dX4_swaps_12 rfl (lv_at hl 1 rfl) ?_
  refine gt_X4_11_33 C hI h dX4_swaps_13 ?_
  refine lv_iload_n C.x C.bc dX4_swaps_16 rfl (lv_at hl 3 rfl) ?_
  obtain ⟨g_4, hx⟩ := gd_e hx
  obtain ⟨w_5, hw_5, hx⟩ := bd_e hx
  obtain ⟨g_6, hx⟩ := gd_e hx
  refine y_rowP C h 34 5 12 (hI 34 (by decide)) k_34 (by decide) rfl rfl (P34 g_6) g_4 hw_5 dX4_swaps_17 ?_
  obtain ⟨g_7, hx⟩ := gd_e hx
  obtain ⟨st_8, e_8, hx⟩ := nm_x hx
  refine y_aastJ C q246 h 34 12 w_5 13 (hI 34 (by decide)) k_34 (P34 g_6) P34b (hI _ (by have := g_6; omega)) (kg_v g_6 kg_35) g_7 e_8 dX4_swaps_18 (fun H locs h => ?_)
  refine lv_aload_n C.x C.bc dX4_swaps_19 rfl (lv_at hl 1 rfl) ?_
  refine gt_X4_11_33 C hI h dX4_swaps_20 ?_
  refine lv_iload_n C.x C.bc dX4_swaps_23 rfl (lv_at hl 3 rfl) ?_
  refine lv_aload_n C.x C.bc dX4_swaps_24 rfl (lv_at hl 0 rfl) ?_
  obtain ⟨g_9, hx⟩ := gd_e hx
  obtain ⟨st_10, e_10, hx⟩ := nm_x hx
  refine y_aastJ C q246 h 34 12 w_2 13 (hI 34 (by decide)) k_34 (P34 g_3) P34b (hI _ (by have := g_3; omega)) (kg_v g_3 kg_35) g_9 e_10 dX4_swaps_25 (fun H locs h => ?_)
  obtain rfl := Option.some.inj hx
  exact x_vret C h dX4_swaps_26
theorem mX4_swaps (hG : G0 E s0 b) (hI : Sx E) {v1 : Int32} {v2 : Int32} {x : St} (hx : fX4_swaps v1 v2 st = some x) : Mt l E s0 yX4_swaps cX4_swaps 4 none rmX4_swaps [.ref (E.ad 33), .int v1, .int v2] (sg st) none E (sg x) :=
  Mt.of hG (by decide) (Nat.le_of_ble_eq_true rfl) (fun p e s m below meth c ls C h hl => bX4_swaps C hI v1 v2 st hx h hl)
theorem cX4_51_X4_swaps {a0 : Int32} {a1 : Int32} {st' : St} (C : Cx E s0 b p s m args meth c cc nL "EarthMesh$Determinant" rt) (hI : Sx E) (h : XH E (sg st) s H locs) (hf : fX4_swaps a0 a1 st = some st') (hR : rmX4_swaps.frames + 1 ≤ R.frames ∧ 16 + (4 + 11) + rmX4_swaps.locals ≤ R.locals) (h0 : cells ≤ R.cells ∧ slots ≤ R.slots) (hsz : ls.size = nL) (hcat : (rest.map fun v => v.category).sum ≤ 16) (hdg : decode cc pc = .ok (.invokevirtual 51, 3)) (kk : ∀ (H : Heap) (locs : List Loc), XH E (sg st') s H locs → W p l e R s m args below meth c H locs cells slots Q (F0 m (pc + 3) ls (rest))) : W p l e R s m args below meth c H locs cells slots Q (F0 m pc ls (.int a1 :: .int a0 :: .ref (E.ad 33) :: rest)) :=
  x_callV (n := 2) (As := [.int a0, .int a1]) C h 33 3 (hI 33 (by decide)) k_33 rfl (mX4_swaps C.g hI hf) (lw_V q1170 q1172 qs28 q133 q1173) ⟨rfl, by decide +kernel, by decide +kernel, by decide +kernel⟩ hR ⟨rfl, rfl⟩ h0 rfl hsz rfl hcat hdg kk
abbrev rmJ0_floorMod : Room := { frames := 0, cells := 0, slots := 0, locals := 0 }
def fJ0_floorMod (v0 : Int64) (v2 : Int64) : Option (Int64) :=
  gd (¬ v2 = 0) <|
  nm (jreml v0 v2) fun v4_2 =>
  if (v0 ^^^ v2) < (0 : Int64) then
    if v4_2 = (0 : Int64) then
      some v4_2
    else
      some (v4_2 + v2)
  else
    some v4_2
set_option maxHeartbeats 1000000 in
theorem bJ0_floorMod (C : Cx E s0 b p s m args meth c cJ0_floorMod 6 "java/lang/Math" (some .long)) (hI : Sx E) (v0 : Int64) (v2 : Int64) {x : Int64} (hx : fJ0_floorMod v0 v2 = some x) {H : Heap} {locs : List Loc} {ls : Array Slot} (h : XH E g s H locs) (hl : lv_has ls 6 [(0, .long v0), (2, .long v2)]) : W p l e rmJ0_floorMod s m args below meth c H locs 0 0 (MQ below (Qx E (some (.long x)) g) args s 0 0 (gA E.HB)) (F0 m 0 ls []) := by
  unfold fJ0_floorMod at hx
  refine lv_lload_n C.x C.bc dJ0_floorMod_0 rfl (lv_at hl 0 rfl) ?_
  refine lv_lload_n C.x C.bc dJ0_floorMod_1 rfl (lv_at hl 1 rfl) ?_
  obtain ⟨g_1, hx⟩ := gd_e hx
  refine y_lrem C.x C.bc dJ0_floorMod_2 g_1 ?_
  obtain ⟨v4_2, e_2, hx⟩ := nm_x hx
  refine x_tl e_2 ?_
  refine lv_lstore (lv' := [(4, .long v4_2), (0, .long v0), (2, .long v2)]) C.x C.bc dJ0_floorMod_3 hl (by decide) rfl (fun ls hl => ?_)
  refine lv_lload_n C.x C.bc dJ0_floorMod_5 rfl (lv_at hl 1 rfl) ?_
  refine lv_lload_n C.x C.bc dJ0_floorMod_6 rfl (lv_at hl 2 rfl) ?_
  refine lv_lxor C.x C.bc dJ0_floorMod_7 ?_
  refine lv_lconst (v := (0 : Int64)) C.x C.bc dJ0_floorMod_8 (by decide) ?_
  refine W.lcmp C.x C.bc dJ0_floorMod_9 ?_
  refine lv_if_ge (tgt := 25) C.x C.bc dJ0_floorMod_10 (by decide) (fun c_3 => ?_) (fun c_3 => ?_)
  · have c_3 := (lc_ge _ _).mp c_3
    have hx := ge_f hx c_3
    refine lv_lload C.x C.bc dJ0_floorMod_25 (lv_at hl 0 rfl) ?_
    obtain rfl := Option.some.inj hx
    exact x_lret C h dJ0_floorMod_27
  · have c_3 := Classical.not_not.mp ((not_congr (lc_ge _ _)).mp c_3)
    have hx := ge_t hx c_3
    refine lv_lload C.x C.bc dJ0_floorMod_13 (lv_at hl 0 rfl) ?_
    refine lv_lconst (v := (0 : Int64)) C.x C.bc dJ0_floorMod_15 (by decide) ?_
    refine W.lcmp C.x C.bc dJ0_floorMod_16 ?_
    refine lv_if_eq (tgt := 25) C.x C.bc dJ0_floorMod_17 (by decide) (fun c_4 => ?_) (fun c_4 => ?_)
    · have c_4 := (lc_eq _ _).mp c_4
      have hx := ge_t hx c_4
      refine lv_lload C.x C.bc dJ0_floorMod_25 (lv_at hl 0 rfl) ?_
      obtain rfl := Option.some.inj hx
      exact x_lret C h dJ0_floorMod_27
    · have c_4 := (not_congr (lc_eq _ _)).mp c_4
      have hx := ge_f hx c_4
      refine lv_lload C.x C.bc dJ0_floorMod_20 (lv_at hl 0 rfl) ?_
      refine lv_lload_n C.x C.bc dJ0_floorMod_22 rfl (lv_at hl 2 rfl) ?_
      refine lv_ladd C.x C.bc dJ0_floorMod_23 ?_
      obtain rfl := Option.some.inj hx
      exact x_lret C h dJ0_floorMod_24
theorem mJ0_floorMod (hG : G0 E s0 b) (hI : Sx E) {v0 : Int64} {v2 : Int64} {x : Int64} (hx : fJ0_floorMod v0 v2 = some x) : Mt l E s0 yJ0_floorMod cJ0_floorMod 6 (some .long) rmJ0_floorMod [.long v0, .long v2] g (some (.long x)) E g :=
  Mt.ofF hG (by decide +kernel) (Nat.le_of_ble_eq_true rfl) (fun p e s m below meth c ls C h hl => bJ0_floorMod C hI v0 v2 hx h hl)
theorem cX4_37_J0_floorMod {a0 : Int64} {a1 : Int64} {r : Int64} (C : Cx E s0 b p s m args meth c cc nL "EarthMesh$Determinant" rt) (hI : Sx E) (h : XH E g s H locs) (hf : fJ0_floorMod a0 a1 = some r) (hR : rmJ0_floorMod.frames + 1 ≤ R.frames ∧ 16 + (6 + 11) + rmJ0_floorMod.locals ≤ R.locals) (h0 : cells ≤ R.cells ∧ slots ≤ R.slots) (hsz : ls.size = nL) (hcat : (rest.map fun v => v.category).sum ≤ 16) (hdg : decode cc pc = .ok (.invokestatic 37, 3)) (kk : ∀ (H : Heap) (locs : List Loc), XH E g s H locs → W p l e R s m args below meth c H locs cells slots Q (F0 m (pc + 3) ls (.long r :: rest))) : W p l e R s m args below meth c H locs cells slots Q (F0 m pc ls (.long a1 :: .long a0 :: rest)) :=
  x_callS (n := 2) (As := [.long a0, .long a1]) C h (mJ0_floorMod C.g hI hf) (lw_S q1163 q1164 q134 q1165) ⟨by decide +kernel, by decide +kernel, by decide +kernel⟩ hR ⟨rfl, rfl⟩ h0 rfl hsz rfl hcat hdg kk
abbrev rmX4_clears : Room := { frames := 1, cells := 0, slots := 0, locals := 33 }
def fX4_clears_33 (v1 : Int32) (v2 : Int32) (v3 : Int32) (v6 : Int64) (v8 : Int64) (v10 : Int32) (st : St) : Option ((Int32 × St) ⊕ (St)) :=
  if v3 < v10 then
    some (.inr st)
  else
    gd (inB v1 12) <|
    bd (st.2.2 34 v1.toNatClampNeg) fun w_14 =>
    gd (inG w_14 35 12) <|
    gd (inB v1 12) <|
    bd (st.2.2 34 v1.toNatClampNeg) fun w_17 =>
    gd (inG w_17 35 12) <|
    gd (inB v10 13) <|
    gd (inB v2 12) <|
    bd (st.2.2 34 v2.toNatClampNeg) fun w_21 =>
    gd (inG w_21 35 12) <|
    gd (inB v10 13) <|
    gd (¬ v6 = 0) <|
    bd (fJ0_floorMod ((st.2.1 w_17 v10.toNatClampNeg) - (jreml (v8 * (st.2.1 w_21 v10.toNatClampNeg)) v6)) v6) fun r_25 =>
    gd (inB v10 13) <|
    nm (uL st w_14 v10.toNatClampNeg r_25) fun st_27 =>
    nm (v10 + (1 : Int32)) fun v10_28 =>
    some (.inl (v10_28, st_27))
set_option maxHeartbeats 1000000 in
theorem bX4_clears_33 (C : Cx E s0 b p s m args meth c cX4_clears 11 "EarthMesh$Determinant" none) (hI : Sx E) (v1 : Int32) (v2 : Int32) (v3 : Int32) (v6 : Int64) (v8 : Int64) (v10 : Int32) (st : St) {x : (Int32 × St) ⊕ (St)} (hx : fX4_clears_33 v1 v2 v3 v6 v8 v10 st = some x) {Q : State → Prop} {G : Int32 × St → Prop} {X : St → Prop} (hG : ∀ (w10 : Int32) (wst : St), G (w10, wst) → ∀ (H : Heap) (locs : List Loc) (ls : Array Slot), XH E (sg wst) s H locs → lv_has ls 11 [(0, .ref (E.ad 33)), (1, .int v1), (2, .int v2), (3, .int v3), (6, .long v6), (8, .long v8), (10, .int w10)] → W p l e rmX4_clears s m args below meth c H locs 0 0 Q (F0 m 33 ls [])) (hE0 : ∀ (wst : St), X wst → ∀ (H : Heap) (locs : List Loc) (ls : Array Slot), XH E (sg wst) s H locs → lv_has ls 11 [] → W p l e rmX4_clears s m args below meth c H locs 0 0 Q (F0 m 84 ls [])) (K : Kx G X x) {H : Heap} {locs : List Loc} {ls : Array Slot} (h : XH E (sg st) s H locs) (hl : lv_has ls 11 [(0, .ref (E.ad 33)), (1, .int v1), (2, .int v2), (3, .int v3), (6, .long v6), (8, .long v8), (10, .int v10)]) : W p l e rmX4_clears s m args below meth c H locs 0 0 Q (F0 m 33 ls []) := by
  unfold fX4_clears_33 at hx
  refine lv_iload C.x C.bc dX4_clears_33 (lv_at hl 6 rfl) ?_
  refine lv_iload_n C.x C.bc dX4_clears_35 rfl (lv_at hl 3 rfl) ?_
  refine lv_icmp_gt (tgt := 84) C.x C.bc dX4_clears_36 (by decide) (fun c_12 => ?_) (fun c_12 => ?_)
  · have hx := ge_t hx c_12
    obtain rfl := Option.some.inj hx
    exact hE0 _ K _ _ _ h (lv_sub hl [] rfl)
  · have hx := ge_f hx c_12
    refine lv_aload_n C.x C.bc dX4_clears_39 rfl (lv_at hl 0 rfl) ?_
    refine gt_X4_11_33 C hI h dX4_clears_40 ?_
    refine lv_iload_n C.x C.bc dX4_clears_43 rfl (lv_at hl 1 rfl) ?_
    obtain ⟨g_13, hx⟩ := gd_e hx
    obtain ⟨w_14, hw_14, hx⟩ := bd_e hx
    obtain ⟨g_15, hx⟩ := gd_e hx
    refine y_rowP C h 34 5 12 (hI 34 (by decide)) k_34 (by decide) rfl rfl (P34 g_15) g_13 hw_14 dX4_clears_44 ?_
    refine lv_iload C.x C.bc dX4_clears_45 (lv_at hl 6 rfl) ?_
    refine lv_aload_n C.x C.bc dX4_clears_47 rfl (lv_at hl 0 rfl) ?_
    refine gt_X4_11_33 C hI h dX4_clears_48 ?_
    refine lv_iload_n C.x C.bc dX4_clears_51 rfl (lv_at hl 1 rfl) ?_
    obtain ⟨g_16, hx⟩ := gd_e hx
    obtain ⟨w_17, hw_17, hx⟩ := bd_e hx
    obtain ⟨g_18, hx⟩ := gd_e hx
    refine y_rowP C h 34 5 12 (hI 34 (by decide)) k_34 (by decide) rfl rfl (P34 g_18) g_16 hw_17 dX4_clears_52 ?_
    refine lv_iload C.x C.bc dX4_clears_53 (lv_at hl 6 rfl) ?_
    obtain ⟨g_19, hx⟩ := gd_e hx
    refine x_lald C h w_17 13 (hI _ (by have := g_18; omega)) (kg_v g_18 kg_35) g_19 dX4_clears_55 ?_
    refine lv_lload C.x C.bc dX4_clears_56 (lv_at hl 5 rfl) ?_
    refine lv_aload_n C.x C.bc dX4_clears_58 rfl (lv_at hl 0 rfl) ?_
    refine gt_X4_11_33 C hI h dX4_clears_59 ?_
    refine lv_iload_n C.x C.bc dX4_clears_62 rfl (lv_at hl 2 rfl) ?_
    obtain ⟨g_20, hx⟩ := gd_e hx
    obtain ⟨w_21, hw_21, hx⟩ := bd_e hx
    obtain ⟨g_22, hx⟩ := gd_e hx
    refine y_rowP C h 34 5 12 (hI 34 (by decide)) k_34 (by decide) rfl rfl (P34 g_22) g_20 hw_21 dX4_clears_63 ?_
    refine lv_iload C.x C.bc dX4_clears_64 (lv_at hl 6 rfl) ?_
    obtain ⟨g_23, hx⟩ := gd_e hx
    refine x_lald C h w_21 13 (hI _ (by have := g_22; omega)) (kg_v g_22 kg_35) g_23 dX4_clears_66 ?_
    refine lv_lmul C.x C.bc dX4_clears_67 ?_
    refine lv_lload C.x C.bc dX4_clears_68 (lv_at hl 4 rfl) ?_
    obtain ⟨g_24, hx⟩ := gd_e hx
    refine y_lrem C.x C.bc dX4_clears_70 g_24 ?_
    refine lv_lsub C.x C.bc dX4_clears_71 ?_
    refine lv_lload C.x C.bc dX4_clears_72 (lv_at hl 4 rfl) ?_
    obtain ⟨r_25, hf_25, hx⟩ := bd_e hx
    refine cX4_37_J0_floorMod C hI h hf_25 ⟨Nat.le_of_ble_eq_true rfl, Nat.le_of_ble_eq_true rfl⟩ ⟨Nat.zero_le _, Nat.zero_le _⟩ hl.1 (Nat.le_of_ble_eq_true rfl) dX4_clears_74 (fun H locs h => ?_)
    obtain ⟨g_26, hx⟩ := gd_e hx
    obtain ⟨st_27, e_27, hx⟩ := nm_x hx
    refine y_last C h w_14 13 (hI _ (by have := g_15; omega)) (kg_v g_15 kg_35) g_26 e_27 dX4_clears_77 (fun H locs h => ?_)
    obtain ⟨v10_28, e_28, hx⟩ := nm_x hx
    refine lv_iinc (v := v10_28) (lv' := [(10, .int v10_28), (0, .ref (E.ad 33)), (1, .int v1), (2, .int v2), (3, .int v3), (6, .long v6), (8, .long v8)]) C.x C.bc dX4_clears_78 hl (k := 6) rfl (by rw [e_28]; rfl) (by decide) rfl (fun ls hl => ?_)
    refine lv_goto (tgt := 33) C.x C.bc dX4_clears_81 (by decide) ?_
    obtain rfl := Option.some.inj hx
    exact hG _ _ K _ _ _ h (lv_sub hl [1, 2, 3, 4, 5, 6, 0] rfl)
set_option maxHeartbeats 1000000 in
theorem pX4_clears_33 (C : Cx E s0 b p s m args meth c cX4_clears 11 "EarthMesh$Determinant" none) (hI : Sx E) (v1 : Int32) (v2 : Int32) (v3 : Int32) (v6 : Int64) (v8 : Int64) {Q : State → Prop} {v10 : Int32} {st : St} {n : Nat} {r : St} (hx : iter (u2 fun v10 st => fX4_clears_33 v1 v2 v3 v6 v8 v10 st) n (v10, st) = some r) (hE : (fun t => ∀ (H : Heap) (locs : List Loc) (ls : Array Slot), XH E (sg t) s H locs → lv_has ls 11 [] → W p l e rmX4_clears s m args below meth c H locs 0 0 Q (F0 m 84 ls [])) r) {H : Heap} {locs : List Loc} {ls : Array Slot} (h : XH E (sg st) s H locs) (hl : lv_has ls 11 [(0, .ref (E.ad 33)), (1, .int v1), (2, .int v2), (3, .int v3), (6, .long v6), (8, .long v8), (10, .int v10)]) : W p l e rmX4_clears s m args below meth c H locs 0 0 Q (F0 m 33 ls []) := by
  refine iter_W (G := fun t => ∀ (H : Heap) (locs : List Loc) (ls : Array Slot), XH E (sg t.2) s H locs → lv_has ls 11 [(0, .ref (E.ad 33)), (1, .int v1), (2, .int v2), (3, .int v3), (6, .long v6), (8, .long v8), (10, .int t.1)] → W p l e rmX4_clears s m args below meth c H locs 0 0 Q (F0 m 33 ls [])) (E := fun t => ∀ (H : Heap) (locs : List Loc) (ls : Array Slot), XH E (sg t) s H locs → lv_has ls 11 [] → W p l e rmX4_clears s m args below meth c H locs 0 0 Q (F0 m 84 ls [])) (fun t x hx K H locs ls h hl => ?_) n _ r hx hE H locs ls h hl
  obtain ⟨v10, st⟩ := t
  exact bX4_clears_33 C hI v1 v2 v3 v6 v8 v10 st hx (fun _ _ z => z) (fun _ z => z) K h hl
def fX4_clears (v1 : Int32) (v2 : Int32) (v3 : Int32) (v4 : Int64) (v6 : Int64) (st : St) : Option (St) :=
  gd (inB v1 12) <|
  bd (st.2.2 34 v1.toNatClampNeg) fun w_2 =>
  gd (inG w_2 35 12) <|
  gd (inB v2 13) <|
  if (st.2.1 w_2 v2.toNatClampNeg) = (0 : Int64) then
    some st
  else
    gd (inB v1 12) <|
    bd (st.2.2 34 v1.toNatClampNeg) fun w_7 =>
    gd (inG w_7 35 12) <|
    gd (inB v2 13) <|
    gd (¬ v6 = 0) <|
    nm (jreml ((st.2.1 w_7 v2.toNatClampNeg) * v4) v6) fun v8_11 =>
    bd (iter (u2 fun z10 zst => fX4_clears_33 v1 v2 v3 v6 v8_11 z10 zst) FU (v2, st)) (u1 fun st_29 =>
    some st_29)
set_option maxHeartbeats 1000000 in
theorem bX4_clears (C : Cx E s0 b p s m args meth c cX4_clears 11 "EarthMesh$Determinant" none) (hI : Sx E) (v1 : Int32) (v2 : Int32) (v3 : Int32) (v4 : Int64) (v6 : Int64) (st : St) {x : St} (hx : fX4_clears v1 v2 v3 v4 v6 st = some x) {H : Heap} {locs : List Loc} {ls : Array Slot} (h : XH E (sg st) s H locs) (hl : lv_has ls 11 [(0, .ref (E.ad 33)), (1, .int v1), (2, .int v2), (3, .int v3), (4, .long v4), (6, .long v6)]) : W p l e rmX4_clears s m args below meth c H locs 0 0 (MQ below (Qx E none (sg x)) args s 0 0 (gA E.HB)) (F0 m 0 ls []) := by
  unfold fX4_clears at hx
  refine lv_aload_n C.x C.bc dX4_clears_0 rfl (lv_at hl 0 rfl) ?_
  refine gt_X4_11_33 C hI h dX4_clears_1 ?_
  refine lv_iload_n C.x C.bc dX4_clears_4 rfl (lv_at hl 1 rfl) ?_
  obtain ⟨g_1, hx⟩ := gd_e hx
  obtain ⟨w_2, hw_2, hx⟩ := bd_e hx
  obtain ⟨g_3, hx⟩ := gd_e hx
  refine y_rowP C h 34 5 12 (hI 34 (by decide)) k_34 (by decide) rfl rfl (P34 g_3) g_1 hw_2 dX4_clears_5 ?_
  refine lv_iload_n C.x C.bc dX4_clears_6 rfl (lv_at hl 2 rfl) ?_
  obtain ⟨g_4, hx⟩ := gd_e hx
  refine x_lald C h w_2 13 (hI _ (by have := g_3; omega)) (kg_v g_3 kg_35) g_4 dX4_clears_7 ?_
  refine lv_lconst (v := (0 : Int64)) C.x C.bc dX4_clears_8 (by decide) ?_
  refine W.lcmp C.x C.bc dX4_clears_9 ?_
  refine lv_if_ne (tgt := 14) C.x C.bc dX4_clears_10 (by decide) (fun c_5 => ?_) (fun c_5 => ?_)
  · have c_5 := (not_congr (lc_eq _ _)).mp c_5
    have hx := ge_f hx c_5
    refine lv_aload_n C.x C.bc dX4_clears_14 rfl (lv_at hl 0 rfl) ?_
    refine gt_X4_11_33 C hI h dX4_clears_15 ?_
    refine lv_iload_n C.x C.bc dX4_clears_18 rfl (lv_at hl 1 rfl) ?_
    obtain ⟨g_6, hx⟩ := gd_e hx
    obtain ⟨w_7, hw_7, hx⟩ := bd_e hx
    obtain ⟨g_8, hx⟩ := gd_e hx
    refine y_rowP C h 34 5 12 (hI 34 (by decide)) k_34 (by decide) rfl rfl (P34 g_8) g_6 hw_7 dX4_clears_19 ?_
    refine lv_iload_n C.x C.bc dX4_clears_20 rfl (lv_at hl 2 rfl) ?_
    obtain ⟨g_9, hx⟩ := gd_e hx
    refine x_lald C h w_7 13 (hI _ (by have := g_8; omega)) (kg_v g_8 kg_35) g_9 dX4_clears_21 ?_
    refine lv_lload C.x C.bc dX4_clears_22 (lv_at hl 4 rfl) ?_
    refine lv_lmul C.x C.bc dX4_clears_24 ?_
    refine lv_lload C.x C.bc dX4_clears_25 (lv_at hl 5 rfl) ?_
    obtain ⟨g_10, hx⟩ := gd_e hx
    refine y_lrem C.x C.bc dX4_clears_27 g_10 ?_
    obtain ⟨v8_11, e_11, hx⟩ := nm_x hx
    refine x_tl e_11 ?_
    refine lv_lstore (lv' := [(8, .long v8_11), (0, .ref (E.ad 33)), (1, .int v1), (2, .int v2), (3, .int v3), (4, .long v4), (6, .long v6)]) C.x C.bc dX4_clears_28 hl (by decide) rfl (fun ls hl => ?_)
    refine lv_iload_n C.x C.bc dX4_clears_30 rfl (lv_at hl 3 rfl) ?_
    refine lv_istore (lv' := [(10, .int v2), (8, .long v8_11), (0, .ref (E.ad 33)), (1, .int v1), (2, .int v2), (3, .int v3), (4, .long v4), (6, .long v6)]) C.x C.bc dX4_clears_31 hl (by decide) rfl (fun ls hl => ?_)
    obtain ⟨st_29, hi_29, hx⟩ := bd_e hx
    have hx := u1_e hx
    refine pX4_clears_33 C hI v1 v2 v3 v6 v8_11 hi_29 (fun H locs ls h hl => ?_) h (lv_sub hl [2, 3, 4, 5, 7, 1, 0] rfl)
    obtain rfl := Option.some.inj hx
    exact x_vret C h dX4_clears_84
  · have c_5 := (lc_eq _ _).mp c_5
    have hx := ge_t hx c_5
    obtain rfl := Option.some.inj hx
    exact x_vret C h dX4_clears_13
theorem mX4_clears (hG : G0 E s0 b) (hI : Sx E) {v1 : Int32} {v2 : Int32} {v3 : Int32} {v4 : Int64} {v6 : Int64} {x : St} (hx : fX4_clears v1 v2 v3 v4 v6 st = some x) : Mt l E s0 yX4_clears cX4_clears 11 none rmX4_clears [.ref (E.ad 33), .int v1, .int v2, .int v3, .long v4, .long v6] (sg st) none E (sg x) :=
  Mt.of hG (by decide) (Nat.le_of_ble_eq_true rfl) (fun p e s m below meth c ls C h hl => bX4_clears C hI v1 v2 v3 v4 v6 st hx h hl)
theorem cX4_57_X4_clears {a0 : Int32} {a1 : Int32} {a2 : Int32} {a3 : Int64} {a4 : Int64} {st' : St} (C : Cx E s0 b p s m args meth c cc nL "EarthMesh$Determinant" rt) (hI : Sx E) (h : XH E (sg st) s H locs) (hf : fX4_clears a0 a1 a2 a3 a4 st = some st') (hR : rmX4_clears.frames + 1 ≤ R.frames ∧ 16 + (11 + 11) + rmX4_clears.locals ≤ R.locals) (h0 : cells ≤ R.cells ∧ slots ≤ R.slots) (hsz : ls.size = nL) (hcat : (rest.map fun v => v.category).sum ≤ 16) (hdg : decode cc pc = .ok (.invokevirtual 57, 3)) (kk : ∀ (H : Heap) (locs : List Loc), XH E (sg st') s H locs → W p l e R s m args below meth c H locs cells slots Q (F0 m (pc + 3) ls (rest))) : W p l e R s m args below meth c H locs cells slots Q (F0 m pc ls (.long a4 :: .long a3 :: .int a2 :: .int a1 :: .int a0 :: .ref (E.ad 33) :: rest)) :=
  x_callV (n := 5) (As := [.int a0, .int a1, .int a2, .long a3, .long a4]) C h 33 3 (hI 33 (by decide)) k_33 rfl (mX4_clears C.g hI hf) (lw_V q1175 q1177 qs29 q133 q1178) ⟨rfl, by decide +kernel, by decide +kernel, by decide +kernel⟩ hR ⟨rfl, rfl⟩ h0 rfl hsz rfl hcat hdg kk
abbrev rmX4_both : Room := { frames := 1, cells := 0, slots := 0, locals := 33 }
def fX4_both (v1 : Int64) (v3 : Int64) (st : St) : Option (Int64) :=
  bd (fJ0_floorMod (v3 - v1) (2147483629 : Int64)) fun r_1 =>
  nm (jreml (r_1 * (st.2.1 33 1)) (2147483629 : Int64)) fun v5_2 =>
  nm (v1 + ((2147483647 : Int64) * v5_2)) fun v7_3 =>
  if (2305842986665115658 : Int64) < v7_3 then
    some (v7_3 - (4611685975477714963 : Int64))
  else
    some v7_3
set_option maxHeartbeats 1000000 in
theorem bX4_both (C : Cx E s0 b p s m args meth c cX4_both 9 "EarthMesh$Determinant" (some .long)) (hI : Sx E) (v1 : Int64) (v3 : Int64) (st : St) {x : Int64} (hx : fX4_both v1 v3 st = some x) {H : Heap} {locs : List Loc} {ls : Array Slot} (h : XH E (sg st) s H locs) (hl : lv_has ls 9 [(0, .ref (E.ad 33)), (1, .long v1), (3, .long v3)]) : W p l e rmX4_both s m args below meth c H locs 0 0 (MQ below (Qx E (some (.long x)) (sg st)) args s 0 0 (gA E.HB)) (F0 m 0 ls []) := by
  unfold fX4_both at hx
  refine lv_lload_n C.x C.bc dX4_both_0 rfl (lv_at hl 2 rfl) ?_
  refine lv_lload_n C.x C.bc dX4_both_1 rfl (lv_at hl 1 rfl) ?_
  refine lv_lsub C.x C.bc dX4_both_2 ?_
  refine lv_ldc2 (v := (2147483629 : Int64)) C.x C.bc C.ow (C.ts _ q256) dX4_both_3 ?_
  obtain ⟨r_1, hf_1, hx⟩ := bd_e hx
  refine cX4_37_J0_floorMod C hI h hf_1 ⟨Nat.le_of_ble_eq_true rfl, Nat.le_of_ble_eq_true rfl⟩ ⟨Nat.zero_le _, Nat.zero_le _⟩ hl.1 (Nat.le_of_ble_eq_true rfl) dX4_both_6 (fun H locs h => ?_)
  refine lv_aload_n C.x C.bc dX4_both_9 rfl (lv_at hl 0 rfl) ?_
  refine gt_X4_26_33 C hI h dX4_both_10 ?_
  refine lv_lmul C.x C.bc dX4_both_13 ?_
  refine lv_ldc2 (v := (2147483629 : Int64)) C.x C.bc C.ow (C.ts _ q256) dX4_both_14 ?_
  refine y_lrem C.x C.bc dX4_both_17 (by decide) ?_
  obtain ⟨v5_2, e_2, hx⟩ := nm_x hx
  refine x_tl e_2 ?_
  refine lv_lstore (lv' := [(5, .long v5_2), (0, .ref (E.ad 33)), (1, .long v1), (3, .long v3)]) C.x C.bc dX4_both_18 hl (by decide) rfl (fun ls hl => ?_)
  refine lv_lload_n C.x C.bc dX4_both_20 rfl (lv_at hl 2 rfl) ?_
  refine lv_ldc2 (v := (2147483647 : Int64)) C.x C.bc C.ow (C.ts _ q1154) dX4_both_21 ?_
  refine lv_lload C.x C.bc dX4_both_24 (lv_at hl 0 rfl) ?_
  refine lv_lmul C.x C.bc dX4_both_26 ?_
  refine lv_ladd C.x C.bc dX4_both_27 ?_
  obtain ⟨v7_3, e_3, hx⟩ := nm_x hx
  refine x_tl e_3 ?_
  refine lv_lstore (lv' := [(7, .long v7_3), (5, .long v5_2), (0, .ref (E.ad 33)), (1, .long v1), (3, .long v3)]) C.x C.bc dX4_both_28 hl (by decide) rfl (fun ls hl => ?_)
  refine lv_lload C.x C.bc dX4_both_30 (lv_at hl 0 rfl) ?_
  refine lv_ldc2 (v := (2305842986665115658 : Int64)) C.x C.bc C.ow (C.ts _ q1183) dX4_both_32 ?_
  refine W.lcmp C.x C.bc dX4_both_35 ?_
  refine lv_if_le (tgt := 48) C.x C.bc dX4_both_36 (by decide) (fun c_4 => ?_) (fun c_4 => ?_)
  · have c_4 := (lc_le _ _).mp c_4
    have hx := ge_f hx c_4
    refine lv_lload C.x C.bc dX4_both_48 (lv_at hl 0 rfl) ?_
    obtain rfl := Option.some.inj hx
    exact x_lret C h dX4_both_50
  · have c_4 := Classical.not_not.mp ((not_congr (lc_le _ _)).mp c_4)
    have hx := ge_t hx c_4
    refine lv_lload C.x C.bc dX4_both_39 (lv_at hl 0 rfl) ?_
    refine lv_ldc2 (v := (4611685975477714963 : Int64)) C.x C.bc C.ow (C.ts _ q1184) dX4_both_41 ?_
    refine lv_lsub C.x C.bc dX4_both_44 ?_
    refine lv_goto (tgt := 50) C.x C.bc dX4_both_45 (by decide) ?_
    obtain rfl := Option.some.inj hx
    exact x_lret C h dX4_both_50
theorem mX4_both (hG : G0 E s0 b) (hI : Sx E) {v1 : Int64} {v3 : Int64} {x : Int64} (hx : fX4_both v1 v3 st = some x) : Mt l E s0 yX4_both cX4_both 9 (some .long) rmX4_both [.ref (E.ad 33), .long v1, .long v3] (sg st) (some (.long x)) E (sg st) :=
  Mt.of hG (by decide) (Nat.le_of_ble_eq_true rfl) (fun p e s m below meth c ls C h hl => bX4_both C hI v1 v3 st hx h hl)
theorem cX4_67_X4_both {a0 : Int64} {a1 : Int64} {r : Int64} (C : Cx E s0 b p s m args meth c cc nL "EarthMesh$Determinant" rt) (hI : Sx E) (h : XH E (sg st) s H locs) (hf : fX4_both a0 a1 st = some r) (hR : rmX4_both.frames + 1 ≤ R.frames ∧ 16 + (9 + 11) + rmX4_both.locals ≤ R.locals) (h0 : cells ≤ R.cells ∧ slots ≤ R.slots) (hsz : ls.size = nL) (hcat : (rest.map fun v => v.category).sum ≤ 16) (hdg : decode cc pc = .ok (.invokevirtual 67, 3)) (kk : ∀ (H : Heap) (locs : List Loc), XH E (sg st) s H locs → W p l e R s m args below meth c H locs cells slots Q (F0 m (pc + 3) ls (.long r :: rest))) : W p l e R s m args below meth c H locs cells slots Q (F0 m pc ls (.long a1 :: .long a0 :: .ref (E.ad 33) :: rest)) :=
  x_callV (n := 2) (As := [.long a0, .long a1]) C h 33 3 (hI 33 (by decide)) k_33 rfl (mX4_both C.g hI hf) (lw_V q1179 q1181 qs30 q133 q1182) ⟨rfl, by decide +kernel, by decide +kernel, by decide +kernel⟩ hR ⟨rfl, rfl⟩ h0 rfl hsz rfl hcat hdg kk
abbrev rmX2_nodes_1 : Room := { frames := 0, cells := 0, slots := 0, locals := 0 }
def fX2_nodes_1 (st : St) : Int32 :=
  ((st.1 1 0) * (st.1 1 1))
set_option maxHeartbeats 1000000 in
theorem bX2_nodes_1 (C : Cx E s0 b p s m args meth c cX2_nodes 1 "EarthMesh$Mesh" (some .int)) (hI : Sx E) (st : St) {x : Int32} (hx : fX2_nodes_1 st = x) {H : Heap} {locs : List Loc} {ls : Array Slot} (h : XH E (sg st) s H locs) (hl : lv_has ls 1 [(0, .ref (E.ad 1))]) : W p l e rmX2_nodes_1 s m args below meth c H locs 0 0 (MQ below (Qx E (some (.int x)) (sg st)) args s 0 0 (gA E.HB)) (F0 m 0 ls []) := by
  unfold fX2_nodes_1 at hx
  refine lv_aload_n C.x C.bc dX2_nodes_0 rfl (lv_at hl 0 rfl) ?_
  refine gt_X2_9_1 C hI h dX2_nodes_1 ?_
  refine lv_aload_n C.x C.bc dX2_nodes_4 rfl (lv_at hl 0 rfl) ?_
  refine gt_X2_15_1 C hI h dX2_nodes_5 ?_
  refine lv_imul C.x C.bc dX2_nodes_8 ?_
  subst hx
  exact x_iret C h dX2_nodes_9
theorem mX2_nodes_1 (hG : G0 E s0 b) (hI : Sx E)  {x : Int32} (hx : fX2_nodes_1 st = x) : Mt l E s0 yX2_nodes cX2_nodes 1 (some .int) rmX2_nodes_1 [.ref (E.ad 1)] (sg st) (some (.int x)) E (sg st) :=
  Mt.of hG (by decide) (Nat.le_of_ble_eq_true rfl) (fun p e s m below meth c ls C h hl => bX2_nodes_1 C hI st hx h hl)
theorem cX2_60_X2_nodes_1  {r : Int32} (C : Cx E s0 b p s m args meth c cc nL "EarthMesh$Mesh" rt) (hI : Sx E) (h : XH E (sg st) s H locs) (hf : fX2_nodes_1 st = r) (hR : rmX2_nodes_1.frames + 1 ≤ R.frames ∧ 16 + (1 + 11) + rmX2_nodes_1.locals ≤ R.locals) (h0 : cells ≤ R.cells ∧ slots ≤ R.slots) (hsz : ls.size = nL) (hcat : (rest.map fun v => v.category).sum ≤ 16) (hdg : decode cc pc = .ok (.invokevirtual 60, 3)) (kk : ∀ (H : Heap) (locs : List Loc), XH E (sg st) s H locs → W p l e R s m args below meth c H locs cells slots Q (F0 m (pc + 3) ls (.int r :: rest))) : W p l e R s m args below meth c H locs cells slots Q (F0 m pc ls (.ref (E.ad 1) :: rest)) :=
  x_callV (n := 0) (As := []) C h 1 1 (hI 1 (by decide)) k_1 rfl (mX2_nodes_1 C.g hI hf) (lw_V q1104 q441 q442 q131 q443) ⟨rfl, by decide +kernel, by decide +kernel, by decide +kernel⟩ hR ⟨rfl, rfl⟩ h0 rfl hsz rfl hcat hdg kk
theorem cX3_55_X2_nodes_1  {r : Int32} (C : Cx E s0 b p s m args meth c cc nL "EarthMesh$Equations" rt) (hI : Sx E) (h : XH E (sg st) s H locs) (hf : fX2_nodes_1 st = r) (hR : rmX2_nodes_1.frames + 1 ≤ R.frames ∧ 16 + (1 + 11) + rmX2_nodes_1.locals ≤ R.locals) (h0 : cells ≤ R.cells ∧ slots ≤ R.slots) (hsz : ls.size = nL) (hcat : (rest.map fun v => v.category).sum ≤ 16) (hdg : decode cc pc = .ok (.invokevirtual 55, 3)) (kk : ∀ (H : Heap) (locs : List Loc), XH E (sg st) s H locs → W p l e R s m args below meth c H locs cells slots Q (F0 m (pc + 3) ls (.int r :: rest))) : W p l e R s m args below meth c H locs cells slots Q (F0 m pc ls (.ref (E.ad 1) :: rest)) :=
  x_callV (n := 0) (As := []) C h 1 1 (hI 1 (by decide)) k_1 rfl (mX2_nodes_1 C.g hI hf) (lw_V q1148 q441 q442 q131 q443) ⟨rfl, by decide +kernel, by decide +kernel, by decide +kernel⟩ hR ⟨rfl, rfl⟩ h0 rfl hsz rfl hcat hdg kk
theorem cX1_55_X2_nodes_1  {r : Int32} (C : Cx E s0 b p s m args meth c cc nL "EarthMesh" rt) (hI : Sx E) (h : XH E (sg st) s H locs) (hf : fX2_nodes_1 st = r) (hR : rmX2_nodes_1.frames + 1 ≤ R.frames ∧ 16 + (1 + 11) + rmX2_nodes_1.locals ≤ R.locals) (h0 : cells ≤ R.cells ∧ slots ≤ R.slots) (hsz : ls.size = nL) (hcat : (rest.map fun v => v.category).sum ≤ 16) (hdg : decode cc pc = .ok (.invokevirtual 55, 3)) (kk : ∀ (H : Heap) (locs : List Loc), XH E (sg st) s H locs → W p l e R s m args below meth c H locs cells slots Q (F0 m (pc + 3) ls (.int r :: rest))) : W p l e R s m args below meth c H locs cells slots Q (F0 m pc ls (.ref (E.ad 1) :: rest)) :=
  x_callV (n := 0) (As := []) C h 1 1 (hI 1 (by decide)) k_1 rfl (mX2_nodes_1 C.g hI hf) (lw_V q440 q441 q442 q131 q443) ⟨rfl, by decide +kernel, by decide +kernel, by decide +kernel⟩ hR ⟨rfl, rfl⟩ h0 rfl hsz rfl hcat hdg kk
abbrev rmX2_hasPlace_1 : Room := { frames := 0, cells := 0, slots := 0, locals := 0 }
def fX2_hasPlace_1_47 (st : St) : Option (Int32) :=
  some (1 : Int32)
set_option maxHeartbeats 1000000 in
theorem bX2_hasPlace_1_47 (C : Cx E s0 b p s m args meth c cX2_hasPlace 3 "EarthMesh$Mesh" (some .boolean)) (hI : Sx E) (st : St) {x : Int32} (hx : fX2_hasPlace_1_47 st = some x) {H : Heap} {locs : List Loc} {ls : Array Slot} (h : XH E (sg st) s H locs) (hl : lv_has ls 3 []) : W p l e rmX2_hasPlace_1 s m args below meth c H locs 0 0 (MQ below (Qx E (some (.int x)) (sg st)) args s 0 0 (gA E.HB)) (F0 m 47 ls []) := by
  unfold fX2_hasPlace_1_47 at hx
  refine lv_iconst (v := (1 : Int32)) C.x C.bc dX2_hasPlace_47 (by decide) ?_
  refine lv_goto (tgt := 52) C.x C.bc dX2_hasPlace_48 (by decide) ?_
  obtain rfl := Option.some.inj hx
  exact x_zret (v := (1 : Int32)) C h rfl dX2_hasPlace_52
def fX2_hasPlace_1 (v1 : Int32) (v2 : Int32) (st : St) : Option (Int32) :=
  if v2 = 0 then
    gd (¬ (st.1 1 0) = 0) <|
    if ((st.1 1 0) - (1 : Int32)) ≤ (jrem v1 (st.1 1 0)) then
      some (0 : Int32)
    else
      some (1 : Int32)
  else
    if v2 = (1 : Int32) then
      gd (¬ (st.1 1 0) = 0) <|
      if ((st.1 1 1) - (1 : Int32)) ≤ (v1 / (st.1 1 0)) then
        some (0 : Int32)
      else
        fX2_hasPlace_1_47 st
    else
      fX2_hasPlace_1_47 st
set_option maxHeartbeats 1000000 in
theorem bX2_hasPlace_1 (C : Cx E s0 b p s m args meth c cX2_hasPlace 3 "EarthMesh$Mesh" (some .boolean)) (hI : Sx E) (v1 : Int32) (v2 : Int32) (st : St) {x : Int32} (hx : fX2_hasPlace_1 v1 v2 st = some x) {H : Heap} {locs : List Loc} {ls : Array Slot} (h : XH E (sg st) s H locs) (hl : lv_has ls 3 [(0, .ref (E.ad 1)), (1, .int v1), (2, .int v2)]) : W p l e rmX2_hasPlace_1 s m args below meth c H locs 0 0 (MQ below (Qx E (some (.int x)) (sg st)) args s 0 0 (gA E.HB)) (F0 m 0 ls []) := by
  unfold fX2_hasPlace_1 at hx
  refine lv_iload_n C.x C.bc dX2_hasPlace_0 rfl (lv_at hl 2 rfl) ?_
  refine lv_if_ne (tgt := 27) C.x C.bc dX2_hasPlace_1 (by decide) (fun c_1 => ?_) (fun c_1 => ?_)
  · have hx := ge_f hx c_1
    refine lv_iload_n C.x C.bc dX2_hasPlace_27 rfl (lv_at hl 2 rfl) ?_
    refine lv_iconst (v := (1 : Int32)) C.x C.bc dX2_hasPlace_28 (by decide) ?_
    refine lv_icmp_ne (tgt := 47) C.x C.bc dX2_hasPlace_29 (by decide) (fun c_2 => ?_) (fun c_2 => ?_)
    · have hx := ge_f hx c_2
      exact bX2_hasPlace_1_47 C hI st hx h (lv_sub hl [] rfl)
    · have hx := ge_t hx c_2
      refine lv_iload_n C.x C.bc dX2_hasPlace_32 rfl (lv_at hl 1 rfl) ?_
      refine lv_aload_n C.x C.bc dX2_hasPlace_33 rfl (lv_at hl 0 rfl) ?_
      refine gt_X2_9_1 C hI h dX2_hasPlace_34 ?_
      obtain ⟨g_3, hx⟩ := gd_e hx
      refine lv_idiv C.x C.bc dX2_hasPlace_37 g_3 ?_
      refine lv_aload_n C.x C.bc dX2_hasPlace_38 rfl (lv_at hl 0 rfl) ?_
      refine gt_X2_15_1 C hI h dX2_hasPlace_39 ?_
      refine lv_iconst (v := (1 : Int32)) C.x C.bc dX2_hasPlace_42 (by decide) ?_
      refine lv_isub C.x C.bc dX2_hasPlace_43 ?_
      refine lv_icmp_ge (tgt := 51) C.x C.bc dX2_hasPlace_44 (by decide) (fun c_4 => ?_) (fun c_4 => ?_)
      · have hx := ge_t hx c_4
        refine lv_iconst (v := (0 : Int32)) C.x C.bc dX2_hasPlace_51 (by decide) ?_
        obtain rfl := Option.some.inj hx
        exact x_zret (v := (0 : Int32)) C h rfl dX2_hasPlace_52
      · have hx := ge_f hx c_4
        exact bX2_hasPlace_1_47 C hI st hx h (lv_sub hl [] rfl)
  · have hx := ge_t hx c_1
    refine lv_iload_n C.x C.bc dX2_hasPlace_4 rfl (lv_at hl 1 rfl) ?_
    refine lv_aload_n C.x C.bc dX2_hasPlace_5 rfl (lv_at hl 0 rfl) ?_
    refine gt_X2_9_1 C hI h dX2_hasPlace_6 ?_
    obtain ⟨g_5, hx⟩ := gd_e hx
    refine y_irem C.x C.bc dX2_hasPlace_9 g_5 ?_
    refine lv_aload_n C.x C.bc dX2_hasPlace_10 rfl (lv_at hl 0 rfl) ?_
    refine gt_X2_9_1 C hI h dX2_hasPlace_11 ?_
    refine lv_iconst (v := (1 : Int32)) C.x C.bc dX2_hasPlace_14 (by decide) ?_
    refine lv_isub C.x C.bc dX2_hasPlace_15 ?_
    refine lv_icmp_ge (tgt := 23) C.x C.bc dX2_hasPlace_16 (by decide) (fun c_6 => ?_) (fun c_6 => ?_)
    · have hx := ge_t hx c_6
      refine lv_iconst (v := (0 : Int32)) C.x C.bc dX2_hasPlace_23 (by decide) ?_
      refine lv_goto (tgt := 52) C.x C.bc dX2_hasPlace_24 (by decide) ?_
      obtain rfl := Option.some.inj hx
      exact x_zret (v := (0 : Int32)) C h rfl dX2_hasPlace_52
    · have hx := ge_f hx c_6
      refine lv_iconst (v := (1 : Int32)) C.x C.bc dX2_hasPlace_19 (by decide) ?_
      refine lv_goto (tgt := 52) C.x C.bc dX2_hasPlace_20 (by decide) ?_
      obtain rfl := Option.some.inj hx
      exact x_zret (v := (1 : Int32)) C h rfl dX2_hasPlace_52
theorem mX2_hasPlace_1 (hG : G0 E s0 b) (hI : Sx E) {v1 : Int32} {v2 : Int32} {x : Int32} (hx : fX2_hasPlace_1 v1 v2 st = some x) : Mt l E s0 yX2_hasPlace cX2_hasPlace 3 (some .boolean) rmX2_hasPlace_1 [.ref (E.ad 1), .int v1, .int v2] (sg st) (some (.int x)) E (sg st) :=
  Mt.of hG (by decide) (Nat.le_of_ble_eq_true rfl) (fun p e s m below meth c ls C h hl => bX2_hasPlace_1 C hI v1 v2 st hx h hl)
theorem cX2_53_X2_hasPlace_1 {a0 : Int32} {a1 : Int32} {r : Int32} (C : Cx E s0 b p s m args meth c cc nL "EarthMesh$Mesh" rt) (hI : Sx E) (h : XH E (sg st) s H locs) (hf : fX2_hasPlace_1 a0 a1 st = some r) (hR : rmX2_hasPlace_1.frames + 1 ≤ R.frames ∧ 16 + (3 + 11) + rmX2_hasPlace_1.locals ≤ R.locals) (h0 : cells ≤ R.cells ∧ slots ≤ R.slots) (hsz : ls.size = nL) (hcat : (rest.map fun v => v.category).sum ≤ 16) (hdg : decode cc pc = .ok (.invokevirtual 53, 3)) (kk : ∀ (H : Heap) (locs : List Loc), XH E (sg st) s H locs → W p l e R s m args below meth c H locs cells slots Q (F0 m (pc + 3) ls (.int r :: rest))) : W p l e R s m args below meth c H locs cells slots Q (F0 m pc ls (.int a1 :: .int a0 :: .ref (E.ad 1) :: rest)) :=
  x_callV (n := 2) (As := [.int a0, .int a1]) C h 1 1 (hI 1 (by decide)) k_1 rfl (mX2_hasPlace_1 C.g hI hf) (lw_V q1111 q448 q449 q131 q450) ⟨rfl, by decide +kernel, by decide +kernel, by decide +kernel⟩ hR ⟨rfl, rfl⟩ h0 rfl hsz rfl hcat hdg kk
theorem cX1_422_X2_hasPlace_1 {a0 : Int32} {a1 : Int32} {r : Int32} (C : Cx E s0 b p s m args meth c cc nL "EarthMesh" rt) (hI : Sx E) (h : XH E (sg st) s H locs) (hf : fX2_hasPlace_1 a0 a1 st = some r) (hR : rmX2_hasPlace_1.frames + 1 ≤ R.frames ∧ 16 + (3 + 11) + rmX2_hasPlace_1.locals ≤ R.locals) (h0 : cells ≤ R.cells ∧ slots ≤ R.slots) (hsz : ls.size = nL) (hcat : (rest.map fun v => v.category).sum ≤ 16) (hdg : decode cc pc = .ok (.invokevirtual 422, 3)) (kk : ∀ (H : Heap) (locs : List Loc), XH E (sg st) s H locs → W p l e R s m args below meth c H locs cells slots Q (F0 m (pc + 3) ls (.int r :: rest))) : W p l e R s m args below meth c H locs cells slots Q (F0 m pc ls (.int a1 :: .int a0 :: .ref (E.ad 1) :: rest)) :=
  x_callV (n := 2) (As := [.int a0, .int a1]) C h 1 1 (hI 1 (by decide)) k_1 rfl (mX2_hasPlace_1 C.g hI hf) (lw_V q447 q448 q449 q131 q450) ⟨rfl, by decide +kernel, by decide +kernel, by decide +kernel⟩ hR ⟨rfl, rfl⟩ h0 rfl hsz rfl hcat hdg kk
abbrev rmX2_end_1 : Room := { frames := 0, cells := 0, slots := 0, locals := 0 }
def fX2_end_1 (v1 : Int32) (v2 : Int32) (st : St) : Int32 :=
  if v2 = 0 then
    (v1 + (1 : Int32))
  else
    (v1 + (st.1 1 0))
set_option maxHeartbeats 1000000 in
theorem bX2_end_1 (C : Cx E s0 b p s m args meth c cX2_end 3 "EarthMesh$Mesh" (some .int)) (hI : Sx E) (v1 : Int32) (v2 : Int32) (st : St) {x : Int32} (hx : fX2_end_1 v1 v2 st = x) {H : Heap} {locs : List Loc} {ls : Array Slot} (h : XH E (sg st) s H locs) (hl : lv_has ls 3 [(0, .ref (E.ad 1)), (1, .int v1), (2, .int v2)]) : W p l e rmX2_end_1 s m args below meth c H locs 0 0 (MQ below (Qx E (some (.int x)) (sg st)) args s 0 0 (gA E.HB)) (F0 m 0 ls []) := by
  unfold fX2_end_1 at hx
  refine lv_iload_n C.x C.bc dX2_end_0 rfl (lv_at hl 2 rfl) ?_
  refine lv_if_ne (tgt := 10) C.x C.bc dX2_end_1 (by decide) (fun c_1 => ?_) (fun c_1 => ?_)
  · have hx := ge_f hx c_1
    refine lv_iload_n C.x C.bc dX2_end_10 rfl (lv_at hl 1 rfl) ?_
    refine lv_aload_n C.x C.bc dX2_end_11 rfl (lv_at hl 0 rfl) ?_
    refine gt_X2_9_1 C hI h dX2_end_12 ?_
    refine lv_iadd C.x C.bc dX2_end_15 ?_
    subst hx
    exact x_iret C h dX2_end_16
  · have hx := ge_t hx c_1
    refine lv_iload_n C.x C.bc dX2_end_4 rfl (lv_at hl 1 rfl) ?_
    refine lv_iconst (v := (1 : Int32)) C.x C.bc dX2_end_5 (by decide) ?_
    refine lv_iadd C.x C.bc dX2_end_6 ?_
    refine lv_goto (tgt := 16) C.x C.bc dX2_end_7 (by decide) ?_
    subst hx
    exact x_iret C h dX2_end_16
theorem mX2_end_1 (hG : G0 E s0 b) (hI : Sx E) {v1 : Int32} {v2 : Int32} {x : Int32} (hx : fX2_end_1 v1 v2 st = x) : Mt l E s0 yX2_end cX2_end 3 (some .int) rmX2_end_1 [.ref (E.ad 1), .int v1, .int v2] (sg st) (some (.int x)) E (sg st) :=
  Mt.of hG (by decide) (Nat.le_of_ble_eq_true rfl) (fun p e s m below meth c ls C h hl => bX2_end_1 C hI v1 v2 st hx h hl)
theorem cX2_57_X2_end_1 {a0 : Int32} {a1 : Int32} {r : Int32} (C : Cx E s0 b p s m args meth c cc nL "EarthMesh$Mesh" rt) (hI : Sx E) (h : XH E (sg st) s H locs) (hf : fX2_end_1 a0 a1 st = r) (hR : rmX2_end_1.frames + 1 ≤ R.frames ∧ 16 + (3 + 11) + rmX2_end_1.locals ≤ R.locals) (h0 : cells ≤ R.cells ∧ slots ≤ R.slots) (hsz : ls.size = nL) (hcat : (rest.map fun v => v.category).sum ≤ 16) (hdg : decode cc pc = .ok (.invokevirtual 57, 3)) (kk : ∀ (H : Heap) (locs : List Loc), XH E (sg st) s H locs → W p l e R s m args below meth c H locs cells slots Q (F0 m (pc + 3) ls (.int r :: rest))) : W p l e R s m args below meth c H locs cells slots Q (F0 m pc ls (.int a1 :: .int a0 :: .ref (E.ad 1) :: rest)) :=
  x_callV (n := 2) (As := [.int a0, .int a1]) C h 1 1 (hI 1 (by decide)) k_1 rfl (mX2_end_1 C.g hI hf) (lw_V q1112 q1113 q1114 q131 q1115) ⟨rfl, by decide +kernel, by decide +kernel, by decide +kernel⟩ hR ⟨rfl, rfl⟩ h0 rfl hsz rfl hcat hdg kk
theorem cX1_296_X2_end_1 {a0 : Int32} {a1 : Int32} {r : Int32} (C : Cx E s0 b p s m args meth c cc nL "EarthMesh" rt) (hI : Sx E) (h : XH E (sg st) s H locs) (hf : fX2_end_1 a0 a1 st = r) (hR : rmX2_end_1.frames + 1 ≤ R.frames ∧ 16 + (3 + 11) + rmX2_end_1.locals ≤ R.locals) (h0 : cells ≤ R.cells ∧ slots ≤ R.slots) (hsz : ls.size = nL) (hcat : (rest.map fun v => v.category).sum ≤ 16) (hdg : decode cc pc = .ok (.invokevirtual 296, 3)) (kk : ∀ (H : Heap) (locs : List Loc), XH E (sg st) s H locs → W p l e R s m args below meth c H locs cells slots Q (F0 m (pc + 3) ls (.int r :: rest))) : W p l e R s m args below meth c H locs cells slots Q (F0 m pc ls (.int a1 :: .int a0 :: .ref (E.ad 1) :: rest)) :=
  x_callV (n := 2) (As := [.int a0, .int a1]) C h 1 1 (hI 1 (by decide)) k_1 rfl (mX2_end_1 C.g hI hf) (lw_V q1354 q1113 q1114 q131 q1115) ⟨rfl, by decide +kernel, by decide +kernel, by decide +kernel⟩ hR ⟨rfl, rfl⟩ h0 rfl hsz rfl hcat hdg kk
abbrev rmX2_between_1 : Room := { frames := 1, cells := 0, slots := 0, locals := 30 }
def fX2_between_1_73 (st : St) : Option (Int32) :=
  some (0 : Int32)
set_option maxHeartbeats 1000000 in
theorem bX2_between_1_73 (C : Cx E s0 b p s m args meth c cX2_between 5 "EarthMesh$Mesh" (some .int)) (hI : Sx E) (st : St) {x : Int32} (hx : fX2_between_1_73 st = some x) {H : Heap} {locs : List Loc} {ls : Array Slot} (h : XH E (sg st) s H locs) (hl : lv_has ls 5 []) : W p l e rmX2_between_1 s m args below meth c H locs 0 0 (MQ below (Qx E (some (.int x)) (sg st)) args s 0 0 (gA E.HB)) (F0 m 73 ls []) := by
  unfold fX2_between_1_73 at hx
  refine lv_iconst (v := (0 : Int32)) C.x C.bc dX2_between_73 (by decide) ?_
  obtain rfl := Option.some.inj hx
  exact x_iret C h dX2_between_74
def fX2_between_1_42 (v3 : Int32) (v4 : Int32) (st : St) : Option (Int32) :=
  bd (fX2_hasPlace_1 v3 (1 : Int32) st) fun r_5 =>
  if r_5 = 0 then
    fX2_between_1_73 st
  else
    nm (fX2_end_1 v3 (1 : Int32) st) fun r_7 =>
    if v4 = r_7 then
      gd (inB (1 : Int32) 3) <|
      gd (inB v3 12) <|
      some (st.1 (3 + (1 : Int32).toNatClampNeg) v3.toNatClampNeg)
    else
      fX2_between_1_73 st
set_option maxHeartbeats 1000000 in
theorem bX2_between_1_42 (C : Cx E s0 b p s m args meth c cX2_between 5 "EarthMesh$Mesh" (some .int)) (hI : Sx E) (v3 : Int32) (v4 : Int32) (st : St) {x : Int32} (hx : fX2_between_1_42 v3 v4 st = some x) {H : Heap} {locs : List Loc} {ls : Array Slot} (h : XH E (sg st) s H locs) (hl : lv_has ls 5 [(0, .ref (E.ad 1)), (3, .int v3), (4, .int v4)]) : W p l e rmX2_between_1 s m args below meth c H locs 0 0 (MQ below (Qx E (some (.int x)) (sg st)) args s 0 0 (gA E.HB)) (F0 m 42 ls []) := by
  unfold fX2_between_1_42 at hx
  refine lv_aload_n C.x C.bc dX2_between_42 rfl (lv_at hl 0 rfl) ?_
  refine lv_iload_n C.x C.bc dX2_between_43 rfl (lv_at hl 1 rfl) ?_
  refine lv_iconst (v := (1 : Int32)) C.x C.bc dX2_between_44 (by decide) ?_
  obtain ⟨r_5, hf_5, hx⟩ := bd_e hx
  refine cX2_53_X2_hasPlace_1 C hI h hf_5 ⟨Nat.le_of_ble_eq_true rfl, Nat.le_of_ble_eq_true rfl⟩ ⟨Nat.zero_le _, Nat.zero_le _⟩ hl.1 (Nat.le_of_ble_eq_true rfl) dX2_between_45 (fun H locs h => ?_)
  refine lv_if_eq (tgt := 73) C.x C.bc dX2_between_48 (by decide) (fun c_6 => ?_) (fun c_6 => ?_)
  · have hx := ge_t hx c_6
    exact bX2_between_1_73 C hI st hx h (lv_sub hl [] rfl)
  · have hx := ge_f hx c_6
    refine lv_iload C.x C.bc dX2_between_51 (lv_at hl 2 rfl) ?_
    refine lv_aload_n C.x C.bc dX2_between_53 rfl (lv_at hl 0 rfl) ?_
    refine lv_iload_n C.x C.bc dX2_between_54 rfl (lv_at hl 1 rfl) ?_
    refine lv_iconst (v := (1 : Int32)) C.x C.bc dX2_between_55 (by decide) ?_
    obtain ⟨r_7, e_7, hx⟩ := nm_x hx
    refine cX2_57_X2_end_1 C hI h e_7.symm ⟨Nat.le_of_ble_eq_true rfl, Nat.le_of_ble_eq_true rfl⟩ ⟨Nat.zero_le _, Nat.zero_le _⟩ hl.1 (Nat.le_of_ble_eq_true rfl) dX2_between_56 (fun H locs h => ?_)
    refine lv_icmp_ne (tgt := 73) C.x C.bc dX2_between_59 (by decide) (fun c_8 => ?_) (fun c_8 => ?_)
    · have hx := ge_f hx c_8
      exact bX2_between_1_73 C hI st hx h (lv_sub hl [] rfl)
    · have hx := ge_t hx c_8
      refine lv_aload_n C.x C.bc dX2_between_62 rfl (lv_at hl 0 rfl) ?_
      refine gt_X2_41_1 C hI h dX2_between_63 ?_
      refine lv_iconst (v := (1 : Int32)) C.x C.bc dX2_between_66 (by decide) ?_
      obtain ⟨g_9, hx⟩ := gd_e hx
      refine y_row C h 2 3 4 3 (hI 2 (by decide)) k_2 (by decide) rfl rfl (fun _ _ => rfl) g_9 dX2_between_67 ?_
      refine lv_iload_n C.x C.bc dX2_between_68 rfl (lv_at hl 1 rfl) ?_
      obtain ⟨g_10, hx⟩ := gd_e hx
      refine x_iald C h (3 + (1 : Int32).toNatClampNeg) 12 (hI _ (by have := inB_lt g_9; omega)) (kg_3 _ (inB_lt g_9)) g_10 dX2_between_69 ?_
      refine lv_goto (tgt := 74) C.x C.bc dX2_between_70 (by decide) ?_
      obtain rfl := Option.some.inj hx
      exact x_iret C h dX2_between_74
def fX2_between_1 (v1 : Int32) (v2 : Int32) (st : St) : Option (Int32) :=
  nm (jmin v1 v2) fun v3_1 =>
  nm (jmax v1 v2) fun v4_2 =>
  bd (fX2_hasPlace_1 v3_1 (0 : Int32) st) fun r_3 =>
  if r_3 = 0 then
    fX2_between_1_42 v3_1 v4_2 st
  else
    nm (fX2_end_1 v3_1 (0 : Int32) st) fun r_11 =>
    if v4_2 = r_11 then
      gd (inB (0 : Int32) 3) <|
      gd (inB v3_1 12) <|
      some (st.1 (3 + (0 : Int32).toNatClampNeg) v3_1.toNatClampNeg)
    else
      fX2_between_1_42 v3_1 v4_2 st
set_option maxHeartbeats 1000000 in
theorem bX2_between_1 (C : Cx E s0 b p s m args meth c cX2_between 5 "EarthMesh$Mesh" (some .int)) (hI : Sx E) (v1 : Int32) (v2 : Int32) (st : St) {x : Int32} (hx : fX2_between_1 v1 v2 st = some x) {H : Heap} {locs : List Loc} {ls : Array Slot} (h : XH E (sg st) s H locs) (hl : lv_has ls 5 [(0, .ref (E.ad 1)), (1, .int v1), (2, .int v2)]) : W p l e rmX2_between_1 s m args below meth c H locs 0 0 (MQ below (Qx E (some (.int x)) (sg st)) args s 0 0 (gA E.HB)) (F0 m 0 ls []) := by
  unfold fX2_between_1 at hx
  refine lv_iload_n C.x C.bc dX2_between_0 rfl (lv_at hl 1 rfl) ?_
  refine lv_iload_n C.x C.bc dX2_between_1 rfl (lv_at hl 2 rfl) ?_
  refine va_mmin C.x C.bc (C.ml.trans hl.1.symm) C.ow (C.ts _ q1109) (C.ts _ q709) (C.ts _ q134) (C.ts _ q710) (Nat.le_of_ble_eq_true rfl) (Nat.le_of_ble_eq_true rfl) (Nat.zero_le _) (Nat.zero_le _) dX2_between_2 ?_
  obtain ⟨v3_1, e_1, hx⟩ := nm_x hx
  refine x_ti e_1 ?_
  refine lv_istore_n (lv' := [(3, .int v3_1), (0, .ref (E.ad 1)), (1, .int v1), (2, .int v2)]) C.x C.bc dX2_between_5 rfl hl (by decide) rfl (fun ls hl => ?_)
  refine lv_iload_n C.x C.bc dX2_between_6 rfl (lv_at hl 2 rfl) ?_
  refine lv_iload_n C.x C.bc dX2_between_7 rfl (lv_at hl 3 rfl) ?_
  refine va_mmax C.x C.bc (C.ml.trans hl.1.symm) C.ow (C.ts _ q1110) (C.ts _ q691) (C.ts _ q134) (C.ts _ q692) (Nat.le_of_ble_eq_true rfl) (Nat.le_of_ble_eq_true rfl) (Nat.zero_le _) (Nat.zero_le _) dX2_between_8 ?_
  obtain ⟨v4_2, e_2, hx⟩ := nm_x hx
  refine x_ti e_2 ?_
  refine lv_istore (lv' := [(4, .int v4_2), (3, .int v3_1), (0, .ref (E.ad 1)), (1, .int v1), (2, .int v2)]) C.x C.bc dX2_between_11 hl (by decide) rfl (fun ls hl => ?_)
  refine lv_aload_n C.x C.bc dX2_between_13 rfl (lv_at hl 2 rfl) ?_
  refine lv_iload_n C.x C.bc dX2_between_14 rfl (lv_at hl 1 rfl) ?_
  refine lv_iconst (v := (0 : Int32)) C.x C.bc dX2_between_15 (by decide) ?_
  obtain ⟨r_3, hf_3, hx⟩ := bd_e hx
  refine cX2_53_X2_hasPlace_1 C hI h hf_3 ⟨Nat.le_of_ble_eq_true rfl, Nat.le_of_ble_eq_true rfl⟩ ⟨Nat.zero_le _, Nat.zero_le _⟩ hl.1 (Nat.le_of_ble_eq_true rfl) dX2_between_16 (fun H locs h => ?_)
  refine lv_if_eq (tgt := 42) C.x C.bc dX2_between_19 (by decide) (fun c_4 => ?_) (fun c_4 => ?_)
  · have hx := ge_t hx c_4
    exact bX2_between_1_42 C hI v3_1 v4_2 st hx h (lv_sub hl [2, 1, 0] rfl)
  · have hx := ge_f hx c_4
    refine lv_iload C.x C.bc dX2_between_22 (lv_at hl 0 rfl) ?_
    refine lv_aload_n C.x C.bc dX2_between_24 rfl (lv_at hl 2 rfl) ?_
    refine lv_iload_n C.x C.bc dX2_between_25 rfl (lv_at hl 1 rfl) ?_
    refine lv_iconst (v := (0 : Int32)) C.x C.bc dX2_between_26 (by decide) ?_
    obtain ⟨r_11, e_11, hx⟩ := nm_x hx
    refine cX2_57_X2_end_1 C hI h e_11.symm ⟨Nat.le_of_ble_eq_true rfl, Nat.le_of_ble_eq_true rfl⟩ ⟨Nat.zero_le _, Nat.zero_le _⟩ hl.1 (Nat.le_of_ble_eq_true rfl) dX2_between_27 (fun H locs h => ?_)
    refine lv_icmp_ne (tgt := 42) C.x C.bc dX2_between_30 (by decide) (fun c_12 => ?_) (fun c_12 => ?_)
    · have hx := ge_f hx c_12
      exact bX2_between_1_42 C hI v3_1 v4_2 st hx h (lv_sub hl [2, 1, 0] rfl)
    · have hx := ge_t hx c_12
      refine lv_aload_n C.x C.bc dX2_between_33 rfl (lv_at hl 2 rfl) ?_
      refine gt_X2_41_1 C hI h dX2_between_34 ?_
      refine lv_iconst (v := (0 : Int32)) C.x C.bc dX2_between_37 (by decide) ?_
      obtain ⟨g_13, hx⟩ := gd_e hx
      refine y_row C h 2 3 4 3 (hI 2 (by decide)) k_2 (by decide) rfl rfl (fun _ _ => rfl) g_13 dX2_between_38 ?_
      refine lv_iload_n C.x C.bc dX2_between_39 rfl (lv_at hl 1 rfl) ?_
      obtain ⟨g_14, hx⟩ := gd_e hx
      refine x_iald C h (3 + (0 : Int32).toNatClampNeg) 12 (hI _ (by have := inB_lt g_13; omega)) (kg_3 _ (inB_lt g_13)) g_14 dX2_between_40 ?_
      obtain rfl := Option.some.inj hx
      exact x_iret C h dX2_between_41
theorem mX2_between_1 (hG : G0 E s0 b) (hI : Sx E) {v1 : Int32} {v2 : Int32} {x : Int32} (hx : fX2_between_1 v1 v2 st = some x) : Mt l E s0 yX2_between cX2_between 5 (some .int) rmX2_between_1 [.ref (E.ad 1), .int v1, .int v2] (sg st) (some (.int x)) E (sg st) :=
  Mt.of hG (by decide) (Nat.le_of_ble_eq_true rfl) (fun p e s m below meth c ls C h hl => bX2_between_1 C hI v1 v2 st hx h hl)
theorem cX2_64_X2_between_1 {a0 : Int32} {a1 : Int32} {r : Int32} (C : Cx E s0 b p s m args meth c cc nL "EarthMesh$Mesh" rt) (hI : Sx E) (h : XH E (sg st) s H locs) (hf : fX2_between_1 a0 a1 st = some r) (hR : rmX2_between_1.frames + 1 ≤ R.frames ∧ 16 + (5 + 11) + rmX2_between_1.locals ≤ R.locals) (h0 : cells ≤ R.cells ∧ slots ≤ R.slots) (hsz : ls.size = nL) (hcat : (rest.map fun v => v.category).sum ≤ 16) (hdg : decode cc pc = .ok (.invokevirtual 64, 3)) (kk : ∀ (H : Heap) (locs : List Loc), XH E (sg st) s H locs → W p l e R s m args below meth c H locs cells slots Q (F0 m (pc + 3) ls (.int r :: rest))) : W p l e R s m args below meth c H locs cells slots Q (F0 m pc ls (.int a1 :: .int a0 :: .ref (E.ad 1) :: rest)) :=
  x_callV (n := 2) (As := [.int a0, .int a1]) C h 1 1 (hI 1 (by decide)) k_1 rfl (mX2_between_1 C.g hI hf) (lw_V q1105 q1106 q1107 q131 q1108) ⟨rfl, by decide +kernel, by decide +kernel, by decide +kernel⟩ hR ⟨rfl, rfl⟩ h0 rfl hsz rfl hcat hdg kk
theorem cX3_59_X2_between_1 {a0 : Int32} {a1 : Int32} {r : Int32} (C : Cx E s0 b p s m args meth c cc nL "EarthMesh$Equations" rt) (hI : Sx E) (h : XH E (sg st) s H locs) (hf : fX2_between_1 a0 a1 st = some r) (hR : rmX2_between_1.frames + 1 ≤ R.frames ∧ 16 + (5 + 11) + rmX2_between_1.locals ≤ R.locals) (h0 : cells ≤ R.cells ∧ slots ≤ R.slots) (hsz : ls.size = nL) (hcat : (rest.map fun v => v.category).sum ≤ 16) (hdg : decode cc pc = .ok (.invokevirtual 59, 3)) (kk : ∀ (H : Heap) (locs : List Loc), XH E (sg st) s H locs → W p l e R s m args below meth c H locs cells slots Q (F0 m (pc + 3) ls (.int r :: rest))) : W p l e R s m args below meth c H locs cells slots Q (F0 m pc ls (.int a1 :: .int a0 :: .ref (E.ad 1) :: rest)) :=
  x_callV (n := 2) (As := [.int a0, .int a1]) C h 1 1 (hI 1 (by decide)) k_1 rfl (mX2_between_1 C.g hI hf) (lw_V q1149 q1106 q1107 q131 q1108) ⟨rfl, by decide +kernel, by decide +kernel, by decide +kernel⟩ hR ⟨rfl, rfl⟩ h0 rfl hsz rfl hcat hdg kk
abbrev rmX2_joined_1 : Room := { frames := 2, cells := 0, slots := 0, locals := 62 }
def fX2_joined_1_65 (v2 : Int32) (v3 : Int32) (v4 : Int32) (v5 : Int32) (st : St) : Option ((Int32 × Int32) ⊕ (Int32)) :=
  nm (v5 + (1 : Int32)) fun v5_8 =>
  some (.inl (v2, v5_8))
set_option maxHeartbeats 1000000 in
theorem bX2_joined_1_65 (C : Cx E s0 b p s m args meth c cX2_joined 6 "EarthMesh$Mesh" (some .int)) (hI : Sx E) (v2 : Int32) (v3 : Int32) (v4 : Int32) (v5 : Int32) (st : St) {x : (Int32 × Int32) ⊕ (Int32)} (hx : fX2_joined_1_65 v2 v3 v4 v5 st = some x) {Q : State → Prop} {G : Int32 × Int32 → Prop} {X : Int32 → Prop} (hG : ∀ (w2 : Int32) (w5 : Int32), G (w2, w5) → ∀ (H : Heap) (locs : List Loc) (ls : Array Slot), XH E (sg st) s H locs → lv_has ls 6 [(0, .ref (E.ad 1)), (2, .int w2), (3, .int v3), (4, .int v4), (5, .int w5)] → W p l e rmX2_joined_1 s m args below meth c H locs 0 0 Q (F0 m 28 ls [])) (hE0 : ∀ (w2 : Int32), X w2 → ∀ (H : Heap) (locs : List Loc) (ls : Array Slot), XH E (sg st) s H locs → lv_has ls 6 [(0, .ref (E.ad 1)), (2, .int w2), (3, .int v3), (4, .int v4)] → W p l e rmX2_joined_1 s m args below meth c H locs 0 0 Q (F0 m 71 ls [])) (K : Kx G X x) {H : Heap} {locs : List Loc} {ls : Array Slot} (h : XH E (sg st) s H locs) (hl : lv_has ls 6 [(0, .ref (E.ad 1)), (2, .int v2), (3, .int v3), (4, .int v4), (5, .int v5)]) : W p l e rmX2_joined_1 s m args below meth c H locs 0 0 Q (F0 m 65 ls []) := by
  unfold fX2_joined_1_65 at hx
  obtain ⟨v5_8, e_8, hx⟩ := nm_x hx
  refine lv_iinc (v := v5_8) (lv' := [(5, .int v5_8), (0, .ref (E.ad 1)), (2, .int v2), (3, .int v3), (4, .int v4)]) C.x C.bc dX2_joined_65 hl (k := 4) rfl (by rw [e_8]; rfl) (by decide) rfl (fun ls hl => ?_)
  refine lv_goto (tgt := 28) C.x C.bc dX2_joined_68 (by decide) ?_
  obtain rfl := Option.some.inj hx
  exact hG _ _ K _ _ _ h (lv_sub hl [1, 2, 3, 4, 0] rfl)
def fX2_joined_1_28 (v2 : Int32) (v3 : Int32) (v4 : Int32) (v5 : Int32) (st : St) : Option ((Int32 × Int32) ⊕ (Int32)) :=
  nm (fX2_nodes_1 st) fun r_5 =>
  if r_5 ≤ v5 then
    some (.inr v2)
  else
    if ((v2 >>> (v4 &&& 31)) &&& (1 : Int32)) = (1 : Int32) then
      bd (fX2_between_1 v4 v5 st) fun r_9 =>
      if r_9 ≤ 0 then
        fX2_joined_1_65 v2 v3 v4 v5 st
      else
        nm (v2 ||| ((1 : Int32) <<< (v5 &&& 31))) fun v2_11 =>
        fX2_joined_1_65 v2_11 v3 v4 v5 st
    else
      fX2_joined_1_65 v2 v3 v4 v5 st
set_option maxHeartbeats 1000000 in
theorem bX2_joined_1_28 (C : Cx E s0 b p s m args meth c cX2_joined 6 "EarthMesh$Mesh" (some .int)) (hI : Sx E) (v2 : Int32) (v3 : Int32) (v4 : Int32) (v5 : Int32) (st : St) {x : (Int32 × Int32) ⊕ (Int32)} (hx : fX2_joined_1_28 v2 v3 v4 v5 st = some x) {Q : State → Prop} {G : Int32 × Int32 → Prop} {X : Int32 → Prop} (hG : ∀ (w2 : Int32) (w5 : Int32), G (w2, w5) → ∀ (H : Heap) (locs : List Loc) (ls : Array Slot), XH E (sg st) s H locs → lv_has ls 6 [(0, .ref (E.ad 1)), (2, .int w2), (3, .int v3), (4, .int v4), (5, .int w5)] → W p l e rmX2_joined_1 s m args below meth c H locs 0 0 Q (F0 m 28 ls [])) (hE0 : ∀ (w2 : Int32), X w2 → ∀ (H : Heap) (locs : List Loc) (ls : Array Slot), XH E (sg st) s H locs → lv_has ls 6 [(0, .ref (E.ad 1)), (2, .int w2), (3, .int v3), (4, .int v4)] → W p l e rmX2_joined_1 s m args below meth c H locs 0 0 Q (F0 m 71 ls [])) (K : Kx G X x) {H : Heap} {locs : List Loc} {ls : Array Slot} (h : XH E (sg st) s H locs) (hl : lv_has ls 6 [(0, .ref (E.ad 1)), (2, .int v2), (3, .int v3), (4, .int v4), (5, .int v5)]) : W p l e rmX2_joined_1 s m args below meth c H locs 0 0 Q (F0 m 28 ls []) := by
  unfold fX2_joined_1_28 at hx
  refine lv_iload C.x C.bc dX2_joined_28 (lv_at hl 4 rfl) ?_
  refine lv_aload_n C.x C.bc dX2_joined_30 rfl (lv_at hl 0 rfl) ?_
  obtain ⟨r_5, e_5, hx⟩ := nm_x hx
  refine cX2_60_X2_nodes_1 C hI h e_5.symm ⟨Nat.le_of_ble_eq_true rfl, Nat.le_of_ble_eq_true rfl⟩ ⟨Nat.zero_le _, Nat.zero_le _⟩ hl.1 (Nat.le_of_ble_eq_true rfl) dX2_joined_31 (fun H locs h => ?_)
  refine lv_icmp_ge (tgt := 71) C.x C.bc dX2_joined_34 (by decide) (fun c_6 => ?_) (fun c_6 => ?_)
  · have hx := ge_t hx c_6
    obtain rfl := Option.some.inj hx
    exact hE0 _ K _ _ _ h (lv_sub hl [0, 1, 2, 3] rfl)
  · have hx := ge_f hx c_6
    refine lv_iload_n C.x C.bc dX2_joined_37 rfl (lv_at hl 1 rfl) ?_
    refine lv_iload C.x C.bc dX2_joined_38 (lv_at hl 3 rfl) ?_
    refine lv_ishr C.x C.bc dX2_joined_40 ?_
    refine lv_iconst (v := (1 : Int32)) C.x C.bc dX2_joined_41 (by decide) ?_
    refine lv_iand C.x C.bc dX2_joined_42 ?_
    refine lv_iconst (v := (1 : Int32)) C.x C.bc dX2_joined_43 (by decide) ?_
    refine lv_icmp_ne (tgt := 65) C.x C.bc dX2_joined_44 (by decide) (fun c_7 => ?_) (fun c_7 => ?_)
    · have hx := ge_f hx c_7
      exact bX2_joined_1_65 C hI v2 v3 v4 v5 st hx hG hE0 K h (lv_sub hl [0, 1, 2, 3, 4] rfl)
    · have hx := ge_t hx c_7
      refine lv_aload_n C.x C.bc dX2_joined_47 rfl (lv_at hl 0 rfl) ?_
      refine lv_iload C.x C.bc dX2_joined_48 (lv_at hl 3 rfl) ?_
      refine lv_iload C.x C.bc dX2_joined_50 (lv_at hl 4 rfl) ?_
      obtain ⟨r_9, hf_9, hx⟩ := bd_e hx
      refine cX2_64_X2_between_1 C hI h hf_9 ⟨Nat.le_of_ble_eq_true rfl, Nat.le_of_ble_eq_true rfl⟩ ⟨Nat.zero_le _, Nat.zero_le _⟩ hl.1 (Nat.le_of_ble_eq_true rfl) dX2_joined_52 (fun H locs h => ?_)
      refine lv_if_le (tgt := 65) C.x C.bc dX2_joined_55 (by decide) (fun c_10 => ?_) (fun c_10 => ?_)
      · have hx := ge_t hx c_10
        exact bX2_joined_1_65 C hI v2 v3 v4 v5 st hx hG hE0 K h (lv_sub hl [0, 1, 2, 3, 4] rfl)
      · have hx := ge_f hx c_10
        refine lv_iload_n C.x C.bc dX2_joined_58 rfl (lv_at hl 1 rfl) ?_
        refine lv_iconst (v := (1 : Int32)) C.x C.bc dX2_joined_59 (by decide) ?_
        refine lv_iload C.x C.bc dX2_joined_60 (lv_at hl 4 rfl) ?_
        refine lv_ishl C.x C.bc dX2_joined_62 ?_
        refine lv_ior C.x C.bc dX2_joined_63 ?_
        obtain ⟨v2_11, e_11, hx⟩ := nm_x hx
        refine x_ti e_11 ?_
        refine lv_istore_n (lv' := [(2, .int v2_11), (0, .ref (E.ad 1)), (3, .int v3), (4, .int v4), (5, .int v5)]) C.x C.bc dX2_joined_64 rfl hl (by decide) rfl (fun ls hl => ?_)
        exact bX2_joined_1_65 C hI v2_11 v3 v4 v5 st hx hG hE0 K h (lv_sub hl [1, 0, 2, 3, 4] rfl)
set_option maxHeartbeats 1000000 in
theorem pX2_joined_1_28 (C : Cx E s0 b p s m args meth c cX2_joined 6 "EarthMesh$Mesh" (some .int)) (hI : Sx E) (v3 : Int32) (v4 : Int32) (st : St) {Q : State → Prop} {v2 : Int32} {v5 : Int32} {n : Nat} {r : Int32} (hx : iter (u2 fun v2 v5 => fX2_joined_1_28 v2 v3 v4 v5 st) n (v2, v5) = some r) (hE : (fun t => ∀ (H : Heap) (locs : List Loc) (ls : Array Slot), XH E (sg st) s H locs → lv_has ls 6 [(0, .ref (E.ad 1)), (2, .int t), (3, .int v3), (4, .int v4)] → W p l e rmX2_joined_1 s m args below meth c H locs 0 0 Q (F0 m 71 ls [])) r) {H : Heap} {locs : List Loc} {ls : Array Slot} (h : XH E (sg st) s H locs) (hl : lv_has ls 6 [(0, .ref (E.ad 1)), (2, .int v2), (3, .int v3), (4, .int v4), (5, .int v5)]) : W p l e rmX2_joined_1 s m args below meth c H locs 0 0 Q (F0 m 28 ls []) := by
  refine iter_W (G := fun t => ∀ (H : Heap) (locs : List Loc) (ls : Array Slot), XH E (sg st) s H locs → lv_has ls 6 [(0, .ref (E.ad 1)), (2, .int t.1), (3, .int v3), (4, .int v4), (5, .int t.2)] → W p l e rmX2_joined_1 s m args below meth c H locs 0 0 Q (F0 m 28 ls [])) (E := fun t => ∀ (H : Heap) (locs : List Loc) (ls : Array Slot), XH E (sg st) s H locs → lv_has ls 6 [(0, .ref (E.ad 1)), (2, .int t), (3, .int v3), (4, .int v4)] → W p l e rmX2_joined_1 s m args below meth c H locs 0 0 Q (F0 m 71 ls [])) (fun t x hx K H locs ls h hl => ?_) n _ r hx hE H locs ls h hl
  obtain ⟨v2, v5⟩ := t
  exact bX2_joined_1_28 C hI v2 v3 v4 v5 st hx (fun _ _ z => z) (fun _ z => z) K h hl
def fX2_joined_1_16 (v2 : Int32) (v3 : Int32) (v4 : Int32) (st : St) : Option ((Int32 × Int32) ⊕ (Int32)) :=
  nm (fX2_nodes_1 st) fun r_3 =>
  if r_3 ≤ v4 then
    some (.inr v2)
  else
    bd (iter (u2 fun z2 z5 => fX2_joined_1_28 z2 v3 v4 z5 st) FU (v2, (0 : Int32))) (u1 fun v2_12 =>
    nm (v4 + (1 : Int32)) fun v4_13 =>
    some (.inl (v2_12, v4_13)))
set_option maxHeartbeats 1000000 in
theorem bX2_joined_1_16 (C : Cx E s0 b p s m args meth c cX2_joined 6 "EarthMesh$Mesh" (some .int)) (hI : Sx E) (v2 : Int32) (v3 : Int32) (v4 : Int32) (st : St) {x : (Int32 × Int32) ⊕ (Int32)} (hx : fX2_joined_1_16 v2 v3 v4 st = some x) {Q : State → Prop} {G : Int32 × Int32 → Prop} {X : Int32 → Prop} (hG : ∀ (w2 : Int32) (w4 : Int32), G (w2, w4) → ∀ (H : Heap) (locs : List Loc) (ls : Array Slot), XH E (sg st) s H locs → lv_has ls 6 [(0, .ref (E.ad 1)), (2, .int w2), (3, .int v3), (4, .int w4)] → W p l e rmX2_joined_1 s m args below meth c H locs 0 0 Q (F0 m 16 ls [])) (hE0 : ∀ (w2 : Int32), X w2 → ∀ (H : Heap) (locs : List Loc) (ls : Array Slot), XH E (sg st) s H locs → lv_has ls 6 [(0, .ref (E.ad 1)), (2, .int w2), (3, .int v3)] → W p l e rmX2_joined_1 s m args below meth c H locs 0 0 Q (F0 m 77 ls [])) (K : Kx G X x) {H : Heap} {locs : List Loc} {ls : Array Slot} (h : XH E (sg st) s H locs) (hl : lv_has ls 6 [(0, .ref (E.ad 1)), (2, .int v2), (3, .int v3), (4, .int v4)]) : W p l e rmX2_joined_1 s m args below meth c H locs 0 0 Q (F0 m 16 ls []) := by
  unfold fX2_joined_1_16 at hx
  refine lv_iload C.x C.bc dX2_joined_16 (lv_at hl 3 rfl) ?_
  refine lv_aload_n C.x C.bc dX2_joined_18 rfl (lv_at hl 0 rfl) ?_
  obtain ⟨r_3, e_3, hx⟩ := nm_x hx
  refine cX2_60_X2_nodes_1 C hI h e_3.symm ⟨Nat.le_of_ble_eq_true rfl, Nat.le_of_ble_eq_true rfl⟩ ⟨Nat.zero_le _, Nat.zero_le _⟩ hl.1 (Nat.le_of_ble_eq_true rfl) dX2_joined_19 (fun H locs h => ?_)
  refine lv_icmp_ge (tgt := 77) C.x C.bc dX2_joined_22 (by decide) (fun c_4 => ?_) (fun c_4 => ?_)
  · have hx := ge_t hx c_4
    obtain rfl := Option.some.inj hx
    exact hE0 _ K _ _ _ h (lv_sub hl [0, 1, 2] rfl)
  · have hx := ge_f hx c_4
    refine lv_iconst (v := (0 : Int32)) C.x C.bc dX2_joined_25 (by decide) ?_
    refine lv_istore (lv' := [(5, .int (0 : Int32)), (0, .ref (E.ad 1)), (2, .int v2), (3, .int v3), (4, .int v4)]) C.x C.bc dX2_joined_26 hl (by decide) rfl (fun ls hl => ?_)
    obtain ⟨v2_12, hi_12, hx⟩ := bd_e hx
    have hx := u1_e hx
    refine pX2_joined_1_28 C hI v3 v4 st hi_12 (fun H locs ls h hl => ?_) h (lv_sub hl [1, 2, 3, 4, 0] rfl)
    obtain ⟨v4_13, e_13, hx⟩ := nm_x hx
    refine lv_iinc (v := v4_13) (lv' := [(4, .int v4_13), (0, .ref (E.ad 1)), (2, .int v2_12), (3, .int v3)]) C.x C.bc dX2_joined_71 hl (k := 3) rfl (by rw [e_13]; rfl) (by decide) rfl (fun ls hl => ?_)
    refine lv_goto (tgt := 16) C.x C.bc dX2_joined_74 (by decide) ?_
    obtain rfl := Option.some.inj hx
    exact hG _ _ K _ _ _ h (lv_sub hl [1, 2, 3, 0] rfl)
set_option maxHeartbeats 1000000 in
theorem pX2_joined_1_16 (C : Cx E s0 b p s m args meth c cX2_joined 6 "EarthMesh$Mesh" (some .int)) (hI : Sx E) (v3 : Int32) (st : St) {Q : State → Prop} {v2 : Int32} {v4 : Int32} {n : Nat} {r : Int32} (hx : iter (u2 fun v2 v4 => fX2_joined_1_16 v2 v3 v4 st) n (v2, v4) = some r) (hE : (fun t => ∀ (H : Heap) (locs : List Loc) (ls : Array Slot), XH E (sg st) s H locs → lv_has ls 6 [(0, .ref (E.ad 1)), (2, .int t), (3, .int v3)] → W p l e rmX2_joined_1 s m args below meth c H locs 0 0 Q (F0 m 77 ls [])) r) {H : Heap} {locs : List Loc} {ls : Array Slot} (h : XH E (sg st) s H locs) (hl : lv_has ls 6 [(0, .ref (E.ad 1)), (2, .int v2), (3, .int v3), (4, .int v4)]) : W p l e rmX2_joined_1 s m args below meth c H locs 0 0 Q (F0 m 16 ls []) := by
  refine iter_W (G := fun t => ∀ (H : Heap) (locs : List Loc) (ls : Array Slot), XH E (sg st) s H locs → lv_has ls 6 [(0, .ref (E.ad 1)), (2, .int t.1), (3, .int v3), (4, .int t.2)] → W p l e rmX2_joined_1 s m args below meth c H locs 0 0 Q (F0 m 16 ls [])) (E := fun t => ∀ (H : Heap) (locs : List Loc) (ls : Array Slot), XH E (sg st) s H locs → lv_has ls 6 [(0, .ref (E.ad 1)), (2, .int t), (3, .int v3)] → W p l e rmX2_joined_1 s m args below meth c H locs 0 0 Q (F0 m 77 ls [])) (fun t x hx K H locs ls h hl => ?_) n _ r hx hE H locs ls h hl
  obtain ⟨v2, v4⟩ := t
  exact bX2_joined_1_16 C hI v2 v3 v4 st hx (fun _ _ z => z) (fun _ z => z) K h hl
def fX2_joined_1_6 (v2 : Int32) (v3 : Int32) (st : St) : Option ((Int32 × Int32) ⊕ (Int32)) :=
  if v3 = v2 then
    some (.inr v2)
  else
    bd (iter (u2 fun z2 z4 => fX2_joined_1_16 z2 v2 z4 st) FU (v2, (0 : Int32))) (u1 fun v2_14 =>
    some (.inl (v2_14, v2)))
set_option maxHeartbeats 1000000 in
theorem bX2_joined_1_6 (C : Cx E s0 b p s m args meth c cX2_joined 6 "EarthMesh$Mesh" (some .int)) (hI : Sx E) (v2 : Int32) (v3 : Int32) (st : St) {x : (Int32 × Int32) ⊕ (Int32)} (hx : fX2_joined_1_6 v2 v3 st = some x) {Q : State → Prop} {G : Int32 × Int32 → Prop} {X : Int32 → Prop} (hG : ∀ (w2 : Int32) (w3 : Int32), G (w2, w3) → ∀ (H : Heap) (locs : List Loc) (ls : Array Slot), XH E (sg st) s H locs → lv_has ls 6 [(0, .ref (E.ad 1)), (2, .int w2), (3, .int w3)] → W p l e rmX2_joined_1 s m args below meth c H locs 0 0 Q (F0 m 6 ls [])) (hE0 : ∀ (w2 : Int32), X w2 → ∀ (H : Heap) (locs : List Loc) (ls : Array Slot), XH E (sg st) s H locs → lv_has ls 6 [(2, .int w2)] → W p l e rmX2_joined_1 s m args below meth c H locs 0 0 Q (F0 m 80 ls [])) (K : Kx G X x) {H : Heap} {locs : List Loc} {ls : Array Slot} (h : XH E (sg st) s H locs) (hl : lv_has ls 6 [(0, .ref (E.ad 1)), (2, .int v2), (3, .int v3)]) : W p l e rmX2_joined_1 s m args below meth c H locs 0 0 Q (F0 m 6 ls []) := by
  unfold fX2_joined_1_6 at hx
  refine lv_iload_n C.x C.bc dX2_joined_6 rfl (lv_at hl 2 rfl) ?_
  refine lv_iload_n C.x C.bc dX2_joined_7 rfl (lv_at hl 1 rfl) ?_
  refine lv_icmp_eq (tgt := 80) C.x C.bc dX2_joined_8 (by decide) (fun c_2 => ?_) (fun c_2 => ?_)
  · have hx := ge_t hx c_2
    obtain rfl := Option.some.inj hx
    exact hE0 _ K _ _ _ h (lv_sub hl [1] rfl)
  · have hx := ge_f hx c_2
    refine lv_iload_n C.x C.bc dX2_joined_11 rfl (lv_at hl 1 rfl) ?_
    refine lv_istore_n (lv' := [(3, .int v2), (0, .ref (E.ad 1)), (2, .int v2)]) C.x C.bc dX2_joined_12 rfl hl (by decide) rfl (fun ls hl => ?_)
    refine lv_iconst (v := (0 : Int32)) C.x C.bc dX2_joined_13 (by decide) ?_
    refine lv_istore (lv' := [(4, .int (0 : Int32)), (3, .int v2), (0, .ref (E.ad 1)), (2, .int v2)]) C.x C.bc dX2_joined_14 hl (by decide) rfl (fun ls hl => ?_)
    obtain ⟨v2_14, hi_14, hx⟩ := bd_e hx
    have hx := u1_e hx
    refine pX2_joined_1_16 C hI v2 st hi_14 (fun H locs ls h hl => ?_) h (lv_sub hl [2, 3, 1, 0] rfl)
    refine lv_goto (tgt := 6) C.x C.bc dX2_joined_77 (by decide) ?_
    obtain rfl := Option.some.inj hx
    exact hG _ _ K _ _ _ h (lv_sub hl [0, 1, 2] rfl)
set_option maxHeartbeats 1000000 in
theorem pX2_joined_1_6 (C : Cx E s0 b p s m args meth c cX2_joined 6 "EarthMesh$Mesh" (some .int)) (hI : Sx E) (st : St) {Q : State → Prop} {v2 : Int32} {v3 : Int32} {n : Nat} {r : Int32} (hx : iter (u2 fun v2 v3 => fX2_joined_1_6 v2 v3 st) n (v2, v3) = some r) (hE : (fun t => ∀ (H : Heap) (locs : List Loc) (ls : Array Slot), XH E (sg st) s H locs → lv_has ls 6 [(2, .int t)] → W p l e rmX2_joined_1 s m args below meth c H locs 0 0 Q (F0 m 80 ls [])) r) {H : Heap} {locs : List Loc} {ls : Array Slot} (h : XH E (sg st) s H locs) (hl : lv_has ls 6 [(0, .ref (E.ad 1)), (2, .int v2), (3, .int v3)]) : W p l e rmX2_joined_1 s m args below meth c H locs 0 0 Q (F0 m 6 ls []) := by
  refine iter_W (G := fun t => ∀ (H : Heap) (locs : List Loc) (ls : Array Slot), XH E (sg st) s H locs → lv_has ls 6 [(0, .ref (E.ad 1)), (2, .int t.1), (3, .int t.2)] → W p l e rmX2_joined_1 s m args below meth c H locs 0 0 Q (F0 m 6 ls [])) (E := fun t => ∀ (H : Heap) (locs : List Loc) (ls : Array Slot), XH E (sg st) s H locs → lv_has ls 6 [(2, .int t)] → W p l e rmX2_joined_1 s m args below meth c H locs 0 0 Q (F0 m 80 ls [])) (fun t x hx K H locs ls h hl => ?_) n _ r hx hE H locs ls h hl
  obtain ⟨v2, v3⟩ := t
  exact bX2_joined_1_6 C hI v2 v3 st hx (fun _ _ z => z) (fun _ z => z) K h hl
def fX2_joined_1 (v1 : Int32) (st : St) : Option (Int32) :=
  nm ((1 : Int32) <<< (v1 &&& 31)) fun v2_1 =>
  bd (iter (u2 fun z2 z3 => fX2_joined_1_6 z2 z3 st) FU (v2_1, (0 : Int32))) (u1 fun v2_15 =>
  some v2_15)
set_option maxHeartbeats 1000000 in
theorem bX2_joined_1 (C : Cx E s0 b p s m args meth c cX2_joined 6 "EarthMesh$Mesh" (some .int)) (hI : Sx E) (v1 : Int32) (st : St) {x : Int32} (hx : fX2_joined_1 v1 st = some x) {H : Heap} {locs : List Loc} {ls : Array Slot} (h : XH E (sg st) s H locs) (hl : lv_has ls 6 [(0, .ref (E.ad 1)), (1, .int v1)]) : W p l e rmX2_joined_1 s m args below meth c H locs 0 0 (MQ below (Qx E (some (.int x)) (sg st)) args s 0 0 (gA E.HB)) (F0 m 0 ls []) := by
  unfold fX2_joined_1 at hx
  refine lv_iconst (v := (1 : Int32)) C.x C.bc dX2_joined_0 (by decide) ?_
  refine lv_iload_n C.x C.bc dX2_joined_1 rfl (lv_at hl 1 rfl) ?_
  refine lv_ishl C.x C.bc dX2_joined_2 ?_
  obtain ⟨v2_1, e_1, hx⟩ := nm_x hx
  refine x_ti e_1 ?_
  refine lv_istore_n (lv' := [(2, .int v2_1), (0, .ref (E.ad 1)), (1, .int v1)]) C.x C.bc dX2_joined_3 rfl hl (by decide) rfl (fun ls hl => ?_)
  refine lv_iconst (v := (0 : Int32)) C.x C.bc dX2_joined_4 (by decide) ?_
  refine lv_istore_n (lv' := [(3, .int (0 : Int32)), (2, .int v2_1), (0, .ref (E.ad 1)), (1, .int v1)]) C.x C.bc dX2_joined_5 rfl hl (by decide) rfl (fun ls hl => ?_)
  obtain ⟨v2_15, hi_15, hx⟩ := bd_e hx
  have hx := u1_e hx
  refine pX2_joined_1_6 C hI st hi_15 (fun H locs ls h hl => ?_) h (lv_sub hl [2, 1, 0] rfl)
  refine lv_iload_n C.x C.bc dX2_joined_80 rfl (lv_at hl 0 rfl) ?_
  obtain rfl := Option.some.inj hx
  exact x_iret C h dX2_joined_81
theorem mX2_joined_1 (hG : G0 E s0 b) (hI : Sx E) {v1 : Int32} {x : Int32} (hx : fX2_joined_1 v1 st = some x) : Mt l E s0 yX2_joined cX2_joined 6 (some .int) rmX2_joined_1 [.ref (E.ad 1), .int v1] (sg st) (some (.int x)) E (sg st) :=
  Mt.of hG (by decide) (Nat.le_of_ble_eq_true rfl) (fun p e s m below meth c ls C h hl => bX2_joined_1 C hI v1 st hx h hl)
abbrev rmX2_floats_1 : Room := { frames := 1, cells := 0, slots := 0, locals := 28 }
def fX2_floats_1_32 (v1 : Int32) (v2 : Int32) (st : St) : Option ((Int32) ⊕ ((Unit) ⊕ (Unit))) :=
  nm (v2 + (1 : Int32)) fun v2_4 =>
  some (.inl v2_4)
set_option maxHeartbeats 1000000 in
theorem bX2_floats_1_32 (C : Cx E s0 b p s m args meth c cX2_floats 3 "EarthMesh$Mesh" (some .boolean)) (hI : Sx E) (v1 : Int32) (v2 : Int32) (st : St) {x : (Int32) ⊕ ((Unit) ⊕ (Unit))} (hx : fX2_floats_1_32 v1 v2 st = some x) {Q : State → Prop} {G : Int32 → Prop} {X : (Unit) ⊕ (Unit) → Prop} (hG : ∀ (w2 : Int32), G w2 → ∀ (H : Heap) (locs : List Loc) (ls : Array Slot), XH E (sg st) s H locs → lv_has ls 3 [(0, .ref (E.ad 1)), (1, .int v1), (2, .int w2)] → W p l e rmX2_floats_1 s m args below meth c H locs 0 0 Q (F0 m 2 ls [])) (hE0 : X (.inl ()) → ∀ (H : Heap) (locs : List Loc) (ls : Array Slot), XH E (sg st) s H locs → lv_has ls 3 [] → W p l e rmX2_floats_1 s m args below meth c H locs 0 0 Q (F0 m 30 ls [])) (hE1 : X (.inr ()) → ∀ (H : Heap) (locs : List Loc) (ls : Array Slot), XH E (sg st) s H locs → lv_has ls 3 [] → W p l e rmX2_floats_1 s m args below meth c H locs 0 0 Q (F0 m 38 ls [])) (K : Kx G X x) {H : Heap} {locs : List Loc} {ls : Array Slot} (h : XH E (sg st) s H locs) (hl : lv_has ls 3 [(0, .ref (E.ad 1)), (1, .int v1), (2, .int v2)]) : W p l e rmX2_floats_1 s m args below meth c H locs 0 0 Q (F0 m 32 ls []) := by
  unfold fX2_floats_1_32 at hx
  obtain ⟨v2_4, e_4, hx⟩ := nm_x hx
  refine lv_iinc (v := v2_4) (lv' := [(2, .int v2_4), (0, .ref (E.ad 1)), (1, .int v1)]) C.x C.bc dX2_floats_32 hl (k := 2) rfl (by rw [e_4]; rfl) (by decide) rfl (fun ls hl => ?_)
  refine lv_goto (tgt := 2) C.x C.bc dX2_floats_35 (by decide) ?_
  obtain rfl := Option.some.inj hx
  exact hG _ K _ _ _ h (lv_sub hl [1, 2, 0] rfl)
def fX2_floats_1_2 (v1 : Int32) (v2 : Int32) (st : St) : Option ((Int32) ⊕ ((Unit) ⊕ (Unit))) :=
  nm (fX2_nodes_1 st) fun r_1 =>
  if r_1 ≤ v2 then
    some (.inr (.inr ()))
  else
    if ((v1 >>> (v2 &&& 31)) &&& (1 : Int32)) = (1 : Int32) then
      gd (inB (2 : Int32) 3) <|
      gd (inB v2 12) <|
      if (st.1 (3 + (2 : Int32).toNatClampNeg) v2.toNatClampNeg) ≤ 0 then
        fX2_floats_1_32 v1 v2 st
      else
        some (.inr (.inl ()))
    else
      fX2_floats_1_32 v1 v2 st
set_option maxHeartbeats 1000000 in
theorem bX2_floats_1_2 (C : Cx E s0 b p s m args meth c cX2_floats 3 "EarthMesh$Mesh" (some .boolean)) (hI : Sx E) (v1 : Int32) (v2 : Int32) (st : St) {x : (Int32) ⊕ ((Unit) ⊕ (Unit))} (hx : fX2_floats_1_2 v1 v2 st = some x) {Q : State → Prop} {G : Int32 → Prop} {X : (Unit) ⊕ (Unit) → Prop} (hG : ∀ (w2 : Int32), G w2 → ∀ (H : Heap) (locs : List Loc) (ls : Array Slot), XH E (sg st) s H locs → lv_has ls 3 [(0, .ref (E.ad 1)), (1, .int v1), (2, .int w2)] → W p l e rmX2_floats_1 s m args below meth c H locs 0 0 Q (F0 m 2 ls [])) (hE0 : X (.inl ()) → ∀ (H : Heap) (locs : List Loc) (ls : Array Slot), XH E (sg st) s H locs → lv_has ls 3 [] → W p l e rmX2_floats_1 s m args below meth c H locs 0 0 Q (F0 m 30 ls [])) (hE1 : X (.inr ()) → ∀ (H : Heap) (locs : List Loc) (ls : Array Slot), XH E (sg st) s H locs → lv_has ls 3 [] → W p l e rmX2_floats_1 s m args below meth c H locs 0 0 Q (F0 m 38 ls [])) (K : Kx G X x) {H : Heap} {locs : List Loc} {ls : Array Slot} (h : XH E (sg st) s H locs) (hl : lv_has ls 3 [(0, .ref (E.ad 1)), (1, .int v1), (2, .int v2)]) : W p l e rmX2_floats_1 s m args below meth c H locs 0 0 Q (F0 m 2 ls []) := by
  unfold fX2_floats_1_2 at hx
  refine lv_iload_n C.x C.bc dX2_floats_2 rfl (lv_at hl 2 rfl) ?_
  refine lv_aload_n C.x C.bc dX2_floats_3 rfl (lv_at hl 0 rfl) ?_
  obtain ⟨r_1, e_1, hx⟩ := nm_x hx
  refine cX2_60_X2_nodes_1 C hI h e_1.symm ⟨Nat.le_of_ble_eq_true rfl, Nat.le_of_ble_eq_true rfl⟩ ⟨Nat.zero_le _, Nat.zero_le _⟩ hl.1 (Nat.le_of_ble_eq_true rfl) dX2_floats_4 (fun H locs h => ?_)
  refine lv_icmp_ge (tgt := 38) C.x C.bc dX2_floats_7 (by decide) (fun c_2 => ?_) (fun c_2 => ?_)
  · have hx := ge_t hx c_2
    obtain rfl := Option.some.inj hx
    exact hE1  K _ _ _ h (lv_sub hl [] rfl)
  · have hx := ge_f hx c_2
    refine lv_iload_n C.x C.bc dX2_floats_10 rfl (lv_at hl 1 rfl) ?_
    refine lv_iload_n C.x C.bc dX2_floats_11 rfl (lv_at hl 2 rfl) ?_
    refine lv_ishr C.x C.bc dX2_floats_12 ?_
    refine lv_iconst (v := (1 : Int32)) C.x C.bc dX2_floats_13 (by decide) ?_
    refine lv_iand C.x C.bc dX2_floats_14 ?_
    refine lv_iconst (v := (1 : Int32)) C.x C.bc dX2_floats_15 (by decide) ?_
    refine lv_icmp_ne (tgt := 32) C.x C.bc dX2_floats_16 (by decide) (fun c_3 => ?_) (fun c_3 => ?_)
    · have hx := ge_f hx c_3
      exact bX2_floats_1_32 C hI v1 v2 st hx hG hE0 hE1 K h (lv_sub hl [0, 1, 2] rfl)
    · have hx := ge_t hx c_3
      refine lv_aload_n C.x C.bc dX2_floats_19 rfl (lv_at hl 0 rfl) ?_
      refine gt_X2_41_1 C hI h dX2_floats_20 ?_
      refine lv_iconst (v := (2 : Int32)) C.x C.bc dX2_floats_23 (by decide) ?_
      obtain ⟨g_5, hx⟩ := gd_e hx
      refine y_row C h 2 3 4 3 (hI 2 (by decide)) k_2 (by decide) rfl rfl (fun _ _ => rfl) g_5 dX2_floats_24 ?_
      refine lv_iload_n C.x C.bc dX2_floats_25 rfl (lv_at hl 2 rfl) ?_
      obtain ⟨g_6, hx⟩ := gd_e hx
      refine x_iald C h (3 + (2 : Int32).toNatClampNeg) 12 (hI _ (by have := inB_lt g_5; omega)) (kg_3 _ (inB_lt g_5)) g_6 dX2_floats_26 ?_
      refine lv_if_le (tgt := 32) C.x C.bc dX2_floats_27 (by decide) (fun c_7 => ?_) (fun c_7 => ?_)
      · have hx := ge_t hx c_7
        exact bX2_floats_1_32 C hI v1 v2 st hx hG hE0 hE1 K h (lv_sub hl [0, 1, 2] rfl)
      · have hx := ge_f hx c_7
        obtain rfl := Option.some.inj hx
        exact hE0  K _ _ _ h (lv_sub hl [] rfl)
set_option maxHeartbeats 1000000 in
theorem pX2_floats_1_2 (C : Cx E s0 b p s m args meth c cX2_floats 3 "EarthMesh$Mesh" (some .boolean)) (hI : Sx E) (v1 : Int32) (st : St) {Q : State → Prop} {v2 : Int32} {n : Nat} {r : (Unit) ⊕ (Unit)} (hx : iter (u1 fun v2 => fX2_floats_1_2 v1 v2 st) n v2 = some r) (hE : (fun t => match t with | (.inl t) => (∀ (H : Heap) (locs : List Loc) (ls : Array Slot), XH E (sg st) s H locs → lv_has ls 3 [] → W p l e rmX2_floats_1 s m args below meth c H locs 0 0 Q (F0 m 30 ls [])) | (.inr t) => (∀ (H : Heap) (locs : List Loc) (ls : Array Slot), XH E (sg st) s H locs → lv_has ls 3 [] → W p l e rmX2_floats_1 s m args below meth c H locs 0 0 Q (F0 m 38 ls []))) r) {H : Heap} {locs : List Loc} {ls : Array Slot} (h : XH E (sg st) s H locs) (hl : lv_has ls 3 [(0, .ref (E.ad 1)), (1, .int v1), (2, .int v2)]) : W p l e rmX2_floats_1 s m args below meth c H locs 0 0 Q (F0 m 2 ls []) := by
  refine iter_W (G := fun t => ∀ (H : Heap) (locs : List Loc) (ls : Array Slot), XH E (sg st) s H locs → lv_has ls 3 [(0, .ref (E.ad 1)), (1, .int v1), (2, .int t)] → W p l e rmX2_floats_1 s m args below meth c H locs 0 0 Q (F0 m 2 ls [])) (E := fun t => match t with | (.inl t) => (∀ (H : Heap) (locs : List Loc) (ls : Array Slot), XH E (sg st) s H locs → lv_has ls 3 [] → W p l e rmX2_floats_1 s m args below meth c H locs 0 0 Q (F0 m 30 ls [])) | (.inr t) => (∀ (H : Heap) (locs : List Loc) (ls : Array Slot), XH E (sg st) s H locs → lv_has ls 3 [] → W p l e rmX2_floats_1 s m args below meth c H locs 0 0 Q (F0 m 38 ls []))) (fun v2 x hx K H locs ls h hl => ?_) n _ r hx hE H locs ls h hl
  exact bX2_floats_1_2 C hI v1 v2 st hx (fun _ z => z) (fun z => z) (fun z => z) K h hl
def fX2_floats_1 (v1 : Int32) (st : St) : Option (Int32) :=
  bd (iter (u1 fun z2 => fX2_floats_1_2 v1 z2 st) FU (0 : Int32)) (Sum.elim (u1 fun _ =>
    some (0 : Int32)) (u1 fun _ =>
    some (1 : Int32)))
set_option maxHeartbeats 1000000 in
theorem bX2_floats_1 (C : Cx E s0 b p s m args meth c cX2_floats 3 "EarthMesh$Mesh" (some .boolean)) (hI : Sx E) (v1 : Int32) (st : St) {x : Int32} (hx : fX2_floats_1 v1 st = some x) {H : Heap} {locs : List Loc} {ls : Array Slot} (h : XH E (sg st) s H locs) (hl : lv_has ls 3 [(0, .ref (E.ad 1)), (1, .int v1)]) : W p l e rmX2_floats_1 s m args below meth c H locs 0 0 (MQ below (Qx E (some (.int x)) (sg st)) args s 0 0 (gA E.HB)) (F0 m 0 ls []) := by
  unfold fX2_floats_1 at hx
  refine lv_iconst (v := (0 : Int32)) C.x C.bc dX2_floats_0 (by decide) ?_
  refine lv_istore_n (lv' := [(2, .int (0 : Int32)), (0, .ref (E.ad 1)), (1, .int v1)]) C.x C.bc dX2_floats_1 rfl hl (by decide) rfl (fun ls hl => ?_)
  obtain ⟨r_8, hi_8, hx⟩ := bd_e hx
  rcases r_8 with _ | _
  · have hx := sl_e hx; have hx := u1_e hx
    refine pX2_floats_1_2 C hI v1 st hi_8 (fun H locs ls h hl => ?_) h (lv_sub hl [1, 2, 0] rfl)
    refine lv_iconst (v := (0 : Int32)) C.x C.bc dX2_floats_30 (by decide) ?_
    obtain rfl := Option.some.inj hx
    exact x_zret (v := (0 : Int32)) C h rfl dX2_floats_31
  · have hx := sr_e hx; have hx := u1_e hx
    refine pX2_floats_1_2 C hI v1 st hi_8 (fun H locs ls h hl => ?_) h (lv_sub hl [1, 2, 0] rfl)
    refine lv_iconst (v := (1 : Int32)) C.x C.bc dX2_floats_38 (by decide) ?_
    obtain rfl := Option.some.inj hx
    exact x_zret (v := (1 : Int32)) C h rfl dX2_floats_39
theorem mX2_floats_1 (hG : G0 E s0 b) (hI : Sx E) {v1 : Int32} {x : Int32} (hx : fX2_floats_1 v1 st = some x) : Mt l E s0 yX2_floats cX2_floats 3 (some .boolean) rmX2_floats_1 [.ref (E.ad 1), .int v1] (sg st) (some (.int x)) E (sg st) :=
  Mt.of hG (by decide) (Nat.le_of_ble_eq_true rfl) (fun p e s m below meth c ls C h hl => bX2_floats_1 C hI v1 st hx h hl)
abbrev rmX2_unit_1 : Room := { frames := 0, cells := 0, slots := 0, locals := 0 }
def fX2_unit_1 (v1 : Int32) (st : St) : Int32 :=
  if v1 = (2 : Int32) then
    (st.1 1 8)
  else
    (st.1 1 7)
set_option maxHeartbeats 1000000 in
theorem bX2_unit_1 (C : Cx E s0 b p s m args meth c cX2_unit 2 "EarthMesh$Mesh" (some .int)) (hI : Sx E) (v1 : Int32) (st : St) {x : Int32} (hx : fX2_unit_1 v1 st = x) {H : Heap} {locs : List Loc} {ls : Array Slot} (h : XH E (sg st) s H locs) (hl : lv_has ls 2 [(0, .ref (E.ad 1)), (1, .int v1)]) : W p l e rmX2_unit_1 s m args below meth c H locs 0 0 (MQ below (Qx E (some (.int x)) (sg st)) args s 0 0 (gA E.HB)) (F0 m 0 ls []) := by
  unfold fX2_unit_1 at hx
  refine lv_iload_n C.x C.bc dX2_unit_0 rfl (lv_at hl 1 rfl) ?_
  refine lv_iconst (v := (2 : Int32)) C.x C.bc dX2_unit_1 (by decide) ?_
  refine lv_icmp_ne (tgt := 12) C.x C.bc dX2_unit_2 (by decide) (fun c_1 => ?_) (fun c_1 => ?_)
  · have hx := ge_f hx c_1
    refine lv_aload_n C.x C.bc dX2_unit_12 rfl (lv_at hl 0 rfl) ?_
    refine gt_X2_30_1 C hI h dX2_unit_13 ?_
    subst hx
    exact x_iret C h dX2_unit_16
  · have hx := ge_t hx c_1
    refine lv_aload_n C.x C.bc dX2_unit_5 rfl (lv_at hl 0 rfl) ?_
    refine gt_X2_33_1 C hI h dX2_unit_6 ?_
    refine lv_goto (tgt := 16) C.x C.bc dX2_unit_9 (by decide) ?_
    subst hx
    exact x_iret C h dX2_unit_16
theorem mX2_unit_1 (hG : G0 E s0 b) (hI : Sx E) {v1 : Int32} {x : Int32} (hx : fX2_unit_1 v1 st = x) : Mt l E s0 yX2_unit cX2_unit 2 (some .int) rmX2_unit_1 [.ref (E.ad 1), .int v1] (sg st) (some (.int x)) E (sg st) :=
  Mt.of hG (by decide) (Nat.le_of_ble_eq_true rfl) (fun p e s m below meth c ls C h hl => bX2_unit_1 C hI v1 st hx h hl)
abbrev rmX4_lays_7 : Room := { frames := 1, cells := 0, slots := 0, locals := 33 }
def fX4_lays_7_12 (v2 : Int32) (v3 : Int64) (v5 : Int32) (v6 : Int32) (st : St) : Option ((Int32 × St) ⊕ (St)) :=
  if v2 ≤ v6 then
    some (.inr st)
  else
    gd (inB v5 12) <|
    bd (st.2.2 34 v5.toNatClampNeg) fun w_4 =>
    gd (inG w_4 35 12) <|
    gd (inB v5 12) <|
    gd (inB v6 12) <|
    bd (fJ0_floorMod (st.2.1 (8 + v5.toNatClampNeg) v6.toNatClampNeg) v3) fun r_8 =>
    gd (inB v6 13) <|
    nm (uL st w_4 v6.toNatClampNeg r_8) fun st_10 =>
    nm (v6 + (1 : Int32)) fun v6_11 =>
    some (.inl (v6_11, st_10))
set_option maxHeartbeats 1000000 in
theorem bX4_lays_7_12 (C : Cx E s0 b p s m args meth c cX4_lays 7 "EarthMesh$Determinant" none) (hI : Sx E) (v2 : Int32) (v3 : Int64) (v5 : Int32) (v6 : Int32) (st : St) {x : (Int32 × St) ⊕ (St)} (hx : fX4_lays_7_12 v2 v3 v5 v6 st = some x) {Q : State → Prop} {G : Int32 × St → Prop} {X : St → Prop} (hG : ∀ (w6 : Int32) (wst : St), G (w6, wst) → ∀ (H : Heap) (locs : List Loc) (ls : Array Slot), XH E (sg wst) s H locs → lv_has ls 7 [(0, .ref (E.ad 33)), (1, .ref (E.ad 7)), (2, .int v2), (3, .long v3), (5, .int v5), (6, .int w6)] → W p l e rmX4_lays_7 s m args below meth c H locs 0 0 Q (F0 m 12 ls [])) (hE0 : ∀ (wst : St), X wst → ∀ (H : Heap) (locs : List Loc) (ls : Array Slot), XH E (sg wst) s H locs → lv_has ls 7 [(0, .ref (E.ad 33)), (1, .ref (E.ad 7)), (2, .int v2), (3, .long v3), (5, .int v5)] → W p l e rmX4_lays_7 s m args below meth c H locs 0 0 Q (F0 m 45 ls [])) (K : Kx G X x) {H : Heap} {locs : List Loc} {ls : Array Slot} (h : XH E (sg st) s H locs) (hl : lv_has ls 7 [(0, .ref (E.ad 33)), (1, .ref (E.ad 7)), (2, .int v2), (3, .long v3), (5, .int v5), (6, .int v6)]) : W p l e rmX4_lays_7 s m args below meth c H locs 0 0 Q (F0 m 12 ls []) := by
  unfold fX4_lays_7_12 at hx
  refine lv_iload C.x C.bc dX4_lays_12 (lv_at hl 5 rfl) ?_
  refine lv_iload_n C.x C.bc dX4_lays_14 rfl (lv_at hl 2 rfl) ?_
  refine lv_icmp_ge (tgt := 45) C.x C.bc dX4_lays_15 (by decide) (fun c_2 => ?_) (fun c_2 => ?_)
  · have hx := ge_t hx c_2
    obtain rfl := Option.some.inj hx
    exact hE0 _ K _ _ _ h (lv_sub hl [0, 1, 2, 3, 4] rfl)
  · have hx := ge_f hx c_2
    refine lv_aload_n C.x C.bc dX4_lays_18 rfl (lv_at hl 0 rfl) ?_
    refine gt_X4_11_33 C hI h dX4_lays_19 ?_
    refine lv_iload C.x C.bc dX4_lays_22 (lv_at hl 4 rfl) ?_
    obtain ⟨g_3, hx⟩ := gd_e hx
    obtain ⟨w_4, hw_4, hx⟩ := bd_e hx
    obtain ⟨g_5, hx⟩ := gd_e hx
    refine y_rowP C h 34 5 12 (hI 34 (by decide)) k_34 (by decide) rfl rfl (P34 g_5) g_3 hw_4 dX4_lays_24 ?_
    refine lv_iload C.x C.bc dX4_lays_25 (lv_at hl 5 rfl) ?_
    refine lv_aload_n C.x C.bc dX4_lays_27 rfl (lv_at hl 1 rfl) ?_
    refine lv_iload C.x C.bc dX4_lays_28 (lv_at hl 4 rfl) ?_
    obtain ⟨g_6, hx⟩ := gd_e hx
    refine y_row C h 7 8 5 12 (hI 7 (by decide)) k_7 (by decide) rfl rfl (fun _ _ => rfl) g_6 dX4_lays_30 ?_
    refine lv_iload C.x C.bc dX4_lays_31 (lv_at hl 5 rfl) ?_
    obtain ⟨g_7, hx⟩ := gd_e hx
    refine x_lald C h (8 + v5.toNatClampNeg) 12 (hI _ (by have := inB_lt g_6; omega)) (kg_8 _ (inB_lt g_6)) g_7 dX4_lays_33 ?_
    refine lv_lload_n C.x C.bc dX4_lays_34 rfl (lv_at hl 3 rfl) ?_
    obtain ⟨r_8, hf_8, hx⟩ := bd_e hx
    refine cX4_37_J0_floorMod C hI h hf_8 ⟨Nat.le_of_ble_eq_true rfl, Nat.le_of_ble_eq_true rfl⟩ ⟨Nat.zero_le _, Nat.zero_le _⟩ hl.1 (Nat.le_of_ble_eq_true rfl) dX4_lays_35 (fun H locs h => ?_)
    obtain ⟨g_9, hx⟩ := gd_e hx
    obtain ⟨st_10, e_10, hx⟩ := nm_x hx
    refine y_last C h w_4 13 (hI _ (by have := g_5; omega)) (kg_v g_5 kg_35) g_9 e_10 dX4_lays_38 (fun H locs h => ?_)
    obtain ⟨v6_11, e_11, hx⟩ := nm_x hx
    refine lv_iinc (v := v6_11) (lv' := [(6, .int v6_11), (0, .ref (E.ad 33)), (1, .ref (E.ad 7)), (2, .int v2), (3, .long v3), (5, .int v5)]) C.x C.bc dX4_lays_39 hl (k := 5) rfl (by rw [e_11]; rfl) (by decide) rfl (fun ls hl => ?_)
    refine lv_goto (tgt := 12) C.x C.bc dX4_lays_42 (by decide) ?_
    obtain rfl := Option.some.inj hx
    exact hG _ _ K _ _ _ h (lv_sub hl [1, 2, 3, 4, 5, 0] rfl)
set_option maxHeartbeats 1000000 in
theorem pX4_lays_7_12 (C : Cx E s0 b p s m args meth c cX4_lays 7 "EarthMesh$Determinant" none) (hI : Sx E) (v2 : Int32) (v3 : Int64) (v5 : Int32) {Q : State → Prop} {v6 : Int32} {st : St} {n : Nat} {r : St} (hx : iter (u2 fun v6 st => fX4_lays_7_12 v2 v3 v5 v6 st) n (v6, st) = some r) (hE : (fun t => ∀ (H : Heap) (locs : List Loc) (ls : Array Slot), XH E (sg t) s H locs → lv_has ls 7 [(0, .ref (E.ad 33)), (1, .ref (E.ad 7)), (2, .int v2), (3, .long v3), (5, .int v5)] → W p l e rmX4_lays_7 s m args below meth c H locs 0 0 Q (F0 m 45 ls [])) r) {H : Heap} {locs : List Loc} {ls : Array Slot} (h : XH E (sg st) s H locs) (hl : lv_has ls 7 [(0, .ref (E.ad 33)), (1, .ref (E.ad 7)), (2, .int v2), (3, .long v3), (5, .int v5), (6, .int v6)]) : W p l e rmX4_lays_7 s m args below meth c H locs 0 0 Q (F0 m 12 ls []) := by
  refine iter_W (G := fun t => ∀ (H : Heap) (locs : List Loc) (ls : Array Slot), XH E (sg t.2) s H locs → lv_has ls 7 [(0, .ref (E.ad 33)), (1, .ref (E.ad 7)), (2, .int v2), (3, .long v3), (5, .int v5), (6, .int t.1)] → W p l e rmX4_lays_7 s m args below meth c H locs 0 0 Q (F0 m 12 ls [])) (E := fun t => ∀ (H : Heap) (locs : List Loc) (ls : Array Slot), XH E (sg t) s H locs → lv_has ls 7 [(0, .ref (E.ad 33)), (1, .ref (E.ad 7)), (2, .int v2), (3, .long v3), (5, .int v5)] → W p l e rmX4_lays_7 s m args below meth c H locs 0 0 Q (F0 m 45 ls [])) (fun t x hx K H locs ls h hl => ?_) n _ r hx hE H locs ls h hl
  obtain ⟨v6, st⟩ := t
  exact bX4_lays_7_12 C hI v2 v3 v5 v6 st hx (fun _ _ z => z) (fun _ z => z) K h hl
def fX4_lays_7_3 (v2 : Int32) (v3 : Int64) (v5 : Int32) (st : St) : Option ((Int32 × St) ⊕ (St)) :=
  if v2 ≤ v5 then
    some (.inr st)
  else
    bd (iter (u2 fun z6 zst => fX4_lays_7_12 v2 v3 v5 z6 zst) FU ((0 : Int32), st)) (u1 fun st_12 =>
    nm (v5 + (1 : Int32)) fun v5_13 =>
    some (.inl (v5_13, st_12)))
set_option maxHeartbeats 1000000 in
theorem bX4_lays_7_3 (C : Cx E s0 b p s m args meth c cX4_lays 7 "EarthMesh$Determinant" none) (hI : Sx E) (v2 : Int32) (v3 : Int64) (v5 : Int32) (st : St) {x : (Int32 × St) ⊕ (St)} (hx : fX4_lays_7_3 v2 v3 v5 st = some x) {Q : State → Prop} {G : Int32 × St → Prop} {X : St → Prop} (hG : ∀ (w5 : Int32) (wst : St), G (w5, wst) → ∀ (H : Heap) (locs : List Loc) (ls : Array Slot), XH E (sg wst) s H locs → lv_has ls 7 [(0, .ref (E.ad 33)), (1, .ref (E.ad 7)), (2, .int v2), (3, .long v3), (5, .int w5)] → W p l e rmX4_lays_7 s m args below meth c H locs 0 0 Q (F0 m 3 ls [])) (hE0 : ∀ (wst : St), X wst → ∀ (H : Heap) (locs : List Loc) (ls : Array Slot), XH E (sg wst) s H locs → lv_has ls 7 [] → W p l e rmX4_lays_7 s m args below meth c H locs 0 0 Q (F0 m 51 ls [])) (K : Kx G X x) {H : Heap} {locs : List Loc} {ls : Array Slot} (h : XH E (sg st) s H locs) (hl : lv_has ls 7 [(0, .ref (E.ad 33)), (1, .ref (E.ad 7)), (2, .int v2), (3, .long v3), (5, .int v5)]) : W p l e rmX4_lays_7 s m args below meth c H locs 0 0 Q (F0 m 3 ls []) := by
  unfold fX4_lays_7_3 at hx
  refine lv_iload C.x C.bc dX4_lays_3 (lv_at hl 4 rfl) ?_
  refine lv_iload_n C.x C.bc dX4_lays_5 rfl (lv_at hl 2 rfl) ?_
  refine lv_icmp_ge (tgt := 51) C.x C.bc dX4_lays_6 (by decide) (fun c_1 => ?_) (fun c_1 => ?_)
  · have hx := ge_t hx c_1
    obtain rfl := Option.some.inj hx
    exact hE0 _ K _ _ _ h (lv_sub hl [] rfl)
  · have hx := ge_f hx c_1
    refine lv_iconst (v := (0 : Int32)) C.x C.bc dX4_lays_9 (by decide) ?_
    refine lv_istore (lv' := [(6, .int (0 : Int32)), (0, .ref (E.ad 33)), (1, .ref (E.ad 7)), (2, .int v2), (3, .long v3), (5, .int v5)]) C.x C.bc dX4_lays_10 hl (by decide) rfl (fun ls hl => ?_)
    obtain ⟨st_12, hi_12, hx⟩ := bd_e hx
    have hx := u1_e hx
    refine pX4_lays_7_12 C hI v2 v3 v5 hi_12 (fun H locs ls h hl => ?_) h (lv_sub hl [1, 2, 3, 4, 5, 0] rfl)
    obtain ⟨v5_13, e_13, hx⟩ := nm_x hx
    refine lv_iinc (v := v5_13) (lv' := [(5, .int v5_13), (0, .ref (E.ad 33)), (1, .ref (E.ad 7)), (2, .int v2), (3, .long v3)]) C.x C.bc dX4_lays_45 hl (k := 4) rfl (by rw [e_13]; rfl) (by decide) rfl (fun ls hl => ?_)
    refine lv_goto (tgt := 3) C.x C.bc dX4_lays_48 (by decide) ?_
    obtain rfl := Option.some.inj hx
    exact hG _ _ K _ _ _ h (lv_sub hl [1, 2, 3, 4, 0] rfl)
set_option maxHeartbeats 1000000 in
theorem pX4_lays_7_3 (C : Cx E s0 b p s m args meth c cX4_lays 7 "EarthMesh$Determinant" none) (hI : Sx E) (v2 : Int32) (v3 : Int64) {Q : State → Prop} {v5 : Int32} {st : St} {n : Nat} {r : St} (hx : iter (u2 fun v5 st => fX4_lays_7_3 v2 v3 v5 st) n (v5, st) = some r) (hE : (fun t => ∀ (H : Heap) (locs : List Loc) (ls : Array Slot), XH E (sg t) s H locs → lv_has ls 7 [] → W p l e rmX4_lays_7 s m args below meth c H locs 0 0 Q (F0 m 51 ls [])) r) {H : Heap} {locs : List Loc} {ls : Array Slot} (h : XH E (sg st) s H locs) (hl : lv_has ls 7 [(0, .ref (E.ad 33)), (1, .ref (E.ad 7)), (2, .int v2), (3, .long v3), (5, .int v5)]) : W p l e rmX4_lays_7 s m args below meth c H locs 0 0 Q (F0 m 3 ls []) := by
  refine iter_W (G := fun t => ∀ (H : Heap) (locs : List Loc) (ls : Array Slot), XH E (sg t.2) s H locs → lv_has ls 7 [(0, .ref (E.ad 33)), (1, .ref (E.ad 7)), (2, .int v2), (3, .long v3), (5, .int t.1)] → W p l e rmX4_lays_7 s m args below meth c H locs 0 0 Q (F0 m 3 ls [])) (E := fun t => ∀ (H : Heap) (locs : List Loc) (ls : Array Slot), XH E (sg t) s H locs → lv_has ls 7 [] → W p l e rmX4_lays_7 s m args below meth c H locs 0 0 Q (F0 m 51 ls [])) (fun t x hx K H locs ls h hl => ?_) n _ r hx hE H locs ls h hl
  obtain ⟨v5, st⟩ := t
  exact bX4_lays_7_3 C hI v2 v3 v5 st hx (fun _ _ z => z) (fun _ z => z) K h hl
def fX4_lays_7 (v2 : Int32) (v3 : Int64) (st : St) : Option (St) :=
  bd (iter (u2 fun z5 zst => fX4_lays_7_3 v2 v3 z5 zst) FU ((0 : Int32), st)) (u1 fun st_14 =>
  some st_14)
set_option maxHeartbeats 1000000 in
theorem bX4_lays_7 (C : Cx E s0 b p s m args meth c cX4_lays 7 "EarthMesh$Determinant" none) (hI : Sx E) (v2 : Int32) (v3 : Int64) (st : St) {x : St} (hx : fX4_lays_7 v2 v3 st = some x) {H : Heap} {locs : List Loc} {ls : Array Slot} (h : XH E (sg st) s H locs) (hl : lv_has ls 7 [(0, .ref (E.ad 33)), (1, .ref (E.ad 7)), (2, .int v2), (3, .long v3)]) : W p l e rmX4_lays_7 s m args below meth c H locs 0 0 (MQ below (Qx E none (sg x)) args s 0 0 (gA E.HB)) (F0 m 0 ls []) := by
  unfold fX4_lays_7 at hx
  refine lv_iconst (v := (0 : Int32)) C.x C.bc dX4_lays_0 (by decide) ?_
  refine lv_istore (lv' := [(5, .int (0 : Int32)), (0, .ref (E.ad 33)), (1, .ref (E.ad 7)), (2, .int v2), (3, .long v3)]) C.x C.bc dX4_lays_1 hl (by decide) rfl (fun ls hl => ?_)
  obtain ⟨st_14, hi_14, hx⟩ := bd_e hx
  have hx := u1_e hx
  refine pX4_lays_7_3 C hI v2 v3 hi_14 (fun H locs ls h hl => ?_) h (lv_sub hl [1, 2, 3, 4, 0] rfl)
  obtain rfl := Option.some.inj hx
  exact x_vret C h dX4_lays_51
theorem mX4_lays_7 (hG : G0 E s0 b) (hI : Sx E) {v2 : Int32} {v3 : Int64} {x : St} (hx : fX4_lays_7 v2 v3 st = some x) : Mt l E s0 yX4_lays cX4_lays 7 none rmX4_lays_7 [.ref (E.ad 33), .ref (E.ad 7), .int v2, .long v3] (sg st) none E (sg x) :=
  Mt.of hG (by decide) (Nat.le_of_ble_eq_true rfl) (fun p e s m below meth c ls C h hl => bX4_lays_7 C hI v2 v3 st hx h hl)
theorem cX4_43_X4_lays_7 {a1 : Int32} {a2 : Int64} {st' : St} (C : Cx E s0 b p s m args meth c cc nL "EarthMesh$Determinant" rt) (hI : Sx E) (h : XH E (sg st) s H locs) (hf : fX4_lays_7 a1 a2 st = some st') (hR : rmX4_lays_7.frames + 1 ≤ R.frames ∧ 16 + (7 + 11) + rmX4_lays_7.locals ≤ R.locals) (h0 : cells ≤ R.cells ∧ slots ≤ R.slots) (hsz : ls.size = nL) (hcat : (rest.map fun v => v.category).sum ≤ 16) (hdg : decode cc pc = .ok (.invokevirtual 43, 3)) (kk : ∀ (H : Heap) (locs : List Loc), XH E (sg st') s H locs → W p l e R s m args below meth c H locs cells slots Q (F0 m (pc + 3) ls (rest))) : W p l e R s m args below meth c H locs cells slots Q (F0 m pc ls (.long a2 :: .int a1 :: .ref (E.ad 7) :: .ref (E.ad 33) :: rest)) :=
  x_callV (n := 3) (As := [.ref (E.ad 7), .int a1, .long a2]) C h 33 3 (hI 33 (by decide)) k_33 rfl (mX4_lays_7 C.g hI hf) (lw_V q1159 q1161 qs26 q133 q1162) ⟨rfl, by decide +kernel, by decide +kernel, by decide +kernel⟩ hR ⟨rfl, rfl⟩ h0 rfl hsz rfl hcat hdg kk
abbrev rmX4_left_7 : Room := { frames := 2, cells := 0, slots := 0, locals := 71 }
def fX4_left_7_36 (v2 : Int32) (v3 : Int32) (v4 : Int64) (v6 : Int32) (k0 : Nat) (k1 : Int32) (k2 : Int64) (st : St) : Option ((Int32 × St) ⊕ (St)) :=
  gd (inG k0 35 12) <|
  gd (inB k1 13) <|
  nm (uL st k0 k1.toNatClampNeg k2) fun st_9 =>
  nm (v6 + (1 : Int32)) fun v6_10 =>
  some (.inl (v6_10, st_9))
set_option maxHeartbeats 1000000 in
theorem bX4_left_7_36 (C : Cx E s0 b p s m args meth c cX4_left 13 "EarthMesh$Determinant" (some .long)) (hI : Sx E) (v2 : Int32) (v3 : Int32) (v4 : Int64) (v6 : Int32) (k0 : Nat) (k1 : Int32) (k2 : Int64) (st : St) {x : (Int32 × St) ⊕ (St)} (hx : fX4_left_7_36 v2 v3 v4 v6 k0 k1 k2 st = some x) {Q : State → Prop} {G : Int32 × St → Prop} {X : St → Prop} (hG : ∀ (w6 : Int32) (wst : St), G (w6, wst) → ∀ (H : Heap) (locs : List Loc) (ls : Array Slot), XH E (sg wst) s H locs → lv_has ls 13 [(0, .ref (E.ad 33)), (2, .int v2), (3, .int v3), (4, .long v4), (6, .int w6)] → W p l e rmX4_left_7 s m args below meth c H locs 0 0 Q (F0 m 11 ls [])) (hE0 : ∀ (wst : St), X wst → ∀ (H : Heap) (locs : List Loc) (ls : Array Slot), XH E (sg wst) s H locs → lv_has ls 13 [(0, .ref (E.ad 33)), (2, .int v2), (4, .long v4)] → W p l e rmX4_left_7 s m args below meth c H locs 0 0 Q (F0 m 43 ls [])) (K : Kx G X x) {H : Heap} {locs : List Loc} {ls : Array Slot} (h : XH E (sg st) s H locs) (hl : lv_has ls 13 [(0, .ref (E.ad 33)), (2, .int v2), (3, .int v3), (4, .long v4), (6, .int v6)]) : W p l e rmX4_left_7 s m args below meth c H locs 0 0 Q (F0 m 36 ls [.long k2, .int k1, .ref (E.ad k0)]) := by
  unfold fX4_left_7_36 at hx
  obtain ⟨g_7, hx⟩ := gd_e hx
  obtain ⟨g_8, hx⟩ := gd_e hx
  obtain ⟨st_9, e_9, hx⟩ := nm_x hx
  refine y_last C h k0 13 (hI _ (by have := g_7; omega)) (kg_v g_7 kg_35) g_8 e_9 dX4_left_36 (fun H locs h => ?_)
  obtain ⟨v6_10, e_10, hx⟩ := nm_x hx
  refine lv_iinc (v := v6_10) (lv' := [(6, .int v6_10), (0, .ref (E.ad 33)), (2, .int v2), (3, .int v3), (4, .long v4)]) C.x C.bc dX4_left_37 hl (k := 4) rfl (by rw [e_10]; rfl) (by decide) rfl (fun ls hl => ?_)
  refine lv_goto (tgt := 11) C.x C.bc dX4_left_40 (by decide) ?_
  obtain rfl := Option.some.inj hx
  exact hG _ _ K _ _ _ h (lv_sub hl [1, 2, 3, 4, 0] rfl)
def fX4_left_7_11 (v2 : Int32) (v3 : Int32) (v4 : Int64) (v6 : Int32) (st : St) : Option ((Int32 × St) ⊕ (St)) :=
  if v2 ≤ v6 then
    some (.inr st)
  else
    gd (inB v6 12) <|
    bd (st.2.2 34 v6.toNatClampNeg) fun w_4 =>
    gd (inG w_4 35 12) <|
    if v6 = v3 then
      fX4_left_7_36 v2 v3 v4 v6 w_4 v2 (1 : Int64) st
    else
      fX4_left_7_36 v2 v3 v4 v6 w_4 v2 (0 : Int64) st
set_option maxHeartbeats 1000000 in
theorem bX4_left_7_11 (C : Cx E s0 b p s m args meth c cX4_left 13 "EarthMesh$Determinant" (some .long)) (hI : Sx E) (v2 : Int32) (v3 : Int32) (v4 : Int64) (v6 : Int32) (st : St) {x : (Int32 × St) ⊕ (St)} (hx : fX4_left_7_11 v2 v3 v4 v6 st = some x) {Q : State → Prop} {G : Int32 × St → Prop} {X : St → Prop} (hG : ∀ (w6 : Int32) (wst : St), G (w6, wst) → ∀ (H : Heap) (locs : List Loc) (ls : Array Slot), XH E (sg wst) s H locs → lv_has ls 13 [(0, .ref (E.ad 33)), (2, .int v2), (3, .int v3), (4, .long v4), (6, .int w6)] → W p l e rmX4_left_7 s m args below meth c H locs 0 0 Q (F0 m 11 ls [])) (hE0 : ∀ (wst : St), X wst → ∀ (H : Heap) (locs : List Loc) (ls : Array Slot), XH E (sg wst) s H locs → lv_has ls 13 [(0, .ref (E.ad 33)), (2, .int v2), (4, .long v4)] → W p l e rmX4_left_7 s m args below meth c H locs 0 0 Q (F0 m 43 ls [])) (K : Kx G X x) {H : Heap} {locs : List Loc} {ls : Array Slot} (h : XH E (sg st) s H locs) (hl : lv_has ls 13 [(0, .ref (E.ad 33)), (2, .int v2), (3, .int v3), (4, .long v4), (6, .int v6)]) : W p l e rmX4_left_7 s m args below meth c H locs 0 0 Q (F0 m 11 ls []) := by
  unfold fX4_left_7_11 at hx
  refine lv_iload C.x C.bc dX4_left_11 (lv_at hl 4 rfl) ?_
  refine lv_iload_n C.x C.bc dX4_left_13 rfl (lv_at hl 1 rfl) ?_
  refine lv_icmp_ge (tgt := 43) C.x C.bc dX4_left_14 (by decide) (fun c_2 => ?_) (fun c_2 => ?_)
  · have hx := ge_t hx c_2
    obtain rfl := Option.some.inj hx
    exact hE0 _ K _ _ _ h (lv_sub hl [0, 1, 3] rfl)
  · have hx := ge_f hx c_2
    refine lv_aload_n C.x C.bc dX4_left_17 rfl (lv_at hl 0 rfl) ?_
    refine gt_X4_11_33 C hI h dX4_left_18 ?_
    refine lv_iload C.x C.bc dX4_left_21 (lv_at hl 4 rfl) ?_
    obtain ⟨g_3, hx⟩ := gd_e hx
    obtain ⟨w_4, hw_4, hx⟩ := bd_e hx
    obtain ⟨g_5, hx⟩ := gd_e hx
    refine y_rowP C h 34 5 12 (hI 34 (by decide)) k_34 (by decide) rfl rfl (P34 g_5) g_3 hw_4 dX4_left_23 ?_
    refine lv_iload_n C.x C.bc dX4_left_24 rfl (lv_at hl 1 rfl) ?_
    refine lv_iload C.x C.bc dX4_left_25 (lv_at hl 4 rfl) ?_
    refine lv_iload_n C.x C.bc dX4_left_27 rfl (lv_at hl 2 rfl) ?_
    refine lv_icmp_ne (tgt := 35) C.x C.bc dX4_left_28 (by decide) (fun c_6 => ?_) (fun c_6 => ?_)
    · have hx := ge_f hx c_6
      refine lv_lconst (v := (0 : Int64)) C.x C.bc dX4_left_35 (by decide) ?_
      exact bX4_left_7_36 C hI v2 v3 v4 v6 w_4 v2 (0 : Int64) st hx hG hE0 K h (lv_sub hl [0, 1, 2, 3, 4] rfl)
    · have hx := ge_t hx c_6
      refine lv_lconst (v := (1 : Int64)) C.x C.bc dX4_left_31 (by decide) ?_
      refine lv_goto (tgt := 36) C.x C.bc dX4_left_32 (by decide) ?_
      exact bX4_left_7_36 C hI v2 v3 v4 v6 w_4 v2 (1 : Int64) st hx hG hE0 K h (lv_sub hl [0, 1, 2, 3, 4] rfl)
set_option maxHeartbeats 1000000 in
theorem pX4_left_7_11 (C : Cx E s0 b p s m args meth c cX4_left 13 "EarthMesh$Determinant" (some .long)) (hI : Sx E) (v2 : Int32) (v3 : Int32) (v4 : Int64) {Q : State → Prop} {v6 : Int32} {st : St} {n : Nat} {r : St} (hx : iter (u2 fun v6 st => fX4_left_7_11 v2 v3 v4 v6 st) n (v6, st) = some r) (hE : (fun t => ∀ (H : Heap) (locs : List Loc) (ls : Array Slot), XH E (sg t) s H locs → lv_has ls 13 [(0, .ref (E.ad 33)), (2, .int v2), (4, .long v4)] → W p l e rmX4_left_7 s m args below meth c H locs 0 0 Q (F0 m 43 ls [])) r) {H : Heap} {locs : List Loc} {ls : Array Slot} (h : XH E (sg st) s H locs) (hl : lv_has ls 13 [(0, .ref (E.ad 33)), (2, .int v2), (3, .int v3), (4, .long v4), (6, .int v6)]) : W p l e rmX4_left_7 s m args below meth c H locs 0 0 Q (F0 m 11 ls []) := by
  refine iter_W (G := fun t => ∀ (H : Heap) (locs : List Loc) (ls : Array Slot), XH E (sg t.2) s H locs → lv_has ls 13 [(0, .ref (E.ad 33)), (2, .int v2), (3, .int v3), (4, .long v4), (6, .int t.1)] → W p l e rmX4_left_7 s m args below meth c H locs 0 0 Q (F0 m 11 ls [])) (E := fun t => ∀ (H : Heap) (locs : List Loc) (ls : Array Slot), XH E (sg t) s H locs → lv_has ls 13 [(0, .ref (E.ad 33)), (2, .int v2), (4, .long v4)] → W p l e rmX4_left_7 s m args below meth c H locs 0 0 Q (F0 m 43 ls [])) (fun t x hx K H locs ls h hl => ?_) n _ r hx hE H locs ls h hl
  obtain ⟨v6, st⟩ := t
  exact bX4_left_7_11 C hI v2 v3 v4 v6 st hx (fun _ _ z => z) (fun _ z => z) K h hl
def fX4_left_7_141 (v2 : Int32) (v4 : Int64) (v6 : Int64) (v8 : Int32) (v10 : Int64) (v12 : Int32) (st : St) : Option ((Int32 × St) ⊕ (St)) :=
  if v2 ≤ v12 then
    some (.inr st)
  else
    bd (fX4_clears v12 v8 v2 v10 v4 st) fun st_29 =>
    nm (v12 + (1 : Int32)) fun v12_30 =>
    some (.inl (v12_30, st_29))
set_option maxHeartbeats 1000000 in
theorem bX4_left_7_141 (C : Cx E s0 b p s m args meth c cX4_left 13 "EarthMesh$Determinant" (some .long)) (hI : Sx E) (v2 : Int32) (v4 : Int64) (v6 : Int64) (v8 : Int32) (v10 : Int64) (v12 : Int32) (st : St) {x : (Int32 × St) ⊕ (St)} (hx : fX4_left_7_141 v2 v4 v6 v8 v10 v12 st = some x) {Q : State → Prop} {G : Int32 × St → Prop} {X : St → Prop} (hG : ∀ (w12 : Int32) (wst : St), G (w12, wst) → ∀ (H : Heap) (locs : List Loc) (ls : Array Slot), XH E (sg wst) s H locs → lv_has ls 13 [(0, .ref (E.ad 33)), (2, .int v2), (4, .long v4), (6, .long v6), (8, .int v8), (10, .long v10), (12, .int w12)] → W p l e rmX4_left_7 s m args below meth c H locs 0 0 Q (F0 m 141 ls [])) (hE0 : ∀ (wst : St), X wst → ∀ (H : Heap) (locs : List Loc) (ls : Array Slot), XH E (sg wst) s H locs → lv_has ls 13 [(0, .ref (E.ad 33)), (2, .int v2), (4, .long v4), (6, .long v6), (8, .int v8)] → W p l e rmX4_left_7 s m args below meth c H locs 0 0 Q (F0 m 166 ls [])) (K : Kx G X x) {H : Heap} {locs : List Loc} {ls : Array Slot} (h : XH E (sg st) s H locs) (hl : lv_has ls 13 [(0, .ref (E.ad 33)), (2, .int v2), (4, .long v4), (6, .long v6), (8, .int v8), (10, .long v10), (12, .int v12)]) : W p l e rmX4_left_7 s m args below meth c H locs 0 0 Q (F0 m 141 ls []) := by
  unfold fX4_left_7_141 at hx
  refine lv_iload C.x C.bc dX4_left_141 (lv_at hl 6 rfl) ?_
  refine lv_iload_n C.x C.bc dX4_left_143 rfl (lv_at hl 1 rfl) ?_
  refine lv_icmp_ge (tgt := 166) C.x C.bc dX4_left_144 (by decide) (fun c_28 => ?_) (fun c_28 => ?_)
  · have hx := ge_t hx c_28
    obtain rfl := Option.some.inj hx
    exact hE0 _ K _ _ _ h (lv_sub hl [0, 1, 2, 3, 4] rfl)
  · have hx := ge_f hx c_28
    refine lv_aload_n C.x C.bc dX4_left_147 rfl (lv_at hl 0 rfl) ?_
    refine lv_iload C.x C.bc dX4_left_148 (lv_at hl 6 rfl) ?_
    refine lv_iload C.x C.bc dX4_left_150 (lv_at hl 4 rfl) ?_
    refine lv_iload_n C.x C.bc dX4_left_152 rfl (lv_at hl 1 rfl) ?_
    refine lv_lload C.x C.bc dX4_left_153 (lv_at hl 5 rfl) ?_
    refine lv_lload C.x C.bc dX4_left_155 (lv_at hl 2 rfl) ?_
    obtain ⟨st_29, hf_29, hx⟩ := bd_e hx
    refine cX4_57_X4_clears C hI h hf_29 ⟨Nat.le_of_ble_eq_true rfl, Nat.le_of_ble_eq_true rfl⟩ ⟨Nat.zero_le _, Nat.zero_le _⟩ hl.1 (Nat.le_of_ble_eq_true rfl) dX4_left_157 (fun H locs h => ?_)
    obtain ⟨v12_30, e_30, hx⟩ := nm_x hx
    refine lv_iinc (v := v12_30) (lv' := [(12, .int v12_30), (0, .ref (E.ad 33)), (2, .int v2), (4, .long v4), (6, .long v6), (8, .int v8), (10, .long v10)]) C.x C.bc dX4_left_160 hl (k := 6) rfl (by rw [e_30]; rfl) (by decide) rfl (fun ls hl => ?_)
    refine lv_goto (tgt := 141) C.x C.bc dX4_left_163 (by decide) ?_
    obtain rfl := Option.some.inj hx
    exact hG _ _ K _ _ _ h (lv_sub hl [1, 2, 3, 4, 5, 6, 0] rfl)
set_option maxHeartbeats 1000000 in
theorem pX4_left_7_141 (C : Cx E s0 b p s m args meth c cX4_left 13 "EarthMesh$Determinant" (some .long)) (hI : Sx E) (v2 : Int32) (v4 : Int64) (v6 : Int64) (v8 : Int32) (v10 : Int64) {Q : State → Prop} {v12 : Int32} {st : St} {n : Nat} {r : St} (hx : iter (u2 fun v12 st => fX4_left_7_141 v2 v4 v6 v8 v10 v12 st) n (v12, st) = some r) (hE : (fun t => ∀ (H : Heap) (locs : List Loc) (ls : Array Slot), XH E (sg t) s H locs → lv_has ls 13 [(0, .ref (E.ad 33)), (2, .int v2), (4, .long v4), (6, .long v6), (8, .int v8)] → W p l e rmX4_left_7 s m args below meth c H locs 0 0 Q (F0 m 166 ls [])) r) {H : Heap} {locs : List Loc} {ls : Array Slot} (h : XH E (sg st) s H locs) (hl : lv_has ls 13 [(0, .ref (E.ad 33)), (2, .int v2), (4, .long v4), (6, .long v6), (8, .int v8), (10, .long v10), (12, .int v12)]) : W p l e rmX4_left_7 s m args below meth c H locs 0 0 Q (F0 m 141 ls []) := by
  refine iter_W (G := fun t => ∀ (H : Heap) (locs : List Loc) (ls : Array Slot), XH E (sg t.2) s H locs → lv_has ls 13 [(0, .ref (E.ad 33)), (2, .int v2), (4, .long v4), (6, .long v6), (8, .int v8), (10, .long v10), (12, .int t.1)] → W p l e rmX4_left_7 s m args below meth c H locs 0 0 Q (F0 m 141 ls [])) (E := fun t => ∀ (H : Heap) (locs : List Loc) (ls : Array Slot), XH E (sg t) s H locs → lv_has ls 13 [(0, .ref (E.ad 33)), (2, .int v2), (4, .long v4), (6, .long v6), (8, .int v8)] → W p l e rmX4_left_7 s m args below meth c H locs 0 0 Q (F0 m 166 ls [])) (fun t x hx K H locs ls h hl => ?_) n _ r hx hE H locs ls h hl
  obtain ⟨v12, st⟩ := t
  exact bX4_left_7_141 C hI v2 v4 v6 v8 v10 v12 st hx (fun _ _ z => z) (fun _ z => z) K h hl
def fX4_left_7_94 (v2 : Int32) (v4 : Int64) (v6 : Int64) (v8 : Int32) (st : St) : Option ((Int64 × Int32 × St) ⊕ ((St) ⊕ (Int64 × St))) :=
  gd (inB v8 12) <|
  bd (st.2.2 34 v8.toNatClampNeg) fun w_17 =>
  gd (inG w_17 35 12) <|
  gd (inB v8 13) <|
  gd (¬ v4 = 0) <|
  nm (jreml (v6 * (st.2.1 w_17 v8.toNatClampNeg)) v4) fun v6_21 =>
  gd (inB v8 12) <|
  bd (st.2.2 34 v8.toNatClampNeg) fun w_23 =>
  gd (inG w_23 35 12) <|
  gd (inB v8 13) <|
  bd (fX4_power (st.2.1 w_23 v8.toNatClampNeg) (v4 - (2 : Int64)) v4) fun r_26 =>
  nm (v8 + (1 : Int32)) fun v12_27 =>
  bd (iter (u2 fun z12 zst => fX4_left_7_141 v2 v4 v6_21 v8 r_26 z12 zst) FU (v12_27, st)) (u1 fun st_31 =>
  nm (v8 + (1 : Int32)) fun v8_32 =>
  some (.inl (v6_21, v8_32, st_31)))
set_option maxHeartbeats 1000000 in
theorem bX4_left_7_94 (C : Cx E s0 b p s m args meth c cX4_left 13 "EarthMesh$Determinant" (some .long)) (hI : Sx E) (v2 : Int32) (v4 : Int64) (v6 : Int64) (v8 : Int32) (st : St) {x : (Int64 × Int32 × St) ⊕ ((St) ⊕ (Int64 × St))} (hx : fX4_left_7_94 v2 v4 v6 v8 st = some x) {Q : State → Prop} {G : Int64 × Int32 × St → Prop} {X : (St) ⊕ (Int64 × St) → Prop} (hG : ∀ (w6 : Int64) (w8 : Int32) (wst : St), G (w6, w8, wst) → ∀ (H : Heap) (locs : List Loc) (ls : Array Slot), XH E (sg wst) s H locs → lv_has ls 13 [(0, .ref (E.ad 33)), (2, .int v2), (4, .long v4), (6, .long w6), (8, .int w8)] → W p l e rmX4_left_7 s m args below meth c H locs 0 0 Q (F0 m 49 ls [])) (hE0 : ∀ (wst : St), X (.inl wst) → ∀ (H : Heap) (locs : List Loc) (ls : Array Slot), XH E (sg wst) s H locs → lv_has ls 13 [] → W p l e rmX4_left_7 s m args below meth c H locs 0 0 Q (F0 m 70 ls [])) (hE1 : ∀ (w6 : Int64) (wst : St), X (.inr (w6, wst)) → ∀ (H : Heap) (locs : List Loc) (ls : Array Slot), XH E (sg wst) s H locs → lv_has ls 13 [(6, .long w6)] → W p l e rmX4_left_7 s m args below meth c H locs 0 0 Q (F0 m 172 ls [])) (K : Kx G X x) {H : Heap} {locs : List Loc} {ls : Array Slot} (h : XH E (sg st) s H locs) (hl : lv_has ls 13 [(0, .ref (E.ad 33)), (2, .int v2), (4, .long v4), (6, .long v6), (8, .int v8)]) : W p l e rmX4_left_7 s m args below meth c H locs 0 0 Q (F0 m 94 ls []) := by
  unfold fX4_left_7_94 at hx
  refine lv_lload C.x C.bc dX4_left_94 (lv_at hl 3 rfl) ?_
  refine lv_aload_n C.x C.bc dX4_left_96 rfl (lv_at hl 0 rfl) ?_
  refine gt_X4_11_33 C hI h dX4_left_97 ?_
  refine lv_iload C.x C.bc dX4_left_100 (lv_at hl 4 rfl) ?_
  obtain ⟨g_16, hx⟩ := gd_e hx
  obtain ⟨w_17, hw_17, hx⟩ := bd_e hx
  obtain ⟨g_18, hx⟩ := gd_e hx
  refine y_rowP C h 34 5 12 (hI 34 (by decide)) k_34 (by decide) rfl rfl (P34 g_18) g_16 hw_17 dX4_left_102 ?_
  refine lv_iload C.x C.bc dX4_left_103 (lv_at hl 4 rfl) ?_
  obtain ⟨g_19, hx⟩ := gd_e hx
  refine x_lald C h w_17 13 (hI _ (by have := g_18; omega)) (kg_v g_18 kg_35) g_19 dX4_left_105 ?_
  refine lv_lmul C.x C.bc dX4_left_106 ?_
  refine lv_lload C.x C.bc dX4_left_107 (lv_at hl 2 rfl) ?_
  obtain ⟨g_20, hx⟩ := gd_e hx
  refine y_lrem C.x C.bc dX4_left_109 g_20 ?_
  obtain ⟨v6_21, e_21, hx⟩ := nm_x hx
  refine x_tl e_21 ?_
  refine lv_lstore (lv' := [(6, .long v6_21), (0, .ref (E.ad 33)), (2, .int v2), (4, .long v4), (8, .int v8)]) C.x C.bc dX4_left_110 hl (by decide) rfl (fun ls hl => ?_)
  refine lv_aload_n C.x C.bc dX4_left_112 rfl (lv_at hl 1 rfl) ?_
  refine gt_X4_11_33 C hI h dX4_left_113 ?_
  refine lv_iload C.x C.bc dX4_left_116 (lv_at hl 4 rfl) ?_
  obtain ⟨g_22, hx⟩ := gd_e hx
  obtain ⟨w_23, hw_23, hx⟩ := bd_e hx
  obtain ⟨g_24, hx⟩ := gd_e hx
  refine y_rowP C h 34 5 12 (hI 34 (by decide)) k_34 (by decide) rfl rfl (P34 g_24) g_22 hw_23 dX4_left_118 ?_
  refine lv_iload C.x C.bc dX4_left_119 (lv_at hl 4 rfl) ?_
  obtain ⟨g_25, hx⟩ := gd_e hx
  refine x_lald C h w_23 13 (hI _ (by have := g_24; omega)) (kg_v g_24 kg_35) g_25 dX4_left_121 ?_
  refine lv_lload C.x C.bc dX4_left_122 (lv_at hl 3 rfl) ?_
  refine lv_ldc2 (v := (2 : Int64)) C.x C.bc C.ow (C.ts _ q1174) dX4_left_124 ?_
  refine lv_lsub C.x C.bc dX4_left_127 ?_
  refine lv_lload C.x C.bc dX4_left_128 (lv_at hl 3 rfl) ?_
  obtain ⟨r_26, hf_26, hx⟩ := bd_e hx
  refine cX4_22_X4_power C hI h hf_26 ⟨Nat.le_of_ble_eq_true rfl, Nat.le_of_ble_eq_true rfl⟩ ⟨Nat.zero_le _, Nat.zero_le _⟩ hl.1 (Nat.le_of_ble_eq_true rfl) dX4_left_130 (fun H locs h => ?_)
  refine lv_lstore (lv' := [(10, .long r_26), (6, .long v6_21), (0, .ref (E.ad 33)), (2, .int v2), (4, .long v4), (8, .int v8)]) C.x C.bc dX4_left_133 hl (by decide) rfl (fun ls hl => ?_)
  refine lv_iload C.x C.bc dX4_left_135 (lv_at hl 5 rfl) ?_
  refine lv_iconst (v := (1 : Int32)) C.x C.bc dX4_left_137 (by decide) ?_
  refine lv_iadd C.x C.bc dX4_left_138 ?_
  obtain ⟨v12_27, e_27, hx⟩ := nm_x hx
  refine x_ti e_27 ?_
  refine lv_istore (lv' := [(12, .int v12_27), (10, .long r_26), (6, .long v6_21), (0, .ref (E.ad 33)), (2, .int v2), (4, .long v4), (8, .int v8)]) C.x C.bc dX4_left_139 hl (by decide) rfl (fun ls hl => ?_)
  obtain ⟨st_31, hi_31, hx⟩ := bd_e hx
  have hx := u1_e hx
  refine pX4_left_7_141 C hI v2 v4 v6_21 v8 r_26 hi_31 (fun H locs ls h hl => ?_) h (lv_sub hl [3, 4, 5, 2, 6, 1, 0] rfl)
  obtain ⟨v8_32, e_32, hx⟩ := nm_x hx
  refine lv_iinc (v := v8_32) (lv' := [(8, .int v8_32), (0, .ref (E.ad 33)), (2, .int v2), (4, .long v4), (6, .long v6_21)]) C.x C.bc dX4_left_166 hl (k := 4) rfl (by rw [e_32]; rfl) (by decide) rfl (fun ls hl => ?_)
  refine lv_goto (tgt := 49) C.x C.bc dX4_left_169 (by decide) ?_
  obtain rfl := Option.some.inj hx
  exact hG _ _ _ K _ _ _ h (lv_sub hl [1, 2, 3, 4, 0] rfl)
def fX4_left_7_49 (v2 : Int32) (v4 : Int64) (v6 : Int64) (v8 : Int32) (st : St) : Option ((Int64 × Int32 × St) ⊕ ((St) ⊕ (Int64 × St))) :=
  if v2 ≤ v8 then
    some (.inr (.inr (v6, st)))
  else
    bd (fX4_pivot v8 v2 st) fun r_13 =>
    if r_13 = (-1 : Int32) then
      some (.inr (.inl st))
    else
      if r_13 = v8 then
        fX4_left_7_94 v2 v4 v6 v8 st
      else
        bd (fX4_swaps r_13 v8 st) fun st_33 =>
        nm (v4 - v6) fun v6_34 =>
        fX4_left_7_94 v2 v4 v6_34 v8 st_33
set_option maxHeartbeats 1000000 in
theorem bX4_left_7_49 (C : Cx E s0 b p s m args meth c cX4_left 13 "EarthMesh$Determinant" (some .long)) (hI : Sx E) (v2 : Int32) (v4 : Int64) (v6 : Int64) (v8 : Int32) (st : St) {x : (Int64 × Int32 × St) ⊕ ((St) ⊕ (Int64 × St))} (hx : fX4_left_7_49 v2 v4 v6 v8 st = some x) {Q : State → Prop} {G : Int64 × Int32 × St → Prop} {X : (St) ⊕ (Int64 × St) → Prop} (hG : ∀ (w6 : Int64) (w8 : Int32) (wst : St), G (w6, w8, wst) → ∀ (H : Heap) (locs : List Loc) (ls : Array Slot), XH E (sg wst) s H locs → lv_has ls 13 [(0, .ref (E.ad 33)), (2, .int v2), (4, .long v4), (6, .long w6), (8, .int w8)] → W p l e rmX4_left_7 s m args below meth c H locs 0 0 Q (F0 m 49 ls [])) (hE0 : ∀ (wst : St), X (.inl wst) → ∀ (H : Heap) (locs : List Loc) (ls : Array Slot), XH E (sg wst) s H locs → lv_has ls 13 [] → W p l e rmX4_left_7 s m args below meth c H locs 0 0 Q (F0 m 70 ls [])) (hE1 : ∀ (w6 : Int64) (wst : St), X (.inr (w6, wst)) → ∀ (H : Heap) (locs : List Loc) (ls : Array Slot), XH E (sg wst) s H locs → lv_has ls 13 [(6, .long w6)] → W p l e rmX4_left_7 s m args below meth c H locs 0 0 Q (F0 m 172 ls [])) (K : Kx G X x) {H : Heap} {locs : List Loc} {ls : Array Slot} (h : XH E (sg st) s H locs) (hl : lv_has ls 13 [(0, .ref (E.ad 33)), (2, .int v2), (4, .long v4), (6, .long v6), (8, .int v8)]) : W p l e rmX4_left_7 s m args below meth c H locs 0 0 Q (F0 m 49 ls []) := by
  unfold fX4_left_7_49 at hx
  refine lv_iload C.x C.bc dX4_left_49 (lv_at hl 4 rfl) ?_
  refine lv_iload_n C.x C.bc dX4_left_51 rfl (lv_at hl 1 rfl) ?_
  refine lv_icmp_ge (tgt := 172) C.x C.bc dX4_left_52 (by decide) (fun c_12 => ?_) (fun c_12 => ?_)
  · have hx := ge_t hx c_12
    obtain rfl := Option.some.inj hx
    exact hE1 _ _ K _ _ _ h (lv_sub hl [3] rfl)
  · have hx := ge_f hx c_12
    refine lv_aload_n C.x C.bc dX4_left_55 rfl (lv_at hl 0 rfl) ?_
    refine lv_iload C.x C.bc dX4_left_56 (lv_at hl 4 rfl) ?_
    refine lv_iload_n C.x C.bc dX4_left_58 rfl (lv_at hl 1 rfl) ?_
    obtain ⟨r_13, hf_13, hx⟩ := bd_e hx
    refine cX4_47_X4_pivot C hI h hf_13 ⟨Nat.le_of_ble_eq_true rfl, Nat.le_of_ble_eq_true rfl⟩ ⟨Nat.zero_le _, Nat.zero_le _⟩ hl.1 (Nat.le_of_ble_eq_true rfl) dX4_left_59 (fun H locs h => ?_)
    refine lv_istore (lv' := [(9, .int r_13), (0, .ref (E.ad 33)), (2, .int v2), (4, .long v4), (6, .long v6), (8, .int v8)]) C.x C.bc dX4_left_62 hl (by decide) rfl (fun ls hl => ?_)
    refine lv_iload C.x C.bc dX4_left_64 (lv_at hl 0 rfl) ?_
    refine lv_iconst (v := (-1 : Int32)) C.x C.bc dX4_left_66 (by decide) ?_
    refine lv_icmp_ne (tgt := 72) C.x C.bc dX4_left_67 (by decide) (fun c_14 => ?_) (fun c_14 => ?_)
    · have hx := ge_f hx c_14
      refine lv_iload C.x C.bc dX4_left_72 (lv_at hl 0 rfl) ?_
      refine lv_iload C.x C.bc dX4_left_74 (lv_at hl 5 rfl) ?_
      refine lv_icmp_eq (tgt := 94) C.x C.bc dX4_left_76 (by decide) (fun c_15 => ?_) (fun c_15 => ?_)
      · have hx := ge_t hx c_15
        exact bX4_left_7_94 C hI v2 v4 v6 v8 st hx hG hE0 hE1 K h (lv_sub hl [1, 2, 3, 4, 5] rfl)
      · have hx := ge_f hx c_15
        refine lv_aload_n C.x C.bc dX4_left_79 rfl (lv_at hl 1 rfl) ?_
        refine lv_iload C.x C.bc dX4_left_80 (lv_at hl 0 rfl) ?_
        refine lv_iload C.x C.bc dX4_left_82 (lv_at hl 5 rfl) ?_
        obtain ⟨st_33, hf_33, hx⟩ := bd_e hx
        refine cX4_51_X4_swaps C hI h hf_33 ⟨Nat.le_of_ble_eq_true rfl, Nat.le_of_ble_eq_true rfl⟩ ⟨Nat.zero_le _, Nat.zero_le _⟩ hl.1 (Nat.le_of_ble_eq_true rfl) dX4_left_84 (fun H locs h => ?_)
        refine lv_lload C.x C.bc dX4_left_87 (lv_at hl 3 rfl) ?_
        refine lv_lload C.x C.bc dX4_left_89 (lv_at hl 4 rfl) ?_
        refine lv_lsub C.x C.bc dX4_left_91 ?_
        obtain ⟨v6_34, e_34, hx⟩ := nm_x hx
        refine x_tl e_34 ?_
        refine lv_lstore (lv' := [(6, .long v6_34), (9, .int r_13), (0, .ref (E.ad 33)), (2, .int v2), (4, .long v4), (8, .int v8)]) C.x C.bc dX4_left_92 hl (by decide) rfl (fun ls hl => ?_)
        exact bX4_left_7_94 C hI v2 v4 v6_34 v8 st_33 hx hG hE0 hE1 K h (lv_sub hl [2, 3, 4, 0, 5] rfl)
    · have hx := ge_t hx c_14
      obtain rfl := Option.some.inj hx
      exact hE0 _ K _ _ _ h (lv_sub hl [] rfl)
set_option maxHeartbeats 1000000 in
theorem pX4_left_7_49 (C : Cx E s0 b p s m args meth c cX4_left 13 "EarthMesh$Determinant" (some .long)) (hI : Sx E) (v2 : Int32) (v4 : Int64) {Q : State → Prop} {v6 : Int64} {v8 : Int32} {st : St} {n : Nat} {r : (St) ⊕ (Int64 × St)} (hx : iter (u3 fun v6 v8 st => fX4_left_7_49 v2 v4 v6 v8 st) n (v6, v8, st) = some r) (hE : (fun t => match t with | (.inl t) => (∀ (H : Heap) (locs : List Loc) (ls : Array Slot), XH E (sg t) s H locs → lv_has ls 13 [] → W p l e rmX4_left_7 s m args below meth c H locs 0 0 Q (F0 m 70 ls [])) | (.inr t) => (∀ (H : Heap) (locs : List Loc) (ls : Array Slot), XH E (sg t.2) s H locs → lv_has ls 13 [(6, .long t.1)] → W p l e rmX4_left_7 s m args below meth c H locs 0 0 Q (F0 m 172 ls []))) r) {H : Heap} {locs : List Loc} {ls : Array Slot} (h : XH E (sg st) s H locs) (hl : lv_has ls 13 [(0, .ref (E.ad 33)), (2, .int v2), (4, .long v4), (6, .long v6), (8, .int v8)]) : W p l e rmX4_left_7 s m args below meth c H locs 0 0 Q (F0 m 49 ls []) := by
  refine iter_W (G := fun t => ∀ (H : Heap) (locs : List Loc) (ls : Array Slot), XH E (sg t.2.2) s H locs → lv_has ls 13 [(0, .ref (E.ad 33)), (2, .int v2), (4, .long v4), (6, .long t.1), (8, .int t.2.1)] → W p l e rmX4_left_7 s m args below meth c H locs 0 0 Q (F0 m 49 ls [])) (E := fun t => match t with | (.inl t) => (∀ (H : Heap) (locs : List Loc) (ls : Array Slot), XH E (sg t) s H locs → lv_has ls 13 [] → W p l e rmX4_left_7 s m args below meth c H locs 0 0 Q (F0 m 70 ls [])) | (.inr t) => (∀ (H : Heap) (locs : List Loc) (ls : Array Slot), XH E (sg t.2) s H locs → lv_has ls 13 [(6, .long t.1)] → W p l e rmX4_left_7 s m args below meth c H locs 0 0 Q (F0 m 172 ls []))) (fun t x hx K H locs ls h hl => ?_) n _ r hx hE H locs ls h hl
  obtain ⟨v6, v8, st⟩ := t
  exact bX4_left_7_49 C hI v2 v4 v6 v8 st hx (fun _ _ _ z => z) (fun _ z => z) (fun _ _ z => z) K h hl
def fX4_left_7 (v2 : Int32) (v3 : Int32) (v4 : Int64) (st : St) : Option (Int64 × St) :=
  bd (fX4_lays_7 v2 v4 st) fun st_1 =>
  bd (iter (u2 fun z6 zst => fX4_left_7_11 v2 v3 v4 z6 zst) FU ((0 : Int32), st_1)) (u1 fun st_11 =>
  bd (iter (u3 fun z6 z8 zst => fX4_left_7_49 v2 v4 z6 z8 zst) FU ((1 : Int64), (0 : Int32), st_11)) (Sum.elim (u1 fun st_35 =>
    some ((0 : Int64), st_35)) (u2 fun v6_35 st_35 =>
    some (v6_35, st_35))))
set_option maxHeartbeats 1000000 in
theorem bX4_left_7 (C : Cx E s0 b p s m args meth c cX4_left 13 "EarthMesh$Determinant" (some .long)) (hI : Sx E) (v2 : Int32) (v3 : Int32) (v4 : Int64) (st : St) {x : Int64 × St} (hx : fX4_left_7 v2 v3 v4 st = some x) {H : Heap} {locs : List Loc} {ls : Array Slot} (h : XH E (sg st) s H locs) (hl : lv_has ls 13 [(0, .ref (E.ad 33)), (1, .ref (E.ad 7)), (2, .int v2), (3, .int v3), (4, .long v4)]) : W p l e rmX4_left_7 s m args below meth c H locs 0 0 (MQ below (Qx E (some (.long x.1)) (sg x.2)) args s 0 0 (gA E.HB)) (F0 m 0 ls []) := by
  unfold fX4_left_7 at hx
  refine lv_aload_n C.x C.bc dX4_left_0 rfl (lv_at hl 0 rfl) ?_
  refine lv_aload_n C.x C.bc dX4_left_1 rfl (lv_at hl 1 rfl) ?_
  refine lv_iload_n C.x C.bc dX4_left_2 rfl (lv_at hl 2 rfl) ?_
  refine lv_lload C.x C.bc dX4_left_3 (lv_at hl 4 rfl) ?_
  obtain ⟨st_1, hf_1, hx⟩ := bd_e hx
  refine cX4_43_X4_lays_7 C hI h hf_1 ⟨Nat.le_of_ble_eq_true rfl, Nat.le_of_ble_eq_true rfl⟩ ⟨Nat.zero_le _, Nat.zero_le _⟩ hl.1 (Nat.le_of_ble_eq_true rfl) dX4_left_5 (fun H locs h => ?_)
  refine lv_iconst (v := (0 : Int32)) C.x C.bc dX4_left_8 (by decide) ?_
  refine lv_istore (lv' := [(6, .int (0 : Int32)), (0, .ref (E.ad 33)), (1, .ref (E.ad 7)), (2, .int v2), (3, .int v3), (4, .long v4)]) C.x C.bc dX4_left_9 hl (by decide) rfl (fun ls hl => ?_)
  obtain ⟨st_11, hi_11, hx⟩ := bd_e hx
  have hx := u1_e hx
  refine pX4_left_7_11 C hI v2 v3 v4 hi_11 (fun H locs ls h hl => ?_) h (lv_sub hl [1, 3, 4, 5, 0] rfl)
  refine lv_lconst (v := (1 : Int64)) C.x C.bc dX4_left_43 (by decide) ?_
  refine lv_lstore (lv' := [(6, .long (1 : Int64)), (0, .ref (E.ad 33)), (2, .int v2), (4, .long v4)]) C.x C.bc dX4_left_44 hl (by decide) rfl (fun ls hl => ?_)
  refine lv_iconst (v := (0 : Int32)) C.x C.bc dX4_left_46 (by decide) ?_
  refine lv_istore (lv' := [(8, .int (0 : Int32)), (6, .long (1 : Int64)), (0, .ref (E.ad 33)), (2, .int v2), (4, .long v4)]) C.x C.bc dX4_left_47 hl (by decide) rfl (fun ls hl => ?_)
  obtain ⟨r_35, hi_35, hx⟩ := bd_e hx
  rcases r_35 with st_35 | ⟨v6_35, st_35⟩
  · have hx := sl_e hx; have hx := u1_e hx
    refine pX4_left_7_49 C hI v2 v4 hi_35 (fun H locs ls h hl => ?_) h (lv_sub hl [2, 3, 4, 1, 0] rfl)
    refine lv_lconst (v := (0 : Int64)) C.x C.bc dX4_left_70 (by decide) ?_
    obtain rfl := Option.some.inj hx
    exact x_lret C h dX4_left_71
  · have hx := sr_e hx; have hx := u2_e hx
    refine pX4_left_7_49 C hI v2 v4 hi_35 (fun H locs ls h hl => ?_) h (lv_sub hl [2, 3, 4, 1, 0] rfl)
    refine lv_lload C.x C.bc dX4_left_172 (lv_at hl 0 rfl) ?_
    obtain rfl := Option.some.inj hx
    exact x_lret C h dX4_left_174
theorem mX4_left_7 (hG : G0 E s0 b) (hI : Sx E) {v2 : Int32} {v3 : Int32} {v4 : Int64} {x : Int64 × St} (hx : fX4_left_7 v2 v3 v4 st = some x) : Mt l E s0 yX4_left cX4_left 13 (some .long) rmX4_left_7 [.ref (E.ad 33), .ref (E.ad 7), .int v2, .int v3, .long v4] (sg st) (some (.long x.1)) E (sg x.2) :=
  Mt.of hG (by decide) (Nat.le_of_ble_eq_true rfl) (fun p e s m below meth c ls C h hl => bX4_left_7 C hI v2 v3 v4 st hx h hl)
theorem cX4_63_X4_left_7 {a1 : Int32} {a2 : Int32} {a3 : Int64} {r : Int64} {st' : St} (C : Cx E s0 b p s m args meth c cc nL "EarthMesh$Determinant" rt) (hI : Sx E) (h : XH E (sg st) s H locs) (hf : fX4_left_7 a1 a2 a3 st = some (r, st')) (hR : rmX4_left_7.frames + 1 ≤ R.frames ∧ 16 + (13 + 11) + rmX4_left_7.locals ≤ R.locals) (h0 : cells ≤ R.cells ∧ slots ≤ R.slots) (hsz : ls.size = nL) (hcat : (rest.map fun v => v.category).sum ≤ 16) (hdg : decode cc pc = .ok (.invokevirtual 63, 3)) (kk : ∀ (H : Heap) (locs : List Loc), XH E (sg st') s H locs → W p l e R s m args below meth c H locs cells slots Q (F0 m (pc + 3) ls (.long r :: rest))) : W p l e R s m args below meth c H locs cells slots Q (F0 m pc ls (.long a3 :: .int a2 :: .int a1 :: .ref (E.ad 7) :: .ref (E.ad 33) :: rest)) :=
  x_callV (n := 4) (As := [.ref (E.ad 7), .int a1, .int a2, .long a3]) C h 33 3 (hI 33 (by decide)) k_33 rfl (mX4_left_7 C.g hI hf) (lw_V q1155 q1157 qs25 q133 q1158) ⟨rfl, by decide +kernel, by decide +kernel, by decide +kernel⟩ hR ⟨rfl, rfl⟩ h0 rfl hsz rfl hcat hdg kk
end
