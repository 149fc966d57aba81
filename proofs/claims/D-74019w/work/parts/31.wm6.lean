set_option maxRecDepth 100000
section
variable {p : Program} {l : Launch} {e : Env} {R : Room} {s : State} {m : MethodId} {args : Array Value} {below : List Frame} {meth : Method} {c : Code} {H : Heap} {locs : List Loc} {cells slots : Nat} {Q : State → Prop}
variable {cc : ByteArray} {pc : Nat} {ls : Array Slot} {rest : List Value} {E : Wd} {s0 : State} {b nL : Nat} {rt : Option FieldType} {g st : St}
abbrev rmX6_melt : Room := { frames := 1, cells := 0, slots := 0, locals := 30 }
def fX6_melt_143 (v1 : Int32) (v2 : Int32) (st : St) : Option ((Int32 × Int32 × St) ⊕ (Int32 × St)) :=
  nm (v2 + (1 : Int32)) fun v2_8 =>
  some (.inl (v1, v2_8, st))
set_option maxHeartbeats 1000000 in
theorem bX6_melt_143 (C : Cx E s0 b p s m args meth c cX6_melt 7 "EarthMeshModel" (some .boolean)) (hI : Sx E) (v1 : Int32) (v2 : Int32) (st : St) {x : (Int32 × Int32 × St) ⊕ (Int32 × St)} (hx : fX6_melt_143 v1 v2 st = some x) {Q : State → Prop} {G : Int32 × Int32 × St → Prop} {X : Int32 × St → Prop} (hG : ∀ (w1 : Int32) (w2 : Int32) (wst : St), G (w1, w2, wst) → ∀ (H : Heap) (locs : List Loc) (ls : Array Slot), XH E (sg wst) s H locs → lv_has ls 7 [(0, .ref (E.ad 68)), (1, .int w1), (2, .int w2)] → W p l e rmX6_melt s m args below meth c H locs 0 0 Q (F0 m 4 ls [])) (hE0 : ∀ (w1 : Int32) (wst : St), X (w1, wst) → ∀ (H : Heap) (locs : List Loc) (ls : Array Slot), XH E (sg wst) s H locs → lv_has ls 7 [(0, .ref (E.ad 68)), (1, .int w1)] → W p l e rmX6_melt s m args below meth c H locs 0 0 Q (F0 m 149 ls [])) (K : Kx G X x) {H : Heap} {locs : List Loc} {ls : Array Slot} (h : XH E (sg st) s H locs) (hl : lv_has ls 7 [(0, .ref (E.ad 68)), (1, .int v1), (2, .int v2)]) : W p l e rmX6_melt s m args below meth c H locs 0 0 Q (F0 m 143 ls []) := by
  unfold fX6_melt_143 at hx
  obtain ⟨v2_8, e_8, hx⟩ := nm_x hx
  refine lv_iinc (v := v2_8) (lv' := [(2, .int v2_8), (0, .ref (E.ad 68)), (1, .int v1)]) C.x C.bc dX6_melt_143 hl (k := 2) rfl (by rw [e_8]; rfl) (by decide) rfl (fun ls hl => ?_)
  refine lv_goto (tgt := 4) C.x C.bc dX6_melt_146 (by decide) ?_
  obtain rfl := Option.some.inj hx
  exact hG _ _ _ K _ _ _ h (lv_sub hl [1, 2, 0] rfl)
def fX6_melt_142 (v2 : Int32) (k0 : Int32) (st : St) : Option ((Int32 × Int32 × St) ⊕ (Int32 × St)) :=
  fX6_melt_143 k0 v2 st
set_option maxHeartbeats 1000000 in
theorem bX6_melt_142 (C : Cx E s0 b p s m args meth c cX6_melt 7 "EarthMeshModel" (some .boolean)) (hI : Sx E) (v2 : Int32) (k0 : Int32) (st : St) {x : (Int32 × Int32 × St) ⊕ (Int32 × St)} (hx : fX6_melt_142 v2 k0 st = some x) {Q : State → Prop} {G : Int32 × Int32 × St → Prop} {X : Int32 × St → Prop} (hG : ∀ (w1 : Int32) (w2 : Int32) (wst : St), G (w1, w2, wst) → ∀ (H : Heap) (locs : List Loc) (ls : Array Slot), XH E (sg wst) s H locs → lv_has ls 7 [(0, .ref (E.ad 68)), (1, .int w1), (2, .int w2)] → W p l e rmX6_melt s m args below meth c H locs 0 0 Q (F0 m 4 ls [])) (hE0 : ∀ (w1 : Int32) (wst : St), X (w1, wst) → ∀ (H : Heap) (locs : List Loc) (ls : Array Slot), XH E (sg wst) s H locs → lv_has ls 7 [(0, .ref (E.ad 68)), (1, .int w1)] → W p l e rmX6_melt s m args below meth c H locs 0 0 Q (F0 m 149 ls [])) (K : Kx G X x) {H : Heap} {locs : List Loc} {ls : Array Slot} (h : XH E (sg st) s H locs) (hl : lv_has ls 7 [(0, .ref (E.ad 68)), (2, .int v2)]) : W p l e rmX6_melt s m args below meth c H locs 0 0 Q (F0 m 142 ls [.int k0]) := by
  unfold fX6_melt_142 at hx
  refine lv_istore_n (lv' := [(1, .int k0), (0, .ref (E.ad 68)), (2, .int v2)]) C.x C.bc dX6_melt_142 rfl hl (by decide) rfl (fun ls hl => ?_)
  exact bX6_melt_143 C hI k0 v2 st hx hG hE0 K h (lv_sub hl [1, 0, 2] rfl)
def fX6_melt_137 (v2 : Int32) (st : St) : Option ((Int32 × Int32 × St) ⊕ (Int32 × St)) :=
  fX6_melt_142 v2 (1 : Int32) st
set_option maxHeartbeats 1000000 in
theorem bX6_melt_137 (C : Cx E s0 b p s m args meth c cX6_melt 7 "EarthMeshModel" (some .boolean)) (hI : Sx E) (v2 : Int32) (st : St) {x : (Int32 × Int32 × St) ⊕ (Int32 × St)} (hx : fX6_melt_137 v2 st = some x) {Q : State → Prop} {G : Int32 × Int32 × St → Prop} {X : Int32 × St → Prop} (hG : ∀ (w1 : Int32) (w2 : Int32) (wst : St), G (w1, w2, wst) → ∀ (H : Heap) (locs : List Loc) (ls : Array Slot), XH E (sg wst) s H locs → lv_has ls 7 [(0, .ref (E.ad 68)), (1, .int w1), (2, .int w2)] → W p l e rmX6_melt s m args below meth c H locs 0 0 Q (F0 m 4 ls [])) (hE0 : ∀ (w1 : Int32) (wst : St), X (w1, wst) → ∀ (H : Heap) (locs : List Loc) (ls : Array Slot), XH E (sg wst) s H locs → lv_has ls 7 [(0, .ref (E.ad 68)), (1, .int w1)] → W p l e rmX6_melt s m args below meth c H locs 0 0 Q (F0 m 149 ls [])) (K : Kx G X x) {H : Heap} {locs : List Loc} {ls : Array Slot} (h : XH E (sg st) s H locs) (hl : lv_has ls 7 [(0, .ref (E.ad 68)), (2, .int v2)]) : W p l e rmX6_melt s m args below meth c H locs 0 0 Q (F0 m 137 ls []) := by
  unfold fX6_melt_137 at hx
  refine lv_iconst (v := (1 : Int32)) C.x C.bc dX6_melt_137 (by decide) ?_
  refine lv_goto (tgt := 142) C.x C.bc dX6_melt_138 (by decide) ?_
  exact bX6_melt_142 C hI v2 (1 : Int32) st hx hG hE0 K h (lv_sub hl [0, 1] rfl)
def fX6_melt_123 (v1 : Int32) (v2 : Int32) (k1 : Int32) (k2 : Int32) (st : St) : Option ((Int32 × Int32 × St) ⊕ (Int32 × St)) :=
  gd (inB k1 24) <|
  nm (uI st 84 k1.toNatClampNeg (vp_nar .boolean k2)) fun st_20 =>
  if v1 = 0 then
    gd (inB v2 24) <|
    if (st_20.1 84 v2.toNatClampNeg) = 0 then
      fX6_melt_142 v2 (0 : Int32) st_20
    else
      fX6_melt_137 v2 st_20
  else
    fX6_melt_137 v2 st_20
set_option maxHeartbeats 1000000 in
theorem bX6_melt_123 (C : Cx E s0 b p s m args meth c cX6_melt 7 "EarthMeshModel" (some .boolean)) (hI : Sx E) (v1 : Int32) (v2 : Int32) (k1 : Int32) (k2 : Int32) (st : St) {x : (Int32 × Int32 × St) ⊕ (Int32 × St)} (hx : fX6_melt_123 v1 v2 k1 k2 st = some x) {Q : State → Prop} {G : Int32 × Int32 × St → Prop} {X : Int32 × St → Prop} (hG : ∀ (w1 : Int32) (w2 : Int32) (wst : St), G (w1, w2, wst) → ∀ (H : Heap) (locs : List Loc) (ls : Array Slot), XH E (sg wst) s H locs → lv_has ls 7 [(0, .ref (E.ad 68)), (1, .int w1), (2, .int w2)] → W p l e rmX6_melt s m args below meth c H locs 0 0 Q (F0 m 4 ls [])) (hE0 : ∀ (w1 : Int32) (wst : St), X (w1, wst) → ∀ (H : Heap) (locs : List Loc) (ls : Array Slot), XH E (sg wst) s H locs → lv_has ls 7 [(0, .ref (E.ad 68)), (1, .int w1)] → W p l e rmX6_melt s m args below meth c H locs 0 0 Q (F0 m 149 ls [])) (K : Kx G X x) {H : Heap} {locs : List Loc} {ls : Array Slot} (h : XH E (sg st) s H locs) (hl : lv_has ls 7 [(0, .ref (E.ad 68)), (1, .int v1), (2, .int v2)]) : W p l e rmX6_melt s m args below meth c H locs 0 0 Q (F0 m 123 ls [.int k2, .int k1, .ref (E.ad 84)]) := by
  unfold fX6_melt_123 at hx
  obtain ⟨g_19, hx⟩ := gd_e hx
  obtain ⟨st_20, e_20, hx⟩ := nm_x hx
  refine y_zast C h 84 24 (hI 84 (by decide)) k_84 g_19 e_20 dX6_melt_123 (fun H locs h => ?_)
  refine lv_iload_n C.x C.bc dX6_melt_124 rfl (lv_at hl 1 rfl) ?_
  refine lv_if_ne (tgt := 137) C.x C.bc dX6_melt_125 (by decide) (fun c_21 => ?_) (fun c_21 => ?_)
  · have hx := ge_f hx c_21
    exact bX6_melt_137 C hI v2 st_20 hx hG hE0 K h (lv_sub hl [0, 2] rfl)
  · have hx := ge_t hx c_21
    refine lv_aload_n C.x C.bc dX6_melt_128 rfl (lv_at hl 0 rfl) ?_
    refine gt_X6_79_68 C hI h dX6_melt_129 ?_
    refine lv_iload_n C.x C.bc dX6_melt_132 rfl (lv_at hl 2 rfl) ?_
    obtain ⟨g_22, hx⟩ := gd_e hx
    refine x_zald C h 84 24 (hI 84 (by decide)) k_84 g_22 dX6_melt_133 ?_
    refine lv_if_eq (tgt := 141) C.x C.bc dX6_melt_134 (by decide) (fun c_23 => ?_) (fun c_23 => ?_)
    · have hx := ge_t hx c_23
      refine lv_iconst (v := (0 : Int32)) C.x C.bc dX6_melt_141 (by decide) ?_
      exact bX6_melt_142 C hI v2 (0 : Int32) st_20 hx hG hE0 K h (lv_sub hl [0, 2] rfl)
    · have hx := ge_f hx c_23
      exact bX6_melt_137 C hI v2 st_20 hx hG hE0 K h (lv_sub hl [0, 2] rfl)
def fX6_melt_100 (v1 : Int32) (v2 : Int32) (k1 : Int32) (k2 : Int64) (k3 : Int64) (st : St) : Option ((Int32 × Int32 × St) ⊕ (Int32 × St)) :=
  gd (inB (9 : Int32) 46) <|
  if (((st.1 70 (9 : Int32).toNatClampNeg).toInt64) * (st.2.1 68 19)) < (k2 * k3) then
    fX6_melt_123 v1 v2 k1 (1 : Int32) st
  else
    fX6_melt_123 v1 v2 k1 (0 : Int32) st
set_option maxHeartbeats 1000000 in
theorem bX6_melt_100 (C : Cx E s0 b p s m args meth c cX6_melt 7 "EarthMeshModel" (some .boolean)) (hI : Sx E) (v1 : Int32) (v2 : Int32) (k1 : Int32) (k2 : Int64) (k3 : Int64) (st : St) {x : (Int32 × Int32 × St) ⊕ (Int32 × St)} (hx : fX6_melt_100 v1 v2 k1 k2 k3 st = some x) {Q : State → Prop} {G : Int32 × Int32 × St → Prop} {X : Int32 × St → Prop} (hG : ∀ (w1 : Int32) (w2 : Int32) (wst : St), G (w1, w2, wst) → ∀ (H : Heap) (locs : List Loc) (ls : Array Slot), XH E (sg wst) s H locs → lv_has ls 7 [(0, .ref (E.ad 68)), (1, .int w1), (2, .int w2)] → W p l e rmX6_melt s m args below meth c H locs 0 0 Q (F0 m 4 ls [])) (hE0 : ∀ (w1 : Int32) (wst : St), X (w1, wst) → ∀ (H : Heap) (locs : List Loc) (ls : Array Slot), XH E (sg wst) s H locs → lv_has ls 7 [(0, .ref (E.ad 68)), (1, .int w1)] → W p l e rmX6_melt s m args below meth c H locs 0 0 Q (F0 m 149 ls [])) (K : Kx G X x) {H : Heap} {locs : List Loc} {ls : Array Slot} (h : XH E (sg st) s H locs) (hl : lv_has ls 7 [(0, .ref (E.ad 68)), (1, .int v1), (2, .int v2)]) : W p l e rmX6_melt s m args below meth c H locs 0 0 Q (F0 m 100 ls [.long k3, .long k2, .int k1, .ref (E.ad 84)]) := by
  unfold fX6_melt_100 at hx
  refine lv_lmul C.x C.bc dX6_melt_100 ?_
  refine lv_aload_n C.x C.bc dX6_melt_101 rfl (lv_at hl 0 rfl) ?_
  refine gt_X6_31_68 C hI h dX6_melt_102 ?_
  refine lv_bipush (v := (9 : Int32)) C.x C.bc dX6_melt_105 (by decide) ?_
  obtain ⟨g_17, hx⟩ := gd_e hx
  refine x_iald C h 70 46 (hI 70 (by decide)) k_70 g_17 dX6_melt_107 ?_
  refine lv_i2l (v := ((st.1 70 (9 : Int32).toNatClampNeg).toInt64)) C.x C.bc dX6_melt_108 rfl ?_
  refine lv_aload_n C.x C.bc dX6_melt_109 rfl (lv_at hl 0 rfl) ?_
  refine gt_X6_233_68 C hI h dX6_melt_110 ?_
  refine lv_lmul C.x C.bc dX6_melt_113 ?_
  refine W.lcmp C.x C.bc dX6_melt_114 ?_
  refine lv_if_le (tgt := 122) C.x C.bc dX6_melt_115 (by decide) (fun c_18 => ?_) (fun c_18 => ?_)
  · have c_18 := (lc_le _ _).mp c_18
    have hx := ge_f hx c_18
    refine lv_iconst (v := (0 : Int32)) C.x C.bc dX6_melt_122 (by decide) ?_
    exact bX6_melt_123 C hI v1 v2 k1 (0 : Int32) st hx hG hE0 K h (lv_sub hl [0, 1, 2] rfl)
  · have c_18 := Classical.not_not.mp ((not_congr (lc_le _ _)).mp c_18)
    have hx := ge_t hx c_18
    refine lv_iconst (v := (1 : Int32)) C.x C.bc dX6_melt_118 (by decide) ?_
    refine lv_goto (tgt := 123) C.x C.bc dX6_melt_119 (by decide) ?_
    exact bX6_melt_123 C hI v1 v2 k1 (1 : Int32) st hx hG hE0 K h (lv_sub hl [0, 1, 2] rfl)
def fX6_melt_4 (v1 : Int32) (v2 : Int32) (st : St) : Option ((Int32 × Int32 × St) ⊕ (Int32 × St)) :=
  if (24 : Int32) ≤ v2 then
    some (.inr (v1, st))
  else
    nm (jrem v2 (12 : Int32)) fun v3_2 =>
    nm (v2 / (12 : Int32)) fun v4_3 =>
    gd (inB v2 24) <|
    nm (uI st 84 v2.toNatClampNeg (vp_nar .boolean (0 : Int32))) fun st_5 =>
    bd (fX6_nodes_70 st_5) fun r_6 =>
    if r_6 ≤ v3_2 then
      fX6_melt_143 v1 v2 st_5
    else
      bd (fX6_part v3_2 v4_3 st_5) fun r_9 =>
      if r_9 = 0 then
        fX6_melt_143 v1 v2 st_5
      else
        gd (inB v3_2 12) <|
        bd (fX6_end v3_2 v4_3 st_5) fun r_12 =>
        gd (inB r_12 12) <|
        nm ((st_5.2.1 76 v3_2.toNatClampNeg) - (st_5.2.1 76 r_12.toNatClampNeg)) fun v5_14 =>
        gd (inB (3 : Int32) 46) <|
        if v5_14 < (0 : Int64) then
          fX6_melt_100 v1 v2 v2 ((st_5.1 70 (3 : Int32).toNatClampNeg).toInt64) (-v5_14) st_5
        else
          fX6_melt_100 v1 v2 v2 ((st_5.1 70 (3 : Int32).toNatClampNeg).toInt64) v5_14 st_5
set_option maxHeartbeats 1000000 in
theorem bX6_melt_4 (C : Cx E s0 b p s m args meth c cX6_melt 7 "EarthMeshModel" (some .boolean)) (hI : Sx E) (v1 : Int32) (v2 : Int32) (st : St) {x : (Int32 × Int32 × St) ⊕ (Int32 × St)} (hx : fX6_melt_4 v1 v2 st = some x) {Q : State → Prop} {G : Int32 × Int32 × St → Prop} {X : Int32 × St → Prop} (hG : ∀ (w1 : Int32) (w2 : Int32) (wst : St), G (w1, w2, wst) → ∀ (H : Heap) (locs : List Loc) (ls : Array Slot), XH E (sg wst) s H locs → lv_has ls 7 [(0, .ref (E.ad 68)), (1, .int w1), (2, .int w2)] → W p l e rmX6_melt s m args below meth c H locs 0 0 Q (F0 m 4 ls [])) (hE0 : ∀ (w1 : Int32) (wst : St), X (w1, wst) → ∀ (H : Heap) (locs : List Loc) (ls : Array Slot), XH E (sg wst) s H locs → lv_has ls 7 [(0, .ref (E.ad 68)), (1, .int w1)] → W p l e rmX6_melt s m args below meth c H locs 0 0 Q (F0 m 149 ls [])) (K : Kx G X x) {H : Heap} {locs : List Loc} {ls : Array Slot} (h : XH E (sg st) s H locs) (hl : lv_has ls 7 [(0, .ref (E.ad 68)), (1, .int v1), (2, .int v2)]) : W p l e rmX6_melt s m args below meth c H locs 0 0 Q (F0 m 4 ls []) := by
  unfold fX6_melt_4 at hx
  refine lv_iload_n C.x C.bc dX6_melt_4 rfl (lv_at hl 2 rfl) ?_
  refine lv_bipush (v := (24 : Int32)) C.x C.bc dX6_melt_5 (by decide) ?_
  refine lv_icmp_ge (tgt := 149) C.x C.bc dX6_melt_7 (by decide) (fun c_1 => ?_) (fun c_1 => ?_)
  · have hx := ge_t hx c_1
    obtain rfl := Option.some.inj hx
    exact hE0 _ _ K _ _ _ h (lv_sub hl [0, 1] rfl)
  · have hx := ge_f hx c_1
    refine lv_iload_n C.x C.bc dX6_melt_10 rfl (lv_at hl 2 rfl) ?_
    refine lv_bipush (v := (12 : Int32)) C.x C.bc dX6_melt_11 (by decide) ?_
    refine y_irem C.x C.bc dX6_melt_13 (by decide) ?_
    obtain ⟨v3_2, e_2, hx⟩ := nm_x hx
    refine x_ti e_2 ?_
    refine lv_istore_n (lv' := [(3, .int v3_2), (0, .ref (E.ad 68)), (1, .int v1), (2, .int v2)]) C.x C.bc dX6_melt_14 rfl hl (by decide) rfl (fun ls hl => ?_)
    refine lv_iload_n C.x C.bc dX6_melt_15 rfl (lv_at hl 3 rfl) ?_
    refine lv_bipush (v := (12 : Int32)) C.x C.bc dX6_melt_16 (by decide) ?_
    refine lv_idiv C.x C.bc dX6_melt_18 (by decide) ?_
    obtain ⟨v4_3, e_3, hx⟩ := nm_x hx
    refine x_ti e_3 ?_
    refine lv_istore (lv' := [(4, .int v4_3), (3, .int v3_2), (0, .ref (E.ad 68)), (1, .int v1), (2, .int v2)]) C.x C.bc dX6_melt_19 hl (by decide) rfl (fun ls hl => ?_)
    refine lv_aload_n C.x C.bc dX6_melt_21 rfl (lv_at hl 2 rfl) ?_
    refine gt_X6_79_68 C hI h dX6_melt_22 ?_
    refine lv_iload_n C.x C.bc dX6_melt_25 rfl (lv_at hl 4 rfl) ?_
    refine lv_iconst (v := (0 : Int32)) C.x C.bc dX6_melt_26 (by decide) ?_
    obtain ⟨g_4, hx⟩ := gd_e hx
    obtain ⟨st_5, e_5, hx⟩ := nm_x hx
    refine y_zast C h 84 24 (hI 84 (by decide)) k_84 g_4 e_5 dX6_melt_27 (fun H locs h => ?_)
    refine lv_iload_n C.x C.bc dX6_melt_28 rfl (lv_at hl 1 rfl) ?_
    refine lv_aload_n C.x C.bc dX6_melt_29 rfl (lv_at hl 2 rfl) ?_
    refine gt_X6_31_68 C hI h dX6_melt_30 ?_
    obtain ⟨r_6, hf_6, hx⟩ := bd_e hx
    refine cX6_190_X6_nodes_70 C hI h hf_6 ⟨Nat.le_of_ble_eq_true rfl, Nat.le_of_ble_eq_true rfl⟩ ⟨Nat.zero_le _, Nat.zero_le _⟩ hl.1 (Nat.le_of_ble_eq_true rfl) dX6_melt_33 (fun H locs h => ?_)
    refine lv_icmp_ge (tgt := 143) C.x C.bc dX6_melt_36 (by decide) (fun c_7 => ?_) (fun c_7 => ?_)
    · have hx := ge_t hx c_7
      exact bX6_melt_143 C hI v1 v2 st_5 hx hG hE0 K h (lv_sub hl [2, 3, 4] rfl)
    · have hx := ge_f hx c_7
      refine lv_aload_n C.x C.bc dX6_melt_39 rfl (lv_at hl 2 rfl) ?_
      refine lv_iload_n C.x C.bc dX6_melt_40 rfl (lv_at hl 1 rfl) ?_
      refine lv_iload C.x C.bc dX6_melt_41 (lv_at hl 0 rfl) ?_
      obtain ⟨r_9, hf_9, hx⟩ := bd_e hx
      refine cX6_194_X6_part C hI h hf_9 ⟨Nat.le_of_ble_eq_true rfl, Nat.le_of_ble_eq_true rfl⟩ ⟨Nat.zero_le _, Nat.zero_le _⟩ hl.1 (Nat.le_of_ble_eq_true rfl) dX6_melt_43 (fun H locs h => ?_)
      refine lv_if_ne (tgt := 52) C.x C.bc dX6_melt_46 (by decide) (fun c_10 => ?_) (fun c_10 => ?_)
      · have hx := ge_f hx c_10
        refine lv_aload_n C.x C.bc dX6_melt_52 rfl (lv_at hl 2 rfl) ?_
        refine gt_X6_55_68 C hI h dX6_melt_53 ?_
        refine lv_iload_n C.x C.bc dX6_melt_56 rfl (lv_at hl 1 rfl) ?_
        obtain ⟨g_11, hx⟩ := gd_e hx
        refine x_lald C h 76 12 (hI 76 (by decide)) k_76 g_11 dX6_melt_57 ?_
        refine lv_aload_n C.x C.bc dX6_melt_58 rfl (lv_at hl 2 rfl) ?_
        refine gt_X6_55_68 C hI h dX6_melt_59 ?_
        refine lv_aload_n C.x C.bc dX6_melt_62 rfl (lv_at hl 2 rfl) ?_
        refine lv_iload_n C.x C.bc dX6_melt_63 rfl (lv_at hl 1 rfl) ?_
        refine lv_iload C.x C.bc dX6_melt_64 (lv_at hl 0 rfl) ?_
        obtain ⟨r_12, hf_12, hx⟩ := bd_e hx
        refine cX6_197_X6_end C hI h hf_12 ⟨Nat.le_of_ble_eq_true rfl, Nat.le_of_ble_eq_true rfl⟩ ⟨Nat.zero_le _, Nat.zero_le _⟩ hl.1 (Nat.le_of_ble_eq_true rfl) dX6_melt_66 (fun H locs h => ?_)
        obtain ⟨g_13, hx⟩ := gd_e hx
        refine x_lald C h 76 12 (hI 76 (by decide)) k_76 g_13 dX6_melt_69 ?_
        refine lv_lsub C.x C.bc dX6_melt_70 ?_
        obtain ⟨v5_14, e_14, hx⟩ := nm_x hx
        refine x_tl e_14 ?_
        refine lv_lstore (lv' := [(5, .long v5_14), (4, .int v4_3), (3, .int v3_2), (0, .ref (E.ad 68)), (1, .int v1), (2, .int v2)]) C.x C.bc dX6_melt_71 hl (by decide) rfl (fun ls hl => ?_)
        refine lv_aload_n C.x C.bc dX6_melt_73 rfl (lv_at hl 3 rfl) ?_
        refine gt_X6_79_68 C hI h dX6_melt_74 ?_
        refine lv_iload_n C.x C.bc dX6_melt_77 rfl (lv_at hl 5 rfl) ?_
        refine lv_aload_n C.x C.bc dX6_melt_78 rfl (lv_at hl 3 rfl) ?_
        refine gt_X6_31_68 C hI h dX6_melt_79 ?_
        refine lv_iconst (v := (3 : Int32)) C.x C.bc dX6_melt_82 (by decide) ?_
        obtain ⟨g_15, hx⟩ := gd_e hx
        refine x_iald C h 70 46 (hI 70 (by decide)) k_70 g_15 dX6_melt_83 ?_
        refine lv_i2l (v := ((st_5.1 70 (3 : Int32).toNatClampNeg).toInt64)) C.x C.bc dX6_melt_84 rfl ?_
        refine lv_lload C.x C.bc dX6_melt_85 (lv_at hl 0 rfl) ?_
        refine lv_lconst (v := (0 : Int64)) C.x C.bc dX6_melt_87 (by decide) ?_
        refine W.lcmp C.x C.bc dX6_melt_88 ?_
        refine lv_if_ge (tgt := 98) C.x C.bc dX6_melt_89 (by decide) (fun c_16 => ?_) (fun c_16 => ?_)
        · have c_16 := (lc_ge _ _).mp c_16
          have hx := ge_f hx c_16
          refine lv_lload C.x C.bc dX6_melt_98 (lv_at hl 0 rfl) ?_
          exact bX6_melt_100 C hI v1 v2 v2 ((st_5.1 70 (3 : Int32).toNatClampNeg).toInt64) v5_14 st_5 hx hG hE0 K h (lv_sub hl [3, 4, 5] rfl)
        · have c_16 := Classical.not_not.mp ((not_congr (lc_ge _ _)).mp c_16)
          have hx := ge_t hx c_16
          refine lv_lload C.x C.bc dX6_melt_92 (lv_at hl 0 rfl) ?_
          refine lv_lneg C.x C.bc dX6_melt_94 ?_
          refine lv_goto (tgt := 100) C.x C.bc dX6_melt_95 (by decide) ?_
          exact bX6_melt_100 C hI v1 v2 v2 ((st_5.1 70 (3 : Int32).toNatClampNeg).toInt64) (-v5_14) st_5 hx hG hE0 K h (lv_sub hl [3, 4, 5] rfl)
      · have hx := ge_t hx c_10
        refine lv_goto (tgt := 143) C.x C.bc dX6_melt_49 (by decide) ?_
        exact bX6_melt_143 C hI v1 v2 st_5 hx hG hE0 K h (lv_sub hl [2, 3, 4] rfl)
set_option maxHeartbeats 1000000 in
theorem pX6_melt_4 (C : Cx E s0 b p s m args meth c cX6_melt 7 "EarthMeshModel" (some .boolean)) (hI : Sx E) {Q : State → Prop} {v1 : Int32} {v2 : Int32} {st : St} {n : Nat} {r : Int32 × St} (hx : iter (u3 fun v1 v2 st => fX6_melt_4 v1 v2 st) n (v1, v2, st) = some r) (hE : (fun t => ∀ (H : Heap) (locs : List Loc) (ls : Array Slot), XH E (sg t.2) s H locs → lv_has ls 7 [(0, .ref (E.ad 68)), (1, .int t.1)] → W p l e rmX6_melt s m args below meth c H locs 0 0 Q (F0 m 149 ls [])) r) {H : Heap} {locs : List Loc} {ls : Array Slot} (h : XH E (sg st) s H locs) (hl : lv_has ls 7 [(0, .ref (E.ad 68)), (1, .int v1), (2, .int v2)]) : W p l e rmX6_melt s m args below meth c H locs 0 0 Q (F0 m 4 ls []) := by
  refine iter_W (G := fun t => ∀ (H : Heap) (locs : List Loc) (ls : Array Slot), XH E (sg t.2.2) s H locs → lv_has ls 7 [(0, .ref (E.ad 68)), (1, .int t.1), (2, .int t.2.1)] → W p l e rmX6_melt s m args below meth c H locs 0 0 Q (F0 m 4 ls [])) (E := fun t => ∀ (H : Heap) (locs : List Loc) (ls : Array Slot), XH E (sg t.2) s H locs → lv_has ls 7 [(0, .ref (E.ad 68)), (1, .int t.1)] → W p l e rmX6_melt s m args below meth c H locs 0 0 Q (F0 m 149 ls [])) (fun t x hx K H locs ls h hl => ?_) n _ r hx hE H locs ls h hl
  obtain ⟨v1, v2, st⟩ := t
  exact bX6_melt_4 C hI v1 v2 st hx (fun _ _ _ z => z) (fun _ _ z => z) K h hl
def fX6_melt_176 (v1 : Int32) (v2 : Int32) (st : St) : Option ((Int32 × St) ⊕ (St)) :=
  nm (v2 + (1 : Int32)) fun v2_28 =>
  some (.inl (v2_28, st))
set_option maxHeartbeats 1000000 in
theorem bX6_melt_176 (C : Cx E s0 b p s m args meth c cX6_melt 7 "EarthMeshModel" (some .boolean)) (hI : Sx E) (v1 : Int32) (v2 : Int32) (st : St) {x : (Int32 × St) ⊕ (St)} (hx : fX6_melt_176 v1 v2 st = some x) {Q : State → Prop} {G : Int32 × St → Prop} {X : St → Prop} (hG : ∀ (w2 : Int32) (wst : St), G (w2, wst) → ∀ (H : Heap) (locs : List Loc) (ls : Array Slot), XH E (sg wst) s H locs → lv_has ls 7 [(0, .ref (E.ad 68)), (1, .int v1), (2, .int w2)] → W p l e rmX6_melt s m args below meth c H locs 0 0 Q (F0 m 151 ls [])) (hE0 : ∀ (wst : St), X wst → ∀ (H : Heap) (locs : List Loc) (ls : Array Slot), XH E (sg wst) s H locs → lv_has ls 7 [(1, .int v1)] → W p l e rmX6_melt s m args below meth c H locs 0 0 Q (F0 m 182 ls [])) (K : Kx G X x) {H : Heap} {locs : List Loc} {ls : Array Slot} (h : XH E (sg st) s H locs) (hl : lv_has ls 7 [(0, .ref (E.ad 68)), (1, .int v1), (2, .int v2)]) : W p l e rmX6_melt s m args below meth c H locs 0 0 Q (F0 m 176 ls []) := by
  unfold fX6_melt_176 at hx
  obtain ⟨v2_28, e_28, hx⟩ := nm_x hx
  refine lv_iinc (v := v2_28) (lv' := [(2, .int v2_28), (0, .ref (E.ad 68)), (1, .int v1)]) C.x C.bc dX6_melt_176 hl (k := 2) rfl (by rw [e_28]; rfl) (by decide) rfl (fun ls hl => ?_)
  refine lv_goto (tgt := 151) C.x C.bc dX6_melt_179 (by decide) ?_
  obtain rfl := Option.some.inj hx
  exact hG _ _ K _ _ _ h (lv_sub hl [1, 2, 0] rfl)
def fX6_melt_151 (v1 : Int32) (v2 : Int32) (st : St) : Option ((Int32 × St) ⊕ (St)) :=
  if (24 : Int32) ≤ v2 then
    some (.inr st)
  else
    gd (inB v2 24) <|
    if (st.1 84 v2.toNatClampNeg) = 0 then
      fX6_melt_176 v1 v2 st
    else
      gd (inB ((10 : Int32) + v2) 46) <|
      nm (uI st 70 ((10 : Int32) + v2).toNatClampNeg (0 : Int32)) fun st_30 =>
      fX6_melt_176 v1 v2 st_30
set_option maxHeartbeats 1000000 in
theorem bX6_melt_151 (C : Cx E s0 b p s m args meth c cX6_melt 7 "EarthMeshModel" (some .boolean)) (hI : Sx E) (v1 : Int32) (v2 : Int32) (st : St) {x : (Int32 × St) ⊕ (St)} (hx : fX6_melt_151 v1 v2 st = some x) {Q : State → Prop} {G : Int32 × St → Prop} {X : St → Prop} (hG : ∀ (w2 : Int32) (wst : St), G (w2, wst) → ∀ (H : Heap) (locs : List Loc) (ls : Array Slot), XH E (sg wst) s H locs → lv_has ls 7 [(0, .ref (E.ad 68)), (1, .int v1), (2, .int w2)] → W p l e rmX6_melt s m args below meth c H locs 0 0 Q (F0 m 151 ls [])) (hE0 : ∀ (wst : St), X wst → ∀ (H : Heap) (locs : List Loc) (ls : Array Slot), XH E (sg wst) s H locs → lv_has ls 7 [(1, .int v1)] → W p l e rmX6_melt s m args below meth c H locs 0 0 Q (F0 m 182 ls [])) (K : Kx G X x) {H : Heap} {locs : List Loc} {ls : Array Slot} (h : XH E (sg st) s H locs) (hl : lv_has ls 7 [(0, .ref (E.ad 68)), (1, .int v1), (2, .int v2)]) : W p l e rmX6_melt s m args below meth c H locs 0 0 Q (F0 m 151 ls []) := by
  unfold fX6_melt_151 at hx
  refine lv_iload_n C.x C.bc dX6_melt_151 rfl (lv_at hl 2 rfl) ?_
  refine lv_bipush (v := (24 : Int32)) C.x C.bc dX6_melt_152 (by decide) ?_
  refine lv_icmp_ge (tgt := 182) C.x C.bc dX6_melt_154 (by decide) (fun c_25 => ?_) (fun c_25 => ?_)
  · have hx := ge_t hx c_25
    obtain rfl := Option.some.inj hx
    exact hE0 _ K _ _ _ h (lv_sub hl [1] rfl)
  · have hx := ge_f hx c_25
    refine lv_aload_n C.x C.bc dX6_melt_157 rfl (lv_at hl 0 rfl) ?_
    refine gt_X6_79_68 C hI h dX6_melt_158 ?_
    refine lv_iload_n C.x C.bc dX6_melt_161 rfl (lv_at hl 2 rfl) ?_
    obtain ⟨g_26, hx⟩ := gd_e hx
    refine x_zald C h 84 24 (hI 84 (by decide)) k_84 g_26 dX6_melt_162 ?_
    refine lv_if_eq (tgt := 176) C.x C.bc dX6_melt_163 (by decide) (fun c_27 => ?_) (fun c_27 => ?_)
    · have hx := ge_t hx c_27
      exact bX6_melt_176 C hI v1 v2 st hx hG hE0 K h (lv_sub hl [0, 1, 2] rfl)
    · have hx := ge_f hx c_27
      refine lv_aload_n C.x C.bc dX6_melt_166 rfl (lv_at hl 0 rfl) ?_
      refine gt_X6_31_68 C hI h dX6_melt_167 ?_
      refine lv_bipush (v := (10 : Int32)) C.x C.bc dX6_melt_170 (by decide) ?_
      refine lv_iload_n C.x C.bc dX6_melt_172 rfl (lv_at hl 2 rfl) ?_
      refine lv_iadd C.x C.bc dX6_melt_173 ?_
      refine lv_iconst (v := (0 : Int32)) C.x C.bc dX6_melt_174 (by decide) ?_
      obtain ⟨g_29, hx⟩ := gd_e hx
      obtain ⟨st_30, e_30, hx⟩ := nm_x hx
      refine y_iast C h 70 46 (hI 70 (by decide)) k_70 g_29 e_30 dX6_melt_175 (fun H locs h => ?_)
      exact bX6_melt_176 C hI v1 v2 st_30 hx hG hE0 K h (lv_sub hl [0, 1, 2] rfl)
set_option maxHeartbeats 1000000 in
theorem pX6_melt_151 (C : Cx E s0 b p s m args meth c cX6_melt 7 "EarthMeshModel" (some .boolean)) (hI : Sx E) (v1 : Int32) {Q : State → Prop} {v2 : Int32} {st : St} {n : Nat} {r : St} (hx : iter (u2 fun v2 st => fX6_melt_151 v1 v2 st) n (v2, st) = some r) (hE : (fun t => ∀ (H : Heap) (locs : List Loc) (ls : Array Slot), XH E (sg t) s H locs → lv_has ls 7 [(1, .int v1)] → W p l e rmX6_melt s m args below meth c H locs 0 0 Q (F0 m 182 ls [])) r) {H : Heap} {locs : List Loc} {ls : Array Slot} (h : XH E (sg st) s H locs) (hl : lv_has ls 7 [(0, .ref (E.ad 68)), (1, .int v1), (2, .int v2)]) : W p l e rmX6_melt s m args below meth c H locs 0 0 Q (F0 m 151 ls []) := by
  refine iter_W (G := fun t => ∀ (H : Heap) (locs : List Loc) (ls : Array Slot), XH E (sg t.2) s H locs → lv_has ls 7 [(0, .ref (E.ad 68)), (1, .int v1), (2, .int t.1)] → W p l e rmX6_melt s m args below meth c H locs 0 0 Q (F0 m 151 ls [])) (E := fun t => ∀ (H : Heap) (locs : List Loc) (ls : Array Slot), XH E (sg t) s H locs → lv_has ls 7 [(1, .int v1)] → W p l e rmX6_melt s m args below meth c H locs 0 0 Q (F0 m 182 ls [])) (fun t x hx K H locs ls h hl => ?_) n _ r hx hE H locs ls h hl
  obtain ⟨v2, st⟩ := t
  exact bX6_melt_151 C hI v1 v2 st hx (fun _ _ z => z) (fun _ z => z) K h hl
def fX6_melt (st : St) : Option (Int32 × St) :=
  bd (iter (u3 fun z1 z2 zst => fX6_melt_4 z1 z2 zst) FU ((0 : Int32), (0 : Int32), st)) (u2 fun v1_24 st_24 =>
  bd (iter (u2 fun z2 zst => fX6_melt_151 v1_24 z2 zst) FU ((0 : Int32), st_24)) (u1 fun st_31 =>
  gd (vp_nar .boolean v1_24 = v1_24) <|
  some (v1_24, st_31)))
set_option maxHeartbeats 1000000 in
theorem bX6_melt (C : Cx E s0 b p s m args meth c cX6_melt 7 "EarthMeshModel" (some .boolean)) (hI : Sx E) (st : St) {x : Int32 × St} (hx : fX6_melt st = some x) {H : Heap} {locs : List Loc} {ls : Array Slot} (h : XH E (sg st) s H locs) (hl : lv_has ls 7 [(0, .ref (E.ad 68))]) : W p l e rmX6_melt s m args below meth c H locs 0 0 (MQ below (Qx E (some (.int x.1)) (sg x.2)) args s 0 0 (gA E.HB)) (F0 m 0 ls []) := by
  unfold fX6_melt at hx
  refine lv_iconst (v := (0 : Int32)) C.x C.bc dX6_melt_0 (by decide) ?_
  refine lv_istore_n (lv' := [(1, .int (0 : Int32)), (0, .ref (E.ad 68))]) C.x C.bc dX6_melt_1 rfl hl (by decide) rfl (fun ls hl => ?_)
  refine lv_iconst (v := (0 : Int32)) C.x C.bc dX6_melt_2 (by decide) ?_
  refine lv_istore_n (lv' := [(2, .int (0 : Int32)), (1, .int (0 : Int32)), (0, .ref (E.ad 68))]) C.x C.bc dX6_melt_3 rfl hl (by decide) rfl (fun ls hl => ?_)
  obtain ⟨⟨v1_24, st_24⟩, hi_24, hx⟩ := bd_e hx
  have hx := u2_e hx
  refine pX6_melt_4 C hI hi_24 (fun H locs ls h hl => ?_) h (lv_sub hl [2, 1, 0] rfl)
  refine lv_iconst (v := (0 : Int32)) C.x C.bc dX6_melt_149 (by decide) ?_
  refine lv_istore_n (lv' := [(2, .int (0 : Int32)), (0, .ref (E.ad 68)), (1, .int v1_24)]) C.x C.bc dX6_melt_150 rfl hl (by decide) rfl (fun ls hl => ?_)
  obtain ⟨st_31, hi_31, hx⟩ := bd_e hx
  have hx := u1_e hx
  refine pX6_melt_151 C hI v1_24 hi_31 (fun H locs ls h hl => ?_) h (lv_sub hl [1, 2, 0] rfl)
  refine lv_iload_n C.x C.bc dX6_melt_182 rfl (lv_at hl 0 rfl) ?_
  obtain ⟨g_32, hx⟩ := gd_e hx
  obtain rfl := Option.some.inj hx
  exact x_zret (v := v1_24) C h (nar_z g_32) dX6_melt_183
theorem mX6_melt (hG : G0 E s0 b) (hI : Sx E)  {x : Int32 × St} (hx : fX6_melt st = some x) : Mt l E s0 yX6_melt cX6_melt 7 (some .boolean) rmX6_melt [.ref (E.ad 68)] (sg st) (some (.int x.1)) E (sg x.2) :=
  Mt.of hG (by decide) (Nat.le_of_ble_eq_true rfl) (fun p e s m below meth c ls C h hl => bX6_melt C hI st hx h hl)
theorem cX6_387_X6_melt  {r : Int32} {st' : St} (C : Cx E s0 b p s m args meth c cc nL "EarthMeshModel" rt) (hI : Sx E) (h : XH E (sg st) s H locs) (hf : fX6_melt st = some (r, st')) (hR : rmX6_melt.frames + 1 ≤ R.frames ∧ 16 + (7 + 11) + rmX6_melt.locals ≤ R.locals) (h0 : cells ≤ R.cells ∧ slots ≤ R.slots) (hsz : ls.size = nL) (hcat : (rest.map fun v => v.category).sum ≤ 16) (hdg : decode cc pc = .ok (.invokevirtual 387, 3)) (kk : ∀ (H : Heap) (locs : List Loc), XH E (sg st') s H locs → W p l e R s m args below meth c H locs cells slots Q (F0 m (pc + 3) ls (.int r :: rest))) : W p l e R s m args below meth c H locs cells slots Q (F0 m pc ls (.ref (E.ad 68) :: rest)) :=
  x_callV (n := 0) (As := []) C h 68 5 (hI 68 (by decide)) k_68 rfl (mX6_melt C.g hI hf) (lw_V q2050 q2052 qs121 q136 q2053) ⟨rfl, by decide +kernel, by decide +kernel, by decide +kernel⟩ hR ⟨rfl, rfl⟩ h0 rfl hsz rfl hcat hdg kk
abbrev rmX6_cascade : Room := { frames := 6, cells := 0, slots := 0, locals := 204 }
def fX6_cascade_26 (v1 : Int32) (v2 : Int32) (st : St) : Option ((Int32 × St) ⊕ (Int32 × St)) :=
  bd (fX6_solvesNow st) <| u2 fun r_5 st_5 =>
  if r_5 = 0 then
    some (.inr (v2, st_5))
  else
    bd (fX6_melt st_5) <| u2 fun r_7 st_7 =>
    if r_7 = 0 then
      some (.inr (v2, st_7))
    else
      nm (v2 + (1 : Int32)) fun v2_9 =>
      some (.inl (v2_9, st_7))
set_option maxHeartbeats 1000000 in
theorem bX6_cascade_26 (C : Cx E s0 b p s m args meth c cX6_cascade 4 "EarthMeshModel" (some .int)) (hI : Sx E) (v1 : Int32) (v2 : Int32) (st : St) {x : (Int32 × St) ⊕ (Int32 × St)} (hx : fX6_cascade_26 v1 v2 st = some x) {Q : State → Prop} {G : Int32 × St → Prop} {X : Int32 × St → Prop} (hG : ∀ (w2 : Int32) (wst : St), G (w2, wst) → ∀ (H : Heap) (locs : List Loc) (ls : Array Slot), XH E (sg wst) s H locs → lv_has ls 4 [(0, .ref (E.ad 68)), (1, .int v1), (2, .int w2)] → W p l e rmX6_cascade s m args below meth c H locs 0 0 Q (F0 m 26 ls [])) (hE0 : ∀ (w2 : Int32) (wst : St), X (w2, wst) → ∀ (H : Heap) (locs : List Loc) (ls : Array Slot), XH E (sg wst) s H locs → lv_has ls 4 [(0, .ref (E.ad 68)), (1, .int v1), (2, .int w2)] → W p l e rmX6_cascade s m args below meth c H locs 0 0 Q (F0 m 46 ls [])) (K : Kx G X x) {H : Heap} {locs : List Loc} {ls : Array Slot} (h : XH E (sg st) s H locs) (hl : lv_has ls 4 [(0, .ref (E.ad 68)), (1, .int v1), (2, .int v2)]) : W p l e rmX6_cascade s m args below meth c H locs 0 0 Q (F0 m 26 ls []) := by
  unfold fX6_cascade_26 at hx
  refine lv_aload_n C.x C.bc dX6_cascade_26 rfl (lv_at hl 0 rfl) ?_
  obtain ⟨⟨r_5, st_5⟩, hf_5, hx⟩ := bd_e hx
  have hx := u2_e hx
  refine cX6_274_X6_solvesNow C hI h hf_5 ⟨Nat.le_of_ble_eq_true rfl, Nat.le_of_ble_eq_true rfl⟩ ⟨Nat.zero_le _, Nat.zero_le _⟩ hl.1 (Nat.le_of_ble_eq_true rfl) dX6_cascade_27 (fun H locs h => ?_)
  refine lv_if_eq (tgt := 46) C.x C.bc dX6_cascade_30 (by decide) (fun c_6 => ?_) (fun c_6 => ?_)
  · have hx := ge_t hx c_6
    obtain rfl := Option.some.inj hx
    exact hE0 _ _ K _ _ _ h (lv_sub hl [0, 1, 2] rfl)
  · have hx := ge_f hx c_6
    refine lv_aload_n C.x C.bc dX6_cascade_33 rfl (lv_at hl 0 rfl) ?_
    obtain ⟨⟨r_7, st_7⟩, hf_7, hx⟩ := bd_e hx
    have hx := u2_e hx
    refine cX6_387_X6_melt C hI h hf_7 ⟨Nat.le_of_ble_eq_true rfl, Nat.le_of_ble_eq_true rfl⟩ ⟨Nat.zero_le _, Nat.zero_le _⟩ hl.1 (Nat.le_of_ble_eq_true rfl) dX6_cascade_34 (fun H locs h => ?_)
    refine lv_if_eq (tgt := 46) C.x C.bc dX6_cascade_37 (by decide) (fun c_8 => ?_) (fun c_8 => ?_)
    · have hx := ge_t hx c_8
      obtain rfl := Option.some.inj hx
      exact hE0 _ _ K _ _ _ h (lv_sub hl [0, 1, 2] rfl)
    · have hx := ge_f hx c_8
      obtain ⟨v2_9, e_9, hx⟩ := nm_x hx
      refine lv_iinc (v := v2_9) (lv' := [(2, .int v2_9), (0, .ref (E.ad 68)), (1, .int v1)]) C.x C.bc dX6_cascade_40 hl (k := 2) rfl (by rw [e_9]; rfl) (by decide) rfl (fun ls hl => ?_)
      refine lv_goto (tgt := 26) C.x C.bc dX6_cascade_43 (by decide) ?_
      obtain rfl := Option.some.inj hx
      exact hG _ _ K _ _ _ h (lv_sub hl [1, 2, 0] rfl)
set_option maxHeartbeats 1000000 in
theorem pX6_cascade_26 (C : Cx E s0 b p s m args meth c cX6_cascade 4 "EarthMeshModel" (some .int)) (hI : Sx E) (v1 : Int32) {Q : State → Prop} {v2 : Int32} {st : St} {n : Nat} {r : Int32 × St} (hx : iter (u2 fun v2 st => fX6_cascade_26 v1 v2 st) n (v2, st) = some r) (hE : (fun t => ∀ (H : Heap) (locs : List Loc) (ls : Array Slot), XH E (sg t.2) s H locs → lv_has ls 4 [(0, .ref (E.ad 68)), (1, .int v1), (2, .int t.1)] → W p l e rmX6_cascade s m args below meth c H locs 0 0 Q (F0 m 46 ls [])) r) {H : Heap} {locs : List Loc} {ls : Array Slot} (h : XH E (sg st) s H locs) (hl : lv_has ls 4 [(0, .ref (E.ad 68)), (1, .int v1), (2, .int v2)]) : W p l e rmX6_cascade s m args below meth c H locs 0 0 Q (F0 m 26 ls []) := by
  refine iter_W (G := fun t => ∀ (H : Heap) (locs : List Loc) (ls : Array Slot), XH E (sg t.2) s H locs → lv_has ls 4 [(0, .ref (E.ad 68)), (1, .int v1), (2, .int t.1)] → W p l e rmX6_cascade s m args below meth c H locs 0 0 Q (F0 m 26 ls [])) (E := fun t => ∀ (H : Heap) (locs : List Loc) (ls : Array Slot), XH E (sg t.2) s H locs → lv_has ls 4 [(0, .ref (E.ad 68)), (1, .int v1), (2, .int t.1)] → W p l e rmX6_cascade s m args below meth c H locs 0 0 Q (F0 m 46 ls [])) (fun t x hx K H locs ls h hl => ?_) n _ r hx hE H locs ls h hl
  obtain ⟨v2, st⟩ := t
  exact bX6_cascade_26 C hI v1 v2 st hx (fun _ _ z => z) (fun _ _ z => z) K h hl
def fX6_cascade_85 (k0 : Int32) (st : St) : Option (Int32 × St) :=
  bd (fX6_laysBack st) fun st_15 =>
  some (k0, st_15)
set_option maxHeartbeats 1000000 in
theorem bX6_cascade_85 (C : Cx E s0 b p s m args meth c cX6_cascade 4 "EarthMeshModel" (some .int)) (hI : Sx E) (k0 : Int32) (st : St) {x : Int32 × St} (hx : fX6_cascade_85 k0 st = some x) {H : Heap} {locs : List Loc} {ls : Array Slot} (h : XH E (sg st) s H locs) (hl : lv_has ls 4 [(0, .ref (E.ad 68))]) : W p l e rmX6_cascade s m args below meth c H locs 0 0 (MQ below (Qx E (some (.int x.1)) (sg x.2)) args s 0 0 (gA E.HB)) (F0 m 85 ls [.int k0]) := by
  unfold fX6_cascade_85 at hx
  refine lv_istore_n (lv' := [(3, .int k0), (0, .ref (E.ad 68))]) C.x C.bc dX6_cascade_85 rfl hl (by decide) rfl (fun ls hl => ?_)
  refine lv_aload_n C.x C.bc dX6_cascade_86 rfl (lv_at hl 1 rfl) ?_
  obtain ⟨st_15, hf_15, hx⟩ := bd_e hx
  refine cX6_390_X6_laysBack C hI h hf_15 ⟨Nat.le_of_ble_eq_true rfl, Nat.le_of_ble_eq_true rfl⟩ ⟨Nat.zero_le _, Nat.zero_le _⟩ hl.1 (Nat.le_of_ble_eq_true rfl) dX6_cascade_87 (fun H locs h => ?_)
  refine lv_iload_n C.x C.bc dX6_cascade_90 rfl (lv_at hl 0 rfl) ?_
  obtain rfl := Option.some.inj hx
  exact x_iret C h dX6_cascade_91
def fX6_cascade (v1 : Int32) (st : St) : Option (Int32 × St) :=
  nm (uI st 68 1 (0 : Int32)) fun st_1 =>
  nm (fX6_isIn v1 (0 : Int32) (2 : Int32)) fun r_2 =>
  if r_2 = 0 then
    bd (fX6_fail (1 : Int32) st_1) <| u2 fun r_18 st_18 =>
    some (r_18, st_18)
  else
    bd (fX6_tries st_1) fun st_4 =>
    bd (iter (u2 fun z2 zst => fX6_cascade_26 v1 z2 zst) FU ((0 : Int32), st_4)) (u2 fun v2_10 st_10 =>
    if v1 = 0 then
      fX6_cascade_85 v2_10 st_10
    else
      if v1 = (1 : Int32) then
        bd (fX6_parts (0 : Int32) st_10) fun r_16 =>
        bd (fX6_parts (1 : Int32) st_10) fun r_17 =>
        fX6_cascade_85 (r_16 + r_17) st_10
      else
        bd (fX6_solvesNow st_10) <| u2 fun r_13 st_13 =>
        if r_13 = 0 then
          fX6_cascade_85 (1 : Int32) st_13
        else
          fX6_cascade_85 (0 : Int32) st_13)
set_option maxHeartbeats 1000000 in
theorem bX6_cascade (C : Cx E s0 b p s m args meth c cX6_cascade 4 "EarthMeshModel" (some .int)) (hI : Sx E) (v1 : Int32) (st : St) {x : Int32 × St} (hx : fX6_cascade v1 st = some x) {H : Heap} {locs : List Loc} {ls : Array Slot} (h : XH E (sg st) s H locs) (hl : lv_has ls 4 [(0, .ref (E.ad 68)), (1, .int v1)]) : W p l e rmX6_cascade s m args below meth c H locs 0 0 (MQ below (Qx E (some (.int x.1)) (sg x.2)) args s 0 0 (gA E.HB)) (F0 m 0 ls []) := by
  unfold fX6_cascade at hx
  refine lv_aload_n C.x C.bc dX6_cascade_0 rfl (lv_at hl 0 rfl) ?_
  refine lv_iconst (v := (0 : Int32)) C.x C.bc dX6_cascade_1 (by decide) ?_
  obtain ⟨st_1, e_1, hx⟩ := nm_x hx
  refine pt_X6_90_68 C hI h e_1 dX6_cascade_2 (fun H locs h => ?_)
  refine lv_iload_n C.x C.bc dX6_cascade_5 rfl (lv_at hl 1 rfl) ?_
  refine lv_iconst (v := (0 : Int32)) C.x C.bc dX6_cascade_6 (by decide) ?_
  refine lv_iconst (v := (2 : Int32)) C.x C.bc dX6_cascade_7 (by decide) ?_
  obtain ⟨r_2, e_2, hx⟩ := nm_x hx
  refine cX6_300_X6_isIn C hI h e_2.symm ⟨Nat.le_of_ble_eq_true rfl, Nat.le_of_ble_eq_true rfl⟩ ⟨Nat.zero_le _, Nat.zero_le _⟩ hl.1 (Nat.le_of_ble_eq_true rfl) dX6_cascade_8 (fun H locs h => ?_)
  refine lv_if_ne (tgt := 20) C.x C.bc dX6_cascade_11 (by decide) (fun c_3 => ?_) (fun c_3 => ?_)
  · have hx := ge_f hx c_3
    refine lv_aload_n C.x C.bc dX6_cascade_20 rfl (lv_at hl 0 rfl) ?_
    obtain ⟨st_4, hf_4, hx⟩ := bd_e hx
    refine cX6_384_X6_tries C hI h hf_4 ⟨Nat.le_of_ble_eq_true rfl, Nat.le_of_ble_eq_true rfl⟩ ⟨Nat.zero_le _, Nat.zero_le _⟩ hl.1 (Nat.le_of_ble_eq_true rfl) dX6_cascade_21 (fun H locs h => ?_)
    refine lv_iconst (v := (0 : Int32)) C.x C.bc dX6_cascade_24 (by decide) ?_
    refine lv_istore_n (lv' := [(2, .int (0 : Int32)), (0, .ref (E.ad 68)), (1, .int v1)]) C.x C.bc dX6_cascade_25 rfl hl (by decide) rfl (fun ls hl => ?_)
    obtain ⟨⟨v2_10, st_10⟩, hi_10, hx⟩ := bd_e hx
    have hx := u2_e hx
    refine pX6_cascade_26 C hI v1 hi_10 (fun H locs ls h hl => ?_) h (lv_sub hl [1, 2, 0] rfl)
    refine lv_iload_n C.x C.bc dX6_cascade_46 rfl (lv_at hl 1 rfl) ?_
    refine lv_if_ne (tgt := 54) C.x C.bc dX6_cascade_47 (by decide) (fun c_11 => ?_) (fun c_11 => ?_)
    · have hx := ge_f hx c_11
      refine lv_iload_n C.x C.bc dX6_cascade_54 rfl (lv_at hl 1 rfl) ?_
      refine lv_iconst (v := (1 : Int32)) C.x C.bc dX6_cascade_55 (by decide) ?_
      refine lv_icmp_ne (tgt := 73) C.x C.bc dX6_cascade_56 (by decide) (fun c_12 => ?_) (fun c_12 => ?_)
      · have hx := ge_f hx c_12
        refine lv_aload_n C.x C.bc dX6_cascade_73 rfl (lv_at hl 0 rfl) ?_
        obtain ⟨⟨r_13, st_13⟩, hf_13, hx⟩ := bd_e hx
        have hx := u2_e hx
        refine cX6_274_X6_solvesNow C hI h hf_13 ⟨Nat.le_of_ble_eq_true rfl, Nat.le_of_ble_eq_true rfl⟩ ⟨Nat.zero_le _, Nat.zero_le _⟩ hl.1 (Nat.le_of_ble_eq_true rfl) dX6_cascade_74 (fun H locs h => ?_)
        refine lv_if_eq (tgt := 84) C.x C.bc dX6_cascade_77 (by decide) (fun c_14 => ?_) (fun c_14 => ?_)
        · have hx := ge_t hx c_14
          refine lv_iconst (v := (1 : Int32)) C.x C.bc dX6_cascade_84 (by decide) ?_
          exact bX6_cascade_85 C hI (1 : Int32) st_13 hx h (lv_sub hl [0] rfl)
        · have hx := ge_f hx c_14
          refine lv_iconst (v := (0 : Int32)) C.x C.bc dX6_cascade_80 (by decide) ?_
          refine lv_goto (tgt := 85) C.x C.bc dX6_cascade_81 (by decide) ?_
          exact bX6_cascade_85 C hI (0 : Int32) st_13 hx h (lv_sub hl [0] rfl)
      · have hx := ge_t hx c_12
        refine lv_aload_n C.x C.bc dX6_cascade_59 rfl (lv_at hl 0 rfl) ?_
        refine lv_iconst (v := (0 : Int32)) C.x C.bc dX6_cascade_60 (by decide) ?_
        obtain ⟨r_16, hf_16, hx⟩ := bd_e hx
        refine cX6_291_X6_parts C hI h hf_16 ⟨Nat.le_of_ble_eq_true rfl, Nat.le_of_ble_eq_true rfl⟩ ⟨Nat.zero_le _, Nat.zero_le _⟩ hl.1 (Nat.le_of_ble_eq_true rfl) dX6_cascade_61 (fun H locs h => ?_)
        refine lv_aload_n C.x C.bc dX6_cascade_64 rfl (lv_at hl 0 rfl) ?_
        refine lv_iconst (v := (1 : Int32)) C.x C.bc dX6_cascade_65 (by decide) ?_
        obtain ⟨r_17, hf_17, hx⟩ := bd_e hx
        refine cX6_291_X6_parts C hI h hf_17 ⟨Nat.le_of_ble_eq_true rfl, Nat.le_of_ble_eq_true rfl⟩ ⟨Nat.zero_le _, Nat.zero_le _⟩ hl.1 (Nat.le_of_ble_eq_true rfl) dX6_cascade_66 (fun H locs h => ?_)
        refine lv_iadd C.x C.bc dX6_cascade_69 ?_
        refine lv_goto (tgt := 85) C.x C.bc dX6_cascade_70 (by decide) ?_
        exact bX6_cascade_85 C hI (r_16 + r_17) st_10 hx h (lv_sub hl [0] rfl)
    · have hx := ge_t hx c_11
      refine lv_iload_n C.x C.bc dX6_cascade_50 rfl (lv_at hl 2 rfl) ?_
      refine lv_goto (tgt := 85) C.x C.bc dX6_cascade_51 (by decide) ?_
      exact bX6_cascade_85 C hI v2_10 st_10 hx h (lv_sub hl [0] rfl)
  · have hx := ge_t hx c_3
    refine lv_aload_n C.x C.bc dX6_cascade_14 rfl (lv_at hl 0 rfl) ?_
    refine lv_iconst (v := (1 : Int32)) C.x C.bc dX6_cascade_15 (by decide) ?_
    obtain ⟨⟨r_18, st_18⟩, hf_18, hx⟩ := bd_e hx
    have hx := u2_e hx
    refine cX6_182_X6_fail C hI h hf_18 ⟨Nat.le_of_ble_eq_true rfl, Nat.le_of_ble_eq_true rfl⟩ ⟨Nat.zero_le _, Nat.zero_le _⟩ hl.1 (Nat.le_of_ble_eq_true rfl) dX6_cascade_16 (fun H locs h => ?_)
    obtain rfl := Option.some.inj hx
    exact x_iret C h dX6_cascade_19
theorem mX6_cascade (hG : G0 E s0 b) (hI : Sx E) {v1 : Int32} {x : Int32 × St} (hx : fX6_cascade v1 st = some x) : Mt l E s0 yX6_cascade cX6_cascade 4 (some .int) rmX6_cascade [.ref (E.ad 68), .int v1] (sg st) (some (.int x.1)) E (sg x.2) :=
  Mt.of hG (by decide) (Nat.le_of_ble_eq_true rfl) (fun p e s m below meth c ls C h hl => bX6_cascade C hI v1 st hx h hl)
abbrev rmX6_worstNow : Room := { frames := 4, cells := 0, slots := 0, locals := 118 }
def fX6_worstNow_68 (v1 : Int32) (v2 : Int64) (v4 : Int32) (v5 : Int32) (st : St) : Option ((Int64 × Int32) ⊕ (Int64)) :=
  nm (v5 + (1 : Int32)) fun v5_8 =>
  some (.inl (v2, v5_8))
set_option maxHeartbeats 1000000 in
theorem bX6_worstNow_68 (C : Cx E s0 b p s m args meth c cX6_worstNow 6 "EarthMeshModel" (some .long)) (hI : Sx E) (v1 : Int32) (v2 : Int64) (v4 : Int32) (v5 : Int32) (st : St) {x : (Int64 × Int32) ⊕ (Int64)} (hx : fX6_worstNow_68 v1 v2 v4 v5 st = some x) {Q : State → Prop} {G : Int64 × Int32 → Prop} {X : Int64 → Prop} (hG : ∀ (w2 : Int64) (w5 : Int32), G (w2, w5) → ∀ (H : Heap) (locs : List Loc) (ls : Array Slot), XH E (sg st) s H locs → lv_has ls 6 [(0, .ref (E.ad 68)), (1, .int v1), (2, .long w2), (4, .int v4), (5, .int w5)] → W p l e rmX6_worstNow s m args below meth c H locs 0 0 Q (F0 m 33 ls [])) (hE0 : ∀ (w2 : Int64), X w2 → ∀ (H : Heap) (locs : List Loc) (ls : Array Slot), XH E (sg st) s H locs → lv_has ls 6 [(0, .ref (E.ad 68)), (1, .int v1), (2, .long w2), (4, .int v4)] → W p l e rmX6_worstNow s m args below meth c H locs 0 0 Q (F0 m 74 ls [])) (K : Kx G X x) {H : Heap} {locs : List Loc} {ls : Array Slot} (h : XH E (sg st) s H locs) (hl : lv_has ls 6 [(0, .ref (E.ad 68)), (1, .int v1), (2, .long v2), (4, .int v4), (5, .int v5)]) : W p l e rmX6_worstNow s m args below meth c H locs 0 0 Q (F0 m 68 ls []) := by
  unfold fX6_worstNow_68 at hx
  obtain ⟨v5_8, e_8, hx⟩ := nm_x hx
  refine lv_iinc (v := v5_8) (lv' := [(5, .int v5_8), (0, .ref (E.ad 68)), (1, .int v1), (2, .long v2), (4, .int v4)]) C.x C.bc dX6_worstNow_68 hl (k := 4) rfl (by rw [e_8]; rfl) (by decide) rfl (fun ls hl => ?_)
  refine lv_goto (tgt := 33) C.x C.bc dX6_worstNow_71 (by decide) ?_
  obtain rfl := Option.some.inj hx
  exact hG _ _ K _ _ _ h (lv_sub hl [1, 2, 3, 4, 0] rfl)
def fX6_worstNow_33 (v1 : Int32) (v2 : Int64) (v4 : Int32) (v5 : Int32) (st : St) : Option ((Int64 × Int32) ⊕ (Int64)) :=
  if (1 : Int32) < v5 then
    some (.inr v2)
  else
    if v1 = 0 then
      bd (fX6_beside v4 v5 st) fun r_6 =>
      if r_6 = (-1 : Int32) then
        fX6_worstNow_68 v1 v2 v4 v5 st
      else
        bd (fX6_step v4 v5 st) fun r_9 =>
        nm (jmaxl v2 r_9) fun v2_10 =>
        fX6_worstNow_68 v1 v2_10 v4 v5 st
    else
      some (.inr v2)
set_option maxHeartbeats 1000000 in
theorem bX6_worstNow_33 (C : Cx E s0 b p s m args meth c cX6_worstNow 6 "EarthMeshModel" (some .long)) (hI : Sx E) (v1 : Int32) (v2 : Int64) (v4 : Int32) (v5 : Int32) (st : St) {x : (Int64 × Int32) ⊕ (Int64)} (hx : fX6_worstNow_33 v1 v2 v4 v5 st = some x) {Q : State → Prop} {G : Int64 × Int32 → Prop} {X : Int64 → Prop} (hG : ∀ (w2 : Int64) (w5 : Int32), G (w2, w5) → ∀ (H : Heap) (locs : List Loc) (ls : Array Slot), XH E (sg st) s H locs → lv_has ls 6 [(0, .ref (E.ad 68)), (1, .int v1), (2, .long w2), (4, .int v4), (5, .int w5)] → W p l e rmX6_worstNow s m args below meth c H locs 0 0 Q (F0 m 33 ls [])) (hE0 : ∀ (w2 : Int64), X w2 → ∀ (H : Heap) (locs : List Loc) (ls : Array Slot), XH E (sg st) s H locs → lv_has ls 6 [(0, .ref (E.ad 68)), (1, .int v1), (2, .long w2), (4, .int v4)] → W p l e rmX6_worstNow s m args below meth c H locs 0 0 Q (F0 m 74 ls [])) (K : Kx G X x) {H : Heap} {locs : List Loc} {ls : Array Slot} (h : XH E (sg st) s H locs) (hl : lv_has ls 6 [(0, .ref (E.ad 68)), (1, .int v1), (2, .long v2), (4, .int v4), (5, .int v5)]) : W p l e rmX6_worstNow s m args below meth c H locs 0 0 Q (F0 m 33 ls []) := by
  unfold fX6_worstNow_33 at hx
  refine lv_iload C.x C.bc dX6_worstNow_33 (lv_at hl 4 rfl) ?_
  refine lv_iconst (v := (1 : Int32)) C.x C.bc dX6_worstNow_35 (by decide) ?_
  refine lv_icmp_gt (tgt := 74) C.x C.bc dX6_worstNow_36 (by decide) (fun c_4 => ?_) (fun c_4 => ?_)
  · have hx := ge_t hx c_4
    obtain rfl := Option.some.inj hx
    exact hE0 _ K _ _ _ h (lv_sub hl [0, 1, 2, 3] rfl)
  · have hx := ge_f hx c_4
    refine lv_iload_n C.x C.bc dX6_worstNow_39 rfl (lv_at hl 1 rfl) ?_
    refine lv_if_ne (tgt := 74) C.x C.bc dX6_worstNow_40 (by decide) (fun c_5 => ?_) (fun c_5 => ?_)
    · have hx := ge_f hx c_5
      obtain rfl := Option.some.inj hx
      exact hE0 _ K _ _ _ h (lv_sub hl [0, 1, 2, 3] rfl)
    · have hx := ge_t hx c_5
      refine lv_aload_n C.x C.bc dX6_worstNow_43 rfl (lv_at hl 0 rfl) ?_
      refine lv_iload C.x C.bc dX6_worstNow_44 (lv_at hl 3 rfl) ?_
      refine lv_iload C.x C.bc dX6_worstNow_46 (lv_at hl 4 rfl) ?_
      obtain ⟨r_6, hf_6, hx⟩ := bd_e hx
      refine cX6_338_X6_beside C hI h hf_6 ⟨Nat.le_of_ble_eq_true rfl, Nat.le_of_ble_eq_true rfl⟩ ⟨Nat.zero_le _, Nat.zero_le _⟩ hl.1 (Nat.le_of_ble_eq_true rfl) dX6_worstNow_48 (fun H locs h => ?_)
      refine lv_iconst (v := (-1 : Int32)) C.x C.bc dX6_worstNow_51 (by decide) ?_
      refine lv_icmp_eq (tgt := 68) C.x C.bc dX6_worstNow_52 (by decide) (fun c_7 => ?_) (fun c_7 => ?_)
      · have hx := ge_t hx c_7
        exact bX6_worstNow_68 C hI v1 v2 v4 v5 st hx hG hE0 K h (lv_sub hl [0, 1, 2, 3, 4] rfl)
      · have hx := ge_f hx c_7
        refine lv_lload_n C.x C.bc dX6_worstNow_55 rfl (lv_at hl 2 rfl) ?_
        refine lv_aload_n C.x C.bc dX6_worstNow_56 rfl (lv_at hl 0 rfl) ?_
        refine lv_iload C.x C.bc dX6_worstNow_57 (lv_at hl 3 rfl) ?_
        refine lv_iload C.x C.bc dX6_worstNow_59 (lv_at hl 4 rfl) ?_
        obtain ⟨r_9, hf_9, hx⟩ := bd_e hx
        refine cX6_347_X6_step C hI h hf_9 ⟨Nat.le_of_ble_eq_true rfl, Nat.le_of_ble_eq_true rfl⟩ ⟨Nat.zero_le _, Nat.zero_le _⟩ hl.1 (Nat.le_of_ble_eq_true rfl) dX6_worstNow_61 (fun H locs h => ?_)
        refine va_mmax_long C.x C.bc (C.ml.trans hl.1.symm) C.ow (C.ts _ q1912) (C.ts _ q340) (C.ts _ q134) (C.ts _ q341) (Nat.le_of_ble_eq_true rfl) (Nat.le_of_ble_eq_true rfl) (Nat.zero_le _) (Nat.zero_le _) dX6_worstNow_64 ?_
        obtain ⟨v2_10, e_10, hx⟩ := nm_x hx
        refine x_tl e_10 ?_
        refine lv_lstore_n (lv' := [(2, .long v2_10), (0, .ref (E.ad 68)), (1, .int v1), (4, .int v4), (5, .int v5)]) C.x C.bc dX6_worstNow_67 rfl hl (by decide) rfl (fun ls hl => ?_)
        exact bX6_worstNow_68 C hI v1 v2_10 v4 v5 st hx hG hE0 K h (lv_sub hl [1, 2, 0, 3, 4] rfl)
set_option maxHeartbeats 1000000 in
theorem pX6_worstNow_33 (C : Cx E s0 b p s m args meth c cX6_worstNow 6 "EarthMeshModel" (some .long)) (hI : Sx E) (v1 : Int32) (v4 : Int32) (st : St) {Q : State → Prop} {v2 : Int64} {v5 : Int32} {n : Nat} {r : Int64} (hx : iter (u2 fun v2 v5 => fX6_worstNow_33 v1 v2 v4 v5 st) n (v2, v5) = some r) (hE : (fun t => ∀ (H : Heap) (locs : List Loc) (ls : Array Slot), XH E (sg st) s H locs → lv_has ls 6 [(0, .ref (E.ad 68)), (1, .int v1), (2, .long t), (4, .int v4)] → W p l e rmX6_worstNow s m args below meth c H locs 0 0 Q (F0 m 74 ls [])) r) {H : Heap} {locs : List Loc} {ls : Array Slot} (h : XH E (sg st) s H locs) (hl : lv_has ls 6 [(0, .ref (E.ad 68)), (1, .int v1), (2, .long v2), (4, .int v4), (5, .int v5)]) : W p l e rmX6_worstNow s m args below meth c H locs 0 0 Q (F0 m 33 ls []) := by
  refine iter_W (G := fun t => ∀ (H : Heap) (locs : List Loc) (ls : Array Slot), XH E (sg st) s H locs → lv_has ls 6 [(0, .ref (E.ad 68)), (1, .int v1), (2, .long t.1), (4, .int v4), (5, .int t.2)] → W p l e rmX6_worstNow s m args below meth c H locs 0 0 Q (F0 m 33 ls [])) (E := fun t => ∀ (H : Heap) (locs : List Loc) (ls : Array Slot), XH E (sg st) s H locs → lv_has ls 6 [(0, .ref (E.ad 68)), (1, .int v1), (2, .long t), (4, .int v4)] → W p l e rmX6_worstNow s m args below meth c H locs 0 0 Q (F0 m 74 ls [])) (fun t x hx K H locs ls h hl => ?_) n _ r hx hE H locs ls h hl
  obtain ⟨v2, v5⟩ := t
  exact bX6_worstNow_33 C hI v1 v2 v4 v5 st hx (fun _ _ z => z) (fun _ z => z) K h hl
def fX6_worstNow_30 (v1 : Int32) (v2 : Int64) (v4 : Int32) (st : St) : Option ((Int64 × Int32) ⊕ (Int64)) :=
  bd (iter (u2 fun z2 z5 => fX6_worstNow_33 v1 z2 v4 z5 st) FU (v2, (0 : Int32))) (u1 fun v2_11 =>
  nm (v4 + (1 : Int32)) fun v4_12 =>
  some (.inl (v2_11, v4_12)))
set_option maxHeartbeats 1000000 in
theorem bX6_worstNow_30 (C : Cx E s0 b p s m args meth c cX6_worstNow 6 "EarthMeshModel" (some .long)) (hI : Sx E) (v1 : Int32) (v2 : Int64) (v4 : Int32) (st : St) {x : (Int64 × Int32) ⊕ (Int64)} (hx : fX6_worstNow_30 v1 v2 v4 st = some x) {Q : State → Prop} {G : Int64 × Int32 → Prop} {X : Int64 → Prop} (hG : ∀ (w2 : Int64) (w4 : Int32), G (w2, w4) → ∀ (H : Heap) (locs : List Loc) (ls : Array Slot), XH E (sg st) s H locs → lv_has ls 6 [(0, .ref (E.ad 68)), (1, .int v1), (2, .long w2), (4, .int w4)] → W p l e rmX6_worstNow s m args below meth c H locs 0 0 Q (F0 m 5 ls [])) (hE0 : ∀ (w2 : Int64), X w2 → ∀ (H : Heap) (locs : List Loc) (ls : Array Slot), XH E (sg st) s H locs → lv_has ls 6 [(2, .long w2)] → W p l e rmX6_worstNow s m args below meth c H locs 0 0 Q (F0 m 80 ls [])) (K : Kx G X x) {H : Heap} {locs : List Loc} {ls : Array Slot} (h : XH E (sg st) s H locs) (hl : lv_has ls 6 [(0, .ref (E.ad 68)), (1, .int v1), (2, .long v2), (4, .int v4)]) : W p l e rmX6_worstNow s m args below meth c H locs 0 0 Q (F0 m 30 ls []) := by
  unfold fX6_worstNow_30 at hx
  refine lv_iconst (v := (0 : Int32)) C.x C.bc dX6_worstNow_30 (by decide) ?_
  refine lv_istore (lv' := [(5, .int (0 : Int32)), (0, .ref (E.ad 68)), (1, .int v1), (2, .long v2), (4, .int v4)]) C.x C.bc dX6_worstNow_31 hl (by decide) rfl (fun ls hl => ?_)
  obtain ⟨v2_11, hi_11, hx⟩ := bd_e hx
  have hx := u1_e hx
  refine pX6_worstNow_33 C hI v1 v4 st hi_11 (fun H locs ls h hl => ?_) h (lv_sub hl [1, 2, 3, 4, 0] rfl)
  obtain ⟨v4_12, e_12, hx⟩ := nm_x hx
  refine lv_iinc (v := v4_12) (lv' := [(4, .int v4_12), (0, .ref (E.ad 68)), (1, .int v1), (2, .long v2_11)]) C.x C.bc dX6_worstNow_74 hl (k := 3) rfl (by rw [e_12]; rfl) (by decide) rfl (fun ls hl => ?_)
  refine lv_goto (tgt := 5) C.x C.bc dX6_worstNow_77 (by decide) ?_
  obtain rfl := Option.some.inj hx
  exact hG _ _ K _ _ _ h (lv_sub hl [1, 2, 3, 0] rfl)
def fX6_worstNow_5 (v1 : Int32) (v2 : Int64) (v4 : Int32) (st : St) : Option ((Int64 × Int32) ⊕ (Int64)) :=
  bd (fX6_points st) fun r_1 =>
  if r_1 ≤ v4 then
    some (.inr v2)
  else
    if v1 = 0 then
      fX6_worstNow_30 v1 v2 v4 st
    else
      gd (inB v4 35) <|
      nm (jmaxl v2 (st.2.1 80 v4.toNatClampNeg)) fun v2_14 =>
      fX6_worstNow_30 v1 v2_14 v4 st
set_option maxHeartbeats 1000000 in
theorem bX6_worstNow_5 (C : Cx E s0 b p s m args meth c cX6_worstNow 6 "EarthMeshModel" (some .long)) (hI : Sx E) (v1 : Int32) (v2 : Int64) (v4 : Int32) (st : St) {x : (Int64 × Int32) ⊕ (Int64)} (hx : fX6_worstNow_5 v1 v2 v4 st = some x) {Q : State → Prop} {G : Int64 × Int32 → Prop} {X : Int64 → Prop} (hG : ∀ (w2 : Int64) (w4 : Int32), G (w2, w4) → ∀ (H : Heap) (locs : List Loc) (ls : Array Slot), XH E (sg st) s H locs → lv_has ls 6 [(0, .ref (E.ad 68)), (1, .int v1), (2, .long w2), (4, .int w4)] → W p l e rmX6_worstNow s m args below meth c H locs 0 0 Q (F0 m 5 ls [])) (hE0 : ∀ (w2 : Int64), X w2 → ∀ (H : Heap) (locs : List Loc) (ls : Array Slot), XH E (sg st) s H locs → lv_has ls 6 [(2, .long w2)] → W p l e rmX6_worstNow s m args below meth c H locs 0 0 Q (F0 m 80 ls [])) (K : Kx G X x) {H : Heap} {locs : List Loc} {ls : Array Slot} (h : XH E (sg st) s H locs) (hl : lv_has ls 6 [(0, .ref (E.ad 68)), (1, .int v1), (2, .long v2), (4, .int v4)]) : W p l e rmX6_worstNow s m args below meth c H locs 0 0 Q (F0 m 5 ls []) := by
  unfold fX6_worstNow_5 at hx
  refine lv_iload C.x C.bc dX6_worstNow_5 (lv_at hl 3 rfl) ?_
  refine lv_aload_n C.x C.bc dX6_worstNow_7 rfl (lv_at hl 0 rfl) ?_
  obtain ⟨r_1, hf_1, hx⟩ := bd_e hx
  refine cX6_332_X6_points C hI h hf_1 ⟨Nat.le_of_ble_eq_true rfl, Nat.le_of_ble_eq_true rfl⟩ ⟨Nat.zero_le _, Nat.zero_le _⟩ hl.1 (Nat.le_of_ble_eq_true rfl) dX6_worstNow_8 (fun H locs h => ?_)
  refine lv_icmp_ge (tgt := 80) C.x C.bc dX6_worstNow_11 (by decide) (fun c_2 => ?_) (fun c_2 => ?_)
  · have hx := ge_t hx c_2
    obtain rfl := Option.some.inj hx
    exact hE0 _ K _ _ _ h (lv_sub hl [2] rfl)
  · have hx := ge_f hx c_2
    refine lv_iload_n C.x C.bc dX6_worstNow_14 rfl (lv_at hl 1 rfl) ?_
    refine lv_if_eq (tgt := 30) C.x C.bc dX6_worstNow_15 (by decide) (fun c_3 => ?_) (fun c_3 => ?_)
    · have hx := ge_t hx c_3
      exact bX6_worstNow_30 C hI v1 v2 v4 st hx hG hE0 K h (lv_sub hl [0, 1, 2, 3] rfl)
    · have hx := ge_f hx c_3
      refine lv_lload_n C.x C.bc dX6_worstNow_18 rfl (lv_at hl 2 rfl) ?_
      refine lv_aload_n C.x C.bc dX6_worstNow_19 rfl (lv_at hl 0 rfl) ?_
      refine gt_X6_67_68 C hI h dX6_worstNow_20 ?_
      refine lv_iload C.x C.bc dX6_worstNow_23 (lv_at hl 3 rfl) ?_
      obtain ⟨g_13, hx⟩ := gd_e hx
      refine x_lald C h 80 35 (hI 80 (by decide)) k_80 g_13 dX6_worstNow_25 ?_
      refine va_mmax_long C.x C.bc (C.ml.trans hl.1.symm) C.ow (C.ts _ q1912) (C.ts _ q340) (C.ts _ q134) (C.ts _ q341) (Nat.le_of_ble_eq_true rfl) (Nat.le_of_ble_eq_true rfl) (Nat.zero_le _) (Nat.zero_le _) dX6_worstNow_26 ?_
      obtain ⟨v2_14, e_14, hx⟩ := nm_x hx
      refine x_tl e_14 ?_
      refine lv_lstore_n (lv' := [(2, .long v2_14), (0, .ref (E.ad 68)), (1, .int v1), (4, .int v4)]) C.x C.bc dX6_worstNow_29 rfl hl (by decide) rfl (fun ls hl => ?_)
      exact bX6_worstNow_30 C hI v1 v2_14 v4 st hx hG hE0 K h (lv_sub hl [1, 2, 0, 3] rfl)
set_option maxHeartbeats 1000000 in
theorem pX6_worstNow_5 (C : Cx E s0 b p s m args meth c cX6_worstNow 6 "EarthMeshModel" (some .long)) (hI : Sx E) (v1 : Int32) (st : St) {Q : State → Prop} {v2 : Int64} {v4 : Int32} {n : Nat} {r : Int64} (hx : iter (u2 fun v2 v4 => fX6_worstNow_5 v1 v2 v4 st) n (v2, v4) = some r) (hE : (fun t => ∀ (H : Heap) (locs : List Loc) (ls : Array Slot), XH E (sg st) s H locs → lv_has ls 6 [(2, .long t)] → W p l e rmX6_worstNow s m args below meth c H locs 0 0 Q (F0 m 80 ls [])) r) {H : Heap} {locs : List Loc} {ls : Array Slot} (h : XH E (sg st) s H locs) (hl : lv_has ls 6 [(0, .ref (E.ad 68)), (1, .int v1), (2, .long v2), (4, .int v4)]) : W p l e rmX6_worstNow s m args below meth c H locs 0 0 Q (F0 m 5 ls []) := by
  refine iter_W (G := fun t => ∀ (H : Heap) (locs : List Loc) (ls : Array Slot), XH E (sg st) s H locs → lv_has ls 6 [(0, .ref (E.ad 68)), (1, .int v1), (2, .long t.1), (4, .int t.2)] → W p l e rmX6_worstNow s m args below meth c H locs 0 0 Q (F0 m 5 ls [])) (E := fun t => ∀ (H : Heap) (locs : List Loc) (ls : Array Slot), XH E (sg st) s H locs → lv_has ls 6 [(2, .long t)] → W p l e rmX6_worstNow s m args below meth c H locs 0 0 Q (F0 m 80 ls [])) (fun t x hx K H locs ls h hl => ?_) n _ r hx hE H locs ls h hl
  obtain ⟨v2, v4⟩ := t
  exact bX6_worstNow_5 C hI v1 v2 v4 st hx (fun _ _ z => z) (fun _ z => z) K h hl
def fX6_worstNow (v1 : Int32) (st : St) : Option (Int64) :=
  bd (iter (u2 fun z2 z4 => fX6_worstNow_5 v1 z2 z4 st) FU ((0 : Int64), (0 : Int32))) (u1 fun v2_15 =>
  some v2_15)
set_option maxHeartbeats 1000000 in
theorem bX6_worstNow (C : Cx E s0 b p s m args meth c cX6_worstNow 6 "EarthMeshModel" (some .long)) (hI : Sx E) (v1 : Int32) (st : St) {x : Int64} (hx : fX6_worstNow v1 st = some x) {H : Heap} {locs : List Loc} {ls : Array Slot} (h : XH E (sg st) s H locs) (hl : lv_has ls 6 [(0, .ref (E.ad 68)), (1, .int v1)]) : W p l e rmX6_worstNow s m args below meth c H locs 0 0 (MQ below (Qx E (some (.long x)) (sg st)) args s 0 0 (gA E.HB)) (F0 m 0 ls []) := by
  unfold fX6_worstNow at hx
  refine lv_lconst (v := (0 : Int64)) C.x C.bc dX6_worstNow_0 (by decide) ?_
  refine lv_lstore_n (lv' := [(2, .long (0 : Int64)), (0, .ref (E.ad 68)), (1, .int v1)]) C.x C.bc dX6_worstNow_1 rfl hl (by decide) rfl (fun ls hl => ?_)
  refine lv_iconst (v := (0 : Int32)) C.x C.bc dX6_worstNow_2 (by decide) ?_
  refine lv_istore (lv' := [(4, .int (0 : Int32)), (2, .long (0 : Int64)), (0, .ref (E.ad 68)), (1, .int v1)]) C.x C.bc dX6_worstNow_3 hl (by decide) rfl (fun ls hl => ?_)
  obtain ⟨v2_15, hi_15, hx⟩ := bd_e hx
  have hx := u1_e hx
  refine pX6_worstNow_5 C hI v1 st hi_15 (fun H locs ls h hl => ?_) h (lv_sub hl [2, 3, 1, 0] rfl)
  refine lv_lload_n C.x C.bc dX6_worstNow_80 rfl (lv_at hl 0 rfl) ?_
  obtain rfl := Option.some.inj hx
  exact x_lret C h dX6_worstNow_81
theorem mX6_worstNow (hG : G0 E s0 b) (hI : Sx E) {v1 : Int32} {x : Int64} (hx : fX6_worstNow v1 st = some x) : Mt l E s0 yX6_worstNow cX6_worstNow 6 (some .long) rmX6_worstNow [.ref (E.ad 68), .int v1] (sg st) (some (.long x)) E (sg st) :=
  Mt.of hG (by decide) (Nat.le_of_ble_eq_true rfl) (fun p e s m below meth c ls C h hl => bX6_worstNow C hI v1 st hx h hl)
theorem cX6_393_X6_worstNow {a0 : Int32} {r : Int64} (C : Cx E s0 b p s m args meth c cc nL "EarthMeshModel" rt) (hI : Sx E) (h : XH E (sg st) s H locs) (hf : fX6_worstNow a0 st = some r) (hR : rmX6_worstNow.frames + 1 ≤ R.frames ∧ 16 + (6 + 11) + rmX6_worstNow.locals ≤ R.locals) (h0 : cells ≤ R.cells ∧ slots ≤ R.slots) (hsz : ls.size = nL) (hcat : (rest.map fun v => v.category).sum ≤ 16) (hdg : decode cc pc = .ok (.invokevirtual 393, 3)) (kk : ∀ (H : Heap) (locs : List Loc), XH E (sg st) s H locs → W p l e R s m args below meth c H locs cells slots Q (F0 m (pc + 3) ls (.long r :: rest))) : W p l e R s m args below meth c H locs cells slots Q (F0 m pc ls (.int a0 :: .ref (E.ad 68) :: rest)) :=
  x_callV (n := 1) (As := [.int a0]) C h 68 5 (hI 68 (by decide)) k_68 rfl (mX6_worstNow C.g hI hf) (lw_V q2058 q2060 qs122 q136 q2061) ⟨rfl, by decide +kernel, by decide +kernel, by decide +kernel⟩ hR ⟨rfl, rfl⟩ h0 rfl hsz rfl hcat hdg kk
abbrev rmX6_sweep : Room := { frames := 7, cells := 0, slots := 0, locals := 233 }
def fX6_sweep_124 (v1 : Int32) (v2 : Int32) (v3 : Int32) (v4 : Int32) (v5 : Int64) (v7 : Int64) (v9 : Int32) (st : St) : Option ((Int32 × Int64 × Int64 × Int32 × St) ⊕ (Int32 × Int64 × Int64 × St)) :=
  nm (v9 + (1 : Int32)) fun v9_15 =>
  some (.inl (v4, v5, v7, v9_15, st))
set_option maxHeartbeats 1000000 in
theorem bX6_sweep_124 (C : Cx E s0 b p s m args meth c cX6_sweep 12 "EarthMeshModel" (some .long)) (hI : Sx E) (v1 : Int32) (v2 : Int32) (v3 : Int32) (v4 : Int32) (v5 : Int64) (v7 : Int64) (v9 : Int32) (st : St) {x : (Int32 × Int64 × Int64 × Int32 × St) ⊕ (Int32 × Int64 × Int64 × St)} (hx : fX6_sweep_124 v1 v2 v3 v4 v5 v7 v9 st = some x) {Q : State → Prop} {G : Int32 × Int64 × Int64 × Int32 × St → Prop} {X : Int32 × Int64 × Int64 × St → Prop} (hG : ∀ (w4 : Int32) (w5 : Int64) (w7 : Int64) (w9 : Int32) (wst : St), G (w4, w5, w7, w9, wst) → ∀ (H : Heap) (locs : List Loc) (ls : Array Slot), XH E (sg wst) s H locs → lv_has ls 12 [(0, .ref (E.ad 68)), (1, .int v1), (2, .int v2), (3, .int v3), (4, .int w4), (5, .long w5), (7, .long w7), (9, .int w9)] → W p l e rmX6_sweep s m args below meth c H locs 0 0 Q (F0 m 40 ls [])) (hE0 : ∀ (w4 : Int32) (w5 : Int64) (w7 : Int64) (wst : St), X (w4, w5, w7, wst) → ∀ (H : Heap) (locs : List Loc) (ls : Array Slot), XH E (sg wst) s H locs → lv_has ls 12 [(0, .ref (E.ad 68)), (2, .int v2), (3, .int v3), (4, .int w4), (5, .long w5), (7, .long w7)] → W p l e rmX6_sweep s m args below meth c H locs 0 0 Q (F0 m 130 ls [])) (K : Kx G X x) {H : Heap} {locs : List Loc} {ls : Array Slot} (h : XH E (sg st) s H locs) (hl : lv_has ls 12 [(0, .ref (E.ad 68)), (1, .int v1), (2, .int v2), (3, .int v3), (4, .int v4), (5, .long v5), (7, .long v7), (9, .int v9)]) : W p l e rmX6_sweep s m args below meth c H locs 0 0 Q (F0 m 124 ls []) := by
  unfold fX6_sweep_124 at hx
  obtain ⟨v9_15, e_15, hx⟩ := nm_x hx
  refine lv_iinc (v := v9_15) (lv' := [(9, .int v9_15), (0, .ref (E.ad 68)), (1, .int v1), (2, .int v2), (3, .int v3), (4, .int v4), (5, .long v5), (7, .long v7)]) C.x C.bc dX6_sweep_124 hl (k := 7) rfl (by rw [e_15]; rfl) (by decide) rfl (fun ls hl => ?_)
  refine lv_goto (tgt := 40) C.x C.bc dX6_sweep_127 (by decide) ?_
  obtain rfl := Option.some.inj hx
  exact hG _ _ _ _ _ K _ _ _ h (lv_sub hl [1, 2, 3, 4, 5, 6, 7, 0] rfl)
def fX6_sweep_106 (v1 : Int32) (v2 : Int32) (v3 : Int32) (v9 : Int32) (v10 : Int64) (st : St) : Option ((Int32 × Int64 × Int64 × Int32 × St) ⊕ (Int32 × Int64 × Int64 × St)) :=
  nm ((40 : Int64) * (st.2.1 68 19)) fun v7_14 =>
  fX6_sweep_124 v1 v2 v3 v9 v10 v7_14 v9 st
set_option maxHeartbeats 1000000 in
theorem bX6_sweep_106 (C : Cx E s0 b p s m args meth c cX6_sweep 12 "EarthMeshModel" (some .long)) (hI : Sx E) (v1 : Int32) (v2 : Int32) (v3 : Int32) (v9 : Int32) (v10 : Int64) (st : St) {x : (Int32 × Int64 × Int64 × Int32 × St) ⊕ (Int32 × Int64 × Int64 × St)} (hx : fX6_sweep_106 v1 v2 v3 v9 v10 st = some x) {Q : State → Prop} {G : Int32 × Int64 × Int64 × Int32 × St → Prop} {X : Int32 × Int64 × Int64 × St → Prop} (hG : ∀ (w4 : Int32) (w5 : Int64) (w7 : Int64) (w9 : Int32) (wst : St), G (w4, w5, w7, w9, wst) → ∀ (H : Heap) (locs : List Loc) (ls : Array Slot), XH E (sg wst) s H locs → lv_has ls 12 [(0, .ref (E.ad 68)), (1, .int v1), (2, .int v2), (3, .int v3), (4, .int w4), (5, .long w5), (7, .long w7), (9, .int w9)] → W p l e rmX6_sweep s m args below meth c H locs 0 0 Q (F0 m 40 ls [])) (hE0 : ∀ (w4 : Int32) (w5 : Int64) (w7 : Int64) (wst : St), X (w4, w5, w7, wst) → ∀ (H : Heap) (locs : List Loc) (ls : Array Slot), XH E (sg wst) s H locs → lv_has ls 12 [(0, .ref (E.ad 68)), (2, .int v2), (3, .int v3), (4, .int w4), (5, .long w5), (7, .long w7)] → W p l e rmX6_sweep s m args below meth c H locs 0 0 Q (F0 m 130 ls [])) (K : Kx G X x) {H : Heap} {locs : List Loc} {ls : Array Slot} (h : XH E (sg st) s H locs) (hl : lv_has ls 12 [(0, .ref (E.ad 68)), (1, .int v1), (2, .int v2), (3, .int v3), (9, .int v9), (10, .long v10)]) : W p l e rmX6_sweep s m args below meth c H locs 0 0 Q (F0 m 106 ls []) := by
  unfold fX6_sweep_106 at hx
  refine lv_iload C.x C.bc dX6_sweep_106 (lv_at hl 4 rfl) ?_
  refine lv_istore (lv' := [(4, .int v9), (0, .ref (E.ad 68)), (1, .int v1), (2, .int v2), (3, .int v3), (9, .int v9), (10, .long v10)]) C.x C.bc dX6_sweep_108 hl (by decide) rfl (fun ls hl => ?_)
  refine lv_lload C.x C.bc dX6_sweep_110 (lv_at hl 6 rfl) ?_
  refine lv_lstore (lv' := [(5, .long v10), (4, .int v9), (0, .ref (E.ad 68)), (1, .int v1), (2, .int v2), (3, .int v3), (9, .int v9), (10, .long v10)]) C.x C.bc dX6_sweep_112 hl (by decide) rfl (fun ls hl => ?_)
  refine lv_ldc2 (v := (40 : Int64)) C.x C.bc C.ow (C.ts _ q1913) dX6_sweep_114 ?_
  refine lv_aload_n C.x C.bc dX6_sweep_117 rfl (lv_at hl 2 rfl) ?_
  refine gt_X6_233_68 C hI h dX6_sweep_118 ?_
  refine lv_lmul C.x C.bc dX6_sweep_121 ?_
  obtain ⟨v7_14, e_14, hx⟩ := nm_x hx
  refine x_tl e_14 ?_
  refine lv_lstore (lv' := [(7, .long v7_14), (5, .long v10), (4, .int v9), (0, .ref (E.ad 68)), (1, .int v1), (2, .int v2), (3, .int v3), (9, .int v9), (10, .long v10)]) C.x C.bc dX6_sweep_122 hl (by decide) rfl (fun ls hl => ?_)
  exact bX6_sweep_124 C hI v1 v2 v3 v9 v10 v7_14 v9 st hx hG hE0 K h (lv_sub hl [3, 4, 5, 6, 2, 1, 0, 7] rfl)
def fX6_sweep_40 (v1 : Int32) (v2 : Int32) (v3 : Int32) (v4 : Int32) (v5 : Int64) (v7 : Int64) (v9 : Int32) (st : St) : Option ((Int32 × Int64 × Int64 × Int32 × St) ⊕ (Int32 × Int64 × Int64 × St)) :=
  bd (fX6_nodes_70 st) fun r_6 =>
  if r_6 ≤ v9 then
    some (.inr (v4, v5, v7, st))
  else
    gd (inB (2 : Int32) 46) <|
    nm (uI st 70 (2 : Int32).toNatClampNeg v9) fun st_9 =>
    bd (fX6_tellsGround st_9) <| u2 fun r_10 st_10 =>
    if r_10 = 0 then
      fX6_sweep_124 v1 v2 v3 v4 v5 v7 v9 st_10
    else
      bd (fX6_worstNow v1 st_10) fun r_12 =>
      if v4 = (-1 : Int32) then
        fX6_sweep_106 v1 v2 v3 v9 r_12 st_10
      else
        bd (fX6_compare r_12 ((40 : Int64) * (st_10.2.1 68 19)) v5 v7) fun r_16 =>
        if 0 < r_16 then
          fX6_sweep_106 v1 v2 v3 v9 r_12 st_10
        else
          fX6_sweep_124 v1 v2 v3 v4 v5 v7 v9 st_10
set_option maxHeartbeats 1000000 in
theorem bX6_sweep_40 (C : Cx E s0 b p s m args meth c cX6_sweep 12 "EarthMeshModel" (some .long)) (hI : Sx E) (v1 : Int32) (v2 : Int32) (v3 : Int32) (v4 : Int32) (v5 : Int64) (v7 : Int64) (v9 : Int32) (st : St) {x : (Int32 × Int64 × Int64 × Int32 × St) ⊕ (Int32 × Int64 × Int64 × St)} (hx : fX6_sweep_40 v1 v2 v3 v4 v5 v7 v9 st = some x) {Q : State → Prop} {G : Int32 × Int64 × Int64 × Int32 × St → Prop} {X : Int32 × Int64 × Int64 × St → Prop} (hG : ∀ (w4 : Int32) (w5 : Int64) (w7 : Int64) (w9 : Int32) (wst : St), G (w4, w5, w7, w9, wst) → ∀ (H : Heap) (locs : List Loc) (ls : Array Slot), XH E (sg wst) s H locs → lv_has ls 12 [(0, .ref (E.ad 68)), (1, .int v1), (2, .int v2), (3, .int v3), (4, .int w4), (5, .long w5), (7, .long w7), (9, .int w9)] → W p l e rmX6_sweep s m args below meth c H locs 0 0 Q (F0 m 40 ls [])) (hE0 : ∀ (w4 : Int32) (w5 : Int64) (w7 : Int64) (wst : St), X (w4, w5, w7, wst) → ∀ (H : Heap) (locs : List Loc) (ls : Array Slot), XH E (sg wst) s H locs → lv_has ls 12 [(0, .ref (E.ad 68)), (2, .int v2), (3, .int v3), (4, .int w4), (5, .long w5), (7, .long w7)] → W p l e rmX6_sweep s m args below meth c H locs 0 0 Q (F0 m 130 ls [])) (K : Kx G X x) {H : Heap} {locs : List Loc} {ls : Array Slot} (h : XH E (sg st) s H locs) (hl : lv_has ls 12 [(0, .ref (E.ad 68)), (1, .int v1), (2, .int v2), (3, .int v3), (4, .int v4), (5, .long v5), (7, .long v7), (9, .int v9)]) : W p l e rmX6_sweep s m args below meth c H locs 0 0 Q (F0 m 40 ls []) := by
  unfold fX6_sweep_40 at hx
  refine lv_iload C.x C.bc dX6_sweep_40 (lv_at hl 7 rfl) ?_
  refine lv_aload_n C.x C.bc dX6_sweep_42 rfl (lv_at hl 0 rfl) ?_
  refine gt_X6_31_68 C hI h dX6_sweep_43 ?_
  obtain ⟨r_6, hf_6, hx⟩ := bd_e hx
  refine cX6_190_X6_nodes_70 C hI h hf_6 ⟨Nat.le_of_ble_eq_true rfl, Nat.le_of_ble_eq_true rfl⟩ ⟨Nat.zero_le _, Nat.zero_le _⟩ hl.1 (Nat.le_of_ble_eq_true rfl) dX6_sweep_46 (fun H locs h => ?_)
  refine lv_icmp_ge (tgt := 130) C.x C.bc dX6_sweep_49 (by decide) (fun c_7 => ?_) (fun c_7 => ?_)
  · have hx := ge_t hx c_7
    obtain rfl := Option.some.inj hx
    exact hE0 _ _ _ _ K _ _ _ h (lv_sub hl [0, 2, 3, 4, 5, 6] rfl)
  · have hx := ge_f hx c_7
    refine lv_aload_n C.x C.bc dX6_sweep_52 rfl (lv_at hl 0 rfl) ?_
    refine gt_X6_31_68 C hI h dX6_sweep_53 ?_
    refine lv_iconst (v := (2 : Int32)) C.x C.bc dX6_sweep_56 (by decide) ?_
    refine lv_iload C.x C.bc dX6_sweep_57 (lv_at hl 7 rfl) ?_
    obtain ⟨g_8, hx⟩ := gd_e hx
    obtain ⟨st_9, e_9, hx⟩ := nm_x hx
    refine y_iast C h 70 46 (hI 70 (by decide)) k_70 g_8 e_9 dX6_sweep_59 (fun H locs h => ?_)
    refine lv_aload_n C.x C.bc dX6_sweep_60 rfl (lv_at hl 0 rfl) ?_
    obtain ⟨⟨r_10, st_10⟩, hf_10, hx⟩ := bd_e hx
    have hx := u2_e hx
    refine cX6_344_X6_tellsGround C hI h hf_10 ⟨Nat.le_of_ble_eq_true rfl, Nat.le_of_ble_eq_true rfl⟩ ⟨Nat.zero_le _, Nat.zero_le _⟩ hl.1 (Nat.le_of_ble_eq_true rfl) dX6_sweep_61 (fun H locs h => ?_)
    refine lv_if_ne (tgt := 70) C.x C.bc dX6_sweep_64 (by decide) (fun c_11 => ?_) (fun c_11 => ?_)
    · have hx := ge_f hx c_11
      refine lv_aload_n C.x C.bc dX6_sweep_70 rfl (lv_at hl 0 rfl) ?_
      refine lv_iload_n C.x C.bc dX6_sweep_71 rfl (lv_at hl 1 rfl) ?_
      obtain ⟨r_12, hf_12, hx⟩ := bd_e hx
      refine cX6_393_X6_worstNow C hI h hf_12 ⟨Nat.le_of_ble_eq_true rfl, Nat.le_of_ble_eq_true rfl⟩ ⟨Nat.zero_le _, Nat.zero_le _⟩ hl.1 (Nat.le_of_ble_eq_true rfl) dX6_sweep_72 (fun H locs h => ?_)
      refine lv_lstore (lv' := [(10, .long r_12), (0, .ref (E.ad 68)), (1, .int v1), (2, .int v2), (3, .int v3), (4, .int v4), (5, .long v5), (7, .long v7), (9, .int v9)]) C.x C.bc dX6_sweep_75 hl (by decide) rfl (fun ls hl => ?_)
      refine lv_iload C.x C.bc dX6_sweep_77 (lv_at hl 5 rfl) ?_
      refine lv_iconst (v := (-1 : Int32)) C.x C.bc dX6_sweep_79 (by decide) ?_
      refine lv_icmp_eq (tgt := 106) C.x C.bc dX6_sweep_80 (by decide) (fun c_13 => ?_) (fun c_13 => ?_)
      · have hx := ge_t hx c_13
        exact bX6_sweep_106 C hI v1 v2 v3 v9 r_12 st_10 hx hG hE0 K h (lv_sub hl [1, 2, 3, 4, 8, 0] rfl)
      · have hx := ge_f hx c_13
        refine lv_lload C.x C.bc dX6_sweep_83 (lv_at hl 0 rfl) ?_
        refine lv_ldc2 (v := (40 : Int64)) C.x C.bc C.ow (C.ts _ q1913) dX6_sweep_85 ?_
        refine lv_aload_n C.x C.bc dX6_sweep_88 rfl (lv_at hl 1 rfl) ?_
        refine gt_X6_233_68 C hI h dX6_sweep_89 ?_
        refine lv_lmul C.x C.bc dX6_sweep_92 ?_
        refine lv_lload C.x C.bc dX6_sweep_93 (lv_at hl 6 rfl) ?_
        refine lv_lload C.x C.bc dX6_sweep_95 (lv_at hl 7 rfl) ?_
        obtain ⟨r_16, hf_16, hx⟩ := bd_e hx
        refine cX6_374_X6_compare C hI h hf_16 ⟨Nat.le_of_ble_eq_true rfl, Nat.le_of_ble_eq_true rfl⟩ ⟨Nat.zero_le _, Nat.zero_le _⟩ hl.1 (Nat.le_of_ble_eq_true rfl) dX6_sweep_97 (fun H locs h => ?_)
        refine lv_if_gt (tgt := 106) C.x C.bc dX6_sweep_100 (by decide) (fun c_17 => ?_) (fun c_17 => ?_)
        · have hx := ge_t hx c_17
          exact bX6_sweep_106 C hI v1 v2 v3 v9 r_12 st_10 hx hG hE0 K h (lv_sub hl [1, 2, 3, 4, 8, 0] rfl)
        · have hx := ge_f hx c_17
          refine lv_goto (tgt := 124) C.x C.bc dX6_sweep_103 (by decide) ?_
          exact bX6_sweep_124 C hI v1 v2 v3 v4 v5 v7 v9 st_10 hx hG hE0 K h (lv_sub hl [1, 2, 3, 4, 5, 6, 7, 8] rfl)
    · have hx := ge_t hx c_11
      refine lv_goto (tgt := 124) C.x C.bc dX6_sweep_67 (by decide) ?_
      exact bX6_sweep_124 C hI v1 v2 v3 v4 v5 v7 v9 st_10 hx hG hE0 K h (lv_sub hl [0, 1, 2, 3, 4, 5, 6, 7] rfl)
set_option maxHeartbeats 1000000 in
theorem pX6_sweep_40 (C : Cx E s0 b p s m args meth c cX6_sweep 12 "EarthMeshModel" (some .long)) (hI : Sx E) (v1 : Int32) (v2 : Int32) (v3 : Int32) {Q : State → Prop} {v4 : Int32} {v5 : Int64} {v7 : Int64} {v9 : Int32} {st : St} {n : Nat} {r : Int32 × Int64 × Int64 × St} (hx : iter (u5 fun v4 v5 v7 v9 st => fX6_sweep_40 v1 v2 v3 v4 v5 v7 v9 st) n (v4, v5, v7, v9, st) = some r) (hE : (fun t => ∀ (H : Heap) (locs : List Loc) (ls : Array Slot), XH E (sg t.2.2.2) s H locs → lv_has ls 12 [(0, .ref (E.ad 68)), (2, .int v2), (3, .int v3), (4, .int t.1), (5, .long t.2.1), (7, .long t.2.2.1)] → W p l e rmX6_sweep s m args below meth c H locs 0 0 Q (F0 m 130 ls [])) r) {H : Heap} {locs : List Loc} {ls : Array Slot} (h : XH E (sg st) s H locs) (hl : lv_has ls 12 [(0, .ref (E.ad 68)), (1, .int v1), (2, .int v2), (3, .int v3), (4, .int v4), (5, .long v5), (7, .long v7), (9, .int v9)]) : W p l e rmX6_sweep s m args below meth c H locs 0 0 Q (F0 m 40 ls []) := by
  refine iter_W (G := fun t => ∀ (H : Heap) (locs : List Loc) (ls : Array Slot), XH E (sg t.2.2.2.2) s H locs → lv_has ls 12 [(0, .ref (E.ad 68)), (1, .int v1), (2, .int v2), (3, .int v3), (4, .int t.1), (5, .long t.2.1), (7, .long t.2.2.1), (9, .int t.2.2.2.1)] → W p l e rmX6_sweep s m args below meth c H locs 0 0 Q (F0 m 40 ls [])) (E := fun t => ∀ (H : Heap) (locs : List Loc) (ls : Array Slot), XH E (sg t.2.2.2) s H locs → lv_has ls 12 [(0, .ref (E.ad 68)), (2, .int v2), (3, .int v3), (4, .int t.1), (5, .long t.2.1), (7, .long t.2.2.1)] → W p l e rmX6_sweep s m args below meth c H locs 0 0 Q (F0 m 130 ls [])) (fun t x hx K H locs ls h hl => ?_) n _ r hx hE H locs ls h hl
  obtain ⟨v4, v5, v7, v9, st⟩ := t
  exact bX6_sweep_40 C hI v1 v2 v3 v4 v5 v7 v9 st hx (fun _ _ _ _ _ z => z) (fun _ _ _ _ z => z) K h hl
def fX6_sweep_161 (k0 : Int64) (k1 : Int64) (k2 : Int32) (st : St) : Option (Int64 × St) :=
  bd (fX6_side k0 k1 k2) fun r_23 =>
  some (r_23, st)
set_option maxHeartbeats 1000000 in
theorem bX6_sweep_161 (C : Cx E s0 b p s m args meth c cX6_sweep 12 "EarthMeshModel" (some .long)) (hI : Sx E) (k0 : Int64) (k1 : Int64) (k2 : Int32) (st : St) {x : Int64 × St} (hx : fX6_sweep_161 k0 k1 k2 st = some x) {H : Heap} {locs : List Loc} {ls : Array Slot} (h : XH E (sg st) s H locs) (hl : lv_has ls 12 []) : W p l e rmX6_sweep s m args below meth c H locs 0 0 (MQ below (Qx E (some (.long x.1)) (sg x.2)) args s 0 0 (gA E.HB)) (F0 m 161 ls [.int k2, .long k1, .long k0]) := by
  unfold fX6_sweep_161 at hx
  obtain ⟨r_23, hf_23, hx⟩ := bd_e hx
  refine cX6_307_X6_side C hI h hf_23 ⟨Nat.le_of_ble_eq_true rfl, Nat.le_of_ble_eq_true rfl⟩ ⟨Nat.zero_le _, Nat.zero_le _⟩ hl.1 (Nat.le_of_ble_eq_true rfl) dX6_sweep_161 (fun H locs h => ?_)
  obtain rfl := Option.some.inj hx
  exact x_lret C h dX6_sweep_164
def fX6_sweep (v1 : Int32) (v2 : Int32) (st : St) : Option (Int64 × St) :=
  nm (uI st 68 1 (0 : Int32)) fun st_1 =>
  nm (fX6_isIn v2 (0 : Int32) (2 : Int32)) fun r_2 =>
  if r_2 = 0 then
    bd (fX6_fail (1 : Int32) st_1) <| u2 fun r_24 st_24 =>
    some ((r_24.toInt64), st_24)
  else
    gd (inB (2 : Int32) 46) <|
    nm (st_1.1 70 (2 : Int32).toNatClampNeg) fun v3_5 =>
    bd (iter (u5 fun z4 z5 z7 z9 zst => fX6_sweep_40 v1 v2 v3_5 z4 z5 z7 z9 zst) FU ((-1 : Int32), (0 : Int64), (1 : Int64), (0 : Int32), st_1)) (u4 fun v4_18 v5_18 v7_18 st_18 =>
    gd (inB (2 : Int32) 46) <|
    nm (uI st_18 70 (2 : Int32).toNatClampNeg v3_5) fun st_20 =>
    if v2 = 0 then
      some ((v4_18.toInt64), st_20)
    else
      if v2 = (2 : Int32) then
        fX6_sweep_161 v5_18 v7_18 (1 : Int32) st_20
      else
        fX6_sweep_161 v5_18 v7_18 (0 : Int32) st_20)
set_option maxHeartbeats 1000000 in
theorem bX6_sweep (C : Cx E s0 b p s m args meth c cX6_sweep 12 "EarthMeshModel" (some .long)) (hI : Sx E) (v1 : Int32) (v2 : Int32) (st : St) {x : Int64 × St} (hx : fX6_sweep v1 v2 st = some x) {H : Heap} {locs : List Loc} {ls : Array Slot} (h : XH E (sg st) s H locs) (hl : lv_has ls 12 [(0, .ref (E.ad 68)), (1, .int v1), (2, .int v2)]) : W p l e rmX6_sweep s m args below meth c H locs 0 0 (MQ below (Qx E (some (.long x.1)) (sg x.2)) args s 0 0 (gA E.HB)) (F0 m 0 ls []) := by
  unfold fX6_sweep at hx
  refine lv_aload_n C.x C.bc dX6_sweep_0 rfl (lv_at hl 0 rfl) ?_
  refine lv_iconst (v := (0 : Int32)) C.x C.bc dX6_sweep_1 (by decide) ?_
  obtain ⟨st_1, e_1, hx⟩ := nm_x hx
  refine pt_X6_90_68 C hI h e_1 dX6_sweep_2 (fun H locs h => ?_)
  refine lv_iload_n C.x C.bc dX6_sweep_5 rfl (lv_at hl 2 rfl) ?_
  refine lv_iconst (v := (0 : Int32)) C.x C.bc dX6_sweep_6 (by decide) ?_
  refine lv_iconst (v := (2 : Int32)) C.x C.bc dX6_sweep_7 (by decide) ?_
  obtain ⟨r_2, e_2, hx⟩ := nm_x hx
  refine cX6_300_X6_isIn C hI h e_2.symm ⟨Nat.le_of_ble_eq_true rfl, Nat.le_of_ble_eq_true rfl⟩ ⟨Nat.zero_le _, Nat.zero_le _⟩ hl.1 (Nat.le_of_ble_eq_true rfl) dX6_sweep_8 (fun H locs h => ?_)
  refine lv_if_ne (tgt := 21) C.x C.bc dX6_sweep_11 (by decide) (fun c_3 => ?_) (fun c_3 => ?_)
  · have hx := ge_f hx c_3
    refine lv_aload_n C.x C.bc dX6_sweep_21 rfl (lv_at hl 0 rfl) ?_
    refine gt_X6_31_68 C hI h dX6_sweep_22 ?_
    refine lv_iconst (v := (2 : Int32)) C.x C.bc dX6_sweep_25 (by decide) ?_
    obtain ⟨g_4, hx⟩ := gd_e hx
    refine x_iald C h 70 46 (hI 70 (by decide)) k_70 g_4 dX6_sweep_26 ?_
    obtain ⟨v3_5, e_5, hx⟩ := nm_x hx
    refine x_ti e_5 ?_
    refine lv_istore_n (lv' := [(3, .int v3_5), (0, .ref (E.ad 68)), (1, .int v1), (2, .int v2)]) C.x C.bc dX6_sweep_27 rfl hl (by decide) rfl (fun ls hl => ?_)
    refine lv_iconst (v := (-1 : Int32)) C.x C.bc dX6_sweep_28 (by decide) ?_
    refine lv_istore (lv' := [(4, .int (-1 : Int32)), (3, .int v3_5), (0, .ref (E.ad 68)), (1, .int v1), (2, .int v2)]) C.x C.bc dX6_sweep_29 hl (by decide) rfl (fun ls hl => ?_)
    refine lv_lconst (v := (0 : Int64)) C.x C.bc dX6_sweep_31 (by decide) ?_
    refine lv_lstore (lv' := [(5, .long (0 : Int64)), (4, .int (-1 : Int32)), (3, .int v3_5), (0, .ref (E.ad 68)), (1, .int v1), (2, .int v2)]) C.x C.bc dX6_sweep_32 hl (by decide) rfl (fun ls hl => ?_)
    refine lv_lconst (v := (1 : Int64)) C.x C.bc dX6_sweep_34 (by decide) ?_
    refine lv_lstore (lv' := [(7, .long (1 : Int64)), (5, .long (0 : Int64)), (4, .int (-1 : Int32)), (3, .int v3_5), (0, .ref (E.ad 68)), (1, .int v1), (2, .int v2)]) C.x C.bc dX6_sweep_35 hl (by decide) rfl (fun ls hl => ?_)
    refine lv_iconst (v := (0 : Int32)) C.x C.bc dX6_sweep_37 (by decide) ?_
    refine lv_istore (lv' := [(9, .int (0 : Int32)), (7, .long (1 : Int64)), (5, .long (0 : Int64)), (4, .int (-1 : Int32)), (3, .int v3_5), (0, .ref (E.ad 68)), (1, .int v1), (2, .int v2)]) C.x C.bc dX6_sweep_38 hl (by decide) rfl (fun ls hl => ?_)
    obtain ⟨⟨v4_18, v5_18, v7_18, st_18⟩, hi_18, hx⟩ := bd_e hx
    have hx := u4_e hx
    refine pX6_sweep_40 C hI v1 v2 v3_5 hi_18 (fun H locs ls h hl => ?_) h (lv_sub hl [5, 6, 7, 4, 3, 2, 1, 0] rfl)
    refine lv_aload_n C.x C.bc dX6_sweep_130 rfl (lv_at hl 0 rfl) ?_
    refine gt_X6_31_68 C hI h dX6_sweep_131 ?_
    refine lv_iconst (v := (2 : Int32)) C.x C.bc dX6_sweep_134 (by decide) ?_
    refine lv_iload_n C.x C.bc dX6_sweep_135 rfl (lv_at hl 2 rfl) ?_
    obtain ⟨g_19, hx⟩ := gd_e hx
    obtain ⟨st_20, e_20, hx⟩ := nm_x hx
    refine y_iast C h 70 46 (hI 70 (by decide)) k_70 g_19 e_20 dX6_sweep_136 (fun H locs h => ?_)
    refine lv_iload_n C.x C.bc dX6_sweep_137 rfl (lv_at hl 1 rfl) ?_
    refine lv_if_ne (tgt := 147) C.x C.bc dX6_sweep_138 (by decide) (fun c_21 => ?_) (fun c_21 => ?_)
    · have hx := ge_f hx c_21
      refine lv_lload C.x C.bc dX6_sweep_147 (lv_at hl 4 rfl) ?_
      refine lv_lload C.x C.bc dX6_sweep_149 (lv_at hl 5 rfl) ?_
      refine lv_iload_n C.x C.bc dX6_sweep_151 rfl (lv_at hl 1 rfl) ?_
      refine lv_iconst (v := (2 : Int32)) C.x C.bc dX6_sweep_152 (by decide) ?_
      refine lv_icmp_ne (tgt := 160) C.x C.bc dX6_sweep_153 (by decide) (fun c_22 => ?_) (fun c_22 => ?_)
      · have hx := ge_f hx c_22
        refine lv_iconst (v := (0 : Int32)) C.x C.bc dX6_sweep_160 (by decide) ?_
        exact bX6_sweep_161 C hI v5_18 v7_18 (0 : Int32) st_20 hx h (lv_sub hl [] rfl)
      · have hx := ge_t hx c_22
        refine lv_iconst (v := (1 : Int32)) C.x C.bc dX6_sweep_156 (by decide) ?_
        refine lv_goto (tgt := 161) C.x C.bc dX6_sweep_157 (by decide) ?_
        exact bX6_sweep_161 C hI v5_18 v7_18 (1 : Int32) st_20 hx h (lv_sub hl [] rfl)
    · have hx := ge_t hx c_21
      refine lv_iload C.x C.bc dX6_sweep_141 (lv_at hl 3 rfl) ?_
      refine lv_i2l (v := (v4_18.toInt64)) C.x C.bc dX6_sweep_143 rfl ?_
      refine lv_goto (tgt := 164) C.x C.bc dX6_sweep_144 (by decide) ?_
      obtain rfl := Option.some.inj hx
      exact x_lret C h dX6_sweep_164
  · have hx := ge_t hx c_3
    refine lv_aload_n C.x C.bc dX6_sweep_14 rfl (lv_at hl 0 rfl) ?_
    refine lv_iconst (v := (1 : Int32)) C.x C.bc dX6_sweep_15 (by decide) ?_
    obtain ⟨⟨r_24, st_24⟩, hf_24, hx⟩ := bd_e hx
    have hx := u2_e hx
    refine cX6_182_X6_fail C hI h hf_24 ⟨Nat.le_of_ble_eq_true rfl, Nat.le_of_ble_eq_true rfl⟩ ⟨Nat.zero_le _, Nat.zero_le _⟩ hl.1 (Nat.le_of_ble_eq_true rfl) dX6_sweep_16 (fun H locs h => ?_)
    refine lv_i2l (v := (r_24.toInt64)) C.x C.bc dX6_sweep_19 rfl ?_
    obtain rfl := Option.some.inj hx
    exact x_lret C h dX6_sweep_20
theorem mX6_sweep (hG : G0 E s0 b) (hI : Sx E) {v1 : Int32} {v2 : Int32} {x : Int64 × St} (hx : fX6_sweep v1 v2 st = some x) : Mt l E s0 yX6_sweep cX6_sweep 12 (some .long) rmX6_sweep [.ref (E.ad 68), .int v1, .int v2] (sg st) (some (.long x.1)) E (sg x.2) :=
  Mt.of hG (by decide) (Nat.le_of_ble_eq_true rfl) (fun p e s m below meth c ls C h hl => bX6_sweep C hI v1 v2 st hx h hl)
abbrev rmX6_isRim : Room := { frames := 3, cells := 0, slots := 0, locals := 86 }
def fX6_isRim_37 (st : St) : Option (Int32) :=
  some (1 : Int32)
set_option maxHeartbeats 1000000 in
theorem bX6_isRim_37 (C : Cx E s0 b p s m args meth c cX6_isRim 2 "EarthMeshModel" (some .boolean)) (hI : Sx E) (st : St) {x : Int32} (hx : fX6_isRim_37 st = some x) {H : Heap} {locs : List Loc} {ls : Array Slot} (h : XH E (sg st) s H locs) (hl : lv_has ls 2 []) : W p l e rmX6_isRim s m args below meth c H locs 0 0 (MQ below (Qx E (some (.int x)) (sg st)) args s 0 0 (gA E.HB)) (F0 m 37 ls []) := by
  unfold fX6_isRim_37 at hx
  refine lv_iconst (v := (1 : Int32)) C.x C.bc dX6_isRim_37 (by decide) ?_
  refine lv_goto (tgt := 42) C.x C.bc dX6_isRim_38 (by decide) ?_
  obtain rfl := Option.some.inj hx
  exact x_zret (v := (1 : Int32)) C h rfl dX6_isRim_42
def fX6_isRim (v1 : Int32) (st : St) : Option (Int32) :=
  bd (fX6_pointsWide st) fun r_1 =>
  gd (¬ r_1 = 0) <|
  if (jrem v1 r_1) = 0 then
    fX6_isRim_37 st
  else
    bd (fX6_beside v1 (0 : Int32) st) fun r_4 =>
    if r_4 = (-1 : Int32) then
      fX6_isRim_37 st
    else
      bd (fX6_pointsWide st) fun r_6 =>
      if v1 < r_6 then
        fX6_isRim_37 st
      else
        bd (fX6_beside v1 (1 : Int32) st) fun r_8 =>
        if r_8 = (-1 : Int32) then
          fX6_isRim_37 st
        else
          some (0 : Int32)
set_option maxHeartbeats 1000000 in
theorem bX6_isRim (C : Cx E s0 b p s m args meth c cX6_isRim 2 "EarthMeshModel" (some .boolean)) (hI : Sx E) (v1 : Int32) (st : St) {x : Int32} (hx : fX6_isRim v1 st = some x) {H : Heap} {locs : List Loc} {ls : Array Slot} (h : XH E (sg st) s H locs) (hl : lv_has ls 2 [(0, .ref (E.ad 68)), (1, .int v1)]) : W p l e rmX6_isRim s m args below meth c H locs 0 0 (MQ below (Qx E (some (.int x)) (sg st)) args s 0 0 (gA E.HB)) (F0 m 0 ls []) := by
  unfold fX6_isRim at hx
  refine lv_iload_n C.x C.bc dX6_isRim_0 rfl (lv_at hl 1 rfl) ?_
  refine lv_aload_n C.x C.bc dX6_isRim_1 rfl (lv_at hl 0 rfl) ?_
  obtain ⟨r_1, hf_1, hx⟩ := bd_e hx
  refine cX6_325_X6_pointsWide C hI h hf_1 ⟨Nat.le_of_ble_eq_true rfl, Nat.le_of_ble_eq_true rfl⟩ ⟨Nat.zero_le _, Nat.zero_le _⟩ hl.1 (Nat.le_of_ble_eq_true rfl) dX6_isRim_2 (fun H locs h => ?_)
  obtain ⟨g_2, hx⟩ := gd_e hx
  refine y_irem C.x C.bc dX6_isRim_5 g_2 ?_
  refine lv_if_eq (tgt := 37) C.x C.bc dX6_isRim_6 (by decide) (fun c_3 => ?_) (fun c_3 => ?_)
  · have hx := ge_t hx c_3
    exact bX6_isRim_37 C hI st hx h (lv_sub hl [] rfl)
  · have hx := ge_f hx c_3
    refine lv_aload_n C.x C.bc dX6_isRim_9 rfl (lv_at hl 0 rfl) ?_
    refine lv_iload_n C.x C.bc dX6_isRim_10 rfl (lv_at hl 1 rfl) ?_
    refine lv_iconst (v := (0 : Int32)) C.x C.bc dX6_isRim_11 (by decide) ?_
    obtain ⟨r_4, hf_4, hx⟩ := bd_e hx
    refine cX6_338_X6_beside C hI h hf_4 ⟨Nat.le_of_ble_eq_true rfl, Nat.le_of_ble_eq_true rfl⟩ ⟨Nat.zero_le _, Nat.zero_le _⟩ hl.1 (Nat.le_of_ble_eq_true rfl) dX6_isRim_12 (fun H locs h => ?_)
    refine lv_iconst (v := (-1 : Int32)) C.x C.bc dX6_isRim_15 (by decide) ?_
    refine lv_icmp_eq (tgt := 37) C.x C.bc dX6_isRim_16 (by decide) (fun c_5 => ?_) (fun c_5 => ?_)
    · have hx := ge_t hx c_5
      exact bX6_isRim_37 C hI st hx h (lv_sub hl [] rfl)
    · have hx := ge_f hx c_5
      refine lv_iload_n C.x C.bc dX6_isRim_19 rfl (lv_at hl 1 rfl) ?_
      refine lv_aload_n C.x C.bc dX6_isRim_20 rfl (lv_at hl 0 rfl) ?_
      obtain ⟨r_6, hf_6, hx⟩ := bd_e hx
      refine cX6_325_X6_pointsWide C hI h hf_6 ⟨Nat.le_of_ble_eq_true rfl, Nat.le_of_ble_eq_true rfl⟩ ⟨Nat.zero_le _, Nat.zero_le _⟩ hl.1 (Nat.le_of_ble_eq_true rfl) dX6_isRim_21 (fun H locs h => ?_)
      refine lv_icmp_lt (tgt := 37) C.x C.bc dX6_isRim_24 (by decide) (fun c_7 => ?_) (fun c_7 => ?_)
      · have hx := ge_t hx c_7
        exact bX6_isRim_37 C hI st hx h (lv_sub hl [] rfl)
      · have hx := ge_f hx c_7
        refine lv_aload_n C.x C.bc dX6_isRim_27 rfl (lv_at hl 0 rfl) ?_
        refine lv_iload_n C.x C.bc dX6_isRim_28 rfl (lv_at hl 1 rfl) ?_
        refine lv_iconst (v := (1 : Int32)) C.x C.bc dX6_isRim_29 (by decide) ?_
        obtain ⟨r_8, hf_8, hx⟩ := bd_e hx
        refine cX6_338_X6_beside C hI h hf_8 ⟨Nat.le_of_ble_eq_true rfl, Nat.le_of_ble_eq_true rfl⟩ ⟨Nat.zero_le _, Nat.zero_le _⟩ hl.1 (Nat.le_of_ble_eq_true rfl) dX6_isRim_30 (fun H locs h => ?_)
        refine lv_iconst (v := (-1 : Int32)) C.x C.bc dX6_isRim_33 (by decide) ?_
        refine lv_icmp_ne (tgt := 41) C.x C.bc dX6_isRim_34 (by decide) (fun c_9 => ?_) (fun c_9 => ?_)
        · have hx := ge_f hx c_9
          refine lv_iconst (v := (0 : Int32)) C.x C.bc dX6_isRim_41 (by decide) ?_
          obtain rfl := Option.some.inj hx
          exact x_zret (v := (0 : Int32)) C h rfl dX6_isRim_42
        · have hx := ge_t hx c_9
          exact bX6_isRim_37 C hI st hx h (lv_sub hl [] rfl)
theorem mX6_isRim (hG : G0 E s0 b) (hI : Sx E) {v1 : Int32} {x : Int32} (hx : fX6_isRim v1 st = some x) : Mt l E s0 yX6_isRim cX6_isRim 2 (some .boolean) rmX6_isRim [.ref (E.ad 68), .int v1] (sg st) (some (.int x)) E (sg st) :=
  Mt.of hG (by decide) (Nat.le_of_ble_eq_true rfl) (fun p e s m below meth c ls C h hl => bX6_isRim C hI v1 st hx h hl)
theorem cX6_397_X6_isRim {a0 : Int32} {r : Int32} (C : Cx E s0 b p s m args meth c cc nL "EarthMeshModel" rt) (hI : Sx E) (h : XH E (sg st) s H locs) (hf : fX6_isRim a0 st = some r) (hR : rmX6_isRim.frames + 1 ≤ R.frames ∧ 16 + (2 + 11) + rmX6_isRim.locals ≤ R.locals) (h0 : cells ≤ R.cells ∧ slots ≤ R.slots) (hsz : ls.size = nL) (hcat : (rest.map fun v => v.category).sum ≤ 16) (hdg : decode cc pc = .ok (.invokevirtual 397, 3)) (kk : ∀ (H : Heap) (locs : List Loc), XH E (sg st) s H locs → W p l e R s m args below meth c H locs cells slots Q (F0 m (pc + 3) ls (.int r :: rest))) : W p l e R s m args below meth c H locs cells slots Q (F0 m pc ls (.int a0 :: .ref (E.ad 68) :: rest)) :=
  x_callV (n := 1) (As := [.int a0]) C h 68 5 (hI 68 (by decide)) k_68 rfl (mX6_isRim C.g hI hf) (lw_V q2066 q2068 qs123 q136 q2069) ⟨rfl, by decide +kernel, by decide +kernel, by decide +kernel⟩ hR ⟨rfl, rfl⟩ h0 rfl hsz rfl hcat hdg kk
abbrev rmX6_free : Room := { frames := 7, cells := 0, slots := 0, locals := 233 }
def fX6_free_63 (v1 : Int32) (v2 : Int32) (k1 : Int32) (k2 : Int32) (st : St) : Option ((Int32 × St) ⊕ (St)) :=
  gd (inB k1 35) <|
  nm (uI st 82 k1.toNatClampNeg k2) fun st_11 =>
  nm (v2 + (1 : Int32)) fun v2_12 =>
  some (.inl (v2_12, st_11))
set_option maxHeartbeats 1000000 in
theorem bX6_free_63 (C : Cx E s0 b p s m args meth c cX6_free 6 "EarthMeshModel" (some .int)) (hI : Sx E) (v1 : Int32) (v2 : Int32) (k1 : Int32) (k2 : Int32) (st : St) {x : (Int32 × St) ⊕ (St)} (hx : fX6_free_63 v1 v2 k1 k2 st = some x) {Q : State → Prop} {G : Int32 × St → Prop} {X : St → Prop} (hG : ∀ (w2 : Int32) (wst : St), G (w2, wst) → ∀ (H : Heap) (locs : List Loc) (ls : Array Slot), XH E (sg wst) s H locs → lv_has ls 6 [(0, .ref (E.ad 68)), (1, .int v1), (2, .int w2)] → W p l e rmX6_free s m args below meth c H locs 0 0 Q (F0 m 37 ls [])) (hE0 : ∀ (wst : St), X wst → ∀ (H : Heap) (locs : List Loc) (ls : Array Slot), XH E (sg wst) s H locs → lv_has ls 6 [(0, .ref (E.ad 68)), (1, .int v1)] → W p l e rmX6_free s m args below meth c H locs 0 0 Q (F0 m 70 ls [])) (K : Kx G X x) {H : Heap} {locs : List Loc} {ls : Array Slot} (h : XH E (sg st) s H locs) (hl : lv_has ls 6 [(0, .ref (E.ad 68)), (1, .int v1), (2, .int v2)]) : W p l e rmX6_free s m args below meth c H locs 0 0 Q (F0 m 63 ls [.int k2, .int k1, .ref (E.ad 82)]) := by
  unfold fX6_free_63 at hx
  obtain ⟨g_10, hx⟩ := gd_e hx
  obtain ⟨st_11, e_11, hx⟩ := nm_x hx
  refine y_iast C h 82 35 (hI 82 (by decide)) k_82 g_10 e_11 dX6_free_63 (fun H locs h => ?_)
  obtain ⟨v2_12, e_12, hx⟩ := nm_x hx
  refine lv_iinc (v := v2_12) (lv' := [(2, .int v2_12), (0, .ref (E.ad 68)), (1, .int v1)]) C.x C.bc dX6_free_64 hl (k := 2) rfl (by rw [e_12]; rfl) (by decide) rfl (fun ls hl => ?_)
  refine lv_goto (tgt := 37) C.x C.bc dX6_free_67 (by decide) ?_
  obtain rfl := Option.some.inj hx
  exact hG _ _ K _ _ _ h (lv_sub hl [1, 2, 0] rfl)
def fX6_free_37 (v1 : Int32) (v2 : Int32) (st : St) : Option ((Int32 × St) ⊕ (St)) :=
  bd (fX6_points st) fun r_6 =>
  if r_6 ≤ v2 then
    some (.inr st)
  else
    bd (fX6_isRim v2 st) fun r_8 =>
    if r_8 = 0 then
      fX6_free_63 v1 v2 v2 (-1 : Int32) st
    else
      fX6_free_63 v1 v2 v2 (0 : Int32) st
set_option maxHeartbeats 1000000 in
theorem bX6_free_37 (C : Cx E s0 b p s m args meth c cX6_free 6 "EarthMeshModel" (some .int)) (hI : Sx E) (v1 : Int32) (v2 : Int32) (st : St) {x : (Int32 × St) ⊕ (St)} (hx : fX6_free_37 v1 v2 st = some x) {Q : State → Prop} {G : Int32 × St → Prop} {X : St → Prop} (hG : ∀ (w2 : Int32) (wst : St), G (w2, wst) → ∀ (H : Heap) (locs : List Loc) (ls : Array Slot), XH E (sg wst) s H locs → lv_has ls 6 [(0, .ref (E.ad 68)), (1, .int v1), (2, .int w2)] → W p l e rmX6_free s m args below meth c H locs 0 0 Q (F0 m 37 ls [])) (hE0 : ∀ (wst : St), X wst → ∀ (H : Heap) (locs : List Loc) (ls : Array Slot), XH E (sg wst) s H locs → lv_has ls 6 [(0, .ref (E.ad 68)), (1, .int v1)] → W p l e rmX6_free s m args below meth c H locs 0 0 Q (F0 m 70 ls [])) (K : Kx G X x) {H : Heap} {locs : List Loc} {ls : Array Slot} (h : XH E (sg st) s H locs) (hl : lv_has ls 6 [(0, .ref (E.ad 68)), (1, .int v1), (2, .int v2)]) : W p l e rmX6_free s m args below meth c H locs 0 0 Q (F0 m 37 ls []) := by
  unfold fX6_free_37 at hx
  refine lv_iload_n C.x C.bc dX6_free_37 rfl (lv_at hl 2 rfl) ?_
  refine lv_aload_n C.x C.bc dX6_free_38 rfl (lv_at hl 0 rfl) ?_
  obtain ⟨r_6, hf_6, hx⟩ := bd_e hx
  refine cX6_332_X6_points C hI h hf_6 ⟨Nat.le_of_ble_eq_true rfl, Nat.le_of_ble_eq_true rfl⟩ ⟨Nat.zero_le _, Nat.zero_le _⟩ hl.1 (Nat.le_of_ble_eq_true rfl) dX6_free_39 (fun H locs h => ?_)
  refine lv_icmp_ge (tgt := 70) C.x C.bc dX6_free_42 (by decide) (fun c_7 => ?_) (fun c_7 => ?_)
  · have hx := ge_t hx c_7
    obtain rfl := Option.some.inj hx
    exact hE0 _ K _ _ _ h (lv_sub hl [0, 1] rfl)
  · have hx := ge_f hx c_7
    refine lv_aload_n C.x C.bc dX6_free_45 rfl (lv_at hl 0 rfl) ?_
    refine gt_X6_73_68 C hI h dX6_free_46 ?_
    refine lv_iload_n C.x C.bc dX6_free_49 rfl (lv_at hl 2 rfl) ?_
    refine lv_aload_n C.x C.bc dX6_free_50 rfl (lv_at hl 0 rfl) ?_
    refine lv_iload_n C.x C.bc dX6_free_51 rfl (lv_at hl 2 rfl) ?_
    obtain ⟨r_8, hf_8, hx⟩ := bd_e hx
    refine cX6_397_X6_isRim C hI h hf_8 ⟨Nat.le_of_ble_eq_true rfl, Nat.le_of_ble_eq_true rfl⟩ ⟨Nat.zero_le _, Nat.zero_le _⟩ hl.1 (Nat.le_of_ble_eq_true rfl) dX6_free_52 (fun H locs h => ?_)
    refine lv_if_eq (tgt := 62) C.x C.bc dX6_free_55 (by decide) (fun c_9 => ?_) (fun c_9 => ?_)
    · have hx := ge_t hx c_9
      refine lv_iconst (v := (-1 : Int32)) C.x C.bc dX6_free_62 (by decide) ?_
      exact bX6_free_63 C hI v1 v2 v2 (-1 : Int32) st hx hG hE0 K h (lv_sub hl [0, 1, 2] rfl)
    · have hx := ge_f hx c_9
      refine lv_iconst (v := (0 : Int32)) C.x C.bc dX6_free_58 (by decide) ?_
      refine lv_goto (tgt := 63) C.x C.bc dX6_free_59 (by decide) ?_
      exact bX6_free_63 C hI v1 v2 v2 (0 : Int32) st hx hG hE0 K h (lv_sub hl [0, 1, 2] rfl)
set_option maxHeartbeats 1000000 in
theorem pX6_free_37 (C : Cx E s0 b p s m args meth c cX6_free 6 "EarthMeshModel" (some .int)) (hI : Sx E) (v1 : Int32) {Q : State → Prop} {v2 : Int32} {st : St} {n : Nat} {r : St} (hx : iter (u2 fun v2 st => fX6_free_37 v1 v2 st) n (v2, st) = some r) (hE : (fun t => ∀ (H : Heap) (locs : List Loc) (ls : Array Slot), XH E (sg t) s H locs → lv_has ls 6 [(0, .ref (E.ad 68)), (1, .int v1)] → W p l e rmX6_free s m args below meth c H locs 0 0 Q (F0 m 70 ls [])) r) {H : Heap} {locs : List Loc} {ls : Array Slot} (h : XH E (sg st) s H locs) (hl : lv_has ls 6 [(0, .ref (E.ad 68)), (1, .int v1), (2, .int v2)]) : W p l e rmX6_free s m args below meth c H locs 0 0 Q (F0 m 37 ls []) := by
  refine iter_W (G := fun t => ∀ (H : Heap) (locs : List Loc) (ls : Array Slot), XH E (sg t.2) s H locs → lv_has ls 6 [(0, .ref (E.ad 68)), (1, .int v1), (2, .int t.1)] → W p l e rmX6_free s m args below meth c H locs 0 0 Q (F0 m 37 ls [])) (E := fun t => ∀ (H : Heap) (locs : List Loc) (ls : Array Slot), XH E (sg t) s H locs → lv_has ls 6 [(0, .ref (E.ad 68)), (1, .int v1)] → W p l e rmX6_free s m args below meth c H locs 0 0 Q (F0 m 70 ls [])) (fun t x hx K H locs ls h hl => ?_) n _ r hx hE H locs ls h hl
  obtain ⟨v2, st⟩ := t
  exact bX6_free_37 C hI v1 v2 st hx (fun _ _ z => z) (fun _ z => z) K h hl
def fX6_free_170 (v1 : Int32) (v2 : Int32) (v3 : Int32) (v4 : Int32) (st : St) : Option ((Int32 × Int32 × St) ⊕ (Int32 × St)) :=
  nm (v4 + (1 : Int32)) fun v4_20 =>
  some (.inl (v2, v4_20, st))
set_option maxHeartbeats 1000000 in
theorem bX6_free_170 (C : Cx E s0 b p s m args meth c cX6_free 6 "EarthMeshModel" (some .int)) (hI : Sx E) (v1 : Int32) (v2 : Int32) (v3 : Int32) (v4 : Int32) (st : St) {x : (Int32 × Int32 × St) ⊕ (Int32 × St)} (hx : fX6_free_170 v1 v2 v3 v4 st = some x) {Q : State → Prop} {G : Int32 × Int32 × St → Prop} {X : Int32 × St → Prop} (hG : ∀ (w2 : Int32) (w4 : Int32) (wst : St), G (w2, w4, wst) → ∀ (H : Heap) (locs : List Loc) (ls : Array Slot), XH E (sg wst) s H locs → lv_has ls 6 [(0, .ref (E.ad 68)), (1, .int v1), (2, .int w2), (3, .int v3), (4, .int w4)] → W p l e rmX6_free s m args below meth c H locs 0 0 Q (F0 m 91 ls [])) (hE0 : ∀ (w2 : Int32) (wst : St), X (w2, wst) → ∀ (H : Heap) (locs : List Loc) (ls : Array Slot), XH E (sg wst) s H locs → lv_has ls 6 [(0, .ref (E.ad 68)), (1, .int v1), (2, .int w2), (3, .int v3)] → W p l e rmX6_free s m args below meth c H locs 0 0 Q (F0 m 176 ls [])) (K : Kx G X x) {H : Heap} {locs : List Loc} {ls : Array Slot} (h : XH E (sg st) s H locs) (hl : lv_has ls 6 [(0, .ref (E.ad 68)), (1, .int v1), (2, .int v2), (3, .int v3), (4, .int v4)]) : W p l e rmX6_free s m args below meth c H locs 0 0 Q (F0 m 170 ls []) := by
  unfold fX6_free_170 at hx
  obtain ⟨v4_20, e_20, hx⟩ := nm_x hx
  refine lv_iinc (v := v4_20) (lv' := [(4, .int v4_20), (0, .ref (E.ad 68)), (1, .int v1), (2, .int v2), (3, .int v3)]) C.x C.bc dX6_free_170 hl (k := 4) rfl (by rw [e_20]; rfl) (by decide) rfl (fun ls hl => ?_)
  refine lv_goto (tgt := 91) C.x C.bc dX6_free_173 (by decide) ?_
  obtain rfl := Option.some.inj hx
  exact hG _ _ _ K _ _ _ h (lv_sub hl [1, 2, 3, 4, 0] rfl)
def fX6_free_91 (v1 : Int32) (v2 : Int32) (v3 : Int32) (v4 : Int32) (st : St) : Option ((Int32 × Int32 × St) ⊕ (Int32 × St)) :=
  if (1 : Int32) < v4 then
    some (.inr (v2, st))
  else
    bd (fX6_beside v3 v4 st) fun r_18 =>
    if r_18 = (-1 : Int32) then
      fX6_free_170 v1 v2 v3 v4 st
    else
      gd (inB v3 35) <|
      gd (inB r_18 35) <|
      if (st.1 82 v3.toNatClampNeg) = (st.1 82 r_18.toNatClampNeg) then
        fX6_free_170 v1 v2 v3 v4 st
      else
        bd (fX6_step v3 v4 st) fun r_24 =>
        if (((4 : Int64) * (v1.toInt64)) * (st.2.1 68 19)) < r_24 then
          fX6_free_170 v1 v2 v3 v4 st
        else
          gd (inB v3 35) <|
          nm (uI st 82 v3.toNatClampNeg (0 : Int32)) fun st_27 =>
          gd (inB r_18 35) <|
          nm (uI st_27 82 r_18.toNatClampNeg (0 : Int32)) fun st_29 =>
          fX6_free_170 v1 (1 : Int32) v3 v4 st_29
set_option maxHeartbeats 1000000 in
theorem bX6_free_91 (C : Cx E s0 b p s m args meth c cX6_free 6 "EarthMeshModel" (some .int)) (hI : Sx E) (v1 : Int32) (v2 : Int32) (v3 : Int32) (v4 : Int32) (st : St) {x : (Int32 × Int32 × St) ⊕ (Int32 × St)} (hx : fX6_free_91 v1 v2 v3 v4 st = some x) {Q : State → Prop} {G : Int32 × Int32 × St → Prop} {X : Int32 × St → Prop} (hG : ∀ (w2 : Int32) (w4 : Int32) (wst : St), G (w2, w4, wst) → ∀ (H : Heap) (locs : List Loc) (ls : Array Slot), XH E (sg wst) s H locs → lv_has ls 6 [(0, .ref (E.ad 68)), (1, .int v1), (2, .int w2), (3, .int v3), (4, .int w4)] → W p l e rmX6_free s m args below meth c H locs 0 0 Q (F0 m 91 ls [])) (hE0 : ∀ (w2 : Int32) (wst : St), X (w2, wst) → ∀ (H : Heap) (locs : List Loc) (ls : Array Slot), XH E (sg wst) s H locs → lv_has ls 6 [(0, .ref (E.ad 68)), (1, .int v1), (2, .int w2), (3, .int v3)] → W p l e rmX6_free s m args below meth c H locs 0 0 Q (F0 m 176 ls [])) (K : Kx G X x) {H : Heap} {locs : List Loc} {ls : Array Slot} (h : XH E (sg st) s H locs) (hl : lv_has ls 6 [(0, .ref (E.ad 68)), (1, .int v1), (2, .int v2), (3, .int v3), (4, .int v4)]) : W p l e rmX6_free s m args below meth c H locs 0 0 Q (F0 m 91 ls []) := by
  unfold fX6_free_91 at hx
  refine lv_iload C.x C.bc dX6_free_91 (lv_at hl 4 rfl) ?_
  refine lv_iconst (v := (1 : Int32)) C.x C.bc dX6_free_93 (by decide) ?_
  refine lv_icmp_gt (tgt := 176) C.x C.bc dX6_free_94 (by decide) (fun c_17 => ?_) (fun c_17 => ?_)
  · have hx := ge_t hx c_17
    obtain rfl := Option.some.inj hx
    exact hE0 _ _ K _ _ _ h (lv_sub hl [0, 1, 2, 3] rfl)
  · have hx := ge_f hx c_17
    refine lv_aload_n C.x C.bc dX6_free_97 rfl (lv_at hl 0 rfl) ?_
    refine lv_iload_n C.x C.bc dX6_free_98 rfl (lv_at hl 3 rfl) ?_
    refine lv_iload C.x C.bc dX6_free_99 (lv_at hl 4 rfl) ?_
    obtain ⟨r_18, hf_18, hx⟩ := bd_e hx
    refine cX6_338_X6_beside C hI h hf_18 ⟨Nat.le_of_ble_eq_true rfl, Nat.le_of_ble_eq_true rfl⟩ ⟨Nat.zero_le _, Nat.zero_le _⟩ hl.1 (Nat.le_of_ble_eq_true rfl) dX6_free_101 (fun H locs h => ?_)
    refine lv_istore (lv' := [(5, .int r_18), (0, .ref (E.ad 68)), (1, .int v1), (2, .int v2), (3, .int v3), (4, .int v4)]) C.x C.bc dX6_free_104 hl (by decide) rfl (fun ls hl => ?_)
    refine lv_iload C.x C.bc dX6_free_106 (lv_at hl 0 rfl) ?_
    refine lv_iconst (v := (-1 : Int32)) C.x C.bc dX6_free_108 (by decide) ?_
    refine lv_icmp_eq (tgt := 170) C.x C.bc dX6_free_109 (by decide) (fun c_19 => ?_) (fun c_19 => ?_)
    · have hx := ge_t hx c_19
      exact bX6_free_170 C hI v1 v2 v3 v4 st hx hG hE0 K h (lv_sub hl [1, 2, 3, 4, 5] rfl)
    · have hx := ge_f hx c_19
      refine lv_aload_n C.x C.bc dX6_free_112 rfl (lv_at hl 1 rfl) ?_
      refine gt_X6_73_68 C hI h dX6_free_113 ?_
      refine lv_iload_n C.x C.bc dX6_free_116 rfl (lv_at hl 4 rfl) ?_
      obtain ⟨g_21, hx⟩ := gd_e hx
      refine x_iald C h 82 35 (hI 82 (by decide)) k_82 g_21 dX6_free_117 ?_
      refine lv_aload_n C.x C.bc dX6_free_118 rfl (lv_at hl 1 rfl) ?_
      refine gt_X6_73_68 C hI h dX6_free_119 ?_
      refine lv_iload C.x C.bc dX6_free_122 (lv_at hl 0 rfl) ?_
      obtain ⟨g_22, hx⟩ := gd_e hx
      refine x_iald C h 82 35 (hI 82 (by decide)) k_82 g_22 dX6_free_124 ?_
      refine lv_icmp_eq (tgt := 170) C.x C.bc dX6_free_125 (by decide) (fun c_23 => ?_) (fun c_23 => ?_)
      · have hx := ge_t hx c_23
        exact bX6_free_170 C hI v1 v2 v3 v4 st hx hG hE0 K h (lv_sub hl [1, 2, 3, 4, 5] rfl)
      · have hx := ge_f hx c_23
        refine lv_aload_n C.x C.bc dX6_free_128 rfl (lv_at hl 1 rfl) ?_
        refine lv_iload_n C.x C.bc dX6_free_129 rfl (lv_at hl 4 rfl) ?_
        refine lv_iload C.x C.bc dX6_free_130 (lv_at hl 5 rfl) ?_
        obtain ⟨r_24, hf_24, hx⟩ := bd_e hx
        refine cX6_347_X6_step C hI h hf_24 ⟨Nat.le_of_ble_eq_true rfl, Nat.le_of_ble_eq_true rfl⟩ ⟨Nat.zero_le _, Nat.zero_le _⟩ hl.1 (Nat.le_of_ble_eq_true rfl) dX6_free_132 (fun H locs h => ?_)
        refine lv_ldc2 (v := (4 : Int64)) C.x C.bc C.ow (C.ts _ q1914) dX6_free_135 ?_
        refine lv_iload_n C.x C.bc dX6_free_138 rfl (lv_at hl 2 rfl) ?_
        refine lv_i2l (v := (v1.toInt64)) C.x C.bc dX6_free_139 rfl ?_
        refine lv_lmul C.x C.bc dX6_free_140 ?_
        refine lv_aload_n C.x C.bc dX6_free_141 rfl (lv_at hl 1 rfl) ?_
        refine gt_X6_233_68 C hI h dX6_free_142 ?_
        refine lv_lmul C.x C.bc dX6_free_145 ?_
        refine W.lcmp C.x C.bc dX6_free_146 ?_
        refine lv_if_le (tgt := 153) C.x C.bc dX6_free_147 (by decide) (fun c_25 => ?_) (fun c_25 => ?_)
        · have c_25 := (lc_le _ _).mp c_25
          have hx := ge_f hx c_25
          refine lv_aload_n C.x C.bc dX6_free_153 rfl (lv_at hl 1 rfl) ?_
          refine gt_X6_73_68 C hI h dX6_free_154 ?_
          refine lv_iload_n C.x C.bc dX6_free_157 rfl (lv_at hl 4 rfl) ?_
          refine lv_iconst (v := (0 : Int32)) C.x C.bc dX6_free_158 (by decide) ?_
          obtain ⟨g_26, hx⟩ := gd_e hx
          obtain ⟨st_27, e_27, hx⟩ := nm_x hx
          refine y_iast C h 82 35 (hI 82 (by decide)) k_82 g_26 e_27 dX6_free_159 (fun H locs h => ?_)
          refine lv_aload_n C.x C.bc dX6_free_160 rfl (lv_at hl 1 rfl) ?_
          refine gt_X6_73_68 C hI h dX6_free_161 ?_
          refine lv_iload C.x C.bc dX6_free_164 (lv_at hl 0 rfl) ?_
          refine lv_iconst (v := (0 : Int32)) C.x C.bc dX6_free_166 (by decide) ?_
          obtain ⟨g_28, hx⟩ := gd_e hx
          obtain ⟨st_29, e_29, hx⟩ := nm_x hx
          refine y_iast C h 82 35 (hI 82 (by decide)) k_82 g_28 e_29 dX6_free_167 (fun H locs h => ?_)
          refine lv_iconst (v := (1 : Int32)) C.x C.bc dX6_free_168 (by decide) ?_
          refine lv_istore_n (lv' := [(2, .int (1 : Int32)), (5, .int r_18), (0, .ref (E.ad 68)), (1, .int v1), (3, .int v3), (4, .int v4)]) C.x C.bc dX6_free_169 rfl hl (by decide) rfl (fun ls hl => ?_)
          exact bX6_free_170 C hI v1 (1 : Int32) v3 v4 st_29 hx hG hE0 K h (lv_sub hl [2, 3, 0, 4, 5] rfl)
        · have c_25 := Classical.not_not.mp ((not_congr (lc_le _ _)).mp c_25)
          have hx := ge_t hx c_25
          refine lv_goto (tgt := 170) C.x C.bc dX6_free_150 (by decide) ?_
          exact bX6_free_170 C hI v1 v2 v3 v4 st hx hG hE0 K h (lv_sub hl [1, 2, 3, 4, 5] rfl)
set_option maxHeartbeats 1000000 in
theorem pX6_free_91 (C : Cx E s0 b p s m args meth c cX6_free 6 "EarthMeshModel" (some .int)) (hI : Sx E) (v1 : Int32) (v3 : Int32) {Q : State → Prop} {v2 : Int32} {v4 : Int32} {st : St} {n : Nat} {r : Int32 × St} (hx : iter (u3 fun v2 v4 st => fX6_free_91 v1 v2 v3 v4 st) n (v2, v4, st) = some r) (hE : (fun t => ∀ (H : Heap) (locs : List Loc) (ls : Array Slot), XH E (sg t.2) s H locs → lv_has ls 6 [(0, .ref (E.ad 68)), (1, .int v1), (2, .int t.1), (3, .int v3)] → W p l e rmX6_free s m args below meth c H locs 0 0 Q (F0 m 176 ls [])) r) {H : Heap} {locs : List Loc} {ls : Array Slot} (h : XH E (sg st) s H locs) (hl : lv_has ls 6 [(0, .ref (E.ad 68)), (1, .int v1), (2, .int v2), (3, .int v3), (4, .int v4)]) : W p l e rmX6_free s m args below meth c H locs 0 0 Q (F0 m 91 ls []) := by
  refine iter_W (G := fun t => ∀ (H : Heap) (locs : List Loc) (ls : Array Slot), XH E (sg t.2.2) s H locs → lv_has ls 6 [(0, .ref (E.ad 68)), (1, .int v1), (2, .int t.1), (3, .int v3), (4, .int t.2.1)] → W p l e rmX6_free s m args below meth c H locs 0 0 Q (F0 m 91 ls [])) (E := fun t => ∀ (H : Heap) (locs : List Loc) (ls : Array Slot), XH E (sg t.2) s H locs → lv_has ls 6 [(0, .ref (E.ad 68)), (1, .int v1), (2, .int t.1), (3, .int v3)] → W p l e rmX6_free s m args below meth c H locs 0 0 Q (F0 m 176 ls [])) (fun t x hx K H locs ls h hl => ?_) n _ r hx hE H locs ls h hl
  obtain ⟨v2, v4, st⟩ := t
  exact bX6_free_91 C hI v1 v2 v3 v4 st hx (fun _ _ _ z => z) (fun _ _ z => z) K h hl
def fX6_free_80 (v1 : Int32) (v2 : Int32) (v3 : Int32) (st : St) : Option ((Int32 × Int32 × St) ⊕ (Int32 × St)) :=
  bd (fX6_points st) fun r_15 =>
  if r_15 ≤ v3 then
    some (.inr (v2, st))
  else
    bd (iter (u3 fun z2 z4 zst => fX6_free_91 v1 z2 v3 z4 zst) FU (v2, (0 : Int32), st)) (u2 fun v2_30 st_30 =>
    nm (v3 + (1 : Int32)) fun v3_31 =>
    some (.inl (v2_30, v3_31, st_30)))
set_option maxHeartbeats 1000000 in
theorem bX6_free_80 (C : Cx E s0 b p s m args meth c cX6_free 6 "EarthMeshModel" (some .int)) (hI : Sx E) (v1 : Int32) (v2 : Int32) (v3 : Int32) (st : St) {x : (Int32 × Int32 × St) ⊕ (Int32 × St)} (hx : fX6_free_80 v1 v2 v3 st = some x) {Q : State → Prop} {G : Int32 × Int32 × St → Prop} {X : Int32 × St → Prop} (hG : ∀ (w2 : Int32) (w3 : Int32) (wst : St), G (w2, w3, wst) → ∀ (H : Heap) (locs : List Loc) (ls : Array Slot), XH E (sg wst) s H locs → lv_has ls 6 [(0, .ref (E.ad 68)), (1, .int v1), (2, .int w2), (3, .int w3)] → W p l e rmX6_free s m args below meth c H locs 0 0 Q (F0 m 80 ls [])) (hE0 : ∀ (w2 : Int32) (wst : St), X (w2, wst) → ∀ (H : Heap) (locs : List Loc) (ls : Array Slot), XH E (sg wst) s H locs → lv_has ls 6 [(0, .ref (E.ad 68)), (1, .int v1), (2, .int w2)] → W p l e rmX6_free s m args below meth c H locs 0 0 Q (F0 m 182 ls [])) (K : Kx G X x) {H : Heap} {locs : List Loc} {ls : Array Slot} (h : XH E (sg st) s H locs) (hl : lv_has ls 6 [(0, .ref (E.ad 68)), (1, .int v1), (2, .int v2), (3, .int v3)]) : W p l e rmX6_free s m args below meth c H locs 0 0 Q (F0 m 80 ls []) := by
  unfold fX6_free_80 at hx
  refine lv_iload_n C.x C.bc dX6_free_80 rfl (lv_at hl 3 rfl) ?_
  refine lv_aload_n C.x C.bc dX6_free_81 rfl (lv_at hl 0 rfl) ?_
  obtain ⟨r_15, hf_15, hx⟩ := bd_e hx
  refine cX6_332_X6_points C hI h hf_15 ⟨Nat.le_of_ble_eq_true rfl, Nat.le_of_ble_eq_true rfl⟩ ⟨Nat.zero_le _, Nat.zero_le _⟩ hl.1 (Nat.le_of_ble_eq_true rfl) dX6_free_82 (fun H locs h => ?_)
  refine lv_icmp_ge (tgt := 182) C.x C.bc dX6_free_85 (by decide) (fun c_16 => ?_) (fun c_16 => ?_)
  · have hx := ge_t hx c_16
    obtain rfl := Option.some.inj hx
    exact hE0 _ _ K _ _ _ h (lv_sub hl [0, 1, 2] rfl)
  · have hx := ge_f hx c_16
    refine lv_iconst (v := (0 : Int32)) C.x C.bc dX6_free_88 (by decide) ?_
    refine lv_istore (lv' := [(4, .int (0 : Int32)), (0, .ref (E.ad 68)), (1, .int v1), (2, .int v2), (3, .int v3)]) C.x C.bc dX6_free_89 hl (by decide) rfl (fun ls hl => ?_)
    obtain ⟨⟨v2_30, st_30⟩, hi_30, hx⟩ := bd_e hx
    have hx := u2_e hx
    refine pX6_free_91 C hI v1 v3 hi_30 (fun H locs ls h hl => ?_) h (lv_sub hl [1, 2, 3, 4, 0] rfl)
    obtain ⟨v3_31, e_31, hx⟩ := nm_x hx
    refine lv_iinc (v := v3_31) (lv' := [(3, .int v3_31), (0, .ref (E.ad 68)), (1, .int v1), (2, .int v2_30)]) C.x C.bc dX6_free_176 hl (k := 3) rfl (by rw [e_31]; rfl) (by decide) rfl (fun ls hl => ?_)
    refine lv_goto (tgt := 80) C.x C.bc dX6_free_179 (by decide) ?_
    obtain rfl := Option.some.inj hx
    exact hG _ _ _ K _ _ _ h (lv_sub hl [1, 2, 3, 0] rfl)
set_option maxHeartbeats 1000000 in
theorem pX6_free_80 (C : Cx E s0 b p s m args meth c cX6_free 6 "EarthMeshModel" (some .int)) (hI : Sx E) (v1 : Int32) {Q : State → Prop} {v2 : Int32} {v3 : Int32} {st : St} {n : Nat} {r : Int32 × St} (hx : iter (u3 fun v2 v3 st => fX6_free_80 v1 v2 v3 st) n (v2, v3, st) = some r) (hE : (fun t => ∀ (H : Heap) (locs : List Loc) (ls : Array Slot), XH E (sg t.2) s H locs → lv_has ls 6 [(0, .ref (E.ad 68)), (1, .int v1), (2, .int t.1)] → W p l e rmX6_free s m args below meth c H locs 0 0 Q (F0 m 182 ls [])) r) {H : Heap} {locs : List Loc} {ls : Array Slot} (h : XH E (sg st) s H locs) (hl : lv_has ls 6 [(0, .ref (E.ad 68)), (1, .int v1), (2, .int v2), (3, .int v3)]) : W p l e rmX6_free s m args below meth c H locs 0 0 Q (F0 m 80 ls []) := by
  refine iter_W (G := fun t => ∀ (H : Heap) (locs : List Loc) (ls : Array Slot), XH E (sg t.2.2) s H locs → lv_has ls 6 [(0, .ref (E.ad 68)), (1, .int v1), (2, .int t.1), (3, .int t.2.1)] → W p l e rmX6_free s m args below meth c H locs 0 0 Q (F0 m 80 ls [])) (E := fun t => ∀ (H : Heap) (locs : List Loc) (ls : Array Slot), XH E (sg t.2) s H locs → lv_has ls 6 [(0, .ref (E.ad 68)), (1, .int v1), (2, .int t.1)] → W p l e rmX6_free s m args below meth c H locs 0 0 Q (F0 m 182 ls [])) (fun t x hx K H locs ls h hl => ?_) n _ r hx hE H locs ls h hl
  obtain ⟨v2, v3, st⟩ := t
  exact bX6_free_80 C hI v1 v2 v3 st hx (fun _ _ _ z => z) (fun _ _ z => z) K h hl
def fX6_free_72 (v1 : Int32) (v2 : Int32) (st : St) : Option ((Int32 × St) ⊕ (St)) :=
  if v2 = 0 then
    some (.inr st)
  else
    bd (iter (u3 fun z2 z3 zst => fX6_free_80 v1 z2 z3 zst) FU ((0 : Int32), (0 : Int32), st)) (u2 fun v2_32 st_32 =>
    some (.inl (v2_32, st_32)))
set_option maxHeartbeats 1000000 in
theorem bX6_free_72 (C : Cx E s0 b p s m args meth c cX6_free 6 "EarthMeshModel" (some .int)) (hI : Sx E) (v1 : Int32) (v2 : Int32) (st : St) {x : (Int32 × St) ⊕ (St)} (hx : fX6_free_72 v1 v2 st = some x) {Q : State → Prop} {G : Int32 × St → Prop} {X : St → Prop} (hG : ∀ (w2 : Int32) (wst : St), G (w2, wst) → ∀ (H : Heap) (locs : List Loc) (ls : Array Slot), XH E (sg wst) s H locs → lv_has ls 6 [(0, .ref (E.ad 68)), (1, .int v1), (2, .int w2)] → W p l e rmX6_free s m args below meth c H locs 0 0 Q (F0 m 72 ls [])) (hE0 : ∀ (wst : St), X wst → ∀ (H : Heap) (locs : List Loc) (ls : Array Slot), XH E (sg wst) s H locs → lv_has ls 6 [(0, .ref (E.ad 68))] → W p l e rmX6_free s m args below meth c H locs 0 0 Q (F0 m 185 ls [])) (K : Kx G X x) {H : Heap} {locs : List Loc} {ls : Array Slot} (h : XH E (sg st) s H locs) (hl : lv_has ls 6 [(0, .ref (E.ad 68)), (1, .int v1), (2, .int v2)]) : W p l e rmX6_free s m args below meth c H locs 0 0 Q (F0 m 72 ls []) := by
  unfold fX6_free_72 at hx
  refine lv_iload_n C.x C.bc dX6_free_72 rfl (lv_at hl 2 rfl) ?_
  refine lv_if_eq (tgt := 185) C.x C.bc dX6_free_73 (by decide) (fun c_14 => ?_) (fun c_14 => ?_)
  · have hx := ge_t hx c_14
    obtain rfl := Option.some.inj hx
    exact hE0 _ K _ _ _ h (lv_sub hl [0] rfl)
  · have hx := ge_f hx c_14
    refine lv_iconst (v := (0 : Int32)) C.x C.bc dX6_free_76 (by decide) ?_
    refine lv_istore_n (lv' := [(2, .int (0 : Int32)), (0, .ref (E.ad 68)), (1, .int v1)]) C.x C.bc dX6_free_77 rfl hl (by decide) rfl (fun ls hl => ?_)
    refine lv_iconst (v := (0 : Int32)) C.x C.bc dX6_free_78 (by decide) ?_
    refine lv_istore_n (lv' := [(3, .int (0 : Int32)), (2, .int (0 : Int32)), (0, .ref (E.ad 68)), (1, .int v1)]) C.x C.bc dX6_free_79 rfl hl (by decide) rfl (fun ls hl => ?_)
    obtain ⟨⟨v2_32, st_32⟩, hi_32, hx⟩ := bd_e hx
    have hx := u2_e hx
    refine pX6_free_80 C hI v1 hi_32 (fun H locs ls h hl => ?_) h (lv_sub hl [2, 3, 1, 0] rfl)
    refine lv_goto (tgt := 72) C.x C.bc dX6_free_182 (by decide) ?_
    obtain rfl := Option.some.inj hx
    exact hG _ _ K _ _ _ h (lv_sub hl [0, 1, 2] rfl)
set_option maxHeartbeats 1000000 in
theorem pX6_free_72 (C : Cx E s0 b p s m args meth c cX6_free 6 "EarthMeshModel" (some .int)) (hI : Sx E) (v1 : Int32) {Q : State → Prop} {v2 : Int32} {st : St} {n : Nat} {r : St} (hx : iter (u2 fun v2 st => fX6_free_72 v1 v2 st) n (v2, st) = some r) (hE : (fun t => ∀ (H : Heap) (locs : List Loc) (ls : Array Slot), XH E (sg t) s H locs → lv_has ls 6 [(0, .ref (E.ad 68))] → W p l e rmX6_free s m args below meth c H locs 0 0 Q (F0 m 185 ls [])) r) {H : Heap} {locs : List Loc} {ls : Array Slot} (h : XH E (sg st) s H locs) (hl : lv_has ls 6 [(0, .ref (E.ad 68)), (1, .int v1), (2, .int v2)]) : W p l e rmX6_free s m args below meth c H locs 0 0 Q (F0 m 72 ls []) := by
  refine iter_W (G := fun t => ∀ (H : Heap) (locs : List Loc) (ls : Array Slot), XH E (sg t.2) s H locs → lv_has ls 6 [(0, .ref (E.ad 68)), (1, .int v1), (2, .int t.1)] → W p l e rmX6_free s m args below meth c H locs 0 0 Q (F0 m 72 ls [])) (E := fun t => ∀ (H : Heap) (locs : List Loc) (ls : Array Slot), XH E (sg t) s H locs → lv_has ls 6 [(0, .ref (E.ad 68))] → W p l e rmX6_free s m args below meth c H locs 0 0 Q (F0 m 185 ls [])) (fun t x hx K H locs ls h hl => ?_) n _ r hx hE H locs ls h hl
  obtain ⟨v2, st⟩ := t
  exact bX6_free_72 C hI v1 v2 st hx (fun _ _ z => z) (fun _ z => z) K h hl
def fX6_free_215 (v4 : Int32) (k0 : Int32) (k1 : Int32) (st : St) : Option ((Int32 × Int32) ⊕ (Int32)) :=
  nm (k0 + k1) fun v3_38 =>
  nm (v4 + (1 : Int32)) fun v4_39 =>
  some (.inl (v3_38, v4_39))
set_option maxHeartbeats 1000000 in
theorem bX6_free_215 (C : Cx E s0 b p s m args meth c cX6_free 6 "EarthMeshModel" (some .int)) (hI : Sx E) (v4 : Int32) (k0 : Int32) (k1 : Int32) (st : St) {x : (Int32 × Int32) ⊕ (Int32)} (hx : fX6_free_215 v4 k0 k1 st = some x) {Q : State → Prop} {G : Int32 × Int32 → Prop} {X : Int32 → Prop} (hG : ∀ (w3 : Int32) (w4 : Int32), G (w3, w4) → ∀ (H : Heap) (locs : List Loc) (ls : Array Slot), XH E (sg st) s H locs → lv_has ls 6 [(0, .ref (E.ad 68)), (3, .int w3), (4, .int w4)] → W p l e rmX6_free s m args below meth c H locs 0 0 Q (F0 m 190 ls [])) (hE0 : ∀ (w3 : Int32), X w3 → ∀ (H : Heap) (locs : List Loc) (ls : Array Slot), XH E (sg st) s H locs → lv_has ls 6 [(3, .int w3)] → W p l e rmX6_free s m args below meth c H locs 0 0 Q (F0 m 223 ls [])) (K : Kx G X x) {H : Heap} {locs : List Loc} {ls : Array Slot} (h : XH E (sg st) s H locs) (hl : lv_has ls 6 [(0, .ref (E.ad 68)), (4, .int v4)]) : W p l e rmX6_free s m args below meth c H locs 0 0 Q (F0 m 215 ls [.int k1, .int k0]) := by
  unfold fX6_free_215 at hx
  refine lv_iadd C.x C.bc dX6_free_215 ?_
  obtain ⟨v3_38, e_38, hx⟩ := nm_x hx
  refine x_ti e_38 ?_
  refine lv_istore_n (lv' := [(3, .int v3_38), (0, .ref (E.ad 68)), (4, .int v4)]) C.x C.bc dX6_free_216 rfl hl (by decide) rfl (fun ls hl => ?_)
  obtain ⟨v4_39, e_39, hx⟩ := nm_x hx
  refine lv_iinc (v := v4_39) (lv' := [(4, .int v4_39), (3, .int v3_38), (0, .ref (E.ad 68))]) C.x C.bc dX6_free_217 hl (k := 2) rfl (by rw [e_39]; rfl) (by decide) rfl (fun ls hl => ?_)
  refine lv_goto (tgt := 190) C.x C.bc dX6_free_220 (by decide) ?_
  obtain rfl := Option.some.inj hx
  exact hG _ _ K _ _ _ h (lv_sub hl [2, 1, 0] rfl)
def fX6_free_190 (v3 : Int32) (v4 : Int32) (st : St) : Option ((Int32 × Int32) ⊕ (Int32)) :=
  bd (fX6_points st) fun r_34 =>
  if r_34 ≤ v4 then
    some (.inr v3)
  else
    gd (inB v4 35) <|
    if (st.1 82 v4.toNatClampNeg) = 0 then
      fX6_free_215 v4 v3 (1 : Int32) st
    else
      fX6_free_215 v4 v3 (0 : Int32) st
set_option maxHeartbeats 1000000 in
theorem bX6_free_190 (C : Cx E s0 b p s m args meth c cX6_free 6 "EarthMeshModel" (some .int)) (hI : Sx E) (v3 : Int32) (v4 : Int32) (st : St) {x : (Int32 × Int32) ⊕ (Int32)} (hx : fX6_free_190 v3 v4 st = some x) {Q : State → Prop} {G : Int32 × Int32 → Prop} {X : Int32 → Prop} (hG : ∀ (w3 : Int32) (w4 : Int32), G (w3, w4) → ∀ (H : Heap) (locs : List Loc) (ls : Array Slot), XH E (sg st) s H locs → lv_has ls 6 [(0, .ref (E.ad 68)), (3, .int w3), (4, .int w4)] → W p l e rmX6_free s m args below meth c H locs 0 0 Q (F0 m 190 ls [])) (hE0 : ∀ (w3 : Int32), X w3 → ∀ (H : Heap) (locs : List Loc) (ls : Array Slot), XH E (sg st) s H locs → lv_has ls 6 [(3, .int w3)] → W p l e rmX6_free s m args below meth c H locs 0 0 Q (F0 m 223 ls [])) (K : Kx G X x) {H : Heap} {locs : List Loc} {ls : Array Slot} (h : XH E (sg st) s H locs) (hl : lv_has ls 6 [(0, .ref (E.ad 68)), (3, .int v3), (4, .int v4)]) : W p l e rmX6_free s m args below meth c H locs 0 0 Q (F0 m 190 ls []) := by
  unfold fX6_free_190 at hx
  refine lv_iload C.x C.bc dX6_free_190 (lv_at hl 2 rfl) ?_
  refine lv_aload_n C.x C.bc dX6_free_192 rfl (lv_at hl 0 rfl) ?_
  obtain ⟨r_34, hf_34, hx⟩ := bd_e hx
  refine cX6_332_X6_points C hI h hf_34 ⟨Nat.le_of_ble_eq_true rfl, Nat.le_of_ble_eq_true rfl⟩ ⟨Nat.zero_le _, Nat.zero_le _⟩ hl.1 (Nat.le_of_ble_eq_true rfl) dX6_free_193 (fun H locs h => ?_)
  refine lv_icmp_ge (tgt := 223) C.x C.bc dX6_free_196 (by decide) (fun c_35 => ?_) (fun c_35 => ?_)
  · have hx := ge_t hx c_35
    obtain rfl := Option.some.inj hx
    exact hE0 _ K _ _ _ h (lv_sub hl [1] rfl)
  · have hx := ge_f hx c_35
    refine lv_iload_n C.x C.bc dX6_free_199 rfl (lv_at hl 1 rfl) ?_
    refine lv_aload_n C.x C.bc dX6_free_200 rfl (lv_at hl 0 rfl) ?_
    refine gt_X6_73_68 C hI h dX6_free_201 ?_
    refine lv_iload C.x C.bc dX6_free_204 (lv_at hl 2 rfl) ?_
    obtain ⟨g_36, hx⟩ := gd_e hx
    refine x_iald C h 82 35 (hI 82 (by decide)) k_82 g_36 dX6_free_206 ?_
    refine lv_if_ne (tgt := 214) C.x C.bc dX6_free_207 (by decide) (fun c_37 => ?_) (fun c_37 => ?_)
    · have hx := ge_f hx c_37
      refine lv_iconst (v := (0 : Int32)) C.x C.bc dX6_free_214 (by decide) ?_
      exact bX6_free_215 C hI v4 v3 (0 : Int32) st hx hG hE0 K h (lv_sub hl [0, 2] rfl)
    · have hx := ge_t hx c_37
      refine lv_iconst (v := (1 : Int32)) C.x C.bc dX6_free_210 (by decide) ?_
      refine lv_goto (tgt := 215) C.x C.bc dX6_free_211 (by decide) ?_
      exact bX6_free_215 C hI v4 v3 (1 : Int32) st hx hG hE0 K h (lv_sub hl [0, 2] rfl)
set_option maxHeartbeats 1000000 in
theorem pX6_free_190 (C : Cx E s0 b p s m args meth c cX6_free 6 "EarthMeshModel" (some .int)) (hI : Sx E) (st : St) {Q : State → Prop} {v3 : Int32} {v4 : Int32} {n : Nat} {r : Int32} (hx : iter (u2 fun v3 v4 => fX6_free_190 v3 v4 st) n (v3, v4) = some r) (hE : (fun t => ∀ (H : Heap) (locs : List Loc) (ls : Array Slot), XH E (sg st) s H locs → lv_has ls 6 [(3, .int t)] → W p l e rmX6_free s m args below meth c H locs 0 0 Q (F0 m 223 ls [])) r) {H : Heap} {locs : List Loc} {ls : Array Slot} (h : XH E (sg st) s H locs) (hl : lv_has ls 6 [(0, .ref (E.ad 68)), (3, .int v3), (4, .int v4)]) : W p l e rmX6_free s m args below meth c H locs 0 0 Q (F0 m 190 ls []) := by
  refine iter_W (G := fun t => ∀ (H : Heap) (locs : List Loc) (ls : Array Slot), XH E (sg st) s H locs → lv_has ls 6 [(0, .ref (E.ad 68)), (3, .int t.1), (4, .int t.2)] → W p l e rmX6_free s m args below meth c H locs 0 0 Q (F0 m 190 ls [])) (E := fun t => ∀ (H : Heap) (locs : List Loc) (ls : Array Slot), XH E (sg st) s H locs → lv_has ls 6 [(3, .int t)] → W p l e rmX6_free s m args below meth c H locs 0 0 Q (F0 m 223 ls [])) (fun t x hx K H locs ls h hl => ?_) n _ r hx hE H locs ls h hl
  obtain ⟨v3, v4⟩ := t
  exact bX6_free_190 C hI v3 v4 st hx (fun _ _ z => z) (fun _ z => z) K h hl
def fX6_free (v1 : Int32) (st : St) : Option (Int32 × St) :=
  nm (uI st 68 1 (0 : Int32)) fun st_1 =>
  nm (fX6_isIn v1 (0 : Int32) (9999 : Int32)) fun r_2 =>
  if r_2 = 0 then
    bd (fX6_fail (1 : Int32) st_1) <| u2 fun r_42 st_42 =>
    some (r_42, st_42)
  else
    bd (fX6_tellsGround st_1) <| u2 fun r_4 st_4 =>
    if r_4 = 0 then
      bd (fX6_fail (2 : Int32) st_4) <| u2 fun r_41 st_41 =>
      some (r_41, st_41)
    else
      bd (iter (u2 fun z2 zst => fX6_free_37 v1 z2 zst) FU ((0 : Int32), st_4)) (u1 fun st_13 =>
      bd (iter (u2 fun z2 zst => fX6_free_72 v1 z2 zst) FU ((1 : Int32), st_13)) (u1 fun st_33 =>
      bd (iter (u2 fun z3 z4 => fX6_free_190 z3 z4 st_33) FU ((0 : Int32), (0 : Int32))) (u1 fun v3_40 =>
      some (v3_40, st_33))))
set_option maxHeartbeats 1000000 in
theorem bX6_free (C : Cx E s0 b p s m args meth c cX6_free 6 "EarthMeshModel" (some .int)) (hI : Sx E) (v1 : Int32) (st : St) {x : Int32 × St} (hx : fX6_free v1 st = some x) {H : Heap} {locs : List Loc} {ls : Array Slot} (h : XH E (sg st) s H locs) (hl : lv_has ls 6 [(0, .ref (E.ad 68)), (1, .int v1)]) : W p l e rmX6_free s m args below meth c H locs 0 0 (MQ below (Qx E (some (.int x.1)) (sg x.2)) args s 0 0 (gA E.HB)) (F0 m 0 ls []) := by
  unfold fX6_free at hx
  refine lv_aload_n C.x C.bc dX6_free_0 rfl (lv_at hl 0 rfl) ?_
  refine lv_iconst (v := (0 : Int32)) C.x C.bc dX6_free_1 (by decide) ?_
  obtain ⟨st_1, e_1, hx⟩ := nm_x hx
  refine pt_X6_90_68 C hI h e_1 dX6_free_2 (fun H locs h => ?_)
  refine lv_iload_n C.x C.bc dX6_free_5 rfl (lv_at hl 1 rfl) ?_
  refine lv_iconst (v := (0 : Int32)) C.x C.bc dX6_free_6 (by decide) ?_
  refine lv_sipush (v := (9999 : Int32)) C.x C.bc dX6_free_7 (by decide) ?_
  obtain ⟨r_2, e_2, hx⟩ := nm_x hx
  refine cX6_300_X6_isIn C hI h e_2.symm ⟨Nat.le_of_ble_eq_true rfl, Nat.le_of_ble_eq_true rfl⟩ ⟨Nat.zero_le _, Nat.zero_le _⟩ hl.1 (Nat.le_of_ble_eq_true rfl) dX6_free_10 (fun H locs h => ?_)
  refine lv_if_ne (tgt := 22) C.x C.bc dX6_free_13 (by decide) (fun c_3 => ?_) (fun c_3 => ?_)
  · have hx := ge_f hx c_3
    refine lv_aload_n C.x C.bc dX6_free_22 rfl (lv_at hl 0 rfl) ?_
    obtain ⟨⟨r_4, st_4⟩, hf_4, hx⟩ := bd_e hx
    have hx := u2_e hx
    refine cX6_344_X6_tellsGround C hI h hf_4 ⟨Nat.le_of_ble_eq_true rfl, Nat.le_of_ble_eq_true rfl⟩ ⟨Nat.zero_le _, Nat.zero_le _⟩ hl.1 (Nat.le_of_ble_eq_true rfl) dX6_free_23 (fun H locs h => ?_)
    refine lv_if_ne (tgt := 35) C.x C.bc dX6_free_26 (by decide) (fun c_5 => ?_) (fun c_5 => ?_)
    · have hx := ge_f hx c_5
      refine lv_iconst (v := (0 : Int32)) C.x C.bc dX6_free_35 (by decide) ?_
      refine lv_istore_n (lv' := [(2, .int (0 : Int32)), (0, .ref (E.ad 68)), (1, .int v1)]) C.x C.bc dX6_free_36 rfl hl (by decide) rfl (fun ls hl => ?_)
      obtain ⟨st_13, hi_13, hx⟩ := bd_e hx
      have hx := u1_e hx
      refine pX6_free_37 C hI v1 hi_13 (fun H locs ls h hl => ?_) h (lv_sub hl [1, 2, 0] rfl)
      refine lv_iconst (v := (1 : Int32)) C.x C.bc dX6_free_70 (by decide) ?_
      refine lv_istore_n (lv' := [(2, .int (1 : Int32)), (0, .ref (E.ad 68)), (1, .int v1)]) C.x C.bc dX6_free_71 rfl hl (by decide) rfl (fun ls hl => ?_)
      obtain ⟨st_33, hi_33, hx⟩ := bd_e hx
      have hx := u1_e hx
      refine pX6_free_72 C hI v1 hi_33 (fun H locs ls h hl => ?_) h (lv_sub hl [1, 2, 0] rfl)
      refine lv_iconst (v := (0 : Int32)) C.x C.bc dX6_free_185 (by decide) ?_
      refine lv_istore_n (lv' := [(3, .int (0 : Int32)), (0, .ref (E.ad 68))]) C.x C.bc dX6_free_186 rfl hl (by decide) rfl (fun ls hl => ?_)
      refine lv_iconst (v := (0 : Int32)) C.x C.bc dX6_free_187 (by decide) ?_
      refine lv_istore (lv' := [(4, .int (0 : Int32)), (3, .int (0 : Int32)), (0, .ref (E.ad 68))]) C.x C.bc dX6_free_188 hl (by decide) rfl (fun ls hl => ?_)
      obtain ⟨v3_40, hi_40, hx⟩ := bd_e hx
      have hx := u1_e hx
      refine pX6_free_190 C hI st_33 hi_40 (fun H locs ls h hl => ?_) h (lv_sub hl [2, 1, 0] rfl)
      refine lv_iload_n C.x C.bc dX6_free_223 rfl (lv_at hl 0 rfl) ?_
      obtain rfl := Option.some.inj hx
      exact x_iret C h dX6_free_224
    · have hx := ge_t hx c_5
      refine lv_aload_n C.x C.bc dX6_free_29 rfl (lv_at hl 0 rfl) ?_
      refine lv_iconst (v := (2 : Int32)) C.x C.bc dX6_free_30 (by decide) ?_
      obtain ⟨⟨r_41, st_41⟩, hf_41, hx⟩ := bd_e hx
      have hx := u2_e hx
      refine cX6_182_X6_fail C hI h hf_41 ⟨Nat.le_of_ble_eq_true rfl, Nat.le_of_ble_eq_true rfl⟩ ⟨Nat.zero_le _, Nat.zero_le _⟩ hl.1 (Nat.le_of_ble_eq_true rfl) dX6_free_31 (fun H locs h => ?_)
      obtain rfl := Option.some.inj hx
      exact x_iret C h dX6_free_34
  · have hx := ge_t hx c_3
    refine lv_aload_n C.x C.bc dX6_free_16 rfl (lv_at hl 0 rfl) ?_
    refine lv_iconst (v := (1 : Int32)) C.x C.bc dX6_free_17 (by decide) ?_
    obtain ⟨⟨r_42, st_42⟩, hf_42, hx⟩ := bd_e hx
    have hx := u2_e hx
    refine cX6_182_X6_fail C hI h hf_42 ⟨Nat.le_of_ble_eq_true rfl, Nat.le_of_ble_eq_true rfl⟩ ⟨Nat.zero_le _, Nat.zero_le _⟩ hl.1 (Nat.le_of_ble_eq_true rfl) dX6_free_18 (fun H locs h => ?_)
    obtain rfl := Option.some.inj hx
    exact x_iret C h dX6_free_21
theorem mX6_free (hG : G0 E s0 b) (hI : Sx E) {v1 : Int32} {x : Int32 × St} (hx : fX6_free v1 st = some x) : Mt l E s0 yX6_free cX6_free 6 (some .int) rmX6_free [.ref (E.ad 68), .int v1] (sg st) (some (.int x.1)) E (sg x.2) :=
  Mt.of hG (by decide) (Nat.le_of_ble_eq_true rfl) (fun p e s m below meth c ls C h hl => bX6_free C hI v1 st hx h hl)
end
