set_option maxRecDepth 100000
section
variable {p : Program} {l : Launch} {e : Env} {R : Room} {s : State} {m : MethodId} {args : Array Value} {below : List Frame} {meth : Method} {c : Code} {H : Heap} {locs : List Loc} {cells slots : Nat} {Q : State → Prop}
variable {cc : ByteArray} {pc : Nat} {ls : Array Slot} {rest : List Value} {E : Wd} {s0 : State} {b nL : Nat} {rt : Option FieldType} {g st : St}
abbrev rmX6_box : Room := { frames := 7, cells := 0, slots := 0, locals := 233 }
def fX6_box_196 (v1 : Int32) (v2 : Int32) (v3 : Int32) (v4 : Int32) (v5 : Int32) (st : St) : Option ((Int32 × Int32 × St) ⊕ (Int32 × St)) :=
  nm (v5 + (1 : Int32)) fun v5_13 =>
  some (.inl (v3, v5_13, st))
set_option maxHeartbeats 1000000 in
theorem bX6_box_196 (C : Cx E s0 b p s m args meth c cX6_box 9 "EarthMeshModel" (some .int)) (hI : Sx E) (v1 : Int32) (v2 : Int32) (v3 : Int32) (v4 : Int32) (v5 : Int32) (st : St) {x : (Int32 × Int32 × St) ⊕ (Int32 × St)} (hx : fX6_box_196 v1 v2 v3 v4 v5 st = some x) {Q : State → Prop} {G : Int32 × Int32 × St → Prop} {X : Int32 × St → Prop} (hG : ∀ (w3 : Int32) (w5 : Int32) (wst : St), G (w3, w5, wst) → ∀ (H : Heap) (locs : List Loc) (ls : Array Slot), XH E (sg wst) s H locs → lv_has ls 9 [(0, .ref (E.ad 68)), (1, .int v1), (2, .int v2), (3, .int w3), (4, .int v4), (5, .int w5)] → W p l e rmX6_box s m args below meth c H locs 0 0 Q (F0 m 67 ls [])) (hE0 : ∀ (w3 : Int32) (wst : St), X (w3, wst) → ∀ (H : Heap) (locs : List Loc) (ls : Array Slot), XH E (sg wst) s H locs → lv_has ls 9 [(0, .ref (E.ad 68)), (1, .int v1), (2, .int v2), (3, .int w3), (4, .int v4)] → W p l e rmX6_box s m args below meth c H locs 0 0 Q (F0 m 202 ls [])) (K : Kx G X x) {H : Heap} {locs : List Loc} {ls : Array Slot} (h : XH E (sg st) s H locs) (hl : lv_has ls 9 [(0, .ref (E.ad 68)), (1, .int v1), (2, .int v2), (3, .int v3), (4, .int v4), (5, .int v5)]) : W p l e rmX6_box s m args below meth c H locs 0 0 Q (F0 m 196 ls []) := by
  unfold fX6_box_196 at hx
  obtain ⟨v5_13, e_13, hx⟩ := nm_x hx
  refine lv_iinc (v := v5_13) (lv' := [(5, .int v5_13), (0, .ref (E.ad 68)), (1, .int v1), (2, .int v2), (3, .int v3), (4, .int v4)]) C.x C.bc dX6_box_196 hl (k := 5) rfl (by rw [e_13]; rfl) (by decide) rfl (fun ls hl => ?_)
  refine lv_goto (tgt := 67) C.x C.bc dX6_box_199 (by decide) ?_
  obtain rfl := Option.some.inj hx
  exact hG _ _ _ K _ _ _ h (lv_sub hl [1, 2, 3, 4, 5, 0] rfl)
def fX6_box_195 (v1 : Int32) (v2 : Int32) (v4 : Int32) (v5 : Int32) (k0 : Int32) (st : St) : Option ((Int32 × Int32 × St) ⊕ (Int32 × St)) :=
  fX6_box_196 v1 v2 k0 v4 v5 st
set_option maxHeartbeats 1000000 in
theorem bX6_box_195 (C : Cx E s0 b p s m args meth c cX6_box 9 "EarthMeshModel" (some .int)) (hI : Sx E) (v1 : Int32) (v2 : Int32) (v4 : Int32) (v5 : Int32) (k0 : Int32) (st : St) {x : (Int32 × Int32 × St) ⊕ (Int32 × St)} (hx : fX6_box_195 v1 v2 v4 v5 k0 st = some x) {Q : State → Prop} {G : Int32 × Int32 × St → Prop} {X : Int32 × St → Prop} (hG : ∀ (w3 : Int32) (w5 : Int32) (wst : St), G (w3, w5, wst) → ∀ (H : Heap) (locs : List Loc) (ls : Array Slot), XH E (sg wst) s H locs → lv_has ls 9 [(0, .ref (E.ad 68)), (1, .int v1), (2, .int v2), (3, .int w3), (4, .int v4), (5, .int w5)] → W p l e rmX6_box s m args below meth c H locs 0 0 Q (F0 m 67 ls [])) (hE0 : ∀ (w3 : Int32) (wst : St), X (w3, wst) → ∀ (H : Heap) (locs : List Loc) (ls : Array Slot), XH E (sg wst) s H locs → lv_has ls 9 [(0, .ref (E.ad 68)), (1, .int v1), (2, .int v2), (3, .int w3), (4, .int v4)] → W p l e rmX6_box s m args below meth c H locs 0 0 Q (F0 m 202 ls [])) (K : Kx G X x) {H : Heap} {locs : List Loc} {ls : Array Slot} (h : XH E (sg st) s H locs) (hl : lv_has ls 9 [(0, .ref (E.ad 68)), (1, .int v1), (2, .int v2), (4, .int v4), (5, .int v5)]) : W p l e rmX6_box s m args below meth c H locs 0 0 Q (F0 m 195 ls [.int k0]) := by
  unfold fX6_box_195 at hx
  refine lv_istore_n (lv' := [(3, .int k0), (0, .ref (E.ad 68)), (1, .int v1), (2, .int v2), (4, .int v4), (5, .int v5)]) C.x C.bc dX6_box_195 rfl hl (by decide) rfl (fun ls hl => ?_)
  exact bX6_box_196 C hI v1 v2 k0 v4 v5 st hx hG hE0 K h (lv_sub hl [1, 2, 3, 0, 4, 5] rfl)
def fX6_box_163 (v1 : Int32) (v2 : Int32) (v3 : Int32) (v4 : Int32) (v5 : Int32) (v7 : Int32) (k0 : Int32) (st : St) : Option ((Int32 × Int32 × St) ⊕ (Int32 × St)) :=
  if (2 : Int32) ≤ v2 then
    fX6_box_195 v1 v2 v4 v5 (jmax v3 k0) st
  else
    if v3 = (-1 : Int32) then
      fX6_box_195 v1 v2 v4 v5 v7 st
    else
      fX6_box_195 v1 v2 v4 v5 (jmin v3 v7) st
set_option maxHeartbeats 1000000 in
theorem bX6_box_163 (C : Cx E s0 b p s m args meth c cX6_box 9 "EarthMeshModel" (some .int)) (hI : Sx E) (v1 : Int32) (v2 : Int32) (v3 : Int32) (v4 : Int32) (v5 : Int32) (v7 : Int32) (k0 : Int32) (st : St) {x : (Int32 × Int32 × St) ⊕ (Int32 × St)} (hx : fX6_box_163 v1 v2 v3 v4 v5 v7 k0 st = some x) {Q : State → Prop} {G : Int32 × Int32 × St → Prop} {X : Int32 × St → Prop} (hG : ∀ (w3 : Int32) (w5 : Int32) (wst : St), G (w3, w5, wst) → ∀ (H : Heap) (locs : List Loc) (ls : Array Slot), XH E (sg wst) s H locs → lv_has ls 9 [(0, .ref (E.ad 68)), (1, .int v1), (2, .int v2), (3, .int w3), (4, .int v4), (5, .int w5)] → W p l e rmX6_box s m args below meth c H locs 0 0 Q (F0 m 67 ls [])) (hE0 : ∀ (w3 : Int32) (wst : St), X (w3, wst) → ∀ (H : Heap) (locs : List Loc) (ls : Array Slot), XH E (sg wst) s H locs → lv_has ls 9 [(0, .ref (E.ad 68)), (1, .int v1), (2, .int v2), (3, .int w3), (4, .int v4)] → W p l e rmX6_box s m args below meth c H locs 0 0 Q (F0 m 202 ls [])) (K : Kx G X x) {H : Heap} {locs : List Loc} {ls : Array Slot} (h : XH E (sg st) s H locs) (hl : lv_has ls 9 [(0, .ref (E.ad 68)), (1, .int v1), (2, .int v2), (3, .int v3), (4, .int v4), (5, .int v5), (7, .int v7)]) : W p l e rmX6_box s m args below meth c H locs 0 0 Q (F0 m 163 ls [.int k0]) := by
  unfold fX6_box_163 at hx
  refine lv_istore (lv' := [(8, .int k0), (0, .ref (E.ad 68)), (1, .int v1), (2, .int v2), (3, .int v3), (4, .int v4), (5, .int v5), (7, .int v7)]) C.x C.bc dX6_box_163 hl (by decide) rfl (fun ls hl => ?_)
  refine lv_iload_n C.x C.bc dX6_box_165 rfl (lv_at hl 3 rfl) ?_
  refine lv_iconst (v := (2 : Int32)) C.x C.bc dX6_box_166 (by decide) ?_
  refine lv_icmp_ge (tgt := 189) C.x C.bc dX6_box_167 (by decide) (fun c_22 => ?_) (fun c_22 => ?_)
  · have hx := ge_t hx c_22
    refine lv_iload_n C.x C.bc dX6_box_189 rfl (lv_at hl 4 rfl) ?_
    refine lv_iload C.x C.bc dX6_box_190 (lv_at hl 0 rfl) ?_
    refine va_mmax C.x C.bc (C.ml.trans hl.1.symm) C.ow (C.ts _ q1855) (C.ts _ q691) (C.ts _ q134) (C.ts _ q692) (Nat.le_of_ble_eq_true rfl) (Nat.le_of_ble_eq_true rfl) (Nat.zero_le _) (Nat.zero_le _) dX6_box_192 ?_
    exact bX6_box_195 C hI v1 v2 v4 v5 (jmax v3 k0) st hx hG hE0 K h (lv_sub hl [1, 2, 3, 5, 6] rfl)
  · have hx := ge_f hx c_22
    refine lv_iload_n C.x C.bc dX6_box_170 rfl (lv_at hl 4 rfl) ?_
    refine lv_iconst (v := (-1 : Int32)) C.x C.bc dX6_box_171 (by decide) ?_
    refine lv_icmp_ne (tgt := 180) C.x C.bc dX6_box_172 (by decide) (fun c_23 => ?_) (fun c_23 => ?_)
    · have hx := ge_f hx c_23
      refine lv_iload_n C.x C.bc dX6_box_180 rfl (lv_at hl 4 rfl) ?_
      refine lv_iload C.x C.bc dX6_box_181 (lv_at hl 7 rfl) ?_
      refine va_mmin C.x C.bc (C.ml.trans hl.1.symm) C.ow (C.ts _ q1759) (C.ts _ q709) (C.ts _ q134) (C.ts _ q710) (Nat.le_of_ble_eq_true rfl) (Nat.le_of_ble_eq_true rfl) (Nat.zero_le _) (Nat.zero_le _) dX6_box_183 ?_
      refine lv_goto (tgt := 195) C.x C.bc dX6_box_186 (by decide) ?_
      exact bX6_box_195 C hI v1 v2 v4 v5 (jmin v3 v7) st hx hG hE0 K h (lv_sub hl [1, 2, 3, 5, 6] rfl)
    · have hx := ge_t hx c_23
      refine lv_iload C.x C.bc dX6_box_175 (lv_at hl 7 rfl) ?_
      refine lv_goto (tgt := 195) C.x C.bc dX6_box_177 (by decide) ?_
      exact bX6_box_195 C hI v1 v2 v4 v5 v7 st hx hG hE0 K h (lv_sub hl [1, 2, 3, 5, 6] rfl)
def fX6_box_138 (v1 : Int32) (v2 : Int32) (v3 : Int32) (v4 : Int32) (v5 : Int32) (v6 : Int32) (k0 : Int32) (st : St) : Option ((Int32 × Int32 × St) ⊕ (Int32 × St)) :=
  if (jrem v2 (2 : Int32)) = 0 then
    bd (fX6_pointsWide st) fun r_24 =>
    gd (¬ r_24 = 0) <|
    fX6_box_163 v1 v2 v3 v4 v5 k0 (jrem v6 r_24) st
  else
    bd (fX6_pointsWide st) fun r_20 =>
    gd (¬ r_20 = 0) <|
    fX6_box_163 v1 v2 v3 v4 v5 k0 (v6 / r_20) st
set_option maxHeartbeats 1000000 in
theorem bX6_box_138 (C : Cx E s0 b p s m args meth c cX6_box 9 "EarthMeshModel" (some .int)) (hI : Sx E) (v1 : Int32) (v2 : Int32) (v3 : Int32) (v4 : Int32) (v5 : Int32) (v6 : Int32) (k0 : Int32) (st : St) {x : (Int32 × Int32 × St) ⊕ (Int32 × St)} (hx : fX6_box_138 v1 v2 v3 v4 v5 v6 k0 st = some x) {Q : State → Prop} {G : Int32 × Int32 × St → Prop} {X : Int32 × St → Prop} (hG : ∀ (w3 : Int32) (w5 : Int32) (wst : St), G (w3, w5, wst) → ∀ (H : Heap) (locs : List Loc) (ls : Array Slot), XH E (sg wst) s H locs → lv_has ls 9 [(0, .ref (E.ad 68)), (1, .int v1), (2, .int v2), (3, .int w3), (4, .int v4), (5, .int w5)] → W p l e rmX6_box s m args below meth c H locs 0 0 Q (F0 m 67 ls [])) (hE0 : ∀ (w3 : Int32) (wst : St), X (w3, wst) → ∀ (H : Heap) (locs : List Loc) (ls : Array Slot), XH E (sg wst) s H locs → lv_has ls 9 [(0, .ref (E.ad 68)), (1, .int v1), (2, .int v2), (3, .int w3), (4, .int v4)] → W p l e rmX6_box s m args below meth c H locs 0 0 Q (F0 m 202 ls [])) (K : Kx G X x) {H : Heap} {locs : List Loc} {ls : Array Slot} (h : XH E (sg st) s H locs) (hl : lv_has ls 9 [(0, .ref (E.ad 68)), (1, .int v1), (2, .int v2), (3, .int v3), (4, .int v4), (5, .int v5), (6, .int v6)]) : W p l e rmX6_box s m args below meth c H locs 0 0 Q (F0 m 138 ls [.int k0]) := by
  unfold fX6_box_138 at hx
  refine lv_istore (lv' := [(7, .int k0), (0, .ref (E.ad 68)), (1, .int v1), (2, .int v2), (3, .int v3), (4, .int v4), (5, .int v5), (6, .int v6)]) C.x C.bc dX6_box_138 hl (by decide) rfl (fun ls hl => ?_)
  refine lv_iload_n C.x C.bc dX6_box_140 rfl (lv_at hl 3 rfl) ?_
  refine lv_iconst (v := (2 : Int32)) C.x C.bc dX6_box_141 (by decide) ?_
  refine y_irem C.x C.bc dX6_box_142 (by decide) ?_
  refine lv_if_ne (tgt := 156) C.x C.bc dX6_box_143 (by decide) (fun c_19 => ?_) (fun c_19 => ?_)
  · have hx := ge_f hx c_19
    refine lv_iload C.x C.bc dX6_box_156 (lv_at hl 7 rfl) ?_
    refine lv_aload_n C.x C.bc dX6_box_158 rfl (lv_at hl 1 rfl) ?_
    obtain ⟨r_20, hf_20, hx⟩ := bd_e hx
    refine cX6_325_X6_pointsWide C hI h hf_20 ⟨Nat.le_of_ble_eq_true rfl, Nat.le_of_ble_eq_true rfl⟩ ⟨Nat.zero_le _, Nat.zero_le _⟩ hl.1 (Nat.le_of_ble_eq_true rfl) dX6_box_159 (fun H locs h => ?_)
    obtain ⟨g_21, hx⟩ := gd_e hx
    refine lv_idiv C.x C.bc dX6_box_162 g_21 ?_
    exact bX6_box_163 C hI v1 v2 v3 v4 v5 k0 (v6 / r_20) st hx hG hE0 K h (lv_sub hl [1, 2, 3, 4, 5, 6, 0] rfl)
  · have hx := ge_t hx c_19
    refine lv_iload C.x C.bc dX6_box_146 (lv_at hl 7 rfl) ?_
    refine lv_aload_n C.x C.bc dX6_box_148 rfl (lv_at hl 1 rfl) ?_
    obtain ⟨r_24, hf_24, hx⟩ := bd_e hx
    refine cX6_325_X6_pointsWide C hI h hf_24 ⟨Nat.le_of_ble_eq_true rfl, Nat.le_of_ble_eq_true rfl⟩ ⟨Nat.zero_le _, Nat.zero_le _⟩ hl.1 (Nat.le_of_ble_eq_true rfl) dX6_box_149 (fun H locs h => ?_)
    obtain ⟨g_25, hx⟩ := gd_e hx
    refine y_irem C.x C.bc dX6_box_152 g_25 ?_
    refine lv_goto (tgt := 163) C.x C.bc dX6_box_153 (by decide) ?_
    exact bX6_box_163 C hI v1 v2 v3 v4 v5 k0 (jrem v6 r_24) st hx hG hE0 K h (lv_sub hl [1, 2, 3, 4, 5, 6, 0] rfl)
def fX6_box_67 (v1 : Int32) (v2 : Int32) (v3 : Int32) (v4 : Int32) (v5 : Int32) (st : St) : Option ((Int32 × Int32 × St) ⊕ (Int32 × St)) :=
  if (1 : Int32) < v5 then
    some (.inr (v3, st))
  else
    bd (fX6_beside v4 v5 st) fun r_11 =>
    if r_11 = (-1 : Int32) then
      fX6_box_196 v1 v2 v3 v4 v5 st
    else
      bd (fX6_step v4 v5 st) fun r_14 =>
      if (((4 : Int64) * (v1.toInt64)) * (st.2.1 68 19)) < r_14 then
        if (jrem v2 (2 : Int32)) = 0 then
          bd (fX6_pointsWide st) fun r_26 =>
          gd (¬ r_26 = 0) <|
          fX6_box_138 v1 v2 v3 v4 v5 r_11 (jrem v4 r_26) st
        else
          bd (fX6_pointsWide st) fun r_17 =>
          gd (¬ r_17 = 0) <|
          fX6_box_138 v1 v2 v3 v4 v5 r_11 (v4 / r_17) st
      else
        fX6_box_196 v1 v2 v3 v4 v5 st
set_option maxHeartbeats 1000000 in
theorem bX6_box_67 (C : Cx E s0 b p s m args meth c cX6_box 9 "EarthMeshModel" (some .int)) (hI : Sx E) (v1 : Int32) (v2 : Int32) (v3 : Int32) (v4 : Int32) (v5 : Int32) (st : St) {x : (Int32 × Int32 × St) ⊕ (Int32 × St)} (hx : fX6_box_67 v1 v2 v3 v4 v5 st = some x) {Q : State → Prop} {G : Int32 × Int32 × St → Prop} {X : Int32 × St → Prop} (hG : ∀ (w3 : Int32) (w5 : Int32) (wst : St), G (w3, w5, wst) → ∀ (H : Heap) (locs : List Loc) (ls : Array Slot), XH E (sg wst) s H locs → lv_has ls 9 [(0, .ref (E.ad 68)), (1, .int v1), (2, .int v2), (3, .int w3), (4, .int v4), (5, .int w5)] → W p l e rmX6_box s m args below meth c H locs 0 0 Q (F0 m 67 ls [])) (hE0 : ∀ (w3 : Int32) (wst : St), X (w3, wst) → ∀ (H : Heap) (locs : List Loc) (ls : Array Slot), XH E (sg wst) s H locs → lv_has ls 9 [(0, .ref (E.ad 68)), (1, .int v1), (2, .int v2), (3, .int w3), (4, .int v4)] → W p l e rmX6_box s m args below meth c H locs 0 0 Q (F0 m 202 ls [])) (K : Kx G X x) {H : Heap} {locs : List Loc} {ls : Array Slot} (h : XH E (sg st) s H locs) (hl : lv_has ls 9 [(0, .ref (E.ad 68)), (1, .int v1), (2, .int v2), (3, .int v3), (4, .int v4), (5, .int v5)]) : W p l e rmX6_box s m args below meth c H locs 0 0 Q (F0 m 67 ls []) := by
  unfold fX6_box_67 at hx
  refine lv_iload C.x C.bc dX6_box_67 (lv_at hl 5 rfl) ?_
  refine lv_iconst (v := (1 : Int32)) C.x C.bc dX6_box_69 (by decide) ?_
  refine lv_icmp_gt (tgt := 202) C.x C.bc dX6_box_70 (by decide) (fun c_10 => ?_) (fun c_10 => ?_)
  · have hx := ge_t hx c_10
    obtain rfl := Option.some.inj hx
    exact hE0 _ _ K _ _ _ h (lv_sub hl [0, 1, 2, 3, 4] rfl)
  · have hx := ge_f hx c_10
    refine lv_aload_n C.x C.bc dX6_box_73 rfl (lv_at hl 0 rfl) ?_
    refine lv_iload C.x C.bc dX6_box_74 (lv_at hl 4 rfl) ?_
    refine lv_iload C.x C.bc dX6_box_76 (lv_at hl 5 rfl) ?_
    obtain ⟨r_11, hf_11, hx⟩ := bd_e hx
    refine cX6_338_X6_beside C hI h hf_11 ⟨Nat.le_of_ble_eq_true rfl, Nat.le_of_ble_eq_true rfl⟩ ⟨Nat.zero_le _, Nat.zero_le _⟩ hl.1 (Nat.le_of_ble_eq_true rfl) dX6_box_78 (fun H locs h => ?_)
    refine lv_istore (lv' := [(6, .int r_11), (0, .ref (E.ad 68)), (1, .int v1), (2, .int v2), (3, .int v3), (4, .int v4), (5, .int v5)]) C.x C.bc dX6_box_81 hl (by decide) rfl (fun ls hl => ?_)
    refine lv_iload C.x C.bc dX6_box_83 (lv_at hl 0 rfl) ?_
    refine lv_iconst (v := (-1 : Int32)) C.x C.bc dX6_box_85 (by decide) ?_
    refine lv_icmp_eq (tgt := 196) C.x C.bc dX6_box_86 (by decide) (fun c_12 => ?_) (fun c_12 => ?_)
    · have hx := ge_t hx c_12
      exact bX6_box_196 C hI v1 v2 v3 v4 v5 st hx hG hE0 K h (lv_sub hl [1, 2, 3, 4, 5, 6] rfl)
    · have hx := ge_f hx c_12
      refine lv_aload_n C.x C.bc dX6_box_89 rfl (lv_at hl 1 rfl) ?_
      refine lv_iload C.x C.bc dX6_box_90 (lv_at hl 5 rfl) ?_
      refine lv_iload C.x C.bc dX6_box_92 (lv_at hl 6 rfl) ?_
      obtain ⟨r_14, hf_14, hx⟩ := bd_e hx
      refine cX6_347_X6_step C hI h hf_14 ⟨Nat.le_of_ble_eq_true rfl, Nat.le_of_ble_eq_true rfl⟩ ⟨Nat.zero_le _, Nat.zero_le _⟩ hl.1 (Nat.le_of_ble_eq_true rfl) dX6_box_94 (fun H locs h => ?_)
      refine lv_ldc2 (v := (4 : Int64)) C.x C.bc C.ow (C.ts _ q1914) dX6_box_97 ?_
      refine lv_iload_n C.x C.bc dX6_box_100 rfl (lv_at hl 2 rfl) ?_
      refine lv_i2l (v := (v1.toInt64)) C.x C.bc dX6_box_101 rfl ?_
      refine lv_lmul C.x C.bc dX6_box_102 ?_
      refine lv_aload_n C.x C.bc dX6_box_103 rfl (lv_at hl 1 rfl) ?_
      refine gt_X6_233_68 C hI h dX6_box_104 ?_
      refine lv_lmul C.x C.bc dX6_box_107 ?_
      refine W.lcmp C.x C.bc dX6_box_108 ?_
      refine lv_if_gt (tgt := 115) C.x C.bc dX6_box_109 (by decide) (fun c_15 => ?_) (fun c_15 => ?_)
      · have c_15 := (lc_gt _ _).mp c_15
        have hx := ge_t hx c_15
        refine lv_iload_n C.x C.bc dX6_box_115 rfl (lv_at hl 3 rfl) ?_
        refine lv_iconst (v := (2 : Int32)) C.x C.bc dX6_box_116 (by decide) ?_
        refine y_irem C.x C.bc dX6_box_117 (by decide) ?_
        refine lv_if_ne (tgt := 131) C.x C.bc dX6_box_118 (by decide) (fun c_16 => ?_) (fun c_16 => ?_)
        · have hx := ge_f hx c_16
          refine lv_iload C.x C.bc dX6_box_131 (lv_at hl 5 rfl) ?_
          refine lv_aload_n C.x C.bc dX6_box_133 rfl (lv_at hl 1 rfl) ?_
          obtain ⟨r_17, hf_17, hx⟩ := bd_e hx
          refine cX6_325_X6_pointsWide C hI h hf_17 ⟨Nat.le_of_ble_eq_true rfl, Nat.le_of_ble_eq_true rfl⟩ ⟨Nat.zero_le _, Nat.zero_le _⟩ hl.1 (Nat.le_of_ble_eq_true rfl) dX6_box_134 (fun H locs h => ?_)
          obtain ⟨g_18, hx⟩ := gd_e hx
          refine lv_idiv C.x C.bc dX6_box_137 g_18 ?_
          exact bX6_box_138 C hI v1 v2 v3 v4 v5 r_11 (v4 / r_17) st hx hG hE0 K h (lv_sub hl [1, 2, 3, 4, 5, 6, 0] rfl)
        · have hx := ge_t hx c_16
          refine lv_iload C.x C.bc dX6_box_121 (lv_at hl 5 rfl) ?_
          refine lv_aload_n C.x C.bc dX6_box_123 rfl (lv_at hl 1 rfl) ?_
          obtain ⟨r_26, hf_26, hx⟩ := bd_e hx
          refine cX6_325_X6_pointsWide C hI h hf_26 ⟨Nat.le_of_ble_eq_true rfl, Nat.le_of_ble_eq_true rfl⟩ ⟨Nat.zero_le _, Nat.zero_le _⟩ hl.1 (Nat.le_of_ble_eq_true rfl) dX6_box_124 (fun H locs h => ?_)
          obtain ⟨g_27, hx⟩ := gd_e hx
          refine y_irem C.x C.bc dX6_box_127 g_27 ?_
          refine lv_goto (tgt := 138) C.x C.bc dX6_box_128 (by decide) ?_
          exact bX6_box_138 C hI v1 v2 v3 v4 v5 r_11 (jrem v4 r_26) st hx hG hE0 K h (lv_sub hl [1, 2, 3, 4, 5, 6, 0] rfl)
      · have c_15 := (not_congr (lc_gt _ _)).mp c_15
        have hx := ge_f hx c_15
        refine lv_goto (tgt := 196) C.x C.bc dX6_box_112 (by decide) ?_
        exact bX6_box_196 C hI v1 v2 v3 v4 v5 st hx hG hE0 K h (lv_sub hl [1, 2, 3, 4, 5, 6] rfl)
set_option maxHeartbeats 1000000 in
theorem pX6_box_67 (C : Cx E s0 b p s m args meth c cX6_box 9 "EarthMeshModel" (some .int)) (hI : Sx E) (v1 : Int32) (v2 : Int32) (v4 : Int32) {Q : State → Prop} {v3 : Int32} {v5 : Int32} {st : St} {n : Nat} {r : Int32 × St} (hx : iter (u3 fun v3 v5 st => fX6_box_67 v1 v2 v3 v4 v5 st) n (v3, v5, st) = some r) (hE : (fun t => ∀ (H : Heap) (locs : List Loc) (ls : Array Slot), XH E (sg t.2) s H locs → lv_has ls 9 [(0, .ref (E.ad 68)), (1, .int v1), (2, .int v2), (3, .int t.1), (4, .int v4)] → W p l e rmX6_box s m args below meth c H locs 0 0 Q (F0 m 202 ls [])) r) {H : Heap} {locs : List Loc} {ls : Array Slot} (h : XH E (sg st) s H locs) (hl : lv_has ls 9 [(0, .ref (E.ad 68)), (1, .int v1), (2, .int v2), (3, .int v3), (4, .int v4), (5, .int v5)]) : W p l e rmX6_box s m args below meth c H locs 0 0 Q (F0 m 67 ls []) := by
  refine iter_W (G := fun t => ∀ (H : Heap) (locs : List Loc) (ls : Array Slot), XH E (sg t.2.2) s H locs → lv_has ls 9 [(0, .ref (E.ad 68)), (1, .int v1), (2, .int v2), (3, .int t.1), (4, .int v4), (5, .int t.2.1)] → W p l e rmX6_box s m args below meth c H locs 0 0 Q (F0 m 67 ls [])) (E := fun t => ∀ (H : Heap) (locs : List Loc) (ls : Array Slot), XH E (sg t.2) s H locs → lv_has ls 9 [(0, .ref (E.ad 68)), (1, .int v1), (2, .int v2), (3, .int t.1), (4, .int v4)] → W p l e rmX6_box s m args below meth c H locs 0 0 Q (F0 m 202 ls [])) (fun t x hx K H locs ls h hl => ?_) n _ r hx hE H locs ls h hl
  obtain ⟨v3, v5, st⟩ := t
  exact bX6_box_67 C hI v1 v2 v3 v4 v5 st hx (fun _ _ _ z => z) (fun _ _ z => z) K h hl
def fX6_box_55 (v1 : Int32) (v2 : Int32) (v3 : Int32) (v4 : Int32) (st : St) : Option ((Int32 × Int32 × St) ⊕ (Int32 × St)) :=
  bd (fX6_points st) fun r_8 =>
  if r_8 ≤ v4 then
    some (.inr (v3, st))
  else
    bd (iter (u3 fun z3 z5 zst => fX6_box_67 v1 v2 z3 v4 z5 zst) FU (v3, (0 : Int32), st)) (u2 fun v3_28 st_28 =>
    nm (v4 + (1 : Int32)) fun v4_29 =>
    some (.inl (v3_28, v4_29, st_28)))
set_option maxHeartbeats 1000000 in
theorem bX6_box_55 (C : Cx E s0 b p s m args meth c cX6_box 9 "EarthMeshModel" (some .int)) (hI : Sx E) (v1 : Int32) (v2 : Int32) (v3 : Int32) (v4 : Int32) (st : St) {x : (Int32 × Int32 × St) ⊕ (Int32 × St)} (hx : fX6_box_55 v1 v2 v3 v4 st = some x) {Q : State → Prop} {G : Int32 × Int32 × St → Prop} {X : Int32 × St → Prop} (hG : ∀ (w3 : Int32) (w4 : Int32) (wst : St), G (w3, w4, wst) → ∀ (H : Heap) (locs : List Loc) (ls : Array Slot), XH E (sg wst) s H locs → lv_has ls 9 [(0, .ref (E.ad 68)), (1, .int v1), (2, .int v2), (3, .int w3), (4, .int w4)] → W p l e rmX6_box s m args below meth c H locs 0 0 Q (F0 m 55 ls [])) (hE0 : ∀ (w3 : Int32) (wst : St), X (w3, wst) → ∀ (H : Heap) (locs : List Loc) (ls : Array Slot), XH E (sg wst) s H locs → lv_has ls 9 [(3, .int w3)] → W p l e rmX6_box s m args below meth c H locs 0 0 Q (F0 m 208 ls [])) (K : Kx G X x) {H : Heap} {locs : List Loc} {ls : Array Slot} (h : XH E (sg st) s H locs) (hl : lv_has ls 9 [(0, .ref (E.ad 68)), (1, .int v1), (2, .int v2), (3, .int v3), (4, .int v4)]) : W p l e rmX6_box s m args below meth c H locs 0 0 Q (F0 m 55 ls []) := by
  unfold fX6_box_55 at hx
  refine lv_iload C.x C.bc dX6_box_55 (lv_at hl 4 rfl) ?_
  refine lv_aload_n C.x C.bc dX6_box_57 rfl (lv_at hl 0 rfl) ?_
  obtain ⟨r_8, hf_8, hx⟩ := bd_e hx
  refine cX6_332_X6_points C hI h hf_8 ⟨Nat.le_of_ble_eq_true rfl, Nat.le_of_ble_eq_true rfl⟩ ⟨Nat.zero_le _, Nat.zero_le _⟩ hl.1 (Nat.le_of_ble_eq_true rfl) dX6_box_58 (fun H locs h => ?_)
  refine lv_icmp_ge (tgt := 208) C.x C.bc dX6_box_61 (by decide) (fun c_9 => ?_) (fun c_9 => ?_)
  · have hx := ge_t hx c_9
    obtain rfl := Option.some.inj hx
    exact hE0 _ _ K _ _ _ h (lv_sub hl [3] rfl)
  · have hx := ge_f hx c_9
    refine lv_iconst (v := (0 : Int32)) C.x C.bc dX6_box_64 (by decide) ?_
    refine lv_istore (lv' := [(5, .int (0 : Int32)), (0, .ref (E.ad 68)), (1, .int v1), (2, .int v2), (3, .int v3), (4, .int v4)]) C.x C.bc dX6_box_65 hl (by decide) rfl (fun ls hl => ?_)
    obtain ⟨⟨v3_28, st_28⟩, hi_28, hx⟩ := bd_e hx
    have hx := u2_e hx
    refine pX6_box_67 C hI v1 v2 v4 hi_28 (fun H locs ls h hl => ?_) h (lv_sub hl [1, 2, 3, 4, 5, 0] rfl)
    obtain ⟨v4_29, e_29, hx⟩ := nm_x hx
    refine lv_iinc (v := v4_29) (lv' := [(4, .int v4_29), (0, .ref (E.ad 68)), (1, .int v1), (2, .int v2), (3, .int v3_28)]) C.x C.bc dX6_box_202 hl (k := 4) rfl (by rw [e_29]; rfl) (by decide) rfl (fun ls hl => ?_)
    refine lv_goto (tgt := 55) C.x C.bc dX6_box_205 (by decide) ?_
    obtain rfl := Option.some.inj hx
    exact hG _ _ _ K _ _ _ h (lv_sub hl [1, 2, 3, 4, 0] rfl)
set_option maxHeartbeats 1000000 in
theorem pX6_box_55 (C : Cx E s0 b p s m args meth c cX6_box 9 "EarthMeshModel" (some .int)) (hI : Sx E) (v1 : Int32) (v2 : Int32) {Q : State → Prop} {v3 : Int32} {v4 : Int32} {st : St} {n : Nat} {r : Int32 × St} (hx : iter (u3 fun v3 v4 st => fX6_box_55 v1 v2 v3 v4 st) n (v3, v4, st) = some r) (hE : (fun t => ∀ (H : Heap) (locs : List Loc) (ls : Array Slot), XH E (sg t.2) s H locs → lv_has ls 9 [(3, .int t.1)] → W p l e rmX6_box s m args below meth c H locs 0 0 Q (F0 m 208 ls [])) r) {H : Heap} {locs : List Loc} {ls : Array Slot} (h : XH E (sg st) s H locs) (hl : lv_has ls 9 [(0, .ref (E.ad 68)), (1, .int v1), (2, .int v2), (3, .int v3), (4, .int v4)]) : W p l e rmX6_box s m args below meth c H locs 0 0 Q (F0 m 55 ls []) := by
  refine iter_W (G := fun t => ∀ (H : Heap) (locs : List Loc) (ls : Array Slot), XH E (sg t.2.2) s H locs → lv_has ls 9 [(0, .ref (E.ad 68)), (1, .int v1), (2, .int v2), (3, .int t.1), (4, .int t.2.1)] → W p l e rmX6_box s m args below meth c H locs 0 0 Q (F0 m 55 ls [])) (E := fun t => ∀ (H : Heap) (locs : List Loc) (ls : Array Slot), XH E (sg t.2) s H locs → lv_has ls 9 [(3, .int t.1)] → W p l e rmX6_box s m args below meth c H locs 0 0 Q (F0 m 208 ls [])) (fun t x hx K H locs ls h hl => ?_) n _ r hx hE H locs ls h hl
  obtain ⟨v3, v4, st⟩ := t
  exact bX6_box_55 C hI v1 v2 v3 v4 st hx (fun _ _ _ z => z) (fun _ _ z => z) K h hl
def fX6_box (v1 : Int32) (v2 : Int32) (st : St) : Option (Int32 × St) :=
  nm (uI st 68 1 (0 : Int32)) fun st_1 =>
  nm (fX6_isIn v2 (0 : Int32) (3 : Int32)) fun r_2 =>
  if r_2 = 0 then
    bd (fX6_fail (1 : Int32) st_1) <| u2 fun r_33 st_33 =>
    some (r_33, st_33)
  else
    nm (fX6_isIn v1 (0 : Int32) (9999 : Int32)) fun r_4 =>
    if r_4 = 0 then
      bd (fX6_fail (2 : Int32) st_1) <| u2 fun r_32 st_32 =>
      some (r_32, st_32)
    else
      bd (fX6_tellsGround st_1) <| u2 fun r_6 st_6 =>
      if r_6 = 0 then
        bd (fX6_fail (3 : Int32) st_6) <| u2 fun r_31 st_31 =>
        some (r_31, st_31)
      else
        bd (iter (u3 fun z3 z4 zst => fX6_box_55 v1 v2 z3 z4 zst) FU ((-1 : Int32), (0 : Int32), st_6)) (u2 fun v3_30 st_30 =>
        some (v3_30, st_30))
set_option maxHeartbeats 1000000 in
theorem bX6_box (C : Cx E s0 b p s m args meth c cX6_box 9 "EarthMeshModel" (some .int)) (hI : Sx E) (v1 : Int32) (v2 : Int32) (st : St) {x : Int32 × St} (hx : fX6_box v1 v2 st = some x) {H : Heap} {locs : List Loc} {ls : Array Slot} (h : XH E (sg st) s H locs) (hl : lv_has ls 9 [(0, .ref (E.ad 68)), (1, .int v1), (2, .int v2)]) : W p l e rmX6_box s m args below meth c H locs 0 0 (MQ below (Qx E (some (.int x.1)) (sg x.2)) args s 0 0 (gA E.HB)) (F0 m 0 ls []) := by
  unfold fX6_box at hx
  refine lv_aload_n C.x C.bc dX6_box_0 rfl (lv_at hl 0 rfl) ?_
  refine lv_iconst (v := (0 : Int32)) C.x C.bc dX6_box_1 (by decide) ?_
  obtain ⟨st_1, e_1, hx⟩ := nm_x hx
  refine pt_X6_90_68 C hI h e_1 dX6_box_2 (fun H locs h => ?_)
  refine lv_iload_n C.x C.bc dX6_box_5 rfl (lv_at hl 2 rfl) ?_
  refine lv_iconst (v := (0 : Int32)) C.x C.bc dX6_box_6 (by decide) ?_
  refine lv_iconst (v := (3 : Int32)) C.x C.bc dX6_box_7 (by decide) ?_
  obtain ⟨r_2, e_2, hx⟩ := nm_x hx
  refine cX6_300_X6_isIn C hI h e_2.symm ⟨Nat.le_of_ble_eq_true rfl, Nat.le_of_ble_eq_true rfl⟩ ⟨Nat.zero_le _, Nat.zero_le _⟩ hl.1 (Nat.le_of_ble_eq_true rfl) dX6_box_8 (fun H locs h => ?_)
  refine lv_if_ne (tgt := 20) C.x C.bc dX6_box_11 (by decide) (fun c_3 => ?_) (fun c_3 => ?_)
  · have hx := ge_f hx c_3
    refine lv_iload_n C.x C.bc dX6_box_20 rfl (lv_at hl 1 rfl) ?_
    refine lv_iconst (v := (0 : Int32)) C.x C.bc dX6_box_21 (by decide) ?_
    refine lv_sipush (v := (9999 : Int32)) C.x C.bc dX6_box_22 (by decide) ?_
    obtain ⟨r_4, e_4, hx⟩ := nm_x hx
    refine cX6_300_X6_isIn C hI h e_4.symm ⟨Nat.le_of_ble_eq_true rfl, Nat.le_of_ble_eq_true rfl⟩ ⟨Nat.zero_le _, Nat.zero_le _⟩ hl.1 (Nat.le_of_ble_eq_true rfl) dX6_box_25 (fun H locs h => ?_)
    refine lv_if_ne (tgt := 37) C.x C.bc dX6_box_28 (by decide) (fun c_5 => ?_) (fun c_5 => ?_)
    · have hx := ge_f hx c_5
      refine lv_aload_n C.x C.bc dX6_box_37 rfl (lv_at hl 0 rfl) ?_
      obtain ⟨⟨r_6, st_6⟩, hf_6, hx⟩ := bd_e hx
      have hx := u2_e hx
      refine cX6_344_X6_tellsGround C hI h hf_6 ⟨Nat.le_of_ble_eq_true rfl, Nat.le_of_ble_eq_true rfl⟩ ⟨Nat.zero_le _, Nat.zero_le _⟩ hl.1 (Nat.le_of_ble_eq_true rfl) dX6_box_38 (fun H locs h => ?_)
      refine lv_if_ne (tgt := 50) C.x C.bc dX6_box_41 (by decide) (fun c_7 => ?_) (fun c_7 => ?_)
      · have hx := ge_f hx c_7
        refine lv_iconst (v := (-1 : Int32)) C.x C.bc dX6_box_50 (by decide) ?_
        refine lv_istore_n (lv' := [(3, .int (-1 : Int32)), (0, .ref (E.ad 68)), (1, .int v1), (2, .int v2)]) C.x C.bc dX6_box_51 rfl hl (by decide) rfl (fun ls hl => ?_)
        refine lv_iconst (v := (0 : Int32)) C.x C.bc dX6_box_52 (by decide) ?_
        refine lv_istore (lv' := [(4, .int (0 : Int32)), (3, .int (-1 : Int32)), (0, .ref (E.ad 68)), (1, .int v1), (2, .int v2)]) C.x C.bc dX6_box_53 hl (by decide) rfl (fun ls hl => ?_)
        obtain ⟨⟨v3_30, st_30⟩, hi_30, hx⟩ := bd_e hx
        have hx := u2_e hx
        refine pX6_box_55 C hI v1 v2 hi_30 (fun H locs ls h hl => ?_) h (lv_sub hl [2, 3, 4, 1, 0] rfl)
        refine lv_iload_n C.x C.bc dX6_box_208 rfl (lv_at hl 0 rfl) ?_
        obtain rfl := Option.some.inj hx
        exact x_iret C h dX6_box_209
      · have hx := ge_t hx c_7
        refine lv_aload_n C.x C.bc dX6_box_44 rfl (lv_at hl 0 rfl) ?_
        refine lv_iconst (v := (3 : Int32)) C.x C.bc dX6_box_45 (by decide) ?_
        obtain ⟨⟨r_31, st_31⟩, hf_31, hx⟩ := bd_e hx
        have hx := u2_e hx
        refine cX6_182_X6_fail C hI h hf_31 ⟨Nat.le_of_ble_eq_true rfl, Nat.le_of_ble_eq_true rfl⟩ ⟨Nat.zero_le _, Nat.zero_le _⟩ hl.1 (Nat.le_of_ble_eq_true rfl) dX6_box_46 (fun H locs h => ?_)
        obtain rfl := Option.some.inj hx
        exact x_iret C h dX6_box_49
    · have hx := ge_t hx c_5
      refine lv_aload_n C.x C.bc dX6_box_31 rfl (lv_at hl 0 rfl) ?_
      refine lv_iconst (v := (2 : Int32)) C.x C.bc dX6_box_32 (by decide) ?_
      obtain ⟨⟨r_32, st_32⟩, hf_32, hx⟩ := bd_e hx
      have hx := u2_e hx
      refine cX6_182_X6_fail C hI h hf_32 ⟨Nat.le_of_ble_eq_true rfl, Nat.le_of_ble_eq_true rfl⟩ ⟨Nat.zero_le _, Nat.zero_le _⟩ hl.1 (Nat.le_of_ble_eq_true rfl) dX6_box_33 (fun H locs h => ?_)
      obtain rfl := Option.some.inj hx
      exact x_iret C h dX6_box_36
  · have hx := ge_t hx c_3
    refine lv_aload_n C.x C.bc dX6_box_14 rfl (lv_at hl 0 rfl) ?_
    refine lv_iconst (v := (1 : Int32)) C.x C.bc dX6_box_15 (by decide) ?_
    obtain ⟨⟨r_33, st_33⟩, hf_33, hx⟩ := bd_e hx
    have hx := u2_e hx
    refine cX6_182_X6_fail C hI h hf_33 ⟨Nat.le_of_ble_eq_true rfl, Nat.le_of_ble_eq_true rfl⟩ ⟨Nat.zero_le _, Nat.zero_le _⟩ hl.1 (Nat.le_of_ble_eq_true rfl) dX6_box_16 (fun H locs h => ?_)
    obtain rfl := Option.some.inj hx
    exact x_iret C h dX6_box_19
theorem mX6_box (hG : G0 E s0 b) (hI : Sx E) {v1 : Int32} {v2 : Int32} {x : Int32 × St} (hx : fX6_box v1 v2 st = some x) : Mt l E s0 yX6_box cX6_box 9 (some .int) rmX6_box [.ref (E.ad 68), .int v1, .int v2] (sg st) (some (.int x.1)) E (sg x.2) :=
  Mt.of hG (by decide) (Nat.le_of_ble_eq_true rfl) (fun p e s m below meth c ls C h hl => bX6_box C hI v1 v2 st hx h hl)
abbrev rmX6_reach : Room := { frames := 7, cells := 0, slots := 0, locals := 233 }
def fX6_reach_74 (v1 : Int32) (v3 : Int32) (k0 : Int32) (k1 : Int32) (st : St) : Option ((Int32 × Int32) ⊕ (Int32)) :=
  nm (k0 + k1) fun v2_10 =>
  nm (v3 + (1 : Int32)) fun v3_11 =>
  some (.inl (v2_10, v3_11))
set_option maxHeartbeats 1000000 in
theorem bX6_reach_74 (C : Cx E s0 b p s m args meth c cX6_reach 4 "EarthMeshModel" (some .int)) (hI : Sx E) (v1 : Int32) (v3 : Int32) (k0 : Int32) (k1 : Int32) (st : St) {x : (Int32 × Int32) ⊕ (Int32)} (hx : fX6_reach_74 v1 v3 k0 k1 st = some x) {Q : State → Prop} {G : Int32 × Int32 → Prop} {X : Int32 → Prop} (hG : ∀ (w2 : Int32) (w3 : Int32), G (w2, w3) → ∀ (H : Heap) (locs : List Loc) (ls : Array Slot), XH E (sg st) s H locs → lv_has ls 4 [(0, .ref (E.ad 68)), (1, .int v1), (2, .int w2), (3, .int w3)] → W p l e rmX6_reach s m args below meth c H locs 0 0 Q (F0 m 39 ls [])) (hE0 : ∀ (w2 : Int32), X w2 → ∀ (H : Heap) (locs : List Loc) (ls : Array Slot), XH E (sg st) s H locs → lv_has ls 4 [(2, .int w2)] → W p l e rmX6_reach s m args below meth c H locs 0 0 Q (F0 m 82 ls [])) (K : Kx G X x) {H : Heap} {locs : List Loc} {ls : Array Slot} (h : XH E (sg st) s H locs) (hl : lv_has ls 4 [(0, .ref (E.ad 68)), (1, .int v1), (3, .int v3)]) : W p l e rmX6_reach s m args below meth c H locs 0 0 Q (F0 m 74 ls [.int k1, .int k0]) := by
  unfold fX6_reach_74 at hx
  refine lv_iadd C.x C.bc dX6_reach_74 ?_
  obtain ⟨v2_10, e_10, hx⟩ := nm_x hx
  refine x_ti e_10 ?_
  refine lv_istore_n (lv' := [(2, .int v2_10), (0, .ref (E.ad 68)), (1, .int v1), (3, .int v3)]) C.x C.bc dX6_reach_75 rfl hl (by decide) rfl (fun ls hl => ?_)
  obtain ⟨v3_11, e_11, hx⟩ := nm_x hx
  refine lv_iinc (v := v3_11) (lv' := [(3, .int v3_11), (2, .int v2_10), (0, .ref (E.ad 68)), (1, .int v1)]) C.x C.bc dX6_reach_76 hl (k := 3) rfl (by rw [e_11]; rfl) (by decide) rfl (fun ls hl => ?_)
  refine lv_goto (tgt := 39) C.x C.bc dX6_reach_79 (by decide) ?_
  obtain rfl := Option.some.inj hx
  exact hG _ _ K _ _ _ h (lv_sub hl [2, 3, 1, 0] rfl)
def fX6_reach_39 (v1 : Int32) (v2 : Int32) (v3 : Int32) (st : St) : Option ((Int32 × Int32) ⊕ (Int32)) :=
  bd (fX6_points st) fun r_6 =>
  if r_6 ≤ v3 then
    some (.inr v2)
  else
    gd (inB v3 35) <|
    if (((4 : Int64) * (v1.toInt64)) * (st.2.1 68 19)) < (st.2.1 79 v3.toNatClampNeg) then
      fX6_reach_74 v1 v3 v2 (1 : Int32) st
    else
      fX6_reach_74 v1 v3 v2 (0 : Int32) st
set_option maxHeartbeats 1000000 in
theorem bX6_reach_39 (C : Cx E s0 b p s m args meth c cX6_reach 4 "EarthMeshModel" (some .int)) (hI : Sx E) (v1 : Int32) (v2 : Int32) (v3 : Int32) (st : St) {x : (Int32 × Int32) ⊕ (Int32)} (hx : fX6_reach_39 v1 v2 v3 st = some x) {Q : State → Prop} {G : Int32 × Int32 → Prop} {X : Int32 → Prop} (hG : ∀ (w2 : Int32) (w3 : Int32), G (w2, w3) → ∀ (H : Heap) (locs : List Loc) (ls : Array Slot), XH E (sg st) s H locs → lv_has ls 4 [(0, .ref (E.ad 68)), (1, .int v1), (2, .int w2), (3, .int w3)] → W p l e rmX6_reach s m args below meth c H locs 0 0 Q (F0 m 39 ls [])) (hE0 : ∀ (w2 : Int32), X w2 → ∀ (H : Heap) (locs : List Loc) (ls : Array Slot), XH E (sg st) s H locs → lv_has ls 4 [(2, .int w2)] → W p l e rmX6_reach s m args below meth c H locs 0 0 Q (F0 m 82 ls [])) (K : Kx G X x) {H : Heap} {locs : List Loc} {ls : Array Slot} (h : XH E (sg st) s H locs) (hl : lv_has ls 4 [(0, .ref (E.ad 68)), (1, .int v1), (2, .int v2), (3, .int v3)]) : W p l e rmX6_reach s m args below meth c H locs 0 0 Q (F0 m 39 ls []) := by
  unfold fX6_reach_39 at hx
  refine lv_iload_n C.x C.bc dX6_reach_39 rfl (lv_at hl 3 rfl) ?_
  refine lv_aload_n C.x C.bc dX6_reach_40 rfl (lv_at hl 0 rfl) ?_
  obtain ⟨r_6, hf_6, hx⟩ := bd_e hx
  refine cX6_332_X6_points C hI h hf_6 ⟨Nat.le_of_ble_eq_true rfl, Nat.le_of_ble_eq_true rfl⟩ ⟨Nat.zero_le _, Nat.zero_le _⟩ hl.1 (Nat.le_of_ble_eq_true rfl) dX6_reach_41 (fun H locs h => ?_)
  refine lv_icmp_ge (tgt := 82) C.x C.bc dX6_reach_44 (by decide) (fun c_7 => ?_) (fun c_7 => ?_)
  · have hx := ge_t hx c_7
    obtain rfl := Option.some.inj hx
    exact hE0 _ K _ _ _ h (lv_sub hl [2] rfl)
  · have hx := ge_f hx c_7
    refine lv_iload_n C.x C.bc dX6_reach_47 rfl (lv_at hl 2 rfl) ?_
    refine lv_aload_n C.x C.bc dX6_reach_48 rfl (lv_at hl 0 rfl) ?_
    refine gt_X6_64_68 C hI h dX6_reach_49 ?_
    refine lv_iload_n C.x C.bc dX6_reach_52 rfl (lv_at hl 3 rfl) ?_
    obtain ⟨g_8, hx⟩ := gd_e hx
    refine x_lald C h 79 35 (hI 79 (by decide)) k_79 g_8 dX6_reach_53 ?_
    refine lv_ldc2 (v := (4 : Int64)) C.x C.bc C.ow (C.ts _ q1914) dX6_reach_54 ?_
    refine lv_iload_n C.x C.bc dX6_reach_57 rfl (lv_at hl 1 rfl) ?_
    refine lv_i2l (v := (v1.toInt64)) C.x C.bc dX6_reach_58 rfl ?_
    refine lv_lmul C.x C.bc dX6_reach_59 ?_
    refine lv_aload_n C.x C.bc dX6_reach_60 rfl (lv_at hl 0 rfl) ?_
    refine gt_X6_233_68 C hI h dX6_reach_61 ?_
    refine lv_lmul C.x C.bc dX6_reach_64 ?_
    refine W.lcmp C.x C.bc dX6_reach_65 ?_
    refine lv_if_le (tgt := 73) C.x C.bc dX6_reach_66 (by decide) (fun c_9 => ?_) (fun c_9 => ?_)
    · have c_9 := (lc_le _ _).mp c_9
      have hx := ge_f hx c_9
      refine lv_iconst (v := (0 : Int32)) C.x C.bc dX6_reach_73 (by decide) ?_
      exact bX6_reach_74 C hI v1 v3 v2 (0 : Int32) st hx hG hE0 K h (lv_sub hl [0, 1, 3] rfl)
    · have c_9 := Classical.not_not.mp ((not_congr (lc_le _ _)).mp c_9)
      have hx := ge_t hx c_9
      refine lv_iconst (v := (1 : Int32)) C.x C.bc dX6_reach_69 (by decide) ?_
      refine lv_goto (tgt := 74) C.x C.bc dX6_reach_70 (by decide) ?_
      exact bX6_reach_74 C hI v1 v3 v2 (1 : Int32) st hx hG hE0 K h (lv_sub hl [0, 1, 3] rfl)
set_option maxHeartbeats 1000000 in
theorem pX6_reach_39 (C : Cx E s0 b p s m args meth c cX6_reach 4 "EarthMeshModel" (some .int)) (hI : Sx E) (v1 : Int32) (st : St) {Q : State → Prop} {v2 : Int32} {v3 : Int32} {n : Nat} {r : Int32} (hx : iter (u2 fun v2 v3 => fX6_reach_39 v1 v2 v3 st) n (v2, v3) = some r) (hE : (fun t => ∀ (H : Heap) (locs : List Loc) (ls : Array Slot), XH E (sg st) s H locs → lv_has ls 4 [(2, .int t)] → W p l e rmX6_reach s m args below meth c H locs 0 0 Q (F0 m 82 ls [])) r) {H : Heap} {locs : List Loc} {ls : Array Slot} (h : XH E (sg st) s H locs) (hl : lv_has ls 4 [(0, .ref (E.ad 68)), (1, .int v1), (2, .int v2), (3, .int v3)]) : W p l e rmX6_reach s m args below meth c H locs 0 0 Q (F0 m 39 ls []) := by
  refine iter_W (G := fun t => ∀ (H : Heap) (locs : List Loc) (ls : Array Slot), XH E (sg st) s H locs → lv_has ls 4 [(0, .ref (E.ad 68)), (1, .int v1), (2, .int t.1), (3, .int t.2)] → W p l e rmX6_reach s m args below meth c H locs 0 0 Q (F0 m 39 ls [])) (E := fun t => ∀ (H : Heap) (locs : List Loc) (ls : Array Slot), XH E (sg st) s H locs → lv_has ls 4 [(2, .int t)] → W p l e rmX6_reach s m args below meth c H locs 0 0 Q (F0 m 82 ls [])) (fun t x hx K H locs ls h hl => ?_) n _ r hx hE H locs ls h hl
  obtain ⟨v2, v3⟩ := t
  exact bX6_reach_39 C hI v1 v2 v3 st hx (fun _ _ z => z) (fun _ z => z) K h hl
def fX6_reach (v1 : Int32) (st : St) : Option (Int32 × St) :=
  nm (uI st 68 1 (0 : Int32)) fun st_1 =>
  nm (fX6_isIn v1 (0 : Int32) (9999 : Int32)) fun r_2 =>
  if r_2 = 0 then
    bd (fX6_fail (1 : Int32) st_1) <| u2 fun r_14 st_14 =>
    some (r_14, st_14)
  else
    bd (fX6_tellsGround st_1) <| u2 fun r_4 st_4 =>
    if r_4 = 0 then
      bd (fX6_fail (2 : Int32) st_4) <| u2 fun r_13 st_13 =>
      some (r_13, st_13)
    else
      bd (iter (u2 fun z2 z3 => fX6_reach_39 v1 z2 z3 st_4) FU ((0 : Int32), (0 : Int32))) (u1 fun v2_12 =>
      some (v2_12, st_4))
set_option maxHeartbeats 1000000 in
theorem bX6_reach (C : Cx E s0 b p s m args meth c cX6_reach 4 "EarthMeshModel" (some .int)) (hI : Sx E) (v1 : Int32) (st : St) {x : Int32 × St} (hx : fX6_reach v1 st = some x) {H : Heap} {locs : List Loc} {ls : Array Slot} (h : XH E (sg st) s H locs) (hl : lv_has ls 4 [(0, .ref (E.ad 68)), (1, .int v1)]) : W p l e rmX6_reach s m args below meth c H locs 0 0 (MQ below (Qx E (some (.int x.1)) (sg x.2)) args s 0 0 (gA E.HB)) (F0 m 0 ls []) := by
  unfold fX6_reach at hx
  refine lv_aload_n C.x C.bc dX6_reach_0 rfl (lv_at hl 0 rfl) ?_
  refine lv_iconst (v := (0 : Int32)) C.x C.bc dX6_reach_1 (by decide) ?_
  obtain ⟨st_1, e_1, hx⟩ := nm_x hx
  refine pt_X6_90_68 C hI h e_1 dX6_reach_2 (fun H locs h => ?_)
  refine lv_iload_n C.x C.bc dX6_reach_5 rfl (lv_at hl 1 rfl) ?_
  refine lv_iconst (v := (0 : Int32)) C.x C.bc dX6_reach_6 (by decide) ?_
  refine lv_sipush (v := (9999 : Int32)) C.x C.bc dX6_reach_7 (by decide) ?_
  obtain ⟨r_2, e_2, hx⟩ := nm_x hx
  refine cX6_300_X6_isIn C hI h e_2.symm ⟨Nat.le_of_ble_eq_true rfl, Nat.le_of_ble_eq_true rfl⟩ ⟨Nat.zero_le _, Nat.zero_le _⟩ hl.1 (Nat.le_of_ble_eq_true rfl) dX6_reach_10 (fun H locs h => ?_)
  refine lv_if_ne (tgt := 22) C.x C.bc dX6_reach_13 (by decide) (fun c_3 => ?_) (fun c_3 => ?_)
  · have hx := ge_f hx c_3
    refine lv_aload_n C.x C.bc dX6_reach_22 rfl (lv_at hl 0 rfl) ?_
    obtain ⟨⟨r_4, st_4⟩, hf_4, hx⟩ := bd_e hx
    have hx := u2_e hx
    refine cX6_344_X6_tellsGround C hI h hf_4 ⟨Nat.le_of_ble_eq_true rfl, Nat.le_of_ble_eq_true rfl⟩ ⟨Nat.zero_le _, Nat.zero_le _⟩ hl.1 (Nat.le_of_ble_eq_true rfl) dX6_reach_23 (fun H locs h => ?_)
    refine lv_if_ne (tgt := 35) C.x C.bc dX6_reach_26 (by decide) (fun c_5 => ?_) (fun c_5 => ?_)
    · have hx := ge_f hx c_5
      refine lv_iconst (v := (0 : Int32)) C.x C.bc dX6_reach_35 (by decide) ?_
      refine lv_istore_n (lv' := [(2, .int (0 : Int32)), (0, .ref (E.ad 68)), (1, .int v1)]) C.x C.bc dX6_reach_36 rfl hl (by decide) rfl (fun ls hl => ?_)
      refine lv_iconst (v := (0 : Int32)) C.x C.bc dX6_reach_37 (by decide) ?_
      refine lv_istore_n (lv' := [(3, .int (0 : Int32)), (2, .int (0 : Int32)), (0, .ref (E.ad 68)), (1, .int v1)]) C.x C.bc dX6_reach_38 rfl hl (by decide) rfl (fun ls hl => ?_)
      obtain ⟨v2_12, hi_12, hx⟩ := bd_e hx
      have hx := u1_e hx
      refine pX6_reach_39 C hI v1 st_4 hi_12 (fun H locs ls h hl => ?_) h (lv_sub hl [2, 3, 1, 0] rfl)
      refine lv_iload_n C.x C.bc dX6_reach_82 rfl (lv_at hl 0 rfl) ?_
      obtain rfl := Option.some.inj hx
      exact x_iret C h dX6_reach_83
    · have hx := ge_t hx c_5
      refine lv_aload_n C.x C.bc dX6_reach_29 rfl (lv_at hl 0 rfl) ?_
      refine lv_iconst (v := (2 : Int32)) C.x C.bc dX6_reach_30 (by decide) ?_
      obtain ⟨⟨r_13, st_13⟩, hf_13, hx⟩ := bd_e hx
      have hx := u2_e hx
      refine cX6_182_X6_fail C hI h hf_13 ⟨Nat.le_of_ble_eq_true rfl, Nat.le_of_ble_eq_true rfl⟩ ⟨Nat.zero_le _, Nat.zero_le _⟩ hl.1 (Nat.le_of_ble_eq_true rfl) dX6_reach_31 (fun H locs h => ?_)
      obtain rfl := Option.some.inj hx
      exact x_iret C h dX6_reach_34
  · have hx := ge_t hx c_3
    refine lv_aload_n C.x C.bc dX6_reach_16 rfl (lv_at hl 0 rfl) ?_
    refine lv_iconst (v := (1 : Int32)) C.x C.bc dX6_reach_17 (by decide) ?_
    obtain ⟨⟨r_14, st_14⟩, hf_14, hx⟩ := bd_e hx
    have hx := u2_e hx
    refine cX6_182_X6_fail C hI h hf_14 ⟨Nat.le_of_ble_eq_true rfl, Nat.le_of_ble_eq_true rfl⟩ ⟨Nat.zero_le _, Nat.zero_le _⟩ hl.1 (Nat.le_of_ble_eq_true rfl) dX6_reach_18 (fun H locs h => ?_)
    obtain rfl := Option.some.inj hx
    exact x_iret C h dX6_reach_21
theorem mX6_reach (hG : G0 E s0 b) (hI : Sx E) {v1 : Int32} {x : Int32 × St} (hx : fX6_reach v1 st = some x) : Mt l E s0 yX6_reach cX6_reach 4 (some .int) rmX6_reach [.ref (E.ad 68), .int v1] (sg st) (some (.int x.1)) E (sg x.2) :=
  Mt.of hG (by decide) (Nat.le_of_ble_eq_true rfl) (fun p e s m below meth c ls C h hl => bX6_reach C hI v1 st hx h hl)
abbrev rmX6_lowers : Room := { frames := 1, cells := 0, slots := 0, locals := 23 }
def fX6_lowers_52 (v2 : Int32) (v5 : Int64) (st : St) : Option (Int32 × St) :=
  gd (inB v2 35) <|
  nm (uL st 81 v2.toNatClampNeg v5) fun st_8 =>
  some ((1 : Int32), st_8)
set_option maxHeartbeats 1000000 in
theorem bX6_lowers_52 (C : Cx E s0 b p s m args meth c cX6_lowers 7 "EarthMeshModel" (some .boolean)) (hI : Sx E) (v2 : Int32) (v5 : Int64) (st : St) {x : Int32 × St} (hx : fX6_lowers_52 v2 v5 st = some x) {H : Heap} {locs : List Loc} {ls : Array Slot} (h : XH E (sg st) s H locs) (hl : lv_has ls 7 [(0, .ref (E.ad 68)), (2, .int v2), (5, .long v5)]) : W p l e rmX6_lowers s m args below meth c H locs 0 0 (MQ below (Qx E (some (.int x.1)) (sg x.2)) args s 0 0 (gA E.HB)) (F0 m 52 ls []) := by
  unfold fX6_lowers_52 at hx
  refine lv_aload_n C.x C.bc dX6_lowers_52 rfl (lv_at hl 0 rfl) ?_
  refine gt_X6_70_68 C hI h dX6_lowers_53 ?_
  refine lv_iload_n C.x C.bc dX6_lowers_56 rfl (lv_at hl 1 rfl) ?_
  refine lv_lload C.x C.bc dX6_lowers_57 (lv_at hl 2 rfl) ?_
  obtain ⟨g_7, hx⟩ := gd_e hx
  obtain ⟨st_8, e_8, hx⟩ := nm_x hx
  refine y_last C h 81 35 (hI 81 (by decide)) k_81 g_7 e_8 dX6_lowers_59 (fun H locs h => ?_)
  refine lv_iconst (v := (1 : Int32)) C.x C.bc dX6_lowers_60 (by decide) ?_
  obtain rfl := Option.some.inj hx
  exact x_zret (v := (1 : Int32)) C h rfl dX6_lowers_61
def fX6_lowers (v1 : Int32) (v2 : Int32) (v3 : Int64) (st : St) : Option (Int32 × St) :=
  gd (inB v1 35) <|
  nm (jmaxl (st.2.1 81 v1.toNatClampNeg) v3) fun v5_2 =>
  gd (inB v1 35) <|
  if (st.2.1 81 v1.toNatClampNeg) = (-1 : Int64) then
    some ((0 : Int32), st)
  else
    gd (inB v2 35) <|
    if (st.2.1 81 v2.toNatClampNeg) = (-1 : Int64) then
      fX6_lowers_52 v2 v5_2 st
    else
      gd (inB v2 35) <|
      if v5_2 < (st.2.1 81 v2.toNatClampNeg) then
        fX6_lowers_52 v2 v5_2 st
      else
        some ((0 : Int32), st)
set_option maxHeartbeats 1000000 in
theorem bX6_lowers (C : Cx E s0 b p s m args meth c cX6_lowers 7 "EarthMeshModel" (some .boolean)) (hI : Sx E) (v1 : Int32) (v2 : Int32) (v3 : Int64) (st : St) {x : Int32 × St} (hx : fX6_lowers v1 v2 v3 st = some x) {H : Heap} {locs : List Loc} {ls : Array Slot} (h : XH E (sg st) s H locs) (hl : lv_has ls 7 [(0, .ref (E.ad 68)), (1, .int v1), (2, .int v2), (3, .long v3)]) : W p l e rmX6_lowers s m args below meth c H locs 0 0 (MQ below (Qx E (some (.int x.1)) (sg x.2)) args s 0 0 (gA E.HB)) (F0 m 0 ls []) := by
  unfold fX6_lowers at hx
  refine lv_aload_n C.x C.bc dX6_lowers_0 rfl (lv_at hl 0 rfl) ?_
  refine gt_X6_70_68 C hI h dX6_lowers_1 ?_
  refine lv_iload_n C.x C.bc dX6_lowers_4 rfl (lv_at hl 1 rfl) ?_
  obtain ⟨g_1, hx⟩ := gd_e hx
  refine x_lald C h 81 35 (hI 81 (by decide)) k_81 g_1 dX6_lowers_5 ?_
  refine lv_lload_n C.x C.bc dX6_lowers_6 rfl (lv_at hl 3 rfl) ?_
  refine va_mmax_long C.x C.bc (C.ml.trans hl.1.symm) C.ow (C.ts _ q1912) (C.ts _ q340) (C.ts _ q134) (C.ts _ q341) (Nat.le_of_ble_eq_true rfl) (Nat.le_of_ble_eq_true rfl) (Nat.zero_le _) (Nat.zero_le _) dX6_lowers_7 ?_
  obtain ⟨v5_2, e_2, hx⟩ := nm_x hx
  refine x_tl e_2 ?_
  refine lv_lstore (lv' := [(5, .long v5_2), (0, .ref (E.ad 68)), (1, .int v1), (2, .int v2), (3, .long v3)]) C.x C.bc dX6_lowers_10 hl (by decide) rfl (fun ls hl => ?_)
  refine lv_aload_n C.x C.bc dX6_lowers_12 rfl (lv_at hl 1 rfl) ?_
  refine gt_X6_70_68 C hI h dX6_lowers_13 ?_
  refine lv_iload_n C.x C.bc dX6_lowers_16 rfl (lv_at hl 2 rfl) ?_
  obtain ⟨g_3, hx⟩ := gd_e hx
  refine x_lald C h 81 35 (hI 81 (by decide)) k_81 g_3 dX6_lowers_17 ?_
  refine lv_ldc2 (v := (-1 : Int64)) C.x C.bc C.ow (C.ts _ q1864) dX6_lowers_18 ?_
  refine W.lcmp C.x C.bc dX6_lowers_21 ?_
  refine lv_if_eq (tgt := 50) C.x C.bc dX6_lowers_22 (by decide) (fun c_4 => ?_) (fun c_4 => ?_)
  · have c_4 := (lc_eq _ _).mp c_4
    have hx := ge_t hx c_4
    refine lv_iconst (v := (0 : Int32)) C.x C.bc dX6_lowers_50 (by decide) ?_
    obtain rfl := Option.some.inj hx
    exact x_zret (v := (0 : Int32)) C h rfl dX6_lowers_51
  · have c_4 := (not_congr (lc_eq _ _)).mp c_4
    have hx := ge_f hx c_4
    refine lv_aload_n C.x C.bc dX6_lowers_25 rfl (lv_at hl 1 rfl) ?_
    refine gt_X6_70_68 C hI h dX6_lowers_26 ?_
    refine lv_iload_n C.x C.bc dX6_lowers_29 rfl (lv_at hl 3 rfl) ?_
    obtain ⟨g_5, hx⟩ := gd_e hx
    refine x_lald C h 81 35 (hI 81 (by decide)) k_81 g_5 dX6_lowers_30 ?_
    refine lv_ldc2 (v := (-1 : Int64)) C.x C.bc C.ow (C.ts _ q1864) dX6_lowers_31 ?_
    refine W.lcmp C.x C.bc dX6_lowers_34 ?_
    refine lv_if_eq (tgt := 52) C.x C.bc dX6_lowers_35 (by decide) (fun c_6 => ?_) (fun c_6 => ?_)
    · have c_6 := (lc_eq _ _).mp c_6
      have hx := ge_t hx c_6
      exact bX6_lowers_52 C hI v2 v5_2 st hx h (lv_sub hl [1, 3, 0] rfl)
    · have c_6 := (not_congr (lc_eq _ _)).mp c_6
      have hx := ge_f hx c_6
      refine lv_aload_n C.x C.bc dX6_lowers_38 rfl (lv_at hl 1 rfl) ?_
      refine gt_X6_70_68 C hI h dX6_lowers_39 ?_
      refine lv_iload_n C.x C.bc dX6_lowers_42 rfl (lv_at hl 3 rfl) ?_
      obtain ⟨g_9, hx⟩ := gd_e hx
      refine x_lald C h 81 35 (hI 81 (by decide)) k_81 g_9 dX6_lowers_43 ?_
      refine lv_lload C.x C.bc dX6_lowers_44 (lv_at hl 0 rfl) ?_
      refine W.lcmp C.x C.bc dX6_lowers_46 ?_
      refine lv_if_gt (tgt := 52) C.x C.bc dX6_lowers_47 (by decide) (fun c_10 => ?_) (fun c_10 => ?_)
      · have c_10 := (lc_gt _ _).mp c_10
        have hx := ge_t hx c_10
        exact bX6_lowers_52 C hI v2 v5_2 st hx h (lv_sub hl [1, 3, 0] rfl)
      · have c_10 := (not_congr (lc_gt _ _)).mp c_10
        have hx := ge_f hx c_10
        refine lv_iconst (v := (0 : Int32)) C.x C.bc dX6_lowers_50 (by decide) ?_
        obtain rfl := Option.some.inj hx
        exact x_zret (v := (0 : Int32)) C h rfl dX6_lowers_51
theorem mX6_lowers (hG : G0 E s0 b) (hI : Sx E) {v1 : Int32} {v2 : Int32} {v3 : Int64} {x : Int32 × St} (hx : fX6_lowers v1 v2 v3 st = some x) : Mt l E s0 yX6_lowers cX6_lowers 7 (some .boolean) rmX6_lowers [.ref (E.ad 68), .int v1, .int v2, .long v3] (sg st) (some (.int x.1)) E (sg x.2) :=
  Mt.of hG (by decide) (Nat.le_of_ble_eq_true rfl) (fun p e s m below meth c ls C h hl => bX6_lowers C hI v1 v2 v3 st hx h hl)
theorem cX6_358_X6_lowers {a0 : Int32} {a1 : Int32} {a2 : Int64} {r : Int32} {st' : St} (C : Cx E s0 b p s m args meth c cc nL "EarthMeshModel" rt) (hI : Sx E) (h : XH E (sg st) s H locs) (hf : fX6_lowers a0 a1 a2 st = some (r, st')) (hR : rmX6_lowers.frames + 1 ≤ R.frames ∧ 16 + (7 + 11) + rmX6_lowers.locals ≤ R.locals) (h0 : cells ≤ R.cells ∧ slots ≤ R.slots) (hsz : ls.size = nL) (hcat : (rest.map fun v => v.category).sum ≤ 16) (hdg : decode cc pc = .ok (.invokevirtual 358, 3)) (kk : ∀ (H : Heap) (locs : List Loc), XH E (sg st') s H locs → W p l e R s m args below meth c H locs cells slots Q (F0 m (pc + 3) ls (.int r :: rest))) : W p l e R s m args below meth c H locs cells slots Q (F0 m pc ls (.long a2 :: .int a1 :: .int a0 :: .ref (E.ad 68) :: rest)) :=
  x_callV (n := 3) (As := [.int a0, .int a1, .long a2]) C h 68 5 (hI 68 (by decide)) k_68 rfl (mX6_lowers C.g hI hf) (lw_V q2038 q2040 qs120 q136 q2041) ⟨rfl, by decide +kernel, by decide +kernel, by decide +kernel⟩ hR ⟨rfl, rfl⟩ h0 rfl hsz rfl hcat hdg kk
abbrev rmX6_tollTo : Room := { frames := 4, cells := 0, slots := 0, locals := 118 }
def fX6_tollTo_27 (v1 : Int32) (v2 : Int32) (v3 : Int32) (k1 : Int32) (k2 : Int64) (st : St) : Option ((Int32 × St) ⊕ (St)) :=
  gd (inB k1 35) <|
  nm (uL st 81 k1.toNatClampNeg k2) fun st_5 =>
  nm (v3 + (1 : Int32)) fun v3_6 =>
  some (.inl (v3_6, st_5))
set_option maxHeartbeats 1000000 in
theorem bX6_tollTo_27 (C : Cx E s0 b p s m args meth c cX6_tollTo 7 "EarthMeshModel" (some .long)) (hI : Sx E) (v1 : Int32) (v2 : Int32) (v3 : Int32) (k1 : Int32) (k2 : Int64) (st : St) {x : (Int32 × St) ⊕ (St)} (hx : fX6_tollTo_27 v1 v2 v3 k1 k2 st = some x) {Q : State → Prop} {G : Int32 × St → Prop} {X : St → Prop} (hG : ∀ (w3 : Int32) (wst : St), G (w3, wst) → ∀ (H : Heap) (locs : List Loc) (ls : Array Slot), XH E (sg wst) s H locs → lv_has ls 7 [(0, .ref (E.ad 68)), (1, .int v1), (2, .int v2), (3, .int w3)] → W p l e rmX6_tollTo s m args below meth c H locs 0 0 Q (F0 m 2 ls [])) (hE0 : ∀ (wst : St), X wst → ∀ (H : Heap) (locs : List Loc) (ls : Array Slot), XH E (sg wst) s H locs → lv_has ls 7 [(0, .ref (E.ad 68)), (2, .int v2)] → W p l e rmX6_tollTo s m args below meth c H locs 0 0 Q (F0 m 34 ls [])) (K : Kx G X x) {H : Heap} {locs : List Loc} {ls : Array Slot} (h : XH E (sg st) s H locs) (hl : lv_has ls 7 [(0, .ref (E.ad 68)), (1, .int v1), (2, .int v2), (3, .int v3)]) : W p l e rmX6_tollTo s m args below meth c H locs 0 0 Q (F0 m 27 ls [.long k2, .int k1, .ref (E.ad 81)]) := by
  unfold fX6_tollTo_27 at hx
  obtain ⟨g_4, hx⟩ := gd_e hx
  obtain ⟨st_5, e_5, hx⟩ := nm_x hx
  refine y_last C h 81 35 (hI 81 (by decide)) k_81 g_4 e_5 dX6_tollTo_27 (fun H locs h => ?_)
  obtain ⟨v3_6, e_6, hx⟩ := nm_x hx
  refine lv_iinc (v := v3_6) (lv' := [(3, .int v3_6), (0, .ref (E.ad 68)), (1, .int v1), (2, .int v2)]) C.x C.bc dX6_tollTo_28 hl (k := 3) rfl (by rw [e_6]; rfl) (by decide) rfl (fun ls hl => ?_)
  refine lv_goto (tgt := 2) C.x C.bc dX6_tollTo_31 (by decide) ?_
  obtain rfl := Option.some.inj hx
  exact hG _ _ K _ _ _ h (lv_sub hl [1, 2, 3, 0] rfl)
def fX6_tollTo_2 (v1 : Int32) (v2 : Int32) (v3 : Int32) (st : St) : Option ((Int32 × St) ⊕ (St)) :=
  bd (fX6_points st) fun r_1 =>
  if r_1 ≤ v3 then
    some (.inr st)
  else
    if v3 = v1 then
      fX6_tollTo_27 v1 v2 v3 v3 (0 : Int64) st
    else
      fX6_tollTo_27 v1 v2 v3 v3 (-1 : Int64) st
set_option maxHeartbeats 1000000 in
theorem bX6_tollTo_2 (C : Cx E s0 b p s m args meth c cX6_tollTo 7 "EarthMeshModel" (some .long)) (hI : Sx E) (v1 : Int32) (v2 : Int32) (v3 : Int32) (st : St) {x : (Int32 × St) ⊕ (St)} (hx : fX6_tollTo_2 v1 v2 v3 st = some x) {Q : State → Prop} {G : Int32 × St → Prop} {X : St → Prop} (hG : ∀ (w3 : Int32) (wst : St), G (w3, wst) → ∀ (H : Heap) (locs : List Loc) (ls : Array Slot), XH E (sg wst) s H locs → lv_has ls 7 [(0, .ref (E.ad 68)), (1, .int v1), (2, .int v2), (3, .int w3)] → W p l e rmX6_tollTo s m args below meth c H locs 0 0 Q (F0 m 2 ls [])) (hE0 : ∀ (wst : St), X wst → ∀ (H : Heap) (locs : List Loc) (ls : Array Slot), XH E (sg wst) s H locs → lv_has ls 7 [(0, .ref (E.ad 68)), (2, .int v2)] → W p l e rmX6_tollTo s m args below meth c H locs 0 0 Q (F0 m 34 ls [])) (K : Kx G X x) {H : Heap} {locs : List Loc} {ls : Array Slot} (h : XH E (sg st) s H locs) (hl : lv_has ls 7 [(0, .ref (E.ad 68)), (1, .int v1), (2, .int v2), (3, .int v3)]) : W p l e rmX6_tollTo s m args below meth c H locs 0 0 Q (F0 m 2 ls []) := by
  unfold fX6_tollTo_2 at hx
  refine lv_iload_n C.x C.bc dX6_tollTo_2 rfl (lv_at hl 3 rfl) ?_
  refine lv_aload_n C.x C.bc dX6_tollTo_3 rfl (lv_at hl 0 rfl) ?_
  obtain ⟨r_1, hf_1, hx⟩ := bd_e hx
  refine cX6_332_X6_points C hI h hf_1 ⟨Nat.le_of_ble_eq_true rfl, Nat.le_of_ble_eq_true rfl⟩ ⟨Nat.zero_le _, Nat.zero_le _⟩ hl.1 (Nat.le_of_ble_eq_true rfl) dX6_tollTo_4 (fun H locs h => ?_)
  refine lv_icmp_ge (tgt := 34) C.x C.bc dX6_tollTo_7 (by decide) (fun c_2 => ?_) (fun c_2 => ?_)
  · have hx := ge_t hx c_2
    obtain rfl := Option.some.inj hx
    exact hE0 _ K _ _ _ h (lv_sub hl [0, 2] rfl)
  · have hx := ge_f hx c_2
    refine lv_aload_n C.x C.bc dX6_tollTo_10 rfl (lv_at hl 0 rfl) ?_
    refine gt_X6_70_68 C hI h dX6_tollTo_11 ?_
    refine lv_iload_n C.x C.bc dX6_tollTo_14 rfl (lv_at hl 3 rfl) ?_
    refine lv_iload_n C.x C.bc dX6_tollTo_15 rfl (lv_at hl 3 rfl) ?_
    refine lv_iload_n C.x C.bc dX6_tollTo_16 rfl (lv_at hl 1 rfl) ?_
    refine lv_icmp_ne (tgt := 24) C.x C.bc dX6_tollTo_17 (by decide) (fun c_3 => ?_) (fun c_3 => ?_)
    · have hx := ge_f hx c_3
      refine lv_ldc2 (v := (-1 : Int64)) C.x C.bc C.ow (C.ts _ q1864) dX6_tollTo_24 ?_
      exact bX6_tollTo_27 C hI v1 v2 v3 v3 (-1 : Int64) st hx hG hE0 K h (lv_sub hl [0, 1, 2, 3] rfl)
    · have hx := ge_t hx c_3
      refine lv_lconst (v := (0 : Int64)) C.x C.bc dX6_tollTo_20 (by decide) ?_
      refine lv_goto (tgt := 27) C.x C.bc dX6_tollTo_21 (by decide) ?_
      exact bX6_tollTo_27 C hI v1 v2 v3 v3 (0 : Int64) st hx hG hE0 K h (lv_sub hl [0, 1, 2, 3] rfl)
set_option maxHeartbeats 1000000 in
theorem pX6_tollTo_2 (C : Cx E s0 b p s m args meth c cX6_tollTo 7 "EarthMeshModel" (some .long)) (hI : Sx E) (v1 : Int32) (v2 : Int32) {Q : State → Prop} {v3 : Int32} {st : St} {n : Nat} {r : St} (hx : iter (u2 fun v3 st => fX6_tollTo_2 v1 v2 v3 st) n (v3, st) = some r) (hE : (fun t => ∀ (H : Heap) (locs : List Loc) (ls : Array Slot), XH E (sg t) s H locs → lv_has ls 7 [(0, .ref (E.ad 68)), (2, .int v2)] → W p l e rmX6_tollTo s m args below meth c H locs 0 0 Q (F0 m 34 ls [])) r) {H : Heap} {locs : List Loc} {ls : Array Slot} (h : XH E (sg st) s H locs) (hl : lv_has ls 7 [(0, .ref (E.ad 68)), (1, .int v1), (2, .int v2), (3, .int v3)]) : W p l e rmX6_tollTo s m args below meth c H locs 0 0 Q (F0 m 2 ls []) := by
  refine iter_W (G := fun t => ∀ (H : Heap) (locs : List Loc) (ls : Array Slot), XH E (sg t.2) s H locs → lv_has ls 7 [(0, .ref (E.ad 68)), (1, .int v1), (2, .int v2), (3, .int t.1)] → W p l e rmX6_tollTo s m args below meth c H locs 0 0 Q (F0 m 2 ls [])) (E := fun t => ∀ (H : Heap) (locs : List Loc) (ls : Array Slot), XH E (sg t) s H locs → lv_has ls 7 [(0, .ref (E.ad 68)), (2, .int v2)] → W p l e rmX6_tollTo s m args below meth c H locs 0 0 Q (F0 m 34 ls [])) (fun t x hx K H locs ls h hl => ?_) n _ r hx hE H locs ls h hl
  obtain ⟨v3, st⟩ := t
  exact bX6_tollTo_2 C hI v1 v2 v3 st hx (fun _ _ z => z) (fun _ z => z) K h hl
def fX6_tollTo_140 (v2 : Int32) (v3 : Int32) (v4 : Int32) (v5 : Int32) (st : St) : Option ((Int32 × Int32 × St) ⊕ (Int32 × St)) :=
  nm (v5 + (1 : Int32)) fun v5_20 =>
  some (.inl (v3, v5_20, st))
set_option maxHeartbeats 1000000 in
theorem bX6_tollTo_140 (C : Cx E s0 b p s m args meth c cX6_tollTo 7 "EarthMeshModel" (some .long)) (hI : Sx E) (v2 : Int32) (v3 : Int32) (v4 : Int32) (v5 : Int32) (st : St) {x : (Int32 × Int32 × St) ⊕ (Int32 × St)} (hx : fX6_tollTo_140 v2 v3 v4 v5 st = some x) {Q : State → Prop} {G : Int32 × Int32 × St → Prop} {X : Int32 × St → Prop} (hG : ∀ (w3 : Int32) (w5 : Int32) (wst : St), G (w3, w5, wst) → ∀ (H : Heap) (locs : List Loc) (ls : Array Slot), XH E (sg wst) s H locs → lv_has ls 7 [(0, .ref (E.ad 68)), (2, .int v2), (3, .int w3), (4, .int v4), (5, .int w5)] → W p l e rmX6_tollTo s m args below meth c H locs 0 0 Q (F0 m 57 ls [])) (hE0 : ∀ (w3 : Int32) (wst : St), X (w3, wst) → ∀ (H : Heap) (locs : List Loc) (ls : Array Slot), XH E (sg wst) s H locs → lv_has ls 7 [(0, .ref (E.ad 68)), (2, .int v2), (3, .int w3), (4, .int v4)] → W p l e rmX6_tollTo s m args below meth c H locs 0 0 Q (F0 m 146 ls [])) (K : Kx G X x) {H : Heap} {locs : List Loc} {ls : Array Slot} (h : XH E (sg st) s H locs) (hl : lv_has ls 7 [(0, .ref (E.ad 68)), (2, .int v2), (3, .int v3), (4, .int v4), (5, .int v5)]) : W p l e rmX6_tollTo s m args below meth c H locs 0 0 Q (F0 m 140 ls []) := by
  unfold fX6_tollTo_140 at hx
  obtain ⟨v5_20, e_20, hx⟩ := nm_x hx
  refine lv_iinc (v := v5_20) (lv' := [(5, .int v5_20), (0, .ref (E.ad 68)), (2, .int v2), (3, .int v3), (4, .int v4)]) C.x C.bc dX6_tollTo_140 hl (k := 4) rfl (by rw [e_20]; rfl) (by decide) rfl (fun ls hl => ?_)
  refine lv_goto (tgt := 57) C.x C.bc dX6_tollTo_143 (by decide) ?_
  obtain rfl := Option.some.inj hx
  exact hG _ _ _ K _ _ _ h (lv_sub hl [1, 2, 3, 4, 0] rfl)
def fX6_tollTo_139 (v2 : Int32) (v4 : Int32) (v5 : Int32) (k0 : Int32) (st : St) : Option ((Int32 × Int32 × St) ⊕ (Int32 × St)) :=
  fX6_tollTo_140 v2 k0 v4 v5 st
set_option maxHeartbeats 1000000 in
theorem bX6_tollTo_139 (C : Cx E s0 b p s m args meth c cX6_tollTo 7 "EarthMeshModel" (some .long)) (hI : Sx E) (v2 : Int32) (v4 : Int32) (v5 : Int32) (k0 : Int32) (st : St) {x : (Int32 × Int32 × St) ⊕ (Int32 × St)} (hx : fX6_tollTo_139 v2 v4 v5 k0 st = some x) {Q : State → Prop} {G : Int32 × Int32 × St → Prop} {X : Int32 × St → Prop} (hG : ∀ (w3 : Int32) (w5 : Int32) (wst : St), G (w3, w5, wst) → ∀ (H : Heap) (locs : List Loc) (ls : Array Slot), XH E (sg wst) s H locs → lv_has ls 7 [(0, .ref (E.ad 68)), (2, .int v2), (3, .int w3), (4, .int v4), (5, .int w5)] → W p l e rmX6_tollTo s m args below meth c H locs 0 0 Q (F0 m 57 ls [])) (hE0 : ∀ (w3 : Int32) (wst : St), X (w3, wst) → ∀ (H : Heap) (locs : List Loc) (ls : Array Slot), XH E (sg wst) s H locs → lv_has ls 7 [(0, .ref (E.ad 68)), (2, .int v2), (3, .int w3), (4, .int v4)] → W p l e rmX6_tollTo s m args below meth c H locs 0 0 Q (F0 m 146 ls [])) (K : Kx G X x) {H : Heap} {locs : List Loc} {ls : Array Slot} (h : XH E (sg st) s H locs) (hl : lv_has ls 7 [(0, .ref (E.ad 68)), (2, .int v2), (4, .int v4), (5, .int v5)]) : W p l e rmX6_tollTo s m args below meth c H locs 0 0 Q (F0 m 139 ls [.int k0]) := by
  unfold fX6_tollTo_139 at hx
  refine lv_istore_n (lv' := [(3, .int k0), (0, .ref (E.ad 68)), (2, .int v2), (4, .int v4), (5, .int v5)]) C.x C.bc dX6_tollTo_139 rfl hl (by decide) rfl (fun ls hl => ?_)
  exact bX6_tollTo_140 C hI v2 k0 v4 v5 st hx hG hE0 K h (lv_sub hl [1, 2, 0, 3, 4] rfl)
def fX6_tollTo_134 (v2 : Int32) (v4 : Int32) (v5 : Int32) (st : St) : Option ((Int32 × Int32 × St) ⊕ (Int32 × St)) :=
  fX6_tollTo_139 v2 v4 v5 (1 : Int32) st
set_option maxHeartbeats 1000000 in
theorem bX6_tollTo_134 (C : Cx E s0 b p s m args meth c cX6_tollTo 7 "EarthMeshModel" (some .long)) (hI : Sx E) (v2 : Int32) (v4 : Int32) (v5 : Int32) (st : St) {x : (Int32 × Int32 × St) ⊕ (Int32 × St)} (hx : fX6_tollTo_134 v2 v4 v5 st = some x) {Q : State → Prop} {G : Int32 × Int32 × St → Prop} {X : Int32 × St → Prop} (hG : ∀ (w3 : Int32) (w5 : Int32) (wst : St), G (w3, w5, wst) → ∀ (H : Heap) (locs : List Loc) (ls : Array Slot), XH E (sg wst) s H locs → lv_has ls 7 [(0, .ref (E.ad 68)), (2, .int v2), (3, .int w3), (4, .int v4), (5, .int w5)] → W p l e rmX6_tollTo s m args below meth c H locs 0 0 Q (F0 m 57 ls [])) (hE0 : ∀ (w3 : Int32) (wst : St), X (w3, wst) → ∀ (H : Heap) (locs : List Loc) (ls : Array Slot), XH E (sg wst) s H locs → lv_has ls 7 [(0, .ref (E.ad 68)), (2, .int v2), (3, .int w3), (4, .int v4)] → W p l e rmX6_tollTo s m args below meth c H locs 0 0 Q (F0 m 146 ls [])) (K : Kx G X x) {H : Heap} {locs : List Loc} {ls : Array Slot} (h : XH E (sg st) s H locs) (hl : lv_has ls 7 [(0, .ref (E.ad 68)), (2, .int v2), (4, .int v4), (5, .int v5)]) : W p l e rmX6_tollTo s m args below meth c H locs 0 0 Q (F0 m 134 ls []) := by
  unfold fX6_tollTo_134 at hx
  refine lv_iconst (v := (1 : Int32)) C.x C.bc dX6_tollTo_134 (by decide) ?_
  refine lv_goto (tgt := 139) C.x C.bc dX6_tollTo_135 (by decide) ?_
  exact bX6_tollTo_139 C hI v2 v4 v5 (1 : Int32) st hx hG hE0 K h (lv_sub hl [0, 1, 2, 3] rfl)
def fX6_tollTo_110 (v2 : Int32) (v4 : Int32) (v5 : Int32) (v6 : Int32) (k0 : Int32) (st : St) : Option ((Int32 × Int32 × St) ⊕ (Int32 × St)) :=
  bd (fX6_step v4 v5 st) fun r_17 =>
  bd (fX6_lowers v6 v4 r_17 st) <| u2 fun r_18 st_18 =>
  if r_18 = 0 then
    if k0 = 0 then
      fX6_tollTo_139 v2 v4 v5 (0 : Int32) st_18
    else
      fX6_tollTo_134 v2 v4 v5 st_18
  else
    fX6_tollTo_134 v2 v4 v5 st_18
set_option maxHeartbeats 1000000 in
theorem bX6_tollTo_110 (C : Cx E s0 b p s m args meth c cX6_tollTo 7 "EarthMeshModel" (some .long)) (hI : Sx E) (v2 : Int32) (v4 : Int32) (v5 : Int32) (v6 : Int32) (k0 : Int32) (st : St) {x : (Int32 × Int32 × St) ⊕ (Int32 × St)} (hx : fX6_tollTo_110 v2 v4 v5 v6 k0 st = some x) {Q : State → Prop} {G : Int32 × Int32 × St → Prop} {X : Int32 × St → Prop} (hG : ∀ (w3 : Int32) (w5 : Int32) (wst : St), G (w3, w5, wst) → ∀ (H : Heap) (locs : List Loc) (ls : Array Slot), XH E (sg wst) s H locs → lv_has ls 7 [(0, .ref (E.ad 68)), (2, .int v2), (3, .int w3), (4, .int v4), (5, .int w5)] → W p l e rmX6_tollTo s m args below meth c H locs 0 0 Q (F0 m 57 ls [])) (hE0 : ∀ (w3 : Int32) (wst : St), X (w3, wst) → ∀ (H : Heap) (locs : List Loc) (ls : Array Slot), XH E (sg wst) s H locs → lv_has ls 7 [(0, .ref (E.ad 68)), (2, .int v2), (3, .int w3), (4, .int v4)] → W p l e rmX6_tollTo s m args below meth c H locs 0 0 Q (F0 m 146 ls [])) (K : Kx G X x) {H : Heap} {locs : List Loc} {ls : Array Slot} (h : XH E (sg st) s H locs) (hl : lv_has ls 7 [(0, .ref (E.ad 68)), (2, .int v2), (4, .int v4), (5, .int v5), (6, .int v6)]) : W p l e rmX6_tollTo s m args below meth c H locs 0 0 Q (F0 m 110 ls [.int k0]) := by
  unfold fX6_tollTo_110 at hx
  refine lv_istore_n (lv' := [(3, .int k0), (0, .ref (E.ad 68)), (2, .int v2), (4, .int v4), (5, .int v5), (6, .int v6)]) C.x C.bc dX6_tollTo_110 rfl hl (by decide) rfl (fun ls hl => ?_)
  refine lv_aload_n C.x C.bc dX6_tollTo_111 rfl (lv_at hl 1 rfl) ?_
  refine lv_iload C.x C.bc dX6_tollTo_112 (lv_at hl 5 rfl) ?_
  refine lv_iload C.x C.bc dX6_tollTo_114 (lv_at hl 3 rfl) ?_
  refine lv_aload_n C.x C.bc dX6_tollTo_116 rfl (lv_at hl 1 rfl) ?_
  refine lv_iload C.x C.bc dX6_tollTo_117 (lv_at hl 3 rfl) ?_
  refine lv_iload C.x C.bc dX6_tollTo_119 (lv_at hl 4 rfl) ?_
  obtain ⟨r_17, hf_17, hx⟩ := bd_e hx
  refine cX6_347_X6_step C hI h hf_17 ⟨Nat.le_of_ble_eq_true rfl, Nat.le_of_ble_eq_true rfl⟩ ⟨Nat.zero_le _, Nat.zero_le _⟩ hl.1 (Nat.le_of_ble_eq_true rfl) dX6_tollTo_121 (fun H locs h => ?_)
  obtain ⟨⟨r_18, st_18⟩, hf_18, hx⟩ := bd_e hx
  have hx := u2_e hx
  refine cX6_358_X6_lowers C hI h hf_18 ⟨Nat.le_of_ble_eq_true rfl, Nat.le_of_ble_eq_true rfl⟩ ⟨Nat.zero_le _, Nat.zero_le _⟩ hl.1 (Nat.le_of_ble_eq_true rfl) dX6_tollTo_124 (fun H locs h => ?_)
  refine lv_if_ne (tgt := 134) C.x C.bc dX6_tollTo_127 (by decide) (fun c_19 => ?_) (fun c_19 => ?_)
  · have hx := ge_f hx c_19
    exact bX6_tollTo_134 C hI v2 v4 v5 st_18 hx hG hE0 K h (lv_sub hl [1, 2, 3, 4] rfl)
  · have hx := ge_t hx c_19
    refine lv_iload_n C.x C.bc dX6_tollTo_130 rfl (lv_at hl 0 rfl) ?_
    refine lv_if_eq (tgt := 138) C.x C.bc dX6_tollTo_131 (by decide) (fun c_21 => ?_) (fun c_21 => ?_)
    · have hx := ge_t hx c_21
      refine lv_iconst (v := (0 : Int32)) C.x C.bc dX6_tollTo_138 (by decide) ?_
      exact bX6_tollTo_139 C hI v2 v4 v5 (0 : Int32) st_18 hx hG hE0 K h (lv_sub hl [1, 2, 3, 4] rfl)
    · have hx := ge_f hx c_21
      exact bX6_tollTo_134 C hI v2 v4 v5 st_18 hx hG hE0 K h (lv_sub hl [1, 2, 3, 4] rfl)
def fX6_tollTo_105 (v2 : Int32) (v4 : Int32) (v5 : Int32) (v6 : Int32) (st : St) : Option ((Int32 × Int32 × St) ⊕ (Int32 × St)) :=
  fX6_tollTo_110 v2 v4 v5 v6 (1 : Int32) st
set_option maxHeartbeats 1000000 in
theorem bX6_tollTo_105 (C : Cx E s0 b p s m args meth c cX6_tollTo 7 "EarthMeshModel" (some .long)) (hI : Sx E) (v2 : Int32) (v4 : Int32) (v5 : Int32) (v6 : Int32) (st : St) {x : (Int32 × Int32 × St) ⊕ (Int32 × St)} (hx : fX6_tollTo_105 v2 v4 v5 v6 st = some x) {Q : State → Prop} {G : Int32 × Int32 × St → Prop} {X : Int32 × St → Prop} (hG : ∀ (w3 : Int32) (w5 : Int32) (wst : St), G (w3, w5, wst) → ∀ (H : Heap) (locs : List Loc) (ls : Array Slot), XH E (sg wst) s H locs → lv_has ls 7 [(0, .ref (E.ad 68)), (2, .int v2), (3, .int w3), (4, .int v4), (5, .int w5)] → W p l e rmX6_tollTo s m args below meth c H locs 0 0 Q (F0 m 57 ls [])) (hE0 : ∀ (w3 : Int32) (wst : St), X (w3, wst) → ∀ (H : Heap) (locs : List Loc) (ls : Array Slot), XH E (sg wst) s H locs → lv_has ls 7 [(0, .ref (E.ad 68)), (2, .int v2), (3, .int w3), (4, .int v4)] → W p l e rmX6_tollTo s m args below meth c H locs 0 0 Q (F0 m 146 ls [])) (K : Kx G X x) {H : Heap} {locs : List Loc} {ls : Array Slot} (h : XH E (sg st) s H locs) (hl : lv_has ls 7 [(0, .ref (E.ad 68)), (2, .int v2), (4, .int v4), (5, .int v5), (6, .int v6)]) : W p l e rmX6_tollTo s m args below meth c H locs 0 0 Q (F0 m 105 ls []) := by
  unfold fX6_tollTo_105 at hx
  refine lv_iconst (v := (1 : Int32)) C.x C.bc dX6_tollTo_105 (by decide) ?_
  refine lv_goto (tgt := 110) C.x C.bc dX6_tollTo_106 (by decide) ?_
  exact bX6_tollTo_110 C hI v2 v4 v5 v6 (1 : Int32) st hx hG hE0 K h (lv_sub hl [0, 1, 2, 3, 4] rfl)
def fX6_tollTo_57 (v2 : Int32) (v3 : Int32) (v4 : Int32) (v5 : Int32) (st : St) : Option ((Int32 × Int32 × St) ⊕ (Int32 × St)) :=
  if (1 : Int32) < v5 then
    some (.inr (v3, st))
  else
    bd (fX6_beside v4 v5 st) fun r_12 =>
    if r_12 = (-1 : Int32) then
      fX6_tollTo_140 v2 v3 v4 v5 st
    else
      bd (fX6_step v4 v5 st) fun r_14 =>
      bd (fX6_lowers v4 r_12 r_14 st) <| u2 fun r_15 st_15 =>
      if r_15 = 0 then
        if v3 = 0 then
          fX6_tollTo_110 v2 v4 v5 r_12 (0 : Int32) st_15
        else
          fX6_tollTo_105 v2 v4 v5 r_12 st_15
      else
        fX6_tollTo_105 v2 v4 v5 r_12 st_15
set_option maxHeartbeats 1000000 in
theorem bX6_tollTo_57 (C : Cx E s0 b p s m args meth c cX6_tollTo 7 "EarthMeshModel" (some .long)) (hI : Sx E) (v2 : Int32) (v3 : Int32) (v4 : Int32) (v5 : Int32) (st : St) {x : (Int32 × Int32 × St) ⊕ (Int32 × St)} (hx : fX6_tollTo_57 v2 v3 v4 v5 st = some x) {Q : State → Prop} {G : Int32 × Int32 × St → Prop} {X : Int32 × St → Prop} (hG : ∀ (w3 : Int32) (w5 : Int32) (wst : St), G (w3, w5, wst) → ∀ (H : Heap) (locs : List Loc) (ls : Array Slot), XH E (sg wst) s H locs → lv_has ls 7 [(0, .ref (E.ad 68)), (2, .int v2), (3, .int w3), (4, .int v4), (5, .int w5)] → W p l e rmX6_tollTo s m args below meth c H locs 0 0 Q (F0 m 57 ls [])) (hE0 : ∀ (w3 : Int32) (wst : St), X (w3, wst) → ∀ (H : Heap) (locs : List Loc) (ls : Array Slot), XH E (sg wst) s H locs → lv_has ls 7 [(0, .ref (E.ad 68)), (2, .int v2), (3, .int w3), (4, .int v4)] → W p l e rmX6_tollTo s m args below meth c H locs 0 0 Q (F0 m 146 ls [])) (K : Kx G X x) {H : Heap} {locs : List Loc} {ls : Array Slot} (h : XH E (sg st) s H locs) (hl : lv_has ls 7 [(0, .ref (E.ad 68)), (2, .int v2), (3, .int v3), (4, .int v4), (5, .int v5)]) : W p l e rmX6_tollTo s m args below meth c H locs 0 0 Q (F0 m 57 ls []) := by
  unfold fX6_tollTo_57 at hx
  refine lv_iload C.x C.bc dX6_tollTo_57 (lv_at hl 4 rfl) ?_
  refine lv_iconst (v := (1 : Int32)) C.x C.bc dX6_tollTo_59 (by decide) ?_
  refine lv_icmp_gt (tgt := 146) C.x C.bc dX6_tollTo_60 (by decide) (fun c_11 => ?_) (fun c_11 => ?_)
  · have hx := ge_t hx c_11
    obtain rfl := Option.some.inj hx
    exact hE0 _ _ K _ _ _ h (lv_sub hl [0, 1, 2, 3] rfl)
  · have hx := ge_f hx c_11
    refine lv_aload_n C.x C.bc dX6_tollTo_63 rfl (lv_at hl 0 rfl) ?_
    refine lv_iload C.x C.bc dX6_tollTo_64 (lv_at hl 3 rfl) ?_
    refine lv_iload C.x C.bc dX6_tollTo_66 (lv_at hl 4 rfl) ?_
    obtain ⟨r_12, hf_12, hx⟩ := bd_e hx
    refine cX6_338_X6_beside C hI h hf_12 ⟨Nat.le_of_ble_eq_true rfl, Nat.le_of_ble_eq_true rfl⟩ ⟨Nat.zero_le _, Nat.zero_le _⟩ hl.1 (Nat.le_of_ble_eq_true rfl) dX6_tollTo_68 (fun H locs h => ?_)
    refine lv_istore (lv' := [(6, .int r_12), (0, .ref (E.ad 68)), (2, .int v2), (3, .int v3), (4, .int v4), (5, .int v5)]) C.x C.bc dX6_tollTo_71 hl (by decide) rfl (fun ls hl => ?_)
    refine lv_iload C.x C.bc dX6_tollTo_73 (lv_at hl 0 rfl) ?_
    refine lv_iconst (v := (-1 : Int32)) C.x C.bc dX6_tollTo_75 (by decide) ?_
    refine lv_icmp_ne (tgt := 82) C.x C.bc dX6_tollTo_76 (by decide) (fun c_13 => ?_) (fun c_13 => ?_)
    · have hx := ge_f hx c_13
      refine lv_aload_n C.x C.bc dX6_tollTo_82 rfl (lv_at hl 1 rfl) ?_
      refine lv_iload C.x C.bc dX6_tollTo_83 (lv_at hl 4 rfl) ?_
      refine lv_iload C.x C.bc dX6_tollTo_85 (lv_at hl 0 rfl) ?_
      refine lv_aload_n C.x C.bc dX6_tollTo_87 rfl (lv_at hl 1 rfl) ?_
      refine lv_iload C.x C.bc dX6_tollTo_88 (lv_at hl 4 rfl) ?_
      refine lv_iload C.x C.bc dX6_tollTo_90 (lv_at hl 5 rfl) ?_
      obtain ⟨r_14, hf_14, hx⟩ := bd_e hx
      refine cX6_347_X6_step C hI h hf_14 ⟨Nat.le_of_ble_eq_true rfl, Nat.le_of_ble_eq_true rfl⟩ ⟨Nat.zero_le _, Nat.zero_le _⟩ hl.1 (Nat.le_of_ble_eq_true rfl) dX6_tollTo_92 (fun H locs h => ?_)
      obtain ⟨⟨r_15, st_15⟩, hf_15, hx⟩ := bd_e hx
      have hx := u2_e hx
      refine cX6_358_X6_lowers C hI h hf_15 ⟨Nat.le_of_ble_eq_true rfl, Nat.le_of_ble_eq_true rfl⟩ ⟨Nat.zero_le _, Nat.zero_le _⟩ hl.1 (Nat.le_of_ble_eq_true rfl) dX6_tollTo_95 (fun H locs h => ?_)
      refine lv_if_ne (tgt := 105) C.x C.bc dX6_tollTo_98 (by decide) (fun c_16 => ?_) (fun c_16 => ?_)
      · have hx := ge_f hx c_16
        exact bX6_tollTo_105 C hI v2 v4 v5 r_12 st_15 hx hG hE0 K h (lv_sub hl [1, 2, 4, 5, 0] rfl)
      · have hx := ge_t hx c_16
        refine lv_iload_n C.x C.bc dX6_tollTo_101 rfl (lv_at hl 3 rfl) ?_
        refine lv_if_eq (tgt := 109) C.x C.bc dX6_tollTo_102 (by decide) (fun c_22 => ?_) (fun c_22 => ?_)
        · have hx := ge_t hx c_22
          refine lv_iconst (v := (0 : Int32)) C.x C.bc dX6_tollTo_109 (by decide) ?_
          exact bX6_tollTo_110 C hI v2 v4 v5 r_12 (0 : Int32) st_15 hx hG hE0 K h (lv_sub hl [1, 2, 4, 5, 0] rfl)
        · have hx := ge_f hx c_22
          exact bX6_tollTo_105 C hI v2 v4 v5 r_12 st_15 hx hG hE0 K h (lv_sub hl [1, 2, 4, 5, 0] rfl)
    · have hx := ge_t hx c_13
      refine lv_goto (tgt := 140) C.x C.bc dX6_tollTo_79 (by decide) ?_
      exact bX6_tollTo_140 C hI v2 v3 v4 v5 st hx hG hE0 K h (lv_sub hl [1, 2, 3, 4, 5] rfl)
set_option maxHeartbeats 1000000 in
theorem pX6_tollTo_57 (C : Cx E s0 b p s m args meth c cX6_tollTo 7 "EarthMeshModel" (some .long)) (hI : Sx E) (v2 : Int32) (v4 : Int32) {Q : State → Prop} {v3 : Int32} {v5 : Int32} {st : St} {n : Nat} {r : Int32 × St} (hx : iter (u3 fun v3 v5 st => fX6_tollTo_57 v2 v3 v4 v5 st) n (v3, v5, st) = some r) (hE : (fun t => ∀ (H : Heap) (locs : List Loc) (ls : Array Slot), XH E (sg t.2) s H locs → lv_has ls 7 [(0, .ref (E.ad 68)), (2, .int v2), (3, .int t.1), (4, .int v4)] → W p l e rmX6_tollTo s m args below meth c H locs 0 0 Q (F0 m 146 ls [])) r) {H : Heap} {locs : List Loc} {ls : Array Slot} (h : XH E (sg st) s H locs) (hl : lv_has ls 7 [(0, .ref (E.ad 68)), (2, .int v2), (3, .int v3), (4, .int v4), (5, .int v5)]) : W p l e rmX6_tollTo s m args below meth c H locs 0 0 Q (F0 m 57 ls []) := by
  refine iter_W (G := fun t => ∀ (H : Heap) (locs : List Loc) (ls : Array Slot), XH E (sg t.2.2) s H locs → lv_has ls 7 [(0, .ref (E.ad 68)), (2, .int v2), (3, .int t.1), (4, .int v4), (5, .int t.2.1)] → W p l e rmX6_tollTo s m args below meth c H locs 0 0 Q (F0 m 57 ls [])) (E := fun t => ∀ (H : Heap) (locs : List Loc) (ls : Array Slot), XH E (sg t.2) s H locs → lv_has ls 7 [(0, .ref (E.ad 68)), (2, .int v2), (3, .int t.1), (4, .int v4)] → W p l e rmX6_tollTo s m args below meth c H locs 0 0 Q (F0 m 146 ls [])) (fun t x hx K H locs ls h hl => ?_) n _ r hx hE H locs ls h hl
  obtain ⟨v3, v5, st⟩ := t
  exact bX6_tollTo_57 C hI v2 v3 v4 v5 st hx (fun _ _ _ z => z) (fun _ _ z => z) K h hl
def fX6_tollTo_45 (v2 : Int32) (v3 : Int32) (v4 : Int32) (st : St) : Option ((Int32 × Int32 × St) ⊕ (Int32 × St)) :=
  bd (fX6_points st) fun r_9 =>
  if r_9 ≤ v4 then
    some (.inr (v3, st))
  else
    bd (iter (u3 fun z3 z5 zst => fX6_tollTo_57 v2 z3 v4 z5 zst) FU (v3, (0 : Int32), st)) (u2 fun v3_23 st_23 =>
    nm (v4 + (1 : Int32)) fun v4_24 =>
    some (.inl (v3_23, v4_24, st_23)))
set_option maxHeartbeats 1000000 in
theorem bX6_tollTo_45 (C : Cx E s0 b p s m args meth c cX6_tollTo 7 "EarthMeshModel" (some .long)) (hI : Sx E) (v2 : Int32) (v3 : Int32) (v4 : Int32) (st : St) {x : (Int32 × Int32 × St) ⊕ (Int32 × St)} (hx : fX6_tollTo_45 v2 v3 v4 st = some x) {Q : State → Prop} {G : Int32 × Int32 × St → Prop} {X : Int32 × St → Prop} (hG : ∀ (w3 : Int32) (w4 : Int32) (wst : St), G (w3, w4, wst) → ∀ (H : Heap) (locs : List Loc) (ls : Array Slot), XH E (sg wst) s H locs → lv_has ls 7 [(0, .ref (E.ad 68)), (2, .int v2), (3, .int w3), (4, .int w4)] → W p l e rmX6_tollTo s m args below meth c H locs 0 0 Q (F0 m 45 ls [])) (hE0 : ∀ (w3 : Int32) (wst : St), X (w3, wst) → ∀ (H : Heap) (locs : List Loc) (ls : Array Slot), XH E (sg wst) s H locs → lv_has ls 7 [(0, .ref (E.ad 68)), (2, .int v2), (3, .int w3)] → W p l e rmX6_tollTo s m args below meth c H locs 0 0 Q (F0 m 152 ls [])) (K : Kx G X x) {H : Heap} {locs : List Loc} {ls : Array Slot} (h : XH E (sg st) s H locs) (hl : lv_has ls 7 [(0, .ref (E.ad 68)), (2, .int v2), (3, .int v3), (4, .int v4)]) : W p l e rmX6_tollTo s m args below meth c H locs 0 0 Q (F0 m 45 ls []) := by
  unfold fX6_tollTo_45 at hx
  refine lv_iload C.x C.bc dX6_tollTo_45 (lv_at hl 3 rfl) ?_
  refine lv_aload_n C.x C.bc dX6_tollTo_47 rfl (lv_at hl 0 rfl) ?_
  obtain ⟨r_9, hf_9, hx⟩ := bd_e hx
  refine cX6_332_X6_points C hI h hf_9 ⟨Nat.le_of_ble_eq_true rfl, Nat.le_of_ble_eq_true rfl⟩ ⟨Nat.zero_le _, Nat.zero_le _⟩ hl.1 (Nat.le_of_ble_eq_true rfl) dX6_tollTo_48 (fun H locs h => ?_)
  refine lv_icmp_ge (tgt := 152) C.x C.bc dX6_tollTo_51 (by decide) (fun c_10 => ?_) (fun c_10 => ?_)
  · have hx := ge_t hx c_10
    obtain rfl := Option.some.inj hx
    exact hE0 _ _ K _ _ _ h (lv_sub hl [0, 1, 2] rfl)
  · have hx := ge_f hx c_10
    refine lv_iconst (v := (0 : Int32)) C.x C.bc dX6_tollTo_54 (by decide) ?_
    refine lv_istore (lv' := [(5, .int (0 : Int32)), (0, .ref (E.ad 68)), (2, .int v2), (3, .int v3), (4, .int v4)]) C.x C.bc dX6_tollTo_55 hl (by decide) rfl (fun ls hl => ?_)
    obtain ⟨⟨v3_23, st_23⟩, hi_23, hx⟩ := bd_e hx
    have hx := u2_e hx
    refine pX6_tollTo_57 C hI v2 v4 hi_23 (fun H locs ls h hl => ?_) h (lv_sub hl [1, 2, 3, 4, 0] rfl)
    obtain ⟨v4_24, e_24, hx⟩ := nm_x hx
    refine lv_iinc (v := v4_24) (lv' := [(4, .int v4_24), (0, .ref (E.ad 68)), (2, .int v2), (3, .int v3_23)]) C.x C.bc dX6_tollTo_146 hl (k := 3) rfl (by rw [e_24]; rfl) (by decide) rfl (fun ls hl => ?_)
    refine lv_goto (tgt := 45) C.x C.bc dX6_tollTo_149 (by decide) ?_
    obtain rfl := Option.some.inj hx
    exact hG _ _ _ K _ _ _ h (lv_sub hl [1, 2, 3, 0] rfl)
set_option maxHeartbeats 1000000 in
theorem pX6_tollTo_45 (C : Cx E s0 b p s m args meth c cX6_tollTo 7 "EarthMeshModel" (some .long)) (hI : Sx E) (v2 : Int32) {Q : State → Prop} {v3 : Int32} {v4 : Int32} {st : St} {n : Nat} {r : Int32 × St} (hx : iter (u3 fun v3 v4 st => fX6_tollTo_45 v2 v3 v4 st) n (v3, v4, st) = some r) (hE : (fun t => ∀ (H : Heap) (locs : List Loc) (ls : Array Slot), XH E (sg t.2) s H locs → lv_has ls 7 [(0, .ref (E.ad 68)), (2, .int v2), (3, .int t.1)] → W p l e rmX6_tollTo s m args below meth c H locs 0 0 Q (F0 m 152 ls [])) r) {H : Heap} {locs : List Loc} {ls : Array Slot} (h : XH E (sg st) s H locs) (hl : lv_has ls 7 [(0, .ref (E.ad 68)), (2, .int v2), (3, .int v3), (4, .int v4)]) : W p l e rmX6_tollTo s m args below meth c H locs 0 0 Q (F0 m 45 ls []) := by
  refine iter_W (G := fun t => ∀ (H : Heap) (locs : List Loc) (ls : Array Slot), XH E (sg t.2.2) s H locs → lv_has ls 7 [(0, .ref (E.ad 68)), (2, .int v2), (3, .int t.1), (4, .int t.2.1)] → W p l e rmX6_tollTo s m args below meth c H locs 0 0 Q (F0 m 45 ls [])) (E := fun t => ∀ (H : Heap) (locs : List Loc) (ls : Array Slot), XH E (sg t.2) s H locs → lv_has ls 7 [(0, .ref (E.ad 68)), (2, .int v2), (3, .int t.1)] → W p l e rmX6_tollTo s m args below meth c H locs 0 0 Q (F0 m 152 ls [])) (fun t x hx K H locs ls h hl => ?_) n _ r hx hE H locs ls h hl
  obtain ⟨v3, v4, st⟩ := t
  exact bX6_tollTo_45 C hI v2 v3 v4 st hx (fun _ _ _ z => z) (fun _ _ z => z) K h hl
def fX6_tollTo_36 (v2 : Int32) (v3 : Int32) (st : St) : Option ((Int32 × St) ⊕ (St)) :=
  if v3 = 0 then
    some (.inr st)
  else
    bd (iter (u3 fun z3 z4 zst => fX6_tollTo_45 v2 z3 z4 zst) FU ((0 : Int32), (0 : Int32), st)) (u2 fun v3_25 st_25 =>
    some (.inl (v3_25, st_25)))
set_option maxHeartbeats 1000000 in
theorem bX6_tollTo_36 (C : Cx E s0 b p s m args meth c cX6_tollTo 7 "EarthMeshModel" (some .long)) (hI : Sx E) (v2 : Int32) (v3 : Int32) (st : St) {x : (Int32 × St) ⊕ (St)} (hx : fX6_tollTo_36 v2 v3 st = some x) {Q : State → Prop} {G : Int32 × St → Prop} {X : St → Prop} (hG : ∀ (w3 : Int32) (wst : St), G (w3, wst) → ∀ (H : Heap) (locs : List Loc) (ls : Array Slot), XH E (sg wst) s H locs → lv_has ls 7 [(0, .ref (E.ad 68)), (2, .int v2), (3, .int w3)] → W p l e rmX6_tollTo s m args below meth c H locs 0 0 Q (F0 m 36 ls [])) (hE0 : ∀ (wst : St), X wst → ∀ (H : Heap) (locs : List Loc) (ls : Array Slot), XH E (sg wst) s H locs → lv_has ls 7 [(0, .ref (E.ad 68)), (2, .int v2)] → W p l e rmX6_tollTo s m args below meth c H locs 0 0 Q (F0 m 155 ls [])) (K : Kx G X x) {H : Heap} {locs : List Loc} {ls : Array Slot} (h : XH E (sg st) s H locs) (hl : lv_has ls 7 [(0, .ref (E.ad 68)), (2, .int v2), (3, .int v3)]) : W p l e rmX6_tollTo s m args below meth c H locs 0 0 Q (F0 m 36 ls []) := by
  unfold fX6_tollTo_36 at hx
  refine lv_iload_n C.x C.bc dX6_tollTo_36 rfl (lv_at hl 2 rfl) ?_
  refine lv_if_eq (tgt := 155) C.x C.bc dX6_tollTo_37 (by decide) (fun c_8 => ?_) (fun c_8 => ?_)
  · have hx := ge_t hx c_8
    obtain rfl := Option.some.inj hx
    exact hE0 _ K _ _ _ h (lv_sub hl [0, 1] rfl)
  · have hx := ge_f hx c_8
    refine lv_iconst (v := (0 : Int32)) C.x C.bc dX6_tollTo_40 (by decide) ?_
    refine lv_istore_n (lv' := [(3, .int (0 : Int32)), (0, .ref (E.ad 68)), (2, .int v2)]) C.x C.bc dX6_tollTo_41 rfl hl (by decide) rfl (fun ls hl => ?_)
    refine lv_iconst (v := (0 : Int32)) C.x C.bc dX6_tollTo_42 (by decide) ?_
    refine lv_istore (lv' := [(4, .int (0 : Int32)), (3, .int (0 : Int32)), (0, .ref (E.ad 68)), (2, .int v2)]) C.x C.bc dX6_tollTo_43 hl (by decide) rfl (fun ls hl => ?_)
    obtain ⟨⟨v3_25, st_25⟩, hi_25, hx⟩ := bd_e hx
    have hx := u2_e hx
    refine pX6_tollTo_45 C hI v2 hi_25 (fun H locs ls h hl => ?_) h (lv_sub hl [2, 3, 1, 0] rfl)
    refine lv_goto (tgt := 36) C.x C.bc dX6_tollTo_152 (by decide) ?_
    obtain rfl := Option.some.inj hx
    exact hG _ _ K _ _ _ h (lv_sub hl [0, 1, 2] rfl)
set_option maxHeartbeats 1000000 in
theorem pX6_tollTo_36 (C : Cx E s0 b p s m args meth c cX6_tollTo 7 "EarthMeshModel" (some .long)) (hI : Sx E) (v2 : Int32) {Q : State → Prop} {v3 : Int32} {st : St} {n : Nat} {r : St} (hx : iter (u2 fun v3 st => fX6_tollTo_36 v2 v3 st) n (v3, st) = some r) (hE : (fun t => ∀ (H : Heap) (locs : List Loc) (ls : Array Slot), XH E (sg t) s H locs → lv_has ls 7 [(0, .ref (E.ad 68)), (2, .int v2)] → W p l e rmX6_tollTo s m args below meth c H locs 0 0 Q (F0 m 155 ls [])) r) {H : Heap} {locs : List Loc} {ls : Array Slot} (h : XH E (sg st) s H locs) (hl : lv_has ls 7 [(0, .ref (E.ad 68)), (2, .int v2), (3, .int v3)]) : W p l e rmX6_tollTo s m args below meth c H locs 0 0 Q (F0 m 36 ls []) := by
  refine iter_W (G := fun t => ∀ (H : Heap) (locs : List Loc) (ls : Array Slot), XH E (sg t.2) s H locs → lv_has ls 7 [(0, .ref (E.ad 68)), (2, .int v2), (3, .int t.1)] → W p l e rmX6_tollTo s m args below meth c H locs 0 0 Q (F0 m 36 ls [])) (E := fun t => ∀ (H : Heap) (locs : List Loc) (ls : Array Slot), XH E (sg t) s H locs → lv_has ls 7 [(0, .ref (E.ad 68)), (2, .int v2)] → W p l e rmX6_tollTo s m args below meth c H locs 0 0 Q (F0 m 155 ls [])) (fun t x hx K H locs ls h hl => ?_) n _ r hx hE H locs ls h hl
  obtain ⟨v3, st⟩ := t
  exact bX6_tollTo_36 C hI v2 v3 st hx (fun _ _ z => z) (fun _ z => z) K h hl
def fX6_tollTo (v1 : Int32) (v2 : Int32) (st : St) : Option (Int64 × St) :=
  bd (iter (u2 fun z3 zst => fX6_tollTo_2 v1 v2 z3 zst) FU ((0 : Int32), st)) (u1 fun st_7 =>
  bd (iter (u2 fun z3 zst => fX6_tollTo_36 v2 z3 zst) FU ((1 : Int32), st_7)) (u1 fun st_26 =>
  gd (inB v2 35) <|
  some ((st_26.2.1 81 v2.toNatClampNeg), st_26)))
set_option maxHeartbeats 1000000 in
theorem bX6_tollTo (C : Cx E s0 b p s m args meth c cX6_tollTo 7 "EarthMeshModel" (some .long)) (hI : Sx E) (v1 : Int32) (v2 : Int32) (st : St) {x : Int64 × St} (hx : fX6_tollTo v1 v2 st = some x) {H : Heap} {locs : List Loc} {ls : Array Slot} (h : XH E (sg st) s H locs) (hl : lv_has ls 7 [(0, .ref (E.ad 68)), (1, .int v1), (2, .int v2)]) : W p l e rmX6_tollTo s m args below meth c H locs 0 0 (MQ below (Qx E (some (.long x.1)) (sg x.2)) args s 0 0 (gA E.HB)) (F0 m 0 ls []) := by
  unfold fX6_tollTo at hx
  refine lv_iconst (v := (0 : Int32)) C.x C.bc dX6_tollTo_0 (by decide) ?_
  refine lv_istore_n (lv' := [(3, .int (0 : Int32)), (0, .ref (E.ad 68)), (1, .int v1), (2, .int v2)]) C.x C.bc dX6_tollTo_1 rfl hl (by decide) rfl (fun ls hl => ?_)
  obtain ⟨st_7, hi_7, hx⟩ := bd_e hx
  have hx := u1_e hx
  refine pX6_tollTo_2 C hI v1 v2 hi_7 (fun H locs ls h hl => ?_) h (lv_sub hl [1, 2, 3, 0] rfl)
  refine lv_iconst (v := (1 : Int32)) C.x C.bc dX6_tollTo_34 (by decide) ?_
  refine lv_istore_n (lv' := [(3, .int (1 : Int32)), (0, .ref (E.ad 68)), (2, .int v2)]) C.x C.bc dX6_tollTo_35 rfl hl (by decide) rfl (fun ls hl => ?_)
  obtain ⟨st_26, hi_26, hx⟩ := bd_e hx
  have hx := u1_e hx
  refine pX6_tollTo_36 C hI v2 hi_26 (fun H locs ls h hl => ?_) h (lv_sub hl [1, 2, 0] rfl)
  refine lv_aload_n C.x C.bc dX6_tollTo_155 rfl (lv_at hl 0 rfl) ?_
  refine gt_X6_70_68 C hI h dX6_tollTo_156 ?_
  refine lv_iload_n C.x C.bc dX6_tollTo_159 rfl (lv_at hl 1 rfl) ?_
  obtain ⟨g_27, hx⟩ := gd_e hx
  refine x_lald C h 81 35 (hI 81 (by decide)) k_81 g_27 dX6_tollTo_160 ?_
  obtain rfl := Option.some.inj hx
  exact x_lret C h dX6_tollTo_161
theorem mX6_tollTo (hG : G0 E s0 b) (hI : Sx E) {v1 : Int32} {v2 : Int32} {x : Int64 × St} (hx : fX6_tollTo v1 v2 st = some x) : Mt l E s0 yX6_tollTo cX6_tollTo 7 (some .long) rmX6_tollTo [.ref (E.ad 68), .int v1, .int v2] (sg st) (some (.long x.1)) E (sg x.2) :=
  Mt.of hG (by decide) (Nat.le_of_ble_eq_true rfl) (fun p e s m below meth c ls C h hl => bX6_tollTo C hI v1 v2 st hx h hl)
theorem cX6_365_X6_tollTo {a0 : Int32} {a1 : Int32} {r : Int64} {st' : St} (C : Cx E s0 b p s m args meth c cc nL "EarthMeshModel" rt) (hI : Sx E) (h : XH E (sg st) s H locs) (hf : fX6_tollTo a0 a1 st = some (r, st')) (hR : rmX6_tollTo.frames + 1 ≤ R.frames ∧ 16 + (7 + 11) + rmX6_tollTo.locals ≤ R.locals) (h0 : cells ≤ R.cells ∧ slots ≤ R.slots) (hsz : ls.size = nL) (hcat : (rest.map fun v => v.category).sum ≤ 16) (hdg : decode cc pc = .ok (.invokevirtual 365, 3)) (kk : ∀ (H : Heap) (locs : List Loc), XH E (sg st') s H locs → W p l e R s m args below meth c H locs cells slots Q (F0 m (pc + 3) ls (.long r :: rest))) : W p l e R s m args below meth c H locs cells slots Q (F0 m pc ls (.int a1 :: .int a0 :: .ref (E.ad 68) :: rest)) :=
  x_callV (n := 2) (As := [.int a0, .int a1]) C h 68 5 (hI 68 (by decide)) k_68 rfl (mX6_tollTo C.g hI hf) (lw_V q2034 q2036 qs119 q136 q2037) ⟨rfl, by decide +kernel, by decide +kernel, by decide +kernel⟩ hR ⟨rfl, rfl⟩ h0 rfl hsz rfl hcat hdg kk
abbrev rmX6_walkRefusal : Room := { frames := 7, cells := 0, slots := 0, locals := 233 }
def fX6_walkRefusal_16 (st : St) : Option (Int32 × St) :=
  some ((1 : Int32), st)
set_option maxHeartbeats 1000000 in
theorem bX6_walkRefusal_16 (C : Cx E s0 b p s m args meth c cX6_walkRefusal 3 "EarthMeshModel" (some .int)) (hI : Sx E) (st : St) {x : Int32 × St} (hx : fX6_walkRefusal_16 st = some x) {H : Heap} {locs : List Loc} {ls : Array Slot} (h : XH E (sg st) s H locs) (hl : lv_has ls 3 []) : W p l e rmX6_walkRefusal s m args below meth c H locs 0 0 (MQ below (Qx E (some (.int x.1)) (sg x.2)) args s 0 0 (gA E.HB)) (F0 m 16 ls []) := by
  unfold fX6_walkRefusal_16 at hx
  refine lv_iconst (v := (1 : Int32)) C.x C.bc dX6_walkRefusal_16 (by decide) ?_
  refine lv_goto (tgt := 32) C.x C.bc dX6_walkRefusal_17 (by decide) ?_
  obtain rfl := Option.some.inj hx
  exact x_iret C h dX6_walkRefusal_32
def fX6_walkRefusal (v1 : Int32) (v2 : Int32) (st : St) : Option (Int32 × St) :=
  bd (fX6_isPoint v1 st) fun r_1 =>
  if r_1 = 0 then
    fX6_walkRefusal_16 st
  else
    bd (fX6_isPoint v2 st) fun r_3 =>
    if r_3 = 0 then
      fX6_walkRefusal_16 st
    else
      bd (fX6_tellsGround st) <| u2 fun r_5 st_5 =>
      if r_5 = 0 then
        some ((2 : Int32), st_5)
      else
        some ((0 : Int32), st_5)
set_option maxHeartbeats 1000000 in
theorem bX6_walkRefusal (C : Cx E s0 b p s m args meth c cX6_walkRefusal 3 "EarthMeshModel" (some .int)) (hI : Sx E) (v1 : Int32) (v2 : Int32) (st : St) {x : Int32 × St} (hx : fX6_walkRefusal v1 v2 st = some x) {H : Heap} {locs : List Loc} {ls : Array Slot} (h : XH E (sg st) s H locs) (hl : lv_has ls 3 [(0, .ref (E.ad 68)), (1, .int v1), (2, .int v2)]) : W p l e rmX6_walkRefusal s m args below meth c H locs 0 0 (MQ below (Qx E (some (.int x.1)) (sg x.2)) args s 0 0 (gA E.HB)) (F0 m 0 ls []) := by
  unfold fX6_walkRefusal at hx
  refine lv_aload_n C.x C.bc dX6_walkRefusal_0 rfl (lv_at hl 0 rfl) ?_
  refine lv_iload_n C.x C.bc dX6_walkRefusal_1 rfl (lv_at hl 1 rfl) ?_
  obtain ⟨r_1, hf_1, hx⟩ := bd_e hx
  refine cX6_341_X6_isPoint C hI h hf_1 ⟨Nat.le_of_ble_eq_true rfl, Nat.le_of_ble_eq_true rfl⟩ ⟨Nat.zero_le _, Nat.zero_le _⟩ hl.1 (Nat.le_of_ble_eq_true rfl) dX6_walkRefusal_2 (fun H locs h => ?_)
  refine lv_if_eq (tgt := 16) C.x C.bc dX6_walkRefusal_5 (by decide) (fun c_2 => ?_) (fun c_2 => ?_)
  · have hx := ge_t hx c_2
    exact bX6_walkRefusal_16 C hI st hx h (lv_sub hl [] rfl)
  · have hx := ge_f hx c_2
    refine lv_aload_n C.x C.bc dX6_walkRefusal_8 rfl (lv_at hl 0 rfl) ?_
    refine lv_iload_n C.x C.bc dX6_walkRefusal_9 rfl (lv_at hl 2 rfl) ?_
    obtain ⟨r_3, hf_3, hx⟩ := bd_e hx
    refine cX6_341_X6_isPoint C hI h hf_3 ⟨Nat.le_of_ble_eq_true rfl, Nat.le_of_ble_eq_true rfl⟩ ⟨Nat.zero_le _, Nat.zero_le _⟩ hl.1 (Nat.le_of_ble_eq_true rfl) dX6_walkRefusal_10 (fun H locs h => ?_)
    refine lv_if_ne (tgt := 20) C.x C.bc dX6_walkRefusal_13 (by decide) (fun c_4 => ?_) (fun c_4 => ?_)
    · have hx := ge_f hx c_4
      refine lv_aload_n C.x C.bc dX6_walkRefusal_20 rfl (lv_at hl 0 rfl) ?_
      obtain ⟨⟨r_5, st_5⟩, hf_5, hx⟩ := bd_e hx
      have hx := u2_e hx
      refine cX6_344_X6_tellsGround C hI h hf_5 ⟨Nat.le_of_ble_eq_true rfl, Nat.le_of_ble_eq_true rfl⟩ ⟨Nat.zero_le _, Nat.zero_le _⟩ hl.1 (Nat.le_of_ble_eq_true rfl) dX6_walkRefusal_21 (fun H locs h => ?_)
      refine lv_if_eq (tgt := 31) C.x C.bc dX6_walkRefusal_24 (by decide) (fun c_6 => ?_) (fun c_6 => ?_)
      · have hx := ge_t hx c_6
        refine lv_iconst (v := (2 : Int32)) C.x C.bc dX6_walkRefusal_31 (by decide) ?_
        obtain rfl := Option.some.inj hx
        exact x_iret C h dX6_walkRefusal_32
      · have hx := ge_f hx c_6
        refine lv_iconst (v := (0 : Int32)) C.x C.bc dX6_walkRefusal_27 (by decide) ?_
        refine lv_goto (tgt := 32) C.x C.bc dX6_walkRefusal_28 (by decide) ?_
        obtain rfl := Option.some.inj hx
        exact x_iret C h dX6_walkRefusal_32
    · have hx := ge_t hx c_4
      exact bX6_walkRefusal_16 C hI st hx h (lv_sub hl [] rfl)
theorem mX6_walkRefusal (hG : G0 E s0 b) (hI : Sx E) {v1 : Int32} {v2 : Int32} {x : Int32 × St} (hx : fX6_walkRefusal v1 v2 st = some x) : Mt l E s0 yX6_walkRefusal cX6_walkRefusal 3 (some .int) rmX6_walkRefusal [.ref (E.ad 68), .int v1, .int v2] (sg st) (some (.int x.1)) E (sg x.2) :=
  Mt.of hG (by decide) (Nat.le_of_ble_eq_true rfl) (fun p e s m below meth c ls C h hl => bX6_walkRefusal C hI v1 v2 st hx h hl)
theorem cX6_362_X6_walkRefusal {a0 : Int32} {a1 : Int32} {r : Int32} {st' : St} (C : Cx E s0 b p s m args meth c cc nL "EarthMeshModel" rt) (hI : Sx E) (h : XH E (sg st) s H locs) (hf : fX6_walkRefusal a0 a1 st = some (r, st')) (hR : rmX6_walkRefusal.frames + 1 ≤ R.frames ∧ 16 + (3 + 11) + rmX6_walkRefusal.locals ≤ R.locals) (h0 : cells ≤ R.cells ∧ slots ≤ R.slots) (hsz : ls.size = nL) (hcat : (rest.map fun v => v.category).sum ≤ 16) (hdg : decode cc pc = .ok (.invokevirtual 362, 3)) (kk : ∀ (H : Heap) (locs : List Loc), XH E (sg st') s H locs → W p l e R s m args below meth c H locs cells slots Q (F0 m (pc + 3) ls (.int r :: rest))) : W p l e R s m args below meth c H locs cells slots Q (F0 m pc ls (.int a1 :: .int a0 :: .ref (E.ad 68) :: rest)) :=
  x_callV (n := 2) (As := [.int a0, .int a1]) C h 68 5 (hI 68 (by decide)) k_68 rfl (mX6_walkRefusal C.g hI hf) (lw_V q2030 q2032 qs118 q136 q2033) ⟨rfl, by decide +kernel, by decide +kernel, by decide +kernel⟩ hR ⟨rfl, rfl⟩ h0 rfl hsz rfl hcat hdg kk
abbrev rmX6_walk : Room := { frames := 8, cells := 0, slots := 0, locals := 263 }
def fX6_walk (v1 : Int32) (v2 : Int32) (v3 : Int32) (st : St) : Option (Int64 × St) :=
  nm (uI st 68 1 (0 : Int32)) fun st_1 =>
  bd (fX6_walkRefusal v1 v2 st_1) <| u2 fun r_2 st_2 =>
  if r_2 ≤ 0 then
    bd (fX6_tollTo v1 v2 st_2) <| u2 fun r_4 st_4 =>
    bd (fX6_side r_4 ((40 : Int64) * (st_4.2.1 68 19)) v3) fun r_5 =>
    some (r_5, st_4)
  else
    bd (fX6_fail r_2 st_2) <| u2 fun r_6 st_6 =>
    some ((r_6.toInt64), st_6)
set_option maxHeartbeats 1000000 in
theorem bX6_walk (C : Cx E s0 b p s m args meth c cX6_walk 5 "EarthMeshModel" (some .long)) (hI : Sx E) (v1 : Int32) (v2 : Int32) (v3 : Int32) (st : St) {x : Int64 × St} (hx : fX6_walk v1 v2 v3 st = some x) {H : Heap} {locs : List Loc} {ls : Array Slot} (h : XH E (sg st) s H locs) (hl : lv_has ls 5 [(0, .ref (E.ad 68)), (1, .int v1), (2, .int v2), (3, .int v3)]) : W p l e rmX6_walk s m args below meth c H locs 0 0 (MQ below (Qx E (some (.long x.1)) (sg x.2)) args s 0 0 (gA E.HB)) (F0 m 0 ls []) := by
  unfold fX6_walk at hx
  refine lv_aload_n C.x C.bc dX6_walk_0 rfl (lv_at hl 0 rfl) ?_
  refine lv_iconst (v := (0 : Int32)) C.x C.bc dX6_walk_1 (by decide) ?_
  obtain ⟨st_1, e_1, hx⟩ := nm_x hx
  refine pt_X6_90_68 C hI h e_1 dX6_walk_2 (fun H locs h => ?_)
  refine lv_aload_n C.x C.bc dX6_walk_5 rfl (lv_at hl 0 rfl) ?_
  refine lv_iload_n C.x C.bc dX6_walk_6 rfl (lv_at hl 1 rfl) ?_
  refine lv_iload_n C.x C.bc dX6_walk_7 rfl (lv_at hl 2 rfl) ?_
  obtain ⟨⟨r_2, st_2⟩, hf_2, hx⟩ := bd_e hx
  have hx := u2_e hx
  refine cX6_362_X6_walkRefusal C hI h hf_2 ⟨Nat.le_of_ble_eq_true rfl, Nat.le_of_ble_eq_true rfl⟩ ⟨Nat.zero_le _, Nat.zero_le _⟩ hl.1 (Nat.le_of_ble_eq_true rfl) dX6_walk_8 (fun H locs h => ?_)
  refine lv_istore (lv' := [(4, .int r_2), (0, .ref (E.ad 68)), (1, .int v1), (2, .int v2), (3, .int v3)]) C.x C.bc dX6_walk_11 hl (by decide) rfl (fun ls hl => ?_)
  refine lv_iload C.x C.bc dX6_walk_13 (lv_at hl 0 rfl) ?_
  refine lv_if_le (tgt := 28) C.x C.bc dX6_walk_15 (by decide) (fun c_3 => ?_) (fun c_3 => ?_)
  · have hx := ge_t hx c_3
    refine lv_aload_n C.x C.bc dX6_walk_28 rfl (lv_at hl 1 rfl) ?_
    refine lv_iload_n C.x C.bc dX6_walk_29 rfl (lv_at hl 2 rfl) ?_
    refine lv_iload_n C.x C.bc dX6_walk_30 rfl (lv_at hl 3 rfl) ?_
    obtain ⟨⟨r_4, st_4⟩, hf_4, hx⟩ := bd_e hx
    have hx := u2_e hx
    refine cX6_365_X6_tollTo C hI h hf_4 ⟨Nat.le_of_ble_eq_true rfl, Nat.le_of_ble_eq_true rfl⟩ ⟨Nat.zero_le _, Nat.zero_le _⟩ hl.1 (Nat.le_of_ble_eq_true rfl) dX6_walk_31 (fun H locs h => ?_)
    refine lv_ldc2 (v := (40 : Int64)) C.x C.bc C.ow (C.ts _ q1913) dX6_walk_34 ?_
    refine lv_aload_n C.x C.bc dX6_walk_37 rfl (lv_at hl 1 rfl) ?_
    refine gt_X6_233_68 C hI h dX6_walk_38 ?_
    refine lv_lmul C.x C.bc dX6_walk_41 ?_
    refine lv_iload_n C.x C.bc dX6_walk_42 rfl (lv_at hl 4 rfl) ?_
    obtain ⟨r_5, hf_5, hx⟩ := bd_e hx
    refine cX6_307_X6_side C hI h hf_5 ⟨Nat.le_of_ble_eq_true rfl, Nat.le_of_ble_eq_true rfl⟩ ⟨Nat.zero_le _, Nat.zero_le _⟩ hl.1 (Nat.le_of_ble_eq_true rfl) dX6_walk_43 (fun H locs h => ?_)
    obtain rfl := Option.some.inj hx
    exact x_lret C h dX6_walk_46
  · have hx := ge_f hx c_3
    refine lv_aload_n C.x C.bc dX6_walk_18 rfl (lv_at hl 1 rfl) ?_
    refine lv_iload C.x C.bc dX6_walk_19 (lv_at hl 0 rfl) ?_
    obtain ⟨⟨r_6, st_6⟩, hf_6, hx⟩ := bd_e hx
    have hx := u2_e hx
    refine cX6_182_X6_fail C hI h hf_6 ⟨Nat.le_of_ble_eq_true rfl, Nat.le_of_ble_eq_true rfl⟩ ⟨Nat.zero_le _, Nat.zero_le _⟩ hl.1 (Nat.le_of_ble_eq_true rfl) dX6_walk_21 (fun H locs h => ?_)
    refine lv_i2l (v := (r_6.toInt64)) C.x C.bc dX6_walk_24 rfl ?_
    refine lv_goto (tgt := 46) C.x C.bc dX6_walk_25 (by decide) ?_
    obtain rfl := Option.some.inj hx
    exact x_lret C h dX6_walk_46
theorem mX6_walk (hG : G0 E s0 b) (hI : Sx E) {v1 : Int32} {v2 : Int32} {v3 : Int32} {x : Int64 × St} (hx : fX6_walk v1 v2 v3 st = some x) : Mt l E s0 yX6_walk cX6_walk 5 (some .long) rmX6_walk [.ref (E.ad 68), .int v1, .int v2, .int v3] (sg st) (some (.long x.1)) E (sg x.2) :=
  Mt.of hG (by decide) (Nat.le_of_ble_eq_true rfl) (fun p e s m below meth c ls C h hl => bX6_walk C hI v1 v2 v3 st hx h hl)
abbrev rmX6_walked : Room := { frames := 8, cells := 0, slots := 0, locals := 263 }
def fX6_walked_59 (v1 : Int32) (v2 : Int32) (v4 : Int64) (v6 : Int32) (k1 : Int32) (k2 : Int32) (st : St) : Option ((Int32 × St) ⊕ (St)) :=
  gd (inB k1 35) <|
  nm (uI st 82 k1.toNatClampNeg k2) fun st_9 =>
  nm (v6 + (1 : Int32)) fun v6_10 =>
  some (.inl (v6_10, st_9))
set_option maxHeartbeats 1000000 in
theorem bX6_walked_59 (C : Cx E s0 b p s m args meth c cX6_walked 10 "EarthMeshModel" (some .int)) (hI : Sx E) (v1 : Int32) (v2 : Int32) (v4 : Int64) (v6 : Int32) (k1 : Int32) (k2 : Int32) (st : St) {x : (Int32 × St) ⊕ (St)} (hx : fX6_walked_59 v1 v2 v4 v6 k1 k2 st = some x) {Q : State → Prop} {G : Int32 × St → Prop} {X : St → Prop} (hG : ∀ (w6 : Int32) (wst : St), G (w6, wst) → ∀ (H : Heap) (locs : List Loc) (ls : Array Slot), XH E (sg wst) s H locs → lv_has ls 10 [(0, .ref (E.ad 68)), (1, .int v1), (2, .int v2), (4, .long v4), (6, .int w6)] → W p l e rmX6_walked s m args below meth c H locs 0 0 Q (F0 m 33 ls [])) (hE0 : ∀ (wst : St), X wst → ∀ (H : Heap) (locs : List Loc) (ls : Array Slot), XH E (sg wst) s H locs → lv_has ls 10 [(0, .ref (E.ad 68)), (2, .int v2), (4, .long v4)] → W p l e rmX6_walked s m args below meth c H locs 0 0 Q (F0 m 66 ls [])) (K : Kx G X x) {H : Heap} {locs : List Loc} {ls : Array Slot} (h : XH E (sg st) s H locs) (hl : lv_has ls 10 [(0, .ref (E.ad 68)), (1, .int v1), (2, .int v2), (4, .long v4), (6, .int v6)]) : W p l e rmX6_walked s m args below meth c H locs 0 0 Q (F0 m 59 ls [.int k2, .int k1, .ref (E.ad 82)]) := by
  unfold fX6_walked_59 at hx
  obtain ⟨g_8, hx⟩ := gd_e hx
  obtain ⟨st_9, e_9, hx⟩ := nm_x hx
  refine y_iast C h 82 35 (hI 82 (by decide)) k_82 g_8 e_9 dX6_walked_59 (fun H locs h => ?_)
  obtain ⟨v6_10, e_10, hx⟩ := nm_x hx
  refine lv_iinc (v := v6_10) (lv' := [(6, .int v6_10), (0, .ref (E.ad 68)), (1, .int v1), (2, .int v2), (4, .long v4)]) C.x C.bc dX6_walked_60 hl (k := 4) rfl (by rw [e_10]; rfl) (by decide) rfl (fun ls hl => ?_)
  refine lv_goto (tgt := 33) C.x C.bc dX6_walked_63 (by decide) ?_
  obtain rfl := Option.some.inj hx
  exact hG _ _ K _ _ _ h (lv_sub hl [1, 2, 3, 4, 0] rfl)
def fX6_walked_33 (v1 : Int32) (v2 : Int32) (v4 : Int64) (v6 : Int32) (st : St) : Option ((Int32 × St) ⊕ (St)) :=
  bd (fX6_points st) fun r_5 =>
  if r_5 ≤ v6 then
    some (.inr st)
  else
    if v6 = v1 then
      fX6_walked_59 v1 v2 v4 v6 v6 (0 : Int32) st
    else
      fX6_walked_59 v1 v2 v4 v6 v6 (-1 : Int32) st
set_option maxHeartbeats 1000000 in
theorem bX6_walked_33 (C : Cx E s0 b p s m args meth c cX6_walked 10 "EarthMeshModel" (some .int)) (hI : Sx E) (v1 : Int32) (v2 : Int32) (v4 : Int64) (v6 : Int32) (st : St) {x : (Int32 × St) ⊕ (St)} (hx : fX6_walked_33 v1 v2 v4 v6 st = some x) {Q : State → Prop} {G : Int32 × St → Prop} {X : St → Prop} (hG : ∀ (w6 : Int32) (wst : St), G (w6, wst) → ∀ (H : Heap) (locs : List Loc) (ls : Array Slot), XH E (sg wst) s H locs → lv_has ls 10 [(0, .ref (E.ad 68)), (1, .int v1), (2, .int v2), (4, .long v4), (6, .int w6)] → W p l e rmX6_walked s m args below meth c H locs 0 0 Q (F0 m 33 ls [])) (hE0 : ∀ (wst : St), X wst → ∀ (H : Heap) (locs : List Loc) (ls : Array Slot), XH E (sg wst) s H locs → lv_has ls 10 [(0, .ref (E.ad 68)), (2, .int v2), (4, .long v4)] → W p l e rmX6_walked s m args below meth c H locs 0 0 Q (F0 m 66 ls [])) (K : Kx G X x) {H : Heap} {locs : List Loc} {ls : Array Slot} (h : XH E (sg st) s H locs) (hl : lv_has ls 10 [(0, .ref (E.ad 68)), (1, .int v1), (2, .int v2), (4, .long v4), (6, .int v6)]) : W p l e rmX6_walked s m args below meth c H locs 0 0 Q (F0 m 33 ls []) := by
  unfold fX6_walked_33 at hx
  refine lv_iload C.x C.bc dX6_walked_33 (lv_at hl 4 rfl) ?_
  refine lv_aload_n C.x C.bc dX6_walked_35 rfl (lv_at hl 0 rfl) ?_
  obtain ⟨r_5, hf_5, hx⟩ := bd_e hx
  refine cX6_332_X6_points C hI h hf_5 ⟨Nat.le_of_ble_eq_true rfl, Nat.le_of_ble_eq_true rfl⟩ ⟨Nat.zero_le _, Nat.zero_le _⟩ hl.1 (Nat.le_of_ble_eq_true rfl) dX6_walked_36 (fun H locs h => ?_)
  refine lv_icmp_ge (tgt := 66) C.x C.bc dX6_walked_39 (by decide) (fun c_6 => ?_) (fun c_6 => ?_)
  · have hx := ge_t hx c_6
    obtain rfl := Option.some.inj hx
    exact hE0 _ K _ _ _ h (lv_sub hl [0, 2, 3] rfl)
  · have hx := ge_f hx c_6
    refine lv_aload_n C.x C.bc dX6_walked_42 rfl (lv_at hl 0 rfl) ?_
    refine gt_X6_73_68 C hI h dX6_walked_43 ?_
    refine lv_iload C.x C.bc dX6_walked_46 (lv_at hl 4 rfl) ?_
    refine lv_iload C.x C.bc dX6_walked_48 (lv_at hl 4 rfl) ?_
    refine lv_iload_n C.x C.bc dX6_walked_50 rfl (lv_at hl 1 rfl) ?_
    refine lv_icmp_ne (tgt := 58) C.x C.bc dX6_walked_51 (by decide) (fun c_7 => ?_) (fun c_7 => ?_)
    · have hx := ge_f hx c_7
      refine lv_iconst (v := (-1 : Int32)) C.x C.bc dX6_walked_58 (by decide) ?_
      exact bX6_walked_59 C hI v1 v2 v4 v6 v6 (-1 : Int32) st hx hG hE0 K h (lv_sub hl [0, 1, 2, 3, 4] rfl)
    · have hx := ge_t hx c_7
      refine lv_iconst (v := (0 : Int32)) C.x C.bc dX6_walked_54 (by decide) ?_
      refine lv_goto (tgt := 59) C.x C.bc dX6_walked_55 (by decide) ?_
      exact bX6_walked_59 C hI v1 v2 v4 v6 v6 (0 : Int32) st hx hG hE0 K h (lv_sub hl [0, 1, 2, 3, 4] rfl)
set_option maxHeartbeats 1000000 in
theorem pX6_walked_33 (C : Cx E s0 b p s m args meth c cX6_walked 10 "EarthMeshModel" (some .int)) (hI : Sx E) (v1 : Int32) (v2 : Int32) (v4 : Int64) {Q : State → Prop} {v6 : Int32} {st : St} {n : Nat} {r : St} (hx : iter (u2 fun v6 st => fX6_walked_33 v1 v2 v4 v6 st) n (v6, st) = some r) (hE : (fun t => ∀ (H : Heap) (locs : List Loc) (ls : Array Slot), XH E (sg t) s H locs → lv_has ls 10 [(0, .ref (E.ad 68)), (2, .int v2), (4, .long v4)] → W p l e rmX6_walked s m args below meth c H locs 0 0 Q (F0 m 66 ls [])) r) {H : Heap} {locs : List Loc} {ls : Array Slot} (h : XH E (sg st) s H locs) (hl : lv_has ls 10 [(0, .ref (E.ad 68)), (1, .int v1), (2, .int v2), (4, .long v4), (6, .int v6)]) : W p l e rmX6_walked s m args below meth c H locs 0 0 Q (F0 m 33 ls []) := by
  refine iter_W (G := fun t => ∀ (H : Heap) (locs : List Loc) (ls : Array Slot), XH E (sg t.2) s H locs → lv_has ls 10 [(0, .ref (E.ad 68)), (1, .int v1), (2, .int v2), (4, .long v4), (6, .int t.1)] → W p l e rmX6_walked s m args below meth c H locs 0 0 Q (F0 m 33 ls [])) (E := fun t => ∀ (H : Heap) (locs : List Loc) (ls : Array Slot), XH E (sg t) s H locs → lv_has ls 10 [(0, .ref (E.ad 68)), (2, .int v2), (4, .long v4)] → W p l e rmX6_walked s m args below meth c H locs 0 0 Q (F0 m 66 ls [])) (fun t x hx K H locs ls h hl => ?_) n _ r hx hE H locs ls h hl
  obtain ⟨v6, st⟩ := t
  exact bX6_walked_33 C hI v1 v2 v4 v6 st hx (fun _ _ z => z) (fun _ z => z) K h hl
def fX6_walked_204 (v2 : Int32) (v4 : Int64) (v6 : Int32) (v7 : Int32) (v8 : Int32) (st : St) : Option ((Int32 × St) ⊕ (St)) :=
  nm (v8 + (1 : Int32)) fun v8_19 =>
  some (.inl (v8_19, st))
set_option maxHeartbeats 1000000 in
theorem bX6_walked_204 (C : Cx E s0 b p s m args meth c cX6_walked 10 "EarthMeshModel" (some .int)) (hI : Sx E) (v2 : Int32) (v4 : Int64) (v6 : Int32) (v7 : Int32) (v8 : Int32) (st : St) {x : (Int32 × St) ⊕ (St)} (hx : fX6_walked_204 v2 v4 v6 v7 v8 st = some x) {Q : State → Prop} {G : Int32 × St → Prop} {X : St → Prop} (hG : ∀ (w8 : Int32) (wst : St), G (w8, wst) → ∀ (H : Heap) (locs : List Loc) (ls : Array Slot), XH E (sg wst) s H locs → lv_has ls 10 [(0, .ref (E.ad 68)), (2, .int v2), (4, .long v4), (6, .int v6), (7, .int v7), (8, .int w8)] → W p l e rmX6_walked s m args below meth c H locs 0 0 Q (F0 m 94 ls [])) (hE0 : ∀ (wst : St), X wst → ∀ (H : Heap) (locs : List Loc) (ls : Array Slot), XH E (sg wst) s H locs → lv_has ls 10 [(0, .ref (E.ad 68)), (2, .int v2), (4, .long v4), (6, .int v6), (7, .int v7)] → W p l e rmX6_walked s m args below meth c H locs 0 0 Q (F0 m 210 ls [])) (K : Kx G X x) {H : Heap} {locs : List Loc} {ls : Array Slot} (h : XH E (sg st) s H locs) (hl : lv_has ls 10 [(0, .ref (E.ad 68)), (2, .int v2), (4, .long v4), (6, .int v6), (7, .int v7), (8, .int v8)]) : W p l e rmX6_walked s m args below meth c H locs 0 0 Q (F0 m 204 ls []) := by
  unfold fX6_walked_204 at hx
  obtain ⟨v8_19, e_19, hx⟩ := nm_x hx
  refine lv_iinc (v := v8_19) (lv' := [(8, .int v8_19), (0, .ref (E.ad 68)), (2, .int v2), (4, .long v4), (6, .int v6), (7, .int v7)]) C.x C.bc dX6_walked_204 hl (k := 5) rfl (by rw [e_19]; rfl) (by decide) rfl (fun ls hl => ?_)
  refine lv_goto (tgt := 94) C.x C.bc dX6_walked_207 (by decide) ?_
  obtain rfl := Option.some.inj hx
  exact hG _ _ K _ _ _ h (lv_sub hl [1, 2, 3, 4, 5, 0] rfl)
def fX6_walked_170 (v2 : Int32) (v4 : Int64) (v6 : Int32) (v7 : Int32) (v8 : Int32) (v9 : Int32) (st : St) : Option ((Int32 × St) ⊕ (St)) :=
  gd (inB v9 35) <|
  if (st.1 82 v9.toNatClampNeg) = v6 then
    gd (inB v7 35) <|
    if (st.1 82 v7.toNatClampNeg) = (-1 : Int32) then
      gd (inB v7 35) <|
      nm (uI st 82 v7.toNatClampNeg (v6 + (1 : Int32))) fun st_29 =>
      fX6_walked_204 v2 v4 v6 v7 v8 st_29
    else
      fX6_walked_204 v2 v4 v6 v7 v8 st
  else
    fX6_walked_204 v2 v4 v6 v7 v8 st
set_option maxHeartbeats 1000000 in
theorem bX6_walked_170 (C : Cx E s0 b p s m args meth c cX6_walked 10 "EarthMeshModel" (some .int)) (hI : Sx E) (v2 : Int32) (v4 : Int64) (v6 : Int32) (v7 : Int32) (v8 : Int32) (v9 : Int32) (st : St) {x : (Int32 × St) ⊕ (St)} (hx : fX6_walked_170 v2 v4 v6 v7 v8 v9 st = some x) {Q : State → Prop} {G : Int32 × St → Prop} {X : St → Prop} (hG : ∀ (w8 : Int32) (wst : St), G (w8, wst) → ∀ (H : Heap) (locs : List Loc) (ls : Array Slot), XH E (sg wst) s H locs → lv_has ls 10 [(0, .ref (E.ad 68)), (2, .int v2), (4, .long v4), (6, .int v6), (7, .int v7), (8, .int w8)] → W p l e rmX6_walked s m args below meth c H locs 0 0 Q (F0 m 94 ls [])) (hE0 : ∀ (wst : St), X wst → ∀ (H : Heap) (locs : List Loc) (ls : Array Slot), XH E (sg wst) s H locs → lv_has ls 10 [(0, .ref (E.ad 68)), (2, .int v2), (4, .long v4), (6, .int v6), (7, .int v7)] → W p l e rmX6_walked s m args below meth c H locs 0 0 Q (F0 m 210 ls [])) (K : Kx G X x) {H : Heap} {locs : List Loc} {ls : Array Slot} (h : XH E (sg st) s H locs) (hl : lv_has ls 10 [(0, .ref (E.ad 68)), (2, .int v2), (4, .long v4), (6, .int v6), (7, .int v7), (8, .int v8), (9, .int v9)]) : W p l e rmX6_walked s m args below meth c H locs 0 0 Q (F0 m 170 ls []) := by
  unfold fX6_walked_170 at hx
  refine lv_aload_n C.x C.bc dX6_walked_170 rfl (lv_at hl 0 rfl) ?_
  refine gt_X6_73_68 C hI h dX6_walked_171 ?_
  refine lv_iload C.x C.bc dX6_walked_174 (lv_at hl 6 rfl) ?_
  obtain ⟨g_24, hx⟩ := gd_e hx
  refine x_iald C h 82 35 (hI 82 (by decide)) k_82 g_24 dX6_walked_176 ?_
  refine lv_iload C.x C.bc dX6_walked_177 (lv_at hl 3 rfl) ?_
  refine lv_icmp_ne (tgt := 204) C.x C.bc dX6_walked_179 (by decide) (fun c_25 => ?_) (fun c_25 => ?_)
  · have hx := ge_f hx c_25
    exact bX6_walked_204 C hI v2 v4 v6 v7 v8 st hx hG hE0 K h (lv_sub hl [0, 1, 2, 3, 4, 5] rfl)
  · have hx := ge_t hx c_25
    refine lv_aload_n C.x C.bc dX6_walked_182 rfl (lv_at hl 0 rfl) ?_
    refine gt_X6_73_68 C hI h dX6_walked_183 ?_
    refine lv_iload C.x C.bc dX6_walked_186 (lv_at hl 4 rfl) ?_
    obtain ⟨g_26, hx⟩ := gd_e hx
    refine x_iald C h 82 35 (hI 82 (by decide)) k_82 g_26 dX6_walked_188 ?_
    refine lv_iconst (v := (-1 : Int32)) C.x C.bc dX6_walked_189 (by decide) ?_
    refine lv_icmp_ne (tgt := 204) C.x C.bc dX6_walked_190 (by decide) (fun c_27 => ?_) (fun c_27 => ?_)
    · have hx := ge_f hx c_27
      exact bX6_walked_204 C hI v2 v4 v6 v7 v8 st hx hG hE0 K h (lv_sub hl [0, 1, 2, 3, 4, 5] rfl)
    · have hx := ge_t hx c_27
      refine lv_aload_n C.x C.bc dX6_walked_193 rfl (lv_at hl 0 rfl) ?_
      refine gt_X6_73_68 C hI h dX6_walked_194 ?_
      refine lv_iload C.x C.bc dX6_walked_197 (lv_at hl 4 rfl) ?_
      refine lv_iload C.x C.bc dX6_walked_199 (lv_at hl 3 rfl) ?_
      refine lv_iconst (v := (1 : Int32)) C.x C.bc dX6_walked_201 (by decide) ?_
      refine lv_iadd C.x C.bc dX6_walked_202 ?_
      obtain ⟨g_28, hx⟩ := gd_e hx
      obtain ⟨st_29, e_29, hx⟩ := nm_x hx
      refine y_iast C h 82 35 (hI 82 (by decide)) k_82 g_28 e_29 dX6_walked_203 (fun H locs h => ?_)
      exact bX6_walked_204 C hI v2 v4 v6 v7 v8 st_29 hx hG hE0 K h (lv_sub hl [0, 1, 2, 3, 4, 5] rfl)
def fX6_walked_94 (v2 : Int32) (v4 : Int64) (v6 : Int32) (v7 : Int32) (v8 : Int32) (st : St) : Option ((Int32 × St) ⊕ (St)) :=
  if (1 : Int32) < v8 then
    some (.inr st)
  else
    bd (fX6_beside v7 v8 st) fun r_17 =>
    if r_17 = (-1 : Int32) then
      fX6_walked_204 v2 v4 v6 v7 v8 st
    else
      bd (fX6_step v7 v8 st) fun r_20 =>
      if v4 < r_20 then
        fX6_walked_204 v2 v4 v6 v7 v8 st
      else
        gd (inB v7 35) <|
        if (st.1 82 v7.toNatClampNeg) = v6 then
          gd (inB r_17 35) <|
          if (st.1 82 r_17.toNatClampNeg) = (-1 : Int32) then
            gd (inB r_17 35) <|
            nm (uI st 82 r_17.toNatClampNeg (v6 + (1 : Int32))) fun st_33 =>
            fX6_walked_204 v2 v4 v6 v7 v8 st_33
          else
            fX6_walked_170 v2 v4 v6 v7 v8 r_17 st
        else
          fX6_walked_170 v2 v4 v6 v7 v8 r_17 st
set_option maxHeartbeats 1000000 in
theorem bX6_walked_94 (C : Cx E s0 b p s m args meth c cX6_walked 10 "EarthMeshModel" (some .int)) (hI : Sx E) (v2 : Int32) (v4 : Int64) (v6 : Int32) (v7 : Int32) (v8 : Int32) (st : St) {x : (Int32 × St) ⊕ (St)} (hx : fX6_walked_94 v2 v4 v6 v7 v8 st = some x) {Q : State → Prop} {G : Int32 × St → Prop} {X : St → Prop} (hG : ∀ (w8 : Int32) (wst : St), G (w8, wst) → ∀ (H : Heap) (locs : List Loc) (ls : Array Slot), XH E (sg wst) s H locs → lv_has ls 10 [(0, .ref (E.ad 68)), (2, .int v2), (4, .long v4), (6, .int v6), (7, .int v7), (8, .int w8)] → W p l e rmX6_walked s m args below meth c H locs 0 0 Q (F0 m 94 ls [])) (hE0 : ∀ (wst : St), X wst → ∀ (H : Heap) (locs : List Loc) (ls : Array Slot), XH E (sg wst) s H locs → lv_has ls 10 [(0, .ref (E.ad 68)), (2, .int v2), (4, .long v4), (6, .int v6), (7, .int v7)] → W p l e rmX6_walked s m args below meth c H locs 0 0 Q (F0 m 210 ls [])) (K : Kx G X x) {H : Heap} {locs : List Loc} {ls : Array Slot} (h : XH E (sg st) s H locs) (hl : lv_has ls 10 [(0, .ref (E.ad 68)), (2, .int v2), (4, .long v4), (6, .int v6), (7, .int v7), (8, .int v8)]) : W p l e rmX6_walked s m args below meth c H locs 0 0 Q (F0 m 94 ls []) := by
  unfold fX6_walked_94 at hx
  refine lv_iload C.x C.bc dX6_walked_94 (lv_at hl 5 rfl) ?_
  refine lv_iconst (v := (1 : Int32)) C.x C.bc dX6_walked_96 (by decide) ?_
  refine lv_icmp_gt (tgt := 210) C.x C.bc dX6_walked_97 (by decide) (fun c_16 => ?_) (fun c_16 => ?_)
  · have hx := ge_t hx c_16
    obtain rfl := Option.some.inj hx
    exact hE0 _ K _ _ _ h (lv_sub hl [0, 1, 2, 3, 4] rfl)
  · have hx := ge_f hx c_16
    refine lv_aload_n C.x C.bc dX6_walked_100 rfl (lv_at hl 0 rfl) ?_
    refine lv_iload C.x C.bc dX6_walked_101 (lv_at hl 4 rfl) ?_
    refine lv_iload C.x C.bc dX6_walked_103 (lv_at hl 5 rfl) ?_
    obtain ⟨r_17, hf_17, hx⟩ := bd_e hx
    refine cX6_338_X6_beside C hI h hf_17 ⟨Nat.le_of_ble_eq_true rfl, Nat.le_of_ble_eq_true rfl⟩ ⟨Nat.zero_le _, Nat.zero_le _⟩ hl.1 (Nat.le_of_ble_eq_true rfl) dX6_walked_105 (fun H locs h => ?_)
    refine lv_istore (lv' := [(9, .int r_17), (0, .ref (E.ad 68)), (2, .int v2), (4, .long v4), (6, .int v6), (7, .int v7), (8, .int v8)]) C.x C.bc dX6_walked_108 hl (by decide) rfl (fun ls hl => ?_)
    refine lv_iload C.x C.bc dX6_walked_110 (lv_at hl 0 rfl) ?_
    refine lv_iconst (v := (-1 : Int32)) C.x C.bc dX6_walked_112 (by decide) ?_
    refine lv_icmp_eq (tgt := 204) C.x C.bc dX6_walked_113 (by decide) (fun c_18 => ?_) (fun c_18 => ?_)
    · have hx := ge_t hx c_18
      exact bX6_walked_204 C hI v2 v4 v6 v7 v8 st hx hG hE0 K h (lv_sub hl [1, 2, 3, 4, 5, 6] rfl)
    · have hx := ge_f hx c_18
      refine lv_aload_n C.x C.bc dX6_walked_116 rfl (lv_at hl 1 rfl) ?_
      refine lv_iload C.x C.bc dX6_walked_117 (lv_at hl 5 rfl) ?_
      refine lv_iload C.x C.bc dX6_walked_119 (lv_at hl 6 rfl) ?_
      obtain ⟨r_20, hf_20, hx⟩ := bd_e hx
      refine cX6_347_X6_step C hI h hf_20 ⟨Nat.le_of_ble_eq_true rfl, Nat.le_of_ble_eq_true rfl⟩ ⟨Nat.zero_le _, Nat.zero_le _⟩ hl.1 (Nat.le_of_ble_eq_true rfl) dX6_walked_121 (fun H locs h => ?_)
      refine lv_lload C.x C.bc dX6_walked_124 (lv_at hl 3 rfl) ?_
      refine W.lcmp C.x C.bc dX6_walked_126 ?_
      refine lv_if_le (tgt := 133) C.x C.bc dX6_walked_127 (by decide) (fun c_21 => ?_) (fun c_21 => ?_)
      · have c_21 := (lc_le _ _).mp c_21
        have hx := ge_f hx c_21
        refine lv_aload_n C.x C.bc dX6_walked_133 rfl (lv_at hl 1 rfl) ?_
        refine gt_X6_73_68 C hI h dX6_walked_134 ?_
        refine lv_iload C.x C.bc dX6_walked_137 (lv_at hl 5 rfl) ?_
        obtain ⟨g_22, hx⟩ := gd_e hx
        refine x_iald C h 82 35 (hI 82 (by decide)) k_82 g_22 dX6_walked_139 ?_
        refine lv_iload C.x C.bc dX6_walked_140 (lv_at hl 4 rfl) ?_
        refine lv_icmp_ne (tgt := 170) C.x C.bc dX6_walked_142 (by decide) (fun c_23 => ?_) (fun c_23 => ?_)
        · have hx := ge_f hx c_23
          exact bX6_walked_170 C hI v2 v4 v6 v7 v8 r_17 st hx hG hE0 K h (lv_sub hl [1, 2, 3, 4, 5, 6, 0] rfl)
        · have hx := ge_t hx c_23
          refine lv_aload_n C.x C.bc dX6_walked_145 rfl (lv_at hl 1 rfl) ?_
          refine gt_X6_73_68 C hI h dX6_walked_146 ?_
          refine lv_iload C.x C.bc dX6_walked_149 (lv_at hl 0 rfl) ?_
          obtain ⟨g_30, hx⟩ := gd_e hx
          refine x_iald C h 82 35 (hI 82 (by decide)) k_82 g_30 dX6_walked_151 ?_
          refine lv_iconst (v := (-1 : Int32)) C.x C.bc dX6_walked_152 (by decide) ?_
          refine lv_icmp_ne (tgt := 170) C.x C.bc dX6_walked_153 (by decide) (fun c_31 => ?_) (fun c_31 => ?_)
          · have hx := ge_f hx c_31
            exact bX6_walked_170 C hI v2 v4 v6 v7 v8 r_17 st hx hG hE0 K h (lv_sub hl [1, 2, 3, 4, 5, 6, 0] rfl)
          · have hx := ge_t hx c_31
            refine lv_aload_n C.x C.bc dX6_walked_156 rfl (lv_at hl 1 rfl) ?_
            refine gt_X6_73_68 C hI h dX6_walked_157 ?_
            refine lv_iload C.x C.bc dX6_walked_160 (lv_at hl 0 rfl) ?_
            refine lv_iload C.x C.bc dX6_walked_162 (lv_at hl 4 rfl) ?_
            refine lv_iconst (v := (1 : Int32)) C.x C.bc dX6_walked_164 (by decide) ?_
            refine lv_iadd C.x C.bc dX6_walked_165 ?_
            obtain ⟨g_32, hx⟩ := gd_e hx
            obtain ⟨st_33, e_33, hx⟩ := nm_x hx
            refine y_iast C h 82 35 (hI 82 (by decide)) k_82 g_32 e_33 dX6_walked_166 (fun H locs h => ?_)
            refine lv_goto (tgt := 204) C.x C.bc dX6_walked_167 (by decide) ?_
            exact bX6_walked_204 C hI v2 v4 v6 v7 v8 st_33 hx hG hE0 K h (lv_sub hl [1, 2, 3, 4, 5, 6] rfl)
      · have c_21 := Classical.not_not.mp ((not_congr (lc_le _ _)).mp c_21)
        have hx := ge_t hx c_21
        refine lv_goto (tgt := 204) C.x C.bc dX6_walked_130 (by decide) ?_
        exact bX6_walked_204 C hI v2 v4 v6 v7 v8 st hx hG hE0 K h (lv_sub hl [1, 2, 3, 4, 5, 6] rfl)
set_option maxHeartbeats 1000000 in
theorem pX6_walked_94 (C : Cx E s0 b p s m args meth c cX6_walked 10 "EarthMeshModel" (some .int)) (hI : Sx E) (v2 : Int32) (v4 : Int64) (v6 : Int32) (v7 : Int32) {Q : State → Prop} {v8 : Int32} {st : St} {n : Nat} {r : St} (hx : iter (u2 fun v8 st => fX6_walked_94 v2 v4 v6 v7 v8 st) n (v8, st) = some r) (hE : (fun t => ∀ (H : Heap) (locs : List Loc) (ls : Array Slot), XH E (sg t) s H locs → lv_has ls 10 [(0, .ref (E.ad 68)), (2, .int v2), (4, .long v4), (6, .int v6), (7, .int v7)] → W p l e rmX6_walked s m args below meth c H locs 0 0 Q (F0 m 210 ls [])) r) {H : Heap} {locs : List Loc} {ls : Array Slot} (h : XH E (sg st) s H locs) (hl : lv_has ls 10 [(0, .ref (E.ad 68)), (2, .int v2), (4, .long v4), (6, .int v6), (7, .int v7), (8, .int v8)]) : W p l e rmX6_walked s m args below meth c H locs 0 0 Q (F0 m 94 ls []) := by
  refine iter_W (G := fun t => ∀ (H : Heap) (locs : List Loc) (ls : Array Slot), XH E (sg t.2) s H locs → lv_has ls 10 [(0, .ref (E.ad 68)), (2, .int v2), (4, .long v4), (6, .int v6), (7, .int v7), (8, .int t.1)] → W p l e rmX6_walked s m args below meth c H locs 0 0 Q (F0 m 94 ls [])) (E := fun t => ∀ (H : Heap) (locs : List Loc) (ls : Array Slot), XH E (sg t) s H locs → lv_has ls 10 [(0, .ref (E.ad 68)), (2, .int v2), (4, .long v4), (6, .int v6), (7, .int v7)] → W p l e rmX6_walked s m args below meth c H locs 0 0 Q (F0 m 210 ls [])) (fun t x hx K H locs ls h hl => ?_) n _ r hx hE H locs ls h hl
  obtain ⟨v8, st⟩ := t
  exact bX6_walked_94 C hI v2 v4 v6 v7 v8 st hx (fun _ _ z => z) (fun _ z => z) K h hl
def fX6_walked_82 (v2 : Int32) (v4 : Int64) (v6 : Int32) (v7 : Int32) (st : St) : Option ((Int32 × St) ⊕ (St)) :=
  bd (fX6_points st) fun r_14 =>
  if r_14 ≤ v7 then
    some (.inr st)
  else
    bd (iter (u2 fun z8 zst => fX6_walked_94 v2 v4 v6 v7 z8 zst) FU ((0 : Int32), st)) (u1 fun st_34 =>
    nm (v7 + (1 : Int32)) fun v7_35 =>
    some (.inl (v7_35, st_34)))
set_option maxHeartbeats 1000000 in
theorem bX6_walked_82 (C : Cx E s0 b p s m args meth c cX6_walked 10 "EarthMeshModel" (some .int)) (hI : Sx E) (v2 : Int32) (v4 : Int64) (v6 : Int32) (v7 : Int32) (st : St) {x : (Int32 × St) ⊕ (St)} (hx : fX6_walked_82 v2 v4 v6 v7 st = some x) {Q : State → Prop} {G : Int32 × St → Prop} {X : St → Prop} (hG : ∀ (w7 : Int32) (wst : St), G (w7, wst) → ∀ (H : Heap) (locs : List Loc) (ls : Array Slot), XH E (sg wst) s H locs → lv_has ls 10 [(0, .ref (E.ad 68)), (2, .int v2), (4, .long v4), (6, .int v6), (7, .int w7)] → W p l e rmX6_walked s m args below meth c H locs 0 0 Q (F0 m 82 ls [])) (hE0 : ∀ (wst : St), X wst → ∀ (H : Heap) (locs : List Loc) (ls : Array Slot), XH E (sg wst) s H locs → lv_has ls 10 [(0, .ref (E.ad 68)), (2, .int v2), (4, .long v4), (6, .int v6)] → W p l e rmX6_walked s m args below meth c H locs 0 0 Q (F0 m 216 ls [])) (K : Kx G X x) {H : Heap} {locs : List Loc} {ls : Array Slot} (h : XH E (sg st) s H locs) (hl : lv_has ls 10 [(0, .ref (E.ad 68)), (2, .int v2), (4, .long v4), (6, .int v6), (7, .int v7)]) : W p l e rmX6_walked s m args below meth c H locs 0 0 Q (F0 m 82 ls []) := by
  unfold fX6_walked_82 at hx
  refine lv_iload C.x C.bc dX6_walked_82 (lv_at hl 4 rfl) ?_
  refine lv_aload_n C.x C.bc dX6_walked_84 rfl (lv_at hl 0 rfl) ?_
  obtain ⟨r_14, hf_14, hx⟩ := bd_e hx
  refine cX6_332_X6_points C hI h hf_14 ⟨Nat.le_of_ble_eq_true rfl, Nat.le_of_ble_eq_true rfl⟩ ⟨Nat.zero_le _, Nat.zero_le _⟩ hl.1 (Nat.le_of_ble_eq_true rfl) dX6_walked_85 (fun H locs h => ?_)
  refine lv_icmp_ge (tgt := 216) C.x C.bc dX6_walked_88 (by decide) (fun c_15 => ?_) (fun c_15 => ?_)
  · have hx := ge_t hx c_15
    obtain rfl := Option.some.inj hx
    exact hE0 _ K _ _ _ h (lv_sub hl [0, 1, 2, 3] rfl)
  · have hx := ge_f hx c_15
    refine lv_iconst (v := (0 : Int32)) C.x C.bc dX6_walked_91 (by decide) ?_
    refine lv_istore (lv' := [(8, .int (0 : Int32)), (0, .ref (E.ad 68)), (2, .int v2), (4, .long v4), (6, .int v6), (7, .int v7)]) C.x C.bc dX6_walked_92 hl (by decide) rfl (fun ls hl => ?_)
    obtain ⟨st_34, hi_34, hx⟩ := bd_e hx
    have hx := u1_e hx
    refine pX6_walked_94 C hI v2 v4 v6 v7 hi_34 (fun H locs ls h hl => ?_) h (lv_sub hl [1, 2, 3, 4, 5, 0] rfl)
    obtain ⟨v7_35, e_35, hx⟩ := nm_x hx
    refine lv_iinc (v := v7_35) (lv' := [(7, .int v7_35), (0, .ref (E.ad 68)), (2, .int v2), (4, .long v4), (6, .int v6)]) C.x C.bc dX6_walked_210 hl (k := 4) rfl (by rw [e_35]; rfl) (by decide) rfl (fun ls hl => ?_)
    refine lv_goto (tgt := 82) C.x C.bc dX6_walked_213 (by decide) ?_
    obtain rfl := Option.some.inj hx
    exact hG _ _ K _ _ _ h (lv_sub hl [1, 2, 3, 4, 0] rfl)
set_option maxHeartbeats 1000000 in
theorem pX6_walked_82 (C : Cx E s0 b p s m args meth c cX6_walked 10 "EarthMeshModel" (some .int)) (hI : Sx E) (v2 : Int32) (v4 : Int64) (v6 : Int32) {Q : State → Prop} {v7 : Int32} {st : St} {n : Nat} {r : St} (hx : iter (u2 fun v7 st => fX6_walked_82 v2 v4 v6 v7 st) n (v7, st) = some r) (hE : (fun t => ∀ (H : Heap) (locs : List Loc) (ls : Array Slot), XH E (sg t) s H locs → lv_has ls 10 [(0, .ref (E.ad 68)), (2, .int v2), (4, .long v4), (6, .int v6)] → W p l e rmX6_walked s m args below meth c H locs 0 0 Q (F0 m 216 ls [])) r) {H : Heap} {locs : List Loc} {ls : Array Slot} (h : XH E (sg st) s H locs) (hl : lv_has ls 10 [(0, .ref (E.ad 68)), (2, .int v2), (4, .long v4), (6, .int v6), (7, .int v7)]) : W p l e rmX6_walked s m args below meth c H locs 0 0 Q (F0 m 82 ls []) := by
  refine iter_W (G := fun t => ∀ (H : Heap) (locs : List Loc) (ls : Array Slot), XH E (sg t.2) s H locs → lv_has ls 10 [(0, .ref (E.ad 68)), (2, .int v2), (4, .long v4), (6, .int v6), (7, .int t.1)] → W p l e rmX6_walked s m args below meth c H locs 0 0 Q (F0 m 82 ls [])) (E := fun t => ∀ (H : Heap) (locs : List Loc) (ls : Array Slot), XH E (sg t) s H locs → lv_has ls 10 [(0, .ref (E.ad 68)), (2, .int v2), (4, .long v4), (6, .int v6)] → W p l e rmX6_walked s m args below meth c H locs 0 0 Q (F0 m 216 ls [])) (fun t x hx K H locs ls h hl => ?_) n _ r hx hE H locs ls h hl
  obtain ⟨v7, st⟩ := t
  exact bX6_walked_82 C hI v2 v4 v6 v7 st hx (fun _ _ z => z) (fun _ z => z) K h hl
def fX6_walked_69 (v2 : Int32) (v4 : Int64) (v6 : Int32) (st : St) : Option ((Int32 × St) ⊕ (St)) :=
  gd (inB v2 35) <|
  if (st.1 82 v2.toNatClampNeg) = (-1 : Int32) then
    bd (iter (u2 fun z7 zst => fX6_walked_82 v2 v4 v6 z7 zst) FU ((0 : Int32), st)) (u1 fun st_36 =>
    nm (v6 + (1 : Int32)) fun v6_37 =>
    some (.inl (v6_37, st_36)))
  else
    some (.inr st)
set_option maxHeartbeats 1000000 in
theorem bX6_walked_69 (C : Cx E s0 b p s m args meth c cX6_walked 10 "EarthMeshModel" (some .int)) (hI : Sx E) (v2 : Int32) (v4 : Int64) (v6 : Int32) (st : St) {x : (Int32 × St) ⊕ (St)} (hx : fX6_walked_69 v2 v4 v6 st = some x) {Q : State → Prop} {G : Int32 × St → Prop} {X : St → Prop} (hG : ∀ (w6 : Int32) (wst : St), G (w6, wst) → ∀ (H : Heap) (locs : List Loc) (ls : Array Slot), XH E (sg wst) s H locs → lv_has ls 10 [(0, .ref (E.ad 68)), (2, .int v2), (4, .long v4), (6, .int w6)] → W p l e rmX6_walked s m args below meth c H locs 0 0 Q (F0 m 69 ls [])) (hE0 : ∀ (wst : St), X wst → ∀ (H : Heap) (locs : List Loc) (ls : Array Slot), XH E (sg wst) s H locs → lv_has ls 10 [(0, .ref (E.ad 68)), (2, .int v2)] → W p l e rmX6_walked s m args below meth c H locs 0 0 Q (F0 m 222 ls [])) (K : Kx G X x) {H : Heap} {locs : List Loc} {ls : Array Slot} (h : XH E (sg st) s H locs) (hl : lv_has ls 10 [(0, .ref (E.ad 68)), (2, .int v2), (4, .long v4), (6, .int v6)]) : W p l e rmX6_walked s m args below meth c H locs 0 0 Q (F0 m 69 ls []) := by
  unfold fX6_walked_69 at hx
  refine lv_aload_n C.x C.bc dX6_walked_69 rfl (lv_at hl 0 rfl) ?_
  refine gt_X6_73_68 C hI h dX6_walked_70 ?_
  refine lv_iload_n C.x C.bc dX6_walked_73 rfl (lv_at hl 1 rfl) ?_
  obtain ⟨g_12, hx⟩ := gd_e hx
  refine x_iald C h 82 35 (hI 82 (by decide)) k_82 g_12 dX6_walked_74 ?_
  refine lv_iconst (v := (-1 : Int32)) C.x C.bc dX6_walked_75 (by decide) ?_
  refine lv_icmp_ne (tgt := 222) C.x C.bc dX6_walked_76 (by decide) (fun c_13 => ?_) (fun c_13 => ?_)
  · have hx := ge_f hx c_13
    obtain rfl := Option.some.inj hx
    exact hE0 _ K _ _ _ h (lv_sub hl [0, 1] rfl)
  · have hx := ge_t hx c_13
    refine lv_iconst (v := (0 : Int32)) C.x C.bc dX6_walked_79 (by decide) ?_
    refine lv_istore (lv' := [(7, .int (0 : Int32)), (0, .ref (E.ad 68)), (2, .int v2), (4, .long v4), (6, .int v6)]) C.x C.bc dX6_walked_80 hl (by decide) rfl (fun ls hl => ?_)
    obtain ⟨st_36, hi_36, hx⟩ := bd_e hx
    have hx := u1_e hx
    refine pX6_walked_82 C hI v2 v4 v6 hi_36 (fun H locs ls h hl => ?_) h (lv_sub hl [1, 2, 3, 4, 0] rfl)
    obtain ⟨v6_37, e_37, hx⟩ := nm_x hx
    refine lv_iinc (v := v6_37) (lv' := [(6, .int v6_37), (0, .ref (E.ad 68)), (2, .int v2), (4, .long v4)]) C.x C.bc dX6_walked_216 hl (k := 3) rfl (by rw [e_37]; rfl) (by decide) rfl (fun ls hl => ?_)
    refine lv_goto (tgt := 69) C.x C.bc dX6_walked_219 (by decide) ?_
    obtain rfl := Option.some.inj hx
    exact hG _ _ K _ _ _ h (lv_sub hl [1, 2, 3, 0] rfl)
set_option maxHeartbeats 1000000 in
theorem pX6_walked_69 (C : Cx E s0 b p s m args meth c cX6_walked 10 "EarthMeshModel" (some .int)) (hI : Sx E) (v2 : Int32) (v4 : Int64) {Q : State → Prop} {v6 : Int32} {st : St} {n : Nat} {r : St} (hx : iter (u2 fun v6 st => fX6_walked_69 v2 v4 v6 st) n (v6, st) = some r) (hE : (fun t => ∀ (H : Heap) (locs : List Loc) (ls : Array Slot), XH E (sg t) s H locs → lv_has ls 10 [(0, .ref (E.ad 68)), (2, .int v2)] → W p l e rmX6_walked s m args below meth c H locs 0 0 Q (F0 m 222 ls [])) r) {H : Heap} {locs : List Loc} {ls : Array Slot} (h : XH E (sg st) s H locs) (hl : lv_has ls 10 [(0, .ref (E.ad 68)), (2, .int v2), (4, .long v4), (6, .int v6)]) : W p l e rmX6_walked s m args below meth c H locs 0 0 Q (F0 m 69 ls []) := by
  refine iter_W (G := fun t => ∀ (H : Heap) (locs : List Loc) (ls : Array Slot), XH E (sg t.2) s H locs → lv_has ls 10 [(0, .ref (E.ad 68)), (2, .int v2), (4, .long v4), (6, .int t.1)] → W p l e rmX6_walked s m args below meth c H locs 0 0 Q (F0 m 69 ls [])) (E := fun t => ∀ (H : Heap) (locs : List Loc) (ls : Array Slot), XH E (sg t) s H locs → lv_has ls 10 [(0, .ref (E.ad 68)), (2, .int v2)] → W p l e rmX6_walked s m args below meth c H locs 0 0 Q (F0 m 222 ls [])) (fun t x hx K H locs ls h hl => ?_) n _ r hx hE H locs ls h hl
  obtain ⟨v6, st⟩ := t
  exact bX6_walked_69 C hI v2 v4 v6 st hx (fun _ _ z => z) (fun _ z => z) K h hl
def fX6_walked (v1 : Int32) (v2 : Int32) (st : St) : Option (Int32 × St) :=
  nm (uI st 68 1 (0 : Int32)) fun st_1 =>
  bd (fX6_walkRefusal v1 v2 st_1) <| u2 fun r_2 st_2 =>
  if r_2 ≤ 0 then
    bd (fX6_tollTo v1 v2 st_2) <| u2 fun r_4 st_4 =>
    bd (iter (u2 fun z6 zst => fX6_walked_33 v1 v2 r_4 z6 zst) FU ((0 : Int32), st_4)) (u1 fun st_11 =>
    bd (iter (u2 fun z6 zst => fX6_walked_69 v2 r_4 z6 zst) FU ((0 : Int32), st_11)) (u1 fun st_38 =>
    gd (inB v2 35) <|
    some ((st_38.1 82 v2.toNatClampNeg), st_38)))
  else
    bd (fX6_fail r_2 st_2) <| u2 fun r_40 st_40 =>
    some (r_40, st_40)
set_option maxHeartbeats 1000000 in
theorem bX6_walked (C : Cx E s0 b p s m args meth c cX6_walked 10 "EarthMeshModel" (some .int)) (hI : Sx E) (v1 : Int32) (v2 : Int32) (st : St) {x : Int32 × St} (hx : fX6_walked v1 v2 st = some x) {H : Heap} {locs : List Loc} {ls : Array Slot} (h : XH E (sg st) s H locs) (hl : lv_has ls 10 [(0, .ref (E.ad 68)), (1, .int v1), (2, .int v2)]) : W p l e rmX6_walked s m args below meth c H locs 0 0 (MQ below (Qx E (some (.int x.1)) (sg x.2)) args s 0 0 (gA E.HB)) (F0 m 0 ls []) := by
  unfold fX6_walked at hx
  refine lv_aload_n C.x C.bc dX6_walked_0 rfl (lv_at hl 0 rfl) ?_
  refine lv_iconst (v := (0 : Int32)) C.x C.bc dX6_walked_1 (by decide) ?_
  obtain ⟨st_1, e_1, hx⟩ := nm_x hx
  refine pt_X6_90_68 C hI h e_1 dX6_walked_2 (fun H locs h => ?_)
  refine lv_aload_n C.x C.bc dX6_walked_5 rfl (lv_at hl 0 rfl) ?_
  refine lv_iload_n C.x C.bc dX6_walked_6 rfl (lv_at hl 1 rfl) ?_
  refine lv_iload_n C.x C.bc dX6_walked_7 rfl (lv_at hl 2 rfl) ?_
  obtain ⟨⟨r_2, st_2⟩, hf_2, hx⟩ := bd_e hx
  have hx := u2_e hx
  refine cX6_362_X6_walkRefusal C hI h hf_2 ⟨Nat.le_of_ble_eq_true rfl, Nat.le_of_ble_eq_true rfl⟩ ⟨Nat.zero_le _, Nat.zero_le _⟩ hl.1 (Nat.le_of_ble_eq_true rfl) dX6_walked_8 (fun H locs h => ?_)
  refine lv_istore_n (lv' := [(3, .int r_2), (0, .ref (E.ad 68)), (1, .int v1), (2, .int v2)]) C.x C.bc dX6_walked_11 rfl hl (by decide) rfl (fun ls hl => ?_)
  refine lv_iload_n C.x C.bc dX6_walked_12 rfl (lv_at hl 0 rfl) ?_
  refine lv_if_le (tgt := 22) C.x C.bc dX6_walked_13 (by decide) (fun c_3 => ?_) (fun c_3 => ?_)
  · have hx := ge_t hx c_3
    refine lv_aload_n C.x C.bc dX6_walked_22 rfl (lv_at hl 1 rfl) ?_
    refine lv_iload_n C.x C.bc dX6_walked_23 rfl (lv_at hl 2 rfl) ?_
    refine lv_iload_n C.x C.bc dX6_walked_24 rfl (lv_at hl 3 rfl) ?_
    obtain ⟨⟨r_4, st_4⟩, hf_4, hx⟩ := bd_e hx
    have hx := u2_e hx
    refine cX6_365_X6_tollTo C hI h hf_4 ⟨Nat.le_of_ble_eq_true rfl, Nat.le_of_ble_eq_true rfl⟩ ⟨Nat.zero_le _, Nat.zero_le _⟩ hl.1 (Nat.le_of_ble_eq_true rfl) dX6_walked_25 (fun H locs h => ?_)
    refine lv_lstore (lv' := [(4, .long r_4), (3, .int r_2), (0, .ref (E.ad 68)), (1, .int v1), (2, .int v2)]) C.x C.bc dX6_walked_28 hl (by decide) rfl (fun ls hl => ?_)
    refine lv_iconst (v := (0 : Int32)) C.x C.bc dX6_walked_30 (by decide) ?_
    refine lv_istore (lv' := [(6, .int (0 : Int32)), (4, .long r_4), (3, .int r_2), (0, .ref (E.ad 68)), (1, .int v1), (2, .int v2)]) C.x C.bc dX6_walked_31 hl (by decide) rfl (fun ls hl => ?_)
    obtain ⟨st_11, hi_11, hx⟩ := bd_e hx
    have hx := u1_e hx
    refine pX6_walked_33 C hI v1 v2 r_4 hi_11 (fun H locs ls h hl => ?_) h (lv_sub hl [3, 4, 5, 1, 0] rfl)
    refine lv_iconst (v := (0 : Int32)) C.x C.bc dX6_walked_66 (by decide) ?_
    refine lv_istore (lv' := [(6, .int (0 : Int32)), (0, .ref (E.ad 68)), (2, .int v2), (4, .long r_4)]) C.x C.bc dX6_walked_67 hl (by decide) rfl (fun ls hl => ?_)
    obtain ⟨st_38, hi_38, hx⟩ := bd_e hx
    have hx := u1_e hx
    refine pX6_walked_69 C hI v2 r_4 hi_38 (fun H locs ls h hl => ?_) h (lv_sub hl [1, 2, 3, 0] rfl)
    refine lv_aload_n C.x C.bc dX6_walked_222 rfl (lv_at hl 0 rfl) ?_
    refine gt_X6_73_68 C hI h dX6_walked_223 ?_
    refine lv_iload_n C.x C.bc dX6_walked_226 rfl (lv_at hl 1 rfl) ?_
    obtain ⟨g_39, hx⟩ := gd_e hx
    refine x_iald C h 82 35 (hI 82 (by decide)) k_82 g_39 dX6_walked_227 ?_
    obtain rfl := Option.some.inj hx
    exact x_iret C h dX6_walked_228
  · have hx := ge_f hx c_3
    refine lv_aload_n C.x C.bc dX6_walked_16 rfl (lv_at hl 1 rfl) ?_
    refine lv_iload_n C.x C.bc dX6_walked_17 rfl (lv_at hl 0 rfl) ?_
    obtain ⟨⟨r_40, st_40⟩, hf_40, hx⟩ := bd_e hx
    have hx := u2_e hx
    refine cX6_182_X6_fail C hI h hf_40 ⟨Nat.le_of_ble_eq_true rfl, Nat.le_of_ble_eq_true rfl⟩ ⟨Nat.zero_le _, Nat.zero_le _⟩ hl.1 (Nat.le_of_ble_eq_true rfl) dX6_walked_18 (fun H locs h => ?_)
    obtain rfl := Option.some.inj hx
    exact x_iret C h dX6_walked_21
theorem mX6_walked (hG : G0 E s0 b) (hI : Sx E) {v1 : Int32} {v2 : Int32} {x : Int32 × St} (hx : fX6_walked v1 v2 st = some x) : Mt l E s0 yX6_walked cX6_walked 10 (some .int) rmX6_walked [.ref (E.ad 68), .int v1, .int v2] (sg st) (some (.int x.1)) E (sg x.2) :=
  Mt.of hG (by decide) (Nat.le_of_ble_eq_true rfl) (fun p e s m below meth c ls C h hl => bX6_walked C hI v1 v2 st hx h hl)
end
