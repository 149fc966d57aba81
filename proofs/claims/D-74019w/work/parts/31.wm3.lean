set_option maxRecDepth 100000
section
variable {p : Program} {l : Launch} {e : Env} {R : Room} {s : State} {m : MethodId} {args : Array Value} {below : List Frame} {meth : Method} {c : Code} {H : Heap} {locs : List Loc} {cells slots : Nat} {Q : State → Prop}
variable {cc : ByteArray} {pc : Nat} {ls : Array Slot} {rest : List Value} {E : Wd} {s0 : State} {b nL : Nat} {rt : Option FieldType} {g st : St}
abbrev rmX6_laysBack : Room := { frames := 0, cells := 0, slots := 0, locals := 0 }
def fX6_laysBack_2 (v1 : Int32) (st : St) : Option ((Int32 × St) ⊕ (St)) :=
  if (46 : Int32) ≤ v1 then
    some (.inr st)
  else
    gd (inB v1 46) <|
    gd (inB v1 46) <|
    nm (uI st 70 v1.toNatClampNeg (st.1 83 v1.toNatClampNeg)) fun st_4 =>
    nm (v1 + (1 : Int32)) fun v1_5 =>
    some (.inl (v1_5, st_4))
set_option maxHeartbeats 1000000 in
theorem bX6_laysBack_2 (C : Cx E s0 b p s m args meth c cX6_laysBack 2 "EarthMeshModel" none) (hI : Sx E) (v1 : Int32) (st : St) {x : (Int32 × St) ⊕ (St)} (hx : fX6_laysBack_2 v1 st = some x) {Q : State → Prop} {G : Int32 × St → Prop} {X : St → Prop} (hG : ∀ (w1 : Int32) (wst : St), G (w1, wst) → ∀ (H : Heap) (locs : List Loc) (ls : Array Slot), XH E (sg wst) s H locs → lv_has ls 2 [(0, .ref (E.ad 68)), (1, .int w1)] → W p l e rmX6_laysBack s m args below meth c H locs 0 0 Q (F0 m 2 ls [])) (hE0 : ∀ (wst : St), X wst → ∀ (H : Heap) (locs : List Loc) (ls : Array Slot), XH E (sg wst) s H locs → lv_has ls 2 [] → W p l e rmX6_laysBack s m args below meth c H locs 0 0 Q (F0 m 26 ls [])) (K : Kx G X x) {H : Heap} {locs : List Loc} {ls : Array Slot} (h : XH E (sg st) s H locs) (hl : lv_has ls 2 [(0, .ref (E.ad 68)), (1, .int v1)]) : W p l e rmX6_laysBack s m args below meth c H locs 0 0 Q (F0 m 2 ls []) := by
  unfold fX6_laysBack_2 at hx
  refine lv_iload_n C.x C.bc dX6_laysBack_2 rfl (lv_at hl 1 rfl) ?_
  refine lv_bipush (v := (46 : Int32)) C.x C.bc dX6_laysBack_3 (by decide) ?_
  refine lv_icmp_ge (tgt := 26) C.x C.bc dX6_laysBack_5 (by decide) (fun c_1 => ?_) (fun c_1 => ?_)
  · have hx := ge_t hx c_1
    obtain rfl := Option.some.inj hx
    exact hE0 _ K _ _ _ h (lv_sub hl [] rfl)
  · have hx := ge_f hx c_1
    refine lv_aload_n C.x C.bc dX6_laysBack_8 rfl (lv_at hl 0 rfl) ?_
    refine gt_X6_31_68 C hI h dX6_laysBack_9 ?_
    refine lv_iload_n C.x C.bc dX6_laysBack_12 rfl (lv_at hl 1 rfl) ?_
    refine lv_aload_n C.x C.bc dX6_laysBack_13 rfl (lv_at hl 0 rfl) ?_
    refine gt_X6_76_68 C hI h dX6_laysBack_14 ?_
    refine lv_iload_n C.x C.bc dX6_laysBack_17 rfl (lv_at hl 1 rfl) ?_
    obtain ⟨g_2, hx⟩ := gd_e hx
    refine x_iald C h 83 46 (hI 83 (by decide)) k_83 g_2 dX6_laysBack_18 ?_
    obtain ⟨g_3, hx⟩ := gd_e hx
    obtain ⟨st_4, e_4, hx⟩ := nm_x hx
    refine y_iast C h 70 46 (hI 70 (by decide)) k_70 g_3 e_4 dX6_laysBack_19 (fun H locs h => ?_)
    obtain ⟨v1_5, e_5, hx⟩ := nm_x hx
    refine lv_iinc (v := v1_5) (lv' := [(1, .int v1_5), (0, .ref (E.ad 68))]) C.x C.bc dX6_laysBack_20 hl (k := 1) rfl (by rw [e_5]; rfl) (by decide) rfl (fun ls hl => ?_)
    refine lv_goto (tgt := 2) C.x C.bc dX6_laysBack_23 (by decide) ?_
    obtain rfl := Option.some.inj hx
    exact hG _ _ K _ _ _ h (lv_sub hl [1, 0] rfl)
set_option maxHeartbeats 1000000 in
theorem pX6_laysBack_2 (C : Cx E s0 b p s m args meth c cX6_laysBack 2 "EarthMeshModel" none) (hI : Sx E) {Q : State → Prop} {v1 : Int32} {st : St} {n : Nat} {r : St} (hx : iter (u2 fun v1 st => fX6_laysBack_2 v1 st) n (v1, st) = some r) (hE : (fun t => ∀ (H : Heap) (locs : List Loc) (ls : Array Slot), XH E (sg t) s H locs → lv_has ls 2 [] → W p l e rmX6_laysBack s m args below meth c H locs 0 0 Q (F0 m 26 ls [])) r) {H : Heap} {locs : List Loc} {ls : Array Slot} (h : XH E (sg st) s H locs) (hl : lv_has ls 2 [(0, .ref (E.ad 68)), (1, .int v1)]) : W p l e rmX6_laysBack s m args below meth c H locs 0 0 Q (F0 m 2 ls []) := by
  refine iter_W (G := fun t => ∀ (H : Heap) (locs : List Loc) (ls : Array Slot), XH E (sg t.2) s H locs → lv_has ls 2 [(0, .ref (E.ad 68)), (1, .int t.1)] → W p l e rmX6_laysBack s m args below meth c H locs 0 0 Q (F0 m 2 ls [])) (E := fun t => ∀ (H : Heap) (locs : List Loc) (ls : Array Slot), XH E (sg t) s H locs → lv_has ls 2 [] → W p l e rmX6_laysBack s m args below meth c H locs 0 0 Q (F0 m 26 ls [])) (fun t x hx K H locs ls h hl => ?_) n _ r hx hE H locs ls h hl
  obtain ⟨v1, st⟩ := t
  exact bX6_laysBack_2 C hI v1 st hx (fun _ _ z => z) (fun _ z => z) K h hl
def fX6_laysBack (st : St) : Option (St) :=
  bd (iter (u2 fun z1 zst => fX6_laysBack_2 z1 zst) FU ((0 : Int32), st)) (u1 fun st_6 =>
  some st_6)
set_option maxHeartbeats 1000000 in
theorem bX6_laysBack (C : Cx E s0 b p s m args meth c cX6_laysBack 2 "EarthMeshModel" none) (hI : Sx E) (st : St) {x : St} (hx : fX6_laysBack st = some x) {H : Heap} {locs : List Loc} {ls : Array Slot} (h : XH E (sg st) s H locs) (hl : lv_has ls 2 [(0, .ref (E.ad 68))]) : W p l e rmX6_laysBack s m args below meth c H locs 0 0 (MQ below (Qx E none (sg x)) args s 0 0 (gA E.HB)) (F0 m 0 ls []) := by
  unfold fX6_laysBack at hx
  refine lv_iconst (v := (0 : Int32)) C.x C.bc dX6_laysBack_0 (by decide) ?_
  refine lv_istore_n (lv' := [(1, .int (0 : Int32)), (0, .ref (E.ad 68))]) C.x C.bc dX6_laysBack_1 rfl hl (by decide) rfl (fun ls hl => ?_)
  obtain ⟨st_6, hi_6, hx⟩ := bd_e hx
  have hx := u1_e hx
  refine pX6_laysBack_2 C hI hi_6 (fun H locs ls h hl => ?_) h (lv_sub hl [1, 0] rfl)
  obtain rfl := Option.some.inj hx
  exact x_vret C h dX6_laysBack_26
theorem mX6_laysBack (hG : G0 E s0 b) (hI : Sx E)  {x : St} (hx : fX6_laysBack st = some x) : Mt l E s0 yX6_laysBack cX6_laysBack 2 none rmX6_laysBack [.ref (E.ad 68)] (sg st) none E (sg x) :=
  Mt.of hG (by decide) (Nat.le_of_ble_eq_true rfl) (fun p e s m below meth c ls C h hl => bX6_laysBack C hI st hx h hl)
theorem cX6_390_X6_laysBack  {st' : St} (C : Cx E s0 b p s m args meth c cc nL "EarthMeshModel" rt) (hI : Sx E) (h : XH E (sg st) s H locs) (hf : fX6_laysBack st = some st') (hR : rmX6_laysBack.frames + 1 ≤ R.frames ∧ 16 + (2 + 11) + rmX6_laysBack.locals ≤ R.locals) (h0 : cells ≤ R.cells ∧ slots ≤ R.slots) (hsz : ls.size = nL) (hcat : (rest.map fun v => v.category).sum ≤ 16) (hdg : decode cc pc = .ok (.invokevirtual 390, 3)) (kk : ∀ (H : Heap) (locs : List Loc), XH E (sg st') s H locs → W p l e R s m args below meth c H locs cells slots Q (F0 m (pc + 3) ls (rest))) : W p l e R s m args below meth c H locs cells slots Q (F0 m pc ls (.ref (E.ad 68) :: rest)) :=
  x_callV (n := 0) (As := []) C h 68 5 (hI 68 (by decide)) k_68 rfl (mX6_laysBack C.g hI hf) (lw_V q1962 q1964 qs113 q136 q1965) ⟨rfl, by decide +kernel, by decide +kernel, by decide +kernel⟩ hR ⟨rfl, rfl⟩ h0 rfl hsz rfl hcat hdg kk
abbrev rmX6_thinned : Room := { frames := 8, cells := 0, slots := 0, locals := 264 }
def fX6_thinned_87 (v1 : Int32) (v2 : Int32) (v3 : Int32) (v4 : Int32) (st : St) : Option ((Int32 × Int32 × Int32 × St) ⊕ (Int32 × Int32 × St)) :=
  nm (v4 + (1 : Int32)) fun v4_13 =>
  some (.inl (v2, v3, v4_13, st))
set_option maxHeartbeats 1000000 in
theorem bX6_thinned_87 (C : Cx E s0 b p s m args meth c cX6_thinned 6 "EarthMeshModel" (some .int)) (hI : Sx E) (v1 : Int32) (v2 : Int32) (v3 : Int32) (v4 : Int32) (st : St) {x : (Int32 × Int32 × Int32 × St) ⊕ (Int32 × Int32 × St)} (hx : fX6_thinned_87 v1 v2 v3 v4 st = some x) {Q : State → Prop} {G : Int32 × Int32 × Int32 × St → Prop} {X : Int32 × Int32 × St → Prop} (hG : ∀ (w2 : Int32) (w3 : Int32) (w4 : Int32) (wst : St), G (w2, w3, w4, wst) → ∀ (H : Heap) (locs : List Loc) (ls : Array Slot), XH E (sg wst) s H locs → lv_has ls 6 [(0, .ref (E.ad 68)), (1, .int v1), (2, .int w2), (3, .int w3), (4, .int w4)] → W p l e rmX6_thinned s m args below meth c H locs 0 0 Q (F0 m 11 ls [])) (hE0 : ∀ (w2 : Int32) (w3 : Int32) (wst : St), X (w2, w3, wst) → ∀ (H : Heap) (locs : List Loc) (ls : Array Slot), XH E (sg wst) s H locs → lv_has ls 6 [(0, .ref (E.ad 68)), (1, .int v1), (2, .int w2), (3, .int w3)] → W p l e rmX6_thinned s m args below meth c H locs 0 0 Q (F0 m 93 ls [])) (K : Kx G X x) {H : Heap} {locs : List Loc} {ls : Array Slot} (h : XH E (sg st) s H locs) (hl : lv_has ls 6 [(0, .ref (E.ad 68)), (1, .int v1), (2, .int v2), (3, .int v3), (4, .int v4)]) : W p l e rmX6_thinned s m args below meth c H locs 0 0 Q (F0 m 87 ls []) := by
  unfold fX6_thinned_87 at hx
  obtain ⟨v4_13, e_13, hx⟩ := nm_x hx
  refine lv_iinc (v := v4_13) (lv' := [(4, .int v4_13), (0, .ref (E.ad 68)), (1, .int v1), (2, .int v2), (3, .int v3)]) C.x C.bc dX6_thinned_87 hl (k := 4) rfl (by rw [e_13]; rfl) (by decide) rfl (fun ls hl => ?_)
  refine lv_goto (tgt := 11) C.x C.bc dX6_thinned_90 (by decide) ?_
  obtain rfl := Option.some.inj hx
  exact hG _ _ _ _ K _ _ _ h (lv_sub hl [1, 2, 3, 4, 0] rfl)
def fX6_thinned_11 (v1 : Int32) (v2 : Int32) (v3 : Int32) (v4 : Int32) (st : St) : Option ((Int32 × Int32 × Int32 × St) ⊕ (Int32 × Int32 × St)) :=
  if (24 : Int32) ≤ v4 then
    some (.inr (v2, v3, st))
  else
    gd (inB ((10 : Int32) + v4) 46) <|
    nm (st.1 70 ((10 : Int32) + v4).toNatClampNeg) fun v5_4 =>
    if v5_4 = 0 then
      fX6_thinned_87 v1 v2 v3 v4 st
    else
      gd (inB ((10 : Int32) + v4) 46) <|
      nm (uI st 70 ((10 : Int32) + v4).toNatClampNeg (0 : Int32)) fun st_7 =>
      bd (fX6_isSafe st_7) <| u2 fun r_8 st_8 =>
      if r_8 = 0 then
        gd (inB ((10 : Int32) + v4) 46) <|
        nm (uI st_8 70 ((10 : Int32) + v4).toNatClampNeg v5_4) fun st_15 =>
        fX6_thinned_87 v1 v2 v3 v4 st_15
      else
        nm (v2 + (1 : Int32)) fun v2_10 =>
        gd (inB (7 : Int32) 46) <|
        nm (v3 + (v5_4 * (st_8.1 70 (7 : Int32).toNatClampNeg))) fun v3_12 =>
        fX6_thinned_87 v1 v2_10 v3_12 v4 st_8
set_option maxHeartbeats 1000000 in
theorem bX6_thinned_11 (C : Cx E s0 b p s m args meth c cX6_thinned 6 "EarthMeshModel" (some .int)) (hI : Sx E) (v1 : Int32) (v2 : Int32) (v3 : Int32) (v4 : Int32) (st : St) {x : (Int32 × Int32 × Int32 × St) ⊕ (Int32 × Int32 × St)} (hx : fX6_thinned_11 v1 v2 v3 v4 st = some x) {Q : State → Prop} {G : Int32 × Int32 × Int32 × St → Prop} {X : Int32 × Int32 × St → Prop} (hG : ∀ (w2 : Int32) (w3 : Int32) (w4 : Int32) (wst : St), G (w2, w3, w4, wst) → ∀ (H : Heap) (locs : List Loc) (ls : Array Slot), XH E (sg wst) s H locs → lv_has ls 6 [(0, .ref (E.ad 68)), (1, .int v1), (2, .int w2), (3, .int w3), (4, .int w4)] → W p l e rmX6_thinned s m args below meth c H locs 0 0 Q (F0 m 11 ls [])) (hE0 : ∀ (w2 : Int32) (w3 : Int32) (wst : St), X (w2, w3, wst) → ∀ (H : Heap) (locs : List Loc) (ls : Array Slot), XH E (sg wst) s H locs → lv_has ls 6 [(0, .ref (E.ad 68)), (1, .int v1), (2, .int w2), (3, .int w3)] → W p l e rmX6_thinned s m args below meth c H locs 0 0 Q (F0 m 93 ls [])) (K : Kx G X x) {H : Heap} {locs : List Loc} {ls : Array Slot} (h : XH E (sg st) s H locs) (hl : lv_has ls 6 [(0, .ref (E.ad 68)), (1, .int v1), (2, .int v2), (3, .int v3), (4, .int v4)]) : W p l e rmX6_thinned s m args below meth c H locs 0 0 Q (F0 m 11 ls []) := by
  unfold fX6_thinned_11 at hx
  refine lv_iload C.x C.bc dX6_thinned_11 (lv_at hl 4 rfl) ?_
  refine lv_bipush (v := (24 : Int32)) C.x C.bc dX6_thinned_13 (by decide) ?_
  refine lv_icmp_ge (tgt := 93) C.x C.bc dX6_thinned_15 (by decide) (fun c_2 => ?_) (fun c_2 => ?_)
  · have hx := ge_t hx c_2
    obtain rfl := Option.some.inj hx
    exact hE0 _ _ _ K _ _ _ h (lv_sub hl [0, 1, 2, 3] rfl)
  · have hx := ge_f hx c_2
    refine lv_aload_n C.x C.bc dX6_thinned_18 rfl (lv_at hl 0 rfl) ?_
    refine gt_X6_31_68 C hI h dX6_thinned_19 ?_
    refine lv_bipush (v := (10 : Int32)) C.x C.bc dX6_thinned_22 (by decide) ?_
    refine lv_iload C.x C.bc dX6_thinned_24 (lv_at hl 4 rfl) ?_
    refine lv_iadd C.x C.bc dX6_thinned_26 ?_
    obtain ⟨g_3, hx⟩ := gd_e hx
    refine x_iald C h 70 46 (hI 70 (by decide)) k_70 g_3 dX6_thinned_27 ?_
    obtain ⟨v5_4, e_4, hx⟩ := nm_x hx
    refine x_ti e_4 ?_
    refine lv_istore (lv' := [(5, .int v5_4), (0, .ref (E.ad 68)), (1, .int v1), (2, .int v2), (3, .int v3), (4, .int v4)]) C.x C.bc dX6_thinned_28 hl (by decide) rfl (fun ls hl => ?_)
    refine lv_iload C.x C.bc dX6_thinned_30 (lv_at hl 0 rfl) ?_
    refine lv_if_ne (tgt := 38) C.x C.bc dX6_thinned_32 (by decide) (fun c_5 => ?_) (fun c_5 => ?_)
    · have hx := ge_f hx c_5
      refine lv_aload_n C.x C.bc dX6_thinned_38 rfl (lv_at hl 1 rfl) ?_
      refine gt_X6_31_68 C hI h dX6_thinned_39 ?_
      refine lv_bipush (v := (10 : Int32)) C.x C.bc dX6_thinned_42 (by decide) ?_
      refine lv_iload C.x C.bc dX6_thinned_44 (lv_at hl 5 rfl) ?_
      refine lv_iadd C.x C.bc dX6_thinned_46 ?_
      refine lv_iconst (v := (0 : Int32)) C.x C.bc dX6_thinned_47 (by decide) ?_
      obtain ⟨g_6, hx⟩ := gd_e hx
      obtain ⟨st_7, e_7, hx⟩ := nm_x hx
      refine y_iast C h 70 46 (hI 70 (by decide)) k_70 g_6 e_7 dX6_thinned_48 (fun H locs h => ?_)
      refine lv_aload_n C.x C.bc dX6_thinned_49 rfl (lv_at hl 1 rfl) ?_
      obtain ⟨⟨r_8, st_8⟩, hf_8, hx⟩ := bd_e hx
      have hx := u2_e hx
      refine cX6_278_X6_isSafe C hI h hf_8 ⟨Nat.le_of_ble_eq_true rfl, Nat.le_of_ble_eq_true rfl⟩ ⟨Nat.zero_le _, Nat.zero_le _⟩ hl.1 (Nat.le_of_ble_eq_true rfl) dX6_thinned_50 (fun H locs h => ?_)
      refine lv_if_ne (tgt := 71) C.x C.bc dX6_thinned_53 (by decide) (fun c_9 => ?_) (fun c_9 => ?_)
      · have hx := ge_f hx c_9
        obtain ⟨v2_10, e_10, hx⟩ := nm_x hx
        refine lv_iinc (v := v2_10) (lv' := [(2, .int v2_10), (5, .int v5_4), (0, .ref (E.ad 68)), (1, .int v1), (3, .int v3), (4, .int v4)]) C.x C.bc dX6_thinned_71 hl (k := 3) rfl (by rw [e_10]; rfl) (by decide) rfl (fun ls hl => ?_)
        refine lv_iload_n C.x C.bc dX6_thinned_74 rfl (lv_at hl 4 rfl) ?_
        refine lv_iload C.x C.bc dX6_thinned_75 (lv_at hl 1 rfl) ?_
        refine lv_aload_n C.x C.bc dX6_thinned_77 rfl (lv_at hl 2 rfl) ?_
        refine gt_X6_31_68 C hI h dX6_thinned_78 ?_
        refine lv_bipush (v := (7 : Int32)) C.x C.bc dX6_thinned_81 (by decide) ?_
        obtain ⟨g_11, hx⟩ := gd_e hx
        refine x_iald C h 70 46 (hI 70 (by decide)) k_70 g_11 dX6_thinned_83 ?_
        refine lv_imul C.x C.bc dX6_thinned_84 ?_
        refine lv_iadd C.x C.bc dX6_thinned_85 ?_
        obtain ⟨v3_12, e_12, hx⟩ := nm_x hx
        refine x_ti e_12 ?_
        refine lv_istore_n (lv' := [(3, .int v3_12), (2, .int v2_10), (5, .int v5_4), (0, .ref (E.ad 68)), (1, .int v1), (4, .int v4)]) C.x C.bc dX6_thinned_86 rfl hl (by decide) rfl (fun ls hl => ?_)
        exact bX6_thinned_87 C hI v1 v2_10 v3_12 v4 st_8 hx hG hE0 K h (lv_sub hl [3, 4, 1, 0, 5] rfl)
      · have hx := ge_t hx c_9
        refine lv_aload_n C.x C.bc dX6_thinned_56 rfl (lv_at hl 1 rfl) ?_
        refine gt_X6_31_68 C hI h dX6_thinned_57 ?_
        refine lv_bipush (v := (10 : Int32)) C.x C.bc dX6_thinned_60 (by decide) ?_
        refine lv_iload C.x C.bc dX6_thinned_62 (lv_at hl 5 rfl) ?_
        refine lv_iadd C.x C.bc dX6_thinned_64 ?_
        refine lv_iload C.x C.bc dX6_thinned_65 (lv_at hl 0 rfl) ?_
        obtain ⟨g_14, hx⟩ := gd_e hx
        obtain ⟨st_15, e_15, hx⟩ := nm_x hx
        refine y_iast C h 70 46 (hI 70 (by decide)) k_70 g_14 e_15 dX6_thinned_67 (fun H locs h => ?_)
        refine lv_goto (tgt := 87) C.x C.bc dX6_thinned_68 (by decide) ?_
        exact bX6_thinned_87 C hI v1 v2 v3 v4 st_15 hx hG hE0 K h (lv_sub hl [1, 2, 3, 4, 5] rfl)
    · have hx := ge_t hx c_5
      refine lv_goto (tgt := 87) C.x C.bc dX6_thinned_35 (by decide) ?_
      exact bX6_thinned_87 C hI v1 v2 v3 v4 st hx hG hE0 K h (lv_sub hl [1, 2, 3, 4, 5] rfl)
set_option maxHeartbeats 1000000 in
theorem pX6_thinned_11 (C : Cx E s0 b p s m args meth c cX6_thinned 6 "EarthMeshModel" (some .int)) (hI : Sx E) (v1 : Int32) {Q : State → Prop} {v2 : Int32} {v3 : Int32} {v4 : Int32} {st : St} {n : Nat} {r : Int32 × Int32 × St} (hx : iter (u4 fun v2 v3 v4 st => fX6_thinned_11 v1 v2 v3 v4 st) n (v2, v3, v4, st) = some r) (hE : (fun t => ∀ (H : Heap) (locs : List Loc) (ls : Array Slot), XH E (sg t.2.2) s H locs → lv_has ls 6 [(0, .ref (E.ad 68)), (1, .int v1), (2, .int t.1), (3, .int t.2.1)] → W p l e rmX6_thinned s m args below meth c H locs 0 0 Q (F0 m 93 ls [])) r) {H : Heap} {locs : List Loc} {ls : Array Slot} (h : XH E (sg st) s H locs) (hl : lv_has ls 6 [(0, .ref (E.ad 68)), (1, .int v1), (2, .int v2), (3, .int v3), (4, .int v4)]) : W p l e rmX6_thinned s m args below meth c H locs 0 0 Q (F0 m 11 ls []) := by
  refine iter_W (G := fun t => ∀ (H : Heap) (locs : List Loc) (ls : Array Slot), XH E (sg t.2.2.2) s H locs → lv_has ls 6 [(0, .ref (E.ad 68)), (1, .int v1), (2, .int t.1), (3, .int t.2.1), (4, .int t.2.2.1)] → W p l e rmX6_thinned s m args below meth c H locs 0 0 Q (F0 m 11 ls [])) (E := fun t => ∀ (H : Heap) (locs : List Loc) (ls : Array Slot), XH E (sg t.2.2) s H locs → lv_has ls 6 [(0, .ref (E.ad 68)), (1, .int v1), (2, .int t.1), (3, .int t.2.1)] → W p l e rmX6_thinned s m args below meth c H locs 0 0 Q (F0 m 93 ls [])) (fun t x hx K H locs ls h hl => ?_) n _ r hx hE H locs ls h hl
  obtain ⟨v2, v3, v4, st⟩ := t
  exact bX6_thinned_11 C hI v1 v2 v3 v4 st hx (fun _ _ _ _ z => z) (fun _ _ _ z => z) K h hl
def fX6_thinned (v1 : Int32) (st : St) : Option (Int32 × St) :=
  bd (fX6_tries st) fun st_1 =>
  bd (iter (u4 fun z2 z3 z4 zst => fX6_thinned_11 v1 z2 z3 z4 zst) FU ((0 : Int32), (0 : Int32), (0 : Int32), st_1)) (u3 fun v2_16 v3_16 st_16 =>
  bd (fX6_laysBack st_16) fun st_17 =>
  if v1 = 0 then
    some (v2_16, st_17)
  else
    some (v3_16, st_17))
set_option maxHeartbeats 1000000 in
theorem bX6_thinned (C : Cx E s0 b p s m args meth c cX6_thinned 6 "EarthMeshModel" (some .int)) (hI : Sx E) (v1 : Int32) (st : St) {x : Int32 × St} (hx : fX6_thinned v1 st = some x) {H : Heap} {locs : List Loc} {ls : Array Slot} (h : XH E (sg st) s H locs) (hl : lv_has ls 6 [(0, .ref (E.ad 68)), (1, .int v1)]) : W p l e rmX6_thinned s m args below meth c H locs 0 0 (MQ below (Qx E (some (.int x.1)) (sg x.2)) args s 0 0 (gA E.HB)) (F0 m 0 ls []) := by
  unfold fX6_thinned at hx
  refine lv_aload_n C.x C.bc dX6_thinned_0 rfl (lv_at hl 0 rfl) ?_
  obtain ⟨st_1, hf_1, hx⟩ := bd_e hx
  refine cX6_384_X6_tries C hI h hf_1 ⟨Nat.le_of_ble_eq_true rfl, Nat.le_of_ble_eq_true rfl⟩ ⟨Nat.zero_le _, Nat.zero_le _⟩ hl.1 (Nat.le_of_ble_eq_true rfl) dX6_thinned_1 (fun H locs h => ?_)
  refine lv_iconst (v := (0 : Int32)) C.x C.bc dX6_thinned_4 (by decide) ?_
  refine lv_istore_n (lv' := [(2, .int (0 : Int32)), (0, .ref (E.ad 68)), (1, .int v1)]) C.x C.bc dX6_thinned_5 rfl hl (by decide) rfl (fun ls hl => ?_)
  refine lv_iconst (v := (0 : Int32)) C.x C.bc dX6_thinned_6 (by decide) ?_
  refine lv_istore_n (lv' := [(3, .int (0 : Int32)), (2, .int (0 : Int32)), (0, .ref (E.ad 68)), (1, .int v1)]) C.x C.bc dX6_thinned_7 rfl hl (by decide) rfl (fun ls hl => ?_)
  refine lv_iconst (v := (0 : Int32)) C.x C.bc dX6_thinned_8 (by decide) ?_
  refine lv_istore (lv' := [(4, .int (0 : Int32)), (3, .int (0 : Int32)), (2, .int (0 : Int32)), (0, .ref (E.ad 68)), (1, .int v1)]) C.x C.bc dX6_thinned_9 hl (by decide) rfl (fun ls hl => ?_)
  obtain ⟨⟨v2_16, v3_16, st_16⟩, hi_16, hx⟩ := bd_e hx
  have hx := u3_e hx
  refine pX6_thinned_11 C hI v1 hi_16 (fun H locs ls h hl => ?_) h (lv_sub hl [3, 4, 2, 1, 0] rfl)
  refine lv_aload_n C.x C.bc dX6_thinned_93 rfl (lv_at hl 0 rfl) ?_
  obtain ⟨st_17, hf_17, hx⟩ := bd_e hx
  refine cX6_390_X6_laysBack C hI h hf_17 ⟨Nat.le_of_ble_eq_true rfl, Nat.le_of_ble_eq_true rfl⟩ ⟨Nat.zero_le _, Nat.zero_le _⟩ hl.1 (Nat.le_of_ble_eq_true rfl) dX6_thinned_94 (fun H locs h => ?_)
  refine lv_iload_n C.x C.bc dX6_thinned_97 rfl (lv_at hl 1 rfl) ?_
  refine lv_if_eq (tgt := 105) C.x C.bc dX6_thinned_98 (by decide) (fun c_18 => ?_) (fun c_18 => ?_)
  · have hx := ge_t hx c_18
    refine lv_iload_n C.x C.bc dX6_thinned_105 rfl (lv_at hl 2 rfl) ?_
    obtain rfl := Option.some.inj hx
    exact x_iret C h dX6_thinned_106
  · have hx := ge_f hx c_18
    refine lv_iload_n C.x C.bc dX6_thinned_101 rfl (lv_at hl 3 rfl) ?_
    refine lv_goto (tgt := 106) C.x C.bc dX6_thinned_102 (by decide) ?_
    obtain rfl := Option.some.inj hx
    exact x_iret C h dX6_thinned_106
theorem mX6_thinned (hG : G0 E s0 b) (hI : Sx E) {v1 : Int32} {x : Int32 × St} (hx : fX6_thinned v1 st = some x) : Mt l E s0 yX6_thinned cX6_thinned 6 (some .int) rmX6_thinned [.ref (E.ad 68), .int v1] (sg st) (some (.int x.1)) E (sg x.2) :=
  Mt.of hG (by decide) (Nat.le_of_ble_eq_true rfl) (fun p e s m below meth c ls C h hl => bX6_thinned C hI v1 st hx h hl)
theorem cX6_297_X6_thinned {a0 : Int32} {r : Int32} {st' : St} (C : Cx E s0 b p s m args meth c cc nL "EarthMeshModel" rt) (hI : Sx E) (h : XH E (sg st) s H locs) (hf : fX6_thinned a0 st = some (r, st')) (hR : rmX6_thinned.frames + 1 ≤ R.frames ∧ 16 + (6 + 11) + rmX6_thinned.locals ≤ R.locals) (h0 : cells ≤ R.cells ∧ slots ≤ R.slots) (hsz : ls.size = nL) (hcat : (rest.map fun v => v.category).sum ≤ 16) (hdg : decode cc pc = .ok (.invokevirtual 297, 3)) (kk : ∀ (H : Heap) (locs : List Loc), XH E (sg st') s H locs → W p l e R s m args below meth c H locs cells slots Q (F0 m (pc + 3) ls (.int r :: rest))) : W p l e R s m args below meth c H locs cells slots Q (F0 m pc ls (.int a0 :: .ref (E.ad 68) :: rest)) :=
  x_callV (n := 1) (As := [.int a0]) C h 68 5 (hI 68 (by decide)) k_68 rfl (mX6_thinned C.g hI hf) (lw_V q1954 q1956 qs111 q136 q1957) ⟨rfl, by decide +kernel, by decide +kernel, by decide +kernel⟩ hR ⟨rfl, rfl⟩ h0 rfl hsz rfl hcat hdg kk
abbrev rmX6_limit : Room := { frames := 8, cells := 0, slots := 0, locals := 264 }
def fX6_limit_39 (v1 : Int32) (v3 : Int32) (k0 : Int32) (st : St) : Option ((Int32 × Int32 × St) ⊕ (Int32 × St)) :=
  nm (v3 + (-1 : Int32)) fun v3_9 =>
  some (.inl (k0, v3_9, st))
set_option maxHeartbeats 1000000 in
theorem bX6_limit_39 (C : Cx E s0 b p s m args meth c cX6_limit 4 "EarthMeshModel" (some .int)) (hI : Sx E) (v1 : Int32) (v3 : Int32) (k0 : Int32) (st : St) {x : (Int32 × Int32 × St) ⊕ (Int32 × St)} (hx : fX6_limit_39 v1 v3 k0 st = some x) {Q : State → Prop} {G : Int32 × Int32 × St → Prop} {X : Int32 × St → Prop} (hG : ∀ (w2 : Int32) (w3 : Int32) (wst : St), G (w2, w3, wst) → ∀ (H : Heap) (locs : List Loc) (ls : Array Slot), XH E (sg wst) s H locs → lv_has ls 4 [(0, .ref (E.ad 68)), (1, .int v1), (2, .int w2), (3, .int w3)] → W p l e rmX6_limit s m args below meth c H locs 0 0 Q (F0 m 12 ls [])) (hE0 : ∀ (w2 : Int32) (wst : St), X (w2, wst) → ∀ (H : Heap) (locs : List Loc) (ls : Array Slot), XH E (sg wst) s H locs → lv_has ls 4 [(0, .ref (E.ad 68)), (1, .int v1), (2, .int w2)] → W p l e rmX6_limit s m args below meth c H locs 0 0 Q (F0 m 46 ls [])) (K : Kx G X x) {H : Heap} {locs : List Loc} {ls : Array Slot} (h : XH E (sg st) s H locs) (hl : lv_has ls 4 [(0, .ref (E.ad 68)), (1, .int v1), (3, .int v3)]) : W p l e rmX6_limit s m args below meth c H locs 0 0 Q (F0 m 39 ls [.int k0]) := by
  unfold fX6_limit_39 at hx
  refine lv_istore_n (lv' := [(2, .int k0), (0, .ref (E.ad 68)), (1, .int v1), (3, .int v3)]) C.x C.bc dX6_limit_39 rfl hl (by decide) rfl (fun ls hl => ?_)
  obtain ⟨v3_9, e_9, hx⟩ := nm_x hx
  refine lv_iinc (v := v3_9) (lv' := [(3, .int v3_9), (2, .int k0), (0, .ref (E.ad 68)), (1, .int v1)]) C.x C.bc dX6_limit_40 hl (k := 3) rfl (by rw [e_9]; rfl) (by decide) rfl (fun ls hl => ?_)
  refine lv_goto (tgt := 12) C.x C.bc dX6_limit_43 (by decide) ?_
  obtain rfl := Option.some.inj hx
  exact hG _ _ _ K _ _ _ h (lv_sub hl [2, 3, 1, 0] rfl)
def fX6_limit_12 (v1 : Int32) (v2 : Int32) (v3 : Int32) (st : St) : Option ((Int32 × Int32 × St) ⊕ (Int32 × St)) :=
  if v3 ≤ 0 then
    some (.inr (v2, st))
  else
    if v2 = 0 then
      gd (inB (3 : Int32) 46) <|
      nm (uI st 70 (3 : Int32).toNatClampNeg v3) fun st_6 =>
      bd (fX6_isSafe st_6) <| u2 fun r_7 st_7 =>
      if r_7 = 0 then
        fX6_limit_39 v1 v3 (0 : Int32) st_7
      else
        fX6_limit_39 v1 v3 v3 st_7
    else
      some (.inr (v2, st))
set_option maxHeartbeats 1000000 in
theorem bX6_limit_12 (C : Cx E s0 b p s m args meth c cX6_limit 4 "EarthMeshModel" (some .int)) (hI : Sx E) (v1 : Int32) (v2 : Int32) (v3 : Int32) (st : St) {x : (Int32 × Int32 × St) ⊕ (Int32 × St)} (hx : fX6_limit_12 v1 v2 v3 st = some x) {Q : State → Prop} {G : Int32 × Int32 × St → Prop} {X : Int32 × St → Prop} (hG : ∀ (w2 : Int32) (w3 : Int32) (wst : St), G (w2, w3, wst) → ∀ (H : Heap) (locs : List Loc) (ls : Array Slot), XH E (sg wst) s H locs → lv_has ls 4 [(0, .ref (E.ad 68)), (1, .int v1), (2, .int w2), (3, .int w3)] → W p l e rmX6_limit s m args below meth c H locs 0 0 Q (F0 m 12 ls [])) (hE0 : ∀ (w2 : Int32) (wst : St), X (w2, wst) → ∀ (H : Heap) (locs : List Loc) (ls : Array Slot), XH E (sg wst) s H locs → lv_has ls 4 [(0, .ref (E.ad 68)), (1, .int v1), (2, .int w2)] → W p l e rmX6_limit s m args below meth c H locs 0 0 Q (F0 m 46 ls [])) (K : Kx G X x) {H : Heap} {locs : List Loc} {ls : Array Slot} (h : XH E (sg st) s H locs) (hl : lv_has ls 4 [(0, .ref (E.ad 68)), (1, .int v1), (2, .int v2), (3, .int v3)]) : W p l e rmX6_limit s m args below meth c H locs 0 0 Q (F0 m 12 ls []) := by
  unfold fX6_limit_12 at hx
  refine lv_iload_n C.x C.bc dX6_limit_12 rfl (lv_at hl 3 rfl) ?_
  refine lv_if_le (tgt := 46) C.x C.bc dX6_limit_13 (by decide) (fun c_3 => ?_) (fun c_3 => ?_)
  · have hx := ge_t hx c_3
    obtain rfl := Option.some.inj hx
    exact hE0 _ _ K _ _ _ h (lv_sub hl [0, 1, 2] rfl)
  · have hx := ge_f hx c_3
    refine lv_iload_n C.x C.bc dX6_limit_16 rfl (lv_at hl 2 rfl) ?_
    refine lv_if_ne (tgt := 46) C.x C.bc dX6_limit_17 (by decide) (fun c_4 => ?_) (fun c_4 => ?_)
    · have hx := ge_f hx c_4
      obtain rfl := Option.some.inj hx
      exact hE0 _ _ K _ _ _ h (lv_sub hl [0, 1, 2] rfl)
    · have hx := ge_t hx c_4
      refine lv_aload_n C.x C.bc dX6_limit_20 rfl (lv_at hl 0 rfl) ?_
      refine gt_X6_31_68 C hI h dX6_limit_21 ?_
      refine lv_iconst (v := (3 : Int32)) C.x C.bc dX6_limit_24 (by decide) ?_
      refine lv_iload_n C.x C.bc dX6_limit_25 rfl (lv_at hl 3 rfl) ?_
      obtain ⟨g_5, hx⟩ := gd_e hx
      obtain ⟨st_6, e_6, hx⟩ := nm_x hx
      refine y_iast C h 70 46 (hI 70 (by decide)) k_70 g_5 e_6 dX6_limit_26 (fun H locs h => ?_)
      refine lv_aload_n C.x C.bc dX6_limit_27 rfl (lv_at hl 0 rfl) ?_
      obtain ⟨⟨r_7, st_7⟩, hf_7, hx⟩ := bd_e hx
      have hx := u2_e hx
      refine cX6_278_X6_isSafe C hI h hf_7 ⟨Nat.le_of_ble_eq_true rfl, Nat.le_of_ble_eq_true rfl⟩ ⟨Nat.zero_le _, Nat.zero_le _⟩ hl.1 (Nat.le_of_ble_eq_true rfl) dX6_limit_28 (fun H locs h => ?_)
      refine lv_if_eq (tgt := 38) C.x C.bc dX6_limit_31 (by decide) (fun c_8 => ?_) (fun c_8 => ?_)
      · have hx := ge_t hx c_8
        refine lv_iconst (v := (0 : Int32)) C.x C.bc dX6_limit_38 (by decide) ?_
        exact bX6_limit_39 C hI v1 v3 (0 : Int32) st_7 hx hG hE0 K h (lv_sub hl [0, 1, 3] rfl)
      · have hx := ge_f hx c_8
        refine lv_iload_n C.x C.bc dX6_limit_34 rfl (lv_at hl 3 rfl) ?_
        refine lv_goto (tgt := 39) C.x C.bc dX6_limit_35 (by decide) ?_
        exact bX6_limit_39 C hI v1 v3 v3 st_7 hx hG hE0 K h (lv_sub hl [0, 1, 3] rfl)
set_option maxHeartbeats 1000000 in
theorem pX6_limit_12 (C : Cx E s0 b p s m args meth c cX6_limit 4 "EarthMeshModel" (some .int)) (hI : Sx E) (v1 : Int32) {Q : State → Prop} {v2 : Int32} {v3 : Int32} {st : St} {n : Nat} {r : Int32 × St} (hx : iter (u3 fun v2 v3 st => fX6_limit_12 v1 v2 v3 st) n (v2, v3, st) = some r) (hE : (fun t => ∀ (H : Heap) (locs : List Loc) (ls : Array Slot), XH E (sg t.2) s H locs → lv_has ls 4 [(0, .ref (E.ad 68)), (1, .int v1), (2, .int t.1)] → W p l e rmX6_limit s m args below meth c H locs 0 0 Q (F0 m 46 ls [])) r) {H : Heap} {locs : List Loc} {ls : Array Slot} (h : XH E (sg st) s H locs) (hl : lv_has ls 4 [(0, .ref (E.ad 68)), (1, .int v1), (2, .int v2), (3, .int v3)]) : W p l e rmX6_limit s m args below meth c H locs 0 0 Q (F0 m 12 ls []) := by
  refine iter_W (G := fun t => ∀ (H : Heap) (locs : List Loc) (ls : Array Slot), XH E (sg t.2.2) s H locs → lv_has ls 4 [(0, .ref (E.ad 68)), (1, .int v1), (2, .int t.1), (3, .int t.2.1)] → W p l e rmX6_limit s m args below meth c H locs 0 0 Q (F0 m 12 ls [])) (E := fun t => ∀ (H : Heap) (locs : List Loc) (ls : Array Slot), XH E (sg t.2) s H locs → lv_has ls 4 [(0, .ref (E.ad 68)), (1, .int v1), (2, .int t.1)] → W p l e rmX6_limit s m args below meth c H locs 0 0 Q (F0 m 46 ls [])) (fun t x hx K H locs ls h hl => ?_) n _ r hx hE H locs ls h hl
  obtain ⟨v2, v3, st⟩ := t
  exact bX6_limit_12 C hI v1 v2 v3 st hx (fun _ _ _ z => z) (fun _ _ z => z) K h hl
def fX6_limit (st : St) : Option (Int32 × St) :=
  gd (inB (3 : Int32) 46) <|
  nm (st.1 70 (3 : Int32).toNatClampNeg) fun v1_2 =>
  bd (iter (u3 fun z2 z3 zst => fX6_limit_12 v1_2 z2 z3 zst) FU ((0 : Int32), (99 : Int32), st)) (u2 fun v2_10 st_10 =>
  gd (inB (3 : Int32) 46) <|
  nm (uI st_10 70 (3 : Int32).toNatClampNeg v1_2) fun st_12 =>
  some (v2_10, st_12))
set_option maxHeartbeats 1000000 in
theorem bX6_limit (C : Cx E s0 b p s m args meth c cX6_limit 4 "EarthMeshModel" (some .int)) (hI : Sx E) (st : St) {x : Int32 × St} (hx : fX6_limit st = some x) {H : Heap} {locs : List Loc} {ls : Array Slot} (h : XH E (sg st) s H locs) (hl : lv_has ls 4 [(0, .ref (E.ad 68))]) : W p l e rmX6_limit s m args below meth c H locs 0 0 (MQ below (Qx E (some (.int x.1)) (sg x.2)) args s 0 0 (gA E.HB)) (F0 m 0 ls []) := by
  unfold fX6_limit at hx
  refine lv_aload_n C.x C.bc dX6_limit_0 rfl (lv_at hl 0 rfl) ?_
  refine gt_X6_31_68 C hI h dX6_limit_1 ?_
  refine lv_iconst (v := (3 : Int32)) C.x C.bc dX6_limit_4 (by decide) ?_
  obtain ⟨g_1, hx⟩ := gd_e hx
  refine x_iald C h 70 46 (hI 70 (by decide)) k_70 g_1 dX6_limit_5 ?_
  obtain ⟨v1_2, e_2, hx⟩ := nm_x hx
  refine x_ti e_2 ?_
  refine lv_istore_n (lv' := [(1, .int v1_2), (0, .ref (E.ad 68))]) C.x C.bc dX6_limit_6 rfl hl (by decide) rfl (fun ls hl => ?_)
  refine lv_iconst (v := (0 : Int32)) C.x C.bc dX6_limit_7 (by decide) ?_
  refine lv_istore_n (lv' := [(2, .int (0 : Int32)), (1, .int v1_2), (0, .ref (E.ad 68))]) C.x C.bc dX6_limit_8 rfl hl (by decide) rfl (fun ls hl => ?_)
  refine lv_bipush (v := (99 : Int32)) C.x C.bc dX6_limit_9 (by decide) ?_
  refine lv_istore_n (lv' := [(3, .int (99 : Int32)), (2, .int (0 : Int32)), (1, .int v1_2), (0, .ref (E.ad 68))]) C.x C.bc dX6_limit_11 rfl hl (by decide) rfl (fun ls hl => ?_)
  obtain ⟨⟨v2_10, st_10⟩, hi_10, hx⟩ := bd_e hx
  have hx := u2_e hx
  refine pX6_limit_12 C hI v1_2 hi_10 (fun H locs ls h hl => ?_) h (lv_sub hl [3, 2, 1, 0] rfl)
  refine lv_aload_n C.x C.bc dX6_limit_46 rfl (lv_at hl 0 rfl) ?_
  refine gt_X6_31_68 C hI h dX6_limit_47 ?_
  refine lv_iconst (v := (3 : Int32)) C.x C.bc dX6_limit_50 (by decide) ?_
  refine lv_iload_n C.x C.bc dX6_limit_51 rfl (lv_at hl 1 rfl) ?_
  obtain ⟨g_11, hx⟩ := gd_e hx
  obtain ⟨st_12, e_12, hx⟩ := nm_x hx
  refine y_iast C h 70 46 (hI 70 (by decide)) k_70 g_11 e_12 dX6_limit_52 (fun H locs h => ?_)
  refine lv_iload_n C.x C.bc dX6_limit_53 rfl (lv_at hl 2 rfl) ?_
  obtain rfl := Option.some.inj hx
  exact x_iret C h dX6_limit_54
theorem mX6_limit (hG : G0 E s0 b) (hI : Sx E)  {x : Int32 × St} (hx : fX6_limit st = some x) : Mt l E s0 yX6_limit cX6_limit 4 (some .int) rmX6_limit [.ref (E.ad 68)] (sg st) (some (.int x.1)) E (sg x.2) :=
  Mt.of hG (by decide) (Nat.le_of_ble_eq_true rfl) (fun p e s m below meth c ls C h hl => bX6_limit C hI st hx h hl)
theorem cX6_294_X6_limit  {r : Int32} {st' : St} (C : Cx E s0 b p s m args meth c cc nL "EarthMeshModel" rt) (hI : Sx E) (h : XH E (sg st) s H locs) (hf : fX6_limit st = some (r, st')) (hR : rmX6_limit.frames + 1 ≤ R.frames ∧ 16 + (4 + 11) + rmX6_limit.locals ≤ R.locals) (h0 : cells ≤ R.cells ∧ slots ≤ R.slots) (hsz : ls.size = nL) (hcat : (rest.map fun v => v.category).sum ≤ 16) (hdg : decode cc pc = .ok (.invokevirtual 294, 3)) (kk : ∀ (H : Heap) (locs : List Loc), XH E (sg st') s H locs → W p l e R s m args below meth c H locs cells slots Q (F0 m (pc + 3) ls (.int r :: rest))) : W p l e R s m args below meth c H locs cells slots Q (F0 m pc ls (.ref (E.ad 68) :: rest)) :=
  x_callV (n := 0) (As := []) C h 68 5 (hI 68 (by decide)) k_68 rfl (mX6_limit C.g hI hf) (lw_V q1950 q1952 qs110 q136 q1953) ⟨rfl, by decide +kernel, by decide +kernel, by decide +kernel⟩ hR ⟨rfl, rfl⟩ h0 rfl hsz rfl hcat hdg kk
abbrev rmX6_parts : Room := { frames := 1, cells := 0, slots := 0, locals := 30 }
def fX6_parts_30 (v1 : Int32) (v3 : Int32) (k0 : Int32) (k1 : Int32) (st : St) : Option ((Int32 × Int32) ⊕ (Int32)) :=
  nm (k0 + k1) fun v2_5 =>
  nm (v3 + (1 : Int32)) fun v3_6 =>
  some (.inl (v2_5, v3_6))
set_option maxHeartbeats 1000000 in
theorem bX6_parts_30 (C : Cx E s0 b p s m args meth c cX6_parts 4 "EarthMeshModel" (some .int)) (hI : Sx E) (v1 : Int32) (v3 : Int32) (k0 : Int32) (k1 : Int32) (st : St) {x : (Int32 × Int32) ⊕ (Int32)} (hx : fX6_parts_30 v1 v3 k0 k1 st = some x) {Q : State → Prop} {G : Int32 × Int32 → Prop} {X : Int32 → Prop} (hG : ∀ (w2 : Int32) (w3 : Int32), G (w2, w3) → ∀ (H : Heap) (locs : List Loc) (ls : Array Slot), XH E (sg st) s H locs → lv_has ls 4 [(0, .ref (E.ad 68)), (1, .int v1), (2, .int w2), (3, .int w3)] → W p l e rmX6_parts s m args below meth c H locs 0 0 Q (F0 m 4 ls [])) (hE0 : ∀ (w2 : Int32), X w2 → ∀ (H : Heap) (locs : List Loc) (ls : Array Slot), XH E (sg st) s H locs → lv_has ls 4 [(2, .int w2)] → W p l e rmX6_parts s m args below meth c H locs 0 0 Q (F0 m 38 ls [])) (K : Kx G X x) {H : Heap} {locs : List Loc} {ls : Array Slot} (h : XH E (sg st) s H locs) (hl : lv_has ls 4 [(0, .ref (E.ad 68)), (1, .int v1), (3, .int v3)]) : W p l e rmX6_parts s m args below meth c H locs 0 0 Q (F0 m 30 ls [.int k1, .int k0]) := by
  unfold fX6_parts_30 at hx
  refine lv_iadd C.x C.bc dX6_parts_30 ?_
  obtain ⟨v2_5, e_5, hx⟩ := nm_x hx
  refine x_ti e_5 ?_
  refine lv_istore_n (lv' := [(2, .int v2_5), (0, .ref (E.ad 68)), (1, .int v1), (3, .int v3)]) C.x C.bc dX6_parts_31 rfl hl (by decide) rfl (fun ls hl => ?_)
  obtain ⟨v3_6, e_6, hx⟩ := nm_x hx
  refine lv_iinc (v := v3_6) (lv' := [(3, .int v3_6), (2, .int v2_5), (0, .ref (E.ad 68)), (1, .int v1)]) C.x C.bc dX6_parts_32 hl (k := 3) rfl (by rw [e_6]; rfl) (by decide) rfl (fun ls hl => ?_)
  refine lv_goto (tgt := 4) C.x C.bc dX6_parts_35 (by decide) ?_
  obtain rfl := Option.some.inj hx
  exact hG _ _ K _ _ _ h (lv_sub hl [2, 3, 1, 0] rfl)
def fX6_parts_4 (v1 : Int32) (v2 : Int32) (v3 : Int32) (st : St) : Option ((Int32 × Int32) ⊕ (Int32)) :=
  bd (fX6_nodes_70 st) fun r_1 =>
  if r_1 ≤ v3 then
    some (.inr v2)
  else
    bd (fX6_part v3 v1 st) fun r_3 =>
    if r_3 ≤ 0 then
      fX6_parts_30 v1 v3 v2 (0 : Int32) st
    else
      fX6_parts_30 v1 v3 v2 (1 : Int32) st
set_option maxHeartbeats 1000000 in
theorem bX6_parts_4 (C : Cx E s0 b p s m args meth c cX6_parts 4 "EarthMeshModel" (some .int)) (hI : Sx E) (v1 : Int32) (v2 : Int32) (v3 : Int32) (st : St) {x : (Int32 × Int32) ⊕ (Int32)} (hx : fX6_parts_4 v1 v2 v3 st = some x) {Q : State → Prop} {G : Int32 × Int32 → Prop} {X : Int32 → Prop} (hG : ∀ (w2 : Int32) (w3 : Int32), G (w2, w3) → ∀ (H : Heap) (locs : List Loc) (ls : Array Slot), XH E (sg st) s H locs → lv_has ls 4 [(0, .ref (E.ad 68)), (1, .int v1), (2, .int w2), (3, .int w3)] → W p l e rmX6_parts s m args below meth c H locs 0 0 Q (F0 m 4 ls [])) (hE0 : ∀ (w2 : Int32), X w2 → ∀ (H : Heap) (locs : List Loc) (ls : Array Slot), XH E (sg st) s H locs → lv_has ls 4 [(2, .int w2)] → W p l e rmX6_parts s m args below meth c H locs 0 0 Q (F0 m 38 ls [])) (K : Kx G X x) {H : Heap} {locs : List Loc} {ls : Array Slot} (h : XH E (sg st) s H locs) (hl : lv_has ls 4 [(0, .ref (E.ad 68)), (1, .int v1), (2, .int v2), (3, .int v3)]) : W p l e rmX6_parts s m args below meth c H locs 0 0 Q (F0 m 4 ls []) := by
  unfold fX6_parts_4 at hx
  refine lv_iload_n C.x C.bc dX6_parts_4 rfl (lv_at hl 3 rfl) ?_
  refine lv_aload_n C.x C.bc dX6_parts_5 rfl (lv_at hl 0 rfl) ?_
  refine gt_X6_31_68 C hI h dX6_parts_6 ?_
  obtain ⟨r_1, hf_1, hx⟩ := bd_e hx
  refine cX6_190_X6_nodes_70 C hI h hf_1 ⟨Nat.le_of_ble_eq_true rfl, Nat.le_of_ble_eq_true rfl⟩ ⟨Nat.zero_le _, Nat.zero_le _⟩ hl.1 (Nat.le_of_ble_eq_true rfl) dX6_parts_9 (fun H locs h => ?_)
  refine lv_icmp_ge (tgt := 38) C.x C.bc dX6_parts_12 (by decide) (fun c_2 => ?_) (fun c_2 => ?_)
  · have hx := ge_t hx c_2
    obtain rfl := Option.some.inj hx
    exact hE0 _ K _ _ _ h (lv_sub hl [2] rfl)
  · have hx := ge_f hx c_2
    refine lv_iload_n C.x C.bc dX6_parts_15 rfl (lv_at hl 2 rfl) ?_
    refine lv_aload_n C.x C.bc dX6_parts_16 rfl (lv_at hl 0 rfl) ?_
    refine lv_iload_n C.x C.bc dX6_parts_17 rfl (lv_at hl 3 rfl) ?_
    refine lv_iload_n C.x C.bc dX6_parts_18 rfl (lv_at hl 1 rfl) ?_
    obtain ⟨r_3, hf_3, hx⟩ := bd_e hx
    refine cX6_194_X6_part C hI h hf_3 ⟨Nat.le_of_ble_eq_true rfl, Nat.le_of_ble_eq_true rfl⟩ ⟨Nat.zero_le _, Nat.zero_le _⟩ hl.1 (Nat.le_of_ble_eq_true rfl) dX6_parts_19 (fun H locs h => ?_)
    refine lv_if_le (tgt := 29) C.x C.bc dX6_parts_22 (by decide) (fun c_4 => ?_) (fun c_4 => ?_)
    · have hx := ge_t hx c_4
      refine lv_iconst (v := (0 : Int32)) C.x C.bc dX6_parts_29 (by decide) ?_
      exact bX6_parts_30 C hI v1 v3 v2 (0 : Int32) st hx hG hE0 K h (lv_sub hl [0, 1, 3] rfl)
    · have hx := ge_f hx c_4
      refine lv_iconst (v := (1 : Int32)) C.x C.bc dX6_parts_25 (by decide) ?_
      refine lv_goto (tgt := 30) C.x C.bc dX6_parts_26 (by decide) ?_
      exact bX6_parts_30 C hI v1 v3 v2 (1 : Int32) st hx hG hE0 K h (lv_sub hl [0, 1, 3] rfl)
set_option maxHeartbeats 1000000 in
theorem pX6_parts_4 (C : Cx E s0 b p s m args meth c cX6_parts 4 "EarthMeshModel" (some .int)) (hI : Sx E) (v1 : Int32) (st : St) {Q : State → Prop} {v2 : Int32} {v3 : Int32} {n : Nat} {r : Int32} (hx : iter (u2 fun v2 v3 => fX6_parts_4 v1 v2 v3 st) n (v2, v3) = some r) (hE : (fun t => ∀ (H : Heap) (locs : List Loc) (ls : Array Slot), XH E (sg st) s H locs → lv_has ls 4 [(2, .int t)] → W p l e rmX6_parts s m args below meth c H locs 0 0 Q (F0 m 38 ls [])) r) {H : Heap} {locs : List Loc} {ls : Array Slot} (h : XH E (sg st) s H locs) (hl : lv_has ls 4 [(0, .ref (E.ad 68)), (1, .int v1), (2, .int v2), (3, .int v3)]) : W p l e rmX6_parts s m args below meth c H locs 0 0 Q (F0 m 4 ls []) := by
  refine iter_W (G := fun t => ∀ (H : Heap) (locs : List Loc) (ls : Array Slot), XH E (sg st) s H locs → lv_has ls 4 [(0, .ref (E.ad 68)), (1, .int v1), (2, .int t.1), (3, .int t.2)] → W p l e rmX6_parts s m args below meth c H locs 0 0 Q (F0 m 4 ls [])) (E := fun t => ∀ (H : Heap) (locs : List Loc) (ls : Array Slot), XH E (sg st) s H locs → lv_has ls 4 [(2, .int t)] → W p l e rmX6_parts s m args below meth c H locs 0 0 Q (F0 m 38 ls [])) (fun t x hx K H locs ls h hl => ?_) n _ r hx hE H locs ls h hl
  obtain ⟨v2, v3⟩ := t
  exact bX6_parts_4 C hI v1 v2 v3 st hx (fun _ _ z => z) (fun _ z => z) K h hl
def fX6_parts (v1 : Int32) (st : St) : Option (Int32) :=
  bd (iter (u2 fun z2 z3 => fX6_parts_4 v1 z2 z3 st) FU ((0 : Int32), (0 : Int32))) (u1 fun v2_7 =>
  some v2_7)
set_option maxHeartbeats 1000000 in
theorem bX6_parts (C : Cx E s0 b p s m args meth c cX6_parts 4 "EarthMeshModel" (some .int)) (hI : Sx E) (v1 : Int32) (st : St) {x : Int32} (hx : fX6_parts v1 st = some x) {H : Heap} {locs : List Loc} {ls : Array Slot} (h : XH E (sg st) s H locs) (hl : lv_has ls 4 [(0, .ref (E.ad 68)), (1, .int v1)]) : W p l e rmX6_parts s m args below meth c H locs 0 0 (MQ below (Qx E (some (.int x)) (sg st)) args s 0 0 (gA E.HB)) (F0 m 0 ls []) := by
  unfold fX6_parts at hx
  refine lv_iconst (v := (0 : Int32)) C.x C.bc dX6_parts_0 (by decide) ?_
  refine lv_istore_n (lv' := [(2, .int (0 : Int32)), (0, .ref (E.ad 68)), (1, .int v1)]) C.x C.bc dX6_parts_1 rfl hl (by decide) rfl (fun ls hl => ?_)
  refine lv_iconst (v := (0 : Int32)) C.x C.bc dX6_parts_2 (by decide) ?_
  refine lv_istore_n (lv' := [(3, .int (0 : Int32)), (2, .int (0 : Int32)), (0, .ref (E.ad 68)), (1, .int v1)]) C.x C.bc dX6_parts_3 rfl hl (by decide) rfl (fun ls hl => ?_)
  obtain ⟨v2_7, hi_7, hx⟩ := bd_e hx
  have hx := u1_e hx
  refine pX6_parts_4 C hI v1 st hi_7 (fun H locs ls h hl => ?_) h (lv_sub hl [2, 3, 1, 0] rfl)
  refine lv_iload_n C.x C.bc dX6_parts_38 rfl (lv_at hl 0 rfl) ?_
  obtain rfl := Option.some.inj hx
  exact x_iret C h dX6_parts_39
theorem mX6_parts (hG : G0 E s0 b) (hI : Sx E) {v1 : Int32} {x : Int32} (hx : fX6_parts v1 st = some x) : Mt l E s0 yX6_parts cX6_parts 4 (some .int) rmX6_parts [.ref (E.ad 68), .int v1] (sg st) (some (.int x)) E (sg st) :=
  Mt.of hG (by decide) (Nat.le_of_ble_eq_true rfl) (fun p e s m below meth c ls C h hl => bX6_parts C hI v1 st hx h hl)
theorem cX6_291_X6_parts {a0 : Int32} {r : Int32} (C : Cx E s0 b p s m args meth c cc nL "EarthMeshModel" rt) (hI : Sx E) (h : XH E (sg st) s H locs) (hf : fX6_parts a0 st = some r) (hR : rmX6_parts.frames + 1 ≤ R.frames ∧ 16 + (4 + 11) + rmX6_parts.locals ≤ R.locals) (h0 : cells ≤ R.cells ∧ slots ≤ R.slots) (hsz : ls.size = nL) (hcat : (rest.map fun v => v.category).sum ≤ 16) (hdg : decode cc pc = .ok (.invokevirtual 291, 3)) (kk : ∀ (H : Heap) (locs : List Loc), XH E (sg st) s H locs → W p l e R s m args below meth c H locs cells slots Q (F0 m (pc + 3) ls (.int r :: rest))) : W p l e R s m args below meth c H locs cells slots Q (F0 m pc ls (.int a0 :: .ref (E.ad 68) :: rest)) :=
  x_callV (n := 1) (As := [.int a0]) C h 68 5 (hI 68 (by decide)) k_68 rfl (mX6_parts C.g hI hf) (lw_V q1946 q1948 qs109 q136 q1949) ⟨rfl, by decide +kernel, by decide +kernel, by decide +kernel⟩ hR ⟨rfl, rfl⟩ h0 rfl hsz rfl hcat hdg kk
abbrev rmX6_needed : Room := { frames := 8, cells := 0, slots := 0, locals := 264 }
def fX6_needed_126 (v1 : Int32) (v2 : Int32) (v3 : Int32) (v4 : Int32) (v5 : Int32) (st : St) : Option ((Int32 × Int32 × Int32 × St) ⊕ (Int32 × Int32 × St)) :=
  nm (v5 + (1 : Int32)) fun v5_15 =>
  some (.inl (v2, v3, v5_15, st))
set_option maxHeartbeats 1000000 in
theorem bX6_needed_126 (C : Cx E s0 b p s m args meth c cX6_needed 8 "EarthMeshModel" (some .int)) (hI : Sx E) (v1 : Int32) (v2 : Int32) (v3 : Int32) (v4 : Int32) (v5 : Int32) (st : St) {x : (Int32 × Int32 × Int32 × St) ⊕ (Int32 × Int32 × St)} (hx : fX6_needed_126 v1 v2 v3 v4 v5 st = some x) {Q : State → Prop} {G : Int32 × Int32 × Int32 × St → Prop} {X : Int32 × Int32 × St → Prop} (hG : ∀ (w2 : Int32) (w3 : Int32) (w5 : Int32) (wst : St), G (w2, w3, w5, wst) → ∀ (H : Heap) (locs : List Loc) (ls : Array Slot), XH E (sg wst) s H locs → lv_has ls 8 [(0, .ref (E.ad 68)), (1, .int v1), (2, .int w2), (3, .int w3), (4, .int v4), (5, .int w5)] → W p l e rmX6_needed s m args below meth c H locs 0 0 Q (F0 m 16 ls [])) (hE0 : ∀ (w2 : Int32) (w3 : Int32) (wst : St), X (w2, w3, wst) → ∀ (H : Heap) (locs : List Loc) (ls : Array Slot), XH E (sg wst) s H locs → lv_has ls 8 [(0, .ref (E.ad 68)), (1, .int v1), (2, .int w2), (3, .int w3), (4, .int v4)] → W p l e rmX6_needed s m args below meth c H locs 0 0 Q (F0 m 132 ls [])) (K : Kx G X x) {H : Heap} {locs : List Loc} {ls : Array Slot} (h : XH E (sg st) s H locs) (hl : lv_has ls 8 [(0, .ref (E.ad 68)), (1, .int v1), (2, .int v2), (3, .int v3), (4, .int v4), (5, .int v5)]) : W p l e rmX6_needed s m args below meth c H locs 0 0 Q (F0 m 126 ls []) := by
  unfold fX6_needed_126 at hx
  obtain ⟨v5_15, e_15, hx⟩ := nm_x hx
  refine lv_iinc (v := v5_15) (lv' := [(5, .int v5_15), (0, .ref (E.ad 68)), (1, .int v1), (2, .int v2), (3, .int v3), (4, .int v4)]) C.x C.bc dX6_needed_126 hl (k := 5) rfl (by rw [e_15]; rfl) (by decide) rfl (fun ls hl => ?_)
  refine lv_goto (tgt := 16) C.x C.bc dX6_needed_129 (by decide) ?_
  obtain rfl := Option.some.inj hx
  exact hG _ _ _ _ K _ _ _ h (lv_sub hl [1, 2, 3, 4, 5, 0] rfl)
def fX6_needed_122 (v1 : Int32) (v2 : Int32) (v4 : Int32) (v5 : Int32) (k0 : Int32) (st : St) : Option ((Int32 × Int32 × Int32 × St) ⊕ (Int32 × Int32 × St)) :=
  nm (v2 + (1 : Int32)) fun v2_14 =>
  fX6_needed_126 v1 v2_14 k0 v4 v5 st
set_option maxHeartbeats 1000000 in
theorem bX6_needed_122 (C : Cx E s0 b p s m args meth c cX6_needed 8 "EarthMeshModel" (some .int)) (hI : Sx E) (v1 : Int32) (v2 : Int32) (v4 : Int32) (v5 : Int32) (k0 : Int32) (st : St) {x : (Int32 × Int32 × Int32 × St) ⊕ (Int32 × Int32 × St)} (hx : fX6_needed_122 v1 v2 v4 v5 k0 st = some x) {Q : State → Prop} {G : Int32 × Int32 × Int32 × St → Prop} {X : Int32 × Int32 × St → Prop} (hG : ∀ (w2 : Int32) (w3 : Int32) (w5 : Int32) (wst : St), G (w2, w3, w5, wst) → ∀ (H : Heap) (locs : List Loc) (ls : Array Slot), XH E (sg wst) s H locs → lv_has ls 8 [(0, .ref (E.ad 68)), (1, .int v1), (2, .int w2), (3, .int w3), (4, .int v4), (5, .int w5)] → W p l e rmX6_needed s m args below meth c H locs 0 0 Q (F0 m 16 ls [])) (hE0 : ∀ (w2 : Int32) (w3 : Int32) (wst : St), X (w2, w3, wst) → ∀ (H : Heap) (locs : List Loc) (ls : Array Slot), XH E (sg wst) s H locs → lv_has ls 8 [(0, .ref (E.ad 68)), (1, .int v1), (2, .int w2), (3, .int w3), (4, .int v4)] → W p l e rmX6_needed s m args below meth c H locs 0 0 Q (F0 m 132 ls [])) (K : Kx G X x) {H : Heap} {locs : List Loc} {ls : Array Slot} (h : XH E (sg st) s H locs) (hl : lv_has ls 8 [(0, .ref (E.ad 68)), (1, .int v1), (2, .int v2), (4, .int v4), (5, .int v5)]) : W p l e rmX6_needed s m args below meth c H locs 0 0 Q (F0 m 122 ls [.int k0]) := by
  unfold fX6_needed_122 at hx
  refine lv_istore_n (lv' := [(3, .int k0), (0, .ref (E.ad 68)), (1, .int v1), (2, .int v2), (4, .int v4), (5, .int v5)]) C.x C.bc dX6_needed_122 rfl hl (by decide) rfl (fun ls hl => ?_)
  obtain ⟨v2_14, e_14, hx⟩ := nm_x hx
  refine lv_iinc (v := v2_14) (lv' := [(2, .int v2_14), (3, .int k0), (0, .ref (E.ad 68)), (1, .int v1), (4, .int v4), (5, .int v5)]) C.x C.bc dX6_needed_123 hl (k := 3) rfl (by rw [e_14]; rfl) (by decide) rfl (fun ls hl => ?_)
  exact bX6_needed_126 C hI v1 v2_14 k0 v4 v5 st hx hG hE0 K h (lv_sub hl [2, 3, 0, 1, 4, 5] rfl)
def fX6_needed_75 (v1 : Int32) (v2 : Int32) (v3 : Int32) (v4 : Int32) (v5 : Int32) (v6 : Int32) (k0 : Int32) (st : St) : Option ((Int32 × Int32 × Int32 × St) ⊕ (Int32 × Int32 × St)) :=
  gd (inB (((10 : Int32) + ((12 : Int32) * v4)) + v5) 46) <|
  nm (uI st 70 (((10 : Int32) + ((12 : Int32) * v4)) + v5).toNatClampNeg v6) fun st_11 =>
  if k0 = 0 then
    fX6_needed_126 v1 v2 v3 v4 v5 st_11
  else
    if v2 = 0 then
      fX6_needed_122 v1 v2 v4 v5 ((((100 : Int32) * v4) + (100 : Int32)) + v5) st_11
    else
      fX6_needed_122 v1 v2 v4 v5 v3 st_11
set_option maxHeartbeats 1000000 in
theorem bX6_needed_75 (C : Cx E s0 b p s m args meth c cX6_needed 8 "EarthMeshModel" (some .int)) (hI : Sx E) (v1 : Int32) (v2 : Int32) (v3 : Int32) (v4 : Int32) (v5 : Int32) (v6 : Int32) (k0 : Int32) (st : St) {x : (Int32 × Int32 × Int32 × St) ⊕ (Int32 × Int32 × St)} (hx : fX6_needed_75 v1 v2 v3 v4 v5 v6 k0 st = some x) {Q : State → Prop} {G : Int32 × Int32 × Int32 × St → Prop} {X : Int32 × Int32 × St → Prop} (hG : ∀ (w2 : Int32) (w3 : Int32) (w5 : Int32) (wst : St), G (w2, w3, w5, wst) → ∀ (H : Heap) (locs : List Loc) (ls : Array Slot), XH E (sg wst) s H locs → lv_has ls 8 [(0, .ref (E.ad 68)), (1, .int v1), (2, .int w2), (3, .int w3), (4, .int v4), (5, .int w5)] → W p l e rmX6_needed s m args below meth c H locs 0 0 Q (F0 m 16 ls [])) (hE0 : ∀ (w2 : Int32) (w3 : Int32) (wst : St), X (w2, w3, wst) → ∀ (H : Heap) (locs : List Loc) (ls : Array Slot), XH E (sg wst) s H locs → lv_has ls 8 [(0, .ref (E.ad 68)), (1, .int v1), (2, .int w2), (3, .int w3), (4, .int v4)] → W p l e rmX6_needed s m args below meth c H locs 0 0 Q (F0 m 132 ls [])) (K : Kx G X x) {H : Heap} {locs : List Loc} {ls : Array Slot} (h : XH E (sg st) s H locs) (hl : lv_has ls 8 [(0, .ref (E.ad 68)), (1, .int v1), (2, .int v2), (3, .int v3), (4, .int v4), (5, .int v5), (6, .int v6)]) : W p l e rmX6_needed s m args below meth c H locs 0 0 Q (F0 m 75 ls [.int k0]) := by
  unfold fX6_needed_75 at hx
  refine lv_istore (lv' := [(7, .int k0), (0, .ref (E.ad 68)), (1, .int v1), (2, .int v2), (3, .int v3), (4, .int v4), (5, .int v5), (6, .int v6)]) C.x C.bc dX6_needed_75 hl (by decide) rfl (fun ls hl => ?_)
  refine lv_aload_n C.x C.bc dX6_needed_77 rfl (lv_at hl 1 rfl) ?_
  refine gt_X6_31_68 C hI h dX6_needed_78 ?_
  refine lv_bipush (v := (10 : Int32)) C.x C.bc dX6_needed_81 (by decide) ?_
  refine lv_bipush (v := (12 : Int32)) C.x C.bc dX6_needed_83 (by decide) ?_
  refine lv_iload C.x C.bc dX6_needed_85 (lv_at hl 5 rfl) ?_
  refine lv_imul C.x C.bc dX6_needed_87 ?_
  refine lv_iadd C.x C.bc dX6_needed_88 ?_
  refine lv_iload C.x C.bc dX6_needed_89 (lv_at hl 6 rfl) ?_
  refine lv_iadd C.x C.bc dX6_needed_91 ?_
  refine lv_iload C.x C.bc dX6_needed_92 (lv_at hl 7 rfl) ?_
  obtain ⟨g_10, hx⟩ := gd_e hx
  obtain ⟨st_11, e_11, hx⟩ := nm_x hx
  refine y_iast C h 70 46 (hI 70 (by decide)) k_70 g_10 e_11 dX6_needed_94 (fun H locs h => ?_)
  refine lv_iload C.x C.bc dX6_needed_95 (lv_at hl 0 rfl) ?_
  refine lv_if_ne (tgt := 103) C.x C.bc dX6_needed_97 (by decide) (fun c_12 => ?_) (fun c_12 => ?_)
  · have hx := ge_f hx c_12
    refine lv_iload_n C.x C.bc dX6_needed_103 rfl (lv_at hl 3 rfl) ?_
    refine lv_if_ne (tgt := 121) C.x C.bc dX6_needed_104 (by decide) (fun c_13 => ?_) (fun c_13 => ?_)
    · have hx := ge_f hx c_13
      refine lv_iload_n C.x C.bc dX6_needed_121 rfl (lv_at hl 4 rfl) ?_
      exact bX6_needed_122 C hI v1 v2 v4 v5 v3 st_11 hx hG hE0 K h (lv_sub hl [1, 2, 3, 5, 6] rfl)
    · have hx := ge_t hx c_13
      refine lv_bipush (v := (100 : Int32)) C.x C.bc dX6_needed_107 (by decide) ?_
      refine lv_iload C.x C.bc dX6_needed_109 (lv_at hl 5 rfl) ?_
      refine lv_imul C.x C.bc dX6_needed_111 ?_
      refine lv_bipush (v := (100 : Int32)) C.x C.bc dX6_needed_112 (by decide) ?_
      refine lv_iadd C.x C.bc dX6_needed_114 ?_
      refine lv_iload C.x C.bc dX6_needed_115 (lv_at hl 6 rfl) ?_
      refine lv_iadd C.x C.bc dX6_needed_117 ?_
      refine lv_goto (tgt := 122) C.x C.bc dX6_needed_118 (by decide) ?_
      exact bX6_needed_122 C hI v1 v2 v4 v5 ((((100 : Int32) * v4) + (100 : Int32)) + v5) st_11 hx hG hE0 K h (lv_sub hl [1, 2, 3, 5, 6] rfl)
  · have hx := ge_t hx c_12
    refine lv_goto (tgt := 126) C.x C.bc dX6_needed_100 (by decide) ?_
    exact bX6_needed_126 C hI v1 v2 v3 v4 v5 st_11 hx hG hE0 K h (lv_sub hl [1, 2, 3, 4, 5, 6] rfl)
def fX6_needed_16 (v1 : Int32) (v2 : Int32) (v3 : Int32) (v4 : Int32) (v5 : Int32) (st : St) : Option ((Int32 × Int32 × Int32 × St) ⊕ (Int32 × Int32 × St)) :=
  bd (fX6_nodes_70 st) fun r_2 =>
  if r_2 ≤ v5 then
    some (.inr (v2, v3, st))
  else
    bd (fX6_part v5 v4 st) fun r_4 =>
    if r_4 = 0 then
      fX6_needed_126 v1 v2 v3 v4 v5 st
    else
      gd (inB (((10 : Int32) + ((12 : Int32) * v4)) + v5) 46) <|
      nm (uI st 70 (((10 : Int32) + ((12 : Int32) * v4)) + v5).toNatClampNeg (0 : Int32)) fun st_7 =>
      bd (fX6_isSafe st_7) <| u2 fun r_8 st_8 =>
      if r_8 = 0 then
        fX6_needed_75 v1 v2 v3 v4 v5 r_4 (1 : Int32) st_8
      else
        fX6_needed_75 v1 v2 v3 v4 v5 r_4 (0 : Int32) st_8
set_option maxHeartbeats 1000000 in
theorem bX6_needed_16 (C : Cx E s0 b p s m args meth c cX6_needed 8 "EarthMeshModel" (some .int)) (hI : Sx E) (v1 : Int32) (v2 : Int32) (v3 : Int32) (v4 : Int32) (v5 : Int32) (st : St) {x : (Int32 × Int32 × Int32 × St) ⊕ (Int32 × Int32 × St)} (hx : fX6_needed_16 v1 v2 v3 v4 v5 st = some x) {Q : State → Prop} {G : Int32 × Int32 × Int32 × St → Prop} {X : Int32 × Int32 × St → Prop} (hG : ∀ (w2 : Int32) (w3 : Int32) (w5 : Int32) (wst : St), G (w2, w3, w5, wst) → ∀ (H : Heap) (locs : List Loc) (ls : Array Slot), XH E (sg wst) s H locs → lv_has ls 8 [(0, .ref (E.ad 68)), (1, .int v1), (2, .int w2), (3, .int w3), (4, .int v4), (5, .int w5)] → W p l e rmX6_needed s m args below meth c H locs 0 0 Q (F0 m 16 ls [])) (hE0 : ∀ (w2 : Int32) (w3 : Int32) (wst : St), X (w2, w3, wst) → ∀ (H : Heap) (locs : List Loc) (ls : Array Slot), XH E (sg wst) s H locs → lv_has ls 8 [(0, .ref (E.ad 68)), (1, .int v1), (2, .int w2), (3, .int w3), (4, .int v4)] → W p l e rmX6_needed s m args below meth c H locs 0 0 Q (F0 m 132 ls [])) (K : Kx G X x) {H : Heap} {locs : List Loc} {ls : Array Slot} (h : XH E (sg st) s H locs) (hl : lv_has ls 8 [(0, .ref (E.ad 68)), (1, .int v1), (2, .int v2), (3, .int v3), (4, .int v4), (5, .int v5)]) : W p l e rmX6_needed s m args below meth c H locs 0 0 Q (F0 m 16 ls []) := by
  unfold fX6_needed_16 at hx
  refine lv_iload C.x C.bc dX6_needed_16 (lv_at hl 5 rfl) ?_
  refine lv_aload_n C.x C.bc dX6_needed_18 rfl (lv_at hl 0 rfl) ?_
  refine gt_X6_31_68 C hI h dX6_needed_19 ?_
  obtain ⟨r_2, hf_2, hx⟩ := bd_e hx
  refine cX6_190_X6_nodes_70 C hI h hf_2 ⟨Nat.le_of_ble_eq_true rfl, Nat.le_of_ble_eq_true rfl⟩ ⟨Nat.zero_le _, Nat.zero_le _⟩ hl.1 (Nat.le_of_ble_eq_true rfl) dX6_needed_22 (fun H locs h => ?_)
  refine lv_icmp_ge (tgt := 132) C.x C.bc dX6_needed_25 (by decide) (fun c_3 => ?_) (fun c_3 => ?_)
  · have hx := ge_t hx c_3
    obtain rfl := Option.some.inj hx
    exact hE0 _ _ _ K _ _ _ h (lv_sub hl [0, 1, 2, 3, 4] rfl)
  · have hx := ge_f hx c_3
    refine lv_aload_n C.x C.bc dX6_needed_28 rfl (lv_at hl 0 rfl) ?_
    refine lv_iload C.x C.bc dX6_needed_29 (lv_at hl 5 rfl) ?_
    refine lv_iload C.x C.bc dX6_needed_31 (lv_at hl 4 rfl) ?_
    obtain ⟨r_4, hf_4, hx⟩ := bd_e hx
    refine cX6_194_X6_part C hI h hf_4 ⟨Nat.le_of_ble_eq_true rfl, Nat.le_of_ble_eq_true rfl⟩ ⟨Nat.zero_le _, Nat.zero_le _⟩ hl.1 (Nat.le_of_ble_eq_true rfl) dX6_needed_33 (fun H locs h => ?_)
    refine lv_istore (lv' := [(6, .int r_4), (0, .ref (E.ad 68)), (1, .int v1), (2, .int v2), (3, .int v3), (4, .int v4), (5, .int v5)]) C.x C.bc dX6_needed_36 hl (by decide) rfl (fun ls hl => ?_)
    refine lv_iload C.x C.bc dX6_needed_38 (lv_at hl 0 rfl) ?_
    refine lv_if_ne (tgt := 46) C.x C.bc dX6_needed_40 (by decide) (fun c_5 => ?_) (fun c_5 => ?_)
    · have hx := ge_f hx c_5
      refine lv_aload_n C.x C.bc dX6_needed_46 rfl (lv_at hl 1 rfl) ?_
      refine gt_X6_31_68 C hI h dX6_needed_47 ?_
      refine lv_bipush (v := (10 : Int32)) C.x C.bc dX6_needed_50 (by decide) ?_
      refine lv_bipush (v := (12 : Int32)) C.x C.bc dX6_needed_52 (by decide) ?_
      refine lv_iload C.x C.bc dX6_needed_54 (lv_at hl 5 rfl) ?_
      refine lv_imul C.x C.bc dX6_needed_56 ?_
      refine lv_iadd C.x C.bc dX6_needed_57 ?_
      refine lv_iload C.x C.bc dX6_needed_58 (lv_at hl 6 rfl) ?_
      refine lv_iadd C.x C.bc dX6_needed_60 ?_
      refine lv_iconst (v := (0 : Int32)) C.x C.bc dX6_needed_61 (by decide) ?_
      obtain ⟨g_6, hx⟩ := gd_e hx
      obtain ⟨st_7, e_7, hx⟩ := nm_x hx
      refine y_iast C h 70 46 (hI 70 (by decide)) k_70 g_6 e_7 dX6_needed_62 (fun H locs h => ?_)
      refine lv_aload_n C.x C.bc dX6_needed_63 rfl (lv_at hl 1 rfl) ?_
      obtain ⟨⟨r_8, st_8⟩, hf_8, hx⟩ := bd_e hx
      have hx := u2_e hx
      refine cX6_278_X6_isSafe C hI h hf_8 ⟨Nat.le_of_ble_eq_true rfl, Nat.le_of_ble_eq_true rfl⟩ ⟨Nat.zero_le _, Nat.zero_le _⟩ hl.1 (Nat.le_of_ble_eq_true rfl) dX6_needed_64 (fun H locs h => ?_)
      refine lv_if_ne (tgt := 74) C.x C.bc dX6_needed_67 (by decide) (fun c_9 => ?_) (fun c_9 => ?_)
      · have hx := ge_f hx c_9
        refine lv_iconst (v := (0 : Int32)) C.x C.bc dX6_needed_74 (by decide) ?_
        exact bX6_needed_75 C hI v1 v2 v3 v4 v5 r_4 (0 : Int32) st_8 hx hG hE0 K h (lv_sub hl [1, 2, 3, 4, 5, 6, 0] rfl)
      · have hx := ge_t hx c_9
        refine lv_iconst (v := (1 : Int32)) C.x C.bc dX6_needed_70 (by decide) ?_
        refine lv_goto (tgt := 75) C.x C.bc dX6_needed_71 (by decide) ?_
        exact bX6_needed_75 C hI v1 v2 v3 v4 v5 r_4 (1 : Int32) st_8 hx hG hE0 K h (lv_sub hl [1, 2, 3, 4, 5, 6, 0] rfl)
    · have hx := ge_t hx c_5
      refine lv_goto (tgt := 126) C.x C.bc dX6_needed_43 (by decide) ?_
      exact bX6_needed_126 C hI v1 v2 v3 v4 v5 st hx hG hE0 K h (lv_sub hl [1, 2, 3, 4, 5, 6] rfl)
set_option maxHeartbeats 1000000 in
theorem pX6_needed_16 (C : Cx E s0 b p s m args meth c cX6_needed 8 "EarthMeshModel" (some .int)) (hI : Sx E) (v1 : Int32) (v4 : Int32) {Q : State → Prop} {v2 : Int32} {v3 : Int32} {v5 : Int32} {st : St} {n : Nat} {r : Int32 × Int32 × St} (hx : iter (u4 fun v2 v3 v5 st => fX6_needed_16 v1 v2 v3 v4 v5 st) n (v2, v3, v5, st) = some r) (hE : (fun t => ∀ (H : Heap) (locs : List Loc) (ls : Array Slot), XH E (sg t.2.2) s H locs → lv_has ls 8 [(0, .ref (E.ad 68)), (1, .int v1), (2, .int t.1), (3, .int t.2.1), (4, .int v4)] → W p l e rmX6_needed s m args below meth c H locs 0 0 Q (F0 m 132 ls [])) r) {H : Heap} {locs : List Loc} {ls : Array Slot} (h : XH E (sg st) s H locs) (hl : lv_has ls 8 [(0, .ref (E.ad 68)), (1, .int v1), (2, .int v2), (3, .int v3), (4, .int v4), (5, .int v5)]) : W p l e rmX6_needed s m args below meth c H locs 0 0 Q (F0 m 16 ls []) := by
  refine iter_W (G := fun t => ∀ (H : Heap) (locs : List Loc) (ls : Array Slot), XH E (sg t.2.2.2) s H locs → lv_has ls 8 [(0, .ref (E.ad 68)), (1, .int v1), (2, .int t.1), (3, .int t.2.1), (4, .int v4), (5, .int t.2.2.1)] → W p l e rmX6_needed s m args below meth c H locs 0 0 Q (F0 m 16 ls [])) (E := fun t => ∀ (H : Heap) (locs : List Loc) (ls : Array Slot), XH E (sg t.2.2) s H locs → lv_has ls 8 [(0, .ref (E.ad 68)), (1, .int v1), (2, .int t.1), (3, .int t.2.1), (4, .int v4)] → W p l e rmX6_needed s m args below meth c H locs 0 0 Q (F0 m 132 ls [])) (fun t x hx K H locs ls h hl => ?_) n _ r hx hE H locs ls h hl
  obtain ⟨v2, v3, v5, st⟩ := t
  exact bX6_needed_16 C hI v1 v2 v3 v4 v5 st hx (fun _ _ _ _ z => z) (fun _ _ _ z => z) K h hl
def fX6_needed_7 (v1 : Int32) (v2 : Int32) (v3 : Int32) (v4 : Int32) (st : St) : Option ((Int32 × Int32 × Int32 × St) ⊕ (Int32 × Int32 × St)) :=
  if (2 : Int32) < v4 then
    some (.inr (v2, v3, st))
  else
    bd (iter (u4 fun z2 z3 z5 zst => fX6_needed_16 v1 z2 z3 v4 z5 zst) FU (v2, v3, (0 : Int32), st)) (u3 fun v2_16 v3_16 st_16 =>
    nm (v4 + (1 : Int32)) fun v4_17 =>
    some (.inl (v2_16, v3_16, v4_17, st_16)))
set_option maxHeartbeats 1000000 in
theorem bX6_needed_7 (C : Cx E s0 b p s m args meth c cX6_needed 8 "EarthMeshModel" (some .int)) (hI : Sx E) (v1 : Int32) (v2 : Int32) (v3 : Int32) (v4 : Int32) (st : St) {x : (Int32 × Int32 × Int32 × St) ⊕ (Int32 × Int32 × St)} (hx : fX6_needed_7 v1 v2 v3 v4 st = some x) {Q : State → Prop} {G : Int32 × Int32 × Int32 × St → Prop} {X : Int32 × Int32 × St → Prop} (hG : ∀ (w2 : Int32) (w3 : Int32) (w4 : Int32) (wst : St), G (w2, w3, w4, wst) → ∀ (H : Heap) (locs : List Loc) (ls : Array Slot), XH E (sg wst) s H locs → lv_has ls 8 [(0, .ref (E.ad 68)), (1, .int v1), (2, .int w2), (3, .int w3), (4, .int w4)] → W p l e rmX6_needed s m args below meth c H locs 0 0 Q (F0 m 7 ls [])) (hE0 : ∀ (w2 : Int32) (w3 : Int32) (wst : St), X (w2, w3, wst) → ∀ (H : Heap) (locs : List Loc) (ls : Array Slot), XH E (sg wst) s H locs → lv_has ls 8 [(1, .int v1), (2, .int w2), (3, .int w3)] → W p l e rmX6_needed s m args below meth c H locs 0 0 Q (F0 m 138 ls [])) (K : Kx G X x) {H : Heap} {locs : List Loc} {ls : Array Slot} (h : XH E (sg st) s H locs) (hl : lv_has ls 8 [(0, .ref (E.ad 68)), (1, .int v1), (2, .int v2), (3, .int v3), (4, .int v4)]) : W p l e rmX6_needed s m args below meth c H locs 0 0 Q (F0 m 7 ls []) := by
  unfold fX6_needed_7 at hx
  refine lv_iload C.x C.bc dX6_needed_7 (lv_at hl 4 rfl) ?_
  refine lv_iconst (v := (2 : Int32)) C.x C.bc dX6_needed_9 (by decide) ?_
  refine lv_icmp_gt (tgt := 138) C.x C.bc dX6_needed_10 (by decide) (fun c_1 => ?_) (fun c_1 => ?_)
  · have hx := ge_t hx c_1
    obtain rfl := Option.some.inj hx
    exact hE0 _ _ _ K _ _ _ h (lv_sub hl [1, 2, 3] rfl)
  · have hx := ge_f hx c_1
    refine lv_iconst (v := (0 : Int32)) C.x C.bc dX6_needed_13 (by decide) ?_
    refine lv_istore (lv' := [(5, .int (0 : Int32)), (0, .ref (E.ad 68)), (1, .int v1), (2, .int v2), (3, .int v3), (4, .int v4)]) C.x C.bc dX6_needed_14 hl (by decide) rfl (fun ls hl => ?_)
    obtain ⟨⟨v2_16, v3_16, st_16⟩, hi_16, hx⟩ := bd_e hx
    have hx := u3_e hx
    refine pX6_needed_16 C hI v1 v4 hi_16 (fun H locs ls h hl => ?_) h (lv_sub hl [1, 2, 3, 4, 5, 0] rfl)
    obtain ⟨v4_17, e_17, hx⟩ := nm_x hx
    refine lv_iinc (v := v4_17) (lv' := [(4, .int v4_17), (0, .ref (E.ad 68)), (1, .int v1), (2, .int v2_16), (3, .int v3_16)]) C.x C.bc dX6_needed_132 hl (k := 4) rfl (by rw [e_17]; rfl) (by decide) rfl (fun ls hl => ?_)
    refine lv_goto (tgt := 7) C.x C.bc dX6_needed_135 (by decide) ?_
    obtain rfl := Option.some.inj hx
    exact hG _ _ _ _ K _ _ _ h (lv_sub hl [1, 2, 3, 4, 0] rfl)
set_option maxHeartbeats 1000000 in
theorem pX6_needed_7 (C : Cx E s0 b p s m args meth c cX6_needed 8 "EarthMeshModel" (some .int)) (hI : Sx E) (v1 : Int32) {Q : State → Prop} {v2 : Int32} {v3 : Int32} {v4 : Int32} {st : St} {n : Nat} {r : Int32 × Int32 × St} (hx : iter (u4 fun v2 v3 v4 st => fX6_needed_7 v1 v2 v3 v4 st) n (v2, v3, v4, st) = some r) (hE : (fun t => ∀ (H : Heap) (locs : List Loc) (ls : Array Slot), XH E (sg t.2.2) s H locs → lv_has ls 8 [(1, .int v1), (2, .int t.1), (3, .int t.2.1)] → W p l e rmX6_needed s m args below meth c H locs 0 0 Q (F0 m 138 ls [])) r) {H : Heap} {locs : List Loc} {ls : Array Slot} (h : XH E (sg st) s H locs) (hl : lv_has ls 8 [(0, .ref (E.ad 68)), (1, .int v1), (2, .int v2), (3, .int v3), (4, .int v4)]) : W p l e rmX6_needed s m args below meth c H locs 0 0 Q (F0 m 7 ls []) := by
  refine iter_W (G := fun t => ∀ (H : Heap) (locs : List Loc) (ls : Array Slot), XH E (sg t.2.2.2) s H locs → lv_has ls 8 [(0, .ref (E.ad 68)), (1, .int v1), (2, .int t.1), (3, .int t.2.1), (4, .int t.2.2.1)] → W p l e rmX6_needed s m args below meth c H locs 0 0 Q (F0 m 7 ls [])) (E := fun t => ∀ (H : Heap) (locs : List Loc) (ls : Array Slot), XH E (sg t.2.2) s H locs → lv_has ls 8 [(1, .int v1), (2, .int t.1), (3, .int t.2.1)] → W p l e rmX6_needed s m args below meth c H locs 0 0 Q (F0 m 138 ls [])) (fun t x hx K H locs ls h hl => ?_) n _ r hx hE H locs ls h hl
  obtain ⟨v2, v3, v4, st⟩ := t
  exact bX6_needed_7 C hI v1 v2 v3 v4 st hx (fun _ _ _ _ z => z) (fun _ _ _ z => z) K h hl
def fX6_needed (v1 : Int32) (st : St) : Option (Int32 × St) :=
  bd (iter (u4 fun z2 z3 z4 zst => fX6_needed_7 v1 z2 z3 z4 zst) FU ((0 : Int32), (-1 : Int32), (0 : Int32), st)) (u3 fun v2_18 v3_18 st_18 =>
  if v1 = 0 then
    some (v3_18, st_18)
  else
    some (v2_18, st_18))
set_option maxHeartbeats 1000000 in
theorem bX6_needed (C : Cx E s0 b p s m args meth c cX6_needed 8 "EarthMeshModel" (some .int)) (hI : Sx E) (v1 : Int32) (st : St) {x : Int32 × St} (hx : fX6_needed v1 st = some x) {H : Heap} {locs : List Loc} {ls : Array Slot} (h : XH E (sg st) s H locs) (hl : lv_has ls 8 [(0, .ref (E.ad 68)), (1, .int v1)]) : W p l e rmX6_needed s m args below meth c H locs 0 0 (MQ below (Qx E (some (.int x.1)) (sg x.2)) args s 0 0 (gA E.HB)) (F0 m 0 ls []) := by
  unfold fX6_needed at hx
  refine lv_iconst (v := (0 : Int32)) C.x C.bc dX6_needed_0 (by decide) ?_
  refine lv_istore_n (lv' := [(2, .int (0 : Int32)), (0, .ref (E.ad 68)), (1, .int v1)]) C.x C.bc dX6_needed_1 rfl hl (by decide) rfl (fun ls hl => ?_)
  refine lv_iconst (v := (-1 : Int32)) C.x C.bc dX6_needed_2 (by decide) ?_
  refine lv_istore_n (lv' := [(3, .int (-1 : Int32)), (2, .int (0 : Int32)), (0, .ref (E.ad 68)), (1, .int v1)]) C.x C.bc dX6_needed_3 rfl hl (by decide) rfl (fun ls hl => ?_)
  refine lv_iconst (v := (0 : Int32)) C.x C.bc dX6_needed_4 (by decide) ?_
  refine lv_istore (lv' := [(4, .int (0 : Int32)), (3, .int (-1 : Int32)), (2, .int (0 : Int32)), (0, .ref (E.ad 68)), (1, .int v1)]) C.x C.bc dX6_needed_5 hl (by decide) rfl (fun ls hl => ?_)
  obtain ⟨⟨v2_18, v3_18, st_18⟩, hi_18, hx⟩ := bd_e hx
  have hx := u3_e hx
  refine pX6_needed_7 C hI v1 hi_18 (fun H locs ls h hl => ?_) h (lv_sub hl [3, 4, 2, 1, 0] rfl)
  refine lv_iload_n C.x C.bc dX6_needed_138 rfl (lv_at hl 0 rfl) ?_
  refine lv_if_eq (tgt := 146) C.x C.bc dX6_needed_139 (by decide) (fun c_19 => ?_) (fun c_19 => ?_)
  · have hx := ge_t hx c_19
    refine lv_iload_n C.x C.bc dX6_needed_146 rfl (lv_at hl 2 rfl) ?_
    obtain rfl := Option.some.inj hx
    exact x_iret C h dX6_needed_147
  · have hx := ge_f hx c_19
    refine lv_iload_n C.x C.bc dX6_needed_142 rfl (lv_at hl 1 rfl) ?_
    refine lv_goto (tgt := 147) C.x C.bc dX6_needed_143 (by decide) ?_
    obtain rfl := Option.some.inj hx
    exact x_iret C h dX6_needed_147
theorem mX6_needed (hG : G0 E s0 b) (hI : Sx E) {v1 : Int32} {x : Int32 × St} (hx : fX6_needed v1 st = some x) : Mt l E s0 yX6_needed cX6_needed 8 (some .int) rmX6_needed [.ref (E.ad 68), .int v1] (sg st) (some (.int x.1)) E (sg x.2) :=
  Mt.of hG (by decide) (Nat.le_of_ble_eq_true rfl) (fun p e s m below meth c ls C h hl => bX6_needed C hI v1 st hx h hl)
theorem cX6_287_X6_needed {a0 : Int32} {r : Int32} {st' : St} (C : Cx E s0 b p s m args meth c cc nL "EarthMeshModel" rt) (hI : Sx E) (h : XH E (sg st) s H locs) (hf : fX6_needed a0 st = some (r, st')) (hR : rmX6_needed.frames + 1 ≤ R.frames ∧ 16 + (8 + 11) + rmX6_needed.locals ≤ R.locals) (h0 : cells ≤ R.cells ∧ slots ≤ R.slots) (hsz : ls.size = nL) (hcat : (rest.map fun v => v.category).sum ≤ 16) (hdg : decode cc pc = .ok (.invokevirtual 287, 3)) (kk : ∀ (H : Heap) (locs : List Loc), XH E (sg st') s H locs → W p l e R s m args below meth c H locs cells slots Q (F0 m (pc + 3) ls (.int r :: rest))) : W p l e R s m args below meth c H locs cells slots Q (F0 m pc ls (.int a0 :: .ref (E.ad 68) :: rest)) :=
  x_callV (n := 1) (As := [.int a0]) C h 68 5 (hI 68 (by decide)) k_68 rfl (mX6_needed C.g hI hf) (lw_V q1942 q1944 qs108 q136 q1945) ⟨rfl, by decide +kernel, by decide +kernel, by decide +kernel⟩ hR ⟨rfl, rfl⟩ h0 rfl hsz rfl hcat hdg kk
abbrev rmX6_resists : Room := { frames := 6, cells := 0, slots := 0, locals := 204 }
def fX6_resists_26 (v1 : Int32) (st : St) : Option (Int32 × St) :=
  if v1 = 0 then
    some ((-1 : Int32), st)
  else
    if (st.2.1 68 30) = (0 : Int64) then
      some ((0 : Int32), st)
    else
      some ((1 : Int32), st)
set_option maxHeartbeats 1000000 in
theorem bX6_resists_26 (C : Cx E s0 b p s m args meth c cX6_resists 2 "EarthMeshModel" (some .int)) (hI : Sx E) (v1 : Int32) (st : St) {x : Int32 × St} (hx : fX6_resists_26 v1 st = some x) {H : Heap} {locs : List Loc} {ls : Array Slot} (h : XH E (sg st) s H locs) (hl : lv_has ls 2 [(0, .ref (E.ad 68)), (1, .int v1)]) : W p l e rmX6_resists s m args below meth c H locs 0 0 (MQ below (Qx E (some (.int x.1)) (sg x.2)) args s 0 0 (gA E.HB)) (F0 m 26 ls []) := by
  unfold fX6_resists_26 at hx
  refine lv_iload_n C.x C.bc dX6_resists_26 rfl (lv_at hl 1 rfl) ?_
  refine lv_if_eq (tgt := 47) C.x C.bc dX6_resists_27 (by decide) (fun c_4 => ?_) (fun c_4 => ?_)
  · have hx := ge_t hx c_4
    refine lv_iconst (v := (-1 : Int32)) C.x C.bc dX6_resists_47 (by decide) ?_
    obtain rfl := Option.some.inj hx
    exact x_iret C h dX6_resists_48
  · have hx := ge_f hx c_4
    refine lv_aload_n C.x C.bc dX6_resists_30 rfl (lv_at hl 0 rfl) ?_
    refine gt_X6_368_68 C hI h dX6_resists_31 ?_
    refine lv_lconst (v := (0 : Int64)) C.x C.bc dX6_resists_34 (by decide) ?_
    refine W.lcmp C.x C.bc dX6_resists_35 ?_
    refine lv_if_ne (tgt := 43) C.x C.bc dX6_resists_36 (by decide) (fun c_5 => ?_) (fun c_5 => ?_)
    · have c_5 := (not_congr (lc_eq _ _)).mp c_5
      have hx := ge_f hx c_5
      refine lv_iconst (v := (1 : Int32)) C.x C.bc dX6_resists_43 (by decide) ?_
      refine lv_goto (tgt := 48) C.x C.bc dX6_resists_44 (by decide) ?_
      obtain rfl := Option.some.inj hx
      exact x_iret C h dX6_resists_48
    · have c_5 := (lc_eq _ _).mp c_5
      have hx := ge_t hx c_5
      refine lv_iconst (v := (0 : Int32)) C.x C.bc dX6_resists_39 (by decide) ?_
      refine lv_goto (tgt := 48) C.x C.bc dX6_resists_40 (by decide) ?_
      obtain rfl := Option.some.inj hx
      exact x_iret C h dX6_resists_48
def fX6_resists_12 (k0 : Int32) (st : St) : Option (Int32 × St) :=
  if k0 = 0 then
    if (st.2.1 68 30) = (0 : Int64) then
      fX6_resists_26 k0 st
    else
      gd (inB (2 : Int32) 46) <|
      gd (inB (st.1 70 (2 : Int32).toNatClampNeg) 12) <|
      bd (fX6_compare (st.2.1 76 (st.1 70 (2 : Int32).toNatClampNeg).toNatClampNeg) (st.2.1 68 19) (st.2.1 68 29) (st.2.1 68 30)) fun r_9 =>
      some (r_9, st)
  else
    fX6_resists_26 k0 st
set_option maxHeartbeats 1000000 in
theorem bX6_resists_12 (C : Cx E s0 b p s m args meth c cX6_resists 2 "EarthMeshModel" (some .int)) (hI : Sx E) (k0 : Int32) (st : St) {x : Int32 × St} (hx : fX6_resists_12 k0 st = some x) {H : Heap} {locs : List Loc} {ls : Array Slot} (h : XH E (sg st) s H locs) (hl : lv_has ls 2 [(0, .ref (E.ad 68))]) : W p l e rmX6_resists s m args below meth c H locs 0 0 (MQ below (Qx E (some (.int x.1)) (sg x.2)) args s 0 0 (gA E.HB)) (F0 m 12 ls [.int k0]) := by
  unfold fX6_resists_12 at hx
  refine lv_istore_n (lv' := [(1, .int k0), (0, .ref (E.ad 68))]) C.x C.bc dX6_resists_12 rfl hl (by decide) rfl (fun ls hl => ?_)
  refine lv_iload_n C.x C.bc dX6_resists_13 rfl (lv_at hl 0 rfl) ?_
  refine lv_if_ne (tgt := 26) C.x C.bc dX6_resists_14 (by decide) (fun c_3 => ?_) (fun c_3 => ?_)
  · have hx := ge_f hx c_3
    exact bX6_resists_26 C hI k0 st hx h (lv_sub hl [1, 0] rfl)
  · have hx := ge_t hx c_3
    refine lv_aload_n C.x C.bc dX6_resists_17 rfl (lv_at hl 1 rfl) ?_
    refine gt_X6_368_68 C hI h dX6_resists_18 ?_
    refine lv_lconst (v := (0 : Int64)) C.x C.bc dX6_resists_21 (by decide) ?_
    refine W.lcmp C.x C.bc dX6_resists_22 ?_
    refine lv_if_ne (tgt := 49) C.x C.bc dX6_resists_23 (by decide) (fun c_6 => ?_) (fun c_6 => ?_)
    · have c_6 := (not_congr (lc_eq _ _)).mp c_6
      have hx := ge_f hx c_6
      refine lv_aload_n C.x C.bc dX6_resists_49 rfl (lv_at hl 1 rfl) ?_
      refine gt_X6_55_68 C hI h dX6_resists_50 ?_
      refine lv_aload_n C.x C.bc dX6_resists_53 rfl (lv_at hl 1 rfl) ?_
      refine gt_X6_31_68 C hI h dX6_resists_54 ?_
      refine lv_iconst (v := (2 : Int32)) C.x C.bc dX6_resists_57 (by decide) ?_
      obtain ⟨g_7, hx⟩ := gd_e hx
      refine x_iald C h 70 46 (hI 70 (by decide)) k_70 g_7 dX6_resists_58 ?_
      obtain ⟨g_8, hx⟩ := gd_e hx
      refine x_lald C h 76 12 (hI 76 (by decide)) k_76 g_8 dX6_resists_59 ?_
      refine lv_aload_n C.x C.bc dX6_resists_60 rfl (lv_at hl 1 rfl) ?_
      refine gt_X6_233_68 C hI h dX6_resists_61 ?_
      refine lv_aload_n C.x C.bc dX6_resists_64 rfl (lv_at hl 1 rfl) ?_
      refine gt_X6_371_68 C hI h dX6_resists_65 ?_
      refine lv_aload_n C.x C.bc dX6_resists_68 rfl (lv_at hl 1 rfl) ?_
      refine gt_X6_368_68 C hI h dX6_resists_69 ?_
      obtain ⟨r_9, hf_9, hx⟩ := bd_e hx
      refine cX6_374_X6_compare C hI h hf_9 ⟨Nat.le_of_ble_eq_true rfl, Nat.le_of_ble_eq_true rfl⟩ ⟨Nat.zero_le _, Nat.zero_le _⟩ hl.1 (Nat.le_of_ble_eq_true rfl) dX6_resists_72 (fun H locs h => ?_)
      obtain rfl := Option.some.inj hx
      exact x_iret C h dX6_resists_75
    · have c_6 := (lc_eq _ _).mp c_6
      have hx := ge_t hx c_6
      exact bX6_resists_26 C hI k0 st hx h (lv_sub hl [1, 0] rfl)
def fX6_resists (st : St) : Option (Int32 × St) :=
  bd (fX6_solvesNow st) <| u2 fun r_1 st_1 =>
  if r_1 = 0 then
    fX6_resists_12 (1 : Int32) st_1
  else
    fX6_resists_12 (0 : Int32) st_1
set_option maxHeartbeats 1000000 in
theorem bX6_resists (C : Cx E s0 b p s m args meth c cX6_resists 2 "EarthMeshModel" (some .int)) (hI : Sx E) (st : St) {x : Int32 × St} (hx : fX6_resists st = some x) {H : Heap} {locs : List Loc} {ls : Array Slot} (h : XH E (sg st) s H locs) (hl : lv_has ls 2 [(0, .ref (E.ad 68))]) : W p l e rmX6_resists s m args below meth c H locs 0 0 (MQ below (Qx E (some (.int x.1)) (sg x.2)) args s 0 0 (gA E.HB)) (F0 m 0 ls []) := by
  unfold fX6_resists at hx
  refine lv_aload_n C.x C.bc dX6_resists_0 rfl (lv_at hl 0 rfl) ?_
  obtain ⟨⟨r_1, st_1⟩, hf_1, hx⟩ := bd_e hx
  have hx := u2_e hx
  refine cX6_274_X6_solvesNow C hI h hf_1 ⟨Nat.le_of_ble_eq_true rfl, Nat.le_of_ble_eq_true rfl⟩ ⟨Nat.zero_le _, Nat.zero_le _⟩ hl.1 (Nat.le_of_ble_eq_true rfl) dX6_resists_1 (fun H locs h => ?_)
  refine lv_if_ne (tgt := 11) C.x C.bc dX6_resists_4 (by decide) (fun c_2 => ?_) (fun c_2 => ?_)
  · have hx := ge_f hx c_2
    refine lv_iconst (v := (0 : Int32)) C.x C.bc dX6_resists_11 (by decide) ?_
    exact bX6_resists_12 C hI (0 : Int32) st_1 hx h (lv_sub hl [0] rfl)
  · have hx := ge_t hx c_2
    refine lv_iconst (v := (1 : Int32)) C.x C.bc dX6_resists_7 (by decide) ?_
    refine lv_goto (tgt := 12) C.x C.bc dX6_resists_8 (by decide) ?_
    exact bX6_resists_12 C hI (1 : Int32) st_1 hx h (lv_sub hl [0] rfl)
theorem mX6_resists (hG : G0 E s0 b) (hI : Sx E)  {x : Int32 × St} (hx : fX6_resists st = some x) : Mt l E s0 yX6_resists cX6_resists 2 (some .int) rmX6_resists [.ref (E.ad 68)] (sg st) (some (.int x.1)) E (sg x.2) :=
  Mt.of hG (by decide) (Nat.le_of_ble_eq_true rfl) (fun p e s m below meth c ls C h hl => bX6_resists C hI st hx h hl)
theorem cX6_378_X6_resists  {r : Int32} {st' : St} (C : Cx E s0 b p s m args meth c cc nL "EarthMeshModel" rt) (hI : Sx E) (h : XH E (sg st) s H locs) (hf : fX6_resists st = some (r, st')) (hR : rmX6_resists.frames + 1 ≤ R.frames ∧ 16 + (2 + 11) + rmX6_resists.locals ≤ R.locals) (h0 : cells ≤ R.cells ∧ slots ≤ R.slots) (hsz : ls.size = nL) (hcat : (rest.map fun v => v.category).sum ≤ 16) (hdg : decode cc pc = .ok (.invokevirtual 378, 3)) (kk : ∀ (H : Heap) (locs : List Loc), XH E (sg st') s H locs → W p l e R s m args below meth c H locs cells slots Q (F0 m (pc + 3) ls (.int r :: rest))) : W p l e R s m args below meth c H locs cells slots Q (F0 m pc ls (.ref (E.ad 68) :: rest)) :=
  x_callV (n := 0) (As := []) C h 68 5 (hI 68 (by decide)) k_68 rfl (mX6_resists C.g hI hf) (lw_V q1927 q1929 qs105 q136 q1930) ⟨rfl, by decide +kernel, by decide +kernel, by decide +kernel⟩ hR ⟨rfl, rfl⟩ h0 rfl hsz rfl hcat hdg kk
abbrev rmX6_keepsBest : Room := { frames := 6, cells := 0, slots := 0, locals := 204 }
def fX6_keepsBest_33 (v1 : Int32) (k1 : Int64) (st : St) : Option (St) :=
  nm (uL st 68 29 k1) fun st_6 =>
  if v1 = 0 then
    nm (uL st_6 68 30 (st_6.2.1 68 19)) fun st_8 =>
    some st_8
  else
    nm (uL st_6 68 30 (0 : Int64)) fun st_9 =>
    some st_9
set_option maxHeartbeats 1000000 in
theorem bX6_keepsBest_33 (C : Cx E s0 b p s m args meth c cX6_keepsBest 2 "EarthMeshModel" none) (hI : Sx E) (v1 : Int32) (k1 : Int64) (st : St) {x : St} (hx : fX6_keepsBest_33 v1 k1 st = some x) {H : Heap} {locs : List Loc} {ls : Array Slot} (h : XH E (sg st) s H locs) (hl : lv_has ls 2 [(0, .ref (E.ad 68)), (1, .int v1)]) : W p l e rmX6_keepsBest s m args below meth c H locs 0 0 (MQ below (Qx E none (sg x)) args s 0 0 (gA E.HB)) (F0 m 33 ls [.long k1, .ref (E.ad 68)]) := by
  unfold fX6_keepsBest_33 at hx
  obtain ⟨st_6, e_6, hx⟩ := nm_x hx
  refine pt_X6_371_68 C hI h e_6 dX6_keepsBest_33 (fun H locs h => ?_)
  refine lv_aload_n C.x C.bc dX6_keepsBest_36 rfl (lv_at hl 0 rfl) ?_
  refine lv_iload_n C.x C.bc dX6_keepsBest_37 rfl (lv_at hl 1 rfl) ?_
  refine lv_if_eq (tgt := 45) C.x C.bc dX6_keepsBest_38 (by decide) (fun c_7 => ?_) (fun c_7 => ?_)
  · have hx := ge_t hx c_7
    refine lv_aload_n C.x C.bc dX6_keepsBest_45 rfl (lv_at hl 0 rfl) ?_
    refine gt_X6_233_68 C hI h dX6_keepsBest_46 ?_
    obtain ⟨st_8, e_8, hx⟩ := nm_x hx
    refine pt_X6_368_68 C hI h e_8 dX6_keepsBest_49 (fun H locs h => ?_)
    obtain rfl := Option.some.inj hx
    exact x_vret C h dX6_keepsBest_52
  · have hx := ge_f hx c_7
    refine lv_lconst (v := (0 : Int64)) C.x C.bc dX6_keepsBest_41 (by decide) ?_
    refine lv_goto (tgt := 49) C.x C.bc dX6_keepsBest_42 (by decide) ?_
    obtain ⟨st_9, e_9, hx⟩ := nm_x hx
    refine pt_X6_368_68 C hI h e_9 dX6_keepsBest_49 (fun H locs h => ?_)
    obtain rfl := Option.some.inj hx
    exact x_vret C h dX6_keepsBest_52
def fX6_keepsBest_12 (k0 : Int32) (st : St) : Option (St) :=
  if k0 = 0 then
    gd (inB (2 : Int32) 46) <|
    gd (inB (st.1 70 (2 : Int32).toNatClampNeg) 12) <|
    fX6_keepsBest_33 k0 (st.2.1 76 (st.1 70 (2 : Int32).toNatClampNeg).toNatClampNeg) st
  else
    fX6_keepsBest_33 k0 (0 : Int64) st
set_option maxHeartbeats 1000000 in
theorem bX6_keepsBest_12 (C : Cx E s0 b p s m args meth c cX6_keepsBest 2 "EarthMeshModel" none) (hI : Sx E) (k0 : Int32) (st : St) {x : St} (hx : fX6_keepsBest_12 k0 st = some x) {H : Heap} {locs : List Loc} {ls : Array Slot} (h : XH E (sg st) s H locs) (hl : lv_has ls 2 [(0, .ref (E.ad 68))]) : W p l e rmX6_keepsBest s m args below meth c H locs 0 0 (MQ below (Qx E none (sg x)) args s 0 0 (gA E.HB)) (F0 m 12 ls [.int k0]) := by
  unfold fX6_keepsBest_12 at hx
  refine lv_istore_n (lv' := [(1, .int k0), (0, .ref (E.ad 68))]) C.x C.bc dX6_keepsBest_12 rfl hl (by decide) rfl (fun ls hl => ?_)
  refine lv_aload_n C.x C.bc dX6_keepsBest_13 rfl (lv_at hl 1 rfl) ?_
  refine lv_iload_n C.x C.bc dX6_keepsBest_14 rfl (lv_at hl 0 rfl) ?_
  refine lv_if_eq (tgt := 22) C.x C.bc dX6_keepsBest_15 (by decide) (fun c_3 => ?_) (fun c_3 => ?_)
  · have hx := ge_t hx c_3
    refine lv_aload_n C.x C.bc dX6_keepsBest_22 rfl (lv_at hl 1 rfl) ?_
    refine gt_X6_55_68 C hI h dX6_keepsBest_23 ?_
    refine lv_aload_n C.x C.bc dX6_keepsBest_26 rfl (lv_at hl 1 rfl) ?_
    refine gt_X6_31_68 C hI h dX6_keepsBest_27 ?_
    refine lv_iconst (v := (2 : Int32)) C.x C.bc dX6_keepsBest_30 (by decide) ?_
    obtain ⟨g_4, hx⟩ := gd_e hx
    refine x_iald C h 70 46 (hI 70 (by decide)) k_70 g_4 dX6_keepsBest_31 ?_
    obtain ⟨g_5, hx⟩ := gd_e hx
    refine x_lald C h 76 12 (hI 76 (by decide)) k_76 g_5 dX6_keepsBest_32 ?_
    exact bX6_keepsBest_33 C hI k0 (st.2.1 76 (st.1 70 (2 : Int32).toNatClampNeg).toNatClampNeg) st hx h (lv_sub hl [1, 0] rfl)
  · have hx := ge_f hx c_3
    refine lv_lconst (v := (0 : Int64)) C.x C.bc dX6_keepsBest_18 (by decide) ?_
    refine lv_goto (tgt := 33) C.x C.bc dX6_keepsBest_19 (by decide) ?_
    exact bX6_keepsBest_33 C hI k0 (0 : Int64) st hx h (lv_sub hl [1, 0] rfl)
def fX6_keepsBest (st : St) : Option (St) :=
  bd (fX6_solvesNow st) <| u2 fun r_1 st_1 =>
  if r_1 = 0 then
    fX6_keepsBest_12 (1 : Int32) st_1
  else
    fX6_keepsBest_12 (0 : Int32) st_1
set_option maxHeartbeats 1000000 in
theorem bX6_keepsBest (C : Cx E s0 b p s m args meth c cX6_keepsBest 2 "EarthMeshModel" none) (hI : Sx E) (st : St) {x : St} (hx : fX6_keepsBest st = some x) {H : Heap} {locs : List Loc} {ls : Array Slot} (h : XH E (sg st) s H locs) (hl : lv_has ls 2 [(0, .ref (E.ad 68))]) : W p l e rmX6_keepsBest s m args below meth c H locs 0 0 (MQ below (Qx E none (sg x)) args s 0 0 (gA E.HB)) (F0 m 0 ls []) := by
  unfold fX6_keepsBest at hx
  refine lv_aload_n C.x C.bc dX6_keepsBest_0 rfl (lv_at hl 0 rfl) ?_
  obtain ⟨⟨r_1, st_1⟩, hf_1, hx⟩ := bd_e hx
  have hx := u2_e hx
  refine cX6_274_X6_solvesNow C hI h hf_1 ⟨Nat.le_of_ble_eq_true rfl, Nat.le_of_ble_eq_true rfl⟩ ⟨Nat.zero_le _, Nat.zero_le _⟩ hl.1 (Nat.le_of_ble_eq_true rfl) dX6_keepsBest_1 (fun H locs h => ?_)
  refine lv_if_ne (tgt := 11) C.x C.bc dX6_keepsBest_4 (by decide) (fun c_2 => ?_) (fun c_2 => ?_)
  · have hx := ge_f hx c_2
    refine lv_iconst (v := (0 : Int32)) C.x C.bc dX6_keepsBest_11 (by decide) ?_
    exact bX6_keepsBest_12 C hI (0 : Int32) st_1 hx h (lv_sub hl [0] rfl)
  · have hx := ge_t hx c_2
    refine lv_iconst (v := (1 : Int32)) C.x C.bc dX6_keepsBest_7 (by decide) ?_
    refine lv_goto (tgt := 12) C.x C.bc dX6_keepsBest_8 (by decide) ?_
    exact bX6_keepsBest_12 C hI (1 : Int32) st_1 hx h (lv_sub hl [0] rfl)
theorem mX6_keepsBest (hG : G0 E s0 b) (hI : Sx E)  {x : St} (hx : fX6_keepsBest st = some x) : Mt l E s0 yX6_keepsBest cX6_keepsBest 2 none rmX6_keepsBest [.ref (E.ad 68)] (sg st) none E (sg x) :=
  Mt.of hG (by decide) (Nat.le_of_ble_eq_true rfl) (fun p e s m below meth c ls C h hl => bX6_keepsBest C hI st hx h hl)
theorem cX6_381_X6_keepsBest  {st' : St} (C : Cx E s0 b p s m args meth c cc nL "EarthMeshModel" rt) (hI : Sx E) (h : XH E (sg st) s H locs) (hf : fX6_keepsBest st = some st') (hR : rmX6_keepsBest.frames + 1 ≤ R.frames ∧ 16 + (2 + 11) + rmX6_keepsBest.locals ≤ R.locals) (h0 : cells ≤ R.cells ∧ slots ≤ R.slots) (hsz : ls.size = nL) (hcat : (rest.map fun v => v.category).sum ≤ 16) (hdg : decode cc pc = .ok (.invokevirtual 381, 3)) (kk : ∀ (H : Heap) (locs : List Loc), XH E (sg st') s H locs → W p l e R s m args below meth c H locs cells slots Q (F0 m (pc + 3) ls (rest))) : W p l e R s m args below meth c H locs cells slots Q (F0 m pc ls (.ref (E.ad 68) :: rest)) :=
  x_callV (n := 0) (As := []) C h 68 5 (hI 68 (by decide)) k_68 rfl (mX6_keepsBest C.g hI hf) (lw_V q1934 q1936 qs106 q136 q1937) ⟨rfl, by decide +kernel, by decide +kernel, by decide +kernel⟩ hR ⟨rfl, rfl⟩ h0 rfl hsz rfl hcat hdg kk
abbrev rmX6_best : Room := { frames := 7, cells := 0, slots := 0, locals := 233 }
def fX6_best_109 (v1 : Int32) (v2 : Int32) (v3 : Int32) (st : St) : Option ((Int32 × Int32 × St) ⊕ (Int32 × St)) :=
  nm (v3 + (1 : Int32)) fun v3_6 =>
  some (.inl (v1, v3_6, st))
set_option maxHeartbeats 1000000 in
theorem bX6_best_109 (C : Cx E s0 b p s m args meth c cX6_best 4 "EarthMeshModel" (some .int)) (hI : Sx E) (v1 : Int32) (v2 : Int32) (v3 : Int32) (st : St) {x : (Int32 × Int32 × St) ⊕ (Int32 × St)} (hx : fX6_best_109 v1 v2 v3 st = some x) {Q : State → Prop} {G : Int32 × Int32 × St → Prop} {X : Int32 × St → Prop} (hG : ∀ (w1 : Int32) (w3 : Int32) (wst : St), G (w1, w3, wst) → ∀ (H : Heap) (locs : List Loc) (ls : Array Slot), XH E (sg wst) s H locs → lv_has ls 4 [(0, .ref (E.ad 68)), (1, .int w1), (2, .int v2), (3, .int w3)] → W p l e rmX6_best s m args below meth c H locs 0 0 Q (F0 m 11 ls [])) (hE0 : ∀ (w1 : Int32) (wst : St), X (w1, wst) → ∀ (H : Heap) (locs : List Loc) (ls : Array Slot), XH E (sg wst) s H locs → lv_has ls 4 [(0, .ref (E.ad 68)), (1, .int w1), (2, .int v2)] → W p l e rmX6_best s m args below meth c H locs 0 0 Q (F0 m 115 ls [])) (K : Kx G X x) {H : Heap} {locs : List Loc} {ls : Array Slot} (h : XH E (sg st) s H locs) (hl : lv_has ls 4 [(0, .ref (E.ad 68)), (1, .int v1), (2, .int v2), (3, .int v3)]) : W p l e rmX6_best s m args below meth c H locs 0 0 Q (F0 m 109 ls []) := by
  unfold fX6_best_109 at hx
  obtain ⟨v3_6, e_6, hx⟩ := nm_x hx
  refine lv_iinc (v := v3_6) (lv' := [(3, .int v3_6), (0, .ref (E.ad 68)), (1, .int v1), (2, .int v2)]) C.x C.bc dX6_best_109 hl (k := 3) rfl (by rw [e_6]; rfl) (by decide) rfl (fun ls hl => ?_)
  refine lv_goto (tgt := 11) C.x C.bc dX6_best_112 (by decide) ?_
  obtain rfl := Option.some.inj hx
  exact hG _ _ _ K _ _ _ h (lv_sub hl [1, 2, 3, 0] rfl)
def fX6_best_91 (v1 : Int32) (v2 : Int32) (v3 : Int32) (st : St) : Option ((Int32 × Int32 × St) ⊕ (Int32 × St)) :=
  nm (((10 : Int32) + ((12 : Int32) * v2)) + v3) fun d_16 =>
  gd (inB d_16 46) <|
  gd (inB d_16 46) <|
  nm (uI st 70 d_16.toNatClampNeg ((st.1 70 d_16.toNatClampNeg) - (1 : Int32))) fun st_19 =>
  fX6_best_109 v1 v2 v3 st_19
set_option maxHeartbeats 1000000 in
theorem bX6_best_91 (C : Cx E s0 b p s m args meth c cX6_best 4 "EarthMeshModel" (some .int)) (hI : Sx E) (v1 : Int32) (v2 : Int32) (v3 : Int32) (st : St) {x : (Int32 × Int32 × St) ⊕ (Int32 × St)} (hx : fX6_best_91 v1 v2 v3 st = some x) {Q : State → Prop} {G : Int32 × Int32 × St → Prop} {X : Int32 × St → Prop} (hG : ∀ (w1 : Int32) (w3 : Int32) (wst : St), G (w1, w3, wst) → ∀ (H : Heap) (locs : List Loc) (ls : Array Slot), XH E (sg wst) s H locs → lv_has ls 4 [(0, .ref (E.ad 68)), (1, .int w1), (2, .int v2), (3, .int w3)] → W p l e rmX6_best s m args below meth c H locs 0 0 Q (F0 m 11 ls [])) (hE0 : ∀ (w1 : Int32) (wst : St), X (w1, wst) → ∀ (H : Heap) (locs : List Loc) (ls : Array Slot), XH E (sg wst) s H locs → lv_has ls 4 [(0, .ref (E.ad 68)), (1, .int w1), (2, .int v2)] → W p l e rmX6_best s m args below meth c H locs 0 0 Q (F0 m 115 ls [])) (K : Kx G X x) {H : Heap} {locs : List Loc} {ls : Array Slot} (h : XH E (sg st) s H locs) (hl : lv_has ls 4 [(0, .ref (E.ad 68)), (1, .int v1), (2, .int v2), (3, .int v3)]) : W p l e rmX6_best s m args below meth c H locs 0 0 Q (F0 m 91 ls []) := by
  unfold fX6_best_91 at hx
  refine lv_aload_n C.x C.bc dX6_best_91 rfl (lv_at hl 0 rfl) ?_
  refine gt_X6_31_68 C hI h dX6_best_92 ?_
  refine lv_bipush (v := (10 : Int32)) C.x C.bc dX6_best_95 (by decide) ?_
  refine lv_bipush (v := (12 : Int32)) C.x C.bc dX6_best_97 (by decide) ?_
  refine lv_iload_n C.x C.bc dX6_best_99 rfl (lv_at hl 2 rfl) ?_
  refine lv_imul C.x C.bc dX6_best_100 ?_
  refine lv_iadd C.x C.bc dX6_best_101 ?_
  refine lv_iload_n C.x C.bc dX6_best_102 rfl (lv_at hl 3 rfl) ?_
  refine lv_iadd C.x C.bc dX6_best_103 ?_
  obtain ⟨d_16, e_16, hx⟩ := nm_x hx
  refine x_ti e_16 ?_
  refine lv_dup2_11 C.x C.bc dX6_best_104 rfl rfl ?_
  obtain ⟨g_17, hx⟩ := gd_e hx
  refine x_iald C h 70 46 (hI 70 (by decide)) k_70 g_17 dX6_best_105 ?_
  refine lv_iconst (v := (1 : Int32)) C.x C.bc dX6_best_106 (by decide) ?_
  refine lv_isub C.x C.bc dX6_best_107 ?_
  obtain ⟨g_18, hx⟩ := gd_e hx
  obtain ⟨st_19, e_19, hx⟩ := nm_x hx
  refine y_iast C h 70 46 (hI 70 (by decide)) k_70 g_18 e_19 dX6_best_108 (fun H locs h => ?_)
  exact bX6_best_109 C hI v1 v2 v3 st_19 hx hG hE0 K h (lv_sub hl [0, 1, 2, 3] rfl)
def fX6_best_77 (v2 : Int32) (v3 : Int32) (st : St) : Option ((Int32 × Int32 × St) ⊕ (Int32 × St)) :=
  nm ((((100 : Int32) * v2) + (100 : Int32)) + v3) fun v1_14 =>
  bd (fX6_keepsBest st) fun st_15 =>
  fX6_best_91 v1_14 v2 v3 st_15
set_option maxHeartbeats 1000000 in
theorem bX6_best_77 (C : Cx E s0 b p s m args meth c cX6_best 4 "EarthMeshModel" (some .int)) (hI : Sx E) (v2 : Int32) (v3 : Int32) (st : St) {x : (Int32 × Int32 × St) ⊕ (Int32 × St)} (hx : fX6_best_77 v2 v3 st = some x) {Q : State → Prop} {G : Int32 × Int32 × St → Prop} {X : Int32 × St → Prop} (hG : ∀ (w1 : Int32) (w3 : Int32) (wst : St), G (w1, w3, wst) → ∀ (H : Heap) (locs : List Loc) (ls : Array Slot), XH E (sg wst) s H locs → lv_has ls 4 [(0, .ref (E.ad 68)), (1, .int w1), (2, .int v2), (3, .int w3)] → W p l e rmX6_best s m args below meth c H locs 0 0 Q (F0 m 11 ls [])) (hE0 : ∀ (w1 : Int32) (wst : St), X (w1, wst) → ∀ (H : Heap) (locs : List Loc) (ls : Array Slot), XH E (sg wst) s H locs → lv_has ls 4 [(0, .ref (E.ad 68)), (1, .int w1), (2, .int v2)] → W p l e rmX6_best s m args below meth c H locs 0 0 Q (F0 m 115 ls [])) (K : Kx G X x) {H : Heap} {locs : List Loc} {ls : Array Slot} (h : XH E (sg st) s H locs) (hl : lv_has ls 4 [(0, .ref (E.ad 68)), (2, .int v2), (3, .int v3)]) : W p l e rmX6_best s m args below meth c H locs 0 0 Q (F0 m 77 ls []) := by
  unfold fX6_best_77 at hx
  refine lv_bipush (v := (100 : Int32)) C.x C.bc dX6_best_77 (by decide) ?_
  refine lv_iload_n C.x C.bc dX6_best_79 rfl (lv_at hl 1 rfl) ?_
  refine lv_imul C.x C.bc dX6_best_80 ?_
  refine lv_bipush (v := (100 : Int32)) C.x C.bc dX6_best_81 (by decide) ?_
  refine lv_iadd C.x C.bc dX6_best_83 ?_
  refine lv_iload_n C.x C.bc dX6_best_84 rfl (lv_at hl 2 rfl) ?_
  refine lv_iadd C.x C.bc dX6_best_85 ?_
  obtain ⟨v1_14, e_14, hx⟩ := nm_x hx
  refine x_ti e_14 ?_
  refine lv_istore_n (lv' := [(1, .int v1_14), (0, .ref (E.ad 68)), (2, .int v2), (3, .int v3)]) C.x C.bc dX6_best_86 rfl hl (by decide) rfl (fun ls hl => ?_)
  refine lv_aload_n C.x C.bc dX6_best_87 rfl (lv_at hl 1 rfl) ?_
  obtain ⟨st_15, hf_15, hx⟩ := bd_e hx
  refine cX6_381_X6_keepsBest C hI h hf_15 ⟨Nat.le_of_ble_eq_true rfl, Nat.le_of_ble_eq_true rfl⟩ ⟨Nat.zero_le _, Nat.zero_le _⟩ hl.1 (Nat.le_of_ble_eq_true rfl) dX6_best_88 (fun H locs h => ?_)
  exact bX6_best_91 C hI v1_14 v2 v3 st_15 hx hG hE0 K h (lv_sub hl [1, 0, 2, 3] rfl)
def fX6_best_11 (v1 : Int32) (v2 : Int32) (v3 : Int32) (st : St) : Option ((Int32 × Int32 × St) ⊕ (Int32 × St)) :=
  bd (fX6_nodes_70 st) fun r_2 =>
  if r_2 ≤ v3 then
    some (.inr (v1, st))
  else
    bd (fX6_mayBe_70 v3 v2 st) fun r_4 =>
    if r_4 = 0 then
      fX6_best_109 v1 v2 v3 st
    else
      bd (fX6_part v3 v2 st) fun r_7 =>
      if r_7 = (3 : Int32) then
        fX6_best_109 v1 v2 v3 st
      else
        nm (((10 : Int32) + ((12 : Int32) * v2)) + v3) fun d_9 =>
        gd (inB d_9 46) <|
        gd (inB d_9 46) <|
        nm (uI st 70 d_9.toNatClampNeg ((st.1 70 d_9.toNatClampNeg) + (1 : Int32))) fun st_12 =>
        if v1 = (-1 : Int32) then
          fX6_best_77 v2 v3 st_12
        else
          bd (fX6_resists st_12) <| u2 fun r_20 st_20 =>
          if 0 ≤ r_20 then
            fX6_best_91 v1 v2 v3 st_20
          else
            fX6_best_77 v2 v3 st_20
set_option maxHeartbeats 1000000 in
theorem bX6_best_11 (C : Cx E s0 b p s m args meth c cX6_best 4 "EarthMeshModel" (some .int)) (hI : Sx E) (v1 : Int32) (v2 : Int32) (v3 : Int32) (st : St) {x : (Int32 × Int32 × St) ⊕ (Int32 × St)} (hx : fX6_best_11 v1 v2 v3 st = some x) {Q : State → Prop} {G : Int32 × Int32 × St → Prop} {X : Int32 × St → Prop} (hG : ∀ (w1 : Int32) (w3 : Int32) (wst : St), G (w1, w3, wst) → ∀ (H : Heap) (locs : List Loc) (ls : Array Slot), XH E (sg wst) s H locs → lv_has ls 4 [(0, .ref (E.ad 68)), (1, .int w1), (2, .int v2), (3, .int w3)] → W p l e rmX6_best s m args below meth c H locs 0 0 Q (F0 m 11 ls [])) (hE0 : ∀ (w1 : Int32) (wst : St), X (w1, wst) → ∀ (H : Heap) (locs : List Loc) (ls : Array Slot), XH E (sg wst) s H locs → lv_has ls 4 [(0, .ref (E.ad 68)), (1, .int w1), (2, .int v2)] → W p l e rmX6_best s m args below meth c H locs 0 0 Q (F0 m 115 ls [])) (K : Kx G X x) {H : Heap} {locs : List Loc} {ls : Array Slot} (h : XH E (sg st) s H locs) (hl : lv_has ls 4 [(0, .ref (E.ad 68)), (1, .int v1), (2, .int v2), (3, .int v3)]) : W p l e rmX6_best s m args below meth c H locs 0 0 Q (F0 m 11 ls []) := by
  unfold fX6_best_11 at hx
  refine lv_iload_n C.x C.bc dX6_best_11 rfl (lv_at hl 3 rfl) ?_
  refine lv_aload_n C.x C.bc dX6_best_12 rfl (lv_at hl 0 rfl) ?_
  refine gt_X6_31_68 C hI h dX6_best_13 ?_
  obtain ⟨r_2, hf_2, hx⟩ := bd_e hx
  refine cX6_190_X6_nodes_70 C hI h hf_2 ⟨Nat.le_of_ble_eq_true rfl, Nat.le_of_ble_eq_true rfl⟩ ⟨Nat.zero_le _, Nat.zero_le _⟩ hl.1 (Nat.le_of_ble_eq_true rfl) dX6_best_16 (fun H locs h => ?_)
  refine lv_icmp_ge (tgt := 115) C.x C.bc dX6_best_19 (by decide) (fun c_3 => ?_) (fun c_3 => ?_)
  · have hx := ge_t hx c_3
    obtain rfl := Option.some.inj hx
    exact hE0 _ _ K _ _ _ h (lv_sub hl [0, 1, 2] rfl)
  · have hx := ge_f hx c_3
    refine lv_aload_n C.x C.bc dX6_best_22 rfl (lv_at hl 0 rfl) ?_
    refine gt_X6_31_68 C hI h dX6_best_23 ?_
    refine lv_iload_n C.x C.bc dX6_best_26 rfl (lv_at hl 3 rfl) ?_
    refine lv_iload_n C.x C.bc dX6_best_27 rfl (lv_at hl 2 rfl) ?_
    obtain ⟨r_4, hf_4, hx⟩ := bd_e hx
    refine cX6_166_X6_mayBe_70 C hI h hf_4 ⟨Nat.le_of_ble_eq_true rfl, Nat.le_of_ble_eq_true rfl⟩ ⟨Nat.zero_le _, Nat.zero_le _⟩ hl.1 (Nat.le_of_ble_eq_true rfl) dX6_best_28 (fun H locs h => ?_)
    refine lv_if_eq (tgt := 109) C.x C.bc dX6_best_31 (by decide) (fun c_5 => ?_) (fun c_5 => ?_)
    · have hx := ge_t hx c_5
      exact bX6_best_109 C hI v1 v2 v3 st hx hG hE0 K h (lv_sub hl [0, 1, 2, 3] rfl)
    · have hx := ge_f hx c_5
      refine lv_aload_n C.x C.bc dX6_best_34 rfl (lv_at hl 0 rfl) ?_
      refine lv_iload_n C.x C.bc dX6_best_35 rfl (lv_at hl 3 rfl) ?_
      refine lv_iload_n C.x C.bc dX6_best_36 rfl (lv_at hl 2 rfl) ?_
      obtain ⟨r_7, hf_7, hx⟩ := bd_e hx
      refine cX6_194_X6_part C hI h hf_7 ⟨Nat.le_of_ble_eq_true rfl, Nat.le_of_ble_eq_true rfl⟩ ⟨Nat.zero_le _, Nat.zero_le _⟩ hl.1 (Nat.le_of_ble_eq_true rfl) dX6_best_37 (fun H locs h => ?_)
      refine lv_iconst (v := (3 : Int32)) C.x C.bc dX6_best_40 (by decide) ?_
      refine lv_icmp_ne (tgt := 47) C.x C.bc dX6_best_41 (by decide) (fun c_8 => ?_) (fun c_8 => ?_)
      · have hx := ge_f hx c_8
        refine lv_aload_n C.x C.bc dX6_best_47 rfl (lv_at hl 0 rfl) ?_
        refine gt_X6_31_68 C hI h dX6_best_48 ?_
        refine lv_bipush (v := (10 : Int32)) C.x C.bc dX6_best_51 (by decide) ?_
        refine lv_bipush (v := (12 : Int32)) C.x C.bc dX6_best_53 (by decide) ?_
        refine lv_iload_n C.x C.bc dX6_best_55 rfl (lv_at hl 2 rfl) ?_
        refine lv_imul C.x C.bc dX6_best_56 ?_
        refine lv_iadd C.x C.bc dX6_best_57 ?_
        refine lv_iload_n C.x C.bc dX6_best_58 rfl (lv_at hl 3 rfl) ?_
        refine lv_iadd C.x C.bc dX6_best_59 ?_
        obtain ⟨d_9, e_9, hx⟩ := nm_x hx
        refine x_ti e_9 ?_
        refine lv_dup2_11 C.x C.bc dX6_best_60 rfl rfl ?_
        obtain ⟨g_10, hx⟩ := gd_e hx
        refine x_iald C h 70 46 (hI 70 (by decide)) k_70 g_10 dX6_best_61 ?_
        refine lv_iconst (v := (1 : Int32)) C.x C.bc dX6_best_62 (by decide) ?_
        refine lv_iadd C.x C.bc dX6_best_63 ?_
        obtain ⟨g_11, hx⟩ := gd_e hx
        obtain ⟨st_12, e_12, hx⟩ := nm_x hx
        refine y_iast C h 70 46 (hI 70 (by decide)) k_70 g_11 e_12 dX6_best_64 (fun H locs h => ?_)
        refine lv_iload_n C.x C.bc dX6_best_65 rfl (lv_at hl 1 rfl) ?_
        refine lv_iconst (v := (-1 : Int32)) C.x C.bc dX6_best_66 (by decide) ?_
        refine lv_icmp_eq (tgt := 77) C.x C.bc dX6_best_67 (by decide) (fun c_13 => ?_) (fun c_13 => ?_)
        · have hx := ge_t hx c_13
          exact bX6_best_77 C hI v2 v3 st_12 hx hG hE0 K h (lv_sub hl [0, 2, 3] rfl)
        · have hx := ge_f hx c_13
          refine lv_aload_n C.x C.bc dX6_best_70 rfl (lv_at hl 0 rfl) ?_
          obtain ⟨⟨r_20, st_20⟩, hf_20, hx⟩ := bd_e hx
          have hx := u2_e hx
          refine cX6_378_X6_resists C hI h hf_20 ⟨Nat.le_of_ble_eq_true rfl, Nat.le_of_ble_eq_true rfl⟩ ⟨Nat.zero_le _, Nat.zero_le _⟩ hl.1 (Nat.le_of_ble_eq_true rfl) dX6_best_71 (fun H locs h => ?_)
          refine lv_if_ge (tgt := 91) C.x C.bc dX6_best_74 (by decide) (fun c_21 => ?_) (fun c_21 => ?_)
          · have hx := ge_t hx c_21
            exact bX6_best_91 C hI v1 v2 v3 st_20 hx hG hE0 K h (lv_sub hl [0, 1, 2, 3] rfl)
          · have hx := ge_f hx c_21
            exact bX6_best_77 C hI v2 v3 st_20 hx hG hE0 K h (lv_sub hl [0, 2, 3] rfl)
      · have hx := ge_t hx c_8
        refine lv_goto (tgt := 109) C.x C.bc dX6_best_44 (by decide) ?_
        exact bX6_best_109 C hI v1 v2 v3 st hx hG hE0 K h (lv_sub hl [0, 1, 2, 3] rfl)
set_option maxHeartbeats 1000000 in
theorem pX6_best_11 (C : Cx E s0 b p s m args meth c cX6_best 4 "EarthMeshModel" (some .int)) (hI : Sx E) (v2 : Int32) {Q : State → Prop} {v1 : Int32} {v3 : Int32} {st : St} {n : Nat} {r : Int32 × St} (hx : iter (u3 fun v1 v3 st => fX6_best_11 v1 v2 v3 st) n (v1, v3, st) = some r) (hE : (fun t => ∀ (H : Heap) (locs : List Loc) (ls : Array Slot), XH E (sg t.2) s H locs → lv_has ls 4 [(0, .ref (E.ad 68)), (1, .int t.1), (2, .int v2)] → W p l e rmX6_best s m args below meth c H locs 0 0 Q (F0 m 115 ls [])) r) {H : Heap} {locs : List Loc} {ls : Array Slot} (h : XH E (sg st) s H locs) (hl : lv_has ls 4 [(0, .ref (E.ad 68)), (1, .int v1), (2, .int v2), (3, .int v3)]) : W p l e rmX6_best s m args below meth c H locs 0 0 Q (F0 m 11 ls []) := by
  refine iter_W (G := fun t => ∀ (H : Heap) (locs : List Loc) (ls : Array Slot), XH E (sg t.2.2) s H locs → lv_has ls 4 [(0, .ref (E.ad 68)), (1, .int t.1), (2, .int v2), (3, .int t.2.1)] → W p l e rmX6_best s m args below meth c H locs 0 0 Q (F0 m 11 ls [])) (E := fun t => ∀ (H : Heap) (locs : List Loc) (ls : Array Slot), XH E (sg t.2) s H locs → lv_has ls 4 [(0, .ref (E.ad 68)), (1, .int t.1), (2, .int v2)] → W p l e rmX6_best s m args below meth c H locs 0 0 Q (F0 m 115 ls [])) (fun t x hx K H locs ls h hl => ?_) n _ r hx hE H locs ls h hl
  obtain ⟨v1, v3, st⟩ := t
  exact bX6_best_11 C hI v1 v2 v3 st hx (fun _ _ _ z => z) (fun _ _ z => z) K h hl
def fX6_best_4 (v1 : Int32) (v2 : Int32) (st : St) : Option ((Int32 × Int32 × St) ⊕ (Int32 × St)) :=
  if (2 : Int32) < v2 then
    some (.inr (v1, st))
  else
    bd (iter (u3 fun z1 z3 zst => fX6_best_11 z1 v2 z3 zst) FU (v1, (0 : Int32), st)) (u2 fun v1_22 st_22 =>
    nm (v2 + (1 : Int32)) fun v2_23 =>
    some (.inl (v1_22, v2_23, st_22)))
set_option maxHeartbeats 1000000 in
theorem bX6_best_4 (C : Cx E s0 b p s m args meth c cX6_best 4 "EarthMeshModel" (some .int)) (hI : Sx E) (v1 : Int32) (v2 : Int32) (st : St) {x : (Int32 × Int32 × St) ⊕ (Int32 × St)} (hx : fX6_best_4 v1 v2 st = some x) {Q : State → Prop} {G : Int32 × Int32 × St → Prop} {X : Int32 × St → Prop} (hG : ∀ (w1 : Int32) (w2 : Int32) (wst : St), G (w1, w2, wst) → ∀ (H : Heap) (locs : List Loc) (ls : Array Slot), XH E (sg wst) s H locs → lv_has ls 4 [(0, .ref (E.ad 68)), (1, .int w1), (2, .int w2)] → W p l e rmX6_best s m args below meth c H locs 0 0 Q (F0 m 4 ls [])) (hE0 : ∀ (w1 : Int32) (wst : St), X (w1, wst) → ∀ (H : Heap) (locs : List Loc) (ls : Array Slot), XH E (sg wst) s H locs → lv_has ls 4 [(1, .int w1)] → W p l e rmX6_best s m args below meth c H locs 0 0 Q (F0 m 121 ls [])) (K : Kx G X x) {H : Heap} {locs : List Loc} {ls : Array Slot} (h : XH E (sg st) s H locs) (hl : lv_has ls 4 [(0, .ref (E.ad 68)), (1, .int v1), (2, .int v2)]) : W p l e rmX6_best s m args below meth c H locs 0 0 Q (F0 m 4 ls []) := by
  unfold fX6_best_4 at hx
  refine lv_iload_n C.x C.bc dX6_best_4 rfl (lv_at hl 2 rfl) ?_
  refine lv_iconst (v := (2 : Int32)) C.x C.bc dX6_best_5 (by decide) ?_
  refine lv_icmp_gt (tgt := 121) C.x C.bc dX6_best_6 (by decide) (fun c_1 => ?_) (fun c_1 => ?_)
  · have hx := ge_t hx c_1
    obtain rfl := Option.some.inj hx
    exact hE0 _ _ K _ _ _ h (lv_sub hl [1] rfl)
  · have hx := ge_f hx c_1
    refine lv_iconst (v := (0 : Int32)) C.x C.bc dX6_best_9 (by decide) ?_
    refine lv_istore_n (lv' := [(3, .int (0 : Int32)), (0, .ref (E.ad 68)), (1, .int v1), (2, .int v2)]) C.x C.bc dX6_best_10 rfl hl (by decide) rfl (fun ls hl => ?_)
    obtain ⟨⟨v1_22, st_22⟩, hi_22, hx⟩ := bd_e hx
    have hx := u2_e hx
    refine pX6_best_11 C hI v2 hi_22 (fun H locs ls h hl => ?_) h (lv_sub hl [1, 2, 3, 0] rfl)
    obtain ⟨v2_23, e_23, hx⟩ := nm_x hx
    refine lv_iinc (v := v2_23) (lv' := [(2, .int v2_23), (0, .ref (E.ad 68)), (1, .int v1_22)]) C.x C.bc dX6_best_115 hl (k := 2) rfl (by rw [e_23]; rfl) (by decide) rfl (fun ls hl => ?_)
    refine lv_goto (tgt := 4) C.x C.bc dX6_best_118 (by decide) ?_
    obtain rfl := Option.some.inj hx
    exact hG _ _ _ K _ _ _ h (lv_sub hl [1, 2, 0] rfl)
set_option maxHeartbeats 1000000 in
theorem pX6_best_4 (C : Cx E s0 b p s m args meth c cX6_best 4 "EarthMeshModel" (some .int)) (hI : Sx E) {Q : State → Prop} {v1 : Int32} {v2 : Int32} {st : St} {n : Nat} {r : Int32 × St} (hx : iter (u3 fun v1 v2 st => fX6_best_4 v1 v2 st) n (v1, v2, st) = some r) (hE : (fun t => ∀ (H : Heap) (locs : List Loc) (ls : Array Slot), XH E (sg t.2) s H locs → lv_has ls 4 [(1, .int t.1)] → W p l e rmX6_best s m args below meth c H locs 0 0 Q (F0 m 121 ls [])) r) {H : Heap} {locs : List Loc} {ls : Array Slot} (h : XH E (sg st) s H locs) (hl : lv_has ls 4 [(0, .ref (E.ad 68)), (1, .int v1), (2, .int v2)]) : W p l e rmX6_best s m args below meth c H locs 0 0 Q (F0 m 4 ls []) := by
  refine iter_W (G := fun t => ∀ (H : Heap) (locs : List Loc) (ls : Array Slot), XH E (sg t.2.2) s H locs → lv_has ls 4 [(0, .ref (E.ad 68)), (1, .int t.1), (2, .int t.2.1)] → W p l e rmX6_best s m args below meth c H locs 0 0 Q (F0 m 4 ls [])) (E := fun t => ∀ (H : Heap) (locs : List Loc) (ls : Array Slot), XH E (sg t.2) s H locs → lv_has ls 4 [(1, .int t.1)] → W p l e rmX6_best s m args below meth c H locs 0 0 Q (F0 m 121 ls [])) (fun t x hx K H locs ls h hl => ?_) n _ r hx hE H locs ls h hl
  obtain ⟨v1, v2, st⟩ := t
  exact bX6_best_4 C hI v1 v2 st hx (fun _ _ _ z => z) (fun _ _ z => z) K h hl
def fX6_best (st : St) : Option (Int32 × St) :=
  bd (iter (u3 fun z1 z2 zst => fX6_best_4 z1 z2 zst) FU ((-1 : Int32), (0 : Int32), st)) (u2 fun v1_24 st_24 =>
  some (v1_24, st_24))
set_option maxHeartbeats 1000000 in
theorem bX6_best (C : Cx E s0 b p s m args meth c cX6_best 4 "EarthMeshModel" (some .int)) (hI : Sx E) (st : St) {x : Int32 × St} (hx : fX6_best st = some x) {H : Heap} {locs : List Loc} {ls : Array Slot} (h : XH E (sg st) s H locs) (hl : lv_has ls 4 [(0, .ref (E.ad 68))]) : W p l e rmX6_best s m args below meth c H locs 0 0 (MQ below (Qx E (some (.int x.1)) (sg x.2)) args s 0 0 (gA E.HB)) (F0 m 0 ls []) := by
  unfold fX6_best at hx
  refine lv_iconst (v := (-1 : Int32)) C.x C.bc dX6_best_0 (by decide) ?_
  refine lv_istore_n (lv' := [(1, .int (-1 : Int32)), (0, .ref (E.ad 68))]) C.x C.bc dX6_best_1 rfl hl (by decide) rfl (fun ls hl => ?_)
  refine lv_iconst (v := (0 : Int32)) C.x C.bc dX6_best_2 (by decide) ?_
  refine lv_istore_n (lv' := [(2, .int (0 : Int32)), (1, .int (-1 : Int32)), (0, .ref (E.ad 68))]) C.x C.bc dX6_best_3 rfl hl (by decide) rfl (fun ls hl => ?_)
  obtain ⟨⟨v1_24, st_24⟩, hi_24, hx⟩ := bd_e hx
  have hx := u2_e hx
  refine pX6_best_4 C hI hi_24 (fun H locs ls h hl => ?_) h (lv_sub hl [2, 1, 0] rfl)
  refine lv_iload_n C.x C.bc dX6_best_121 rfl (lv_at hl 0 rfl) ?_
  obtain rfl := Option.some.inj hx
  exact x_iret C h dX6_best_122
theorem mX6_best (hG : G0 E s0 b) (hI : Sx E)  {x : Int32 × St} (hx : fX6_best st = some x) : Mt l E s0 yX6_best cX6_best 4 (some .int) rmX6_best [.ref (E.ad 68)] (sg st) (some (.int x.1)) E (sg x.2) :=
  Mt.of hG (by decide) (Nat.le_of_ble_eq_true rfl) (fun p e s m below meth c ls C h hl => bX6_best C hI st hx h hl)
theorem cX6_284_X6_best  {r : Int32} {st' : St} (C : Cx E s0 b p s m args meth c cc nL "EarthMeshModel" rt) (hI : Sx E) (h : XH E (sg st) s H locs) (hf : fX6_best st = some (r, st')) (hR : rmX6_best.frames + 1 ≤ R.frames ∧ 16 + (4 + 11) + rmX6_best.locals ≤ R.locals) (h0 : cells ≤ R.cells ∧ slots ≤ R.slots) (hsz : ls.size = nL) (hcat : (rest.map fun v => v.category).sum ≤ 16) (hdg : decode cc pc = .ok (.invokevirtual 284, 3)) (kk : ∀ (H : Heap) (locs : List Loc), XH E (sg st') s H locs → W p l e R s m args below meth c H locs cells slots Q (F0 m (pc + 3) ls (.int r :: rest))) : W p l e R s m args below meth c H locs cells slots Q (F0 m pc ls (.ref (E.ad 68) :: rest)) :=
  x_callV (n := 0) (As := []) C h 68 5 (hI 68 (by decide)) k_68 rfl (mX6_best C.g hI hf) (lw_V q1938 q1940 qs107 q136 q1941) ⟨rfl, by decide +kernel, by decide +kernel, by decide +kernel⟩ hR ⟨rfl, rfl⟩ h0 rfl hsz rfl hcat hdg kk
abbrev rmX6_missed : Room := { frames := 7, cells := 0, slots := 0, locals := 233 }
def fX6_missed_92 (v1 : Int32) (v2 : Int32) (v3 : Int32) (st : St) : Option ((Int32 × Int32 × St) ⊕ (Int32 × St)) :=
  nm (v3 + (1 : Int32)) fun v3_13 =>
  some (.inl (v1, v3_13, st))
set_option maxHeartbeats 1000000 in
theorem bX6_missed_92 (C : Cx E s0 b p s m args meth c cX6_missed 5 "EarthMeshModel" (some .int)) (hI : Sx E) (v1 : Int32) (v2 : Int32) (v3 : Int32) (st : St) {x : (Int32 × Int32 × St) ⊕ (Int32 × St)} (hx : fX6_missed_92 v1 v2 v3 st = some x) {Q : State → Prop} {G : Int32 × Int32 × St → Prop} {X : Int32 × St → Prop} (hG : ∀ (w1 : Int32) (w3 : Int32) (wst : St), G (w1, w3, wst) → ∀ (H : Heap) (locs : List Loc) (ls : Array Slot), XH E (sg wst) s H locs → lv_has ls 5 [(0, .ref (E.ad 68)), (1, .int w1), (2, .int v2), (3, .int w3)] → W p l e rmX6_missed s m args below meth c H locs 0 0 Q (F0 m 11 ls [])) (hE0 : ∀ (w1 : Int32) (wst : St), X (w1, wst) → ∀ (H : Heap) (locs : List Loc) (ls : Array Slot), XH E (sg wst) s H locs → lv_has ls 5 [(0, .ref (E.ad 68)), (1, .int w1), (2, .int v2)] → W p l e rmX6_missed s m args below meth c H locs 0 0 Q (F0 m 98 ls [])) (K : Kx G X x) {H : Heap} {locs : List Loc} {ls : Array Slot} (h : XH E (sg st) s H locs) (hl : lv_has ls 5 [(0, .ref (E.ad 68)), (1, .int v1), (2, .int v2), (3, .int v3)]) : W p l e rmX6_missed s m args below meth c H locs 0 0 Q (F0 m 92 ls []) := by
  unfold fX6_missed_92 at hx
  obtain ⟨v3_13, e_13, hx⟩ := nm_x hx
  refine lv_iinc (v := v3_13) (lv' := [(3, .int v3_13), (0, .ref (E.ad 68)), (1, .int v1), (2, .int v2)]) C.x C.bc dX6_missed_92 hl (k := 3) rfl (by rw [e_13]; rfl) (by decide) rfl (fun ls hl => ?_)
  refine lv_goto (tgt := 11) C.x C.bc dX6_missed_95 (by decide) ?_
  obtain rfl := Option.some.inj hx
  exact hG _ _ _ K _ _ _ h (lv_sub hl [1, 2, 3, 0] rfl)
def fX6_missed_76 (v1 : Int32) (v2 : Int32) (v3 : Int32) (v4 : Int32) (st : St) : Option ((Int32 × Int32 × St) ⊕ (Int32 × St)) :=
  gd (inB (((10 : Int32) + ((12 : Int32) * v2)) + v3) 46) <|
  nm (uI st 70 (((10 : Int32) + ((12 : Int32) * v2)) + v3).toNatClampNeg v4) fun st_12 =>
  fX6_missed_92 v1 v2 v3 st_12
set_option maxHeartbeats 1000000 in
theorem bX6_missed_76 (C : Cx E s0 b p s m args meth c cX6_missed 5 "EarthMeshModel" (some .int)) (hI : Sx E) (v1 : Int32) (v2 : Int32) (v3 : Int32) (v4 : Int32) (st : St) {x : (Int32 × Int32 × St) ⊕ (Int32 × St)} (hx : fX6_missed_76 v1 v2 v3 v4 st = some x) {Q : State → Prop} {G : Int32 × Int32 × St → Prop} {X : Int32 × St → Prop} (hG : ∀ (w1 : Int32) (w3 : Int32) (wst : St), G (w1, w3, wst) → ∀ (H : Heap) (locs : List Loc) (ls : Array Slot), XH E (sg wst) s H locs → lv_has ls 5 [(0, .ref (E.ad 68)), (1, .int w1), (2, .int v2), (3, .int w3)] → W p l e rmX6_missed s m args below meth c H locs 0 0 Q (F0 m 11 ls [])) (hE0 : ∀ (w1 : Int32) (wst : St), X (w1, wst) → ∀ (H : Heap) (locs : List Loc) (ls : Array Slot), XH E (sg wst) s H locs → lv_has ls 5 [(0, .ref (E.ad 68)), (1, .int w1), (2, .int v2)] → W p l e rmX6_missed s m args below meth c H locs 0 0 Q (F0 m 98 ls [])) (K : Kx G X x) {H : Heap} {locs : List Loc} {ls : Array Slot} (h : XH E (sg st) s H locs) (hl : lv_has ls 5 [(0, .ref (E.ad 68)), (1, .int v1), (2, .int v2), (3, .int v3), (4, .int v4)]) : W p l e rmX6_missed s m args below meth c H locs 0 0 Q (F0 m 76 ls []) := by
  unfold fX6_missed_76 at hx
  refine lv_aload_n C.x C.bc dX6_missed_76 rfl (lv_at hl 0 rfl) ?_
  refine gt_X6_31_68 C hI h dX6_missed_77 ?_
  refine lv_bipush (v := (10 : Int32)) C.x C.bc dX6_missed_80 (by decide) ?_
  refine lv_bipush (v := (12 : Int32)) C.x C.bc dX6_missed_82 (by decide) ?_
  refine lv_iload_n C.x C.bc dX6_missed_84 rfl (lv_at hl 2 rfl) ?_
  refine lv_imul C.x C.bc dX6_missed_85 ?_
  refine lv_iadd C.x C.bc dX6_missed_86 ?_
  refine lv_iload_n C.x C.bc dX6_missed_87 rfl (lv_at hl 3 rfl) ?_
  refine lv_iadd C.x C.bc dX6_missed_88 ?_
  refine lv_iload C.x C.bc dX6_missed_89 (lv_at hl 4 rfl) ?_
  obtain ⟨g_11, hx⟩ := gd_e hx
  obtain ⟨st_12, e_12, hx⟩ := nm_x hx
  refine y_iast C h 70 46 (hI 70 (by decide)) k_70 g_11 e_12 dX6_missed_91 (fun H locs h => ?_)
  exact bX6_missed_92 C hI v1 v2 v3 st_12 hx hG hE0 K h (lv_sub hl [0, 1, 2, 3] rfl)
def fX6_missed_65 (v2 : Int32) (v3 : Int32) (v4 : Int32) (st : St) : Option ((Int32 × Int32 × St) ⊕ (Int32 × St)) :=
  nm (((100 : Int32) * v2) + v3) fun v1_9 =>
  bd (fX6_keepsBest st) fun st_10 =>
  fX6_missed_76 v1_9 v2 v3 v4 st_10
set_option maxHeartbeats 1000000 in
theorem bX6_missed_65 (C : Cx E s0 b p s m args meth c cX6_missed 5 "EarthMeshModel" (some .int)) (hI : Sx E) (v2 : Int32) (v3 : Int32) (v4 : Int32) (st : St) {x : (Int32 × Int32 × St) ⊕ (Int32 × St)} (hx : fX6_missed_65 v2 v3 v4 st = some x) {Q : State → Prop} {G : Int32 × Int32 × St → Prop} {X : Int32 × St → Prop} (hG : ∀ (w1 : Int32) (w3 : Int32) (wst : St), G (w1, w3, wst) → ∀ (H : Heap) (locs : List Loc) (ls : Array Slot), XH E (sg wst) s H locs → lv_has ls 5 [(0, .ref (E.ad 68)), (1, .int w1), (2, .int v2), (3, .int w3)] → W p l e rmX6_missed s m args below meth c H locs 0 0 Q (F0 m 11 ls [])) (hE0 : ∀ (w1 : Int32) (wst : St), X (w1, wst) → ∀ (H : Heap) (locs : List Loc) (ls : Array Slot), XH E (sg wst) s H locs → lv_has ls 5 [(0, .ref (E.ad 68)), (1, .int w1), (2, .int v2)] → W p l e rmX6_missed s m args below meth c H locs 0 0 Q (F0 m 98 ls [])) (K : Kx G X x) {H : Heap} {locs : List Loc} {ls : Array Slot} (h : XH E (sg st) s H locs) (hl : lv_has ls 5 [(0, .ref (E.ad 68)), (2, .int v2), (3, .int v3), (4, .int v4)]) : W p l e rmX6_missed s m args below meth c H locs 0 0 Q (F0 m 65 ls []) := by
  unfold fX6_missed_65 at hx
  refine lv_bipush (v := (100 : Int32)) C.x C.bc dX6_missed_65 (by decide) ?_
  refine lv_iload_n C.x C.bc dX6_missed_67 rfl (lv_at hl 1 rfl) ?_
  refine lv_imul C.x C.bc dX6_missed_68 ?_
  refine lv_iload_n C.x C.bc dX6_missed_69 rfl (lv_at hl 2 rfl) ?_
  refine lv_iadd C.x C.bc dX6_missed_70 ?_
  obtain ⟨v1_9, e_9, hx⟩ := nm_x hx
  refine x_ti e_9 ?_
  refine lv_istore_n (lv' := [(1, .int v1_9), (0, .ref (E.ad 68)), (2, .int v2), (3, .int v3), (4, .int v4)]) C.x C.bc dX6_missed_71 rfl hl (by decide) rfl (fun ls hl => ?_)
  refine lv_aload_n C.x C.bc dX6_missed_72 rfl (lv_at hl 1 rfl) ?_
  obtain ⟨st_10, hf_10, hx⟩ := bd_e hx
  refine cX6_381_X6_keepsBest C hI h hf_10 ⟨Nat.le_of_ble_eq_true rfl, Nat.le_of_ble_eq_true rfl⟩ ⟨Nat.zero_le _, Nat.zero_le _⟩ hl.1 (Nat.le_of_ble_eq_true rfl) dX6_missed_73 (fun H locs h => ?_)
  exact bX6_missed_76 C hI v1_9 v2 v3 v4 st_10 hx hG hE0 K h (lv_sub hl [1, 0, 2, 3, 4] rfl)
def fX6_missed_11 (v1 : Int32) (v2 : Int32) (v3 : Int32) (st : St) : Option ((Int32 × Int32 × St) ⊕ (Int32 × St)) :=
  bd (fX6_nodes_70 st) fun r_2 =>
  if r_2 ≤ v3 then
    some (.inr (v1, st))
  else
    bd (fX6_part v3 v2 st) fun r_4 =>
    if r_4 = 0 then
      fX6_missed_92 v1 v2 v3 st
    else
      gd (inB (((10 : Int32) + ((12 : Int32) * v2)) + v3) 46) <|
      nm (uI st 70 (((10 : Int32) + ((12 : Int32) * v2)) + v3).toNatClampNeg (0 : Int32)) fun st_7 =>
      if v1 = (-1 : Int32) then
        fX6_missed_65 v2 v3 r_4 st_7
      else
        bd (fX6_resists st_7) <| u2 fun r_14 st_14 =>
        if r_14 ≤ 0 then
          fX6_missed_76 v1 v2 v3 r_4 st_14
        else
          fX6_missed_65 v2 v3 r_4 st_14
set_option maxHeartbeats 1000000 in
theorem bX6_missed_11 (C : Cx E s0 b p s m args meth c cX6_missed 5 "EarthMeshModel" (some .int)) (hI : Sx E) (v1 : Int32) (v2 : Int32) (v3 : Int32) (st : St) {x : (Int32 × Int32 × St) ⊕ (Int32 × St)} (hx : fX6_missed_11 v1 v2 v3 st = some x) {Q : State → Prop} {G : Int32 × Int32 × St → Prop} {X : Int32 × St → Prop} (hG : ∀ (w1 : Int32) (w3 : Int32) (wst : St), G (w1, w3, wst) → ∀ (H : Heap) (locs : List Loc) (ls : Array Slot), XH E (sg wst) s H locs → lv_has ls 5 [(0, .ref (E.ad 68)), (1, .int w1), (2, .int v2), (3, .int w3)] → W p l e rmX6_missed s m args below meth c H locs 0 0 Q (F0 m 11 ls [])) (hE0 : ∀ (w1 : Int32) (wst : St), X (w1, wst) → ∀ (H : Heap) (locs : List Loc) (ls : Array Slot), XH E (sg wst) s H locs → lv_has ls 5 [(0, .ref (E.ad 68)), (1, .int w1), (2, .int v2)] → W p l e rmX6_missed s m args below meth c H locs 0 0 Q (F0 m 98 ls [])) (K : Kx G X x) {H : Heap} {locs : List Loc} {ls : Array Slot} (h : XH E (sg st) s H locs) (hl : lv_has ls 5 [(0, .ref (E.ad 68)), (1, .int v1), (2, .int v2), (3, .int v3)]) : W p l e rmX6_missed s m args below meth c H locs 0 0 Q (F0 m 11 ls []) := by
  unfold fX6_missed_11 at hx
  refine lv_iload_n C.x C.bc dX6_missed_11 rfl (lv_at hl 3 rfl) ?_
  refine lv_aload_n C.x C.bc dX6_missed_12 rfl (lv_at hl 0 rfl) ?_
  refine gt_X6_31_68 C hI h dX6_missed_13 ?_
  obtain ⟨r_2, hf_2, hx⟩ := bd_e hx
  refine cX6_190_X6_nodes_70 C hI h hf_2 ⟨Nat.le_of_ble_eq_true rfl, Nat.le_of_ble_eq_true rfl⟩ ⟨Nat.zero_le _, Nat.zero_le _⟩ hl.1 (Nat.le_of_ble_eq_true rfl) dX6_missed_16 (fun H locs h => ?_)
  refine lv_icmp_ge (tgt := 98) C.x C.bc dX6_missed_19 (by decide) (fun c_3 => ?_) (fun c_3 => ?_)
  · have hx := ge_t hx c_3
    obtain rfl := Option.some.inj hx
    exact hE0 _ _ K _ _ _ h (lv_sub hl [0, 1, 2] rfl)
  · have hx := ge_f hx c_3
    refine lv_aload_n C.x C.bc dX6_missed_22 rfl (lv_at hl 0 rfl) ?_
    refine lv_iload_n C.x C.bc dX6_missed_23 rfl (lv_at hl 3 rfl) ?_
    refine lv_iload_n C.x C.bc dX6_missed_24 rfl (lv_at hl 2 rfl) ?_
    obtain ⟨r_4, hf_4, hx⟩ := bd_e hx
    refine cX6_194_X6_part C hI h hf_4 ⟨Nat.le_of_ble_eq_true rfl, Nat.le_of_ble_eq_true rfl⟩ ⟨Nat.zero_le _, Nat.zero_le _⟩ hl.1 (Nat.le_of_ble_eq_true rfl) dX6_missed_25 (fun H locs h => ?_)
    refine lv_istore (lv' := [(4, .int r_4), (0, .ref (E.ad 68)), (1, .int v1), (2, .int v2), (3, .int v3)]) C.x C.bc dX6_missed_28 hl (by decide) rfl (fun ls hl => ?_)
    refine lv_iload C.x C.bc dX6_missed_30 (lv_at hl 0 rfl) ?_
    refine lv_if_ne (tgt := 38) C.x C.bc dX6_missed_32 (by decide) (fun c_5 => ?_) (fun c_5 => ?_)
    · have hx := ge_f hx c_5
      refine lv_aload_n C.x C.bc dX6_missed_38 rfl (lv_at hl 1 rfl) ?_
      refine gt_X6_31_68 C hI h dX6_missed_39 ?_
      refine lv_bipush (v := (10 : Int32)) C.x C.bc dX6_missed_42 (by decide) ?_
      refine lv_bipush (v := (12 : Int32)) C.x C.bc dX6_missed_44 (by decide) ?_
      refine lv_iload_n C.x C.bc dX6_missed_46 rfl (lv_at hl 3 rfl) ?_
      refine lv_imul C.x C.bc dX6_missed_47 ?_
      refine lv_iadd C.x C.bc dX6_missed_48 ?_
      refine lv_iload_n C.x C.bc dX6_missed_49 rfl (lv_at hl 4 rfl) ?_
      refine lv_iadd C.x C.bc dX6_missed_50 ?_
      refine lv_iconst (v := (0 : Int32)) C.x C.bc dX6_missed_51 (by decide) ?_
      obtain ⟨g_6, hx⟩ := gd_e hx
      obtain ⟨st_7, e_7, hx⟩ := nm_x hx
      refine y_iast C h 70 46 (hI 70 (by decide)) k_70 g_6 e_7 dX6_missed_52 (fun H locs h => ?_)
      refine lv_iload_n C.x C.bc dX6_missed_53 rfl (lv_at hl 2 rfl) ?_
      refine lv_iconst (v := (-1 : Int32)) C.x C.bc dX6_missed_54 (by decide) ?_
      refine lv_icmp_eq (tgt := 65) C.x C.bc dX6_missed_55 (by decide) (fun c_8 => ?_) (fun c_8 => ?_)
      · have hx := ge_t hx c_8
        exact bX6_missed_65 C hI v2 v3 r_4 st_7 hx hG hE0 K h (lv_sub hl [1, 3, 4, 0] rfl)
      · have hx := ge_f hx c_8
        refine lv_aload_n C.x C.bc dX6_missed_58 rfl (lv_at hl 1 rfl) ?_
        obtain ⟨⟨r_14, st_14⟩, hf_14, hx⟩ := bd_e hx
        have hx := u2_e hx
        refine cX6_378_X6_resists C hI h hf_14 ⟨Nat.le_of_ble_eq_true rfl, Nat.le_of_ble_eq_true rfl⟩ ⟨Nat.zero_le _, Nat.zero_le _⟩ hl.1 (Nat.le_of_ble_eq_true rfl) dX6_missed_59 (fun H locs h => ?_)
        refine lv_if_le (tgt := 76) C.x C.bc dX6_missed_62 (by decide) (fun c_15 => ?_) (fun c_15 => ?_)
        · have hx := ge_t hx c_15
          exact bX6_missed_76 C hI v1 v2 v3 r_4 st_14 hx hG hE0 K h (lv_sub hl [1, 2, 3, 4, 0] rfl)
        · have hx := ge_f hx c_15
          exact bX6_missed_65 C hI v2 v3 r_4 st_14 hx hG hE0 K h (lv_sub hl [1, 3, 4, 0] rfl)
    · have hx := ge_t hx c_5
      refine lv_goto (tgt := 92) C.x C.bc dX6_missed_35 (by decide) ?_
      exact bX6_missed_92 C hI v1 v2 v3 st hx hG hE0 K h (lv_sub hl [1, 2, 3, 4] rfl)
set_option maxHeartbeats 1000000 in
theorem pX6_missed_11 (C : Cx E s0 b p s m args meth c cX6_missed 5 "EarthMeshModel" (some .int)) (hI : Sx E) (v2 : Int32) {Q : State → Prop} {v1 : Int32} {v3 : Int32} {st : St} {n : Nat} {r : Int32 × St} (hx : iter (u3 fun v1 v3 st => fX6_missed_11 v1 v2 v3 st) n (v1, v3, st) = some r) (hE : (fun t => ∀ (H : Heap) (locs : List Loc) (ls : Array Slot), XH E (sg t.2) s H locs → lv_has ls 5 [(0, .ref (E.ad 68)), (1, .int t.1), (2, .int v2)] → W p l e rmX6_missed s m args below meth c H locs 0 0 Q (F0 m 98 ls [])) r) {H : Heap} {locs : List Loc} {ls : Array Slot} (h : XH E (sg st) s H locs) (hl : lv_has ls 5 [(0, .ref (E.ad 68)), (1, .int v1), (2, .int v2), (3, .int v3)]) : W p l e rmX6_missed s m args below meth c H locs 0 0 Q (F0 m 11 ls []) := by
  refine iter_W (G := fun t => ∀ (H : Heap) (locs : List Loc) (ls : Array Slot), XH E (sg t.2.2) s H locs → lv_has ls 5 [(0, .ref (E.ad 68)), (1, .int t.1), (2, .int v2), (3, .int t.2.1)] → W p l e rmX6_missed s m args below meth c H locs 0 0 Q (F0 m 11 ls [])) (E := fun t => ∀ (H : Heap) (locs : List Loc) (ls : Array Slot), XH E (sg t.2) s H locs → lv_has ls 5 [(0, .ref (E.ad 68)), (1, .int t.1), (2, .int v2)] → W p l e rmX6_missed s m args below meth c H locs 0 0 Q (F0 m 98 ls [])) (fun t x hx K H locs ls h hl => ?_) n _ r hx hE H locs ls h hl
  obtain ⟨v1, v3, st⟩ := t
  exact bX6_missed_11 C hI v1 v2 v3 st hx (fun _ _ _ z => z) (fun _ _ z => z) K h hl
def fX6_missed_4 (v1 : Int32) (v2 : Int32) (st : St) : Option ((Int32 × Int32 × St) ⊕ (Int32 × St)) :=
  if (1 : Int32) < v2 then
    some (.inr (v1, st))
  else
    bd (iter (u3 fun z1 z3 zst => fX6_missed_11 z1 v2 z3 zst) FU (v1, (0 : Int32), st)) (u2 fun v1_16 st_16 =>
    nm (v2 + (1 : Int32)) fun v2_17 =>
    some (.inl (v1_16, v2_17, st_16)))
set_option maxHeartbeats 1000000 in
theorem bX6_missed_4 (C : Cx E s0 b p s m args meth c cX6_missed 5 "EarthMeshModel" (some .int)) (hI : Sx E) (v1 : Int32) (v2 : Int32) (st : St) {x : (Int32 × Int32 × St) ⊕ (Int32 × St)} (hx : fX6_missed_4 v1 v2 st = some x) {Q : State → Prop} {G : Int32 × Int32 × St → Prop} {X : Int32 × St → Prop} (hG : ∀ (w1 : Int32) (w2 : Int32) (wst : St), G (w1, w2, wst) → ∀ (H : Heap) (locs : List Loc) (ls : Array Slot), XH E (sg wst) s H locs → lv_has ls 5 [(0, .ref (E.ad 68)), (1, .int w1), (2, .int w2)] → W p l e rmX6_missed s m args below meth c H locs 0 0 Q (F0 m 4 ls [])) (hE0 : ∀ (w1 : Int32) (wst : St), X (w1, wst) → ∀ (H : Heap) (locs : List Loc) (ls : Array Slot), XH E (sg wst) s H locs → lv_has ls 5 [(1, .int w1)] → W p l e rmX6_missed s m args below meth c H locs 0 0 Q (F0 m 104 ls [])) (K : Kx G X x) {H : Heap} {locs : List Loc} {ls : Array Slot} (h : XH E (sg st) s H locs) (hl : lv_has ls 5 [(0, .ref (E.ad 68)), (1, .int v1), (2, .int v2)]) : W p l e rmX6_missed s m args below meth c H locs 0 0 Q (F0 m 4 ls []) := by
  unfold fX6_missed_4 at hx
  refine lv_iload_n C.x C.bc dX6_missed_4 rfl (lv_at hl 2 rfl) ?_
  refine lv_iconst (v := (1 : Int32)) C.x C.bc dX6_missed_5 (by decide) ?_
  refine lv_icmp_gt (tgt := 104) C.x C.bc dX6_missed_6 (by decide) (fun c_1 => ?_) (fun c_1 => ?_)
  · have hx := ge_t hx c_1
    obtain rfl := Option.some.inj hx
    exact hE0 _ _ K _ _ _ h (lv_sub hl [1] rfl)
  · have hx := ge_f hx c_1
    refine lv_iconst (v := (0 : Int32)) C.x C.bc dX6_missed_9 (by decide) ?_
    refine lv_istore_n (lv' := [(3, .int (0 : Int32)), (0, .ref (E.ad 68)), (1, .int v1), (2, .int v2)]) C.x C.bc dX6_missed_10 rfl hl (by decide) rfl (fun ls hl => ?_)
    obtain ⟨⟨v1_16, st_16⟩, hi_16, hx⟩ := bd_e hx
    have hx := u2_e hx
    refine pX6_missed_11 C hI v2 hi_16 (fun H locs ls h hl => ?_) h (lv_sub hl [1, 2, 3, 0] rfl)
    obtain ⟨v2_17, e_17, hx⟩ := nm_x hx
    refine lv_iinc (v := v2_17) (lv' := [(2, .int v2_17), (0, .ref (E.ad 68)), (1, .int v1_16)]) C.x C.bc dX6_missed_98 hl (k := 2) rfl (by rw [e_17]; rfl) (by decide) rfl (fun ls hl => ?_)
    refine lv_goto (tgt := 4) C.x C.bc dX6_missed_101 (by decide) ?_
    obtain rfl := Option.some.inj hx
    exact hG _ _ _ K _ _ _ h (lv_sub hl [1, 2, 0] rfl)
set_option maxHeartbeats 1000000 in
theorem pX6_missed_4 (C : Cx E s0 b p s m args meth c cX6_missed 5 "EarthMeshModel" (some .int)) (hI : Sx E) {Q : State → Prop} {v1 : Int32} {v2 : Int32} {st : St} {n : Nat} {r : Int32 × St} (hx : iter (u3 fun v1 v2 st => fX6_missed_4 v1 v2 st) n (v1, v2, st) = some r) (hE : (fun t => ∀ (H : Heap) (locs : List Loc) (ls : Array Slot), XH E (sg t.2) s H locs → lv_has ls 5 [(1, .int t.1)] → W p l e rmX6_missed s m args below meth c H locs 0 0 Q (F0 m 104 ls [])) r) {H : Heap} {locs : List Loc} {ls : Array Slot} (h : XH E (sg st) s H locs) (hl : lv_has ls 5 [(0, .ref (E.ad 68)), (1, .int v1), (2, .int v2)]) : W p l e rmX6_missed s m args below meth c H locs 0 0 Q (F0 m 4 ls []) := by
  refine iter_W (G := fun t => ∀ (H : Heap) (locs : List Loc) (ls : Array Slot), XH E (sg t.2.2) s H locs → lv_has ls 5 [(0, .ref (E.ad 68)), (1, .int t.1), (2, .int t.2.1)] → W p l e rmX6_missed s m args below meth c H locs 0 0 Q (F0 m 4 ls [])) (E := fun t => ∀ (H : Heap) (locs : List Loc) (ls : Array Slot), XH E (sg t.2) s H locs → lv_has ls 5 [(1, .int t.1)] → W p l e rmX6_missed s m args below meth c H locs 0 0 Q (F0 m 104 ls [])) (fun t x hx K H locs ls h hl => ?_) n _ r hx hE H locs ls h hl
  obtain ⟨v1, v2, st⟩ := t
  exact bX6_missed_4 C hI v1 v2 st hx (fun _ _ _ z => z) (fun _ _ z => z) K h hl
def fX6_missed (st : St) : Option (Int32 × St) :=
  bd (iter (u3 fun z1 z2 zst => fX6_missed_4 z1 z2 zst) FU ((-1 : Int32), (0 : Int32), st)) (u2 fun v1_18 st_18 =>
  some (v1_18, st_18))
set_option maxHeartbeats 1000000 in
theorem bX6_missed (C : Cx E s0 b p s m args meth c cX6_missed 5 "EarthMeshModel" (some .int)) (hI : Sx E) (st : St) {x : Int32 × St} (hx : fX6_missed st = some x) {H : Heap} {locs : List Loc} {ls : Array Slot} (h : XH E (sg st) s H locs) (hl : lv_has ls 5 [(0, .ref (E.ad 68))]) : W p l e rmX6_missed s m args below meth c H locs 0 0 (MQ below (Qx E (some (.int x.1)) (sg x.2)) args s 0 0 (gA E.HB)) (F0 m 0 ls []) := by
  unfold fX6_missed at hx
  refine lv_iconst (v := (-1 : Int32)) C.x C.bc dX6_missed_0 (by decide) ?_
  refine lv_istore_n (lv' := [(1, .int (-1 : Int32)), (0, .ref (E.ad 68))]) C.x C.bc dX6_missed_1 rfl hl (by decide) rfl (fun ls hl => ?_)
  refine lv_iconst (v := (0 : Int32)) C.x C.bc dX6_missed_2 (by decide) ?_
  refine lv_istore_n (lv' := [(2, .int (0 : Int32)), (1, .int (-1 : Int32)), (0, .ref (E.ad 68))]) C.x C.bc dX6_missed_3 rfl hl (by decide) rfl (fun ls hl => ?_)
  obtain ⟨⟨v1_18, st_18⟩, hi_18, hx⟩ := bd_e hx
  have hx := u2_e hx
  refine pX6_missed_4 C hI hi_18 (fun H locs ls h hl => ?_) h (lv_sub hl [2, 1, 0] rfl)
  refine lv_iload_n C.x C.bc dX6_missed_104 rfl (lv_at hl 0 rfl) ?_
  obtain rfl := Option.some.inj hx
  exact x_iret C h dX6_missed_105
theorem mX6_missed (hG : G0 E s0 b) (hI : Sx E)  {x : Int32 × St} (hx : fX6_missed st = some x) : Mt l E s0 yX6_missed cX6_missed 5 (some .int) rmX6_missed [.ref (E.ad 68)] (sg st) (some (.int x.1)) E (sg x.2) :=
  Mt.of hG (by decide) (Nat.le_of_ble_eq_true rfl) (fun p e s m below meth c ls C h hl => bX6_missed C hI st hx h hl)
theorem cX6_281_X6_missed  {r : Int32} {st' : St} (C : Cx E s0 b p s m args meth c cc nL "EarthMeshModel" rt) (hI : Sx E) (h : XH E (sg st) s H locs) (hf : fX6_missed st = some (r, st')) (hR : rmX6_missed.frames + 1 ≤ R.frames ∧ 16 + (5 + 11) + rmX6_missed.locals ≤ R.locals) (h0 : cells ≤ R.cells ∧ slots ≤ R.slots) (hsz : ls.size = nL) (hcat : (rest.map fun v => v.category).sum ≤ 16) (hdg : decode cc pc = .ok (.invokevirtual 281, 3)) (kk : ∀ (H : Heap) (locs : List Loc), XH E (sg st') s H locs → W p l e R s m args below meth c H locs cells slots Q (F0 m (pc + 3) ls (.int r :: rest))) : W p l e R s m args below meth c H locs cells slots Q (F0 m pc ls (.ref (E.ad 68) :: rest)) :=
  x_callV (n := 0) (As := []) C h 68 5 (hI 68 (by decide)) k_68 rfl (mX6_missed C.g hI hf) (lw_V q1923 q1925 qs104 q136 q1926) ⟨rfl, by decide +kernel, by decide +kernel, by decide +kernel⟩ hR ⟨rfl, rfl⟩ h0 rfl hsz rfl hcat hdg kk
end
