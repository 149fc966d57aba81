set_option maxRecDepth 100000
section
variable {p : Program} {l : Launch} {e : Env} {R : Room} {s : State} {m : MethodId} {args : Array Value} {below : List Frame} {meth : Method} {c : Code} {H : Heap} {locs : List Loc} {cells slots : Nat} {Q : State → Prop}
variable {cc : ByteArray} {pc : Nat} {ls : Array Slot} {rest : List Value} {E : Wd} {s0 : State} {b nL : Nat} {rt : Option FieldType} {g st : St}
abbrev rmX6_thrown : Room := { frames := 0, cells := 0, slots := 0, locals := 0 }
def fX6_thrown (st : St) : Int32 :=
  (st.1 68 1)
set_option maxHeartbeats 1000000 in
theorem bX6_thrown (C : Cx E s0 b p s m args meth c cX6_thrown 1 "EarthMeshModel" (some .int)) (hI : Sx E) (st : St) {x : Int32} (hx : fX6_thrown st = x) {H : Heap} {locs : List Loc} {ls : Array Slot} (h : XH E (sg st) s H locs) (hl : lv_has ls 1 [(0, .ref (E.ad 68))]) : W p l e rmX6_thrown s m args below meth c H locs 0 0 (MQ below (Qx E (some (.int x)) (sg st)) args s 0 0 (gA E.HB)) (F0 m 0 ls []) := by
  unfold fX6_thrown at hx
  refine lv_aload_n C.x C.bc dX6_thrown_0 rfl (lv_at hl 0 rfl) ?_
  refine gt_X6_90_68 C hI h dX6_thrown_1 ?_
  subst hx
  exact x_iret C h dX6_thrown_4
theorem mX6_thrown (hG : G0 E s0 b) (hI : Sx E)  {x : Int32} (hx : fX6_thrown st = x) : Mt l E s0 yX6_thrown cX6_thrown 1 (some .int) rmX6_thrown [.ref (E.ad 68)] (sg st) (some (.int x)) E (sg st) :=
  Mt.of hG (by decide) (Nat.le_of_ble_eq_true rfl) (fun p e s m below meth c ls C h hl => bX6_thrown C hI st hx h hl)
abbrev rmX6_fail : Room := { frames := 0, cells := 0, slots := 0, locals := 0 }
def fX6_fail (v1 : Int32) (st : St) : Option (Int32 × St) :=
  nm (uI st 68 1 v1) fun st_1 =>
  some ((0 : Int32), st_1)
set_option maxHeartbeats 1000000 in
theorem bX6_fail (C : Cx E s0 b p s m args meth c cX6_fail 2 "EarthMeshModel" (some .int)) (hI : Sx E) (v1 : Int32) (st : St) {x : Int32 × St} (hx : fX6_fail v1 st = some x) {H : Heap} {locs : List Loc} {ls : Array Slot} (h : XH E (sg st) s H locs) (hl : lv_has ls 2 [(0, .ref (E.ad 68)), (1, .int v1)]) : W p l e rmX6_fail s m args below meth c H locs 0 0 (MQ below (Qx E (some (.int x.1)) (sg x.2)) args s 0 0 (gA E.HB)) (F0 m 0 ls []) := by
  unfold fX6_fail at hx
  refine lv_aload_n C.x C.bc dX6_fail_0 rfl (lv_at hl 0 rfl) ?_
  refine lv_iload_n C.x C.bc dX6_fail_1 rfl (lv_at hl 1 rfl) ?_
  obtain ⟨st_1, e_1, hx⟩ := nm_x hx
  refine pt_X6_90_68 C hI h e_1 dX6_fail_2 (fun H locs h => ?_)
  refine lv_iconst (v := (0 : Int32)) C.x C.bc dX6_fail_5 (by decide) ?_
  obtain rfl := Option.some.inj hx
  exact x_iret C h dX6_fail_6
theorem mX6_fail (hG : G0 E s0 b) (hI : Sx E) {v1 : Int32} {x : Int32 × St} (hx : fX6_fail v1 st = some x) : Mt l E s0 yX6_fail cX6_fail 2 (some .int) rmX6_fail [.ref (E.ad 68), .int v1] (sg st) (some (.int x.1)) E (sg x.2) :=
  Mt.of hG (by decide) (Nat.le_of_ble_eq_true rfl) (fun p e s m below meth c ls C h hl => bX6_fail C hI v1 st hx h hl)
theorem cX6_182_X6_fail {a0 : Int32} {r : Int32} {st' : St} (C : Cx E s0 b p s m args meth c cc nL "EarthMeshModel" rt) (hI : Sx E) (h : XH E (sg st) s H locs) (hf : fX6_fail a0 st = some (r, st')) (hR : rmX6_fail.frames + 1 ≤ R.frames ∧ 16 + (2 + 11) + rmX6_fail.locals ≤ R.locals) (h0 : cells ≤ R.cells ∧ slots ≤ R.slots) (hsz : ls.size = nL) (hcat : (rest.map fun v => v.category).sum ≤ 16) (hdg : decode cc pc = .ok (.invokevirtual 182, 3)) (kk : ∀ (H : Heap) (locs : List Loc), XH E (sg st') s H locs → W p l e R s m args below meth c H locs cells slots Q (F0 m (pc + 3) ls (.int r :: rest))) : W p l e R s m args below meth c H locs cells slots Q (F0 m pc ls (.int a0 :: .ref (E.ad 68) :: rest)) :=
  x_callV (n := 1) (As := [.int a0]) C h 68 5 (hI 68 (by decide)) k_68 rfl (mX6_fail C.g hI hf) (lw_V q1740 q1742 qs73 q136 q1743) ⟨rfl, by decide +kernel, by decide +kernel, by decide +kernel⟩ hR ⟨rfl, rfl⟩ h0 rfl hsz rfl hcat hdg kk
abbrev rmX6_isIn : Room := { frames := 0, cells := 0, slots := 0, locals := 0 }
def fX6_isIn_14 : Int32 :=
  (0 : Int32)
set_option maxHeartbeats 1000000 in
theorem bX6_isIn_14 (C : Cx E s0 b p s m args meth c cX6_isIn 3 "EarthMeshModel" (some .boolean)) (hI : Sx E) {x : Int32} (hx : fX6_isIn_14 = x) {H : Heap} {locs : List Loc} {ls : Array Slot} (h : XH E g s H locs) (hl : lv_has ls 3 []) : W p l e rmX6_isIn s m args below meth c H locs 0 0 (MQ below (Qx E (some (.int x)) g) args s 0 0 (gA E.HB)) (F0 m 14 ls []) := by
  unfold fX6_isIn_14 at hx
  refine lv_iconst (v := (0 : Int32)) C.x C.bc dX6_isIn_14 (by decide) ?_
  subst hx
  exact x_zret (v := (0 : Int32)) C h rfl dX6_isIn_15
def fX6_isIn (v0 : Int32) (v1 : Int32) (v2 : Int32) : Int32 :=
  if v0 < v1 then
    fX6_isIn_14
  else
    if v2 < v0 then
      fX6_isIn_14
    else
      (1 : Int32)
set_option maxHeartbeats 1000000 in
theorem bX6_isIn (C : Cx E s0 b p s m args meth c cX6_isIn 3 "EarthMeshModel" (some .boolean)) (hI : Sx E) (v0 : Int32) (v1 : Int32) (v2 : Int32) {x : Int32} (hx : fX6_isIn v0 v1 v2 = x) {H : Heap} {locs : List Loc} {ls : Array Slot} (h : XH E g s H locs) (hl : lv_has ls 3 [(0, .int v0), (1, .int v1), (2, .int v2)]) : W p l e rmX6_isIn s m args below meth c H locs 0 0 (MQ below (Qx E (some (.int x)) g) args s 0 0 (gA E.HB)) (F0 m 0 ls []) := by
  unfold fX6_isIn at hx
  refine lv_iload_n C.x C.bc dX6_isIn_0 rfl (lv_at hl 0 rfl) ?_
  refine lv_iload_n C.x C.bc dX6_isIn_1 rfl (lv_at hl 1 rfl) ?_
  refine lv_icmp_lt (tgt := 14) C.x C.bc dX6_isIn_2 (by decide) (fun c_1 => ?_) (fun c_1 => ?_)
  · have hx := ge_t hx c_1
    exact bX6_isIn_14 C hI hx h (lv_sub hl [] rfl)
  · have hx := ge_f hx c_1
    refine lv_iload_n C.x C.bc dX6_isIn_5 rfl (lv_at hl 0 rfl) ?_
    refine lv_iload_n C.x C.bc dX6_isIn_6 rfl (lv_at hl 2 rfl) ?_
    refine lv_icmp_gt (tgt := 14) C.x C.bc dX6_isIn_7 (by decide) (fun c_2 => ?_) (fun c_2 => ?_)
    · have hx := ge_t hx c_2
      exact bX6_isIn_14 C hI hx h (lv_sub hl [] rfl)
    · have hx := ge_f hx c_2
      refine lv_iconst (v := (1 : Int32)) C.x C.bc dX6_isIn_10 (by decide) ?_
      refine lv_goto (tgt := 15) C.x C.bc dX6_isIn_11 (by decide) ?_
      subst hx
      exact x_zret (v := (1 : Int32)) C h rfl dX6_isIn_15
theorem mX6_isIn (hG : G0 E s0 b) (hI : Sx E) {v0 : Int32} {v1 : Int32} {v2 : Int32} {x : Int32} (hx : fX6_isIn v0 v1 v2 = x) : Mt l E s0 yX6_isIn cX6_isIn 3 (some .boolean) rmX6_isIn [.int v0, .int v1, .int v2] g (some (.int x)) E g :=
  Mt.of hG (by decide) (Nat.le_of_ble_eq_true rfl) (fun p e s m below meth c ls C h hl => bX6_isIn C hI v0 v1 v2 hx h hl)
theorem cX6_300_X6_isIn {a0 : Int32} {a1 : Int32} {a2 : Int32} {r : Int32} (C : Cx E s0 b p s m args meth c cc nL "EarthMeshModel" rt) (hI : Sx E) (h : XH E g s H locs) (hf : fX6_isIn a0 a1 a2 = r) (hR : rmX6_isIn.frames + 1 ≤ R.frames ∧ 16 + (3 + 11) + rmX6_isIn.locals ≤ R.locals) (h0 : cells ≤ R.cells ∧ slots ≤ R.slots) (hsz : ls.size = nL) (hcat : (rest.map fun v => v.category).sum ≤ 16) (hdg : decode cc pc = .ok (.invokestatic 300, 3)) (kk : ∀ (H : Heap) (locs : List Loc), XH E g s H locs → W p l e R s m args below meth c H locs cells slots Q (F0 m (pc + 3) ls (.int r :: rest))) : W p l e R s m args below meth c H locs cells slots Q (F0 m pc ls (.int a2 :: .int a1 :: .int a0 :: rest)) :=
  x_callS (n := 3) (As := [.int a0, .int a1, .int a2]) C h (mX6_isIn C.g hI hf) (lw_S q1974 q1975 q136 q1976) ⟨by decide +kernel, by decide +kernel, by decide +kernel⟩ hR ⟨rfl, rfl⟩ h0 rfl hsz rfl hcat hdg kk
abbrev rmX6_refuse : Room := { frames := 0, cells := 0, slots := 0, locals := 0 }
def fX6_refuse (st : St) : Option (Int32 × St) :=
  gd (inB (1 : Int32) 2) <|
  gd (inB (1 : Int32) 2) <|
  nm (uI st 72 (1 : Int32).toNatClampNeg ((st.1 72 (1 : Int32).toNatClampNeg) + (1 : Int32))) fun st_3 =>
  some ((-1 : Int32), st_3)
set_option maxHeartbeats 1000000 in
theorem bX6_refuse (C : Cx E s0 b p s m args meth c cX6_refuse 1 "EarthMeshModel" (some .int)) (hI : Sx E) (st : St) {x : Int32 × St} (hx : fX6_refuse st = some x) {H : Heap} {locs : List Loc} {ls : Array Slot} (h : XH E (sg st) s H locs) (hl : lv_has ls 1 [(0, .ref (E.ad 68))]) : W p l e rmX6_refuse s m args below meth c H locs 0 0 (MQ below (Qx E (some (.int x.1)) (sg x.2)) args s 0 0 (gA E.HB)) (F0 m 0 ls []) := by
  unfold fX6_refuse at hx
  refine lv_aload_n C.x C.bc dX6_refuse_0 rfl (lv_at hl 0 rfl) ?_
  refine gt_X6_38_68 C hI h dX6_refuse_1 ?_
  refine lv_iconst (v := (1 : Int32)) C.x C.bc dX6_refuse_4 (by decide) ?_
  refine lv_dup2_11 C.x C.bc dX6_refuse_5 rfl rfl ?_
  obtain ⟨g_1, hx⟩ := gd_e hx
  refine x_iald C h 72 2 (hI 72 (by decide)) k_72 g_1 dX6_refuse_6 ?_
  refine lv_iconst (v := (1 : Int32)) C.x C.bc dX6_refuse_7 (by decide) ?_
  refine lv_iadd C.x C.bc dX6_refuse_8 ?_
  obtain ⟨g_2, hx⟩ := gd_e hx
  obtain ⟨st_3, e_3, hx⟩ := nm_x hx
  refine y_iast C h 72 2 (hI 72 (by decide)) k_72 g_2 e_3 dX6_refuse_9 (fun H locs h => ?_)
  refine lv_iconst (v := (-1 : Int32)) C.x C.bc dX6_refuse_10 (by decide) ?_
  obtain rfl := Option.some.inj hx
  exact x_iret C h dX6_refuse_11
theorem mX6_refuse (hG : G0 E s0 b) (hI : Sx E)  {x : Int32 × St} (hx : fX6_refuse st = some x) : Mt l E s0 yX6_refuse cX6_refuse 1 (some .int) rmX6_refuse [.ref (E.ad 68)] (sg st) (some (.int x.1)) E (sg x.2) :=
  Mt.of hG (by decide) (Nat.le_of_ble_eq_true rfl) (fun p e s m below meth c ls C h hl => bX6_refuse C hI st hx h hl)
theorem cX6_96_X6_refuse  {r : Int32} {st' : St} (C : Cx E s0 b p s m args meth c cc nL "EarthMeshModel" rt) (hI : Sx E) (h : XH E (sg st) s H locs) (hf : fX6_refuse st = some (r, st')) (hR : rmX6_refuse.frames + 1 ≤ R.frames ∧ 16 + (1 + 11) + rmX6_refuse.locals ≤ R.locals) (h0 : cells ≤ R.cells ∧ slots ≤ R.slots) (hsz : ls.size = nL) (hcat : (rest.map fun v => v.category).sum ≤ 16) (hdg : decode cc pc = .ok (.invokevirtual 96, 3)) (kk : ∀ (H : Heap) (locs : List Loc), XH E (sg st') s H locs → W p l e R s m args below meth c H locs cells slots Q (F0 m (pc + 3) ls (.int r :: rest))) : W p l e R s m args below meth c H locs cells slots Q (F0 m pc ls (.ref (E.ad 68) :: rest)) :=
  x_callV (n := 0) (As := []) C h 68 5 (hI 68 (by decide)) k_68 rfl (mX6_refuse C.g hI hf) (lw_V q1732 q1734 qs72 q136 q1735) ⟨rfl, by decide +kernel, by decide +kernel, by decide +kernel⟩ hR ⟨rfl, rfl⟩ h0 rfl hsz rfl hcat hdg kk
abbrev rmX6_feed : Room := { frames := 1, cells := 0, slots := 0, locals := 28 }
def fX6_feed_79 (v1 : Int32) (v2 : Int32) (v3 : Int32) (v4 : Int32) (v5 : Int32) (v6 : Int32) (k0 : Int32) (st : St) : Option ((Int32 × St) ⊕ (St)) :=
  gd (inB (st.1 68 6) 500) <|
  nm (uI st 73 (st.1 68 6).toNatClampNeg ((k0 >>> (((24 : Int32) - ((8 : Int32) * (jrem v6 (4 : Int32)))) &&& 31)) &&& (255 : Int32))) fun st_9 =>
  nm (uI st_9 68 6 ((st_9.1 68 6) + (1 : Int32))) fun st_10 =>
  nm (v6 + (1 : Int32)) fun v6_11 =>
  some (.inl (v6_11, st_10))
set_option maxHeartbeats 1000000 in
theorem bX6_feed_79 (C : Cx E s0 b p s m args meth c cX6_feed 8 "EarthMeshModel" (some .int)) (hI : Sx E) (v1 : Int32) (v2 : Int32) (v3 : Int32) (v4 : Int32) (v5 : Int32) (v6 : Int32) (k0 : Int32) (st : St) {x : (Int32 × St) ⊕ (St)} (hx : fX6_feed_79 v1 v2 v3 v4 v5 v6 k0 st = some x) {Q : State → Prop} {G : Int32 × St → Prop} {X : St → Prop} (hG : ∀ (w6 : Int32) (wst : St), G (w6, wst) → ∀ (H : Heap) (locs : List Loc) (ls : Array Slot), XH E (sg wst) s H locs → lv_has ls 8 [(0, .ref (E.ad 68)), (1, .int v1), (2, .int v2), (3, .int v3), (4, .int v4), (5, .int v5), (6, .int w6)] → W p l e rmX6_feed s m args below meth c H locs 0 0 Q (F0 m 26 ls [])) (hE0 : ∀ (wst : St), X wst → ∀ (H : Heap) (locs : List Loc) (ls : Array Slot), XH E (sg wst) s H locs → lv_has ls 8 [(0, .ref (E.ad 68))] → W p l e rmX6_feed s m args below meth c H locs 0 0 Q (F0 m 123 ls [])) (K : Kx G X x) {H : Heap} {locs : List Loc} {ls : Array Slot} (h : XH E (sg st) s H locs) (hl : lv_has ls 8 [(0, .ref (E.ad 68)), (1, .int v1), (2, .int v2), (3, .int v3), (4, .int v4), (5, .int v5), (6, .int v6)]) : W p l e rmX6_feed s m args below meth c H locs 0 0 Q (F0 m 79 ls [.int k0]) := by
  unfold fX6_feed_79 at hx
  refine lv_istore (lv' := [(7, .int k0), (0, .ref (E.ad 68)), (1, .int v1), (2, .int v2), (3, .int v3), (4, .int v4), (5, .int v5), (6, .int v6)]) C.x C.bc dX6_feed_79 hl (by decide) rfl (fun ls hl => ?_)
  refine lv_aload_n C.x C.bc dX6_feed_81 rfl (lv_at hl 1 rfl) ?_
  refine gt_X6_41_68 C hI h dX6_feed_82 ?_
  refine lv_aload_n C.x C.bc dX6_feed_85 rfl (lv_at hl 1 rfl) ?_
  refine gt_X6_93_68 C hI h dX6_feed_86 ?_
  refine lv_iload C.x C.bc dX6_feed_89 (lv_at hl 0 rfl) ?_
  refine lv_bipush (v := (24 : Int32)) C.x C.bc dX6_feed_91 (by decide) ?_
  refine lv_bipush (v := (8 : Int32)) C.x C.bc dX6_feed_93 (by decide) ?_
  refine lv_iload C.x C.bc dX6_feed_95 (lv_at hl 7 rfl) ?_
  refine lv_iconst (v := (4 : Int32)) C.x C.bc dX6_feed_97 (by decide) ?_
  refine y_irem C.x C.bc dX6_feed_98 (by decide) ?_
  refine lv_imul C.x C.bc dX6_feed_99 ?_
  refine lv_isub C.x C.bc dX6_feed_100 ?_
  refine lv_ishr C.x C.bc dX6_feed_101 ?_
  refine lv_sipush (v := (255 : Int32)) C.x C.bc dX6_feed_102 (by decide) ?_
  refine lv_iand C.x C.bc dX6_feed_105 ?_
  obtain ⟨g_8, hx⟩ := gd_e hx
  obtain ⟨st_9, e_9, hx⟩ := nm_x hx
  refine y_iast C h 73 500 (hI 73 (by decide)) k_73 g_8 e_9 dX6_feed_106 (fun H locs h => ?_)
  refine lv_aload_n C.x C.bc dX6_feed_107 rfl (lv_at hl 1 rfl) ?_
  refine lv_dup C.x C.bc dX6_feed_108 rfl ?_
  refine gt_X6_93_68 C hI h dX6_feed_109 ?_
  refine lv_iconst (v := (1 : Int32)) C.x C.bc dX6_feed_112 (by decide) ?_
  refine lv_iadd C.x C.bc dX6_feed_113 ?_
  obtain ⟨st_10, e_10, hx⟩ := nm_x hx
  refine pt_X6_93_68 C hI h e_10 dX6_feed_114 (fun H locs h => ?_)
  obtain ⟨v6_11, e_11, hx⟩ := nm_x hx
  refine lv_iinc (v := v6_11) (lv' := [(6, .int v6_11), (7, .int k0), (0, .ref (E.ad 68)), (1, .int v1), (2, .int v2), (3, .int v3), (4, .int v4), (5, .int v5)]) C.x C.bc dX6_feed_117 hl (k := 7) rfl (by rw [e_11]; rfl) (by decide) rfl (fun ls hl => ?_)
  refine lv_goto (tgt := 26) C.x C.bc dX6_feed_120 (by decide) ?_
  obtain rfl := Option.some.inj hx
  exact hG _ _ K _ _ _ h (lv_sub hl [2, 3, 4, 5, 6, 7, 0] rfl)
def fX6_feed_26 (v1 : Int32) (v2 : Int32) (v3 : Int32) (v4 : Int32) (v5 : Int32) (v6 : Int32) (st : St) : Option ((Int32 × St) ⊕ (St)) :=
  if (20 : Int32) ≤ v6 then
    some (.inr st)
  else
    if (4 : Int32) ≤ v6 then
      if (8 : Int32) ≤ v6 then
        if (12 : Int32) ≤ v6 then
          if (16 : Int32) ≤ v6 then
            fX6_feed_79 v1 v2 v3 v4 v5 v6 v5 st
          else
            fX6_feed_79 v1 v2 v3 v4 v5 v6 v4 st
        else
          fX6_feed_79 v1 v2 v3 v4 v5 v6 v3 st
      else
        fX6_feed_79 v1 v2 v3 v4 v5 v6 v2 st
    else
      fX6_feed_79 v1 v2 v3 v4 v5 v6 v1 st
set_option maxHeartbeats 1000000 in
theorem bX6_feed_26 (C : Cx E s0 b p s m args meth c cX6_feed 8 "EarthMeshModel" (some .int)) (hI : Sx E) (v1 : Int32) (v2 : Int32) (v3 : Int32) (v4 : Int32) (v5 : Int32) (v6 : Int32) (st : St) {x : (Int32 × St) ⊕ (St)} (hx : fX6_feed_26 v1 v2 v3 v4 v5 v6 st = some x) {Q : State → Prop} {G : Int32 × St → Prop} {X : St → Prop} (hG : ∀ (w6 : Int32) (wst : St), G (w6, wst) → ∀ (H : Heap) (locs : List Loc) (ls : Array Slot), XH E (sg wst) s H locs → lv_has ls 8 [(0, .ref (E.ad 68)), (1, .int v1), (2, .int v2), (3, .int v3), (4, .int v4), (5, .int v5), (6, .int w6)] → W p l e rmX6_feed s m args below meth c H locs 0 0 Q (F0 m 26 ls [])) (hE0 : ∀ (wst : St), X wst → ∀ (H : Heap) (locs : List Loc) (ls : Array Slot), XH E (sg wst) s H locs → lv_has ls 8 [(0, .ref (E.ad 68))] → W p l e rmX6_feed s m args below meth c H locs 0 0 Q (F0 m 123 ls [])) (K : Kx G X x) {H : Heap} {locs : List Loc} {ls : Array Slot} (h : XH E (sg st) s H locs) (hl : lv_has ls 8 [(0, .ref (E.ad 68)), (1, .int v1), (2, .int v2), (3, .int v3), (4, .int v4), (5, .int v5), (6, .int v6)]) : W p l e rmX6_feed s m args below meth c H locs 0 0 Q (F0 m 26 ls []) := by
  unfold fX6_feed_26 at hx
  refine lv_iload C.x C.bc dX6_feed_26 (lv_at hl 6 rfl) ?_
  refine lv_bipush (v := (20 : Int32)) C.x C.bc dX6_feed_28 (by decide) ?_
  refine lv_icmp_ge (tgt := 123) C.x C.bc dX6_feed_30 (by decide) (fun c_3 => ?_) (fun c_3 => ?_)
  · have hx := ge_t hx c_3
    obtain rfl := Option.some.inj hx
    exact hE0 _ K _ _ _ h (lv_sub hl [0] rfl)
  · have hx := ge_f hx c_3
    refine lv_iload C.x C.bc dX6_feed_33 (lv_at hl 6 rfl) ?_
    refine lv_iconst (v := (4 : Int32)) C.x C.bc dX6_feed_35 (by decide) ?_
    refine lv_icmp_ge (tgt := 43) C.x C.bc dX6_feed_36 (by decide) (fun c_4 => ?_) (fun c_4 => ?_)
    · have hx := ge_t hx c_4
      refine lv_iload C.x C.bc dX6_feed_43 (lv_at hl 6 rfl) ?_
      refine lv_bipush (v := (8 : Int32)) C.x C.bc dX6_feed_45 (by decide) ?_
      refine lv_icmp_ge (tgt := 54) C.x C.bc dX6_feed_47 (by decide) (fun c_5 => ?_) (fun c_5 => ?_)
      · have hx := ge_t hx c_5
        refine lv_iload C.x C.bc dX6_feed_54 (lv_at hl 6 rfl) ?_
        refine lv_bipush (v := (12 : Int32)) C.x C.bc dX6_feed_56 (by decide) ?_
        refine lv_icmp_ge (tgt := 65) C.x C.bc dX6_feed_58 (by decide) (fun c_6 => ?_) (fun c_6 => ?_)
        · have hx := ge_t hx c_6
          refine lv_iload C.x C.bc dX6_feed_65 (lv_at hl 6 rfl) ?_
          refine lv_bipush (v := (16 : Int32)) C.x C.bc dX6_feed_67 (by decide) ?_
          refine lv_icmp_ge (tgt := 77) C.x C.bc dX6_feed_69 (by decide) (fun c_7 => ?_) (fun c_7 => ?_)
          · have hx := ge_t hx c_7
            refine lv_iload C.x C.bc dX6_feed_77 (lv_at hl 5 rfl) ?_
            exact bX6_feed_79 C hI v1 v2 v3 v4 v5 v6 v5 st hx hG hE0 K h (lv_sub hl [0, 1, 2, 3, 4, 5, 6] rfl)
          · have hx := ge_f hx c_7
            refine lv_iload C.x C.bc dX6_feed_72 (lv_at hl 4 rfl) ?_
            refine lv_goto (tgt := 79) C.x C.bc dX6_feed_74 (by decide) ?_
            exact bX6_feed_79 C hI v1 v2 v3 v4 v5 v6 v4 st hx hG hE0 K h (lv_sub hl [0, 1, 2, 3, 4, 5, 6] rfl)
        · have hx := ge_f hx c_6
          refine lv_iload_n C.x C.bc dX6_feed_61 rfl (lv_at hl 3 rfl) ?_
          refine lv_goto (tgt := 79) C.x C.bc dX6_feed_62 (by decide) ?_
          exact bX6_feed_79 C hI v1 v2 v3 v4 v5 v6 v3 st hx hG hE0 K h (lv_sub hl [0, 1, 2, 3, 4, 5, 6] rfl)
      · have hx := ge_f hx c_5
        refine lv_iload_n C.x C.bc dX6_feed_50 rfl (lv_at hl 2 rfl) ?_
        refine lv_goto (tgt := 79) C.x C.bc dX6_feed_51 (by decide) ?_
        exact bX6_feed_79 C hI v1 v2 v3 v4 v5 v6 v2 st hx hG hE0 K h (lv_sub hl [0, 1, 2, 3, 4, 5, 6] rfl)
    · have hx := ge_f hx c_4
      refine lv_iload_n C.x C.bc dX6_feed_39 rfl (lv_at hl 1 rfl) ?_
      refine lv_goto (tgt := 79) C.x C.bc dX6_feed_40 (by decide) ?_
      exact bX6_feed_79 C hI v1 v2 v3 v4 v5 v6 v1 st hx hG hE0 K h (lv_sub hl [0, 1, 2, 3, 4, 5, 6] rfl)
set_option maxHeartbeats 1000000 in
theorem pX6_feed_26 (C : Cx E s0 b p s m args meth c cX6_feed 8 "EarthMeshModel" (some .int)) (hI : Sx E) (v1 : Int32) (v2 : Int32) (v3 : Int32) (v4 : Int32) (v5 : Int32) {Q : State → Prop} {v6 : Int32} {st : St} {n : Nat} {r : St} (hx : iter (u2 fun v6 st => fX6_feed_26 v1 v2 v3 v4 v5 v6 st) n (v6, st) = some r) (hE : (fun t => ∀ (H : Heap) (locs : List Loc) (ls : Array Slot), XH E (sg t) s H locs → lv_has ls 8 [(0, .ref (E.ad 68))] → W p l e rmX6_feed s m args below meth c H locs 0 0 Q (F0 m 123 ls [])) r) {H : Heap} {locs : List Loc} {ls : Array Slot} (h : XH E (sg st) s H locs) (hl : lv_has ls 8 [(0, .ref (E.ad 68)), (1, .int v1), (2, .int v2), (3, .int v3), (4, .int v4), (5, .int v5), (6, .int v6)]) : W p l e rmX6_feed s m args below meth c H locs 0 0 Q (F0 m 26 ls []) := by
  refine iter_W (G := fun t => ∀ (H : Heap) (locs : List Loc) (ls : Array Slot), XH E (sg t.2) s H locs → lv_has ls 8 [(0, .ref (E.ad 68)), (1, .int v1), (2, .int v2), (3, .int v3), (4, .int v4), (5, .int v5), (6, .int t.1)] → W p l e rmX6_feed s m args below meth c H locs 0 0 Q (F0 m 26 ls [])) (E := fun t => ∀ (H : Heap) (locs : List Loc) (ls : Array Slot), XH E (sg t) s H locs → lv_has ls 8 [(0, .ref (E.ad 68))] → W p l e rmX6_feed s m args below meth c H locs 0 0 Q (F0 m 123 ls [])) (fun t x hx K H locs ls h hl => ?_) n _ r hx hE H locs ls h hl
  obtain ⟨v6, st⟩ := t
  exact bX6_feed_26 C hI v1 v2 v3 v4 v5 v6 st hx (fun _ _ z => z) (fun _ z => z) K h hl
def fX6_feed (v1 : Int32) (v2 : Int32) (v3 : Int32) (v4 : Int32) (v5 : Int32) (st : St) : Option (Int32 × St) :=
  nm (uI st 68 1 (0 : Int32)) fun st_1 =>
  if ((st_1.1 68 6) + (20 : Int32)) ≤ (500 : Int32) then
    bd (iter (u2 fun z6 zst => fX6_feed_26 v1 v2 v3 v4 v5 z6 zst) FU ((0 : Int32), st_1)) (u1 fun st_12 =>
    some ((st_12.1 68 6), st_12))
  else
    bd (fX6_refuse st_1) <| u2 fun r_13 st_13 =>
    some (r_13, st_13)
set_option maxHeartbeats 1000000 in
theorem bX6_feed (C : Cx E s0 b p s m args meth c cX6_feed 8 "EarthMeshModel" (some .int)) (hI : Sx E) (v1 : Int32) (v2 : Int32) (v3 : Int32) (v4 : Int32) (v5 : Int32) (st : St) {x : Int32 × St} (hx : fX6_feed v1 v2 v3 v4 v5 st = some x) {H : Heap} {locs : List Loc} {ls : Array Slot} (h : XH E (sg st) s H locs) (hl : lv_has ls 8 [(0, .ref (E.ad 68)), (1, .int v1), (2, .int v2), (3, .int v3), (4, .int v4), (5, .int v5)]) : W p l e rmX6_feed s m args below meth c H locs 0 0 (MQ below (Qx E (some (.int x.1)) (sg x.2)) args s 0 0 (gA E.HB)) (F0 m 0 ls []) := by
  unfold fX6_feed at hx
  refine lv_aload_n C.x C.bc dX6_feed_0 rfl (lv_at hl 0 rfl) ?_
  refine lv_iconst (v := (0 : Int32)) C.x C.bc dX6_feed_1 (by decide) ?_
  obtain ⟨st_1, e_1, hx⟩ := nm_x hx
  refine pt_X6_90_68 C hI h e_1 dX6_feed_2 (fun H locs h => ?_)
  refine lv_aload_n C.x C.bc dX6_feed_5 rfl (lv_at hl 0 rfl) ?_
  refine gt_X6_93_68 C hI h dX6_feed_6 ?_
  refine lv_bipush (v := (20 : Int32)) C.x C.bc dX6_feed_9 (by decide) ?_
  refine lv_iadd C.x C.bc dX6_feed_11 ?_
  refine lv_sipush (v := (500 : Int32)) C.x C.bc dX6_feed_12 (by decide) ?_
  refine lv_icmp_le (tgt := 23) C.x C.bc dX6_feed_15 (by decide) (fun c_2 => ?_) (fun c_2 => ?_)
  · have hx := ge_t hx c_2
    refine lv_iconst (v := (0 : Int32)) C.x C.bc dX6_feed_23 (by decide) ?_
    refine lv_istore (lv' := [(6, .int (0 : Int32)), (0, .ref (E.ad 68)), (1, .int v1), (2, .int v2), (3, .int v3), (4, .int v4), (5, .int v5)]) C.x C.bc dX6_feed_24 hl (by decide) rfl (fun ls hl => ?_)
    obtain ⟨st_12, hi_12, hx⟩ := bd_e hx
    have hx := u1_e hx
    refine pX6_feed_26 C hI v1 v2 v3 v4 v5 hi_12 (fun H locs ls h hl => ?_) h (lv_sub hl [1, 2, 3, 4, 5, 6, 0] rfl)
    refine lv_aload_n C.x C.bc dX6_feed_123 rfl (lv_at hl 0 rfl) ?_
    refine gt_X6_93_68 C hI h dX6_feed_124 ?_
    obtain rfl := Option.some.inj hx
    exact x_iret C h dX6_feed_127
  · have hx := ge_f hx c_2
    refine lv_aload_n C.x C.bc dX6_feed_18 rfl (lv_at hl 0 rfl) ?_
    obtain ⟨⟨r_13, st_13⟩, hf_13, hx⟩ := bd_e hx
    have hx := u2_e hx
    refine cX6_96_X6_refuse C hI h hf_13 ⟨Nat.le_of_ble_eq_true rfl, Nat.le_of_ble_eq_true rfl⟩ ⟨Nat.zero_le _, Nat.zero_le _⟩ hl.1 (Nat.le_of_ble_eq_true rfl) dX6_feed_19 (fun H locs h => ?_)
    obtain rfl := Option.some.inj hx
    exact x_iret C h dX6_feed_22
theorem mX6_feed (hG : G0 E s0 b) (hI : Sx E) {v1 : Int32} {v2 : Int32} {v3 : Int32} {v4 : Int32} {v5 : Int32} {x : Int32 × St} (hx : fX6_feed v1 v2 v3 v4 v5 st = some x) : Mt l E s0 yX6_feed cX6_feed 8 (some .int) rmX6_feed [.ref (E.ad 68), .int v1, .int v2, .int v3, .int v4, .int v5] (sg st) (some (.int x.1)) E (sg x.2) :=
  Mt.of hG (by decide) (Nat.le_of_ble_eq_true rfl) (fun p e s m below meth c ls C h hl => bX6_feed C hI v1 v2 v3 v4 v5 st hx h hl)
abbrev rmX6_byteAt : Room := { frames := 0, cells := 0, slots := 0, locals := 0 }
def fX6_byteAt (v1 : Int32) (st : St) : Option (Int32) :=
  if (st.1 68 8) ≤ v1 then
    some (-1 : Int32)
  else
    gd (inB v1 500) <|
    some (st.1 73 v1.toNatClampNeg)
set_option maxHeartbeats 1000000 in
theorem bX6_byteAt (C : Cx E s0 b p s m args meth c cX6_byteAt 2 "EarthMeshModel" (some .int)) (hI : Sx E) (v1 : Int32) (st : St) {x : Int32} (hx : fX6_byteAt v1 st = some x) {H : Heap} {locs : List Loc} {ls : Array Slot} (h : XH E (sg st) s H locs) (hl : lv_has ls 2 [(0, .ref (E.ad 68)), (1, .int v1)]) : W p l e rmX6_byteAt s m args below meth c H locs 0 0 (MQ below (Qx E (some (.int x)) (sg st)) args s 0 0 (gA E.HB)) (F0 m 0 ls []) := by
  unfold fX6_byteAt at hx
  refine lv_iload_n C.x C.bc dX6_byteAt_0 rfl (lv_at hl 1 rfl) ?_
  refine lv_aload_n C.x C.bc dX6_byteAt_1 rfl (lv_at hl 0 rfl) ?_
  refine gt_X6_100_68 C hI h dX6_byteAt_2 ?_
  refine lv_icmp_ge (tgt := 17) C.x C.bc dX6_byteAt_5 (by decide) (fun c_1 => ?_) (fun c_1 => ?_)
  · have hx := ge_t hx c_1
    refine lv_iconst (v := (-1 : Int32)) C.x C.bc dX6_byteAt_17 (by decide) ?_
    obtain rfl := Option.some.inj hx
    exact x_iret C h dX6_byteAt_18
  · have hx := ge_f hx c_1
    refine lv_aload_n C.x C.bc dX6_byteAt_8 rfl (lv_at hl 0 rfl) ?_
    refine gt_X6_41_68 C hI h dX6_byteAt_9 ?_
    refine lv_iload_n C.x C.bc dX6_byteAt_12 rfl (lv_at hl 1 rfl) ?_
    obtain ⟨g_2, hx⟩ := gd_e hx
    refine x_iald C h 73 500 (hI 73 (by decide)) k_73 g_2 dX6_byteAt_13 ?_
    refine lv_goto (tgt := 18) C.x C.bc dX6_byteAt_14 (by decide) ?_
    obtain rfl := Option.some.inj hx
    exact x_iret C h dX6_byteAt_18
theorem mX6_byteAt (hG : G0 E s0 b) (hI : Sx E) {v1 : Int32} {x : Int32} (hx : fX6_byteAt v1 st = some x) : Mt l E s0 yX6_byteAt cX6_byteAt 2 (some .int) rmX6_byteAt [.ref (E.ad 68), .int v1] (sg st) (some (.int x)) E (sg st) :=
  Mt.of hG (by decide) (Nat.le_of_ble_eq_true rfl) (fun p e s m below meth c ls C h hl => bX6_byteAt C hI v1 st hx h hl)
theorem cX6_106_X6_byteAt {a0 : Int32} {r : Int32} (C : Cx E s0 b p s m args meth c cc nL "EarthMeshModel" rt) (hI : Sx E) (h : XH E (sg st) s H locs) (hf : fX6_byteAt a0 st = some r) (hR : rmX6_byteAt.frames + 1 ≤ R.frames ∧ 16 + (2 + 11) + rmX6_byteAt.locals ≤ R.locals) (h0 : cells ≤ R.cells ∧ slots ≤ R.slots) (hsz : ls.size = nL) (hcat : (rest.map fun v => v.category).sum ≤ 16) (hdg : decode cc pc = .ok (.invokevirtual 106, 3)) (kk : ∀ (H : Heap) (locs : List Loc), XH E (sg st) s H locs → W p l e R s m args below meth c H locs cells slots Q (F0 m (pc + 3) ls (.int r :: rest))) : W p l e R s m args below meth c H locs cells slots Q (F0 m pc ls (.int a0 :: .ref (E.ad 68) :: rest)) :=
  x_callV (n := 1) (As := [.int a0]) C h 68 5 (hI 68 (by decide)) k_68 rfl (mX6_byteAt C.g hI hf) (lw_V q1748 q1750 qs75 q136 q1751) ⟨rfl, by decide +kernel, by decide +kernel, by decide +kernel⟩ hR ⟨rfl, rfl⟩ h0 rfl hsz rfl hcat hdg kk
abbrev rmX6_isLetter : Room := { frames := 0, cells := 0, slots := 0, locals := 0 }
def fX6_isLetter_16 : Int32 :=
  (0 : Int32)
set_option maxHeartbeats 1000000 in
theorem bX6_isLetter_16 (C : Cx E s0 b p s m args meth c cX6_isLetter 1 "EarthMeshModel" (some .boolean)) (hI : Sx E) {x : Int32} (hx : fX6_isLetter_16 = x) {H : Heap} {locs : List Loc} {ls : Array Slot} (h : XH E g s H locs) (hl : lv_has ls 1 []) : W p l e rmX6_isLetter s m args below meth c H locs 0 0 (MQ below (Qx E (some (.int x)) g) args s 0 0 (gA E.HB)) (F0 m 16 ls []) := by
  unfold fX6_isLetter_16 at hx
  refine lv_iconst (v := (0 : Int32)) C.x C.bc dX6_isLetter_16 (by decide) ?_
  subst hx
  exact x_zret (v := (0 : Int32)) C h rfl dX6_isLetter_17
def fX6_isLetter (v0 : Int32) : Int32 :=
  if v0 < (97 : Int32) then
    fX6_isLetter_16
  else
    if (122 : Int32) < v0 then
      fX6_isLetter_16
    else
      (1 : Int32)
set_option maxHeartbeats 1000000 in
theorem bX6_isLetter (C : Cx E s0 b p s m args meth c cX6_isLetter 1 "EarthMeshModel" (some .boolean)) (hI : Sx E) (v0 : Int32) {x : Int32} (hx : fX6_isLetter v0 = x) {H : Heap} {locs : List Loc} {ls : Array Slot} (h : XH E g s H locs) (hl : lv_has ls 1 [(0, .int v0)]) : W p l e rmX6_isLetter s m args below meth c H locs 0 0 (MQ below (Qx E (some (.int x)) g) args s 0 0 (gA E.HB)) (F0 m 0 ls []) := by
  unfold fX6_isLetter at hx
  refine lv_iload_n C.x C.bc dX6_isLetter_0 rfl (lv_at hl 0 rfl) ?_
  refine lv_bipush (v := (97 : Int32)) C.x C.bc dX6_isLetter_1 (by decide) ?_
  refine lv_icmp_lt (tgt := 16) C.x C.bc dX6_isLetter_3 (by decide) (fun c_1 => ?_) (fun c_1 => ?_)
  · have hx := ge_t hx c_1
    exact bX6_isLetter_16 C hI hx h (lv_sub hl [] rfl)
  · have hx := ge_f hx c_1
    refine lv_iload_n C.x C.bc dX6_isLetter_6 rfl (lv_at hl 0 rfl) ?_
    refine lv_bipush (v := (122 : Int32)) C.x C.bc dX6_isLetter_7 (by decide) ?_
    refine lv_icmp_gt (tgt := 16) C.x C.bc dX6_isLetter_9 (by decide) (fun c_2 => ?_) (fun c_2 => ?_)
    · have hx := ge_t hx c_2
      exact bX6_isLetter_16 C hI hx h (lv_sub hl [] rfl)
    · have hx := ge_f hx c_2
      refine lv_iconst (v := (1 : Int32)) C.x C.bc dX6_isLetter_12 (by decide) ?_
      refine lv_goto (tgt := 17) C.x C.bc dX6_isLetter_13 (by decide) ?_
      subst hx
      exact x_zret (v := (1 : Int32)) C h rfl dX6_isLetter_17
theorem mX6_isLetter (hG : G0 E s0 b) (hI : Sx E) {v0 : Int32} {x : Int32} (hx : fX6_isLetter v0 = x) : Mt l E s0 yX6_isLetter cX6_isLetter 1 (some .boolean) rmX6_isLetter [.int v0] g (some (.int x)) E g :=
  Mt.of hG (by decide) (Nat.le_of_ble_eq_true rfl) (fun p e s m below meth c ls C h hl => bX6_isLetter C hI v0 hx h hl)
theorem cX6_116_X6_isLetter {a0 : Int32} {r : Int32} (C : Cx E s0 b p s m args meth c cc nL "EarthMeshModel" rt) (hI : Sx E) (h : XH E g s H locs) (hf : fX6_isLetter a0 = r) (hR : rmX6_isLetter.frames + 1 ≤ R.frames ∧ 16 + (1 + 11) + rmX6_isLetter.locals ≤ R.locals) (h0 : cells ≤ R.cells ∧ slots ≤ R.slots) (hsz : ls.size = nL) (hcat : (rest.map fun v => v.category).sum ≤ 16) (hdg : decode cc pc = .ok (.invokestatic 116, 3)) (kk : ∀ (H : Heap) (locs : List Loc), XH E g s H locs → W p l e R s m args below meth c H locs cells slots Q (F0 m (pc + 3) ls (.int r :: rest))) : W p l e R s m args below meth c H locs cells slots Q (F0 m pc ls (.int a0 :: rest)) :=
  x_callS (n := 1) (As := [.int a0]) C h (mX6_isLetter C.g hI hf) (lw_S q1752 q1753 q136 q1754) ⟨by decide +kernel, by decide +kernel, by decide +kernel⟩ hR ⟨rfl, rfl⟩ h0 rfl hsz rfl hcat hdg kk
abbrev rmX6_isDigit : Room := { frames := 0, cells := 0, slots := 0, locals := 0 }
def fX6_isDigit_16 : Int32 :=
  (0 : Int32)
set_option maxHeartbeats 1000000 in
theorem bX6_isDigit_16 (C : Cx E s0 b p s m args meth c cX6_isDigit 1 "EarthMeshModel" (some .boolean)) (hI : Sx E) {x : Int32} (hx : fX6_isDigit_16 = x) {H : Heap} {locs : List Loc} {ls : Array Slot} (h : XH E g s H locs) (hl : lv_has ls 1 []) : W p l e rmX6_isDigit s m args below meth c H locs 0 0 (MQ below (Qx E (some (.int x)) g) args s 0 0 (gA E.HB)) (F0 m 16 ls []) := by
  unfold fX6_isDigit_16 at hx
  refine lv_iconst (v := (0 : Int32)) C.x C.bc dX6_isDigit_16 (by decide) ?_
  subst hx
  exact x_zret (v := (0 : Int32)) C h rfl dX6_isDigit_17
def fX6_isDigit (v0 : Int32) : Int32 :=
  if v0 < (48 : Int32) then
    fX6_isDigit_16
  else
    if (57 : Int32) < v0 then
      fX6_isDigit_16
    else
      (1 : Int32)
set_option maxHeartbeats 1000000 in
theorem bX6_isDigit (C : Cx E s0 b p s m args meth c cX6_isDigit 1 "EarthMeshModel" (some .boolean)) (hI : Sx E) (v0 : Int32) {x : Int32} (hx : fX6_isDigit v0 = x) {H : Heap} {locs : List Loc} {ls : Array Slot} (h : XH E g s H locs) (hl : lv_has ls 1 [(0, .int v0)]) : W p l e rmX6_isDigit s m args below meth c H locs 0 0 (MQ below (Qx E (some (.int x)) g) args s 0 0 (gA E.HB)) (F0 m 0 ls []) := by
  unfold fX6_isDigit at hx
  refine lv_iload_n C.x C.bc dX6_isDigit_0 rfl (lv_at hl 0 rfl) ?_
  refine lv_bipush (v := (48 : Int32)) C.x C.bc dX6_isDigit_1 (by decide) ?_
  refine lv_icmp_lt (tgt := 16) C.x C.bc dX6_isDigit_3 (by decide) (fun c_1 => ?_) (fun c_1 => ?_)
  · have hx := ge_t hx c_1
    exact bX6_isDigit_16 C hI hx h (lv_sub hl [] rfl)
  · have hx := ge_f hx c_1
    refine lv_iload_n C.x C.bc dX6_isDigit_6 rfl (lv_at hl 0 rfl) ?_
    refine lv_bipush (v := (57 : Int32)) C.x C.bc dX6_isDigit_7 (by decide) ?_
    refine lv_icmp_gt (tgt := 16) C.x C.bc dX6_isDigit_9 (by decide) (fun c_2 => ?_) (fun c_2 => ?_)
    · have hx := ge_t hx c_2
      exact bX6_isDigit_16 C hI hx h (lv_sub hl [] rfl)
    · have hx := ge_f hx c_2
      refine lv_iconst (v := (1 : Int32)) C.x C.bc dX6_isDigit_12 (by decide) ?_
      refine lv_goto (tgt := 17) C.x C.bc dX6_isDigit_13 (by decide) ?_
      subst hx
      exact x_zret (v := (1 : Int32)) C h rfl dX6_isDigit_17
theorem mX6_isDigit (hG : G0 E s0 b) (hI : Sx E) {v0 : Int32} {x : Int32} (hx : fX6_isDigit v0 = x) : Mt l E s0 yX6_isDigit cX6_isDigit 1 (some .boolean) rmX6_isDigit [.int v0] g (some (.int x)) E g :=
  Mt.of hG (by decide) (Nat.le_of_ble_eq_true rfl) (fun p e s m below meth c ls C h hl => bX6_isDigit C hI v0 hx h hl)
theorem cX6_120_X6_isDigit {a0 : Int32} {r : Int32} (C : Cx E s0 b p s m args meth c cc nL "EarthMeshModel" rt) (hI : Sx E) (h : XH E g s H locs) (hf : fX6_isDigit a0 = r) (hR : rmX6_isDigit.frames + 1 ≤ R.frames ∧ 16 + (1 + 11) + rmX6_isDigit.locals ≤ R.locals) (h0 : cells ≤ R.cells ∧ slots ≤ R.slots) (hsz : ls.size = nL) (hcat : (rest.map fun v => v.category).sum ≤ 16) (hdg : decode cc pc = .ok (.invokestatic 120, 3)) (kk : ∀ (H : Heap) (locs : List Loc), XH E g s H locs → W p l e R s m args below meth c H locs cells slots Q (F0 m (pc + 3) ls (.int r :: rest))) : W p l e R s m args below meth c H locs cells slots Q (F0 m pc ls (.int a0 :: rest)) :=
  x_callS (n := 1) (As := [.int a0]) C h (mX6_isDigit C.g hI hf) (lw_S q1755 q1756 q136 q1757) ⟨by decide +kernel, by decide +kernel, by decide +kernel⟩ hR ⟨rfl, rfl⟩ h0 rfl hsz rfl hcat hdg kk
abbrev rmX6_stepOn : Room := { frames := 1, cells := 0, slots := 0, locals := 29 }
def fX6_stepOn_26 (st : St) : Option ((St) ⊕ (St)) :=
  nm (uI st 68 7 ((st.1 68 7) + (1 : Int32))) fun st_3 =>
  some (.inl st_3)
set_option maxHeartbeats 1000000 in
theorem bX6_stepOn_26 (C : Cx E s0 b p s m args meth c cX6_stepOn 2 "EarthMeshModel" none) (hI : Sx E) (st : St) {x : (St) ⊕ (St)} (hx : fX6_stepOn_26 st = some x) {Q : State → Prop} {G : St → Prop} {X : St → Prop} (hG : ∀ (wst : St), G wst → ∀ (H : Heap) (locs : List Loc) (ls : Array Slot), XH E (sg wst) s H locs → lv_has ls 2 [(0, .ref (E.ad 68))] → W p l e rmX6_stepOn s m args below meth c H locs 0 0 Q (F0 m 0 ls [])) (hE0 : ∀ (wst : St), X wst → ∀ (H : Heap) (locs : List Loc) (ls : Array Slot), XH E (sg wst) s H locs → lv_has ls 2 [(0, .ref (E.ad 68))] → W p l e rmX6_stepOn s m args below meth c H locs 0 0 Q (F0 m 39 ls [])) (K : Kx G X x) {H : Heap} {locs : List Loc} {ls : Array Slot} (h : XH E (sg st) s H locs) (hl : lv_has ls 2 [(0, .ref (E.ad 68))]) : W p l e rmX6_stepOn s m args below meth c H locs 0 0 Q (F0 m 26 ls []) := by
  unfold fX6_stepOn_26 at hx
  refine lv_aload_n C.x C.bc dX6_stepOn_26 rfl (lv_at hl 0 rfl) ?_
  refine lv_dup C.x C.bc dX6_stepOn_27 rfl ?_
  refine gt_X6_103_68 C hI h dX6_stepOn_28 ?_
  refine lv_iconst (v := (1 : Int32)) C.x C.bc dX6_stepOn_31 (by decide) ?_
  refine lv_iadd C.x C.bc dX6_stepOn_32 ?_
  obtain ⟨st_3, e_3, hx⟩ := nm_x hx
  refine pt_X6_103_68 C hI h e_3 dX6_stepOn_33 (fun H locs h => ?_)
  refine lv_goto (tgt := 0) C.x C.bc dX6_stepOn_36 (by decide) ?_
  obtain rfl := Option.some.inj hx
  exact hG _ K _ _ _ h (lv_sub hl [0] rfl)
def fX6_stepOn_0 (st : St) : Option ((St) ⊕ (St)) :=
  bd (fX6_byteAt (st.1 68 7) st) fun r_1 =>
  if r_1 = (32 : Int32) then
    fX6_stepOn_26 st
  else
    bd (fX6_byteAt (st.1 68 7) st) fun r_4 =>
    if r_4 = (10 : Int32) then
      fX6_stepOn_26 st
    else
      some (.inr st)
set_option maxHeartbeats 1000000 in
theorem bX6_stepOn_0 (C : Cx E s0 b p s m args meth c cX6_stepOn 2 "EarthMeshModel" none) (hI : Sx E) (st : St) {x : (St) ⊕ (St)} (hx : fX6_stepOn_0 st = some x) {Q : State → Prop} {G : St → Prop} {X : St → Prop} (hG : ∀ (wst : St), G wst → ∀ (H : Heap) (locs : List Loc) (ls : Array Slot), XH E (sg wst) s H locs → lv_has ls 2 [(0, .ref (E.ad 68))] → W p l e rmX6_stepOn s m args below meth c H locs 0 0 Q (F0 m 0 ls [])) (hE0 : ∀ (wst : St), X wst → ∀ (H : Heap) (locs : List Loc) (ls : Array Slot), XH E (sg wst) s H locs → lv_has ls 2 [(0, .ref (E.ad 68))] → W p l e rmX6_stepOn s m args below meth c H locs 0 0 Q (F0 m 39 ls [])) (K : Kx G X x) {H : Heap} {locs : List Loc} {ls : Array Slot} (h : XH E (sg st) s H locs) (hl : lv_has ls 2 [(0, .ref (E.ad 68))]) : W p l e rmX6_stepOn s m args below meth c H locs 0 0 Q (F0 m 0 ls []) := by
  unfold fX6_stepOn_0 at hx
  refine lv_aload_n C.x C.bc dX6_stepOn_0 rfl (lv_at hl 0 rfl) ?_
  refine lv_aload_n C.x C.bc dX6_stepOn_1 rfl (lv_at hl 0 rfl) ?_
  refine gt_X6_103_68 C hI h dX6_stepOn_2 ?_
  obtain ⟨r_1, hf_1, hx⟩ := bd_e hx
  refine cX6_106_X6_byteAt C hI h hf_1 ⟨Nat.le_of_ble_eq_true rfl, Nat.le_of_ble_eq_true rfl⟩ ⟨Nat.zero_le _, Nat.zero_le _⟩ hl.1 (Nat.le_of_ble_eq_true rfl) dX6_stepOn_5 (fun H locs h => ?_)
  refine lv_bipush (v := (32 : Int32)) C.x C.bc dX6_stepOn_8 (by decide) ?_
  refine lv_icmp_eq (tgt := 26) C.x C.bc dX6_stepOn_10 (by decide) (fun c_2 => ?_) (fun c_2 => ?_)
  · have hx := ge_t hx c_2
    exact bX6_stepOn_26 C hI st hx hG hE0 K h (lv_sub hl [0] rfl)
  · have hx := ge_f hx c_2
    refine lv_aload_n C.x C.bc dX6_stepOn_13 rfl (lv_at hl 0 rfl) ?_
    refine lv_aload_n C.x C.bc dX6_stepOn_14 rfl (lv_at hl 0 rfl) ?_
    refine gt_X6_103_68 C hI h dX6_stepOn_15 ?_
    obtain ⟨r_4, hf_4, hx⟩ := bd_e hx
    refine cX6_106_X6_byteAt C hI h hf_4 ⟨Nat.le_of_ble_eq_true rfl, Nat.le_of_ble_eq_true rfl⟩ ⟨Nat.zero_le _, Nat.zero_le _⟩ hl.1 (Nat.le_of_ble_eq_true rfl) dX6_stepOn_18 (fun H locs h => ?_)
    refine lv_bipush (v := (10 : Int32)) C.x C.bc dX6_stepOn_21 (by decide) ?_
    refine lv_icmp_ne (tgt := 39) C.x C.bc dX6_stepOn_23 (by decide) (fun c_5 => ?_) (fun c_5 => ?_)
    · have hx := ge_f hx c_5
      obtain rfl := Option.some.inj hx
      exact hE0 _ K _ _ _ h (lv_sub hl [0] rfl)
    · have hx := ge_t hx c_5
      exact bX6_stepOn_26 C hI st hx hG hE0 K h (lv_sub hl [0] rfl)
set_option maxHeartbeats 1000000 in
theorem pX6_stepOn_0 (C : Cx E s0 b p s m args meth c cX6_stepOn 2 "EarthMeshModel" none) (hI : Sx E) {Q : State → Prop} {st : St} {n : Nat} {r : St} (hx : iter (u1 fun st => fX6_stepOn_0  st) n st = some r) (hE : (fun t => ∀ (H : Heap) (locs : List Loc) (ls : Array Slot), XH E (sg t) s H locs → lv_has ls 2 [(0, .ref (E.ad 68))] → W p l e rmX6_stepOn s m args below meth c H locs 0 0 Q (F0 m 39 ls [])) r) {H : Heap} {locs : List Loc} {ls : Array Slot} (h : XH E (sg st) s H locs) (hl : lv_has ls 2 [(0, .ref (E.ad 68))]) : W p l e rmX6_stepOn s m args below meth c H locs 0 0 Q (F0 m 0 ls []) := by
  refine iter_W (G := fun t => ∀ (H : Heap) (locs : List Loc) (ls : Array Slot), XH E (sg t) s H locs → lv_has ls 2 [(0, .ref (E.ad 68))] → W p l e rmX6_stepOn s m args below meth c H locs 0 0 Q (F0 m 0 ls [])) (E := fun t => ∀ (H : Heap) (locs : List Loc) (ls : Array Slot), XH E (sg t) s H locs → lv_has ls 2 [(0, .ref (E.ad 68))] → W p l e rmX6_stepOn s m args below meth c H locs 0 0 Q (F0 m 39 ls [])) (fun st x hx K H locs ls h hl => ?_) n _ r hx hE H locs ls h hl
  exact bX6_stepOn_0 C hI  st hx (fun _ z => z) (fun _ z => z) K h hl
def fX6_stepOn_211 (st : St) : Option (St) :=
  nm (uI st 68 12 (st.1 68 7)) fun st_17 =>
  some st_17
set_option maxHeartbeats 1000000 in
theorem bX6_stepOn_211 (C : Cx E s0 b p s m args meth c cX6_stepOn 2 "EarthMeshModel" none) (hI : Sx E) (st : St) {x : St} (hx : fX6_stepOn_211 st = some x) {H : Heap} {locs : List Loc} {ls : Array Slot} (h : XH E (sg st) s H locs) (hl : lv_has ls 2 [(0, .ref (E.ad 68))]) : W p l e rmX6_stepOn s m args below meth c H locs 0 0 (MQ below (Qx E none (sg x)) args s 0 0 (gA E.HB)) (F0 m 211 ls []) := by
  unfold fX6_stepOn_211 at hx
  refine lv_aload_n C.x C.bc dX6_stepOn_211 rfl (lv_at hl 0 rfl) ?_
  refine lv_aload_n C.x C.bc dX6_stepOn_212 rfl (lv_at hl 0 rfl) ?_
  refine gt_X6_103_68 C hI h dX6_stepOn_213 ?_
  obtain ⟨st_17, e_17, hx⟩ := nm_x hx
  refine pt_X6_133_68 C hI h e_17 dX6_stepOn_216 (fun H locs h => ?_)
  obtain rfl := Option.some.inj hx
  exact x_vret C h dX6_stepOn_219
def fX6_stepOn_208 (k1 : Int32) (st : St) : Option (St) :=
  nm (uI st 68 9 k1) fun st_16 =>
  fX6_stepOn_211 st_16
set_option maxHeartbeats 1000000 in
theorem bX6_stepOn_208 (C : Cx E s0 b p s m args meth c cX6_stepOn 2 "EarthMeshModel" none) (hI : Sx E) (k1 : Int32) (st : St) {x : St} (hx : fX6_stepOn_208 k1 st = some x) {H : Heap} {locs : List Loc} {ls : Array Slot} (h : XH E (sg st) s H locs) (hl : lv_has ls 2 [(0, .ref (E.ad 68))]) : W p l e rmX6_stepOn s m args below meth c H locs 0 0 (MQ below (Qx E none (sg x)) args s 0 0 (gA E.HB)) (F0 m 208 ls [.int k1, .ref (E.ad 68)]) := by
  unfold fX6_stepOn_208 at hx
  obtain ⟨st_16, e_16, hx⟩ := nm_x hx
  refine pt_X6_113_68 C hI h e_16 dX6_stepOn_208 (fun H locs h => ?_)
  exact bX6_stepOn_211 C hI st_16 hx h (lv_sub hl [0] rfl)
def fX6_stepOn_123 (st : St) : Option ((St) ⊕ (St)) :=
  bd (fX6_byteAt (st.1 68 7) st) fun r_19 =>
  nm (fX6_isDigit r_19) fun r_20 =>
  if r_20 = 0 then
    some (.inr st)
  else
    bd (fX6_byteAt (st.1 68 7) st) fun r_22 =>
    nm (uI st 68 10 (jmin (100000 : Int32) ((((10 : Int32) * (st.1 68 10)) + r_22) - (48 : Int32)))) fun st_23 =>
    nm (uI st_23 68 7 ((st_23.1 68 7) + (1 : Int32))) fun st_24 =>
    some (.inl st_24)
set_option maxHeartbeats 1000000 in
theorem bX6_stepOn_123 (C : Cx E s0 b p s m args meth c cX6_stepOn 2 "EarthMeshModel" none) (hI : Sx E) (st : St) {x : (St) ⊕ (St)} (hx : fX6_stepOn_123 st = some x) {Q : State → Prop} {G : St → Prop} {X : St → Prop} (hG : ∀ (wst : St), G wst → ∀ (H : Heap) (locs : List Loc) (ls : Array Slot), XH E (sg wst) s H locs → lv_has ls 2 [(0, .ref (E.ad 68))] → W p l e rmX6_stepOn s m args below meth c H locs 0 0 Q (F0 m 123 ls [])) (hE0 : ∀ (wst : St), X wst → ∀ (H : Heap) (locs : List Loc) (ls : Array Slot), XH E (sg wst) s H locs → lv_has ls 2 [(0, .ref (E.ad 68))] → W p l e rmX6_stepOn s m args below meth c H locs 0 0 Q (F0 m 178 ls [])) (K : Kx G X x) {H : Heap} {locs : List Loc} {ls : Array Slot} (h : XH E (sg st) s H locs) (hl : lv_has ls 2 [(0, .ref (E.ad 68))]) : W p l e rmX6_stepOn s m args below meth c H locs 0 0 Q (F0 m 123 ls []) := by
  unfold fX6_stepOn_123 at hx
  refine lv_aload_n C.x C.bc dX6_stepOn_123 rfl (lv_at hl 0 rfl) ?_
  refine lv_aload_n C.x C.bc dX6_stepOn_124 rfl (lv_at hl 0 rfl) ?_
  refine gt_X6_103_68 C hI h dX6_stepOn_125 ?_
  obtain ⟨r_19, hf_19, hx⟩ := bd_e hx
  refine cX6_106_X6_byteAt C hI h hf_19 ⟨Nat.le_of_ble_eq_true rfl, Nat.le_of_ble_eq_true rfl⟩ ⟨Nat.zero_le _, Nat.zero_le _⟩ hl.1 (Nat.le_of_ble_eq_true rfl) dX6_stepOn_128 (fun H locs h => ?_)
  obtain ⟨r_20, e_20, hx⟩ := nm_x hx
  refine cX6_120_X6_isDigit C hI h e_20.symm ⟨Nat.le_of_ble_eq_true rfl, Nat.le_of_ble_eq_true rfl⟩ ⟨Nat.zero_le _, Nat.zero_le _⟩ hl.1 (Nat.le_of_ble_eq_true rfl) dX6_stepOn_131 (fun H locs h => ?_)
  refine lv_if_eq (tgt := 178) C.x C.bc dX6_stepOn_134 (by decide) (fun c_21 => ?_) (fun c_21 => ?_)
  · have hx := ge_t hx c_21
    obtain rfl := Option.some.inj hx
    exact hE0 _ K _ _ _ h (lv_sub hl [0] rfl)
  · have hx := ge_f hx c_21
    refine lv_aload_n C.x C.bc dX6_stepOn_137 rfl (lv_at hl 0 rfl) ?_
    refine lv_ldc (v := (100000 : Int32)) C.x C.bc C.ow (C.ts _ q1758) dX6_stepOn_138 ?_
    refine lv_bipush (v := (10 : Int32)) C.x C.bc dX6_stepOn_140 (by decide) ?_
    refine lv_aload_n C.x C.bc dX6_stepOn_142 rfl (lv_at hl 0 rfl) ?_
    refine gt_X6_123_68 C hI h dX6_stepOn_143 ?_
    refine lv_imul C.x C.bc dX6_stepOn_146 ?_
    refine lv_aload_n C.x C.bc dX6_stepOn_147 rfl (lv_at hl 0 rfl) ?_
    refine lv_aload_n C.x C.bc dX6_stepOn_148 rfl (lv_at hl 0 rfl) ?_
    refine gt_X6_103_68 C hI h dX6_stepOn_149 ?_
    obtain ⟨r_22, hf_22, hx⟩ := bd_e hx
    refine cX6_106_X6_byteAt C hI h hf_22 ⟨Nat.le_of_ble_eq_true rfl, Nat.le_of_ble_eq_true rfl⟩ ⟨Nat.zero_le _, Nat.zero_le _⟩ hl.1 (Nat.le_of_ble_eq_true rfl) dX6_stepOn_152 (fun H locs h => ?_)
    refine lv_iadd C.x C.bc dX6_stepOn_155 ?_
    refine lv_bipush (v := (48 : Int32)) C.x C.bc dX6_stepOn_156 (by decide) ?_
    refine lv_isub C.x C.bc dX6_stepOn_158 ?_
    refine va_mmin C.x C.bc (C.ml.trans hl.1.symm) C.ow (C.ts _ q1759) (C.ts _ q709) (C.ts _ q134) (C.ts _ q710) (Nat.le_of_ble_eq_true rfl) (Nat.le_of_ble_eq_true rfl) (Nat.zero_le _) (Nat.zero_le _) dX6_stepOn_159 ?_
    obtain ⟨st_23, e_23, hx⟩ := nm_x hx
    refine pt_X6_123_68 C hI h e_23 dX6_stepOn_162 (fun H locs h => ?_)
    refine lv_aload_n C.x C.bc dX6_stepOn_165 rfl (lv_at hl 0 rfl) ?_
    refine lv_dup C.x C.bc dX6_stepOn_166 rfl ?_
    refine gt_X6_103_68 C hI h dX6_stepOn_167 ?_
    refine lv_iconst (v := (1 : Int32)) C.x C.bc dX6_stepOn_170 (by decide) ?_
    refine lv_iadd C.x C.bc dX6_stepOn_171 ?_
    obtain ⟨st_24, e_24, hx⟩ := nm_x hx
    refine pt_X6_103_68 C hI h e_24 dX6_stepOn_172 (fun H locs h => ?_)
    refine lv_goto (tgt := 123) C.x C.bc dX6_stepOn_175 (by decide) ?_
    obtain rfl := Option.some.inj hx
    exact hG _ K _ _ _ h (lv_sub hl [0] rfl)
set_option maxHeartbeats 1000000 in
theorem pX6_stepOn_123 (C : Cx E s0 b p s m args meth c cX6_stepOn 2 "EarthMeshModel" none) (hI : Sx E) {Q : State → Prop} {st : St} {n : Nat} {r : St} (hx : iter (u1 fun st => fX6_stepOn_123  st) n st = some r) (hE : (fun t => ∀ (H : Heap) (locs : List Loc) (ls : Array Slot), XH E (sg t) s H locs → lv_has ls 2 [(0, .ref (E.ad 68))] → W p l e rmX6_stepOn s m args below meth c H locs 0 0 Q (F0 m 178 ls [])) r) {H : Heap} {locs : List Loc} {ls : Array Slot} (h : XH E (sg st) s H locs) (hl : lv_has ls 2 [(0, .ref (E.ad 68))]) : W p l e rmX6_stepOn s m args below meth c H locs 0 0 Q (F0 m 123 ls []) := by
  refine iter_W (G := fun t => ∀ (H : Heap) (locs : List Loc) (ls : Array Slot), XH E (sg t) s H locs → lv_has ls 2 [(0, .ref (E.ad 68))] → W p l e rmX6_stepOn s m args below meth c H locs 0 0 Q (F0 m 123 ls [])) (E := fun t => ∀ (H : Heap) (locs : List Loc) (ls : Array Slot), XH E (sg t) s H locs → lv_has ls 2 [(0, .ref (E.ad 68))] → W p l e rmX6_stepOn s m args below meth c H locs 0 0 Q (F0 m 178 ls [])) (fun st x hx K H locs ls h hl => ?_) n _ r hx hE H locs ls h hl
  exact bX6_stepOn_123 C hI  st hx (fun _ z => z) (fun _ z => z) K h hl
def fX6_stepOn_76 (st : St) : Option ((St) ⊕ (St)) :=
  bd (fX6_byteAt (st.1 68 7) st) fun r_27 =>
  nm (fX6_isLetter r_27) fun r_28 =>
  if r_28 = 0 then
    some (.inr st)
  else
    nm (uI st 68 7 ((st.1 68 7) + (1 : Int32))) fun st_30 =>
    some (.inl st_30)
set_option maxHeartbeats 1000000 in
theorem bX6_stepOn_76 (C : Cx E s0 b p s m args meth c cX6_stepOn 2 "EarthMeshModel" none) (hI : Sx E) (st : St) {x : (St) ⊕ (St)} (hx : fX6_stepOn_76 st = some x) {Q : State → Prop} {G : St → Prop} {X : St → Prop} (hG : ∀ (wst : St), G wst → ∀ (H : Heap) (locs : List Loc) (ls : Array Slot), XH E (sg wst) s H locs → lv_has ls 2 [(0, .ref (E.ad 68))] → W p l e rmX6_stepOn s m args below meth c H locs 0 0 Q (F0 m 76 ls [])) (hE0 : ∀ (wst : St), X wst → ∀ (H : Heap) (locs : List Loc) (ls : Array Slot), XH E (sg wst) s H locs → lv_has ls 2 [(0, .ref (E.ad 68))] → W p l e rmX6_stepOn s m args below meth c H locs 0 0 Q (F0 m 103 ls [])) (K : Kx G X x) {H : Heap} {locs : List Loc} {ls : Array Slot} (h : XH E (sg st) s H locs) (hl : lv_has ls 2 [(0, .ref (E.ad 68))]) : W p l e rmX6_stepOn s m args below meth c H locs 0 0 Q (F0 m 76 ls []) := by
  unfold fX6_stepOn_76 at hx
  refine lv_aload_n C.x C.bc dX6_stepOn_76 rfl (lv_at hl 0 rfl) ?_
  refine lv_aload_n C.x C.bc dX6_stepOn_77 rfl (lv_at hl 0 rfl) ?_
  refine gt_X6_103_68 C hI h dX6_stepOn_78 ?_
  obtain ⟨r_27, hf_27, hx⟩ := bd_e hx
  refine cX6_106_X6_byteAt C hI h hf_27 ⟨Nat.le_of_ble_eq_true rfl, Nat.le_of_ble_eq_true rfl⟩ ⟨Nat.zero_le _, Nat.zero_le _⟩ hl.1 (Nat.le_of_ble_eq_true rfl) dX6_stepOn_81 (fun H locs h => ?_)
  obtain ⟨r_28, e_28, hx⟩ := nm_x hx
  refine cX6_116_X6_isLetter C hI h e_28.symm ⟨Nat.le_of_ble_eq_true rfl, Nat.le_of_ble_eq_true rfl⟩ ⟨Nat.zero_le _, Nat.zero_le _⟩ hl.1 (Nat.le_of_ble_eq_true rfl) dX6_stepOn_84 (fun H locs h => ?_)
  refine lv_if_eq (tgt := 103) C.x C.bc dX6_stepOn_87 (by decide) (fun c_29 => ?_) (fun c_29 => ?_)
  · have hx := ge_t hx c_29
    obtain rfl := Option.some.inj hx
    exact hE0 _ K _ _ _ h (lv_sub hl [0] rfl)
  · have hx := ge_f hx c_29
    refine lv_aload_n C.x C.bc dX6_stepOn_90 rfl (lv_at hl 0 rfl) ?_
    refine lv_dup C.x C.bc dX6_stepOn_91 rfl ?_
    refine gt_X6_103_68 C hI h dX6_stepOn_92 ?_
    refine lv_iconst (v := (1 : Int32)) C.x C.bc dX6_stepOn_95 (by decide) ?_
    refine lv_iadd C.x C.bc dX6_stepOn_96 ?_
    obtain ⟨st_30, e_30, hx⟩ := nm_x hx
    refine pt_X6_103_68 C hI h e_30 dX6_stepOn_97 (fun H locs h => ?_)
    refine lv_goto (tgt := 76) C.x C.bc dX6_stepOn_100 (by decide) ?_
    obtain rfl := Option.some.inj hx
    exact hG _ K _ _ _ h (lv_sub hl [0] rfl)
set_option maxHeartbeats 1000000 in
theorem pX6_stepOn_76 (C : Cx E s0 b p s m args meth c cX6_stepOn 2 "EarthMeshModel" none) (hI : Sx E) {Q : State → Prop} {st : St} {n : Nat} {r : St} (hx : iter (u1 fun st => fX6_stepOn_76  st) n st = some r) (hE : (fun t => ∀ (H : Heap) (locs : List Loc) (ls : Array Slot), XH E (sg t) s H locs → lv_has ls 2 [(0, .ref (E.ad 68))] → W p l e rmX6_stepOn s m args below meth c H locs 0 0 Q (F0 m 103 ls [])) r) {H : Heap} {locs : List Loc} {ls : Array Slot} (h : XH E (sg st) s H locs) (hl : lv_has ls 2 [(0, .ref (E.ad 68))]) : W p l e rmX6_stepOn s m args below meth c H locs 0 0 Q (F0 m 76 ls []) := by
  refine iter_W (G := fun t => ∀ (H : Heap) (locs : List Loc) (ls : Array Slot), XH E (sg t) s H locs → lv_has ls 2 [(0, .ref (E.ad 68))] → W p l e rmX6_stepOn s m args below meth c H locs 0 0 Q (F0 m 76 ls [])) (E := fun t => ∀ (H : Heap) (locs : List Loc) (ls : Array Slot), XH E (sg t) s H locs → lv_has ls 2 [(0, .ref (E.ad 68))] → W p l e rmX6_stepOn s m args below meth c H locs 0 0 Q (F0 m 103 ls [])) (fun st x hx K H locs ls h hl => ?_) n _ r hx hE H locs ls h hl
  exact bX6_stepOn_76 C hI  st hx (fun _ z => z) (fun _ z => z) K h hl
def fX6_stepOn (st : St) : Option (St) :=
  bd (iter (u1 fun zst => fX6_stepOn_0  zst) FU st) (u1 fun st_6 =>
  nm (uI st_6 68 11 (st_6.1 68 7)) fun st_7 =>
  bd (fX6_byteAt (st_7.1 68 7) st_7) fun r_8 =>
  if r_8 = (-1 : Int32) then
    nm (uI st_7 68 9 (0 : Int32)) fun st_33 =>
    fX6_stepOn_211 st_33
  else
    nm (fX6_isLetter r_8) fun r_10 =>
    if r_10 = 0 then
      nm (fX6_isDigit r_8) fun r_12 =>
      if r_12 = 0 then
        nm (uI st_7 68 7 ((st_7.1 68 7) + (1 : Int32))) fun st_14 =>
        if r_8 = (59 : Int32) then
          fX6_stepOn_208 (3 : Int32) st_14
        else
          fX6_stepOn_208 (4 : Int32) st_14
      else
        nm (uI st_7 68 10 (0 : Int32)) fun st_18 =>
        bd (iter (u1 fun zst => fX6_stepOn_123  zst) FU st_18) (u1 fun st_25 =>
        nm (uI st_25 68 9 (2 : Int32)) fun st_26 =>
        fX6_stepOn_211 st_26)
    else
      bd (iter (u1 fun zst => fX6_stepOn_76  zst) FU st_7) (u1 fun st_31 =>
      nm (uI st_31 68 9 (1 : Int32)) fun st_32 =>
      fX6_stepOn_211 st_32))
set_option maxHeartbeats 1000000 in
theorem bX6_stepOn (C : Cx E s0 b p s m args meth c cX6_stepOn 2 "EarthMeshModel" none) (hI : Sx E) (st : St) {x : St} (hx : fX6_stepOn st = some x) {H : Heap} {locs : List Loc} {ls : Array Slot} (h : XH E (sg st) s H locs) (hl : lv_has ls 2 [(0, .ref (E.ad 68))]) : W p l e rmX6_stepOn s m args below meth c H locs 0 0 (MQ below (Qx E none (sg x)) args s 0 0 (gA E.HB)) (F0 m 0 ls []) := by
  unfold fX6_stepOn at hx
  obtain ⟨st_6, hi_6, hx⟩ := bd_e hx
  have hx := u1_e hx
  refine pX6_stepOn_0 C hI hi_6 (fun H locs ls h hl => ?_) h (lv_sub hl [0] rfl)
  refine lv_aload_n C.x C.bc dX6_stepOn_39 rfl (lv_at hl 0 rfl) ?_
  refine lv_aload_n C.x C.bc dX6_stepOn_40 rfl (lv_at hl 0 rfl) ?_
  refine gt_X6_103_68 C hI h dX6_stepOn_41 ?_
  obtain ⟨st_7, e_7, hx⟩ := nm_x hx
  refine pt_X6_110_68 C hI h e_7 dX6_stepOn_44 (fun H locs h => ?_)
  refine lv_aload_n C.x C.bc dX6_stepOn_47 rfl (lv_at hl 0 rfl) ?_
  refine lv_aload_n C.x C.bc dX6_stepOn_48 rfl (lv_at hl 0 rfl) ?_
  refine gt_X6_103_68 C hI h dX6_stepOn_49 ?_
  obtain ⟨r_8, hf_8, hx⟩ := bd_e hx
  refine cX6_106_X6_byteAt C hI h hf_8 ⟨Nat.le_of_ble_eq_true rfl, Nat.le_of_ble_eq_true rfl⟩ ⟨Nat.zero_le _, Nat.zero_le _⟩ hl.1 (Nat.le_of_ble_eq_true rfl) dX6_stepOn_52 (fun H locs h => ?_)
  refine lv_istore_n (lv' := [(1, .int r_8), (0, .ref (E.ad 68))]) C.x C.bc dX6_stepOn_55 rfl hl (by decide) rfl (fun ls hl => ?_)
  refine lv_iload_n C.x C.bc dX6_stepOn_56 rfl (lv_at hl 0 rfl) ?_
  refine lv_iconst (v := (-1 : Int32)) C.x C.bc dX6_stepOn_57 (by decide) ?_
  refine lv_icmp_ne (tgt := 69) C.x C.bc dX6_stepOn_58 (by decide) (fun c_9 => ?_) (fun c_9 => ?_)
  · have hx := ge_f hx c_9
    refine lv_iload_n C.x C.bc dX6_stepOn_69 rfl (lv_at hl 0 rfl) ?_
    obtain ⟨r_10, e_10, hx⟩ := nm_x hx
    refine cX6_116_X6_isLetter C hI h e_10.symm ⟨Nat.le_of_ble_eq_true rfl, Nat.le_of_ble_eq_true rfl⟩ ⟨Nat.zero_le _, Nat.zero_le _⟩ hl.1 (Nat.le_of_ble_eq_true rfl) dX6_stepOn_70 (fun H locs h => ?_)
    refine lv_if_eq (tgt := 111) C.x C.bc dX6_stepOn_73 (by decide) (fun c_11 => ?_) (fun c_11 => ?_)
    · have hx := ge_t hx c_11
      refine lv_iload_n C.x C.bc dX6_stepOn_111 rfl (lv_at hl 0 rfl) ?_
      obtain ⟨r_12, e_12, hx⟩ := nm_x hx
      refine cX6_120_X6_isDigit C hI h e_12.symm ⟨Nat.le_of_ble_eq_true rfl, Nat.le_of_ble_eq_true rfl⟩ ⟨Nat.zero_le _, Nat.zero_le _⟩ hl.1 (Nat.le_of_ble_eq_true rfl) dX6_stepOn_112 (fun H locs h => ?_)
      refine lv_if_eq (tgt := 186) C.x C.bc dX6_stepOn_115 (by decide) (fun c_13 => ?_) (fun c_13 => ?_)
      · have hx := ge_t hx c_13
        refine lv_aload_n C.x C.bc dX6_stepOn_186 rfl (lv_at hl 1 rfl) ?_
        refine lv_dup C.x C.bc dX6_stepOn_187 rfl ?_
        refine gt_X6_103_68 C hI h dX6_stepOn_188 ?_
        refine lv_iconst (v := (1 : Int32)) C.x C.bc dX6_stepOn_191 (by decide) ?_
        refine lv_iadd C.x C.bc dX6_stepOn_192 ?_
        obtain ⟨st_14, e_14, hx⟩ := nm_x hx
        refine pt_X6_103_68 C hI h e_14 dX6_stepOn_193 (fun H locs h => ?_)
        refine lv_aload_n C.x C.bc dX6_stepOn_196 rfl (lv_at hl 1 rfl) ?_
        refine lv_iload_n C.x C.bc dX6_stepOn_197 rfl (lv_at hl 0 rfl) ?_
        refine lv_bipush (v := (59 : Int32)) C.x C.bc dX6_stepOn_198 (by decide) ?_
        refine lv_icmp_ne (tgt := 207) C.x C.bc dX6_stepOn_200 (by decide) (fun c_15 => ?_) (fun c_15 => ?_)
        · have hx := ge_f hx c_15
          refine lv_iconst (v := (4 : Int32)) C.x C.bc dX6_stepOn_207 (by decide) ?_
          exact bX6_stepOn_208 C hI (4 : Int32) st_14 hx h (lv_sub hl [1] rfl)
        · have hx := ge_t hx c_15
          refine lv_iconst (v := (3 : Int32)) C.x C.bc dX6_stepOn_203 (by decide) ?_
          refine lv_goto (tgt := 208) C.x C.bc dX6_stepOn_204 (by decide) ?_
          exact bX6_stepOn_208 C hI (3 : Int32) st_14 hx h (lv_sub hl [1] rfl)
      · have hx := ge_f hx c_13
        refine lv_aload_n C.x C.bc dX6_stepOn_118 rfl (lv_at hl 1 rfl) ?_
        refine lv_iconst (v := (0 : Int32)) C.x C.bc dX6_stepOn_119 (by decide) ?_
        obtain ⟨st_18, e_18, hx⟩ := nm_x hx
        refine pt_X6_123_68 C hI h e_18 dX6_stepOn_120 (fun H locs h => ?_)
        obtain ⟨st_25, hi_25, hx⟩ := bd_e hx
        have hx := u1_e hx
        refine pX6_stepOn_123 C hI hi_25 (fun H locs ls h hl => ?_) h (lv_sub hl [1] rfl)
        refine lv_aload_n C.x C.bc dX6_stepOn_178 rfl (lv_at hl 0 rfl) ?_
        refine lv_iconst (v := (2 : Int32)) C.x C.bc dX6_stepOn_179 (by decide) ?_
        obtain ⟨st_26, e_26, hx⟩ := nm_x hx
        refine pt_X6_113_68 C hI h e_26 dX6_stepOn_180 (fun H locs h => ?_)
        refine lv_goto (tgt := 211) C.x C.bc dX6_stepOn_183 (by decide) ?_
        exact bX6_stepOn_211 C hI st_26 hx h (lv_sub hl [0] rfl)
    · have hx := ge_f hx c_11
      obtain ⟨st_31, hi_31, hx⟩ := bd_e hx
      have hx := u1_e hx
      refine pX6_stepOn_76 C hI hi_31 (fun H locs ls h hl => ?_) h (lv_sub hl [1] rfl)
      refine lv_aload_n C.x C.bc dX6_stepOn_103 rfl (lv_at hl 0 rfl) ?_
      refine lv_iconst (v := (1 : Int32)) C.x C.bc dX6_stepOn_104 (by decide) ?_
      obtain ⟨st_32, e_32, hx⟩ := nm_x hx
      refine pt_X6_113_68 C hI h e_32 dX6_stepOn_105 (fun H locs h => ?_)
      refine lv_goto (tgt := 211) C.x C.bc dX6_stepOn_108 (by decide) ?_
      exact bX6_stepOn_211 C hI st_32 hx h (lv_sub hl [0] rfl)
  · have hx := ge_t hx c_9
    refine lv_aload_n C.x C.bc dX6_stepOn_61 rfl (lv_at hl 1 rfl) ?_
    refine lv_iconst (v := (0 : Int32)) C.x C.bc dX6_stepOn_62 (by decide) ?_
    obtain ⟨st_33, e_33, hx⟩ := nm_x hx
    refine pt_X6_113_68 C hI h e_33 dX6_stepOn_63 (fun H locs h => ?_)
    refine lv_goto (tgt := 211) C.x C.bc dX6_stepOn_66 (by decide) ?_
    exact bX6_stepOn_211 C hI st_33 hx h (lv_sub hl [1] rfl)
theorem mX6_stepOn (hG : G0 E s0 b) (hI : Sx E)  {x : St} (hx : fX6_stepOn st = some x) : Mt l E s0 yX6_stepOn cX6_stepOn 2 none rmX6_stepOn [.ref (E.ad 68)] (sg st) none E (sg x) :=
  Mt.of hG (by decide) (Nat.le_of_ble_eq_true rfl) (fun p e s m below meth c ls C h hl => bX6_stepOn C hI st hx h hl)
theorem cX6_153_X6_stepOn  {st' : St} (C : Cx E s0 b p s m args meth c cc nL "EarthMeshModel" rt) (hI : Sx E) (h : XH E (sg st) s H locs) (hf : fX6_stepOn st = some st') (hR : rmX6_stepOn.frames + 1 ≤ R.frames ∧ 16 + (2 + 11) + rmX6_stepOn.locals ≤ R.locals) (h0 : cells ≤ R.cells ∧ slots ≤ R.slots) (hsz : ls.size = nL) (hcat : (rest.map fun v => v.category).sum ≤ 16) (hdg : decode cc pc = .ok (.invokevirtual 153, 3)) (kk : ∀ (H : Heap) (locs : List Loc), XH E (sg st') s H locs → W p l e R s m args below meth c H locs cells slots Q (F0 m (pc + 3) ls (rest))) : W p l e R s m args below meth c H locs cells slots Q (F0 m pc ls (.ref (E.ad 68) :: rest)) :=
  x_callV (n := 0) (As := []) C h 68 5 (hI 68 (by decide)) k_68 rfl (mX6_stepOn C.g hI hf) (lw_V q1744 q1746 qs74 q136 q1747) ⟨rfl, by decide +kernel, by decide +kernel, by decide +kernel⟩ hR ⟨rfl, rfl⟩ h0 rfl hsz rfl hcat hdg kk
abbrev rmX6_wrong : Room := { frames := 0, cells := 0, slots := 0, locals := 0 }
def fX6_wrong (v1 : Int32) (st : St) : Option (St) :=
  if (st.1 68 13) = 0 then
    nm (uI st 68 13 v1) fun st_2 =>
    nm (uI st_2 68 14 (st_2.1 68 11)) fun st_3 =>
    some st_3
  else
    some st
set_option maxHeartbeats 1000000 in
theorem bX6_wrong (C : Cx E s0 b p s m args meth c cX6_wrong 2 "EarthMeshModel" none) (hI : Sx E) (v1 : Int32) (st : St) {x : St} (hx : fX6_wrong v1 st = some x) {H : Heap} {locs : List Loc} {ls : Array Slot} (h : XH E (sg st) s H locs) (hl : lv_has ls 2 [(0, .ref (E.ad 68)), (1, .int v1)]) : W p l e rmX6_wrong s m args below meth c H locs 0 0 (MQ below (Qx E none (sg x)) args s 0 0 (gA E.HB)) (F0 m 0 ls []) := by
  unfold fX6_wrong at hx
  refine lv_aload_n C.x C.bc dX6_wrong_0 rfl (lv_at hl 0 rfl) ?_
  refine gt_X6_136_68 C hI h dX6_wrong_1 ?_
  refine lv_if_eq (tgt := 8) C.x C.bc dX6_wrong_4 (by decide) (fun c_1 => ?_) (fun c_1 => ?_)
  · have hx := ge_t hx c_1
    refine lv_aload_n C.x C.bc dX6_wrong_8 rfl (lv_at hl 0 rfl) ?_
    refine lv_iload_n C.x C.bc dX6_wrong_9 rfl (lv_at hl 1 rfl) ?_
    obtain ⟨st_2, e_2, hx⟩ := nm_x hx
    refine pt_X6_136_68 C hI h e_2 dX6_wrong_10 (fun H locs h => ?_)
    refine lv_aload_n C.x C.bc dX6_wrong_13 rfl (lv_at hl 0 rfl) ?_
    refine lv_aload_n C.x C.bc dX6_wrong_14 rfl (lv_at hl 0 rfl) ?_
    refine gt_X6_110_68 C hI h dX6_wrong_15 ?_
    obtain ⟨st_3, e_3, hx⟩ := nm_x hx
    refine pt_X6_139_68 C hI h e_3 dX6_wrong_18 (fun H locs h => ?_)
    obtain rfl := Option.some.inj hx
    exact x_vret C h dX6_wrong_21
  · have hx := ge_f hx c_1
    obtain rfl := Option.some.inj hx
    exact x_vret C h dX6_wrong_7
theorem mX6_wrong (hG : G0 E s0 b) (hI : Sx E) {v1 : Int32} {x : St} (hx : fX6_wrong v1 st = some x) : Mt l E s0 yX6_wrong cX6_wrong 2 none rmX6_wrong [.ref (E.ad 68), .int v1] (sg st) none E (sg x) :=
  Mt.of hG (by decide) (Nat.le_of_ble_eq_true rfl) (fun p e s m below meth c ls C h hl => bX6_wrong C hI v1 st hx h hl)
theorem cX6_156_X6_wrong {a0 : Int32} {st' : St} (C : Cx E s0 b p s m args meth c cc nL "EarthMeshModel" rt) (hI : Sx E) (h : XH E (sg st) s H locs) (hf : fX6_wrong a0 st = some st') (hR : rmX6_wrong.frames + 1 ≤ R.frames ∧ 16 + (2 + 11) + rmX6_wrong.locals ≤ R.locals) (h0 : cells ≤ R.cells ∧ slots ≤ R.slots) (hsz : ls.size = nL) (hcat : (rest.map fun v => v.category).sum ≤ 16) (hdg : decode cc pc = .ok (.invokevirtual 156, 3)) (kk : ∀ (H : Heap) (locs : List Loc), XH E (sg st') s H locs → W p l e R s m args below meth c H locs cells slots Q (F0 m (pc + 3) ls (rest))) : W p l e R s m args below meth c H locs cells slots Q (F0 m pc ls (.int a0 :: .ref (E.ad 68) :: rest)) :=
  x_callV (n := 1) (As := [.int a0]) C h 68 5 (hI 68 (by decide)) k_68 rfl (mX6_wrong C.g hI hf) (lw_V q1777 q1779 qs77 q136 q1780) ⟨rfl, by decide +kernel, by decide +kernel, by decide +kernel⟩ hR ⟨rfl, rfl⟩ h0 rfl hsz rfl hcat hdg kk
abbrev rmX6_pass : Room := { frames := 2, cells := 0, slots := 0, locals := 58 }
def fX6_pass (st : St) : Option (St) :=
  if (st.1 68 13) = 0 then
    bd (fX6_stepOn st) fun st_2 =>
    some st_2
  else
    some st
set_option maxHeartbeats 1000000 in
theorem bX6_pass (C : Cx E s0 b p s m args meth c cX6_pass 1 "EarthMeshModel" none) (hI : Sx E) (st : St) {x : St} (hx : fX6_pass st = some x) {H : Heap} {locs : List Loc} {ls : Array Slot} (h : XH E (sg st) s H locs) (hl : lv_has ls 1 [(0, .ref (E.ad 68))]) : W p l e rmX6_pass s m args below meth c H locs 0 0 (MQ below (Qx E none (sg x)) args s 0 0 (gA E.HB)) (F0 m 0 ls []) := by
  unfold fX6_pass at hx
  refine lv_aload_n C.x C.bc dX6_pass_0 rfl (lv_at hl 0 rfl) ?_
  refine gt_X6_136_68 C hI h dX6_pass_1 ?_
  refine lv_if_ne (tgt := 11) C.x C.bc dX6_pass_4 (by decide) (fun c_1 => ?_) (fun c_1 => ?_)
  · have hx := ge_f hx c_1
    obtain rfl := Option.some.inj hx
    exact x_vret C h dX6_pass_11
  · have hx := ge_t hx c_1
    refine lv_aload_n C.x C.bc dX6_pass_7 rfl (lv_at hl 0 rfl) ?_
    obtain ⟨st_2, hf_2, hx⟩ := bd_e hx
    refine cX6_153_X6_stepOn C hI h hf_2 ⟨Nat.le_of_ble_eq_true rfl, Nat.le_of_ble_eq_true rfl⟩ ⟨Nat.zero_le _, Nat.zero_le _⟩ hl.1 (Nat.le_of_ble_eq_true rfl) dX6_pass_8 (fun H locs h => ?_)
    obtain rfl := Option.some.inj hx
    exact x_vret C h dX6_pass_11
theorem mX6_pass (hG : G0 E s0 b) (hI : Sx E)  {x : St} (hx : fX6_pass st = some x) : Mt l E s0 yX6_pass cX6_pass 1 none rmX6_pass [.ref (E.ad 68)] (sg st) none E (sg x) :=
  Mt.of hG (by decide) (Nat.le_of_ble_eq_true rfl) (fun p e s m below meth c ls C h hl => bX6_pass C hI st hx h hl)
theorem cX6_163_X6_pass  {st' : St} (C : Cx E s0 b p s m args meth c cc nL "EarthMeshModel" rt) (hI : Sx E) (h : XH E (sg st) s H locs) (hf : fX6_pass st = some st') (hR : rmX6_pass.frames + 1 ≤ R.frames ∧ 16 + (1 + 11) + rmX6_pass.locals ≤ R.locals) (h0 : cells ≤ R.cells ∧ slots ≤ R.slots) (hsz : ls.size = nL) (hcat : (rest.map fun v => v.category).sum ≤ 16) (hdg : decode cc pc = .ok (.invokevirtual 163, 3)) (kk : ∀ (H : Heap) (locs : List Loc), XH E (sg st') s H locs → W p l e R s m args below meth c H locs cells slots Q (F0 m (pc + 3) ls (rest))) : W p l e R s m args below meth c H locs cells slots Q (F0 m pc ls (.ref (E.ad 68) :: rest)) :=
  x_callV (n := 0) (As := []) C h 68 5 (hI 68 (by decide)) k_68 rfl (mX6_pass C.g hI hf) (lw_V q1781 q1783 qs78 q136 q1784) ⟨rfl, by decide +kernel, by decide +kernel, by decide +kernel⟩ hR ⟨rfl, rfl⟩ h0 rfl hsz rfl hcat hdg kk
abbrev rmX6_numberNow : Room := { frames := 1, cells := 0, slots := 0, locals := 29 }
def fX6_numberNow_59 (v1 : Int32) (st : St) : Option (Int32 × St) :=
  if (st.1 68 13) = 0 then
    some ((st.1 68 10), st)
  else
    some (v1, st)
set_option maxHeartbeats 1000000 in
theorem bX6_numberNow_59 (C : Cx E s0 b p s m args meth c cX6_numberNow 3 "EarthMeshModel" (some .int)) (hI : Sx E) (v1 : Int32) (st : St) {x : Int32 × St} (hx : fX6_numberNow_59 v1 st = some x) {H : Heap} {locs : List Loc} {ls : Array Slot} (h : XH E (sg st) s H locs) (hl : lv_has ls 3 [(0, .ref (E.ad 68)), (1, .int v1)]) : W p l e rmX6_numberNow s m args below meth c H locs 0 0 (MQ below (Qx E (some (.int x.1)) (sg x.2)) args s 0 0 (gA E.HB)) (F0 m 59 ls []) := by
  unfold fX6_numberNow_59 at hx
  refine lv_aload_n C.x C.bc dX6_numberNow_59 rfl (lv_at hl 0 rfl) ?_
  refine gt_X6_136_68 C hI h dX6_numberNow_60 ?_
  refine lv_if_ne (tgt := 73) C.x C.bc dX6_numberNow_63 (by decide) (fun c_5 => ?_) (fun c_5 => ?_)
  · have hx := ge_f hx c_5
    refine lv_iload_n C.x C.bc dX6_numberNow_73 rfl (lv_at hl 1 rfl) ?_
    obtain rfl := Option.some.inj hx
    exact x_iret C h dX6_numberNow_74
  · have hx := ge_t hx c_5
    refine lv_aload_n C.x C.bc dX6_numberNow_66 rfl (lv_at hl 0 rfl) ?_
    refine gt_X6_123_68 C hI h dX6_numberNow_67 ?_
    refine lv_goto (tgt := 74) C.x C.bc dX6_numberNow_70 (by decide) ?_
    obtain rfl := Option.some.inj hx
    exact x_iret C h dX6_numberNow_74
def fX6_numberNow_54 (v1 : Int32) (st : St) : Option (Int32 × St) :=
  bd (fX6_wrong (2 : Int32) st) fun st_4 =>
  fX6_numberNow_59 v1 st_4
set_option maxHeartbeats 1000000 in
theorem bX6_numberNow_54 (C : Cx E s0 b p s m args meth c cX6_numberNow 3 "EarthMeshModel" (some .int)) (hI : Sx E) (v1 : Int32) (st : St) {x : Int32 × St} (hx : fX6_numberNow_54 v1 st = some x) {H : Heap} {locs : List Loc} {ls : Array Slot} (h : XH E (sg st) s H locs) (hl : lv_has ls 3 [(0, .ref (E.ad 68)), (1, .int v1)]) : W p l e rmX6_numberNow s m args below meth c H locs 0 0 (MQ below (Qx E (some (.int x.1)) (sg x.2)) args s 0 0 (gA E.HB)) (F0 m 54 ls []) := by
  unfold fX6_numberNow_54 at hx
  refine lv_aload_n C.x C.bc dX6_numberNow_54 rfl (lv_at hl 0 rfl) ?_
  refine lv_iconst (v := (2 : Int32)) C.x C.bc dX6_numberNow_55 (by decide) ?_
  obtain ⟨st_4, hf_4, hx⟩ := bd_e hx
  refine cX6_156_X6_wrong C hI h hf_4 ⟨Nat.le_of_ble_eq_true rfl, Nat.le_of_ble_eq_true rfl⟩ ⟨Nat.zero_le _, Nat.zero_le _⟩ hl.1 (Nat.le_of_ble_eq_true rfl) dX6_numberNow_56 (fun H locs h => ?_)
  exact bX6_numberNow_59 C hI v1 st_4 hx h (lv_sub hl [0, 1] rfl)
def fX6_numberNow (v1 : Int32) (v2 : Int32) (st : St) : Option (Int32 × St) :=
  if (st.1 68 13) = 0 then
    if (st.1 68 9) = (2 : Int32) then
      if (4 : Int32) < ((st.1 68 12) - (st.1 68 11)) then
        fX6_numberNow_54 v1 st
      else
        if (st.1 68 10) < v1 then
          fX6_numberNow_54 v1 st
        else
          if (st.1 68 10) ≤ v2 then
            fX6_numberNow_59 v1 st
          else
            fX6_numberNow_54 v1 st
    else
      bd (fX6_wrong (1 : Int32) st) fun st_8 =>
      fX6_numberNow_59 v1 st_8
  else
    some (v1, st)
set_option maxHeartbeats 1000000 in
theorem bX6_numberNow (C : Cx E s0 b p s m args meth c cX6_numberNow 3 "EarthMeshModel" (some .int)) (hI : Sx E) (v1 : Int32) (v2 : Int32) (st : St) {x : Int32 × St} (hx : fX6_numberNow v1 v2 st = some x) {H : Heap} {locs : List Loc} {ls : Array Slot} (h : XH E (sg st) s H locs) (hl : lv_has ls 3 [(0, .ref (E.ad 68)), (1, .int v1), (2, .int v2)]) : W p l e rmX6_numberNow s m args below meth c H locs 0 0 (MQ below (Qx E (some (.int x.1)) (sg x.2)) args s 0 0 (gA E.HB)) (F0 m 0 ls []) := by
  unfold fX6_numberNow at hx
  refine lv_aload_n C.x C.bc dX6_numberNow_0 rfl (lv_at hl 0 rfl) ?_
  refine gt_X6_136_68 C hI h dX6_numberNow_1 ?_
  refine lv_if_eq (tgt := 9) C.x C.bc dX6_numberNow_4 (by decide) (fun c_1 => ?_) (fun c_1 => ?_)
  · have hx := ge_t hx c_1
    refine lv_aload_n C.x C.bc dX6_numberNow_9 rfl (lv_at hl 0 rfl) ?_
    refine gt_X6_113_68 C hI h dX6_numberNow_10 ?_
    refine lv_iconst (v := (2 : Int32)) C.x C.bc dX6_numberNow_13 (by decide) ?_
    refine lv_icmp_eq (tgt := 25) C.x C.bc dX6_numberNow_14 (by decide) (fun c_2 => ?_) (fun c_2 => ?_)
    · have hx := ge_t hx c_2
      refine lv_aload_n C.x C.bc dX6_numberNow_25 rfl (lv_at hl 0 rfl) ?_
      refine gt_X6_133_68 C hI h dX6_numberNow_26 ?_
      refine lv_aload_n C.x C.bc dX6_numberNow_29 rfl (lv_at hl 0 rfl) ?_
      refine gt_X6_110_68 C hI h dX6_numberNow_30 ?_
      refine lv_isub C.x C.bc dX6_numberNow_33 ?_
      refine lv_iconst (v := (4 : Int32)) C.x C.bc dX6_numberNow_34 (by decide) ?_
      refine lv_icmp_gt (tgt := 54) C.x C.bc dX6_numberNow_35 (by decide) (fun c_3 => ?_) (fun c_3 => ?_)
      · have hx := ge_t hx c_3
        exact bX6_numberNow_54 C hI v1 st hx h (lv_sub hl [0, 1] rfl)
      · have hx := ge_f hx c_3
        refine lv_aload_n C.x C.bc dX6_numberNow_38 rfl (lv_at hl 0 rfl) ?_
        refine gt_X6_123_68 C hI h dX6_numberNow_39 ?_
        refine lv_iload_n C.x C.bc dX6_numberNow_42 rfl (lv_at hl 1 rfl) ?_
        refine lv_icmp_lt (tgt := 54) C.x C.bc dX6_numberNow_43 (by decide) (fun c_6 => ?_) (fun c_6 => ?_)
        · have hx := ge_t hx c_6
          exact bX6_numberNow_54 C hI v1 st hx h (lv_sub hl [0, 1] rfl)
        · have hx := ge_f hx c_6
          refine lv_aload_n C.x C.bc dX6_numberNow_46 rfl (lv_at hl 0 rfl) ?_
          refine gt_X6_123_68 C hI h dX6_numberNow_47 ?_
          refine lv_iload_n C.x C.bc dX6_numberNow_50 rfl (lv_at hl 2 rfl) ?_
          refine lv_icmp_le (tgt := 59) C.x C.bc dX6_numberNow_51 (by decide) (fun c_7 => ?_) (fun c_7 => ?_)
          · have hx := ge_t hx c_7
            exact bX6_numberNow_59 C hI v1 st hx h (lv_sub hl [0, 1] rfl)
          · have hx := ge_f hx c_7
            exact bX6_numberNow_54 C hI v1 st hx h (lv_sub hl [0, 1] rfl)
    · have hx := ge_f hx c_2
      refine lv_aload_n C.x C.bc dX6_numberNow_17 rfl (lv_at hl 0 rfl) ?_
      refine lv_iconst (v := (1 : Int32)) C.x C.bc dX6_numberNow_18 (by decide) ?_
      obtain ⟨st_8, hf_8, hx⟩ := bd_e hx
      refine cX6_156_X6_wrong C hI h hf_8 ⟨Nat.le_of_ble_eq_true rfl, Nat.le_of_ble_eq_true rfl⟩ ⟨Nat.zero_le _, Nat.zero_le _⟩ hl.1 (Nat.le_of_ble_eq_true rfl) dX6_numberNow_19 (fun H locs h => ?_)
      refine lv_goto (tgt := 59) C.x C.bc dX6_numberNow_22 (by decide) ?_
      exact bX6_numberNow_59 C hI v1 st_8 hx h (lv_sub hl [0, 1] rfl)
  · have hx := ge_f hx c_1
    refine lv_iload_n C.x C.bc dX6_numberNow_7 rfl (lv_at hl 1 rfl) ?_
    obtain rfl := Option.some.inj hx
    exact x_iret C h dX6_numberNow_8
theorem mX6_numberNow (hG : G0 E s0 b) (hI : Sx E) {v1 : Int32} {v2 : Int32} {x : Int32 × St} (hx : fX6_numberNow v1 v2 st = some x) : Mt l E s0 yX6_numberNow cX6_numberNow 3 (some .int) rmX6_numberNow [.ref (E.ad 68), .int v1, .int v2] (sg st) (some (.int x.1)) E (sg x.2) :=
  Mt.of hG (by decide) (Nat.le_of_ble_eq_true rfl) (fun p e s m below meth c ls C h hl => bX6_numberNow C hI v1 v2 st hx h hl)
theorem cX6_160_X6_numberNow {a0 : Int32} {a1 : Int32} {r : Int32} {st' : St} (C : Cx E s0 b p s m args meth c cc nL "EarthMeshModel" rt) (hI : Sx E) (h : XH E (sg st) s H locs) (hf : fX6_numberNow a0 a1 st = some (r, st')) (hR : rmX6_numberNow.frames + 1 ≤ R.frames ∧ 16 + (3 + 11) + rmX6_numberNow.locals ≤ R.locals) (h0 : cells ≤ R.cells ∧ slots ≤ R.slots) (hsz : ls.size = nL) (hcat : (rest.map fun v => v.category).sum ≤ 16) (hdg : decode cc pc = .ok (.invokevirtual 160, 3)) (kk : ∀ (H : Heap) (locs : List Loc), XH E (sg st') s H locs → W p l e R s m args below meth c H locs cells slots Q (F0 m (pc + 3) ls (.int r :: rest))) : W p l e R s m args below meth c H locs cells slots Q (F0 m pc ls (.int a1 :: .int a0 :: .ref (E.ad 68) :: rest)) :=
  x_callV (n := 2) (As := [.int a0, .int a1]) C h 68 5 (hI 68 (by decide)) k_68 rfl (mX6_numberNow C.g hI hf) (lw_V q1789 q1791 qs80 q136 q1792) ⟨rfl, by decide +kernel, by decide +kernel, by decide +kernel⟩ hR ⟨rfl, rfl⟩ h0 rfl hsz rfl hcat hdg kk
abbrev rmX6_readNumber : Room := { frames := 3, cells := 0, slots := 0, locals := 86 }
def fX6_readNumber (v1 : Int32) (v2 : Int32) (st : St) : Option (Int32 × St) :=
  bd (fX6_numberNow v1 v2 st) <| u2 fun r_1 st_1 =>
  bd (fX6_pass st_1) fun st_2 =>
  some (r_1, st_2)
set_option maxHeartbeats 1000000 in
theorem bX6_readNumber (C : Cx E s0 b p s m args meth c cX6_readNumber 4 "EarthMeshModel" (some .int)) (hI : Sx E) (v1 : Int32) (v2 : Int32) (st : St) {x : Int32 × St} (hx : fX6_readNumber v1 v2 st = some x) {H : Heap} {locs : List Loc} {ls : Array Slot} (h : XH E (sg st) s H locs) (hl : lv_has ls 4 [(0, .ref (E.ad 68)), (1, .int v1), (2, .int v2)]) : W p l e rmX6_readNumber s m args below meth c H locs 0 0 (MQ below (Qx E (some (.int x.1)) (sg x.2)) args s 0 0 (gA E.HB)) (F0 m 0 ls []) := by
  unfold fX6_readNumber at hx
  refine lv_aload_n C.x C.bc dX6_readNumber_0 rfl (lv_at hl 0 rfl) ?_
  refine lv_iload_n C.x C.bc dX6_readNumber_1 rfl (lv_at hl 1 rfl) ?_
  refine lv_iload_n C.x C.bc dX6_readNumber_2 rfl (lv_at hl 2 rfl) ?_
  obtain ⟨⟨r_1, st_1⟩, hf_1, hx⟩ := bd_e hx
  have hx := u2_e hx
  refine cX6_160_X6_numberNow C hI h hf_1 ⟨Nat.le_of_ble_eq_true rfl, Nat.le_of_ble_eq_true rfl⟩ ⟨Nat.zero_le _, Nat.zero_le _⟩ hl.1 (Nat.le_of_ble_eq_true rfl) dX6_readNumber_3 (fun H locs h => ?_)
  refine lv_istore_n (lv' := [(3, .int r_1), (0, .ref (E.ad 68)), (1, .int v1), (2, .int v2)]) C.x C.bc dX6_readNumber_6 rfl hl (by decide) rfl (fun ls hl => ?_)
  refine lv_aload_n C.x C.bc dX6_readNumber_7 rfl (lv_at hl 1 rfl) ?_
  obtain ⟨st_2, hf_2, hx⟩ := bd_e hx
  refine cX6_163_X6_pass C hI h hf_2 ⟨Nat.le_of_ble_eq_true rfl, Nat.le_of_ble_eq_true rfl⟩ ⟨Nat.zero_le _, Nat.zero_le _⟩ hl.1 (Nat.le_of_ble_eq_true rfl) dX6_readNumber_8 (fun H locs h => ?_)
  refine lv_iload_n C.x C.bc dX6_readNumber_11 rfl (lv_at hl 0 rfl) ?_
  obtain rfl := Option.some.inj hx
  exact x_iret C h dX6_readNumber_12
theorem mX6_readNumber (hG : G0 E s0 b) (hI : Sx E) {v1 : Int32} {v2 : Int32} {x : Int32 × St} (hx : fX6_readNumber v1 v2 st = some x) : Mt l E s0 yX6_readNumber cX6_readNumber 4 (some .int) rmX6_readNumber [.ref (E.ad 68), .int v1, .int v2] (sg st) (some (.int x.1)) E (sg x.2) :=
  Mt.of hG (by decide) (Nat.le_of_ble_eq_true rfl) (fun p e s m below meth c ls C h hl => bX6_readNumber C hI v1 v2 st hx h hl)
abbrev rmX6_mayBe_71 : Room := { frames := 0, cells := 0, slots := 0, locals := 0 }
def fX6_mayBe_71_38 (st : St) : Option (Int32) :=
  some (1 : Int32)
set_option maxHeartbeats 1000000 in
theorem bX6_mayBe_71_38 (C : Cx E s0 b p s m args meth c cX6_mayBe 3 "EarthMeshModel" (some .boolean)) (hI : Sx E) (st : St) {x : Int32} (hx : fX6_mayBe_71_38 st = some x) {H : Heap} {locs : List Loc} {ls : Array Slot} (h : XH E (sg st) s H locs) (hl : lv_has ls 3 []) : W p l e rmX6_mayBe_71 s m args below meth c H locs 0 0 (MQ below (Qx E (some (.int x)) (sg st)) args s 0 0 (gA E.HB)) (F0 m 38 ls []) := by
  unfold fX6_mayBe_71_38 at hx
  refine lv_iconst (v := (1 : Int32)) C.x C.bc dX6_mayBe_38 (by decide) ?_
  refine lv_goto (tgt := 43) C.x C.bc dX6_mayBe_39 (by decide) ?_
  obtain rfl := Option.some.inj hx
  exact x_zret (v := (1 : Int32)) C h rfl dX6_mayBe_43
def fX6_mayBe_71_42 (st : St) : Option (Int32) :=
  some (0 : Int32)
set_option maxHeartbeats 1000000 in
theorem bX6_mayBe_71_42 (C : Cx E s0 b p s m args meth c cX6_mayBe 3 "EarthMeshModel" (some .boolean)) (hI : Sx E) (st : St) {x : Int32} (hx : fX6_mayBe_71_42 st = some x) {H : Heap} {locs : List Loc} {ls : Array Slot} (h : XH E (sg st) s H locs) (hl : lv_has ls 3 []) : W p l e rmX6_mayBe_71 s m args below meth c H locs 0 0 (MQ below (Qx E (some (.int x)) (sg st)) args s 0 0 (gA E.HB)) (F0 m 42 ls []) := by
  unfold fX6_mayBe_71_42 at hx
  refine lv_iconst (v := (0 : Int32)) C.x C.bc dX6_mayBe_42 (by decide) ?_
  obtain rfl := Option.some.inj hx
  exact x_zret (v := (0 : Int32)) C h rfl dX6_mayBe_43
def fX6_mayBe_71 (v1 : Int32) (v2 : Int32) (st : St) : Option (Int32) :=
  if v2 = (2 : Int32) then
    fX6_mayBe_71_38 st
  else
    if v2 = 0 then
      gd (inB (0 : Int32) 46) <|
      gd (¬ (st.1 71 (0 : Int32).toNatClampNeg) = 0) <|
      gd (inB (0 : Int32) 46) <|
      if (st.1 71 (0 : Int32).toNatClampNeg) ≤ ((jrem v1 (st.1 71 (0 : Int32).toNatClampNeg)) + (1 : Int32)) then
        fX6_mayBe_71_42 st
      else
        fX6_mayBe_71_38 st
    else
      gd (inB (0 : Int32) 46) <|
      gd (¬ (st.1 71 (0 : Int32).toNatClampNeg) = 0) <|
      gd (inB (1 : Int32) 46) <|
      if (st.1 71 (1 : Int32).toNatClampNeg) ≤ ((v1 / (st.1 71 (0 : Int32).toNatClampNeg)) + (1 : Int32)) then
        fX6_mayBe_71_42 st
      else
        fX6_mayBe_71_38 st
set_option maxHeartbeats 1000000 in
theorem bX6_mayBe_71 (C : Cx E s0 b p s m args meth c cX6_mayBe 3 "EarthMeshModel" (some .boolean)) (hI : Sx E) (v1 : Int32) (v2 : Int32) (st : St) {x : Int32} (hx : fX6_mayBe_71 v1 v2 st = some x) {H : Heap} {locs : List Loc} {ls : Array Slot} (h : XH E (sg st) s H locs) (hl : lv_has ls 3 [(0, .ref (E.ad 71)), (1, .int v1), (2, .int v2)]) : W p l e rmX6_mayBe_71 s m args below meth c H locs 0 0 (MQ below (Qx E (some (.int x)) (sg st)) args s 0 0 (gA E.HB)) (F0 m 0 ls []) := by
  unfold fX6_mayBe_71 at hx
  refine lv_iload_n C.x C.bc dX6_mayBe_0 rfl (lv_at hl 2 rfl) ?_
  refine lv_iconst (v := (2 : Int32)) C.x C.bc dX6_mayBe_1 (by decide) ?_
  refine lv_icmp_eq (tgt := 38) C.x C.bc dX6_mayBe_2 (by decide) (fun c_1 => ?_) (fun c_1 => ?_)
  · have hx := ge_t hx c_1
    exact bX6_mayBe_71_38 C hI st hx h (lv_sub hl [] rfl)
  · have hx := ge_f hx c_1
    refine lv_iload_n C.x C.bc dX6_mayBe_5 rfl (lv_at hl 2 rfl) ?_
    refine lv_if_ne (tgt := 25) C.x C.bc dX6_mayBe_6 (by decide) (fun c_2 => ?_) (fun c_2 => ?_)
    · have hx := ge_f hx c_2
      refine lv_iload_n C.x C.bc dX6_mayBe_25 rfl (lv_at hl 1 rfl) ?_
      refine lv_aload_n C.x C.bc dX6_mayBe_26 rfl (lv_at hl 0 rfl) ?_
      refine lv_iconst (v := (0 : Int32)) C.x C.bc dX6_mayBe_27 (by decide) ?_
      obtain ⟨g_3, hx⟩ := gd_e hx
      refine x_iald C h 71 46 (hI 71 (by decide)) k_71 g_3 dX6_mayBe_28 ?_
      obtain ⟨g_4, hx⟩ := gd_e hx
      refine lv_idiv C.x C.bc dX6_mayBe_29 g_4 ?_
      refine lv_iconst (v := (1 : Int32)) C.x C.bc dX6_mayBe_30 (by decide) ?_
      refine lv_iadd C.x C.bc dX6_mayBe_31 ?_
      refine lv_aload_n C.x C.bc dX6_mayBe_32 rfl (lv_at hl 0 rfl) ?_
      refine lv_iconst (v := (1 : Int32)) C.x C.bc dX6_mayBe_33 (by decide) ?_
      obtain ⟨g_5, hx⟩ := gd_e hx
      refine x_iald C h 71 46 (hI 71 (by decide)) k_71 g_5 dX6_mayBe_34 ?_
      refine lv_icmp_ge (tgt := 42) C.x C.bc dX6_mayBe_35 (by decide) (fun c_6 => ?_) (fun c_6 => ?_)
      · have hx := ge_t hx c_6
        exact bX6_mayBe_71_42 C hI st hx h (lv_sub hl [] rfl)
      · have hx := ge_f hx c_6
        exact bX6_mayBe_71_38 C hI st hx h (lv_sub hl [] rfl)
    · have hx := ge_t hx c_2
      refine lv_iload_n C.x C.bc dX6_mayBe_9 rfl (lv_at hl 1 rfl) ?_
      refine lv_aload_n C.x C.bc dX6_mayBe_10 rfl (lv_at hl 0 rfl) ?_
      refine lv_iconst (v := (0 : Int32)) C.x C.bc dX6_mayBe_11 (by decide) ?_
      obtain ⟨g_7, hx⟩ := gd_e hx
      refine x_iald C h 71 46 (hI 71 (by decide)) k_71 g_7 dX6_mayBe_12 ?_
      obtain ⟨g_8, hx⟩ := gd_e hx
      refine y_irem C.x C.bc dX6_mayBe_13 g_8 ?_
      refine lv_iconst (v := (1 : Int32)) C.x C.bc dX6_mayBe_14 (by decide) ?_
      refine lv_iadd C.x C.bc dX6_mayBe_15 ?_
      refine lv_aload_n C.x C.bc dX6_mayBe_16 rfl (lv_at hl 0 rfl) ?_
      refine lv_iconst (v := (0 : Int32)) C.x C.bc dX6_mayBe_17 (by decide) ?_
      obtain ⟨g_9, hx⟩ := gd_e hx
      refine x_iald C h 71 46 (hI 71 (by decide)) k_71 g_9 dX6_mayBe_18 ?_
      refine lv_icmp_ge (tgt := 42) C.x C.bc dX6_mayBe_19 (by decide) (fun c_10 => ?_) (fun c_10 => ?_)
      · have hx := ge_t hx c_10
        exact bX6_mayBe_71_42 C hI st hx h (lv_sub hl [] rfl)
      · have hx := ge_f hx c_10
        refine lv_goto (tgt := 38) C.x C.bc dX6_mayBe_22 (by decide) ?_
        exact bX6_mayBe_71_38 C hI st hx h (lv_sub hl [] rfl)
theorem mX6_mayBe_71 (hG : G0 E s0 b) (hI : Sx E) {v1 : Int32} {v2 : Int32} {x : Int32} (hx : fX6_mayBe_71 v1 v2 st = some x) : Mt l E s0 yX6_mayBe cX6_mayBe 3 (some .boolean) rmX6_mayBe_71 [.ref (E.ad 71), .int v1, .int v2] (sg st) (some (.int x)) E (sg st) :=
  Mt.of hG (by decide) (Nat.le_of_ble_eq_true rfl) (fun p e s m below meth c ls C h hl => bX6_mayBe_71 C hI v1 v2 st hx h hl)
theorem cX6_166_X6_mayBe_71 {a1 : Int32} {a2 : Int32} {r : Int32} (C : Cx E s0 b p s m args meth c cc nL "EarthMeshModel" rt) (hI : Sx E) (h : XH E (sg st) s H locs) (hf : fX6_mayBe_71 a1 a2 st = some r) (hR : rmX6_mayBe_71.frames + 1 ≤ R.frames ∧ 16 + (3 + 11) + rmX6_mayBe_71.locals ≤ R.locals) (h0 : cells ≤ R.cells ∧ slots ≤ R.slots) (hsz : ls.size = nL) (hcat : (rest.map fun v => v.category).sum ≤ 16) (hdg : decode cc pc = .ok (.invokestatic 166, 3)) (kk : ∀ (H : Heap) (locs : List Loc), XH E (sg st) s H locs → W p l e R s m args below meth c H locs cells slots Q (F0 m (pc + 3) ls (.int r :: rest))) : W p l e R s m args below meth c H locs cells slots Q (F0 m pc ls (.int a2 :: .int a1 :: .ref (E.ad 71) :: rest)) :=
  x_callS (n := 3) (As := [.ref (E.ad 71), .int a1, .int a2]) C h (mX6_mayBe_71 C.g hI hf) (lw_S q1809 q1810 q136 q1811) ⟨by decide +kernel, by decide +kernel, by decide +kernel⟩ hR ⟨rfl, rfl⟩ h0 rfl hsz rfl hcat hdg kk
abbrev rmX6_readNode : Room := { frames := 3, cells := 0, slots := 0, locals := 86 }
def fX6_readNode_61 (v2 : Int32) (st : St) : Option (Int32 × St) :=
  bd (fX6_pass st) fun st_4 =>
  some (v2, st_4)
set_option maxHeartbeats 1000000 in
theorem bX6_readNode_61 (C : Cx E s0 b p s m args meth c cX6_readNode 3 "EarthMeshModel" (some .int)) (hI : Sx E) (v2 : Int32) (st : St) {x : Int32 × St} (hx : fX6_readNode_61 v2 st = some x) {H : Heap} {locs : List Loc} {ls : Array Slot} (h : XH E (sg st) s H locs) (hl : lv_has ls 3 [(0, .ref (E.ad 68)), (2, .int v2)]) : W p l e rmX6_readNode s m args below meth c H locs 0 0 (MQ below (Qx E (some (.int x.1)) (sg x.2)) args s 0 0 (gA E.HB)) (F0 m 61 ls []) := by
  unfold fX6_readNode_61 at hx
  refine lv_aload_n C.x C.bc dX6_readNode_61 rfl (lv_at hl 0 rfl) ?_
  obtain ⟨st_4, hf_4, hx⟩ := bd_e hx
  refine cX6_163_X6_pass C hI h hf_4 ⟨Nat.le_of_ble_eq_true rfl, Nat.le_of_ble_eq_true rfl⟩ ⟨Nat.zero_le _, Nat.zero_le _⟩ hl.1 (Nat.le_of_ble_eq_true rfl) dX6_readNode_62 (fun H locs h => ?_)
  refine lv_iload_n C.x C.bc dX6_readNode_65 rfl (lv_at hl 1 rfl) ?_
  obtain rfl := Option.some.inj hx
  exact x_iret C h dX6_readNode_66
def fX6_readNode_37 (v1 : Int32) (v2 : Int32) (st : St) : Option (Int32 × St) :=
  if (st.1 68 13) = 0 then
    bd (fX6_mayBe_71 v2 v1 st) fun r_5 =>
    if r_5 = 0 then
      bd (fX6_wrong (4 : Int32) st) fun st_7 =>
      fX6_readNode_61 v2 st_7
    else
      fX6_readNode_61 v2 st
  else
    fX6_readNode_61 v2 st
set_option maxHeartbeats 1000000 in
theorem bX6_readNode_37 (C : Cx E s0 b p s m args meth c cX6_readNode 3 "EarthMeshModel" (some .int)) (hI : Sx E) (v1 : Int32) (v2 : Int32) (st : St) {x : Int32 × St} (hx : fX6_readNode_37 v1 v2 st = some x) {H : Heap} {locs : List Loc} {ls : Array Slot} (h : XH E (sg st) s H locs) (hl : lv_has ls 3 [(0, .ref (E.ad 68)), (1, .int v1), (2, .int v2)]) : W p l e rmX6_readNode s m args below meth c H locs 0 0 (MQ below (Qx E (some (.int x.1)) (sg x.2)) args s 0 0 (gA E.HB)) (F0 m 37 ls []) := by
  unfold fX6_readNode_37 at hx
  refine lv_aload_n C.x C.bc dX6_readNode_37 rfl (lv_at hl 0 rfl) ?_
  refine gt_X6_136_68 C hI h dX6_readNode_38 ?_
  refine lv_if_ne (tgt := 61) C.x C.bc dX6_readNode_41 (by decide) (fun c_3 => ?_) (fun c_3 => ?_)
  · have hx := ge_f hx c_3
    exact bX6_readNode_61 C hI v2 st hx h (lv_sub hl [0, 2] rfl)
  · have hx := ge_t hx c_3
    refine lv_aload_n C.x C.bc dX6_readNode_44 rfl (lv_at hl 0 rfl) ?_
    refine gt_X6_35_68 C hI h dX6_readNode_45 ?_
    refine lv_iload_n C.x C.bc dX6_readNode_48 rfl (lv_at hl 2 rfl) ?_
    refine lv_iload_n C.x C.bc dX6_readNode_49 rfl (lv_at hl 1 rfl) ?_
    obtain ⟨r_5, hf_5, hx⟩ := bd_e hx
    refine cX6_166_X6_mayBe_71 C hI h hf_5 ⟨Nat.le_of_ble_eq_true rfl, Nat.le_of_ble_eq_true rfl⟩ ⟨Nat.zero_le _, Nat.zero_le _⟩ hl.1 (Nat.le_of_ble_eq_true rfl) dX6_readNode_50 (fun H locs h => ?_)
    refine lv_if_ne (tgt := 61) C.x C.bc dX6_readNode_53 (by decide) (fun c_6 => ?_) (fun c_6 => ?_)
    · have hx := ge_f hx c_6
      exact bX6_readNode_61 C hI v2 st hx h (lv_sub hl [0, 2] rfl)
    · have hx := ge_t hx c_6
      refine lv_aload_n C.x C.bc dX6_readNode_56 rfl (lv_at hl 0 rfl) ?_
      refine lv_iconst (v := (4 : Int32)) C.x C.bc dX6_readNode_57 (by decide) ?_
      obtain ⟨st_7, hf_7, hx⟩ := bd_e hx
      refine cX6_156_X6_wrong C hI h hf_7 ⟨Nat.le_of_ble_eq_true rfl, Nat.le_of_ble_eq_true rfl⟩ ⟨Nat.zero_le _, Nat.zero_le _⟩ hl.1 (Nat.le_of_ble_eq_true rfl) dX6_readNode_58 (fun H locs h => ?_)
      exact bX6_readNode_61 C hI v2 st_7 hx h (lv_sub hl [0, 2] rfl)
def fX6_readNode (v1 : Int32) (st : St) : Option (Int32 × St) :=
  bd (fX6_numberNow (0 : Int32) (11 : Int32) st) <| u2 fun r_1 st_1 =>
  if (st_1.1 68 13) = 0 then
    gd (inB (0 : Int32) 46) <|
    gd (inB (1 : Int32) 46) <|
    if r_1 < ((st_1.1 71 (0 : Int32).toNatClampNeg) * (st_1.1 71 (1 : Int32).toNatClampNeg)) then
      fX6_readNode_37 v1 r_1 st_1
    else
      bd (fX6_wrong (3 : Int32) st_1) fun st_11 =>
      fX6_readNode_37 v1 r_1 st_11
  else
    fX6_readNode_37 v1 r_1 st_1
set_option maxHeartbeats 1000000 in
theorem bX6_readNode (C : Cx E s0 b p s m args meth c cX6_readNode 3 "EarthMeshModel" (some .int)) (hI : Sx E) (v1 : Int32) (st : St) {x : Int32 × St} (hx : fX6_readNode v1 st = some x) {H : Heap} {locs : List Loc} {ls : Array Slot} (h : XH E (sg st) s H locs) (hl : lv_has ls 3 [(0, .ref (E.ad 68)), (1, .int v1)]) : W p l e rmX6_readNode s m args below meth c H locs 0 0 (MQ below (Qx E (some (.int x.1)) (sg x.2)) args s 0 0 (gA E.HB)) (F0 m 0 ls []) := by
  unfold fX6_readNode at hx
  refine lv_aload_n C.x C.bc dX6_readNode_0 rfl (lv_at hl 0 rfl) ?_
  refine lv_iconst (v := (0 : Int32)) C.x C.bc dX6_readNode_1 (by decide) ?_
  refine lv_bipush (v := (11 : Int32)) C.x C.bc dX6_readNode_2 (by decide) ?_
  obtain ⟨⟨r_1, st_1⟩, hf_1, hx⟩ := bd_e hx
  have hx := u2_e hx
  refine cX6_160_X6_numberNow C hI h hf_1 ⟨Nat.le_of_ble_eq_true rfl, Nat.le_of_ble_eq_true rfl⟩ ⟨Nat.zero_le _, Nat.zero_le _⟩ hl.1 (Nat.le_of_ble_eq_true rfl) dX6_readNode_4 (fun H locs h => ?_)
  refine lv_istore_n (lv' := [(2, .int r_1), (0, .ref (E.ad 68)), (1, .int v1)]) C.x C.bc dX6_readNode_7 rfl hl (by decide) rfl (fun ls hl => ?_)
  refine lv_aload_n C.x C.bc dX6_readNode_8 rfl (lv_at hl 1 rfl) ?_
  refine gt_X6_136_68 C hI h dX6_readNode_9 ?_
  refine lv_if_ne (tgt := 37) C.x C.bc dX6_readNode_12 (by decide) (fun c_2 => ?_) (fun c_2 => ?_)
  · have hx := ge_f hx c_2
    exact bX6_readNode_37 C hI v1 r_1 st_1 hx h (lv_sub hl [1, 2, 0] rfl)
  · have hx := ge_t hx c_2
    refine lv_iload_n C.x C.bc dX6_readNode_15 rfl (lv_at hl 0 rfl) ?_
    refine lv_aload_n C.x C.bc dX6_readNode_16 rfl (lv_at hl 1 rfl) ?_
    refine gt_X6_35_68 C hI h dX6_readNode_17 ?_
    refine lv_iconst (v := (0 : Int32)) C.x C.bc dX6_readNode_20 (by decide) ?_
    obtain ⟨g_8, hx⟩ := gd_e hx
    refine x_iald C h 71 46 (hI 71 (by decide)) k_71 g_8 dX6_readNode_21 ?_
    refine lv_aload_n C.x C.bc dX6_readNode_22 rfl (lv_at hl 1 rfl) ?_
    refine gt_X6_35_68 C hI h dX6_readNode_23 ?_
    refine lv_iconst (v := (1 : Int32)) C.x C.bc dX6_readNode_26 (by decide) ?_
    obtain ⟨g_9, hx⟩ := gd_e hx
    refine x_iald C h 71 46 (hI 71 (by decide)) k_71 g_9 dX6_readNode_27 ?_
    refine lv_imul C.x C.bc dX6_readNode_28 ?_
    refine lv_icmp_lt (tgt := 37) C.x C.bc dX6_readNode_29 (by decide) (fun c_10 => ?_) (fun c_10 => ?_)
    · have hx := ge_t hx c_10
      exact bX6_readNode_37 C hI v1 r_1 st_1 hx h (lv_sub hl [1, 2, 0] rfl)
    · have hx := ge_f hx c_10
      refine lv_aload_n C.x C.bc dX6_readNode_32 rfl (lv_at hl 1 rfl) ?_
      refine lv_iconst (v := (3 : Int32)) C.x C.bc dX6_readNode_33 (by decide) ?_
      obtain ⟨st_11, hf_11, hx⟩ := bd_e hx
      refine cX6_156_X6_wrong C hI h hf_11 ⟨Nat.le_of_ble_eq_true rfl, Nat.le_of_ble_eq_true rfl⟩ ⟨Nat.zero_le _, Nat.zero_le _⟩ hl.1 (Nat.le_of_ble_eq_true rfl) dX6_readNode_34 (fun H locs h => ?_)
      exact bX6_readNode_37 C hI v1 r_1 st_11 hx h (lv_sub hl [1, 2, 0] rfl)
theorem mX6_readNode (hG : G0 E s0 b) (hI : Sx E) {v1 : Int32} {x : Int32 × St} (hx : fX6_readNode v1 st = some x) : Mt l E s0 yX6_readNode cX6_readNode 3 (some .int) rmX6_readNode [.ref (E.ad 68), .int v1] (sg st) (some (.int x.1)) E (sg x.2) :=
  Mt.of hG (by decide) (Nat.le_of_ble_eq_true rfl) (fun p e s m below meth c ls C h hl => bX6_readNode C hI v1 st hx h hl)
abbrev rmX6_readEnd : Room := { frames := 3, cells := 0, slots := 0, locals := 86 }
def fX6_readEnd (st : St) : Option (St) :=
  if (st.1 68 13) = 0 then
    if (st.1 68 9) = (3 : Int32) then
      bd (fX6_pass st) fun st_4 =>
      some st_4
    else
      bd (fX6_wrong (1 : Int32) st) fun st_5 =>
      bd (fX6_pass st_5) fun st_6 =>
      some st_6
  else
    bd (fX6_pass st) fun st_2 =>
    some st_2
set_option maxHeartbeats 1000000 in
theorem bX6_readEnd (C : Cx E s0 b p s m args meth c cX6_readEnd 1 "EarthMeshModel" none) (hI : Sx E) (st : St) {x : St} (hx : fX6_readEnd st = some x) {H : Heap} {locs : List Loc} {ls : Array Slot} (h : XH E (sg st) s H locs) (hl : lv_has ls 1 [(0, .ref (E.ad 68))]) : W p l e rmX6_readEnd s m args below meth c H locs 0 0 (MQ below (Qx E none (sg x)) args s 0 0 (gA E.HB)) (F0 m 0 ls []) := by
  unfold fX6_readEnd at hx
  refine lv_aload_n C.x C.bc dX6_readEnd_0 rfl (lv_at hl 0 rfl) ?_
  refine gt_X6_136_68 C hI h dX6_readEnd_1 ?_
  refine lv_if_ne (tgt := 20) C.x C.bc dX6_readEnd_4 (by decide) (fun c_1 => ?_) (fun c_1 => ?_)
  · have hx := ge_f hx c_1
    refine lv_aload_n C.x C.bc dX6_readEnd_20 rfl (lv_at hl 0 rfl) ?_
    obtain ⟨st_2, hf_2, hx⟩ := bd_e hx
    refine cX6_163_X6_pass C hI h hf_2 ⟨Nat.le_of_ble_eq_true rfl, Nat.le_of_ble_eq_true rfl⟩ ⟨Nat.zero_le _, Nat.zero_le _⟩ hl.1 (Nat.le_of_ble_eq_true rfl) dX6_readEnd_21 (fun H locs h => ?_)
    obtain rfl := Option.some.inj hx
    exact x_vret C h dX6_readEnd_24
  · have hx := ge_t hx c_1
    refine lv_aload_n C.x C.bc dX6_readEnd_7 rfl (lv_at hl 0 rfl) ?_
    refine gt_X6_113_68 C hI h dX6_readEnd_8 ?_
    refine lv_iconst (v := (3 : Int32)) C.x C.bc dX6_readEnd_11 (by decide) ?_
    refine lv_icmp_eq (tgt := 20) C.x C.bc dX6_readEnd_12 (by decide) (fun c_3 => ?_) (fun c_3 => ?_)
    · have hx := ge_t hx c_3
      refine lv_aload_n C.x C.bc dX6_readEnd_20 rfl (lv_at hl 0 rfl) ?_
      obtain ⟨st_4, hf_4, hx⟩ := bd_e hx
      refine cX6_163_X6_pass C hI h hf_4 ⟨Nat.le_of_ble_eq_true rfl, Nat.le_of_ble_eq_true rfl⟩ ⟨Nat.zero_le _, Nat.zero_le _⟩ hl.1 (Nat.le_of_ble_eq_true rfl) dX6_readEnd_21 (fun H locs h => ?_)
      obtain rfl := Option.some.inj hx
      exact x_vret C h dX6_readEnd_24
    · have hx := ge_f hx c_3
      refine lv_aload_n C.x C.bc dX6_readEnd_15 rfl (lv_at hl 0 rfl) ?_
      refine lv_iconst (v := (1 : Int32)) C.x C.bc dX6_readEnd_16 (by decide) ?_
      obtain ⟨st_5, hf_5, hx⟩ := bd_e hx
      refine cX6_156_X6_wrong C hI h hf_5 ⟨Nat.le_of_ble_eq_true rfl, Nat.le_of_ble_eq_true rfl⟩ ⟨Nat.zero_le _, Nat.zero_le _⟩ hl.1 (Nat.le_of_ble_eq_true rfl) dX6_readEnd_17 (fun H locs h => ?_)
      refine lv_aload_n C.x C.bc dX6_readEnd_20 rfl (lv_at hl 0 rfl) ?_
      obtain ⟨st_6, hf_6, hx⟩ := bd_e hx
      refine cX6_163_X6_pass C hI h hf_6 ⟨Nat.le_of_ble_eq_true rfl, Nat.le_of_ble_eq_true rfl⟩ ⟨Nat.zero_le _, Nat.zero_le _⟩ hl.1 (Nat.le_of_ble_eq_true rfl) dX6_readEnd_21 (fun H locs h => ?_)
      obtain rfl := Option.some.inj hx
      exact x_vret C h dX6_readEnd_24
theorem mX6_readEnd (hG : G0 E s0 b) (hI : Sx E)  {x : St} (hx : fX6_readEnd st = some x) : Mt l E s0 yX6_readEnd cX6_readEnd 1 none rmX6_readEnd [.ref (E.ad 68)] (sg st) none E (sg x) :=
  Mt.of hG (by decide) (Nat.le_of_ble_eq_true rfl) (fun p e s m below meth c ls C h hl => bX6_readEnd C hI st hx h hl)
abbrev rmX6_fault : Room := { frames := 0, cells := 0, slots := 0, locals := 0 }
def fX6_fault (st : St) : Option (Int32 × St) :=
  nm (uI st 68 1 (0 : Int32)) fun st_1 =>
  some ((st_1.1 68 15), st_1)
set_option maxHeartbeats 1000000 in
theorem bX6_fault (C : Cx E s0 b p s m args meth c cX6_fault 1 "EarthMeshModel" (some .int)) (hI : Sx E) (st : St) {x : Int32 × St} (hx : fX6_fault st = some x) {H : Heap} {locs : List Loc} {ls : Array Slot} (h : XH E (sg st) s H locs) (hl : lv_has ls 1 [(0, .ref (E.ad 68))]) : W p l e rmX6_fault s m args below meth c H locs 0 0 (MQ below (Qx E (some (.int x.1)) (sg x.2)) args s 0 0 (gA E.HB)) (F0 m 0 ls []) := by
  unfold fX6_fault at hx
  refine lv_aload_n C.x C.bc dX6_fault_0 rfl (lv_at hl 0 rfl) ?_
  refine lv_iconst (v := (0 : Int32)) C.x C.bc dX6_fault_1 (by decide) ?_
  obtain ⟨st_1, e_1, hx⟩ := nm_x hx
  refine pt_X6_90_68 C hI h e_1 dX6_fault_2 (fun H locs h => ?_)
  refine lv_aload_n C.x C.bc dX6_fault_5 rfl (lv_at hl 0 rfl) ?_
  refine gt_X6_44_68 C hI h dX6_fault_6 ?_
  obtain rfl := Option.some.inj hx
  exact x_iret C h dX6_fault_9
theorem mX6_fault (hG : G0 E s0 b) (hI : Sx E)  {x : Int32 × St} (hx : fX6_fault st = some x) : Mt l E s0 yX6_fault cX6_fault 1 (some .int) rmX6_fault [.ref (E.ad 68)] (sg st) (some (.int x.1)) E (sg x.2) :=
  Mt.of hG (by decide) (Nat.le_of_ble_eq_true rfl) (fun p e s m below meth c ls C h hl => bX6_fault C hI st hx h hl)
abbrev rmX6_part : Room := { frames := 0, cells := 0, slots := 0, locals := 0 }
def fX6_part (v1 : Int32) (v2 : Int32) (st : St) : Option (Int32) :=
  gd (inB (((10 : Int32) + ((12 : Int32) * v2)) + v1) 46) <|
  some (st.1 70 (((10 : Int32) + ((12 : Int32) * v2)) + v1).toNatClampNeg)
set_option maxHeartbeats 1000000 in
theorem bX6_part (C : Cx E s0 b p s m args meth c cX6_part 3 "EarthMeshModel" (some .int)) (hI : Sx E) (v1 : Int32) (v2 : Int32) (st : St) {x : Int32} (hx : fX6_part v1 v2 st = some x) {H : Heap} {locs : List Loc} {ls : Array Slot} (h : XH E (sg st) s H locs) (hl : lv_has ls 3 [(0, .ref (E.ad 68)), (1, .int v1), (2, .int v2)]) : W p l e rmX6_part s m args below meth c H locs 0 0 (MQ below (Qx E (some (.int x)) (sg st)) args s 0 0 (gA E.HB)) (F0 m 0 ls []) := by
  unfold fX6_part at hx
  refine lv_aload_n C.x C.bc dX6_part_0 rfl (lv_at hl 0 rfl) ?_
  refine gt_X6_31_68 C hI h dX6_part_1 ?_
  refine lv_bipush (v := (10 : Int32)) C.x C.bc dX6_part_4 (by decide) ?_
  refine lv_bipush (v := (12 : Int32)) C.x C.bc dX6_part_6 (by decide) ?_
  refine lv_iload_n C.x C.bc dX6_part_8 rfl (lv_at hl 2 rfl) ?_
  refine lv_imul C.x C.bc dX6_part_9 ?_
  refine lv_iadd C.x C.bc dX6_part_10 ?_
  refine lv_iload_n C.x C.bc dX6_part_11 rfl (lv_at hl 1 rfl) ?_
  refine lv_iadd C.x C.bc dX6_part_12 ?_
  obtain ⟨g_1, hx⟩ := gd_e hx
  refine x_iald C h 70 46 (hI 70 (by decide)) k_70 g_1 dX6_part_13 ?_
  obtain rfl := Option.some.inj hx
  exact x_iret C h dX6_part_14
theorem mX6_part (hG : G0 E s0 b) (hI : Sx E) {v1 : Int32} {v2 : Int32} {x : Int32} (hx : fX6_part v1 v2 st = some x) : Mt l E s0 yX6_part cX6_part 3 (some .int) rmX6_part [.ref (E.ad 68), .int v1, .int v2] (sg st) (some (.int x)) E (sg st) :=
  Mt.of hG (by decide) (Nat.le_of_ble_eq_true rfl) (fun p e s m below meth c ls C h hl => bX6_part C hI v1 v2 st hx h hl)
theorem cX6_194_X6_part {a0 : Int32} {a1 : Int32} {r : Int32} (C : Cx E s0 b p s m args meth c cc nL "EarthMeshModel" rt) (hI : Sx E) (h : XH E (sg st) s H locs) (hf : fX6_part a0 a1 st = some r) (hR : rmX6_part.frames + 1 ≤ R.frames ∧ 16 + (3 + 11) + rmX6_part.locals ≤ R.locals) (h0 : cells ≤ R.cells ∧ slots ≤ R.slots) (hsz : ls.size = nL) (hcat : (rest.map fun v => v.category).sum ≤ 16) (hdg : decode cc pc = .ok (.invokevirtual 194, 3)) (kk : ∀ (H : Heap) (locs : List Loc), XH E (sg st) s H locs → W p l e R s m args below meth c H locs cells slots Q (F0 m (pc + 3) ls (.int r :: rest))) : W p l e R s m args below meth c H locs cells slots Q (F0 m pc ls (.int a1 :: .int a0 :: .ref (E.ad 68) :: rest)) :=
  x_callV (n := 2) (As := [.int a0, .int a1]) C h 68 5 (hI 68 (by decide)) k_68 rfl (mX6_part C.g hI hf) (lw_V q1827 q1829 qs86 q136 q1830) ⟨rfl, by decide +kernel, by decide +kernel, by decide +kernel⟩ hR ⟨rfl, rfl⟩ h0 rfl hsz rfl hcat hdg kk
abbrev rmX6_end : Room := { frames := 0, cells := 0, slots := 0, locals := 0 }
def fX6_end (v1 : Int32) (v2 : Int32) (st : St) : Option (Int32) :=
  if v2 = 0 then
    some (v1 + (1 : Int32))
  else
    gd (inB (0 : Int32) 46) <|
    some (v1 + (st.1 70 (0 : Int32).toNatClampNeg))
set_option maxHeartbeats 1000000 in
theorem bX6_end (C : Cx E s0 b p s m args meth c cX6_end 3 "EarthMeshModel" (some .int)) (hI : Sx E) (v1 : Int32) (v2 : Int32) (st : St) {x : Int32} (hx : fX6_end v1 v2 st = some x) {H : Heap} {locs : List Loc} {ls : Array Slot} (h : XH E (sg st) s H locs) (hl : lv_has ls 3 [(0, .ref (E.ad 68)), (1, .int v1), (2, .int v2)]) : W p l e rmX6_end s m args below meth c H locs 0 0 (MQ below (Qx E (some (.int x)) (sg st)) args s 0 0 (gA E.HB)) (F0 m 0 ls []) := by
  unfold fX6_end at hx
  refine lv_iload_n C.x C.bc dX6_end_0 rfl (lv_at hl 2 rfl) ?_
  refine lv_if_ne (tgt := 10) C.x C.bc dX6_end_1 (by decide) (fun c_1 => ?_) (fun c_1 => ?_)
  · have hx := ge_f hx c_1
    refine lv_iload_n C.x C.bc dX6_end_10 rfl (lv_at hl 1 rfl) ?_
    refine lv_aload_n C.x C.bc dX6_end_11 rfl (lv_at hl 0 rfl) ?_
    refine gt_X6_31_68 C hI h dX6_end_12 ?_
    refine lv_iconst (v := (0 : Int32)) C.x C.bc dX6_end_15 (by decide) ?_
    obtain ⟨g_2, hx⟩ := gd_e hx
    refine x_iald C h 70 46 (hI 70 (by decide)) k_70 g_2 dX6_end_16 ?_
    refine lv_iadd C.x C.bc dX6_end_17 ?_
    obtain rfl := Option.some.inj hx
    exact x_iret C h dX6_end_18
  · have hx := ge_t hx c_1
    refine lv_iload_n C.x C.bc dX6_end_4 rfl (lv_at hl 1 rfl) ?_
    refine lv_iconst (v := (1 : Int32)) C.x C.bc dX6_end_5 (by decide) ?_
    refine lv_iadd C.x C.bc dX6_end_6 ?_
    refine lv_goto (tgt := 18) C.x C.bc dX6_end_7 (by decide) ?_
    obtain rfl := Option.some.inj hx
    exact x_iret C h dX6_end_18
theorem mX6_end (hG : G0 E s0 b) (hI : Sx E) {v1 : Int32} {v2 : Int32} {x : Int32} (hx : fX6_end v1 v2 st = some x) : Mt l E s0 yX6_end cX6_end 3 (some .int) rmX6_end [.ref (E.ad 68), .int v1, .int v2] (sg st) (some (.int x)) E (sg st) :=
  Mt.of hG (by decide) (Nat.le_of_ble_eq_true rfl) (fun p e s m below meth c ls C h hl => bX6_end C hI v1 v2 st hx h hl)
theorem cX6_197_X6_end {a0 : Int32} {a1 : Int32} {r : Int32} (C : Cx E s0 b p s m args meth c cc nL "EarthMeshModel" rt) (hI : Sx E) (h : XH E (sg st) s H locs) (hf : fX6_end a0 a1 st = some r) (hR : rmX6_end.frames + 1 ≤ R.frames ∧ 16 + (3 + 11) + rmX6_end.locals ≤ R.locals) (h0 : cells ≤ R.cells ∧ slots ≤ R.slots) (hsz : ls.size = nL) (hcat : (rest.map fun v => v.category).sum ≤ 16) (hdg : decode cc pc = .ok (.invokevirtual 197, 3)) (kk : ∀ (H : Heap) (locs : List Loc), XH E (sg st) s H locs → W p l e R s m args below meth c H locs cells slots Q (F0 m (pc + 3) ls (.int r :: rest))) : W p l e R s m args below meth c H locs cells slots Q (F0 m pc ls (.int a1 :: .int a0 :: .ref (E.ad 68) :: rest)) :=
  x_callV (n := 2) (As := [.int a0, .int a1]) C h 68 5 (hI 68 (by decide)) k_68 rfl (mX6_end C.g hI hf) (lw_V q1831 q1833 qs87 q136 q1834) ⟨rfl, by decide +kernel, by decide +kernel, by decide +kernel⟩ hR ⟨rfl, rfl⟩ h0 rfl hsz rfl hcat hdg kk
abbrev rmX6_nodes_70 : Room := { frames := 0, cells := 0, slots := 0, locals := 0 }
def fX6_nodes_70 (st : St) : Option (Int32) :=
  gd (inB (0 : Int32) 46) <|
  gd (inB (1 : Int32) 46) <|
  some ((st.1 70 (0 : Int32).toNatClampNeg) * (st.1 70 (1 : Int32).toNatClampNeg))
set_option maxHeartbeats 1000000 in
theorem bX6_nodes_70 (C : Cx E s0 b p s m args meth c cX6_nodes 1 "EarthMeshModel" (some .int)) (hI : Sx E) (st : St) {x : Int32} (hx : fX6_nodes_70 st = some x) {H : Heap} {locs : List Loc} {ls : Array Slot} (h : XH E (sg st) s H locs) (hl : lv_has ls 1 [(0, .ref (E.ad 70))]) : W p l e rmX6_nodes_70 s m args below meth c H locs 0 0 (MQ below (Qx E (some (.int x)) (sg st)) args s 0 0 (gA E.HB)) (F0 m 0 ls []) := by
  unfold fX6_nodes_70 at hx
  refine lv_aload_n C.x C.bc dX6_nodes_0 rfl (lv_at hl 0 rfl) ?_
  refine lv_iconst (v := (0 : Int32)) C.x C.bc dX6_nodes_1 (by decide) ?_
  obtain ⟨g_1, hx⟩ := gd_e hx
  refine x_iald C h 70 46 (hI 70 (by decide)) k_70 g_1 dX6_nodes_2 ?_
  refine lv_aload_n C.x C.bc dX6_nodes_3 rfl (lv_at hl 0 rfl) ?_
  refine lv_iconst (v := (1 : Int32)) C.x C.bc dX6_nodes_4 (by decide) ?_
  obtain ⟨g_2, hx⟩ := gd_e hx
  refine x_iald C h 70 46 (hI 70 (by decide)) k_70 g_2 dX6_nodes_5 ?_
  refine lv_imul C.x C.bc dX6_nodes_6 ?_
  obtain rfl := Option.some.inj hx
  exact x_iret C h dX6_nodes_7
theorem mX6_nodes_70 (hG : G0 E s0 b) (hI : Sx E)  {x : Int32} (hx : fX6_nodes_70 st = some x) : Mt l E s0 yX6_nodes cX6_nodes 1 (some .int) rmX6_nodes_70 [.ref (E.ad 70)] (sg st) (some (.int x)) E (sg st) :=
  Mt.of hG (by decide) (Nat.le_of_ble_eq_true rfl) (fun p e s m below meth c ls C h hl => bX6_nodes_70 C hI st hx h hl)
theorem cX6_190_X6_nodes_70  {r : Int32} (C : Cx E s0 b p s m args meth c cc nL "EarthMeshModel" rt) (hI : Sx E) (h : XH E (sg st) s H locs) (hf : fX6_nodes_70 st = some r) (hR : rmX6_nodes_70.frames + 1 ≤ R.frames ∧ 16 + (1 + 11) + rmX6_nodes_70.locals ≤ R.locals) (h0 : cells ≤ R.cells ∧ slots ≤ R.slots) (hsz : ls.size = nL) (hcat : (rest.map fun v => v.category).sum ≤ 16) (hdg : decode cc pc = .ok (.invokestatic 190, 3)) (kk : ∀ (H : Heap) (locs : List Loc), XH E (sg st) s H locs → W p l e R s m args below meth c H locs cells slots Q (F0 m (pc + 3) ls (.int r :: rest))) : W p l e R s m args below meth c H locs cells slots Q (F0 m pc ls (.ref (E.ad 70) :: rest)) :=
  x_callS (n := 1) (As := [.ref (E.ad 70)]) C h (mX6_nodes_70 C.g hI hf) (lw_S q1824 q1825 q136 q1826) ⟨by decide +kernel, by decide +kernel, by decide +kernel⟩ hR ⟨rfl, rfl⟩ h0 rfl hsz rfl hcat hdg kk
abbrev rmX6_joinedTo : Room := { frames := 1, cells := 0, slots := 0, locals := 30 }
def fX6_joinedTo_93 (v2 : Int32) (v3 : Int32) (v4 : Int32) (v5 : Int32) (st : St) : Option ((Int32 × Int32 × Int32) ⊕ (Int32 × Int32)) :=
  nm (v5 + (1 : Int32)) fun v5_11 =>
  some (.inl (v2, v3, v5_11))
set_option maxHeartbeats 1000000 in
theorem bX6_joinedTo_93 (C : Cx E s0 b p s m args meth c cX6_joinedTo 7 "EarthMeshModel" (some .int)) (hI : Sx E) (v2 : Int32) (v3 : Int32) (v4 : Int32) (v5 : Int32) (st : St) {x : (Int32 × Int32 × Int32) ⊕ (Int32 × Int32)} (hx : fX6_joinedTo_93 v2 v3 v4 v5 st = some x) {Q : State → Prop} {G : Int32 × Int32 × Int32 → Prop} {X : Int32 × Int32 → Prop} (hG : ∀ (w2 : Int32) (w3 : Int32) (w5 : Int32), G (w2, w3, w5) → ∀ (H : Heap) (locs : List Loc) (ls : Array Slot), XH E (sg st) s H locs → lv_has ls 7 [(0, .ref (E.ad 68)), (2, .int w2), (3, .int w3), (4, .int v4), (5, .int w5)] → W p l e rmX6_joinedTo s m args below meth c H locs 0 0 Q (F0 m 30 ls [])) (hE0 : ∀ (w2 : Int32) (w3 : Int32), X (w2, w3) → ∀ (H : Heap) (locs : List Loc) (ls : Array Slot), XH E (sg st) s H locs → lv_has ls 7 [(0, .ref (E.ad 68)), (2, .int w2), (3, .int w3), (4, .int v4)] → W p l e rmX6_joinedTo s m args below meth c H locs 0 0 Q (F0 m 99 ls [])) (K : Kx G X x) {H : Heap} {locs : List Loc} {ls : Array Slot} (h : XH E (sg st) s H locs) (hl : lv_has ls 7 [(0, .ref (E.ad 68)), (2, .int v2), (3, .int v3), (4, .int v4), (5, .int v5)]) : W p l e rmX6_joinedTo s m args below meth c H locs 0 0 Q (F0 m 93 ls []) := by
  unfold fX6_joinedTo_93 at hx
  obtain ⟨v5_11, e_11, hx⟩ := nm_x hx
  refine lv_iinc (v := v5_11) (lv' := [(5, .int v5_11), (0, .ref (E.ad 68)), (2, .int v2), (3, .int v3), (4, .int v4)]) C.x C.bc dX6_joinedTo_93 hl (k := 4) rfl (by rw [e_11]; rfl) (by decide) rfl (fun ls hl => ?_)
  refine lv_goto (tgt := 30) C.x C.bc dX6_joinedTo_96 (by decide) ?_
  obtain rfl := Option.some.inj hx
  exact hG _ _ _ K _ _ _ h (lv_sub hl [1, 2, 3, 4, 0] rfl)
def fX6_joinedTo_30 (v2 : Int32) (v3 : Int32) (v4 : Int32) (v5 : Int32) (st : St) : Option ((Int32 × Int32 × Int32) ⊕ (Int32 × Int32)) :=
  if (2 : Int32) ≤ v5 then
    some (.inr (v2, v3))
  else
    bd (fX6_part v4 v5 st) fun r_6 =>
    if r_6 = 0 then
      fX6_joinedTo_93 v2 v3 v4 v5 st
    else
      bd (fX6_end v4 v5 st) fun r_8 =>
      nm (((1 : Int32) <<< (v4 &&& 31)) ||| ((1 : Int32) <<< (r_8 &&& 31))) fun v6_9 =>
      if (v2 &&& v6_9) = 0 then
        fX6_joinedTo_93 v2 v3 v4 v5 st
      else
        if (v2 &&& v6_9) = v6_9 then
          fX6_joinedTo_93 v2 v3 v4 v5 st
        else
          nm (v2 ||| v6_9) fun v2_13 =>
          fX6_joinedTo_93 v2_13 (1 : Int32) v4 v5 st
set_option maxHeartbeats 1000000 in
theorem bX6_joinedTo_30 (C : Cx E s0 b p s m args meth c cX6_joinedTo 7 "EarthMeshModel" (some .int)) (hI : Sx E) (v2 : Int32) (v3 : Int32) (v4 : Int32) (v5 : Int32) (st : St) {x : (Int32 × Int32 × Int32) ⊕ (Int32 × Int32)} (hx : fX6_joinedTo_30 v2 v3 v4 v5 st = some x) {Q : State → Prop} {G : Int32 × Int32 × Int32 → Prop} {X : Int32 × Int32 → Prop} (hG : ∀ (w2 : Int32) (w3 : Int32) (w5 : Int32), G (w2, w3, w5) → ∀ (H : Heap) (locs : List Loc) (ls : Array Slot), XH E (sg st) s H locs → lv_has ls 7 [(0, .ref (E.ad 68)), (2, .int w2), (3, .int w3), (4, .int v4), (5, .int w5)] → W p l e rmX6_joinedTo s m args below meth c H locs 0 0 Q (F0 m 30 ls [])) (hE0 : ∀ (w2 : Int32) (w3 : Int32), X (w2, w3) → ∀ (H : Heap) (locs : List Loc) (ls : Array Slot), XH E (sg st) s H locs → lv_has ls 7 [(0, .ref (E.ad 68)), (2, .int w2), (3, .int w3), (4, .int v4)] → W p l e rmX6_joinedTo s m args below meth c H locs 0 0 Q (F0 m 99 ls [])) (K : Kx G X x) {H : Heap} {locs : List Loc} {ls : Array Slot} (h : XH E (sg st) s H locs) (hl : lv_has ls 7 [(0, .ref (E.ad 68)), (2, .int v2), (3, .int v3), (4, .int v4), (5, .int v5)]) : W p l e rmX6_joinedTo s m args below meth c H locs 0 0 Q (F0 m 30 ls []) := by
  unfold fX6_joinedTo_30 at hx
  refine lv_iload C.x C.bc dX6_joinedTo_30 (lv_at hl 4 rfl) ?_
  refine lv_iconst (v := (2 : Int32)) C.x C.bc dX6_joinedTo_32 (by decide) ?_
  refine lv_icmp_ge (tgt := 99) C.x C.bc dX6_joinedTo_33 (by decide) (fun c_5 => ?_) (fun c_5 => ?_)
  · have hx := ge_t hx c_5
    obtain rfl := Option.some.inj hx
    exact hE0 _ _ K _ _ _ h (lv_sub hl [0, 1, 2, 3] rfl)
  · have hx := ge_f hx c_5
    refine lv_aload_n C.x C.bc dX6_joinedTo_36 rfl (lv_at hl 0 rfl) ?_
    refine lv_iload C.x C.bc dX6_joinedTo_37 (lv_at hl 3 rfl) ?_
    refine lv_iload C.x C.bc dX6_joinedTo_39 (lv_at hl 4 rfl) ?_
    obtain ⟨r_6, hf_6, hx⟩ := bd_e hx
    refine cX6_194_X6_part C hI h hf_6 ⟨Nat.le_of_ble_eq_true rfl, Nat.le_of_ble_eq_true rfl⟩ ⟨Nat.zero_le _, Nat.zero_le _⟩ hl.1 (Nat.le_of_ble_eq_true rfl) dX6_joinedTo_41 (fun H locs h => ?_)
    refine lv_if_ne (tgt := 50) C.x C.bc dX6_joinedTo_44 (by decide) (fun c_7 => ?_) (fun c_7 => ?_)
    · have hx := ge_f hx c_7
      refine lv_iconst (v := (1 : Int32)) C.x C.bc dX6_joinedTo_50 (by decide) ?_
      refine lv_iload C.x C.bc dX6_joinedTo_51 (lv_at hl 3 rfl) ?_
      refine lv_ishl C.x C.bc dX6_joinedTo_53 ?_
      refine lv_iconst (v := (1 : Int32)) C.x C.bc dX6_joinedTo_54 (by decide) ?_
      refine lv_aload_n C.x C.bc dX6_joinedTo_55 rfl (lv_at hl 0 rfl) ?_
      refine lv_iload C.x C.bc dX6_joinedTo_56 (lv_at hl 3 rfl) ?_
      refine lv_iload C.x C.bc dX6_joinedTo_58 (lv_at hl 4 rfl) ?_
      obtain ⟨r_8, hf_8, hx⟩ := bd_e hx
      refine cX6_197_X6_end C hI h hf_8 ⟨Nat.le_of_ble_eq_true rfl, Nat.le_of_ble_eq_true rfl⟩ ⟨Nat.zero_le _, Nat.zero_le _⟩ hl.1 (Nat.le_of_ble_eq_true rfl) dX6_joinedTo_60 (fun H locs h => ?_)
      refine lv_ishl C.x C.bc dX6_joinedTo_63 ?_
      refine lv_ior C.x C.bc dX6_joinedTo_64 ?_
      obtain ⟨v6_9, e_9, hx⟩ := nm_x hx
      refine x_ti e_9 ?_
      refine lv_istore (lv' := [(6, .int v6_9), (0, .ref (E.ad 68)), (2, .int v2), (3, .int v3), (4, .int v4), (5, .int v5)]) C.x C.bc dX6_joinedTo_65 hl (by decide) rfl (fun ls hl => ?_)
      refine lv_iload_n C.x C.bc dX6_joinedTo_67 rfl (lv_at hl 2 rfl) ?_
      refine lv_iload C.x C.bc dX6_joinedTo_68 (lv_at hl 0 rfl) ?_
      refine lv_iand C.x C.bc dX6_joinedTo_70 ?_
      refine lv_if_eq (tgt := 93) C.x C.bc dX6_joinedTo_71 (by decide) (fun c_10 => ?_) (fun c_10 => ?_)
      · have hx := ge_t hx c_10
        exact bX6_joinedTo_93 C hI v2 v3 v4 v5 st hx hG hE0 K h (lv_sub hl [1, 2, 3, 4, 5] rfl)
      · have hx := ge_f hx c_10
        refine lv_iload_n C.x C.bc dX6_joinedTo_74 rfl (lv_at hl 2 rfl) ?_
        refine lv_iload C.x C.bc dX6_joinedTo_75 (lv_at hl 0 rfl) ?_
        refine lv_iand C.x C.bc dX6_joinedTo_77 ?_
        refine lv_iload C.x C.bc dX6_joinedTo_78 (lv_at hl 0 rfl) ?_
        refine lv_icmp_ne (tgt := 86) C.x C.bc dX6_joinedTo_80 (by decide) (fun c_12 => ?_) (fun c_12 => ?_)
        · have hx := ge_f hx c_12
          refine lv_iload_n C.x C.bc dX6_joinedTo_86 rfl (lv_at hl 2 rfl) ?_
          refine lv_iload C.x C.bc dX6_joinedTo_87 (lv_at hl 0 rfl) ?_
          refine lv_ior C.x C.bc dX6_joinedTo_89 ?_
          obtain ⟨v2_13, e_13, hx⟩ := nm_x hx
          refine x_ti e_13 ?_
          refine lv_istore_n (lv' := [(2, .int v2_13), (6, .int v6_9), (0, .ref (E.ad 68)), (3, .int v3), (4, .int v4), (5, .int v5)]) C.x C.bc dX6_joinedTo_90 rfl hl (by decide) rfl (fun ls hl => ?_)
          refine lv_iconst (v := (1 : Int32)) C.x C.bc dX6_joinedTo_91 (by decide) ?_
          refine lv_istore_n (lv' := [(3, .int (1 : Int32)), (2, .int v2_13), (6, .int v6_9), (0, .ref (E.ad 68)), (4, .int v4), (5, .int v5)]) C.x C.bc dX6_joinedTo_92 rfl hl (by decide) rfl (fun ls hl => ?_)
          exact bX6_joinedTo_93 C hI v2_13 (1 : Int32) v4 v5 st hx hG hE0 K h (lv_sub hl [3, 1, 0, 4, 5] rfl)
        · have hx := ge_t hx c_12
          refine lv_goto (tgt := 93) C.x C.bc dX6_joinedTo_83 (by decide) ?_
          exact bX6_joinedTo_93 C hI v2 v3 v4 v5 st hx hG hE0 K h (lv_sub hl [1, 2, 3, 4, 5] rfl)
    · have hx := ge_t hx c_7
      refine lv_goto (tgt := 93) C.x C.bc dX6_joinedTo_47 (by decide) ?_
      exact bX6_joinedTo_93 C hI v2 v3 v4 v5 st hx hG hE0 K h (lv_sub hl [0, 1, 2, 3, 4] rfl)
set_option maxHeartbeats 1000000 in
theorem pX6_joinedTo_30 (C : Cx E s0 b p s m args meth c cX6_joinedTo 7 "EarthMeshModel" (some .int)) (hI : Sx E) (v4 : Int32) (st : St) {Q : State → Prop} {v2 : Int32} {v3 : Int32} {v5 : Int32} {n : Nat} {r : Int32 × Int32} (hx : iter (u3 fun v2 v3 v5 => fX6_joinedTo_30 v2 v3 v4 v5 st) n (v2, v3, v5) = some r) (hE : (fun t => ∀ (H : Heap) (locs : List Loc) (ls : Array Slot), XH E (sg st) s H locs → lv_has ls 7 [(0, .ref (E.ad 68)), (2, .int t.1), (3, .int t.2), (4, .int v4)] → W p l e rmX6_joinedTo s m args below meth c H locs 0 0 Q (F0 m 99 ls [])) r) {H : Heap} {locs : List Loc} {ls : Array Slot} (h : XH E (sg st) s H locs) (hl : lv_has ls 7 [(0, .ref (E.ad 68)), (2, .int v2), (3, .int v3), (4, .int v4), (5, .int v5)]) : W p l e rmX6_joinedTo s m args below meth c H locs 0 0 Q (F0 m 30 ls []) := by
  refine iter_W (G := fun t => ∀ (H : Heap) (locs : List Loc) (ls : Array Slot), XH E (sg st) s H locs → lv_has ls 7 [(0, .ref (E.ad 68)), (2, .int t.1), (3, .int t.2.1), (4, .int v4), (5, .int t.2.2)] → W p l e rmX6_joinedTo s m args below meth c H locs 0 0 Q (F0 m 30 ls [])) (E := fun t => ∀ (H : Heap) (locs : List Loc) (ls : Array Slot), XH E (sg st) s H locs → lv_has ls 7 [(0, .ref (E.ad 68)), (2, .int t.1), (3, .int t.2), (4, .int v4)] → W p l e rmX6_joinedTo s m args below meth c H locs 0 0 Q (F0 m 99 ls [])) (fun t x hx K H locs ls h hl => ?_) n _ r hx hE H locs ls h hl
  obtain ⟨v2, v3, v5⟩ := t
  exact bX6_joinedTo_30 C hI v2 v3 v4 v5 st hx (fun _ _ _ z => z) (fun _ _ z => z) K h hl
def fX6_joinedTo_15 (v2 : Int32) (v3 : Int32) (v4 : Int32) (st : St) : Option ((Int32 × Int32 × Int32) ⊕ (Int32 × Int32)) :=
  bd (fX6_nodes_70 st) fun r_3 =>
  if r_3 ≤ v4 then
    some (.inr (v2, v3))
  else
    bd (iter (u3 fun z2 z3 z5 => fX6_joinedTo_30 z2 z3 v4 z5 st) FU (v2, v3, (0 : Int32))) (u2 fun v2_14 v3_14 =>
    nm (v4 + (1 : Int32)) fun v4_15 =>
    some (.inl (v2_14, v3_14, v4_15)))
set_option maxHeartbeats 1000000 in
theorem bX6_joinedTo_15 (C : Cx E s0 b p s m args meth c cX6_joinedTo 7 "EarthMeshModel" (some .int)) (hI : Sx E) (v2 : Int32) (v3 : Int32) (v4 : Int32) (st : St) {x : (Int32 × Int32 × Int32) ⊕ (Int32 × Int32)} (hx : fX6_joinedTo_15 v2 v3 v4 st = some x) {Q : State → Prop} {G : Int32 × Int32 × Int32 → Prop} {X : Int32 × Int32 → Prop} (hG : ∀ (w2 : Int32) (w3 : Int32) (w4 : Int32), G (w2, w3, w4) → ∀ (H : Heap) (locs : List Loc) (ls : Array Slot), XH E (sg st) s H locs → lv_has ls 7 [(0, .ref (E.ad 68)), (2, .int w2), (3, .int w3), (4, .int w4)] → W p l e rmX6_joinedTo s m args below meth c H locs 0 0 Q (F0 m 15 ls [])) (hE0 : ∀ (w2 : Int32) (w3 : Int32), X (w2, w3) → ∀ (H : Heap) (locs : List Loc) (ls : Array Slot), XH E (sg st) s H locs → lv_has ls 7 [(0, .ref (E.ad 68)), (2, .int w2), (3, .int w3)] → W p l e rmX6_joinedTo s m args below meth c H locs 0 0 Q (F0 m 105 ls [])) (K : Kx G X x) {H : Heap} {locs : List Loc} {ls : Array Slot} (h : XH E (sg st) s H locs) (hl : lv_has ls 7 [(0, .ref (E.ad 68)), (2, .int v2), (3, .int v3), (4, .int v4)]) : W p l e rmX6_joinedTo s m args below meth c H locs 0 0 Q (F0 m 15 ls []) := by
  unfold fX6_joinedTo_15 at hx
  refine lv_iload C.x C.bc dX6_joinedTo_15 (lv_at hl 3 rfl) ?_
  refine lv_aload_n C.x C.bc dX6_joinedTo_17 rfl (lv_at hl 0 rfl) ?_
  refine gt_X6_31_68 C hI h dX6_joinedTo_18 ?_
  obtain ⟨r_3, hf_3, hx⟩ := bd_e hx
  refine cX6_190_X6_nodes_70 C hI h hf_3 ⟨Nat.le_of_ble_eq_true rfl, Nat.le_of_ble_eq_true rfl⟩ ⟨Nat.zero_le _, Nat.zero_le _⟩ hl.1 (Nat.le_of_ble_eq_true rfl) dX6_joinedTo_21 (fun H locs h => ?_)
  refine lv_icmp_ge (tgt := 105) C.x C.bc dX6_joinedTo_24 (by decide) (fun c_4 => ?_) (fun c_4 => ?_)
  · have hx := ge_t hx c_4
    obtain rfl := Option.some.inj hx
    exact hE0 _ _ K _ _ _ h (lv_sub hl [0, 1, 2] rfl)
  · have hx := ge_f hx c_4
    refine lv_iconst (v := (0 : Int32)) C.x C.bc dX6_joinedTo_27 (by decide) ?_
    refine lv_istore (lv' := [(5, .int (0 : Int32)), (0, .ref (E.ad 68)), (2, .int v2), (3, .int v3), (4, .int v4)]) C.x C.bc dX6_joinedTo_28 hl (by decide) rfl (fun ls hl => ?_)
    obtain ⟨⟨v2_14, v3_14⟩, hi_14, hx⟩ := bd_e hx
    have hx := u2_e hx
    refine pX6_joinedTo_30 C hI v4 st hi_14 (fun H locs ls h hl => ?_) h (lv_sub hl [1, 2, 3, 4, 0] rfl)
    obtain ⟨v4_15, e_15, hx⟩ := nm_x hx
    refine lv_iinc (v := v4_15) (lv' := [(4, .int v4_15), (0, .ref (E.ad 68)), (2, .int v2_14), (3, .int v3_14)]) C.x C.bc dX6_joinedTo_99 hl (k := 3) rfl (by rw [e_15]; rfl) (by decide) rfl (fun ls hl => ?_)
    refine lv_goto (tgt := 15) C.x C.bc dX6_joinedTo_102 (by decide) ?_
    obtain rfl := Option.some.inj hx
    exact hG _ _ _ K _ _ _ h (lv_sub hl [1, 2, 3, 0] rfl)
set_option maxHeartbeats 1000000 in
theorem pX6_joinedTo_15 (C : Cx E s0 b p s m args meth c cX6_joinedTo 7 "EarthMeshModel" (some .int)) (hI : Sx E) (st : St) {Q : State → Prop} {v2 : Int32} {v3 : Int32} {v4 : Int32} {n : Nat} {r : Int32 × Int32} (hx : iter (u3 fun v2 v3 v4 => fX6_joinedTo_15 v2 v3 v4 st) n (v2, v3, v4) = some r) (hE : (fun t => ∀ (H : Heap) (locs : List Loc) (ls : Array Slot), XH E (sg st) s H locs → lv_has ls 7 [(0, .ref (E.ad 68)), (2, .int t.1), (3, .int t.2)] → W p l e rmX6_joinedTo s m args below meth c H locs 0 0 Q (F0 m 105 ls [])) r) {H : Heap} {locs : List Loc} {ls : Array Slot} (h : XH E (sg st) s H locs) (hl : lv_has ls 7 [(0, .ref (E.ad 68)), (2, .int v2), (3, .int v3), (4, .int v4)]) : W p l e rmX6_joinedTo s m args below meth c H locs 0 0 Q (F0 m 15 ls []) := by
  refine iter_W (G := fun t => ∀ (H : Heap) (locs : List Loc) (ls : Array Slot), XH E (sg st) s H locs → lv_has ls 7 [(0, .ref (E.ad 68)), (2, .int t.1), (3, .int t.2.1), (4, .int t.2.2)] → W p l e rmX6_joinedTo s m args below meth c H locs 0 0 Q (F0 m 15 ls [])) (E := fun t => ∀ (H : Heap) (locs : List Loc) (ls : Array Slot), XH E (sg st) s H locs → lv_has ls 7 [(0, .ref (E.ad 68)), (2, .int t.1), (3, .int t.2)] → W p l e rmX6_joinedTo s m args below meth c H locs 0 0 Q (F0 m 105 ls [])) (fun t x hx K H locs ls h hl => ?_) n _ r hx hE H locs ls h hl
  obtain ⟨v2, v3, v4⟩ := t
  exact bX6_joinedTo_15 C hI v2 v3 v4 st hx (fun _ _ _ z => z) (fun _ _ z => z) K h hl
def fX6_joinedTo_6 (v2 : Int32) (v3 : Int32) (st : St) : Option ((Int32 × Int32) ⊕ (Int32)) :=
  if v3 = 0 then
    some (.inr v2)
  else
    bd (iter (u3 fun z2 z3 z4 => fX6_joinedTo_15 z2 z3 z4 st) FU (v2, (0 : Int32), (0 : Int32))) (u2 fun v2_16 v3_16 =>
    some (.inl (v2_16, v3_16)))
set_option maxHeartbeats 1000000 in
theorem bX6_joinedTo_6 (C : Cx E s0 b p s m args meth c cX6_joinedTo 7 "EarthMeshModel" (some .int)) (hI : Sx E) (v2 : Int32) (v3 : Int32) (st : St) {x : (Int32 × Int32) ⊕ (Int32)} (hx : fX6_joinedTo_6 v2 v3 st = some x) {Q : State → Prop} {G : Int32 × Int32 → Prop} {X : Int32 → Prop} (hG : ∀ (w2 : Int32) (w3 : Int32), G (w2, w3) → ∀ (H : Heap) (locs : List Loc) (ls : Array Slot), XH E (sg st) s H locs → lv_has ls 7 [(0, .ref (E.ad 68)), (2, .int w2), (3, .int w3)] → W p l e rmX6_joinedTo s m args below meth c H locs 0 0 Q (F0 m 6 ls [])) (hE0 : ∀ (w2 : Int32), X w2 → ∀ (H : Heap) (locs : List Loc) (ls : Array Slot), XH E (sg st) s H locs → lv_has ls 7 [(2, .int w2)] → W p l e rmX6_joinedTo s m args below meth c H locs 0 0 Q (F0 m 108 ls [])) (K : Kx G X x) {H : Heap} {locs : List Loc} {ls : Array Slot} (h : XH E (sg st) s H locs) (hl : lv_has ls 7 [(0, .ref (E.ad 68)), (2, .int v2), (3, .int v3)]) : W p l e rmX6_joinedTo s m args below meth c H locs 0 0 Q (F0 m 6 ls []) := by
  unfold fX6_joinedTo_6 at hx
  refine lv_iload_n C.x C.bc dX6_joinedTo_6 rfl (lv_at hl 2 rfl) ?_
  refine lv_if_eq (tgt := 108) C.x C.bc dX6_joinedTo_7 (by decide) (fun c_2 => ?_) (fun c_2 => ?_)
  · have hx := ge_t hx c_2
    obtain rfl := Option.some.inj hx
    exact hE0 _ K _ _ _ h (lv_sub hl [1] rfl)
  · have hx := ge_f hx c_2
    refine lv_iconst (v := (0 : Int32)) C.x C.bc dX6_joinedTo_10 (by decide) ?_
    refine lv_istore_n (lv' := [(3, .int (0 : Int32)), (0, .ref (E.ad 68)), (2, .int v2)]) C.x C.bc dX6_joinedTo_11 rfl hl (by decide) rfl (fun ls hl => ?_)
    refine lv_iconst (v := (0 : Int32)) C.x C.bc dX6_joinedTo_12 (by decide) ?_
    refine lv_istore (lv' := [(4, .int (0 : Int32)), (3, .int (0 : Int32)), (0, .ref (E.ad 68)), (2, .int v2)]) C.x C.bc dX6_joinedTo_13 hl (by decide) rfl (fun ls hl => ?_)
    obtain ⟨⟨v2_16, v3_16⟩, hi_16, hx⟩ := bd_e hx
    have hx := u2_e hx
    refine pX6_joinedTo_15 C hI st hi_16 (fun H locs ls h hl => ?_) h (lv_sub hl [2, 3, 1, 0] rfl)
    refine lv_goto (tgt := 6) C.x C.bc dX6_joinedTo_105 (by decide) ?_
    obtain rfl := Option.some.inj hx
    exact hG _ _ K _ _ _ h (lv_sub hl [0, 1, 2] rfl)
set_option maxHeartbeats 1000000 in
theorem pX6_joinedTo_6 (C : Cx E s0 b p s m args meth c cX6_joinedTo 7 "EarthMeshModel" (some .int)) (hI : Sx E) (st : St) {Q : State → Prop} {v2 : Int32} {v3 : Int32} {n : Nat} {r : Int32} (hx : iter (u2 fun v2 v3 => fX6_joinedTo_6 v2 v3 st) n (v2, v3) = some r) (hE : (fun t => ∀ (H : Heap) (locs : List Loc) (ls : Array Slot), XH E (sg st) s H locs → lv_has ls 7 [(2, .int t)] → W p l e rmX6_joinedTo s m args below meth c H locs 0 0 Q (F0 m 108 ls [])) r) {H : Heap} {locs : List Loc} {ls : Array Slot} (h : XH E (sg st) s H locs) (hl : lv_has ls 7 [(0, .ref (E.ad 68)), (2, .int v2), (3, .int v3)]) : W p l e rmX6_joinedTo s m args below meth c H locs 0 0 Q (F0 m 6 ls []) := by
  refine iter_W (G := fun t => ∀ (H : Heap) (locs : List Loc) (ls : Array Slot), XH E (sg st) s H locs → lv_has ls 7 [(0, .ref (E.ad 68)), (2, .int t.1), (3, .int t.2)] → W p l e rmX6_joinedTo s m args below meth c H locs 0 0 Q (F0 m 6 ls [])) (E := fun t => ∀ (H : Heap) (locs : List Loc) (ls : Array Slot), XH E (sg st) s H locs → lv_has ls 7 [(2, .int t)] → W p l e rmX6_joinedTo s m args below meth c H locs 0 0 Q (F0 m 108 ls [])) (fun t x hx K H locs ls h hl => ?_) n _ r hx hE H locs ls h hl
  obtain ⟨v2, v3⟩ := t
  exact bX6_joinedTo_6 C hI v2 v3 st hx (fun _ _ z => z) (fun _ z => z) K h hl
def fX6_joinedTo (v1 : Int32) (st : St) : Option (Int32) :=
  nm ((1 : Int32) <<< (v1 &&& 31)) fun v2_1 =>
  bd (iter (u2 fun z2 z3 => fX6_joinedTo_6 z2 z3 st) FU (v2_1, (1 : Int32))) (u1 fun v2_17 =>
  some v2_17)
set_option maxHeartbeats 1000000 in
theorem bX6_joinedTo (C : Cx E s0 b p s m args meth c cX6_joinedTo 7 "EarthMeshModel" (some .int)) (hI : Sx E) (v1 : Int32) (st : St) {x : Int32} (hx : fX6_joinedTo v1 st = some x) {H : Heap} {locs : List Loc} {ls : Array Slot} (h : XH E (sg st) s H locs) (hl : lv_has ls 7 [(0, .ref (E.ad 68)), (1, .int v1)]) : W p l e rmX6_joinedTo s m args below meth c H locs 0 0 (MQ below (Qx E (some (.int x)) (sg st)) args s 0 0 (gA E.HB)) (F0 m 0 ls []) := by
  unfold fX6_joinedTo at hx
  refine lv_iconst (v := (1 : Int32)) C.x C.bc dX6_joinedTo_0 (by decide) ?_
  refine lv_iload_n C.x C.bc dX6_joinedTo_1 rfl (lv_at hl 1 rfl) ?_
  refine lv_ishl C.x C.bc dX6_joinedTo_2 ?_
  obtain ⟨v2_1, e_1, hx⟩ := nm_x hx
  refine x_ti e_1 ?_
  refine lv_istore_n (lv' := [(2, .int v2_1), (0, .ref (E.ad 68)), (1, .int v1)]) C.x C.bc dX6_joinedTo_3 rfl hl (by decide) rfl (fun ls hl => ?_)
  refine lv_iconst (v := (1 : Int32)) C.x C.bc dX6_joinedTo_4 (by decide) ?_
  refine lv_istore_n (lv' := [(3, .int (1 : Int32)), (2, .int v2_1), (0, .ref (E.ad 68)), (1, .int v1)]) C.x C.bc dX6_joinedTo_5 rfl hl (by decide) rfl (fun ls hl => ?_)
  obtain ⟨v2_17, hi_17, hx⟩ := bd_e hx
  have hx := u1_e hx
  refine pX6_joinedTo_6 C hI st hi_17 (fun H locs ls h hl => ?_) h (lv_sub hl [2, 1, 0] rfl)
  refine lv_iload_n C.x C.bc dX6_joinedTo_108 rfl (lv_at hl 0 rfl) ?_
  obtain rfl := Option.some.inj hx
  exact x_iret C h dX6_joinedTo_109
theorem mX6_joinedTo (hG : G0 E s0 b) (hI : Sx E) {v1 : Int32} {x : Int32} (hx : fX6_joinedTo v1 st = some x) : Mt l E s0 yX6_joinedTo cX6_joinedTo 7 (some .int) rmX6_joinedTo [.ref (E.ad 68), .int v1] (sg st) (some (.int x)) E (sg st) :=
  Mt.of hG (by decide) (Nat.le_of_ble_eq_true rfl) (fun p e s m below meth c ls C h hl => bX6_joinedTo C hI v1 st hx h hl)
theorem cX6_245_X6_joinedTo {a0 : Int32} {r : Int32} (C : Cx E s0 b p s m args meth c cc nL "EarthMeshModel" rt) (hI : Sx E) (h : XH E (sg st) s H locs) (hf : fX6_joinedTo a0 st = some r) (hR : rmX6_joinedTo.frames + 1 ≤ R.frames ∧ 16 + (7 + 11) + rmX6_joinedTo.locals ≤ R.locals) (h0 : cells ≤ R.cells ∧ slots ≤ R.slots) (hsz : ls.size = nL) (hcat : (rest.map fun v => v.category).sum ≤ 16) (hdg : decode cc pc = .ok (.invokevirtual 245, 3)) (kk : ∀ (H : Heap) (locs : List Loc), XH E (sg st) s H locs → W p l e R s m args below meth c H locs cells slots Q (F0 m (pc + 3) ls (.int r :: rest))) : W p l e R s m args below meth c H locs cells slots Q (F0 m pc ls (.int a0 :: .ref (E.ad 68) :: rest)) :=
  x_callV (n := 1) (As := [.int a0]) C h 68 5 (hI 68 (by decide)) k_68 rfl (mX6_joinedTo C.g hI hf) (lw_V q1820 q1822 qs85 q136 q1823) ⟨rfl, by decide +kernel, by decide +kernel, by decide +kernel⟩ hR ⟨rfl, rfl⟩ h0 rfl hsz rfl hcat hdg kk
end
