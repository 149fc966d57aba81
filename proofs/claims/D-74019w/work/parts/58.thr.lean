set_option maxRecDepth 100000
section THR
variable {p : Program} {l : Launch} {e : Env} {R : Room} {s : State} {m : MethodId} {args : Array Value} {below : List Frame} {meth : Method} {c : Code} {H : Heap} {locs : List Loc} {cells slots : Nat} {Q : State → Prop}
variable {cc : ByteArray} {pc : Nat} {ls : Array Slot} {rest : List Value} {E : Wd} {s0 : State} {b nL : Nat} {own : String} {rt : Option FieldType} {g st : St}
def nr (v : Value) : Prop := v = .null ∨ ∃ t, v = .ref t
theorem zq_e {C' n d : String} {A : Nat → Prop} (h : vx_Zq C' n d A s H) : ∃ u, nr u ∧ va_Z C' n d u A s H := by
  rcases h.1 with h | ⟨t, h⟩
  · exact ⟨_, Or.inl rfl, h⟩
  · exact ⟨_, Or.inr ⟨t, rfl⟩, h⟩
theorem nr_n {ty : FieldType} {v : Value} (h : nr v) (ht : ty.isReference = true) : narrow ty v = v := by
  rcases h with rfl | ⟨t, rfl⟩ <;> (cases ty <;> first | rfl | cases ht)
theorem nr_f {ty : FieldType} {v : Value} (h : nr v) (ht : ty.isReference = true) : fits ty v = true := by
  rcases h with rfl | ⟨t, rfl⟩ <;> (cases ty <;> first | rfl | cases ht)
theorem lv_aload_nV (hexec : p.tables.exec = Jvm.exec) (hb : c.code = cc) {k : Fin 4} {i : Nat} {v : Value} (hv : nr v) (hdg : decode cc pc = .ok (.aload_n k, 1)) (hi : (k : Nat) = i) (hl : ls[i]? = some (.val v)) (kk : W p l e R s m args below meth c H locs cells slots Q (F0 m (pc + 1) ls (v :: rest))) : W p l e R s m args below meth c H locs cells slots Q (F0 m pc ls rest) := by
  rcases hv with rfl | ⟨t, rfl⟩
  · exact lv_aload_nN hexec hb hdg hi hl kk
  · exact lv_aload_n hexec hb hdg hi hl kk
abbrev rmJ1 : Room := { frames := 1, cells := 0, slots := 0, locals := 40 }
abbrev rmJ2 : Room := { frames := 2, cells := 0, slots := 0, locals := 80 }
abbrev rmX9 : Room := { frames := 3, cells := 0, slots := 0, locals := 120 }
abbrev rmX8 : Room := { frames := 3, cells := 0, slots := 0, locals := 120 }
def frz (N : Nat) (fs f : List Value) : Prop := f.length = N ∧ ∀ k, 6 ≤ k → f[k]? = fs[k]?
theorem frz_s {N : Nat} {fs f : List Value} (h : frz N fs f) {k : Nat} {v : Value} (hk : k < 6) : frz N fs (f.set k v) := ⟨by rw [List.length_set]; exact h.1, fun j hj => by rw [List.getElem?_set_ne (by omega)]; exact h.2 j hj⟩
theorem frz_0 {fs : List Value} : frz fs.length fs fs := ⟨rfl, fun _ _ => rfl⟩
theorem mJ1_init_3_7 (hG : G0 E s0 b) (hGX : GX E s0 l) {q : Nat} {fs : List Value} (hlen : fs.length = 8) {mv : Value} (hmv : nr mv) : MR l E s0 yJ1_init_3 cJ1_init_3 5 rmJ1 q [mv, .null, .int 0, .int 0] g 7 fs (frz 8 fs) := by
  refine MR.of hG (by decide) (by rcases hmv with rfl | ⟨t, rfl⟩ <;> exact Nat.le_of_ble_eq_true rfl) (fun p e s m below meth c ls C hname h hr hl => ?_)
  obtain ⟨u1, hu1, z1⟩ := zq_e (GX.at C.w h.1 hGX.2.1)
  obtain ⟨u2, hu2, z2⟩ := zq_e (GX.at C.w h.1 hGX.2.2)
  have hl : lv_has ls 5 [(0, .ref q), (1, mv), (2, .null), (3, .int 0), (4, .int 0)] := by rcases hmv with rfl | ⟨t, rfl⟩ <;> exact hl
  have hf : frz 8 fs fs := by rw [← hlen]; exact frz_0
  refine lv_aload_n C.x C.bc dJ1_init_3_0 rfl (lv_at hl 0 rfl) ?_
  refine W.objInit C.x C.bc C.ow (C.ts _ q506) (C.ts _ q172) (C.ts _ q173) rfl (hl.1.trans C.ml.symm) rfl dJ1_init_3_1 (Nat.le_of_ble_eq_true rfl) (Nat.le_of_ble_eq_true rfl) ?_
  refine W.eq (g2 := F0 m 4 ls []) rfl ?_
  refine lv_aload_n C.x C.bc dJ1_init_3_4 rfl (lv_at hl 0 rfl) ?_
  refine lv_aload_n C.x C.bc dJ1_init_3_5 rfl (lv_at hl 0 rfl) ?_
  refine x_putR C h hr 0 (Cn := RX8) (T := TX8) (N := 8) rfl (by decide) (by have := hf.1; omega) in_X8 tyX8 tyX8_ok nmX8 q528 rfl rfl (nr_n (Or.inr ⟨_, rfl⟩) rfl) (nr_f (Or.inr ⟨_, rfl⟩) rfl) dJ1_init_3_6 (fun H locs h hr => ?_)
  have hf := frz_s hf (k := 0) (v := .ref q) (by decide)
  refine lv_aload_n C.x C.bc dJ1_init_3_9 rfl (lv_at hl 0 rfl) ?_
  refine va_gets C.x C.bc z1 h.2 C.ow (C.ts _ q507) (fun _ h => h) dJ1_init_3_10 ?_
  refine x_putR C h hr 1 (Cn := RX8) (T := TX8) (N := 8) rfl (by decide) (by have := hf.1; omega) in_X8 tyX8 tyX8_ok nmX8 q529 rfl rfl (nr_n hu1 rfl) (nr_f hu1 rfl) dJ1_init_3_13 (fun H locs h hr => ?_)
  have hf := frz_s hf (k := 1) (v := u1) (by decide)
  refine lv_aload_n C.x C.bc dJ1_init_3_16 rfl (lv_at hl 0 rfl) ?_
  refine va_gets C.x C.bc z2 h.2 C.ow (C.ts _ q509) (fun _ h => h) dJ1_init_3_17 ?_
  refine x_putR C h hr 2 (Cn := RX8) (T := TX8) (N := 8) rfl (by decide) (by have := hf.1; omega) in_X8 tyX8 tyX8_ok nmX8 q530 rfl rfl (nr_n hu2 rfl) (nr_f hu2 rfl) dJ1_init_3_20 (fun H locs h hr => ?_)
  have hf := frz_s hf (k := 2) (v := u2) (by decide)
  refine lv_iload C.x C.bc dJ1_init_3_23 (lv_at hl 4 rfl) ?_
  refine lv_if_eq (tgt := 36) C.x C.bc dJ1_init_3_25 (by decide) (fun _ => ?_) (fun z => absurd rfl z)
  refine lv_aload_n C.x C.bc dJ1_init_3_36 rfl (lv_at hl 0 rfl) ?_
  refine lv_null C.x C.bc dJ1_init_3_37 ?_
  refine x_putR C h hr 1 (Cn := RX8) (T := TX8) (N := 8) rfl (by decide) (by have := hf.1; omega) in_X8 tyX8 tyX8_ok nmX8 q529 rfl rfl (nr_n (Or.inl rfl) rfl) (nr_f (Or.inl rfl) rfl) dJ1_init_3_38 (fun H locs h hr => ?_)
  have hf := frz_s hf (k := 1) (v := .null) (by decide)
  refine lv_aload_n C.x C.bc dJ1_init_3_41 rfl (lv_at hl 0 rfl) ?_
  refine lv_aload_nV C.x C.bc hmv dJ1_init_3_42 rfl (lv_at hl 1 rfl) ?_
  refine x_putR C h hr 3 (Cn := RX8) (T := TX8) (N := 8) rfl (by decide) (by have := hf.1; omega) in_X8 tyX8 tyX8_ok nmX8 q527 rfl rfl (nr_n hmv rfl) (nr_f hmv rfl) dJ1_init_3_43 (fun H locs h hr => ?_)
  have hf := frz_s hf (k := 3) (v := mv) (by decide)
  refine lv_aload_n C.x C.bc dJ1_init_3_46 rfl (lv_at hl 0 rfl) ?_
  refine lv_aload_nN C.x C.bc dJ1_init_3_47 rfl (lv_at hl 2 rfl) ?_
  refine x_putR C h hr 0 (Cn := RX8) (T := TX8) (N := 8) rfl (by decide) (by have := hf.1; omega) in_X8 tyX8 tyX8_ok nmX8 q528 rfl rfl (nr_n (Or.inl rfl) rfl) (nr_f (Or.inl rfl) rfl) dJ1_init_3_48 (fun H locs h hr => ?_)
  have hf := frz_s hf (k := 0) (v := .null) (by decide)
  refine lv_iload_n C.x C.bc dJ1_init_3_51 rfl (lv_at hl 3 rfl) ?_
  refine lv_if_ne (tgt := 60) C.x C.bc dJ1_init_3_52 (by decide) (fun z => absurd rfl z) (fun _ => ?_)
  refine lv_aload_n C.x C.bc dJ1_init_3_55 rfl (lv_at hl 0 rfl) ?_
  refine lv_null C.x C.bc dJ1_init_3_56 ?_
  refine x_putR C h hr 2 (Cn := RX8) (T := TX8) (N := 8) rfl (by decide) (by have := hf.1; omega) in_X8 tyX8 tyX8_ok nmX8 q530 rfl rfl (nr_n (Or.inl rfl) rfl) (nr_f (Or.inl rfl) rfl) dJ1_init_3_57 (fun H locs h hr => ?_)
  have hf := frz_s hf (k := 2) (v := .null) (by decide)
  exact x_rret C h hr hf dJ1_init_3_60
theorem mJ2_init_3_7 (hG : G0 E s0 b) (hGX : GX E s0 l) {q : Nat} {fs : List Value} (hlen : fs.length = 8) {mv : Value} (hmv : nr mv) : MR l E s0 yJ2_init_3 cJ2_init_3 5 rmJ2 q [mv, .null, .int 0, .int 0] g 7 fs (frz 8 fs) := by
  refine MR.of hG (by decide) (by rcases hmv with rfl | ⟨t, rfl⟩ <;> exact Nat.le_of_ble_eq_true rfl) (fun p e s m below meth c ls C hname h hr hl => ?_)
  have hl : lv_has ls 5 [(0, .ref q), (1, mv), (2, .null), (3, .int 0), (4, .int 0)] := by rcases hmv with rfl | ⟨t, rfl⟩ <;> exact hl
  refine lv_aload_n C.x C.bc dJ2_init_3_0 rfl (lv_at hl 0 rfl) ?_
  refine lv_aload_nV C.x C.bc hmv dJ2_init_3_1 rfl (lv_at hl 1 rfl) ?_
  refine lv_aload_nN C.x C.bc dJ2_init_3_2 rfl (lv_at hl 2 rfl) ?_
  refine lv_iload_n C.x C.bc dJ2_init_3_3 rfl (lv_at hl 3 rfl) ?_
  refine lv_iload C.x C.bc dJ2_init_3_4 (lv_at hl 4 rfl) ?_
  refine x_callR (n := 4) C h hr (mJ1_init_3_7 hG hGX hlen hmv) (lw_meth q972) q137 q970 q971 rfl (by decide +kernel) ⟨Nat.le_of_ble_eq_true rfl, Nat.le_of_ble_eq_true rfl⟩ ⟨Nat.le_refl _, Nat.le_refl _⟩ rfl hl.1 rfl (Nat.le_of_ble_eq_true rfl) dJ2_init_3_6 (fun H locs fs h hr hf => ?_)
  exact x_rret C h hr hf dJ2_init_3_9
theorem mJ1_init_3_8 (hG : G0 E s0 b) (hGX : GX E s0 l) {q : Nat} {fs : List Value} (hlen : fs.length = 6) {mv : Value} (hmv : nr mv) : MR l E s0 yJ1_init_3 cJ1_init_3 5 rmJ1 q [mv, .null, .int 0, .int 0] g 8 fs (frz 6 fs) := by
  refine MR.of hG (by decide) (by rcases hmv with rfl | ⟨t, rfl⟩ <;> exact Nat.le_of_ble_eq_true rfl) (fun p e s m below meth c ls C hname h hr hl => ?_)
  obtain ⟨u1, hu1, z1⟩ := zq_e (GX.at C.w h.1 hGX.2.1)
  obtain ⟨u2, hu2, z2⟩ := zq_e (GX.at C.w h.1 hGX.2.2)
  have hl : lv_has ls 5 [(0, .ref q), (1, mv), (2, .null), (3, .int 0), (4, .int 0)] := by rcases hmv with rfl | ⟨t, rfl⟩ <;> exact hl
  have hf : frz 6 fs fs := by rw [← hlen]; exact frz_0
  refine lv_aload_n C.x C.bc dJ1_init_3_0 rfl (lv_at hl 0 rfl) ?_
  refine W.objInit C.x C.bc C.ow (C.ts _ q506) (C.ts _ q172) (C.ts _ q173) rfl (hl.1.trans C.ml.symm) rfl dJ1_init_3_1 (Nat.le_of_ble_eq_true rfl) (Nat.le_of_ble_eq_true rfl) ?_
  refine W.eq (g2 := F0 m 4 ls []) rfl ?_
  refine lv_aload_n C.x C.bc dJ1_init_3_4 rfl (lv_at hl 0 rfl) ?_
  refine lv_aload_n C.x C.bc dJ1_init_3_5 rfl (lv_at hl 0 rfl) ?_
  refine x_putR C h hr 0 (Cn := RX9) (T := TX9) (N := 6) rfl (by decide) (by have := hf.1; omega) in_X9 tyX9 tyX9_ok nmX9 q528 rfl rfl (nr_n (Or.inr ⟨_, rfl⟩) rfl) (nr_f (Or.inr ⟨_, rfl⟩) rfl) dJ1_init_3_6 (fun H locs h hr => ?_)
  have hf := frz_s hf (k := 0) (v := .ref q) (by decide)
  refine lv_aload_n C.x C.bc dJ1_init_3_9 rfl (lv_at hl 0 rfl) ?_
  refine va_gets C.x C.bc z1 h.2 C.ow (C.ts _ q507) (fun _ h => h) dJ1_init_3_10 ?_
  refine x_putR C h hr 1 (Cn := RX9) (T := TX9) (N := 6) rfl (by decide) (by have := hf.1; omega) in_X9 tyX9 tyX9_ok nmX9 q529 rfl rfl (nr_n hu1 rfl) (nr_f hu1 rfl) dJ1_init_3_13 (fun H locs h hr => ?_)
  have hf := frz_s hf (k := 1) (v := u1) (by decide)
  refine lv_aload_n C.x C.bc dJ1_init_3_16 rfl (lv_at hl 0 rfl) ?_
  refine va_gets C.x C.bc z2 h.2 C.ow (C.ts _ q509) (fun _ h => h) dJ1_init_3_17 ?_
  refine x_putR C h hr 2 (Cn := RX9) (T := TX9) (N := 6) rfl (by decide) (by have := hf.1; omega) in_X9 tyX9 tyX9_ok nmX9 q530 rfl rfl (nr_n hu2 rfl) (nr_f hu2 rfl) dJ1_init_3_20 (fun H locs h hr => ?_)
  have hf := frz_s hf (k := 2) (v := u2) (by decide)
  refine lv_iload C.x C.bc dJ1_init_3_23 (lv_at hl 4 rfl) ?_
  refine lv_if_eq (tgt := 36) C.x C.bc dJ1_init_3_25 (by decide) (fun _ => ?_) (fun z => absurd rfl z)
  refine lv_aload_n C.x C.bc dJ1_init_3_36 rfl (lv_at hl 0 rfl) ?_
  refine lv_null C.x C.bc dJ1_init_3_37 ?_
  refine x_putR C h hr 1 (Cn := RX9) (T := TX9) (N := 6) rfl (by decide) (by have := hf.1; omega) in_X9 tyX9 tyX9_ok nmX9 q529 rfl rfl (nr_n (Or.inl rfl) rfl) (nr_f (Or.inl rfl) rfl) dJ1_init_3_38 (fun H locs h hr => ?_)
  have hf := frz_s hf (k := 1) (v := .null) (by decide)
  refine lv_aload_n C.x C.bc dJ1_init_3_41 rfl (lv_at hl 0 rfl) ?_
  refine lv_aload_nV C.x C.bc hmv dJ1_init_3_42 rfl (lv_at hl 1 rfl) ?_
  refine x_putR C h hr 3 (Cn := RX9) (T := TX9) (N := 6) rfl (by decide) (by have := hf.1; omega) in_X9 tyX9 tyX9_ok nmX9 q527 rfl rfl (nr_n hmv rfl) (nr_f hmv rfl) dJ1_init_3_43 (fun H locs h hr => ?_)
  have hf := frz_s hf (k := 3) (v := mv) (by decide)
  refine lv_aload_n C.x C.bc dJ1_init_3_46 rfl (lv_at hl 0 rfl) ?_
  refine lv_aload_nN C.x C.bc dJ1_init_3_47 rfl (lv_at hl 2 rfl) ?_
  refine x_putR C h hr 0 (Cn := RX9) (T := TX9) (N := 6) rfl (by decide) (by have := hf.1; omega) in_X9 tyX9 tyX9_ok nmX9 q528 rfl rfl (nr_n (Or.inl rfl) rfl) (nr_f (Or.inl rfl) rfl) dJ1_init_3_48 (fun H locs h hr => ?_)
  have hf := frz_s hf (k := 0) (v := .null) (by decide)
  refine lv_iload_n C.x C.bc dJ1_init_3_51 rfl (lv_at hl 3 rfl) ?_
  refine lv_if_ne (tgt := 60) C.x C.bc dJ1_init_3_52 (by decide) (fun z => absurd rfl z) (fun _ => ?_)
  refine lv_aload_n C.x C.bc dJ1_init_3_55 rfl (lv_at hl 0 rfl) ?_
  refine lv_null C.x C.bc dJ1_init_3_56 ?_
  refine x_putR C h hr 2 (Cn := RX9) (T := TX9) (N := 6) rfl (by decide) (by have := hf.1; omega) in_X9 tyX9 tyX9_ok nmX9 q530 rfl rfl (nr_n (Or.inl rfl) rfl) (nr_f (Or.inl rfl) rfl) dJ1_init_3_57 (fun H locs h hr => ?_)
  have hf := frz_s hf (k := 2) (v := .null) (by decide)
  exact x_rret C h hr hf dJ1_init_3_60
theorem mJ2_init_3_8 (hG : G0 E s0 b) (hGX : GX E s0 l) {q : Nat} {fs : List Value} (hlen : fs.length = 6) {mv : Value} (hmv : nr mv) : MR l E s0 yJ2_init_3 cJ2_init_3 5 rmJ2 q [mv, .null, .int 0, .int 0] g 8 fs (frz 6 fs) := by
  refine MR.of hG (by decide) (by rcases hmv with rfl | ⟨t, rfl⟩ <;> exact Nat.le_of_ble_eq_true rfl) (fun p e s m below meth c ls C hname h hr hl => ?_)
  have hl : lv_has ls 5 [(0, .ref q), (1, mv), (2, .null), (3, .int 0), (4, .int 0)] := by rcases hmv with rfl | ⟨t, rfl⟩ <;> exact hl
  refine lv_aload_n C.x C.bc dJ2_init_3_0 rfl (lv_at hl 0 rfl) ?_
  refine lv_aload_nV C.x C.bc hmv dJ2_init_3_1 rfl (lv_at hl 1 rfl) ?_
  refine lv_aload_nN C.x C.bc dJ2_init_3_2 rfl (lv_at hl 2 rfl) ?_
  refine lv_iload_n C.x C.bc dJ2_init_3_3 rfl (lv_at hl 3 rfl) ?_
  refine lv_iload C.x C.bc dJ2_init_3_4 (lv_at hl 4 rfl) ?_
  refine x_callR (n := 4) C h hr (mJ1_init_3_8 hG hGX hlen hmv) (lw_meth q972) q137 q970 q971 rfl (by decide +kernel) ⟨Nat.le_of_ble_eq_true rfl, Nat.le_of_ble_eq_true rfl⟩ ⟨Nat.le_refl _, Nat.le_refl _⟩ rfl hl.1 rfl (Nat.le_of_ble_eq_true rfl) dJ2_init_3_6 (fun H locs fs h hr hf => ?_)
  exact x_rret C h hr hf dJ2_init_3_9
theorem x_strR (C : Cx E s0 b p s m args meth c cc nL own rt) {k : Nat} {tx : String} (hw : Cond.stringRef own k tx ∈ lw_tbl) : ∃ a, vk_R own k tx a s := by
  have h0 := C.g.1 _ hw
  obtain ⟨_, _, _, a, -, -, -, -, -, hev⟩ := Cond.stringRef_spec (by rw [← C.w.alike.findClass]; exact C.ow) h0
  exact ⟨a, vk_R.warm C.w (vk_R.of h0 hev)⟩
theorem mX9_init (hG : G0 E s0 b) (hGX : GX E s0 l) {q : Nat} {fs : List Value} (hlen : fs.length = 6) : MR l E s0 yX9_init cX9_init 1 rmX9 q [] g 8 fs (frz 6 fs) := by
  refine MR.of hG (by decide) (Nat.le_of_ble_eq_true rfl) (fun p e s m below meth c ls C hname h hr hl => ?_)
  have hl : lv_has ls 1 [(0, .ref q)] := hl
  obtain ⟨a, ha⟩ := x_strR C q1140
  refine lv_aload_n C.x C.bc dX9_init_0 rfl (lv_at hl 0 rfl) ?_
  refine va_ldcS C.x C.bc C.ow ha dX9_init_1 ?_
  refine lv_null C.x C.bc dX9_init_3 ?_
  refine lv_iconst (v := (0 : Int32)) C.x C.bc dX9_init_4 (by decide) ?_
  refine lv_iconst (v := (0 : Int32)) C.x C.bc dX9_init_5 (by decide) ?_
  refine x_callR (n := 4) (As := [.ref a, .null, .int 0, .int 0]) C h hr (mJ2_init_3_8 hG hGX hlen (Or.inr ⟨a, rfl⟩)) (lw_meth q969) q138 q1141 q968 rfl (by decide +kernel) ⟨Nat.le_of_ble_eq_true rfl, Nat.le_of_ble_eq_true rfl⟩ ⟨Nat.le_refl _, Nat.le_refl _⟩ rfl hl.1 rfl (Nat.le_of_ble_eq_true rfl) dX9_init_6 (fun H locs fs h hr hf => ?_)
  exact x_rret C h hr hf dX9_init_9
theorem mX8_init (hG : G0 E s0 b) (hGX : GX E s0 l) {q : Nat} {fs : List Value} (hlen : fs.length = 8) {x y : Int32} : MR l E s0 yX8_init cX8_init 3 rmX8 q [.int x, .int y] g 7 fs (fun f => f[6]? = some (.int x) ∧ f[7]? = some (.int y)) := by
  refine MR.of hG (by decide) (Nat.le_of_ble_eq_true rfl) (fun p e s m below meth c ls C hname h hr hl => ?_)
  have hl : lv_has ls 3 [(0, .ref q), (1, .int x), (2, .int y)] := hl
  refine lv_aload_n C.x C.bc dX8_init_0 rfl (lv_at hl 0 rfl) ?_
  refine lv_null C.x C.bc dX8_init_1 ?_
  refine lv_null C.x C.bc dX8_init_2 ?_
  refine lv_iconst (v := (0 : Int32)) C.x C.bc dX8_init_3 (by decide) ?_
  refine lv_iconst (v := (0 : Int32)) C.x C.bc dX8_init_4 (by decide) ?_
  refine x_callR (n := 4) (As := [.null, .null, .int 0, .int 0]) C h hr (mJ2_init_3_7 hG hGX hlen (Or.inl rfl)) (lw_meth q969) q138 q967 q968 rfl (by decide +kernel) ⟨Nat.le_of_ble_eq_true rfl, Nat.le_of_ble_eq_true rfl⟩ ⟨Nat.le_refl _, Nat.le_refl _⟩ rfl hl.1 rfl (Nat.le_of_ble_eq_true rfl) dX8_init_5 (fun H locs fs h hr hf => ?_)
  refine lv_aload_n C.x C.bc dX8_init_8 rfl (lv_at hl 0 rfl) ?_
  refine lv_iload_n C.x C.bc dX8_init_9 rfl (lv_at hl 1 rfl) ?_
  refine x_putRF C h hr 6 (Cn := RX8) (T := TX8) (N := 8) rfl (by decide) (by have := hf.1; omega) in_X8 tyX8 tyX8_ok nmX8 q973 rfl rfl hname rfl rfl rfl dX8_init_10 (fun H locs h hr => ?_)
  refine lv_aload_n C.x C.bc dX8_init_13 rfl (lv_at hl 0 rfl) ?_
  refine lv_iload_n C.x C.bc dX8_init_14 rfl (lv_at hl 2 rfl) ?_
  refine x_putRF C h hr 7 (Cn := RX8) (T := TX8) (N := 8) rfl (by decide) (by rw [List.length_set]; have := hf.1; omega) in_X8 tyX8 tyX8_ok nmX8 q975 rfl rfl hname rfl rfl rfl dX8_init_15 (fun H locs h hr => ?_)
  refine x_rret C h hr ⟨?_, ?_⟩ dX8_init_18
  · rw [List.getElem?_set_ne (by decide), List.getElem?_set_self (by have := hf.1; omega)]
  · rw [List.getElem?_set_self (by rw [List.length_set]; have := hf.1; omega)]
end THR
