set_option maxRecDepth 100000
section X2ROWS
def jabsl (x : Int64) : Int64 := if 0 < x then x else -x
variable {p : Program} {l : Launch} {e : Env} {R : Room} {s : State} {m : MethodId} {args : Array Value} {below : List Frame} {meth : Method} {c : Code} {H : Heap} {locs : List Loc} {cells slots : Nat} {Q : State → Prop}
variable {cc : ByteArray} {pc : Nat} {ls : Array Slot} {rest : List Value} {E : Wd} {s0 : State} {b nL : Nat} {own : String} {rt : Option FieldType} {g st : St}
/-- the same for a member that the machine has no entry for, of a class that has entries -/
theorem Mt.ofF {y : MethodName} {ret : Option FieldType} {rm : Room} {av : List Value} {g' : St} {v : Option Value} {E' : Wd} (hG : G0 E s0 b) (hy : plainFor y = true) (hlen : (lg_sl av).length ≤ nL)
    (body : ∀ (p : Program) (e : Env) (s : State) (m : MethodId) (below : List Frame) (meth : Method) (c : Code) (ls : Array Slot), Cx E s0 b p s m av.toArray meth c cc nL y.cls ret → XH E g s s.heap [] → lv_has ls nL (lv_args 0 av) → W p l e rm s m av.toArray below meth c s.heap [] 0 0 (MQ below (Qx E' v g') av.toArray s rm.cells rm.slots (gA E.HB)) (F0 m 0 ls [])) : Mt l E s0 y cc nL ret rm av g v E' g' := by
  refine va_MetF (cc := cc) (maxL := nL) (ret := ret) hy rfl ?_
  intro p e s m args below meth c s₁ B hml hv
  obtain ⟨rfl, hX, hw⟩ := hv
  have hl := lv_entry av hlen
  rw [lg_entry_eq]
  exact body p e s m below meth c _ ⟨⟨B.exec, B.bytes, hml, findClass_of_methodNamed B.named, fun w h => atoms_spec (ws := ws_ y cc nL ret) B.pre w (List.mem_cons_of_mem _ h)⟩, B.notSynchronized, B.returns, hw, hG⟩ ⟨hX, va_S.rf⟩ hl
/-! ===== links among nest mates ===== -/
theorem x_nF (C : Cx E s0 b p s m args meth c cc nL own rt) {a : String} {i : Nat} {b' n d h' : String} (hw : Cond.fieldLinkNest a i b' n d h' ∈ lw_tbl) : (Cond.fieldLinkNest a i b' n d h').before args s = true := va_Nw.use rfl (va_Nw.warmF C.w (va_Nw.of rfl (C.g.1 _ hw)))
theorem x_getN (C : Cx E s0 b p s m args meth c cc nL own rt) (h : XH E g s H locs) (i ci k : Nat) (hi : i ∈ E.ids) (hs : sh i = .inl ci) (hk : k < nF ci) {Cn host : String} {T : u_T} {N index : Nat} (hc : xcl[ci]? = some (Cn, T, N)) (hN : k < N) (hin : ∀ w ∈ u_ws Cn T N, w ∈ lw_all) (hl : Cond.fieldLinkNest own index Cn (T k).2.1 (T k).2.2.1 host ∈ lw_tbl) (hT : (T k).1 = Cn) (hdg : decode cc pc = .ok (.getfield index, 3))
    {v : Value} (hv : fv E.ad (fT ci k) (g.1 i k) (g.2.1 i k) (g.2.2 i k) = v) (kk : W p l e R s m args below meth c H locs cells slots Q (F0 m (pc + 3) ls (v :: rest))) : W p l e R s m args below meth c H locs cells slots Q (F0 m pc ls (.ref (E.ad i) :: rest)) := by
  have ha := h.1.at hi
  rw [cf_o hs] at ha
  subst hT
  exact va_getN (D := E.D) (cl := xcl) (ws := [(E.ad i, .inr (ci, fl E.ad g i ci))]) (v := v) C.x C.bc C.ts hin C.ow C.k (fun z q hz => by
    cases z with
    | zero => cases hz; exact ha
    | succ z => simp at hz) 0 rfl hc k hN (x_nF C hl) (fun _ h9 => h9) (by rw [fl_get hk, hv]) hdg kk
theorem x_putN (C : Cx E s0 b p s m args meth c cc nL own rt) (h : XH E g s H locs) (i ci k : Nat) (hi : i ∈ E.ids) (hs : sh i = .inl ci) (hk : k < nF ci) {Cn host : String} {T : u_T} {N index : Nat} (hc : xcl[ci]? = some (Cn, T, N)) (hN : k < N) (hin : ∀ w ∈ u_ws Cn T N, w ∈ lw_all) (ty0 : Nat → FieldType) (hty : ∀ k, k < N → parseFieldDescriptor (T k).2.2.1 = some (ty0 k)) (hnm : ∀ a, a < N → ∀ b, b < N → a ≠ b → (T a).2.1 ≠ (T b).2.1) (hl : Cond.fieldLinkNest own index Cn (T k).2.1 (T k).2.2.1 host ∈ lw_tbl) (hT : (T k).1 = Cn) (hfin : (T k).2.2.2 = false) {ty : FieldType} {v : Value} (hd : ty0 k = ty) (hn : narrow ty v = v) (hfit : fits ty v = true) (hdg : decode cc pc = .ok (.putfield index, 3)) {g' : St}
    (hv : fv E.ad (fT ci k) (g'.1 i k) (g'.2.1 i k) (g'.2.2 i k) = v) (hsame : ∀ z, z ≠ k → g'.1 i z = g.1 i z ∧ g'.2.1 i z = g.2.1 i z ∧ g'.2.2 i z = g.2.2 i z) (hoth : ∀ j, j ≠ i → g'.1 j = g.1 j ∧ g'.2.1 j = g.2.1 j ∧ g'.2.2 j = g.2.2 j)
    (kk : ∀ (H : Heap) (locs : List Loc), XH E g' s H locs → W p l e R s m args below meth c H locs cells slots Q (F0 m (pc + 3) ls rest)) : W p l e R s m args below meth c H locs cells slots Q (F0 m pc ls (v :: .ref (E.ad i) :: rest)) := by
  have ha := h.1.at hi
  rw [cf_o hs] at ha
  have hd' : parseFieldDescriptor (T k).2.2.1 = some ty := by rw [hty k hN, hd]
  have hap := va_apart (own := own) C.ts hin ty0 hty hnm C.k hc
  obtain ⟨r, h1, cell, q1, q2, q3, q4⟩ := ha
  have hr : r = (Cn, T, N) := Option.some.inj (h1.symm.trans hc)
  subst hr
  obtain ⟨hS, hfc, kC, hkC, hkind⟩ := C.k.1 ci _ hc
  obtain ⟨cf', kf, fi, f, hi', hsl⟩ := hS k hN
  have hlay := C.ts _ (hin _ (u_in_lay hN))
  unfold u_lay at hlay
  rw [if_neg (by rw [hfin]; decide)] at hlay
  have hst := (u_facts hfc hkC (u_lays C.ts hin hN) hi').1
  have h6 := u_store hfc hkC hkind hlay hi' hd' hn hfit
  have hl' : (Cond.fieldLinkNest own index (T k).1 (T k).2.1 (T k).2.2.1 host).before args s = true := by rw [hT]; exact x_nF C hl
  refine va_WputK C.x C.bc (f := f) C.ow hl' hi' hst (by rw [q2]; exact h6) q1 q3 (by rw [hsl]; exact k2_hasslot (q4 k hN)) rfl rfl hdg fun H' e1 e2 e3 => ?_
  rw [hsl] at e1 ⊢
  refine kk H' _ ⟨h.1.set hi e2 e3 (e := .inr (ci, fl E.ad g' i ci)) ⟨_, hc, ?_⟩ (cf_up (cf_o hs) hoth), h.2.put e2 e3 (h.1.in hi)⟩
  rw [← fl_set hv hsame]
  exact t_OB.to (V := updV (vp_V (fl E.ad g i ci)) k v) ⟨_, e1, q2, q3, t_set q4 hap hN v⟩ (fun j _ => vp_updV_set (by simpa using hk) v j)
theorem x_getNI (C : Cx E s0 b p s m args meth c cc nL own rt) (h : XH E g s H locs) (i ci k : Nat) (hi : i ∈ E.ids) (hs : sh i = .inl ci) (hk : k < nF ci) (ht : fT ci k = 0) {Cn host : String} {T : u_T} {N index : Nat} (hc : xcl[ci]? = some (Cn, T, N)) (hN : k < N) (hin : ∀ w ∈ u_ws Cn T N, w ∈ lw_all) (hl : Cond.fieldLinkNest own index Cn (T k).2.1 (T k).2.2.1 host ∈ lw_tbl) (hT : (T k).1 = Cn) (hdg : decode cc pc = .ok (.getfield index, 3))
    (kk : W p l e R s m args below meth c H locs cells slots Q (F0 m (pc + 3) ls (.int (g.1 i k) :: rest))) : W p l e R s m args below meth c H locs cells slots Q (F0 m pc ls (.ref (E.ad i) :: rest)) :=
  x_getN C h i ci k hi hs hk hc hN hin hl hT hdg (by rw [ht]; rfl) kk
theorem x_getNL (C : Cx E s0 b p s m args meth c cc nL own rt) (h : XH E g s H locs) (i ci k : Nat) (hi : i ∈ E.ids) (hs : sh i = .inl ci) (hk : k < nF ci) (ht : fT ci k = 1) {Cn host : String} {T : u_T} {N index : Nat} (hc : xcl[ci]? = some (Cn, T, N)) (hN : k < N) (hin : ∀ w ∈ u_ws Cn T N, w ∈ lw_all) (hl : Cond.fieldLinkNest own index Cn (T k).2.1 (T k).2.2.1 host ∈ lw_tbl) (hT : (T k).1 = Cn) (hdg : decode cc pc = .ok (.getfield index, 3))
    (kk : W p l e R s m args below meth c H locs cells slots Q (F0 m (pc + 3) ls (.long (g.2.1 i k) :: rest))) : W p l e R s m args below meth c H locs cells slots Q (F0 m pc ls (.ref (E.ad i) :: rest)) :=
  x_getN C h i ci k hi hs hk hc hN hin hl hT hdg (by rw [ht]; rfl) kk
theorem x_getNP (C : Cx E s0 b p s m args meth c cc nL own rt) (h : XH E g s H locs) (i ci k j : Nat) (hj : g.2.2 i k = some j) (hi : i ∈ E.ids) (hs : sh i = .inl ci) (hk : k < nF ci) (ht : fT ci k = 2) {Cn host : String} {T : u_T} {N index : Nat} (hc : xcl[ci]? = some (Cn, T, N)) (hN : k < N) (hin : ∀ w ∈ u_ws Cn T N, w ∈ lw_all) (hl : Cond.fieldLinkNest own index Cn (T k).2.1 (T k).2.2.1 host ∈ lw_tbl) (hT : (T k).1 = Cn) (hdg : decode cc pc = .ok (.getfield index, 3))
    (kk : W p l e R s m args below meth c H locs cells slots Q (F0 m (pc + 3) ls (.ref (E.ad j) :: rest))) : W p l e R s m args below meth c H locs cells slots Q (F0 m pc ls (.ref (E.ad i) :: rest)) :=
  x_getN C h i ci k hi hs hk hc hN hin hl hT hdg (by rw [ht, hj]; rfl) kk
theorem y_putNI {st' : St} (C : Cx E s0 b p s m args meth c cc nL own rt) (h : XH E (sg st) s H locs) (i ci k : Nat) (hi : i ∈ E.ids) (hs : sh i = .inl ci) (hk : k < nF ci) (ht : fT ci k = 0) {Cn host : String} {T : u_T} {N index : Nat} (hc : xcl[ci]? = some (Cn, T, N)) (hN : k < N) (hin : ∀ w ∈ u_ws Cn T N, w ∈ lw_all) (ty0 : Nat → FieldType) (hty : ∀ k, k < N → parseFieldDescriptor (T k).2.2.1 = some (ty0 k)) (hnm : ∀ a, a < N → ∀ b, b < N → a ≠ b → (T a).2.1 ≠ (T b).2.1) (hl : Cond.fieldLinkNest own index Cn (T k).2.1 (T k).2.2.1 host ∈ lw_tbl) (hT : (T k).1 = Cn) (hfin : (T k).2.2.2 = false) (hd : ty0 k = .int) {v : Int32} (he : st' = uI st i k v) (hdg : decode cc pc = .ok (.putfield index, 3))
    (kk : ∀ (H : Heap) (locs : List Loc), XH E (sg st') s H locs → W p l e R s m args below meth c H locs cells slots Q (F0 m (pc + 3) ls rest)) : W p l e R s m args below meth c H locs cells slots Q (F0 m pc ls (.int v :: .ref (E.ad i) :: rest)) := by
  subst he
  exact x_putN (g' := uI (sg st) i k v) C h i ci k hi hs hk hc hN hin ty0 hty hnm hl hT hfin hd rfl rfl hdg (by rw [ht]; show Value.int (up2 st.1 i k v i k) = _; rw [up2_ss]) (fun z hz => ⟨up2_sn _ _ hz, rfl, rfl⟩) (fun j hj => uI_ne hj) kk
theorem x_tr {x y : Nat} (h : y = x) (k : W p l e R s m args below meth c H locs cells slots Q (F0 m pc ls (.ref (E.ad y) :: rest))) : W p l e R s m args below meth c H locs cells slots Q (F0 m pc ls (.ref (E.ad x) :: rest)) := h ▸ k
/-! ===== rows of arrays ===== -/
theorem inB_lt {j : Int32} {n : Nat} (h : inB j n) : j.toNatClampNeg < n := Nat.not_le.mp fun q => h (Or.inr q)
abbrev inG (v B n : Nat) : Prop := B ≤ v ∧ v < B + n
theorem kg_v {B n v : Nat} {K : Nat ⊕ (Nat × Nat)} (h : inG v B n) (kg : ∀ j, j < n → sh (B + j) = K) : sh v = K := by
  have := kg (v - B) (by omega)
  rwa [Nat.add_sub_cancel' h.1] at this
theorem y_row (C : Cx E s0 b p s m args meth c cc nL own rt) (h : XH E (sg st) s H locs) (i B t n : Nat) (hi : i ∈ E.ids) (hs : sh i = .inr (t, n)) (h4 : 4 ≤ t) {ty : FieldType} (ht : (xty E.cA)[t]? = some (E.cA t, ty)) (hr : ty.isReference = true) (hB : ∀ w k, PSt w i k = if k < n then some (B + k) else none) {j : Int32} (hin : inB j n) (hdg : decode cc pc = .ok (.aaload, 1))
    (kk : W p l e R s m args below meth c H locs cells slots Q (F0 m (pc + 1) ls (.ref (E.ad (B + j.toNatClampNeg)) :: rest))) : W p l e R s m args below meth c H locs cells slots Q (F0 m pc ls (.int j :: .ref (E.ad i) :: rest)) :=
  x_aald C h i t n hi hs h4 ht hr hin hdg (by show va_rf ((PSt st.2.2 i _).map E.ad) = _; rw [hB, if_pos (inB_lt hin)]; rfl) kk
/-- a row by a pointer that the state holds -/
theorem y_rowP (C : Cx E s0 b p s m args meth c cc nL own rt) (h : XH E (sg st) s H locs) (i t n : Nat) (hi : i ∈ E.ids) (hs : sh i = .inr (t, n)) (h4 : 4 ≤ t) {ty : FieldType} (ht : (xty E.cA)[t]? = some (E.cA t, ty)) (hr : ty.isReference = true) {v : Nat} {j : Int32} (hB : ∀ w k, w i k = some v → PSt w i k = some v) (hin : inB j n) (hv : st.2.2 i j.toNatClampNeg = some v) (hdg : decode cc pc = .ok (.aaload, 1))
    (kk : W p l e R s m args below meth c H locs cells slots Q (F0 m (pc + 1) ls (.ref (E.ad v) :: rest))) : W p l e R s m args below meth c H locs cells slots Q (F0 m pc ls (.int j :: .ref (E.ad i) :: rest)) :=
  x_aald C h i t n hi hs h4 ht hr hin hdg (by show va_rf ((PSt st.2.2 i _).map E.ad) = _; rw [hB _ _ hv]; rfl) kk
theorem arrayOver_J {args : Array Value} {s : State} {t : FieldType} (h : (Cond.arrayOver (.array t)).before args s = true) :
    ∃ comp c k, s.vm.findClass (FieldType.array t).toString = some comp ∧ s.vm.classes[c]? = some k ∧ k.kind = .array comp (.array t) ∧ s.vm.findClass ("[" ++ (FieldType.array t).toString) = some c := by
  unfold Cond.before at h
  simp only [Cond.holds, Cond.value, beq_iff_eq] at h
  cases hc : s.vm.findClass (FieldType.array t).toString with
  | none => simp [hc] at h
  | some comp =>
    simp only [hc, Option.bind_some, Option.bind_eq_some_iff, Option.map_eq_some_iff] at h
    obtain ⟨c, hi, k, hk, hb⟩ := h
    obtain ⟨hlt, hp, -⟩ := Array.findIdx?_eq_some_iff_getElem.mp hi
    have hkk : s.vm.classes[c] = k := (Array.getElem?_eq_some_iff.mp hk).2
    rw [hkk] at hp
    cases hkind : k.kind with
    | array component ty =>
      rw [hkind] at hb hp
      simp at hb hp
      exact ⟨comp, c, k, rfl, hk, by rw [hkind, hp, hb.1], hb.2⟩
    | _ => rw [hkind] at hb; simp at hb
theorem PSt_loc {w w' : Nat → Nat → Option Nat} {q : Nat} (h : w' q = w q) : PSt w' q = PSt w q := by
  funext k
  unfold PSt
  split <;> first | rfl | (split <;> first | rfl | rw [h]) | rw [h]
theorem P34 {v : Nat} (h : inG v 35 12) : ∀ (w : Nat → Nat → Option Nat) (k : Nat), w 34 k = some v → PSt w 34 k = some v := by
  intro w k hw
  show (w 34 k).filter _ = _
  rw [hw]
  have h1 := h.1
  have h2 : v < 47 := by have := h.2; omega
  simp [Option.filter, h1, h2]
theorem P34b : ∀ (w w' : Nat → Nat → Option Nat) (k : Nat), w 34 k = w' 34 k → PSt w 34 k = PSt w' 34 k := by
  intro w w' k hw
  show (w 34 k).filter _ = (w' 34 k).filter _
  rw [hw]
theorem y_aastJ {st' : St} (C : Cx E s0 b p s m args meth c cc nL own rt) (hw : Cond.arrayOver (.array .long) ∈ lw_tbl) (h : XH E (sg st) s H locs) (i n v nv : Nat) (hi : i ∈ E.ids) (hs : sh i = .inr (5, n)) (hB : ∀ w k, w i k = some v → PSt w i k = some v) (hB2 : ∀ w w' k, w i k = w' i k → PSt w i k = PSt w' i k) (hv : v ∈ E.ids) (hsv : sh v = .inr (1, nv)) {j : Int32} (hin : inB j n) (he : st' = uP st i j.toNatClampNeg (some v)) (hdg : decode cc pc = .ok (.aastore, 1))
    (kk : ∀ (H : Heap) (locs : List Loc), XH E (sg st') s H locs → W p l e R s m args below meth c H locs cells slots Q (F0 m (pc + 1) ls rest)) : W p l e R s m args below meth c H locs cells slots Q (F0 m pc ls (.ref (E.ad v) :: .int j :: .ref (E.ad i) :: rest)) := by
  subst he
  obtain ⟨comp, c1, k1, f1, f2, f3, f4⟩ := arrayOver_J (C.g.1 _ hw)
  have hAl := C.w.alike
  have hA5 : c1 = E.cA 5 := by
    have := (C.g.2.1.2 5 _ rfl).2
    exact Option.some.inj (f4.symm.trans this)
  have hA1 : comp = E.cA 1 := by
    have := (C.g.2.1.2 1 _ rfl).2
    exact Option.some.inj (f1.symm.trans this)
  subst hA5
  obtain ⟨k1', hk1', he1⟩ := hAl.2.2 _ _ f2
  have hkind : k1'.kind = .array comp (.array .long) := by rw [he1]; exact f3
  obtain ⟨-, kv, hkv, -⟩ := (C.k.2 1 _ rfl).1 nv (fun z => .long ((sg st).2.1 v z))
  have hlt := inB_lt hin
  refine W.aast C.x C.bc (k := k1') (kv := kv) (kcomp := kv) (comp := comp) (t := .array .long) (x_aP h.1 hi hs (by decide)) (fun q z => by cases z) (fun q => by cases q) hk1' hkind rfl (by rw [hA1]; exact hkv) ⟨fun q => hin (Or.inl q), by show _ < (arrV _ _ _).slots.size; rw [arrV_size]; exact hlt⟩ (x_aL h.1 hv hsv 0 _ rfl) (fun q z => by cases z) hkv (by rw [hA1]; exact va_asg _ _) rfl rfl hdg fun H1 e z oq => ?_
  refine kk H1 _ ⟨h.1.set hi z oq (e := .inl (E.cA 5, n, .inr (.inr (.inr (.inr (fun q => ((sg (uP st i j.toNatClampNeg (some v))).2.2 i q).map E.ad)))))) ?_ (cf_up (by rw [cf_a hs]; rfl) (fun q hq => ⟨rfl, rfl, ?_⟩)), h.2.put z oq (h.1.in hi)⟩
  · show H1[E.ad i]? = some (vp_cell _ _)
    rw [e, vp_cell_q, vp_cell_q, arrV_store]
    congr 2
    funext q
    show _ = va_rf ((PSt (up2 st.2.2 i _ (some v)) i q).map E.ad)
    by_cases hq : q = j.toNatClampNeg
    · subst hq
      rw [hB _ _ (up2_ss _ _ _ _)]
      simp [updV]
      rfl
    · rw [hB2 _ st.2.2 q (up2_sn _ _ hq)]
      simp [updV, hq]
  · exact PSt_loc (up2_nf _ _ hq)
end X2ROWS
