set_option maxRecDepth 100000
section X6ROWS
variable {p : Program} {l : Launch} {e : Env} {R : Room} {s : State} {m : MethodId} {args : Array Value} {below : List Frame} {meth : Method} {c : Code} {H : Heap} {locs : List Loc} {cells slots : Nat} {Q : State → Prop}
variable {cc : ByteArray} {pc : Nat} {ls : Array Slot} {rest : List Value} {E E0 : Wd} {s0 : State} {b nL : Nat} {own : String} {rt : Option FieldType} {g st : St}
/-! ===== objects that are no part of the world ===== -/
def Rw (E : Wd) (q ci : Nat) (fs : List Value) (H : Heap) : Prop := va_at E.D xcl (q, .inr (ci, fs)) H ∧ E.HB.size ≤ q ∧ (∀ i ∈ E.ids, E.ad i ≠ q) ∧ ∀ x ∈ E.xt, x.1 ≠ q
theorem iws_mem {ids : List Nat} {ad : Nat → Nat} {ce : Nat → va_E} {k : Nat} {x : Nat × va_E} (h : (iws ids ad ce)[k]? = some x) : ∃ i ∈ ids, x = (ad i, ce i) := by
  unfold iws at h
  rw [List.getElem?_map] at h
  cases hk : ids[k]? with
  | none => rw [hk] at h; cases h
  | some i =>
    rw [hk] at h
    exact ⟨i, List.mem_of_getElem? hk, (Option.some.inj h).symm⟩
theorem XG.out {q : Nat} {H1 : Heap} (h : XG E g H) (hq : E.HB.size ≤ q) (hn : ∀ i ∈ E.ids, E.ad i ≠ q) (hx : ∀ x ∈ E.xt, x.1 ≠ q) (z : H1.size = H.size) (o : ∀ j : Nat, j ≠ q → H1[j]? = H[j]?) : XG E g H1 := by
  obtain ⟨hP, hD, h3, h4, h5⟩ := h
  refine ⟨hP.kept (fun k x hx => ?_), hD, by rw [z]; exact h3, fun j hj => by rw [o j (by omega)]; exact h4 j hj, fun x hx' => ?_⟩
  · obtain ⟨i, hi, rfl⟩ := iws_mem hx
    exact o _ (hn i hi)
  · obtain ⟨a1, a2, a3⟩ := h5 x hx'
    exact ⟨by rw [o _ (hx x hx')]; exact a1, a2, a3⟩
theorem XG.lt (h : XG E g H) {i : Nat} (hi : i ∈ E.ids) : E.ad i < H.size := (h.at hi).lt
theorem XG.ltx (h : XG E g H) {x : Nat × Cell} (hx : x ∈ E.xt) : x.1 < H.size := (Array.getElem?_eq_some_iff.mp (h.2.2.2.2 x hx).1).1
theorem Rw.put {q ci : Nat} {fs fs' : List Value} {H1 : Heap} (h : Rw E q ci fs H) (ha : va_at E.D xcl (q, .inr (ci, fs')) H1) : Rw E q ci fs' H1 := ⟨ha, h.2⟩
theorem x_newR (C : Cx E s0 b p s m args meth c cc nL own rt) (h : XH E g s H locs) (ci : Nat) {Cn : String} {T : u_T} {N index : Nat} (hc : xcl[ci]? = some (Cn, T, N)) (hin : ∀ w ∈ u_ws Cn T N, w ∈ lw_all) (ty0 : Nat → FieldType) (hty : ∀ k, k < N → parseFieldDescriptor (T k).2.2.1 = some (ty0 k)) (hcl : Cond.classLink own index Cn ∈ lw_all) (hinst : Cond.instantiable Cn N ∈ lw_all) (hini : Cond.initialized Cn ∈ lw_all) (hcells : cells + 1 ≤ R.cells) (hslots : slots + N ≤ R.slots) (hdg : decode cc pc = .ok (.new index, 3))
    (kk : ∀ (q : Nat) (H : Heap), XH E g s H locs → Rw E q ci ((List.range N).map (fun k => defaultValue (ty0 k))) H → W p l e R s m args below meth c H locs (cells + 1) (slots + N) Q (F0 m (pc + 3) ls (.ref q :: rest))) : W p l e R s m args below meth c H locs cells slots Q (F0 m pc ls rest) := by
  have hKn := C.k.1 ci _ hc
  refine W.newcK C.x C.bc C.ow (C.ts _ hcl) (C.ts _ hinst) (C.ts _ hini) rfl hdg hcells hslots hKn.2.1 rfl fun H1 kC hkC e1 z1 o1 => ?_
  have hS := h.2
  refine kk H.size H1 ⟨h.1.grow (by omega) o1, ⟨Nat.le_trans hS.1 (by omega), fun x h1 h2 => (o1 x (Nat.lt_of_lt_of_le h1 hS.1)).trans (hS.2.1 x h1 h2), hS.2.2⟩⟩ ⟨?_, h.1.2.2.1, fun i hi => Nat.ne_of_lt (h.1.lt hi), fun x hx => Nat.ne_of_lt (h.1.ltx hx)⟩
  refine ⟨_, hc, (u_born ty0 C.ts hin hKn hkC e1 hty).to (fun k hk => ?_)⟩
  show defaultValue (ty0 k) = vp_V _ k
  unfold vp_V
  rw [List.getD_eq_getElem?_getD, List.getElem?_map, List.getElem?_range hk]
  rfl
theorem x_putR (C : Cx E s0 b p s m args meth c cc nL own rt) (h : XH E g s H locs) {q ci : Nat} {fs : List Value} (hr : Rw E q ci fs H) (k : Nat) {Cn : String} {T : u_T} {N index : Nat} (hc : xcl[ci]? = some (Cn, T, N)) (hN : k < N) (hlen : k < fs.length) (hin : ∀ w ∈ u_ws Cn T N, w ∈ lw_all) (ty0 : Nat → FieldType) (hty : ∀ k, k < N → parseFieldDescriptor (T k).2.2.1 = some (ty0 k)) (hnm : ∀ a, a < N → ∀ b, b < N → a ≠ b → (T a).2.1 ≠ (T b).2.1) (hl : Cond.fieldLink own index (T k).1 (T k).2.1 (T k).2.2.1 ∈ lw_all) (hfin : (T k).2.2.2 = false) {ty : FieldType} {v : Value} (hd : ty0 k = ty) (hn : narrow ty v = v) (hfit : fits ty v = true) (hdg : decode cc pc = .ok (.putfield index, 3))
    (kk : ∀ (H : Heap) (locs : List Loc), XH E g s H locs → Rw E q ci (fs.set k v) H → W p l e R s m args below meth c H locs cells slots Q (F0 m (pc + 3) ls rest)) : W p l e R s m args below meth c H locs cells slots Q (F0 m pc ls (v :: .ref q :: rest)) := by
  have hd' : parseFieldDescriptor (T k).2.2.1 = some ty := by rw [hty k hN, hd]
  have hap := va_apart (own := own) C.ts hin ty0 hty hnm C.k hc
  obtain ⟨r, h1, cell, q1, q2, q3, q4⟩ := hr.1
  have hr' : r = (Cn, T, N) := Option.some.inj (h1.symm.trans hc)
  subst hr'
  obtain ⟨hS, hfc, kC, hkC, hkind⟩ := C.k.1 ci _ hc
  obtain ⟨cf', kf, fi, f, hi', hsl⟩ := hS k hN
  have hlay := C.ts _ (hin _ (u_in_lay hN))
  unfold u_lay at hlay
  rw [if_neg (by rw [hfin]; decide)] at hlay
  have hst := (u_facts hfc hkC (u_lays C.ts hin hN) hi').1
  have h6 := u_store hfc hkC hkind hlay hi' hd' hn hfit
  refine W.putK C.x C.bc (f := f) ⟨C.ow, C.ts _ hl, ⟨_, _, _, hi'⟩, hst⟩ (by rw [q2]; exact h6) q1 q3 (by rw [hsl]; exact k2_hasslot (q4 k hN)) rfl rfl hdg fun H' e1 e2 e3 => ?_
  rw [hsl] at e1 ⊢
  refine kk H' _ ⟨h.1.out hr.2.1 hr.2.2.1 hr.2.2.2 e2 e3, h.2.put e2 e3 hr.2.1⟩ (hr.put ⟨_, hc, ?_⟩)
  exact t_OB.to (V := updV (vp_V fs) k v) ⟨_, e1, q2, q3, t_set q4 hap hN v⟩ (fun j _ => vp_updV_set hlen v j)
theorem x_putRF (C : Cx E s0 b p s m args meth c cc nL own rt) (h : XH E g s H locs) {q ci : Nat} {fs : List Value} (hr : Rw E q ci fs H) (k : Nat) {Cn : String} {T : u_T} {N index : Nat} (hc : xcl[ci]? = some (Cn, T, N)) (hN : k < N) (hlen : k < fs.length) (hin : ∀ w ∈ u_ws Cn T N, w ∈ lw_all) (ty0 : Nat → FieldType) (hty : ∀ k, k < N → parseFieldDescriptor (T k).2.2.1 = some (ty0 k)) (hnm : ∀ a, a < N → ∀ b, b < N → a ≠ b → (T a).2.1 ≠ (T b).2.1) (hl : Cond.fieldLink own index (T k).1 (T k).2.1 (T k).2.2.1 ∈ lw_all) (hT : (T k).1 = own) (hfin : (T k).2.2.2 = true) (hin2 : meth.name = "<init>") {ty : FieldType} {v : Value} (hd : ty0 k = ty) (hn : narrow ty v = v) (hfit : fits ty v = true) (hdg : decode cc pc = .ok (.putfield index, 3))
    (kk : ∀ (H : Heap) (locs : List Loc), XH E g s H locs → Rw E q ci (fs.set k v) H → W p l e R s m args below meth c H locs cells slots Q (F0 m (pc + 3) ls rest)) : W p l e R s m args below meth c H locs cells slots Q (F0 m pc ls (v :: .ref q :: rest)) := by
  have hd' : parseFieldDescriptor (T k).2.2.1 = some ty := by rw [hty k hN, hd]
  have hap := va_apart (own := own) C.ts hin ty0 hty hnm C.k hc
  obtain ⟨r, h1, cell, q1, q2, q3, q4⟩ := hr.1
  have hr' : r = (Cn, T, N) := Option.some.inj (h1.symm.trans hc)
  subst hr'
  obtain ⟨hS, hfc, kC, hkC, hkind⟩ := C.k.1 ci _ hc
  obtain ⟨cf', kf, fi, f, hi', hsl⟩ := hS k hN
  have hlay := C.ts _ (hin _ (u_in_lay hN))
  unfold u_lay at hlay
  rw [if_pos hfin] at hlay
  have hst := (u_facts hfc hkC (u_lays C.ts hin hN) hi').1
  have hcf : m.cls = cf' := by
    obtain ⟨_, _, c', _, _, _, -, -, hf', -, -, -, hown2, -⟩ := Cond.laysFinal_spec hlay
    have e1 : c' = cf' := by have := hi'.symm.trans hf'; simp at this; exact this.1.symm
    rw [hT] at hown2
    rw [← e1]; exact Option.some.inj (C.ow.symm.trans hown2)
  have h6 := u_fits hfc hkC hkind (Or.inr hlay) hi' hd' hn hfit
  refine W.putFinK C.x C.bc C.ow (C.ts _ hl) hi' hst hcf hin2 (by rw [q2]; exact h6) q1 q3 (by rw [hsl]; exact k2_hasslot (q4 k hN)) rfl rfl hdg fun H' e1 e2 e3 => ?_
  rw [hsl] at e1 ⊢
  refine kk H' _ ⟨h.1.out hr.2.1 hr.2.2.1 hr.2.2.2 e2 e3, h.2.put e2 e3 hr.2.1⟩ (hr.put ⟨_, hc, ?_⟩)
  exact t_OB.to (V := updV (vp_V fs) k v) ⟨_, e1, q2, q3, t_set q4 hap hN v⟩ (fun j _ => vp_updV_set hlen v j)
/-! constructors of such objects -/
def QR (E : Wd) (g : St) (q ci : Nat) (Pf : List Value → Prop) : Array Value → State → Outcome → State → Prop := fun _ st o t => (o = .returned none ∧ XG E g t.heap ∧ ∃ fs, Pf fs ∧ Rw E q ci fs t.heap) ∧ va_F (gA E.HB) st t
def MR (l : Launch) (E : Wd) (s0 : State) (y : MethodName) (cc : ByteArray) (nL : Nat) (rm : Room) (q : Nat) (As : List Value) (g : St) (ci : Nat) (fs : List Value) (Pf : List Value → Prop) : Prop :=
  Met l y (ws_ y cc nL none) rm (va_Pc (.ref q :: As) (fun U => (XG E g U.heap ∧ Rw E q ci fs U.heap) ∧ s0.WarmedH U.vm)) (QR E g q ci Pf) rm.cells rm.slots (gA E.HB)
theorem MR.of {y : MethodName} {rm : Room} {q ci : Nat} {As fs : List Value} {Pf : List Value → Prop} (hG : G0 E s0 b) (hy : plainName y.cls = true) (hlen : (lg_sl (.ref q :: As)).length ≤ nL)
    (body : ∀ (p : Program) (e : Env) (s : State) (m : MethodId) (below : List Frame) (meth : Method) (c : Code) (ls : Array Slot), Cx E s0 b p s m (Value.ref q :: As).toArray meth c cc nL y.cls none → meth.name = y.name → XH E g s s.heap [] → Rw E q ci fs s.heap → lv_has ls nL (lv_args 0 (.ref q :: As)) → W p l e rm s m (Value.ref q :: As).toArray below meth c s.heap [] 0 0 (MQ below (QR E g q ci Pf) (Value.ref q :: As).toArray s rm.cells rm.slots (gA E.HB)) (F0 m 0 ls [])) : MR l E s0 y cc nL rm q As g ci fs Pf := by
  refine Met.ofW (cc := cc) (maxL := nL) (ret := none) hy rfl ?_
  intro p e s m args below meth c s₁ B hml hv
  obtain ⟨rfl, hX, hw⟩ := hv
  have hl := lv_entry (.ref q :: As) hlen
  rw [lg_entry_eq]
  exact body p e s m below meth c _ ⟨⟨B.exec, B.bytes, hml, findClass_of_methodNamed B.named, fun w h => atoms_spec (ws := ws_ y cc nL none) B.pre w (List.mem_cons_of_mem _ h)⟩, B.notSynchronized, B.returns, hw, hG⟩ (name_of_methodNamed B.named B.method).1 ⟨hX.1, va_S.rf⟩ hX.2 hl
theorem x_callR {y : MethodName} {cy : ByteArray} {ny n index : Nat} {rm : Room} {As fs stk : List Value} {q ci : Nat} {Pf : List Value → Prop} (C : Cx E s0 b p s m args meth c cc nL own rt) (h : XH E g s H locs) (hr : Rw E q ci fs H)
    (hM : MR l E s0 y cy ny rm q As g ci fs Pf) (hG : GoodIn lw_all (ws_ y cy ny none)) (hini : Cond.initialized y.cls ∈ lw_all) (hlk : Cond.methodLink own index y ∈ lw_all) (him : Cond.instanceMethod y ∈ lw_all) (hy1 : y.name = "<init>") (hd : y.cls ≠ "java/lang/invoke/MethodHandle" ∧ y.cls ≠ "java/lang/invoke/VarHandle" ∧ (parseMethodDescriptor y.desc).map (fun d => d.parameters.length) = some n) (hR : rm.frames + 1 ≤ R.frames ∧ 16 + (ny + 11) + rm.locals ≤ R.locals) (hf : cells + rm.cells ≤ R.cells ∧ slots + rm.slots ≤ R.slots) (hn : As.length = n) (hsz : ls.size = nL) (hst : stk = As.reverse ++ .ref q :: rest) (hcat : (rest.map fun v => v.category).sum ≤ 16) (hdg : decode cc pc = .ok (.invokespecial index, 3))
    (kk : ∀ (H : Heap) (locs : List Loc) (fs : List Value), XH E g s H locs → Rw E q ci fs H → Pf fs → W p l e R s m args below meth c H locs (cells + rm.cells) (slots + rm.slots) Q (F0 m (pc + 3) ls rest)) : W p l e R s m args below meth c H locs cells slots Q (F0 m pc ls stk) := by
  subst hst
  have hrun := x_runI (e := e) (below := below) (meth := meth) (locs := locs) (cells := cells) (slots := slots) (As := As) (rest := rest) (g := F0 m pc ls (As.reverse ++ .ref q :: rest)) (mc := rm.cells) (ms := rm.slots) C.f hM (cwI n C.ts hG rfl rfl rfl (C.ts _ hini) (C.ts _ hlk) (C.ts _ him) hy1 hd ⟨hR.1, by omega⟩) hR.2 ⟨fun a U g mk q => q, fun U hU hW => ⟨rfl, by rw [hU]; exact ⟨h.1, hr⟩, State.WarmedH.trans C.w hW⟩⟩ rfl hn hsz rfl (x_room hcat) hdg hf
  intro T hT X
  obtain ⟨v, st₀, t, T', L, h0, X', hL, e1, e2, ⟨⟨hv, hX, fs', hP, hR'⟩, hz, hk⟩, sx⟩ := hrun T hT X
  cases hv
  rw [h0] at hz hk
  have hS := h.2
  have hS' : va_S (gA E.HB) s.heap T'.heap (locs ++ L) := by
    refine ⟨Nat.le_trans hS.1 (by rw [e1]; exact hz), fun q h1 h2 => by rw [e1, hk q (Nat.lt_of_lt_of_le h1 hS.1) h2]; exact hS.2.1 q h1 h2, fun q hq => ?_⟩
    rcases List.mem_append.mp hq with h | h
    · exact hS.2.2 q h
    · exact hL q h
  obtain ⟨t2, a1, b1⟩ := kk T'.heap (locs ++ L) fs' ⟨by rw [e1]; exact hX, hS'⟩ (by rw [e1]; exact hR') hP T' rfl X'
  exact ⟨t2, sx t2 a1, b1⟩
theorem x_rret {q ci mc ms : Nat} {fs : List Value} {Pf : List Value → Prop} (C : Cx E s0 b p s m args meth c cc nL own none) (h : XH E g s H locs) (hr : Rw E q ci fs H) (hp : Pf fs) (hdg : decode cc pc = .ok (.return_, 1)) : W p l e R s m args below meth c H locs mc ms (MQ below (QR E g q ci Pf) args s mc ms (gA E.HB)) (F0 m pc ls []) :=
  W.vret C.x C.bc C.r (fun t ht hW => ⟨⟨rfl, by rw [ht]; exact h.1, fs, hp, by rw [ht]; exact hr⟩, h.2.F ht⟩) h.2.2.2 hdg C.lk
end X6ROWS
