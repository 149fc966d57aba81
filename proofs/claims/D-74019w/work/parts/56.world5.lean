set_option maxRecDepth 100000
section X5ROWS
variable {p : Program} {l : Launch} {e : Env} {R : Room} {s : State} {m : MethodId} {args : Array Value} {below : List Frame} {meth : Method} {c : Code} {H : Heap} {locs : List Loc} {cells slots : Nat} {Q : State → Prop}
variable {cc : ByteArray} {pc : Nat} {ls : Array Slot} {rest : List Value} {E E0 : Wd} {s0 : State} {b nL : Nat} {own : String} {rt : Option FieldType} {g st : St}
/-! ===== methods that may throw: which class, by a number ===== -/
def xcn (k : Nat) : String := match k with
  | 0 => "EarthMesh$Floats"
  | 1 => "EarthMesh$Fault"
  | 2 => "java/lang/IllegalStateException"
  | 3 => "java/lang/IllegalArgumentException"
  | 4 => "java/util/NoSuchElementException"
  | _ => "java/lang/ArrayStoreException"
abbrev Ou : Type := (Option Value × St) ⊕ (Nat × St)
/-- of a Fault that is thrown: its cell holds what the state says of number 102 -/
def XF (E : Wd) (r : Nat × St) (q : Nat) (H : Heap) : Prop := r.1 = 1 → E.HB.size ≤ q ∧ (∀ i ∈ E.ids, E.ad i ≠ q) ∧ ∃ fs : List Value, va_at E.D xcl (q, .inr (7, fs)) H ∧ fs[6]? = some (.int (r.2.1 102 6)) ∧ fs[7]? = some (.int (r.2.1 102 7))
def Qo (E : Wd) (x : Ou) : Array Value → State → Outcome → State → Prop := fun a st o t => match x with
  | .inl r => Qx E r.1 (sg r.2) a st o t
  | .inr _ => False
def Xo (E : Wd) (x : Ou) : String → Addr → State → State → Prop := fun Ec q st t => match x with
  | .inl _ => False
  | .inr r => (Ec = xcn r.1 ∧ XG E (sg r.2) t.heap ∧ XF E r q t.heap) ∧ va_F (gA E.HB) st t
def MX (l : Launch) (E : Wd) (s0 : State) (y : MethodName) (ws : List Cond) (rm : Room) (av : List Value) (g : St) (x : Ou) : Prop :=
  vx_Met l y ws rm (va_Pc av (fun U => XG E g U.heap ∧ s0.WarmedH U.vm)) (Qo E x) (Xo E x) rm.cells rm.slots (gA E.HB)
theorem MX.of {y : MethodName} {ret : Option FieldType} {rm : Room} {av : List Value} {x : Ou} (hG : G0 E s0 b) (hy : plainName y.cls = true) (hlen : (lg_sl av).length ≤ nL)
    (body : ∀ (p : Program) (e : Env) (s : State) (m : MethodId) (below : List Frame) (meth : Method) (c : Code) (ls : Array Slot), Cx E s0 b p s m av.toArray meth c cc nL y.cls ret → (∀ x ∈ c.exceptionTable.toList, False) → XH E g s s.heap [] → lv_has ls nL (lv_args 0 av) → W p l e rm s m av.toArray below meth c s.heap [] 0 0 (vx_MQ below (Qo E x) (Xo E x) av.toArray s rm.cells rm.slots (gA E.HB)) (F0 m 0 ls [])) : MX l E s0 y (ws_ y cc nL ret) rm av g x := by
  refine vx_ofW (cc := cc) (maxL := nL) (ret := ret) hy rfl ?_
  intro p e s m args below meth c s₁ B hml ht hv
  obtain ⟨rfl, hX, hw⟩ := hv
  have hl := lv_entry av hlen
  rw [lg_entry_eq]
  exact body p e s m below meth c _ ⟨⟨B.exec, B.bytes, hml, findClass_of_methodNamed B.named, fun w h => atoms_spec (ws := ws_ y cc nL ret) B.pre w (List.mem_cons_of_mem _ h)⟩, B.notSynchronized, B.returns, hw, hG⟩ ht ⟨hX, va_S.rf⟩ hl
theorem MX.ofH {y : MethodName} {ret : Option FieldType} {hh : List (Nat × Nat × Nat × Nat)} {rm : Room} {av : List Value} {x : Ou} (hG : G0 E s0 b) (hy : plainName y.cls = true) (hlen : (lg_sl av).length ≤ nL)
    (body : ∀ (p : Program) (e : Env) (s : State) (m : MethodId) (below : List Frame) (meth : Method) (c : Code) (ls : Array Slot), Cx E s0 b p s m av.toArray meth c cc nL y.cls ret → c.exceptionTable.toList = tableOf hh → XH E g s s.heap [] → lv_has ls nL (lv_args 0 av) → W p l e rm s m av.toArray below meth c s.heap [] 0 0 (vx_MQ below (Qo E x) (Xo E x) av.toArray s rm.cells rm.slots (gA E.HB)) (F0 m 0 ls [])) : MX l E s0 y (wsW_ y cc nL ret hh) rm av g x := by
  refine vx_ofWH (cc := cc) (maxL := nL) (ret := ret) (hh := hh) hy rfl ?_
  intro p e s m args below meth c s₁ B hml hv
  obtain ⟨rfl, hX, hw⟩ := hv
  have hl := lv_entry av hlen
  rw [lg_entry_eq]
  exact body p e s m below meth c _ ⟨⟨B.exec, B.bytes, hml, findClass_of_methodNamed B.named, fun w h => atoms_spec (ws := wsW_ y cc nL ret hh) B.pre w (List.mem_cons_of_mem _ h)⟩, B.notSynchronized, B.returns, hw, hG⟩ (vx_table (x := y) B (atoms_spec (ws := wsW_ y cc nL ret hh) B.pre _ List.mem_cons_self)) ⟨hX, va_S.rf⟩ hl
/-! behind a call -/
theorem x_finR {mc ms : Nat} {v : Option Value} {st' : St} {a : Array Value} {stk : List Value} (hr : vx_Run p l e R s m args below meth c H locs cells slots mc ms (F0 m pc ls stk) rest (Qo E (.inl (v, st')) a) (Xo E (.inl (v, st'))) (gA E.HB)) (hS : va_S (gA E.HB) s.heap H locs)
    (kk : ∀ (H : Heap) (locs : List Loc), XH E (sg st') s H locs → W p l e R s m args below meth c H locs (cells + mc) (slots + ms) Q (F0 m (pc + 3) ls (v.toList ++ rest))) : W p l e R s m args below meth c H locs cells slots Q (F0 m pc ls stk) := by
  intro T hT X
  rcases hr T hT X with ⟨v', st₀, t, T', L, h0, X', hL, e1, e2, ⟨⟨hv, hX⟩, hz, hk⟩, sx⟩ | ⟨q, st₀, t, T', L, Ec, ce, h0, X', hL, e1, e2, hf, -⟩
  · cases hv
    rw [h0] at hz hk
    have hS' : va_S (gA E.HB) s.heap T'.heap (locs ++ L) := by
      refine ⟨Nat.le_trans hS.1 (by rw [e1]; exact hz), fun q h1 h2 => by rw [e1, hk q (Nat.lt_of_lt_of_le h1 hS.1) h2]; exact hS.2.1 q h1 h2, fun q hq => ?_⟩
      rcases List.mem_append.mp hq with h | h
      · exact hS.2.2 q h
      · exact hL q h
    obtain ⟨t2, a1, b1⟩ := kk T'.heap (locs ++ L) ⟨by rw [e1]; exact hX, hS'⟩ T' rfl X'
    exact ⟨t2, sx t2 a1, b1⟩
  · exact hf.elim
theorem x_finT {mc ms k : Nat} {st' : St} {a : Array Value} {stk : List Value} (hr : vx_Run p l e R s m args below meth c H locs cells slots mc ms (F0 m pc ls stk) rest (Qo E (.inr (k, st')) a) (Xo E (.inr (k, st'))) (gA E.HB)) (hS : va_S (gA E.HB) s.heap H locs)
    (kx : ∀ (H : Heap) (locs : List Loc) (q : Nat) (ce : Cell), XH E (sg st') s H locs → XF E (k, st') q H → H[q]? = some ce → ce.vm = .none → s.vm.findClass (xcn k) = some ce.cls → vx_W p l e R s m args below meth c H locs (cells + mc) (slots + ms) Q (F0 m pc ls rest) q) : W p l e R s m args below meth c H locs cells slots Q (F0 m pc ls stk) := by
  intro T hT X
  rcases hr T hT X with ⟨v', st₀, t, T', L, h0, X', hL, e1, e2, hf, -⟩ | ⟨q, st₀, t, T', L, Ec, ce, h0, X', hL, e1, e2, ⟨⟨hEc, hX, hF⟩, hz, hk⟩, hce, hcv, hcl, sx⟩
  · exact hf.elim
  · subst hEc
    rw [h0] at hz hk
    have hS' : va_S (gA E.HB) s.heap T'.heap (locs ++ L) := by
      refine ⟨Nat.le_trans hS.1 (by rw [e1]; exact hz), fun q h1 h2 => by rw [e1, hk q (Nat.lt_of_lt_of_le h1 hS.1) h2]; exact hS.2.1 q h1 h2, fun q hq => ?_⟩
      rcases List.mem_append.mp hq with h | h
      · exact hS.2.2 q h
      · exact hL q h
    obtain ⟨t2, a1, b1⟩ := kx T'.heap (locs ++ L) q ce ⟨by rw [e1]; exact hX, hS'⟩ (by rw [e1]; exact hF) (by rw [e1]; exact hce) hcv hcl T' rfl X'
    exact ⟨t2, sx.trans a1, b1⟩
/-! a heap that only grew -/
theorem va_at.grow {D : va_G} {q : Nat × va_E} {H1 : Heap} (h : va_at D xcl q H) (o : ∀ q : Nat, q < H.size → H1[q]? = H[q]?) : va_at D xcl q H1 := h.kept (o q.1 h.lt)
theorem XG.grow {H1 : Heap} (h : XG E g H) (z : H.size ≤ H1.size) (o : ∀ q : Nat, q < H.size → H1[q]? = H[q]?) : XG E g H1 := by
  obtain ⟨hP, hD, h3, h4, h5⟩ := h
  refine ⟨fun k x hx => (hP k x hx).grow o, hD, Nat.le_trans h3 z, fun q hq => by rw [o q (by omega)]; exact h4 q hq, fun x hx => ?_⟩
  obtain ⟨a1, a2, a3⟩ := h5 x hx
  exact ⟨by rw [o x.1 (Array.getElem?_eq_some_iff.mp a1).1]; exact a1, a2, a3⟩
theorem XH.F {t : State} (h : XH E g s H locs) (z : H.size ≤ t.heap.size) (o : ∀ q : Nat, q < H.size → t.heap[q]? = H[q]?) : va_F (gA E.HB) s t := ⟨Nat.le_trans h.2.1 z, fun q h1 h2 => by rw [o q (Nat.lt_of_lt_of_le h1 h.2.1)]; exact h.2.2.1 q h1 h2⟩
/-! ends -/
/-- not caught here -/
theorem x_out {q k mc ms : Nat} {ce : Cell} (C : Cx E s0 b p s m args meth c cc nL own rt) (h : XH E (sg st) s H locs) (hF : XF E (k, st) q H) (hout : ∀ x ∈ c.exceptionTable.toList, covers x pc = false) (hce : H[q]? = some ce) (hcv : ce.vm = .none) (hcl : s.vm.findClass (xcn k) = some ce.cls) (hc : cells ≤ mc) (hs : slots ≤ ms) : vx_W p l e R s m args below meth c H locs cells slots (vx_MQ below (Qo E (.inr (k, st))) (Xo E (.inr (k, st))) args s mc ms (gA E.HB)) (F0 m pc ls rest) q :=
  vx_out hout C.lk hce hcv hcl (fun t ht _ => ⟨⟨rfl, by rw [ht]; exact h.1, by rw [ht]; exact hF⟩, h.2.F ht⟩) h.2.2.2 hc hs
/-! what exceptions stand on, at the claim's start -/
def GX (E : Wd) (s0 : State) (l : Launch) : Prop := l.stackTraces = false ∧ vx_Zq Bundle.tN "UNASSIGNED_STACK" Bundle.steD (gA E.HB) s0 E.HB ∧ vx_Zq Bundle.tN "SUPPRESSED_SENTINEL" Bundle.listD (gA E.HB) s0 E.HB
theorem GX.at {C' n d : String} (hw : s0.WarmedH s.vm) (hX : XG E g s.heap) (h : vx_Zq C' n d (gA E.HB) s0 E.HB) : vx_Zq C' n d (gA E.HB) s s.heap := (h.kept (fun a ha _ => hX.2.2.2.1 a ha)).moved hw.alike
/-- 'throw new E()' of a JDK class, not caught here -/
theorem x_throw0 {k ik ic mc ms : Nat} {names : List String} (C : Cx E s0 b p s m args meth c cc nL own rt) (hGX : GX E s0 l) (h0 : XG E g s.heap) (h : XH E (sg st) s H locs) (hk1 : k ≠ 1) (hcls : Bundle.fit (xcn k) = true) (hnames : ∀ n ∈ names, Bundle.fit n = true) (hk : Cond.classLink own ik (xcn k) ∈ lw_all) (hini : Cond.initialized (xcn k) ∈ lw_all) (hat : ∀ w ∈ (vx_at0 own ic (xcn k) names).filter goodWord, w ∈ lw_all) (hat2 : ∀ w ∈ (vx_at0 own ic (xcn k) names).filter (fun w => !goodWord w), w ∈ [Cond.castable (xcn k) (xcn k), Cond.declares ⟨"java/lang/RuntimeException", "<init>", "()V"⟩, Cond.declares ⟨"java/lang/Exception", "<init>", "()V"⟩, Cond.declares ⟨"java/lang/Throwable", "<init>", "()V"⟩]) (hcast : Cond.castable (xcn k) (xcn k) ∈ lw_tbl)
    (hgood : ∀ w ∈ Cond.classLink own ik (xcn k) :: Cond.initialized (xcn k) :: vx_at0 own ic (xcn k) names, vx_ot w = true) (hsize : ls.size = nL)
    (d0 : decode cc pc = .ok (.new ik, 3)) (d3 : decode cc (pc + 3) = .ok (.dup, 1)) (d4 : decode cc (pc + 4) = .ok (.invokespecial ic, 3)) (d7 : decode cc (pc + 7) = .ok (.athrow, 1))
    (hout : ∀ x ∈ c.exceptionTable.toList, covers x (pc + 7) = false) (hRf : names.length + 3 < R.frames) (hRl : (rest.map fun v => v.category).sum + (13 * (names.length + 1) + 42) ≤ R.locals) (hRc : cells + 1 ≤ R.cells) (hRs : slots + 6 ≤ R.slots) (hc : cells + 1 ≤ mc) (hs : slots + 6 ≤ ms) :
    W p l e R s m args below meth c H locs cells slots (vx_MQ below (Qo E (.inr (k, st))) (Xo E (.inr (k, st))) args s mc ms (gA E.HB)) (F0 m pc ls rest) :=
  vx_throw0 C.x C.bc hGX.1 C.ow hcls hnames (C.ts _ hk) (C.ts _ hini) (vx_hat (fun w hw => C.ts w (hat w hw)) hat2 (vx_c (va_Nw.use rfl (va_Nw.warmC C.w (va_Nw.of rfl (C.g.1 _ hcast)))) (vx_c (va_Nw.use rfl (va_Nw.warmD C.w (va_Nw.of rfl (C.g.1 _ q545)))) (vx_c (va_Nw.use rfl (va_Nw.warmD C.w (va_Nw.of rfl (C.g.1 _ q547)))) (vx_c (va_Nw.use rfl (va_Nw.warmD C.w (va_Nw.of rfl (C.g.1 _ q549)))) vx_n))))) hgood (GX.at C.w h0 hGX.2.1) (GX.at C.w h0 hGX.2.2) h.2 (hsize.trans C.ml.symm) d0 d3 d4 d7 hout hRf hRl hRc hRs C.lk
    (fun q9 t _ z o => ⟨⟨rfl, h.1.grow z o, fun q => absurd q hk1⟩, h.F z o⟩) h.2.2.2 hc hs
end X5ROWS
def nmRE : List String := ["java/lang/RuntimeException", "java/lang/Exception"]
theorem at3 : ∀ w ∈ (vx_at0 "EarthMesh" 198 (xcn 3) nmRE).filter goodWord, w ∈ lw_all := by decide +kernel
theorem at4 : ∀ w ∈ (vx_at0 "EarthMesh" 201 (xcn 4) nmRE).filter goodWord, w ∈ lw_all := by decide +kernel
theorem at2 : ∀ w ∈ (vx_at0 "EarthMesh" 67 (xcn 2) nmRE).filter goodWord, w ∈ lw_all := by decide +kernel
theorem at3b : ∀ w ∈ (vx_at0 "EarthMesh" 198 (xcn 3) nmRE).filter (fun w => !goodWord w), w ∈ [Cond.castable (xcn 3) (xcn 3), Cond.declares ⟨"java/lang/RuntimeException", "<init>", "()V"⟩, Cond.declares ⟨"java/lang/Exception", "<init>", "()V"⟩, Cond.declares ⟨"java/lang/Throwable", "<init>", "()V"⟩] := by decide +kernel
theorem at4b : ∀ w ∈ (vx_at0 "EarthMesh" 201 (xcn 4) nmRE).filter (fun w => !goodWord w), w ∈ [Cond.castable (xcn 4) (xcn 4), Cond.declares ⟨"java/lang/RuntimeException", "<init>", "()V"⟩, Cond.declares ⟨"java/lang/Exception", "<init>", "()V"⟩, Cond.declares ⟨"java/lang/Throwable", "<init>", "()V"⟩] := by decide +kernel
theorem at2b : ∀ w ∈ (vx_at0 "EarthMesh" 67 (xcn 2) nmRE).filter (fun w => !goodWord w), w ∈ [Cond.castable (xcn 2) (xcn 2), Cond.declares ⟨"java/lang/RuntimeException", "<init>", "()V"⟩, Cond.declares ⟨"java/lang/Exception", "<init>", "()V"⟩, Cond.declares ⟨"java/lang/Throwable", "<init>", "()V"⟩] := by decide +kernel
theorem at3g : ∀ w ∈ Cond.classLink "EarthMesh" 196 (xcn 3) :: Cond.initialized (xcn 3) :: vx_at0 "EarthMesh" 198 (xcn 3) nmRE, vx_ot w = true := by decide +kernel
theorem at4g : ∀ w ∈ Cond.classLink "EarthMesh" 199 (xcn 4) :: Cond.initialized (xcn 4) :: vx_at0 "EarthMesh" 201 (xcn 4) nmRE, vx_ot w = true := by decide +kernel
theorem at2g : ∀ w ∈ Cond.classLink "EarthMesh" 65 (xcn 2) :: Cond.initialized (xcn 2) :: vx_at0 "EarthMesh" 67 (xcn 2) nmRE, vx_ot w = true := by decide +kernel
theorem nm_fit : ∀ n ∈ nmRE, Bundle.fit n = true := by decide +kernel
