set_option maxRecDepth 100000
section X7ROWS
variable {p : Program} {l : Launch} {e : Env} {R : Room} {s : State} {m : MethodId} {args : Array Value} {below : List Frame} {meth : Method} {c : Code} {H : Heap} {locs : List Loc} {cells slots : Nat} {Q : State → Prop}
variable {cc : ByteArray} {pc : Nat} {ls : Array Slot} {rest : List Value} {E E0 : Wd} {s0 : State} {b nL : Nat} {own : String} {rt : Option FieldType} {g st : St}
/-! ===== outcomes of methods that may throw ===== -/
def ou0 (x : St ⊕ (Nat × St)) : Ou := match x with
  | .inl r => .inl (none, r)
  | .inr r => .inr r
def ouI (x : (Int32 × St) ⊕ (Nat × St)) : Ou := match x with
  | .inl r => .inl (some (.int r.1), r.2)
  | .inr r => .inr r
def ouL (x : (Int64 × St) ⊕ (Nat × St)) : Ou := match x with
  | .inl r => .inl (some (.long r.1), r.2)
  | .inr r => .inr r
theorem GX.now (hGX : GX E s0 l) (hw : s0.WarmedH s.vm) (h : XH E g s H locs) (h00 : E.HB.size ≤ s.heap.size) : vx_Zq Bundle.tN "UNASSIGNED_STACK" Bundle.steD (gA E.HB) s s.heap ∧ vx_Zq Bundle.tN "SUPPRESSED_SENTINEL" Bundle.listD (gA E.HB) s s.heap := by
  have hk : ∀ a : Nat, a < E.HB.size → ¬ gA E.HB a → s.heap[a]? = E.HB[a]? := fun a ha hn => by
    rw [← h.2.2.1 a (by omega) hn]
    exact h.1.2.2.2.1 a ha
  exact ⟨(hGX.2.1.kept hk).moved hw.alike, (hGX.2.2.kept hk).moved hw.alike⟩
/-- 'throw new E()' of a JDK class, not caught here -/
theorem x_thr0 {k ik ic mc ms : Nat} {names : List String} (C : Cx E s0 b p s m args meth c cc nL own rt) (hGX : GX E s0 l) (h00 : E.HB.size ≤ s.heap.size) (h : XH E (sg st) s H locs) (hk1 : k ≠ 1) (hcls : Bundle.fit (xcn k) = true) (hnames : ∀ n ∈ names, Bundle.fit n = true) (hk : Cond.classLink own ik (xcn k) ∈ lw_all) (hini : Cond.initialized (xcn k) ∈ lw_all) (hat : ∀ w ∈ (vx_at0 own ic (xcn k) names).filter goodWord, w ∈ lw_all) (hat2 : ∀ w ∈ (vx_at0 own ic (xcn k) names).filter (fun w => !goodWord w), w ∈ [Cond.castable (xcn k) (xcn k), Cond.declares ⟨"java/lang/RuntimeException", "<init>", "()V"⟩, Cond.declares ⟨"java/lang/Exception", "<init>", "()V"⟩, Cond.declares ⟨"java/lang/Throwable", "<init>", "()V"⟩]) (hcast : Cond.castable (xcn k) (xcn k) ∈ lw_tbl)
    (hgood : ∀ w ∈ Cond.classLink own ik (xcn k) :: Cond.initialized (xcn k) :: vx_at0 own ic (xcn k) names, vx_ot w = true) (hsize : ls.size = nL)
    (d0 : decode cc pc = .ok (.new ik, 3)) (d3 : decode cc (pc + 3) = .ok (.dup, 1)) (d4 : decode cc (pc + 4) = .ok (.invokespecial ic, 3)) (d7 : decode cc (pc + 7) = .ok (.athrow, 1))
    (hout : ∀ x ∈ c.exceptionTable.toList, covers x (pc + 7) = false) (hRf : names.length + 3 < R.frames) (hRl : (rest.map fun v => v.category).sum + (13 * (names.length + 1) + 42) ≤ R.locals) (hRc : cells + 1 ≤ R.cells) (hRs : slots + 6 ≤ R.slots) (hc : cells + 1 ≤ mc) (hs : slots + 6 ≤ ms) :
    W p l e R s m args below meth c H locs cells slots (vx_MQ below (Qo E (.inr (k, st))) (Xo E (.inr (k, st))) args s mc ms (gA E.HB)) (F0 m pc ls rest) :=
  vx_throw0 C.x C.bc hGX.1 C.ow hcls hnames (C.ts _ hk) (C.ts _ hini) (vx_hat (fun w hw => C.ts w (hat w hw)) hat2 (vx_c (va_Nw.use rfl (va_Nw.warmC C.w (va_Nw.of rfl (C.g.1 _ hcast)))) (vx_c (va_Nw.use rfl (va_Nw.warmD C.w (va_Nw.of rfl (C.g.1 _ q545)))) (vx_c (va_Nw.use rfl (va_Nw.warmD C.w (va_Nw.of rfl (C.g.1 _ q547)))) (vx_c (va_Nw.use rfl (va_Nw.warmD C.w (va_Nw.of rfl (C.g.1 _ q549)))) vx_n))))) hgood (GX.now hGX C.w h h00).1 (GX.now hGX C.w h h00).2 h.2 (hsize.trans C.ml.symm) d0 d3 d4 d7 hout hRf hRl hRc hRs C.lk
    (fun q9 t _ z o => ⟨⟨rfl, h.1.grow z o, fun q => absurd q hk1⟩, h.F z o⟩) h.2.2.2 hc hs
theorem Rw.cell {q ci : Nat} {fs : List Value} (C : Cx E s0 b p s m args meth c cc nL own rt) (hr : Rw E q ci fs H) {Cn : String} {T : u_T} {N : Nat} (hc : xcl[ci]? = some (Cn, T, N)) : ∃ ce : Cell, H[q]? = some ce ∧ ce.vm = .none ∧ s.vm.findClass Cn = some ce.cls := by
  obtain ⟨r, h1, cell, q1, q2, q3, q4⟩ := hr.1
  have hr : r = (Cn, T, N) := Option.some.inj (h1.symm.trans hc)
  subst hr
  exact ⟨cell, q1, q3, by rw [q2]; exact (C.k.1 ci _ hc).2.1⟩
/-- 'throw new Floats()' -/
theorem x_thrF (C : Cx E s0 b p s m args meth c cc nL own rt) (hGX : GX E s0 l) (h : XH E (sg st) s H locs) {ik ic : Nat} (hk : Cond.classLink own ik RX9 ∈ lw_all) (hm : Cond.methodLink own ic yX9_init ∈ lw_all) (hsize : ls.size = nL)
    (d0 : decode cc pc = .ok (.new ik, 3)) (d3 : decode cc (pc + 3) = .ok (.dup, 1)) (d4 : decode cc (pc + 4) = .ok (.invokespecial ic, 3)) (d7 : decode cc (pc + 7) = .ok (.athrow, 1)) (hcat : (rest.map fun v => v.category).sum + 1 ≤ 16) (hRf : 4 ≤ R.frames) (hRl : 148 ≤ R.locals) (hRc : cells + 1 ≤ R.cells) (hRs : slots + 6 ≤ R.slots)
    (kx : ∀ (H : Heap) (locs : List Loc) (q : Nat) (ce : Cell), XH E (sg st) s H locs → XF E (0, st) q H → H[q]? = some ce → ce.vm = .none → s.vm.findClass (xcn 0) = some ce.cls → vx_W p l e R s m args below meth c H locs (cells + 1) (slots + 6) Q (F0 m (pc + 7) ls rest) q) : W p l e R s m args below meth c H locs cells slots Q (F0 m pc ls rest) := by
  refine x_newR C h 8 (Cn := RX9) (T := TX9) (N := 6) rfl in_X9 tyX9 tyX9_ok hk q1129 q157 hRc hRs d0 (fun q H h hr => ?_)
  refine lv_dup C.x C.bc d3 rfl ?_
  refine x_callR (n := 0) (As := []) (rm := rmX9) C h hr (mX9_init C.g hGX rfl) (lw_meth q1139) q157 hm q1138 rfl (by decide +kernel) ⟨hRf, hRl⟩ ⟨hRc, hRs⟩ rfl hsize rfl (by rw [List.map_cons, List.sum_cons]; show 1 + _ ≤ 16; omega) d4 (fun H locs fs h hr hf => ?_)
  refine vx_athrow C.x C.bc d7 ?_
  obtain ⟨ce, h1, h2, h3⟩ := hr.cell C (Cn := RX9) (T := TX9) (N := 6) rfl
  exact kx H locs q ce h (fun z => absurd z (by decide : (0 : Nat) ≠ 1)) h1 h2 h3
/-- 'throw new Fault(kind, place)': behind its arguments -/
theorem x_thrA {q : Nat} {fs : List Value} (C : Cx E s0 b p s m args meth c cc nL own rt) (hGX : GX E s0 l) (h : XH E (sg st) s H locs) (hr : Rw E q 7 fs H) (hlen : fs.length = 8) {x y : Int32} {ic : Nat} (hm : Cond.methodLink own ic yX8_init ∈ lw_all) (hsize : ls.size = nL)
    (d4 : decode cc pc = .ok (.invokespecial ic, 3)) (d7 : decode cc (pc + 3) = .ok (.athrow, 1)) (hcat : (rest.map fun v => v.category).sum + 1 ≤ 16) (hRf : 4 ≤ R.frames) (hRl : 150 ≤ R.locals) (hRc : cells ≤ R.cells) (hRs : slots ≤ R.slots)
    (kx : ∀ (H : Heap) (locs : List Loc) (q : Nat) (ce : Cell), XH E (sg st) s H locs → XF E (1, uI (uI st 102 6 x) 102 7 y) q H → H[q]? = some ce → ce.vm = .none → s.vm.findClass (xcn 1) = some ce.cls → vx_W p l e R s m args below meth c H locs cells slots Q (F0 m (pc + 3) ls rest) q) : W p l e R s m args below meth c H locs cells slots Q (F0 m pc ls (.int y :: .int x :: .ref q :: .ref q :: rest)) := by
  refine x_callR (n := 2) (As := [.int x, .int y]) (rm := rmX8) (rest := .ref q :: rest) C h hr (mX8_init C.g hGX hlen) (lw_meth q966) q155 hm q965 rfl (by decide +kernel) ⟨hRf, hRl⟩ ⟨hRc, hRs⟩ rfl hsize rfl (by rw [List.map_cons, List.sum_cons]; show 1 + _ ≤ 16; omega) d4 (fun H locs fs h hr hf => ?_)
  refine vx_athrow C.x C.bc d7 ?_
  obtain ⟨ce, h1, h2, h3⟩ := hr.cell C (Cn := RX8) (T := TX8) (N := 8) rfl
  refine kx H locs q ce h (fun _ => ⟨hr.2.1, hr.2.2.1, fs, hr.1, ?_, ?_⟩) h1 h2 h3
  · rw [hf.1]; simp [uI, up2]
  · rw [hf.2]; simp [uI, up2]
/-- caught here, by row i of the table -/
theorem x_catch {hh : List (Nat × Nat × Nat × Nat)} {i k q ct tgt : Nat} {ce : Cell} {x : ExceptionTableEntry} (C : Cx E s0 b p s m args meth c cc nL own rt) (hT : c.exceptionTable.toList = tableOf hh) (hx : (tableOf hh)[i]? = some x) (hpre : ∀ z ∈ (tableOf hh).take i, covers z pc = false) (hcov : covers x pc = true) (h0 : x.catchType ≠ 0) (hct : x.catchType = ct) (htgt : x.handlerPc = tgt) (hlk : Cond.classLink own ct (xcn k) ∈ lw_all) (hcast : Cond.castable (xcn k) (xcn k) ∈ lw_tbl) (hce : H[q]? = some ce) (hcv : ce.vm = .none) (hcl : s.vm.findClass (xcn k) = some ce.cls)
    (kk : W p l e R s m args below meth c H locs cells slots Q (F0 m tgt ls [.ref q])) : vx_W p l e R s m args below meth c H locs cells slots Q (F0 m pc ls rest) q := by
  subst hct
  subst htgt
  refine vx_catch C.ow ((tableOf hh).take i) x ((tableOf hh).drop (i + 1)) ?_ (fun z hz => Or.inl (hpre z hz)) hcov h0 (C.ts _ hlk) (va_Nw.use rfl (va_Nw.warmC C.w (va_Nw.of rfl (C.g.1 _ hcast)))) hce hcv hcl kk
  rw [hT]
  obtain ⟨hlt, hget⟩ := List.getElem?_eq_some_iff.mp hx
  rw [← hget]
  have := List.take_append_drop i (tableOf hh)
  rw [List.drop_eq_getElem_cons hlt] at this
  exact this.symm
theorem x_room8 {st : List Value} (h : (st.map fun v => v.category).sum ≤ 8) : 2 * (F0 m pc ls rest).monitorRoom + (st.map fun v => v.category).sum ≤ 8 := lv_room h
/-! ===== calls of methods that may throw ===== -/
theorem x_cV {y : MethodName} {cy : ByteArray} {ny n index : Nat} {ry : Option FieldType} {rm : Room} {As stk : List Value} {x : Ou} (C : Cx E s0 b p s m args meth c cc nL own rt) (h : XH E g s H locs) (i ci : Nat) (hi : i ∈ E.ids) (hs : sh i = .inl ci) {Cn : String} {T : u_T} {N : Nat} (hc : xcl[ci]? = some (Cn, T, N))
    (hM : MX l E s0 y (ws_ y cy ny ry) rm (.ref (E.ad i) :: As) g x) (hw : GoodIn lw_all (wsV own index Cn y (ws_ y cy ny ry))) (hd : y.cls = Cn ∧ y.cls ≠ "java/lang/invoke/MethodHandle" ∧ y.cls ≠ "java/lang/invoke/VarHandle" ∧ (parseMethodDescriptor y.desc).map (fun d => d.parameters.length) = some n) (hR : rm.frames + 1 ≤ R.frames ∧ 8 + (ny + 11) + rm.locals ≤ R.locals) (hf : cells + rm.cells ≤ R.cells ∧ slots + rm.slots ≤ R.slots) (hn : As.length = n) (hsz : ls.size = nL) (hst : stk = As.reverse ++ .ref (E.ad i) :: rest) (hcat : (rest.map fun v => v.category).sum ≤ 8) (hdg : decode cc pc = .ok (.invokevirtual index, 3)) :
    vx_Run p l e R s m args below meth c H locs cells slots rm.cells rm.slots (F0 m pc ls stk) rest (Qo E x (Value.ref (E.ad i) :: As).toArray) (Xo E x) (gA E.HB) := by
  subst hst
  exact vx_runV (As := As) C.f hM (cwV n C.ts hw rfl rfl rfl hd hR) ⟨fun a U g mk q => q, x_recv C h.1 hi hs hc, fun U hU hW => ⟨rfl, by rw [hU]; exact h.1, State.WarmedH.trans C.w hW⟩⟩ rfl hn hsz rfl (x_room8 hcat) hdg hf
theorem x_cVH {y : MethodName} {cy : ByteArray} {ny n index : Nat} {ry : Option FieldType} {hh : List (Nat × Nat × Nat × Nat)} {rm : Room} {As stk : List Value} {x : Ou} (C : Cx E s0 b p s m args meth c cc nL own rt) (h : XH E g s H locs) (i ci : Nat) (hi : i ∈ E.ids) (hs : sh i = .inl ci) {Cn : String} {T : u_T} {N : Nat} (hc : xcl[ci]? = some (Cn, T, N))
    (hM : MX l E s0 y (wsW_ y cy ny ry hh) rm (.ref (E.ad i) :: As) g x) (hw : GoodIn lw_all (wsV own index Cn y (wsW_ y cy ny ry hh))) (hd : y.cls = Cn ∧ y.cls ≠ "java/lang/invoke/MethodHandle" ∧ y.cls ≠ "java/lang/invoke/VarHandle" ∧ (parseMethodDescriptor y.desc).map (fun d => d.parameters.length) = some n) (hR : rm.frames + 1 ≤ R.frames ∧ 8 + (ny + 11) + rm.locals ≤ R.locals) (hf : cells + rm.cells ≤ R.cells ∧ slots + rm.slots ≤ R.slots) (hn : As.length = n) (hsz : ls.size = nL) (hst : stk = As.reverse ++ .ref (E.ad i) :: rest) (hcat : (rest.map fun v => v.category).sum ≤ 8) (hdg : decode cc pc = .ok (.invokevirtual index, 3)) :
    vx_Run p l e R s m args below meth c H locs cells slots rm.cells rm.slots (F0 m pc ls stk) rest (Qo E x (Value.ref (E.ad i) :: As).toArray) (Xo E x) (gA E.HB) := by
  subst hst
  exact vx_runVX (As := As) C.f hM (vx_cwVW n C.ts hw rfl rfl rfl hd hR) ⟨fun a U g mk q => q, x_recv C h.1 hi hs hc, fun U hU hW => ⟨rfl, by rw [hU]; exact h.1, State.WarmedH.trans C.w hW⟩⟩ rfl hn hsz rfl (x_room8 hcat) hdg hf
theorem x_cS {y : MethodName} {cy : ByteArray} {ny n index : Nat} {ry : Option FieldType} {rm : Room} {As stk : List Value} {x : Ou} (C : Cx E s0 b p s m args meth c cc nL own rt) (h : XH E g s H locs)
    (hM : MX l E s0 y (ws_ y cy ny ry) rm As g x) (hw : GoodIn lw_all (va_wsS own index y (ws_ y cy ny ry))) (hd : y.cls ≠ "java/lang/invoke/MethodHandle" ∧ y.cls ≠ "java/lang/invoke/VarHandle" ∧ (parseMethodDescriptor y.desc).map (fun d => d.parameters.length) = some n) (hR : rm.frames + 1 ≤ R.frames ∧ 8 + (ny + 11) + rm.locals ≤ R.locals) (hf : cells + rm.cells ≤ R.cells ∧ slots + rm.slots ≤ R.slots) (hn : As.length = n) (hsz : ls.size = nL) (hst : stk = As.reverse ++ rest) (hcat : (rest.map fun v => v.category).sum ≤ 8) (hdg : decode cc pc = .ok (.invokestatic index, 3)) :
    vx_Run p l e R s m args below meth c H locs cells slots rm.cells rm.slots (F0 m pc ls stk) rest (Qo E x As.toArray) (Xo E x) (gA E.HB) := by
  subst hst
  exact vx_runS (As := As) C.f hM (va_cwS n C.ts hw rfl rfl rfl hd hR) ⟨fun a U g mk q => q, fun U hU hW => ⟨rfl, by rw [hU]; exact h.1, State.WarmedH.trans C.w hW⟩⟩ rfl hn hsz rfl (x_room8 hcat) hdg hf
theorem x_cSH {y : MethodName} {cy : ByteArray} {ny n index : Nat} {ry : Option FieldType} {hh : List (Nat × Nat × Nat × Nat)} {rm : Room} {As stk : List Value} {x : Ou} (C : Cx E s0 b p s m args meth c cc nL own rt) (h : XH E g s H locs)
    (hM : MX l E s0 y (wsW_ y cy ny ry hh) rm As g x) (hw : GoodIn lw_all (va_wsS own index y (wsW_ y cy ny ry hh))) (hd : y.cls ≠ "java/lang/invoke/MethodHandle" ∧ y.cls ≠ "java/lang/invoke/VarHandle" ∧ (parseMethodDescriptor y.desc).map (fun d => d.parameters.length) = some n) (hR : rm.frames + 1 ≤ R.frames ∧ 8 + (ny + 11) + rm.locals ≤ R.locals) (hf : cells + rm.cells ≤ R.cells ∧ slots + rm.slots ≤ R.slots) (hn : As.length = n) (hsz : ls.size = nL) (hst : stk = As.reverse ++ rest) (hcat : (rest.map fun v => v.category).sum ≤ 8) (hdg : decode cc pc = .ok (.invokestatic index, 3)) :
    vx_Run p l e R s m args below meth c H locs cells slots rm.cells rm.slots (F0 m pc ls stk) rest (Qo E x As.toArray) (Xo E x) (gA E.HB) := by
  subst hst
  exact vx_runSX (As := As) C.f hM (vx_cwSW n C.ts hw rfl rfl rfl hd hR) ⟨fun a U g mk q => q, fun U hU hW => ⟨rfl, by rw [hU]; exact h.1, State.WarmedH.trans C.w hW⟩⟩ rfl hn hsz rfl (x_room8 hcat) hdg hf
end X7ROWS
