set_option maxRecDepth 100000
section X4ROWS
variable {p : Program} {l : Launch} {e : Env} {R : Room} {s : State} {m : MethodId} {args : Array Value} {below : List Frame} {meth : Method} {c : Code} {H : Heap} {locs : List Loc} {cells slots : Nat} {Q : State → Prop}
variable {cc : ByteArray} {pc : Nat} {ls : Array Slot} {rest : List Value} {E E0 : Wd} {s0 : State} {b nL : Nat} {own : String} {rt : Option FieldType} {g st : St}
/-! ===== cells that are made ===== -/
theorem zr_n (g : St) {i j : Nat} (h : j ≠ i) : (zr g i).1 j = g.1 j ∧ (zr g i).2.1 j = g.2.1 j ∧ (zr g i).2.2 j = g.2.2 j := by
  refine ⟨?_, ?_, ?_⟩ <;> (funext k; simp [zr, h])
theorem zr_i (g : St) (i k : Nat) : (zr g i).1 i k = 0 ∧ (zr g i).2.1 i k = 0 ∧ (zr g i).2.2 i k = none := by simp [zr]
theorem x_newC (C : Cx E s0 b p s m args meth c cc nL own rt) (h : XH E g s H locs) (i ci : Nat) (hi : i ∉ E.ids) (np : ∀ j ∈ E.ids, ∀ k, g.2.2 j k ≠ some i) (hs : sh i = .inl ci) {Cn : String} {T : u_T} {N index : Nat} (hc : xcl[ci]? = some (Cn, T, N)) (hin : ∀ w ∈ u_ws Cn T N, w ∈ lw_all) (ty0 : Nat → FieldType) (hty : ∀ k, k < N → parseFieldDescriptor (T k).2.2.1 = some (ty0 k)) (hN : nF ci = N) (hd : ∀ k, k < N → defaultValue (ty0 k) = fv (fun a => a) (fT ci k) 0 0 none) (hcl : Cond.classLink own index Cn ∈ lw_all) (hinst : Cond.instantiable Cn N ∈ lw_all) (hini : Cond.initialized Cn ∈ lw_all) (hcells : cells + 1 ≤ R.cells) (hslots : slots + N ≤ R.slots) (hdg : decode cc pc = .ok (.new index, 3))
    (kk : ∀ (q : Nat) (H : Heap), XH (E.put i q) (zr g i) s H locs → W p l e R s m args below meth c H locs (cells + 1) (slots + N) Q (F0 m (pc + 3) ls (.ref q :: rest))) : W p l e R s m args below meth c H locs cells slots Q (F0 m pc ls rest) := by
  have hKn := C.k.1 ci _ hc
  refine W.newcK C.x C.bc C.ow (C.ts _ hcl) (C.ts _ hinst) (C.ts _ hini) rfl hdg hcells hslots hKn.2.1 rfl fun H1 kC hkC e1 z1 o1 => ?_
  have hS := h.2
  refine kk H.size H1 ⟨h.1.push hi np z1 o1 (fun j hj => zr_n g (fun q => hi (q ▸ hj))) ?_, ⟨Nat.le_trans hS.1 (by omega), fun x h1 h2 => (o1 x (Nat.lt_of_lt_of_le h1 hS.1)).trans (hS.2.1 x h1 h2), hS.2.2⟩⟩
  rw [cf_o hs]
  refine ⟨_, hc, (u_born ty0 C.ts hin hKn hkC e1 hty).to (fun k hk => ?_)⟩
  have hk' : k < nF ci := by rw [hN]; exact hk
  have := fl_get (ad := (E.put i H.size).ad) (g := zr g i) (i := i) hk'
  show defaultValue (ty0 k) = vp_V _ k
  unfold vp_V
  rw [List.getD_eq_getElem?_getD, this, hd k hk]
  obtain ⟨a1, a2, a3⟩ := zr_i g i k
  rw [a1, a2, a3]
  rfl
theorem x_newI (C : Cx E s0 b p s m args meth c cc nL own rt) (h : XH E g s H locs) (i N : Nat) (hi : i ∉ E.ids) (np : ∀ j ∈ E.ids, ∀ k, g.2.2 j k ≠ some i) (hs : sh i = .inr (0, N)) (hw : Cond.arrayClass .int ∈ lw_all) {n : Int32} (hn : ¬ n < 0) (hN : n.toNatClampNeg = N) (hb : N * 4 ≤ 536870912) (hcells : cells + 1 ≤ R.cells) (hslots : slots + N ≤ R.slots) (hdg : decode cc pc = .ok (.newarray .int, 2))
    (kk : ∀ (q : Nat) (H : Heap), XH (E.put i q) (zr g i) s H locs → W p l e R s m args below meth c H locs (cells + 1) (slots + N) Q (F0 m (pc + 2) ls (.ref q :: rest))) : W p l e R s m args below meth c H locs cells slots Q (F0 m pc ls (.int n :: rest)) := by
  refine va_newaK (atype := .int) C.x C.bc (C.ts _ hw) rfl hdg rfl hn hN hb hcells hslots rfl fun H1 cA e1 z1 o1 hAr hNm => ?_
  have hS := h.2
  have hcA : cA = E.cA 0 := by
    have := (C.k.2 0 _ rfl).2
    exact Option.some.inj (hNm.symm.trans this)
  refine kk H.size H1 ⟨h.1.push hi np z1 o1 (fun j hj => zr_n g (fun q => hi (q ▸ hj))) ?_, ⟨Nat.le_trans hS.1 (by omega), fun x h1 h2 => (o1 x (Nat.lt_of_lt_of_le h1 hS.1)).trans (hS.2.1 x h1 h2), hS.2.2⟩⟩
  rw [cf_a hs]
  show H1[H.size]? = some (vp_cell (E.cA 0) _)
  rw [e1, hcA]
  unfold av
  rw [if_neg (by decide), if_pos (by decide), vp_cell_i]
  congr 2
  funext k
  rw [(zr_i g i k).1]
  rfl
/-! ===== constructors ===== -/
theorem x_putF (C : Cx E s0 b p s m args meth c cc nL own rt) (h : XH E g s H locs) (i ci k : Nat) (hi : i ∈ E.ids) (hs : sh i = .inl ci) (hk : k < nF ci) {Cn : String} {T : u_T} {N index : Nat} (hc : xcl[ci]? = some (Cn, T, N)) (hN : k < N) (hin : ∀ w ∈ u_ws Cn T N, w ∈ lw_all) (ty0 : Nat → FieldType) (hty : ∀ k, k < N → parseFieldDescriptor (T k).2.2.1 = some (ty0 k)) (hnm : ∀ a, a < N → ∀ b, b < N → a ≠ b → (T a).2.1 ≠ (T b).2.1) (hl : Cond.fieldLink own index (T k).1 (T k).2.1 (T k).2.2.1 ∈ lw_all) (hT : (T k).1 = own) (hfin : (T k).2.2.2 = true) (hin2 : meth.name = "<init>") {ty : FieldType} {v : Value} (hd : ty0 k = ty) (hn : narrow ty v = v) (hfit : fits ty v = true) (hdg : decode cc pc = .ok (.putfield index, 3)) {g' : St}
    (hv : fv E.ad (fT ci k) (g'.1 i k) (g'.2.1 i k) (g'.2.2 i k) = v) (hsame : ∀ z, z ≠ k → g'.1 i z = g.1 i z ∧ g'.2.1 i z = g.2.1 i z ∧ g'.2.2 i z = g.2.2 i z) (hoth : ∀ j, j ≠ i → g'.1 j = g.1 j ∧ g'.2.1 j = g.2.1 j ∧ g'.2.2 j = g.2.2 j)
    (kk : ∀ (H : Heap) (locs : List Loc), XH E g' s H locs → W p l e R s m args below meth c H locs cells slots Q (F0 m (pc + 3) ls rest)) : W p l e R s m args below meth c H locs cells slots Q (F0 m pc ls (v :: .ref (E.ad i) :: rest)) := by
  have ha := h.1.at hi
  rw [cf_o hs] at ha
  have hd' : parseFieldDescriptor (T k).2.2.1 = some ty := by rw [hty k hN, hd]
  have hap := va_apart (own := own) C.ts hin ty0 hty hnm C.k hc
  obtain ⟨r, h1, cell, q1, q2, q3, q4⟩ := ha
  have hr : r = (Cn, T, N) := Option.some.inj (h1.symm.trans hc)
  subst hr
  obtain ⟨hS, hfc, kC, hkC, hkind⟩ := C.k.1 ci _ hc
  obtain ⟨cf', kf, fi, f, hi', hsl⟩ := hS k hN
  have hlay := C.ts _ (hin _ (u_in_lay hN))
  unfold u_lay at hlay
  rw [if_pos hfin] at hlay
  have hst := (u_facts hfc hkC (u_lays C.ts hin hN) hi').1
  have hcf : m.cls = cf' := by
    obtain ⟨_, _, c', _, _, _, -, -, hf', -, -, -, hown2, -⟩ := Cond.laysFinal_spec hlay
    have e1 : c' = cf' := by have := hi'.symm.trans hf'; simp at this; exact this.1.symm
    rw [hT] at hown2
    rw [← e1]; exact Option.some.inj (C.ow.symm.trans hown2)
  have h6 := u_fits hfc hkC hkind (Or.inr hlay) hi' hd' hn hfit
  refine W.putFinK C.x C.bc C.ow (C.ts _ hl) hi' hst hcf hin2 (by rw [q2]; exact h6) q1 q3 (by rw [hsl]; exact k2_hasslot (q4 k hN)) rfl rfl hdg fun H' e1 e2 e3 => ?_
  rw [hsl] at e1 ⊢
  refine kk H' _ ⟨h.1.set hi e2 e3 (e := .inr (ci, fl E.ad g' i ci)) ⟨_, hc, ?_⟩ (cf_up (cf_o hs) hoth), h.2.put e2 e3 (h.1.in hi)⟩
  rw [← fl_set hv hsame]
  exact t_OB.to (V := updV (vp_V (fl E.ad g i ci)) k v) ⟨_, e1, q2, q3, t_set q4 hap hN v⟩ (fun j _ => vp_updV_set (by simpa using hk) v j)
theorem Mt.ofI {y : MethodName} {ret : Option FieldType} {rm : Room} {av : List Value} {g' : St} {v : Option Value} {E' : Wd} (hG : G0 E s0 b) (hy : plainName y.cls = true) (hlen : (lg_sl av).length ≤ nL)
    (body : ∀ (p : Program) (e : Env) (s : State) (m : MethodId) (below : List Frame) (meth : Method) (c : Code) (ls : Array Slot), Cx E s0 b p s m av.toArray meth c cc nL y.cls ret → meth.name = y.name → XH E g s s.heap [] → lv_has ls nL (lv_args 0 av) → W p l e rm s m av.toArray below meth c s.heap [] 0 0 (MQ below (Qx E' v g') av.toArray s rm.cells rm.slots (gA E.HB)) (F0 m 0 ls [])) : Mt l E s0 y cc nL ret rm av g v E' g' := by
  refine Met.ofW (cc := cc) (maxL := nL) (ret := ret) hy rfl ?_
  intro p e s m args below meth c s₁ B hml hv
  obtain ⟨rfl, hX, hw⟩ := hv
  have hl := lv_entry av hlen
  rw [lg_entry_eq]
  exact body p e s m below meth c _ ⟨⟨B.exec, B.bytes, hml, findClass_of_methodNamed B.named, fun w h => atoms_spec (ws := ws_ y cc nL ret) B.pre w (List.mem_cons_of_mem _ h)⟩, B.notSynchronized, B.returns, hw, hG⟩ (name_of_methodNamed B.named B.method).1 ⟨hX, va_S.rf⟩ hl
theorem x_runI {y : MethodName} {bytes : ByteArray} {maxL mc ms n index : Nat} {ws : List Cond} {rm : Room} {Pc : Array Value → State → Prop} {Qc : Array Value → State → Outcome → State → Prop} {free : Addr → Prop} {b : Addr} {As : List Value} {g : JFrame} (S : CallFix p m c cc nL s args lw_all own) (hM : Met l y ws rm Pc Qc mc ms free) (cw : CallB R s args own index y bytes maxL none ws rm mc ms n ∧ y.name = "<init>" ∧ (Cond.instanceMethod y).before args s = true) (h16 : 16 + (maxL + 11) + rm.locals ≤ R.locals) (hp : PreS s H Pc (.ref b :: As))
    (hg : g.method = m) (hn : As.length = n) (hsize : g.locals.size = nL) (hstack : g.stack = As.reverse ++ .ref b :: rest) (hW : 2 * g.monitorRoom + (rest.map fun v => v.category).sum ≤ 16) (hdg : decode cc g.pc = .ok (.invokespecial index, 3)) (hf : cells + mc ≤ R.cells ∧ slots + ms ≤ R.slots) :
    va_Run p l e R s m args below meth c H locs cells slots mc ms g rest (Qc (Value.ref b :: As).toArray) (free) := by
  obtain ⟨⟨hrc, hrs, hfr, hlo, hws, hcw, hcode, hini, hy, hlen, hl⟩, hy1, hin⟩ := cw
  have hK : Back l R p e below s args y 3 16 (PreOf R mc ms Pc) (PostOf Qc mc ms free) := back_of (bytes := bytes) (maxL := maxL) (ret := none) hM hp.1 hrc hrs hfr h16 hws hcw (fun a' U hW => word_at hW (Or.inl (by first | rfl | simp [Cond.onTables, Cond.keeps, Cond.steady])) hini)
  obtain ⟨hx, hb, hml, ho, -⟩ := S
  intro T hT X
  obtain ⟨v, vm₁, ⟨U', l2, c2, s2⟩, hW₁, X', ⟨g', mk, t, L, e1, e2, hq, h1, hL, h2, h3⟩, st⟩ := callI X hx (bytes := bytes) (maxL := maxL) ho hy1 hl hin hcode hy hK hg (hsize.trans hml.symm) (a := b) (argsL := As) (rest := rest) (fun sig h => hn.trans (hlen sig h)) hstack hW (by rw [hb]; exact hdg)
    (fun vm₁ hW₁ => ⟨hf.1, hf.2, hp.2 (T.setVm vm₁) hT hW₁⟩)
  dsimp only [Pt.U, Pt.locs, Pt.cells, Pt.slots] at X' e1 e2 h1 h2 h3 st
  subst h1; subst h2; subst h3
  exact ⟨v, (T.setVm vm₁).calling g' mk (Value.ref b :: As).toArray, t, U', L, hT, X', hL, e1, e2, hq, st⟩
/-- a constructor's call; any contract over numbered cells, with what it makes -/
theorem x_callI {y : MethodName} {cy : ByteArray} {ny n index : Nat} {rm : Room} {As stk : List Value} {v : Option Value} {g' : St} {E' : Wd} (C : Cx E s0 b p s m args meth c cc nL own rt) (h : XH E g s H locs) {a : Nat}
    (hM : Mt l E s0 y cy ny none rm (.ref a :: As) g v E' g') (hHB : E'.HB = E.HB) (hG : GoodIn lw_all (ws_ y cy ny none)) (hini : Cond.initialized y.cls ∈ lw_all) (hlk : Cond.methodLink own index y ∈ lw_all) (him : Cond.instanceMethod y ∈ lw_all) (hy1 : y.name = "<init>") (hd : y.cls ≠ "java/lang/invoke/MethodHandle" ∧ y.cls ≠ "java/lang/invoke/VarHandle" ∧ (parseMethodDescriptor y.desc).map (fun d => d.parameters.length) = some n) (hR : rm.frames + 1 ≤ R.frames ∧ 16 + (ny + 11) + rm.locals ≤ R.locals) (hf : cells + rm.cells ≤ R.cells ∧ slots + rm.slots ≤ R.slots) (hn : As.length = n) (hsz : ls.size = nL) (hst : stk = As.reverse ++ .ref a :: rest) (hcat : (rest.map fun v => v.category).sum ≤ 16) (hdg : decode cc pc = .ok (.invokespecial index, 3))
    (kk : ∀ (H : Heap) (locs : List Loc), XH E' g' s H locs → W p l e R s m args below meth c H locs (cells + rm.cells) (slots + rm.slots) Q (F0 m (pc + 3) ls (v.toList ++ rest))) : W p l e R s m args below meth c H locs cells slots Q (F0 m pc ls stk) := by
  subst hst
  exact x_fin (mc := rm.cells) (ms := rm.slots) (x_runI (As := As) (rest := rest) C.f hM (cwI n C.ts hG rfl rfl rfl (C.ts _ hini) (C.ts _ hlk) (C.ts _ him) hy1 hd ⟨hR.1, by omega⟩) hR.2 ⟨fun a U g mk q => q, fun U hU hW => ⟨rfl, by rw [hU]; exact h.1, State.WarmedH.trans C.w hW⟩⟩ rfl hn hsz rfl (x_room hcat) hdg hf) h.2 hHB kk
/-- a call of a method of ours on a numbered object, with what it makes -/
theorem x_callVE {y : MethodName} {cy : ByteArray} {ny n index : Nat} {ry : Option FieldType} {rm : Room} {As stk : List Value} {v : Option Value} {g' : St} {E' : Wd} (C : Cx E s0 b p s m args meth c cc nL own rt) (h : XH E g s H locs) (i ci : Nat) (hi : i ∈ E.ids) (hs : sh i = .inl ci) {Cn : String} {T : u_T} {N : Nat} (hc : xcl[ci]? = some (Cn, T, N))
    (hM : Mt l E s0 y cy ny ry rm (.ref (E.ad i) :: As) g v E' g') (hHB : E'.HB = E.HB) (hw : GoodIn lw_all (wsV own index Cn y (ws_ y cy ny ry))) (hd : y.cls = Cn ∧ y.cls ≠ "java/lang/invoke/MethodHandle" ∧ y.cls ≠ "java/lang/invoke/VarHandle" ∧ (parseMethodDescriptor y.desc).map (fun d => d.parameters.length) = some n) (hR : rm.frames + 1 ≤ R.frames ∧ 16 + (ny + 11) + rm.locals ≤ R.locals) (hf : cells + rm.cells ≤ R.cells ∧ slots + rm.slots ≤ R.slots) (hn : As.length = n) (hsz : ls.size = nL) (hst : stk = As.reverse ++ .ref (E.ad i) :: rest) (hcat : (rest.map fun v => v.category).sum ≤ 16) (hdg : decode cc pc = .ok (.invokevirtual index, 3))
    (kk : ∀ (H : Heap) (locs : List Loc), XH E' g' s H locs → W p l e R s m args below meth c H locs (cells + rm.cells) (slots + rm.slots) Q (F0 m (pc + 3) ls (v.toList ++ rest))) : W p l e R s m args below meth c H locs cells slots Q (F0 m pc ls stk) := by
  subst hst
  exact x_fin (mc := rm.cells) (ms := rm.slots) (x_runV (As := As) (rest := rest) C.f hM (cwV n C.ts hw rfl rfl rfl hd ⟨hR.1, by omega⟩) hR.2 ⟨fun a U g mk q => q, x_recv C h.1 hi hs hc, fun U hU hW => ⟨rfl, by rw [hU]; exact h.1, State.WarmedH.trans C.w hW⟩⟩ rfl hn hsz rfl (x_room hcat) hdg hf) h.2 hHB kk
end X4ROWS
