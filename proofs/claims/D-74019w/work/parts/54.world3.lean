set_option maxRecDepth 100000
section X3ROWS
variable {p : Program} {l : Launch} {e : Env} {R : Room} {s : State} {m : MethodId} {args : Array Value} {below : List Frame} {meth : Method} {c : Code} {H : Heap} {locs : List Loc} {cells slots : Nat} {Q : State → Prop}
variable {cc : ByteArray} {pc : Nat} {ls : Array Slot} {rest : List Value} {E E0 : Wd} {s0 : State} {b nL : Nat} {own : String} {rt : Option FieldType} {g st : St}
/-! ===== one cell more in the world; one less ===== -/
def Wd.put (E : Wd) (i q : Nat) : Wd := (E.1, E.2.1, E.2.2.1, E.2.2.2.1, E.ids ++ [i], fun a => if a = i then q else E.ad a)
def zr (g : St) (i : Nat) : St := (fun a b => if a = i then 0 else g.1 a b, fun a b => if a = i then 0 else g.2.1 a b, fun a b => if a = i then none else g.2.2 a b)
theorem put_ad (E : Wd) (i q : Nat) : (E.put i q).ad i = q := if_pos rfl
theorem put_adn (E : Wd) {i q a : Nat} (h : a ≠ i) : (E.put i q).ad a = E.ad a := if_neg h
theorem put_ids (E : Wd) (i q : Nat) : (E.put i q).ids = E.ids ++ [i] := rfl
theorem cf_ad {cA : Nat → ClassId} {ad ad' : Nat → Nat} {g g' : St} {j : Nat} (h1 : g'.1 j = g.1 j) (h2 : g'.2.1 j = g.2.1 j) (h3 : ∀ k, (g'.2.2 j k).map ad' = (g.2.2 j k).map ad) : cf cA ad' g' j = cf cA ad g j := by
  unfold cf cfo
  rw [h1, h2]
  cases sh j with
  | inl ci =>
    show Sum.inr (ci, _) = Sum.inr (ci, _)
    congr 2
    apply List.map_congr_left
    intro k _
    unfold fv
    rw [h3]
  | inr tn =>
    show Sum.inl (cA tn.1, _) = Sum.inl (cA tn.1, _)
    unfold av
    have : (fun q => (g'.2.2 j q).map ad') = (fun q => (g.2.2 j q).map ad) := funext h3
    rw [this]
theorem iws_cg {ids : List Nat} {ad ad' : Nat → Nat} {ce ce' : Nat → va_E} (h : ∀ j ∈ ids, ad' j = ad j ∧ ce' j = ce j) : iws ids ad' ce' = iws ids ad ce := by
  unfold iws
  apply List.map_congr_left
  intro j hj
  rw [(h j hj).1, (h j hj).2]
theorem map_ne {o : Option Nat} {i q : Nat} {ad : Nat → Nat} (h : o ≠ some i) : o.map (fun a => if a = i then q else ad a) = o.map ad := by
  cases o with
  | none => rfl
  | some x =>
    have : x ≠ i := fun z => h (by rw [z])
    simp [this]
theorem XG.push {g' : St} {H1 : Heap} {i : Nat} (h : XG E g H) (hi : i ∉ E.ids) (np : ∀ j ∈ E.ids, ∀ k, g.2.2 j k ≠ some i) (z : H1.size = H.size + 1) (o : ∀ q : Nat, q < H.size → H1[q]? = H[q]?) (hg : ∀ j ∈ E.ids, g'.1 j = g.1 j ∧ g'.2.1 j = g.2.1 j ∧ g'.2.2 j = g.2.2 j) (ha : va_at E.D xcl (H.size, cf E.cA (E.put i H.size).ad g' i) H1) : XG (E.put i H.size) g' H1 := by
  obtain ⟨hP, hD, h3, h4, h5⟩ := h
  have e1 : iws E.ids (E.put i H.size).ad (cf E.cA (E.put i H.size).ad g') = iws E.ids E.ad (cf E.cA E.ad g) := iws_cg (fun j hj => by
    have hji : j ≠ i := fun q => hi (q ▸ hj)
    obtain ⟨a1, a2, a3⟩ := hg j hj
    refine ⟨put_adn E hji, cf_ad a1 a2 (fun k => ?_)⟩
    rw [a3]
    exact map_ne (np j hj k))
  have e2 : iws (E.put i H.size).ids (E.put i H.size).ad (cf (E.put i H.size).cA (E.put i H.size).ad g') = iws E.ids E.ad (cf E.cA E.ad g) ++ [(H.size, cf E.cA (E.put i H.size).ad g' i)] := by
    rw [put_ids]
    show iws (E.ids ++ [i]) _ (cf E.cA _ g') = _
    unfold iws at e1 ⊢
    rw [List.map_append, e1]
    show _ ++ [((E.put i H.size).ad i, _)] = _
    rw [put_ad]
  have hk : ∀ (k : Nat) (x : Nat × va_E), (iws E.ids E.ad (cf E.cA E.ad g))[k]? = some x → H1[x.1]? = H[x.1]? := fun k x hx => o x.1 ((hP k x hx).lt)
  refine ⟨?_, ?_, ?_, ?_, ?_⟩
  · rw [e2]
    refine (hP.kept hk).app (fun k x hx => ?_)
    have hz : k < 1 := (List.getElem?_eq_some_iff.mp hx).1
    rw [show k = 0 by omega] at hx
    cases hx
    exact ha
  · rw [e2]
    exact hD.push hP rfl h3
  · show E.HB.size ≤ H1.size
    omega
  · intro q hq
    show H1[q]? = E.HB[q]?
    have hq' : q < E.HB.size := hq
    rw [o q (by omega)]
    exact h4 q hq'
  · intro x hx
    obtain ⟨b1, b2, b3⟩ := h5 x hx
    have hlt : x.1 < H.size := (Array.getElem?_eq_some_iff.mp b1).1
    refine ⟨by rw [o x.1 hlt]; exact b1, b2, fun j hj => ?_⟩
    have hj' : j ∈ E.ids ++ [i] := hj
    rcases List.mem_append.mp hj' with q | q
    · have hji : j ≠ i := fun z => hi (by rw [← z]; exact q)
      rw [put_adn E hji]
      exact b3 j q
    · rw [List.mem_singleton.mp q, put_ad]
      omega
theorem XG.drop {i q : Nat} (h : XG (E.put i q) g H) (hi : i ∉ E.ids) (np : ∀ j ∈ E.ids, ∀ k, g.2.2 j k ≠ some i) : XG E g H := by
  obtain ⟨hP, hD, h3, h4, h5⟩ := h
  have e1 : iws E.ids (E.put i q).ad (cf E.cA (E.put i q).ad g) = iws E.ids E.ad (cf E.cA E.ad g) := iws_cg (fun j hj => by
    have hji : j ≠ i := fun z => hi (z ▸ hj)
    exact ⟨put_adn E hji, cf_ad rfl rfl (fun k => map_ne (np j hj k))⟩)
  have e2 : iws (E.put i q).ids (E.put i q).ad (cf (E.put i q).cA (E.put i q).ad g) = iws E.ids E.ad (cf E.cA E.ad g) ++ [((E.put i q).ad i, cf E.cA (E.put i q).ad g i)] := by
    rw [put_ids]
    show iws (E.ids ++ [i]) _ (cf E.cA _ g) = _
    unfold iws at e1 ⊢
    rw [List.map_append, e1]
    rfl
  rw [e2] at hP hD
  have key : ∀ (k : Nat) (x : Nat × va_E), (iws E.ids E.ad (cf E.cA E.ad g))[k]? = some x → (iws E.ids E.ad (cf E.cA E.ad g) ++ [((E.put i q).ad i, cf E.cA (E.put i q).ad g i)])[k]? = some x := fun k x hx => by
    rw [List.getElem?_append_left (List.getElem?_eq_some_iff.mp hx).1]
    exact hx
  refine ⟨fun k x hx => hP k x (key k x hx), ⟨fun a b x y hx hy => hD.1 a b x y (key a x hx) (key b y hy), fun k x hx => hD.2 k x (key k x hx)⟩, h3, h4, fun x hx => ?_⟩
  obtain ⟨b1, b2, b3⟩ := h5 x hx
  refine ⟨b1, b2, fun j hj => ?_⟩
  have := b3 j (List.mem_append.mpr (Or.inl hj))
  have hji : j ≠ i := fun z => hi (by rw [← z]; exact hj)
  rwa [put_adn E hji] at this
theorem Sx.put (h : Sx E) (i q : Nat) : Sx (E.put i q) := fun j hj => List.mem_append.mpr (Or.inl (h j hj))
theorem put_in (E : Wd) (i q : Nat) : i ∈ (E.put i q).ids := List.mem_append.mpr (Or.inr (List.mem_singleton.mpr rfl))
theorem put_nin {i q j : Nat} (h : j ∉ E.ids) (hne : j ≠ i) : j ∉ (E.put i q).ids := fun z => by
  rcases List.mem_append.mp z with z | z
  · exact h z
  · exact hne (List.mem_singleton.mp z)
theorem put_keep {i q j : Nat} (h : j ∈ E.ids) : j ∈ (E.put i q).ids := List.mem_append.mpr (Or.inl h)
/-- no pointer of the tables goes to a cell made on the way -/
theorem PSt_np {t : Nat} (ht : (97 ≤ t ∧ t < 103) ∨ t = 115 ∨ t = 116 ∨ t = 93 ∨ t = 87 ∨ (118 ≤ t ∧ t < 1000)) (w : Nat → Nat → Option Nat) (i k : Nat) : PSt w i k ≠ some t := by
  unfold PSt
  split <;> first
    | (intro h; simp only [Option.some.injEq, reduceCtorEq] at h; done)
    | (split <;> first
        | (intro h; simp only [Option.some.injEq, reduceCtorEq] at h; omega)
        | (intro h; cases h; done)
        | (intro h; simp [Option.filter_eq_some_iff] at h; omega))
    | (intro h; simp [Option.filter_eq_some_iff] at h; omega)
/-- a world whose cells made on the way may be forgotten -/
def Dr (E E0 : Wd) : Prop := E0.HB = E.HB ∧ ∀ (st : St) (H : Heap), XG E (sg st) H → XG E0 (sg st) H
theorem Dr.rf (E : Wd) : Dr E E := ⟨rfl, fun _ _ h => h⟩
theorem Dr.put (h : Dr E E0) {i q : Nat} (hi : i ∉ E.ids) (ht : (97 ≤ i ∧ i < 103) ∨ i = 115 ∨ i = 116 ∨ i = 93 ∨ i = 87 ∨ (118 ≤ i ∧ i < 1000)) : Dr (E.put i q) E0 := ⟨h.1, fun st H hX => h.2 st H (hX.drop hi (fun j _ k => PSt_np ht st.2.2 j k))⟩
end X3ROWS
