/-! ===== the world by numbers: every cell of a run has a number; what it holds are three functions (ints, longs, pointers by number) ===== -/
abbrev St : Type := (Nat → Nat → Int32) × (Nat → Nat → Int64) × (Nat → Nat → Option Nat)
def up2 {α : Type} (f : Nat → Nat → α) (i k : Nat) (v : α) : Nat → Nat → α := fun a b => if a = i then (if b = k then v else f a b) else f a b
def uI (g : St) (i k : Nat) (v : Int32) : St := (up2 g.1 i k v, g.2.1, g.2.2)
def uL (g : St) (i k : Nat) (v : Int64) : St := (g.1, up2 g.2.1 i k v, g.2.2)
def uP (g : St) (i k : Nat) (v : Option Nat) : St := (g.1, g.2.1, up2 g.2.2 i k v)
theorem up2_ss {α : Type} (f : Nat → Nat → α) (i k : Nat) (v : α) : up2 f i k v i k = v := by simp [up2]
theorem up2_sn {α : Type} (f : Nat → Nat → α) {i k b : Nat} (v : α) (h : b ≠ k) : up2 f i k v i b = f i b := by simp [up2, h]
theorem up2_n {α : Type} (f : Nat → Nat → α) {i k a b : Nat} (v : α) (h : a ≠ i) : up2 f i k v a b = f a b := by simp [up2, h]
theorem up2_nf {α : Type} (f : Nat → Nat → α) {i k a : Nat} (v : α) (h : a ≠ i) : up2 f i k v a = f a := by funext b; simp [up2, h]
theorem up2_sf {α : Type} (f : Nat → Nat → α) (i k : Nat) (v : α) : up2 f i k v i = fun b => if b = k then v else f i b := by funext b; simp [up2]
/-- a guard, a name, one after another: the words of the printed pure functions -/
def gd {α : Type} (c : Prop) [Decidable c] (a : Option α) : Option α := if c then a else none
theorem gd_e {α : Type} {c : Prop} [Decidable c] {a : Option α} {x : α} (h : gd c a = some x) : c ∧ a = some x := by
  unfold gd at h
  by_cases hc : c
  · rw [if_pos hc] at h; exact ⟨hc, h⟩
  · rw [if_neg hc] at h; cases h
theorem gd_t {α : Type} {c : Prop} [Decidable c] {a : Option α} (h : c) : gd c a = a := if_pos h
def nm {α β : Type} (a : α) (f : α → β) : β := f a
theorem nm_x {α β : Type} {a : α} {f : α → β} {x : β} (h : nm a f = x) : ∃ y, y = a ∧ f y = x := ⟨a, rfl, h⟩
def bd {α β : Type} (a : Option α) (f : α → Option β) : Option β := match a with
  | some y => f y
  | none => none
theorem bd_e {α β : Type} {a : Option α} {f : α → Option β} {x : β} (h : bd a f = some x) : ∃ y, a = some y ∧ f y = some x := by
  cases a with
  | none => cases h
  | some y => exact ⟨y, rfl, h⟩
theorem bd_s {α β : Type} {a : Option α} {f : α → Option β} {y : α} (h : a = some y) : bd a f = f y := by rw [h]; rfl
theorem ge_t {α : Type} {c : Prop} {i : Decidable c} {a b x : α} (h : @ite α c i a b = x) (hc : c) : a = x := by rw [← h, if_pos hc]
theorem ge_f {α : Type} {c : Prop} {i : Decidable c} {a b x : α} (h : @ite α c i a b = x) (hc : ¬ c) : b = x := by rw [← h, if_neg hc]
/-- a loop: the body goes on with a new state, or leaves -/
def iter {σ ρ : Type} (body : σ → Option (σ ⊕ ρ)) : Nat → σ → Option ρ
  | 0, _ => none
  | n + 1, s => match body s with
    | none => none
    | some (.inl s') => iter body n s'
    | some (.inr r) => some r
def Kx {σ ρ : Type} (G : σ → Prop) (E : ρ → Prop) (x : σ ⊕ ρ) : Prop := match x with
  | .inl s => G s
  | .inr r => E r
theorem iter_W {σ ρ : Type} {body : σ → Option (σ ⊕ ρ)} {G : σ → Prop} {E : ρ → Prop} (hs : ∀ s x, body s = some x → Kx G E x → G s) : ∀ n s r, iter body n s = some r → E r → G s := by
  intro n
  induction n with
  | zero => intro s r h; cases h
  | succ n ih =>
    intro s r h hE
    unfold iter at h
    cases hb : body s with
    | none => rw [hb] at h; cases h
    | some x =>
      rw [hb] at h
      cases x with
      | inl s' => exact hs s _ hb (ih s' r h hE)
      | inr r' => cases h; exact hs s _ hb hE
/-- the same, for a loop that makes cells: k at most a round -/
theorem iter_N {σ ρ : Type} {body : σ → Option (σ ⊕ ρ)} {G : Nat → σ → Prop} {E : Nat → ρ → Prop} (hE0 : ∀ n r, E n r → E (n + 1) r) (hs : ∀ n s x, body s = some x → Kx (G n) (E n) x → G (n + 1) s) : ∀ n s r, iter body n s = some r → E 0 r → G n s := by
  intro n
  induction n with
  | zero => intro s r h; cases h
  | succ n ih =>
    intro s r h hE
    unfold iter at h
    cases hb : body s with
    | none => rw [hb] at h; cases h
    | some x =>
      rw [hb] at h
      cases x with
      | inl s' => exact hs n s _ hb (ih s' r h hE)
      | inr r' =>
        cases h
        have : ∀ k, E k r := by
          intro k
          induction k with
          | zero => exact hE
          | succ k ih2 => exact hE0 k r ih2
        exact hs n s _ hb (this n)
theorem iter_inv {σ ρ : Type} {body : σ → Option (σ ⊕ ρ)} (I : σ → Prop) (μ : σ → Nat) (Q : ρ → Prop) (hs : ∀ s, I s → (∃ s', body s = some (.inl s') ∧ I s' ∧ μ s' < μ s) ∨ ∃ r, body s = some (.inr r) ∧ Q r) : ∀ n s, I s → μ s < n → ∃ r, iter body n s = some r ∧ Q r := by
  intro n
  induction n with
  | zero => intro s _ h; omega
  | succ n ih =>
    intro s hI hm
    unfold iter
    rcases hs s hI with ⟨s', e, hI', hm'⟩ | ⟨r, e, hQ⟩
    · rw [e]; exact ih s' hI' (by omega)
    · rw [e]; exact ⟨r, rfl, hQ⟩
def FU : Nat := 1000000000000
/-! ===== the tables (printed by gen/shape.py) ===== -/
abbrev xcl : List vw_C := [(RX1, TX1, 18), (RX2, TX2, 11), (RX3, TX3, 9), (RX4, TX4, 4), (RX5, TX5, 1), (RX6, TX6, 37), (RX7, TX7, 8), (RX8, TX8, 8), (RX9, TX9, 6), (RX10, TX10, 2), (RX11, TX11, 1), (RX12, TX12, 1), (RJ7, TJ7, 4), (RJ6, TJ6, 4)]
def fTL : List (List Nat) := [[2, 2, 2, 1, 0, 2, 2, 2, 0, 0, 2, 2, 2, 2, 2, 2, 2, 2], [0, 0, 0, 0, 0, 0, 0, 0, 0, 0, 2], [2, 2, 2, 2, 2, 0, 1, 2, 2], [2, 1, 2, 2], [2], [2, 0, 2, 2, 2, 2, 0, 0, 0, 0, 0, 0, 0, 0, 0, 0, 2, 2, 0, 1, 2, 0, 2, 2, 2, 2, 2, 2, 2, 1, 1, 2, 0, 0, 0, 0, 2], [0, 2, 0, 0, 0, 2, 2, 2], [2, 2, 2, 2, 2, 0, 0, 0], [2, 2, 2, 2, 2, 0], [1, 1], [0], [0], [2, 0, 0, 0], [2, 0, 0, 0]]
def nF (ci : Nat) : Nat := (fTL.getD ci []).length
def fT (ci k : Nat) : Nat := (fTL.getD ci []).getD k 0
def shL : List (Nat ⊕ (Nat × Nat)) := [.inl 0, .inl 1, .inr (4, 3), .inr (0, 12), .inr (0, 12), .inr (0, 12), .inl 2, .inr (5, 12), .inr (1, 12), .inr (1, 12), .inr (1, 12), .inr (1, 12), .inr (1, 12), .inr (1, 12), .inr (1, 12), .inr (1, 12), .inr (1, 12), .inr (1, 12), .inr (1, 12), .inr (1, 12), .inr (5, 12), .inr (1, 12), .inr (1, 12), .inr (1, 12), .inr (1, 12), .inr (1, 12), .inr (1, 12), .inr (1, 12), .inr (1, 12), .inr (1, 12), .inr (1, 12), .inr (1, 12), .inr (1, 12), .inl 3, .inr (5, 12), .inr (1, 13), .inr (1, 13), .inr (1, 13), .inr (1, 13), .inr (1, 13), .inr (1, 13), .inr (1, 13), .inr (1, 13), .inr (1, 13), .inr (1, 13), .inr (1, 13), .inr (1, 13), .inr (1, 12), .inr (1, 12), .inr (0, 12), .inr (0, 12), .inr (1, 12), .inr (1, 12), .inr (7, 2), .inl 99, .inl 99, .inr (2, 500), .inr (0, 2), .inr (1, 35), .inr (3, 35), .inr (1, 12), .inr (0, 12), .inr (0, 3), .inr (0, 4), .inl 4, .inr (8, 6), .inl 4, .inr (9, 6), .inl 5, .inr (6, 8), .inr (0, 46), .inr (0, 46), .inr (0, 2), .inr (0, 500), .inr (1, 156), .inr (0, 12), .inr (1, 12), .inr (1, 12), .inr (0, 12), .inr (1, 35), .inr (1, 35), .inr (1, 35), .inr (0, 35), .inr (0, 46), .inr (3, 24), .inr (0, 12), .inr (1, 1), .inl 6, .inl 1, .inr (4, 3), .inr (0, 12), .inr (0, 12), .inr (0, 12), .inr (4, 3), .inr (0, 12), .inr (0, 12), .inr (0, 12), .inl 9, .inl 9, .inl 9, .inr (0, 4), .inl 8, .inl 7, .inl 10, .inl 10, .inl 10, .inl 10, .inl 10, .inl 10, .inl 11, .inl 11, .inl 11, .inl 11, .inl 11, .inl 11, .inl 13, .inr (2, 7), .inl 12, .inl 99, .inr (4, 3)]
def sh (i : Nat) : Nat ⊕ (Nat × Nat) := shL.getD i (.inl 99)
def aT (t : Nat) : FieldType := match t with
  | 0 => .int
  | 1 => .long
  | 2 => .byte
  | 3 => .boolean
  | 4 => (.array .int)
  | 5 => (.array .long)
  | 6 => (.object "java/lang/String")
  | 7 => (.object "EarthMesh$Measure")
  | 8 => (.object "EarthMesh$Bar")
  | _ => (.object "EarthMesh$Rod")
abbrev xty (cA : Nat → ClassId) : List (ClassId × FieldType) := [(cA 0, .int), (cA 1, .long), (cA 2, .byte), (cA 3, .boolean), (cA 4, (.array .int)), (cA 5, (.array .long)), (cA 6, (.object "java/lang/String")), (cA 7, (.object "EarthMesh$Measure")), (cA 8, (.object "EarthMesh$Bar")), (cA 9, (.object "EarthMesh$Rod"))]
/-- pointers that never change (but in the constructors): by a table; the others stand in the state -/
def PSt (w : Nat → Nat → Option Nat) (i k : Nat) : Option Nat := match i with
  | 0 => (match k with | 0 => some 1 | 1 => some 6 | 2 => some 52 | 5 => some 53 | 6 => some 56 | 7 => some 57 | 10 => some 58 | 11 => some 59 | 12 => some 60 | 13 => some 61 | 14 => some 62 | 15 => some 63 | 16 => some 64 | 17 => some 66 | _ => none)
  | 1 => (match k with | 10 => some 2 | _ => none)
  | 2 => if k < 3 then some (3 + k) else none
  | 6 => (match k with | 0 => some 7 | 1 => some 20 | 2 => some 33 | 3 => some 49 | 4 => some 50 | 7 => some 51 | 8 => some 0 | _ => none)
  | 7 => if k < 12 then some (8 + k) else none
  | 20 => if k < 12 then some (21 + k) else none
  | 33 => (match k with | 0 => some 34 | 2 => some 47 | 3 => some 48 | _ => none)
  | 34 => (w 34 k).filter (fun j => decide (35 ≤ j) && decide (j < 47))
  | 53 => if k < 2 then some (54 + k) else none
  | 64 => (match k with | 0 => some 65 | _ => none)
  | 65 => (w 65 k).filter (fun j => decide (103 ≤ j) && decide (j < 109))
  | 66 => (match k with | 0 => some 67 | _ => none)
  | 67 => (w 67 k).filter (fun j => decide (109 ≤ j) && decide (j < 115))
  | 68 => (match k with | 0 => some 69 | 2 => some 70 | 3 => some 71 | 4 => some 72 | 5 => some 73 | 16 => some 74 | 17 => some 75 | 20 => some 76 | 22 => some 77 | 23 => some 78 | 24 => some 79 | 25 => some 80 | 26 => some 81 | 27 => some 82 | 28 => some 83 | 31 => some 84 | 36 => some 85 | _ => none)
  | 69 => if k < 8 then some (1000 + k) else none
  | 87 => (match k with | 1 => some 88 | 5 => (w 87 5).filter (fun j => decide (1200 ≤ j) && decide (j < 1205)) | 6 => (w 87 6).filter (fun j => decide (j = 117) || (decide (1000 ≤ j) && decide (j < 1100))) | 7 => some 0 | _ => none)
  | 88 => (match k with | 10 => some 89 | _ => none)
  | 89 => if k < 3 then some (90 + k) else none
  | 93 => if k < 3 then some (94 + k) else none
  | _ => none
/-! ===== cells by number, worlds ===== -/
def fv (ad : Nat → Nat) (t : Nat) (I : Int32) (L : Int64) (P : Option Nat) : Value := if t = 0 then .int I else if t = 1 then .long L else va_rf (P.map ad)
def av (ad : Nat → Nat) (t n : Nat) (I : Nat → Int32) (L : Nat → Int64) (P : Nat → Option Nat) : vp_A := (n, if t = 1 then .inr (.inl L) else if t < 4 then .inl I else .inr (.inr (.inr (.inr (fun j => (P j).map ad)))))
def cfo (cA : Nat → ClassId) (ad : Nat → Nat) (kd : Nat ⊕ (Nat × Nat)) (I : Nat → Int32) (L : Nat → Int64) (P : Nat → Option Nat) : va_E := match kd with
  | .inl ci => .inr (ci, (List.range (nF ci)).map (fun k => fv ad (fT ci k) (I k) (L k) (P k)))
  | .inr tn => .inl (cA tn.1, av ad tn.1 tn.2 I L P)
def cf (cA : Nat → ClassId) (ad : Nat → Nat) (g : St) (i : Nat) : va_E := cfo cA ad (sh i) (g.1 i) (g.2.1 i) (g.2.2 i)
def iws (ids : List Nat) (ad : Nat → Nat) (ce : Nat → va_E) : va_W := ids.map (fun i => (ad i, ce i))
abbrev gA (HB : Heap) : Nat → Prop := fun q => HB.size ≤ q
abbrev Wd : Type := va_G × (Nat → ClassId) × Heap × List (Nat × Cell) × List Nat × (Nat → Nat)
abbrev Wd.D (E : Wd) : va_G := E.1
abbrev Wd.cA (E : Wd) : Nat → ClassId := E.2.1
abbrev Wd.HB (E : Wd) : Heap := E.2.2.1
abbrev Wd.xt (E : Wd) : List (Nat × Cell) := E.2.2.2.1
abbrev Wd.ids (E : Wd) : List Nat := E.2.2.2.2.1
abbrev Wd.ad (E : Wd) : Nat → Nat := E.2.2.2.2.2
/-- the heap holds the world: the numbered cells, the raw ones (xt), and all that was there at the start -/
def XG (E : Wd) (g : St) (H : Heap) : Prop :=
  va_P E.D xcl (iws E.ids E.ad (cf E.cA E.ad g)) H ∧ va_D (gA E.HB) (iws E.ids E.ad (cf E.cA E.ad g)) ∧ E.HB.size ≤ H.size ∧ (∀ q : Nat, q < E.HB.size → H[q]? = E.HB[q]?) ∧ ∀ z ∈ E.xt, H[z.1]? = some z.2 ∧ E.HB.size ≤ z.1 ∧ ∀ i ∈ E.ids, E.ad i ≠ z.1
abbrev sg (st : St) : St := (st.1, st.2.1, PSt st.2.2)
theorem iws_at {ids : List Nat} {ad : Nat → Nat} {ce : Nat → va_E} {k i : Nat} (h : ids[k]? = some i) : (iws ids ad ce)[k]? = some (ad i, ce i) := by
  unfold iws
  rw [List.getElem?_map, h]
  rfl
theorem iws_set {A : Nat → Prop} {ids : List Nat} {ad : Nat → Nat} {ce : Nat → va_E} {k i : Nat} {e : va_E} (hD : va_D A (iws ids ad ce)) (h : ids[k]? = some i) : (iws ids ad ce).set k (ad i, e) = iws ids ad (va_up ce i e) := by
  apply List.ext_getElem?
  intro j
  by_cases hj : j = k
  · subst hj
    have hl : j < ids.length := (List.getElem?_eq_some_iff.mp h).1
    rw [List.getElem?_set_self (by simpa [iws] using hl), iws_at h, va_up_self]
  · rw [List.getElem?_set_ne (Ne.symm hj)]
    cases hq : ids[j]? with
    | none => simp [iws, hq]
    | some z =>
      have hz : z ≠ i := fun e => by subst e; exact hj (hD.1 j k _ _ (iws_at hq) (iws_at h) rfl)
      rw [iws_at hq, iws_at hq, va_up_ne _ _ hz]
theorem cf_ne {cA : Nat → ClassId} {ad : Nat → Nat} {g g' : St} {j : Nat} (h1 : g'.1 j = g.1 j) (h2 : g'.2.1 j = g.2.1 j) (h3 : g'.2.2 j = g.2.2 j) : cf cA ad g' j = cf cA ad g j := by
  unfold cf
  rw [h1, h2, h3]
theorem cf_up {cA : Nat → ClassId} {ad : Nat → Nat} {g g' : St} {i : Nat} {e : va_E} (he : cf cA ad g' i = e) (h : ∀ j, j ≠ i → g'.1 j = g.1 j ∧ g'.2.1 j = g.2.1 j ∧ g'.2.2 j = g.2.2 j) : va_up (cf cA ad g) i e = cf cA ad g' := by
  funext j
  by_cases hj : j = i
  · subst hj
    rw [va_up_self, he]
  · obtain ⟨h1, h2, h3⟩ := h j hj
    rw [va_up_ne _ _ hj, cf_ne h1 h2 h3]
theorem uI_ne {g : St} {i k j : Nat} {v : Int32} (h : j ≠ i) : (uI g i k v).1 j = g.1 j ∧ (uI g i k v).2.1 j = g.2.1 j ∧ (uI g i k v).2.2 j = g.2.2 j := ⟨up2_nf _ _ h, rfl, rfl⟩
theorem uL_ne {g : St} {i k j : Nat} {v : Int64} (h : j ≠ i) : (uL g i k v).1 j = g.1 j ∧ (uL g i k v).2.1 j = g.2.1 j ∧ (uL g i k v).2.2 j = g.2.2 j := ⟨rfl, up2_nf _ _ h, rfl⟩
theorem uP_ne {g : St} {i k j : Nat} {v : Option Nat} (h : j ≠ i) : (uP g i k v).1 j = g.1 j ∧ (uP g i k v).2.1 j = g.2.1 j ∧ (uP g i k v).2.2 j = g.2.2 j := ⟨rfl, rfl, up2_nf _ _ h⟩
theorem rm_set {F : Nat → Value} {n k : Nat} {x : Value} : ((List.range n).map F).set k x = (List.range n).map (fun z => if z = k then x else F z) := by
  apply List.ext_getElem (by simp)
  intro j h1 h2
  rw [List.getElem_set, List.getElem_map, List.getElem_map, List.getElem_range]
  by_cases hj : k = j
  · rw [if_pos hj, if_pos hj.symm]
  · rw [if_neg hj, if_neg (fun q => hj q.symm)]
abbrev fl (ad : Nat → Nat) (g : St) (i ci : Nat) : List Value := (List.range (nF ci)).map (fun k => fv ad (fT ci k) (g.1 i k) (g.2.1 i k) (g.2.2 i k))
theorem cf_o {cA : Nat → ClassId} {ad : Nat → Nat} {g : St} {i ci : Nat} (h : sh i = .inl ci) : cf cA ad g i = .inr (ci, fl ad g i ci) := by
  unfold cf cfo
  rw [h]
theorem cf_a {cA : Nat → ClassId} {ad : Nat → Nat} {g : St} {i t n : Nat} (h : sh i = .inr (t, n)) : cf cA ad g i = .inl (cA t, av ad t n (g.1 i) (g.2.1 i) (g.2.2 i)) := by
  unfold cf cfo
  rw [h]
theorem fl_get {ad : Nat → Nat} {g : St} {i ci k : Nat} (h : k < nF ci) : (fl ad g i ci)[k]? = some (fv ad (fT ci k) (g.1 i k) (g.2.1 i k) (g.2.2 i k)) := by
  rw [List.getElem?_map, List.getElem?_range h]
  rfl
theorem fl_set {ad : Nat → Nat} {g g' : St} {i ci k : Nat} {v : Value} (hv : fv ad (fT ci k) (g'.1 i k) (g'.2.1 i k) (g'.2.2 i k) = v) (h : ∀ z, z ≠ k → g'.1 i z = g.1 i z ∧ g'.2.1 i z = g.2.1 i z ∧ g'.2.2 i z = g.2.2 i z) : (fl ad g i ci).set k v = fl ad g' i ci := by
  rw [rm_set]
  apply List.map_congr_left
  intro z _
  by_cases hz : z = k
  · subst hz
    rw [if_pos rfl, hv]
  · obtain ⟨h1, h2, h3⟩ := h z hz
    rw [if_neg hz, h1, h2, h3]
theorem XG.at {E : Wd} {g : St} {H : Heap} (h : XG E g H) {i : Nat} (hi : i ∈ E.ids) : va_at E.D xcl (E.ad i, cf E.cA E.ad g i) H := by
  obtain ⟨k, hk⟩ := List.getElem?_of_mem hi
  exact h.1 k _ (iws_at hk)
theorem XG.in {E : Wd} {g : St} {H : Heap} (h : XG E g H) {i : Nat} (hi : i ∈ E.ids) : E.HB.size ≤ E.ad i := by
  obtain ⟨k, hk⟩ := List.getElem?_of_mem hi
  exact h.2.1.2 k _ (iws_at hk)
theorem XG.set {E : Wd} {g g' : St} {H H1 : Heap} (h : XG E g H) {i : Nat} (hi : i ∈ E.ids) {e : va_E} (z : H1.size = H.size) (oq : ∀ q : Nat, q ≠ E.ad i → H1[q]? = H[q]?) (ha : va_at E.D xcl (E.ad i, e) H1) (hce : va_up (cf E.cA E.ad g) i e = cf E.cA E.ad g') : XG E g' H1 := by
  have hin := h.in hi
  obtain ⟨hP, hD, h3, h4, h5⟩ := h
  obtain ⟨k, hk⟩ := List.getElem?_of_mem hi
  have p1 := hP.set hD (iws_at hk) ha oq
  have p2 := hD.set (e := e) (iws_at hk)
  rw [iws_set hD hk, hce] at p1 p2
  refine ⟨p1, p2, by rw [z]; exact h3, fun q hq => ?_, fun x hx => ?_⟩
  · rw [oq q (by omega)]
    exact h4 q hq
  · obtain ⟨a1, a2, a3⟩ := h5 x hx
    exact ⟨by rw [oq x.1 (Ne.symm (a3 i hi))]; exact a1, a2, a3⟩
/-! ===== what holds at the claim's start; what holds in a method's body ===== -/
def G0 (E : Wd) (s0 : State) (b : Nat) : Prop := (∀ w ∈ lw_tbl, w.before #[Value.ref b] s0 = true) ∧ va_K E.D xcl (xty E.cA) s0 ∧ s0.heap = E.HB
def Cx (E : Wd) (s0 : State) (b : Nat) (p : Program) (s : State) (m : MethodId) (args : Array Value) (meth : Method) (c : Code) (cc : ByteArray) (nL : Nat) (own : String) (rt : Option FieldType) : Prop :=
  (p.tables.exec = Jvm.exec ∧ c.code = cc ∧ c.maxLocals = nL ∧ s.vm.findClass own = some m.cls ∧ ∀ w ∈ lw_all, w.before args s = true) ∧ meth.locks = false ∧ meth.sig.returnType = rt ∧ s0.WarmedH s.vm ∧ G0 E s0 b
def XH (E : Wd) (g : St) (s : State) (H : Heap) (locs : List Loc) : Prop := XG E g H ∧ va_S (gA E.HB) s.heap H locs
abbrev inB (i : Int32) (n : Nat) : Prop := ¬ (i < 0 ∨ n ≤ i.toNatClampNeg)
def u1 {A1 D : Type} (f : A1 → D) (t : A1) : D := f t
theorem u1_e {A1 D : Type} {f : A1 → D} {a1 : A1} {x : D} (h : u1 f a1 = x) : f a1 = x := h
def u2 {A1 A2 D : Type} (f : A1 → A2 → D) (t : A1 × A2) : D := f t.1 t.2
theorem u2_e {A1 A2 D : Type} {f : A1 → A2 → D} {a1 : A1} {a2 : A2} {x : D} (h : u2 f (a1, a2) = x) : f a1 a2 = x := h
def u3 {A1 A2 A3 D : Type} (f : A1 → A2 → A3 → D) (t : A1 × A2 × A3) : D := f t.1 t.2.1 t.2.2
theorem u3_e {A1 A2 A3 D : Type} {f : A1 → A2 → A3 → D} {a1 : A1} {a2 : A2} {a3 : A3} {x : D} (h : u3 f (a1, a2, a3) = x) : f a1 a2 a3 = x := h
def u4 {A1 A2 A3 A4 D : Type} (f : A1 → A2 → A3 → A4 → D) (t : A1 × A2 × A3 × A4) : D := f t.1 t.2.1 t.2.2.1 t.2.2.2
theorem u4_e {A1 A2 A3 A4 D : Type} {f : A1 → A2 → A3 → A4 → D} {a1 : A1} {a2 : A2} {a3 : A3} {a4 : A4} {x : D} (h : u4 f (a1, a2, a3, a4) = x) : f a1 a2 a3 a4 = x := h
def u5 {A1 A2 A3 A4 A5 D : Type} (f : A1 → A2 → A3 → A4 → A5 → D) (t : A1 × A2 × A3 × A4 × A5) : D := f t.1 t.2.1 t.2.2.1 t.2.2.2.1 t.2.2.2.2
theorem u5_e {A1 A2 A3 A4 A5 D : Type} {f : A1 → A2 → A3 → A4 → A5 → D} {a1 : A1} {a2 : A2} {a3 : A3} {a4 : A4} {a5 : A5} {x : D} (h : u5 f (a1, a2, a3, a4, a5) = x) : f a1 a2 a3 a4 a5 = x := h
def u6 {A1 A2 A3 A4 A5 A6 D : Type} (f : A1 → A2 → A3 → A4 → A5 → A6 → D) (t : A1 × A2 × A3 × A4 × A5 × A6) : D := f t.1 t.2.1 t.2.2.1 t.2.2.2.1 t.2.2.2.2.1 t.2.2.2.2.2
theorem u6_e {A1 A2 A3 A4 A5 A6 D : Type} {f : A1 → A2 → A3 → A4 → A5 → A6 → D} {a1 : A1} {a2 : A2} {a3 : A3} {a4 : A4} {a5 : A5} {a6 : A6} {x : D} (h : u6 f (a1, a2, a3, a4, a5, a6) = x) : f a1 a2 a3 a4 a5 a6 = x := h
def u7 {A1 A2 A3 A4 A5 A6 A7 D : Type} (f : A1 → A2 → A3 → A4 → A5 → A6 → A7 → D) (t : A1 × A2 × A3 × A4 × A5 × A6 × A7) : D := f t.1 t.2.1 t.2.2.1 t.2.2.2.1 t.2.2.2.2.1 t.2.2.2.2.2.1 t.2.2.2.2.2.2
theorem u7_e {A1 A2 A3 A4 A5 A6 A7 D : Type} {f : A1 → A2 → A3 → A4 → A5 → A6 → A7 → D} {a1 : A1} {a2 : A2} {a3 : A3} {a4 : A4} {a5 : A5} {a6 : A6} {a7 : A7} {x : D} (h : u7 f (a1, a2, a3, a4, a5, a6, a7) = x) : f a1 a2 a3 a4 a5 a6 a7 = x := h
def u8 {A1 A2 A3 A4 A5 A6 A7 A8 D : Type} (f : A1 → A2 → A3 → A4 → A5 → A6 → A7 → A8 → D) (t : A1 × A2 × A3 × A4 × A5 × A6 × A7 × A8) : D := f t.1 t.2.1 t.2.2.1 t.2.2.2.1 t.2.2.2.2.1 t.2.2.2.2.2.1 t.2.2.2.2.2.2.1 t.2.2.2.2.2.2.2
theorem u8_e {A1 A2 A3 A4 A5 A6 A7 A8 D : Type} {f : A1 → A2 → A3 → A4 → A5 → A6 → A7 → A8 → D} {a1 : A1} {a2 : A2} {a3 : A3} {a4 : A4} {a5 : A5} {a6 : A6} {a7 : A7} {a8 : A8} {x : D} (h : u8 f (a1, a2, a3, a4, a5, a6, a7, a8) = x) : f a1 a2 a3 a4 a5 a6 a7 a8 = x := h
def u9 {A1 A2 A3 A4 A5 A6 A7 A8 A9 D : Type} (f : A1 → A2 → A3 → A4 → A5 → A6 → A7 → A8 → A9 → D) (t : A1 × A2 × A3 × A4 × A5 × A6 × A7 × A8 × A9) : D := f t.1 t.2.1 t.2.2.1 t.2.2.2.1 t.2.2.2.2.1 t.2.2.2.2.2.1 t.2.2.2.2.2.2.1 t.2.2.2.2.2.2.2.1 t.2.2.2.2.2.2.2.2
theorem u9_e {A1 A2 A3 A4 A5 A6 A7 A8 A9 D : Type} {f : A1 → A2 → A3 → A4 → A5 → A6 → A7 → A8 → A9 → D} {a1 : A1} {a2 : A2} {a3 : A3} {a4 : A4} {a5 : A5} {a6 : A6} {a7 : A7} {a8 : A8} {a9 : A9} {x : D} (h : u9 f (a1, a2, a3, a4, a5, a6, a7, a8, a9) = x) : f a1 a2 a3 a4 a5 a6 a7 a8 a9 = x := h
def u10 {A1 A2 A3 A4 A5 A6 A7 A8 A9 A10 D : Type} (f : A1 → A2 → A3 → A4 → A5 → A6 → A7 → A8 → A9 → A10 → D) (t : A1 × A2 × A3 × A4 × A5 × A6 × A7 × A8 × A9 × A10) : D := f t.1 t.2.1 t.2.2.1 t.2.2.2.1 t.2.2.2.2.1 t.2.2.2.2.2.1 t.2.2.2.2.2.2.1 t.2.2.2.2.2.2.2.1 t.2.2.2.2.2.2.2.2.1 t.2.2.2.2.2.2.2.2.2
theorem u10_e {A1 A2 A3 A4 A5 A6 A7 A8 A9 A10 D : Type} {f : A1 → A2 → A3 → A4 → A5 → A6 → A7 → A8 → A9 → A10 → D} {a1 : A1} {a2 : A2} {a3 : A3} {a4 : A4} {a5 : A5} {a6 : A6} {a7 : A7} {a8 : A8} {a9 : A9} {a10 : A10} {x : D} (h : u10 f (a1, a2, a3, a4, a5, a6, a7, a8, a9, a10) = x) : f a1 a2 a3 a4 a5 a6 a7 a8 a9 a10 = x := h
def u11 {A1 A2 A3 A4 A5 A6 A7 A8 A9 A10 A11 D : Type} (f : A1 → A2 → A3 → A4 → A5 → A6 → A7 → A8 → A9 → A10 → A11 → D) (t : A1 × A2 × A3 × A4 × A5 × A6 × A7 × A8 × A9 × A10 × A11) : D := f t.1 t.2.1 t.2.2.1 t.2.2.2.1 t.2.2.2.2.1 t.2.2.2.2.2.1 t.2.2.2.2.2.2.1 t.2.2.2.2.2.2.2.1 t.2.2.2.2.2.2.2.2.1 t.2.2.2.2.2.2.2.2.2.1 t.2.2.2.2.2.2.2.2.2.2
theorem u11_e {A1 A2 A3 A4 A5 A6 A7 A8 A9 A10 A11 D : Type} {f : A1 → A2 → A3 → A4 → A5 → A6 → A7 → A8 → A9 → A10 → A11 → D} {a1 : A1} {a2 : A2} {a3 : A3} {a4 : A4} {a5 : A5} {a6 : A6} {a7 : A7} {a8 : A8} {a9 : A9} {a10 : A10} {a11 : A11} {x : D} (h : u11 f (a1, a2, a3, a4, a5, a6, a7, a8, a9, a10, a11) = x) : f a1 a2 a3 a4 a5 a6 a7 a8 a9 a10 a11 = x := h
def u12 {A1 A2 A3 A4 A5 A6 A7 A8 A9 A10 A11 A12 D : Type} (f : A1 → A2 → A3 → A4 → A5 → A6 → A7 → A8 → A9 → A10 → A11 → A12 → D) (t : A1 × A2 × A3 × A4 × A5 × A6 × A7 × A8 × A9 × A10 × A11 × A12) : D := f t.1 t.2.1 t.2.2.1 t.2.2.2.1 t.2.2.2.2.1 t.2.2.2.2.2.1 t.2.2.2.2.2.2.1 t.2.2.2.2.2.2.2.1 t.2.2.2.2.2.2.2.2.1 t.2.2.2.2.2.2.2.2.2.1 t.2.2.2.2.2.2.2.2.2.2.1 t.2.2.2.2.2.2.2.2.2.2.2
theorem u12_e {A1 A2 A3 A4 A5 A6 A7 A8 A9 A10 A11 A12 D : Type} {f : A1 → A2 → A3 → A4 → A5 → A6 → A7 → A8 → A9 → A10 → A11 → A12 → D} {a1 : A1} {a2 : A2} {a3 : A3} {a4 : A4} {a5 : A5} {a6 : A6} {a7 : A7} {a8 : A8} {a9 : A9} {a10 : A10} {a11 : A11} {a12 : A12} {x : D} (h : u12 f (a1, a2, a3, a4, a5, a6, a7, a8, a9, a10, a11, a12) = x) : f a1 a2 a3 a4 a5 a6 a7 a8 a9 a10 a11 a12 = x := h
def u13 {A1 A2 A3 A4 A5 A6 A7 A8 A9 A10 A11 A12 A13 D : Type} (f : A1 → A2 → A3 → A4 → A5 → A6 → A7 → A8 → A9 → A10 → A11 → A12 → A13 → D) (t : A1 × A2 × A3 × A4 × A5 × A6 × A7 × A8 × A9 × A10 × A11 × A12 × A13) : D := f t.1 t.2.1 t.2.2.1 t.2.2.2.1 t.2.2.2.2.1 t.2.2.2.2.2.1 t.2.2.2.2.2.2.1 t.2.2.2.2.2.2.2.1 t.2.2.2.2.2.2.2.2.1 t.2.2.2.2.2.2.2.2.2.1 t.2.2.2.2.2.2.2.2.2.2.1 t.2.2.2.2.2.2.2.2.2.2.2.1 t.2.2.2.2.2.2.2.2.2.2.2.2
theorem u13_e {A1 A2 A3 A4 A5 A6 A7 A8 A9 A10 A11 A12 A13 D : Type} {f : A1 → A2 → A3 → A4 → A5 → A6 → A7 → A8 → A9 → A10 → A11 → A12 → A13 → D} {a1 : A1} {a2 : A2} {a3 : A3} {a4 : A4} {a5 : A5} {a6 : A6} {a7 : A7} {a8 : A8} {a9 : A9} {a10 : A10} {a11 : A11} {a12 : A12} {a13 : A13} {x : D} (h : u13 f (a1, a2, a3, a4, a5, a6, a7, a8, a9, a10, a11, a12, a13) = x) : f a1 a2 a3 a4 a5 a6 a7 a8 a9 a10 a11 a12 a13 = x := h
def u14 {A1 A2 A3 A4 A5 A6 A7 A8 A9 A10 A11 A12 A13 A14 D : Type} (f : A1 → A2 → A3 → A4 → A5 → A6 → A7 → A8 → A9 → A10 → A11 → A12 → A13 → A14 → D) (t : A1 × A2 × A3 × A4 × A5 × A6 × A7 × A8 × A9 × A10 × A11 × A12 × A13 × A14) : D := f t.1 t.2.1 t.2.2.1 t.2.2.2.1 t.2.2.2.2.1 t.2.2.2.2.2.1 t.2.2.2.2.2.2.1 t.2.2.2.2.2.2.2.1 t.2.2.2.2.2.2.2.2.1 t.2.2.2.2.2.2.2.2.2.1 t.2.2.2.2.2.2.2.2.2.2.1 t.2.2.2.2.2.2.2.2.2.2.2.1 t.2.2.2.2.2.2.2.2.2.2.2.2.1 t.2.2.2.2.2.2.2.2.2.2.2.2.2
theorem u14_e {A1 A2 A3 A4 A5 A6 A7 A8 A9 A10 A11 A12 A13 A14 D : Type} {f : A1 → A2 → A3 → A4 → A5 → A6 → A7 → A8 → A9 → A10 → A11 → A12 → A13 → A14 → D} {a1 : A1} {a2 : A2} {a3 : A3} {a4 : A4} {a5 : A5} {a6 : A6} {a7 : A7} {a8 : A8} {a9 : A9} {a10 : A10} {a11 : A11} {a12 : A12} {a13 : A13} {a14 : A14} {x : D} (h : u14 f (a1, a2, a3, a4, a5, a6, a7, a8, a9, a10, a11, a12, a13, a14) = x) : f a1 a2 a3 a4 a5 a6 a7 a8 a9 a10 a11 a12 a13 a14 = x := h
theorem sl_e {A B D : Type} {f : A → D} {g : B → D} {t : A} {x : D} (h : Sum.elim f g (.inl t) = x) : f t = x := h
theorem sr_e {A B D : Type} {f : A → D} {g : B → D} {t : B} {x : D} (h : Sum.elim f g (.inr t) = x) : g t = x := h
def Sx (E : Wd) : Prop := ∀ i, i < 87 → i ∈ E.ids
theorem sw_out {x : Int32} {n : Nat} (hn : n < 1000) (h : ∀ k : Nat, k < n + 1 → x ≠ Int32.ofNat k) : x.toInt < 0 ∨ (n : Int) < x.toInt := by
  rcases Int.lt_or_le x.toInt 0 with q | q
  · exact Or.inl q
  · rcases Int.lt_or_le (n : Int) x.toInt with r | r
    · exact Or.inr r
    · exfalso
      have hx : ¬ x < 0 := by
        intro z
        have := Int32.lt_iff_toInt_lt.mp z
        have h0 : (0 : Int32).toInt = 0 := rfl
        omega
      obtain ⟨j, hj, e⟩ := nI_of hx
      have e2 := nI_toInt hj
      rw [← e] at e2
      exact h j (by omega) e
def jrem (x y : Int32) : Int32 := x - x / y * y
def jreml (x y : Int64) : Int64 := x - x / y * y
def jlshl (x : Int64) (y : Int32) : Int64 := x <<< (y.toInt64 &&& 63)
def jlshr (x : Int64) (y : Int32) : Int64 := x >>> (y.toInt64 &&& 63)
def jlushr (x : Int64) (y : Int32) : Int64 := (x.toUInt64 >>> (y.toInt64.toUInt64 &&& Int64.toUInt64 63)).toInt64
def jiushr (x y : Int32) : Int32 := (x.toUInt32 >>> (y.toUInt32 &&& Int32.toUInt32 31)).toInt32
def jmin (x y : Int32) : Int32 := if y < x then y else x
def jmax (x y : Int32) : Int32 := if x < y then y else x
def jminl (x y : Int64) : Int64 := if y < x then y else x
def jmaxl (x y : Int64) : Int64 := if y < x then x else y
section CXA
variable {E : Wd} {s0 : State} {b : Nat} {p : Program} {s : State} {m : MethodId} {args : Array Value} {meth : Method} {c : Code} {cc : ByteArray} {nL : Nat} {own : String} {rt : Option FieldType}
theorem Cx.x (C : Cx E s0 b p s m args meth c cc nL own rt) : p.tables.exec = Jvm.exec := C.1.1
theorem Cx.bc (C : Cx E s0 b p s m args meth c cc nL own rt) : c.code = cc := C.1.2.1
theorem Cx.ml (C : Cx E s0 b p s m args meth c cc nL own rt) : c.maxLocals = nL := C.1.2.2.1
theorem Cx.ow (C : Cx E s0 b p s m args meth c cc nL own rt) : s.vm.findClass own = some m.cls := C.1.2.2.2.1
theorem Cx.ts (C : Cx E s0 b p s m args meth c cc nL own rt) : ∀ w ∈ lw_all, w.before args s = true := C.1.2.2.2.2
theorem Cx.lk (C : Cx E s0 b p s m args meth c cc nL own rt) : meth.locks = false := C.2.1
theorem Cx.r (C : Cx E s0 b p s m args meth c cc nL own rt) : meth.sig.returnType = rt := C.2.2.1
theorem Cx.w (C : Cx E s0 b p s m args meth c cc nL own rt) : s0.WarmedH s.vm := C.2.2.2.1
theorem Cx.g (C : Cx E s0 b p s m args meth c cc nL own rt) : G0 E s0 b := C.2.2.2.2
theorem Cx.k (C : Cx E s0 b p s m args meth c cc nL own rt) : va_K E.D xcl (xty E.cA) s := va_K.moved C.w.alike C.g.2.1
theorem Cx.f (C : Cx E s0 b p s m args meth c cc nL own rt) : CallFix p m c cc nL s args lw_all own := C.1
end CXA
section XROWS
variable {p : Program} {l : Launch} {e : Env} {R : Room} {s : State} {m : MethodId} {args : Array Value} {below : List Frame} {meth : Method} {c : Code} {H : Heap} {locs : List Loc} {cells slots : Nat} {Q : State → Prop}
variable {cc : ByteArray} {pc : Nat} {ls : Array Slot} {rest : List Value} {E : Wd} {s0 : State} {b nL : Nat} {own : String} {rt : Option FieldType} {g : St}
theorem x_get (C : Cx E s0 b p s m args meth c cc nL own rt) (h : XH E g s H locs) (i ci k : Nat) (hi : i ∈ E.ids) (hs : sh i = .inl ci) (hk : k < nF ci) {Cn : String} {T : u_T} {N index : Nat} (hc : xcl[ci]? = some (Cn, T, N)) (hN : k < N) (hin : ∀ w ∈ u_ws Cn T N, w ∈ lw_all) (hl : Cond.fieldLink own index Cn (T k).2.1 (T k).2.2.1 ∈ lw_all) (hT : (T k).1 = Cn) (hdg : decode cc pc = .ok (.getfield index, 3))
    {v : Value} (hv : fv E.ad (fT ci k) (g.1 i k) (g.2.1 i k) (g.2.2 i k) = v) (kk : W p l e R s m args below meth c H locs cells slots Q (F0 m (pc + 3) ls (v :: rest))) : W p l e R s m args below meth c H locs cells slots Q (F0 m pc ls (.ref (E.ad i) :: rest)) := by
  have ha := h.1.at hi
  rw [cf_o hs] at ha
  subst hT
  exact va_get (D := E.D) (cl := xcl) (ws := [(E.ad i, .inr (ci, fl E.ad g i ci))]) (v := v) C.x C.bc C.ts hin C.ow C.k (fun z q hz => by
    cases z with
    | zero => cases hz; exact ha
    | succ z => simp at hz) 0 rfl hc k hN (C.ts _ hl) (fun _ h9 => h9) (by rw [fl_get hk, hv]) hdg kk
theorem x_put (C : Cx E s0 b p s m args meth c cc nL own rt) (h : XH E g s H locs) (i ci k : Nat) (hi : i ∈ E.ids) (hs : sh i = .inl ci) (hk : k < nF ci) {Cn : String} {T : u_T} {N index : Nat} (hc : xcl[ci]? = some (Cn, T, N)) (hN : k < N) (hin : ∀ w ∈ u_ws Cn T N, w ∈ lw_all) (ty0 : Nat → FieldType) (hty : ∀ k, k < N → parseFieldDescriptor (T k).2.2.1 = some (ty0 k)) (hnm : ∀ a, a < N → ∀ b, b < N → a ≠ b → (T a).2.1 ≠ (T b).2.1) (hl : Cond.fieldLink own index Cn (T k).2.1 (T k).2.2.1 ∈ lw_all) (hT : (T k).1 = Cn) (hfin : (T k).2.2.2 = false) {ty : FieldType} {v : Value} (hd : ty0 k = ty) (hn : narrow ty v = v) (hfit : fits ty v = true) (hdg : decode cc pc = .ok (.putfield index, 3)) {g' : St}
    (hv : fv E.ad (fT ci k) (g'.1 i k) (g'.2.1 i k) (g'.2.2 i k) = v) (hsame : ∀ z, z ≠ k → g'.1 i z = g.1 i z ∧ g'.2.1 i z = g.2.1 i z ∧ g'.2.2 i z = g.2.2 i z) (hoth : ∀ j, j ≠ i → g'.1 j = g.1 j ∧ g'.2.1 j = g.2.1 j ∧ g'.2.2 j = g.2.2 j)
    (kk : ∀ (H : Heap) (locs : List Loc), XH E g' s H locs → W p l e R s m args below meth c H locs cells slots Q (F0 m (pc + 3) ls rest)) : W p l e R s m args below meth c H locs cells slots Q (F0 m pc ls (v :: .ref (E.ad i) :: rest)) := by
  have ha := h.1.at hi
  rw [cf_o hs] at ha
  have hd' : parseFieldDescriptor (T k).2.2.1 = some ty := by rw [hty k hN, hd]
  have hap := va_apart (own := own) C.ts hin ty0 hty hnm C.k hc
  obtain ⟨r, h1, cell, q1, q2, q3, q4⟩ := ha
  have hr : r = (Cn, T, N) := Option.some.inj (h1.symm.trans hc)
  subst hr
  obtain ⟨hS, hfc, kC, hkC, hkind⟩ := C.k.1 ci _ hc
  obtain ⟨cf', kf, fi, f, hi', hsl⟩ := hS k hN
  have hlay := C.ts _ (hin _ (u_in_lay hN))
  unfold u_lay at hlay
  rw [if_neg (by rw [hfin]; decide)] at hlay
  have hst := (u_facts hfc hkC (u_lays C.ts hin hN) hi').1
  have h6 := u_store hfc hkC hkind hlay hi' hd' hn hfit
  have hl' : (Cond.fieldLink own index (T k).1 (T k).2.1 (T k).2.2.1).before args s = true := by rw [hT]; exact C.ts _ hl
  refine W.putK C.x C.bc (f := f) ⟨C.ow, hl', ⟨_, _, _, hi'⟩, hst⟩ (by rw [q2]; exact h6) q1 q3 (by rw [hsl]; exact k2_hasslot (q4 k hN)) rfl rfl hdg fun H' e1 e2 e3 => ?_
  rw [hsl] at e1 ⊢
  refine kk H' _ ⟨h.1.set hi e2 e3 (e := .inr (ci, fl E.ad g' i ci)) ⟨_, hc, ?_⟩ (cf_up (cf_o hs) hoth), h.2.put e2 e3 (h.1.in hi)⟩
  rw [← fl_set hv hsame]
  exact t_OB.to (V := updV (vp_V (fl E.ad g i ci)) k v) ⟨_, e1, q2, q3, t_set q4 hap hN v⟩ (fun j _ => vp_updV_set (by simpa using hk) v j)
theorem x_getI (C : Cx E s0 b p s m args meth c cc nL own rt) (h : XH E g s H locs) (i ci k : Nat) (hi : i ∈ E.ids) (hs : sh i = .inl ci) (hk : k < nF ci) (ht : fT ci k = 0) {Cn : String} {T : u_T} {N index : Nat} (hc : xcl[ci]? = some (Cn, T, N)) (hN : k < N) (hin : ∀ w ∈ u_ws Cn T N, w ∈ lw_all) (hl : Cond.fieldLink own index Cn (T k).2.1 (T k).2.2.1 ∈ lw_all) (hT : (T k).1 = Cn) (hdg : decode cc pc = .ok (.getfield index, 3))
    (kk : W p l e R s m args below meth c H locs cells slots Q (F0 m (pc + 3) ls (.int (g.1 i k) :: rest))) : W p l e R s m args below meth c H locs cells slots Q (F0 m pc ls (.ref (E.ad i) :: rest)) :=
  x_get C h i ci k hi hs hk hc hN hin hl hT hdg (by rw [ht]; rfl) kk
theorem x_getL (C : Cx E s0 b p s m args meth c cc nL own rt) (h : XH E g s H locs) (i ci k : Nat) (hi : i ∈ E.ids) (hs : sh i = .inl ci) (hk : k < nF ci) (ht : fT ci k = 1) {Cn : String} {T : u_T} {N index : Nat} (hc : xcl[ci]? = some (Cn, T, N)) (hN : k < N) (hin : ∀ w ∈ u_ws Cn T N, w ∈ lw_all) (hl : Cond.fieldLink own index Cn (T k).2.1 (T k).2.2.1 ∈ lw_all) (hT : (T k).1 = Cn) (hdg : decode cc pc = .ok (.getfield index, 3))
    (kk : W p l e R s m args below meth c H locs cells slots Q (F0 m (pc + 3) ls (.long (g.2.1 i k) :: rest))) : W p l e R s m args below meth c H locs cells slots Q (F0 m pc ls (.ref (E.ad i) :: rest)) :=
  x_get C h i ci k hi hs hk hc hN hin hl hT hdg (by rw [ht]; rfl) kk
theorem x_getP (C : Cx E s0 b p s m args meth c cc nL own rt) (h : XH E g s H locs) (i ci k j : Nat) (hj : g.2.2 i k = some j) (hi : i ∈ E.ids) (hs : sh i = .inl ci) (hk : k < nF ci) (ht : fT ci k = 2) {Cn : String} {T : u_T} {N index : Nat} (hc : xcl[ci]? = some (Cn, T, N)) (hN : k < N) (hin : ∀ w ∈ u_ws Cn T N, w ∈ lw_all) (hl : Cond.fieldLink own index Cn (T k).2.1 (T k).2.2.1 ∈ lw_all) (hT : (T k).1 = Cn) (hdg : decode cc pc = .ok (.getfield index, 3))
    (kk : W p l e R s m args below meth c H locs cells slots Q (F0 m (pc + 3) ls (.ref (E.ad j) :: rest))) : W p l e R s m args below meth c H locs cells slots Q (F0 m pc ls (.ref (E.ad i) :: rest)) :=
  x_get C h i ci k hi hs hk hc hN hin hl hT hdg (by rw [ht, hj]; rfl) kk
theorem x_putI (C : Cx E s0 b p s m args meth c cc nL own rt) (h : XH E g s H locs) (i ci k : Nat) (hi : i ∈ E.ids) (hs : sh i = .inl ci) (hk : k < nF ci) (ht : fT ci k = 0) {Cn : String} {T : u_T} {N index : Nat} (hc : xcl[ci]? = some (Cn, T, N)) (hN : k < N) (hin : ∀ w ∈ u_ws Cn T N, w ∈ lw_all) (ty0 : Nat → FieldType) (hty : ∀ k, k < N → parseFieldDescriptor (T k).2.2.1 = some (ty0 k)) (hnm : ∀ a, a < N → ∀ b, b < N → a ≠ b → (T a).2.1 ≠ (T b).2.1) (hl : Cond.fieldLink own index Cn (T k).2.1 (T k).2.2.1 ∈ lw_all) (hT : (T k).1 = Cn) (hfin : (T k).2.2.2 = false) (hd : ty0 k = .int) (hdg : decode cc pc = .ok (.putfield index, 3)) {v : Int32}
    (kk : ∀ (H : Heap) (locs : List Loc), XH E (uI g i k v) s H locs → W p l e R s m args below meth c H locs cells slots Q (F0 m (pc + 3) ls rest)) : W p l e R s m args below meth c H locs cells slots Q (F0 m pc ls (.int v :: .ref (E.ad i) :: rest)) :=
  x_put (g' := uI g i k v) C h i ci k hi hs hk hc hN hin ty0 hty hnm hl hT hfin hd rfl rfl hdg (by rw [ht]; show Value.int (up2 g.1 i k v i k) = _; rw [up2_ss]) (fun z hz => ⟨up2_sn _ _ hz, rfl, rfl⟩) (fun j hj => uI_ne hj) kk
theorem x_putL (C : Cx E s0 b p s m args meth c cc nL own rt) (h : XH E g s H locs) (i ci k : Nat) (hi : i ∈ E.ids) (hs : sh i = .inl ci) (hk : k < nF ci) (ht : fT ci k = 1) {Cn : String} {T : u_T} {N index : Nat} (hc : xcl[ci]? = some (Cn, T, N)) (hN : k < N) (hin : ∀ w ∈ u_ws Cn T N, w ∈ lw_all) (ty0 : Nat → FieldType) (hty : ∀ k, k < N → parseFieldDescriptor (T k).2.2.1 = some (ty0 k)) (hnm : ∀ a, a < N → ∀ b, b < N → a ≠ b → (T a).2.1 ≠ (T b).2.1) (hl : Cond.fieldLink own index Cn (T k).2.1 (T k).2.2.1 ∈ lw_all) (hT : (T k).1 = Cn) (hfin : (T k).2.2.2 = false) (hd : ty0 k = .long) (hdg : decode cc pc = .ok (.putfield index, 3)) {v : Int64}
    (kk : ∀ (H : Heap) (locs : List Loc), XH E (uL g i k v) s H locs → W p l e R s m args below meth c H locs cells slots Q (F0 m (pc + 3) ls rest)) : W p l e R s m args below meth c H locs cells slots Q (F0 m pc ls (.long v :: .ref (E.ad i) :: rest)) :=
  x_put (g' := uL g i k v) C h i ci k hi hs hk hc hN hin ty0 hty hnm hl hT hfin hd rfl rfl hdg (by rw [ht]; show Value.long (up2 g.2.1 i k v i k) = _; rw [up2_ss]) (fun z hz => ⟨rfl, up2_sn _ _ hz, rfl⟩) (fun j hj => uL_ne hj) kk
/-! ===== arrays ===== -/
theorem x_aI {E : Wd} {g : St} {H : Heap} (h : XG E g H) {i t n : Nat} (hi : i ∈ E.ids) (hs : sh i = .inr (t, n)) (ht : t ≠ 1 ∧ t < 4) : va_P E.D xcl [(E.ad i, .inl (E.cA t, n, .inl (g.1 i)))] H := by
  have ha := h.at hi
  rw [cf_a hs] at ha
  unfold av at ha
  rw [if_neg ht.1, if_pos ht.2] at ha
  intro z q hz
  cases z with
  | zero => cases hz; exact ha
  | succ z => simp at hz
theorem x_aL {E : Wd} {g : St} {H : Heap} (h : XG E g H) {i n : Nat} (hi : i ∈ E.ids) (hs : sh i = .inr (1, n)) : va_P E.D xcl [(E.ad i, .inl (E.cA 1, n, .inr (.inl (g.2.1 i))))] H := by
  have ha := h.at hi
  rw [cf_a hs] at ha
  unfold av at ha
  rw [if_pos rfl] at ha
  intro z q hz
  cases z with
  | zero => cases hz; exact ha
  | succ z => simp at hz
theorem x_aP {E : Wd} {g : St} {H : Heap} (h : XG E g H) {i t n : Nat} (hi : i ∈ E.ids) (hs : sh i = .inr (t, n)) (ht : 4 ≤ t) : va_at E.D xcl (E.ad i, .inl (E.cA t, n, .inr (.inr (.inr (.inr (fun j => (g.2.2 i j).map E.ad)))))) H := by
  have ha := h.at hi
  rw [cf_a hs] at ha
  unfold av at ha
  rw [if_neg (by omega), if_neg (by omega)] at ha
  exact ha
theorem x_iald (C : Cx E s0 b p s m args meth c cc nL own rt) (h : XH E g s H locs) (i n : Nat) (hi : i ∈ E.ids) (hs : sh i = .inr (0, n)) {j : Int32} (hin : vp_in j n) (hdg : decode cc pc = .ok (.iaload, 1))
    (kk : W p l e R s m args below meth c H locs cells slots Q (F0 m (pc + 1) ls (.int (g.1 i j.toNatClampNeg) :: rest))) : W p l e R s m args below meth c H locs cells slots Q (F0 m pc ls (.int j :: .ref (E.ad i) :: rest)) :=
  va_iald C.x C.bc C.k (x_aI h.1 hi hs ⟨by decide, by decide⟩) 0 0 rfl rfl hin hdg kk
theorem x_bald (C : Cx E s0 b p s m args meth c cc nL own rt) (h : XH E g s H locs) (i n : Nat) (hi : i ∈ E.ids) (hs : sh i = .inr (2, n)) {j : Int32} (hin : vp_in j n) (hdg : decode cc pc = .ok (.baload, 1))
    (kk : W p l e R s m args below meth c H locs cells slots Q (F0 m (pc + 1) ls (.int (g.1 i j.toNatClampNeg) :: rest))) : W p l e R s m args below meth c H locs cells slots Q (F0 m pc ls (.int j :: .ref (E.ad i) :: rest)) :=
  va_bald C.x C.bc C.k (x_aI h.1 hi hs ⟨by decide, by decide⟩) 0 2 rfl rfl hin hdg kk
theorem x_zald (C : Cx E s0 b p s m args meth c cc nL own rt) (h : XH E g s H locs) (i n : Nat) (hi : i ∈ E.ids) (hs : sh i = .inr (3, n)) {j : Int32} (hin : vp_in j n) (hdg : decode cc pc = .ok (.baload, 1))
    (kk : W p l e R s m args below meth c H locs cells slots Q (F0 m (pc + 1) ls (.int (g.1 i j.toNatClampNeg) :: rest))) : W p l e R s m args below meth c H locs cells slots Q (F0 m pc ls (.int j :: .ref (E.ad i) :: rest)) :=
  va_zald C.x C.bc C.k (x_aI h.1 hi hs ⟨by decide, by decide⟩) 0 3 rfl rfl hin hdg kk
theorem x_lald (C : Cx E s0 b p s m args meth c cc nL own rt) (h : XH E g s H locs) (i n : Nat) (hi : i ∈ E.ids) (hs : sh i = .inr (1, n)) {j : Int32} (hin : vp_in j n) (hdg : decode cc pc = .ok (.laload, 1))
    (kk : W p l e R s m args below meth c H locs cells slots Q (F0 m (pc + 1) ls (.long (g.2.1 i j.toNatClampNeg) :: rest))) : W p l e R s m args below meth c H locs cells slots Q (F0 m pc ls (.int j :: .ref (E.ad i) :: rest)) :=
  va_lald C.x C.bc C.k (x_aL h.1 hi hs) 0 1 rfl rfl hin hdg kk
theorem x_alen (C : Cx E s0 b p s m args meth c cc nL own rt) (h : XH E g s H locs) (i t n : Nat) (hi : i ∈ E.ids) (hs : sh i = .inr (t, n)) {ty : FieldType} (ht : (xty E.cA)[t]? = some (E.cA t, ty)) {v : Int32} (hv : Int32.ofNat n = v) (hdg : decode cc pc = .ok (.arraylength, 1))
    (kk : W p l e R s m args below meth c H locs cells slots Q (F0 m (pc + 1) ls (.int v :: rest))) : W p l e R s m args below meth c H locs cells slots Q (F0 m pc ls (.ref (E.ad i) :: rest)) := by
  have ha := h.1.at hi
  rw [cf_a hs] at ha
  exact va_alen (ws := [(E.ad i, .inl (E.cA t, av E.ad t n (g.1 i) (g.2.1 i) (g.2.2 i)))]) C.x C.bc C.k (fun z q hz => by
    cases z with
    | zero => cases hz; exact ha
    | succ z => simp at hz) 0 t rfl ht hv hdg kk
theorem x_aald (C : Cx E s0 b p s m args meth c cc nL own rt) (h : XH E g s H locs) (i t n : Nat) (hi : i ∈ E.ids) (hs : sh i = .inr (t, n)) (h4 : 4 ≤ t) {ty : FieldType} (ht : (xty E.cA)[t]? = some (E.cA t, ty)) (hr : ty.isReference = true) {j : Int32} (hin : vp_in j n) (hdg : decode cc pc = .ok (.aaload, 1)) {v : Value} (hv : va_rf ((g.2.2 i j.toNatClampNeg).map E.ad) = v)
    (kk : W p l e R s m args below meth c H locs cells slots Q (F0 m (pc + 1) ls (v :: rest))) : W p l e R s m args below meth c H locs cells slots Q (F0 m pc ls (.int j :: .ref (E.ad i) :: rest)) := by
  have hlt : j.toNatClampNeg < n := Nat.not_le.mp fun q => hin (Or.inr q)
  exact W.aald (v := v) C.x C.bc (x_aP h.1 hi hs h4) ((C.k.2 t _ ht).1 n (fun z => va_rf ((g.2.2 i z).map E.ad))) hr (fun q => by cases q) (by show ¬ (j < 0 ∨ (arrV _ _ _).slots.size ≤ _); rw [arrV_size]; exact hin) (by show (arrV _ _ _).slots[_]? = _; rw [arrV_read _ _ hlt, hv]) rfl rfl hdg kk
theorem x_iast (C : Cx E s0 b p s m args meth c cc nL own rt) (h : XH E g s H locs) (i n : Nat) (hi : i ∈ E.ids) (hs : sh i = .inr (0, n)) {j x : Int32} (hin : vp_in j n) (hdg : decode cc pc = .ok (.iastore, 1))
    (kk : ∀ (H : Heap) (locs : List Loc), XH E (uI g i j.toNatClampNeg x) s H locs → W p l e R s m args below meth c H locs cells slots Q (F0 m (pc + 1) ls rest)) : W p l e R s m args below meth c H locs cells slots Q (F0 m pc ls (.int x :: .int j :: .ref (E.ad i) :: rest)) := by
  refine W.iast C.x C.bc (x_aI h.1 hi hs ⟨by decide, by decide⟩ 0 _ rfl) ((C.k.2 0 _ rfl).1 n (fun j => .int (g.1 i j))) (fun q => by cases q) (by show ¬ (j < 0 ∨ (arrV _ _ _).slots.size ≤ _); rw [arrV_size]; exact hin) rfl rfl hdg fun H1 e z oq => ?_
  refine kk H1 _ ⟨h.1.set hi z oq (e := .inl (E.cA 0, n, .inl ((uI g i j.toNatClampNeg x).1 i))) ?_ (cf_up (by rw [cf_a hs]; rfl) (fun j hj => uI_ne hj)), h.2.put z oq (h.1.in hi)⟩
  show H1[E.ad i]? = some (vp_cell _ _)
  rw [e, vp_cell_i, vp_cell_i, arrV_store]
  congr 2
  funext q
  show _ = Value.int (up2 g.1 i _ x i q)
  by_cases hq : q = j.toNatClampNeg
  · subst hq
    simp [updV, up2]
  · simp [updV, up2, hq]
theorem x_bast (C : Cx E s0 b p s m args meth c cc nL own rt) (h : XH E g s H locs) (i n : Nat) (hi : i ∈ E.ids) (hs : sh i = .inr (2, n)) {j x : Int32} (hin : vp_in j n) (hdg : decode cc pc = .ok (.bastore, 1))
    (kk : ∀ (H : Heap) (locs : List Loc), XH E (uI g i j.toNatClampNeg (vp_nar .byte x)) s H locs → W p l e R s m args below meth c H locs cells slots Q (F0 m (pc + 1) ls rest)) : W p l e R s m args below meth c H locs cells slots Q (F0 m pc ls (.int x :: .int j :: .ref (E.ad i) :: rest)) := by
  refine W.bast C.x C.bc (x_aI h.1 hi hs ⟨by decide, by decide⟩ 0 _ rfl) ((C.k.2 2 _ rfl).1 n (fun j => .int (g.1 i j))) (fun q => by cases q) (by show ¬ (j < 0 ∨ (arrV _ _ _).slots.size ≤ _); rw [arrV_size]; exact hin) rfl rfl hdg fun H1 e z oq => ?_
  refine kk H1 _ ⟨h.1.set hi z oq (e := .inl (E.cA 2, n, .inl ((uI g i j.toNatClampNeg (vp_nar .byte x)).1 i))) ?_ (cf_up (by rw [cf_a hs]; rfl) (fun j hj => uI_ne hj)), h.2.put z oq (h.1.in hi)⟩
  show H1[E.ad i]? = some (vp_cell _ _)
  rw [e, vp_cell_i, vp_cell_i, arrV_store]
  congr 2
  funext q
  show _ = Value.int (up2 g.1 i _ _ i q)
  by_cases hq : q = j.toNatClampNeg
  · subst hq
    simp [updV, up2, vp_nar]
    try rfl
  · simp [updV, up2, hq]
theorem x_zast (C : Cx E s0 b p s m args meth c cc nL own rt) (h : XH E g s H locs) (i n : Nat) (hi : i ∈ E.ids) (hs : sh i = .inr (3, n)) {j x : Int32} (hin : vp_in j n) (hdg : decode cc pc = .ok (.bastore, 1))
    (kk : ∀ (H : Heap) (locs : List Loc), XH E (uI g i j.toNatClampNeg (vp_nar .boolean x)) s H locs → W p l e R s m args below meth c H locs cells slots Q (F0 m (pc + 1) ls rest)) : W p l e R s m args below meth c H locs cells slots Q (F0 m pc ls (.int x :: .int j :: .ref (E.ad i) :: rest)) := by
  refine W.zast C.x C.bc (x_aI h.1 hi hs ⟨by decide, by decide⟩ 0 _ rfl) ((C.k.2 3 _ rfl).1 n (fun j => .int (g.1 i j))) (fun q => by cases q) (by show ¬ (j < 0 ∨ (arrV _ _ _).slots.size ≤ _); rw [arrV_size]; exact hin) rfl rfl hdg fun H1 e z oq => ?_
  refine kk H1 _ ⟨h.1.set hi z oq (e := .inl (E.cA 3, n, .inl ((uI g i j.toNatClampNeg (vp_nar .boolean x)).1 i))) ?_ (cf_up (by rw [cf_a hs]; rfl) (fun j hj => uI_ne hj)), h.2.put z oq (h.1.in hi)⟩
  show H1[E.ad i]? = some (vp_cell _ _)
  rw [e, vp_cell_i, vp_cell_i, arrV_store]
  congr 2
  funext q
  show _ = Value.int (up2 g.1 i _ _ i q)
  by_cases hq : q = j.toNatClampNeg
  · subst hq
    simp [updV, up2, vp_nar]
    try rfl
  · simp [updV, up2, hq]
theorem x_last (C : Cx E s0 b p s m args meth c cc nL own rt) (h : XH E g s H locs) (i n : Nat) (hi : i ∈ E.ids) (hs : sh i = .inr (1, n)) {j : Int32} {x : Int64} (hin : vp_in j n) (hdg : decode cc pc = .ok (.lastore, 1))
    (kk : ∀ (H : Heap) (locs : List Loc), XH E (uL g i j.toNatClampNeg x) s H locs → W p l e R s m args below meth c H locs cells slots Q (F0 m (pc + 1) ls rest)) : W p l e R s m args below meth c H locs cells slots Q (F0 m pc ls (.long x :: .int j :: .ref (E.ad i) :: rest)) := by
  refine W.last C.x C.bc (x_aL h.1 hi hs 0 _ rfl) ((C.k.2 1 _ rfl).1 n (fun j => .long (g.2.1 i j))) (fun q => by cases q) (by show ¬ (j < 0 ∨ (arrV _ _ _).slots.size ≤ _); rw [arrV_size]; exact hin) rfl rfl hdg fun H1 e z oq => ?_
  refine kk H1 _ ⟨h.1.set hi z oq (e := .inl (E.cA 1, n, .inr (.inl ((uL g i j.toNatClampNeg x).2.1 i)))) ?_ (cf_up (by rw [cf_a hs]; rfl) (fun j hj => uL_ne hj)), h.2.put z oq (h.1.in hi)⟩
  show H1[E.ad i]? = some (vp_cell _ _)
  rw [e, vp_cell_l, vp_cell_l, arrV_store]
  congr 2
  funext q
  show _ = Value.long (up2 g.2.1 i _ x i q)
  by_cases hq : q = j.toNatClampNeg
  · subst hq
    simp [updV, up2]
  · simp [updV, up2, hq]
/-! ===== the stack's top by another name; lcmp and a branch ===== -/
theorem x_ti {x y : Int32} (h : y = x) (k : W p l e R s m args below meth c H locs cells slots Q (F0 m pc ls (.int y :: rest))) : W p l e R s m args below meth c H locs cells slots Q (F0 m pc ls (.int x :: rest)) := h ▸ k
theorem x_tl {x y : Int64} (h : y = x) (k : W p l e R s m args below meth c H locs cells slots Q (F0 m pc ls (.long y :: rest))) : W p l e R s m args below meth c H locs cells slots Q (F0 m pc ls (.long x :: rest)) := h ▸ k
theorem lc_lt (x y : Int64) : lg_cmp x y < 0 ↔ x < y := by
  unfold lg_cmp
  by_cases h1 : y < x
  · simp only [h1, if_true]
    constructor
    · intro h; exact absurd h (by decide)
    · intro h; exact (Int64.lt_irrefl (Int64.lt_trans h h1)).elim
  · by_cases h2 : x = y
    · subst h2
      simp [Int64.lt_irrefl]
    · simp only [h1, h2, if_false]
      constructor
      · intro _
        rcases Int64.lt_or_le x y with q | q
        · exact q
        · rcases Int64.lt_or_eq_of_le q with r | r
          · exact absurd r h1
          · exact absurd r.symm h2
      · intro _; decide
theorem lc_eq (x y : Int64) : lg_cmp x y = 0 ↔ x = y := by
  unfold lg_cmp
  by_cases h1 : y < x
  · simp only [h1, if_true]
    constructor
    · intro h; exact absurd h (by decide)
    · intro h; subst h; exact (Int64.lt_irrefl h1).elim
  · by_cases h2 : x = y
    · subst h2
      simp [Int64.lt_irrefl]
    · simp only [h1, h2, if_false]
      constructor
      · intro h; exact absurd h (by decide)
      · intro h; first | exact h.elim | exact absurd h h1 | exact absurd h h2
theorem lc_gt (x y : Int64) : 0 < lg_cmp x y ↔ y < x := by
  unfold lg_cmp
  by_cases h1 : y < x
  · simp only [h1, if_true]
    constructor
    · intro _; trivial
    · intro _; decide
  · by_cases h2 : x = y
    · subst h2
      simp [Int64.lt_irrefl]
    · simp only [h1, h2, if_false]
      constructor
      · intro h; exact absurd h (by decide)
      · intro h; first | exact h.elim | exact absurd h h1 | exact absurd h h2
theorem lc_le (x y : Int64) : lg_cmp x y ≤ 0 ↔ ¬ y < x := by rw [← lc_gt, Int32.not_lt]
theorem lc_ge (x y : Int64) : 0 ≤ lg_cmp x y ↔ ¬ x < y := by rw [← lc_lt, Int32.not_lt]
theorem y_irem (hexec : p.tables.exec = Jvm.exec) (hb : c.code = cc) {x y : Int32} (hdg : decode cc pc = .ok (.irem, 1)) (hne : ¬ y = 0) (k : W p l e R s m args below meth c H locs cells slots Q (F0 m (pc + 1) ls (.int (jrem x y) :: rest))) : W p l e R s m args below meth c H locs cells slots Q (F0 m pc ls (.int y :: .int x :: rest)) := lv_irem hexec hb hdg hne k
theorem y_lrem (hexec : p.tables.exec = Jvm.exec) (hb : c.code = cc) {x y : Int64} (hdg : decode cc pc = .ok (.lrem, 1)) (hne : ¬ y = 0) (k : W p l e R s m args below meth c H locs cells slots Q (F0 m (pc + 1) ls (.long (jreml x y) :: rest))) : W p l e R s m args below meth c H locs cells slots Q (F0 m pc ls (.long y :: .long x :: rest)) := lv_lrem hexec hb hdg hne k
/-! ===== ends ===== -/
def Qx (E : Wd) (v : Option Value) (g : St) : Array Value → State → Outcome → State → Prop := fun _ st o t => (o = .returned v ∧ XG E g t.heap) ∧ va_F (gA E.HB) st t
theorem x_iret (C : Cx E s0 b p s m args meth c cc nL own (some .int)) (h : XH E g s H locs) {v : Int32} (hdg : decode cc pc = .ok (.ireturn, 1)) : W p l e R s m args below meth c H locs cells slots (MQ below (Qx E (some (.int v)) g) args s cells slots (gA E.HB)) (F0 m pc ls [.int v]) :=
  W.iret (v := v) C.x C.bc C.r (fun t ht _ => ⟨⟨rfl, by rw [ht]; exact h.1⟩, h.2.F ht⟩) h.2.2.2 hdg C.lk
theorem x_lret (C : Cx E s0 b p s m args meth c cc nL own (some .long)) (h : XH E g s H locs) {v : Int64} (hdg : decode cc pc = .ok (.lreturn, 1)) : W p l e R s m args below meth c H locs cells slots (MQ below (Qx E (some (.long v)) g) args s cells slots (gA E.HB)) (F0 m pc ls [.long v]) :=
  W.lret (v := v) C.x C.bc C.r (fun t ht _ => ⟨⟨rfl, by rw [ht]; exact h.1⟩, h.2.F ht⟩) h.2.2.2 hdg C.lk
theorem x_vret (C : Cx E s0 b p s m args meth c cc nL own none) (h : XH E g s H locs) (hdg : decode cc pc = .ok (.return_, 1)) : W p l e R s m args below meth c H locs cells slots (MQ below (Qx E none g) args s cells slots (gA E.HB)) (F0 m pc ls []) :=
  W.vret C.x C.bc C.r (fun t ht _ => ⟨⟨rfl, by rw [ht]; exact h.1⟩, h.2.F ht⟩) h.2.2.2 hdg C.lk
theorem x_zret (C : Cx E s0 b p s m args meth c cc nL own (some .boolean)) (h : XH E g s H locs) {v : Int32} (hn : narrow .boolean (.int v) = .int v) (hdg : decode cc pc = .ok (.ireturn, 1)) : W p l e R s m args below meth c H locs cells slots (MQ below (Qx E (some (.int v)) g) args s cells slots (gA E.HB)) (F0 m pc ls [.int v]) :=
  W.zret (v := v) C.x C.bc C.r hn (fun t ht _ => ⟨⟨rfl, by rw [ht]; exact h.1⟩, h.2.F ht⟩) h.2.2.2 hdg C.lk
theorem nar_z {v : Int32} (h : vp_nar .boolean v = v) : narrow .boolean (.int v) = .int v := by
  unfold vp_nar at h
  cases hn : narrow .boolean (.int v) with
  | int y => rw [hn] at h; dsimp only at h; rw [h]
  | _ => first | (simp [narrow] at hn; done) | (unfold narrow at hn; cases hn)
/-! the same rows over a state with the table's pointers, the new state by a name -/
theorem y_iast {st st' : St} (C : Cx E s0 b p s m args meth c cc nL own rt) (h : XH E (sg st) s H locs) (i n : Nat) (hi : i ∈ E.ids) (hs : sh i = .inr (0, n)) {j x : Int32} (hin : vp_in j n) (he : st' = uI st i j.toNatClampNeg x) (hdg : decode cc pc = .ok (.iastore, 1))
    (kk : ∀ (H : Heap) (locs : List Loc), XH E (sg st') s H locs → W p l e R s m args below meth c H locs cells slots Q (F0 m (pc + 1) ls rest)) : W p l e R s m args below meth c H locs cells slots Q (F0 m pc ls (.int x :: .int j :: .ref (E.ad i) :: rest)) := by
  subst he
  exact x_iast C h i n hi hs hin hdg kk
theorem y_bast {st st' : St} (C : Cx E s0 b p s m args meth c cc nL own rt) (h : XH E (sg st) s H locs) (i n : Nat) (hi : i ∈ E.ids) (hs : sh i = .inr (2, n)) {j x : Int32} (hin : vp_in j n) (he : st' = uI st i j.toNatClampNeg (vp_nar .byte x)) (hdg : decode cc pc = .ok (.bastore, 1))
    (kk : ∀ (H : Heap) (locs : List Loc), XH E (sg st') s H locs → W p l e R s m args below meth c H locs cells slots Q (F0 m (pc + 1) ls rest)) : W p l e R s m args below meth c H locs cells slots Q (F0 m pc ls (.int x :: .int j :: .ref (E.ad i) :: rest)) := by
  subst he
  exact x_bast C h i n hi hs hin hdg kk
theorem y_zast {st st' : St} (C : Cx E s0 b p s m args meth c cc nL own rt) (h : XH E (sg st) s H locs) (i n : Nat) (hi : i ∈ E.ids) (hs : sh i = .inr (3, n)) {j x : Int32} (hin : vp_in j n) (he : st' = uI st i j.toNatClampNeg (vp_nar .boolean x)) (hdg : decode cc pc = .ok (.bastore, 1))
    (kk : ∀ (H : Heap) (locs : List Loc), XH E (sg st') s H locs → W p l e R s m args below meth c H locs cells slots Q (F0 m (pc + 1) ls rest)) : W p l e R s m args below meth c H locs cells slots Q (F0 m pc ls (.int x :: .int j :: .ref (E.ad i) :: rest)) := by
  subst he
  exact x_zast C h i n hi hs hin hdg kk
theorem y_last {st st' : St} (C : Cx E s0 b p s m args meth c cc nL own rt) (h : XH E (sg st) s H locs) (i n : Nat) (hi : i ∈ E.ids) (hs : sh i = .inr (1, n)) {j : Int32} {x : Int64} (hin : vp_in j n) (he : st' = uL st i j.toNatClampNeg x) (hdg : decode cc pc = .ok (.lastore, 1))
    (kk : ∀ (H : Heap) (locs : List Loc), XH E (sg st') s H locs → W p l e R s m args below meth c H locs cells slots Q (F0 m (pc + 1) ls rest)) : W p l e R s m args below meth c H locs cells slots Q (F0 m pc ls (.long x :: .int j :: .ref (E.ad i) :: rest)) := by
  subst he
  exact x_last C h i n hi hs hin hdg kk
theorem y_putI {st st' : St} (C : Cx E s0 b p s m args meth c cc nL own rt) (h : XH E (sg st) s H locs) (i ci k : Nat) (hi : i ∈ E.ids) (hs : sh i = .inl ci) (hk : k < nF ci) (ht : fT ci k = 0) {Cn : String} {T : u_T} {N index : Nat} (hc : xcl[ci]? = some (Cn, T, N)) (hN : k < N) (hin : ∀ w ∈ u_ws Cn T N, w ∈ lw_all) (ty0 : Nat → FieldType) (hty : ∀ k, k < N → parseFieldDescriptor (T k).2.2.1 = some (ty0 k)) (hnm : ∀ a, a < N → ∀ b, b < N → a ≠ b → (T a).2.1 ≠ (T b).2.1) (hl : Cond.fieldLink own index Cn (T k).2.1 (T k).2.2.1 ∈ lw_all) (hT : (T k).1 = Cn) (hfin : (T k).2.2.2 = false) (hd : ty0 k = .int) {v : Int32} (he : st' = uI st i k v) (hdg : decode cc pc = .ok (.putfield index, 3))
    (kk : ∀ (H : Heap) (locs : List Loc), XH E (sg st') s H locs → W p l e R s m args below meth c H locs cells slots Q (F0 m (pc + 3) ls rest)) : W p l e R s m args below meth c H locs cells slots Q (F0 m pc ls (.int v :: .ref (E.ad i) :: rest)) := by
  subst he
  exact x_putI C h i ci k hi hs hk ht hc hN hin ty0 hty hnm hl hT hfin hd hdg kk
theorem y_putL {st st' : St} (C : Cx E s0 b p s m args meth c cc nL own rt) (h : XH E (sg st) s H locs) (i ci k : Nat) (hi : i ∈ E.ids) (hs : sh i = .inl ci) (hk : k < nF ci) (ht : fT ci k = 1) {Cn : String} {T : u_T} {N index : Nat} (hc : xcl[ci]? = some (Cn, T, N)) (hN : k < N) (hin : ∀ w ∈ u_ws Cn T N, w ∈ lw_all) (ty0 : Nat → FieldType) (hty : ∀ k, k < N → parseFieldDescriptor (T k).2.2.1 = some (ty0 k)) (hnm : ∀ a, a < N → ∀ b, b < N → a ≠ b → (T a).2.1 ≠ (T b).2.1) (hl : Cond.fieldLink own index Cn (T k).2.1 (T k).2.2.1 ∈ lw_all) (hT : (T k).1 = Cn) (hfin : (T k).2.2.2 = false) (hd : ty0 k = .long) {v : Int64} (he : st' = uL st i k v) (hdg : decode cc pc = .ok (.putfield index, 3))
    (kk : ∀ (H : Heap) (locs : List Loc), XH E (sg st') s H locs → W p l e R s m args below meth c H locs cells slots Q (F0 m (pc + 3) ls rest)) : W p l e R s m args below meth c H locs cells slots Q (F0 m pc ls (.long v :: .ref (E.ad i) :: rest)) := by
  subst he
  exact x_putL C h i ci k hi hs hk ht hc hN hin ty0 hty hnm hl hT hfin hd hdg kk
/-! ===== contracts and calls ===== -/
def Mt (l : Launch) (E : Wd) (s0 : State) (y : MethodName) (cc : ByteArray) (nL : Nat) (ret : Option FieldType) (rm : Room) (av : List Value) (g : St) (v : Option Value) (E' : Wd) (g' : St) : Prop :=
  Met l y (ws_ y cc nL ret) rm (va_Pc av (fun U => XG E g U.heap ∧ s0.WarmedH U.vm)) (Qx E' v g') rm.cells rm.slots (gA E.HB)
theorem Mt.of {y : MethodName} {ret : Option FieldType} {rm : Room} {av : List Value} {g' : St} {v : Option Value} {E' : Wd} (hG : G0 E s0 b) (hy : plainName y.cls = true) (hlen : (lg_sl av).length ≤ nL)
    (body : ∀ (p : Program) (e : Env) (s : State) (m : MethodId) (below : List Frame) (meth : Method) (c : Code) (ls : Array Slot), Cx E s0 b p s m av.toArray meth c cc nL y.cls ret → XH E g s s.heap [] → lv_has ls nL (lv_args 0 av) → W p l e rm s m av.toArray below meth c s.heap [] 0 0 (MQ below (Qx E' v g') av.toArray s rm.cells rm.slots (gA E.HB)) (F0 m 0 ls [])) : Mt l E s0 y cc nL ret rm av g v E' g' := by
  refine Met.ofW (cc := cc) (maxL := nL) (ret := ret) hy rfl ?_
  intro p e s m args below meth c s₁ B hml hv
  obtain ⟨rfl, hX, hw⟩ := hv
  have hl := lv_entry av hlen
  rw [lg_entry_eq]
  exact body p e s m below meth c _ ⟨⟨B.exec, B.bytes, hml, findClass_of_methodNamed B.named, fun w h => atoms_spec (ws := ws_ y cc nL ret) B.pre w (List.mem_cons_of_mem _ h)⟩, B.notSynchronized, B.returns, hw, hG⟩ ⟨hX, va_S.rf⟩ hl
theorem x_fin {mc ms : Nat} {v : Option Value} {g' : St} {E' : Wd} {a : Array Value} {st0 : List Value} (hr : va_Run p l e R s m args below meth c H locs cells slots mc ms (F0 m pc ls st0) rest (Qx E' v g' a) (gA E.HB)) (hS : va_S (gA E.HB) s.heap H locs) (hH : E'.HB = E.HB)
    (kk : ∀ (H : Heap) (locs : List Loc), XH E' g' s H locs → W p l e R s m args below meth c H locs (cells + mc) (slots + ms) Q (F0 m (pc + 3) ls (v.toList ++ rest))) : W p l e R s m args below meth c H locs cells slots Q (F0 m pc ls st0) := by
  intro T hT X
  obtain ⟨v', st₀, t, T', L, h0, X', hL, e1, e2, ⟨⟨hv, hX⟩, hz, hk⟩, st⟩ := hr T hT X
  cases hv
  rw [h0] at hz hk
  rw [hH] at hk
  have hS' : va_S (gA E'.HB) s.heap T'.heap (locs ++ L) := by
    rw [hH]
    refine ⟨Nat.le_trans hS.1 (by rw [e1]; exact hz), fun q h1 h2 => by rw [e1, hk q (Nat.lt_of_lt_of_le h1 hS.1) h2]; exact hS.2.1 q h1 h2, fun q hq => ?_⟩
    rcases List.mem_append.mp hq with h | h
    · exact hS.2.2 q h
    · exact hL q h
  obtain ⟨t2, a1, b1⟩ := kk T'.heap (locs ++ L) ⟨by rw [e1]; exact hX, hS'⟩ T' rfl X'
  exact ⟨t2, st t2 a1, b1⟩
theorem x_recv (C : Cx E s0 b p s m args meth c cc nL own rt) (h : XG E g H) {i ci : Nat} (hi : i ∈ E.ids) (hs : sh i = .inl ci) {Cn : String} {T : u_T} {N : Nat} (hc : xcl[ci]? = some (Cn, T, N)) : ∃ cellB : Cell, H[E.ad i]? = some cellB ∧ cellB.vm.isStatics = false ∧ s.vm.findClass Cn = some cellB.cls := by
  have ha := h.at hi
  rw [cf_o hs] at ha
  obtain ⟨r, h1, cell, q1, q2, q3, q4⟩ := ha
  have hr : r = (Cn, T, N) := Option.some.inj (h1.symm.trans hc)
  subst hr
  exact ⟨cell, q1, by rw [q3]; rfl, by rw [q2]; exact (C.k.1 ci _ hc).2.1⟩
theorem x_room {st : List Value} (h : (st.map fun v => v.category).sum ≤ 16) : 2 * (F0 m pc ls rest).monitorRoom + (st.map fun v => v.category).sum ≤ 16 := by
  have h0 : (F0 m pc ls rest).monitorRoom = 0 := by
    have := lv_room (m := m) (pc := pc) (ls := ls) (rest := rest) (st := [.long 0, .long 0, .long 0, .long 0]) (by decide)
    have e : (([.long 0, .long 0, .long 0, .long 0] : List Value).map fun v => v.category).sum = 8 := rfl
    omega
  omega
theorem x_runV {y : MethodName} {bytes : ByteArray} {maxL mc ms n index : Nat} {ret : Option FieldType} {ws : List Cond} {rm : Room} {Pc : Array Value → State → Prop} {Qc : Array Value → State → Outcome → State → Prop} {free : Addr → Prop} {C : String} {b : Addr} {As : List Value} {g : JFrame} (S : CallFix p m c cc nL s args lw_all own) (hM : Met l y ws rm Pc Qc mc ms free) (cw : CallW R s args own C index y bytes maxL ret ws rm mc ms n) (h16 : 16 + (maxL + 11) + rm.locals ≤ R.locals) (hp : PreV s H C b Pc As)
    (hg : g.method = m) (hn : As.length = n) (hsize : g.locals.size = nL) (hstack : g.stack = As.reverse ++ .ref b :: rest) (hW : 2 * g.monitorRoom + (rest.map fun v => v.category).sum ≤ 16) (hdg : decode cc g.pc = .ok (.invokevirtual index, 3)) (hf : cells + mc ≤ R.cells ∧ slots + ms ≤ R.slots) :
    va_Run p l e R s m args below meth c H locs cells slots mc ms g rest (Qc (Value.ref b :: As).toArray) (free) := by
  obtain ⟨⟨hrc, hrs, hfr, hlo, hws, hcw, hcode, hini, hy, hlen, hl⟩, hin, hse⟩ := cw
  have hK : Back l R p e below s args y 3 16 (PreOf R mc ms Pc) (PostOf Qc mc ms free) := back_of (bytes := bytes) (maxL := maxL) (ret := ret) hM hp.1 hrc hrs hfr h16 hws hcw (fun a' U hW => word_at hW (Or.inl (by first | rfl | simp [Cond.onTables, Cond.keeps, Cond.steady])) hini)
  obtain ⟨hx, hb, hml, ho, -⟩ := S
  obtain ⟨-, ⟨cellB, hcB, hoB, hclB⟩, hPc⟩ := hp
  intro T hT X
  obtain ⟨v, vm₁, ⟨U', l2, c2, s2⟩, hW₁, X', ⟨g', mk, t, L, e1, e2, hq, h1, hL, h2, h3⟩, st⟩ := callV X hx (C := C) (bytes := bytes) (maxL := maxL) (ret := ret) ho hl hin hse hcode hy hK (by rw [hT]; exact hcB) hoB hclB hg (hsize.trans hml.symm) (argsL := As) (rest := rest) (fun sig h => hn.trans (hlen sig h)) hstack hW (by rw [hb]; exact hdg)
    (fun vm₁ hW₁ => ⟨hf.1, hf.2, hPc (T.setVm vm₁) hT hW₁⟩)
  dsimp only [Pt.U, Pt.locs, Pt.cells, Pt.slots] at X' e1 e2 h1 h2 h3 st
  subst h1; subst h2; subst h3
  exact ⟨v, (T.setVm vm₁).calling g' mk (Value.ref b :: As).toArray, t, U', L, hT, X', hL, e1, e2, hq, st⟩
theorem x_runS {y : MethodName} {bytes : ByteArray} {maxL mc ms n index : Nat} {ret : Option FieldType} {ws : List Cond} {rm : Room} {Pc : Array Value → State → Prop} {Qc : Array Value → State → Outcome → State → Prop} {free : Addr → Prop} {As : List Value} {g : JFrame} (S : CallFix p m c cc nL s args lw_all own) (hM : Met l y ws rm Pc Qc mc ms free) (cw : CallB R s args own index y bytes maxL ret ws rm mc ms n ∧ (Cond.static y).before args s = true) (h16 : 16 + (maxL + 11) + rm.locals ≤ R.locals) (hp : PreS s H Pc As)
    (hg : g.method = m) (hn : As.length = n) (hsize : g.locals.size = nL) (hstack : g.stack = As.reverse ++ rest) (hW : 2 * g.monitorRoom + (rest.map fun v => v.category).sum ≤ 16) (hdg : decode cc g.pc = .ok (.invokestatic index, 3)) (hf : cells + mc ≤ R.cells ∧ slots + ms ≤ R.slots) :
    va_Run p l e R s m args below meth c H locs cells slots mc ms g rest (Qc As.toArray) (free) := by
  obtain ⟨⟨hrc, hrs, hfr, hlo, hws, hcw, hcode, hini, hy, hlen, hl⟩, hstt⟩ := cw
  have hK : Back l R p e below s args y 3 16 (PreOf R mc ms Pc) (PostOf Qc mc ms free) := back_of (bytes := bytes) (maxL := maxL) (ret := ret) hM hp.1 hrc hrs hfr h16 hws hcw (fun a' U hW => word_at hW (Or.inl (by first | rfl | simp [Cond.onTables, Cond.keeps, Cond.steady])) hini)
  obtain ⟨hx, hb, hml, ho, -⟩ := S
  intro T hT X
  obtain ⟨v, vm₁, ⟨U', l2, c2, s2⟩, hW₁, X', ⟨g', mk, t, L, e1, e2, hq, h1, hL, h2, h3⟩, st⟩ := callS X hx (bytes := bytes) (maxL := maxL) (ret := ret) ho hl hstt hini hcode hy hK hg (hsize.trans hml.symm) (argsL := As) (rest := rest) (fun sig h => hn.trans (hlen sig h)) hstack hW (by rw [hb]; exact hdg)
    (fun vm₁ hW₁ => ⟨hf.1, hf.2, hp.2 (T.setVm vm₁) hT hW₁⟩)
  dsimp only [Pt.U, Pt.locs, Pt.cells, Pt.slots] at X' e1 e2 h1 h2 h3 st
  subst h1; subst h2; subst h3
  exact ⟨v, (T.setVm vm₁).calling g' mk As.toArray, t, U', L, hT, X', hL, e1, e2, hq, st⟩
/-- a call of a method of ours on a numbered object, of one that makes no cells -/
theorem x_callV {y : MethodName} {cy : ByteArray} {ny n index : Nat} {ry : Option FieldType} {rm : Room} {As stk : List Value} {v : Option Value} {g' : St} (C : Cx E s0 b p s m args meth c cc nL own rt) (h : XH E g s H locs) (i ci : Nat) (hi : i ∈ E.ids) (hs : sh i = .inl ci) {Cn : String} {T : u_T} {N : Nat} (hc : xcl[ci]? = some (Cn, T, N))
    (hM : Mt l E s0 y cy ny ry rm (.ref (E.ad i) :: As) g v E g') (hw : GoodIn lw_all (wsV own index Cn y (ws_ y cy ny ry))) (hd : y.cls = Cn ∧ y.cls ≠ "java/lang/invoke/MethodHandle" ∧ y.cls ≠ "java/lang/invoke/VarHandle" ∧ (parseMethodDescriptor y.desc).map (fun d => d.parameters.length) = some n) (hR : rm.frames + 1 ≤ R.frames ∧ 16 + (ny + 11) + rm.locals ≤ R.locals) (h0 : rm.cells = 0 ∧ rm.slots = 0) (hf : cells ≤ R.cells ∧ slots ≤ R.slots) (hn : As.length = n) (hsz : ls.size = nL) (hst : stk = As.reverse ++ .ref (E.ad i) :: rest) (hcat : (rest.map fun v => v.category).sum ≤ 16) (hdg : decode cc pc = .ok (.invokevirtual index, 3))
    (kk : ∀ (H : Heap) (locs : List Loc), XH E g' s H locs → W p l e R s m args below meth c H locs cells slots Q (F0 m (pc + 3) ls (v.toList ++ rest))) : W p l e R s m args below meth c H locs cells slots Q (F0 m pc ls stk) := by
  subst hst
  refine x_fin (mc := rm.cells) (ms := rm.slots) (x_runV (As := As) (rest := rest) C.f hM (cwV n C.ts hw rfl rfl rfl hd ⟨hR.1, by omega⟩) hR.2 ⟨fun a U g mk q => q, x_recv C h.1 hi hs hc, fun U hU hW => ⟨rfl, by rw [hU]; exact h.1, State.WarmedH.trans C.w hW⟩⟩ rfl hn hsz rfl (x_room hcat) hdg (by rw [h0.1, h0.2]; exact hf)) h.2 rfl ?_
  rw [h0.1, h0.2]
  exact kk
/-- the same, of a static one -/
theorem x_callS {y : MethodName} {cy : ByteArray} {ny n index : Nat} {ry : Option FieldType} {rm : Room} {As stk : List Value} {v : Option Value} {g' : St} (C : Cx E s0 b p s m args meth c cc nL own rt) (h : XH E g s H locs)
    (hM : Mt l E s0 y cy ny ry rm As g v E g') (hw : GoodIn lw_all (va_wsS own index y (ws_ y cy ny ry))) (hd : y.cls ≠ "java/lang/invoke/MethodHandle" ∧ y.cls ≠ "java/lang/invoke/VarHandle" ∧ (parseMethodDescriptor y.desc).map (fun d => d.parameters.length) = some n) (hR : rm.frames + 1 ≤ R.frames ∧ 16 + (ny + 11) + rm.locals ≤ R.locals) (h0 : rm.cells = 0 ∧ rm.slots = 0) (hf : cells ≤ R.cells ∧ slots ≤ R.slots) (hn : As.length = n) (hsz : ls.size = nL) (hst : stk = As.reverse ++ rest) (hcat : (rest.map fun v => v.category).sum ≤ 16) (hdg : decode cc pc = .ok (.invokestatic index, 3))
    (kk : ∀ (H : Heap) (locs : List Loc), XH E g' s H locs → W p l e R s m args below meth c H locs cells slots Q (F0 m (pc + 3) ls (v.toList ++ rest))) : W p l e R s m args below meth c H locs cells slots Q (F0 m pc ls stk) := by
  subst hst
  refine x_fin (mc := rm.cells) (ms := rm.slots) (x_runS (As := As) (rest := rest) C.f hM (va_cwS n C.ts hw rfl rfl rfl hd ⟨hR.1, by omega⟩) hR.2 ⟨fun a U g mk q => q, fun U hU hW => ⟨rfl, by rw [hU]; exact h.1, State.WarmedH.trans C.w hW⟩⟩ rfl hn hsz rfl (x_room hcat) hdg (by rw [h0.1, h0.2]; exact hf)) h.2 rfl ?_
  rw [h0.1, h0.2]
  exact kk
end XROWS
theorem k_0 : sh 0 = .inl 0 := rfl
theorem k_1 : sh 1 = .inl 1 := rfl
theorem k_2 : sh 2 = .inr (4, 3) := rfl
theorem k_3 : sh 3 = .inr (0, 12) := rfl
theorem k_4 : sh 4 = .inr (0, 12) := rfl
theorem k_5 : sh 5 = .inr (0, 12) := rfl
theorem k_6 : sh 6 = .inl 2 := rfl
theorem k_7 : sh 7 = .inr (5, 12) := rfl
theorem k_8 : sh 8 = .inr (1, 12) := rfl
theorem k_9 : sh 9 = .inr (1, 12) := rfl
theorem k_10 : sh 10 = .inr (1, 12) := rfl
theorem k_11 : sh 11 = .inr (1, 12) := rfl
theorem k_12 : sh 12 = .inr (1, 12) := rfl
theorem k_13 : sh 13 = .inr (1, 12) := rfl
theorem k_14 : sh 14 = .inr (1, 12) := rfl
theorem k_15 : sh 15 = .inr (1, 12) := rfl
theorem k_16 : sh 16 = .inr (1, 12) := rfl
theorem k_17 : sh 17 = .inr (1, 12) := rfl
theorem k_18 : sh 18 = .inr (1, 12) := rfl
theorem k_19 : sh 19 = .inr (1, 12) := rfl
theorem k_20 : sh 20 = .inr (5, 12) := rfl
theorem k_21 : sh 21 = .inr (1, 12) := rfl
theorem k_22 : sh 22 = .inr (1, 12) := rfl
theorem k_23 : sh 23 = .inr (1, 12) := rfl
theorem k_24 : sh 24 = .inr (1, 12) := rfl
theorem k_25 : sh 25 = .inr (1, 12) := rfl
theorem k_26 : sh 26 = .inr (1, 12) := rfl
theorem k_27 : sh 27 = .inr (1, 12) := rfl
theorem k_28 : sh 28 = .inr (1, 12) := rfl
theorem k_29 : sh 29 = .inr (1, 12) := rfl
theorem k_30 : sh 30 = .inr (1, 12) := rfl
theorem k_31 : sh 31 = .inr (1, 12) := rfl
theorem k_32 : sh 32 = .inr (1, 12) := rfl
theorem k_33 : sh 33 = .inl 3 := rfl
theorem k_34 : sh 34 = .inr (5, 12) := rfl
theorem k_35 : sh 35 = .inr (1, 13) := rfl
theorem k_36 : sh 36 = .inr (1, 13) := rfl
theorem k_37 : sh 37 = .inr (1, 13) := rfl
theorem k_38 : sh 38 = .inr (1, 13) := rfl
theorem k_39 : sh 39 = .inr (1, 13) := rfl
theorem k_40 : sh 40 = .inr (1, 13) := rfl
theorem k_41 : sh 41 = .inr (1, 13) := rfl
theorem k_42 : sh 42 = .inr (1, 13) := rfl
theorem k_43 : sh 43 = .inr (1, 13) := rfl
theorem k_44 : sh 44 = .inr (1, 13) := rfl
theorem k_45 : sh 45 = .inr (1, 13) := rfl
theorem k_46 : sh 46 = .inr (1, 13) := rfl
theorem k_47 : sh 47 = .inr (1, 12) := rfl
theorem k_48 : sh 48 = .inr (1, 12) := rfl
theorem k_49 : sh 49 = .inr (0, 12) := rfl
theorem k_50 : sh 50 = .inr (0, 12) := rfl
theorem k_51 : sh 51 = .inr (1, 12) := rfl
theorem k_52 : sh 52 = .inr (1, 12) := rfl
theorem k_53 : sh 53 = .inr (7, 2) := rfl
theorem k_56 : sh 56 = .inr (2, 500) := rfl
theorem k_57 : sh 57 = .inr (0, 2) := rfl
theorem k_58 : sh 58 = .inr (1, 35) := rfl
theorem k_59 : sh 59 = .inr (3, 35) := rfl
theorem k_60 : sh 60 = .inr (1, 12) := rfl
theorem k_61 : sh 61 = .inr (0, 12) := rfl
theorem k_62 : sh 62 = .inr (0, 3) := rfl
theorem k_63 : sh 63 = .inr (0, 4) := rfl
theorem k_64 : sh 64 = .inl 4 := rfl
theorem k_65 : sh 65 = .inr (8, 6) := rfl
theorem k_66 : sh 66 = .inl 4 := rfl
theorem k_67 : sh 67 = .inr (9, 6) := rfl
theorem k_68 : sh 68 = .inl 5 := rfl
theorem k_69 : sh 69 = .inr (6, 8) := rfl
theorem k_70 : sh 70 = .inr (0, 46) := rfl
theorem k_71 : sh 71 = .inr (0, 46) := rfl
theorem k_72 : sh 72 = .inr (0, 2) := rfl
theorem k_73 : sh 73 = .inr (0, 500) := rfl
theorem k_74 : sh 74 = .inr (1, 156) := rfl
theorem k_75 : sh 75 = .inr (0, 12) := rfl
theorem k_76 : sh 76 = .inr (1, 12) := rfl
theorem k_77 : sh 77 = .inr (1, 12) := rfl
theorem k_78 : sh 78 = .inr (0, 12) := rfl
theorem k_79 : sh 79 = .inr (1, 35) := rfl
theorem k_80 : sh 80 = .inr (1, 35) := rfl
theorem k_81 : sh 81 = .inr (1, 35) := rfl
theorem k_82 : sh 82 = .inr (0, 35) := rfl
theorem k_83 : sh 83 = .inr (0, 46) := rfl
theorem k_84 : sh 84 = .inr (3, 24) := rfl
theorem k_85 : sh 85 = .inr (0, 12) := rfl
theorem k_86 : sh 86 = .inr (1, 1) := rfl
theorem k_87 : sh 87 = .inl 6 := rfl
theorem k_88 : sh 88 = .inl 1 := rfl
theorem k_89 : sh 89 = .inr (4, 3) := rfl
theorem k_90 : sh 90 = .inr (0, 12) := rfl
theorem k_91 : sh 91 = .inr (0, 12) := rfl
theorem k_92 : sh 92 = .inr (0, 12) := rfl
theorem k_93 : sh 93 = .inr (4, 3) := rfl
theorem k_94 : sh 94 = .inr (0, 12) := rfl
theorem k_95 : sh 95 = .inr (0, 12) := rfl
theorem k_96 : sh 96 = .inr (0, 12) := rfl
theorem k_97 : sh 97 = .inl 9 := rfl
theorem k_98 : sh 98 = .inl 9 := rfl
theorem k_99 : sh 99 = .inl 9 := rfl
theorem k_100 : sh 100 = .inr (0, 4) := rfl
theorem k_101 : sh 101 = .inl 8 := rfl
theorem k_102 : sh 102 = .inl 7 := rfl
theorem k_103 : sh 103 = .inl 10 := rfl
theorem k_104 : sh 104 = .inl 10 := rfl
theorem k_105 : sh 105 = .inl 10 := rfl
theorem k_106 : sh 106 = .inl 10 := rfl
theorem k_107 : sh 107 = .inl 10 := rfl
theorem k_108 : sh 108 = .inl 10 := rfl
theorem k_109 : sh 109 = .inl 11 := rfl
theorem k_110 : sh 110 = .inl 11 := rfl
theorem k_111 : sh 111 = .inl 11 := rfl
theorem k_112 : sh 112 = .inl 11 := rfl
theorem k_113 : sh 113 = .inl 11 := rfl
theorem k_114 : sh 114 = .inl 11 := rfl
theorem k_115 : sh 115 = .inl 13 := rfl
theorem k_116 : sh 116 = .inr (2, 7) := rfl
theorem k_117 : sh 117 = .inl 12 := rfl
theorem k_119 : sh 119 = .inr (4, 3) := rfl
theorem kg_3 : ∀ j, j < 3 → sh (3 + j) = .inr (0, 12) := by decide +kernel
theorem kg_8 : ∀ j, j < 12 → sh (8 + j) = .inr (1, 12) := by decide +kernel
theorem kg_21 : ∀ j, j < 12 → sh (21 + j) = .inr (1, 12) := by decide +kernel
theorem kg_35 : ∀ j, j < 12 → sh (35 + j) = .inr (1, 13) := by decide +kernel
theorem kg_90 : ∀ j, j < 3 → sh (90 + j) = .inr (0, 12) := by decide +kernel
theorem kg_94 : ∀ j, j < 3 → sh (94 + j) = .inr (0, 12) := by decide +kernel
theorem kg_103 : ∀ j, j < 6 → sh (103 + j) = .inl 10 := by decide +kernel
theorem kg_109 : ∀ j, j < 6 → sh (109 + j) = .inl 11 := by decide +kernel
abbrev NS : Nat := 87
