/-! ===== MATH 4: clearing rows among fractions, and without fractions (Bareiss) ===== -/
section GJ
theorem dx_W_cS {α : Type} [Lean.Grind.CommRing α] {M M' : Nat → Nat → α} : ∀ {k : Nat} (S : Su), (∀ i, i < k → ∀ j, S j = true → M i j = M' i j) → dx_W M k S = dx_W M' k S := by
  intro k
  induction k with
  | zero => intro S _; rfl
  | succ k ih =>
    intro S h
    show dx_e (M k) (dx_W M k) S = dx_e (M' k) (dx_W M' k) S
    unfold dx_e
    apply sm_congr
    intro j hj
    by_cases hS : S j = true
    · rw [if_pos hS, if_pos hS, h k (by omega) j hS, ih (dx_rm S j) (fun i hi c hc => h i (by omega) c (by
        by_cases e : c = j
        · subst e; exact hS
        · rw [dx_rm_n S e] at hc; exact hc))]
    · rw [if_neg hS, if_neg hS]
theorem det_congr {α : Type} [Lean.Grind.CommRing α] {M M' : Nat → Nat → α} {n : Nat} (h : ∀ i, i < n → ∀ j, j < n → M i j = M' i j) : det n M = det n M' := dx_W_cS _ (fun i hi j hj => h i hi j (by simpa [dx_lt] using hj))
def gj (M : Nat → Nat → Rat) : Nat → Nat → Nat → Rat
  | 0 => M
  | t + 1 => fun i j => if i = t then gj M t t j else gj M t i j - gj M t i t * (gj M t t t)⁻¹ * gj M t t j
theorem gj_s (M : Nat → Nat → Rat) (t j : Nat) : gj M (t + 1) t j = gj M t t j := by simp [gj]
theorem gj_n (M : Nat → Nat → Rat) {t i : Nat} (j : Nat) (h : i ≠ t) : gj M (t + 1) i j = gj M t i j - gj M t i t * (gj M t t t)⁻¹ * gj M t t j := by simp [gj, h]
/-- the pivots, as they come -/
abbrev pv (M : Nat → Nat → Rat) (t : Nat) : Rat := gj M t t t
theorem gj_0 {M : Nat → Nat → Rat} : ∀ {s}, (∀ t, t < s → pv M t ≠ 0) → ∀ t, t < s → ∀ i, i ≠ t → gj M s i t = 0 := by
  intro s
  induction s with
  | zero => intro _ t h; omega
  | succ s ih =>
    intro hp t ht i hi
    have ih' := ih (fun t h => hp t (by omega))
    by_cases e : t = s
    · subst e
      rw [gj_n M t hi]
      have := Rat.mul_inv_cancel _ (hp t (by omega))
      grind
    · have hst : gj M s s t = 0 := ih' t (by omega) s (by omega)
      by_cases e2 : i = s
      · subst e2; rw [gj_s]; exact hst
      · rw [gj_n M t e2, hst, ih' t (by omega) i hi]
        grind
theorem gj_d {M : Nat → Nat → Rat} : ∀ {s}, (∀ t, t < s → pv M t ≠ 0) → ∀ t, t < s → gj M s t t = pv M t := by
  intro s
  induction s with
  | zero => intro _ t h; omega
  | succ s ih =>
    intro hp t ht
    by_cases e : t = s
    · subst e; rw [gj_s]
    · have hst : gj M s s t = 0 := gj_0 (fun t h => hp t (by omega)) t (by omega) s (by omega)
      rw [gj_n M t e, hst, ih (fun t h => hp t (by omega)) t (by omega)]
      grind
theorem gj_det {M : Nat → Nat → Rat} (ρ γ : Nat → Nat) {m : Nat} : ∀ {k}, k ≤ m → (∀ a, a < k → ρ a = a) → (∀ a, k ≤ a → a < m → k ≤ ρ a) → det m (fun a b => gj M k (ρ a) (γ b)) = det m (fun a b => M (ρ a) (γ b)) := by
  intro k
  induction k with
  | zero => intro _ _ _; rfl
  | succ k ih =>
    intro hk h1 h2
    rw [← ih (by omega) (fun a ha => h1 a (by omega)) (fun a ha hm => by
      by_cases e : a = k
      · subst e; rw [h1 a (by omega)]; omega
      · have := h2 a (by omega) hm; omega)]
    refine dx_elim h2Q (t := k) (fun a => -(gj M k (ρ a) k * (gj M k k k)⁻¹)) (by omega) ?_ ?_ _
    · intro a ha hne j _
      have hρ : ρ a ≠ k := by
        by_cases e : a < k
        · rw [h1 a (by omega)]; omega
        · have := h2 a (by omega) ha; omega
      rw [gj_n M _ hρ, h1 k (by omega)]
      grind
    · intro j _
      rw [h1 k (by omega), gj_s]
def bρ (k i a : Nat) : Nat := if a < k then a else i
def bγ (k j b : Nat) : Nat := if b < k then b else j
/-- bordered: the first k rows and columns, one more of each -/
theorem gj_bord {M : Nat → Nat → Rat} {k i j : Nat} (hk : k < 13) (hp : ∀ t, t < k → pv M t ≠ 0) (hi : k ≤ i) : det (k + 1) (fun a b => M (bρ k i a) (bγ k j b)) = pr (pv M) k * gj M k i j := by
  rw [← gj_det (bρ k i) (bγ k j) (k := k) (by omega) (fun a ha => by simp [bρ, ha]) (fun a ha _ => by
    have : ¬ a < k := by omega
    simp [bρ, this]; omega), det_tri (by omega)]
  · show pr _ k * _ = _
    have h1 : ¬ k < k := by omega
    rw [pr_congr (g := pv M) (fun a ha => by simp only [bρ, bγ, ha, if_true]; exact gj_d hp a ha)]
    simp only [bρ, bγ, h1, if_false]
  · intro a ha b hb
    have hb' : b < k := by omega
    simp only [bγ, hb', if_true]
    refine gj_0 hp b hb' _ ?_
    unfold bρ
    split <;> omega
theorem gj_lead {M : Nat → Nat → Rat} {k : Nat} (hk : k ≤ 13) (hp : ∀ t, t + 1 < k → pv M t ≠ 0) : det k M = pr (pv M) k := by
  cases k with
  | zero => exact det_0 M
  | succ k =>
    have h := gj_bord (M := M) (k := k) (i := k) (j := k) (by omega) (fun t ht => hp t (by omega)) (Nat.le_refl k)
    have e : det (k + 1) M = det (k + 1) (fun a b => M (bρ k k a) (bγ k k b)) := det_congr (fun a ha b hb => by
      have e1 : bρ k k a = a := by unfold bρ; split <;> omega
      have e2 : bγ k k b = b := by unfold bγ; split <;> omega
      rw [e1, e2])
    rw [e, h]
    rfl
/-- a row that was cleared already: its column changed for another one -/
def cγ (i j b : Nat) : Nat := if b = i then j else b
theorem pr_up {α : Type} [Lean.Grind.CommRing α] (d : Nat → α) (g : α) {i : Nat} : ∀ {k}, i < k → pr (fun a => if a = i then g else d a) k * d i = pr d k * g := by
  intro k
  induction k with
  | zero => intro h; omega
  | succ k ih =>
    intro h
    show (pr _ k * (if k = i then g else d k)) * d i = (pr d k * d k) * g
    by_cases e : k = i
    · subst e
      rw [if_pos rfl, pr_congr (g := d) (fun a ha => by
        have : ¬ a = k := by omega
        simp [this])]
      grind
    · rw [if_neg e]
      have := ih (by omega)
      grind
theorem gj_cram {M : Nat → Nat → Rat} {k i j : Nat} (hk : k ≤ 13) (hp : ∀ t, t < k → pv M t ≠ 0) (hi : i < k) : det k (fun a b => M a (cγ i j b)) * pv M i = pr (pv M) k * gj M k i j := by
  rw [← gj_det (fun a => a) (cγ i j) (k := k) (Nat.le_refl k) (fun a _ => rfl) (fun a h1 h2 => h1)]
  have hA : ∀ a, a < k → ∀ b, b < k → b ≠ i → gj M k a (cγ i j b) = if a = b then pv M a else 0 := by
    intro a ha b hb hne
    simp only [cγ, hne, if_false]
    by_cases e : a = b
    · subst e; rw [if_pos rfl]; exact gj_d hp a ha
    · rw [if_neg e]; exact gj_0 hp b hb a e
  have hI : ∀ a, gj M k a (cγ i j i) = gj M k a j := fun a => by simp [cγ]
  by_cases hg : gj M k i j = 0
  · have : det k (fun a b => gj M k a (cγ i j b)) = 0 := by
      refine dx_sup (r := i) (S := dx_lt k) (fun b _ hS => ?_) hi _ (fun _ h => h)
      have hb : b < k := by simpa [dx_lt] using hS
      by_cases e : b = i
      · subst e; rw [hI]; exact hg
      · rw [hA i hi b hb e, if_neg (fun q => e q.symm)]
    rw [this, hg]
    grind
  · have hcl : det k (fun a b => if a = b then (if a = i then gj M k i j else pv M a) else 0) = det k (fun a b => gj M k a (cγ i j b)) := by
      have e1 : det k (fun a b => if a = b then (if a = i then gj M k i j else pv M a) else 0) = det k (fun a b => if a = i then gj M k i (cγ i j b) else gj M k a (cγ i j b) + (-(gj M k a j * (gj M k i j)⁻¹)) * gj M k i (cγ i j b)) := det_congr (fun a ha b hb => by
        by_cases e : a = i
        · subst e
          rw [if_pos rfl, if_pos rfl]
          by_cases e2 : b = a
          · subst e2; rw [if_pos rfl, hI]
          · rw [if_neg (fun q => e2 q.symm), hA a ha b hb e2, if_neg (fun q => e2 q.symm)]
        · rw [if_neg e, if_neg e]
          by_cases e2 : b = i
          · subst e2
            rw [if_neg e, hI, hI]
            have := Rat.mul_inv_cancel _ hg
            grind
          · rw [hA a ha b hb e2, hA i hi b hb e2, if_neg (c := i = b) (fun q => e2 q.symm)]
            grind)
      rw [e1]
      exact dx_elim h2Q (t := i) (fun a => -(gj M k a j * (gj M k i j)⁻¹)) hi (fun a _ hne b _ => by rw [if_neg hne]) (fun b _ => by rw [if_pos rfl]) _
    rw [← hcl, det_tri hk (fun a ha b hb => by rw [if_neg (by omega)])]
    rw [pr_congr (g := fun a => if a = i then gj M k i j else pv M a) (fun a _ => by rw [if_pos rfl])]
    exact pr_up (pv M) _ hi
/-! ===== without fractions ===== -/
/-- what stands at (i, j) when k rows have cleared the others -/
def bar (M : Nat → Nat → Int) (k i j : Nat) : Int := if i < k then det k (fun a b => M a (cγ i j b)) else det (k + 1) (fun a b => M (bρ k i a) (bγ k j b))
abbrev toQ (M : Nat → Nat → Int) : Nat → Nat → Rat := fun i j => ((M i j : Int) : Rat)
theorem bar_hi {M : Nat → Nat → Int} {k i j : Nat} (hk : k < 13) (hp : ∀ t, t < k → pv (toQ M) t ≠ 0) (hi : k ≤ i) : ((bar M k i j : Int) : Rat) = pr (pv (toQ M)) k * gj (toQ M) k i j := by
  unfold bar
  rw [if_neg (by omega), det_cast]
  exact gj_bord (M := toQ M) (j := j) hk hp hi
theorem bar_lo {M : Nat → Nat → Int} {k i j : Nat} (hk : k ≤ 13) (hp : ∀ t, t < k → pv (toQ M) t ≠ 0) (hi : i < k) : ((bar M k i j : Int) : Rat) * pv (toQ M) i = pr (pv (toQ M)) k * gj (toQ M) k i j := by
  unfold bar
  rw [if_pos hi, det_cast]
  exact gj_cram (M := toQ M) (j := j) hk hp hi
/-- the pivot ahead -/
def below (M : Nat → Nat → Int) (k : Nat) : Int := det k M
theorem below_cast {M : Nat → Nat → Int} {k : Nat} (hk : k ≤ 13) (hp : ∀ t, t < k → pv (toQ M) t ≠ 0) : ((below M k : Int) : Rat) = pr (pv (toQ M)) k := by
  unfold below
  rw [det_cast]
  exact gj_lead (M := toQ M) hk (fun t ht => hp t (by omega))
theorem bar_0 (M : Nat → Nat → Int) (i j : Nat) : bar M 0 i j = M i j := by
  unfold bar
  rw [if_neg (by omega), det_last (by omega) (fun j hj => by omega), det_0]
  show 1 * M i j = M i j
  rw [Int.one_mul]
theorem bar_piv {M : Nat → Nat → Int} {k : Nat} : bar M k k k = below M (k + 1) := by
  unfold bar below
  rw [if_neg (by omega)]
  exact det_congr (fun a ha b hb => by
    have e1 : bρ k k a = a := by unfold bρ; split <;> omega
    have e2 : bγ k k b = b := by unfold bγ; split <;> omega
    rw [e1, e2])
theorem bar_row {M : Nat → Nat → Int} {k j : Nat} (hk : k < 13) (hp : ∀ t, t < k + 1 → pv (toQ M) t ≠ 0) : bar M (k + 1) k j = bar M k k j := by
  have h1 := bar_lo (j := j) (by omega : k + 1 ≤ 13) hp (by omega : k < k + 1)
  have h2 := bar_hi (j := j) hk (fun t ht => hp t (by omega)) (Nat.le_refl k)
  rw [gj_s] at h1
  have h3 : pr (pv (toQ M)) (k + 1) = pr (pv (toQ M)) k * pv (toQ M) k := rfl
  rw [h3] at h1
  have h4 := hp k (by omega)
  have h5 := Rat.mul_inv_cancel _ h4
  have : ((bar M (k + 1) k j : Int) : Rat) = ((bar M k k j : Int) : Rat) := by
    rw [h2]
    grind
  exact Rat.intCast_inj.mp this
/-- one row more has cleared the others: what is left is divided by the pivot ahead, which goes in -/
theorem bar_step {M : Nat → Nat → Int} {k i j : Nat} (hk : k < 12) (hp : ∀ t, t < k + 1 → pv (toQ M) t ≠ 0) (hne : i ≠ k) : bar M (k + 1) i j * below M k = bar M k k k * bar M k i j - bar M k i k * bar M k k j := by
  have hp' : ∀ t, t < k → pv (toQ M) t ≠ 0 := fun t ht => hp t (by omega)
  have b := below_cast (M := M) (by omega : k ≤ 13) hp'
  have e1 := bar_hi (j := k) (by omega : k < 13) hp' (Nat.le_refl k)
  have e2 := bar_hi (j := j) (by omega : k < 13) hp' (Nat.le_refl k)
  have h3 : pr (pv (toQ M)) (k + 1) = pr (pv (toQ M)) k * pv (toQ M) k := rfl
  have h4 := hp k (by omega)
  have h5 := Rat.mul_inv_cancel _ h4
  have g := gj_n (toQ M) j hne
  apply Rat.intCast_inj.mp
  rw [Rat.intCast_mul, Rat.intCast_sub, Rat.intCast_mul, Rat.intCast_mul, b, e1, e2]
  by_cases hi : i < k
  · have f1 := bar_lo (j := j) (by omega : k + 1 ≤ 13) hp (by omega : i < k + 1)
    have f2 := bar_lo (j := j) (by omega : k ≤ 13) hp' hi
    have f3 := bar_lo (j := k) (by omega : k ≤ 13) hp' hi
    have hi0 := hp i (by omega)
    have hi1 := Rat.mul_inv_cancel _ hi0
    rw [h3, g] at f1
    -- all by the pivot of row i
    have key : ((bar M (k + 1) i j : Int) : Rat) * pr (pv (toQ M)) k * pv (toQ M) i = (pr (pv (toQ M)) k * gj (toQ M) k k k * ((bar M k i j : Int) : Rat) - ((bar M k i k : Int) : Rat) * (pr (pv (toQ M)) k * gj (toQ M) k k j)) * pv (toQ M) i := by
      grind
    grind
  · have f1 := bar_hi (j := j) (by omega : k + 1 < 13) hp (by omega : k + 1 ≤ i)
    have f2 := bar_hi (j := j) (by omega : k < 13) hp' (by omega : k ≤ i)
    have f3 := bar_hi (j := k) (by omega : k < 13) hp' (by omega : k ≤ i)
    rw [f1, f2, f3, h3, g]
    grind
end GJ
