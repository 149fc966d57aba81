/-! ===== MATH 5: forms above 0; meshes that go to earth ===== -/
section PD
def Bf (S : Nat → Nat → Rat) (n : Nat) (x y : Nat → Rat) : Rat := sm (fun i => sm (fun j => S i j * (x i * y j)) n) n
theorem sm_prod (a c : Nat → Rat) (n m : Nat) : sm (fun i => sm (fun j => a i * c j) m) n = sm a n * sm c m := by
  rw [sm_congr (g := fun i => sm c m * a i) (fun i _ => by rw [sm_mul]; grind), sm_mul]
  grind
theorem Bf_l (S : Nat → Nat → Rat) (n : Nat) (t : Rat) (x z y : Nat → Rat) : Bf S n (fun i => x i + t * z i) y = Bf S n x y + t * Bf S n z y := by
  unfold Bf
  rw [← sm_mul, ← sm_add]
  apply sm_congr
  intro i _
  rw [← sm_mul, ← sm_add]
  apply sm_congr
  intro j _
  grind
theorem Bf_r (S : Nat → Nat → Rat) (n : Nat) (t : Rat) (x y z : Nat → Rat) : Bf S n x (fun i => y i + t * z i) = Bf S n x y + t * Bf S n x z := by
  unfold Bf
  rw [← sm_mul, ← sm_add]
  apply sm_congr
  intro i _
  rw [← sm_mul, ← sm_add]
  apply sm_congr
  intro j _
  grind
theorem Bf_ul (S : Nat → Nat → Rat) {n k : Nat} (hk : k < n) (y : Nat → Rat) : Bf S n (dx_u k) y = sm (fun j => S k j * y j) n := by
  unfold Bf
  rw [sm_one hk]
  · apply sm_congr
    intro j _
    simp [dx_u]
  · intro i _ hne
    apply sm_z
    intro j _
    simp [dx_u, hne]
theorem Bf_ur (S : Nat → Nat → Rat) {n k : Nat} (hk : k < n) (x : Nat → Rat) : Bf S n x (dx_u k) = sm (fun i => S i k * x i) n := by
  unfold Bf
  apply sm_congr
  intro i _
  rw [sm_one hk]
  · simp [dx_u]
  · intro j _ hne
    simp [dx_u, hne]
/-- above 0 on what lies from k on -/
def PDk (S : Nat → Nat → Rat) (k n : Nat) : Prop := (∀ i j, k ≤ i → i < n → k ≤ j → j < n → S i j = S j i) ∧ ∀ x : Nat → Rat, (∀ i, i < k → x i = 0) → (∃ i, i < n ∧ x i ≠ 0) → 0 < Bf S n x x
theorem PDk.pos {S : Nat → Nat → Rat} {k n : Nat} (h : PDk S k n) (hk : k < n) : 0 < S k k := by
  have := h.2 (dx_u k) (fun i hi => by
    have : ¬ i = k := by omega
    simp [dx_u, this]) ⟨k, hk, by simp [dx_u]⟩
  rw [Bf_ul S hk, sm_one hk] at this
  · simpa [dx_u] using this
  · intro j _ hne
    simp [dx_u, hne]
theorem PDk.step {S S' : Nat → Nat → Rat} {k n : Nat} (h : PDk S k n) (hk : k < n) (hS : ∀ i, i ≠ k → ∀ j, S' i j = S i j - S i k * (S k k)⁻¹ * S k j) : PDk S' (k + 1) n := by
  have hp := h.pos hk
  have hinv : S k k * (S k k)⁻¹ = 1 := Rat.mul_inv_cancel _ (by intro e; rw [e] at hp; exact Rat.lt_irrefl hp)
  refine ⟨fun i j h1 h2 h3 h4 => ?_, fun x hx hne => ?_⟩
  · rw [hS i (by omega), hS j (by omega), h.1 i j (by omega) h2 (by omega) h4, h.1 i k (by omega) h2 (by omega) hk, h.1 k j (by omega) hk (by omega) h4]
    grind
  · have hxk : x k = 0 := hx k (by omega)
    have hb : sm (fun i => S i k * x i) n = sm (fun j => S k j * x j) n := sm_congr (fun i hi => by
      by_cases e : i < k
      · rw [hx i (by omega)]; grind
      · rw [h.1 i k (by omega) hi (by omega) hk])
    have key := h.2 (fun i => x i + (-(sm (fun j => S k j * x j) n * (S k k)⁻¹)) * dx_u k i) (fun i hi => by
      have : ¬ i = k := by omega
      have e : dx_u k i = (0 : Rat) := by simp [dx_u, this]
      rw [hx i (by omega), e]
      grind) (by
      obtain ⟨i, hi, hxi⟩ := hne
      refine ⟨i, hi, ?_⟩
      have : i ≠ k := fun e => by subst e; exact hxi hxk
      have e : dx_u k i = (0 : Rat) := by simp [dx_u, this]
      rw [e]
      intro q
      exact hxi (by grind))
    rw [Bf_l, Bf_r, Bf_r, Bf_ul S hk, Bf_ul S hk, Bf_ur S hk, hb] at key
    have huu : sm (fun j => S k j * dx_u k j) n = S k k := by
      rw [sm_one hk]
      · simp [dx_u]
      · intro j _ hne
        simp [dx_u, hne]
    rw [huu] at key
    have hB : Bf S' n x x = Bf S n x x + (-(S k k)⁻¹) * (sm (fun i => S i k * x i) n * sm (fun j => S k j * x j) n) := by
      rw [← sm_prod]
      unfold Bf
      rw [← sm_mul, ← sm_add]
      apply sm_congr
      intro i _
      rw [← sm_mul, ← sm_add]
      apply sm_congr
      intro j _
      by_cases e : i = k
      · subst e; rw [hxk]; grind
      · rw [hS i e]; grind
    rw [hB, hb]
    generalize sm (fun j => S k j * x j) n = b1 at key ⊢
    generalize (S k k)⁻¹ = q1 at key hinv ⊢
    generalize S k k = s1 at key hinv ⊢
    have e : Bf S n x x + -q1 * (b1 * b1) = Bf S n x x + -(b1 * q1) * b1 + -(b1 * q1) * (b1 + -(b1 * q1) * s1) := by grind
    rw [e]
    exact key
/-- pivots above 0 -/
theorem pv_pos {M : Nat → Nat → Rat} {n : Nat} (h : PDk M 0 n) : ∀ {k}, k ≤ n → PDk (gj M k) k n := by
  intro k
  induction k with
  | zero => intro _; exact h
  | succ k ih =>
    intro hk
    exact (ih (by omega)).step (by omega) (fun i hi j => gj_n M j hi)
theorem pv_pos' {M : Nat → Nat → Rat} {n : Nat} (h : PDk M 0 n) {t : Nat} (ht : t < n) : 0 < pv M t := (pv_pos h (by omega)).pos ht
theorem Rat_np {a b : Rat} (h1 : a ≤ 0) (h2 : b ≤ 0) : 0 ≤ a * b := by
  have := Rat.mul_nonneg (a := -a) (b := -b) (by grind) (by grind)
  grind
theorem inv_nn {a : Rat} (h : 0 < a) : 0 ≤ a⁻¹ := Rat.le_of_lt (Rat.inv_pos.mpr h)
theorem gj_neg {M : Nat → Nat → Rat} {n : Nat} (hp : ∀ t, t < n → 0 < pv M t) (h : ∀ i j, i < n → j < n → i ≠ j → M i j ≤ 0) : ∀ {k}, k ≤ n → ∀ i j, i < n → k ≤ j → j < n → i ≠ j → gj M k i j ≤ 0 := by
  intro k
  induction k with
  | zero => intro _ i j h1 _ h3 h4; exact h i j h1 h3 h4
  | succ k ih =>
    intro hk i j hi hj hjn hne
    have ih' := ih (by omega)
    by_cases e : i = k
    · subst e; rw [gj_s]; exact ih' i j hi (by omega) hjn hne
    · rw [gj_n M j e]
      have a1 := ih' i j hi (by omega) hjn hne
      have a2 := Rat_np (ih' i k hi (by omega) (by omega) e) (ih' k j (by omega) (by omega) hjn (by omega))
      have a3 := Rat.mul_nonneg (inv_nn (hp k (by omega))) a2
      grind
theorem gj_rhs {M : Nat → Nat → Rat} {n c : Nat} (hp : ∀ t, t < n → 0 < pv M t) (h : ∀ i j, i < n → j < n → i ≠ j → M i j ≤ 0) (hc : ∀ i, i < n → 0 ≤ M i c) : ∀ {k}, k ≤ n → ∀ i, i < n → 0 ≤ gj M k i c := by
  intro k
  induction k with
  | zero => intro _ i hi; exact hc i hi
  | succ k ih =>
    intro hk i hi
    have ih' := ih (by omega)
    by_cases e : i = k
    · subst e; rw [gj_s]; exact ih' i hi
    · rw [gj_n M c e]
      have a1 := ih' i hi
      have a2 := gj_neg hp h (by omega : k ≤ n) i k hi (Nat.le_refl k) (by omega) e
      have a3 := Rat.mul_nonneg (inv_nn (hp k (by omega))) (ih' k (by omega))
      have a4 := Rat.mul_nonneg (a := -(gj M k i k)) (by grind) a3
      grind
/-! meshes -/
theorem sm_nn {f : Nat → Rat} {n : Nat} (h : ∀ i, i < n → 0 ≤ f i) : 0 ≤ sm f n := by
  induction n with
  | zero => exact Rat.le_refl
  | succ n ih =>
    have a := ih (fun i hi => h i (by omega))
    have b := h n (by omega)
    show 0 ≤ sm f n + f n
    grind
theorem sm_nz {f : Nat → Rat} {n : Nat} (h : ∀ i, i < n → 0 ≤ f i) (hs : sm f n ≤ 0) : ∀ i, i < n → f i = 0 := by
  induction n with
  | zero => intro i hi; omega
  | succ n ih =>
    intro i hi
    have a := sm_nn (fun i hi => h i (by omega) : ∀ i, i < n → 0 ≤ f i)
    have b := h n (by omega)
    have hs' : sm f n + f n ≤ 0 := hs
    by_cases e : i = n
    · subst e; grind
    · exact ih (fun i hi => h i (by omega)) (by grind) i (by omega)
def lapl (rod : Nat → Rat) (g : Nat → Nat → Rat) (n : Nat) : Nat → Nat → Rat := fun i j => if i = j then rod i + sm (fun l => g i l) n else -(g i j)
theorem sq_nn (a : Rat) : 0 ≤ a * a := by
  rcases Rat.le_total (a := 0) (b := a) with h | h
  · exact Rat.mul_nonneg h h
  · exact Rat_np h h
theorem lapl_form {rod : Nat → Rat} {g : Nat → Nat → Rat} {n : Nat} (hs : ∀ i j, i < n → j < n → g i j = g j i) (h0 : ∀ i, i < n → g i i = 0) (x : Nat → Rat) :
    Bf (lapl rod g n) n x x + Bf (lapl rod g n) n x x = (sm (fun i => rod i * (x i * x i)) n + sm (fun i => rod i * (x i * x i)) n) + sm (fun i => sm (fun j => g i j * ((x i - x j) * (x i - x j))) n) n := by
  have e1 : Bf (lapl rod g n) n x x = sm (fun i => rod i * (x i * x i)) n + sm (fun i => sm (fun j => g i j * (x i * x i - x i * x j)) n) n := by
    unfold Bf
    rw [← sm_add]
    apply sm_congr
    intro i hi
    have e2 : sm (fun j => lapl rod g n i j * (x i * x j)) n = sm (fun j => (if j = i then (rod i + sm (fun l => g i l) n) * (x i * x i) else 0) + -(g i j * (x i * x j))) n := sm_congr (fun j hj => by
      unfold lapl
      by_cases e : i = j
      · subst e; rw [if_pos rfl, if_pos rfl, h0 i hi]; grind
      · rw [if_neg e, if_neg (fun q => e q.symm)]; grind)
    rw [e2, sm_add, sm_one hi (fun j _ hne => by rw [if_neg hne]), if_pos rfl, sm_neg]
    have e3 : sm (fun j => g i j * (x i * x i - x i * x j)) n = (x i * x i) * sm (fun l => g i l) n + -(sm (fun j => g i j * (x i * x j)) n) := by
      rw [← sm_mul, ← sm_neg, ← sm_add]
      apply sm_congr
      intro j _
      grind
    rw [e3]
    grind
  have e4 : sm (fun i => sm (fun j => g i j * (x i * x i - x i * x j)) n) n = sm (fun i => sm (fun j => g i j * (x j * x j - x i * x j)) n) n := by
    rw [sm_comm (fun i j => g i j * (x i * x i - x i * x j))]
    apply sm_congr
    intro i hi
    apply sm_congr
    intro j hj
    rw [hs j i hj hi]
    grind
  have e5 : sm (fun i => sm (fun j => g i j * ((x i - x j) * (x i - x j))) n) n = sm (fun i => sm (fun j => g i j * (x i * x i - x i * x j)) n) n + sm (fun i => sm (fun j => g i j * (x j * x j - x i * x j)) n) n := by
    rw [← sm_add]
    apply sm_congr
    intro i _
    rw [← sm_add]
    apply sm_congr
    intro j _
    grind
  rw [e5, ← e4, e1]
  grind
/-- a mesh whose nodes all come to a rod: its form is above 0 -/
theorem lapl_PD {rod : Nat → Rat} {g : Nat → Nat → Rat} {n : Nat} (hs : ∀ i j, i < n → j < n → g i j = g j i) (h0 : ∀ i, i < n → g i i = 0) (hg : ∀ i j, i < n → j < n → 0 ≤ g i j) (hr : ∀ i, i < n → 0 ≤ rod i)
    (hc : ∀ Z : Nat → Prop, (∀ i, i < n → 0 < rod i → Z i) → (∀ i j, i < n → j < n → Z i → 0 < g i j → Z j) → ∀ i, i < n → Z i) : PDk (lapl rod g n) 0 n := by
  refine ⟨fun i j _ hi _ hj => ?_, fun x _ hne => ?_⟩
  · unfold lapl
    by_cases e : i = j
    · subst e; rfl
    · rw [if_neg e, if_neg (fun q => e q.symm), hs i j hi hj]
  · have hf := lapl_form (rod := rod) hs h0 x
    by_cases hle : Bf (lapl rod g n) n x x ≤ 0
    · exfalso
      have hA : ∀ i, i < n → 0 ≤ rod i * (x i * x i) := fun i hi => Rat.mul_nonneg (hr i hi) (sq_nn _)
      have hB : ∀ i, i < n → ∀ j, j < n → 0 ≤ g i j * ((x i - x j) * (x i - x j)) := fun i hi j hj => Rat.mul_nonneg (hg i j hi hj) (sq_nn _)
      have hB' : ∀ i, i < n → 0 ≤ sm (fun j => g i j * ((x i - x j) * (x i - x j))) n := fun i hi => sm_nn (hB i hi)
      have sA := sm_nn hA
      have sB := sm_nn hB'
      have zA := sm_nz hA (by grind)
      have zB := sm_nz hB' (by grind)
      have zB' : ∀ i, i < n → ∀ j, j < n → g i j * ((x i - x j) * (x i - x j)) = 0 := fun i hi => sm_nz (hB i hi) (by rw [zB i hi]; exact Rat.le_refl)
      have hz := hc (fun i => x i = 0) (fun i hi hri => by
        have h1 := zA i hi
        rcases Rat.mul_eq_zero.mp h1 with h | h
        · rw [h] at hri; exact absurd hri Rat.lt_irrefl
        · rcases Rat.mul_eq_zero.mp h with h | h <;> exact h) (fun i j hi hj hx hgi => by
        have h1 := zB' i hi j hj
        rcases Rat.mul_eq_zero.mp h1 with h | h
        · rw [h] at hgi; exact absurd hgi Rat.lt_irrefl
        · have hx' : x i = 0 := hx
          show x j = 0
          rcases Rat.mul_eq_zero.mp h with h | h <;> grind)
      obtain ⟨i, hi, hxi⟩ := hne
      exact hxi (hz i hi)
    · exact Rat.not_le.mp hle
end PD
