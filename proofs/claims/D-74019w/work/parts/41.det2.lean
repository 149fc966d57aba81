/-! ===== MATH 2: bounds, remainders, integers among fractions, minors ===== -/
section DET2
def sN (f : Nat → Nat) : Nat → Nat
  | 0 => 0
  | n + 1 => sN f n + f n
def pN (f : Nat → Nat) : Nat → Nat
  | 0 => 1
  | n + 1 => pN f n * f n
theorem sN_le {f g : Nat → Nat} {n : Nat} (h : ∀ i, i < n → f i ≤ g i) : sN f n ≤ sN g n := by
  induction n with
  | zero => exact Nat.le_refl _
  | succ n ih => unfold sN; exact Nat.add_le_add (ih (fun i hi => h i (by omega))) (h n (by omega))
theorem sN_mul (f : Nat → Nat) (b n : Nat) : sN (fun i => f i * b) n = sN f n * b := by
  induction n with
  | zero => simp [sN]
  | succ n ih => unfold sN; rw [ih, Nat.add_mul]
theorem sm_abs (f : Nat → Int) (n : Nat) : (sm f n).natAbs ≤ sN (fun i => (f i).natAbs) n := by
  induction n with
  | zero => exact Nat.le_refl _
  | succ n ih => unfold sm sN; exact Nat.le_trans (Int.natAbs_add_le _ _) (Nat.add_le_add_right ih _)
theorem dx_sg_abs (S : Su) (j n : Nat) : (dx_sg S j n : Int).natAbs = 1 := by
  induction n with
  | zero => rfl
  | succ n ih =>
    unfold dx_sg
    by_cases h : j < n ∧ S n = true
    · rw [if_pos h, Int.natAbs_neg]; exact ih
    · rw [if_neg h]; exact ih
/-- a product of rows is at most the product of the rows' sums -/
theorem dx_bd {M : Nat → Nat → Int} {B : Nat → Nat} : ∀ {k : Nat}, (∀ i, i < k → sN (fun j => (M i j).natAbs) 13 ≤ B i) → ∀ S, (dx_W M k S).natAbs ≤ pN B k := by
  intro k
  induction k with
  | zero =>
    intro _ S
    show (dx_w0 S : Int).natAbs ≤ 1
    unfold dx_w0
    by_cases h : dx_em S 13 = true
    · rw [if_pos h]; decide
    · rw [if_neg h]; decide
  | succ k ih =>
    intro h S
    have ihS := ih (fun i hi => h i (by omega))
    show (dx_e (M k) (dx_W M k) S).natAbs ≤ pN B k * B k
    unfold dx_e
    refine Nat.le_trans (sm_abs _ _) ?_
    refine Nat.le_trans (sN_le (g := fun j => (M k j).natAbs * pN B k) (fun j _ => ?_)) ?_
    · by_cases hS : S j = true
      · rw [if_pos hS, Int.natAbs_mul, Int.natAbs_mul, dx_sg_abs, Nat.one_mul]
        exact Nat.mul_le_mul_left _ (ihS _)
      · rw [if_neg hS]; exact Nat.zero_le _
    · rw [sN_mul, Nat.mul_comm]
      exact Nat.mul_le_mul_left _ (h k (by omega))
/-- alike but for multiples of p -/
def cg (p a b : Int) : Prop := p ∣ a - b
theorem cg_r (p a : Int) : cg p a a := by unfold cg; rw [Int.sub_self]; exact Int.dvd_zero p
theorem cg_s {p a b : Int} (h : cg p a b) : cg p b a := by
  obtain ⟨z, hz⟩ := h
  exact ⟨-z, by grind⟩
theorem cg_t {p a b c : Int} (h : cg p a b) (g : cg p b c) : cg p a c := by
  obtain ⟨z, hz⟩ := h
  obtain ⟨y, hy⟩ := g
  exact ⟨z + y, by grind⟩
theorem cg_a {p a b c d : Int} (h : cg p a b) (g : cg p c d) : cg p (a + c) (b + d) := by
  obtain ⟨z, hz⟩ := h
  obtain ⟨y, hy⟩ := g
  exact ⟨z + y, by grind⟩
theorem cg_m {p a b c d : Int} (h : cg p a b) (g : cg p c d) : cg p (a * c) (b * d) := by
  obtain ⟨z, hz⟩ := h
  obtain ⟨y, hy⟩ := g
  exact ⟨z * c + b * y, by
    have h1 : a = b + p * z := by grind
    have h2 : c = d + p * y := by grind
    rw [h1, h2]
    grind⟩
theorem cg_n {p a b : Int} (h : cg p a b) : cg p (-a) (-b) := by
  obtain ⟨z, hz⟩ := h
  exact ⟨-z, by grind⟩
theorem cg_sub {p a b c d : Int} (h : cg p a b) (g : cg p c d) : cg p (a - c) (b - d) := by
  obtain ⟨z, hz⟩ := h
  obtain ⟨y, hy⟩ := g
  exact ⟨z - y, by grind⟩
theorem cg_sm {p : Int} {f g : Nat → Int} {n : Nat} (h : ∀ i, i < n → cg p (f i) (g i)) : cg p (sm f n) (sm g n) := by
  induction n with
  | zero => exact cg_r p _
  | succ n ih => unfold sm; exact cg_a (ih (fun i hi => h i (by omega))) (h n (by omega))
theorem cg_mod (p a : Int) : cg p (a % p) a := by
  refine cg_s ⟨a / p, ?_⟩
  have := Int.emod_add_mul_ediv a p
  omega
theorem dx_cg {p : Int} {M N : Nat → Nat → Int} : ∀ {k : Nat}, (∀ i, i < k → ∀ j, j < 13 → cg p (M i j) (N i j)) → ∀ S, cg p (dx_W M k S) (dx_W N k S) := by
  intro k
  induction k with
  | zero => intro _ S; exact cg_r p _
  | succ k ih =>
    intro h S
    show cg p (dx_e (M k) (dx_W M k) S) (dx_e (N k) (dx_W N k) S)
    unfold dx_e
    apply cg_sm
    intro j hj
    by_cases hS : S j = true
    · rw [if_pos hS, if_pos hS]
      exact cg_m (cg_r p _) (cg_m (h k (by omega) j hj) (ih (fun i hi => h i (by omega)) _))
    · rw [if_neg hS, if_neg hS]
      exact cg_r p _
theorem h2Z : ∀ x : Int, x + x = 0 → x = 0 := by intro x h; omega
theorem h2Q : ∀ x : Rat, x + x = 0 → x = 0 := by intro x h; grind
theorem sm_cast (f : Nat → Int) (n : Nat) : ((sm f n : Int) : Rat) = sm (fun i => ((f i : Int) : Rat)) n := by
  induction n with
  | zero => rfl
  | succ n ih => unfold sm; rw [Rat.intCast_add, ih]
theorem dx_sg_cast (S : Su) (j n : Nat) : ((dx_sg S j n : Int) : Rat) = dx_sg S j n := by
  induction n with
  | zero => rfl
  | succ n ih =>
    unfold dx_sg
    by_cases h : j < n ∧ S n = true
    · rw [if_pos h, if_pos h, Rat.intCast_neg, ih]
    · rw [if_neg h, if_neg h, ih]
theorem dx_cast (M : Nat → Nat → Int) : ∀ k S, ((dx_W M k S : Int) : Rat) = dx_W (fun i j => ((M i j : Int) : Rat)) k S := by
  intro k
  induction k with
  | zero =>
    intro S
    show ((dx_w0 S : Int) : Rat) = dx_w0 S
    unfold dx_w0
    by_cases h : dx_em S 13 = true
    · rw [if_pos h, if_pos h]; rfl
    · rw [if_neg h, if_neg h]; rfl
  | succ k ih =>
    intro S
    show ((dx_e (M k) (dx_W M k) S : Int) : Rat) = dx_e (fun j => ((M k j : Int) : Rat)) (dx_W _ k) S
    unfold dx_e
    rw [sm_cast]
    apply sm_congr
    intro j hj
    by_cases hS : S j = true
    · rw [if_pos hS, if_pos hS, Rat.intCast_mul, Rat.intCast_mul, dx_sg_cast, ih]
    · rw [if_neg hS, if_neg hS]; rfl
theorem det_cast (M : Nat → Nat → Int) (k : Nat) : ((det k M : Int) : Rat) = det k (fun i j => ((M i j : Int) : Rat)) := dx_cast M k _
/-! rows that vanish on a column -/
def dx_cc (S : Su) (c : Nat) : Nat → Nat
  | 0 => 0
  | n + 1 => dx_cc S c n + (if n ≠ c ∧ S n = true then 1 else 0)
theorem dx_cc_rm {S : Su} {c j : Nat} (hk : j ≠ c) (hS : S j = true) : ∀ {n}, (n ≤ j → dx_cc (dx_rm S j) c n = dx_cc S c n) ∧ (j < n → dx_cc (dx_rm S j) c n + 1 = dx_cc S c n) := by
  intro n
  induction n with
  | zero => exact ⟨fun _ => rfl, fun h => by omega⟩
  | succ n ih =>
    unfold dx_cc
    by_cases e : n = j
    · subst e
      rw [dx_rm_s, (ih.1 (Nat.le_refl n))]
      exact ⟨fun h => by omega, fun _ => by simp [hk, hS]⟩
    · rw [dx_rm_n S e]
      exact ⟨fun h => by rw [ih.1 (by omega)], fun h => by have := ih.2 (by omega); omega⟩
theorem dx_cc_lt {c m : Nat} (h : c < m) : ∀ n, dx_cc (dx_lt m) c n = min n m - (if c < n then 1 else 0) := by
  intro n
  induction n with
  | zero => unfold dx_cc; simp
  | succ n ih =>
    unfold dx_cc
    rw [ih]
    by_cases h1 : n ≠ c ∧ dx_lt m n = true
    · rw [if_pos h1]
      have h2 : n < m := by simpa [dx_lt] using h1.2
      have h3 := h1.1
      by_cases h4 : c < n
      · rw [if_pos h4, if_pos (by omega)]; omega
      · rw [if_neg h4, if_neg (by omega)]; omega
    · rw [if_neg h1]
      have h5 : ¬ (n ≠ c ∧ n < m) := fun q => h1 ⟨q.1, by simpa [dx_lt] using q.2⟩
      by_cases h4 : c < n
      · rw [if_pos h4, if_pos (by omega)]; omega
      · rw [if_neg h4]
        by_cases h6 : n = c
        · rw [if_pos (by omega)]; omega
        · rw [if_neg (by omega)]; omega
theorem dx_col0 {α : Type} [Lean.Grind.CommRing α] {M : Nat → Nat → α} {c : Nat} : ∀ {m}, (∀ i, i < m → M i c = 0) → ∀ S, dx_cc S c 13 < m → dx_W M m S = 0 := by
  intro m
  induction m with
  | zero => intro h S hS; omega
  | succ m ih =>
    intro h S hS
    show dx_e (M m) (dx_W M m) S = 0
    unfold dx_e
    apply sm_z
    intro j hj
    by_cases hSj : S j = true
    · rw [if_pos hSj]
      by_cases hjk : j = c
      · subst hjk; rw [h m (by omega)]; grind
      · have hc := (dx_cc_rm (c := c) (j := j) hjk hSj (n := 13)).2 hj
        rw [ih (fun i h1 => h i (by omega)) (dx_rm S j) (by omega)]
        grind
    · rw [if_neg hSj]
theorem det_col0 {α : Type} [Lean.Grind.CommRing α] {M : Nat → Nat → α} {c n : Nat} (hc : c < n) (hn : n ≤ 13) (h : ∀ i, i < n → M i c = 0) : det n M = 0 := by
  refine dx_col0 (c := c) h _ ?_
  rw [dx_cc_lt hc, if_pos (by omega)]
  omega
end DET2
