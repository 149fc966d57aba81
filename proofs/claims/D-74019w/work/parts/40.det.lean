/-! ===== MATH 1: sums; the alternating product of rows (exterior algebra over 13 columns); determinants ===== -/
section DET
def sm {α : Type} [Lean.Grind.CommRing α] (f : Nat → α) : Nat → α
  | 0 => 0
  | n + 1 => sm f n + f n
theorem sm_congr {α : Type} [Lean.Grind.CommRing α] {f g : Nat → α} {n : Nat} (h : ∀ i, i < n → f i = g i) : sm f n = sm g n := by
  induction n with
  | zero => rfl
  | succ n ih => unfold sm; rw [ih (fun i hi => h i (by omega)), h n (by omega)]
theorem sm_add {α : Type} [Lean.Grind.CommRing α] (f g : Nat → α) (n : Nat) : sm (fun i => f i + g i) n = sm f n + sm g n := by
  induction n with
  | zero => unfold sm; grind
  | succ n ih => unfold sm; rw [ih]; grind
theorem sm_mul {α : Type} [Lean.Grind.CommRing α] (a : α) (f : Nat → α) (n : Nat) : sm (fun i => a * f i) n = a * sm f n := by
  induction n with
  | zero => unfold sm; grind
  | succ n ih => unfold sm; rw [ih]; grind
theorem sm_zero {α : Type} [Lean.Grind.CommRing α] (n : Nat) : sm (fun _ => (0 : α)) n = 0 := by
  induction n with
  | zero => rfl
  | succ n ih => unfold sm; rw [ih]; grind
theorem sm_z {α : Type} [Lean.Grind.CommRing α] {f : Nat → α} {n : Nat} (h : ∀ i, i < n → f i = 0) : sm f n = 0 := by rw [sm_congr h, sm_zero]
theorem sm_neg {α : Type} [Lean.Grind.CommRing α] (f : Nat → α) (n : Nat) : sm (fun i => -f i) n = -sm f n := by
  induction n with
  | zero => unfold sm; grind
  | succ n ih => unfold sm; rw [ih]; grind
theorem sm_comm {α : Type} [Lean.Grind.CommRing α] (f : Nat → Nat → α) (n m : Nat) : sm (fun i => sm (fun j => f i j) m) n = sm (fun j => sm (fun i => f i j) n) m := by
  induction n with
  | zero => exact (sm_z (fun j _ => rfl)).symm
  | succ n ih =>
    show sm (fun i => sm (fun j => f i j) m) n + sm (fun j => f n j) m = sm (fun j => sm (fun i => f i j) n + f n j) m
    rw [ih, sm_add]
theorem sm_one {α : Type} [Lean.Grind.CommRing α] {f : Nat → α} {n k : Nat} (hk : k < n) (h : ∀ i, i < n → i ≠ k → f i = 0) : sm f n = f k := by
  induction n with
  | zero => omega
  | succ n ih =>
    unfold sm
    by_cases e : k = n
    · subst e
      rw [sm_z (fun i hi => h i (by omega) (by omega))]
      grind
    · rw [ih (by omega) (fun i hi hk => h i (by omega) hk), h n (by omega) (Ne.symm e)]
      grind
abbrev Su : Type := Nat → Bool
def dx_rm (S : Su) (j : Nat) : Su := fun i => if i = j then false else S i
theorem dx_rm_s (S : Su) (j : Nat) : dx_rm S j j = false := by simp [dx_rm]
theorem dx_rm_n (S : Su) {i j : Nat} (h : i ≠ j) : dx_rm S j i = S i := by simp [dx_rm, h]
theorem dx_rm_c (S : Su) (i j : Nat) : dx_rm (dx_rm S j) i = dx_rm (dx_rm S i) j := by
  funext k
  unfold dx_rm
  by_cases h1 : k = i <;> by_cases h2 : k = j <;> simp [h1, h2]
def dx_sg {α : Type} [Lean.Grind.CommRing α] (S : Su) (j : Nat) : Nat → α
  | 0 => 1
  | n + 1 => if j < n ∧ S n = true then -(dx_sg S j n) else dx_sg S j n
theorem dx_sg_rm {α : Type} [Lean.Grind.CommRing α] {S : Su} {i j : Nat} (hij : i ≠ j) : ∀ n, (dx_sg (dx_rm S j) i n : α) = if i < j ∧ j < n ∧ S j = true then -(dx_sg S i n) else dx_sg S i n := by
  intro n
  induction n with
  | zero => rw [if_neg (by omega)]; rfl
  | succ n ih =>
    by_cases e : n = j
    · subst e
      have e1 : (dx_sg (dx_rm S n) i (n + 1) : α) = dx_sg (dx_rm S n) i n := by
        show (if i < n ∧ dx_rm S n n = true then _ else _) = _
        rw [dx_rm_s, if_neg (by simp)]
      rw [e1, ih, if_neg (by omega)]
      show _ = if i < n ∧ n < n + 1 ∧ S n = true then -(if i < n ∧ S n = true then -(dx_sg S i n) else dx_sg S i n) else (if i < n ∧ S n = true then -(dx_sg S i n) else dx_sg S i n)
      by_cases h : i < n ∧ S n = true
      · rw [if_pos ⟨h.1, by omega, h.2⟩, if_pos h]; grind
      · rw [if_neg (fun q => h ⟨q.1, q.2.2⟩), if_neg h]
    · have e1 : (dx_sg (dx_rm S j) i (n + 1) : α) = if i < n ∧ S n = true then -(dx_sg (dx_rm S j) i n) else dx_sg (dx_rm S j) i n := by
        show (if i < n ∧ dx_rm S j n = true then _ else _) = _
        rw [dx_rm_n S e]
      rw [e1, ih]
      show _ = if i < j ∧ j < n + 1 ∧ S j = true then -(if i < n ∧ S n = true then -(dx_sg S i n) else dx_sg S i n) else (if i < n ∧ S n = true then -(dx_sg S i n) else dx_sg S i n)
      by_cases h : i < n ∧ S n = true
      · rw [if_pos h, if_pos h]
        by_cases g : i < j ∧ j < n ∧ S j = true
        · rw [if_pos g, if_pos ⟨g.1, by omega, g.2.2⟩]
        · rw [if_neg g, if_neg (fun q => g ⟨q.1, by omega, q.2.2⟩)]
      · rw [if_neg h, if_neg h]
        by_cases g : i < j ∧ j < n ∧ S j = true
        · rw [if_pos g, if_pos ⟨g.1, by omega, g.2.2⟩]
        · rw [if_neg g, if_neg (fun q => g ⟨q.1, by omega, q.2.2⟩)]
def dx_e {α : Type} [Lean.Grind.CommRing α] (r : Nat → α) (w : Su → α) (S : Su) : α := sm (fun j => if S j = true then dx_sg S j 13 * (r j * w (dx_rm S j)) else 0) 13
theorem dx_e_congr {α : Type} [Lean.Grind.CommRing α] {r r' : Nat → α} {w w' : Su → α} {S : Su} (h : ∀ j, j < 13 → r j = r' j) (hw : ∀ S, w S = w' S) : dx_e r w S = dx_e r' w' S := by
  unfold dx_e
  apply sm_congr
  intro j hj
  rw [h j hj, hw]
def dx_T {α : Type} [Lean.Grind.CommRing α] (S : Su) (w : Su → α) (a b : Nat → α) (j i : Nat) : α := if S j = true ∧ S i = true ∧ i ≠ j then dx_sg S j 13 * dx_sg (dx_rm S j) i 13 * (a j * b i * w (dx_rm (dx_rm S j) i)) else 0
theorem dx_ee {α : Type} [Lean.Grind.CommRing α] (a b : Nat → α) (w : Su → α) (S : Su) : dx_e a (dx_e b w) S = sm (fun j => sm (fun i => dx_T S w a b j i) 13) 13 := by
  unfold dx_e
  apply sm_congr
  intro j hj
  by_cases hS : S j = true
  · rw [if_pos hS, ← sm_mul, ← sm_mul]
    apply sm_congr
    intro i hi
    unfold dx_T
    by_cases e : i = j
    · subst e
      rw [dx_rm_s, if_neg (by simp), if_neg (by simp)]
      grind
    · rw [dx_rm_n S e]
      by_cases hi2 : S i = true
      · rw [if_pos hi2, if_pos ⟨hS, hi2, e⟩]
        grind
      · rw [if_neg hi2, if_neg (fun q => hi2 q.2.1)]
        grind
  · rw [if_neg hS, sm_z]
    intro i hi
    unfold dx_T
    rw [if_neg (fun q => hS q.1)]
theorem dx_anti {α : Type} [Lean.Grind.CommRing α] (r r' : Nat → α) (w : Su → α) (S : Su) : dx_e r (dx_e r' w) S + dx_e r' (dx_e r w) S = 0 := by
  rw [dx_ee, dx_ee, sm_comm (fun j i => dx_T S w r' r j i), ← sm_add]
  apply sm_z
  intro j hj
  rw [← sm_add]
  apply sm_z
  intro i hi
  unfold dx_T
  by_cases h : S j = true ∧ S i = true ∧ i ≠ j
  · rw [if_pos h, if_pos ⟨h.2.1, h.1, Ne.symm h.2.2⟩, dx_rm_c S i j, dx_sg_rm h.2.2, dx_sg_rm (Ne.symm h.2.2)]
    by_cases hlt : i < j
    · rw [if_pos ⟨hlt, hj, h.1⟩, if_neg (by omega)]
      grind
    · rw [if_neg (by omega), if_pos ⟨by omega, hi, h.2.1⟩]
      grind
  · rw [if_neg h, if_neg (fun q => h ⟨q.2.1, q.1, Ne.symm q.2.2⟩)]
    grind
theorem dx_e_r {α : Type} [Lean.Grind.CommRing α] (a b : α) (u v : Nat → α) (w : Su → α) (S : Su) : dx_e (fun j => a * u j + b * v j) w S = a * dx_e u w S + b * dx_e v w S := by
  unfold dx_e
  rw [← sm_mul, ← sm_mul, ← sm_add]
  apply sm_congr
  intro j hj
  by_cases hS : S j = true
  · rw [if_pos hS, if_pos hS, if_pos hS]; grind
  · rw [if_neg hS, if_neg hS, if_neg hS]; grind
theorem dx_e_w {α : Type} [Lean.Grind.CommRing α] (a b : α) (r : Nat → α) (w w' : Su → α) (S : Su) : dx_e r (fun S => a * w S + b * w' S) S = a * dx_e r w S + b * dx_e r w' S := by
  unfold dx_e
  rw [← sm_mul, ← sm_mul, ← sm_add]
  apply sm_congr
  intro j hj
  by_cases hS : S j = true
  · rw [if_pos hS, if_pos hS, if_pos hS]; grind
  · rw [if_neg hS, if_neg hS, if_neg hS]; grind
theorem dx_e_0 {α : Type} [Lean.Grind.CommRing α] {r : Nat → α} {w : Su → α} (h : ∀ S, w S = 0) (S : Su) : dx_e r w S = 0 := by
  unfold dx_e
  apply sm_z
  intro j hj
  by_cases hS : S j = true
  · rw [if_pos hS, h]; grind
  · rw [if_neg hS]
def dx_em (S : Su) : Nat → Bool
  | 0 => true
  | n + 1 => dx_em S n && !S n
def dx_w0 {α : Type} [Lean.Grind.CommRing α] (S : Su) : α := if dx_em S 13 = true then 1 else 0
/-- the product of the first k rows, at a set of columns -/
def dx_W {α : Type} [Lean.Grind.CommRing α] (M : Nat → Nat → α) : Nat → Su → α
  | 0 => dx_w0
  | k + 1 => dx_e (M k) (dx_W M k)
theorem dx_W_congr {α : Type} [Lean.Grind.CommRing α] {M M' : Nat → Nat → α} {k : Nat} (h : ∀ i, i < k → ∀ j, j < 13 → M i j = M' i j) : ∀ S, dx_W M k S = dx_W M' k S := by
  induction k with
  | zero => intro S; rfl
  | succ k ih => intro S; exact dx_e_congr (h k (by omega)) (ih (fun i hi => h i (by omega)))
def dx_up {α : Type} (M : Nat → Nat → α) (r : Nat) (u : Nat → α) : Nat → Nat → α := fun i => if i = r then u else M i
theorem dx_up_s {α : Type} (M : Nat → Nat → α) (r : Nat) (u : Nat → α) : dx_up M r u r = u := by simp [dx_up]
theorem dx_up_n {α : Type} (M : Nat → Nat → α) {r i : Nat} (u : Nat → α) (h : i ≠ r) : dx_up M r u i = M i := by simp [dx_up, h]
theorem dx_W_up {α : Type} [Lean.Grind.CommRing α] {M : Nat → Nat → α} {r k : Nat} {u : Nat → α} (h : k ≤ r) (S : Su) : dx_W (dx_up M r u) k S = dx_W M k S := dx_W_congr (fun i hi j _ => by rw [dx_up_n _ _ (by omega)]) S
theorem dx_W_lin {α : Type} [Lean.Grind.CommRing α] (M : Nat → Nat → α) (a b : α) (u v : Nat → α) {r : Nat} : ∀ {k : Nat}, r < k → ∀ S, dx_W (dx_up M r (fun j => a * u j + b * v j)) k S = a * dx_W (dx_up M r u) k S + b * dx_W (dx_up M r v) k S := by
  intro k
  induction k with
  | zero => intro h; omega
  | succ k ih =>
    intro h S
    show dx_e (dx_up M r _ k) (dx_W (dx_up M r _) k) S = a * dx_e (dx_up M r u k) (dx_W (dx_up M r u) k) S + b * dx_e (dx_up M r v k) (dx_W (dx_up M r v) k) S
    by_cases e : r = k
    · subst e
      have hW : ∀ x S, dx_W (dx_up M r x) r S = dx_W M r S := fun x S => dx_W_up (Nat.le_refl r) S
      rw [dx_up_s, dx_up_s, dx_up_s, dx_e_congr (fun _ _ => rfl) (hW _), dx_e_congr (fun _ _ => rfl) (hW u), dx_e_congr (fun _ _ => rfl) (hW v), dx_e_r]
    · have hk : k ≠ r := Ne.symm e
      rw [dx_up_n _ _ hk, dx_up_n _ _ hk, dx_up_n _ _ hk, ← dx_e_w]
      exact dx_e_congr (fun _ _ => rfl) (fun S => ih (by omega) S)
theorem dx_e_W0 {α : Type} [Lean.Grind.CommRing α] (h2 : ∀ x : α, x + x = 0 → x = 0) {M : Nat → Nat → α} {r : Nat → α} {a : Nat} (hr : ∀ j, j < 13 → r j = M a j) : ∀ {b : Nat}, a < b → ∀ S, dx_e r (dx_W M b) S = 0 := by
  intro b
  induction b with
  | zero => intro h; omega
  | succ b ih =>
    intro h S
    have hA := dx_anti r (M b) (dx_W M b) S
    by_cases e : a = b
    · subst e
      have e1 : ∀ w S, dx_e r w S = dx_e (M a) w S := fun w S => dx_e_congr hr (fun _ => rfl)
      show dx_e r (dx_e (M a) (dx_W M a)) S = 0
      rw [e1, dx_e_congr (fun _ _ => rfl) (e1 _)] at hA
      rw [e1]
      exact h2 _ hA
    · have e2 : dx_e (M b) (dx_e r (dx_W M b)) S = 0 := dx_e_0 (ih (by omega)) S
      rw [e2] at hA
      show dx_e r (dx_e (M b) (dx_W M b)) S = 0
      grind
/-- two equal rows: nothing -/
theorem dx_W_0 {α : Type} [Lean.Grind.CommRing α] (h2 : ∀ x : α, x + x = 0 → x = 0) {M : Nat → Nat → α} {a b : Nat} (hr : ∀ j, j < 13 → M b j = M a j) (hab : a < b) : ∀ {k : Nat}, b < k → ∀ S, dx_W M k S = 0 := by
  intro k
  induction k with
  | zero => intro h; omega
  | succ k ih =>
    intro h S
    by_cases e : b = k
    · subst e
      exact dx_e_W0 h2 hr hab S
    · exact dx_e_0 (ih (by omega)) S
theorem dx_W_0' {α : Type} [Lean.Grind.CommRing α] (h2 : ∀ x : α, x + x = 0 → x = 0) {M : Nat → Nat → α} {a b k : Nat} (hr : ∀ j, j < 13 → M a j = M b j) (hab : a ≠ b) (ha : a < k) (hb : b < k) (S : Su) : dx_W M k S = 0 := by
  rcases Nat.lt_or_ge a b with h | h
  · exact dx_W_0 h2 (fun j hj => (hr j hj).symm) h hb S
  · exact dx_W_0 h2 hr (by omega) ha S
/-- a multiple of one row to another -/
theorem dx_add {α : Type} [Lean.Grind.CommRing α] (h2 : ∀ x : α, x + x = 0 → x = 0) {M N : Nat → Nat → α} {r q k : Nat} (t : α) (hrq : r ≠ q) (hr : r < k) (hq : q < k) (hN : ∀ j, j < 13 → N r j = M r j + t * M q j) (hO : ∀ i, i < k → i ≠ r → ∀ j, j < 13 → N i j = M i j) (S : Su) : dx_W N k S = dx_W M k S := by
  have e1 : dx_W N k S = dx_W (dx_up M r (fun j => 1 * M r j + t * M q j)) k S := dx_W_congr (fun i hi j hj => by
    by_cases e : i = r
    · subst e
      rw [dx_up_s, hN j hj]
      grind
    · rw [dx_up_n _ _ e, hO i hi e j hj]) S
  rw [e1, dx_W_lin M 1 t (M r) (M q) hr S]
  have e2 : dx_W (dx_up M r (M q)) k S = 0 := dx_W_0' h2 (a := r) (b := q) (fun j _ => by rw [dx_up_s, dx_up_n _ _ (Ne.symm hrq)]) hrq hr hq S
  have e3 : dx_W (dx_up M r (M r)) k S = dx_W M k S := dx_W_congr (fun i _ j _ => by
    by_cases e : i = r
    · subst e; rw [dx_up_s]
    · rw [dx_up_n _ _ e]) S
  rw [e2, e3]
  grind
/-- the row t clears others -/
theorem dx_elim {α : Type} [Lean.Grind.CommRing α] (h2 : ∀ x : α, x + x = 0 → x = 0) {M N : Nat → Nat → α} {t k : Nat} (c : Nat → α) (ht : t < k) (hN : ∀ i, i < k → i ≠ t → ∀ j, j < 13 → N i j = M i j + c i * M t j) (hT : ∀ j, j < 13 → N t j = M t j) (S : Su) : dx_W N k S = dx_W M k S := by
  have key : ∀ m, m ≤ k → dx_W (fun i => if i < m then N i else M i) k S = dx_W M k S := by
    intro m
    induction m with
    | zero => intro _; exact dx_W_congr (fun i _ j _ => by simp) S
    | succ m ih =>
      intro hm
      rw [← ih (by omega)]
      by_cases e : m = t
      · subst e
        exact dx_W_congr (fun i hi j hj => by
          by_cases h : i < m
          · simp [h, Nat.lt_succ_of_lt h]
          · by_cases h' : i = m
            · subst h'; simp [hT j hj]
            · have h3 : ¬ i < m + 1 := by omega
              simp [h, h3]) S
      · refine dx_add h2 (r := m) (q := t) (c m) e (by omega) ht ?_ ?_ S
        · intro j hj
          have h1 : ¬ m < m := by omega
          simp only [Nat.lt_succ_self, if_true, h1, if_false]
          rw [hN m (by omega) e j hj]
          by_cases h : t < m
          · simp only [h, if_true]; rw [hT j hj]
          · simp only [h, if_false]
        · intro i hi hne j hj
          by_cases h : i < m
          · have h3 : i < m + 1 := by omega
            simp only [h, h3, if_true]
          · have h3 : ¬ i < m + 1 := by omega
            simp only [h, h3, if_false]
  rw [← key k (Nat.le_refl k)]
  exact dx_W_congr (fun i hi j _ => by simp [hi]) S
/-- two rows change places -/
theorem dx_swap {α : Type} [Lean.Grind.CommRing α] (h2 : ∀ x : α, x + x = 0 → x = 0) {M N : Nat → Nat → α} {a b k : Nat} (hab : a ≠ b) (ha : a < k) (hb : b < k) (hA : ∀ j, j < 13 → N a j = M b j) (hB : ∀ j, j < 13 → N b j = M a j) (hO : ∀ i, i < k → i ≠ a → i ≠ b → ∀ j, j < 13 → N i j = M i j) (S : Su) : dx_W N k S = -dx_W M k S := by
  -- M with row b added to a; then row a taken from b; then row b added to a
  have hba : b ≠ a := Ne.symm hab
  have s1 : dx_W (dx_up M a (fun j => M a j + 1 * M b j)) k S = dx_W M k S := dx_add h2 (r := a) (q := b) 1 hab ha hb (fun j _ => by rw [dx_up_s]) (fun i _ hi j _ => by rw [dx_up_n _ _ hi]) S
  have s2 : dx_W (dx_up (dx_up M a (fun j => M a j + 1 * M b j)) b (fun j => -M a j)) k S = dx_W (dx_up M a (fun j => M a j + 1 * M b j)) k S := dx_add h2 (r := b) (q := a) (-1) hba hb ha (fun j _ => by rw [dx_up_s, dx_up_s, dx_up_n _ _ hba]; grind) (fun i _ hi j _ => by rw [dx_up_n _ _ hi]) S
  have s3 : dx_W (dx_up (dx_up M a (M b)) b (fun j => -M a j)) k S = dx_W (dx_up (dx_up M a (fun j => M a j + 1 * M b j)) b (fun j => -M a j)) k S := dx_add h2 (r := a) (q := b) 1 hab ha hb (fun j _ => by rw [dx_up_n _ _ hab, dx_up_n _ _ hab, dx_up_s, dx_up_s, dx_up_s]; grind) (fun i _ hi j _ => by
    by_cases e : i = b
    · subst e; rw [dx_up_s, dx_up_s]
    · rw [dx_up_n _ _ e, dx_up_n _ _ e, dx_up_n _ _ hi, dx_up_n _ _ hi]) S
  have s4 : dx_W (dx_up (dx_up M a (M b)) b (fun j => (-1) * M a j + 0 * M a j)) k S = (-1) * dx_W (dx_up (dx_up M a (M b)) b (M a)) k S + 0 * dx_W (dx_up (dx_up M a (M b)) b (M a)) k S := dx_W_lin _ (-1) 0 (M a) (M a) hb S
  have s5 : dx_W (dx_up (dx_up M a (M b)) b (fun j => (-1) * M a j + 0 * M a j)) k S = dx_W (dx_up (dx_up M a (M b)) b (fun j => -M a j)) k S := dx_W_congr (fun i _ j _ => by
    by_cases e : i = b
    · subst e; rw [dx_up_s, dx_up_s]; grind
    · rw [dx_up_n _ _ e, dx_up_n _ _ e]) S
  have s6 : dx_W N k S = dx_W (dx_up (dx_up M a (M b)) b (M a)) k S := dx_W_congr (fun i hi j hj => by
    by_cases e : i = b
    · subst e; rw [dx_up_s, hB j hj]
    · by_cases e2 : i = a
      · subst e2; rw [dx_up_n _ _ e, dx_up_s, hA j hj]
      · rw [dx_up_n _ _ e, dx_up_n _ _ e2, hO i hi e2 e j hj]) S
  rw [s6]
  grind
/-! determinants: the first k rows at the first k columns -/
def dx_lt (k : Nat) : Su := fun i => decide (i < k)
def det {α : Type} [Lean.Grind.CommRing α] (k : Nat) (M : Nat → Nat → α) : α := dx_W M k (dx_lt k)
def pr {α : Type} [Lean.Grind.CommRing α] (f : Nat → α) : Nat → α
  | 0 => 1
  | n + 1 => pr f n * f n
theorem pr_congr {α : Type} [Lean.Grind.CommRing α] {f g : Nat → α} {n : Nat} (h : ∀ i, i < n → f i = g i) : pr f n = pr g n := by
  induction n with
  | zero => rfl
  | succ n ih => unfold pr; rw [ih (fun i hi => h i (by omega)), h n (by omega)]
theorem dx_sg_top {α : Type} [Lean.Grind.CommRing α] {S : Su} {k : Nat} (h : ∀ i, k < i → S i = false) : ∀ n, (dx_sg S k n : α) = 1 := by
  intro n
  induction n with
  | zero => rfl
  | succ n ih =>
    show (if k < n ∧ S n = true then _ else _) = _
    rw [if_neg (fun q => by rw [h n q.1] at q; exact absurd q.2 (by simp)), ih]
theorem dx_lt_rm (k : Nat) : dx_rm (dx_lt (k + 1)) k = dx_lt k := by
  funext i
  unfold dx_rm dx_lt
  by_cases h : i = k
  · subst h; simp
  · simp only [h, if_false]
    apply decide_eq_decide.mpr
    omega
theorem det_0 {α : Type} [Lean.Grind.CommRing α] (M : Nat → Nat → α) : det 0 M = 1 := by
  show dx_w0 (dx_lt 0) = 1
  unfold dx_w0
  rw [if_pos (show dx_em (dx_lt 0) 13 = true from rfl)]
theorem det_last {α : Type} [Lean.Grind.CommRing α] {M : Nat → Nat → α} {k : Nat} (hk : k < 13) (h : ∀ j, j < k → M k j = 0) : det (k + 1) M = det k M * M k k := by
  show dx_e (M k) (dx_W M k) (dx_lt (k + 1)) = _
  unfold dx_e
  rw [sm_one hk]
  · rw [if_pos (by simp [dx_lt]), dx_lt_rm, dx_sg_top (fun i hi => by simp [dx_lt]; omega)]
    unfold det
    grind
  · intro i hi hne
    by_cases hlt : i < k
    · rw [h i hlt]
      by_cases hS : dx_lt (k + 1) i = true
      · rw [if_pos hS]; grind
      · rw [if_neg hS]
    · rw [if_neg (by simp [dx_lt]; omega)]
theorem det_tri {α : Type} [Lean.Grind.CommRing α] {M : Nat → Nat → α} {k : Nat} (hk : k ≤ 13) (h : ∀ i, i < k → ∀ j, j < i → M i j = 0) : det k M = pr (fun i => M i i) k := by
  induction k with
  | zero => exact det_0 M
  | succ k ih =>
    rw [det_last (by omega) (h k (by omega)), ih (by omega) (fun i hi => h i (by omega))]
    rfl
/-! rows that live on too few columns -/
def dx_cn (S : Su) (k : Nat) : Nat → Nat
  | 0 => 0
  | n + 1 => dx_cn S k n + (if k < n ∧ S n = true then 1 else 0)
theorem dx_cn_rm {S : Su} {k j : Nat} (hk : k < j) (hS : S j = true) : ∀ {n}, (n ≤ j → dx_cn (dx_rm S j) k n = dx_cn S k n) ∧ (j < n → dx_cn (dx_rm S j) k n + 1 = dx_cn S k n) := by
  intro n
  induction n with
  | zero => exact ⟨fun _ => rfl, fun h => by omega⟩
  | succ n ih =>
    unfold dx_cn
    by_cases e : n = j
    · subst e
      rw [dx_rm_s, (ih.1 (Nat.le_refl n))]
      exact ⟨fun h => by omega, fun _ => by simp [hk, hS]⟩
    · rw [dx_rm_n S e]
      exact ⟨fun h => by rw [ih.1 (by omega)], fun h => by have := ih.2 (by omega); omega⟩
theorem dx_cn_lt {k m : Nat} (h : k < m) : ∀ n, dx_cn (dx_lt m) k n = min n m - min n (k + 1) := by
  intro n
  induction n with
  | zero => unfold dx_cn; omega
  | succ n ih =>
    unfold dx_cn
    rw [ih]
    by_cases h1 : k < n ∧ dx_lt m n = true
    · rw [if_pos h1]
      have : n < m := by simpa [dx_lt] using h1.2
      omega
    · rw [if_neg h1]
      have : ¬ (k < n ∧ n < m) := fun q => h1 ⟨q.1, by simpa [dx_lt] using q.2⟩
      omega
theorem dx_few {α : Type} [Lean.Grind.CommRing α] {M : Nat → Nat → α} {k : Nat} : ∀ {m}, k ≤ m → (∀ i, k ≤ i → i < m → ∀ j, j ≤ k → M i j = 0) → ∀ S, dx_cn S k 13 < m - k → dx_W M m S = 0 := by
  intro m
  induction m with
  | zero => intro h _ S hS; omega
  | succ m ih =>
    intro hm h S hS
    by_cases e : k = m + 1
    · omega
    · show dx_e (M m) (dx_W M m) S = 0
      unfold dx_e
      apply sm_z
      intro j hj
      by_cases hSj : S j = true
      · rw [if_pos hSj]
        by_cases hjk : j ≤ k
        · rw [h m (by omega) (by omega) j hjk]; grind
        · have hc := (dx_cn_rm (k := k) (j := j) (by omega) hSj (n := 13)).2 hj
          rw [ih (by omega) (fun i h1 h2 => h i h1 (by omega)) (dx_rm S j) (by omega)]
          grind
      · rw [if_neg hSj]
theorem det_few {α : Type} [Lean.Grind.CommRing α] {M : Nat → Nat → α} {k n : Nat} (hk : k < n) (hn : n ≤ 13) (h : ∀ i, k ≤ i → i < n → ∀ j, j ≤ k → M i j = 0) : det n M = 0 := by
  refine dx_few (k := k) (by omega) h _ ?_
  rw [dx_cn_lt hk]
  omega
end DET
