/-! ===== MATH 3: cofactors and minors ===== -/
section COF
def dx_u {α : Type} [Lean.Grind.CommRing α] (c : Nat) : Nat → α := fun j => if j = c then 1 else 0
def cof {α : Type} [Lean.Grind.CommRing α] (n : Nat) (M : Nat → Nat → α) (r c : Nat) : α := det n (dx_up M r (dx_u c))
theorem dx_W_row0 {α : Type} [Lean.Grind.CommRing α] (M : Nat → Nat → α) {r k : Nat} (h : r < k) (S : Su) : dx_W (dx_up M r (fun _ => 0)) k S = 0 := by
  have e := dx_W_lin M 0 0 (fun _ => 0) (fun _ => 0) h S
  have e2 : dx_W (dx_up M r (fun _ => (0 : α))) k S = dx_W (dx_up M r (fun _ => 0 * (0 : α) + 0 * 0)) k S := dx_W_congr (fun i _ j _ => by
    by_cases e : i = r
    · subst e; rw [dx_up_s, dx_up_s]; grind
    · rw [dx_up_n _ _ e, dx_up_n _ _ e]) S
  rw [e2, e]
  grind
theorem dx_W_sum {α : Type} [Lean.Grind.CommRing α] (M : Nat → Nat → α) (v : Nat → α) {r k : Nat} (h : r < k) (S : Su) : ∀ m, dx_W (dx_up M r (fun j => sm (fun c => v c * dx_u c j) m)) k S = sm (fun c => v c * dx_W (dx_up M r (dx_u c)) k S) m := by
  intro m
  induction m with
  | zero => exact dx_W_row0 M h S
  | succ m ih =>
    have e := dx_W_lin M 1 (v m) (fun j => sm (fun c => v c * dx_u c j) m) (dx_u m) h S
    have e2 : dx_W (dx_up M r (fun j => sm (fun c => v c * dx_u c j) (m + 1))) k S = dx_W (dx_up M r (fun j => 1 * sm (fun c => v c * dx_u c j) m + v m * dx_u m j)) k S := dx_W_congr (fun i _ j _ => by
      by_cases e : i = r
      · subst e
        rw [dx_up_s, dx_up_s]
        show sm _ m + _ = _
        grind
      · rw [dx_up_n _ _ e, dx_up_n _ _ e]) S
    rw [e2, e, ih]
    show _ = sm _ m + _
    grind
theorem sm_unit {α : Type} [Lean.Grind.CommRing α] (v : Nat → α) {j m : Nat} (h : j < m) : sm (fun c => v c * dx_u c j) m = v j := by
  rw [sm_one h]
  · simp [dx_u]; grind
  · intro i _ hne
    have : ¬ j = i := fun q => hne q.symm
    simp [dx_u, this]; grind
/-- a row by its entries -/
theorem det_row {α : Type} [Lean.Grind.CommRing α] (M : Nat → Nat → α) (v : Nat → α) {r n : Nat} (h : r < n) : det n (dx_up M r v) = sm (fun c => v c * cof n M r c) 13 := by
  rw [show sm (fun c => v c * cof n M r c) 13 = _ from (dx_W_sum M v h (dx_lt n) 13).symm]
  exact dx_W_congr (fun i _ j hj => by
    by_cases e : i = r
    · subst e; rw [dx_up_s, dx_up_s, sm_unit v hj]
    · rw [dx_up_n _ _ e, dx_up_n _ _ e]) _
theorem dx_sup {α : Type} [Lean.Grind.CommRing α] {M : Nat → Nat → α} {r : Nat} {S : Su} (h : ∀ j, j < 13 → S j = true → M r j = 0) : ∀ {k}, r < k → ∀ T : Su, (∀ j, T j = true → S j = true) → dx_W M k T = 0 := by
  intro k
  induction k with
  | zero => intro h; omega
  | succ k ih =>
    intro hr T hT
    show dx_e (M k) (dx_W M k) T = 0
    unfold dx_e
    apply sm_z
    intro j hj
    by_cases hS : T j = true
    · rw [if_pos hS]
      by_cases e : r = k
      · subst e; rw [h j hj (hT j hS)]; grind
      · rw [ih (by omega) (dx_rm T j) (fun i hi => hT i (by
          by_cases e : i = j
          · subst e; rw [dx_rm_s] at hi; cases hi
          · rw [dx_rm_n T e] at hi; exact hi))]
        grind
    · rw [if_neg hS]
theorem cof_out {α : Type} [Lean.Grind.CommRing α] {M : Nat → Nat → α} {r c n : Nat} (hr : r < n) (hc : n ≤ c) : cof n M r c = 0 := by
  refine dx_sup (r := r) (S := dx_lt n) (fun j _ hS => ?_) hr _ (fun _ h => h)
  have : j < n := by simpa [dx_lt] using hS
  rw [dx_up_s]
  have : ¬ j = c := by omega
  simp [dx_u, this]
theorem sm_cut {α : Type} [Lean.Grind.CommRing α] {f : Nat → α} {n m : Nat} (h : n ≤ m) (hz : ∀ i, n ≤ i → i < m → f i = 0) : sm f m = sm f n := by
  induction m with
  | zero => have : n = 0 := by omega
            subst this; rfl
  | succ m ih =>
    by_cases e : n = m + 1
    · subst e; rfl
    · unfold sm
      rw [ih (by omega) (fun i h1 h2 => hz i h1 (by omega)), hz m (by omega) (by omega)]
      cases n with
      | zero => simp [sm]; grind
      | succ n => show sm f (n + 1) + 0 = sm f (n + 1); grind
theorem det_row' {α : Type} [Lean.Grind.CommRing α] (M : Nat → Nat → α) (v : Nat → α) {r n : Nat} (h : r < n) (hn : n ≤ 13) : det n (dx_up M r v) = sm (fun c => v c * cof n M r c) n := by
  rw [det_row M v h, sm_cut hn]
  intro i h1 _
  rw [cof_out h h1]
  grind
/-- rows against cofactors -/
theorem adj_row {α : Type} [Lean.Grind.CommRing α] (h2 : ∀ x : α, x + x = 0 → x = 0) (M : Nat → Nat → α) {i r n : Nat} (hi : i < n) (hr : r < n) (hn : n ≤ 13) : sm (fun c => M i c * cof n M r c) n = if i = r then det n M else 0 := by
  rw [← det_row' M (M i) hr hn]
  by_cases e : i = r
  · subst e
    rw [if_pos rfl]
    exact dx_W_congr (fun a _ j _ => by
      by_cases e : a = i
      · subst e; rw [dx_up_s]
      · rw [dx_up_n _ _ e]) _
  · rw [if_neg e]
    exact dx_W_0' h2 (a := i) (b := r) (fun j _ => by rw [dx_up_s, dx_up_n _ _ e]) e hi hr _
/-- a column by a unit: the same cofactor -/
def dx_col {α : Type} (M : Nat → Nat → α) (c : Nat) (v : Nat → α) : Nat → Nat → α := fun i j => if j = c then v i else M i j
theorem cof_col {α : Type} [Lean.Grind.CommRing α] (h2 : ∀ x : α, x + x = 0 → x = 0) (M : Nat → Nat → α) {r c n : Nat} (hr : r < n) (hc : c < n) (hn : n ≤ 13) : det n (dx_col M c (dx_u r)) = cof n M r c := by
  -- the matrix with row r a unit and column c cleared
  have hZ : det n (dx_up (dx_col M c (dx_u r)) r (dx_u c)) = cof n M r c := by
    refine dx_elim h2 (t := r) (fun i => -(M i c)) hr ?_ ?_ _
    · intro i hi hne j hj
      rw [dx_up_n _ _ hne, dx_up_n _ _ hne, dx_up_s]
      by_cases e : j = c
      · subst e
        have : ¬ i = r := hne
        simp [dx_col, dx_u, this]
        grind
      · simp [dx_col, dx_u, e]
        grind
    · intro j hj
      rw [dx_up_s, dx_up_s]
  rw [← hZ]
  have e1 : det n (dx_col M c (dx_u r)) = det n (dx_up (dx_col M c (dx_u r)) r (dx_col M c (dx_u r) r)) := dx_W_congr (fun a _ j _ => by
      by_cases e : a = r
      · subst e; rw [dx_up_s]
      · rw [dx_up_n _ _ e]) _
  rw [e1, det_row' _ _ hr hn, sm_one hc]
  · have : dx_col M c (dx_u r) r c = 1 := by simp [dx_col, dx_u]
    rw [this]
    show 1 * cof n _ r c = det n _
    unfold cof
    grind
  · intro i hi hne
    have : cof n (dx_col M c (dx_u r)) r i = 0 := det_col0 hc hn (fun a ha => by
      by_cases e : a = r
      · subst e
        rw [dx_up_s]
        have : ¬ c = i := fun q => hne q.symm
        simp [dx_u, this]
      · rw [dx_up_n _ _ e]
        simp [dx_col, dx_u, e])
    rw [this]
    grind
/-! signs -/
def ng {α : Type} [Lean.Grind.CommRing α] : Nat → α
  | 0 => 1
  | n + 1 => -(ng n)
theorem ng_add {α : Type} [Lean.Grind.CommRing α] (a b : Nat) : (ng (a + b) : α) = ng a * ng b := by
  induction b with
  | zero => show ng a = ng a * 1; grind
  | succ b ih => show -(ng (a + b)) = ng a * -(ng b); rw [ih]; grind
theorem ng_sq {α : Type} [Lean.Grind.CommRing α] (a : Nat) : (ng a * ng a : α) = 1 := by
  induction a with
  | zero => show (1 : α) * 1 = 1; grind
  | succ a ih => show -(ng a) * -(ng a) = (1 : α); grind
theorem ng_par {α : Type} [Lean.Grind.CommRing α] (a : Nat) : (ng a : α) = if a % 2 = 0 then 1 else -1 := by
  induction a with
  | zero => rfl
  | succ a ih =>
    show -(ng a) = _
    rw [ih]
    by_cases h : a % 2 = 0
    · rw [if_pos h, if_neg (by omega)]
    · rw [if_neg h, if_pos (by omega)]; grind
theorem dx_sg_lt {α : Type} [Lean.Grind.CommRing α] {c n : Nat} (h : c < n) : ∀ m, (dx_sg (dx_lt n) c m : α) = ng (min m n - (c + 1)) := by
  intro m
  induction m with
  | zero => show (1 : α) = ng (min 0 n - (c + 1)); rw [show min 0 n - (c + 1) = 0 by omega]; rfl
  | succ m ih =>
    show (if c < m ∧ dx_lt n m = true then _ else _) = _
    by_cases h1 : c < m ∧ dx_lt n m = true
    · have h2 : m < n := by simpa [dx_lt] using h1.2
      rw [if_pos h1, ih, show min (m + 1) n - (c + 1) = (min m n - (c + 1)) + 1 by omega]
      rfl
    · have h2 : ¬ (c < m ∧ m < n) := fun q => h1 ⟨q.1, by simpa [dx_lt] using q.2⟩
      rw [if_neg h1, ih]
      congr 1
      omega
/-- row r moved down to place s -/
def dx_mv {α : Type} (M : Nat → Nat → α) (r s : Nat) : Nat → Nat → α := fun a => if a < r then M a else if a < s then M (a + 1) else if a = s then M r else M a
theorem dx_mv_det {α : Type} [Lean.Grind.CommRing α] (h2 : ∀ x : α, x + x = 0 → x = 0) (M : Nat → Nat → α) {r n : Nat} : ∀ d, r + d < n → det n (dx_mv M r (r + d)) = ng d * det n M := by
  intro d
  induction d with
  | zero =>
    intro _
    have : det n (dx_mv M r (r + 0)) = det n M := dx_W_congr (fun a _ j _ => by
      unfold dx_mv
      by_cases h1 : a < r
      · simp [h1]
      · by_cases h3 : a = r
        · subst h3; simp
        · simp [h1, h3]) _
    rw [this]
    show _ = 1 * _
    grind
  | succ d ih =>
    intro h
    have : det n (dx_mv M r (r + (d + 1))) = -det n (dx_mv M r (r + d)) := by
      refine dx_swap h2 (a := r + d) (b := r + d + 1) (by omega) (by omega) (by omega) ?_ ?_ ?_ _
      · intro j _
        unfold dx_mv
        rw [if_neg (by omega), if_pos (by omega), if_neg (by omega), if_neg (by omega), if_neg (by omega)]
      · intro j _
        unfold dx_mv
        rw [if_neg (by omega), if_neg (by omega), if_pos (by omega), if_neg (by omega), if_neg (by omega), if_pos (by omega)]
      · intro i hi h3 h4 j _
        unfold dx_mv
        by_cases h5 : i < r
        · rw [if_pos h5, if_pos h5]
        · rw [if_neg h5, if_neg h5]
          by_cases h6 : i < r + d
          · rw [if_pos h6, if_pos (by omega)]
          · rw [if_neg h6, if_neg (by omega), if_neg (by omega), if_neg (by omega)]
    rw [this, ih (by omega)]
    show _ = -(ng d) * _
    grind
/-! columns renumbered past c -/
def dx_sk (c b : Nat) : Nat := if b < c then b else b + 1
def dx_im (c : Nat) (T : Su) : Su := fun i => if i < c then T i else if i = c then false else T (i - 1)
theorem sm_skip {α : Type} [Lean.Grind.CommRing α] (f : Nat → α) {c : Nat} : ∀ {n}, c ≤ n → sm f (n + 1) = sm (fun b => f (dx_sk c b)) n + f c := by
  intro n
  induction n with
  | zero =>
    intro h
    have : c = 0 := by omega
    subst this
    rfl
  | succ n ih =>
    intro h
    show sm f (n + 1) + f (n + 1) = (sm (fun b => f (dx_sk c b)) n + f (dx_sk c n)) + f c
    by_cases e : c = n + 1
    · subst e
      have : sm f (n + 1) = sm (fun b => f (dx_sk (n + 1) b)) n + f (dx_sk (n + 1) n) := by
        show _ = sm (fun b => f (dx_sk (n + 1) b)) (n + 1)
        apply sm_congr
        intro i hi
        unfold dx_sk
        rw [if_pos (by omega)]
      rw [this]
    · rw [ih (by omega)]
      have : dx_sk c n = n + 1 := by unfold dx_sk; rw [if_neg (by omega)]
      rw [this]
      grind
theorem dx_im_sk (c : Nat) (T : Su) (b : Nat) : dx_im c T (dx_sk c b) = T b := by
  unfold dx_im dx_sk
  by_cases h : b < c
  · simp [h]
  · have h1 : ¬ b + 1 < c := by omega
    have h3 : ¬ b + 1 = c := by omega
    simp [h, h1, h3]
theorem dx_im_rm (c : Nat) (T : Su) (b : Nat) : dx_rm (dx_im c T) (dx_sk c b) = dx_im c (dx_rm T b) := by
  funext i
  unfold dx_rm dx_im dx_sk
  by_cases h : b < c
  · by_cases h1 : i < c
    · by_cases h3 : i = b <;> simp [h, h1, h3]
    · have h4 : ¬ i = b := by omega
      by_cases h5 : i = c
      · simp [h, h1, h4, h5]
      · have h6 : ¬ i - 1 = b := by omega
        simp [h, h1, h4, h5, h6]
  · by_cases h1 : i < c
    · have h3 : ¬ i = b + 1 := by omega
      have h4 : ¬ i = b := by omega
      simp [h, h1, h3, h4]
    · by_cases h5 : i = c
      · have h3 : ¬ c = b + 1 := by omega
        simp [h, h5, h3]
      · by_cases h6 : i = b + 1
        · subst h6
          simp [h, h1, h5]
        · have h7 : ¬ i - 1 = b := by omega
          simp [h, h1, h5, h6, h7]
theorem dx_sg_im {α : Type} [Lean.Grind.CommRing α] {c : Nat} {T : Su} {b : Nat} : ∀ {n}, c ≤ n → (dx_sg (dx_im c T) (dx_sk c b) (n + 1) : α) = dx_sg T b n := by
  intro n
  induction n with
  | zero =>
    intro h
    have : c = 0 := by omega
    subst this
    show (if dx_sk 0 b < 0 ∧ _ then _ else _) = _
    rw [if_neg (by omega)]
    rfl
  | succ n ih =>
    intro h
    show (if dx_sk c b < n + 1 ∧ dx_im c T (n + 1) = true then -(dx_sg (dx_im c T) (dx_sk c b) (n + 1)) else dx_sg (dx_im c T) (dx_sk c b) (n + 1)) = (if b < n ∧ T n = true then -(dx_sg T b n) else dx_sg T b n)
    by_cases e : c = n + 1
    · subst e
      have h1 : dx_im (n + 1) T (n + 1) = false := by simp [dx_im]
      rw [if_neg (by rw [h1]; simp)]
      -- below n + 1 the two sets are the same
      have key : ∀ m, m ≤ n + 1 → (dx_sg (dx_im (n + 1) T) (dx_sk (n + 1) b) m : α) = dx_sg T b m := by
        intro m
        induction m with
        | zero => intro _; rfl
        | succ m ihm =>
          intro hm
          show (if dx_sk (n + 1) b < m ∧ dx_im (n + 1) T m = true then _ else _) = (if b < m ∧ T m = true then _ else _)
          have e1 : dx_im (n + 1) T m = T m := by unfold dx_im; rw [if_pos (by omega)]
          rw [ihm (by omega), e1]
          by_cases hb : b < m
          · have e2 : dx_sk (n + 1) b = b := by unfold dx_sk; rw [if_pos (by omega)]
            rw [e2]
          · have e2 : ¬ dx_sk (n + 1) b < m := by unfold dx_sk; split <;> omega
            rw [if_neg (fun q => e2 q.1), if_neg (fun q => hb q.1)]
      exact key (n + 1) (Nat.le_refl _)
    · rw [ih (by omega)]
      have e1 : dx_im c T (n + 1) = T n := by
        unfold dx_im
        rw [if_neg (by omega), if_neg (by omega)]
        rfl
      rw [e1]
      by_cases hb : b < n
      · have e2 : dx_sk c b < n + 1 := by unfold dx_sk; split <;> omega
        by_cases hT : T n = true
        · rw [if_pos ⟨e2, hT⟩, if_pos ⟨hb, hT⟩]
        · rw [if_neg (fun q => hT q.2), if_neg (fun q => hT q.2)]
      · have e2 : ¬ dx_sk c b < n + 1 := by unfold dx_sk; split <;> omega
        rw [if_neg (fun q => e2 q.1), if_neg (fun q => hb q.1)]
theorem dx_W_sk {α : Type} [Lean.Grind.CommRing α] (M : Nat → Nat → α) {c : Nat} (hc : c < 13) : ∀ k (T : Su), T 12 = false → dx_W M k (dx_im c T) = dx_W (fun a b => M a (dx_sk c b)) k T := by
  intro k
  induction k with
  | zero =>
    intro T h12
    show dx_w0 _ = dx_w0 _
    unfold dx_w0
    -- emptiness
    have key : ∀ m, c ≤ m → dx_em (dx_im c T) (m + 1) = dx_em T m := by
      intro m
      induction m with
      | zero =>
        intro h
        have : c = 0 := by omega
        subst this
        simp [dx_em, dx_im]
      | succ m ihm =>
        intro h
        show (dx_em (dx_im c T) (m + 1) && !(dx_im c T (m + 1))) = (dx_em T m && !(T m))
        by_cases e : c = m + 1
        · subst e
          have h1 : dx_im (m + 1) T (m + 1) = false := by simp [dx_im]
          have k2 : ∀ z, z ≤ m + 1 → dx_em (dx_im (m + 1) T) z = dx_em T z := by
            intro z
            induction z with
            | zero => intro _; rfl
            | succ z ihz =>
              intro hz
              show (dx_em _ z && !(dx_im (m + 1) T z)) = _
              have e1 : dx_im (m + 1) T z = T z := by unfold dx_im; rw [if_pos (by omega)]
              rw [ihz (by omega), e1]
              rfl
          rw [h1, k2 (m + 1) (Nat.le_refl _)]
          show (dx_em T (m + 1) && !false) = dx_em T (m + 1)
          simp
        · have e1 : dx_im c T (m + 1) = T m := by
            unfold dx_im
            rw [if_neg (by omega), if_neg (by omega)]
            rfl
          rw [ihm (by omega), e1]
    have e12 : dx_em T 13 = dx_em T 12 := by show (dx_em T 12 && !(T 12)) = _; rw [h12]; simp
    rw [key 12 (by omega), e12]
  | succ k ih =>
    intro T h12
    show dx_e (M k) (dx_W M k) (dx_im c T) = dx_e (fun b => M k (dx_sk c b)) (dx_W _ k) T
    unfold dx_e
    rw [sm_skip _ (c := c) (n := 12) (by omega)]
    have z : dx_im c T c = false := by simp [dx_im]
    rw [z, if_neg (by simp)]
    have e13 : sm (fun j => if T j = true then dx_sg T j 13 * (M k (dx_sk c j) * dx_W (fun a b => M a (dx_sk c b)) k (dx_rm T j)) else 0) 13 = sm (fun j => if T j = true then dx_sg T j 13 * (M k (dx_sk c j) * dx_W (fun a b => M a (dx_sk c b)) k (dx_rm T j)) else 0) 12 := by
      refine sm_cut (by decide) (fun i h1 h3 => ?_)
      have h4 : i = 12 := by omega
      subst h4
      rw [h12, if_neg (by simp)]
    rw [e13]
    have e0 : ∀ x : α, x + 0 = x := by intro x; grind
    rw [e0]
    apply sm_congr
    intro j hj
    rw [dx_im_sk]
    by_cases hT : T j = true
    · rw [if_pos hT, if_pos hT, dx_im_rm, ih (dx_rm T j) (by
        by_cases e : (12 : Nat) = j
        · omega
        · rw [dx_rm_n T e]; exact h12), dx_sg_im (n := 12) (by omega)]
      have e1 : (dx_sg T j 13 : α) = dx_sg T j 12 := by
        show (if j < 12 ∧ T 12 = true then _ else _) = _
        rw [h12, if_neg (by simp)]
      rw [e1]
    · rw [if_neg hT, if_neg hT]
/-- what is left without a row and a column, with its sign -/
theorem cof_minor {α : Type} [Lean.Grind.CommRing α] (h2 : ∀ x : α, x + x = 0 → x = 0) (M : Nat → Nat → α) {r c n : Nat} (hr : r < n + 1) (hc : c < n + 1) (hn : n + 1 ≤ 13) : cof (n + 1) M r c = ng (r + c) * det n (fun a b => M (dx_sk r a) (dx_sk c b)) := by
  have e1 := dx_mv_det h2 (dx_up M r (dx_u c)) (r := r) (n := n + 1) (n - r) (by omega)
  rw [show r + (n - r) = n by omega] at e1
  have e2 : det (n + 1) (dx_mv (dx_up M r (dx_u c)) r n) = ng (n - c) * det n (fun a b => M (dx_sk r a) (dx_sk c b)) := by
    show dx_e (dx_mv (dx_up M r (dx_u c)) r n n) (dx_W (dx_mv (dx_up M r (dx_u c)) r n) n) (dx_lt (n + 1)) = _
    have hrow : dx_mv (dx_up M r (dx_u c)) r n n = dx_u c := by
      unfold dx_mv
      rw [if_neg (by omega), if_neg (by omega), if_pos rfl, dx_up_s]
    rw [hrow]
    unfold dx_e
    rw [sm_one (k := c) (by omega)]
    · have hS : dx_lt (n + 1) c = true := by simp [dx_lt]; omega
      rw [if_pos hS, dx_sg_lt hc, show min 13 (n + 1) - (c + 1) = n - c by omega]
      have hset : dx_rm (dx_lt (n + 1)) c = dx_im c (dx_lt n) := by
        funext i
        unfold dx_rm dx_im dx_lt
        by_cases h1 : i = c
        · subst h1; simp
        · by_cases h3 : i < c
          · have h4 : i < n + 1 := by omega
            have h5 : i < n := by omega
            simp [h1, h3, h4, h5]
          · simp only [h1, h3, if_false]
            apply decide_eq_decide.mpr
            omega
      rw [hset, dx_W_sk _ (by omega) n _ (by simp [dx_lt]; omega)]
      have hrows : dx_W (fun a b => dx_mv (dx_up M r (dx_u c)) r n a (dx_sk c b)) n (dx_lt n) = det n (fun a b => M (dx_sk r a) (dx_sk c b)) := dx_W_congr (fun a ha b _ => by
        unfold dx_mv dx_sk
        by_cases h1 : a < r
        · rw [if_pos h1, if_pos h1, dx_up_n _ _ (by omega)]
        · rw [if_neg h1, if_pos ha, if_neg h1, dx_up_n _ _ (by omega)]) _
      rw [hrows]
      have : dx_u c c = (1 : α) := by simp [dx_u]
      rw [this]
      grind
    · intro i _ hne
      have : dx_u c i = (0 : α) := by simp [dx_u, hne]
      rw [this]
      by_cases hS : dx_lt (n + 1) i = true
      · rw [if_pos hS]; grind
      · rw [if_neg hS]
  have e3 : (ng (n - r) : α) * cof (n + 1) M r c = ng (n - c) * det n (fun a b => M (dx_sk r a) (dx_sk c b)) := by rw [← e2, e1]; rfl
  have s1 := ng_sq (α := α) (n - r)
  have s2 : (ng (r + c) : α) = ng (n - r) * ng (n - c) := by
    rw [← ng_add, ng_par, ng_par]
    by_cases h : (r + c) % 2 = 0
    · rw [if_pos h, if_pos (by omega)]
    · rw [if_neg h, if_neg (by omega)]
  rw [s2]
  grind
end COF
