section
/-! Pure rows: the sum of f over the first n entries of two arrays, and what the class's and the reference's writes do to it. -/
def rs_S (f : Int32 → Int32 → Int32) (K V : Nat → Int32) : Nat → Int32
  | 0 => 0
  | n + 1 => rs_S f K V n + f (K n) (V n)
theorem rs_Ss (f : Int32 → Int32 → Int32) (K V : Nat → Int32) (n : Nat) : rs_S f K V (n + 1) = rs_S f K V n + f (K n) (V n) := rfl
theorem rs_r1 (a b c : Int32) : a + c = a + b - b + c := by grind
theorem rs_r2 (a b c d : Int32) : a - b + c + d = a + d - b + c := by grind
theorem rs_r3 (a b c : Int32) : a + b + c = a + c + b := by grind
theorem rs_r4 (a b : Int32) : a = a + b - b := by grind
theorem rs_r5 (a b c : Int32) : a - b + c = a + c - b := by grind
theorem rs_us {f : Nat → Int32} {k : Nat} {x : Int32} : upd f k x k = x := if_pos rfl
theorem rs_un {f : Nat → Int32} {k j : Nat} {x : Int32} (h : j ≠ k) : upd f k x j = f j := if_neg h
theorem rs_m1 (n : Nat) : nI (n + 1) + (-1) = nI n := by
  rw [← nI_1, Int32.add_assoc, show (1 : Int32) + (-1) = 0 from rfl, Int32.add_zero]
theorem rs_cong (f : Int32 → Int32 → Int32) {K V L W : Nat → Int32} : ∀ n : Nat, (∀ i, i < n → K i = L i ∧ V i = W i) → rs_S f K V n = rs_S f L W n := by
  intro n
  induction n with
  | zero => intro _; rfl
  | succ n ih =>
    intro h
    have h1 := h n (Nat.lt_succ_self n)
    rw [rs_Ss, rs_Ss, ih (fun i hi => h i (Nat.lt_succ_of_lt hi)), h1.1, h1.2]
theorem rs_upd (f : Int32 → Int32 → Int32) (K V : Nat → Int32) (p : Nat) (x y : Int32) : ∀ n : Nat, p < n → rs_S f (upd K p x) (upd V p y) n = rs_S f K V n - f (K p) (V p) + f x y := by
  intro n
  induction n with
  | zero => intro h; exact absurd h (Nat.not_lt_zero p)
  | succ n ih =>
    intro h
    by_cases e : p = n
    · subst e
      have c : rs_S f (upd K p x) (upd V p y) p = rs_S f K V p := rs_cong f p (fun i hi => ⟨rs_un (Nat.ne_of_lt hi), rs_un (Nat.ne_of_lt hi)⟩)
      rw [rs_Ss f (upd K p x) (upd V p y) p, rs_Ss f K V p, c, rs_us, rs_us]
      exact rs_r1 _ _ _
    · have e2 : n ≠ p := fun z => e z.symm
      rw [rs_Ss f (upd K p x) (upd V p y) n, rs_Ss f K V n, ih (by omega), rs_un e2, rs_un e2]
      exact rs_r2 _ _ _ _
theorem rs_updV (f : Int32 → Int32 → Int32) (K V : Nat → Int32) (p : Nat) (y : Int32) (n : Nat) (h : p < n) : rs_S f K (upd V p y) n = rs_S f K V n - f (K p) (V p) + f (K p) y := by
  rw [← rs_upd f K V p (K p) y n h]
  refine rs_cong f n (fun i _ => ⟨?_, rfl⟩)
  by_cases e : i = p
  · rw [e, rs_us]
  · rw [rs_un e]
/-- g of the values bound to one key -/
def rs_at (g : Int32 → Int32) (key : Int32) : Int32 → Int32 → Int32 := fun k v => if k = key then g v else 0
theorem rs_none (g : Int32 → Int32) (key : Int32) (K V : Nat → Int32) : ∀ n : Nat, (∀ i, i < n → K i ≠ key) → rs_S (rs_at g key) K V n = 0 := by
  intro n
  induction n with
  | zero => intro _; rfl
  | succ n ih =>
    intro h
    rw [rs_Ss, ih (fun i hi => h i (by omega)), show rs_at g key (K n) (V n) = 0 from if_neg (h n (by omega)), Int32.add_zero]
theorem rs_one (g : Int32 → Int32) (K V : Nat → Int32) : ∀ n p : Nat, p < n → (∀ i j, i < j → j < n → K i ≠ K j) → rs_S (rs_at g (K p)) K V n = g (V p) := by
  intro n
  induction n with
  | zero => intro p h; exact absurd h (Nat.not_lt_zero p)
  | succ n ih =>
    intro p h hd
    by_cases e : p = n
    · subst e
      rw [rs_Ss, rs_none g (K p) K V p (fun i hi => hd i p hi h), show rs_at g (K p) (K p) (V p) = g (V p) from if_pos rfl, Int32.zero_add]
    · have hn : K n ≠ K p := fun z => hd p n (by omega) (by omega) z.symm
      rw [rs_Ss, ih p (by omega) (fun i j a b => hd i j a (by omega)), show rs_at g (K p) (K n) (V n) = 0 from if_neg hn, Int32.add_zero]
theorem rs_mem {K V L W : Nat → Int32} {n : Nat} (hK : ∀ i j, i < j → j < n → K i ≠ K j) (he : ∀ f, rs_S f K V n = rs_S f L W n) {p : Nat} (hp : p < n) : ∃ q, q < n ∧ L q = K p := by
  apply Classical.byContradiction
  intro h
  have a := rs_one (fun _ => 1) K V n p hp hK
  have b := rs_none (fun _ => 1) (K p) L W n (fun i hi e => h ⟨i, hi, e⟩)
  rw [he, b] at a
  exact absurd a (by decide)
theorem rs_val {K V L W : Nat → Int32} {n : Nat} (hK : ∀ i j, i < j → j < n → K i ≠ K j) (hL : ∀ i j, i < j → j < n → L i ≠ L j) (he : ∀ f, rs_S f K V n = rs_S f L W n) {p q : Nat} (hp : p < n) (hq : q < n) (e : L q = K p) : W q = V p := by
  have a := rs_one (fun v => v) K V n p hp hK
  have b := rs_one (fun v => v) L W n q hq hL
  rw [he, ← e, b] at a
  exact a
/-- the number of keys below x -/
def rs_lt (x : Int32) : Int32 → Int32 → Int32 := fun k _ => if k < x then 1 else 0
theorem rs_rank {K V : Nat → Int32} {n : Nat} (hs : ∀ i j, i < j → j < n → K i < K j) {m : Nat} (hm : m < n) : rs_S (rs_lt (K m)) K V n = nI m := by
  have a : ∀ j, j ≤ m → rs_S (rs_lt (K m)) K V j = nI j := by
    intro j
    induction j with
    | zero => intro _; exact nI_0.symm
    | succ j ih =>
      intro h
      rw [rs_Ss, ih (by omega), show rs_lt (K m) (K j) (V j) = 1 from if_pos (hs j m (by omega) hm), nI_1]
  have b : ∀ d, m + d ≤ n → rs_S (rs_lt (K m)) K V (m + d) = nI m := by
    intro d
    induction d with
    | zero => intro _; exact a m (Nat.le_refl m)
    | succ d ih =>
      intro h
      have hn : ¬ K (m + d) < K m := by
        by_cases e : d = 0
        · rw [e]; exact Int32.lt_irrefl
        · exact Int32.lt_asymm (hs m (m + d) (by omega) (by omega))
      rw [show m + (d + 1) = (m + d) + 1 from rfl, rs_Ss, ih (by omega), show rs_lt (K m) (K (m + d)) (V (m + d)) = 0 from if_neg hn, Int32.add_zero]
  have c := b (n - m) (by omega)
  rw [show m + (n - m) = n from by omega] at c
  exact c
/-- the array with x let in at p, the entries p .. e - 1 moved up by one -/
def rs_in (p e : Nat) (x : Int32) (A : Nat → Int32) : Nat → Int32 := fun j => if j = p then x else if p < j ∧ j ≤ e then A (j - 1) else A j
theorem rs_in_lo {p e j : Nat} {x : Int32} {A : Nat → Int32} (h : j < p) : rs_in p e x A j = A j := by
  unfold rs_in
  rw [if_neg (by omega), if_neg (by omega)]
theorem rs_in_at {p e : Nat} {x : Int32} {A : Nat → Int32} : rs_in p e x A p = x := if_pos rfl
theorem rs_in_hi {p e j : Nat} {x : Int32} {A : Nat → Int32} (h : p ≤ j) (h2 : j < e) : rs_in p e x A (j + 1) = A j := by
  unfold rs_in
  rw [if_neg (by omega), if_pos (by omega)]
  rfl
theorem rs_in_0 (p : Nat) (x : Int32) (A : Nat → Int32) : upd A p x = rs_in p p x A := by
  funext j
  have h : ¬ (p < j ∧ j ≤ p) := by omega
  show (if j = p then x else A j) = if j = p then x else if p < j ∧ j ≤ p then A (j - 1) else A j
  rw [if_neg h]
theorem rs_in_step {p i : Nat} (x : Int32) (A : Nat → Int32) (h : p ≤ i) : rs_in p i x (upd A (i + 1) (A i)) = rs_in p (i + 1) x A := by
  funext j
  by_cases a : j = p
  · subst a
    rw [rs_in_at, rs_in_at]
  · by_cases b : j < p
    · rw [rs_in_lo b, rs_in_lo b, rs_un (by omega)]
    · obtain ⟨q, rfl⟩ : ∃ q, j = q + 1 := ⟨j - 1, by omega⟩
      by_cases c : q < i
      · rw [rs_in_hi (by omega) c, rs_in_hi (by omega) (by omega), rs_un (by omega)]
      · by_cases d : q = i
        · subst d
          rw [rs_in_hi (by omega) (Nat.lt_succ_self q)]
          have n1 : ¬ (p < q + 1 ∧ q + 1 ≤ q) := by omega
          show (if q + 1 = p then x else if p < q + 1 ∧ q + 1 ≤ q then upd A (q + 1) (A q) (q + 1 - 1) else upd A (q + 1) (A q) (q + 1)) = A q
          rw [if_neg a, if_neg n1, rs_us]
        · have n1 : ¬ (p < q + 1 ∧ q + 1 ≤ i) := by omega
          have n2 : ¬ (p < q + 1 ∧ q + 1 ≤ i + 1) := by omega
          show (if q + 1 = p then x else if p < q + 1 ∧ q + 1 ≤ i then upd A (i + 1) (A i) (q + 1 - 1) else upd A (i + 1) (A i) (q + 1)) = (if q + 1 = p then x else if p < q + 1 ∧ q + 1 ≤ i + 1 then A (q + 1 - 1) else A (q + 1))
          rw [if_neg a, if_neg n1, if_neg a, if_neg n2, rs_un (by omega)]
theorem rs_in_Sd (f : Int32 → Int32 → Int32) (K V : Nat → Int32) (p e : Nat) (x y : Int32) : ∀ d : Nat, p + d ≤ e → rs_S f (rs_in p e x K) (rs_in p e y V) (p + d + 1) = rs_S f K V (p + d) + f x y := by
  intro d
  induction d with
  | zero =>
    intro _
    show rs_S f (rs_in p e x K) (rs_in p e y V) (p + 1) = rs_S f K V p + f x y
    have c : rs_S f (rs_in p e x K) (rs_in p e y V) p = rs_S f K V p := rs_cong f p (fun i hi => ⟨rs_in_lo hi, rs_in_lo hi⟩)
    rw [rs_Ss, rs_in_at, rs_in_at, c]
  | succ d ih =>
    intro h
    show rs_S f (rs_in p e x K) (rs_in p e y V) (p + d + 1 + 1) = rs_S f K V (p + d + 1) + f x y
    have h1 : rs_in p e x K (p + d + 1) = K (p + d) := rs_in_hi (by omega) (by omega)
    have h2 : rs_in p e y V (p + d + 1) = V (p + d) := rs_in_hi (by omega) (by omega)
    rw [rs_Ss f (rs_in p e x K) (rs_in p e y V) (p + d + 1), ih (by omega), h1, h2, rs_Ss f K V (p + d)]
    exact rs_r3 _ _ _
theorem rs_in_S (f : Int32 → Int32 → Int32) (K V : Nat → Int32) {p n : Nat} (x y : Int32) (h : p ≤ n) : rs_S f (rs_in p n x K) (rs_in p n y V) (n + 1) = rs_S f K V n + f x y := by
  have c := rs_in_Sd f K V p n x y (n - p) (by omega)
  rw [show p + (n - p) = n from by omega] at c
  exact c
theorem rs_in_sort {K : Nat → Int32} {n p : Nat} {x : Int32} (hs : ∀ i j, i < j → j < n → K i < K j) (hlo : ∀ i, i < p → K i < x) (hhi : ∀ i, p ≤ i → i < n → x < K i) (hp : p ≤ n) : ∀ i j, i < j → j < n + 1 → rs_in p n x K i < rs_in p n x K j := by
  intro i j hij hj
  rcases Nat.lt_trichotomy j p with a | a | a
  · have h1 : rs_in p n x K i = K i := rs_in_lo (by omega)
    have h2 : rs_in p n x K j = K j := rs_in_lo a
    rw [h1, h2]
    exact hs i j hij (by omega)
  · subst a
    have h1 : rs_in j n x K i = K i := rs_in_lo hij
    rw [rs_in_at, h1]
    exact hlo i hij
  · obtain ⟨q, rfl⟩ : ∃ q, j = q + 1 := ⟨j - 1, by omega⟩
    have h2 : rs_in p n x K (q + 1) = K q := rs_in_hi (by omega) (by omega)
    rw [h2]
    rcases Nat.lt_trichotomy i p with b | b | b
    · have h1 : rs_in p n x K i = K i := rs_in_lo b
      rw [h1]
      exact hs i q (by omega) (by omega)
    · subst b
      rw [rs_in_at]
      exact hhi q (by omega) (by omega)
    · obtain ⟨r, rfl⟩ : ∃ r, i = r + 1 := ⟨i - 1, by omega⟩
      have h1 : rs_in p n x K (r + 1) = K r := rs_in_hi (by omega) (by omega)
      rw [h1]
      exact hs r q (by omega) (by omega)
/-- the array with the entry p taken out, the entries p + 1 .. e moved down by one, and 0 at e -/
def rs_rm (p e : Nat) (A : Nat → Int32) : Nat → Int32 := fun j => if p ≤ j ∧ j < e then A (j + 1) else if j = e then 0 else A j
theorem rs_rm_lo {p e j : Nat} {A : Nat → Int32} (h : j < p) (h2 : p ≤ e) : rs_rm p e A j = A j := by
  unfold rs_rm
  rw [if_neg (by omega), if_neg (by omega)]
theorem rs_rm_hi {p e j : Nat} {A : Nat → Int32} (h : p ≤ j) (h2 : j < e) : rs_rm p e A j = A (j + 1) := if_pos ⟨h, h2⟩
theorem rs_rm_0 (e : Nat) (A : Nat → Int32) : upd A e 0 = rs_rm e e A := by
  funext j
  have h : ¬ (e ≤ j ∧ j < e) := by omega
  show (if j = e then 0 else A j) = if e ≤ j ∧ j < e then A (j + 1) else if j = e then 0 else A j
  rw [if_neg h]
theorem rs_rm_step {p e : Nat} (A : Nat → Int32) (h : p < e) : rs_rm (p + 1) e (upd A p (A (p + 1))) = rs_rm p e A := by
  funext j
  by_cases a : j < p
  · rw [rs_rm_lo (by omega) (by omega), rs_rm_lo a (by omega), rs_un (by omega)]
  · by_cases b : j = p
    · subst b
      rw [rs_rm_lo (Nat.lt_succ_self j) (by omega), rs_rm_hi (Nat.le_refl j) h, rs_us]
    · by_cases c : j < e
      · rw [rs_rm_hi (by omega) c, rs_rm_hi (by omega) c, rs_un (by omega)]
      · have n1 : ¬ (p + 1 ≤ j ∧ j < e) := by omega
        have n2 : ¬ (p ≤ j ∧ j < e) := by omega
        show (if p + 1 ≤ j ∧ j < e then upd A p (A (p + 1)) (j + 1) else if j = e then 0 else upd A p (A (p + 1)) j) = (if p ≤ j ∧ j < e then A (j + 1) else if j = e then 0 else A j)
        rw [if_neg n1, if_neg n2, rs_un b]
theorem rs_rm_Sd (f : Int32 → Int32 → Int32) (K V : Nat → Int32) (p e : Nat) : ∀ d : Nat, p + d ≤ e → rs_S f (rs_rm p e K) (rs_rm p e V) (p + d) = rs_S f K V (p + d + 1) - f (K p) (V p) := by
  intro d
  induction d with
  | zero =>
    intro h
    show rs_S f (rs_rm p e K) (rs_rm p e V) p = rs_S f K V (p + 1) - f (K p) (V p)
    have c : rs_S f (rs_rm p e K) (rs_rm p e V) p = rs_S f K V p := rs_cong f p (fun i hi => ⟨rs_rm_lo hi h, rs_rm_lo hi h⟩)
    rw [c, rs_Ss]
    exact rs_r4 _ _
  | succ d ih =>
    intro h
    show rs_S f (rs_rm p e K) (rs_rm p e V) (p + d + 1) = rs_S f K V (p + d + 1 + 1) - f (K p) (V p)
    have h1 : rs_rm p e K (p + d) = K (p + d + 1) := rs_rm_hi (by omega) (by omega)
    have h2 : rs_rm p e V (p + d) = V (p + d + 1) := rs_rm_hi (by omega) (by omega)
    rw [rs_Ss f (rs_rm p e K) (rs_rm p e V) (p + d), ih (by omega), h1, h2, rs_Ss f K V (p + d + 1)]
    exact rs_r5 _ _ _
theorem rs_rm_S (f : Int32 → Int32 → Int32) (K V : Nat → Int32) {p e : Nat} (h : p ≤ e) : rs_S f (rs_rm p e K) (rs_rm p e V) e = rs_S f K V (e + 1) - f (K p) (V p) := by
  have c := rs_rm_Sd f K V p e (e - p) (by omega)
  rw [show p + (e - p) = e from by omega] at c
  exact c
theorem rs_rm_sort {K : Nat → Int32} {e p : Nat} (hs : ∀ i j, i < j → j < e + 1 → K i < K j) (hp : p ≤ e) : ∀ i j, i < j → j < e → rs_rm p e K i < rs_rm p e K j := by
  intro i j hij hj
  by_cases a : j < p
  · have h1 : rs_rm p e K i = K i := rs_rm_lo (by omega) hp
    have h2 : rs_rm p e K j = K j := rs_rm_lo a hp
    rw [h1, h2]
    exact hs i j hij (by omega)
  · have h2 : rs_rm p e K j = K (j + 1) := rs_rm_hi (by omega) hj
    rw [h2]
    by_cases b : i < p
    · have h1 : rs_rm p e K i = K i := rs_rm_lo b hp
      rw [h1]
      exact hs i (j + 1) (by omega) (by omega)
    · have h1 : rs_rm p e K i = K (i + 1) := rs_rm_hi (by omega) (by omega)
      rw [h1]
      exact hs (i + 1) (j + 1) (by omega) (by omega)
/-! the reference's writes -/
theorem rs_yrm_S (f : Int32 → Int32 → Int32) (L W : Nat → Int32) {q e : Nat} (h : q ≤ e) : rs_S f (upd L q (L e)) (upd W q (W e)) e = rs_S f L W (e + 1) - f (L q) (W q) := by
  by_cases c : q = e
  · subst c
    have c : rs_S f (upd L q (L q)) (upd W q (W q)) q = rs_S f L W q := rs_cong f q (fun i hi => ⟨rs_un (Nat.ne_of_lt hi), rs_un (Nat.ne_of_lt hi)⟩)
    rw [c, rs_Ss]
    exact rs_r4 _ _
  · rw [rs_upd f L W q (L e) (W e) e (by omega), rs_Ss]
    exact rs_r5 _ _ _
theorem rs_yrm_d {L : Nat → Int32} {q e : Nat} (hd : ∀ i j, i < j → j < e + 1 → L i ≠ L j) : ∀ i j, i < j → j < e → upd L q (L e) i ≠ upd L q (L e) j := by
  intro i j hij hj
  by_cases a : i = q
  · have h1 : upd L q (L e) i = L e := by rw [a, rs_us]
    have h2 : upd L q (L e) j = L j := rs_un (by omega)
    rw [h1, h2]
    exact fun z => hd j e hj (Nat.lt_succ_self e) z.symm
  · have h1 : upd L q (L e) i = L i := rs_un a
    by_cases b : j = q
    · have h2 : upd L q (L e) j = L e := by rw [b, rs_us]
      rw [h1, h2]
      exact hd i e (by omega) (Nat.lt_succ_self e)
    · have h2 : upd L q (L e) j = L j := rs_un b
      rw [h1, h2]
      exact hd i j hij (by omega)
theorem rs_yin_S (f : Int32 → Int32 → Int32) (L W : Nat → Int32) (n : Nat) (x y : Int32) : rs_S f (upd L n x) (upd W n y) (n + 1) = rs_S f L W n + f x y := by
  have c : rs_S f (upd L n x) (upd W n y) n = rs_S f L W n := rs_cong f n (fun i hi => ⟨rs_un (Nat.ne_of_lt hi), rs_un (Nat.ne_of_lt hi)⟩)
  rw [rs_Ss, c, rs_us, rs_us]
theorem rs_yin_d {L : Nat → Int32} {n : Nat} {x : Int32} (hd : ∀ i j, i < j → j < n → L i ≠ L j) (hx : ∀ i, i < n → L i ≠ x) : ∀ i j, i < j → j < n + 1 → upd L n x i ≠ upd L n x j := by
  intro i j hij hj
  have h1 : upd L n x i = L i := rs_un (by omega)
  by_cases b : j = n
  · have h2 : upd L n x j = x := by rw [b, rs_us]
    rw [h1, h2]
    exact hx i (by omega)
  · have h2 : upd L n x j = L j := rs_un b
    rw [h1, h2]
    exact hd i j hij (by omega)
end
section
/-! Walks of the class: each against its pure value, the post general. -/
theorem rs_xput2 {post : Int32 → SX → Prop} {x y c : Int32} {n : Nat} {K V : Nat → Int32} (hn : n ≤ 12) (H : ∀ p, p ≤ n → (∀ i, i < p → K i < x) → (p < n → x ≤ K p) → wX_put_26 post x y (nI p) c (nI n) K V) : ∀ d i : Nat, i + d = n → (∀ j, j < i → K j < x) → wX_put_2 post x y c (nI n) K V (d + 1) (nI i) := by
  intro d
  induction d with
  | zero =>
    intro i hi hlo
    have e : i = n := by omega
    subst e
    exact br_t (nI_le (Nat.le_refl i) (by omega)) (H i (Nat.le_refl i) hlo (fun z => absurd z (Nat.lt_irrefl i)))
  | succ d ih =>
    intro i hi hlo
    have h : ¬ nI n ≤ nI i := nI_ge (by omega) (by omega)
    have hin : vp_in (nI i) 12 := vp_in_nI (by omega) (by omega)
    have hc : (nI i).toNatClampNeg = i := nI_clamp (by omega)
    by_cases z : x ≤ K i
    · have z' : x ≤ K (nI i).toNatClampNeg := by rw [hc]; exact z
      exact br_f h ⟨hin, br_t z' (H i (by omega) hlo (fun _ => z))⟩
    · have z' : ¬ x ≤ K (nI i).toNatClampNeg := by rw [hc]; exact z
      have hlo' : ∀ j, j < i + 1 → K j < x := by
        intro j hj
        by_cases e : j = i
        · rw [e]; exact Int32.not_le.mp z
        · exact hlo j (by omega)
      exact br_f h ⟨hin, br_f z' (nm_r (nI_1 i) (ih (i + 1) (by omega) hlo'))⟩
theorem rs_xput {post : Int32 → SX → Prop} {x y c : Int32} {n : Nat} {K V : Nat → Int32} (hn : n ≤ 12) (H : ∀ p, p ≤ n → (∀ i, i < p → K i < x) → (p < n → x ≤ K p) → wX_put_26 post x y (nI p) c (nI n) K V) : wpX_put post (c, nI n, K, V) x y := by
  show ∃ n2 : Nat, wX_put_2 post x y c (nI n) K V n2 0
  exact ⟨n + 1, rs_xput2 hn H n 0 (Nat.zero_add n) (fun j hj => absurd hj (Nat.not_lt_zero j))⟩
theorem rs_xput26t {post : Int32 → SX → Prop} {x y c : Int32} {n p : Nat} {K V : Nat → Int32} (hn : n ≤ 12) (hp : p < n) (e : K p = x) (h : post 2 (c, nI n, K, upd V p y)) : wX_put_26 post x y (nI p) c (nI n) K V := by
  have h0 : ¬ nI n ≤ nI p := nI_ge hp (by omega)
  have hin : vp_in (nI p) 12 := vp_in_nI (by omega) (by omega)
  have hc : (nI p).toNatClampNeg = p := nI_clamp (by omega)
  have e' : K (nI p).toNatClampNeg = x := by rw [hc]; exact e
  have eu : upd V (nI p).toNatClampNeg y = upd V p y := by rw [hc]
  exact br_f h0 ⟨hin, br_t e' ⟨hin, nm_r eu h⟩⟩
theorem rs_xput26f {post : Int32 → SX → Prop} {x y c : Int32} {n p : Nat} {K V : Nat → Int32} (hn : n ≤ 12) (hp : p ≤ n) (e : p < n → K p ≠ x) (h : wX_put_53 post x y (nI p) c (nI n) K V) : wX_put_26 post x y (nI p) c (nI n) K V := by
  by_cases z : p < n
  · have h0 : ¬ nI n ≤ nI p := nI_ge z (by omega)
    have hin : vp_in (nI p) 12 := vp_in_nI (by omega) (by omega)
    have hc : (nI p).toNatClampNeg = p := nI_clamp (by omega)
    have e' : ¬ K (nI p).toNatClampNeg = x := by rw [hc]; exact e z
    exact br_f h0 ⟨hin, br_f e' h⟩
  · exact br_t (nI_le (by omega) (by omega)) h
theorem rs_xput72 {post : Int32 → SX → Prop} {x y c s : Int32} {p : Nat} : ∀ (d : Nat) (K V : Nat → Int32), p + d < 12 → post 1 (c, s + 1, rs_in p (p + d) x K, rs_in p (p + d) y V) → wX_put_72 post x y (nI p) c s (d + 1) (nI (p + d)) K V := by
  intro d
  induction d with
  | zero =>
    intro K V hd hp
    have hin : vp_in (nI p) 12 := vp_in_nI (by omega) (by omega)
    have hc : (nI p).toNatClampNeg = p := nI_clamp (by omega)
    have ek : upd K (nI p).toNatClampNeg x = rs_in p (p + 0) x K := by rw [hc]; exact rs_in_0 p x K
    have ev : upd V (nI p).toNatClampNeg y = rs_in p (p + 0) y V := by rw [hc]; exact rs_in_0 p y V
    exact br_t (nI_le (Nat.le_refl p) (by omega)) ⟨hin, nm_r ek ⟨hin, nm_r ev (nm_e hp)⟩⟩
  | succ d ih =>
    intro K V hd hp
    have h0 : ¬ nI (p + (d + 1)) ≤ nI p := nI_ge (by omega) (by omega)
    have e1 : nI (p + (d + 1)) - 1 = nI (p + d) := nI_pred (p + d)
    have e2 : nI (p + (d + 1)) + (-1) = nI (p + d) := rs_m1 (p + d)
    have hin : vp_in (nI (p + (d + 1))) 12 := vp_in_nI (by omega) (by omega)
    have hin1 : vp_in (nI (p + (d + 1)) - 1) 12 := by rw [e1]; exact vp_in_nI (by omega) (by omega)
    have hc : (nI (p + (d + 1))).toNatClampNeg = p + d + 1 := nI_clamp (by omega)
    have hc1 : (nI (p + (d + 1)) - 1).toNatClampNeg = p + d := by rw [e1]; exact nI_clamp (by omega)
    have ek : upd K (nI (p + (d + 1))).toNatClampNeg (K (nI (p + (d + 1)) - 1).toNatClampNeg) = upd K (p + d + 1) (K (p + d)) := by rw [hc, hc1]
    have ev : upd V (nI (p + (d + 1))).toNatClampNeg (V (nI (p + (d + 1)) - 1).toNatClampNeg) = upd V (p + d + 1) (V (p + d)) := by rw [hc, hc1]
    have hq : post 1 (c, s + 1, rs_in p (p + d) x (upd K (p + d + 1) (K (p + d))), rs_in p (p + d) y (upd V (p + d + 1) (V (p + d)))) := by
      rw [rs_in_step x K (Nat.le_add_right p d), rs_in_step y V (Nat.le_add_right p d)]
      exact hp
    exact br_f h0 ⟨hin1, hin, nm_r ek ⟨hin1, hin, nm_r ev (nm_r e2 (ih _ _ (by omega) hq))⟩⟩
theorem rs_xput53 {post : Int32 → SX → Prop} {x y : Int32} {c n p : Nat} {K V : Nat → Int32} (hp : p ≤ n) (hn : n < c) (hc : c ≤ 12) (h : post 1 (nI c, nI (n + 1), rs_in p n x K, rs_in p n y V)) : wX_put_53 post x y (nI p) (nI c) (nI n) K V := by
  obtain ⟨d, rfl⟩ : ∃ d, n = p + d := ⟨n - p, by omega⟩
  have h' : post 1 (nI c, nI (p + d) + 1, rs_in p (p + d) x K, rs_in p (p + d) y V) := by rw [nI_1]; exact h
  exact br_t (nI_lt hn (by omega)) ⟨d + 1, rs_xput72 d K V (by omega) h'⟩
theorem rs_xput53f {post : Int32 → SX → Prop} {x y : Int32} {c n : Nat} {P : Int32} {K V : Nat → Int32} (hn : n = c) (hc : c ≤ 12) (h : post 3 (nI c, nI n, K, V)) : wX_put_53 post x y P (nI c) (nI n) K V :=
  br_f (nI_nlt (by omega) (by omega)) h
theorem rs_xrm2 {post : Int32 → SX → Prop} {x c : Int32} {n : Nat} {K V : Nat → Int32} (hn : n ≤ 12) (H : ∀ p, p ≤ n → (∀ i, i < p → K i < x) → (p < n → x ≤ K p) → wX_remove_26 post x (nI p) c (nI n) K V) : ∀ d i : Nat, i + d = n → (∀ j, j < i → K j < x) → wX_remove_2 post x c (nI n) K V (d + 1) (nI i) := by
  intro d
  induction d with
  | zero =>
    intro i hi hlo
    have e : i = n := by omega
    subst e
    exact br_t (nI_le (Nat.le_refl i) (by omega)) (H i (Nat.le_refl i) hlo (fun z => absurd z (Nat.lt_irrefl i)))
  | succ d ih =>
    intro i hi hlo
    have h : ¬ nI n ≤ nI i := nI_ge (by omega) (by omega)
    have hin : vp_in (nI i) 12 := vp_in_nI (by omega) (by omega)
    have hc : (nI i).toNatClampNeg = i := nI_clamp (by omega)
    by_cases z : x ≤ K i
    · have z' : x ≤ K (nI i).toNatClampNeg := by rw [hc]; exact z
      exact br_f h ⟨hin, br_t z' (H i (by omega) hlo (fun _ => z))⟩
    · have z' : ¬ x ≤ K (nI i).toNatClampNeg := by rw [hc]; exact z
      have hlo' : ∀ j, j < i + 1 → K j < x := by
        intro j hj
        by_cases e : j = i
        · rw [e]; exact Int32.not_le.mp z
        · exact hlo j (by omega)
      exact br_f h ⟨hin, br_f z' (nm_r (nI_1 i) (ih (i + 1) (by omega) hlo'))⟩
theorem rs_xrm {post : Int32 → SX → Prop} {x c : Int32} {n : Nat} {K V : Nat → Int32} (hn : n ≤ 12) (H : ∀ p, p ≤ n → (∀ i, i < p → K i < x) → (p < n → x ≤ K p) → wX_remove_26 post x (nI p) c (nI n) K V) : wpX_remove post (c, nI n, K, V) x := by
  show ∃ n2 : Nat, wX_remove_2 post x c (nI n) K V n2 0
  exact ⟨n + 1, rs_xrm2 hn H n 0 (Nat.zero_add n) (fun j hj => absurd hj (Nat.not_lt_zero j))⟩
theorem rs_xrm48 {post : Int32 → SX → Prop} {c : Int32} {e : Nat} (he : e < 12) : ∀ (d i : Nat) (K V : Nat → Int32), i + d = e → post 4 (c, nI e, rs_rm i e K, rs_rm i e V) → wX_remove_48 post c (nI (e + 1)) (d + 1) (nI i) K V := by
  intro d
  induction d with
  | zero =>
    intro i K V hi hp
    have z : i = e := by omega
    subst z
    have h0 : nI (i + 1) - 1 ≤ nI i := by rw [nI_pred]; exact nI_le (Nat.le_refl i) (by omega)
    have hin : vp_in (nI i) 12 := vp_in_nI (by omega) (by omega)
    have hc : (nI i).toNatClampNeg = i := nI_clamp (by omega)
    have ek : upd K (nI i).toNatClampNeg 0 = rs_rm i i K := by rw [hc]; exact rs_rm_0 i K
    have ev : upd V (nI i).toNatClampNeg 0 = rs_rm i i V := by rw [hc]; exact rs_rm_0 i V
    exact br_t h0 (nm_r (nI_pred i) ⟨hin, nm_r ek ⟨hin, nm_r ev hp⟩⟩)
  | succ d ih =>
    intro i K V hi hp
    have h0 : ¬ nI (e + 1) - 1 ≤ nI i := by rw [nI_pred]; exact nI_ge (by omega) (by omega)
    have hin : vp_in (nI i) 12 := vp_in_nI (by omega) (by omega)
    have hin1 : vp_in (nI i + 1) 12 := by rw [nI_1]; exact vp_in_nI (by omega) (by omega)
    have hc : (nI i).toNatClampNeg = i := nI_clamp (by omega)
    have hc1 : (nI i + 1).toNatClampNeg = i + 1 := by rw [nI_1]; exact nI_clamp (by omega)
    have ek : upd K (nI i).toNatClampNeg (K (nI i + 1).toNatClampNeg) = upd K i (K (i + 1)) := by rw [hc, hc1]
    have ev : upd V (nI i).toNatClampNeg (V (nI i + 1).toNatClampNeg) = upd V i (V (i + 1)) := by rw [hc, hc1]
    have hq : post 4 (c, nI e, rs_rm (i + 1) e (upd K i (K (i + 1))), rs_rm (i + 1) e (upd V i (V (i + 1)))) := by
      rw [rs_rm_step K (by omega), rs_rm_step V (by omega)]
      exact hp
    exact br_f h0 ⟨hin1, hin, nm_r ek ⟨hin1, hin, nm_r ev (nm_r (nI_1 i) (ih (i + 1) _ _ (by omega) hq))⟩⟩
theorem rs_xrm26t {post : Int32 → SX → Prop} {x c : Int32} {e p : Nat} {K V : Nat → Int32} (he : e < 12) (hp : p ≤ e) (ek : K p = x) (h : post 4 (c, nI e, rs_rm p e K, rs_rm p e V)) : wX_remove_26 post x (nI p) c (nI (e + 1)) K V := by
  have h0 : ¬ nI (e + 1) ≤ nI p := nI_ge (by omega) (by omega)
  have hin : vp_in (nI p) 12 := vp_in_nI (by omega) (by omega)
  have hc : (nI p).toNatClampNeg = p := nI_clamp (by omega)
  have e' : K (nI p).toNatClampNeg = x := by rw [hc]; exact ek
  exact br_f h0 ⟨hin, br_t e' ⟨e - p + 1, rs_xrm48 he (e - p) p K V (by omega) h⟩⟩
theorem rs_xrm26f {post : Int32 → SX → Prop} {x c : Int32} {n p : Nat} {K V : Nat → Int32} (hn : n ≤ 12) (hp : p ≤ n) (e : p < n → K p ≠ x) (h : post 5 (c, nI n, K, V)) : wX_remove_26 post x (nI p) c (nI n) K V := by
  by_cases z : p < n
  · have h0 : ¬ nI n ≤ nI p := nI_ge z (by omega)
    have hin : vp_in (nI p) 12 := vp_in_nI (by omega) (by omega)
    have hc : (nI p).toNatClampNeg = p := nI_clamp (by omega)
    have e' : ¬ K (nI p).toNatClampNeg = x := by rw [hc]; exact e z
    exact br_f h0 ⟨hin, br_f e' h⟩
  · exact br_t (nI_le (by omega) (by omega)) h
/-- the values whose keys lie within lo .. hi -/
def rs_rg (lo hi : Int32) : Int32 → Int32 → Int32 := fun k v => if k < lo then 0 else if hi < k then 0 else v
/-- the number of keys up to x -/
def rs_le (x : Int32) : Int32 → Int32 → Int32 := fun k _ => if x < k then 0 else 1
theorem rs_xsum5 {post : Int32 → Prop} {lo hi c : Int32} {n : Nat} {K V : Nat → Int32} (hn : n ≤ 12) (hp : post (rs_S (rs_rg lo hi) K V n)) : ∀ d i : Nat, i + d = n → wX_sumRange_5 post lo hi c (nI n) K V (d + 1) (rs_S (rs_rg lo hi) K V i) (nI i) := by
  intro d
  induction d with
  | zero =>
    intro i hi
    have e : i = n := by omega
    subst e
    exact br_t (nI_le (Nat.le_refl i) (by omega)) hp
  | succ d ih =>
    intro i hi'
    have h : ¬ nI n ≤ nI i := nI_ge (by omega) (by omega)
    have hin : vp_in (nI i) 12 := vp_in_nI (by omega) (by omega)
    have hc : (nI i).toNatClampNeg = i := nI_clamp (by omega)
    have hk : K (nI i).toNatClampNeg = K i := by rw [hc]
    have J := ih (i + 1) (by omega)
    by_cases z1 : K i < lo
    · rw [rs_Ss, show rs_rg lo hi (K i) (V i) = 0 from if_pos z1, Int32.add_zero] at J
      exact br_f h ⟨hin, nm_r hk (br_t z1 (nm_r (nI_1 i) J))⟩
    · by_cases z2 : hi < K i
      · rw [rs_Ss, show rs_rg lo hi (K i) (V i) = 0 from (if_neg z1).trans (if_pos z2), Int32.add_zero] at J
        exact br_f h ⟨hin, nm_r hk (br_f z1 (br_t z2 (nm_r (nI_1 i) J)))⟩
      · have ev : rs_S (rs_rg lo hi) K V i + V (nI i).toNatClampNeg = rs_S (rs_rg lo hi) K V (i + 1) := by
          rw [rs_Ss, hc, show rs_rg lo hi (K i) (V i) = V i from (if_neg z1).trans (if_neg z2)]
        exact br_f h ⟨hin, nm_r hk (br_f z1 (br_f z2 ⟨hin, nm_r ev (nm_r (nI_1 i) J)⟩))⟩
theorem rs_xsum {post : Int32 → Prop} {lo hi c : Int32} {n : Nat} {K V : Nat → Int32} (hn : n ≤ 12) (hp : post (rs_S (rs_rg lo hi) K V n)) : wpX_sumRange post (c, nI n, K, V) lo hi := by
  show ∃ n5 : Nat, wX_sumRange_5 post lo hi c (nI n) K V n5 0 0
  exact ⟨n + 1, rs_xsum5 hn hp n 0 (Nat.zero_add n)⟩
theorem rs_xcnt4 {post : Int32 → Prop} {x c : Int32} {n : Nat} {K V : Nat → Int32} (hn : n ≤ 12) (hp : post (rs_S (rs_le x) K V n)) : ∀ d i : Nat, i + d = n → wX_countUpTo_4 post x c (nI n) K V (d + 1) (rs_S (rs_le x) K V i) (nI i) := by
  intro d
  induction d with
  | zero =>
    intro i hi
    have e : i = n := by omega
    subst e
    exact br_t (nI_le (Nat.le_refl i) (by omega)) hp
  | succ d ih =>
    intro i hi
    have h : ¬ nI n ≤ nI i := nI_ge (by omega) (by omega)
    have hin : vp_in (nI i) 12 := vp_in_nI (by omega) (by omega)
    have hc : (nI i).toNatClampNeg = i := nI_clamp (by omega)
    have J := ih (i + 1) (by omega)
    by_cases z : x < K i
    · have z' : x < K (nI i).toNatClampNeg := by rw [hc]; exact z
      rw [rs_Ss, show rs_le x (K i) (V i) = 0 from if_pos z, Int32.add_zero] at J
      exact br_f h ⟨hin, br_t z' (nm_r (nI_1 i) J)⟩
    · have z' : ¬ x < K (nI i).toNatClampNeg := by rw [hc]; exact z
      rw [rs_Ss, show rs_le x (K i) (V i) = 1 from if_neg z] at J
      exact br_f h ⟨hin, br_f z' (nm_e (nm_r (nI_1 i) J))⟩
theorem rs_xcnt {post : Int32 → Prop} {x c : Int32} {n : Nat} {K V : Nat → Int32} (hn : n ≤ 12) (hp : post (rs_S (rs_le x) K V n)) : wpX_countUpTo post (c, nI n, K, V) x := by
  show ∃ n4 : Nat, wX_countUpTo_4 post x c (nI n) K V n4 0 0
  exact ⟨n + 1, rs_xcnt4 hn hp n 0 (Nat.zero_add n)⟩
/-! Walks of the reference. -/
theorem rs_yfind2 {post : Int32 → Prop} {x c : Int32} {n : Nat} {L W : Nat → Int32} (hn : n ≤ 12) (h0 : (∀ j, j < n → L j ≠ x) → post (-1)) (h1 : ∀ q, q < n → L q = x → post (nI q)) : ∀ d i : Nat, i + d = n → (∀ j, j < i → L j ≠ x) → wY_find_2 post x c (nI n) L W (d + 1) (nI i) := by
  intro d
  induction d with
  | zero =>
    intro i hi hlo
    have e : i = n := by omega
    subst e
    exact br_t (nI_le (Nat.le_refl i) (by omega)) (h0 hlo)
  | succ d ih =>
    intro i hi hlo
    have h : ¬ nI n ≤ nI i := nI_ge (by omega) (by omega)
    have hin : vp_in (nI i) 12 := vp_in_nI (by omega) (by omega)
    have hc : (nI i).toNatClampNeg = i := nI_clamp (by omega)
    by_cases z : L i = x
    · have z' : L (nI i).toNatClampNeg = x := by rw [hc]; exact z
      exact br_f h ⟨hin, br_t z' (h1 i (by omega) z)⟩
    · have z' : ¬ L (nI i).toNatClampNeg = x := by rw [hc]; exact z
      have hlo' : ∀ j, j < i + 1 → L j ≠ x := by
        intro j hj
        by_cases e : j = i
        · rw [e]; exact z
        · exact hlo j (by omega)
      exact br_f h ⟨hin, br_f z' (nm_r (nI_1 i) (ih (i + 1) (by omega) hlo'))⟩
theorem rs_yfind {post : Int32 → Prop} {x c : Int32} {n : Nat} {L W : Nat → Int32} (hn : n ≤ 12) (h0 : (∀ j, j < n → L j ≠ x) → post (-1)) (h1 : ∀ q, q < n → L q = x → post (nI q)) : wpY_find post (c, nI n, L, W) x := by
  show ∃ n2 : Nat, wY_find_2 post x c (nI n) L W n2 0
  exact ⟨n + 1, rs_yfind2 hn h0 h1 n 0 (Nat.zero_add n) (fun j hj => absurd hj (Nat.not_lt_zero j))⟩
theorem rs_yput {post : Int32 → SY → Prop} {x y : Int32} {c n : Nat} {L W : Nat → Int32} (hnc : n ≤ c) (hc : c ≤ 12) (h3 : (∀ j, j < n → L j ≠ x) → n = c → post 3 (nI c, nI n, L, W)) (h1 : (∀ j, j < n → L j ≠ x) → n < c → post 1 (nI c, nI (n + 1), upd L n x, upd W n y)) (h2 : ∀ q, q < n → L q = x → post 2 (nI c, nI n, L, upd W q y)) : wpY_put post (nI c, nI n, L, W) x y := by
  unfold wpY_put
  dsimp only
  refine rs_yfind (by omega) (fun h => ?_) (fun q hq e => ?_)
  · refine br_t (by decide) ?_
    by_cases z : n = c
    · exact br_t (congrArg nI z) (h3 h z)
    · have z' : ¬ nI n = nI c := fun w => z ((nI_eq (by omega) (by omega)).mp w)
      have hin : vp_in (nI n) 12 := vp_in_nI (by omega) (by omega)
      have hcl : (nI n).toNatClampNeg = n := nI_clamp (by omega)
      have ek : upd L (nI n).toNatClampNeg x = upd L n x := by rw [hcl]
      have ev : upd W (nI n).toNatClampNeg y = upd W n y := by rw [hcl]
      exact br_f z' ⟨hin, nm_r ek ⟨hin, nm_r ev (nm_r (nI_1 n) (h1 h (by omega)))⟩⟩
  · have hin : vp_in (nI q) 12 := vp_in_nI (by omega) (by omega)
    have hcl : (nI q).toNatClampNeg = q := nI_clamp (by omega)
    have ev : upd W (nI q).toNatClampNeg y = upd W q y := by rw [hcl]
    exact br_f (nI_pos (by omega)) ⟨hin, nm_r ev (h2 q hq e)⟩
theorem rs_yrm {post : Int32 → SY → Prop} {x c : Int32} {n : Nat} {L W : Nat → Int32} (hn : n ≤ 12) (h5 : (∀ j, j < n → L j ≠ x) → post 5 (c, nI n, L, W)) (h4 : ∀ q e, n = e + 1 → q ≤ e → L q = x → post 4 (c, nI e, upd L q (L e), upd W q (W e))) : wpY_remove post (c, nI n, L, W) x := by
  unfold wpY_remove
  dsimp only
  refine rs_yfind hn (fun h => ?_) (fun q hq eq => ?_)
  · exact br_f (by decide) (h5 h)
  · obtain ⟨e, rfl⟩ : ∃ e, n = e + 1 := ⟨n - 1, by omega⟩
    have e1 : nI (e + 1) - 1 = nI e := nI_pred e
    have hin : vp_in (nI q) 12 := vp_in_nI (by omega) (by omega)
    have hin1 : vp_in (nI (e + 1) - 1) 12 := by rw [e1]; exact vp_in_nI (by omega) (by omega)
    have hcl : (nI q).toNatClampNeg = q := nI_clamp (by omega)
    have hc1 : (nI (e + 1) - 1).toNatClampNeg = e := by rw [e1]; exact nI_clamp (by omega)
    have ek : upd L (nI q).toNatClampNeg (L (nI (e + 1) - 1).toNatClampNeg) = upd L q (L e) := by rw [hcl, hc1]
    have ev : upd W (nI q).toNatClampNeg (W (nI (e + 1) - 1).toNatClampNeg) = upd W q (W e) := by rw [hcl, hc1]
    exact br_t (nI_pos' (by omega)) ⟨hin1, hin, nm_r ek ⟨hin1, hin, nm_r ev (nm_r e1 (h4 q e rfl (by omega) eq))⟩⟩
theorem rs_ysum5 {post : Int32 → Prop} {lo hi c : Int32} {n : Nat} {K V : Nat → Int32} (hn : n ≤ 12) (hp : post (rs_S (rs_rg lo hi) K V n)) : ∀ d i : Nat, i + d = n → wY_sumRange_5 post lo hi c (nI n) K V (d + 1) (rs_S (rs_rg lo hi) K V i) (nI i) := by
  intro d
  induction d with
  | zero =>
    intro i hi
    have e : i = n := by omega
    subst e
    exact br_t (nI_le (Nat.le_refl i) (by omega)) hp
  | succ d ih =>
    intro i hi'
    have h : ¬ nI n ≤ nI i := nI_ge (by omega) (by omega)
    have hin : vp_in (nI i) 12 := vp_in_nI (by omega) (by omega)
    have hc : (nI i).toNatClampNeg = i := nI_clamp (by omega)
    have J := ih (i + 1) (by omega)
    by_cases z1 : K i < lo
    · have z1' : K (nI i).toNatClampNeg < lo := by rw [hc]; exact z1
      rw [rs_Ss, show rs_rg lo hi (K i) (V i) = 0 from if_pos z1, Int32.add_zero] at J
      exact br_f h ⟨hin, br_t z1' (nm_r (nI_1 i) J)⟩
    · have z1' : ¬ K (nI i).toNatClampNeg < lo := by rw [hc]; exact z1
      by_cases z2 : hi < K i
      · have z2' : hi < K (nI i).toNatClampNeg := by rw [hc]; exact z2
        rw [rs_Ss, show rs_rg lo hi (K i) (V i) = 0 from (if_neg z1).trans (if_pos z2), Int32.add_zero] at J
        exact br_f h ⟨hin, br_f z1' ⟨hin, br_t z2' (nm_r (nI_1 i) J)⟩⟩
      · have z2' : ¬ hi < K (nI i).toNatClampNeg := by rw [hc]; exact z2
        have ev : rs_S (rs_rg lo hi) K V i + V (nI i).toNatClampNeg = rs_S (rs_rg lo hi) K V (i + 1) := by
          rw [rs_Ss, hc, show rs_rg lo hi (K i) (V i) = V i from (if_neg z1).trans (if_neg z2)]
        exact br_f h ⟨hin, br_f z1' ⟨hin, br_f z2' ⟨hin, nm_r ev (nm_r (nI_1 i) J)⟩⟩⟩
theorem rs_ysum {post : Int32 → Prop} {lo hi c : Int32} {n : Nat} {K V : Nat → Int32} (hn : n ≤ 12) (hp : post (rs_S (rs_rg lo hi) K V n)) : wpY_sumRange post (c, nI n, K, V) lo hi := by
  show ∃ n5 : Nat, wY_sumRange_5 post lo hi c (nI n) K V n5 0 0
  exact ⟨n + 1, rs_ysum5 hn hp n 0 (Nat.zero_add n)⟩
theorem rs_ycnt4 {post : Int32 → Prop} {x c : Int32} {n : Nat} {K V : Nat → Int32} (hn : n ≤ 12) (hp : post (rs_S (rs_le x) K V n)) : ∀ d i : Nat, i + d = n → wY_countUpTo_4 post x c (nI n) K V (d + 1) (rs_S (rs_le x) K V i) (nI i) := by
  intro d
  induction d with
  | zero =>
    intro i hi
    have e : i = n := by omega
    subst e
    exact br_t (nI_le (Nat.le_refl i) (by omega)) hp
  | succ d ih =>
    intro i hi
    have h : ¬ nI n ≤ nI i := nI_ge (by omega) (by omega)
    have hin : vp_in (nI i) 12 := vp_in_nI (by omega) (by omega)
    have hc : (nI i).toNatClampNeg = i := nI_clamp (by omega)
    have J := ih (i + 1) (by omega)
    by_cases z : x < K i
    · have z' : x < K (nI i).toNatClampNeg := by rw [hc]; exact z
      rw [rs_Ss, show rs_le x (K i) (V i) = 0 from if_pos z, Int32.add_zero] at J
      exact br_f h ⟨hin, br_t z' (nm_r (nI_1 i) J)⟩
    · have z' : ¬ x < K (nI i).toNatClampNeg := by rw [hc]; exact z
      rw [rs_Ss, show rs_le x (K i) (V i) = 1 from if_neg z] at J
      exact br_f h ⟨hin, br_f z' (nm_e (nm_r (nI_1 i) J))⟩
theorem rs_ycnt {post : Int32 → Prop} {x c : Int32} {n : Nat} {K V : Nat → Int32} (hn : n ≤ 12) (hp : post (rs_S (rs_le x) K V n)) : wpY_countUpTo post (c, nI n, K, V) x := by
  show ∃ n4 : Nat, wY_countUpTo_4 post x c (nI n) K V n4 0 0
  exact ⟨n + 1, rs_ycnt4 hn hp n 0 (Nat.zero_add n)⟩
theorem rs_yat29 {post J : Int32 → Prop} {x c : Int32} {n i : Nat} {L W : Nat → Int32} (hn : n ≤ 12) (hi : i < n) (h1 : rs_S (rs_lt (L i)) L W n = x → post (L i)) (h2 : ¬ rs_S (rs_lt (L i)) L W n = x → J (nI (i + 1))) : ∀ d j : Nat, j + d = n → wY_keyAt_29 post J x (nI i) c (nI n) L W (d + 1) (rs_S (rs_lt (L i)) L W j) (nI j) := by
  have hini : vp_in (nI i) 12 := vp_in_nI (by omega) (by omega)
  have hci : (nI i).toNatClampNeg = i := nI_clamp (by omega)
  intro d
  induction d with
  | zero =>
    intro j hj
    have e : j = n := by omega
    subst e
    have h1' : rs_S (rs_lt (L i)) L W j = x → vp_in (nI i) 12 ∧ post (L (nI i).toNatClampNeg) := by
      intro z
      rw [hci]
      exact ⟨hini, h1 z⟩
    exact br_t (nI_le (Nat.le_refl j) (by omega)) (br_c h1' (fun z => nm_r (nI_1 i) (h2 z)))
  | succ d ih =>
    intro j hj
    have h : ¬ nI n ≤ nI j := nI_ge (by omega) (by omega)
    have hin : vp_in (nI j) 12 := vp_in_nI (by omega) (by omega)
    have hc : (nI j).toNatClampNeg = j := nI_clamp (by omega)
    have T := ih (j + 1) (by omega)
    by_cases z : L i ≤ L j
    · have z' : L (nI i).toNatClampNeg ≤ L (nI j).toNatClampNeg := by rw [hc, hci]; exact z
      rw [rs_Ss, show rs_lt (L i) (L j) (W j) = 0 from if_neg (Int32.not_lt.mpr z), Int32.add_zero] at T
      exact br_f h ⟨hin, hini, br_t z' (nm_r (nI_1 j) T)⟩
    · have z' : ¬ L (nI i).toNatClampNeg ≤ L (nI j).toNatClampNeg := by rw [hc, hci]; exact z
      rw [rs_Ss, show rs_lt (L i) (L j) (W j) = 1 from if_pos (Int32.not_le.mp z)] at T
      exact br_f h ⟨hin, hini, br_f z' (nm_e (nm_r (nI_1 j) T))⟩
theorem rs_yat16 {post : Int32 → Prop} {x c : Int32} {n : Nat} {L W : Nat → Int32} (hn : n ≤ 12) (h1 : ∀ i, i < n → rs_S (rs_lt (L i)) L W n = x → post (L i)) : ∀ d i : Nat, i + d = n → (∃ j, i ≤ j ∧ j < n ∧ rs_S (rs_lt (L j)) L W n = x) → wY_keyAt_16 post x c (nI n) L W (d + 1) (nI i) := by
  intro d
  induction d with
  | zero =>
    intro i hi hx
    obtain ⟨j, ha, hb, _⟩ := hx
    exact absurd hb (by omega)
  | succ d ih =>
    intro i hi hx
    have h : ¬ nI n ≤ nI i := nI_ge (by omega) (by omega)
    have h2 : ¬ rs_S (rs_lt (L i)) L W n = x → wY_keyAt_16 post x c (nI n) L W (d + 1) (nI (i + 1)) := by
      intro z
      obtain ⟨j, ha, hb, hj⟩ := hx
      have hij : j ≠ i := by
        intro e
        rw [e] at hj
        exact z hj
      exact ih (i + 1) (by omega) ⟨j, by omega, hb, hj⟩
    exact br_f h ⟨n + 1, rs_yat29 hn (by omega) (h1 i (by omega)) h2 n 0 (Nat.zero_add n)⟩
end
section
/-- the class's keys rise, the reference's are different from one another, and every sum over the bound pairs is the same on both sides -/
def i_Rel (_ : Nat) (u : SX) (v : SY) : Prop := ∃ (c n : Nat) (K V L W : Nat → Int32), u = (nI c, nI n, K, V) ∧ v = (nI c, nI n, L, W) ∧ n ≤ c ∧ c ≤ 12 ∧ (∀ i j, i < j → j < n → K i < K j) ∧ (∀ i j, i < j → j < n → L i ≠ L j) ∧ (∀ f, rs_S f K V n = rs_S f L W n)
theorem i_up {k : Nat} {u : SX} {v : SY} (h : i_Rel k u v) : i_Rel (k + 3) u v := h
theorem rs_rel0 (c : Nat) (hc : c ≤ 12) : i_Rel 1 (nI c, nI 0, (fun _ => 0), (fun _ => 0)) (nI c, nI 0, (fun _ => 0), (fun _ => 0)) :=
  ⟨c, 0, (fun _ => 0), (fun _ => 0), (fun _ => 0), (fun _ => 0), rfl, rfl, Nat.zero_le c, hc, fun i j _ h => absurd h (Nat.not_lt_zero j), fun i j _ h => absurd h (Nat.not_lt_zero j), fun _ => rfl⟩
theorem i_vc0 (k0 : Int32) : wpX_init (fun u => wpY_init (fun v => i_Rel 1 u v) k0) k0 := by
  by_cases h : 0 ≤ k0
  · by_cases h2 : k0 ≤ 12
    · obtain ⟨j, hj, rfl⟩ := nI_of2 (x := k0) (M := 12) (n := 12) (by decide) (Int32.not_lt.mpr h) h2
      exact br_t h (br_t h2 (br_t h (br_t h2 (rs_rel0 j hj))))
    · exact br_t h (br_f h2 (br_t h (br_f h2 (rs_rel0 12 (Nat.le_refl 12)))))
  · exact br_f h (br_t (by decide) (br_f h (rs_rel0 0 (Nat.zero_le 12))))
theorem rs_gt {K : Nat → Int32} {n p : Nat} {x : Int32} (hs : ∀ i j, i < j → j < n → K i < K j) (hhi : p < n → x ≤ K p) (hf : ¬ (p < n ∧ K p = x)) : ∀ i, p ≤ i → i < n → x < K i := by
  intro i hpi hi
  have hp : p < n := by omega
  have h0 : x < K p := Int32.lt_of_le_of_ne (hhi hp) (fun e => hf ⟨hp, e.symm⟩)
  by_cases e : i = p
  · rw [e]; exact h0
  · exact Int32.lt_trans h0 (hs p i (by omega) hi)
theorem rs_nin {K L V W : Nat → Int32} {n p : Nat} {x : Int32} (hlo : ∀ i, i < p → K i < x) (hgt : ∀ i, p ≤ i → i < n → x < K i) (hd : ∀ i j, i < j → j < n → L i ≠ L j) (he : ∀ f, rs_S f K V n = rs_S f L W n) : ∀ q, q < n → L q ≠ x := by
  intro q hq e
  obtain ⟨i, hi, ei⟩ := rs_mem hd (fun f => (he f).symm) hq
  rw [e] at ei
  by_cases z : i < p
  · exact Int32.ne_of_lt (hlo i z) ei
  · exact Int32.ne_of_lt (hgt i (by omega) hi) ei.symm
theorem i_vc_put {k : Nat} {u : SX} {v : SY} (I : i_Rel k u v) (hk : k + 3 ≤ 1537) (v1 : Int32) (v2 : Int32) : wpX_put (fun r u' => wpY_put (fun r' v' => r' = r ∧ i_Rel (k + 3) u' v') v v1 v2) u v1 v2 := by
  obtain ⟨c, n, K, V, L, W, rfl, rfl, hnc, hc, hs, hd, he⟩ := I
  have hdK : ∀ i j, i < j → j < n → K i ≠ K j := fun i j a b => Int32.ne_of_lt (hs i j a b)
  refine rs_xput (by omega) (fun p hp hlo hhi => ?_)
  by_cases hf : p < n ∧ K p = v1
  · obtain ⟨hpn, e⟩ := hf
    obtain ⟨q0, hq0, eq0⟩ := rs_mem hdK he hpn
    refine rs_xput26t (by omega) hpn e ?_
    refine rs_yput hnc hc (fun h _ => absurd (eq0.trans e) (h q0 hq0)) (fun h _ => absurd (eq0.trans e) (h q0 hq0)) (fun q hq eq => ?_)
    have hv : W q = V p := rs_val hdK hd he hpn hq (eq.trans e.symm)
    refine ⟨rfl, c, n, K, upd V p v2, L, upd W q v2, rfl, rfl, hnc, hc, hs, hd, fun f => ?_⟩
    rw [rs_updV f K V p v2 n hpn, rs_updV f L W q v2 n hq, he f, eq, e, hv]
  · have hgt := rs_gt hs hhi hf
    have hnin := rs_nin hlo hgt hd he
    refine rs_xput26f (by omega) hp (fun a b => hf ⟨a, b⟩) ?_
    by_cases z : n = c
    · refine rs_xput53f z hc ?_
      exact rs_yput hnc hc (fun _ _ => ⟨rfl, c, n, K, V, L, W, rfl, rfl, hnc, hc, hs, hd, he⟩) (fun _ w => absurd w (by omega)) (fun q hq eq => absurd eq (hnin q hq))
    · refine rs_xput53 hp (by omega) hc ?_
      refine rs_yput hnc hc (fun _ w => absurd w z) (fun hx _ => ?_) (fun q hq eq => absurd eq (hnin q hq))
      refine ⟨rfl, c, n + 1, rs_in p n v1 K, rs_in p n v2 V, upd L n v1, upd W n v2, rfl, rfl, by omega, hc, rs_in_sort hs hlo hgt hp, rs_yin_d hd hx, fun f => ?_⟩
      rw [rs_in_S f K V v1 v2 hp, rs_yin_S f L W n v1 v2, he f]
theorem i_vc_remove {k : Nat} {u : SX} {v : SY} (I : i_Rel k u v) (hk : k + 3 ≤ 1537) (v1 : Int32) : wpX_remove (fun r u' => wpY_remove (fun r' v' => r' = r ∧ i_Rel (k + 3) u' v') v v1) u v1 := by
  obtain ⟨c, n, K, V, L, W, rfl, rfl, hnc, hc, hs, hd, he⟩ := I
  have hdK : ∀ i j, i < j → j < n → K i ≠ K j := fun i j a b => Int32.ne_of_lt (hs i j a b)
  refine rs_xrm (by omega) (fun p hp hlo hhi => ?_)
  by_cases hf : p < n ∧ K p = v1
  · obtain ⟨hpn, e⟩ := hf
    obtain ⟨q0, hq0, eq0⟩ := rs_mem hdK he hpn
    obtain ⟨m, rfl⟩ : ∃ m, n = m + 1 := ⟨n - 1, by omega⟩
    refine rs_xrm26t (by omega) (by omega) e ?_
    refine rs_yrm (by omega) (fun h => absurd (eq0.trans e) (h q0 hq0)) (fun q m' em hq eq => ?_)
    have em' : m' = m := by omega
    subst em'
    have hv : W q = V p := rs_val hdK hd he hpn (by omega) (eq.trans e.symm)
    refine ⟨rfl, c, m', rs_rm p m' K, rs_rm p m' V, upd L q (L m'), upd W q (W m'), rfl, rfl, by omega, hc, rs_rm_sort hs (by omega), rs_yrm_d hd, fun f => ?_⟩
    rw [rs_rm_S f K V (by omega), rs_yrm_S f L W hq, he f, eq, e, hv]
  · have hgt := rs_gt hs hhi hf
    have hnin := rs_nin hlo hgt hd he
    refine rs_xrm26f (by omega) hp (fun a b => hf ⟨a, b⟩) ?_
    exact rs_yrm (by omega) (fun _ => ⟨rfl, c, n, K, V, L, W, rfl, rfl, hnc, hc, hs, hd, he⟩) (fun q m em hq eq => absurd eq (hnin q (by omega)))
theorem i_vc_sumRange {k : Nat} {u : SX} {v : SY} (I : i_Rel k u v) (hk : k + 3 ≤ 1537) (v1 : Int32) (v2 : Int32) : wpX_sumRange (fun r => wpY_sumRange (fun r' => r' = r ∧ i_Rel (k + 3) u v) v v1 v2) u v1 v2 := by
  obtain ⟨c, n, K, V, L, W, rfl, rfl, hnc, hc, hs, hd, he⟩ := I
  exact rs_xsum (by omega) (rs_ysum (by omega) ⟨(he _).symm, c, n, K, V, L, W, rfl, rfl, hnc, hc, hs, hd, he⟩)
theorem i_vc_countUpTo {k : Nat} {u : SX} {v : SY} (I : i_Rel k u v) (hk : k + 3 ≤ 1537) (v1 : Int32) : wpX_countUpTo (fun r => wpY_countUpTo (fun r' => r' = r ∧ i_Rel (k + 3) u v) v v1) u v1 := by
  obtain ⟨c, n, K, V, L, W, rfl, rfl, hnc, hc, hs, hd, he⟩ := I
  exact rs_xcnt (by omega) (rs_ycnt (by omega) ⟨(he _).symm, c, n, K, V, L, W, rfl, rfl, hnc, hc, hs, hd, he⟩)
theorem i_vc_keyAt {k : Nat} {u : SX} {v : SY} (I : i_Rel k u v) (hk : k + 3 ≤ 1537) (v1 : Int32) : wpX_keyAt (fun r => wpY_keyAt (fun r' => r' = r ∧ i_Rel (k + 3) u v) v v1) u v1 := by
  obtain ⟨c, n, K, V, L, W, rfl, rfl, hnc, hc, hs, hd, he⟩ := I
  have hR : i_Rel (k + 3) (nI c, nI n, K, V) (nI c, nI n, L, W) := ⟨c, n, K, V, L, W, rfl, rfl, hnc, hc, hs, hd, he⟩
  have hdK : ∀ i j, i < j → j < n → K i ≠ K j := fun i j a b => Int32.ne_of_lt (hs i j a b)
  unfold wpX_keyAt wpY_keyAt
  dsimp only
  by_cases h0 : v1 < 0
  · exact br_t h0 (br_t h0 ⟨rfl, hR⟩)
  · by_cases h1 : v1 < nI n
    · obtain ⟨m, hm, rfl⟩ := nI_of h0
      have hmn : m < n := (nI_ltI hm (by omega)).mp h1
      have hin : vp_in (nI m) 12 := vp_in_nI (by omega) (by omega)
      have hcl : (nI m).toNatClampNeg = m := nI_clamp hm
      have hr : ∀ i q, i < n → q < n → K q = L i → rs_S (rs_lt (L i)) L W n = nI q := by
        intro i q hi hq e
        rw [← e, ← he, rs_rank hs hq]
      have hA : ∀ i, i < n → rs_S (rs_lt (L i)) L W n = nI m → (L i = K (nI m).toNatClampNeg ∧ i_Rel (k + 3) (nI c, nI n, K, V) (nI c, nI n, L, W)) := by
        intro i hi z
        obtain ⟨q, hq, eq⟩ := rs_mem hd (fun f => (he f).symm) hi
        have hqm : q = m := (nI_eq (by omega) hm).mp ((hr i q hi hq eq).symm.trans z)
        rw [hcl, ← eq, hqm]
        exact ⟨rfl, hR⟩
      obtain ⟨j, hj, ej⟩ := rs_mem hdK he hmn
      exact br_f h0 (br_t h1 ⟨hin, br_f h0 (br_t h1 ⟨n + 1, rs_yat16 (by omega) hA n 0 (Nat.zero_add n) ⟨j, Nat.zero_le j, hj, hr j m hj hmn ej.symm⟩⟩)⟩)
    · exact br_f h0 (br_f h1 (br_f h0 (br_f h1 ⟨rfl, hR⟩)))
end
