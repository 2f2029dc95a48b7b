/-! Poly: numbers of bytes -/
def dg (D : Nat → Int) : Nat → Int
  | 0 => 0
  | n + 1 => dg D n + D n * 256 ^ n
theorem p256 (n : Nat) : (256 : Int) ^ (n + 1) = 256 * 256 ^ n := by rw [Int.pow_succ, Int.mul_comm]
theorem p256_pos (n : Nat) : 0 < (256 : Int) ^ n := Int.pow_pos (by decide)
def dgs (D : Nat → Int) (n : Nat) : Prop := ∀ i, i < n → 0 ≤ D i ∧ D i < 256
theorem dg_lt {D : Nat → Int} : ∀ n, dgs D n → 0 ≤ dg D n ∧ dg D n < 256 ^ n
  | 0, _ => ⟨Int.le_refl _, by show (0 : Int) < 1; decide⟩
  | n + 1, h => by
    have ih := dg_lt n (fun i hi => h i (by omega))
    have hn := h n (by omega)
    have hp := p256_pos n
    show 0 ≤ dg D n + D n * 256 ^ n ∧ dg D n + D n * 256 ^ n < 256 ^ (n + 1)
    rw [p256]
    have m := mul_bd (x := D n) (y := 256 ^ n) (A := 255) (B := 256 ^ n) hn.1 (by omega) (Int.le_of_lt hp) (Int.le_refl _)
    generalize D n * 256 ^ n = z at *
    generalize (256 : Int) ^ n = y at *
    omega
theorem dg_congr {D E : Nat → Int} : ∀ n, (∀ i, i < n → D i = E i) → dg D n = dg E n
  | 0, _ => rfl
  | n + 1, h => by
    show dg D n + D n * 256 ^ n = dg E n + E n * 256 ^ n
    rw [dg_congr n (fun i hi => h i (by omega)), h n (by omega)]
theorem dg_z {D : Nat → Int} {m : Nat} : ∀ n, m ≤ n → (∀ i, m ≤ i → i < n → D i = 0) → dg D n = dg D m
  | 0, h, _ => by rw [show m = 0 by omega]
  | n + 1, h, z => by
    by_cases e : m = n + 1
    · rw [e]
    · show dg D n + D n * 256 ^ n = _
      rw [z n (by omega) (by omega), dg_z n (by omega) (fun i h1 h2 => z i h1 (by omega)), Int.zero_mul, Int.add_zero]
theorem dg_split (D : Nat → Int) (m : Nat) : ∀ n, dg D (m + n) = dg D m + 256 ^ m * dg (fun i => D (m + i)) n
  | 0 => by show dg D m = dg D m + 256 ^ m * 0; omega
  | n + 1 => by
    show dg D (m + n) + D (m + n) * 256 ^ (m + n) = dg D m + 256 ^ m * (dg (fun i => D (m + i)) n + D (m + n) * 256 ^ n)
    rw [dg_split D m n, Int.pow_add]
    grind
/-- high digits are 0 in a small number -/
theorem dg_small {D : Nat → Int} {m n : Nat} (h : dgs D (m + n)) (hs : dg D (m + n) < 256 ^ m) : dg D (m + n) = dg D m ∧ ∀ i, m ≤ i → i < m + n → D i = 0 := by
  have h1 := dg_lt m (fun i hi => h i (by omega))
  have h2 := dg_lt (D := fun i => D (m + i)) n (fun i hi => h (m + i) (by omega))
  have hp := p256_pos m
  rw [dg_split] at hs ⊢
  have z : dg (fun i => D (m + i)) n = 0 := by
    by_cases g : dg (fun i => D (m + i)) n ≤ 0
    · omega
    · have := Int.mul_le_mul_of_nonneg_left (show (1 : Int) ≤ dg (fun i => D (m + i)) n by omega) (Int.le_of_lt hp)
      generalize (256 : Int) ^ m * dg (fun i => D (m + i)) n = w at *
      omega
  refine ⟨by rw [z]; omega, ?_⟩
  have key : ∀ k, dgs (fun i => D (m + i)) k → dg (fun i => D (m + i)) k = 0 → ∀ i, i < k → D (m + i) = 0 := by
    intro k
    induction k with
    | zero => intro _ _ i hi; omega
    | succ k ih =>
      intro g1 g2 i hi
      have a1 := dg_lt (D := fun i => D (m + i)) k (fun i hi => g1 i (by omega))
      have a2 := g1 k (by omega)
      have a3 : dg (fun i => D (m + i)) k + D (m + k) * 256 ^ k = 0 := g2
      have a4 := p256_pos k
      have a5 : 0 ≤ D (m + k) * 256 ^ k := Int.mul_nonneg a2.1 (Int.le_of_lt a4)
      by_cases e : i = k
      · subst e
        have a6 : D (m + i) * 256 ^ i = 0 := by omega
        rcases Int.mul_eq_zero.mp a6 with z1 | z1
        · exact z1
        · omega
      · exact ih (fun i hi => g1 i (by omega)) (by omega) i (by omega)
  intro i h1 h2
  have := key n (fun i hi => h (m + i) (by omega)) z (i - m) (by omega)
  rwa [show m + (i - m) = i by omega] at this
/-- one step of a chain of carries -/
theorem dg_step {D c : Nat → Int} {k : Nat} {y y0 : Int} (h : dg D k + y * 256 ^ k = dg c k + y0) (hD : D k = (y + c k) % 256) : dg D (k + 1) + ((y + c k) / 256) * 256 ^ (k + 1) = dg c (k + 1) + y0 := by
  show dg D k + D k * 256 ^ k + (y + c k) / 256 * 256 ^ (k + 1) = dg c k + c k * 256 ^ k + y0
  have e : (y + c k) % 256 = (y + c k) - 256 * ((y + c k) / 256) := by omega
  rw [hD, e, p256]
  generalize (y + c k) / 256 = q at *
  grind
/-- a product, digit by digit: pairs of places whose sum is k -/
def cvs (r a : Nat → Int) (k : Nat) : Nat → Int
  | 0 => 0
  | i + 1 => cvs r a k i + r i * a (k - i)
theorem cv_dg (r a : Nat → Int) (n : Nat) : dg (fun k => cvs r a k (k + 1)) n = cvs (fun i => r i * 256 ^ i) (fun j => dg a (j + 1)) (n - 1) n := by
  induction n with
  | zero => rfl
  | succ n ih =>
    show dg (fun k => cvs r a k (k + 1)) n + cvs r a n (n + 1) * 256 ^ n = cvs (fun i => r i * 256 ^ i) (fun j => dg a (j + 1)) n (n + 1)
    rw [ih]
    have key : ∀ m, m ≤ n → cvs (fun i => r i * 256 ^ i) (fun j => dg a (j + 1)) (n - 1) m + cvs r a n m * 256 ^ n = cvs (fun i => r i * 256 ^ i) (fun j => dg a (j + 1)) n m := by
      intro m
      induction m with
      | zero => intro _; show (0 : Int) + 0 * 256 ^ n = 0; omega
      | succ m ihm =>
        intro hm
        show cvs (fun i => r i * 256 ^ i) (fun j => dg a (j + 1)) (n - 1) m + r m * 256 ^ m * dg a (n - 1 - m + 1) + (cvs r a n m + r m * a (n - m)) * 256 ^ n = cvs (fun i => r i * 256 ^ i) (fun j => dg a (j + 1)) n m + r m * 256 ^ m * dg a (n - m + 1)
        rw [← ihm (by omega), show n - 1 - m + 1 = n - m by omega]
        show _ = _ + r m * 256 ^ m * (dg a (n - m) + a (n - m) * 256 ^ (n - m))
        have e : (256 : Int) ^ n = 256 ^ m * 256 ^ (n - m) := by rw [← Int.pow_add, show m + (n - m) = n by omega]
        rw [e]
        generalize (256 : Int) ^ m = x
        generalize (256 : Int) ^ (n - m) = y
        grind
    show _ = cvs (fun i => r i * 256 ^ i) (fun j => dg a (j + 1)) n n + r n * 256 ^ n * dg a (n - n + 1)
    show _ + (cvs r a n n + r n * a (n - n)) * 256 ^ n = _
    rw [← key n (Nat.le_refl _), Nat.sub_self]
    show _ = _ + r n * 256 ^ n * (0 + a 0 * 256 ^ 0)
    rw [show (256 : Int) ^ 0 = 1 from rfl]
    grind
theorem cvs_const {r a : Nat → Int} {k : Nat} {A : Int} : ∀ m, (∀ i, i < m → r i = 0 ∨ a (k - i) = A) → cvs r a k m = (cvs r (fun _ => 1) k m) * A
  | 0, _ => by show (0 : Int) = 0 * A; omega
  | m + 1, h => by
    show cvs r a k m + r m * a (k - m) = (cvs r (fun _ => 1) k m + r m * 1) * A
    rw [cvs_const m (fun i hi => h i (by omega))]
    rcases h m (by omega) with z | z
    · rw [z]; grind
    · rw [z]; grind
theorem cvs_dg {r : Nat → Int} {k : Nat} : ∀ m, cvs (fun i => r i * 256 ^ i) (fun _ => 1) k m = dg r m
  | 0 => rfl
  | m + 1 => by
    show cvs (fun i => r i * 256 ^ i) (fun _ => 1) k m + r m * 256 ^ m * 1 = dg r m + r m * 256 ^ m
    rw [cvs_dg m, Int.mul_one]
/-- the digits of a product of sixteen and eighteen bytes -/
theorem cv_mul {r a : Nat → Int} (hr : ∀ i, 16 ≤ i → r i = 0) (ha : ∀ i, 18 ≤ i → a i = 0) : dg (fun k => cvs r a k (k + 1)) 36 = dg r 16 * dg a 18 := by
  rw [cv_dg, cvs_const (A := dg a 18) 36 (fun i hi => ?_), cvs_dg, dg_z 36 (by omega) (fun i h1 _ => hr i h1)]
  by_cases g : 16 ≤ i
  · left; rw [hr i g, Int.zero_mul]
  · right
    show dg a (36 - 1 - i + 1) = dg a 18
    exact dg_z _ (by omega) (fun j h1 _ => ha j h1)
/-- a number without its two lowest bits, by its digits -/
theorem dg_quart (m : Nat → Int) (hm : ∀ i, 0 ≤ m i) : ∀ n, 4 * dg (fun k => m k / 4 + 64 * (m (k + 1) % 4)) n + m 0 % 4 = dg m n + (m n % 4) * 256 ^ n
  | 0 => by show 4 * 0 + m 0 % 4 = 0 + m 0 % 4 * 1; omega
  | n + 1 => by
    have ih := dg_quart m hm n
    show 4 * (dg (fun k => m k / 4 + 64 * (m (k + 1) % 4)) n + (m n / 4 + 64 * (m (n + 1) % 4)) * 256 ^ n) + m 0 % 4 = dg m n + m n * 256 ^ n + m (n + 1) % 4 * 256 ^ (n + 1)
    have e : m n % 4 = m n - 4 * (m n / 4) := by omega
    rw [e] at ih
    rw [p256]
    generalize m n / 4 = q at *
    generalize m (n + 1) % 4 = t at *
    grind
