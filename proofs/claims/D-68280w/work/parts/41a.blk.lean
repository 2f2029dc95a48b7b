/-! bits of a long -/
def bitL (x : Int) (n : Nat) : Bool := (BitVec.ofInt 64 x).getLsbD n
theorem bitL_get {x : Int} {n : Nat} (hx : c64 x) (hn : n < 64) : lAnd (lShr x (n : Int)) 1 = if bitL x n then 1 else 0 := by
  rw [lShr_eq hx hn, lAnd_mask (n := 1) (by decide) (by decide)]
  unfold bitL
  have e0 : (((BitVec.ofInt 64 x).toNat : Nat) : Int) = x % (2 ^ 64 : Nat) := ofI_nat 64 x
  obtain ⟨N, eN⟩ : ∃ N, N = (BitVec.ofInt 64 x).toNat := ⟨_, rfl⟩
  rw [← eN] at e0
  have eg : (BitVec.ofInt 64 x).getLsbD n = N.testBit n := by rw [eN]; rfl
  rw [eg, Nat.testBit_eq_decide_div_mod_eq]
  obtain ⟨d, ed⟩ : ∃ d : Nat, 64 = n + (d + 1) := ⟨63 - n, by omega⟩
  have p : ((2 ^ 64 : Nat) : Int) = 2 ^ n * (2 * 2 ^ d) := by
    have : (2 ^ 64 : Nat) = 2 ^ n * (2 * 2 ^ d) := by rw [ed, Nat.pow_add, Nat.pow_succ, Nat.mul_comm (2 ^ d) 2]
    rw [this]; norm_cast
  have ex : x = N + 2 ^ n * (2 * (2 ^ d * (x / (2 ^ 64 : Nat)))) := by
    have := Int.emod_add_mul_ediv x ((2 ^ 64 : Nat) : Int)
    rw [e0, ← Int.mul_assoc 2, ← Int.mul_assoc (2 ^ n), ← p]; exact this.symm
  have pn : (2 : Int) ^ n ≠ 0 := by
    have : (0 : Int) < 2 ^ n := Int.pow_pos (by decide)
    omega
  have e1 : x / 2 ^ n = N / 2 ^ n + 2 * (2 ^ d * (x / (2 ^ 64 : Nat))) := by
    have h := Int.add_mul_ediv_left (N : Int) (2 * (2 ^ d * (x / (2 ^ 64 : Nat)))) pn
    rw [← ex] at h
    exact h
  have e2 : x / 2 ^ n % 2 ^ 1 = ((N / 2 ^ n % 2 : Nat) : Int) := by
    rw [e1, show (2 : Int) ^ 1 = 2 from rfl, Int.add_mul_emod_self_left]
    norm_cast
  rw [e2]
  by_cases c : N / 2 ^ n % 2 = 1
  · rw [if_pos (decide_eq_true c), c]; rfl
  · rw [if_neg (by rw [decide_eq_true_iff]; exact c)]
    have : N / 2 ^ n % 2 = 0 := by omega
    rw [this]; rfl
theorem bitL_set {x : Int} {n c : Nat} (hn : n < 64) (hc : c < 64) : bitL (lOr x (lShl 1 (n : Int))) c = (bitL x c || decide (n = c)) := by
  unfold bitL
  have e1 : BitVec.ofInt 64 (lOr x (lShl 1 (n : Int))) = BitVec.ofInt 64 x ||| BitVec.ofInt 64 (lShl 1 (n : Int)) := by
    show BitVec.ofInt 64 (BitVec.ofInt 64 x ||| BitVec.ofInt 64 (lShl 1 (n : Int))).toInt = _
    rw [BitVec.ofInt_toInt]
  have e2 : BitVec.ofInt 64 (lShl 1 (n : Int)) = BitVec.ofNat 64 (2 ^ n) := by
    rw [lShl_eq hn, Int.one_mul]
    have : (2 : Int) ^ n = ((2 ^ n : Nat) : Int) := by norm_cast
    rw [this, ← BitVec.ofInt_natCast]
    apply BitVec.eq_of_toNat_eq
    have key : ∀ y : Int, w64 y % 18446744073709551616 = y % 18446744073709551616 := fun y => by unfold w64; omega
    rw [BitVec.toNat_ofInt, BitVec.toNat_ofInt, show ((2 ^ 64 : Nat) : Int) = 18446744073709551616 from rfl, key]
  rw [e1, e2, BitVec.getLsbD_or, BitVec.getLsbD_ofNat, Nat.testBit_two_pow]
  have : decide (c < 64) = true := decide_eq_true hc
  rw [this, Bool.true_and]
theorem bitL_0 (n : Nat) : bitL 0 n = false := by
  unfold bitL
  have : BitVec.ofInt 64 0 = 0#64 := by decide
  rw [this]; exact BitVec.getLsbD_zero
theorem c64_or (x y : Int) : c64 (lOr x y) := c64_toInt _
