/-! BITS: shifts, masks and joins of ints and longs as numbers; ints as words of 32 bits -/
theorem bsh32 : ∀ n : Nat, n < 32 → ((Int32.ofInt (n : Int) &&& 31).toBitVec.smod 32).toNat = n := by decide
theorem bsh64 : ∀ n : Nat, n < 64 → (((Int32.ofInt (n : Int)).toInt64 &&& 63).toBitVec.smod 64).toNat = n := by decide
theorem bshu32 : ∀ n : Nat, n < 32 → (UInt32.mod ((Int32.ofInt (n : Int)).toUInt32 &&& Int32.toUInt32 31) 32).toBitVec.toNat = n := by decide
theorem bshu64 : ∀ n : Nat, n < 64 → (UInt64.mod ((Int32.ofInt (n : Int)).toInt64.toUInt64 &&& Int64.toUInt64 63) 64).toBitVec.toNat = n := by decide
theorem pow2_dvd {n w : Nat} (h : n ≤ w) : (2 : Int) ^ n ∣ 2 ^ w := by
  have := Int.natCast_dvd_natCast.mpr (Nat.pow_dvd_pow 2 h)
  rw [Int.natCast_pow, Int.natCast_pow] at this
  exact this
theorem ofI_nat (w : Nat) (x : Int) : ((BitVec.ofInt w x).toNat : Int) = x % (2 ^ w : Nat) := by
  rw [BitVec.toNat_ofInt]
  exact Int.toNat_of_nonneg (Int.emod_nonneg _ (by have := Nat.two_pow_pos w; omega))
theorem mulmod (x p M : Int) : ((x % M) * p) % M = (x * p) % M := by
  rw [Int.mul_emod (x % M), Int.emod_emod, ← Int.mul_emod]
theorem w32_congr {x y : Int} (h : x % 4294967296 = y % 4294967296) : w32 x = w32 y := by unfold w32; omega
theorem w64_congr {x y : Int} (h : x % 18446744073709551616 = y % 18446744073709551616) : w64 x = w64 y := by unfold w64; omega
theorem iShl_eq {x : Int} {n : Nat} (hn : n < 32) : iShl x n = w32 (x * 2 ^ n) := by
  show ((BitVec.ofInt 32 x) <<< ((Int32.ofInt (n : Int) &&& 31).toBitVec.smod 32)).toInt = _
  rw [BitVec.shiftLeft_eq', bsh32 n hn, BitVec.toInt_shiftLeft, Nat.shiftLeft_eq, w32_bmod]
  rw [← w32_bmod, ← w32_bmod]
  refine w32_congr ?_
  rw [Int.natCast_mul, ofI_nat, Int.natCast_pow]
  exact mulmod x (2 ^ n) 4294967296
theorem lShl_eq {x : Int} {n : Nat} (hn : n < 64) : lShl x n = w64 (x * 2 ^ n) := by
  show ((BitVec.ofInt 64 x) <<< (((Int32.ofInt (n : Int)).toInt64 &&& 63).toBitVec.smod 64)).toInt = _
  rw [BitVec.shiftLeft_eq', bsh64 n hn, BitVec.toInt_shiftLeft, Nat.shiftLeft_eq, w64_bmod]
  rw [← w64_bmod, ← w64_bmod]
  refine w64_congr ?_
  rw [Int.natCast_mul, ofI_nat, Int.natCast_pow]
  exact mulmod x (2 ^ n) 18446744073709551616
theorem ofI32 {x : Int} (h : c32 x) : (BitVec.ofInt 32 x).toInt = x := of32_id h
theorem ofI64 {x : Int} (h : c64 x) : (BitVec.ofInt 64 x).toInt = x := of64_id h
theorem iShr_eq {x : Int} (hx : c32 x) {n : Nat} (hn : n < 32) : iShr x n = x / 2 ^ n := by
  show (BitVec.sshiftRight' (BitVec.ofInt 32 x) ((Int32.ofInt (n : Int) &&& 31).toBitVec.smod 32)).toInt = _
  show (BitVec.sshiftRight (BitVec.ofInt 32 x) ((Int32.ofInt (n : Int) &&& 31).toBitVec.smod 32).toNat).toInt = _
  rw [bsh32 n hn, BitVec.toInt_sshiftRight, ofI32 hx, Int.shiftRight_eq_div_pow, Int.natCast_pow]
  rfl
theorem lShr_eq {x : Int} (hx : c64 x) {n : Nat} (hn : n < 64) : lShr x n = x / 2 ^ n := by
  show (BitVec.sshiftRight (BitVec.ofInt 64 x) (((Int32.ofInt (n : Int)).toInt64 &&& 63).toBitVec.smod 64).toNat).toInt = _
  rw [bsh64 n hn, BitVec.toInt_sshiftRight, ofI64 hx, Int.shiftRight_eq_div_pow, Int.natCast_pow]
  rfl
theorem iUshr_eq {x : Int} {n : Nat} (hn : n < 32) : iUshr x n = w32 ((x % 4294967296) / 2 ^ n) := by
  show ((BitVec.ofInt 32 x) >>> (UInt32.mod ((Int32.ofInt (n : Int)).toUInt32 &&& Int32.toUInt32 31) 32).toBitVec).toInt = _
  rw [BitVec.ushiftRight_eq', bshu32 n hn, BitVec.toInt_eq_toNat_bmod, BitVec.toNat_ushiftRight, Nat.shiftRight_eq_div_pow, show ((2 ^ 32 : Nat)) = 4294967296 from rfl, ← w32_bmod]
  rw [Int.natCast_ediv, ofI_nat, Int.natCast_pow]
  rfl
theorem lUshr_eq {x : Int} {n : Nat} (hn : n < 64) : lUshr x n = w64 ((x % 18446744073709551616) / 2 ^ n) := by
  show ((BitVec.ofInt 64 x) >>> (UInt64.mod ((Int32.ofInt (n : Int)).toInt64.toUInt64 &&& Int64.toUInt64 63) 64).toBitVec).toInt = _
  rw [BitVec.ushiftRight_eq', bshu64 n hn, BitVec.toInt_eq_toNat_bmod, BitVec.toNat_ushiftRight, Nat.shiftRight_eq_div_pow, show ((2 ^ 64 : Nat)) = 18446744073709551616 from rfl, ← w64_bmod]
  rw [Int.natCast_ediv, ofI_nat, Int.natCast_pow]
  rfl
theorem and_mask {w : Nat} {x : Int} {n : Nat} (hn : n < w) : (BitVec.ofInt w x &&& BitVec.ofInt w (2 ^ n - 1)).toInt = x % 2 ^ n := by
  have hp : (2 : Nat) ^ n ≤ 2 ^ (w - 1) := Nat.pow_le_pow_right (by omega) (by omega)
  have hw : (2 : Nat) ^ w = 2 * 2 ^ (w - 1) := by rw [← Nat.pow_succ']; congr 1; omega
  have h0 : 0 < (2 : Nat) ^ n := Nat.two_pow_pos n
  have e1 : (BitVec.ofInt w (2 ^ n - 1)).toNat = 2 ^ n - 1 := by
    have h1 := ofI_nat w (2 ^ n - 1)
    have h2 : ((2 : Int) ^ n - 1) = ((2 ^ n - 1 : Nat) : Int) := by rw [Int.natCast_sub h0, Int.natCast_pow]; rfl
    rw [h2, Int.emod_eq_of_lt (by omega) (by omega)] at h1
    rw [h2]
    omega
  have e2 : (BitVec.ofInt w x &&& BitVec.ofInt w (2 ^ n - 1)).toNat = (BitVec.ofInt w x).toNat % 2 ^ n := by
    rw [BitVec.toNat_and, e1, Nat.and_two_pow_sub_one_eq_mod]
  have h3 : (BitVec.ofInt w x).toNat % 2 ^ n < 2 ^ n := Nat.mod_lt _ h0
  rw [BitVec.toInt_eq_toNat_of_lt (by rw [e2]; omega), e2, Int.natCast_emod, ofI_nat, Int.natCast_pow, Int.natCast_pow]
  refine Int.emod_emod_of_dvd _ ?_
  exact pow2_dvd (by omega)
theorem iAnd_mask {x m : Int} {n : Nat} (hn : n < 32) (hm : m = 2 ^ n - 1) : iAnd x m = x % 2 ^ n := by rw [hm]; exact and_mask hn
theorem lAnd_mask {x m : Int} {n : Nat} (hn : n < 64) (hm : m = 2 ^ n - 1) : lAnd x m = x % 2 ^ n := by rw [hm]; exact and_mask hn
theorem iAnd_comm (x y : Int) : iAnd x y = iAnd y x := by unfold iAnd; rw [Int32.and_comm]
theorem lAnd_comm (x y : Int) : lAnd x y = lAnd y x := by unfold lAnd; rw [Int64.and_comm]
theorem and_zero {w : Nat} {x y : Int} {n : Nat} (hw : n ≤ w) (hx : x % 2 ^ n = 0) (hy : 0 ≤ y) (hy2 : y < 2 ^ n) : BitVec.ofInt w x &&& BitVec.ofInt w y = 0#w := by
  apply BitVec.eq_of_toNat_eq
  rw [BitVec.toNat_and]
  have h1 := ofI_nat w x
  have h2 := ofI_nat w y
  have hle : (2 : Nat) ^ n ≤ 2 ^ w := Nat.pow_le_pow_right (by omega) hw
  have hc : ((2 ^ n : Nat) : Int) = 2 ^ n := Int.natCast_pow 2 n
  rw [Int.emod_eq_of_lt hy (by omega)] at h2
  have h3 : (BitVec.ofInt w x).toNat % 2 ^ n = 0 := by
    have h4 : (((BitVec.ofInt w x).toNat % 2 ^ n : Nat) : Int) = 0 := by
      rw [Int.natCast_emod, h1, hc, Int.natCast_pow]
      show x % 2 ^ w % 2 ^ n = 0
      rw [Int.emod_emod_of_dvd _ (pow2_dvd hw)]
      exact hx
    omega
  have h5 : (BitVec.ofInt w y).toNat < 2 ^ n := by omega
  rw [BitVec.toNat_zero]
  apply Nat.eq_of_testBit_eq
  intro i
  rw [Nat.testBit_and, Nat.zero_testBit]
  by_cases hi : i < n
  · have : (BitVec.ofInt w x).toNat.testBit i = false := by
      have h6 : ((BitVec.ofInt w x).toNat % 2 ^ n).testBit i = (BitVec.ofInt w x).toNat.testBit i := by rw [Nat.testBit_mod_two_pow]; simp [hi]
      rw [← h6, h3, Nat.zero_testBit]
    rw [this]; rfl
  · have : (BitVec.ofInt w y).toNat.testBit i = false := Nat.testBit_lt_two_pow (Nat.lt_of_lt_of_le h5 (Nat.pow_le_pow_right (by omega) (by omega)))
    rw [this, Bool.and_false]
theorem iOr_add {x y : Int} {n : Nat} (hn : n ≤ 32) (hx : x % 2 ^ n = 0) (hy : 0 ≤ y) (hy2 : y < 2 ^ n) : iOr x y = w32 (x + y) := by
  show (BitVec.ofInt 32 x ||| BitVec.ofInt 32 y).toInt = _
  rw [← BitVec.add_eq_or_of_and_eq_zero _ _ (and_zero hn hx hy hy2), ← BitVec.ofInt_add]
  exact of32_toInt _
theorem lOr_add {x y : Int} {n : Nat} (hn : n ≤ 64) (hx : x % 2 ^ n = 0) (hy : 0 ≤ y) (hy2 : y < 2 ^ n) : lOr x y = w64 (x + y) := by
  show (BitVec.ofInt 64 x ||| BitVec.ofInt 64 y).toInt = _
  rw [← BitVec.add_eq_or_of_and_eq_zero _ _ (and_zero hn hx hy hy2), ← BitVec.ofInt_add]
  exact of64_toInt _
theorem iOr_comm (x y : Int) : iOr x y = iOr y x := by unfold iOr; rw [Int32.or_comm]
theorem lOr_comm (x y : Int) : lOr x y = lOr y x := by unfold lOr; rw [Int64.or_comm]
theorem iDiv_eq {x y : Int} (hx : c32 x) (hy : c32 y) (h0 : 0 ≤ x) (h1 : 0 < y) : iDiv x y = x / y := by
  show (Int32.ofInt x / Int32.ofInt y).toInt = _
  rw [Int32.toInt_div, of32_id hx, of32_id hy, Int.tdiv_eq_ediv_of_nonneg h0]
  exact (w32_bmod _).symm.trans (w32_id ⟨by have := Int.ediv_nonneg h0 (Int.le_of_lt h1); omega, by have := Int.ediv_le_self y h0; unfold c32 at hx; omega⟩)
theorem iRem_eq {x y : Int} (hx : c32 x) (hy : c32 y) (h0 : 0 ≤ x) (h1 : 0 < y) : iRem x y = x % y := by
  show (Int32.ofInt x - Int32.ofInt x / Int32.ofInt y * Int32.ofInt y).toInt = _
  have hd : Int32.ofInt x / Int32.ofInt y = Int32.ofInt (x / y) := by
    apply Int32.toInt_inj.mp
    have := iDiv_eq hx hy h0 h1
    unfold iDiv at this
    rw [this, of32_toInt, w32_id ⟨by have := Int.ediv_nonneg h0 (Int.le_of_lt h1); omega, by have := Int.ediv_le_self y h0; unfold c32 at hx; omega⟩]
  rw [hd, of32_mul, of32_w, of32_sub, of32_w, of32_toInt]
  have h2 := Int.emod_add_mul_ediv x y
  have h3 : x - x / y * y = x % y := by rw [Int.mul_comm]; omega
  rw [h3, w32_id ⟨by have := Int.emod_nonneg x (Int.ne_of_gt h1); omega, by have := Int.emod_lt_of_pos x h1; unfold c32 at hy; omega⟩]
/-- an int as a word of 32 bits -/
def bv (x : Int) : BitVec 32 := BitVec.ofInt 32 x
theorem bv_inj {x y : Int} (hx : c32 x) (hy : c32 y) (h : bv x = bv y) : x = y := by
  rw [← ofI32 hx, ← ofI32 hy]; exact congrArg _ h
theorem bv_congr {x y : Int} (h : x % 4294967296 = y % 4294967296) : bv x = bv y := by
  unfold bv
  apply BitVec.eq_of_toNat_eq
  rw [BitVec.toNat_ofInt, BitVec.toNat_ofInt]
  exact congrArg _ h
theorem bv_mod {x y : Int} (h : bv x = bv y) : x % 4294967296 = y % 4294967296 := by
  have h1 := ofI_nat 32 x
  have h2 := ofI_nat 32 y
  unfold bv at h
  rw [h] at h1
  exact h1.symm.trans h2
theorem bv_w32 (x : Int) : bv (w32 x) = bv x := bv_congr (by unfold w32; omega)
theorem bv_w64 (x : Int) : bv (w64 x) = bv x := bv_congr (by unfold w64; omega)
theorem bv_add (x y : Int) : bv (x + y) = bv x + bv y := BitVec.ofInt_add _ _
theorem bv_iXor (x y : Int) : bv (iXor x y) = bv x ^^^ bv y := by
  show BitVec.ofInt 32 (BitVec.ofInt 32 x ^^^ BitVec.ofInt 32 y).toInt = _
  rw [BitVec.ofInt_toInt]; rfl
theorem bv_iAnd (x y : Int) : bv (iAnd x y) = bv x &&& bv y := by
  show BitVec.ofInt 32 (BitVec.ofInt 32 x &&& BitVec.ofInt 32 y).toInt = _
  rw [BitVec.ofInt_toInt]; rfl
theorem bv_iOr (x y : Int) : bv (iOr x y) = bv x ||| bv y := by
  show BitVec.ofInt 32 (BitVec.ofInt 32 x ||| BitVec.ofInt 32 y).toInt = _
  rw [BitVec.ofInt_toInt]; rfl
theorem bv_cut (z : BitVec 64) : bv z.toInt = z.setWidth 32 := by
  unfold bv
  apply BitVec.eq_of_toNat_eq
  rw [BitVec.toNat_ofInt, BitVec.toNat_setWidth, BitVec.toInt_eq_toNat_bmod]
  have h := z.isLt
  have : (((z.toNat : Int).bmod (2 ^ 64)) % ((2 ^ 32 : Nat) : Int)) = ((z.toNat % 2 ^ 32 : Nat) : Int) := by
    rw [show ((2 ^ 64 : Nat)) = 18446744073709551616 from rfl, ← w64_bmod, show ((2 ^ 32 : Nat) : Int) = 4294967296 from rfl]
    unfold w64
    omega
  rw [this, Int.toNat_natCast]
theorem bv_of64 (x : Int) : (BitVec.ofInt 64 x).setWidth 32 = bv x := by
  rw [← bv_cut]
  show bv (Int64.ofInt x).toInt = bv x
  rw [of64_toInt, bv_w64]
theorem bv_lXor (x y : Int) : bv (lXor x y) = bv x ^^^ bv y := by
  show bv (BitVec.ofInt 64 x ^^^ BitVec.ofInt 64 y).toInt = _
  rw [bv_cut, BitVec.setWidth_xor, bv_of64, bv_of64]
theorem bv_lAnd (x y : Int) : bv (lAnd x y) = bv x &&& bv y := by
  show bv (BitVec.ofInt 64 x &&& BitVec.ofInt 64 y).toInt = _
  rw [bv_cut, BitVec.setWidth_and, bv_of64, bv_of64]
theorem bv_lOr (x y : Int) : bv (lOr x y) = bv x ||| bv y := by
  show bv (BitVec.ofInt 64 x ||| BitVec.ofInt 64 y).toInt = _
  rw [bv_cut, BitVec.setWidth_or, bv_of64, bv_of64]
theorem bv_mul2 (x : Int) (n : Nat) : bv (x * 2 ^ n) = bv x <<< n := by
  unfold bv
  apply BitVec.eq_of_toNat_eq
  have h1 := ofI_nat 32 (x * 2 ^ n)
  have h2 := ofI_nat 32 x
  have h3 : (((BitVec.ofInt 32 x <<< n).toNat : Nat) : Int) = ((BitVec.ofInt 32 x).toNat * 2 ^ n : Int) % ((2 ^ 32 : Nat) : Int) := by
    rw [BitVec.toNat_shiftLeft, Nat.shiftLeft_eq, Int.natCast_emod, Int.natCast_mul, Int.natCast_pow]; rfl
  rw [h2, mulmod] at h3
  omega
theorem bv_iShl (x : Int) {n : Nat} (hn : n < 32) : bv (iShl x n) = bv x <<< n := by rw [iShl_eq hn, bv_w32, bv_mul2]
theorem bv_lShl (x : Int) {n : Nat} (hn : n < 64) : bv (lShl x n) = bv x <<< n := by rw [lShl_eq hn, bv_w64, bv_mul2]
theorem bv_div2 {x : Int} (h0 : 0 ≤ x) (h1 : x < 4294967296) (n : Nat) : bv (x / 2 ^ n) = bv x >>> n := by
  unfold bv
  apply BitVec.eq_of_toNat_eq
  have h2 := ofI_nat 32 x
  have h3 := ofI_nat 32 (x / 2 ^ n)
  have hp : (0 : Int) < 2 ^ n := Int.pow_pos (by decide)
  have h4 : 0 ≤ x / 2 ^ n := Int.ediv_nonneg h0 (Int.le_of_lt hp)
  have h5 : x / 2 ^ n ≤ x := Int.ediv_le_self _ h0
  rw [show ((2 ^ 32 : Nat) : Int) = 4294967296 from rfl, Int.emod_eq_of_lt (by omega) (by omega)] at h2 h3
  have h6 : (((BitVec.ofInt 32 x >>> n).toNat : Nat) : Int) = x / 2 ^ n := by
    rw [BitVec.toNat_ushiftRight, Nat.shiftRight_eq_div_pow, Int.natCast_ediv, h2, Int.natCast_pow]; rfl
  omega
theorem bv_iUshr (x : Int) {n : Nat} (hn : n < 32) : bv (iUshr x n) = bv x >>> n := by
  rw [iUshr_eq hn, bv_w32, bv_div2 (by omega) (by omega)]
  congr 1
  exact bv_congr (by omega)
theorem bv_lShr {x : Int} (h0 : 0 ≤ x) (h1 : x < 4294967296) {n : Nat} (hn : n < 64) : bv (lShr x n) = bv x >>> n := by
  rw [lShr_eq ⟨by omega, by omega⟩ hn, bv_div2 h0 h1]
