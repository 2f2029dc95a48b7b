/-! Poly: the class's end -/
theorem CR_mod (S : Nat → Int) : val (CR S) % PP = val S % PP := by rw [val_CR S, Int.add_mul_emod_self_left]
theorem val_lt {S : Nat → Int} (b : lb S 67108864) : 0 ≤ val S ∧ val S < PP + 5 := by
  have h0 := b 0 (by omega)
  have h1 := b 1 (by omega)
  have h2 := b 2 (by omega)
  have h3 := b 3 (by omega)
  have h4 := b 4 (by omega)
  unfold val PP
  omega
theorem whole_iff {S : Nat → Int} (b : lb S 67108864) : PP ≤ val S ↔ (67108859 ≤ S 0 ∧ S 1 = 67108863 ∧ S 2 = 67108863 ∧ S 3 = 67108863 ∧ S 4 = 67108863) := by
  have h0 := b 0 (by omega)
  have h1 := b 1 (by omega)
  have h2 := b 2 (by omega)
  have h3 := b 3 (by omega)
  have h4 := b 4 (by omega)
  unfold val PP
  generalize S 0 = s0 at *
  generalize S 1 = s1 at *
  generalize S 2 = s2 at *
  generalize S 3 = s3 at *
  generalize S 4 = s4 at *
  clear b
  constructor
  · intro h; omega
  · rintro ⟨g0, g1, g2, g3, g4⟩; subst g1 g2 g3 g4; omega
theorem c_wh {a : Nat} {S : Nat → Int} {h : Hp} (L : LTal h a) (J : JS h (a + 1) S) (f : Nat) : ∀ (k : Nat) (v : Int), k ≤ 5 → 5 - k < f → v = 0 ∨ v = 1 → ∃ r, f_cTally_isWhole_b21_lp f a v (k : Int) h = some (r, h) ∧ (r = 0 ∨ r = 1) ∧ (r = 1 ↔ v = 1 ∧ ∀ j, k ≤ j → j < 5 → S j = 67108863) := by
  induction f with
  | zero => intro k v _ hf; omega
  | succ f ih =>
    intro k v hk hf hv
    have l0 := L.1
    show ∃ r, f_cTally_isWhole_b21 (f_cTally_isWhole_b21_lp f) a v (k : Int) h = some (r, h) ∧ _
    unfold f_cTally_isWhole_b21
    by_cases hx : (5 : Int) ≤ k
    · rw [if_pos hx, if_pos hv]
      exact ⟨v, rfl, hv, fun e => ⟨e, fun j h1 h2 => by omega⟩, fun e => e.1⟩
    · rw [if_neg hx]
      unfold f_cTally_isWhole_b47 f_cTally_isWhole_b48
      simp only [w_k1 (show k < 1000000000 by omega), Int.toNat_natCast]
      by_cases h0 : v = 0
      · rw [if_pos h0]
        obtain ⟨r, e1, e2, e3⟩ := ih (k + 1) 0 (by omega) (by omega) (Or.inl rfl)
        refine ⟨r, e1, e2, ?_⟩
        rw [e3]
        constructor
        · intro z; exact absurd z.1 (by decide)
        · intro z; omega
      · rw [if_neg h0, L.r0_0, L.l1, if_neg (by omega), if_pos (ix16 (by omega)), J k (by omega)]
        have hv1 : v = 1 := by omega
        by_cases h1 : S k = 67108863
        · rw [if_neg (fun z => z h1)]
          obtain ⟨r, e1, e2, e3⟩ := ih (k + 1) 1 (by omega) (by omega) (Or.inr rfl)
          refine ⟨r, e1, e2, ?_⟩
          rw [e3]
          constructor
          · intro z
            refine ⟨hv1, fun j g1 g2 => ?_⟩
            by_cases hj : j = k
            · rw [hj]; exact h1
            · exact z.2 j (by omega) g2
          · intro z; exact ⟨rfl, fun j g1 g2 => z.2 j (by omega) g2⟩
        · rw [if_pos h1]
          obtain ⟨r, e1, e2, e3⟩ := ih (k + 1) 0 (by omega) (by omega) (Or.inl rfl)
          refine ⟨r, e1, e2, ?_⟩
          rw [e3]
          constructor
          · intro z; exact absurd z.1 (by decide)
          · intro z; exact absurd (z.2 k (by omega) (by omega)) h1
theorem c_whole {a : Nat} {S : Nat → Int} {h : Hp} (L : LTal h a) (J : JS h (a + 1) S) (b : lb S 67108864) : ∃ r, f_cTally_isWhole a h = some (r, h) ∧ (r = 0 ∨ r = 1) ∧ (r = 1 ↔ PP ≤ val S) := by
  have l0 := L.1
  unfold f_cTally_isWhole f_cTally_isWhole_b18
  rw [L.r0_0, L.l1, if_neg (by omega), if_pos ⟨by decide, by decide⟩, show Int.toNat 0 = 0 from rfl, J 0 (by omega), whole_iff b]
  by_cases h0 : S 0 < 67108859
  · rw [if_pos h0]
    obtain ⟨r, e1, e2, e3⟩ := c_wh L J FU 1 0 (by omega) (by unfold FU; omega) (Or.inl rfl)
    refine ⟨r, e1, e2, ?_⟩
    rw [e3]
    constructor
    · intro z; exact absurd z.1 (by decide)
    · intro z; omega
  · rw [if_neg h0]
    obtain ⟨r, e1, e2, e3⟩ := c_wh L J FU 1 1 (by omega) (by unfold FU; omega) (Or.inr rfl)
    refine ⟨r, e1, e2, ?_⟩
    rw [e3]
    constructor
    · intro z; exact ⟨by omega, z.2 1 (by omega) (by omega), z.2 2 (by omega) (by omega), z.2 3 (by omega) (by omega), z.2 4 (by omega) (by omega)⟩
    · rintro ⟨g0, g1, g2, g3, g4⟩
      refine ⟨rfl, fun j j1 j2 => ?_⟩
      rcases (by omega : j = 1 ∨ j = 2 ∨ j = 3 ∨ j = 4) with e | e | e | e <;> subst e <;> assumption
/-- the two words of the limbs -/
theorem c_ab {S : Nat → Int} (b : lb S 67108864) : lOr (lOr (S 0) (lShl (S 1) 26)) (lShl (S 2) 52) % 18446744073709551616 = val S % 18446744073709551616 ∧ lOr (lOr (lUshr (S 2) 12) (lShl (S 3) 14)) (lShl (S 4) 40) % 18446744073709551616 = val S / 18446744073709551616 % 18446744073709551616 := by
  have h0 := b 0 (by omega)
  have h1 := b 1 (by omega)
  have h2 := b 2 (by omega)
  have h3 := b 3 (by omega)
  have h4 := b 4 (by omega)
  clear b
  unfold val
  generalize S 0 = s0 at *
  generalize S 1 = s1 at *
  generalize S 2 = s2 at *
  generalize S 3 = s3 at *
  generalize S 4 = s4 at *
  have p26 : (2 : Int) ^ 26 = 67108864 := rfl
  have p52 : (2 : Int) ^ 52 = 4503599627370496 := rfl
  have p14 : (2 : Int) ^ 14 = 16384 := rfl
  have p40 : (2 : Int) ^ 40 = 1099511627776 := rfl
  constructor
  · have e1 : lShl s1 26 = s1 * 67108864 := by
      rw [show lShl s1 26 = w64 (s1 * 67108864) from lShl_eq (n := 26) (by decide), w64_id ⟨by omega, by omega⟩]
    have e2 : lShl s2 52 = w64 (s2 * 4503599627370496) := lShl_eq (n := 52) (by decide)
    rw [e1, e2, lOr_comm s0, lOr_add (x := s1 * 67108864) (y := s0) (n := 26) (by decide) (by rw [p26]; omega) (by omega) (by rw [p26]; omega), w64_id (x := s1 * 67108864 + s0) ⟨by omega, by omega⟩, lOr_comm, lOr_add (n := 52) (by decide) (by rw [p52]; clear e1 e2; unfold w64; omega) (by omega) (by rw [p52]; omega)]
    clear e1 e2
    unfold w64
    omega
  · have e1 : lUshr s2 12 = s2 / 4096 := by
      rw [show lUshr s2 12 = w64 (s2 % 18446744073709551616 / 4096) from lUshr_eq (n := 12) (by decide), w64_id ⟨by omega, by omega⟩]; omega
    have e2 : lShl s3 14 = s3 * 16384 := by
      rw [show lShl s3 14 = w64 (s3 * 16384) from lShl_eq (n := 14) (by decide), w64_id ⟨by omega, by omega⟩]
    have e3 : lShl s4 40 = w64 (s4 * 1099511627776) := lShl_eq (n := 40) (by decide)
    rw [e1, e2, e3, lOr_comm (s2 / 4096), lOr_add (x := s3 * 16384) (y := s2 / 4096) (n := 14) (by decide) (by rw [p14]; omega) (by omega) (by rw [p14]; omega), w64_id (x := s3 * 16384 + s2 / 4096) ⟨by omega, by omega⟩, lOr_comm, lOr_add (n := 40) (by decide) (by rw [p40]; clear e1 e2 e3; unfold w64; omega) (by omega) (by rw [p40]; omega)]
    clear e1 e2 e3
    unfold w64
    omega
theorem c_cmpU (x y : Int) (h : Hp) (hx : c64 x) (hy : c64 y) : ∃ r, f_jLong_compareUnsigned x y h = some (r, h) ∧ (0 ≤ r ↔ y % 18446744073709551616 ≤ x % 18446744073709551616) := by
  unfold f_jLong_compareUnsigned f_jLong_compare
  have e : ∀ z, c64 z → w64 (z + -9223372036854775808) = z % 18446744073709551616 - 9223372036854775808 := fun z hz => by unfold c64 at hz; unfold w64; omega
  rw [e x hx, e y hy]
  by_cases h1 : y % 18446744073709551616 - 9223372036854775808 ≤ x % 18446744073709551616 - 9223372036854775808
  · rw [if_pos h1]
    by_cases h2 : x % 18446744073709551616 - 9223372036854775808 ≠ y % 18446744073709551616 - 9223372036854775808
    · rw [if_pos h2, b2_some]; exact ⟨1, rfl, fun _ => by omega, fun _ => by decide⟩
    · rw [if_neg h2, b2_some]; exact ⟨0, rfl, fun _ => by omega, fun _ => by decide⟩
  · rw [if_neg h1, b2_some]; exact ⟨-1, rfl, fun z => absurd z (by decide), fun _ => by omega⟩
/-- byte k of a number -/
def byt (T : Int) (k : Nat) : Int := T / 2 ^ (8 * k) % 256
theorem byt_lo {x : Int} (hx : c64 x) {k : Nat} (hk : k < 8) : i8 (i8 (w32 (lShr x ((8 * k : Nat) : Int)))) = i8 (byt (x % 18446744073709551616) k) := by
  rw [lShr_eq hx (by omega), i8_1]
  refine i8_congr ?_
  unfold byt
  unfold c64 at hx
  rcases (by omega : k = 0 ∨ k = 1 ∨ k = 2 ∨ k = 3 ∨ k = 4 ∨ k = 5 ∨ k = 6 ∨ k = 7) with e | e | e | e | e | e | e | e <;> subst e
  · rw [show (2 : Int) ^ (8 * 0) = 1 from rfl]; unfold w32; omega
  · rw [show (2 : Int) ^ (8 * 1) = 256 from rfl]; unfold w32; omega
  · rw [show (2 : Int) ^ (8 * 2) = 65536 from rfl]; unfold w32; omega
  · rw [show (2 : Int) ^ (8 * 3) = 16777216 from rfl]; unfold w32; omega
  · rw [show (2 : Int) ^ (8 * 4) = 4294967296 from rfl]; unfold w32; omega
  · rw [show (2 : Int) ^ (8 * 5) = 1099511627776 from rfl]; unfold w32; omega
  · rw [show (2 : Int) ^ (8 * 6) = 281474976710656 from rfl]; unfold w32; omega
  · rw [show (2 : Int) ^ (8 * 7) = 72057594037927936 from rfl]; unfold w32; omega
theorem byt_split {T : Int} {k : Nat} (hk : k < 8) : byt (T % 18446744073709551616) k = byt T k ∧ byt (T / 18446744073709551616 % 18446744073709551616) k = byt T (8 + k) := by
  unfold byt
  rcases (by omega : k = 0 ∨ k = 1 ∨ k = 2 ∨ k = 3 ∨ k = 4 ∨ k = 5 ∨ k = 6 ∨ k = 7) with e | e | e | e | e | e | e | e <;> subst e
  · rw [show (2 : Int) ^ (8 * 0) = 1 from rfl, show (2 : Int) ^ (8 * (8 + 0)) = 18446744073709551616 from rfl]; omega
  · rw [show (2 : Int) ^ (8 * 1) = 256 from rfl, show (2 : Int) ^ (8 * (8 + 1)) = 18446744073709551616 * 256 from rfl]; omega
  · rw [show (2 : Int) ^ (8 * 2) = 65536 from rfl, show (2 : Int) ^ (8 * (8 + 2)) = 18446744073709551616 * 65536 from rfl]; omega
  · rw [show (2 : Int) ^ (8 * 3) = 16777216 from rfl, show (2 : Int) ^ (8 * (8 + 3)) = 18446744073709551616 * 16777216 from rfl]; omega
  · rw [show (2 : Int) ^ (8 * 4) = 4294967296 from rfl, show (2 : Int) ^ (8 * (8 + 4)) = 18446744073709551616 * 4294967296 from rfl]; omega
  · rw [show (2 : Int) ^ (8 * 5) = 1099511627776 from rfl, show (2 : Int) ^ (8 * (8 + 5)) = 18446744073709551616 * 1099511627776 from rfl]; omega
  · rw [show (2 : Int) ^ (8 * 6) = 281474976710656 from rfl, show (2 : Int) ^ (8 * (8 + 6)) = 18446744073709551616 * 281474976710656 from rfl]; omega
  · rw [show (2 : Int) ^ (8 * 7) = 72057594037927936 from rfl, show (2 : Int) ^ (8 * (8 + 7)) = 18446744073709551616 * 72057594037927936 from rfl]; omega
