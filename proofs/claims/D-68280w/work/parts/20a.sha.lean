/-! SHA-256 as a function of bytes; the class's Hash computes it -/
def rr (n : Nat) (x : BitVec 32) : BitVec 32 := (x >>> n) ||| (x <<< (32 - n))
def sg0 (x : BitVec 32) : BitVec 32 := rr 7 x ^^^ rr 18 x ^^^ (x >>> 3)
def sg1 (x : BitVec 32) : BitVec 32 := rr 17 x ^^^ rr 19 x ^^^ (x >>> 10)
def bS1 (x : BitVec 32) : BitVec 32 := rr 6 x ^^^ rr 11 x ^^^ rr 25 x
def bS0 (x : BitVec 32) : BitVec 32 := rr 2 x ^^^ rr 13 x ^^^ rr 22 x
def chF (e f g : BitVec 32) : BitVec 32 := g ^^^ (e &&& (f ^^^ g))
def mjF (a b c : BitVec 32) : BitVec 32 := (a &&& b) ||| (c &&& (a ||| b))
def sch (m : Nat → BitVec 32) (t : Nat) : BitVec 32 := if t < 16 then m t else sch m (t - 16) + sg0 (sch m (t - 15)) + sch m (t - 7) + sg1 (sch m (t - 2))
termination_by t
decreasing_by all_goals omega
def KK (t : Nat) : BitVec 32 := bv (sRO.getD t 0)
def wd (B : Nat → Int) (t : Nat) : BitVec 32 := bv ((((B (4 * t) % 256) * 256 + B (4 * t + 1) % 256) * 256 + B (4 * t + 2) % 256) * 256 + B (4 * t + 3) % 256)
def shP (W : Nat → BitVec 32) (s : Nat → BitVec 32) (t : Nat) : BitVec 32 := s 7 + bS1 (s 4) + chF (s 4) (s 5) (s 6) + KK t + W t
def shS (W : Nat → BitVec 32) (s : Nat → BitVec 32) (t : Nat) : Nat → BitVec 32 := fun i => if i = 0 then shP W s t + (bS0 (s 0) + mjF (s 0) (s 1) (s 2)) else if i = 4 then s 3 + shP W s t else s (i - 1)
def shN (W : Nat → BitVec 32) (s : Nat → BitVec 32) : Nat → (Nat → BitVec 32)
  | 0 => s
  | n + 1 => shS W (shN W s n) n
def shC (H : Nat → BitVec 32) (B : Nat → Int) : Nat → BitVec 32 := fun i => H i + shN (sch (wd B)) H 64 i
def H0 (i : Nat) : BitVec 32 := bv (sST.getD i 0)
def shK (B : Nat → Int) : Nat → (Nat → BitVec 32)
  | 0 => H0
  | k + 1 => shC (shK B k) (fun j => B (64 * k + j))
/-- a message with what is behind it -/
def shPad (n : Nat) (B : Nat → Int) (j : Nat) : Int := if j < n then B j else if j = n then 128 else if j < (n + 8) / 64 * 64 + 56 then 0 else (8 * (n : Int)) / 2 ^ (8 * ((n + 8) / 64 * 64 + 63 - j))
/-- byte k of the digest of n bytes -/
def SHA (n : Nat) (B : Nat → Int) (k : Nat) : Int := ((shK (shPad n B) ((n + 8) / 64 + 1) (k / 4)).toNat : Int) / 2 ^ (24 - 8 * (k % 4)) % 256
theorem neg_sh : ∀ n : Nat, n < 32 → 0 < n → Int32.ofInt (w32 (-(n : Int))) &&& 31 = Int32.ofInt ((32 - n : Nat) : Int) &&& 31 := by decide
theorem bv_rot (x : Int) {n : Nat} (h0 : 0 < n) (hn : n < 32) : bv (iOr (iUshr x (n : Int)) (iShl x (w32 (-(n : Int))))) = rr n (bv x) := by
  have e : iShl x (w32 (-(n : Int))) = iShl x ((32 - n : Nat) : Int) := by unfold iShl; rw [neg_sh n hn h0]
  rw [bv_iOr, bv_iUshr x hn, e, bv_iShl x (by omega)]
  rfl
theorem bv_rot2 (x : Int) : bv (iOr (iUshr x 2) (iShl x (w32 (-2)))) = rr 2 (bv x) := bv_rot x (n := 2) (by decide) (by decide)
theorem bv_rot6 (x : Int) : bv (iOr (iUshr x 6) (iShl x (w32 (-6)))) = rr 6 (bv x) := bv_rot x (n := 6) (by decide) (by decide)
theorem bv_rot7 (x : Int) : bv (iOr (iUshr x 7) (iShl x (w32 (-7)))) = rr 7 (bv x) := bv_rot x (n := 7) (by decide) (by decide)
theorem bv_rot11 (x : Int) : bv (iOr (iUshr x 11) (iShl x (w32 (-11)))) = rr 11 (bv x) := bv_rot x (n := 11) (by decide) (by decide)
theorem bv_rot13 (x : Int) : bv (iOr (iUshr x 13) (iShl x (w32 (-13)))) = rr 13 (bv x) := bv_rot x (n := 13) (by decide) (by decide)
theorem bv_rot17 (x : Int) : bv (iOr (iUshr x 17) (iShl x (w32 (-17)))) = rr 17 (bv x) := bv_rot x (n := 17) (by decide) (by decide)
theorem bv_rot18 (x : Int) : bv (iOr (iUshr x 18) (iShl x (w32 (-18)))) = rr 18 (bv x) := bv_rot x (n := 18) (by decide) (by decide)
theorem bv_rot19 (x : Int) : bv (iOr (iUshr x 19) (iShl x (w32 (-19)))) = rr 19 (bv x) := bv_rot x (n := 19) (by decide) (by decide)
theorem bv_rot22 (x : Int) : bv (iOr (iUshr x 22) (iShl x (w32 (-22)))) = rr 22 (bv x) := bv_rot x (n := 22) (by decide) (by decide)
theorem bv_rot25 (x : Int) : bv (iOr (iUshr x 25) (iShl x (w32 (-25)))) = rr 25 (bv x) := bv_rot x (n := 25) (by decide) (by decide)
theorem bv_us3 (x : Int) : bv (iUshr x 3) = bv x >>> 3 := bv_iUshr x (n := 3) (by decide)
theorem bv_us10 (x : Int) : bv (iUshr x 10) = bv x >>> 10 := bv_iUshr x (n := 10) (by decide)
/-- the statics that are read: START, ROUNDS -/
def SC (h : Hp) : Prop := (hR h 40 0 = 31 ∧ hR h 40 1 = 32 ∧ ln h 31 = 8 ∧ ln h 32 = 64) ∧ (∀ k, hI h 31 k = sST.getD k 0) ∧ (∀ k, hI h 32 k = sRO.getD k 0)
/-- a Hash lies at a -/
def LHash (h : Hp) (a : Nat) : Prop := 64 ≤ a ∧ hR h a 0 = a + 1 ∧ hR h a 1 = a + 2 ∧ hR h a 2 = a + 3 ∧ ln h (a + 1) = 8 ∧ ln h (a + 2) = 64 ∧ ln h (a + 3) = 64
theorem byte255 (x : Int) : iAnd x 255 = x % 256 := iAnd_mask (n := 8) (by decide) rfl
theorem word4 (p q r s : Int) : bv (iOr (iOr (iOr (iShl (iAnd p 255) 24) (iShl (iAnd q 255) 16)) (iShl (iAnd r 255) 8)) (iAnd s 255)) = bv ((((p % 256) * 256 + q % 256) * 256 + r % 256) * 256 + s % 256) := by
  have e24 := iShl_eq (x := p % 256) (n := 24) (by decide)
  have e16 := iShl_eq (x := q % 256) (n := 16) (by decide)
  have e8 := iShl_eq (x := r % 256) (n := 8) (by decide)
  have p1 : (2 : Int) ^ 24 = 16777216 := rfl
  have p2 : (2 : Int) ^ 16 = 65536 := rfl
  have p3 : (2 : Int) ^ 8 = 256 := rfl
  rw [p1] at e24; rw [p2] at e16; rw [p3] at e8
  rw [byte255, byte255, byte255, byte255, show iShl (p % 256) 24 = _ from e24, show iShl (q % 256) 16 = _ from e16, show iShl (r % 256) 8 = _ from e8]
  have hp : 0 ≤ p % 256 ∧ p % 256 < 256 := by omega
  have hq : 0 ≤ q % 256 ∧ q % 256 < 256 := by omega
  have hr : 0 ≤ r % 256 ∧ r % 256 < 256 := by omega
  have hs : 0 ≤ s % 256 ∧ s % 256 < 256 := by omega
  generalize p % 256 = P at *
  generalize q % 256 = Q at *
  generalize r % 256 = R at *
  generalize s % 256 = S at *
  rw [w32_id (x := Q * 65536) ⟨by omega, by omega⟩, w32_id (x := R * 256) ⟨by omega, by omega⟩]
  rw [iOr_add (x := w32 (P * 16777216)) (y := Q * 65536) (n := 24) (by decide) (by rw [p1]; unfold w32; omega) (by omega) (by rw [p1]; omega)]
  rw [w32_congr (x := w32 (P * 16777216) + Q * 65536) (y := P * 16777216 + Q * 65536) (by unfold w32; omega)]
  rw [iOr_add (x := w32 (P * 16777216 + Q * 65536)) (y := R * 256) (n := 16) (by decide) (by rw [p2]; unfold w32; omega) (by omega) (by rw [p2]; omega)]
  rw [w32_congr (x := w32 (P * 16777216 + Q * 65536) + R * 256) (y := P * 16777216 + Q * 65536 + R * 256) (by unfold w32; omega)]
  rw [iOr_add (x := w32 (P * 16777216 + Q * 65536 + R * 256)) (y := S) (n := 8) (by decide) (by rw [p3]; unfold w32; omega) (by omega) (by rw [p3]; omega)]
  rw [w32_congr (x := w32 (P * 16777216 + Q * 65536 + R * 256) + S) (y := P * 16777216 + Q * 65536 + R * 256 + S) (by unfold w32; omega)]
  rw [bv_w32]
  refine bv_congr ?_
  omega
