/-! numbers of packets -/
theorem lAnd_neg {x : Int} {n : Nat} (hn : n < 64) : lAnd x (-(2 ^ n)) = w64 (x - x % 2 ^ n) := by
  have h1 : (BitVec.ofInt 64 x &&& BitVec.ofInt 64 (2 ^ n - 1)).toInt = x % 2 ^ n := and_mask hn
  have h2 : BitVec.ofInt 64 (-(2 ^ n)) = ~~~ (BitVec.ofInt 64 (2 ^ n - 1)) := by
    rw [BitVec.not_eq_neg_add, ← BitVec.ofInt_neg]
    apply BitVec.eq_of_toInt_eq
    rw [show (-(2 ^ n) : Int) = -(2 ^ n - 1) - 1 by lia]
    rw [BitVec.toInt_sub, BitVec.toInt_ofInt, BitVec.toInt_ofInt]
    simp
  have h3 : BitVec.ofInt 64 x = (BitVec.ofInt 64 x &&& BitVec.ofInt 64 (2 ^ n - 1)) + (BitVec.ofInt 64 x &&& ~~~ (BitVec.ofInt 64 (2 ^ n - 1))) := by
    rw [BitVec.add_eq_or_of_and_eq_zero]
    · apply BitVec.eq_of_getLsbD_eq
      intro i hi
      simp [hi]
      generalize (BitVec.ofInt 64 x)[i] = a
      generalize (BitVec.ofInt 64 (2 ^ n - 1))[i] = b
      cases a <;> cases b <;> rfl
    · apply BitVec.eq_of_getLsbD_eq
      intro i hi
      simp [hi]
      generalize (BitVec.ofInt 64 x)[i] = a
      generalize (BitVec.ofInt 64 (2 ^ n - 1))[i] = b
      cases a <;> cases b <;> simp
  show (BitVec.ofInt 64 x &&& BitVec.ofInt 64 (-(2 ^ n))).toInt = _
  rw [h2]
  have h4 : BitVec.ofInt 64 x &&& ~~~ (BitVec.ofInt 64 (2 ^ n - 1)) = BitVec.ofInt 64 x - (BitVec.ofInt 64 x &&& BitVec.ofInt 64 (2 ^ n - 1)) := by
    have hh : ∀ X P Q : BitVec 64, X = P + Q → Q = X - P := fun X P Q h => by rw [h, BitVec.add_comm, BitVec.add_sub_cancel]
    exact hh _ _ _ h3
  rw [h4, BitVec.toInt_sub, h1, BitVec.toInt_ofInt, w64_bmod]
  simp
/-- the number whose last bytes are b, of a window M, next to L + 1 -/
def gwN (L M b : Int) : Int :=
  if (L + 1) - (L + 1) % M + b ≤ (L + 1) - M / 2 ∧ (L + 1) - (L + 1) % M + b ≤ 4611686018427387903 - M then (L + 1) - (L + 1) % M + b + M
  else if (L + 1) + M / 2 < (L + 1) - (L + 1) % M + b ∧ M ≤ (L + 1) - (L + 1) % M + b then (L + 1) - (L + 1) % M + b - M
  else (L + 1) - (L + 1) % M + b
def gw (L M b : Int) : Int := if 4611686018427387903 < gwN L M b then gwN L M b - M else gwN L M b
theorem c_grow {L b M : Int} {n : Nat} {h : Hp} (hL : -1 ≤ L ∧ L ≤ 4611686018427387903) (hn : 1 ≤ n ∧ n ≤ 4) (hM : M = 2 ^ (8 * n)) (hb : 0 ≤ b ∧ b < M) : f_cCounting_grow L b (n : Int) h = some (gw L M b, h) := by
  have cs : n = 1 ∨ n = 2 ∨ n = 3 ∨ n = 4 := by lia
  have m4 : M ≤ 4294967296 ∧ 256 ≤ M ∧ M % 2 = 0 := by rcases cs with c | c | c | c <;> subst c <;> subst hM <;> decide
  have e1 : lShl 1 (w32 (8 * (n : Int))) = M := by rcases cs with c | c | c | c <;> subst c <;> subst hM <;> decide
  have e2 : lDiv M 2 = M / 2 := by rcases cs with c | c | c | c <;> subst c <;> subst hM <;> decide
  have e3 : w64 (L + 1) = L + 1 := w64_id ⟨by lia, by lia⟩
  have e4 : w64 (-M) = -(2 ^ (8 * n)) := by rw [← hM]; exact w64_id ⟨by lia, by lia⟩
  have md : 0 ≤ (L + 1) % M ∧ (L + 1) % M < M := ⟨Int.emod_nonneg _ (by lia), Int.emod_lt_of_pos _ (by lia)⟩
  have le : (L + 1) % M ≤ L + 1 := by
    have d := Int.mul_ediv_add_emod (L + 1) M
    have : 0 ≤ M * ((L + 1) / M) := Int.mul_nonneg (by lia) (Int.ediv_nonneg (by lia) (by lia))
    lia
  have e5 : lAnd (L + 1) (-(2 ^ (8 * n))) = L + 1 - (L + 1) % M := by
    rw [lAnd_neg (by lia), ← hM]
    exact w64_id ⟨by lia, by lia⟩
  have e6 : lOr (L + 1 - (L + 1) % M) b = L + 1 - (L + 1) % M + b := by
    rw [lOr_add (n := 8 * n) (by lia) (by rw [← hM]; exact Int.emod_eq_zero_of_dvd (Int.dvd_self_sub_emod)) hb.1 (by rw [← hM]; exact hb.2)]
    exact w64_id ⟨by lia, by lia⟩
  unfold f_cCounting_grow f_cCounting_grow_b65 f_cCounting_grow_b91 gw gwN
  simp only [lt1_eq, e1, e2, e3, e4, e5, e6]
  clear e1 e2 e3 e4 e5 e6
  generalize (L + 1) % M = q at *
  have w1 : w64 (L + 1 - M / 2) = L + 1 - M / 2 := w64_id ⟨by lia, by lia⟩
  have w2 : w64 (4611686018427387903 - M) = 4611686018427387903 - M := w64_id ⟨by lia, by lia⟩
  have w3 : w64 (L + 1 + M / 2) = L + 1 + M / 2 := w64_id ⟨by lia, by lia⟩
  have w4 : w64 (L + 1 - q + b + M) = L + 1 - q + b + M := w64_id ⟨by lia, by lia⟩
  have w5 : w64 (L + 1 - q + b - M) = L + 1 - q + b - M := w64_id ⟨by lia, by lia⟩
  have w6 : w64 (L + 1 - q + b + M - M) = L + 1 - q + b := by rw [w64_id ⟨by lia, by lia⟩]; lia
  have w7 : w64 (L + 1 - q + b - M - M) = L + 1 - q + b - M - M := w64_id ⟨by lia, by lia⟩
  simp only [w1, w2, w3, w4, w5, w6, w7]
  clear w1 w2 w3 w4 w5 w6 w7 cs hM
  have fin : ∀ x y : Int, x = y → (some (x, h) : Option (Int × Hp)) = some (y, h) := fun x y e => by rw [e]
  by_cases a1 : L + 1 - M / 2 < L + 1 - q + b
  · rw [if_pos a1, if_neg (show ¬ (L + 1 - q + b ≤ L + 1 - M / 2 ∧ L + 1 - q + b ≤ 4611686018427387903 - M) by lia)]
    (repeat' split) <;> exact fin _ _ (by lia)
  · rw [if_neg a1]
    by_cases a2 : 4611686018427387903 - M < L + 1 - q + b
    · rw [if_pos a2, if_neg (show ¬ (L + 1 - q + b ≤ L + 1 - M / 2 ∧ L + 1 - q + b ≤ 4611686018427387903 - M) by lia)]
      (repeat' split) <;> exact fin _ _ (by lia)
    · rw [if_neg a2, if_pos (show L + 1 - q + b ≤ L + 1 - M / 2 ∧ L + 1 - q + b ≤ 4611686018427387903 - M by lia)]
      (repeat' split) <;> exact fin _ _ (by lia)
