/-! numbers of packets, the model -/
theorem lDiv_eq {x y : Int} (hx : c64 x) (hy : c64 y) (h0 : 0 ≤ x) (h1 : 0 < y) : lDiv x y = x / y := by
  show (Int64.ofInt x / Int64.ofInt y).toInt = _
  rw [Int64.toInt_div, of64_id hx, of64_id hy, Int.tdiv_eq_ediv_of_nonneg h0]
  exact (w64_bmod _).symm.trans (w64_id ⟨by have := Int.ediv_nonneg h0 (Int.le_of_lt h1); omega, by have := Int.ediv_le_self y h0; unfold c64 at hx; omega⟩)
def grS (aim v best off : Int) : Int × Int :=
  if v < 0 ∨ 4611686018427387903 < v then (best, off)
  else if best < 0 ∨ (if aim ≤ v then v - aim else aim - v) ≤ off then (v, if aim ≤ v then v - aim else aim - v)
  else (best, off)
theorem m_gr1 {b M aim Q v best off : Int} {f : Nat} {k : Int} {h : Hp} (m0 : M ≠ 0) (hq : lDiv aim M = Q) (k2 : k < 2) (hv : w64 (w64 (w64 (Q + k) * M) + b) = v) (ha : 0 ≤ aim ∧ aim ≤ 4611686018427387904) : f_mSide_grown_b25_lp (f + 1) b M aim best off k h = f_mSide_grown_b25_lp f b M aim (grS aim v best off).1 (grS aim v best off).2 (w32 (k + 1)) h := by
  show f_mSide_grown_b25 (f_mSide_grown_b25_lp f) b M aim best off k h = _
  unfold f_mSide_grown_b25 f_mSide_grown_b112 f_mSide_grown_b87 f_mSide_grown_b104 f_mSide_grown_b112
  rw [if_neg (by lia), if_neg m0, lt1_eq, hq, hv]
  by_cases c1 : v < 0
  · have e : grS aim v best off = (best, off) := by unfold grS; rw [if_pos (Or.inl c1)]
    rw [if_pos c1, e]
  · rw [if_neg c1]
    by_cases c2 : v ≤ 4611686018427387903
    · rw [if_pos c2]
      have n1 : ¬ (v < 0 ∨ 4611686018427387903 < v) := by lia
      have w1 : w64 (v - aim) = v - aim := w64_id ⟨by lia, by lia⟩
      have w2 : w64 (aim - v) = aim - v := w64_id ⟨by lia, by lia⟩
      rw [w1, w2]
      by_cases c3 : aim ≤ v
      · rw [if_pos c3]
        by_cases c4 : best < 0
        · have e : grS aim v best off = (v, v - aim) := by unfold grS; rw [if_neg n1, if_pos c3, if_pos (Or.inl c4)]
          rw [if_pos c4, e]
        · rw [if_neg c4]
          by_cases c5 : off < v - aim
          · have e : grS aim v best off = (best, off) := by unfold grS; rw [if_neg n1, if_pos c3, if_neg (by lia)]
            rw [if_pos c5, e]
          · have e : grS aim v best off = (v, v - aim) := by unfold grS; rw [if_neg n1, if_pos c3, if_pos (by lia)]
            rw [if_neg c5, e]
      · rw [if_neg c3]
        by_cases c4 : best < 0
        · have e : grS aim v best off = (v, aim - v) := by unfold grS; rw [if_neg n1, if_neg c3, if_pos (Or.inl c4)]
          rw [if_pos c4, e]
        · rw [if_neg c4]
          by_cases c5 : off < aim - v
          · have e : grS aim v best off = (best, off) := by unfold grS; rw [if_neg n1, if_neg c3, if_neg (by lia)]
            rw [if_pos c5, e]
          · have e : grS aim v best off = (v, aim - v) := by unfold grS; rw [if_neg n1, if_neg c3, if_pos (by lia)]
            rw [if_neg c5, e]
    · have e : grS aim v best off = (best, off) := by unfold grS; rw [if_pos (by lia)]
      rw [if_neg c2, e]
theorem gr_gw {L M b T : Int} (hL : -1 ≤ L ∧ L ≤ 4611686018427387903) (hM : M ≤ 4294967296 ∧ 256 ≤ M ∧ M % 2 = 0) (hb : 0 ≤ b ∧ b < M) (hT : (L + 1) - (L + 1) % M = T) (t0 : 0 ≤ T ∧ T ≤ L + 1 ∧ L + 1 < T + M) : (grS (L + 1) (T + M + b) (grS (L + 1) (T + b) (grS (L + 1) (T - M + b) (-1) 0).1 (grS (L + 1) (T - M + b) (-1) 0).2).1 (grS (L + 1) (T + b) (grS (L + 1) (T - M + b) (-1) 0).1 (grS (L + 1) (T - M + b) (-1) 0).2).2).1 = gw L M b := by
  unfold gw gwN
  rw [hT]
  clear hT
  by_cases c1 : T - M + b < 0
  · have e1 : grS (L + 1) (T - M + b) (-1) 0 = (-1, 0) := by unfold grS; rw [if_pos (Or.inl c1)]
    rw [e1]
    dsimp only
    by_cases c2 : 4611686018427387903 < T + b
    · lia
    · have e2 : grS (L + 1) (T + b) (-1) 0 = (T + b, if L + 1 ≤ T + b then T + b - (L + 1) else L + 1 - (T + b)) := by unfold grS; rw [if_neg (by lia), if_pos (by lia)]
      rw [e2]
      dsimp only
      unfold grS
      (repeat' split) <;> dsimp only <;> lia
  · have e1 : grS (L + 1) (T - M + b) (-1) 0 = (T - M + b, if L + 1 ≤ T - M + b then T - M + b - (L + 1) else L + 1 - (T - M + b)) := by unfold grS; rw [if_neg (by lia), if_pos (by lia)]
    rw [e1, if_neg (by lia)]
    dsimp only
    by_cases c2 : 4611686018427387903 < T + b
    · have e2 : grS (L + 1) (T + b) (T - M + b) (L + 1 - (T - M + b)) = (T - M + b, L + 1 - (T - M + b)) := by unfold grS; rw [if_pos (Or.inr c2)]
      rw [e2]
      dsimp only
      unfold grS
      (repeat' split) <;> dsimp only <;> lia
    · by_cases c3 : (if L + 1 ≤ T + b then T + b - (L + 1) else L + 1 - (T + b)) ≤ L + 1 - (T - M + b)
      · have e2 : grS (L + 1) (T + b) (T - M + b) (L + 1 - (T - M + b)) = (T + b, if L + 1 ≤ T + b then T + b - (L + 1) else L + 1 - (T + b)) := by unfold grS; rw [if_neg (by lia), if_pos (Or.inr c3)]
        rw [e2]
        dsimp only
        unfold grS
        (repeat' split) <;> dsimp only <;> grind
      · have e2 : grS (L + 1) (T + b) (T - M + b) (L + 1 - (T - M + b)) = (T - M + b, L + 1 - (T - M + b)) := by unfold grS; rw [if_neg (by lia), if_neg (by lia)]
        rw [e2]
        dsimp only
        unfold grS
        (repeat' split) <;> dsimp only <;> grind
theorem m_grown {L b M : Int} {n : Nat} {h : Hp} (hL : -1 ≤ L ∧ L ≤ 4611686018427387903) (hn : 1 ≤ n ∧ n ≤ 4) (hM : M = 2 ^ (8 * n)) (hb : 0 ≤ b ∧ b < M) : f_mSide_grown L b (n : Int) h = some (gw L M b, h) := by
  have cs : n = 1 ∨ n = 2 ∨ n = 3 ∨ n = 4 := by lia
  have m4 : M ≤ 4294967296 ∧ 256 ≤ M ∧ M % 2 = 0 := by rcases cs with c | c | c | c <;> subst c <;> subst hM <;> decide
  have e1 : lShl 1 (w32 (8 * (n : Int))) = M := by rcases cs with c | c | c | c <;> subst c <;> subst hM <;> decide
  have e3 : w64 (L + 1) = L + 1 := w64_id ⟨by lia, by lia⟩
  have md : 0 ≤ (L + 1) % M ∧ (L + 1) % M < M := ⟨Int.emod_nonneg _ (by lia), Int.emod_lt_of_pos _ (by lia)⟩
  have d := Int.mul_ediv_add_emod (L + 1) M
  have dn : 0 ≤ (L + 1) / M := Int.ediv_nonneg (by lia) (by lia)
  have dm : 0 ≤ M * ((L + 1) / M) := Int.mul_nonneg (by lia) dn
  have dq : (L + 1) / M ≤ L + 1 := Int.ediv_le_self M (by lia)
  have hq : lDiv (L + 1) M = (L + 1) / M := lDiv_eq ⟨by lia, by lia⟩ ⟨by lia, by lia⟩ (by lia) (by lia)
  obtain ⟨T, hT⟩ : ∃ T, T = M * ((L + 1) / M) := ⟨_, rfl⟩
  rw [← hT] at d dm
  have mul : ∀ k : Int, ((L + 1) / M + k) * M = T + k * M := fun k => by rw [Int.add_mul, hT, Int.mul_comm M]
  generalize (L + 1) / M = Q at *
  obtain ⟨f, hf⟩ : ∃ f, FU = f + 1 + 1 + 1 + 1 := ⟨999999996, rfl⟩
  unfold f_mSide_grown
  rw [lt1_eq, lt1_eq, e1, e3, hf]
  have g1 : w64 (w64 (w64 (Q + (-1)) * M) + b) = T - M + b := by
    rw [w64_id (x := Q + (-1)) ⟨by lia, by lia⟩, mul, w64_id (x := T + -1 * M) ⟨by lia, by lia⟩, w64_id ⟨by lia, by lia⟩]; lia
  have g2 : w64 (w64 (w64 (Q + 0) * M) + b) = T + b := by
    rw [w64_id (x := Q + 0) ⟨by lia, by lia⟩, mul, w64_id (x := T + 0 * M) ⟨by lia, by lia⟩, w64_id ⟨by lia, by lia⟩]; lia
  have g3 : w64 (w64 (w64 (Q + 1) * M) + b) = T + M + b := by
    rw [w64_id (x := Q + 1) ⟨by lia, by lia⟩, mul, w64_id (x := T + 1 * M) ⟨by lia, by lia⟩, w64_id ⟨by lia, by lia⟩]; lia
  rw [m_gr1 (by lia) hq (by decide) g1 (by lia), show w32 (-1 + 1) = 0 by decide, m_gr1 (by lia) hq (by decide) g2 (by lia), show w32 (0 + 1) = 1 by decide, m_gr1 (by lia) hq (by decide) g3 (by lia), show w32 (1 + 1) = 2 by decide]
  have := gr_gw hL m4 hb (T := T) (by lia) ⟨by lia, by lia, by lia⟩
  rw [← this]
  show f_mSide_grown_b25 (f_mSide_grown_b25_lp f) b M (L + 1) _ _ 2 h = _
  unfold f_mSide_grown_b25
  rw [if_pos (by decide)]
