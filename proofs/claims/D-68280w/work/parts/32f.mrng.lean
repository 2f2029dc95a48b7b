/-! ranges of the model: taking out -/
/-- n ranges of a space as they stand; other places of the rows are those of another heap -/
def RGa (ho h : Hp) (m s n : Nat) (P Q : Nat → Int) (fl : Int) : Prop := MBk h m ∧ s < 3 ∧ hI h (m + 17) s = (n : Int) ∧ n ≤ 65 ∧ hJ h (m + 20) s = fl ∧ (∀ i, i < n → hJ h (m + 18) (65 * s + i) = P i ∧ hJ h (m + 19) (65 * s + i) = Q i) ∧ (∀ y k, (y ≠ m + 18 ∧ y ≠ m + 19 ∧ (y ≠ m + 20 ∨ k ≠ s)) ∨ ((y = m + 18 ∨ y = m + 19) ∧ (k < 65 * s ∨ 65 * s + 65 ≤ k)) → hJ h y k = hJ ho y k) ∧ ∀ y k, (y ≠ m + 17 ∨ k ≠ s) → hI h y k = hI ho y k
section
variable {ho : Hp} {m s n : Nat} {P Q : Nat → Int} {fl : Int}
theorem m_takeOutL {k : Nat} (hn : n ≤ 65) (n1 : 1 ≤ n) (f : Nat) : ∀ (i : Nat) (h : Hp), k ≤ i → i + 1 ≤ n → n - i < f → RGa ho h m s (n - 1) (fun j => if k ≤ j ∧ j < i then P (j + 1) else P j) (fun j => if k ≤ j ∧ j < i then Q (j + 1) else Q j) fl → (i < n → hJ h (m + 18) (65 * s + (n - 1)) = P (n - 1) ∧ hJ h (m + 19) (65 * s + (n - 1)) = Q (n - 1)) → wp (f_mBook_takeOut_b12_lp f m (s : Int) ((65 * s + i : Nat) : Int) h) (fun o => RGa ho o m s (n - 1) (rmF P k) (rmF Q k) fl) := by
  induction f with
  | zero => intro i h _ _ hf; lia
  | succ f ih =>
    intro i h hk hi1 hf G V
    show wp (f_mBook_takeOut_b12 (f_mBook_takeOut_b12_lp f) m (s : Int) ((65 * s + i : Nat) : Int) h) _
    unfold f_mBook_takeOut_b12
    obtain ⟨L, g0, g1, g2, g3, g4, g5, g6⟩ := G
    have a0 := L.1
    have z1 : ¬ (m + 17 = 0) := by lia
    have z2 : ¬ (m + 18 = 0) := by lia
    have z3 : ¬ (m + 19 = 0) := by lia
    have q1 : ¬ (m + 19 = m + 18) := by lia
    have q2 : ¬ (m + 18 = m + 19) := by lia
    have x1 : ix (s : Int) 3 := ⟨by lia, by lia⟩
    have w1 : w32 (65 * (s : Int)) = ((65 * s : Nat) : Int) := by unfold w32; lia
    have w2 : w32 (((65 * s : Nat) : Int) + ((n - 1 : Nat) : Int)) = ((65 * s + (n - 1) : Nat) : Int) := w_ck (by lia)
    have w3 : w32 (((65 * s + i : Nat) : Int) + 1) = ((65 * s + (i + 1) : Nat) : Int) := w_k1 (by lia)
    simp only [L.r0_30, L.r0_31, L.r0_32, L.l17, L.l18, L.l19, if_neg z1, if_neg z2, if_neg z3, if_pos x1, Int.toNat_natCast, g1, w1, w2, w3, lt1_eq, hR_sJ, ln_sJ]
    by_cases c : ((65 * s + (n - 1) : Nat) : Int) ≤ ((65 * s + i : Nat) : Int)
    · rw [if_pos c, wp_some]
      refine ⟨L, g0, g1, g2, g3, fun j hj => ?_, g5, g6⟩
      have := g4 j hj
      dsimp only at this
      unfold rmF
      by_cases e : j < k
      · rw [if_neg (by lia), if_neg (by lia)] at this
        rw [if_pos e, if_pos e]; exact this
      · rw [if_pos (by lia), if_pos (by lia)] at this
        rw [if_neg e, if_neg e]; exact this
    · have x2 : ix ((65 * s + i : Nat) : Int) 195 := ⟨by lia, by lia⟩
      have x3 : ix ((65 * s + (i + 1) : Nat) : Int) 195 := ⟨by lia, by lia⟩
      rw [if_neg c]
      simp only [if_pos x2, if_pos x3]
      have v0 : hJ h (m + 18) (65 * s + (i + 1)) = P (i + 1) ∧ hJ h (m + 19) (65 * s + (i + 1)) = Q (i + 1) := by
        by_cases e : i + 1 = n - 1
        · rw [e]; exact V (by lia)
        · have := g4 (i + 1) (by lia)
          dsimp only at this
          rw [if_neg (by lia), if_neg (by lia)] at this
          exact this
      refine ih (i + 1) _ (by lia) (by lia) (by lia) ⟨L, g0, g1, g2, ?_, fun j hj => ?_, fun y k' hy => ?_, g6⟩ (fun z => ?_)
      · rw [hJ_sJ, if_neg (by lia), hJ_sJ, if_neg (by lia)]; exact g3
      · have v := g4 j hj
        dsimp only at v ⊢
        simp only [hJ_sJ, q1, q2, false_and, if_false, true_and, v0.1, v0.2]
        by_cases e : j = i
        · subst e
          rw [if_pos rfl, if_pos rfl, if_pos (by lia), if_pos (by lia)]
          exact ⟨rfl, rfl⟩
        · simp only [show ¬ (65 * s + j = 65 * s + i) by lia, if_false]
          by_cases e2 : k ≤ j ∧ j < i
          · rw [if_pos e2, if_pos e2] at v
            rw [if_pos (by lia), if_pos (by lia)]; exact v
          · rw [if_neg e2, if_neg e2] at v
            rw [if_neg (by lia), if_neg (by lia)]; exact v
      · rw [hJ_sJ, if_neg (by lia), hJ_sJ, if_neg (by lia)]; exact g5 y k' hy
      · simp only [hJ_sJ, q1, q2, false_and, if_false, true_and]
        rw [if_neg (by lia), if_neg (by lia)]
        exact V (by lia)
theorem m_takeOut {h : Hp} {k : Nat} (G : RGa ho h m s n P Q fl) (hk : k < n) : wp (f_mBook_takeOut m (s : Int) ((65 * s + k : Nat) : Int) h) (fun o => RGa ho o m s (n - 1) (rmF P k) (rmF Q k) fl) := by
  obtain ⟨L, g0, g1, g2, g3, g4, g5, g6⟩ := G
  have a0 := L.1
  have z1 : ¬ (m + 17 = 0) := by lia
  have x1 : ix (s : Int) 3 := ⟨by lia, by lia⟩
  have w1 : w32 ((n : Int) - 1) = ((n - 1 : Nat) : Int) := by unfold w32; lia
  unfold f_mBook_takeOut
  simp only [L.r0_30, L.l17, if_neg z1, if_pos x1, lt1_eq, Int.toNat_natCast, g1, w1]
  refine m_takeOutL g2 (by lia) FU k _ (Nat.le_refl _) (by lia) (by unfold FU; lia) ⟨L, g0, by rw [hI_sI, if_pos ⟨rfl, rfl⟩], by lia, g3, fun j hj => ?_, g5, fun y k' hy => by rw [hI_sI, if_neg (by lia)]; exact g6 y k' hy⟩ (fun _ => g4 (n - 1) (by lia))
  dsimp only
  rw [if_neg (by lia), if_neg (by lia)]
  exact g4 j (by lia)
end
