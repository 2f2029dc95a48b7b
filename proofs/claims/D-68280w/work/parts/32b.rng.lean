/-! ranges of the class: taking out, putting in -/
def RG0 (h : Hp) (a n : Nat) (lo hi : Nat → Int) (fl : Int) : Prop := LRan h a ∧ hI h a 2 = (n : Int) ∧ n ≤ 65 ∧ hJ h a 3 = fl ∧ ∀ i, i < n → hJ h (a + 1) i = lo i ∧ hJ h (a + 2) i = hi i
def rmF (f : Nat → Int) (k i : Nat) : Int := if i < k then f i else f (i + 1)
section
variable {a n : Nat} {lo hi : Nat → Int} {fl x : Int}
theorem c_removeL {k : Nat} (hn : n ≤ 65) (f : Nat) : ∀ (i : Nat) (h : Hp), k ≤ i → i + 1 ≤ n → n - i < f → LRan h a → hI h a 2 = ((n - 1 : Nat) : Int) → hJ h a 3 = fl → (∀ j, j < n → hJ h (a + 1) j = (if k ≤ j ∧ j < i then lo (j + 1) else lo j) ∧ hJ h (a + 2) j = (if k ≤ j ∧ j < i then hi (j + 1) else hi j)) → wp (f_cRanges_remove_b12_lp f a (i : Int) h) (fun o => RG0 o a (n - 1) (rmF lo k) (rmF hi k) fl) := by
  induction f with
  | zero => intro i h _ _ hf; lia
  | succ f ih =>
    intro i h hk hi1 hf L g1 g2 V
    show wp (f_cRanges_remove_b12 (f_cRanges_remove_b12_lp f) a (i : Int) h) _
    unfold f_cRanges_remove_b12
    have a0 := L.1
    rw [g1]
    by_cases c : ((n - 1 : Nat) : Int) ≤ i
    · rw [if_pos c, wp_some]
      refine ⟨L, g1, by lia, g2, fun j hj => ?_⟩
      have := V j (by lia)
      unfold rmF
      by_cases e : j < k
      · rw [if_neg (by lia), if_neg (by lia)] at this
        rw [if_pos e, if_pos e]; exact this
      · rw [if_pos (by lia), if_pos (by lia)] at this
        rw [if_neg e, if_neg e]; exact this
    · rw [if_neg c]
      have w1 : w32 ((i : Int) + 1) = ((i + 1 : Nat) : Int) := w_k1 (by lia)
      have x1 : ix ((i + 1 : Nat) : Int) 65 := ⟨by lia, by lia⟩
      have x2 : ix (i : Int) 65 := ⟨by lia, by lia⟩
      have z1 : ¬ (a + 1 = 0) := by lia
      have z2 : ¬ (a + 2 = 0) := by lia
      simp only [w1, lt1_eq, L.r0_0, L.r0_1, L.l1, L.l2, hR_sJ, ln_sJ, if_neg z1, if_neg z2, if_pos x1, if_pos x2, Int.toNat_natCast]
      have v0 := V (i + 1) (by lia)
      rw [if_neg (by lia), if_neg (by lia)] at v0
      refine ih (i + 1) _ (by lia) (by lia) (by lia) L g1 ?_ (fun j hj => ?_)
      · rw [hJ_sJ, if_neg (by lia), hJ_sJ, if_neg (by lia)]; exact g2
      · have v := V j hj
        have q1 : ¬ (a + 2 = a + 1) := by lia
        have q2 : ¬ (a + 1 = a + 2) := by lia
        simp only [hJ_sJ, q1, q2, false_and, if_false, true_and, v0.1, v0.2]
        by_cases e : j = i
        · subst e
          rw [if_pos rfl, if_pos rfl, if_pos (by lia), if_pos (by lia)]
          exact ⟨rfl, rfl⟩
        · rw [if_neg e, if_neg e]
          by_cases e2 : k ≤ j ∧ j < i
          · rw [if_pos e2, if_pos e2] at v
            rw [if_pos (by lia), if_pos (by lia)]; exact v
          · rw [if_neg e2, if_neg e2] at v
            rw [if_neg (by lia), if_neg (by lia)]; exact v
theorem c_remove {h : Hp} {k : Nat} (G : RG0 h a n lo hi fl) (hk : k < n) : wp (f_cRanges_remove a (k : Int) h) (fun o => RG0 o a (n - 1) (rmF lo k) (rmF hi k) fl) := by
  obtain ⟨L, g1, g2, g3, g4⟩ := G
  unfold f_cRanges_remove
  have w1 : w32 ((n : Int) - 1) = ((n - 1 : Nat) : Int) := by unfold w32; lia
  simp only [wp_lt1, g1, w1]
  refine c_removeL g2 FU k _ (Nat.le_refl _) (by lia) (by unfold FU; lia) L ?_ g3 (fun j hj => ?_)
  · rw [hI_sI, if_pos ⟨rfl, rfl⟩]
  · rw [if_neg (by lia), if_neg (by lia)]; exact g4 j hj
end
