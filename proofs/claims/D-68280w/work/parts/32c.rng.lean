/-! ranges of the class: putting in -/
def inF (f : Nat → Int) (k : Nat) (x : Int) (i : Nat) : Int := if i < k then f i else if i = k then x else f (i - 1)
section
variable {a n : Nat} {lo hi : Nat → Int} {fl x : Int}
theorem c_insertL {k : Nat} (hn : n ≤ 64) (hk : k ≤ n) (f : Nat) : ∀ (i : Nat) (h : Hp), k ≤ i → i ≤ n → i - k < f → LRan h a → hI h a 2 = (n : Int) → hJ h a 3 = fl → (∀ j, j ≤ n → (i < j → hJ h (a + 1) j = lo (j - 1) ∧ hJ h (a + 2) j = hi (j - 1)) ∧ (j ≤ i → j < n → hJ h (a + 1) j = lo j ∧ hJ h (a + 2) j = hi j)) → wp (f_cRanges_insert_b6_lp f a (k : Int) x (i : Int) h) (fun o => RG0 o a (n + 1) (inF lo k x) (inF hi k x) fl) := by
  induction f with
  | zero => intro i h _ _ hf; lia
  | succ f ih =>
    intro i h hki hi1 hf L g1 g2 V
    show wp (f_cRanges_insert_b6 (f_cRanges_insert_b6_lp f) a (k : Int) x (i : Int) h) _
    unfold f_cRanges_insert_b6
    have a0 := L.1
    have z1 : ¬ (a + 1 = 0) := by lia
    have z2 : ¬ (a + 2 = 0) := by lia
    have q1 : ¬ (a + 2 = a + 1) := by lia
    have q2 : ¬ (a + 1 = a + 2) := by lia
    by_cases c : (i : Int) ≤ k
    · have e : i = k := by lia
      subst e
      have x1 : ix (i : Int) 65 := ⟨by lia, by lia⟩
      rw [if_pos c]
      simp only [lt1_eq, L.r0_0, L.r0_1, L.l1, L.l2, hR_sJ, ln_sJ, if_neg z1, if_neg z2, if_pos x1, Int.toNat_natCast, hI_sJ, g1, wp_some]
      rw [w_k1 (by lia)]
      refine ⟨L, by rw [hI_sI, if_pos ⟨rfl, rfl⟩], by lia, ?_, fun j hj => ?_⟩
      · rw [hJ_sI, hJ_sJ, if_neg (by lia), hJ_sJ, if_neg (by lia)]; exact g2
      · have v := V j (by lia)
        simp only [hJ_sI, hJ_sJ, q1, q2, false_and, if_false, true_and]
        unfold inF
        by_cases e1 : j = i
        · subst e1
          simp
        · simp only [e1, if_false]
          by_cases e2 : j < i
          · simp only [e2, if_true]; exact v.2 (by lia) (by lia)
          · simp only [e2, if_false]; exact v.1 (by lia)
    · rw [if_neg c]
      have w1 : w32 ((i : Int) - 1) = ((i - 1 : Nat) : Int) := by unfold w32; lia
      have w2 : w32 ((i : Int) + (-1)) = ((i - 1 : Nat) : Int) := by unfold w32; lia
      have x1 : ix ((i - 1 : Nat) : Int) 65 := ⟨by lia, by lia⟩
      have x2 : ix (i : Int) 65 := ⟨by lia, by lia⟩
      simp only [w1, w2, lt1_eq, L.r0_0, L.r0_1, L.l1, L.l2, hR_sJ, ln_sJ, if_neg z1, if_neg z2, if_pos x1, if_pos x2, Int.toNat_natCast]
      have v0 := (V (i - 1) (by lia)).2 (by lia) (by lia)
      refine ih (i - 1) _ (by lia) (by lia) (by lia) L g1 ?_ (fun j hj => ?_)
      · rw [hJ_sJ, if_neg (by lia), hJ_sJ, if_neg (by lia)]; exact g2
      · have v := V j hj
        simp only [hJ_sJ, q1, q2, false_and, if_false, true_and, v0.1, v0.2]
        by_cases e : j = i
        · subst e
          rw [if_pos rfl, if_pos rfl]
          exact ⟨fun _ => ⟨rfl, rfl⟩, fun z => by lia⟩
        · rw [if_neg e, if_neg e]
          exact ⟨fun z => v.1 (by lia), fun z1 z2 => v.2 (by lia) z2⟩
theorem c_insert {h : Hp} {k : Nat} (G : RG0 h a n lo hi fl) (hn : n ≤ 64) (hk : k ≤ n) : wp (f_cRanges_insert a (k : Int) x h) (fun o => RG0 o a (n + 1) (inF lo k x) (inF hi k x) fl) := by
  obtain ⟨L, g1, g2, g3, g4⟩ := G
  unfold f_cRanges_insert
  rw [wp_lt1, g1]
  exact c_insertL hn hk FU n h hk (Nat.le_refl _) (by unfold FU; lia) L g1 g3 (fun j hj => ⟨fun z => by lia, fun _ z => g4 j z⟩)
end
