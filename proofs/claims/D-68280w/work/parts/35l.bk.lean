/-! the book: ranges that came, as the model gives them out -/
theorem m_range {hm : Hp} {m s n i : Nat} {lo hi : Nat → Int} {fl k : Int} (G : RGm hm m s n lo hi fl) (hi' : i < n) : f_mBook_range m (s : Int) (i : Int) k hm = some (if k = 0 then lo i else hi i, hm) := by
  obtain ⟨LM, hs, g1, g2, g3, g4⟩ := G
  have m0 := LM.1
  have xs : ix (s : Int) 3 := ⟨by lia, by lia⟩
  have ei : w32 (w32 (w32 (w32 (65 * (s : Int)) + (n : Int)) - 1) - (i : Int)) = ((65 * s + (n - 1 - i) : Nat) : Int) := by unfold w32; lia
  have xi : ix ((65 * s + (n - 1 - i) : Nat) : Int) 195 := ⟨by lia, by lia⟩
  have v := g4 (n - 1 - i) (by lia)
  have ej : n - 1 - (n - 1 - i) = i := by lia
  rw [ej] at v
  unfold f_mBook_range
  rw [LM.r0_30, if_neg (show ¬ (m + 17 = 0) by lia), LM.l17, if_pos xs, Int.toNat_natCast, g1, ei, lt1_eq]
  by_cases c : k = 0
  · rw [if_pos c, if_pos c, LM.r0_31, if_neg (show ¬ (m + 18 = 0) by lia), LM.l18, if_pos xi, Int.toNat_natCast, v.1]
  · rw [if_neg c, if_neg c, LM.r0_32, if_neg (show ¬ (m + 19 = 0) by lia), LM.l19, if_pos xi, Int.toNat_natCast, v.2]
