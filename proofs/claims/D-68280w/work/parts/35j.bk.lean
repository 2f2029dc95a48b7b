/-! the book: looks at a space -/
section
variable {hc hm : Hp} {a m s n : Nat} {w : Nat → Nat}
theorem j_space (B : BkR hc a w hm m) (C : CmA hc a hm m) (hs : s < 3) {k : Int} (hk : 0 ≤ k ∧ k ≤ 10) : ∃ v, f_cBook_space a (s : Int) k hc = some (v, hc) ∧ f_mBook_space m (s : Int) k hm = some (v, hm) := by
  have L := B.1.1
  have LM := B.1.2
  have m0 := LM.1
  obtain ⟨q, lo, hi, fl, G, Gm, _, _, ⟨c1, _, _, _⟩, _⟩ := C s hs
  obtain ⟨n, tm, sz, mk, fo, W, K1, K2, _, S, _⟩ := B.2.2.2.1 s hs
  have pr := j_probe B hs
  have xs : ix (s : Int) 3 := ⟨by lia, by lia⟩
  have z1 : ¬ (a + 1 = 0) := by lia
  have z2 : ¬ (a + 2 = 0) := by lia
  have zp : ¬ (a + 6 + 11 * s = 0) := by lia
  have zr : ¬ (a + 6 + 11 * s + 8 = 0) := by lia
  have zm : ∀ i, ¬ (m + i = 0) := fun i => by lia
  have sp := L.sp hs
  have b6 := B.2.2.2.2.1.1.2.2.2.1
  rcases (show k = 0 ∨ k = 1 ∨ k = 2 ∨ k = 3 ∨ k = 4 ∨ k = 5 ∨ k = 6 ∨ k = 7 ∨ k = 8 ∨ k = 9 ∨ k = 10 by lia) with rfl | rfl | rfl | rfl | rfl | rfl | rfl | rfl | rfl | rfl | rfl
  · refine ⟨(n : Int), ?_, ?_⟩
    · unfold f_cBook_space
      rw [L.r0_0, if_neg z1, L.l1, if_pos xs, Int.toNat_natCast, sp.1, lt1_eq, if_pos rfl, if_neg zp, K1.1]
    · unfold f_mBook_space
      rw [if_pos rfl, LM.r0_3, if_neg (zm 1), LM.l1, if_pos xs, Int.toNat_natCast, K2.2.1]
  · refine ⟨hI hm (m + 10) s, ?_, ?_⟩
    · unfold f_cBook_space
      rw [L.r0_0, if_neg z1, L.l1, if_pos xs, Int.toNat_natCast, sp.1, lt1_eq, if_neg (by decide), if_pos rfl, if_neg zp, S.2.1.1]
    · unfold f_mBook_space
      rw [if_neg (by decide), if_pos rfl, LM.r0_12, if_neg (zm 10), LM.l10, if_pos xs, Int.toNat_natCast]
  · refine ⟨hI hm (m + 11) s, ?_, ?_⟩
    · unfold f_cBook_space
      rw [L.r0_0, if_neg z1, L.l1, if_pos xs, Int.toNat_natCast, sp.1, lt1_eq, if_neg (by decide), if_neg (by decide), if_pos rfl, if_neg zp, S.2.2.1]
    · unfold f_mBook_space
      rw [if_neg (by decide), if_neg (by decide), if_pos rfl, LM.r0_13, if_neg (zm 11), LM.l11, if_pos xs, Int.toNat_natCast]
  · obtain ⟨v, e1, e2⟩ := pr
    refine ⟨v, ?_, ?_⟩
    · unfold f_cBook_space
      rw [L.r0_0, if_neg z1, L.l1, if_pos xs, Int.toNat_natCast, sp.1, lt1_eq, if_neg (by decide), if_neg (by decide), if_neg (by decide), if_pos rfl, e1, b2_some]
    · unfold f_mBook_space
      rw [if_neg (by decide), if_neg (by decide), if_neg (by decide), if_pos rfl, e2, b2_some]
  · refine ⟨hI hc (a + 6 + 11 * s) 4, ?_, ?_⟩
    · unfold f_cBook_space
      rw [L.r0_0, if_neg z1, L.l1, if_pos xs, Int.toNat_natCast, sp.1, lt1_eq, if_neg (by decide), if_neg (by decide), if_neg (by decide), if_neg (by decide), if_pos rfl, if_neg zp]
    · unfold f_mBook_space
      rw [if_neg (by decide), if_neg (by decide), if_neg (by decide), if_neg (by decide), if_pos rfl, m_outs K2 (Or.inr rfl), b2_some, S.2.2.2.1, if_pos (show (1 : Int) = 1 from rfl)]
  · refine ⟨hI hc (a + 6 + 11 * s) 5, ?_, ?_⟩
    · unfold f_cBook_space
      rw [L.r0_0, if_neg z1, L.l1, if_pos xs, Int.toNat_natCast, sp.1, lt1_eq, if_neg (by decide), if_neg (by decide), if_neg (by decide), if_neg (by decide), if_neg (by decide), if_pos rfl, if_neg zp]
    · unfold f_mBook_space
      rw [if_neg (by decide), if_neg (by decide), if_neg (by decide), if_neg (by decide), if_neg (by decide), if_pos rfl, m_outs K2 (Or.inl rfl), b2_some, S.2.2.2.2.1, if_neg (show ¬ ((0 : Int) = 1) by decide)]
  · refine ⟨(q : Int), ?_, ?_⟩
    · unfold f_cBook_space
      rw [L.r0_0, if_neg z1, L.l1, if_pos xs, Int.toNat_natCast, sp.1, lt1_eq, if_neg (by decide), if_neg (by decide), if_neg (by decide), if_neg (by decide), if_neg (by decide), if_neg (by decide), if_pos rfl, if_neg zp, sp.2.2.2, if_neg zr, G.2.1]
    · unfold f_mBook_space
      rw [if_neg (by decide), if_neg (by decide), if_neg (by decide), if_neg (by decide), if_neg (by decide), if_neg (by decide), if_pos rfl, LM.r0_30, if_neg (zm 17), LM.l17, if_pos xs, Int.toNat_natCast, Gm.2.2.1]
  · refine ⟨hI hm (m + 22) s, ?_, ?_⟩
    · unfold f_cBook_space
      rw [L.r0_0, if_neg z1, L.l1, if_pos xs, Int.toNat_natCast, sp.1, lt1_eq, if_neg (by decide), if_neg (by decide), if_neg (by decide), if_neg (by decide), if_neg (by decide), if_neg (by decide), if_neg (by decide), if_pos rfl, if_neg zp, c1]
    · unfold f_mBook_space
      rw [if_neg (by decide), if_neg (by decide), if_neg (by decide), if_neg (by decide), if_neg (by decide), if_neg (by decide), if_neg (by decide), if_pos rfl, LM.r0_35, if_neg (zm 22), LM.l22, if_pos xs, Int.toNat_natCast]
  · have pc : ∀ b, f_cBook_patience_b21 a (a + 2) b hc = some (patV (hI hm m 18) (hI hm m 19) b, hc) := fun b => by
      unfold f_cBook_patience_b21
      rw [if_neg z2, c_tpat, b2_some, B.pat]
    have pm : ∀ b, f_mBook_space_b137 m m b hm = some (patV (hI hm m 18) (hI hm m 19) b, hm) := fun b => by
      unfold f_mBook_space_b137
      rw [if_neg (show ¬ (m = 0) by lia), m_pat, b2_some]
    by_cases c : (s : Int) ≠ 2
    · refine ⟨patV (hI hm m 18) (hI hm m 19) 0, ?_, ?_⟩
      · unfold f_cBook_space f_cBook_patience f_cBook_patience_b20
        rw [L.r0_0, if_neg z1, L.l1, if_pos xs, Int.toNat_natCast, sp.1, lt1_eq, if_neg (by decide), if_neg (by decide), if_neg (by decide), if_neg (by decide), if_neg (by decide), if_neg (by decide), if_neg (by decide), if_neg (by decide), if_pos rfl, if_pos c, L.r0_1, pc, b2_some]
      · unfold f_mBook_space f_mBook_space_b136
        rw [if_neg (by decide), if_neg (by decide), if_neg (by decide), if_neg (by decide), if_neg (by decide), if_neg (by decide), if_neg (by decide), if_neg (by decide), if_pos rfl, if_pos c, pm]
    · by_cases d : hI hm m 1 = 0
      · refine ⟨patV (hI hm m 18) (hI hm m 19) 0, ?_, ?_⟩
        · unfold f_cBook_space f_cBook_patience f_cBook_patience_b20
          rw [L.r0_0, if_neg z1, L.l1, if_pos xs, Int.toNat_natCast, sp.1, lt1_eq, if_neg (by decide), if_neg (by decide), if_neg (by decide), if_neg (by decide), if_neg (by decide), if_neg (by decide), if_neg (by decide), if_neg (by decide), if_pos rfl, if_neg c, b6, if_pos d, L.r0_1, pc, b2_some]
        · unfold f_mBook_space f_mBook_space_b136
          rw [if_neg (by decide), if_neg (by decide), if_neg (by decide), if_neg (by decide), if_neg (by decide), if_neg (by decide), if_neg (by decide), if_neg (by decide), if_pos rfl, if_neg c, if_pos d, pm]
      · refine ⟨patV (hI hm m 18) (hI hm m 19) 1, ?_, ?_⟩
        · unfold f_cBook_space f_cBook_patience f_cBook_patience_b20
          rw [L.r0_0, if_neg z1, L.l1, if_pos xs, Int.toNat_natCast, sp.1, lt1_eq, if_neg (by decide), if_neg (by decide), if_neg (by decide), if_neg (by decide), if_neg (by decide), if_neg (by decide), if_neg (by decide), if_neg (by decide), if_pos rfl, if_neg c, b6, if_neg d, L.r0_1, pc, b2_some]
        · unfold f_mBook_space f_mBook_space_b136
          rw [if_neg (by decide), if_neg (by decide), if_neg (by decide), if_neg (by decide), if_neg (by decide), if_neg (by decide), if_neg (by decide), if_neg (by decide), if_pos rfl, if_neg c, if_neg d, pm]
  · by_cases d : hI hm (m + 9) s = 0
    · refine ⟨0, ?_, ?_⟩
      · unfold f_cBook_space
        rw [L.r0_0, if_neg z1, L.l1, if_pos xs, Int.toNat_natCast, sp.1, lt1_eq, if_neg (by decide), if_neg (by decide), if_neg (by decide), if_neg (by decide), if_neg (by decide), if_neg (by decide), if_neg (by decide), if_neg (by decide), if_neg (by decide), if_pos rfl, if_neg zp, S.1.1, if_pos d]
      · unfold f_mBook_space
        rw [if_neg (by decide), if_neg (by decide), if_neg (by decide), if_neg (by decide), if_neg (by decide), if_neg (by decide), if_neg (by decide), if_neg (by decide), if_neg (by decide), if_pos rfl, LM.r0_11, if_neg (zm 9), LM.l9, if_pos xs, Int.toNat_natCast, if_pos d]
    · refine ⟨1, ?_, ?_⟩
      · unfold f_cBook_space
        rw [L.r0_0, if_neg z1, L.l1, if_pos xs, Int.toNat_natCast, sp.1, lt1_eq, if_neg (by decide), if_neg (by decide), if_neg (by decide), if_neg (by decide), if_neg (by decide), if_neg (by decide), if_neg (by decide), if_neg (by decide), if_neg (by decide), if_pos rfl, if_neg zp, S.1.1, if_neg d]
      · unfold f_mBook_space
        rw [if_neg (by decide), if_neg (by decide), if_neg (by decide), if_neg (by decide), if_neg (by decide), if_neg (by decide), if_neg (by decide), if_neg (by decide), if_neg (by decide), if_pos rfl, LM.r0_11, if_neg (zm 9), LM.l9, if_pos xs, Int.toNat_natCast, if_neg d]
  · refine ⟨fl, ?_, ?_⟩
    · unfold f_cBook_space
      rw [L.r0_0, if_neg z1, L.l1, if_pos xs, Int.toNat_natCast, sp.1, lt1_eq, if_neg (by decide), if_neg (by decide), if_neg (by decide), if_neg (by decide), if_neg (by decide), if_neg (by decide), if_neg (by decide), if_neg (by decide), if_neg (by decide), if_neg (by decide), if_neg zp, sp.2.2.2, if_neg zr, G.2.2.2.1]
    · unfold f_mBook_space
      rw [if_neg (by decide), if_neg (by decide), if_neg (by decide), if_neg (by decide), if_neg (by decide), if_neg (by decide), if_neg (by decide), if_neg (by decide), if_neg (by decide), if_neg (by decide), LM.r0_33, if_neg (zm 20), LM.l20, if_pos xs, Int.toNat_natCast, Gm.2.2.2.2.1]
end
