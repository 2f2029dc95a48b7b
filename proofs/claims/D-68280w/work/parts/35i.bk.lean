/-! the book: looks -/
section
variable {hc hm : Hp} {a m s n : Nat} {w : Nat → Nat}
theorem BkR.fli (B : BkR hc a w hm m) : f_mBook_flight m hm = some (flM hm m 0 + flM hm m 1 + flM hm m 2, hm) := by
  obtain ⟨n0, t0, z0, k0, f0, _, _, p0, _⟩ := B.2.2.2.1 0 (by decide)
  obtain ⟨n1, t1, z1, k1, f1, _, _, p1, _⟩ := B.2.2.2.1 1 (by decide)
  obtain ⟨n2, t2, z2, k2, f2, _, _, p2, _⟩ := B.2.2.2.1 2 (by decide)
  have KA : ∃ (n' : Nat → Nat) (tm' sz' mk' : Nat → Nat → Int) (fo' : Nat → Nat), ∀ s', s' < 3 → PkM hm m s' (n' s') (tm' s') (sz' s') (mk' s') (fo' s') := by
    refine ⟨fun i => if i = 0 then n0 else if i = 1 then n1 else n2, fun i => if i = 0 then t0 else if i = 1 then t1 else t2, fun i => if i = 0 then z0 else if i = 1 then z1 else z2, fun i => if i = 0 then k0 else if i = 1 then k1 else k2, fun i => if i = 0 then f0 else if i = 1 then f1 else f2, fun s' h1 => ?_⟩
    rcases (show s' = 0 ∨ s' = 1 ∨ s' = 2 by lia) with rfl | rfl | rfl
    · exact p0
    · exact p1
    · exact p2
  obtain ⟨n', tm', sz', mk', fo', KA⟩ := KA
  have sum : flA hm m n' sz' mk' 3 = flM hm m 0 + flM hm m 1 + flM hm m 2 := by
    show 0 + flS hm m 0 (ctF (mk' 0) (sz' 0) (n' 0)) + flS hm m 1 (ctF (mk' 1) (sz' 1) (n' 1)) + flS hm m 2 (ctF (mk' 2) (sz' 2) (n' 2)) = _
    rw [← (KA 0 (by decide)).fl.1, ← (KA 1 (by decide)).fl.1, ← (KA 2 (by decide)).fl.1]; lia
  rw [← sum]
  exact m_flight KA
theorem j_look (B : BkR hc a w hm m) {k : Int} (hk : 0 ≤ k ∧ k ≤ 10) : ∃ v, f_cBook_look a k hc = some (v, hc) ∧ f_mBook_look m k hm = some (v, hm) := by
  have L := B.1.1
  have fl := B.fli
  obtain ⟨⟨b1, b2, b3, b4, b5⟩, ⟨b6, b7, b8, b9, b10⟩, b11, b12, b13, b14⟩ := B.2.2.2.2.1
  have z2 : ¬ (a + 2 = 0) := by lia
  have z3 : ¬ (a + 3 = 0) := by lia
  rcases (show k = 0 ∨ k = 1 ∨ k = 2 ∨ k = 3 ∨ k = 4 ∨ k = 5 ∨ k = 6 ∨ k = 7 ∨ k = 8 ∨ k = 9 ∨ k = 10 by lia) with rfl | rfl | rfl | rfl | rfl | rfl | rfl | rfl | rfl | rfl | rfl
  · refine ⟨hI hm m 0, ?_, ?_⟩
    · unfold f_cBook_look
      rw [if_pos rfl, b1]
    · unfold f_mBook_look
      rw [if_pos rfl]
  · refine ⟨flM hm m 0 + flM hm m 1 + flM hm m 2, ?_, ?_⟩
    · unfold f_cBook_look
      rw [if_neg (by decide), if_pos rfl, L.r0_2, if_neg z3, b14]
    · unfold f_mBook_look
      rw [if_neg (by decide), if_pos rfl, fl, b2_some]
  · refine ⟨hI hm m 24, ?_, ?_⟩
    · unfold f_cBook_look
      rw [if_neg (by decide), if_neg (by decide), if_pos rfl, L.r0_2, if_neg z3, b11]
    · unfold f_mBook_look
      rw [if_neg (by decide), if_neg (by decide), if_pos rfl]
  · refine ⟨hI hm m 25, ?_, ?_⟩
    · unfold f_cBook_look
      rw [if_neg (by decide), if_neg (by decide), if_neg (by decide), if_pos rfl, L.r0_2, if_neg z3, b12]
    · unfold f_mBook_look
      rw [if_neg (by decide), if_neg (by decide), if_neg (by decide), if_pos rfl]
  · refine ⟨hI hm m 26, ?_, ?_⟩
    · unfold f_cBook_look
      rw [if_neg (by decide), if_neg (by decide), if_neg (by decide), if_neg (by decide), if_pos rfl, L.r0_2, if_neg z3, b13]
    · unfold f_mBook_look
      rw [if_neg (by decide), if_neg (by decide), if_neg (by decide), if_neg (by decide), if_pos rfl]
  · refine ⟨hI hm m 18, ?_, ?_⟩
    · unfold f_cBook_look
      rw [if_neg (by decide), if_neg (by decide), if_neg (by decide), if_neg (by decide), if_neg (by decide), if_pos rfl, L.r0_1, if_neg z2, b6]
    · unfold f_mBook_look
      rw [if_neg (by decide), if_neg (by decide), if_neg (by decide), if_neg (by decide), if_neg (by decide), if_pos rfl]
  · refine ⟨hI hm m 19, ?_, ?_⟩
    · unfold f_cBook_look
      rw [if_neg (by decide), if_neg (by decide), if_neg (by decide), if_neg (by decide), if_neg (by decide), if_neg (by decide), if_pos rfl, L.r0_1, if_neg z2, b7]
    · unfold f_mBook_look
      rw [if_neg (by decide), if_neg (by decide), if_neg (by decide), if_neg (by decide), if_neg (by decide), if_neg (by decide), if_pos rfl]
  · refine ⟨hI hm m 20, ?_, ?_⟩
    · unfold f_cBook_look
      rw [if_neg (by decide), if_neg (by decide), if_neg (by decide), if_neg (by decide), if_neg (by decide), if_neg (by decide), if_neg (by decide), if_pos rfl, L.r0_1, if_neg z2, b8]
    · unfold f_mBook_look
      rw [if_neg (by decide), if_neg (by decide), if_neg (by decide), if_neg (by decide), if_neg (by decide), if_neg (by decide), if_neg (by decide), if_pos rfl]
  · refine ⟨hI hm m 21, ?_, ?_⟩
    · unfold f_cBook_look
      rw [if_neg (by decide), if_neg (by decide), if_neg (by decide), if_neg (by decide), if_neg (by decide), if_neg (by decide), if_neg (by decide), if_neg (by decide), if_pos rfl, L.r0_1, if_neg z2, b9]
    · unfold f_mBook_look
      rw [if_neg (by decide), if_neg (by decide), if_neg (by decide), if_neg (by decide), if_neg (by decide), if_neg (by decide), if_neg (by decide), if_neg (by decide), if_pos rfl]
  · refine ⟨hI hm m 23, ?_, ?_⟩
    · unfold f_cBook_look
      rw [if_neg (by decide), if_neg (by decide), if_neg (by decide), if_neg (by decide), if_neg (by decide), if_neg (by decide), if_neg (by decide), if_neg (by decide), if_neg (by decide), if_pos rfl, b2]
    · unfold f_mBook_look
      rw [if_neg (by decide), if_neg (by decide), if_neg (by decide), if_neg (by decide), if_neg (by decide), if_neg (by decide), if_neg (by decide), if_neg (by decide), if_neg (by decide), if_pos rfl]
  · refine ⟨limV (hI hm m 18) (hI hm m 20), ?_, ?_⟩
    · unfold f_cBook_look
      rw [if_neg (by decide), if_neg (by decide), if_neg (by decide), if_neg (by decide), if_neg (by decide), if_neg (by decide), if_neg (by decide), if_neg (by decide), if_neg (by decide), if_neg (by decide), if_pos rfl, L.r0_1, if_neg z2, c_limit, b2_some, b6, b8]
    · unfold f_mBook_look
      rw [if_neg (by decide), if_neg (by decide), if_neg (by decide), if_neg (by decide), if_neg (by decide), if_neg (by decide), if_neg (by decide), if_neg (by decide), if_neg (by decide), if_neg (by decide), m_limit, b2_some]
end
