/-! the book: room in the window, as the class gives it out -/
theorem c_room {hc hm : Hp} {a m : Nat} {w : Nat → Nat} (B : BkR hc a w hm m) : f_cBook_look a 11 hc = some (max (w32 (hI hm m 24 - (flM hm m 0 + flM hm m 1 + flM hm m 2))) 0, hc) := by
  have L := B.1.1
  obtain ⟨⟨b1, b2, b3, b4, b5⟩, ⟨b6, b7, b8, b9, b10⟩, b11, b12, b13, b14⟩ := B.2.2.2.2.1
  have z3 : ¬ (a + 3 = 0) := by lia
  unfold f_cBook_look
  rw [if_neg (by decide), if_neg (by decide), if_neg (by decide), if_neg (by decide), if_neg (by decide), if_neg (by decide), if_neg (by decide), if_neg (by decide), if_neg (by decide), if_neg (by decide), if_neg (by decide), L.r0_2, if_neg z3, b11, b14]
