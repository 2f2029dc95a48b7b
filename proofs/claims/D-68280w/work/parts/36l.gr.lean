/-! the greeting: a whole message keeps the bounds -/
section
variable {s : GSt} {l : Nat} {b : Int}
theorem sLook_neg (V : GV s) (hl : l < 2) (c : sLook s l < 0) : -1000 < sLook s l := by
  have v := V.2.2.2.2.1 (10 + l) (by lia) (by lia)
  unfold sLook at c ⊢
  by_cases c0 : s.1 (10 + l) = 0
  · rw [if_pos c0]; decide
  rw [if_neg c0] at c ⊢
  by_cases c1 : s.1 2 = 0 ∨ gLev (s.1 2) ≠ l ∨ s.2 (6 + l) 0 ≠ s.1 2
  · rw [if_pos c1]; decide
  rw [if_neg c1] at c ⊢
  by_cases c2 : s.1 (10 + l) < 4
  · rw [if_pos c2]; decide
  rw [if_neg c2] at c ⊢
  by_cases c3 : gFit (s.1 2) (sN s l) = false
  · rw [if_pos c3]; decide
  rw [if_neg c3] at c ⊢
  by_cases c4 : s.1 (10 + l) < 4 + sN s l
  · rw [if_pos c4]; decide
  rw [if_neg c4] at c ⊢
  have vb := V.row (r := 6 + l) (by omega) (by omega)
  rw [gLn_num (by omega), show 6 + l + 4 = 10 + l by omega] at vb
  have := vb 1 (by omega); have := vb 2 (by omega); have := vb 3 (by omega)
  unfold sN at c ⊢; lia
theorem GV.hello {n : Nat} (V : GV s) (hl : 0 ≤ s.1 6) (z : s.1 7 = 0 ∧ s.1 8 = 0 ∧ s.1 9 = 0) (hn : s.1 10 = n) (n1 : 36 ≤ n ∧ n ≤ 336) : GV (sHello s n) := by
  have v1 := V.2.1
  have V1 : GV (sApp s 7 n (s.2 (6 + 0))) := V.app (by decide) (by lia) (fun j hj => V.row (r := 6) (by decide) (by decide) j (by rw [gLn_num (by decide)]; show j < (s.1 10).toNat; lia))
  have V2 := V1.keep (l := 0) (p := 36) (n := n - 36) (by decide) (by lia) (by show ((36 : Nat) : Int) + ((n - 36 : Nat) : Int) ≤ s.1 10; lia)
  have V3 := V2.says (l := 0) (t := 2) (n := 32) (B := s.2 1) (by decide) (by decide) (fun j hj => V.row (r := 1) (by decide) (by decide) j (by rw [gLn_32 (by decide)]; exact hj)) (by show s.1 8 + _ ≤ _; lia) (by show s.1 7 + _ + _ ≤ _; lia)
  have V4 := V3.greets (by exact hl)
  have V5 := V4.says (l := 1) (t := 8) (n := (s.1 1).toNat) (B := s.2 2) (by decide) (by decide) (fun j hj => V.row (r := 2) (by decide) (by decide) j (by rw [gLn_2]; exact hj)) (by show s.1 9 + _ ≤ _; lia) (by show s.1 7 + _ + ((4 + 32 : Nat) : Int) + _ ≤ _; lia)
  obtain ⟨s5, es5⟩ : ∃ s5, s5 = sSays (sGreets (sSays (sKeep (sApp s 7 n (s.2 (6 + 0))) 0 36 (n - 36)) 0 2 32 (s.2 1))) 1 8 (s.1 1).toNat (s.2 2) := ⟨_, rfl⟩
  rw [← es5] at V5
  have n5 : s5.1 7 = 0 + n + 36 + (4 + (s.1 1).toNat) ∧ s5.1 9 = 4 + (s.1 1).toNat ∧ s5.1 6 = 1 := by
    rw [es5]
    refine ⟨?_, ?_, rfl⟩
    · show s.1 7 + n + ((4 + 32 : Nat) : Int) + ((4 + (s.1 1).toNat : Nat) : Int) = _
      lia
    · show s.1 9 + ((4 + (s.1 1).toNat : Nat) : Int) = _
      lia
  have V7 := V5.says (l := 1) (t := 20) (n := 32) (B := sPrf s5 1) (by decide) (by decide) (fun j hj => HMAC_lt _ _ _ _ _) (by show s5.1 9 + _ ≤ _; lia) (by lia)
  have V9 := (V7.talks (by show 0 ≤ s5.1 6; lia)).num (k := 2) (v := 20) (by decide)
  have ee : sNum (sTalks (sSays s5 1 20 32 (sPrf s5 1))) 2 20 = sHello s n := by rw [es5]; rfl
  rw [ee] at V9
  exact V9
theorem GV.done {n : Nat} (V : GV s) (hl : 0 ≤ s.1 6) (hn : s.1 11 = n) (n1 : n = 36) (b7 : s.1 7 ≤ 712) (b9 : s.1 9 ≤ 340) : GV (sDone s n) := by
  unfold sDone
  by_cases c : ∀ k, k < 32 → s.2 7 (4 + k) = sPrf s (1 - s.1 0).toNat k
  · rw [if_pos c]
    have V3 := (V.num (k := 2) (v := 0) (by decide)).num (k := 3) (v := 1) (by decide)
    by_cases d : s.1 0 = 1
    · rw [if_pos d]; exact V3
    · rw [if_neg d]
      have V4 : GV (sApp (sNum (sNum s 2 0) 3 1) 7 n (s.2 7)) := V3.app (by decide) (by show s.1 7 + _ ≤ _; lia) (fun j hj => V.row (r := 7) (by decide) (by decide) j (by rw [gLn_num (by decide)]; show j < (s.1 11).toNat; lia))
      exact ((V4.talks hl).send (l := 1) (t := 20) (n := 32) (by decide) (by decide) (fun j hj => HMAC_lt _ _ _ _ _) (by show s.1 9 + _ ≤ _; lia)).gho
  · rw [if_neg c]; exact V.fail
theorem GV.msg {n : Nat} (V : GV s) (P : gPh s) (w0 : s.1 2 ≠ 0) (el : gLev (s.1 2) = l) (hn : s.1 (10 + l) = n) (n4 : 4 ≤ n) (fit : gFit (s.1 2) ((n : Int) - 4) = true) : GV (sMsg s n) := by
  have l2 : l < 2 := by unfold gLev at el; split at el <;> lia
  have v10 := V.2.2.2.2.1 (10 + l) (by lia) (by lia)
  have vb : ∀ j, j < n → 0 ≤ s.2 (6 + l) j ∧ s.2 (6 + l) j < 256 := fun j hj => V.row (by lia) (by lia) j (by rw [gLn_num (by lia), show 6 + l + 4 = 10 + l by lia]; lia)
  rcases P with z | ⟨⟨t0, f0⟩, P⟩
  · exact absurd z w0
  unfold sMsg
  rcases P with ⟨p0, p2, p6, p7, p9⟩ | ⟨p0, p2, p6, p7, p9⟩ | ⟨p0, p2, p6, p7, p9⟩ | ⟨p0, p2, p6, p7, p8, p9⟩ | ⟨p0, p2, p6, p7, p9⟩
  · have l00 : l = 0 := by rw [← el, p2]; rfl
    subst l00
    have nn : n = 36 := by rw [p2] at fit; unfold gFit at fit; simp at fit; lia
    rw [if_neg (by lia), if_pos p2]
    have V1 : GV (sApp s 7 n (s.2 6)) := V.app (by decide) (by lia) vb
    exact (V1.greets (by show 0 ≤ s.1 6; lia)).num (k := 2) (v := 8) (by decide)
  · have l00 : l = 1 := by rw [← el, p2]; rfl
    subst l00
    have nn : n ≤ 304 := by rw [p2] at fit; unfold gFit at fit; simp at fit; lia
    rw [if_neg (by lia), if_neg (by lia), if_pos p2]
    have V1 : GV (sApp s 7 n (s.2 7)) := V.app (by decide) (by lia) vb
    exact (V1.keep (l := 1) (p := 4) (n := n - 4) (by decide) (by lia) (by show ((4 : Nat) : Int) + ((n - 4 : Nat) : Int) ≤ s.1 11; rw [show s.1 11 = n from hn]; lia)).num (k := 2) (v := 20) (by decide)
  · have l00 : l = 1 := by rw [← el, p2]; rfl
    subst l00
    have nn : n = 36 := by rw [p2] at fit; unfold gFit at fit; simp at fit; lia
    rw [if_neg (by lia), if_neg (by lia), if_neg (by lia)]
    exact V.done (by lia) hn nn (by lia) (by lia)
  · have l00 : l = 0 := by rw [← el, p2]; rfl
    subst l00
    have nn : 36 ≤ n ∧ n ≤ 336 := by rw [p2] at fit; unfold gFit at fit; simp at fit; lia
    rw [if_pos p2]
    exact V.hello (by lia) ⟨p7, p8, p9⟩ hn nn
  · have l00 : l = 1 := by rw [← el, p2]; rfl
    subst l00
    have nn : n = 36 := by rw [p2] at fit; unfold gFit at fit; simp at fit; lia
    rw [if_neg (by lia), if_neg (by lia), if_neg (by lia)]
    exact V.done (by lia) hn nn (by lia) (by lia)
theorem GI.tk (I : GI s) (f0 : s.1 4 = 0) (hl : l < 2) (hb : 0 ≤ b ∧ b < 256) : GI (sTk1 s l b) := by
  refine I.tk1 f0 hl hb (fun z => ?_)
  obtain ⟨V, P, St⟩ := I
  have st := St f0
  have m := sLook_le V hl (st l hl).1
  have q := sLook_add V hl hb (st l hl).1 z
  have w2 : (sAdd s l b).1 2 = s.1 2 := sAdd_o (by lia)
  have ez : (((sLook (sAdd s l b) l).toNat : Nat) : Int) = sLook (sAdd s l b) l := by lia
  exact (V.add hl hb (by lia)).msg (l := l) (gPh_add P hl) (by rw [w2]; exact q.2.1) (by rw [w2]; exact q.2.2.1) (by rw [ez, q.1]) (by lia) (by rw [w2, ez]; exact q.2.2.2.2)
end
