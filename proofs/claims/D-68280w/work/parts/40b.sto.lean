/-! what is written: a piece is made, bytes are laid -/
section
variable {h : Hp} {o u np : Nat} {A Z X B : Nat → Int}
theorem c_stpiece (P : SoP h o u np A Z X B) (hn : np < 64) : ∃ h', f_cStore_piece o h = some ((np : Int), h') ∧ SoP h' o u (np + 1) (up1 A np (u : Int)) (up1 Z np 0) (up1 X np (-1)) B ∧ FI (SoD h o) h h' := by
  have ew : w32 ((np : Int) + 1) = ((np + 1 : Nat) : Int) := by unfold w32; omega
  have xn : ix (np : Int) 64 := ⟨by omega, by omega⟩
  obtain ⟨⟨p1, p2, p3⟩, ⟨q1, q2, q3, q4⟩, d, b, e, f⟩ := P
  -- the piece's own numbers
  obtain ⟨g, eg⟩ : ∃ g, g = sI (sI (sI h (hR h o 2) np (u : Int)) (hR h o 3) np 0) (hR h o 4) np (-1) := ⟨_, rfl⟩
  have rg : hR g = hR h := by rw [eg]; rfl
  have lg : ln g = ln h := by rw [eg]; rfl
  have ig : ∀ x y, x ≠ hR h o 2 → x ≠ hR h o 3 → x ≠ hR h o 4 → hI g x y = hI h x y := fun x y h1 h2 h3 => by
    rw [eg, hI_sI, if_neg (fun z => h3 z.1), hI_sI, if_neg (fun z => h2 z.1), hI_sI, if_neg (fun z => h1 z.1)]
  have va : ∀ j, j < np + 1 → hI g (hR h o 2) j = up1 A np (u : Int) j := fun j hj => by
    rw [eg, hI_sI, if_neg (by lia), hI_sI, if_neg (by lia), hI_sI]
    by_cases c : j = np
    · rw [if_pos ⟨rfl, c⟩, c, up1_eq]
    · rw [if_neg (fun z => c z.2), up1_ne c]; exact (e j (by lia)).1
  have vz : ∀ j, j < np + 1 → hI g (hR h o 3) j = up1 Z np 0 j := fun j hj => by
    rw [eg, hI_sI, if_neg (by lia), hI_sI]
    by_cases c : j = np
    · rw [if_pos ⟨rfl, c⟩, c, up1_eq]
    · rw [if_neg (fun z => c z.2), up1_ne c, hI_sI, if_neg (by lia)]; exact (e j (by lia)).2.1
  have vx : ∀ j, j < np + 1 → hI g (hR h o 4) j = up1 X np (-1) j := fun j hj => by
    rw [eg, hI_sI]
    by_cases c : j = np
    · rw [if_pos ⟨rfl, c⟩, c, up1_eq]
    · rw [if_neg (fun z => c z.2), up1_ne c, hI_sI, if_neg (by lia), hI_sI, if_neg (by lia)]; exact (e j (by lia)).2.2
  refine ⟨sI g o 5 ((np + 1 : Nat) : Int), ?_, ?_, ?_⟩
  · have b63 : f_cStore_piece_b63 o h = some ((np : Int), sI g o 5 ((np + 1 : Nat) : Int)) := by
      have i5 : hI (sI h (hR h o 2) np (u : Int)) o 5 = (np : Int) := by rw [hI_sI, if_neg (by lia)]; exact p3
      have i5' : hI (sI (sI h (hR h o 2) np (u : Int)) (hR h o 3) np 0) o 5 = (np : Int) := by rw [hI_sI, if_neg (by lia)]; exact i5
      have i5g : hI g o 5 = (np : Int) := by rw [ig _ _ (by lia) (by lia) (by lia)]; exact p3
      unfold f_cStore_piece_b63
      rw [if_neg q2.1, p3, q2.2.2, if_pos xn, p2, Int.toNat_natCast, lt1_eq, hR_sI, if_neg q3.1, i5, ln_sI, q3.2.2, if_pos xn, Int.toNat_natCast, lt1_eq, hR_sI, hR_sI, if_neg q4.1, i5', ln_sI, ln_sI, q4.2.2, if_pos xn, Int.toNat_natCast, lt1_eq, ← eg, i5g, ew, lt1_eq]
    unfold f_cStore_piece
    rw [if_neg q2.1, p3, q2.2.2, if_pos (show (np : Int) ≠ ((64 : Nat) : Int) by lia), b63]
  · refine ⟨⟨p1, ?_, ?_⟩, ?_, ?_, ⟨b.1, by lia⟩, fun j hj => ⟨?_, ?_, ?_⟩, fun j hj => ?_⟩
    · rw [hI_sI, if_neg (by lia), ig _ _ (by lia) (by lia) (by lia)]; exact p2
    · rw [hI_sI, if_pos ⟨rfl, rfl⟩]
    · show (hR g o 0 ≠ 0 ∧ hR g o 0 ≠ o ∧ ln g (hR g o 0) = 65536) ∧ (hR g o 2 ≠ 0 ∧ hR g o 2 ≠ o ∧ ln g (hR g o 2) = 64) ∧ (hR g o 3 ≠ 0 ∧ hR g o 3 ≠ o ∧ ln g (hR g o 3) = 64) ∧ (hR g o 4 ≠ 0 ∧ hR g o 4 ≠ o ∧ ln g (hR g o 4) = 64)
      rw [rg, lg]; exact ⟨q1, q2, q3, q4⟩
    · show hR g o 0 ≠ hR g o 2 ∧ hR g o 0 ≠ hR g o 3 ∧ hR g o 0 ≠ hR g o 4 ∧ hR g o 2 ≠ hR g o 3 ∧ hR g o 2 ≠ hR g o 4 ∧ hR g o 3 ≠ hR g o 4
      rw [rg]; exact d
    · show hI (sI g o 5 _) (hR g o 2) j = _
      rw [rg, hI_sI, if_neg (by lia)]; exact va j hj
    · show hI (sI g o 5 _) (hR g o 3) j = _
      rw [rg, hI_sI, if_neg (by lia)]; exact vz j hj
    · show hI (sI g o 5 _) (hR g o 4) j = _
      rw [rg, hI_sI, if_neg (by lia)]; exact vx j hj
    · show hI (sI g o 5 _) (hR g o 0) j = _
      rw [rg, hI_sI, if_neg (by lia), ig _ _ (by lia) (by lia) (by lia)]; exact f j hj
  · rw [eg]
    exact FI.tr (FI.tr (FI.tr (FI.sI (Or.inr (Or.inr (Or.inl rfl)))) (FI.sI (Or.inr (Or.inr (Or.inr (Or.inl rfl)))))) (FI.sI (Or.inr (Or.inr (Or.inr (Or.inr rfl)))))) (FI.sI (Or.inl rfl))
theorem SoD.fx {h' : Hp} {D : Nat → Prop} (F : FI D h h') {x : Nat} : SoD h' o x ↔ SoD h o x := by unfold SoD; rw [F.r]
/-- t bytes of a row behind all others, into piece q -/
theorem c_st95 {s r fr t q : Nat} {n : Int} (P : SoP h o u np A Z X B) (s0 : s ≠ 0) (sd : ¬ SoD h o s) (r0 : r ≠ 0) (rd : ¬ SoD h o r) (hl : hI h s 5 = (q : Int)) (hw : hI h s 1 = n) (nb : 0 ≤ n ∧ n ≤ 65536) (hq : q < np) (zq : 0 ≤ Z q ∧ Z q ≤ 65536) (ht : u + t ≤ 65536) (hr : fr + t ≤ ln h r) (hz : fr + t < 1000000) :
    ∃ h', f_cStore_add_b95 o s r (fr : Int) (t : Int) h = some ((t : Int), h') ∧ SoP h' o (u + t) np A (up1 Z q (Z q + t)) X (fun j => if u ≤ j ∧ j < u + t then hI h r (fr + (j - u)) else B j) ∧ hI h' s 1 = n + t ∧ (∀ y, y ≠ 1 → hI h' s y = hI h s y) ∧ FI (fun x => SoD h o x ∨ x = s) h h' := by
  have nple := P.2.2.2.1.2
  have ew1 : w32 (Z q + (t : Int)) = Z q + t := w32_id ⟨by lia, by lia⟩
  have ew2 : w32 ((u : Int) + (t : Int)) = ((u + t : Nat) : Int) := by rw [w32_id ⟨by lia, by lia⟩]; lia
  have ew3 : w32 (n + (t : Int)) = n + t := w32_id ⟨by lia, by lia⟩
  have xq : ix (q : Int) 64 := ⟨by lia, by lia⟩
  obtain ⟨⟨p1, p2, p3⟩, ⟨q1, q2, q3, q4⟩, d, b, e, f⟩ := P
  have ns : s ≠ o ∧ s ≠ hR h o 0 ∧ s ≠ hR h o 2 ∧ s ≠ hR h o 3 ∧ s ≠ hR h o 4 := ⟨fun z => sd (Or.inl z), fun z => sd (Or.inr (Or.inl z)), fun z => sd (Or.inr (Or.inr (Or.inl z))), fun z => sd (Or.inr (Or.inr (Or.inr (Or.inl z)))), fun z => sd (Or.inr (Or.inr (Or.inr (Or.inr z))))⟩
  obtain ⟨g, eg⟩ : ∃ g, g = cpI h r fr (hR h o 0) u t := ⟨_, rfl⟩
  have rg : hR g = hR h := by rw [eg]; rfl
  have lg : ln g = ln h := by rw [eg]; rfl
  have ig : ∀ x y, x ≠ hR h o 0 → hI g x y = hI h x y := fun x y h1 => by rw [eg, hI_cI, if_neg (fun z => h1 z.1)]
  obtain ⟨g2, eg2⟩ : ∃ g2, g2 = sI g (hR h o 3) q (Z q + t) := ⟨_, rfl⟩
  obtain ⟨g3, eg3⟩ : ∃ g3, g3 = sI g2 o 1 ((u + t : Nat) : Int) := ⟨_, rfl⟩
  have i2 : hI g2 o 1 = (u : Int) := by rw [eg2, hI_sI, if_neg (by lia), ig _ _ (by lia)]; exact p2
  have i3 : hI g3 s 1 = n := by rw [eg3, hI_sI, if_neg (by lia), eg2, hI_sI, if_neg (by lia), ig _ _ (by lia)]; exact hw
  refine ⟨sI g3 s 1 (n + t), ?_, ?_, ?_, fun y hy => ?_, ?_⟩
  · unfold f_cStore_add_b95
    rw [if_neg r0, if_neg q1.1, p2, q1.2.2, if_pos ⟨by lia, by lia, by lia, by lia, by lia⟩, Int.toNat_natCast, Int.toNat_natCast, Int.toNat_natCast, lt1_eq, ← eg, if_neg s0, rg, if_neg q3.1, ig s 5 (by lia), hl, lg, q3.2.2, if_pos xq, if_pos xq, Int.toNat_natCast, ig _ q (by lia), (e q hq).2.1, ew1, lt1_eq, ← eg2, i2, ew2, lt1_eq, ← eg3, i3, ew3, lt1_eq]
  · have rr : hR (sI g3 s 1 (n + t)) = hR h := by rw [eg3, eg2]; exact rg
    have ll : ln (sI g3 s 1 (n + t)) = ln h := by rw [eg3, eg2]; exact lg
    have ii : ∀ x y, x ≠ s → x ≠ o → x ≠ hR h o 3 → x ≠ hR h o 0 → hI (sI g3 s 1 (n + t)) x y = hI h x y := fun x y h1 h2 h3 h4 => by
      rw [hI_sI, if_neg (fun z => h1 z.1), eg3, hI_sI, if_neg (fun z => h2 z.1), eg2, hI_sI, if_neg (fun z => h3 z.1), ig _ _ h4]
    unfold SoP
    rw [rr, ll]
    refine ⟨⟨p1, ?_, ?_⟩, ⟨q1, q2, q3, q4⟩, d, ⟨ht, b.2⟩, fun j hj => ⟨?_, ?_, ?_⟩, fun j hj => ?_⟩
    · rw [hI_sI, if_neg (by lia), eg3, hI_sI, if_pos ⟨rfl, rfl⟩]
    · rw [hI_sI, if_neg (by lia), eg3, hI_sI, if_neg (by lia), eg2, hI_sI, if_neg (by lia), ig _ _ (by lia)]; exact p3
    · rw [ii _ _ (by lia) (by lia) (by lia) (by lia)]; exact (e j hj).1
    · rw [hI_sI, if_neg (by lia), eg3, hI_sI, if_neg (by lia), eg2, hI_sI]
      by_cases c : j = q
      · rw [if_pos ⟨rfl, c⟩, c, up1_eq]
      · rw [if_neg (fun z => c z.2), up1_ne c, ig _ _ (by lia)]; exact (e j hj).2.1
    · rw [ii _ _ (by lia) (by lia) (by lia) (by lia)]; exact (e j hj).2.2
    · rw [hI_sI, if_neg (by lia), eg3, hI_sI, if_neg (by lia), eg2, hI_sI, if_neg (by lia), eg, hI_cI]
      show _ = if u ≤ j ∧ j < u + t then hI h r (fr + (j - u)) else B j
      by_cases c : u ≤ j ∧ j < u + t
      · rw [if_pos ⟨rfl, c⟩, if_pos c]
      · rw [if_neg (fun z => c z.2), if_neg c]; exact f j hj
  · rw [hI_sI, if_pos ⟨rfl, rfl⟩]
  · rw [hI_sI, if_neg (fun z => hy z.2), eg3, hI_sI, if_neg (by lia), eg2, hI_sI, if_neg (by lia), ig _ _ (by lia)]
  · rw [eg3, eg2, eg]
    exact FI.tr (FI.tr (FI.tr (FI.cI (Or.inl (Or.inr (Or.inl rfl)))) (FI.sI (Or.inl (Or.inr (Or.inr (Or.inr (Or.inl rfl))))))) (FI.sI (Or.inl (Or.inl rfl)))) (FI.sI (Or.inr rfl))
end
