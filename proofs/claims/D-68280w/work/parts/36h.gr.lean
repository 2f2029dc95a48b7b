/-! the greeting, class: bytes come -/
/-- the phase of a greeting: what it waits for, how far it is, how much was told and sent -/
def gPh (s : GSt) : Prop := s.1 2 = 0 ∨ ((s.1 12 = 0 ∧ s.1 3 = 0) ∧ (
  (s.1 0 = 0 ∧ s.1 2 = 2 ∧ s.1 6 = 0 ∧ s.1 7 ≤ 336 ∧ s.1 9 = 0) ∨
  (s.1 0 = 0 ∧ s.1 2 = 8 ∧ s.1 6 = 1 ∧ s.1 7 ≤ 372 ∧ s.1 9 = 0) ∨
  (s.1 0 = 0 ∧ s.1 2 = 20 ∧ s.1 6 = 1 ∧ s.1 7 ≤ 676 ∧ s.1 9 = 0) ∨
  (s.1 0 = 1 ∧ s.1 2 = 1 ∧ s.1 6 = 0 ∧ s.1 7 = 0 ∧ s.1 8 = 0 ∧ s.1 9 = 0) ∨
  (s.1 0 = 1 ∧ s.1 2 = 20 ∧ s.1 6 = 2 ∧ s.1 7 ≤ 712 ∧ s.1 9 ≤ 340)))
/-- one byte comes at a level -/
def sAdd (s : GSt) (l : Nat) (b : Int) : GSt := sApp s (10 + l) 1 (fun _ => b)
noncomputable def sTk1 (s : GSt) (l : Nat) (b : Int) : GSt :=
  if sLook (sAdd s l b) l < 0 then sFail (sAdd s l b) (-sLook (sAdd s l b) l)
  else if sLook (sAdd s l b) l = 0 then sAdd s l b
  else sNum (sMsg (sAdd s l b) (sLook (sAdd s l b) l).toNat) (10 + l) 0
/-- n bytes come -/
noncomputable def sTake (s : GSt) (l : Nat) (B : Nat → Int) : Nat → GSt
  | 0 => s
  | n + 1 => if (sTk1 s l (B 0)).1 4 ≠ 0 then sTk1 s l (B 0) else sTake (sTk1 s l (B 0)) l (fun j => B (j + 1)) n
section
variable {h h' : Hp} {g l : Nat} {s : GSt}
theorem n24 {X Y Z : Int} (hx : 0 ≤ X ∧ X < 256) (hy : 0 ≤ Y ∧ Y < 256) (hz : 0 ≤ Z ∧ Z < 256) : iOr (iOr (iShl X 16) (iShl Y 8)) Z = 65536 * X + 256 * Y + Z := by
  have e1 : iShl X 16 = X * 65536 := by
    have := iShl_eq (x := X) (n := 16) (by decide)
    rw [show ((16 : Nat) : Int) = 16 from rfl] at this
    rw [this, w32_id ⟨by omega, by omega⟩]; omega
  have e2 : iShl Y 8 = Y * 256 := by
    have := iShl_eq (x := Y) (n := 8) (by decide)
    rw [show ((8 : Nat) : Int) = 8 from rfl] at this
    rw [this, w32_id ⟨by omega, by omega⟩]; omega
  have e3 : iOr (X * 65536) (Y * 256) = X * 65536 + Y * 256 := by
    rw [iOr_add (n := 16) (by decide) (by omega) (by omega) (by omega)]
    exact w32_id ⟨by omega, by omega⟩
  have e4 : iOr (X * 65536 + Y * 256) Z = X * 65536 + Y * 256 + Z := by
    rw [iOr_add (n := 8) (by decide) (by omega) (by omega) (by omega)]
    exact w32_id ⟨by omega, by omega⟩
  rw [e1, e2, e3, e4]; omega
theorem i8_255 {X : Int} (hx : 0 ≤ X ∧ X < 256) : iAnd (i8 X) 255 = X := by
  rw [iAnd_mask (n := 8) (by decide) (by decide)]; unfold i8; lia
theorem c_gfits {w n : Int} : f_cGreeting_fits w n h = some (if gFit w n then 1 else 0, h) := by
  unfold f_cGreeting_fits gFit
  by_cases c : w = 1
  · rw [if_neg (fun z => z c), if_pos c]
    by_cases d : n < 32
    · rw [if_pos d, if_neg (by simp; lia)]
    · rw [if_neg d]
      by_cases e : 332 < n
      · rw [if_pos e, if_neg (by simp; lia)]
      · rw [if_neg e, if_pos (by simp; lia)]
  · rw [if_pos c, if_neg c]
    by_cases d : w = 8
    · rw [if_neg (fun z => z d), if_pos d]
      by_cases e : 300 < n
      · rw [if_pos e, if_neg (by simp; lia)]
      · rw [if_neg e, if_pos (by simp; lia)]
    · rw [if_pos d, if_neg d]
      by_cases e : n = 32
      · rw [if_neg (fun z => z e), if_pos (by simp; lia)]
      · rw [if_pos e, if_neg (by simp; lia)]
theorem c_glevelOf {w : Int} : f_cGreeting_levelOf w h = some ((gLev w : Int), h) := by
  unfold f_cGreeting_levelOf gLev
  by_cases c : 8 ≤ w
  · rw [if_pos c, if_pos c]; rfl
  · rw [if_neg c, if_neg c]; rfl
section
variable {k : Nat → Int → Nat → Nat → Int → Int → Hp → Option (Int × Hp)} {row : Nat} {at_ end_ : Int}
/-- behind the first look: the row's size, and what its bytes say -/
theorem c_g72 (G : GC h g s) (V : GV s) (hl : l < 2) : f_cGreeting_take_b72 k g (l : Int) row (g + 31 + 2 * l) at_ end_ h =
    if s.1 (10 + l) < 4 then f_cGreeting_take_b194 k g (l : Int) row (g + 31 + 2 * l) at_ end_ h
    else if gFit (s.1 2) (sN s l) = false then b2 (f_cGreeting_fails g 306 h) (fun r22 h20 => some (r22, h20))
    else if s.1 (10 + l) ≠ 4 + sN s l then f_cGreeting_take_b194 k g (l : Int) row (g + 31 + 2 * l) at_ end_ h
    else b1 (f_cGreeting_comes g (g + 31 + 2 * l) (sN s l) h) fun h24 => b1 (f_cRow_clear (g + 31 + 2 * l) h24) fun h26 => k g (l : Int) row (g + 31 + 2 * l) at_ end_ h26 := by
  have L := G.1.1
  have l0 := L.1
  have v10 := V.2.2.2.2.1 (10 + l) (by lia) (by lia)
  have c10 : gCc (10 + l) = 31 + 2 * l ∧ gCr (6 + l) = 32 + 2 * l := by rcases (show l = 0 ∨ l = 1 by lia) with rfl | rfl <;> exact ⟨rfl, rfl⟩
  have iz : hI h (g + 31 + 2 * l) 1 = s.1 (10 + l) := by
    have := G.i (k := 10 + l) (by lia) (by lia) (fun z => by lia) c10.1 (gc_s1 _ (by lia) (by lia))
    rw [show g + (31 + 2 * l) = g + 31 + 2 * l by lia] at this; exact this
  have ry : hR h (g + 31 + 2 * l) 0 = g + 32 + 2 * l := by rcases (show l = 0 ∨ l = 1 by lia) with rfl | rfl; exact L.r31_0; exact L.r33_0
  have lw : ln h (g + 32 + 2 * l) = 1024 := by rcases (show l = 0 ∨ l = 1 by lia) with rfl | rfl; exact L.l32; exact L.l34
  have iw : hI h g 20 = s.1 2 := G.i (k := 2) (by decide) (by decide) (fun z => by lia) (x := 0) (y := 20) rfl rfl
  have yb : ∀ j : Nat, (j : Int) < s.1 (10 + l) → hI h (g + 32 + 2 * l) j = i8 (s.2 (6 + l) j) ∧ 0 ≤ s.2 (6 + l) j ∧ s.2 (6 + l) j < 256 := fun j hj => by
    have lj : j < gLn s (6 + l) := by rw [gLn_num (by lia), show 6 + l + 4 = 10 + l by lia]; lia
    have := G.b (r := 6 + l) (by lia) (gHas_o (by lia)) lj c10.2
    rw [show g + (32 + 2 * l) = g + 32 + 2 * l by lia] at this
    exact ⟨this, V.row (by lia) (by lia) j lj⟩
  obtain ⟨y, ey⟩ : ∃ y, y = g + 31 + 2 * l := ⟨_, rfl⟩
  rw [← ey] at iz ry ⊢
  have y0 : ¬ y = 0 := by lia
  by_cases c : s.1 (10 + l) < 4
  · unfold f_cGreeting_take_b72 f_cGreeting_take_b126 f_cGreeting_take_b157
    rw [if_pos c, if_neg y0, iz, if_neg (show ¬ 4 ≤ s.1 (10 + l) by lia), if_neg y0, if_pos (show s.1 (10 + l) ≤ 3 by lia), if_neg y0, if_pos (show s.1 (10 + l) ≤ 3 by lia)]
  · have y1 := yb 1 (by lia)
    have y2 := yb 2 (by lia)
    have y3 := yb 3 (by lia)
    have eN : iOr (iOr (iShl (iAnd (i8 (s.2 (6 + l) 1)) 255) 16) (iShl (iAnd (i8 (s.2 (6 + l) 2)) 255) 8)) (iAnd (i8 (s.2 (6 + l) 3)) 255) = sN s l := by
      rw [i8_255 y1.2, i8_255 y2.2, i8_255 y3.2, n24 y1.2 y2.2 y3.2]; rfl
    have bN : 0 ≤ sN s l ∧ sN s l < 16777216 := by unfold sN; lia
    have e4 : w32 (4 + sN s l) = 4 + sN s l := w32_id ⟨by lia, by lia⟩
    rw [if_neg c]
    unfold f_cGreeting_take_b72
    rw [if_neg y0, iz, if_pos (show 4 ≤ s.1 (10 + l) by lia), ry, if_neg (show ¬ g + 32 + 2 * l = 0 by lia), lw, if_pos (by decide), if_pos (by decide), if_pos (by decide), show Int.toNat 1 = 1 from rfl, show Int.toNat 2 = 2 from rfl, show Int.toNat 3 = 3 from rfl, y1.1, y2.1, y3.1, eN]
    unfold f_cGreeting_take_b126
    rw [if_neg y0, iz, if_neg (show ¬ s.1 (10 + l) ≤ 3 by lia), iw, c_gfits, b2_some]
    by_cases d : gFit (s.1 2) (sN s l) = false
    · rw [if_pos d, if_neg (show ¬ gFit (s.1 2) (sN s l) = true by rw [d]; decide), if_neg (by decide)]
    · have d' : gFit (s.1 2) (sN s l) = true := by cases hx : gFit (s.1 2) (sN s l) with | true => rfl | false => exact absurd hx d
      rw [if_neg d, if_pos d', if_pos (by decide)]
      unfold f_cGreeting_take_b157
      rw [if_neg y0, iz, if_neg (show ¬ s.1 (10 + l) ≤ 3 by lia), e4]
/-- the first look -/
theorem c_gtop (G : GC h g s) (V : GV s) (hl : l < 2) (f0 : s.1 4 = 0) (hw : 0 ≤ s.1 2 ∧ s.1 2 < 128) (hs : sLook s l ≤ 0 ∨ sLook s l = s.1 (10 + l)) : f_cGreeting_take_b17 k g (l : Int) row (g + 31 + 2 * l) at_ end_ h =
    if sLook s l < 0 then b2 (f_cGreeting_fails g (-sLook s l) h) (fun r22 h20 => some (r22, h20))
    else if sLook s l = 0 then f_cGreeting_take_b194 k g (l : Int) row (g + 31 + 2 * l) at_ end_ h
    else b1 (f_cGreeting_comes g (g + 31 + 2 * l) (sLook s l - 4) h) fun h24 => b1 (f_cRow_clear (g + 31 + 2 * l) h24) fun h26 => k g (l : Int) row (g + 31 + 2 * l) at_ end_ h26 := by
  have L := G.1.1
  have l0 := L.1
  have v10 := V.2.2.2.2.1 (10 + l) (by lia) (by lia)
  have e72 := c_g72 (k := k) (row := row) (at_ := at_) (end_ := end_) G V hl
  have c10 : gCc (10 + l) = 31 + 2 * l ∧ gCr (6 + l) = 32 + 2 * l := by rcases (show l = 0 ∨ l = 1 by lia) with rfl | rfl <;> exact ⟨rfl, rfl⟩
  have iz : hI h (g + 31 + 2 * l) 1 = s.1 (10 + l) := by
    have := G.i (k := 10 + l) (by lia) (by lia) (fun z => by lia) c10.1 (gc_s1 _ (by lia) (by lia))
    rw [show g + (31 + 2 * l) = g + 31 + 2 * l by lia] at this; exact this
  have ry : hR h (g + 31 + 2 * l) 0 = g + 32 + 2 * l := by rcases (show l = 0 ∨ l = 1 by lia) with rfl | rfl; exact L.r31_0; exact L.r33_0
  have lw : ln h (g + 32 + 2 * l) = 1024 := by rcases (show l = 0 ∨ l = 1 by lia) with rfl | rfl; exact L.l32; exact L.l34
  have iw : hI h g 20 = s.1 2 := G.i (k := 2) (by decide) (by decide) (fun z => by lia) (x := 0) (y := 20) rfl rfl
  have if_ : hI h g 19 = s.1 4 := G.i (k := 4) (by decide) (by decide) (fun z => by lia) (x := 0) (y := 19) rfl rfl
  have yb : ∀ j : Nat, (j : Int) < s.1 (10 + l) → hI h (g + 32 + 2 * l) j = i8 (s.2 (6 + l) j) ∧ 0 ≤ s.2 (6 + l) j ∧ s.2 (6 + l) j < 256 := fun j hj => by
    have lj : j < gLn s (6 + l) := by rw [gLn_num (by lia), show 6 + l + 4 = 10 + l by lia]; lia
    have := G.b (r := 6 + l) (by lia) (gHas_o (by lia)) lj c10.2
    rw [show g + (32 + 2 * l) = g + 32 + 2 * l by lia] at this
    exact ⟨this, V.row (by lia) (by lia) j lj⟩
  obtain ⟨y, ey⟩ : ∃ y, y = g + 31 + 2 * l := ⟨_, rfl⟩
  rw [← ey] at iz ry e72 ⊢
  have y0 : ¬ y = 0 := by lia
  have b64 : f_cGreeting_take_b64 g h = b2 (f_cGreeting_fails g (-(-266)) h) (fun r22 h20 => some (r22, h20)) := rfl
  have nf : ∀ x : Int, ¬ ((-266 : Int) = 0) ∧ ((-266 : Int) < 0) ∧ ((-306 : Int) < 0) := fun _ => by decide
  unfold f_cGreeting_take_b17
  rw [if_neg (by rw [if_, f0]; decide), if_neg y0, iz, e72]
  by_cases c0 : s.1 (10 + l) = 0
  · have e : sLook s l = 0 := by unfold sLook; rw [if_pos c0]
    rw [if_pos (show s.1 (10 + l) ≤ 0 by omega), if_pos (show s.1 (10 + l) < 4 by omega), e, if_neg (show ¬ (0 : Int) < 0 by decide), if_pos rfl]
  · rw [if_neg (show ¬ s.1 (10 + l) ≤ 0 by lia), iw]
    by_cases c1 : s.1 2 = 0
    · have e : sLook s l = -266 := by unfold sLook; rw [if_neg c0, if_pos (Or.inl c1)]
      rw [if_pos c1, e, if_pos (by decide), b64]
    · rw [if_neg c1, c_glevelOf, b2_some]
      by_cases c2 : gLev (s.1 2) = l
      · rw [if_neg (fun z => z (by lia)), ry, if_neg (show ¬ g + 32 + 2 * l = 0 by lia), lw, if_pos (by decide), show Int.toNat 0 = 0 from rfl, (yb 0 (by lia)).1]
        have y00 := yb 0 (by lia)
        by_cases c3 : s.2 (6 + l) 0 = s.1 2
        · have e : sLook s l = if s.1 (10 + l) < 4 then 0 else if gFit (s.1 2) (sN s l) = false then -306 else if s.1 (10 + l) < 4 + sN s l then 0 else 4 + sN s l := by
            unfold sLook; rw [if_neg c0, if_neg (fun z => by rcases z with z | z | z; exact c1 z; exact z c2; exact z c3)]
          rw [iw, if_pos (show i8 (s.2 (6 + l) 0) = s.1 2 by rw [c3] at y00 ⊢; unfold i8; omega), e72]
          by_cases c4 : s.1 (10 + l) < 4
          · rw [if_pos c4] at e ⊢
            rw [e, if_neg (by decide), if_pos rfl]
          · have bN : 0 ≤ sN s l := by
              have := yb 1 (by lia); have := yb 2 (by lia); have := yb 3 (by lia)
              unfold sN; lia
            rw [if_neg c4] at e ⊢
            by_cases c5 : gFit (s.1 2) (sN s l) = false
            · rw [if_pos c5] at e ⊢
              rw [e, if_pos (by decide)]; rfl
            · rw [if_neg c5] at e ⊢
              by_cases c6 : s.1 (10 + l) < 4 + sN s l
              · rw [if_pos c6] at e
                rw [if_pos (by lia), e, if_neg (by decide), if_pos rfl]
              · rw [if_neg c6] at e
                have c7 : s.1 (10 + l) = 4 + sN s l := by lia
                rw [if_neg (fun z => z c7), e, if_neg (by lia), if_neg (by lia), show 4 + sN s l - 4 = sN s l by lia]
        · have e : sLook s l = -266 := by unfold sLook; rw [if_neg c0, if_pos (Or.inr (Or.inr c3))]
          rw [iw, if_neg (show ¬ i8 (s.2 (6 + l) 0) = s.1 2 by unfold i8; omega), e, if_pos (by decide), b64]
      · have e : sLook s l = -266 := by unfold sLook; rw [if_neg c0, if_pos (Or.inr (Or.inl c2))]
        rw [if_pos (fun z => c2 (by lia)), e, if_pos (by decide), b64]
end
end
