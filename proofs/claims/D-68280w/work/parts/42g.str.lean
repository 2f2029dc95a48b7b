/-! streams: what always holds is kept when bytes come -/
section
variable {s i k f w p n : Nat} {x y : HSt} {v was c e last : Int} {F : Nat → Int} {H : Nat → Prop}
theorem uP_id : uP x f i (zP x f i) = x := by
  have : up2 x.2.1 f i (zP x f i) = x.2.1 := funext fun a => funext fun b => by
    show (if a = f ∧ b = i then x.2.1 f i else x.2.1 a b) = _
    by_cases c : a = f ∧ b = i
    · rw [if_pos c, c.1, c.2]
    · rw [if_neg c]
  show (x.1, up2 x.2.1 f i (zP x f i), x.2.2) = x
  rw [this]
theorem uQ_id : uQ x k (zQ x k) = x := by
  have : up1 x.1 k (zQ x k) = x.1 := funext fun a => by
    show (if a = k then x.1 k else x.1 a) = _
    by_cases c : a = k
    · rw [if_pos c, c]
    · rw [if_neg c]
  show (up1 x.1 k (zQ x k), x.2) = x
  rw [this]
theorem zHn_rdy {R B : Nat} (h1 : ∀ q, q < R → H q) (h2 : ¬ H R) (h3 : ∀ q, H q → q < B) : ∃ r, zRdy (zHn H p n) = r ∧ (∀ q, q < r → zHn H p n q) ∧ ¬ zHn H p n r ∧ R ≤ r ∧ r ≤ max B (p + n) := by
  have w := fst1_w (c := fun q => ¬ zHn H p n q) (n := max B (p + n))
  have ne : ¬ zHn H p n (max B (p + n)) := fun z => by
    rcases z with z | z
    · have := h3 _ z; omega
    · omega
  obtain ⟨r, er⟩ : ∃ r, r = fst1 (fun q => ¬ zHn H p n q) (max B (p + n)) := ⟨_, rfl⟩
  rw [← er] at w
  have all : ∀ q, q < r → zHn H p n q := fun q hq => Classical.not_not.1 (w.2.1 q hq)
  have nr : ¬ zHn H p n r := by
    by_cases c : r < max B (p + n)
    · exact w.2.2 c
    · rw [show r = max B (p + n) by omega]; exact ne
  refine ⟨r, zRdy_eq all nr, all, nr, ?_, w.1⟩
  by_cases c : r < R
  · exact absurd (Or.inl (h1 r c)) nr
  · omega
/-- what a frame that fits leaves of the numbers -/
theorem zFit_0 (h : zFit s x i e last = 0) : (0 ≤ zP x 14 i → e ≤ zP x 14 i ∧ (last = 1 → e = zP x 14 i)) ∧ (last = 1 → zP x 13 i ≤ e) ∧ e ≤ (if zP x 0 i = 1 then zP x 15 i else zGr s x i) ∧ zQ x 4 + max (e - zP x 13 i) 0 ≤ zQ x 6 := by
  unfold zFit at h
  split at h
  · omega
  · rename_i a
    split at h
    · omega
    · rename_i b
      refine ⟨fun z => ⟨?_, fun w => ?_⟩, fun w => ?_, ?_, ?_⟩ <;> omega
theorem HV.rr (V : HV s x) (hi : i < 256) : (0 ≤ zP x 11 i ∧ zP x 11 i ≤ zP x 12 i ∧ zP x 12 i ≤ zP x 13 i ∧ zP x 13 i ≤ 65536) ∧ -1 ≤ zP x 14 i ∧ zP x 14 i ≤ 65536 ∧ (0 ≤ zP x 14 i → zP x 13 i ≤ zP x 14 i) := by
  have v7 := (V.S hi).2.2.2.2.2.2.1
  exact ⟨v7.1, v7.2.2.2.1⟩
/-- the size of what is no more live is known -/
theorem HV.sz (V : HV s x) (hi : i < 256) (hl : ¬ (zP x 10 i = 0 ∨ zP x 10 i = 1)) : 0 ≤ zP x 14 i ∧ zP x 14 i = zP x 13 i := by
  have v8 := (V.S hi).2.2.2.2.2.2.2.1
  have r := V.rr hi
  by_cases c : zP x 10 i = 4
  · have := v8.1 c; omega
  · have q := (v8.2 c).1
    clear v8
    unfold zRs at q
    by_cases d : zP x 14 i < 0
    · rw [if_pos d] at q; omega
    · rw [if_neg d] at q
      by_cases d2 : zP x 11 i = zP x 14 i
      · clear q; omega
      · rw [if_neg d2] at q
        by_cases d3 : zP x 12 i = zP x 14 i
        · clear q; omega
        · rw [if_neg d3] at q; omega
theorem HV.cm0 (V : HV s x) (hi : i < 256) (h : zP x 0 i = 1 ∧ zRc s i) (hf : zFit s x i (p + n : Nat) (if last = 1 then 1 else 0) = 0) (hl : ¬ (zP x 10 i = 0 ∨ zP x 10 i = 1)) : zCm x i p n last F = x ∧ ((p + n : Nat) : Int) ≤ zP x 13 i ∧ (last = 1 → zP x 14 i = (p + n : Nat)) := by
  have a := zFit_0 hf
  have sz := V.sz hi hl
  have a1 := a.1 sz.1
  have e1 : zRch x i (p + n : Nat) = x := by
    unfold zRch
    rw [show max ((p + n : Nat) - zP x 13 i) 0 = 0 by omega, Int.add_zero, show max (zP x 13 i) ((p + n : Nat) : Int) = zP x 13 i by omega, uQ_id, uP_id]
  have e2 : (if last = 1 then uP x 14 i ((p + n : Nat) : Int) else x) = x := by
    by_cases c : last = 1
    · rw [if_pos c]
      have := a1.2 (if_pos c)
      rw [this, uP_id]
    · rw [if_neg c]
  refine ⟨?_, by omega, fun z => (a1.2 (if_pos z)).symm⟩
  unfold zCm
  simp only [e1, e2]
  rw [if_neg hl]
theorem HV.cm1 (V : HV s x) (hi : i < 256) (h : zP x 0 i = 1 ∧ zRc s i) (hf : zFit s x i (p + n : Nat) (if last = 1 then 1 else 0) = 0) (hl : zP x 10 i = 0 ∨ zP x 10 i = 1) : HV s (zCm x i p n last F) := by
  have a := zFit_0 hf
  have v9 := (V.S hi).2.2.2.2.2.2.2.2.1
  obtain ⟨⟨q1, q2, q3, q4, q5, q6, q7, q8, q9⟩, g, l, w0, w1⟩ := V.2.1
  rw [if_pos h.1] at a
  have a1 : last = 1 → zP x 13 i ≤ (p + n : Nat) := fun z => a.2.1 (if_pos z)
  have a2 : 0 ≤ zP x 14 i → ((p + n : Nat) : Int) ≤ zP x 14 i := fun z => (a.1 z).1
  have a3 := a.2.2
  obtain ⟨r, er, r1, r2, r3, r4⟩ := zHn_rdy (p := p) (n := n) (B := (zP x 13 i).toNat) v9.1 v9.2.1 (fun q hq => by have := v9.2.2 q hq; omega)
  -- the stream behind it
  obtain ⟨z14, e14⟩ : ∃ z, z = if last = 1 then ((p + n : Nat) : Int) else zP x 14 i := ⟨_, rfl⟩
  obtain ⟨y, ey⟩ : ∃ y, y = zCm x i p n last F := ⟨_, rfl⟩
  rw [← ey]
  have sh : y = uP (uP (uC (if last = 1 then uP (zRch x i (p + n : Nat)) 14 i (p + n : Nat) else zRch x i (p + n : Nat)) i (zHn (zH x i) p n) (zWn (zH x i) (zW x i) p F)) 12 i r) 10 i (zRs z14 (zP x 11 i) r) := by
    rw [ey]; unfold zCm
    have b10 : ∀ z : HSt, (z = zRch x i (p + n : Nat) ∨ z = uP (zRch x i (p + n : Nat)) 14 i (p + n : Nat)) → zP z 10 i = zP x 10 i ∧ zP z 11 i = zP x 11 i ∧ zH z i = zH x i ∧ zW z i = zW x i := fun z hz => by
      unfold zRch at hz
      rcases hz with hz | hz <;> rw [hz] <;> exact ⟨by simp only [zQ_uP, zQ_uM, zQ_uS, zQ_uC, zP_uQ, zP_uM, zP_uS, zP_uC, zM_uQ, zM_uP, zM_uS, zM_uC, zE_uQ, zE_uP, zE_uM, zE_uC, zH_uQ, zH_uP, zH_uM, zH_uS, zW_uQ, zW_uP, zW_uM, zW_uS, zB_uQ, zB_uP, zB_uM, zB_uS, zB_uC, zQ_uQe, zP_uPe, zM_uMe, zE_uSe, zH_uCe, zW_uCe, zOT_uP, zOT_uM, zQ_uQn, zP_uPn, ne_eq, Nat.reduceEqDiff, not_false_eq_true], by simp only [zQ_uP, zQ_uM, zQ_uS, zQ_uC, zP_uQ, zP_uM, zP_uS, zP_uC, zM_uQ, zM_uP, zM_uS, zM_uC, zE_uQ, zE_uP, zE_uM, zE_uC, zH_uQ, zH_uP, zH_uM, zH_uS, zW_uQ, zW_uP, zW_uM, zW_uS, zB_uQ, zB_uP, zB_uM, zB_uS, zB_uC, zQ_uQe, zP_uPe, zM_uMe, zE_uSe, zH_uCe, zW_uCe, zOT_uP, zOT_uM, zQ_uQn, zP_uPn, ne_eq, Nat.reduceEqDiff, not_false_eq_true], rfl, rfl⟩
    have b14 : zP (zRch x i (p + n : Nat)) 14 i = zP x 14 i := by unfold zRch; simp only [zQ_uP, zQ_uM, zQ_uS, zQ_uC, zP_uQ, zP_uM, zP_uS, zP_uC, zM_uQ, zM_uP, zM_uS, zM_uC, zE_uQ, zE_uP, zE_uM, zE_uC, zH_uQ, zH_uP, zH_uM, zH_uS, zW_uQ, zW_uP, zW_uM, zW_uS, zB_uQ, zB_uP, zB_uM, zB_uS, zB_uC, zQ_uQe, zP_uPe, zM_uMe, zE_uSe, zH_uCe, zW_uCe, zOT_uP, zOT_uM, zQ_uQn, zP_uPn, ne_eq, Nat.reduceEqDiff, not_false_eq_true]
    by_cases c : last = 1
    · obtain ⟨c1, c2, c3, c4⟩ := b10 _ (Or.inr rfl)
      simp only [if_pos c]
      rw [c1, if_pos hl, c3, c4, er]
      rw [zSet_n (by rw [zP_uPn (by decide), zP_uC, c1]; omega)]
      rw [zP_uPn (by decide), zP_uC, zP_uPe, zP_uPn (by decide), zP_uC, c2, zP_uPe, e14, if_pos c]
    · obtain ⟨c1, c2, c3, c4⟩ := b10 _ (Or.inl rfl)
      simp only [if_neg c]
      rw [c1, if_pos hl, c3, c4, er]
      rw [zSet_n (by rw [zP_uPn (by decide), zP_uC, c1]; omega)]
      rw [zP_uPn (by decide), zP_uC, b14, zP_uPn (by decide), zP_uC, c2, zP_uPe, e14, if_neg c]
  have yq : ∀ k, k ≠ 4 → zQ y k = zQ x k := fun k hk => by
    rw [sh]; unfold zRch; split <;> simp only [zQ_uP, zQ_uM, zQ_uS, zQ_uC, zP_uQ, zP_uM, zP_uS, zP_uC, zM_uQ, zM_uP, zM_uS, zM_uC, zE_uQ, zE_uP, zE_uM, zE_uC, zH_uQ, zH_uP, zH_uM, zH_uS, zW_uQ, zW_uP, zW_uM, zW_uS, zB_uQ, zB_uP, zB_uM, zB_uS, zB_uC, zQ_uQn hk]
  have y4 : zQ y 4 = zQ x 4 + max (((p + n : Nat) : Int) - zP x 13 i) 0 := by
    rw [sh]; unfold zRch; split <;> simp only [zQ_uP, zQ_uM, zQ_uS, zQ_uC, zP_uQ, zP_uM, zP_uS, zP_uC, zM_uQ, zM_uP, zM_uS, zM_uC, zE_uQ, zE_uP, zE_uM, zE_uC, zH_uQ, zH_uP, zH_uM, zH_uS, zW_uQ, zW_uP, zW_uM, zW_uS, zB_uQ, zB_uP, zB_uM, zB_uS, zB_uC, zQ_uQe, zP_uPe, zM_uMe, zE_uSe, zH_uCe, zW_uCe, zOT_uP, zOT_uM, zQ_uQn, zP_uPn, ne_eq, Nat.reduceEqDiff, not_false_eq_true]
  have pf : ∀ f, f ≠ 10 → f ≠ 12 → f ≠ 13 → f ≠ 14 → zP y f = zP x f := fun f b1 b2 b3 b4 => by
    rw [sh, zP_uPn b1, zP_uPn b2, zP_uC]; unfold zRch
    split
    · rw [zP_uPn b4, zP_uPn b3, zP_uQ]
    · rw [zP_uPn b3, zP_uQ]
  have p10 : zP y 10 i = zRs z14 (zP x 11 i) r := by rw [sh, zP_uPe]
  have p12 : zP y 12 i = r := by rw [sh, zP_uPn (by decide), zP_uPe]
  have p13 : zP y 13 i = max (zP x 13 i) ((p + n : Nat) : Int) := by
    rw [sh, zP_uPn (by decide), zP_uPn (by decide), zP_uC]; unfold zRch
    split
    · rw [zP_uPn (by decide), zP_uPe]
    · rw [zP_uPe]
  have p14 : zP y 14 i = z14 := by
    rw [sh, zP_uPn (by decide), zP_uPn (by decide), zP_uC, e14]; unfold zRch
    split
    · rw [zP_uPe]
    · rw [zP_uPn (by decide), zP_uQ]
  have pj : ∀ j, j ≠ i → ∀ f, zP y f j = zP x f j := fun j hj f => by
    rw [sh, zP_uPj hj, zP_uPj hj, zP_uC]; unfold zRch
    split
    · rw [zP_uPj hj, zP_uPj hj, zP_uQ]
    · rw [zP_uPj hj, zP_uQ]
  have hh : ∀ j, zH y j = if j = i then zHn (zH x i) p n else zH x j := fun j => by
    rw [sh]; unfold zRch; split <;> rfl
  have ym : zM y = zM x := by rw [sh]; unfold zRch; split <;> rfl
  have ye : zE y = zE x := by rw [sh]; unfold zRch; split <;> rfl
  have s13 : sm (zP y 13) 256 = sm (zP x 13) 256 + max (((p + n : Nat) : Int) - zP x 13 i) 0 := by
    rw [sm_up (f := zP x 13) (g := zP y 13) hi (fun j _ hj => pj j hj 13), p13]; omega
  have zr := zRs_n (a := z14) (b := zP x 11 i) (d := (r : Int))
  have sc : sm (zCo y) 256 = sm (zCo x) 256 := sm_cg (fun j _ => by
    by_cases c : j = i
    · rw [c]; unfold zCo; rw [p10, if_neg zr.1, if_neg (show ¬ zP x 10 i = 4 by omega), pf 11 (by decide) (by decide) (by decide) (by decide)]
    · unfold zCo; rw [pj j c, pj j c, pj j c])
  have cc : ∀ f, f ≠ 10 → f ≠ 12 → f ≠ 13 → f ≠ 14 → zP y f i = zP x f i := fun f b1 b2 b3 b4 => by rw [pf f b1 b2 b3 b4]
  refine V.one hi (V.2.1.cg' (fun k _ h4 _ _ _ => yq k h4) (by rw [yq 3 (by decide), pf 3 (by decide) (by decide) (by decide) (by decide)]; exact q3) (by rw [y4, s13, ← q4.1]; exact ⟨rfl, a3.2⟩) (by rw [yq 5 (by decide), sc]; exact q5) (by rw [yq 9 (by decide), pf 2 (by decide) (by decide) (by decide) (by decide)]; exact q8) (by rw [yq 50 (by decide)]; exact q9)) (fun j _ _ => ?_) (by rw [yq 9 (by decide)]; exact Int.le_refl _) (fun j _ hj => ⟨pj j hj, by rw [ym], by rw [ye], by rw [hh, if_neg hj]⟩) ?_ (V.2.2.2.cg (fun j _ => ⟨by rw [pf 2 (by decide) (by decide) (by decide) (by decide)], by rw [ye]⟩))
  · unfold zOT
    rw [yq _ (by omega), yq _ (by omega)]
  · have eo : zOT s y i = zOT s x i := by unfold zOT; rw [yq _ (by omega), yq _ (by omega)]
    unfold SVx
    rw [eo, ym, ye, hh i, if_pos rfl, yq 9 (by decide), p10, p12, p13, p14, cc 0 (by decide) (by decide) (by decide) (by decide), cc 1 (by decide) (by decide) (by decide) (by decide), cc 2 (by decide) (by decide) (by decide) (by decide), cc 3 (by decide) (by decide) (by decide) (by decide), cc 4 (by decide) (by decide) (by decide) (by decide), cc 5 (by decide) (by decide) (by decide) (by decide), cc 6 (by decide) (by decide) (by decide) (by decide), cc 7 (by decide) (by decide) (by decide) (by decide), cc 8 (by decide) (by decide) (by decide) (by decide), cc 11 (by decide) (by decide) (by decide) (by decide), cc 15 (by decide) (by decide) (by decide) (by decide), cc 16 (by decide) (by decide) (by decide) (by decide), cc 17 (by decide) (by decide) (by decide) (by decide), cc 18 (by decide) (by decide) (by decide) (by decide), cc 19 (by decide) (by decide) (by decide) (by decide), cc 20 (by decide) (by decide) (by decide) (by decide)]
    have z14b : (last = 1 ∧ z14 = (p + n : Nat)) ∨ (last ≠ 1 ∧ z14 = zP x 14 i) := by
      rw [e14]
      by_cases c : last = 1
      · rw [if_pos c]; exact Or.inl ⟨c, rfl⟩
      · rw [if_neg c]; exact Or.inr ⟨c, rfl⟩
    clear e14
    obtain ⟨v1, v2, v3, v4, v5, v6, v7, v8, _, v10⟩ := V.S hi
    have n4 : zP x 10 i ≠ 4 := by rcases hl with e | e <;> rw [e] <;> decide
    have v8' := (v8.2 n4).2
    have hz : ∀ q : Nat, zHn (zH x i) p n q → (q : Int) < max (zP x 13 i) ((p + n : Nat) : Int) := fun q z => by
      rcases z with z | z
      · have := v9.2.2 q z; exact Int.lt_of_lt_of_le this (Int.le_max_left _ _)
      · exact Int.lt_of_lt_of_le (Int.ofNat_lt.2 z.2) (Int.le_max_right _ _)
    have nums : (0 ≤ zP x 11 i ∧ zP x 11 i ≤ (r : Int) ∧ (r : Int) ≤ max (zP x 13 i) ((p + n : Nat) : Int) ∧ max (zP x 13 i) ((p + n : Nat) : Int) ≤ 65536) ∧ max (zP x 13 i) ((p + n : Nat) : Int) ≤ zP x 15 i ∧ -1 ≤ z14 ∧ z14 ≤ 65536 ∧ (0 ≤ z14 → max (zP x 13 i) ((p + n : Nat) : Int) ≤ z14) := by
      have w15 := v7.2.1
      have w13 := v7.2.2.1 h
      have rr := V.rr hi
      clear v1 v2 v3 v4 v5 v6 v7 v8 v10 q1 q2 q3 q4 q5 q6 q7 q8 q9 g l w0 w1 v9 pf pj hh yq cc hl h
      omega
    refine ⟨v1, v2, fun z => absurd h z, v4, v5, v6, ⟨nums.1, v7.2.1, fun _ => nums.2.1, nums.2.2, v7.2.2.2.2⟩, ⟨fun z => absurd z zr.1, fun _ => ⟨rfl, v8'⟩⟩, ⟨?_, ?_, hz⟩, v10⟩
    · rw [Int.toNat_natCast]; exact r1
    · rw [Int.toNat_natCast]; exact r2
end
