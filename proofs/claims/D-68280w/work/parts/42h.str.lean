/-! streams: what always holds is kept by a reset, by what is sent, by what became of it -/
section
variable {s i k f w p n : Nat} {x y : HSt} {v was c e last arr room : Int} {F : Nat → Int} {u u' : Nat → Int}
theorem HV.isR0 (V : HV s x) (hi : i < 256) (h : zP x 0 i = 1 ∧ zRc s i) (hf : zFit s x i e 1 = 0) (hl : ¬ (zP x 10 i = 0 ∨ zP x 10 i = 1)) : zIsR x i c e = x ∧ zP x 13 i = e ∧ zP x 14 i = e := by
  have a := zFit_0 hf
  have sz := V.sz hi hl
  have a1 := (a.1 sz.1).2 rfl
  have e1 : zRch x i e = x := by
    unfold zRch
    rw [show max (e - zP x 13 i) 0 = 0 by omega, Int.add_zero, show max (zP x 13 i) e = zP x 13 i by omega, uQ_id, uP_id]
  refine ⟨?_, by omega, by omega⟩
  unfold zIsR
  simp only [e1]
  rw [if_neg hl]
theorem HV.isR1 (V : HV s x) (hi : i < 256) (h : zP x 0 i = 1 ∧ zRc s i) (hf : zFit s x i e 1 = 0) (he : 0 ≤ e) (hl : zP x 10 i = 0 ∨ zP x 10 i = 1) (hc : 0 ≤ c ∧ c ≤ MST) : HV s (zIsR x i c e) := by
  have a := zFit_0 hf
  rw [if_pos h.1] at a
  have a2 := a.2.1 rfl
  obtain ⟨⟨q1, q2, q3, q4, q5, q6, q7, q8, q9⟩, g, l, w0, w1⟩ := V.2.1
  obtain ⟨y, ey⟩ : ∃ y, y = uQ (uP (uP (uP (zRch x i e) 10 i 4) 16 i c) 14 i e) 5 (zQ x 5 + (e - zP x 11 i)) := ⟨_, rfl⟩
  have sh : zIsR x i c e = zGrow y := by
    have b1 : zP (zRch x i e) 10 i = zP x 10 i ∧ zP (zRch x i e) 11 i = zP x 11 i ∧ zQ (zRch x i e) 5 = zQ x 5 := by
      unfold zRch; exact ⟨by simp only [zQ_uP, zQ_uM, zQ_uS, zQ_uC, zP_uQ, zP_uM, zP_uS, zP_uC, zM_uQ, zM_uP, zM_uS, zM_uC, zE_uQ, zE_uP, zE_uM, zE_uC, zH_uQ, zH_uP, zH_uM, zH_uS, zW_uQ, zW_uP, zW_uM, zW_uS, zB_uQ, zB_uP, zB_uM, zB_uS, zB_uC, zQ_uQe, zP_uPe, zM_uMe, zE_uSe, zH_uCe, zW_uCe, zOT_uP, zOT_uM, zQ_uQn, zP_uPn, ne_eq, Nat.reduceEqDiff, not_false_eq_true], by simp only [zQ_uP, zQ_uM, zQ_uS, zQ_uC, zP_uQ, zP_uM, zP_uS, zP_uC, zM_uQ, zM_uP, zM_uS, zM_uC, zE_uQ, zE_uP, zE_uM, zE_uC, zH_uQ, zH_uP, zH_uM, zH_uS, zW_uQ, zW_uP, zW_uM, zW_uS, zB_uQ, zB_uP, zB_uM, zB_uS, zB_uC, zQ_uQe, zP_uPe, zM_uMe, zE_uSe, zH_uCe, zW_uCe, zOT_uP, zOT_uM, zQ_uQn, zP_uPn, ne_eq, Nat.reduceEqDiff, not_false_eq_true], by simp only [zQ_uP, zQ_uM, zQ_uS, zQ_uC, zP_uQ, zP_uM, zP_uS, zP_uC, zM_uQ, zM_uP, zM_uS, zM_uC, zE_uQ, zE_uP, zE_uM, zE_uC, zH_uQ, zH_uP, zH_uM, zH_uS, zW_uQ, zW_uP, zW_uM, zW_uS, zB_uQ, zB_uP, zB_uM, zB_uS, zB_uC, zQ_uQe, zP_uPe, zM_uMe, zE_uSe, zH_uCe, zW_uCe, zOT_uP, zOT_uM, zQ_uQn, zP_uPn, ne_eq, Nat.reduceEqDiff, not_false_eq_true]⟩
    unfold zIsR
    simp only []
    rw [b1.1, if_pos hl, b1.2.1, b1.2.2, ey]
  rw [sh]
  refine HV.grow ?_
  have yq : ∀ k, k ≠ 4 → k ≠ 5 → zQ y k = zQ x k := fun k h4 h5 => by rw [ey, zQ_uQn h5]; unfold zRch; simp only [zQ_uP, zQ_uM, zQ_uS, zQ_uC, zP_uQ, zP_uM, zP_uS, zP_uC, zM_uQ, zM_uP, zM_uS, zM_uC, zE_uQ, zE_uP, zE_uM, zE_uC, zH_uQ, zH_uP, zH_uM, zH_uS, zW_uQ, zW_uP, zW_uM, zW_uS, zB_uQ, zB_uP, zB_uM, zB_uS, zB_uC, zQ_uQn h4]
  have y4 : zQ y 4 = zQ x 4 + max (e - zP x 13 i) 0 := by rw [ey]; unfold zRch; simp only [zQ_uP, zQ_uM, zQ_uS, zQ_uC, zP_uQ, zP_uM, zP_uS, zP_uC, zM_uQ, zM_uP, zM_uS, zM_uC, zE_uQ, zE_uP, zE_uM, zE_uC, zH_uQ, zH_uP, zH_uM, zH_uS, zW_uQ, zW_uP, zW_uM, zW_uS, zB_uQ, zB_uP, zB_uM, zB_uS, zB_uC, zQ_uQe, zP_uPe, zM_uMe, zE_uSe, zH_uCe, zW_uCe, zOT_uP, zOT_uM, zQ_uQn, zP_uPn, ne_eq, Nat.reduceEqDiff, not_false_eq_true]
  have y5 : zQ y 5 = zQ x 5 + (e - zP x 11 i) := by rw [ey, zQ_uQe]
  have pf : ∀ f, f ≠ 10 → f ≠ 13 → f ≠ 14 → f ≠ 16 → zP y f = zP x f := fun f b1 b2 b3 b4 => by rw [ey, zP_uQ, zP_uPn b3, zP_uPn b4, zP_uPn b1]; unfold zRch; rw [zP_uPn b2, zP_uQ]
  have p10 : zP y 10 i = 4 := by rw [ey]; simp only [zQ_uP, zQ_uM, zQ_uS, zQ_uC, zP_uQ, zP_uM, zP_uS, zP_uC, zM_uQ, zM_uP, zM_uS, zM_uC, zE_uQ, zE_uP, zE_uM, zE_uC, zH_uQ, zH_uP, zH_uM, zH_uS, zW_uQ, zW_uP, zW_uM, zW_uS, zB_uQ, zB_uP, zB_uM, zB_uS, zB_uC, zQ_uQe, zP_uPe, zM_uMe, zE_uSe, zH_uCe, zW_uCe, zOT_uP, zOT_uM, zQ_uQn, zP_uPn, ne_eq, Nat.reduceEqDiff, not_false_eq_true]
  have p13 : zP y 13 i = e := by rw [ey]; unfold zRch; simp only [zQ_uP, zQ_uM, zQ_uS, zQ_uC, zP_uQ, zP_uM, zP_uS, zP_uC, zM_uQ, zM_uP, zM_uS, zM_uC, zE_uQ, zE_uP, zE_uM, zE_uC, zH_uQ, zH_uP, zH_uM, zH_uS, zW_uQ, zW_uP, zW_uM, zW_uS, zB_uQ, zB_uP, zB_uM, zB_uS, zB_uC, zQ_uQe, zP_uPe, zM_uMe, zE_uSe, zH_uCe, zW_uCe, zOT_uP, zOT_uM, zQ_uQn, zP_uPn, ne_eq, Nat.reduceEqDiff, not_false_eq_true]; omega
  have p14 : zP y 14 i = e := by rw [ey]; simp only [zQ_uP, zQ_uM, zQ_uS, zQ_uC, zP_uQ, zP_uM, zP_uS, zP_uC, zM_uQ, zM_uP, zM_uS, zM_uC, zE_uQ, zE_uP, zE_uM, zE_uC, zH_uQ, zH_uP, zH_uM, zH_uS, zW_uQ, zW_uP, zW_uM, zW_uS, zB_uQ, zB_uP, zB_uM, zB_uS, zB_uC, zQ_uQe, zP_uPe, zM_uMe, zE_uSe, zH_uCe, zW_uCe, zOT_uP, zOT_uM, zQ_uQn, zP_uPn, ne_eq, Nat.reduceEqDiff, not_false_eq_true]
  have p16 : zP y 16 i = c := by rw [ey]; simp only [zQ_uP, zQ_uM, zQ_uS, zQ_uC, zP_uQ, zP_uM, zP_uS, zP_uC, zM_uQ, zM_uP, zM_uS, zM_uC, zE_uQ, zE_uP, zE_uM, zE_uC, zH_uQ, zH_uP, zH_uM, zH_uS, zW_uQ, zW_uP, zW_uM, zW_uS, zB_uQ, zB_uP, zB_uM, zB_uS, zB_uC, zQ_uQe, zP_uPe, zM_uMe, zE_uSe, zH_uCe, zW_uCe, zOT_uP, zOT_uM, zQ_uQn, zP_uPn, ne_eq, Nat.reduceEqDiff, not_false_eq_true]
  have pj : ∀ j, j ≠ i → ∀ f, zP y f j = zP x f j := fun j hj f => by rw [ey, zP_uQ, zP_uPj hj, zP_uPj hj, zP_uPj hj]; unfold zRch; rw [zP_uPj hj, zP_uQ]
  have ym : zM y = zM x := by rw [ey]; rfl
  have ye : zE y = zE x := by rw [ey]; rfl
  have yh : zH y = zH x := by rw [ey]; rfl
  have s13 : sm (zP y 13) 256 = sm (zP x 13) 256 + max (e - zP x 13 i) 0 := by
    rw [sm_up (f := zP x 13) (g := zP y 13) hi (fun j _ hj => pj j hj 13), p13]; omega
  have sc : sm (zCo y) 256 = sm (zCo x) 256 + (e - zP x 11 i) := by
    rw [sm_up (f := zCo x) (g := zCo y) hi (fun j _ hj => by unfold zCo; rw [pj j hj, pj j hj, pj j hj])]
    unfold zCo
    rw [p10, if_pos rfl, if_neg (show ¬ zP x 10 i = 4 by omega), p14]
  refine V.one hi (V.2.1.cg' (fun k _ h4 h5 _ _ => yq k h4 h5) (by rw [yq 3 (by decide) (by decide), pf 3 (by decide) (by decide) (by decide) (by decide)]; exact q3) (by rw [y4, s13, ← q4.1]; exact ⟨rfl, a.2.2.2⟩) (by rw [y5, sc, ← q5]) (by rw [yq 9 (by decide) (by decide), pf 2 (by decide) (by decide) (by decide) (by decide)]; exact q8) (by rw [yq 50 (by decide) (by decide)]; exact q9)) (fun j _ _ => ?_) (by rw [yq 9 (by decide) (by decide)]; exact Int.le_refl _) (fun j _ hj => ⟨pj j hj, by rw [ym], by rw [ye], by rw [yh]⟩) ?_ (V.2.2.2.cg (fun j _ => ⟨by rw [pf 2 (by decide) (by decide) (by decide) (by decide)], by rw [ye]⟩))
  · unfold zOT
    rw [yq _ (by omega) (by omega), yq _ (by omega) (by omega)]
  · have eo : zOT s y i = zOT s x i := by unfold zOT; rw [yq _ (by omega) (by omega), yq _ (by omega) (by omega)]
    have cc : ∀ f, f ≠ 10 → f ≠ 13 → f ≠ 14 → f ≠ 16 → zP y f i = zP x f i := fun f b1 b2 b3 b4 => by rw [pf f b1 b2 b3 b4]
    unfold SVx
    rw [eo, ym, ye, yh, yq 9 (by decide) (by decide), p10, p13, p14, p16, cc 0 (by decide) (by decide) (by decide) (by decide), cc 1 (by decide) (by decide) (by decide) (by decide), cc 2 (by decide) (by decide) (by decide) (by decide), cc 3 (by decide) (by decide) (by decide) (by decide), cc 4 (by decide) (by decide) (by decide) (by decide), cc 5 (by decide) (by decide) (by decide) (by decide), cc 6 (by decide) (by decide) (by decide) (by decide), cc 7 (by decide) (by decide) (by decide) (by decide), cc 8 (by decide) (by decide) (by decide) (by decide), cc 11 (by decide) (by decide) (by decide) (by decide), cc 12 (by decide) (by decide) (by decide) (by decide), cc 15 (by decide) (by decide) (by decide) (by decide), cc 17 (by decide) (by decide) (by decide) (by decide), cc 18 (by decide) (by decide) (by decide) (by decide), cc 19 (by decide) (by decide) (by decide) (by decide), cc 20 (by decide) (by decide) (by decide) (by decide)]
    obtain ⟨v1, v2, v3, v4, v5, v6, v7, v8, v9, v10⟩ := V.S hi
    have nums : (0 ≤ zP x 11 i ∧ zP x 11 i ≤ zP x 12 i ∧ zP x 12 i ≤ e ∧ e ≤ 65536) ∧ e ≤ zP x 15 i ∧ -1 ≤ e ∧ e ≤ 65536 ∧ (0 ≤ e → e ≤ e) := by
      have w15 := v7.2.1
      have rr := V.rr hi
      clear v1 v2 v3 v4 v5 v6 v7 v8 v9 v10 q1 q2 q3 q4 q5 q6 q7 q8 q9 g l w0 w1 pf pj yq cc hl h
      omega
    refine ⟨v1, v2, fun z => absurd h z, v4, v5, v6, ⟨nums.1, v7.2.1, fun _ => nums.2.1, nums.2.2, hc, v7.2.2.2.2.2⟩, ⟨fun _ => rfl, fun z => absurd rfl z⟩, ⟨v9.1, v9.2.1, fun q z => Int.lt_of_lt_of_le (v9.2.2 q z) a2⟩, v10⟩
theorem ctV_cg (e : ∀ j, j < n → (u j = v ↔ u' j = v)) : ctV u v n = ctV u' v n := by
  induction n with
  | zero => rfl
  | succ n ih =>
    show ctV u v n + (if u n = v then 1 else 0) = ctV u' v n + (if u' n = v then 1 else 0)
    rw [ih (fun j hj => e j (by omega))]
    by_cases c : u n = v
    · rw [if_pos c, if_pos ((e n (by omega)).1 c)]
    · rw [if_neg c, if_neg (fun z => c ((e n (by omega)).2 z))]
theorem ctV_le : 0 ≤ ctV u v n ∧ ctV u v n ≤ n := by
  induction n with
  | zero => exact ⟨Int.le_refl _, Int.le_refl _⟩
  | succ n ih =>
    show 0 ≤ ctV u v n + (if u n = v then 1 else 0) ∧ ctV u v n + (if u n = v then 1 else 0) ≤ ((n + 1 : Nat) : Int)
    split <;> omega
theorem ctV_eq (h : ctV u v n = n) : ∀ j, j < n → u j = v := by
  induction n with
  | zero => intro j hj; omega
  | succ n ih =>
    have h' : ctV u v n + (if u n = v then 1 else 0) = ((n + 1 : Nat) : Int) := h
    have le := ctV_le (u := u) (v := v) (n := n)
    intro j hj
    by_cases c : u n = v
    · rw [if_pos c] at h'
      by_cases d : j = n
      · rw [d]; exact c
      · exact ih (by omega) j (by omega)
    · rw [if_neg c] at h'; omega
theorem ctV_full (h : ∀ j, j < n → u j = v) : ctV u v n = n := by
  have := ctV_all (u := u) (v := v) (a := 0) (n := n) (fun j _ hj => h j hj) (Nat.zero_le _)
  rw [this]; show (0 : Int) + _ = _; omega
/-- where the bytes lie that are sent next -/
theorem zLo_w (V : HV s x) (hi : i < 256) : ((zLo x i : Nat) : Int) ≤ zP x 3 i ∧ (∀ j, j < zLo x i → zM x i j ≠ 2) ∧ ((zLo x i : Int) < zP x 3 i → zM x i (zLo x i) = 2 ∧ 1 ≤ zRun x i ∧ (zLo x i + zRun x i : Nat) ≤ zP x 3 i ∧ ∀ j, j < zRun x i → zM x i (zLo x i + j) = 2) := by
  have v4 := (V.S hi).2.2.2.1.1
  have w := fst1_w (c := fun j => zM x i j = 2) (n := (zP x 3 i).toNat)
  have w2 := fst1_w (c := fun j => zM x i (zLo x i + j) ≠ 2) (n := (zP x 3 i).toNat - zLo x i)
  have el : zLo x i = fst1 (fun j => zM x i j = 2) (zP x 3 i).toNat := rfl
  have er : zRun x i = fst1 (fun j => zM x i (zLo x i + j) ≠ 2) ((zP x 3 i).toNat - zLo x i) := rfl
  rw [← el] at w
  rw [← er] at w2
  refine ⟨by omega, w.2.1, fun z => ?_⟩
  have m2 := w.2.2 (by omega)
  refine ⟨m2, ?_, by omega, fun j hj => Classical.not_not.1 (w2.2.1 j hj)⟩
  by_cases c : zRun x i = 0
  · rw [c] at w2
    have := w2.2.2 (by omega)
    rw [Nat.add_zero] at this
    exact absurd m2 this
  · omega
theorem zCnt_w (V : HV s x) (hi : i < 256) (hc : zCan x i room) : ((zLo x i : Int) < zP x 3 i → 1 ≤ zCnt x i room ∧ (zLo x i + zCnt x i room : Nat) ≤ zP x 3 i ∧ zCnt x i room ≤ zRun x i) ∧ (¬ (zLo x i : Int) < zP x 3 i → (zLo x i : Int) = zP x 3 i ∧ (zP x 3 i + zCnt x i room ≤ zP x 2 i)) ∧ 0 ≤ zMny x i ∧ ((zCnt x i room : Nat) : Int) ≤ zMny x i ∧ (zCnt x i room : Int) = min (zMny x i) (zMost x i room) := by
  have v4 := (V.S hi).2.2.2.1.1
  have L := zLo_w V hi
  obtain ⟨_, c2, c3⟩ := hc
  have em : 0 ≤ zMost x i room := by
    by_cases d : zEnd x i
    · rw [if_pos d] at c2; omega
    · rw [if_neg d] at c2; omega
  unfold zCnt
  by_cases d : (zLo x i : Int) < zP x 3 i
  · have l := L.2.2 d
    have mn : zMny x i = zRun x i := by unfold zMny; rw [if_pos d]
    have ne : ¬ zEnd x i := fun z => by have := z.1; omega
    rw [if_neg ne] at c2
    rw [mn]
    refine ⟨fun _ => ⟨by omega, by omega, by omega⟩, fun z => absurd d z, by omega, by omega, by omega⟩
  · have mn : zMny x i = zOpn x i := by unfold zMny; rw [if_neg d]
    rw [mn]
    unfold zOpn
    refine ⟨fun z => absurd z d, fun _ => ⟨by omega, by omega⟩, by omega, by omega, by omega⟩
theorem HV.snt (V : HV s x) (hi : i < 256) (h : zP x 0 i = 1 ∧ zSd s i) (hc : zCan x i room) : HV s (zSent x i room).2 := by
  have v4 := (V.S hi).2.2.2.1.1
  have v6 := (V.S hi).2.2.2.2.2.1
  obtain ⟨⟨q1, q2, q3, q4, q5, q6, q7, q8, q9⟩, g, l, w0, w1⟩ := V.2.1
  have L := zLo_w V hi
  have C := zCnt_w V hi hc
  obtain ⟨m, em⟩ : ∃ m, m = zCnt x i room := ⟨_, rfl⟩
  obtain ⟨o, eo⟩ : ∃ o, o = zLo x i := ⟨_, rfl⟩
  obtain ⟨y, ey⟩ : ∃ y, y = (zSent x i room).2 := ⟨_, rfl⟩
  obtain ⟨P4, e4⟩ : ∃ P, P = if zFc x i m = 1 ∧ zP x 4 i ≠ 4 then 2 else zP x 4 i := ⟨_, rfl⟩
  have sh : y = uQ (uP (uP (uQ (uM x i (fun j => if o ≤ j ∧ j < o + m then 1 else zM x i j)) 3 (zQ x 3 + max ((o + m : Nat) - zP x 3 i) 0)) 3 i (max (zP x 3 i) (o + m : Nat))) 4 i P4) 7 i := by
    rw [ey, e4]
    unfold zSent
    simp only [← em, ← eo]
    by_cases c : zFc x i m = 1 ∧ zP x 4 i ≠ 4
    · rw [if_pos c, if_pos c]
    · rw [if_neg c, if_neg c]
      have : zP (uP (uQ (uM x i (fun j => if o ≤ j ∧ j < o + m then 1 else zM x i j)) 3 (zQ x 3 + max ((o + m : Nat) - zP x 3 i) 0)) 3 i (max (zP x 3 i) (o + m : Nat))) 4 i = zP x 4 i := by simp only [zQ_uP, zQ_uM, zQ_uS, zQ_uC, zP_uQ, zP_uM, zP_uS, zP_uC, zM_uQ, zM_uP, zM_uS, zM_uC, zE_uQ, zE_uP, zE_uM, zE_uC, zH_uQ, zH_uP, zH_uM, zH_uS, zW_uQ, zW_uP, zW_uM, zW_uS, zB_uQ, zB_uP, zB_uM, zB_uS, zB_uC, zQ_uQe, zP_uPe, zM_uMe, zE_uSe, zH_uCe, zW_uCe, zOT_uP, zOT_uM, zQ_uQn, zP_uPn, ne_eq, Nat.reduceEqDiff, not_false_eq_true]
      rw [← this, uP_id]
  rw [← ey, sh]
  rw [← em, ← eo] at C
  rw [← eo] at L
  clear sh ey
  obtain ⟨y, ey⟩ : ∃ y, y = uP (uP (uQ (uM x i (fun j => if o ≤ j ∧ j < o + m then 1 else zM x i j)) 3 (zQ x 3 + max ((o + m : Nat) - zP x 3 i) 0)) 3 i (max (zP x 3 i) (o + m : Nat))) 4 i P4 := ⟨_, rfl⟩
  rw [← ey]
  have yq : ∀ k, k ≠ 3 → zQ y k = zQ x k := fun k h3 => by rw [ey]; simp only [zQ_uP, zQ_uM, zQ_uS, zQ_uC, zP_uQ, zP_uM, zP_uS, zP_uC, zM_uQ, zM_uP, zM_uS, zM_uC, zE_uQ, zE_uP, zE_uM, zE_uC, zH_uQ, zH_uP, zH_uM, zH_uS, zW_uQ, zW_uP, zW_uM, zW_uS, zB_uQ, zB_uP, zB_uM, zB_uS, zB_uC, zQ_uQn h3]
  have y3 : zQ y 3 = zQ x 3 + max ((o + m : Nat) - zP x 3 i) 0 := by rw [ey]; simp only [zQ_uP, zQ_uM, zQ_uS, zQ_uC, zP_uQ, zP_uM, zP_uS, zP_uC, zM_uQ, zM_uP, zM_uS, zM_uC, zE_uQ, zE_uP, zE_uM, zE_uC, zH_uQ, zH_uP, zH_uM, zH_uS, zW_uQ, zW_uP, zW_uM, zW_uS, zB_uQ, zB_uP, zB_uM, zB_uS, zB_uC, zQ_uQe, zP_uPe, zM_uMe, zE_uSe, zH_uCe, zW_uCe, zOT_uP, zOT_uM, zQ_uQn, zP_uPn, ne_eq, Nat.reduceEqDiff, not_false_eq_true]
  have pf : ∀ f, f ≠ 3 → f ≠ 4 → zP y f = zP x f := fun f b1 b2 => by rw [ey, zP_uPn b2, zP_uPn b1]; rfl
  have p3 : zP y 3 i = max (zP x 3 i) (o + m : Nat) := by rw [ey]; simp only [zQ_uP, zQ_uM, zQ_uS, zQ_uC, zP_uQ, zP_uM, zP_uS, zP_uC, zM_uQ, zM_uP, zM_uS, zM_uC, zE_uQ, zE_uP, zE_uM, zE_uC, zH_uQ, zH_uP, zH_uM, zH_uS, zW_uQ, zW_uP, zW_uM, zW_uS, zB_uQ, zB_uP, zB_uM, zB_uS, zB_uC, zQ_uQe, zP_uPe, zM_uMe, zE_uSe, zH_uCe, zW_uCe, zOT_uP, zOT_uM, zQ_uQn, zP_uPn, ne_eq, Nat.reduceEqDiff, not_false_eq_true]
  have p4 : zP y 4 i = P4 := by rw [ey, zP_uPe]
  have pj : ∀ j, j ≠ i → ∀ f, zP y f j = zP x f j := fun j hj f => by rw [ey, zP_uPj hj, zP_uPj hj]; rfl
  have mj : ∀ j, j ≠ i → zM y j = zM x j := fun j hj => by rw [ey]; simp only [zQ_uP, zQ_uM, zQ_uS, zQ_uC, zP_uQ, zP_uM, zP_uS, zP_uC, zM_uQ, zM_uP, zM_uS, zM_uC, zE_uQ, zE_uP, zE_uM, zE_uC, zH_uQ, zH_uP, zH_uM, zH_uS, zW_uQ, zW_uP, zW_uM, zW_uS, zB_uQ, zB_uP, zB_uM, zB_uS, zB_uC, zM_uMn hj]
  have mi : zM y i = fun j => if o ≤ j ∧ j < o + m then 1 else zM x i j := by rw [ey]; simp only [zQ_uP, zQ_uM, zQ_uS, zQ_uC, zP_uQ, zP_uM, zP_uS, zP_uC, zM_uQ, zM_uP, zM_uS, zM_uC, zE_uQ, zE_uP, zE_uM, zE_uC, zH_uQ, zH_uP, zH_uM, zH_uS, zW_uQ, zW_uP, zW_uM, zW_uS, zB_uQ, zB_uP, zB_uM, zB_uS, zB_uC, zQ_uQe, zP_uPe, zM_uMe, zE_uSe, zH_uCe, zW_uCe, zOT_uP, zOT_uM, zQ_uQn, zP_uPn, ne_eq, Nat.reduceEqDiff, not_false_eq_true]
  have ye : zE y = zE x := by rw [ey]; rfl
  have yh : zH y = zH x := by rw [ey]; rfl
  have s3 : sm (zP y 3) 256 = sm (zP x 3) 256 + max ((o + m : Nat) - zP x 3 i) 0 := by
    rw [sm_up (f := zP x 3) (g := zP y 3) hi (fun j _ hj => pj j hj 3), p3]; omega
  have cc : zCo y = zCo x := funext fun j => by unfold zCo; rw [pf 10 (by decide) (by decide), pf 14 (by decide) (by decide), pf 11 (by decide) (by decide)]
  have fc : zFc x i m = 1 → zP x 1 i = 1 := fun z => by
    unfold zFc at z
    split at z
    · rename_i c; exact c.1
    · omega
  have V' : HV s y := by
    refine V.one hi (V.2.1.cg' (fun k h3 _ _ _ _ => yq k h3) (by rw [y3, s3, ← q3]) (by rw [yq 4 (by decide), pf 13 (by decide) (by decide)]; exact ⟨q4.1, q4.2.1⟩) (by rw [yq 5 (by decide), cc]; exact q5) (by rw [yq 9 (by decide), pf 2 (by decide) (by decide)]; exact q8) (by rw [yq 50 (by decide)]; exact q9)) (fun j _ _ => ?_) (by rw [yq 9 (by decide)]; exact Int.le_refl _) (fun j _ hj => ⟨pj j hj, mj j hj, by rw [ye], by rw [yh]⟩) ?_ (V.2.2.2.cg (fun j _ => ⟨by rw [pf 2 (by decide) (by decide)], by rw [ye]⟩))
    · unfold zOT
      rw [yq _ (by omega), yq _ (by omega)]
    · have eo' : zOT s y i = zOT s x i := by unfold zOT; rw [yq _ (by omega), yq _ (by omega)]
      have c0 : ∀ f, f ≠ 3 → f ≠ 4 → zP y f i = zP x f i := fun f b1 b2 => by rw [pf f b1 b2]
      have ct : zP x 4 i = 4 ∨ zP x 1 i = 2 → ctV (zM y i) 3 (zP x 2 i).toNat = ctV (zM x i) 3 (zP x 2 i).toNat := fun _ => ctV_cg (fun j hj => by
        rw [mi]
        show (if o ≤ j ∧ j < o + m then (1 : Int) else zM x i j) = 3 ↔ zM x i j = 3
        by_cases z : o ≤ j ∧ j < o + m
        · rw [if_pos z]
          refine ⟨fun z => by omega, fun z3 => ?_⟩
          by_cases d : (o : Int) < zP x 3 i
          · have l := L.2.2 d
            have c1 := C.1 d
            have := l.2.2.2 (j - o) (by omega)
            rw [show o + (j - o) = j by omega] at this
            omega
          · have c2 := C.2.1 d
            have := (v6 j).2.2.2 (by omega)
            omega
        · rw [if_neg z])
      unfold SVx
      rw [eo', ye, yh, yq 9 (by decide), p3, p4, c0 0 (by decide) (by decide), c0 1 (by decide) (by decide), c0 2 (by decide) (by decide), c0 5 (by decide) (by decide), c0 6 (by decide) (by decide), c0 7 (by decide) (by decide), c0 8 (by decide) (by decide), c0 10 (by decide) (by decide), c0 11 (by decide) (by decide), c0 12 (by decide) (by decide), c0 13 (by decide) (by decide), c0 14 (by decide) (by decide), c0 15 (by decide) (by decide), c0 16 (by decide) (by decide), c0 17 (by decide) (by decide), c0 18 (by decide) (by decide), c0 19 (by decide) (by decide), c0 20 (by decide) (by decide)]
      have b4 : (zP x 1 i = 1 ∧ zP x 4 i ≠ 4 ∧ P4 = 2) ∨ P4 = zP x 4 i := by
        rw [e4]
        by_cases c : zFc x i m = 1 ∧ zP x 4 i ≠ 4
        · rw [if_pos c]; exact Or.inl ⟨fc c.1, c.2, rfl⟩
        · rw [if_neg c]; exact Or.inr rfl
      have lim : ((o + m : Nat) : Int) ≤ zP x 2 i := by
        by_cases d : (o : Int) < zP x 3 i
        · have := C.1 d; omega
        · have := C.2.1 d; omega
      have p1b := hc.1
      obtain ⟨v1, v2, v3, w4, v5, _, v7, v8, v9, v10⟩ := V.S hi
      have n3 : 0 ≤ max (zP x 3 i) ((o + m : Nat) : Int) ∧ max (zP x 3 i) ((o + m : Nat) : Int) ≤ zP x 2 i ∧ zP x 2 i ≤ 65536 := by
        clear ct b4 p1b c0 eo' v1 v2 v3 w4 v5 v7 v8 v9 v10 q1 q2 q3 q4 q5 q6 q7 q8 q9 g l w0 w1 pf pj mj mi yq cc fc hc h C L v6
        omega
      have n4 : 0 ≤ P4 ∧ P4 ≤ 4 := by
        have := w4.2.2.1
        rcases b4 with b4 | b4
        · rw [b4.2.2]; decide
        · rw [b4]; exact this
      refine ⟨v1, fun z => absurd h z, v3, ⟨n3, w4.2.1, n4, w4.2.2.2⟩, ⟨fun z => ?_, fun z => ⟨?_, fun z2 => ?_⟩, fun z => ?_, v5.2.2.2⟩, fun j => ?_, v7, v8, v9, v10⟩
      · rcases b4 with b4 | b4
        · rw [b4.1] at z; exact absurd z (by decide)
        · rw [b4]; exact v5.1 z
      · rcases b4 with b4 | b4
        · rw [b4.2.2]; decide
        · rw [b4]; exact (v5.2.1 z).1
      · have := (v5.2.1 z).2
        have z3 : zP x 4 i = 4 := by
          rcases b4 with b4 | b4
          · rw [b4.2.2] at z2; exact absurd z2.1 (by decide)
          · rw [← b4]; exact z2.1
        rw [ct (Or.inl z3)] at z2
        exact this ⟨z3, z2.2⟩
      · rcases p1b with p | p
        · rw [p] at z; exact absurd z (by decide)
        · rw [p] at z; exact absurd z (by decide)
      · rw [mi]
        have := v6 j
        have L1 := L.1
        clear ct b4 p1b c0 eo' v1 v2 v3 w4 v5 v7 v8 v9 v10 q1 q2 q3 q4 q5 q6 q7 q8 q9 g l w0 w1 pf pj mj yq cc fc hc h C L v6
        show 0 ≤ (if o ≤ j ∧ j < o + m then (1 : Int) else zM x i j) ∧ (if o ≤ j ∧ j < o + m then (1 : Int) else zM x i j) ≤ 3 ∧ ((if o ≤ j ∧ j < o + m then (1 : Int) else zM x i j) = 0 ↔ max (zP x 3 i) ((o + m : Nat) : Int) ≤ j)
        by_cases z : o ≤ j ∧ j < o + m
        · rw [if_pos z]
          exact ⟨by omega, by omega, fun z => by omega, fun z => by omega⟩
        · rw [if_neg z]
          refine ⟨this.1, this.2.1, fun w => ?_, fun w => this.2.2.2 (by omega)⟩
          have := this.2.2.1 w
          omega
  refine V'.setQ (by decide) (V'.2.1.u7 (by omega))
theorem HV.goS (V : HV s x) (hi : i < 256) (h : zP x 0 i = 1 ∧ zSd s i) (hp : ((p + n : Nat) : Int) ≤ zP x 3 i) (hl : last = 1 → zP x 4 i ≠ 0) : HV s (zGoS x i p n last arr) := by
  obtain ⟨m, em⟩ : ∃ m : Nat → Int, m = zGm x i p n arr := ⟨_, rfl⟩
  obtain ⟨P4, e4⟩ : ∃ P : Int, P = zG4 x i last arr := ⟨_, rfl⟩
  obtain ⟨P1, e1⟩ : ∃ P : Int, P = zG1 x i p n last arr := ⟨_, rfl⟩
  have sh : zGoS x i p n last arr = uP (uP (uM x i m) 4 i P4) 1 i P1 := by rw [em, e4, e1]; rfl
  unfold zG1 at e1
  rw [← em, ← e4] at e1
  unfold zG4 at e4
  unfold zGm at em
  rw [sh]
  have mv : ∀ j, (p ≤ j ∧ j < p + n → m j = 3 ∨ m j = 2) ∧ (¬ (p ≤ j ∧ j < p + n) → m j = zM x i j) ∧ (zM x i j = 3 → m j = 3) := fun j => by
    rw [em]
    refine ⟨fun z => ?_, fun z => if_neg z, fun z => ?_⟩
    · show (if p ≤ j ∧ j < p + n then (if zM x i j = 3 then (3 : Int) else if arr = 1 then 3 else 2) else zM x i j) = 3 ∨ (if p ≤ j ∧ j < p + n then (if zM x i j = 3 then (3 : Int) else if arr = 1 then 3 else 2) else zM x i j) = 2
      rw [if_pos z]
      split
      · exact Or.inl rfl
      · split
        · exact Or.inl rfl
        · exact Or.inr rfl
    · show (if p ≤ j ∧ j < p + n then (if zM x i j = 3 then (3 : Int) else if arr = 1 then 3 else 2) else zM x i j) = 3
      rw [if_pos z]
      split
      · rfl
      · exact z
  refine V.on2 hi rfl (fun j hj => ⟨fun f => by rw [zP_uPj hj, zP_uPj hj]; rfl, by simp only [zQ_uP, zQ_uM, zQ_uS, zQ_uC, zP_uQ, zP_uM, zP_uS, zP_uC, zM_uQ, zM_uP, zM_uS, zM_uC, zE_uQ, zE_uP, zE_uM, zE_uC, zH_uQ, zH_uP, zH_uM, zH_uS, zW_uQ, zW_uP, zW_uM, zW_uS, zB_uQ, zB_uP, zB_uM, zB_uS, zB_uC, zM_uMn hj], rfl, rfl⟩) (by simp only [zQ_uP, zQ_uM, zQ_uS, zQ_uC, zP_uQ, zP_uM, zP_uS, zP_uC, zM_uQ, zM_uP, zM_uS, zM_uC, zE_uQ, zE_uP, zE_uM, zE_uC, zH_uQ, zH_uP, zH_uM, zH_uS, zW_uQ, zW_uP, zW_uM, zW_uS, zB_uQ, zB_uP, zB_uM, zB_uS, zB_uC, zQ_uQe, zP_uPe, zM_uMe, zE_uSe, zH_uCe, zW_uCe, zOT_uP, zOT_uM, zQ_uQn, zP_uPn, ne_eq, Nat.reduceEqDiff, not_false_eq_true]) (by simp only [zQ_uP, zQ_uM, zQ_uS, zQ_uC, zP_uQ, zP_uM, zP_uS, zP_uC, zM_uQ, zM_uP, zM_uS, zM_uC, zE_uQ, zE_uP, zE_uM, zE_uC, zH_uQ, zH_uP, zH_uM, zH_uS, zW_uQ, zW_uP, zW_uM, zW_uS, zB_uQ, zB_uP, zB_uM, zB_uS, zB_uC, zQ_uQe, zP_uPe, zM_uMe, zE_uSe, zH_uCe, zW_uCe, zOT_uP, zOT_uM, zQ_uQn, zP_uPn, ne_eq, Nat.reduceEqDiff, not_false_eq_true]) (by simp only [zQ_uP, zQ_uM, zQ_uS, zQ_uC, zP_uQ, zP_uM, zP_uS, zP_uC, zM_uQ, zM_uP, zM_uS, zM_uC, zE_uQ, zE_uP, zE_uM, zE_uC, zH_uQ, zH_uP, zH_uM, zH_uS, zW_uQ, zW_uP, zW_uM, zW_uS, zB_uQ, zB_uP, zB_uM, zB_uS, zB_uC, zQ_uQe, zP_uPe, zM_uMe, zE_uSe, zH_uCe, zW_uCe, zOT_uP, zOT_uM, zQ_uQn, zP_uPn, ne_eq, Nat.reduceEqDiff, not_false_eq_true]) (by rw [zCo_uP (by decide), zCo_uP (by decide)]; rfl) rfl ?_
  unfold SVx
  simp only [zQ_uP, zQ_uM, zQ_uS, zQ_uC, zP_uQ, zP_uM, zP_uS, zP_uC, zM_uQ, zM_uP, zM_uS, zM_uC, zE_uQ, zE_uP, zE_uM, zE_uC, zH_uQ, zH_uP, zH_uM, zH_uS, zW_uQ, zW_uP, zW_uM, zW_uS, zB_uQ, zB_uP, zB_uM, zB_uS, zB_uC, zQ_uQe, zP_uPe, zM_uMe, zE_uSe, zH_uCe, zW_uCe, zOT_uP, zOT_uM, zQ_uQn, zP_uPn, ne_eq, Nat.reduceEqDiff, not_false_eq_true]
  have b4 : P4 = zP x 4 i ∨ (last = 1 ∧ zP x 4 i ≠ 4 ∧ (P4 = 4 ∨ P4 = 3)) := by
    rw [e4]
    by_cases c : last = 1 ∧ zP x 4 i ≠ 4
    · rw [if_pos c]; right; exact ⟨c.1, c.2, by split <;> omega⟩
    · rw [if_neg c]; exact Or.inl rfl
  have b1 : (P1 = 2 ∧ zP x 1 i = 1 ∧ P4 = 4 ∧ ctV m 3 (zP x 2 i).toNat = zP x 2 i) ∨ (P1 = zP x 1 i ∧ ¬ (zP x 1 i = 1 ∧ P4 = 4 ∧ ctV m 3 (zP x 2 i).toNat = zP x 2 i)) := by
    rw [e1]
    by_cases c : zP x 1 i = 1 ∧ P4 = 4 ∧ ctV m 3 (zP x 2 i).toNat = zP x 2 i
    · rw [if_pos c]; exact Or.inl ⟨rfl, c⟩
    · rw [if_neg c]; exact Or.inr ⟨rfl, c⟩
  have n4 : last = 1 → zP x 4 i ≠ 0 := hl
  obtain ⟨v1, v2, v3, v4, v5, v6, v7, v8, v9, v10⟩ := V.S hi
  have m4 : 0 ≤ P4 ∧ P4 ≤ 4 := by
    have := v4.2.2.1
    rcases b4 with b4 | ⟨_, _, b4 | b4⟩
    · rw [b4]; exact this
    · rw [b4]; decide
    · rw [b4]; decide
  have m1 : 0 ≤ P1 ∧ P1 ≤ 4 := by
    have := v4.2.1
    rcases b1 with b1 | b1
    · rw [b1.1]; decide
    · rw [b1.1]; exact this
  have z4 : zP x 1 i = 0 → P4 = 0 := fun z => by
    have e0 := v5.1 z
    rcases b4 with b4 | b4
    · rw [b4]; exact e0
    · exact absurd e0 (n4 b4.1)
  have z41 : zP x 4 i ≠ 0 → P4 ≠ 0 := fun z => by
    rcases b4 with b4 | ⟨_, _, b4 | b4⟩
    · rw [b4]; exact z
    · rw [b4]; decide
    · rw [b4]; decide
  refine ⟨v1, fun z => absurd h z, v3, ⟨v4.1, m1, m4, v4.2.2.2⟩, ⟨fun z => ?_, fun z => ⟨?_, ?_⟩, fun z => ?_, fun z => ?_⟩, fun j => ?_, v7, v8, v9, v10⟩
  · rcases b1 with b1 | b1
    · rw [b1.1] at z; exact absurd z (by decide)
    · rw [b1.1] at z; exact z4 z
  · rcases b1 with b1 | b1
    · rw [b1.1] at z; exact absurd z (by decide)
    · rw [b1.1] at z; exact z41 (v5.2.1 z).1
  · intro z2
    rcases b1 with c1 | c1
    · rw [c1.1] at z; exact absurd z (by decide)
    · rw [c1.1] at z; exact c1.2 ⟨z, z2⟩
  · rcases b1 with ⟨c1, c2, c3, c4⟩ | ⟨c1, c2⟩
    · exact ⟨c3, c4⟩
    · rw [c1] at z
      have v5' := v5.2.2.1 z
      refine ⟨?_, ?_⟩
      · rcases b4 with b4 | b4
        · rw [b4]; exact v5'.1
        · exact absurd v5'.1 b4.2.1
      · obtain ⟨W, eW⟩ : ∃ W : Nat, zP x 2 i = W := ⟨(zP x 2 i).toNat, by have := v4.1; omega⟩
        rw [eW, Int.toNat_natCast] at v5' ⊢
        exact ctV_full (fun j hj => (mv j).2.2 (ctV_eq v5'.2 j hj))
  · rcases b1 with b1 | b1
    · exact v5.2.2.2 (by rw [b1.2.1]; decide)
    · rw [b1.1] at z; exact v5.2.2.2 z
  · have a := v6 j
    obtain ⟨m1, m2, m3⟩ := mv j
    by_cases z : p ≤ j ∧ j < p + n
    · have := m1 z
      clear v1 v2 v3 v4 v5 v6 v7 v8 v9 v10 b1 b4 mv z4 z41 e1 e4 em
      exact ⟨by omega, by omega, fun w => by omega, fun w => by omega⟩
    · rw [m2 z]; exact a
end
