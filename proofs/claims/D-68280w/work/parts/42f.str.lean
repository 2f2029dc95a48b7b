/-! streams: what always holds is kept when streams begin, when bytes are written -/
section
variable {s i k f w : Nat} {x y : HSt} {v was c : Int}
theorem zLi_uP : zLi s (uP x f i v) k = zLi s x k := rfl
theorem zGr_uP : zGr s (uP x f i v) k = zGr s x k := rfl
theorem zBeg_uQ (h : k < 30 ∨ 50 ≤ k) : zBeg s (uQ x k v) i = uQ (zBeg s x i) k v := by
  unfold zBeg
  rw [zLi_uQ h, zGr_uQ h]; rfl
theorem zBeg_P (h : f ≠ 0 ∧ f ≠ 5 ∧ f ≠ 15) : zP (zBeg s x i) f = zP x f := by
  unfold zBeg
  rw [zP_uPn h.2.2, zP_uPn h.2.1, zP_uPn h.1]
theorem zBeg_j {j : Nat} (h : j ≠ i) : zP (zBeg s x i) f j = zP x f j := by
  unfold zBeg
  rw [zP_uPj h, zP_uPj h, zP_uPj h]
theorem zBeg_0 : zP (zBeg s x i) 0 i = 1 ∧ zP (zBeg s x i) 5 i = zLi s x i ∧ zP (zBeg s x i) 15 i = zGr s x i := by
  unfold zBeg
  exact ⟨by simp only [zQ_uP, zQ_uM, zQ_uS, zQ_uC, zP_uQ, zP_uM, zP_uS, zP_uC, zM_uQ, zM_uP, zM_uS, zM_uC, zE_uQ, zE_uP, zE_uM, zE_uC, zH_uQ, zH_uP, zH_uM, zH_uS, zW_uQ, zW_uP, zW_uM, zW_uS, zB_uQ, zB_uP, zB_uM, zB_uS, zB_uC, zQ_uQe, zP_uPe, zM_uMe, zE_uSe, zH_uCe, zW_uCe, zOT_uP, zOT_uM, zQ_uQn, zP_uPn, ne_eq, Nat.reduceEqDiff, not_false_eq_true], by simp only [zQ_uP, zQ_uM, zQ_uS, zQ_uC, zP_uQ, zP_uM, zP_uS, zP_uC, zM_uQ, zM_uP, zM_uS, zM_uC, zE_uQ, zE_uP, zE_uM, zE_uC, zH_uQ, zH_uP, zH_uM, zH_uS, zW_uQ, zW_uP, zW_uM, zW_uS, zB_uQ, zB_uP, zB_uM, zB_uS, zB_uC, zQ_uQe, zP_uPe, zM_uMe, zE_uSe, zH_uCe, zW_uCe, zOT_uP, zOT_uM, zQ_uQn, zP_uPn, ne_eq, Nat.reduceEqDiff, not_false_eq_true], by simp only [zQ_uP, zQ_uM, zQ_uS, zQ_uC, zP_uQ, zP_uM, zP_uS, zP_uC, zM_uQ, zM_uP, zM_uS, zM_uC, zE_uQ, zE_uP, zE_uM, zE_uC, zH_uQ, zH_uP, zH_uM, zH_uS, zW_uQ, zW_uP, zW_uM, zW_uS, zB_uQ, zB_uP, zB_uM, zB_uS, zB_uC, zQ_uQe, zP_uPe, zM_uMe, zE_uSe, zH_uCe, zW_uCe, zOT_uP, zOT_uM, zQ_uQn, zP_uPn, ne_eq, Nat.reduceEqDiff, not_false_eq_true]⟩
theorem zBeg_Q : zQ (zBeg s x i) = zQ x := rfl
theorem HV.beg (V : HV s x) (hi : i < 256) (h0 : zP x 0 i = 0) (hk : k = (if i % 2 = s then 10 else 11) + 10 * (i / 2 % 2)) (ho : zQ x k = ((i / 4 : Nat) : Int)) (hb : zQ x k < zQ x (k + 1 + (if i % 2 = s then 2 else 0))) : HV s (uQ (zBeg s x i) k (zQ x k + 1)) := by
  have s2 := V.1
  have hw := V.w i
  obtain ⟨w, ew⟩ : ∃ w, w = i / 2 % 2 := ⟨_, rfl⟩
  have w2 : w < 2 := by omega
  rw [← ew] at hk hw
  have q0 : HVq (zBeg s x i) := V.2.1.cg zBeg_Q (by rw [zBeg_P (by decide)]) (by rw [zBeg_P (by decide)]) (by rw [zBeg_P (by decide)]) (by
    have : zCo (zBeg s x i) = zCo x := funext fun j => by unfold zCo; rw [zBeg_P (by decide), zBeg_P (by decide), zBeg_P (by decide)]
    rw [this])
  have hw0 : HVw (zBeg s x i) w := hw
  have kk : 10 + 10 * w ≤ k ∧ k < 17 + 10 * w := by split at hk <;> omega
  have q1 : HVq (uQ (zBeg s x i) k (zQ x k + 1)) := q0.uw w2 kk (by
    unfold HVw at hw ⊢
    obtain ⟨h1, h2, h3, h4, h5⟩ := hw
    by_cases c : i % 2 = s
    · rw [if_pos c] at hk hb
      have e1 : k = 10 + 10 * w := by omega
      rw [show k + 1 + 2 = 13 + 10 * w by omega, e1] at hb
      have e2 : ∀ j, j ≠ 10 + 10 * w → zQ (uQ (zBeg s x i) k (zQ x k + 1)) j = zQ x j := fun j hj => by rw [zQ_uQn (by omega), zBeg_Q]
      have e3 : zQ (uQ (zBeg s x i) k (zQ x k + 1)) (10 + 10 * w) = zQ x (10 + 10 * w) + 1 := by rw [← e1, zQ_uQe]
      rw [e3, e2 _ (by omega), e2 _ (by omega), e2 _ (by omega), e2 _ (by omega), e2 _ (by omega), e2 _ (by omega)]
      exact ⟨by omega, h2, ⟨h3.1, fun z => by have := h3.2 z; omega⟩, h4, h5⟩
    · rw [if_neg c] at hk hb
      have e1 : k = 11 + 10 * w := by omega
      rw [show k + 1 + 0 = 12 + 10 * w by omega, e1] at hb
      have e2 : ∀ j, j ≠ 11 + 10 * w → zQ (uQ (zBeg s x i) k (zQ x k + 1)) j = zQ x j := fun j hj => by rw [zQ_uQn (by omega), zBeg_Q]
      have e3 : zQ (uQ (zBeg s x i) k (zQ x k + 1)) (11 + 10 * w) = zQ x (11 + 10 * w) + 1 := by rw [← e1, zQ_uQe]
      rw [e3, e2 _ (by omega), e2 _ (by omega), e2 _ (by omega), e2 _ (by omega), e2 _ (by omega), e2 _ (by omega)]
      exact ⟨h1, by omega, h3, h4, h5⟩)
  obtain ⟨y, ey⟩ : ∃ y, y = uQ (zBeg s x i) k (zQ x k + 1) := ⟨_, rfl⟩
  rw [← ey] at q1 ⊢
  have e9 : zQ y 9 = zQ x 9 := by rw [ey, zQ_uQn (by omega), zBeg_Q]
  have pf : ∀ f, f ≠ 0 → f ≠ 5 → f ≠ 15 → zP y f = zP x f := fun f a b c => by rw [ey, zP_uQ, zBeg_P ⟨a, b, c⟩]
  have oi : zOT s x i = ((i / 4 : Nat) : Int) := by
    unfold zOT
    by_cases c : i % 2 = s
    · rw [if_pos c] at hk ⊢; rw [← ho, hk, ew]
    · rw [if_neg c] at hk ⊢; rw [← ho, hk, ew]
  have qy : ∀ j, zQ y j = if j = k then zQ x k + 1 else zQ x j := fun j => by rw [ey]; rfl
  have oy : ∀ j, j < 256 → j ≠ i → (((j / 4 : Nat) : Int) < zOT s y j ↔ ((j / 4 : Nat) : Int) < zOT s x j) := fun j hj hn => by
    by_cases c : (j % 2 = s ↔ i % 2 = s) ∧ j / 2 % 2 = w
    · have oj : zOT s x j = zOT s x i := by
        unfold zOT
        rw [c.2, ← ew]
        by_cases d : i % 2 = s
        · rw [if_pos d, if_pos (c.1.2 d)]
        · rw [if_neg d, if_neg (fun z => d (c.1.1 z))]
      have oj2 : zOT s y j = zOT s x i + 1 := by
        unfold zOT
        rw [c.2, ← ew, qy, qy]
        by_cases d : i % 2 = s
        · rw [if_pos d] at hk
          rw [if_pos (c.1.2 d), if_pos hk.symm, if_pos d, hk]
        · rw [if_neg d] at hk
          rw [if_neg (fun z => d (c.1.1 z)), if_pos hk.symm, if_neg d, hk]
      rw [oj, oj2, oi]
      have : j / 4 ≠ i / 4 := fun z => hn (by have := c.1; have := c.2; omega)
      omega
    · have : zOT s y j = zOT s x j := by
        unfold zOT
        rw [qy, qy]
        by_cases d : j % 2 = s
        · rw [if_pos d, if_pos d, if_neg (fun z => c (by split at hk <;> omega))]
        · rw [if_neg d, if_neg d, if_neg (fun z => c (by split at hk <;> omega))]
      rw [this]
  have oyi : zOT s y i = ((i / 4 : Nat) : Int) + 1 := by
    unfold zOT
    rw [← ew, qy, qy]
    by_cases d : i % 2 = s
    · rw [if_pos d] at hk; rw [if_pos d, if_pos hk.symm, ho]
    · rw [if_neg d] at hk; rw [if_neg d, if_pos hk.symm, ho]
  refine ⟨s2, q1, fun j hj => ?_, V.2.2.2.cg (fun j _ => ⟨by rw [pf 2 (by decide) (by decide) (by decide)], by rw [ey]; rfl⟩)⟩
  by_cases c : j = i
  · subst c
    obtain ⟨v1, v2, v3, v4, v5, v6, v7, v8, v9, v10⟩ := V.S hj
    have li := V.li j
    have gr := V.gr j
    have p0 : zP y 0 j = 1 := by rw [ey, zP_uQ]; exact zBeg_0.1
    have p5 : zP y 5 j = zLi s x j := by rw [ey, zP_uQ]; exact zBeg_0.2.1
    have p15 : zP y 15 j = zGr s x j := by rw [ey, zP_uQ]; exact zBeg_0.2.2
    have em : zM y j = zM x j := by rw [ey]; rfl
    have ee : zE y j = zE x j := by rw [ey]; rfl
    have eh : zH y j = zH x j := by rw [ey]; rfl
    unfold SVx
    rw [oyi, em, ee, eh, e9, p0, p5, p15, pf 1 (by decide) (by decide) (by decide), pf 2 (by decide) (by decide) (by decide), pf 3 (by decide) (by decide) (by decide), pf 4 (by decide) (by decide) (by decide), pf 6 (by decide) (by decide) (by decide), pf 7 (by decide) (by decide) (by decide), pf 8 (by decide) (by decide) (by decide), pf 10 (by decide) (by decide) (by decide), pf 11 (by decide) (by decide) (by decide), pf 12 (by decide) (by decide) (by decide), pf 13 (by decide) (by decide) (by decide), pf 14 (by decide) (by decide) (by decide), pf 16 (by decide) (by decide) (by decide), pf 17 (by decide) (by decide) (by decide), pf 18 (by decide) (by decide) (by decide), pf 19 (by decide) (by decide) (by decide), pf 20 (by decide) (by decide) (by decide)]
    have a2 := v2 (by omega)
    have a3 := v3 (by omega)
    exact ⟨⟨Or.inr rfl, fun _ => by omega, fun _ => rfl⟩, fun _ => a2, fun _ => a3, by omega, v5, v6, by omega, v8, v9, v10⟩
  · obtain ⟨v1, v2, v3, v4, v5, v6, v7, v8, v9, v10⟩ := V.S hj
    have pj : ∀ f, zP y f j = zP x f j := fun f => by rw [ey, zP_uQ]; exact zBeg_j c
    have em : zM y j = zM x j := by rw [ey]; rfl
    have ee : zE y j = zE x j := by rw [ey]; rfl
    have eh : zH y j = zH x j := by rw [ey]; rfl
    unfold SVx
    simp only [pj]
    rw [em, ee, eh, e9, oy j hj c]
    exact ⟨v1, v2, v3, v4, v5, v6, v7, v8, v9, v10⟩
/-- what coming of streams leaves -/
def zCmF (x y : HSt) : Prop := (∀ k, k ≠ 11 → k ≠ 21 → zQ y k = zQ x k) ∧ (∀ f, f ≠ 0 → f ≠ 5 → f ≠ 15 → zP y f = zP x f) ∧ (∀ j, zP x 0 j = 1 → zP y 0 j = 1 ∧ zP y 5 j = zP x 5 j ∧ zP y 15 j = zP x 15 j) ∧ zM y = zM x ∧ zE y = zE x ∧ zH y = zH x ∧ zW y = zW x ∧ zB y = zB x
theorem zCmF.rf : zCmF x x := ⟨fun _ _ _ => rfl, fun _ _ _ _ => rfl, fun _ h => ⟨h, rfl, rfl⟩, rfl, rfl, rfl, rfl, rfl⟩
theorem zCmF.tr {z : HSt} (A : zCmF x y) (B : zCmF y z) : zCmF x z := by
  obtain ⟨a1, a2, a3, a4, a5, a6, a7, a8⟩ := A
  obtain ⟨b1, b2, b3, b4, b5, b6, b7, b8⟩ := B
  refine ⟨fun k h1 h2 => by rw [b1 k h1 h2, a1 k h1 h2], fun f h1 h2 h3 => by rw [b2 f h1 h2 h3, a2 f h1 h2 h3], fun j h => ?_, by rw [b4, a4], by rw [b5, a5], by rw [b6, a6], by rw [b7, a7], by rw [b8, a8]⟩
  have p := a3 j h
  have q := b3 j p.1
  exact ⟨q.1, by rw [q.2.1, p.2.1], by rw [q.2.2, p.2.2]⟩
theorem zBeg_F (h0 : zP x 0 i = 0) (hk : k = 11 ∨ k = 21) : zCmF x (uQ (zBeg s x i) k v) := by
  refine ⟨fun j h1 h2 => by rw [zQ_uQn (by omega), zBeg_Q], fun f h1 h2 h3 => by rw [zP_uQ, zBeg_P ⟨h1, h2, h3⟩], fun j hj => ?_, rfl, rfl, rfl, rfl, rfl⟩
  have hn : j ≠ i := fun z => by rw [z, h0] at hj; omega
  rw [zP_uQ, zBeg_j hn, zBeg_j hn, zBeg_j hn]
  exact ⟨hj, rfl, rfl⟩
theorem HV.cms {r : Nat} (hr : r < 4) (ho : r % 2 ≠ s) : ∀ (n : Nat) (x : HSt), HV s x → zQ x (11 + 10 * (r / 2 % 2)) + n ≤ zQ x (12 + 10 * (r / 2 % 2)) → HV s (zCms s r n x) ∧ zCmF x (zCms s r n x) ∧ zQ (zCms s r n x) (11 + 10 * (r / 2 % 2)) = zQ x (11 + 10 * (r / 2 % 2)) + n := by
  intro n
  induction n with
  | zero => intro x V _; exact ⟨V, zCmF.rf, by show zQ x _ = zQ x _ + 0; omega⟩
  | succ n ih =>
    intro x V h
    have hw := V.w r
    obtain ⟨w, ew⟩ : ∃ w, w = r / 2 % 2 := ⟨_, rfl⟩
    have w2 : w < 2 := by omega
    unfold HVw at hw
    rw [← ew] at hw h ih ⊢
    show HV s (zCms s r n (uQ (zBeg s x (4 * (zQ x (11 + 10 * (r / 2 % 2))).toNat + r)) (11 + 10 * (r / 2 % 2)) (zQ x (11 + 10 * (r / 2 % 2)) + 1))) ∧ zCmF x (zCms s r n (uQ (zBeg s x (4 * (zQ x (11 + 10 * (r / 2 % 2))).toNat + r)) (11 + 10 * (r / 2 % 2)) (zQ x (11 + 10 * (r / 2 % 2)) + 1))) ∧ zQ (zCms s r n (uQ (zBeg s x (4 * (zQ x (11 + 10 * (r / 2 % 2))).toNat + r)) (11 + 10 * (r / 2 % 2)) (zQ x (11 + 10 * (r / 2 % 2)) + 1))) (11 + 10 * w) = _
    rw [← ew]
    obtain ⟨t, et⟩ : ∃ t : Nat, zQ x (11 + 10 * w) = t := ⟨(zQ x (11 + 10 * w)).toNat, by omega⟩
    rw [et, Int.toNat_natCast]
    rw [et] at h hw
    have ii : 4 * t + r < 256 := by omega
    have im : (4 * t + r) / 2 % 2 = w ∧ (4 * t + r) % 2 = r % 2 ∧ (4 * t + r) / 4 = t := by omega
    have h0 : zP x 0 (4 * t + r) = 0 := by
      have v := (V.S ii).1
      have o : zOT s x (4 * t + r) = t := by unfold zOT; rw [if_neg (by omega), im.1, et]
      rw [o, im.2.2] at v
      rcases v.1 with z | z
      · exact z
      · have := v.2.1 z; omega
    have V1 := V.beg (k := 11 + 10 * w) ii h0 (by rw [if_neg (by omega), im.1]) (by rw [et, im.2.2]) (by rw [if_neg (by omega), et, show 11 + 10 * w + 1 + 0 = 12 + 10 * w by omega]; omega)
    rw [et] at V1
    have e1 : zQ (uQ (zBeg s x (4 * t + r)) (11 + 10 * w) ((t : Int) + 1)) (11 + 10 * w) = t + 1 := zQ_uQe
    have e2 : zQ (uQ (zBeg s x (4 * t + r)) (11 + 10 * w) ((t : Int) + 1)) (12 + 10 * w) = zQ x (12 + 10 * w) := by rw [zQ_uQn (by omega), zBeg_Q]
    obtain ⟨a, b, c⟩ := ih _ V1 (by rw [e1, e2]; omega)
    refine ⟨a, (zBeg_F h0 (by omega)).tr b, by rw [c, e1]; omega⟩
theorem HV.wr {n : Nat} {F : Nat → Int} (V : HV s x) (hi : i < 256) (h : zP x 0 i = 1 ∧ zSd s i) (h1 : zP x 1 i = 0) (hn : zQ x 9 + n ≤ 65536) : HV s (zWr x i n F) := by
  have us := V.used
  obtain ⟨y, ey⟩ : ∃ y, y = zWr x i n F := ⟨_, rfl⟩
  rw [← ey]
  obtain ⟨⟨q1, q2, q3, q4, q5, q6, q7, q8, q9⟩, g, l, w0, w1⟩ := V.2.1
  have e : ∀ k, k ≠ 9 → k ≠ 50 → zQ y k = zQ x k := fun k a b => by rw [ey]; unfold zWr; rw [zQ_uQn b, zQ_uQn a]; rfl
  have e9 : zQ y 9 = zQ x 9 + n := by rw [ey]; unfold zWr; rw [zQ_uQn (by decide), zQ_uQe]
  have e50 : zQ y 50 = zQ x 50 + 1 := by rw [ey]; unfold zWr; rw [zQ_uQe]
  have pf : ∀ f, f ≠ 2 → zP y f = zP x f := fun f a => by rw [ey]; unfold zWr; rw [zP_uQ, zP_uQ, zP_uPn a]; rfl
  have p2 : zP y 2 i = zP x 2 i + n := by rw [ey]; unfold zWr; rw [zP_uQ, zP_uQ, zP_uPe]
  have pj : ∀ j, j ≠ i → ∀ f, zP y f j = zP x f j := fun j hj f => by rw [ey]; unfold zWr; rw [zP_uQ, zP_uQ, zP_uPj hj]; rfl
  have ej : ∀ j, j ≠ i → zE y j = zE x j := fun j hj => by rw [ey]; unfold zWr; rw [zE_uQ, zE_uQ, zE_uP, zE_uSn hj]
  have ei : ∀ j, zE y i j = if j < (zP x 2 i).toNat then zE x i j else (zQ x 9).toNat + (j - (zP x 2 i).toNat) := fun j => by rw [ey]; unfold zWr; rw [zE_uQ, zE_uQ, zE_uP, zE_uSe]
  have s2 : sm (zP y 2) 256 = sm (zP x 2) 256 + n := by
    rw [sm_up (f := zP x 2) (g := zP y 2) hi (fun j _ hj => pj j hj 2), p2]; omega
  have cc : zCo y = zCo x := funext fun j => by unfold zCo; rw [pf 10 (by decide), pf 14 (by decide), pf 11 (by decide)]
  refine V.one hi (V.2.1.cg' (fun k _ _ _ h9 h50 => e k h9 h50) (by rw [e 3 (by decide) (by decide), pf 3 (by decide)]; exact q3) (by rw [e 4 (by decide) (by decide), pf 13 (by decide)]; exact ⟨q4.1, q4.2.1⟩) (by rw [e 5 (by decide) (by decide), cc]; exact q5) (by rw [e9, s2, ← q8.1]; exact ⟨rfl, hn⟩) (by rw [e50]; omega)) (fun j _ _ => ?_) (by rw [e9]; omega) (fun j _ hj => ⟨pj j hj, by rw [ey]; rfl, ej j hj, by rw [ey]; rfl⟩) ?_ (fun a a' j j' ha ha' hj hj' z => ?_)
  · unfold zOT
    rw [e _ (by omega) (by omega), e _ (by omega) (by omega)]
  · obtain ⟨v1, v2, v3, v4, v5, v6, v7, v8, v9, v10⟩ := V.S hi
    have eo : zOT s y i = zOT s x i := by unfold zOT; rw [e _ (by omega) (by omega), e _ (by omega) (by omega)]
    have em : zM y i = zM x i := by rw [ey]; rfl
    have eh : zH y i = zH x i := by rw [ey]; rfl
    have wl : zP x 2 i ≤ zQ x 9 := by rw [q8.1]; exact sm_mem (f := zP x 2) (fun j hj => by have := (V.S hj).2.2.2.1.1; omega) hi
    unfold SVx
    rw [eo, em, eh, e9, p2, pf 0 (by decide), pf 1 (by decide), pf 3 (by decide), pf 4 (by decide), pf 5 (by decide), pf 6 (by decide), pf 7 (by decide), pf 8 (by decide), pf 10 (by decide), pf 11 (by decide), pf 12 (by decide), pf 13 (by decide), pf 14 (by decide), pf 15 (by decide), pf 16 (by decide), pf 17 (by decide), pf 18 (by decide), pf 19 (by decide), pf 20 (by decide)]
    refine ⟨v1, fun z => absurd h z, v3, by omega, ⟨v5.1, fun z => by omega, fun z => by omega, v5.2.2.2⟩, v6, v7, v8, v9, fun j hj => ?_⟩
    rw [ei j]
    split
    · rename_i c
      have := v10 j c; omega
    · omega
  · have old : ∀ b, b < 256 → ∀ t, t < (zP x 2 b).toNat → zE x b t < (zQ x 9).toNat := fun b hb => (V.S hb).2.2.2.2.2.2.2.2.2
    by_cases c : a = i
    · by_cases d : a' = i
      · subst c; subst d
        rw [p2] at hj hj'
        rw [ei, ei] at z
        by_cases q : j < (zP x 2 a').toNat
        · by_cases q' : j' < (zP x 2 a').toNat
          · rw [if_pos q, if_pos q'] at z
            exact V.2.2.2 a' a' j j' ha ha' q q' z
          · rw [if_pos q, if_neg q'] at z
            have := old a' ha j q; omega
        · by_cases q' : j' < (zP x 2 a').toNat
          · rw [if_neg q, if_pos q'] at z
            have := old a' ha j' q'; omega
          · rw [if_neg q, if_neg q'] at z
            exact ⟨rfl, by omega⟩
      · subst c
        rw [p2] at hj
        rw [pj a' d] at hj'
        rw [ei, ej a' d] at z
        have o' := old a' ha' j' hj'
        by_cases q : j < (zP x 2 a).toNat
        · rw [if_pos q] at z
          exact V.2.2.2 a a' j j' ha ha' q hj' z
        · rw [if_neg q] at z; omega
    · by_cases d : a' = i
      · subst d
        rw [p2] at hj'
        rw [pj a c] at hj
        rw [ei, ej a c] at z
        have o' := old a ha j hj
        by_cases q : j' < (zP x 2 a').toNat
        · rw [if_pos q] at z
          exact V.2.2.2 a a' j j' ha ha' hj q z
        · rw [if_neg q] at z; omega
      · rw [pj a c] at hj
        rw [pj a' d] at hj'
        rw [ej a c, ej a' d] at z
        exact V.2.2.2 a a' j j' ha ha' hj hj' z
end
