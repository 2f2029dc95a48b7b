/-! streams: what always holds is kept by the steps -/
section
variable {s i k f w : Nat} {x y : HSt} {v was c n : Int}
theorem zOT_uP {j : Nat} : zOT s (uP x f i v) j = zOT s x j := rfl
theorem zOT_uM {j : Nat} {m : Nat → Int} : zOT s (uM x i m) j = zOT s x j := rfl
theorem zCo_uQ : zCo (uQ x k v) = zCo x := rfl
theorem zCo_uP (h : f ≠ 10 ∧ f ≠ 11 ∧ f ≠ 14) : zCo (uP x f i v) = zCo x := funext fun j => by
  unfold zCo
  rw [zP_uPn (fun z => h.1 z.symm), zP_uPn (fun z => h.2.1 z.symm), zP_uPn (fun z => h.2.2 z.symm)]
theorem zOT_uQ (h : k ≠ 10 ∧ k ≠ 11 ∧ k ≠ 20 ∧ k ≠ 21) : zOT s (uQ x k v) i = zOT s x i := by
  unfold zOT
  rw [zQ_uQn (by omega), zQ_uQn (by omega)]
theorem zGr_uQ (h : k < 30 ∨ 50 ≤ k) : zGr s (uQ x k v) i = zGr s x i := by
  unfold zGr
  rw [zQ_uQn (by omega), zQ_uQn (by omega), zQ_uQn (by omega)]
theorem zLi_uQ (h : k < 30 ∨ 50 ≤ k) : zLi s (uQ x k v) i = zLi s x i := by
  unfold zLi
  rw [zQ_uQn (by omega), zQ_uQn (by omega), zQ_uQn (by omega)]
theorem HV.setQ (V : HV s x) (h : k ≠ 10 ∧ k ≠ 11 ∧ k ≠ 20 ∧ k ≠ 21 ∧ k ≠ 9) (q : HVq (uQ x k v)) : HV s (uQ x k v) := by
  refine ⟨V.1, q, fun j hj => ?_, V.2.2.2⟩
  have e : zQ (uQ x k v) 9 = zQ x 9 := by rw [zQ_uQn (by omega)]
  have o : zOT s (uQ x k v) j = zOT s x j := zOT_uQ ⟨h.1, h.2.1, h.2.2.1, h.2.2.2.1⟩
  have := V.S hj
  unfold SVx at this ⊢
  rw [e, o]; exact this
theorem HVq.u2 (q : HVq x) (h : -1 ≤ v) : HVq (uQ x 2 v) := by
  obtain ⟨⟨q1, q2, q3, q4, q5, q6, q7, q8, q9⟩, g, l, w0, w1⟩ := q
  exact ⟨⟨q1, h, q3, q4, q5, q6, q7, q8, q9⟩, g, l, w0, w1⟩
theorem HVq.u7 (q : HVq x) (h : 0 ≤ v ∧ v < 256) : HVq (uQ x 7 v) := by
  obtain ⟨⟨q1, q2, q3, q4, q5, q6, q7, q8, q9⟩, g, l, w0, w1⟩ := q
  exact ⟨⟨q1, q2, q3, q4, q5, h, q7, q8, q9⟩, g, l, w0, w1⟩
theorem HVq.u8 (q : HVq x) (h : v = 0 ∨ v = 1) : HVq (uQ x 8 v) := by
  obtain ⟨⟨q1, q2, q3, q4, q5, q6, q7, q8, q9⟩, g, l, w0, w1⟩ := q
  exact ⟨⟨q1, q2, q3, q4, q5, q6, h, q8, q9⟩, g, l, w0, w1⟩
theorem HVq.u1 (q : HVq x) (h : 0 ≤ v ∧ v ≤ MST) : HVq (uQ x 1 v) := by
  obtain ⟨⟨q1, q2, q3, q4, q5, q6, q7, q8, q9⟩, g, l, w0, w1⟩ := q
  exact ⟨⟨h, q2, q3, q4, q5, q6, q7, q8, q9⟩, g, l, w0, w1⟩
theorem HVq.u6 (q : HVq x) (h : zQ x 4 ≤ v ∧ v ≤ 65536) : HVq (uQ x 6 v) := by
  obtain ⟨⟨q1, q2, q3, q4, q5, q6, q7, q8, q9⟩, g, l, w0, w1⟩ := q
  exact ⟨⟨q1, q2, q3, ⟨q4.1, h.1, h.2⟩, q5, q6, q7, q8, q9⟩, g, l, w0, w1⟩
theorem HVq.u50 (q : HVq x) (h : 0 ≤ v) : HVq (uQ x 50 v) := by
  obtain ⟨⟨q1, q2, q3, q4, q5, q6, q7, q8, q9⟩, g, l, w0, w1⟩ := q
  exact ⟨⟨q1, q2, q3, q4, q5, q6, q7, q8, h⟩, g, l, w0, w1⟩
/-- numbers of a way -/
theorem HVq.uw (q : HVq x) (hw : w < 2) (hk : 10 + 10 * w ≤ k ∧ k < 17 + 10 * w) (h : HVw (uQ x k v) w) : HVq (uQ x k v) := by
  obtain ⟨⟨q1, q2, q3, q4, q5, q6, q7, q8, q9⟩, g, l, w0, w1⟩ := q
  have nn : ∀ j, (j < 10 ∨ 30 ≤ j) → zQ (uQ x k v) j = zQ x j := fun j hj => by rw [zQ_uQn (by omega)]
  have ot : ∀ u, u < 2 → u ≠ w → HVw x u → HVw (uQ x k v) u := fun u hu hn hh => by
    have n2 : ∀ j, j < 7 → zQ (uQ x k v) (10 + j + 10 * u) = zQ x (10 + j + 10 * u) := fun j hj => by rw [zQ_uQn (by omega)]
    unfold HVw at hh ⊢
    rw [n2 0 (by decide), n2 1 (by decide), n2 2 (by decide), n2 3 (by decide), n2 4 (by decide), n2 5 (by decide), n2 6 (by decide)]
    exact hh
  refine ⟨?_, ?_, ?_, ?_, ?_⟩
  · rw [nn 1 (by decide), nn 2 (by decide), nn 3 (by decide), nn 4 (by decide), nn 5 (by decide), nn 6 (by decide), nn 7 (by decide), nn 8 (by decide), nn 9 (by decide), nn 50 (by decide)]
    exact ⟨q1, q2, q3, q4, q5, q6, q7, q8, q9⟩
  · rw [nn 30 (by decide), nn 31 (by decide), nn 32 (by decide), nn 33 (by decide), nn 34 (by decide), nn 35 (by decide)]; exact g
  · rw [nn 41 (by decide), nn 42 (by decide), nn 43 (by decide)]; exact l
  · by_cases e : w = 0
    · rw [← e]; exact h
    · exact ot 0 (by decide) (fun z => e z.symm) w0
  · by_cases e : w = 1
    · rw [← e]; exact h
    · exact ot 1 (by decide) (fun z => e z.symm) w1
theorem HV.may (V : HV s x) (hi : i < 256) : HV s (zMay s was x i) := by
  unfold zMay
  split
  · exact V
  · split
    · rename_i c
      have hw := V.w i
      have w2 : i / 2 % 2 < 2 := by omega
      obtain ⟨w, ew⟩ : ∃ w, w = i / 2 % 2 := ⟨_, rfl⟩
      rw [← ew] at hw c w2 ⊢
      obtain ⟨h1, h2, h3, h4, h5⟩ := hw
      have q1 : HVq (uQ x (16 + 10 * w) 1) := V.2.1.uw w2 (by omega) (by
        have n : ∀ j, j ≠ 16 + 10 * w → zQ (uQ x (16 + 10 * w) 1) j = zQ x j := fun j hj => zQ_uQn hj
        unfold HVw
        rw [n (10 + 10 * w) (by omega), n (11 + 10 * w) (by omega), n (12 + 10 * w) (by omega), n (13 + 10 * w) (by omega), n (14 + 10 * w) (by omega), n (15 + 10 * w) (by omega), zQ_uQe]
        exact ⟨h1, h2, h3, h4, Or.inr rfl⟩)
      have V1 : HV s (uQ x (16 + 10 * w) 1) := V.setQ (by omega) q1
      refine V1.setQ (by omega) (q1.uw w2 (by omega) ?_)
      obtain ⟨y, ey⟩ : ∃ y, y = uQ (uQ x (16 + 10 * w) 1) (12 + 10 * w) (zQ x (12 + 10 * w) + 1) := ⟨_, rfl⟩
      have n : ∀ j, j ≠ 16 + 10 * w → j ≠ 12 + 10 * w → zQ y j = zQ x j := fun j h1 h2 => by rw [ey, zQ_uQn h2, zQ_uQn h1]
      have n12 : zQ y (12 + 10 * w) = zQ x (12 + 10 * w) + 1 := by rw [ey, zQ_uQe]
      have n16 : zQ y (16 + 10 * w) = 1 := by rw [ey, zQ_uQn (by omega), zQ_uQe]
      rw [← ey]
      unfold HVw
      rw [n (10 + 10 * w) (by omega) (by omega), n (11 + 10 * w) (by omega) (by omega), n12, n (13 + 10 * w) (by omega) (by omega), n (14 + 10 * w) (by omega) (by omega), n (15 + 10 * w) (by omega) (by omega), n16]
      exact ⟨h1, ⟨h2.1, by omega, by omega⟩, h3, h4, Or.inr rfl⟩
    · exact V
theorem HV.grow (V : HV s x) : HV s (zGrow x) := by
  have c := V.con
  have r := V.2.1.1.2.2.2.1
  have g := V.2.1.2.1.1
  unfold zGrow
  split
  · exact V
  · rename_i h
    have V1 := V.setQ (by omega) (V.2.1.u6 (v := min (zQ x 5 + zQ x 30) 65536) (by omega))
    exact V1.setQ (by omega) (V1.2.1.u8 (Or.inr rfl))
end
