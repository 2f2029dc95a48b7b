/-! streams, class: gone -/
/-- a frame that a packet carries -/
def zOk (s : Nat) (z : HSt) (kind a b c : Int) (n : Nat) : Prop := 0 ≤ a ∧ (kind = 8 → a < 256 ∧ (zP z 0 a.toNat = 1 ∧ zSd s a.toNat) ∧ 0 ≤ b ∧ b + n ≤ zP z 3 a.toNat ∧ (c = 1 → zP z 4 a.toNat ≠ 0)) ∧ (kind = 4 → a < 256 ∧ (zP z 0 a.toNat = 1 ∧ zSd s a.toNat) ∧ 3 ≤ zP z 1 a.toNat) ∧ (kind = 5 ∨ kind = 17 → a < 256 ∧ zP z 0 a.toNat = 1 ∧ zRc s a.toNat) ∧ (kind = 21 → a < 256 ∧ zP z 0 a.toNat = 1 ∧ zSd s a.toNat) ∧ (kind = 4 ∨ kind = 5 ∨ kind = 8 ∨ kind = 16 ∨ kind = 17 ∨ kind = 18 ∨ kind = 19 ∨ kind = 20 ∨ kind = 21 ∨ kind = 22 ∨ kind = 23)
section
variable {h h' : Hp} {n i j k x a s : Nat} {arr v : Int} {z : HSt} {w w' : Nat → Nat} {kind fa fb fc id : Int}
theorem il166 (h1 : kind ≠ 22) (h2 : kind ≠ 23) : f_cHall_isLost_b166 a kind fa h = some h := by unfold f_cHall_isLost_b166; rw [if_neg h1, if_pos h2]
theorem il133 (h1 : kind ≠ 21) : f_cHall_isLost_b133 a kind id fa fb h = f_cHall_isLost_b166 a kind fa h := by unfold f_cHall_isLost_b133; rw [if_pos h1]
theorem il111 (h1 : kind ≠ 20) : f_cHall_isLost_b111 a kind id fa fb h = f_cHall_isLost_b133 a kind id fa fb h := by unfold f_cHall_isLost_b111; rw [if_pos h1]
theorem il68 (h1 : kind ≠ 18) (h2 : kind ≠ 19) : f_cHall_isLost_b68 a kind id fa fb h = f_cHall_isLost_b111 a kind id fa fb h := by unfold f_cHall_isLost_b68; rw [if_neg h1, if_pos h2]
theorem il36 (h1 : kind ≠ 17) : f_cHall_isLost_b36 a kind id fa fb h = f_cHall_isLost_b68 a kind id fa fb h := by unfold f_cHall_isLost_b36; rw [if_pos h1]
theorem il15 (h1 : kind ≠ 16) : f_cHall_isLost_b15 a kind id fa fb h = f_cHall_isLost_b36 a kind id fa fb h := by unfold f_cHall_isLost_b15; rw [if_pos h1]
theorem il0 (h1 : kind ≠ 5) : f_cHall_isLost a kind id fa fb h = f_cHall_isLost_b15 a kind id fa fb h := by unfold f_cHall_isLost; rw [if_pos h1]
/-- one number of a record's getting part -/
theorem HC.y1 {f : Nat} (C : HC h a w s z) (hi : i < 256) (y0 : hR h (a + 2) i ≠ 0) (hk : k = 10 ∧ f = 18 ∨ k = 11 ∧ f = 19) : HC (sI h (hR h (a + 2) i) k v) a w s (uP z f i v) ∧ HO h a w z (sI h (hR h (a + 2) i) k v) w (uP z f i v) := by
  obtain ⟨r0, r1, r2, r3, r4, r5, r6, r8, r9, r10, r11, r12⟩ := C.ys hi y0
  refine C.sR hi y0 (FX.sI rfl) (by rw [hI_sI, if_neg (by omega)]) ?_ rfl (fun g j hj => zP_uPj hj) (fun g hg => by rw [zP_uPn (by omega)]) (by rw [zP_uPn (by omega)]; exact Int.le_refl _) (by rw [zP_uPn (by omega)]) rfl
  unfold HCr
  rw [zGr_uP]
  rcases hk with ⟨e1, e2⟩ | ⟨e1, e2⟩ <;> subst e1 <;> subst e2 <;> simp only [zQ_uP, zQ_uM, zQ_uS, zQ_uC, zP_uQ, zP_uM, zP_uS, zP_uC, zM_uQ, zM_uP, zM_uS, zM_uC, zE_uQ, zE_uP, zE_uM, zE_uC, zH_uQ, zH_uP, zH_uM, zH_uS, zW_uQ, zW_uP, zW_uM, zW_uS, zB_uQ, zB_uP, zB_uM, zB_uS, zB_uC, zQ_uQe, zP_uPe, zM_uMe, zE_uSe, zH_uCe, zW_uCe, zOT_uP, zOT_uM, zQ_uQn, zP_uPn, ne_eq, Nat.reduceEqDiff, not_false_eq_true] <;> refine ⟨?_, ?_, ?_, ?_, ?_, ?_, ?_, ?_, ?_, ?_, ?_, ?_⟩ <;> grind [hI_sI, hJ_sI]
/-- one number of a way -/
theorem HC.w6 {u : Nat} (C : HC h a w s z) (hu : u < 2) : HC (sI h (a + 4 + u) 6 v) a w s (uQ z (16 + 10 * u) v) ∧ HO h a w z (sI h (a + 4 + u) 6 v) w (uQ z (16 + 10 * u) v) := by
  obtain ⟨q, wq⟩ := C.wy (2 * u)
  rw [show 2 * u / 2 % 2 = u by omega] at q wq
  obtain ⟨q0, q1, q2, q3, q4, q5, q6, q7⟩ := q
  have FF : FX (fun x => x = a + 4 + u) h (sI h (a + 4 + u) 6 v) := FX.sI rfl
  refine ⟨C.sWy hu FF ?_ (fun k hk => zQ_uQn (by omega)) rfl, HO.fx C FF (fun x hx => by rw [hx, wq]; omega) ?_⟩
  · unfold HCw
    rw [zQ_uQn (by omega), zQ_uQn (by omega), zQ_uQn (by omega), zQ_uQn (by omega), zQ_uQn (by omega), zQ_uQn (by omega), zQ_uQe]
    refine ⟨?_, ?_, ?_, ?_, ?_, ?_, ?_, ?_⟩ <;> grind [hI_sI, hJ_sI]
  · unfold hCnt
    rw [zQ_uQn (by omega), zQ_uQn (by omega), zQ_uQn (by omega), zQ_uQn (by omega)]
theorem HC.w5 {u : Nat} (C : HC h a w s z) (hu : u < 2) : HC (sJ h (a + 4 + u) 5 v) a w s (uQ z (15 + 10 * u) v) ∧ HO h a w z (sJ h (a + 4 + u) 5 v) w (uQ z (15 + 10 * u) v) := by
  obtain ⟨q, wq⟩ := C.wy (2 * u)
  rw [show 2 * u / 2 % 2 = u by omega] at q wq
  obtain ⟨q0, q1, q2, q3, q4, q5, q6, q7⟩ := q
  have FF : FX (fun x => x = a + 4 + u) h (sJ h (a + 4 + u) 5 v) := FX.sJ rfl
  refine ⟨C.sWy hu FF ?_ (fun k hk => zQ_uQn (by omega)) rfl, HO.fx C FF (fun x hx => by rw [hx, wq]; omega) ?_⟩
  · unfold HCw
    rw [zQ_uQn (by omega), zQ_uQn (by omega), zQ_uQn (by omega), zQ_uQn (by omega), zQ_uQn (by omega), zQ_uQe, zQ_uQn (by omega)]
    refine ⟨?_, ?_, ?_, ?_, ?_, ?_, ?_, ?_⟩ <;> grind [hI_sJ, hJ_sJ]
  · unfold hCnt
    rw [zQ_uQn (by omega), zQ_uQn (by omega), zQ_uQn (by omega), zQ_uQn (by omega)]
/-- numbers of the hall's own cell -/
theorem HC.q8 (C : HC h a w s z) : HC (sI h a 16 v) a w s (uQ z 8 v) ∧ HO h a w z (sI h a 16 v) w (uQ z 8 v) := by
  obtain ⟨q0, q9, q10, q11, q12, q13, q14, q15, q16⟩ := C.2.1.1
  refine C.sQ (FX.sI rfl) ?_ (fun k hk => zQ_uQn (by omega)) rfl
  unfold HCq
  simp only [zQ_uP, zQ_uM, zQ_uS, zQ_uC, zP_uQ, zP_uM, zP_uS, zP_uC, zM_uQ, zM_uP, zM_uS, zM_uC, zE_uQ, zE_uP, zE_uM, zE_uC, zH_uQ, zH_uP, zH_uM, zH_uS, zW_uQ, zW_uP, zW_uM, zW_uS, zB_uQ, zB_uP, zB_uM, zB_uS, zB_uC, zQ_uQe, zP_uPe, zM_uMe, zE_uSe, zH_uCe, zW_uCe, zOT_uP, zOT_uM, zQ_uQn, zP_uPn, ne_eq, Nat.reduceEqDiff, not_false_eq_true]
  refine ⟨?_, ?_, ?_, ?_, ?_, ?_, ?_, ?_, ?_⟩ <;> grind [hI_sI, hJ_sI]
theorem HC.q2 (C : HC h a w s z) : HC (sJ h a 10 v) a w s (uQ z 2 v) ∧ HO h a w z (sJ h a 10 v) w (uQ z 2 v) := by
  obtain ⟨q0, q9, q10, q11, q12, q13, q14, q15, q16⟩ := C.2.1.1
  refine C.sQ (FX.sJ rfl) ?_ (fun k hk => zQ_uQn (by omega)) rfl
  unfold HCq
  simp only [zQ_uP, zQ_uM, zQ_uS, zQ_uC, zP_uQ, zP_uM, zP_uS, zP_uC, zM_uQ, zM_uP, zM_uS, zM_uC, zE_uQ, zE_uP, zE_uM, zE_uC, zH_uQ, zH_uP, zH_uM, zH_uS, zW_uQ, zW_uP, zW_uM, zW_uS, zB_uQ, zB_uP, zB_uM, zB_uS, zB_uC, zQ_uQe, zP_uPe, zM_uMe, zE_uSe, zH_uCe, zW_uCe, zOT_uP, zOT_uM, zQ_uQn, zP_uPn, ne_eq, Nat.reduceEqDiff, not_false_eq_true]
  refine ⟨?_, ?_, ?_, ?_, ?_, ?_, ?_, ?_, ?_⟩ <;> grind [hI_sJ, hJ_sJ]
/-- numbers of a record's sending part -/
theorem HC.x7 (C : HC h a w s z) (hi : i < 256) (x0 : hR h (a + 1) i ≠ 0) : HC (sJ h (hR h (a + 1) i) 10 v) a w s (uP z 7 i v) ∧ HO h a w z (sJ h (hR h (a + 1) i) 10 v) w (uP z 7 i v) := by
  obtain ⟨s0, s1, s2, s3, s8, s9, s10, s11⟩ := C.xs hi x0
  refine C.sS hi x0 (FX.sJ rfl) (fun k k1 k2 => rfl) ?_ rfl (fun g j hj => zP_uPj hj) (fun g hg => by rw [zP_uPn (by omega)]) rfl
  unfold HCs
  simp only [zQ_uP, zQ_uM, zQ_uS, zQ_uC, zP_uQ, zP_uM, zP_uS, zP_uC, zM_uQ, zM_uP, zM_uS, zM_uC, zE_uQ, zE_uP, zE_uM, zE_uC, zH_uQ, zH_uP, zH_uM, zH_uS, zW_uQ, zW_uP, zW_uM, zW_uS, zB_uQ, zB_uP, zB_uM, zB_uS, zB_uC, zQ_uQe, zP_uPe, zM_uMe, zE_uSe, zH_uCe, zW_uCe, zOT_uP, zOT_uM, zQ_uQn, zP_uPn, ne_eq, Nat.reduceEqDiff, not_false_eq_true]
  refine ⟨?_, ?_, ?_, ?_, ?_, ?_, ?_, ?_⟩ <;> grind [hI_sJ, hJ_sJ]
theorem HC.x8 (C : HC h a w s z) (hi : i < 256) (x0 : hR h (a + 1) i ≠ 0) : HC (sI h (hR h (a + 1) i) 11 v) a w s (if zP z 1 i = 3 then uP z 8 i v else z) ∧ HO h a w z (sI h (hR h (a + 1) i) 11 v) w (if zP z 1 i = 3 then uP z 8 i v else z) := by
  obtain ⟨s0, s1, s2, s3, s8, s9, s10, s11⟩ := C.xs hi x0
  by_cases c : zP z 1 i = 3
  · rw [if_pos c]
    refine C.sS hi x0 (FX.sI rfl) (fun k k1 k2 => by rw [hI_sI, if_neg (by omega)]) ?_ rfl (fun g j hj => zP_uPj hj) (fun g hg => by rw [zP_uPn (by omega)]) rfl
    unfold HCs
    simp only [zQ_uP, zQ_uM, zQ_uS, zQ_uC, zP_uQ, zP_uM, zP_uS, zP_uC, zM_uQ, zM_uP, zM_uS, zM_uC, zE_uQ, zE_uP, zE_uM, zE_uC, zH_uQ, zH_uP, zH_uM, zH_uS, zW_uQ, zW_uP, zW_uM, zW_uS, zB_uQ, zB_uP, zB_uM, zB_uS, zB_uC, zQ_uQe, zP_uPe, zM_uMe, zE_uSe, zH_uCe, zW_uCe, zOT_uP, zOT_uM, zQ_uQn, zP_uPn, ne_eq, Nat.reduceEqDiff, not_false_eq_true]
    refine ⟨?_, ?_, ?_, ?_, ?_, ?_, ?_, ?_⟩ <;> grind [hI_sI, hJ_sI]
  · rw [if_neg c]
    refine C.sS hi x0 (FX.sI rfl) (fun k k1 k2 => by rw [hI_sI, if_neg (by omega)]) ?_ rfl (fun g j hj => rfl) (fun g hg => rfl) rfl
    unfold HCs
    refine ⟨?_, ?_, ?_, ?_, ?_, ?_, ?_, ?_⟩ <;> grind [hI_sI, hJ_sI]
theorem HC.x4 (C : HC h a w s z) (hi : i < 256) (x0 : hR h (a + 1) i ≠ 0) : HC (sI h (hR h (a + 1) i) 0 4) a w s (uP z 1 i 4) ∧ HO h a w z (sI h (hR h (a + 1) i) 0 4) w (uP z 1 i 4) := by
  obtain ⟨s0, s1, s2, s3, s8, s9, s10, s11⟩ := C.xs hi x0
  refine C.sS hi x0 (FX.sI rfl) (fun k k1 k2 => by rw [hI_sI, if_neg (by omega)]) ?_ rfl (fun g j hj => zP_uPj hj) (fun g hg => by rw [zP_uPn (by omega)]) rfl
  unfold HCs
  simp only [zQ_uP, zQ_uM, zQ_uS, zQ_uC, zP_uQ, zP_uM, zP_uS, zP_uC, zM_uQ, zM_uP, zM_uS, zM_uC, zE_uQ, zE_uP, zE_uM, zE_uC, zH_uQ, zH_uP, zH_uM, zH_uS, zW_uQ, zW_uP, zW_uM, zW_uS, zB_uQ, zB_uP, zB_uM, zB_uS, zB_uC, zQ_uQe, zP_uPe, zM_uMe, zE_uSe, zH_uCe, zW_uCe, zOT_uP, zOT_uM, zQ_uQn, zP_uPn, ne_eq, Nat.reduceEqDiff, not_false_eq_true]
  refine ⟨?_, ?_, ?_, ?_, ?_, ?_, ?_, ?_⟩ <;> grind [hI_sI, hJ_sI]
theorem HV.x4 (V : HV s z) (hi : i < 256) (hs : zP z 0 i = 1 ∧ zSd s i) (h3 : 3 ≤ zP z 1 i) : HV s (uP z 1 i 4) := by
  refine V.on2 hi rfl (fun j hj => ⟨fun f => by rw [zP_uPj hj], rfl, rfl, rfl⟩) (by simp only [zQ_uP, zQ_uM, zQ_uS, zQ_uC, zP_uQ, zP_uM, zP_uS, zP_uC, zM_uQ, zM_uP, zM_uS, zM_uC, zE_uQ, zE_uP, zE_uM, zE_uC, zH_uQ, zH_uP, zH_uM, zH_uS, zW_uQ, zW_uP, zW_uM, zW_uS, zB_uQ, zB_uP, zB_uM, zB_uS, zB_uC, zQ_uQe, zP_uPe, zM_uMe, zE_uSe, zH_uCe, zW_uCe, zOT_uP, zOT_uM, zQ_uQn, zP_uPn, ne_eq, Nat.reduceEqDiff, not_false_eq_true]) (by simp only [zQ_uP, zQ_uM, zQ_uS, zQ_uC, zP_uQ, zP_uM, zP_uS, zP_uC, zM_uQ, zM_uP, zM_uS, zM_uC, zE_uQ, zE_uP, zE_uM, zE_uC, zH_uQ, zH_uP, zH_uM, zH_uS, zW_uQ, zW_uP, zW_uM, zW_uS, zB_uQ, zB_uP, zB_uM, zB_uS, zB_uC, zQ_uQe, zP_uPe, zM_uMe, zE_uSe, zH_uCe, zW_uCe, zOT_uP, zOT_uM, zQ_uQn, zP_uPn, ne_eq, Nat.reduceEqDiff, not_false_eq_true]) (by simp only [zQ_uP, zQ_uM, zQ_uS, zQ_uC, zP_uQ, zP_uM, zP_uS, zP_uC, zM_uQ, zM_uP, zM_uS, zM_uC, zE_uQ, zE_uP, zE_uM, zE_uC, zH_uQ, zH_uP, zH_uM, zH_uS, zW_uQ, zW_uP, zW_uM, zW_uS, zB_uQ, zB_uP, zB_uM, zB_uS, zB_uC, zQ_uQe, zP_uPe, zM_uMe, zE_uSe, zH_uCe, zW_uCe, zOT_uP, zOT_uM, zQ_uQn, zP_uPn, ne_eq, Nat.reduceEqDiff, not_false_eq_true]) (by rw [zCo_uP (by decide)]) rfl ?_
  obtain ⟨v1, v2, v3, v4, v5, v6, v7, v8, v9, v10⟩ := V.S hi
  unfold SVx
  simp only [zQ_uP, zQ_uM, zQ_uS, zQ_uC, zP_uQ, zP_uM, zP_uS, zP_uC, zM_uQ, zM_uP, zM_uS, zM_uC, zE_uQ, zE_uP, zE_uM, zE_uC, zH_uQ, zH_uP, zH_uM, zH_uS, zW_uQ, zW_uP, zW_uM, zW_uS, zB_uQ, zB_uP, zB_uM, zB_uS, zB_uC, zQ_uQe, zP_uPe, zM_uMe, zE_uSe, zH_uCe, zW_uCe, zOT_uP, zOT_uM, zQ_uQn, zP_uPn, ne_eq, Nat.reduceEqDiff, not_false_eq_true]
  exact ⟨v1, fun q => absurd hs q, v3, ⟨v4.1, by decide, v4.2.2⟩, ⟨fun q => absurd q (by decide), fun q => absurd q (by decide), fun q => absurd q (by decide), fun q => absurd q (by decide)⟩, v6, v7, v8, v9, v10⟩
end
