/-! streams: what always holds is kept, of one stream -/
section
variable {s i k f w : Nat} {x y : HSt} {v was c n : Int}
theorem zOT_Q (e : zQ y = zQ x) : zOT s y i = zOT s x i := by unfold zOT; rw [e]
theorem HVq.cg' (q : HVq x) (e : ∀ k, k ≠ 3 → k ≠ 4 → k ≠ 5 → k ≠ 9 → k ≠ 50 → zQ y k = zQ x k) (h3 : zQ y 3 = sm (zP y 3) 256) (h4 : zQ y 4 = sm (zP y 13) 256 ∧ zQ y 4 ≤ zQ x 6) (h5 : zQ y 5 = sm (zCo y) 256) (h9 : zQ y 9 = sm (zP y 2) 256 ∧ zQ y 9 ≤ 65536) (h50 : 0 ≤ zQ y 50) : HVq y := by
  obtain ⟨⟨q1, q2, q3, q4, q5, q6, q7, q8, q9⟩, g, l, w0, w1⟩ := q
  have n : ∀ k, (k < 3 ∨ 5 < k ∧ k < 9 ∨ 9 < k ∧ k < 50) → zQ y k = zQ x k := fun k hk => e k (by omega) (by omega) (by omega) (by omega) (by omega)
  have ww : ∀ w, w < 2 → HVw x w → HVw y w := fun w hw z => by
    unfold HVw at z ⊢
    rw [n (10 + 10 * w) (by omega), n (11 + 10 * w) (by omega), n (12 + 10 * w) (by omega), n (13 + 10 * w) (by omega), n (14 + 10 * w) (by omega), n (15 + 10 * w) (by omega), n (16 + 10 * w) (by omega)]
    exact z
  refine ⟨⟨?_, ?_, h3, ⟨h4.1, ?_, ?_⟩, h5, ?_, ?_, h9, h50⟩, ?_, ?_, ww 0 (by decide) w0, ww 1 (by decide) w1⟩
  · rw [n 1 (by decide)]; exact q1
  · rw [n 2 (by decide)]; exact q2
  · rw [n 6 (by decide)]; exact h4.2
  · rw [n 6 (by decide)]; exact q4.2.2
  · rw [n 7 (by decide)]; exact q6
  · rw [n 8 (by decide)]; exact q7
  · rw [n 30 (by decide), n 31 (by decide), n 32 (by decide), n 33 (by decide), n 34 (by decide), n 35 (by decide)]; exact g
  · rw [n 41 (by decide), n 42 (by decide), n 43 (by decide)]; exact l
theorem HVq.cg (q : HVq x) (e : zQ y = zQ x) (h2 : sm (zP y 2) 256 = sm (zP x 2) 256) (h3 : sm (zP y 3) 256 = sm (zP x 3) 256) (h13 : sm (zP y 13) 256 = sm (zP x 13) 256) (hc : sm (zCo y) 256 = sm (zCo x) 256) : HVq y := by
  unfold HVq HVw at q ⊢
  rw [e, h2, h3, h13, hc]; exact q
theorem HV.on2 (V : HV s x) (hi : i < 256) (eq : zQ y = zQ x) (e : ∀ j, j ≠ i → (∀ f, zP y f j = zP x f j) ∧ zM y j = zM x j ∧ zE y j = zE x j ∧ zH y j = zH x j) (e2 : zP y 2 i = zP x 2 i) (e3 : zP y 3 i = zP x 3 i) (e13 : zP y 13 i = zP x 13 i) (ec : zCo y i = zCo x i) (eE : zE y i = zE x i) (v : SVx s y i) : HV s y := by
  have al : ∀ f, zP y f i = zP x f i → sm (zP y f) 256 = sm (zP x f) 256 := fun f h => sm_cg (fun j _ => by
    by_cases c : j = i
    · rw [c]; exact h
    · exact (e j c).1 f)
  have ac : sm (zCo y) 256 = sm (zCo x) 256 := sm_cg (fun j _ => by
    by_cases c : j = i
    · rw [c]; exact ec
    · unfold zCo; rw [(e j c).1, (e j c).1, (e j c).1])
  refine V.one hi (V.2.1.cg eq (al 2 e2) (al 3 e3) (al 13 e13) ac) (fun j _ _ => zOT_Q eq) (by rw [eq]; exact Int.le_refl _) (fun j _ hj => e j hj) v (V.2.2.2.cg (fun j hj => ?_))
  by_cases c : j = i
  · rw [c]; exact ⟨e2, eE⟩
  · exact ⟨(e j c).1 2, (e j c).2.2.1⟩
theorem HV.fin (V : HV s x) (hi : i < 256) (h : zP x 0 i = 1 ∧ zSd s i) (h1 : zP x 1 i = 0) : HV s (zFin x i) := by
  unfold zFin
  refine V.on2 hi rfl (fun j hj => ⟨fun f => by rw [zP_uPj hj, zP_uPj hj], rfl, rfl, rfl⟩) (by simp only [zQ_uP, zQ_uM, zQ_uS, zQ_uC, zP_uQ, zP_uM, zP_uS, zP_uC, zM_uQ, zM_uP, zM_uS, zM_uC, zE_uQ, zE_uP, zE_uM, zE_uC, zH_uQ, zH_uP, zH_uM, zH_uS, zW_uQ, zW_uP, zW_uM, zW_uS, zB_uQ, zB_uP, zB_uM, zB_uS, zB_uC, zQ_uQe, zP_uPe, zM_uMe, zE_uSe, zH_uCe, zW_uCe, zOT_uP, zOT_uM, zQ_uQn, zP_uPn, ne_eq, Nat.reduceEqDiff, not_false_eq_true]) (by simp only [zQ_uP, zQ_uM, zQ_uS, zQ_uC, zP_uQ, zP_uM, zP_uS, zP_uC, zM_uQ, zM_uP, zM_uS, zM_uC, zE_uQ, zE_uP, zE_uM, zE_uC, zH_uQ, zH_uP, zH_uM, zH_uS, zW_uQ, zW_uP, zW_uM, zW_uS, zB_uQ, zB_uP, zB_uM, zB_uS, zB_uC, zQ_uQe, zP_uPe, zM_uMe, zE_uSe, zH_uCe, zW_uCe, zOT_uP, zOT_uM, zQ_uQn, zP_uPn, ne_eq, Nat.reduceEqDiff, not_false_eq_true]) (by simp only [zQ_uP, zQ_uM, zQ_uS, zQ_uC, zP_uQ, zP_uM, zP_uS, zP_uC, zM_uQ, zM_uP, zM_uS, zM_uC, zE_uQ, zE_uP, zE_uM, zE_uC, zH_uQ, zH_uP, zH_uM, zH_uS, zW_uQ, zW_uP, zW_uM, zW_uS, zB_uQ, zB_uP, zB_uM, zB_uS, zB_uC, zQ_uQe, zP_uPe, zM_uMe, zE_uSe, zH_uCe, zW_uCe, zOT_uP, zOT_uM, zQ_uQn, zP_uPn, ne_eq, Nat.reduceEqDiff, not_false_eq_true]) (by rw [zCo_uP (by decide), zCo_uP (by decide)]) rfl ?_
  obtain ⟨v1, v2, v3, v4, v5, v6, v7, v8, v9, v10⟩ := V.S hi
  unfold SVx
  simp only [zQ_uP, zQ_uM, zQ_uS, zQ_uC, zP_uQ, zP_uM, zP_uS, zP_uC, zM_uQ, zM_uP, zM_uS, zM_uC, zE_uQ, zE_uP, zE_uM, zE_uC, zH_uQ, zH_uP, zH_uM, zH_uS, zW_uQ, zW_uP, zW_uM, zW_uS, zB_uQ, zB_uP, zB_uM, zB_uS, zB_uC, zQ_uQe, zP_uPe, zM_uMe, zE_uSe, zH_uCe, zW_uCe, zOT_uP, zOT_uM, zQ_uQn, zP_uPn, ne_eq, Nat.reduceEqDiff, not_false_eq_true]
  exact ⟨v1, fun z => absurd h z, v3, ⟨v4.1, by decide, by decide, v4.2.2.2⟩, ⟨fun z => absurd z (by decide), fun _ => ⟨by decide, fun z => absurd z.1 (by decide)⟩, fun z => absurd z (by decide), fun _ => v5.2.2.2 (by rw [h1]; decide)⟩, v6, v7, v8, v9, v10⟩
theorem HV.rst (V : HV s x) (hi : i < 256) (h : zP x 0 i = 1 ∧ zSd s i) (hc : 0 ≤ c ∧ c ≤ MST) : HV s (zRst x i c) := by
  unfold zRst
  refine V.on2 hi rfl (fun j hj => ⟨fun f => by rw [zP_uPj hj, zP_uPj hj, zP_uPj hj], rfl, rfl, rfl⟩) (by simp only [zQ_uP, zQ_uM, zQ_uS, zQ_uC, zP_uQ, zP_uM, zP_uS, zP_uC, zM_uQ, zM_uP, zM_uS, zM_uC, zE_uQ, zE_uP, zE_uM, zE_uC, zH_uQ, zH_uP, zH_uM, zH_uS, zW_uQ, zW_uP, zW_uM, zW_uS, zB_uQ, zB_uP, zB_uM, zB_uS, zB_uC, zQ_uQe, zP_uPe, zM_uMe, zE_uSe, zH_uCe, zW_uCe, zOT_uP, zOT_uM, zQ_uQn, zP_uPn, ne_eq, Nat.reduceEqDiff, not_false_eq_true]) (by simp only [zQ_uP, zQ_uM, zQ_uS, zQ_uC, zP_uQ, zP_uM, zP_uS, zP_uC, zM_uQ, zM_uP, zM_uS, zM_uC, zE_uQ, zE_uP, zE_uM, zE_uC, zH_uQ, zH_uP, zH_uM, zH_uS, zW_uQ, zW_uP, zW_uM, zW_uS, zB_uQ, zB_uP, zB_uM, zB_uS, zB_uC, zQ_uQe, zP_uPe, zM_uMe, zE_uSe, zH_uCe, zW_uCe, zOT_uP, zOT_uM, zQ_uQn, zP_uPn, ne_eq, Nat.reduceEqDiff, not_false_eq_true]) (by simp only [zQ_uP, zQ_uM, zQ_uS, zQ_uC, zP_uQ, zP_uM, zP_uS, zP_uC, zM_uQ, zM_uP, zM_uS, zM_uC, zE_uQ, zE_uP, zE_uM, zE_uC, zH_uQ, zH_uP, zH_uM, zH_uS, zW_uQ, zW_uP, zW_uM, zW_uS, zB_uQ, zB_uP, zB_uM, zB_uS, zB_uC, zQ_uQe, zP_uPe, zM_uMe, zE_uSe, zH_uCe, zW_uCe, zOT_uP, zOT_uM, zQ_uQn, zP_uPn, ne_eq, Nat.reduceEqDiff, not_false_eq_true]) (by rw [zCo_uP (by decide), zCo_uP (by decide), zCo_uP (by decide)]) rfl ?_
  obtain ⟨v1, v2, v3, v4, v5, v6, v7, v8, v9, v10⟩ := V.S hi
  unfold SVx
  simp only [zQ_uP, zQ_uM, zQ_uS, zQ_uC, zP_uQ, zP_uM, zP_uS, zP_uC, zM_uQ, zM_uP, zM_uS, zM_uC, zE_uQ, zE_uP, zE_uM, zE_uC, zH_uQ, zH_uP, zH_uM, zH_uS, zW_uQ, zW_uP, zW_uM, zW_uS, zB_uQ, zB_uP, zB_uM, zB_uS, zB_uC, zQ_uQe, zP_uPe, zM_uMe, zE_uSe, zH_uCe, zW_uCe, zOT_uP, zOT_uM, zQ_uQn, zP_uPn, ne_eq, Nat.reduceEqDiff, not_false_eq_true]
  exact ⟨v1, fun z => absurd h z, v3, ⟨v4.1, by decide, v4.2.2.1, v4.2.2.2.1, hc, v4.2.2.2.2.2.1, by decide⟩, ⟨fun z => absurd z (by decide), fun z => absurd z (by decide), fun z => absurd z (by decide), fun z => absurd z (by decide)⟩, v6, v7, v8, v9, v10⟩
theorem HV.stp (V : HV s x) (hi : i < 256) (h : zP x 0 i = 1 ∧ zRc s i) (hc : 0 ≤ c ∧ c ≤ MST) : HV s (zStp x i c) := by
  unfold zStp
  refine V.on2 hi rfl (fun j hj => ⟨fun f => by rw [zP_uPj hj, zP_uPj hj, zP_uPj hj], rfl, rfl, rfl⟩) (by simp only [zQ_uP, zQ_uM, zQ_uS, zQ_uC, zP_uQ, zP_uM, zP_uS, zP_uC, zM_uQ, zM_uP, zM_uS, zM_uC, zE_uQ, zE_uP, zE_uM, zE_uC, zH_uQ, zH_uP, zH_uM, zH_uS, zW_uQ, zW_uP, zW_uM, zW_uS, zB_uQ, zB_uP, zB_uM, zB_uS, zB_uC, zQ_uQe, zP_uPe, zM_uMe, zE_uSe, zH_uCe, zW_uCe, zOT_uP, zOT_uM, zQ_uQn, zP_uPn, ne_eq, Nat.reduceEqDiff, not_false_eq_true]) (by simp only [zQ_uP, zQ_uM, zQ_uS, zQ_uC, zP_uQ, zP_uM, zP_uS, zP_uC, zM_uQ, zM_uP, zM_uS, zM_uC, zE_uQ, zE_uP, zE_uM, zE_uC, zH_uQ, zH_uP, zH_uM, zH_uS, zW_uQ, zW_uP, zW_uM, zW_uS, zB_uQ, zB_uP, zB_uM, zB_uS, zB_uC, zQ_uQe, zP_uPe, zM_uMe, zE_uSe, zH_uCe, zW_uCe, zOT_uP, zOT_uM, zQ_uQn, zP_uPn, ne_eq, Nat.reduceEqDiff, not_false_eq_true]) (by simp only [zQ_uP, zQ_uM, zQ_uS, zQ_uC, zP_uQ, zP_uM, zP_uS, zP_uC, zM_uQ, zM_uP, zM_uS, zM_uC, zE_uQ, zE_uP, zE_uM, zE_uC, zH_uQ, zH_uP, zH_uM, zH_uS, zW_uQ, zW_uP, zW_uM, zW_uS, zB_uQ, zB_uP, zB_uM, zB_uS, zB_uC, zQ_uQe, zP_uPe, zM_uMe, zE_uSe, zH_uCe, zW_uCe, zOT_uP, zOT_uM, zQ_uQn, zP_uPn, ne_eq, Nat.reduceEqDiff, not_false_eq_true]) (by rw [zCo_uP (by decide), zCo_uP (by decide), zCo_uP (by decide)]) rfl ?_
  obtain ⟨v1, v2, v3, v4, v5, v6, v7, v8, v9, v10⟩ := V.S hi
  unfold SVx
  simp only [zQ_uP, zQ_uM, zQ_uS, zQ_uC, zP_uQ, zP_uM, zP_uS, zP_uC, zM_uQ, zM_uP, zM_uS, zM_uC, zE_uQ, zE_uP, zE_uM, zE_uC, zH_uQ, zH_uP, zH_uM, zH_uS, zW_uQ, zW_uP, zW_uM, zW_uS, zB_uQ, zB_uP, zB_uM, zB_uS, zB_uC, zQ_uQe, zP_uPe, zM_uMe, zE_uSe, zH_uCe, zW_uCe, zOT_uP, zOT_uM, zQ_uQn, zP_uPn, ne_eq, Nat.reduceEqDiff, not_false_eq_true]
  exact ⟨v1, v2, fun z => absurd h z, v4, v5, v6, ⟨v7.1, v7.2.1, v7.2.2.1, v7.2.2.2.1, v7.2.2.2.2.1, hc, v7.2.2.2.2.2.2.1, by decide, by decide⟩, v8, v9, v10⟩
/-- one number of a stream, that no sum knows -/
theorem HV.setP (V : HV s x) (hi : i < 256) (hf : f ≠ 0 ∧ f ≠ 1 ∧ f ≠ 2 ∧ f ≠ 3 ∧ f ≠ 4 ∧ f ≠ 6 ∧ f ≠ 10 ∧ f ≠ 11 ∧ f ≠ 12 ∧ f ≠ 13 ∧ f ≠ 14 ∧ f ≠ 16) (h : f = 5 ∧ (0 ≤ v ∧ v ≤ MST) ∨ f = 7 ∧ -1 ≤ v ∧ zP x 0 i = 1 ∧ zSd s i ∨ f = 8 ∧ (v = 0 ∨ v = 1) ∧ zP x 0 i = 1 ∧ zSd s i ∨ f = 15 ∧ (zP x 15 i ≤ v ∧ v ≤ 65536) ∨ (f = 18 ∨ f = 19) ∧ (v = 0 ∨ v = 1) ∧ zP x 0 i = 1 ∧ zRc s i) : HV s (uP x f i v) := by
  have n : ∀ g, g ≠ f → zP (uP x f i v) g = zP x g := fun g hg => zP_uPn hg
  refine V.on2 hi rfl (fun j hj => ⟨fun f => by rw [zP_uPj hj], rfl, rfl, rfl⟩) (by rw [n 2 (by omega)]) (by rw [n 3 (by omega)]) (by rw [n 13 (by omega)]) (by rw [zCo_uP (by omega)]) rfl ?_
  obtain ⟨v1, v2, v3, v4, v5, v6, v7, v8, v9, v10⟩ := V.S hi
  unfold SVx
  rcases h with ⟨e, h⟩ | ⟨e, h⟩ | ⟨e, h⟩ | ⟨e, h⟩ | ⟨e | e, h⟩
  · subst e; simp only [zQ_uP, zQ_uM, zQ_uS, zQ_uC, zP_uQ, zP_uM, zP_uS, zP_uC, zM_uQ, zM_uP, zM_uS, zM_uC, zE_uQ, zE_uP, zE_uM, zE_uC, zH_uQ, zH_uP, zH_uM, zH_uS, zW_uQ, zW_uP, zW_uM, zW_uS, zB_uQ, zB_uP, zB_uM, zB_uS, zB_uC, zQ_uQe, zP_uPe, zM_uMe, zE_uSe, zH_uCe, zW_uCe, zOT_uP, zOT_uM, zQ_uQn, zP_uPn, ne_eq, Nat.reduceEqDiff, not_false_eq_true]
    exact ⟨v1, v2, v3, ⟨v4.1, v4.2.1, v4.2.2.1, h, v4.2.2.2.2⟩, v5, v6, v7, v8, v9, v10⟩
  · subst e; simp only [zQ_uP, zQ_uM, zQ_uS, zQ_uC, zP_uQ, zP_uM, zP_uS, zP_uC, zM_uQ, zM_uP, zM_uS, zM_uC, zE_uQ, zE_uP, zE_uM, zE_uC, zH_uQ, zH_uP, zH_uM, zH_uS, zW_uQ, zW_uP, zW_uM, zW_uS, zB_uQ, zB_uP, zB_uM, zB_uS, zB_uC, zQ_uQe, zP_uPe, zM_uMe, zE_uSe, zH_uCe, zW_uCe, zOT_uP, zOT_uM, zQ_uQn, zP_uPn, ne_eq, Nat.reduceEqDiff, not_false_eq_true]
    exact ⟨v1, fun z => absurd h.2 z, v3, ⟨v4.1, v4.2.1, v4.2.2.1, v4.2.2.2.1, v4.2.2.2.2.1, h.1, v4.2.2.2.2.2.2⟩, v5, v6, v7, v8, v9, v10⟩
  · subst e; simp only [zQ_uP, zQ_uM, zQ_uS, zQ_uC, zP_uQ, zP_uM, zP_uS, zP_uC, zM_uQ, zM_uP, zM_uS, zM_uC, zE_uQ, zE_uP, zE_uM, zE_uC, zH_uQ, zH_uP, zH_uM, zH_uS, zW_uQ, zW_uP, zW_uM, zW_uS, zB_uQ, zB_uP, zB_uM, zB_uS, zB_uC, zQ_uQe, zP_uPe, zM_uMe, zE_uSe, zH_uCe, zW_uCe, zOT_uP, zOT_uM, zQ_uQn, zP_uPn, ne_eq, Nat.reduceEqDiff, not_false_eq_true]
    exact ⟨v1, fun z => absurd h.2 z, v3, ⟨v4.1, v4.2.1, v4.2.2.1, v4.2.2.2.1, v4.2.2.2.2.1, v4.2.2.2.2.2.1, h.1⟩, v5, v6, v7, v8, v9, v10⟩
  · subst e; simp only [zQ_uP, zQ_uM, zQ_uS, zQ_uC, zP_uQ, zP_uM, zP_uS, zP_uC, zM_uQ, zM_uP, zM_uS, zM_uC, zE_uQ, zE_uP, zE_uM, zE_uC, zH_uQ, zH_uP, zH_uM, zH_uS, zW_uQ, zW_uP, zW_uM, zW_uS, zB_uQ, zB_uP, zB_uM, zB_uS, zB_uC, zQ_uQe, zP_uPe, zM_uMe, zE_uSe, zH_uCe, zW_uCe, zOT_uP, zOT_uM, zQ_uQn, zP_uPn, ne_eq, Nat.reduceEqDiff, not_false_eq_true]
    exact ⟨v1, v2, v3, v4, v5, v6, ⟨v7.1, ⟨Int.le_trans v7.2.1.1 h.1, h.2⟩, fun z => Int.le_trans (v7.2.2.1 z) h.1, v7.2.2.2⟩, v8, v9, v10⟩
  · subst e; simp only [zQ_uP, zQ_uM, zQ_uS, zQ_uC, zP_uQ, zP_uM, zP_uS, zP_uC, zM_uQ, zM_uP, zM_uS, zM_uC, zE_uQ, zE_uP, zE_uM, zE_uC, zH_uQ, zH_uP, zH_uM, zH_uS, zW_uQ, zW_uP, zW_uM, zW_uS, zB_uQ, zB_uP, zB_uM, zB_uS, zB_uC, zQ_uQe, zP_uPe, zM_uMe, zE_uSe, zH_uCe, zW_uCe, zOT_uP, zOT_uM, zQ_uQn, zP_uPn, ne_eq, Nat.reduceEqDiff, not_false_eq_true]
    exact ⟨v1, v2, fun z => absurd h.2 z, v4, v5, v6, ⟨v7.1, v7.2.1, v7.2.2.1, v7.2.2.2.1, v7.2.2.2.2.1, v7.2.2.2.2.2.1, h.1, v7.2.2.2.2.2.2.2⟩, v8, v9, v10⟩
  · subst e; simp only [zQ_uP, zQ_uM, zQ_uS, zQ_uC, zP_uQ, zP_uM, zP_uS, zP_uC, zM_uQ, zM_uP, zM_uS, zM_uC, zE_uQ, zE_uP, zE_uM, zE_uC, zH_uQ, zH_uP, zH_uM, zH_uS, zW_uQ, zW_uP, zW_uM, zW_uS, zB_uQ, zB_uP, zB_uM, zB_uS, zB_uC, zQ_uQe, zP_uPe, zM_uMe, zE_uSe, zH_uCe, zW_uCe, zOT_uP, zOT_uM, zQ_uQn, zP_uPn, ne_eq, Nat.reduceEqDiff, not_false_eq_true]
    exact ⟨v1, v2, fun z => absurd h.2 z, v4, v5, v6, ⟨v7.1, v7.2.1, v7.2.2.1, v7.2.2.2.1, v7.2.2.2.2.1, v7.2.2.2.2.2.1, v7.2.2.2.2.2.2.1, h.1, v7.2.2.2.2.2.2.2.2⟩, v8, v9, v10⟩
theorem HV.groR (V : HV s x) (hi : i < 256) (h : zP x 0 i = 1 ∧ zRc s i) : HV s (zGroR s x i) := by
  unfold zGroR
  split
  · exact V
  · rename_i c
    have V1 := V.setP hi (f := 15) (v := min (zP x 11 i + zGr s x i) 65536) (by decide) (by omega)
    refine V1.setP hi (by decide) (Or.inr (Or.inr (Or.inr (Or.inr ⟨Or.inl rfl, Or.inr rfl, ?_⟩))))
    rw [zP_uPn (by decide)]; exact h
theorem zSet_4 (h : zP x 10 i = 4) : zSet x i = x := by unfold zSet; rw [if_pos h]
theorem zSet_n (h : zP x 10 i ≠ 4) : zSet x i = uP x 10 i (zRs (zP x 14 i) (zP x 11 i) (zP x 12 i)) := by unfold zSet; rw [if_neg h]
theorem zRs_n {a b d : Int} : zRs a b d ≠ 4 ∧ 0 ≤ zRs a b d ∧ zRs a b d ≤ 3 := by
  unfold zRs
  split
  · omega
  · split
    · omega
    · split <;> omega
/-- what was read, of what stood ready -/
theorem HV.rd (V : HV s x) (hi : i < 256) (h : zP x 0 i = 1 ∧ zRc s i) (h4 : zP x 10 i ≠ 4) (hn : 0 ≤ n ∧ zP x 11 i + n ≤ zP x 12 i) : HV s (zSet (uQ (uP x 11 i (zP x 11 i + n)) 5 (zQ x 5 + n)) i) := by
  have e10 : zP (uQ (uP x 11 i (zP x 11 i + n)) 5 (zQ x 5 + n)) 10 i ≠ 4 := by simp only [zQ_uP, zQ_uM, zQ_uS, zQ_uC, zP_uQ, zP_uM, zP_uS, zP_uC, zM_uQ, zM_uP, zM_uS, zM_uC, zE_uQ, zE_uP, zE_uM, zE_uC, zH_uQ, zH_uP, zH_uM, zH_uS, zW_uQ, zW_uP, zW_uM, zW_uS, zB_uQ, zB_uP, zB_uM, zB_uS, zB_uC, zQ_uQe, zP_uPe, zM_uMe, zE_uSe, zH_uCe, zW_uCe, zOT_uP, zOT_uM, zQ_uQn, zP_uPn, ne_eq, Nat.reduceEqDiff, not_false_eq_true]; exact h4
  rw [zSet_n e10]
  simp only [zQ_uP, zQ_uM, zQ_uS, zQ_uC, zP_uQ, zP_uM, zP_uS, zP_uC, zM_uQ, zM_uP, zM_uS, zM_uC, zE_uQ, zE_uP, zE_uM, zE_uC, zH_uQ, zH_uP, zH_uM, zH_uS, zW_uQ, zW_uP, zW_uM, zW_uS, zB_uQ, zB_uP, zB_uM, zB_uS, zB_uC, zQ_uQe, zP_uPe, zM_uMe, zE_uSe, zH_uCe, zW_uCe, zOT_uP, zOT_uM, zQ_uQn, zP_uPn, ne_eq, Nat.reduceEqDiff, not_false_eq_true]
  have zr := zRs_n (a := zP x 14 i) (b := zP x 11 i + n) (d := zP x 12 i)
  obtain ⟨Z, eZ⟩ : ∃ Z, Z = zRs (zP x 14 i) (zP x 11 i + n) (zP x 12 i) := ⟨_, rfl⟩
  rw [← eZ] at zr ⊢
  obtain ⟨y, ey⟩ : ∃ y, y = uP (uQ (uP x 11 i (zP x 11 i + n)) 5 (zQ x 5 + n)) 10 i Z := ⟨_, rfl⟩
  rw [← ey]
  have e : ∀ k, k ≠ 5 → zQ y k = zQ x k := fun k hk => by rw [ey, zQ_uP, zQ_uQn hk, zQ_uP]
  have e5 : zQ y 5 = zQ x 5 + n := by rw [ey, zQ_uP, zQ_uQe]
  have pf : ∀ f, f ≠ 10 → f ≠ 11 → zP y f = zP x f := fun f a b => by rw [ey, zP_uPn a, zP_uQ, zP_uPn b]
  have p10 : zP y 10 i = Z := by rw [ey, zP_uPe]
  have p11 : zP y 11 i = zP x 11 i + n := by rw [ey, zP_uPn (by decide), zP_uQ, zP_uPe]
  have pj : ∀ j, j ≠ i → ∀ f, zP y f j = zP x f j := fun j hj f => by rw [ey, zP_uPj hj, zP_uQ, zP_uPj hj]
  have ci : zCo y i = zP x 11 i + n := by unfold zCo; rw [p10, if_neg zr.1, p11]
  have cx : zCo x i = zP x 11 i := by unfold zCo; rw [if_neg h4]
  have cs : sm (zCo y) 256 = sm (zCo x) 256 + (zCo y i - zCo x i) := sm_up hi (fun j _ hj => by unfold zCo; rw [pj j hj, pj j hj, pj j hj])
  obtain ⟨⟨q1, q2, q3, q4, q5, q6, q7, q8, q9⟩, g, l, w0, w1⟩ := V.2.1
  refine V.one hi (V.2.1.cg' (fun k _ _ h5 _ _ => e k h5) (by rw [e 3 (by decide), pf 3 (by decide) (by decide)]; exact q3) (by rw [e 4 (by decide), pf 13 (by decide) (by decide)]; exact ⟨q4.1, q4.2.1⟩) (by rw [e5, cs, ci, cx, ← q5]; omega) (by rw [e 9 (by decide), pf 2 (by decide) (by decide)]; exact q8) (by rw [e 50 (by decide)]; exact q9)) (fun j _ _ => ?_) (by rw [e 9 (by decide)]; exact Int.le_refl _) (fun j _ hj => ⟨pj j hj, by rw [ey]; rfl, by rw [ey]; rfl, by rw [ey]; rfl⟩) ?_ (V.2.2.2.cg (fun j _ => ⟨by rw [pf 2 (by decide) (by decide)], by rw [ey]; rfl⟩))
  · unfold zOT
    rw [e _ (by omega), e _ (by omega)]
  · obtain ⟨v1, v2, v3, v4, v5, v6, v7, v8, v9, v10⟩ := V.S hi
    have eo : zOT s y i = zOT s x i := by unfold zOT; rw [e _ (by omega), e _ (by omega)]
    have em : zM y i = zM x i := by rw [ey]; rfl
    have ee : zE y i = zE x i := by rw [ey]; rfl
    have eh : zH y i = zH x i := by rw [ey]; rfl
    unfold SVx
    rw [eo, em, ee, eh, e 9 (by decide), p10, p11, pf 0 (by decide) (by decide), pf 1 (by decide) (by decide), pf 2 (by decide) (by decide), pf 3 (by decide) (by decide), pf 4 (by decide) (by decide), pf 5 (by decide) (by decide), pf 6 (by decide) (by decide), pf 7 (by decide) (by decide), pf 8 (by decide) (by decide), pf 12 (by decide) (by decide), pf 13 (by decide) (by decide), pf 14 (by decide) (by decide), pf 15 (by decide) (by decide), pf 16 (by decide) (by decide), pf 17 (by decide) (by decide), pf 18 (by decide) (by decide), pf 19 (by decide) (by decide), pf 20 (by decide) (by decide)]
    exact ⟨v1, v2, fun z => absurd h z, v4, v5, v6, ⟨⟨Int.add_nonneg v7.1.1 hn.1, hn.2, v7.1.2.2⟩, v7.2⟩, ⟨fun z => absurd z zr.1, fun _ => ⟨eZ, (v8.2 h4).2⟩⟩, v9, v10⟩
end
