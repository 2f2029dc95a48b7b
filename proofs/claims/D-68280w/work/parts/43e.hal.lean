/-! streams, class: grants grow, states settle -/
section
variable {h h' h'' : Hp} {a s i j k x y m : Nat} {w w' w'' : Nat → Nat} {z z' z'' : HSt} {v b was c : Int}
theorem c_hGrow (C : HC h a w s z) (b5 : 0 ≤ zQ z 5 ∧ zQ z 5 ≤ 65536) (b30 : 0 ≤ zQ z 30 ∧ zQ z 30 ≤ 65536) (b6 : 0 ≤ zQ z 6 ∧ zQ z 6 ≤ 65536) : ∃ h', f_cHall_grow_ a h = some h' ∧ HC h' a w s (zGrow z) ∧ HO h a w z h' w (zGrow z) ∧ FX (fun x => x = a) h h' := by
  obtain ⟨_, _, _, r4, _⟩ := C.L.rr
  obtain ⟨_, _, _, l6, _⟩ := C.L.ll
  have l0 := C.L.1
  obtain ⟨q0, q9, q10, q11, q12, q13, q14, q15, q16⟩ := C.2.1.1
  have g0 : hI h (a + 6) 0 = zQ z 30 := C.2.1.2.2.2.1 0 (by decide)
  have e1 : w32 (zQ z 5 + zQ z 30) = zQ z 5 + zQ z 30 := w32_id ⟨by omega, by omega⟩
  have e2 : w32 (2 * w32 (zQ z 5 + zQ z 30 - zQ z 6)) = 2 * (zQ z 5 + zQ z 30 - zQ z 6) := by rw [w32_id (x := zQ z 5 + zQ z 30 - zQ z 6) ⟨by omega, by omega⟩, w32_id ⟨by omega, by omega⟩]
  unfold f_cHall_grow_ zGrow
  rw [r4, if_neg (by omega), l6, if_pos (by decide), lt1_eq, if_pos (by decide), if_pos (by decide)]
  have t0 : (Int.toNat 0) = 0 := rfl
  rw [t0, g0, q13, q14, e1, e2]
  by_cases c1 : 2 * (zQ z 5 + zQ z 30 - zQ z 6) < zQ z 30
  · rw [if_pos c1, if_pos (Or.inl c1)]
    exact ⟨h, rfl, C, HO.rf, FX.rf⟩
  · rw [if_neg c1]
    by_cases c2 : zQ z 6 < min (zQ z 5 + zQ z 30) 65536
    · rw [if_pos c2, if_neg (by omega), lt1_eq, lt1_eq]
      have FF : FX (fun x => x = a) h (sI (sI h a 14 (min (zQ z 5 + zQ z 30) 65536)) a 16 1) := FX.tr (FX.sI rfl) (FX.sI rfl)
      have := C.sQ (z' := uQ (uQ z 6 (min (zQ z 5 + zQ z 30) 65536)) 8 1) FF (by
        unfold HCq
        simp only [zQ_uP, zQ_uM, zQ_uS, zQ_uC, zP_uQ, zP_uM, zP_uS, zP_uC, zM_uQ, zM_uP, zM_uS, zM_uC, zE_uQ, zE_uP, zE_uM, zE_uC, zH_uQ, zH_uP, zH_uM, zH_uS, zW_uQ, zW_uP, zW_uM, zW_uS, zB_uQ, zB_uP, zB_uM, zB_uS, zB_uC, zQ_uQe, zP_uPe, zM_uMe, zE_uSe, zH_uCe, zW_uCe, zOT_uP, zOT_uM, zQ_uQn, zP_uPn, ne_eq, Nat.reduceEqDiff, not_false_eq_true]
        refine ⟨?_, ?_, ?_, ?_, ?_, ?_, ?_, ?_, ?_⟩ <;> grind [hI_sI, hJ_sI]) (fun k hk => by rw [zQ_uQn (by omega), zQ_uQn (by omega)]) rfl
      exact ⟨_, rfl, this.1, this.2, FF⟩
    · rw [if_neg c2, if_pos (by omega)]
      exact ⟨h, rfl, C, HO.rf, FX.rf⟩
theorem c_hGroR (C : HC h a w s z) (hi : i < 256) (y0 : hR h (a + 2) i ≠ 0) (b11 : 0 ≤ zP z 11 i ∧ zP z 11 i ≤ 65536) (bg : 0 ≤ zGr s z i ∧ zGr s z i ≤ 65536) (b15 : 0 ≤ zP z 15 i ∧ zP z 15 i ≤ 65536) : ∃ h', f_cHall_grow_Receiving a (hR h (a + 2) i) h = some h' ∧ HC h' a w s (zGroR s z i) ∧ HO h a w z h' w (zGroR s z i) ∧ FX (fun x => x = hR h (a + 2) i) h h' := by
  obtain ⟨r0, r1, r2, r3, r4, r5, r6, r8, r9, r10, r11, r12⟩ := C.ys hi y0
  have e1 : w32 (zP z 11 i + zGr s z i) = zP z 11 i + zGr s z i := w32_id ⟨by omega, by omega⟩
  have e2 : w32 (2 * w32 (zP z 11 i + zGr s z i - zP z 15 i)) = 2 * (zP z 11 i + zGr s z i - zP z 15 i) := by rw [w32_id (x := zP z 11 i + zGr s z i - zP z 15 i) ⟨by omega, by omega⟩, w32_id ⟨by omega, by omega⟩]
  unfold f_cHall_grow_Receiving zGroR
  rw [if_neg y0, lt1_eq, r2, r0, r6, e1, e2]
  by_cases c1 : 2 * (zP z 11 i + zGr s z i - zP z 15 i) < zGr s z i
  · rw [if_pos c1, if_pos (Or.inl c1)]
    exact ⟨h, rfl, C, HO.rf, FX.rf⟩
  · rw [if_neg c1]
    by_cases c2 : zP z 15 i < min (zP z 11 i + zGr s z i) 65536
    · rw [if_pos c2, if_neg (by omega), lt1_eq, lt1_eq]
      have FF : FX (fun x => x = hR h (a + 2) i) h (sI (sI h (hR h (a + 2) i) 6 (min (zP z 11 i + zGr s z i) 65536)) (hR h (a + 2) i) 10 1) := FX.tr (FX.sI rfl) (FX.sI rfl)
      have := C.sR (z' := uP (uP z 15 i (min (zP z 11 i + zGr s z i) 65536)) 18 i 1) hi y0 FF (by rw [hI_sI, if_neg (by omega), hI_sI, if_neg (by omega)]) (by
        unfold HCr
        rw [zGr_uP, zGr_uP]
        simp only [zQ_uP, zQ_uM, zQ_uS, zQ_uC, zP_uQ, zP_uM, zP_uS, zP_uC, zM_uQ, zM_uP, zM_uS, zM_uC, zE_uQ, zE_uP, zE_uM, zE_uC, zH_uQ, zH_uP, zH_uM, zH_uS, zW_uQ, zW_uP, zW_uM, zW_uS, zB_uQ, zB_uP, zB_uM, zB_uS, zB_uC, zQ_uQe, zP_uPe, zM_uMe, zE_uSe, zH_uCe, zW_uCe, zOT_uP, zOT_uM, zQ_uQn, zP_uPn, ne_eq, Nat.reduceEqDiff, not_false_eq_true]
        refine ⟨?_, ?_, ?_, ?_, ?_, ?_, ?_, ?_, ?_, ?_, ?_, ?_⟩ <;> grind [hI_sI, hJ_sI]) rfl (fun f j hj => by rw [zP_uPj hj, zP_uPj hj]) (fun f hf => by rw [zP_uPn (by omega), zP_uPn (by omega)]) (by simp only [zQ_uP, zQ_uM, zQ_uS, zQ_uC, zP_uQ, zP_uM, zP_uS, zP_uC, zM_uQ, zM_uP, zM_uS, zM_uC, zE_uQ, zE_uP, zE_uM, zE_uC, zH_uQ, zH_uP, zH_uM, zH_uS, zW_uQ, zW_uP, zW_uM, zW_uS, zB_uQ, zB_uP, zB_uM, zB_uS, zB_uC, zQ_uQe, zP_uPe, zM_uMe, zE_uSe, zH_uCe, zW_uCe, zOT_uP, zOT_uM, zQ_uQn, zP_uPn, ne_eq, Nat.reduceEqDiff, not_false_eq_true]; exact Int.le_refl _) (by simp only [zQ_uP, zQ_uM, zQ_uS, zQ_uC, zP_uQ, zP_uM, zP_uS, zP_uC, zM_uQ, zM_uP, zM_uS, zM_uC, zE_uQ, zE_uP, zE_uM, zE_uC, zH_uQ, zH_uP, zH_uM, zH_uS, zW_uQ, zW_uP, zW_uM, zW_uS, zB_uQ, zB_uP, zB_uM, zB_uS, zB_uC, zQ_uQe, zP_uPe, zM_uMe, zE_uSe, zH_uCe, zW_uCe, zOT_uP, zOT_uM, zQ_uQn, zP_uPn, ne_eq, Nat.reduceEqDiff, not_false_eq_true]) rfl
      exact ⟨_, rfl, this.1, this.2, FF⟩
    · rw [if_neg c2, if_pos (by omega)]
      exact ⟨h, rfl, C, HO.rf, FX.rf⟩
/-- a state and the numbers that go with it -/
def zOld (p size read ready : Int) : Prop := p = 4 ∨ ((p = 0 ∨ ((p = 1 ∨ p = 2 ∨ p = 3) ∧ 0 ≤ size)) ∧ (p = 2 → ready = size) ∧ (p = 3 → read = size) ∧ (read = size → ready = size ∨ p = 3))
theorem c_rSettleE {p size read ready : Int} (e1 : hI h y 1 = p) (e5 : hI h y 5 = size) (e2 : hI h y 2 = read) (e3 : hI h y 3 = ready) (o : zOld p size read ready) : ∃ h', f_cReceiving_settle y h = some h' ∧ hI h' y 1 = (if p = 4 then 4 else zRs size read ready) ∧ (∀ k, k ≠ 1 → hI h' y k = hI h y k) ∧ FX (fun x => x = y) h h' := by
  have w1 : ∀ (g : Hp) (v : Int), hI (sI g y 1 v) y 1 = v := fun g v => by rw [hI_sI, if_pos ⟨rfl, rfl⟩]
  have wk : ∀ (g : Hp) (v : Int) k, k ≠ 1 → hI (sI g y 1 v) y k = hI g y k := fun g v k hk => by rw [hI_sI, if_neg (fun t => hk t.2)]
  have FF : ∀ (g : Hp) (v : Int), FX (fun x => x = y) g (sI g y 1 v) := fun g v => FX.sI rfl
  unfold zOld at o
  -- the last step
  have b43 : ∀ (g : Hp) (q : Int), hI g y 1 = q → (∀ k, k ≠ 1 → hI g y k = hI h y k) → FX (fun x => x = y) h g → (if q = 2 ∧ read = size then (3 : Int) else q) = (if p = 4 then 4 else zRs size read ready) → ∃ h', f_cReceiving_settle_b43 y g = some h' ∧ hI h' y 1 = (if p = 4 then 4 else zRs size read ready) ∧ (∀ k, k ≠ 1 → hI h' y k = hI h y k) ∧ FX (fun x => x = y) h h' := fun g q g1 gk Fg r => by
    unfold f_cReceiving_settle_b43
    rw [g1, gk 2 (by decide), gk 5 (by decide), e2, e5]
    by_cases c : q = 2
    · rw [if_neg (fun t => t c)]
      by_cases d : read = size
      · rw [if_neg (fun t => t d), lt1_eq]
        rw [if_pos ⟨c, d⟩] at r
        exact ⟨_, rfl, by rw [w1]; exact r, fun k hk => by rw [wk _ _ k hk]; exact gk k hk, Fg.tr (FF g 3)⟩
      · rw [if_pos d]
        rw [if_neg (fun t => d t.2)] at r
        exact ⟨g, rfl, by rw [g1]; exact r, gk, Fg⟩
    · rw [if_pos c]
      rw [if_neg (fun t => c t.1)] at r
      exact ⟨g, rfl, by rw [g1]; exact r, gk, Fg⟩
  have b19 : ∀ (g : Hp) (q : Int), hI g y 1 = q → (∀ k, k ≠ 1 → hI g y k = hI h y k) → FX (fun x => x = y) h g → (if (q = 2 ∨ q = 1 ∧ ready = size) ∧ read = size then (3 : Int) else if q = 1 ∧ ready = size then 2 else q) = (if p = 4 then 4 else zRs size read ready) → ∃ h', f_cReceiving_settle_b19 y g = some h' ∧ hI h' y 1 = (if p = 4 then 4 else zRs size read ready) ∧ (∀ k, k ≠ 1 → hI h' y k = hI h y k) ∧ FX (fun x => x = y) h h' := fun g q g1 gk Fg r => by
    unfold f_cReceiving_settle_b19
    rw [g1, gk 3 (by decide), gk 5 (by decide), e3, e5]
    by_cases c : q = 1
    · rw [if_neg (fun t => t c)]
      by_cases d : ready = size
      · rw [if_neg (fun t => t d), lt1_eq]
        refine b43 _ 2 (w1 g 2) (fun k hk => by rw [wk _ _ k hk]; exact gk k hk) (Fg.tr (FF g 2)) ?_
        rw [← r]
        by_cases f : read = size
        · rw [if_pos ⟨rfl, f⟩, if_pos ⟨Or.inr ⟨c, d⟩, f⟩]
        · rw [if_neg (fun t => f t.2), if_neg (fun t => f t.2), if_pos ⟨c, d⟩]
      · rw [if_pos d]
        refine b43 g q g1 gk Fg ?_
        rw [← r, if_neg (by omega), if_neg (by omega), if_neg (by omega)]
    · rw [if_pos c]
      refine b43 g q g1 gk Fg ?_
      rw [← r]
      by_cases f : q = 2 ∧ read = size
      · rw [if_pos f, if_pos ⟨Or.inl f.1, f.2⟩]
      · rw [if_neg f, if_neg (by omega), if_neg (by omega)]
  unfold f_cReceiving_settle
  rw [e1, e5]
  by_cases c : p = 0
  · rw [if_neg (fun t => t c)]
    by_cases d : size < 0
    · rw [if_pos d]
      refine b19 h p e1 (fun _ _ => rfl) FX.rf ?_
      unfold zRs
      rw [if_neg (by omega), if_neg (by omega), if_neg (by omega), if_pos d]; exact c
    · rw [if_neg d, lt1_eq]
      refine b19 _ 1 (w1 h 1) (fun k hk => wk _ _ k hk) (FF h 1) ?_
      unfold zRs
      rw [if_neg (show ¬ p = 4 by omega), if_neg d]
      by_cases f : read = size
      · rw [if_pos f, if_pos ⟨Or.inr ⟨rfl, by omega⟩, f⟩]
      · rw [if_neg f, if_neg (by omega)]
        by_cases g : ready = size
        · rw [if_pos g, if_pos ⟨rfl, g⟩]
        · rw [if_neg g, if_neg (by omega)]
  · rw [if_pos c]
    refine b19 h p e1 (fun _ _ => rfl) FX.rf ?_
    unfold zRs
    clear e1 e2 e3 e5 w1 wk FF b43 b19
    grind
theorem c_rSettle (C : HC h a w s z) (hi : i < 256) (y0 : hR h (a + 2) i ≠ 0) (o : zOld (zP z 10 i) (zP z 14 i) (zP z 11 i) (zP z 12 i)) : ∃ h', f_cReceiving_settle (hR h (a + 2) i) h = some h' ∧ HC h' a w s (zSet z i) ∧ HO h a w z h' w (zSet z i) ∧ FX (fun x => x = hR h (a + 2) i) h h' := by
  obtain ⟨r0, r1, r2, r3, r4, r5, r6, r8, r9, r10, r11, r12⟩ := C.ys hi y0
  obtain ⟨h', u1, u2, u3, u4⟩ := c_rSettleE r1 r5 r2 r3 o
  have hj : ∀ k, hJ h' (hR h (a + 2) i) k = hJ h (hR h (a + 2) i) k := fun k => by
    -- only ints are written
    have := fe_cReceiving_settle (hR h (a + 2) i) h
    exact (this h' u1).2.2 _ _ (fun q => by unfold wJ_cReceiving_settle at q; exact q)
  have e10 : zP (zSet z i) 10 i = if zP z 10 i = 4 then 4 else zRs (zP z 14 i) (zP z 11 i) (zP z 12 i) := by
    by_cases q : zP z 10 i = 4
    · rw [zSet_4 q, if_pos q]; exact q
    · rw [zSet_n q, if_neg q, zP_uPe]
  have en : ∀ f, f ≠ 10 → zP (zSet z i) f = zP z f := fun f hf => by
    by_cases q : zP z 10 i = 4
    · rw [zSet_4 q]
    · rw [zSet_n q, zP_uPn hf]
  have ej : ∀ f j, j ≠ i → zP (zSet z i) f j = zP z f j := fun f j hj => by
    by_cases q : zP z 10 i = 4
    · rw [zSet_4 q]
    · rw [zSet_n q, zP_uPj hj]
  have eQ : zQ (zSet z i) = zQ z ∧ (zSet z i).2.2 = z.2.2 := by
    by_cases q : zP z 10 i = 4
    · rw [zSet_4 q]; exact ⟨rfl, rfl⟩
    · rw [zSet_n q]; exact ⟨rfl, rfl⟩
  have := C.sR (z' := zSet z i) hi y0 u4 (u3 7 (by decide)) (by
    unfold HCr
    have eg : zGr s (zSet z i) i = zGr s z i := by unfold zGr; rw [eQ.1]
    rw [eg, e10, en 11 (by decide), en 12 (by decide), en 13 (by decide), en 14 (by decide), en 15 (by decide), en 16 (by decide), en 17 (by decide), en 18 (by decide), en 19 (by decide), en 20 (by decide), u2, u3 0 (by decide), u3 2 (by decide), u3 3 (by decide), u3 4 (by decide), u3 5 (by decide), u3 6 (by decide), u3 10 (by decide), u3 11 (by decide), u3 12 (by decide), hj, hj]
    exact ⟨r0, rfl, r2, r3, r4, r5, r6, r8, r9, r10, r11, r12⟩) eQ.1 ej (fun f hf => by rw [en f (by omega)]) (by rw [en 13 (by decide)]; exact Int.le_refl _) (by
      rw [e10]
      by_cases q : zP z 10 i = 4
      · rw [if_pos q]; exact ⟨fun _ => q, fun _ => rfl⟩
      · rw [if_neg q]; exact ⟨fun t => absurd t zRs_n.1, fun t => absurd t q⟩) eQ.2
  exact ⟨h', u1, this.1, this.2, u4⟩
end
