/-! guards: the model's tag, whole -/
theorem AEB_1 {R : Nat → Int} {head body j : Nat} (h : j < head) : AEB R head body j = R j % 256 := if_pos h
theorem f16_ge (n : Nat) : n ≤ f16 n ∧ f16 n % 16 = 0 ∧ f16 n < n + 16 := by unfold f16; omega
theorem f16_id {n : Nat} (h : n % 16 = 0) (m : Nat) : f16 (n + m) = n + f16 m := by unfold f16; omega
theorem m_tg47 {s row from_ head body : Nat} {K N R : Nat → Int} {h0 : Hp} (hr : row ≠ 0) (hd : row < s ∨ s + 23 < row) (hz : from_ + head + body < 900000) (hs : f16 head + f16 body + 16 ≤ 2400) (hl : from_ + head + body ≤ ln h0 row) (hR : ∀ j, j < head + body → (0 ≤ hI h0 row (from_ + j) ∧ hI h0 row (from_ + j) < 256) ∧ hI h0 row (from_ + j) = R j % 256) (hK : ∀ j, j < 32 → (0 ≤ hI h0 (s + 14) j ∧ hI h0 (s + 14) j < 256) ∧ hI h0 (s + 14) j % 256 = K j % 256) (hN : ∀ j, j < 12 → (0 ≤ hI h0 (s + 15) j ∧ hI h0 (s + 15) j < 256) ∧ hI h0 (s + 15) j % 256 = N j % 256) (f : Nat) : ∀ (i : Nat) (h : Hp), i ≤ body → body - i < f → LSeals h s → SeF s h0 h → (∀ j, j < f16 head + i → hI h (s + 23) j = AEB R head body j) →
    wp (f_mSeals_tagOf_b47_lp f s row (from_ : Int) (head : Int) ((from_ + head + body : Nat) : Int) ((f16 head + i : Nat) : Int) ((from_ + head + i : Nat) : Int) h) (fun h' => ∀ j, j < 16 → hI h' (s + 22) j = TAG K N R head body j) := by
  have g1 := f16_ge head
  have g2 := f16_ge body
  induction f with
  | zero => intro i h _ hf; omega
  | succ f ih =>
    intro i h hi hf L F Q
    have l0 := L.1
    show wp (f_mSeals_tagOf_b47 (f_mSeals_tagOf_b47_lp f) s row (from_ : Int) (head : Int) ((from_ + head + body : Nat) : Int) ((f16 head + i : Nat) : Int) ((from_ + head + i : Nat) : Int) h) _
    unfold f_mSeals_tagOf_b47
    by_cases hx : ((from_ + head + body : Nat) : Int) ≤ ((from_ + head + i : Nat) : Int)
    · have : i = body := by omega
      subst this
      rw [if_pos hx]
      have fe : f16 (f16 head + i) = f16 head + f16 i := f16_id g1.2.1 i
      refine wp_b2o (m_fill (N := f16 head + i) (B := AEB R head i) L (by rw [fe]; omega) (fun j h1 h2 => ?_) Q) (fun r h1 _ q => ?_)
      · rw [fe] at h2
        unfold AEB
        rw [if_neg (by omega), if_neg (by omega), if_neg (by omega), if_pos h2]
      · obtain ⟨q1, q2, q3⟩ := q
        rw [fe] at q1 q3
        have ew1 : w32 (((from_ + head + i : Nat) : Int) - (from_ : Int)) = ((head + i : Nat) : Int) := by clear q1; unfold w32; omega
        have ew2 : w32 (((head + i : Nat) : Int) - (head : Int)) = ((i : Nat) : Int) := by clear q1 ew1; unfold w32; omega
        rw [wp_lt1]
        have q1' : r = ((f16 head + f16 i : Nat) : Int) := q1
        simp only [ew1, ew2, q1']
        clear ew1 ew2 q1 q1'
        have F1 := F.tr q2
        refine m_tg93 (M := f16 head + f16 i) (B := AEB R head i) (K := K) (N := N) (L.of q2.1.1 q2.1.2) (by omega) (by omega) (by omega) (by omega) (fun j _ => AEB_lt _ _ _ _) (fun j hj => ?_) q3 (fun j hj => by rw [F1.2 _ _ (by omega)]; exact hK j hj) (fun j hj => by rw [F1.2 _ _ (by omega)]; exact hN j hj)
        unfold AEB
        rw [if_neg (by omega), if_neg (by omega), if_neg (by omega), if_neg (by omega), show f16 head + f16 i + j - f16 head - f16 i = j by omega]
    · rw [if_neg hx, wp_cn]
      refine ⟨hr, ?_⟩
      rw [wp_ck]
      refine ⟨ix16 (by rw [F.1.2]; omega), ?_⟩
      rw [L.r24, L.l23, wp_cn]
      refine ⟨by omega, ?_⟩
      rw [wp_ck]
      refine ⟨ix16 (by omega), ?_⟩
      rw [wp_lt1]
      simp only [w_k1 (show f16 head + i < 1000000000 by omega), w_k1 (show from_ + head + i < 1000000000 by omega), Int.toNat_natCast]
      refine ih (i + 1) _ (by omega) (by omega) (L.of rsI lsI) F.sI (fun j hj => ?_)
      rw [hI_sI]
      by_cases e : j = f16 head + i
      · subst e
        rw [if_pos ⟨rfl, rfl⟩, F.2 _ _ (by omega), Nat.add_assoc, (hR (head + i) (by omega)).2]
        unfold AEB
        rw [if_neg (by omega), if_neg (by omega), if_pos (by omega), show f16 head + i - f16 head = i by omega]
      · rw [if_neg (fun z => e z.2)]; exact Q j (by omega)
theorem m_tg6 {s row from_ head body : Nat} {K N R : Nat → Int} {h0 : Hp} (hr : row ≠ 0) (hd : row < s ∨ s + 23 < row) (hz : from_ + head + body < 900000) (hs : f16 head + f16 body + 16 ≤ 2400) (hl : from_ + head + body ≤ ln h0 row) (hR : ∀ j, j < head + body → (0 ≤ hI h0 row (from_ + j) ∧ hI h0 row (from_ + j) < 256) ∧ hI h0 row (from_ + j) = R j % 256) (hK : ∀ j, j < 32 → (0 ≤ hI h0 (s + 14) j ∧ hI h0 (s + 14) j < 256) ∧ hI h0 (s + 14) j % 256 = K j % 256) (hN : ∀ j, j < 12 → (0 ≤ hI h0 (s + 15) j ∧ hI h0 (s + 15) j < 256) ∧ hI h0 (s + 15) j % 256 = N j % 256) (f : Nat) : ∀ (i : Nat) (h : Hp), i ≤ head → head - i < f → LSeals h s → SeF s h0 h → (∀ j, j < i → hI h (s + 23) j = AEB R head body j) →
    wp (f_mSeals_tagOf_b6_lp f s row (from_ : Int) (head : Int) ((from_ + head + body : Nat) : Int) (i : Int) ((from_ + i : Nat) : Int) h) (fun h' => ∀ j, j < 16 → hI h' (s + 22) j = TAG K N R head body j) := by
  have g1 := f16_ge head
  induction f with
  | zero => intro i h _ hf; omega
  | succ f ih =>
    intro i h hi hf L F Q
    have l0 := L.1
    show wp (f_mSeals_tagOf_b6 (f_mSeals_tagOf_b6_lp f) s row (from_ : Int) (head : Int) ((from_ + head + body : Nat) : Int) (i : Int) ((from_ + i : Nat) : Int) h) _
    unfold f_mSeals_tagOf_b6
    have e1 : w32 ((from_ : Int) + (head : Int)) = ((from_ + head : Nat) : Int) := w_ck (by omega)
    simp only [e1]
    clear e1
    by_cases hx : ((from_ + head : Nat) : Int) ≤ ((from_ + i : Nat) : Int)
    · have : i = head := by omega
      subst this
      rw [if_pos hx]
      refine wp_b2o (m_fill (N := i) (B := AEB R i body) L (by omega) (fun j h1 h2 => ?_) Q) (fun r h1 _ q => ?_)
      · unfold AEB
        rw [if_neg (by omega), if_pos h2]
      · obtain ⟨q1, q2, q3⟩ := q
        have q1' : r = ((f16 i : Nat) : Int) := q1
        rw [wp_lt1, q1']
        exact m_tg47 (i := 0) hr hd hz hs hl hR hK hN FU h1 (by omega) (by unfold FU; omega) (L.of q2.1.1 q2.1.2) (F.tr q2) q3
    · rw [if_neg hx, wp_cn]
      refine ⟨hr, ?_⟩
      rw [wp_ck]
      refine ⟨ix16 (by rw [F.1.2]; omega), ?_⟩
      rw [L.r24, L.l23, wp_cn]
      refine ⟨by omega, ?_⟩
      rw [wp_ck]
      refine ⟨ix16 (by omega), ?_⟩
      rw [wp_lt1]
      simp only [w_k1 (show i < 1000000000 by omega), w_k1 (show from_ + i < 1000000000 by omega), Int.toNat_natCast]
      refine ih (i + 1) _ (by omega) (by omega) (L.of rsI lsI) F.sI (fun j hj => ?_)
      rw [hI_sI]
      by_cases e : j = i
      · subst e
        rw [if_pos ⟨rfl, rfl⟩, F.2 _ _ (by omega), (hR j (by omega)).2, AEB_1 (by omega)]
      · rw [if_neg (fun z => e z.2)]; exact Q j (by omega)
theorem m_tagOf {s row from_ head body : Nat} {K N R : Nat → Int} {h : Hp} (L : LSeals h s) (hr : row ≠ 0) (hd : row < s ∨ s + 23 < row) (hz : from_ + head + body < 900000) (hs : f16 head + f16 body + 16 ≤ 2400) (hl : from_ + head + body ≤ ln h row) (hR : ∀ j, j < head + body → (0 ≤ hI h row (from_ + j) ∧ hI h row (from_ + j) < 256) ∧ hI h row (from_ + j) = R j % 256) (hK : ∀ j, j < 32 → (0 ≤ hI h (s + 14) j ∧ hI h (s + 14) j < 256) ∧ hI h (s + 14) j % 256 = K j % 256) (hN : ∀ j, j < 12 → (0 ≤ hI h (s + 15) j ∧ hI h (s + 15) j < 256) ∧ hI h (s + 15) j % 256 = N j % 256) :
    wp (f_mSeals_tagOf s row (from_ : Int) (head : Int) ((from_ + head + body : Nat) : Int) h) (fun h' => ∀ j, j < 16 → hI h' (s + 22) j = TAG K N R head body j) := by
  unfold f_mSeals_tagOf
  exact m_tg6 (i := 0) hr hd hz hs hl hR hK hN FU h (by omega) (by unfold FU; omega) L ⟨⟨rfl, rfl⟩, fun _ _ _ => rfl⟩ (fun j hj => by omega)
