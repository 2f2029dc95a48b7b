/-! guards: the model's open -/
theorem m_op25 {s row from_ head body : Nat} {T : Nat → Int} {Q : Int × Hp → Prop} {h : Hp} (L : LSeals h s) (hr : row ≠ 0) (hz : from_ + head + body + 16 < 800000) (hl : from_ + head + body + 16 ≤ ln h row) (hT : ∀ j, j < 16 → hI h (s + 22) j = T j) (k1 : (∀ j, j < 16 → hI h row (from_ + head + body + j) = T j) → wp (b1 (f_mSeals_change s row ((from_ + head : Nat) : Int) ((from_ + head + body : Nat) : Int) h) fun h5 => some ((1 : Int), h5)) Q) (k2 : (¬ ∀ j, j < 16 → hI h row (from_ + head + body + j) = T j) → Q (0, h)) (f : Nat) : ∀ k, k ≤ 16 → 16 - k < f → (∀ j, j < k → hI h row (from_ + head + body + j) = T j) → wp (f_mSeals_open_b25_lp f s row (from_ : Int) (head : Int) ((from_ + head + body + 16 : Nat) : Int) (k : Int) h) Q := by
  induction f with
  | zero => intro k _ hf; omega
  | succ f ih =>
    intro k hk hf hv
    have l0 := L.1
    show wp (f_mSeals_open_b25 (f_mSeals_open_b25_lp f) s row (from_ : Int) (head : Int) ((from_ + head + body + 16 : Nat) : Int) (k : Int) h) Q
    unfold f_mSeals_open_b25
    have e1 : w32 (((from_ + head + body + 16 : Nat) : Int) - 16) = ((from_ + head + body : Nat) : Int) := by unfold w32; omega
    have e0 : w32 ((from_ : Int) + (head : Int)) = ((from_ + head : Nat) : Int) := w_ck (by clear e1; omega)
    by_cases hx : (16 : Int) ≤ k
    · have : k = 16 := by clear e1 e0; omega
      subst this
      rw [if_pos hx]
      simp only [e0, e1]
      exact k1 hv
    · have e2 : w32 (((from_ + head + body : Nat) : Int) + (k : Int)) = ((from_ + head + body + k : Nat) : Int) := w_ck (by clear e1 e0; omega)
      simp only [e0, e1, e2, w_k1 (show k < 1000000000 by clear e1 e0 e2; omega), Int.toNat_natCast]
      clear e1 e0 e2
      rw [if_neg hx, wp_cn]
      refine ⟨hr, ?_⟩
      rw [wp_ck]
      refine ⟨ix16 (by omega), ?_⟩
      rw [L.r23, L.l22, wp_cn]
      refine ⟨by omega, ?_⟩
      rw [wp_ck]
      refine ⟨ix16 (by omega), ?_⟩
      rw [hT k (by omega)]
      by_cases g : hI h row (from_ + head + body + k) = T k
      · rw [if_pos g]
        refine ih (k + 1) (by clear g; omega) (by clear g; omega) (fun j hj => ?_)
        by_cases e : j = k
        · rw [e]; exact g
        · exact hv j (by clear g; omega)
      · rw [if_neg g, wp_some]
        exact k2 (fun z => g (z k (by clear g; omega)))
theorem m_open {s gd o row from_ head body : Nat} {K V R : Nat → Int} {n : Int} {h : Hp} (L : LSeals h s) (hg : gd ≠ 0) (hgd : gd < s ∨ s + 23 < gd) (hgl : o + 76 ≤ ln h gd) (hgz : o + 100 < 1000000000) (hK : ∀ j, j < 32 → (0 ≤ hI h gd (o + j) ∧ hI h gd (o + j) < 256) ∧ hI h gd (o + j) % 256 = K j % 256) (hV : ∀ j, j < 12 → (0 ≤ hI h gd (o + 64 + j) ∧ hI h gd (o + 64 + j) < 256) ∧ hI h gd (o + 64 + j) % 256 = V j % 256) (hn : c64 n)
    (hr : row ≠ 0) (hd : row < s ∨ s + 23 < row) (hz : from_ + head + body + 16 < 800000) (hs : f16 head + f16 body + 16 ≤ 2400) (hl : from_ + head + body + 16 ≤ ln h row) (hR : ∀ j, j < head + body + 16 → (0 ≤ hI h row (from_ + j) ∧ hI h row (from_ + j) < 256) ∧ hI h row (from_ + j) = R j % 256) :
    wp (f_mSeals_open s gd (o : Int) n row (from_ : Int) (head : Int) ((from_ + head + body + 16 : Nat) : Int) h) (fun p => ((∀ j, j < 16 → R (head + body + j) % 256 = TAG K (NON V n) R head body j) → p.1 = 1 ∧ (∀ j, head ≤ j → j < head + body → hI p.2 row (from_ + j) = COV K (NON V n) R head j) ∧ ∀ j, j < from_ + head ∨ from_ + head + body ≤ j → hI p.2 row j = hI h row j) ∧ ((¬ ∀ j, j < 16 → R (head + body + j) % 256 = TAG K (NON V n) R head body j) → p.1 = 0 ∧ ∀ j, hI p.2 row j = hI h row j)) := by
  have l0 := L.1
  unfold f_mSeals_open
  have w1 : w32 (((from_ + head + body + 16 : Nat) : Int) - 16) = ((from_ + head + body : Nat) : Int) := by unfold w32; omega
  simp only [w1]
  clear w1
  refine wp_b1o (m_nonce L hg hgd hgl hgz hK hV hn) (fun h1 e1 q1 => ?_)
  have F1 := SlF.nonce L e1
  have L1 := L.of F1.1.1 F1.1.2
  have R1 : ∀ j, hI h1 row j = hI h row j := fun j => F1.2 _ _ hd hr
  refine wp_b1o (m_tagOf (K := K) (N := NON V n) (R := R) L1 hr hd (by omega) hs (by rw [F1.1.2]; omega) (fun j hj => by rw [R1]; exact hR j (by omega)) q1.1 q1.2) (fun h2 e2 q2 => ?_)
  have F2 := m_tagF L1 e2
  have L2 := L1.of F2.1.1 F2.1.2
  have R2 : ∀ j, hI h2 row j = hI h row j := fun j => by rw [F2.2 _ _ (by omega), R1]
  have tq : ∀ j, j < 16 → (hI h2 row (from_ + head + body + j) = TAG K (NON V n) R head body j ↔ R (head + body + j) % 256 = TAG K (NON V n) R head body j) := fun j hj => by
    rw [R2, show from_ + head + body + j = from_ + (head + body + j) by omega, (hR (head + body + j) (by omega)).2]
  refine m_op25 (T := TAG K (NON V n) R head body) L2 hr (by omega) (by rw [F2.1.2, F1.1.2]; exact hl) q2 (fun ok => ?_) (fun no => ?_) FU 0 (by omega) (by unfold FU; omega) (fun j hj => absurd hj (Nat.not_lt_zero j))
  · refine wp_b1o (m_change (K := K) (N := NON V n) (from_ := from_ + head) (n := body) L2 hr hd (by omega) (by rw [F2.1.2, F1.1.2]; omega) (fun j hj => by rw [R2, Nat.add_assoc]; exact (hR _ (by omega)).1) (fun j hj => by rw [F2.2 _ _ (by omega)]; exact q1.1 j hj) (fun j hj => by rw [F2.2 _ _ (by omega)]; exact q1.2 j hj)) (fun h3 e3 q3 => ?_)
    rw [wp_some]
    refine ⟨fun _ => ⟨rfl, fun j g1 g2 => ?_, fun j hj => by rw [q3.2 _ (by omega), R2]⟩, fun no => absurd (fun j hj => (tq j hj).mp (ok j hj)) no⟩
    have := q3.1 (j - head) (by omega)
    rw [show from_ + head + (j - head) = from_ + j by omega, R2] at this
    unfold COV
    rw [this, if_neg (by omega), (hR j (by omega)).2, bx_mod]
  · exact ⟨fun ok => absurd (fun j hj => (tq j hj).mpr (ok j hj)) no, fun _ => ⟨rfl, R2⟩⟩
