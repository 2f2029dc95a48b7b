/-! guards: the model's seal -/
def SlF (s row : Nat) (h h' : Hp) : Prop := (hR h' = hR h ∧ ln h' = ln h) ∧ ∀ x k, (x < s ∨ s + 23 < x) → x ≠ row → hI h' x k = hI h x k
theorem SlF.nonce {s gd : Nat} {o n : Int} {h h' : Hp} (L : LSeals h s) (e : f_mSeals_nonceOf s gd o n h = some h') : SlF s 0 h h' := by
  have F : Fe (wI_mSeals_nonceOf s gd o n h) (wJ_mSeals_nonceOf s gd o n h) h h' := fe_mSeals_nonceOf s gd o n h _ e
  exact ⟨⟨F.r, F.l⟩, fun x k hx _ => F.I (by simp only [wI_mSeals_nonceOf, L.r15, L.r16]; intro z; rcases z with z | z <;> omega)⟩
theorem m_chgF {s row : Nat} {f n : Int} {h h' : Hp} (L : LSeals h s) (e : f_mSeals_change s row f n h = some h') : (hR h' = hR h ∧ ln h' = ln h) ∧ ∀ x k, x ≠ s + 18 → x ≠ row → hI h' x k = hI h x k := by
  have F : Fe (wI_mSeals_change s row f n h) (wJ_mSeals_change s row f n h) h h' := fe_mSeals_change s row f n h _ e
  exact ⟨⟨F.r, F.l⟩, fun x k h1 h2 => F.I (by simp only [wI_mSeals_change, L.r19]; intro z; rcases z with z | z <;> omega)⟩
theorem m_tagF {s row : Nat} {f hd e_ : Int} {h h' : Hp} (L : LSeals h s) (e : f_mSeals_tagOf s row f hd e_ h = some h') : (hR h' = hR h ∧ ln h' = ln h) ∧ ∀ x k, (x < s + 18 ∨ s + 23 < x) → hI h' x k = hI h x k := by
  have F : Fe (wI_mSeals_tagOf s row f hd e_ h) (wJ_mSeals_tagOf s row f hd e_ h) h h' := fe_mSeals_tagOf s row f hd e_ h _ e
  exact ⟨⟨F.r, F.l⟩, fun x k hx => F.I (by simp only [wI_mSeals_tagOf, L.r19, L.r20, L.r21, L.r22, L.r23, L.r24]; intro z; rcases z with z | z | z | z | z | z | z <;> omega)⟩
theorem m_seal {s gd o row from_ head body : Nat} {K V R : Nat → Int} {n : Int} {h : Hp} (L : LSeals h s) (hg : gd ≠ 0) (hgd : gd < s ∨ s + 23 < gd) (hgl : o + 76 ≤ ln h gd) (hgz : o + 100 < 1000000000) (hK : ∀ j, j < 32 → (0 ≤ hI h gd (o + j) ∧ hI h gd (o + j) < 256) ∧ hI h gd (o + j) % 256 = K j % 256) (hV : ∀ j, j < 12 → (0 ≤ hI h gd (o + 64 + j) ∧ hI h gd (o + 64 + j) < 256) ∧ hI h gd (o + 64 + j) % 256 = V j % 256) (hn : c64 n)
    (hr : row ≠ 0) (hd : row < s ∨ s + 23 < row) (hz : from_ + head + body < 800000) (hs : f16 head + f16 body + 16 ≤ 2400) (hl : from_ + head + body + 16 ≤ ln h row) (hR : ∀ j, j < head + body → (0 ≤ hI h row (from_ + j) ∧ hI h row (from_ + j) < 256) ∧ hI h row (from_ + j) = R j % 256) :
    wp (f_mSeals_seal s gd (o : Int) n row (from_ : Int) (head : Int) ((from_ + head + body : Nat) : Int) h) (fun h' => (∀ j, j < head + body → hI h' row (from_ + j) = COV K (NON V n) R head j) ∧ (∀ j, j < 16 → hI h' row (from_ + head + body + j) = TAG K (NON V n) (COV K (NON V n) R head) head body j) ∧ ∀ j, j < from_ ∨ from_ + head + body + 16 ≤ j → hI h' row j = hI h row j) := by
  have l0 := L.1
  unfold f_mSeals_seal
  have w1 : w32 ((from_ : Int) + (head : Int)) = ((from_ + head : Nat) : Int) := w_ck (by omega)
  simp only [w1]
  clear w1
  refine wp_b1o (m_nonce L hg hgd hgl hgz hK hV hn) (fun h1 e1 q1 => ?_)
  have F1 := SlF.nonce L e1
  have L1 := L.of F1.1.1 F1.1.2
  have R1 : ∀ j, hI h1 row j = hI h row j := fun j => F1.2 _ _ hd hr
  refine wp_b1o (m_change (K := K) (N := NON V n) (from_ := from_ + head) (n := body) L1 hr hd (by omega) (by rw [F1.1.2]; omega) (fun j hj => by rw [R1, Nat.add_assoc]; exact (hR _ (by omega)).1) q1.1 q1.2) (fun h2 e2 q2 => ?_)
  have F2 := m_chgF L1 e2
  have L2 := L1.of F2.1.1 F2.1.2
  have r2 : ∀ j, j < head + body → hI h2 row (from_ + j) = COV K (NON V n) R head j := fun j hj => by
    unfold COV
    by_cases g1 : j < head
    · rw [q2.2 _ (by omega), R1, (hR j hj).2, if_pos g1]
    · have := q2.1 (j - head) (by omega)
      rw [show from_ + head + (j - head) = from_ + j by omega, R1] at this
      rw [this, if_neg g1, (hR j hj).2, bx_mod]
  refine wp_b1o (m_tagOf (K := K) (N := NON V n) (R := COV K (NON V n) R head) L2 hr hd (by omega) hs (by rw [F2.1.2, F1.1.2]; omega) (fun j hj => ?_) (fun j hj => by rw [F2.2 _ _ (by omega) (by omega)]; exact q1.1 j hj) (fun j hj => by rw [F2.2 _ _ (by omega) (by omega)]; exact q1.2 j hj)) (fun h3 e3 q3 => ?_)
  · rw [r2 j hj]
    have := COV_lt K (NON V n) R head j
    exact ⟨this, (Int.emod_eq_of_lt this.1 this.2).symm⟩
  have F3 := m_tagF L2 e3
  have L3 := L2.of F3.1.1 F3.1.2
  have ixe : ∀ j : Nat, j < 16 → w32 (((from_ + head + body : Nat) : Int) + (j : Int)) = ((from_ + head + body + j : Nat) : Int) := fun j hj => w_ck (by omega)
  have hl3 : ln h3 row = ln h row := by rw [F3.1.2, F2.1.2, F1.1.2]
  have e := lq_mSeals_seal_b35 (v0 := s) (v5 := row) (o := from_ + head + body) FU 0 h3 (by omega) (by unfold FU; omega) (by omega) (by rw [L3.r23]; omega) (by rw [L3.r23, L3.l22]; intro j _ hj; exact ix16 hj) hr (by intro j _ hj; rw [ixe j hj, hl3]; exact ix16 (by omega)) (by rw [L3.r23]; omega)
  have e' : f_mSeals_seal_b35_lp FU s row ((from_ + head + body : Nat) : Int) 0 h3 = _ := e
  rw [e', L3.r23]
  clear e e' ixe
  unfold lx_mSeals_seal_b35
  rw [wp_some]
  refine ⟨fun j hj => ?_, fun j hj => ?_, fun j hj => ?_⟩
  · rw [hI_fI, if_neg (by omega), F3.2 _ _ (by omega)]; exact r2 j hj
  · rw [hI_fI, if_pos ⟨rfl, by omega, by omega⟩, show from_ + head + body + j - (from_ + head + body) = j by omega]; exact q3 j hj
  · rw [hI_fI, if_neg (by omega), F3.2 _ _ (by omega), q2.2 _ (by omega), R1]
