/-! Poly: the model's tallyOf -/
theorem dg16 {D : Nat → Int} (h : dgs D 16) : dg D 16 = le8 D 0 + le8 D 8 * 18446744073709551616 := by
  have m : ∀ i, i < 16 → D i % 256 = D i := fun i hi => Int.emod_eq_of_lt (h i hi).1 (h i hi).2
  unfold le8
  rw [wl_nat, wl_nat, wl_nat, wl_nat]
  simp only [Nat.zero_add, Nat.reduceAdd, m 0 (by omega), m 1 (by omega), m 2 (by omega), m 3 (by omega), m 4 (by omega), m 5 (by omega), m 6 (by omega), m 7 (by omega), m 8 (by omega), m 9 (by omega), m 10 (by omega), m 11 (by omega), m 12 (by omega), m 13 (by omega), m 14 (by omega), m 15 (by omega)]
  simp only [dg]
  generalize D 0 = d0
  generalize D 1 = d1
  generalize D 2 = d2
  generalize D 3 = d3
  generalize D 4 = d4
  generalize D 5 = d5
  generalize D 6 = d6
  generalize D 7 = d7
  generalize D 8 = d8
  generalize D 9 = d9
  generalize D 10 = d10
  generalize D 11 = d11
  generalize D 12 = d12
  generalize D 13 = d13
  generalize D 14 = d14
  generalize D 15 = d15
  grind
theorem le8_sh (B : Nat → Int) (o j : Nat) : le8 (fun i => B (o + i)) j = le8 B (o + j) := le8_congr (fun i _ => by rw [Nat.add_assoc])
theorem cb_dgs (K : Nat → Int) : dgs (cb K) 16 := fun i hi => by unfold cb; split; omega; split <;> omega
theorem cb_val (K : Nat → Int) : dg (cb K) 16 = pR_ K ∧ dg (cb K) 16 < 21267647932558653966460912964485513216 := by
  refine ⟨dg16 (cb_dgs K), ?_⟩
  show dg (cb K) 15 + cb K 15 * 256 ^ 15 < _
  have h1 := dg_lt (D := cb K) 15 (fun i hi => cb_dgs K i (by omega))
  rw [show (256 : Int) ^ 15 = 1329227995784915872903807060280344576 from by decide] at *
  rw [cb_15]
  generalize K 15 = z
  omega
theorem and252 {b : Int} (h : 0 ≤ b ∧ b < 256) : iAnd b 252 = b - b % 4 := by
  have : ∀ n : Nat, n < 256 → iAnd (n : Int) 252 = (n : Int) - (n : Int) % 4 := by decide +kernel
  obtain ⟨n, rfl⟩ := Int.eq_ofNat_of_zero_le h.1
  exact this n (by omega)
theorem m_t2 {s n : Nat} {K : Nat → Int} {Q : Hp → Prop} {h0 : Hp} (bK : ∀ i, i < 16 → (0 ≤ hI h0 (s + 18) i ∧ hI h0 (s + 18) i < 256) ∧ hI h0 (s + 18) i = K i % 256) (kk : ∀ h', LSeals h' s → AI h' (s + 20) (cb K) 16 → (∀ x k, x ≠ s + 20 → hI h' x k = hI h0 x k) → wp (f_mSeals_tallyOf_b76_lp FU s (n : Int) 0 h') Q) (f : Nat) : ∀ (k : Nat) (h : Hp), k ≤ 16 → 16 - k < f → LSeals h s → AI h (s + 20) (cb K) k → (∀ x k, x ≠ s + 20 → hI h x k = hI h0 x k) → wp (f_mSeals_tallyOf_b2_lp f s (n : Int) (k : Int) h) Q := by
  induction f with
  | zero => intro k h _ hf; omega
  | succ f ih =>
    intro k h hk hf L A E
    have l0 := L.1
    show wp (f_mSeals_tallyOf_b2 (f_mSeals_tallyOf_b2_lp f) s (n : Int) (k : Int) h) Q
    unfold f_mSeals_tallyOf_b2
    by_cases h16 : (16 : Int) ≤ k
    · have : k = 16 := by omega
      subst this
      rw [if_pos h16]
      exact kk h L A E
    · have er : iRem (k : Int) 4 = ((k % 4 : Nat) : Int) := iRem_nat (n := 4) (by omega) (by omega) (by omega)
      simp only [er, Int.toNat_natCast]
      rw [if_neg h16, L.r19, L.r21, L.l18, L.l20, wp_cn]
      refine ⟨by omega, ?_⟩
      rw [wp_ck]
      refine ⟨ix16 (by omega), ?_⟩
      rw [wp_cn]
      refine ⟨by omega, ?_⟩
      rw [wp_ck]
      refine ⟨ix16 (by omega), ?_⟩
      obtain ⟨b1, b2⟩ := bK k (by omega)
      rw [wp_lt1, E _ _ (by omega)]
      generalize hI h0 (s + 18) k = v at *
      have go : ∀ g : Hp, LSeals g s → AI g (s + 20) (cb K) (k + 1) → (∀ x k, x ≠ s + 20 → hI g x k = hI h0 x k) → wp (f_mSeals_tallyOf_b68 (f_mSeals_tallyOf_b2_lp f) s (n : Int) (k : Int) g) Q := by
        intro g Lg Ag Eg
        unfold f_mSeals_tallyOf_b68
        simp only [w_k1 (show k < 1000000000 by omega)]
        exact ih (k + 1) g (by omega) (by omega) Lg Ag Eg
      have put : ∀ (g : Hp) (w : Int), (∀ i, i < k → hI g (s + 20) i = cb K i) → w = cb K k → AI (sI g (s + 20) k w) (s + 20) (cb K) (k + 1) := by
        intro g w hg hw i hi
        rw [hI_sI]
        by_cases e : i = k
        · rw [if_pos ⟨rfl, e⟩, hw, e]
        · rw [if_neg (fun z => e z.2)]; exact hg i (by omega)
      have frm : ∀ (g : Hp) (w : Int), (∀ x k, x ≠ s + 20 → hI g x k = hI h0 x k) → ∀ x j, x ≠ s + 20 → hI (sI g (s + 20) k w) x j = hI h0 x j := by
        intro g w hg x j hx
        rw [hI_sI, if_neg (fun z => hx z.1)]; exact hg x j hx
      have A1 : ∀ i, i < k → hI (sI h (s + 20) k v) (s + 20) i = cb K i := fun i hi => by rw [hI_sI, if_neg (by omega)]; exact A i hi
      have L1 : LSeals (sI h (s + 20) k v) s := L.of rsI lsI
      by_cases h3 : k % 4 = 3
      · rw [if_neg (by rw [h3]; simp), L1.r21, L1.l20, wp_cn]
        refine ⟨by omega, ?_⟩
        rw [wp_ck, wp_ck]
        refine ⟨ix16 (by omega), ix16 (by omega), ?_⟩
        rw [wp_lt1, hI_sI, if_pos ⟨rfl, rfl⟩, show iAnd v 15 = v % 16 from iAnd_mask (n := 4) (by decide) rfl]
        unfold f_mSeals_tallyOf_b42
        simp only [er]
        rw [if_pos (by rw [h3]; decide)]
        refine go _ (L1.of rsI lsI) (put _ _ A1 ?_) (frm _ _ (frm _ _ E))
        unfold cb
        rw [if_pos h3, b2]
      · rw [if_pos (by clear er; omega)]
        unfold f_mSeals_tallyOf_b42
        simp only [er]
        by_cases h4 : k % 4 = 0 ∧ 0 < k
        · rw [if_neg (by rw [h4.1]; simp), if_neg (by clear er; omega), L1.r21, L1.l20, wp_cn]
          refine ⟨by omega, ?_⟩
          rw [wp_ck, wp_ck]
          refine ⟨ix16 (by omega), ix16 (by omega), ?_⟩
          rw [wp_lt1, Int.toNat_natCast, hI_sI, if_pos ⟨rfl, rfl⟩, and252 b1]
          refine go _ (L1.of rsI lsI) (put _ _ A1 ?_) (frm _ _ (frm _ _ E))
          unfold cb
          rw [if_neg h3, if_pos h4, b2]
        · have fin := go _ L1 (put h v (fun i hi => A i hi) (by unfold cb; rw [if_neg h3, if_neg h4, b2])) (frm _ _ E)
          by_cases h5 : k % 4 = 0
          · rw [if_neg (by rw [h5]; simp), if_pos (by clear er; omega)]
            exact fin
          · rw [if_pos (by clear er; omega)]
            exact fin
