/-! the model's Seals: MACs -/
theorem m_mac2 {s n m : Nat} {K T : Nat → Int} {h : Hp} (L : LSeals h s) (M : MCs h s) (hP : ∀ j, j < 64 → 0 ≤ hI h (s + 10) j ∧ hI h (s + 10) j < 256 ∧ hI h (s + 10) j = kpad n K j % 256) (hD : ∀ k, k < 32 → hI h (s + 9) k = SHA (64 + m) (hmI n K T) k) : wp (f_mSeals_macText_b121_lp FU s 0 h) (fun h' => ∀ k, k < 32 → hI h' (s + 9) k = HMAC n K m T k) := by
  have l0 := L.1
  have e := lq_mSeals_macText_b121 (v0 := s) FU 0 h (by omega) (by unfold FU; omega) (by omega) (by rw [L.r9]; omega) (by rw [L.r9, L.l10]; intro j _ hj; exact ⟨by omega, by omega⟩) (by rw [L.r4]; omega) (by rw [L.r4, L.l5]; intro j _ hj; exact ⟨by omega, by omega⟩) (by rw [L.r9, L.r4]; omega)
  have e' : f_mSeals_macText_b121_lp FU s 0 h = _ := e
  rw [e', L.r9, L.r4]
  unfold lx_mSeals_macText_b121
  generalize hg : fI h (s + 5) 0 0 64 (fun j => iXor (hI h (s + 10) j) 92) = g
  have G : LSeals g s := by rw [← hg]; exact L
  have g1 : ∀ j, j < 64 → hI g (s + 5) j = bx (kpad n K j) 92 := fun j hj => by
    have := hP j hj
    rw [← hg, hI_fI, if_pos ⟨rfl, by omega, by omega⟩, Nat.sub_zero, iXor_lt ⟨this.1, this.2.1⟩ (by omega), this.2.2, bx_mod]
  have g2 : ∀ x k, x ≠ s + 5 → hI g x k = hI h x k := fun x k hx => by rw [← hg, hI_fI, if_neg (fun z => hx z.1)]
  have M1 : MCs g s := by rw [← hg]; exact M
  clear hg e e'
  have e2 := lq_mSeals_macText_b154 (v0 := s) FU 0 g (by omega) (by unfold FU; omega) (by omega) (by rw [G.r8]; omega) (by rw [G.r8, G.l9]; intro j _ hj; exact ⟨by omega, by omega⟩) (by rw [G.r4]; omega) (by
    rw [G.r4, G.l5]; intro j _ hj
    have : w32 (64 + (j : Int)) = ((64 + j : Nat) : Int) := by unfold w32; omega
    rw [this]; clear this
    exact ⟨by omega, by omega⟩) (by rw [G.r8, G.r4]; omega)
  have e2' : f_mSeals_macText_b154_lp FU s 0 g = _ := e2
  rw [e2', G.r8, G.r4]
  clear e2 e2'
  unfold lx_mSeals_macText_b154
  have w := m_digestWork (s := s) (n := 96) (h := fI g (s + 5) 64 0 32 (fun j => hI g (s + 9) j)) (by omega) (G.of rfl rfl) M1 (fun j hj => by
    rw [hI_fI]
    by_cases hj2 : 64 ≤ j
    · rw [if_pos ⟨rfl, by omega, by omega⟩, g2 _ _ (by omega), hD _ (by omega)]; exact SHA_lt _ _ _
    · rw [if_neg (by omega), g1 j (by omega)]; exact bx_lt _ _)
  refine wp_b1o w (fun g3 e3 q3 => ?_)
  rw [wp_some]
  intro k hk
  rw [q3 k hk]
  unfold HMAC
  refine SHA_congr (fun j hj => ?_) hk
  show hI (fI g (s + 5) 64 0 32 fun j => hI g (s + 9) j) (s + 5) j % 256 = _
  unfold hmO
  rw [hI_fI]
  by_cases hj2 : 64 ≤ j
  · rw [if_pos ⟨rfl, by omega, by omega⟩, g2 _ _ (by omega), hD _ (by omega), if_neg (by omega)]
  · rw [if_neg (by omega), g1 j (by omega), if_pos (by omega)]
theorem m_macText {s r at_ n m : Nat} {K T : Nat → Int} {h : Hp} (L : LSeals h s) (M : MCs h s) (hr : r ≠ 0) (hd : r < s ∨ s + 23 < r) (hn : n ≤ 64) (hln : at_ + n ≤ ln h r) (hz : at_ + 64 < 2147483648) (hK : ∀ j, j < n → 0 ≤ hI h r (at_ + j) ∧ hI h r (at_ + j) < 256 ∧ hI h r (at_ + j) = K j % 256) (hm : hI h s 11 = (m : Int)) (hm2 : m + 136 ≤ 2400) (hT : ∀ j, j < m → 0 ≤ hI h (s + 11) j ∧ hI h (s + 11) j < 256 ∧ hI h (s + 11) j = T j % 256) : wp (f_mSeals_macText s r (at_ : Int) (n : Int) h) (fun h' => ∀ k, k < 32 → hI h' (s + 9) k = HMAC n K m T k) := by
  have l0 := L.1
  unfold f_mSeals_macText
  have ixa : ∀ j : Nat, j < 64 → w32 ((at_ : Int) + (j : Int)) = ((at_ + j : Nat) : Int) := fun j hj => by unfold w32; omega
  have e := lq_mSeals_macText_b3 (v0 := s) (v1 := r) (v2 := (at_ : Int)) (v3 := (n : Int)) FU 0 h (by omega) (by unfold FU; omega) (by omega) (by rw [L.r9]; omega) (by rw [L.r9, L.l10]; intro j _ hj _; exact ⟨by omega, by omega⟩) (by intro j _ _ _; exact hr) (by intro j _ hj h2; rw [ixa j hj]; exact ⟨by omega, by omega⟩) (by rw [L.r9]; omega) (by rw [L.r9, L.l10]; intro j _ hj _; exact ⟨by omega, by omega⟩) (by rw [L.r9]; omega)
  have e' : f_mSeals_macText_b3_lp FU s r (at_ : Int) (n : Int) 0 h = _ := e
  rw [e', L.r9]
  clear e e'
  unfold lx_mSeals_macText_b3
  generalize hg : fI h (s + 10) 0 0 64 (fun j => if (n : Int) ≤ (j : Int) then 0 else hI h r (w32 ((at_ : Int) + (j : Int))).toNat) = g
  have G : LSeals g s := by rw [← hg]; exact L
  have g1 : ∀ j, j < 64 → 0 ≤ hI g (s + 10) j ∧ hI g (s + 10) j < 256 ∧ hI g (s + 10) j = kpad n K j % 256 := fun j hj => by
    rw [← hg, hI_fI, if_pos ⟨rfl, by omega, by omega⟩, Nat.sub_zero, ixa j hj, Int.toNat_natCast]
    unfold kpad
    by_cases hjn : j < n
    · rw [if_neg (by omega), if_pos hjn]; exact hK j hjn
    · rw [if_pos (by omega), if_neg hjn]; decide
  have g2 : ∀ x k, x ≠ s + 10 → hI g x k = hI h x k := fun x k hx => by rw [← hg, hI_fI, if_neg (fun z => hx z.1)]
  have M1 : MCs g s := by rw [← hg]; exact M
  clear hg ixa
  have e2 := lq_mSeals_macText_b42 (v0 := s) FU 0 g (by omega) (by unfold FU; omega) (by omega) (by rw [G.r9]; omega) (by rw [G.r9, G.l10]; intro j _ hj; exact ⟨by omega, by omega⟩) (by rw [G.r4]; omega) (by rw [G.r4, G.l5]; intro j _ hj; exact ⟨by omega, by omega⟩) (by rw [G.r9, G.r4]; omega)
  have e2' : f_mSeals_macText_b42_lp FU s 0 g = _ := e2
  rw [e2', G.r9, G.r4]
  clear e2 e2'
  unfold lx_mSeals_macText_b42
  generalize hg3 : fI g (s + 5) 0 0 64 (fun j => iXor (hI g (s + 10) j) 54) = g3
  have G3 : LSeals g3 s := by rw [← hg3]; exact G
  have k1 : ∀ j, j < 64 → hI g3 (s + 5) j = bx (kpad n K j) 54 := fun j hj => by
    have := g1 j hj
    rw [← hg3, hI_fI, if_pos ⟨rfl, by omega, by omega⟩, Nat.sub_zero, iXor_lt ⟨this.1, this.2.1⟩ (by omega), this.2.2, bx_mod]
  have k2 : ∀ x k, x ≠ s + 5 → hI g3 x k = hI g x k := fun x k hx => by rw [← hg3, hI_fI, if_neg (fun z => hx z.1)]
  have M3 : MCs g3 s := by rw [← hg3]; exact M1
  clear hg3
  have hm3 : hI g3 s 11 = (m : Int) := by rw [k2 _ _ (by omega), g2 _ _ (by omega)]; exact hm
  have e4 := lq_mSeals_macText_b75 (v0 := s) (N := m) FU 0 g3 (by omega) (by unfold FU; omega) (by omega) hm3 (by rw [G3.r4]; omega) (by rw [G3.r10]; omega) (by rw [G3.r10, G3.l11]; intro j _ hj; exact ⟨by omega, by omega⟩) (by rw [G3.r4]; omega) (by
    rw [G3.r4, G3.l5]; intro j _ hj
    have : w32 (64 + (j : Int)) = ((64 + j : Nat) : Int) := by unfold w32; omega
    rw [this]; clear this
    exact ⟨by omega, by omega⟩) (by rw [G3.r10, G3.r4]; omega)
  have e4' : f_mSeals_macText_b75_lp FU s 0 g3 = _ := e4
  rw [e4', G3.r10, G3.r4]
  clear e4 e4'
  unfold lx_mSeals_macText_b75
  generalize hg5 : fI g3 (s + 5) 64 0 m (fun j => hI g3 (s + 11) j) = g5
  have G5 : LSeals g5 s := by rw [← hg5]; exact G3
  have M5 : MCs g5 s := by rw [← hg5]; exact M3
  have v1 : ∀ j, j < 64 + m → 0 ≤ hI g5 (s + 5) j ∧ hI g5 (s + 5) j < 256 ∧ hI g5 (s + 5) j % 256 = hmI n K T j % 256 := fun j hj => by
    rw [← hg5, hI_fI]
    unfold hmI
    by_cases hj2 : 64 ≤ j
    · have := hT (j - 64) (by omega)
      rw [if_pos ⟨rfl, by omega, by omega⟩, k2 _ _ (by omega), g2 _ _ (by omega), if_neg (by omega)]
      refine ⟨this.1, this.2.1, ?_⟩
      rw [this.2.2, Int.emod_emod]
    · rw [if_neg (by omega), k1 j (by omega), if_pos (by omega)]
      have := bx_lt (kpad n K j) 54
      exact ⟨this.1, this.2, rfl⟩
  have v2 : ∀ x k, x ≠ s + 5 → hI g5 x k = hI g3 x k := fun x k hx => by rw [← hg5, hI_fI, if_neg (fun z => hx z.1)]
  clear hg5
  have e6 : w32 (64 + hI g5 s 11) = ((64 + m : Nat) : Int) := by rw [v2 _ _ (by omega), hm3]; unfold w32; omega
  rw [e6]
  clear e6
  refine wp_b1o (m_digestWork (n := 64 + m) (by omega) G5 M5 (fun j hj => ⟨(v1 j hj).1, (v1 j hj).2.1⟩)) (fun g7 e7 q7 => ?_)
  have F : Fe (wI_mSeals_digestWork s ((64 + m : Nat) : Int) g5) (wJ_mSeals_digestWork s ((64 + m : Nat) : Int) g5) g5 g7 := fe_mSeals_digestWork s ((64 + m : Nat) : Int) g5 _ e7
  have f1 : ∀ x k, x ≠ s + 5 → x ≠ s + 9 → hI g7 x k = hI g5 x k := fun x k h1 h2 => F.I (by simp only [wI_mSeals_digestWork, G5.r4, G5.r8]; omega)
  have f2 : ∀ x k, x < s + 6 → hJ g7 x k = hJ g5 x k := fun x k h1 => F.J (by simp only [wJ_mSeals_digestWork, G5.r5, G5.r6, G5.r7]; omega)
  refine m_mac2 (G5.fe F) (M5.of (fun k => f2 _ k (by omega)) (fun k => f2 _ k (by omega))) (fun j hj => ?_) (fun k hk => ?_)
  · rw [f1 _ _ (by omega) (by omega), v2 _ _ (by omega), k2 _ _ (by omega)]; exact g1 j hj
  · rw [q7 k hk]
    exact SHA_congr (fun j hj => (v1 j hj).2.2) hk
