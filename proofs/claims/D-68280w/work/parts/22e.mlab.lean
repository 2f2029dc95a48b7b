/-! the model's Seals: the end of a label -/
theorem m_lab198 {s to place wanted : Nat} {D O : Nat → Int} {g : Hp} (L : LSeals g s) (hw : wanted ≤ 32) (ht : to ≠ 0) (hd : to < s ∨ s + 23 < to) (hz : place + 32 < 2147483648) (hln : place + wanted ≤ ln g to) (hO : ∀ j, (j < place ∨ place + wanted ≤ j) → hI g to j = O j) (hD : ∀ k, k < 32 → hI g (s + 9) k = D k) : wp (f_mSeals_label_b198_lp FU s (wanted : Int) to (place : Int) 0 g) (fun h' => (∀ k, k < wanted → hI h' to (place + k) = D k) ∧ ∀ j, (j < place ∨ place + wanted ≤ j) → hI h' to j = O j) := by
  have l0 := L.1
  have e := lq_mSeals_label_b198 (v0 := s) (v7 := to) (v8 := (place : Int)) (N := wanted) FU 0 g (by omega) (by unfold FU; omega) (by omega) (by rw [L.r8]; omega) (by rw [L.r8, L.l9]; intro j _ hj; exact ⟨by omega, by omega⟩) (by rw [L.r14]; omega) (by rw [L.r14, L.l13]; intro j _ hj; exact ⟨by omega, by omega⟩) (by rw [L.r8, L.r14]; omega)
  have e' : f_mSeals_label_b198_lp FU s (wanted : Int) to (place : Int) 0 g = _ := e
  rw [e', L.r8, L.r14]
  clear e e'
  unfold lx_mSeals_label_b198
  generalize hg : fI g (s + 13) 0 0 wanted (fun j => hI g (s + 9) j) = g2
  have G : LSeals g2 s := by rw [← hg]; exact L
  have g1 : ∀ j, j < wanted → hI g2 (s + 13) j = D j := fun j hj => by
    rw [← hg, hI_fI, if_pos ⟨rfl, by omega, by omega⟩, Nat.sub_zero]; exact hD j (by omega)
  have hln2 : place + wanted ≤ ln g2 to := by rw [← hg]; exact hln
  have hO2 : ∀ j, (j < place ∨ place + wanted ≤ j) → hI g2 to j = O j := fun j hj => by rw [← hg, hI_fI, if_neg (by omega)]; exact hO j hj
  clear hg
  have ixa : ∀ j : Nat, j < 32 → w32 ((place : Int) + (j : Int)) = ((place + j : Nat) : Int) := fun j hj => by unfold w32; omega
  have e2 := lq_mSeals_label_b228 (v0 := s) (v7 := to) (N := wanted) (o := place) FU 0 g2 (by omega) (by unfold FU; omega) (by omega) (by rw [G.r14]; omega) (by rw [G.r14, G.l13]; intro j _ hj; exact ⟨by omega, by omega⟩) ht (by intro j _ hj; rw [ixa j (by omega)]; exact ⟨by omega, by omega⟩) (by rw [G.r14]; omega)
  have e2' : f_mSeals_label_b228_lp FU s (wanted : Int) to (place : Int) 0 g2 = _ := e2
  rw [e2', G.r14]
  clear e2 e2' ixa
  unfold lx_mSeals_label_b228
  rw [wp_some]
  refine ⟨fun k hk => ?_, fun j hj => ?_⟩
  · rw [hI_fI, if_pos ⟨rfl, by omega, by omega⟩, show place + k - place = k by omega]
    exact g1 k hk
  · rw [hI_fI, if_neg (by omega)]
    exact hO2 j hj
theorem m_lab150 {s key at_ to place wanted N : Nat} {K B O : Nat → Int} {g : Hp} (L : LSeals g s) (M : MCs g s) (Q : InfS g s N B) (hN : N ≤ 400) (hB : ∀ j, j < N → 0 ≤ B j ∧ B j < 256) (hw : wanted ≤ 32) (ht : to ≠ 0) (hd : to < s ∨ s + 23 < to) (hz : place + 32 < 2147483648) (hln : place + wanted ≤ ln g to) (hO : ∀ j, (j < place ∨ place + wanted ≤ j) → hI g to j = O j)
    (hkey : key ≠ 0) (hkd : key < s ∨ s + 23 < key) (hkl : at_ + 32 ≤ ln g key) (hkz : at_ + 64 < 2147483648) (hK : ∀ j, j < 32 → 0 ≤ hI g key (at_ + j) ∧ hI g key (at_ + j) < 256 ∧ hI g key (at_ + j) = K j % 256) : wp (f_mSeals_label_b150_lp FU s key (at_ : Int) (wanted : Int) to (place : Int) 0 g) (fun h' => (∀ k, k < wanted → hI h' to (place + k) = HMAC 32 K N B k) ∧ ∀ j, (j < place ∨ place + wanted ≤ j) → hI h' to j = O j) := by
  have l0 := L.1
  obtain ⟨q1, q2⟩ := Q
  have e := lq_mSeals_label_b150 (v0 := s) (v1 := key) (v2 := (at_ : Int)) (v6 := (wanted : Int)) (v7 := to) (v8 := (place : Int)) (N := N) FU 0 g (by omega) (by unfold FU; omega) (by omega) q1 (by rw [L.r10]; omega) (by rw [L.r12]; omega) (by rw [L.r12, L.l12]; intro j _ hj; exact ⟨by omega, by omega⟩) (by rw [L.r10]; omega) (by rw [L.r10, L.l11]; intro j _ hj; exact ⟨by omega, by omega⟩) (by rw [L.r12, L.r10]; omega)
  have e' : f_mSeals_label_b150_lp FU s key (at_ : Int) (wanted : Int) to (place : Int) 0 g = _ := e
  rw [e', L.r12, L.r10]
  clear e e'
  unfold lx_mSeals_label_b150
  rw [wp_lt1]
  generalize hg : sI (fI g (s + 11) 0 0 N fun j => hI g (s + 12) j) s 11 (hI (fI g (s + 11) 0 0 N fun j => hI g (s + 12) j) s 13) = g2
  have G : LSeals g2 s := by rw [← hg]; exact L
  have M2 : MCs g2 s := by rw [← hg]; exact M
  have z1 : hI g2 s 11 = (N : Int) := by rw [← hg, hI_sI, if_pos ⟨rfl, rfl⟩, hI_fI, if_neg (by omega)]; exact q1
  have z2 : ∀ j, j < N → hI g2 (s + 11) j = B j := fun j hj => by rw [← hg, hI_sI, if_neg (by omega), hI_fI, if_pos ⟨rfl, by omega, by omega⟩, Nat.sub_zero]; exact q2 j hj
  have z3 : ∀ x k, x ≠ s → x ≠ s + 11 → hI g2 x k = hI g x k := fun x k h1 h2 => by rw [← hg, hI_sI, if_neg (fun z => h1 z.1), hI_fI, if_neg (fun z => h2 z.1)]
  have z4 : ∀ x, ln g2 x = ln g x := fun x => by rw [← hg]; rfl
  clear hg
  have w := m_macText (s := s) (r := key) (at_ := at_) (n := 32) (m := N) (K := K) (T := B) G M2 hkey hkd (by omega) (by rw [z4]; exact hkl) hkz (fun j hj => by rw [z3 _ _ (by omega) (by omega)]; exact hK j hj) z1 (by omega) (fun j hj => by
    rw [z2 j hj]
    have := hB j hj
    exact ⟨this.1, this.2, (Int.emod_eq_of_lt this.1 this.2).symm⟩)
  refine wp_b1o w (fun g3 e3 q3 => ?_)
  have F : Fe (wI_mSeals_macText s key (at_ : Int) 32 g2) (wJ_mSeals_macText s key (at_ : Int) 32 g2) g2 g3 := fe_mSeals_macText s key (at_ : Int) 32 g2 _ e3
  exact m_lab198 (G.fe F) hw ht hd hz (by rw [F.l, z4]; exact hln) (fun j hj => by rw [F.I (by simp only [wI_mSeals_macText, G.r4, G.r8, G.r9]; omega), z3 _ _ (by omega) (by omega)]; exact hO j hj) q3
