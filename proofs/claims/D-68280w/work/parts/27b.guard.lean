/-! guards: the model's nonces -/
theorem m_nonce {s gd o : Nat} {K V : Nat → Int} {n : Int} {h : Hp} (L : LSeals h s) (hg : gd ≠ 0) (hd : gd < s ∨ s + 23 < gd) (hl : o + 76 ≤ ln h gd) (hz : o + 100 < 1000000000) (hK : ∀ j, j < 32 → (0 ≤ hI h gd (o + j) ∧ hI h gd (o + j) < 256) ∧ hI h gd (o + j) % 256 = K j % 256) (hV : ∀ j, j < 12 → (0 ≤ hI h gd (o + 64 + j) ∧ hI h gd (o + 64 + j) < 256) ∧ hI h gd (o + 64 + j) % 256 = V j % 256) (hn : c64 n) :
    wp (f_mSeals_nonceOf s gd (o : Int) n h) (fun h' => (∀ j, j < 32 → (0 ≤ hI h' (s + 14) j ∧ hI h' (s + 14) j < 256) ∧ hI h' (s + 14) j % 256 = K j % 256) ∧ ∀ j, j < 12 → (0 ≤ hI h' (s + 15) j ∧ hI h' (s + 15) j < 256) ∧ hI h' (s + 15) j % 256 = NON V n j % 256) := by
  have l0 := L.1
  unfold f_mSeals_nonceOf
  have i1 : ∀ j : Nat, j < 32 → w32 ((o : Int) + (j : Int)) = ((o + j : Nat) : Int) := fun j hj => w_ck (by omega)
  have e := lq_mSeals_nonceOf_b3 (v0 := s) (v1 := gd) (v2 := (o : Int)) (v3 := n) FU 0 h (by omega) (by unfold FU; omega) (by omega) hg (by intro j _ hj; rw [i1 j hj]; exact ix16 (by omega)) (by rw [L.r15]; omega) (by rw [L.r15, L.l14]; intro j _ hj; exact ix16 hj) (by rw [L.r15]; omega)
  have e' : f_mSeals_nonceOf_b3_lp FU s gd (o : Int) n 0 h = _ := e
  rw [e', L.r15]
  clear e e'
  unfold lx_mSeals_nonceOf_b3
  have k1 : ∀ j, j < 32 → hI (fI h (s + 14) 0 0 32 (fun j => hI h gd ((w32 ((o : Int) + (j : Int))).toNat))) (s + 14) j = hI h gd (o + j) := fun j hj => by
    rw [hI_fI, if_pos ⟨rfl, by omega, by omega⟩, Nat.sub_zero, i1 j hj, Int.toNat_natCast]
  have E1 : ∀ x k, x ≠ s + 14 → hI (fI h (s + 14) 0 0 32 (fun j => hI h gd ((w32 ((o : Int) + (j : Int))).toNat))) x k = hI h x k := fun x k hx => by rw [hI_fI, if_neg (fun z => hx z.1)]
  have L1 : LSeals (fI h (s + 14) 0 0 32 (fun j => hI h gd ((w32 ((o : Int) + (j : Int))).toNat))) s := L.of rfI lfI
  have hl1 : ln (fI h (s + 14) 0 0 32 (fun j => hI h gd ((w32 ((o : Int) + (j : Int))).toNat))) gd = ln h gd := rfl
  generalize fI h (s + 14) 0 0 32 (fun j => hI h gd ((w32 ((o : Int) + (j : Int))).toNat)) = h1 at *
  clear i1
  have i2 : ∀ j : Nat, j < 12 → w32 (w32 ((o : Int) + 64) + (j : Int)) = ((o + 64 + j : Nat) : Int) := fun j hj => by
    rw [show w32 ((o : Int) + 64) = ((o + 64 : Nat) : Int) from w_ck (k := 64) (by omega)]; exact w_ck (by omega)
  have e := lq_mSeals_nonceOf_b32 (v0 := s) (v1 := gd) (v2 := (o : Int)) (v3 := n) FU 0 h1 (by omega) (by unfold FU; omega) (by omega) hg (by intro j _ hj; rw [i2 j hj, hl1]; exact ix16 (by omega)) (by rw [L1.r16]; intro j _ _ _; omega) (by rw [L1.r16, L1.l15]; intro j _ hj _; exact ix16 hj) (by rw [L1.r16]; intro j _ _ _; omega) (by rw [L1.r16, L1.l15]; intro j _ hj _; exact ix16 hj) (by rw [L1.r16]; omega)
  have e' : f_mSeals_nonceOf_b32_lp FU s gd (o : Int) n 0 h1 = _ := e
  rw [e', L1.r16]
  clear e e'
  unfold lx_mSeals_nonceOf_b32
  rw [wp_some]
  refine ⟨fun j hj => by rw [hI_fI, if_neg (by omega), k1 j hj]; exact hK j hj, fun j hj => ?_⟩
  rw [hI_fI, if_pos ⟨rfl, by omega, by omega⟩, Nat.sub_zero, i2 j hj, Int.toNat_natCast, E1 _ _ (by omega)]
  obtain ⟨v1, v2⟩ := hV j hj
  have nl := NON_lt V n j
  have fin : ∀ z : Int, z = NON V n j → (0 ≤ z ∧ z < 256) ∧ z % 256 = NON V n j % 256 := fun z hz => by rw [hz]; exact ⟨nl, rfl⟩
  refine fin _ ?_
  unfold NON
  generalize hI h gd (o + 64 + j) = x at *
  by_cases h4 : 4 ≤ j
  · have e1 : w32 (11 - (j : Int)) = ((11 - j : Nat) : Int) := by unfold w32; omega
    have e2 : w32 (8 * ((11 - j : Nat) : Int)) = ((8 * (11 - j) : Nat) : Int) := w_4k (c := 8) (by omega)
    rw [if_pos (by omega), if_neg (by omega)]
    simp only [e1, e2]
    clear e1 e2
    rw [lAnd255, lShr_eq hn (by omega)]
    generalize n / 2 ^ (8 * (11 - j)) = m
    have e3 : w32 (m % 256) = m % 256 := w32_id ⟨by omega, by omega⟩
    rw [e3, iXor_lt v1 (by omega)]
    exact bx_cong v2 (Int.emod_emod _ _)
  · rw [if_neg (by omega), if_pos (by omega), iXor_lt v1 (by decide)]
    exact bx_cong v2 rfl
