/-! guards: the model's shield -/
theorem m_sh130 {s row from_ pl n : Nat} {M : Nat → Int} {x7 : Int} {h0 : Hp} (L0 : LSeals h0 s) (hr : row ≠ 0) (hd : row < s ∨ s + 23 < row) (hn : n ≤ 4) (hpl : 0 < pl) (hz : from_ + pl + 4 < 900000000) (hl : from_ + pl + 4 ≤ ln h0 row) (hM : ∀ j, j < 64 → hI h0 (s + 18) j = M j) (hMb : ∀ j, 0 ≤ M j ∧ M j < 256) (hb : ∀ j, j < 4 → 0 ≤ hI h0 row (from_ + pl + j) ∧ hI h0 row (from_ + pl + j) < 256) (f : Nat) : ∀ (k : Nat) (h : Hp), k ≤ n → n - k < f → hR h = hR h0 → ln h = ln h0 → (∀ x j, x ≠ row → hI h x j = hI h0 x j) → (∀ j, j < k → hI h row (from_ + pl + j) = bx (hI h0 row (from_ + pl + j)) (M (1 + j))) → (∀ j, j < from_ + pl ∨ from_ + pl + k ≤ j → hI h row j = hI h0 row j) → wp (f_mSeals_shield_b130_lp f s row (from_ : Int) ((from_ + pl : Nat) : Int) x7 (n : Int) (k : Int) h) (fun o => o.1 = (n : Int) ∧ hI o.2 row from_ = x7 ∧ (∀ j, j < n → hI o.2 row (from_ + pl + j) = bx (hI h0 row (from_ + pl + j)) (M (1 + j))) ∧ ∀ j, j ≠ from_ → (j < from_ + pl ∨ from_ + pl + n ≤ j) → hI o.2 row j = hI h0 row j) := by
  induction f with
  | zero => intro k h _ hf; omega
  | succ f ih =>
    intro k h hk hf er el E D U
    have l0 := L0.1
    show wp (f_mSeals_shield_b130 (f_mSeals_shield_b130_lp f) s row (from_ : Int) ((from_ + pl : Nat) : Int) x7 (n : Int) (k : Int) h) _
    unfold f_mSeals_shield_b130
    by_cases hx : (n : Int) ≤ k
    · have : k = n := by omega
      subst this
      rw [if_pos hx, wp_cn]
      refine ⟨hr, ?_⟩
      rw [el, wp_ck]
      refine ⟨ix16 (by omega), ?_⟩
      rw [wp_lt1, wp_some, Int.toNat_natCast]
      refine ⟨rfl, by rw [hI_sI, if_pos ⟨rfl, rfl⟩], fun j hj => ?_, fun j h1 h2 => ?_⟩
      · rw [hI_sI, if_neg (by omega)]; exact D j hj
      · rw [hI_sI, if_neg (by omega)]; exact U j h2
    · have e2 : w32 (((from_ + pl : Nat) : Int) + (k : Int)) = ((from_ + pl + k : Nat) : Int) := w_ck (by omega)
      have e3 : w32 (1 + (k : Int)) = ((1 + k : Nat) : Int) := w_ck (c := 1) (by clear e2; omega)
      simp only [e2, e3, w_k1 (show k < 1000000000 by clear e2 e3; omega), Int.toNat_natCast]
      clear e2 e3
      rw [if_neg hx, wp_cn]
      refine ⟨hr, ?_⟩
      rw [el, wp_ck]
      refine ⟨ix16 (by omega), ?_⟩
      rw [er, L0.r19, wp_cn]
      refine ⟨by omega, ?_⟩
      rw [wp_ck, L0.l18]
      refine ⟨ix16 (by omega), ?_⟩
      rw [wp_ck]
      refine ⟨ix16 (by omega), ?_⟩
      rw [wp_lt1]
      have b1 := hb k (by omega)
      refine ih (k + 1) _ (by omega) (by omega) (by rw [rsI]; exact er) (by rw [lsI]; exact el) (fun x j hx => by rw [hI_sI, if_neg (fun z => hx z.1)]; exact E x j hx) (fun j hj => ?_) (fun j hj => ?_)
      · rw [hI_sI]
        by_cases e : j = k
        · subst e
          rw [if_pos ⟨rfl, rfl⟩, U _ (by omega), E _ _ (by omega), hM _ (by omega), iXor_lt b1 (hMb _)]
        · rw [if_neg (by omega)]; exact D j (by omega)
      · rw [hI_sI, if_neg (by omega)]; exact U j (by omega)
theorem m_shield {s gd o row from_ pl : Nat} {H R : Nat → Int} {does : Int} {h : Hp} (L : LSeals h s) (hg : gd ≠ 0) (hgd : gd < s ∨ s + 23 < gd) (hgl : o + 64 ≤ ln h gd) (hgz : o + 100 < 1000000000) (hH : ∀ j, j < 32 → (0 ≤ hI h gd (o + 32 + j) ∧ hI h gd (o + 32 + j) < 256) ∧ hI h gd (o + 32 + j) % 256 = H j % 256) (hr : row ≠ 0) (hd : row < s ∨ s + 23 < row) (hpl : 0 < pl) (hz : from_ + pl + 20 < 800000000) (hl : from_ + pl + 20 ≤ ln h row) (hR : ∀ j, j < from_ + pl + 20 → (0 ≤ hI h row j ∧ hI h row j < 256) ∧ hI h row j = R j % 256) :
    wp (f_mSeals_shield s gd (o : Int) row (from_ : Int) ((from_ + pl : Nat) : Int) does h) (fun p => ∃ n : Nat, (n : Int) = (if does ≠ 0 then R from_ % 256 else SHW H R from_ (from_ + pl)) % 4 + 1 ∧ p.1 = (n : Int) ∧ hI p.2 row from_ = SHW H R from_ (from_ + pl) ∧ (∀ j, j < n → hI p.2 row (from_ + pl + j) = bx (R (from_ + pl + j)) (MSK H R (from_ + pl) (1 + j))) ∧ ∀ j, j ≠ from_ → (j < from_ + pl ∨ from_ + pl + n ≤ j) → hI p.2 row j = hI h row j) := by
  have l0 := L.1
  unfold f_mSeals_shield
  have i1 : ∀ j : Nat, j < 32 → w32 (w32 ((o : Int) + 32) + (j : Int)) = ((o + 32 + j : Nat) : Int) := fun j hj => by
    rw [show w32 ((o : Int) + 32) = ((o + 32 : Nat) : Int) from w_ck (k := 32) (by omega)]; exact w_ck (by omega)
  have e := lq_mSeals_shield_b3 (v0 := s) (v1 := gd) (v2 := (o : Int)) (v3 := row) (v4 := (from_ : Int)) (v5 := ((from_ + pl : Nat) : Int)) (v6 := does) FU 0 h (by omega) (by unfold FU; omega) (by omega) hg (by intro j _ hj; rw [i1 j hj]; exact ix16 (by omega)) (by rw [L.r15]; omega) (by rw [L.r15, L.l14]; intro j _ hj; exact ix16 hj) (by rw [L.r15]; omega)
  have e' : f_mSeals_shield_b3_lp FU s gd (o : Int) row (from_ : Int) ((from_ + pl : Nat) : Int) does 0 h = _ := e
  rw [e', L.r15]
  clear e e'
  unfold lx_mSeals_shield_b3
  have k1 : ∀ j, j < 32 → hI (fI h (s + 14) 0 0 32 (fun j => hI h gd ((w32 (w32 ((o : Int) + 32) + (j : Int))).toNat))) (s + 14) j = hI h gd (o + 32 + j) := fun j hj => by
    rw [hI_fI, if_pos ⟨rfl, by omega, by omega⟩, Nat.sub_zero, i1 j hj, Int.toNat_natCast]
  have E1 : ∀ x k, x ≠ s + 14 → hI (fI h (s + 14) 0 0 32 (fun j => hI h gd ((w32 (w32 ((o : Int) + 32) + (j : Int))).toNat))) x k = hI h x k := fun x k hx => by rw [hI_fI, if_neg (fun z => hx z.1)]
  have L1 : LSeals (fI h (s + 14) 0 0 32 (fun j => hI h gd ((w32 (w32 ((o : Int) + 32) + (j : Int))).toNat))) s := L.of rfI lfI
  have hl1 : ln (fI h (s + 14) 0 0 32 (fun j => hI h gd ((w32 (w32 ((o : Int) + 32) + (j : Int))).toNat))) row = ln h row := rfl
  generalize fI h (s + 14) 0 0 32 (fun j => hI h gd ((w32 (w32 ((o : Int) + 32) + (j : Int))).toNat)) = h1 at *
  clear i1
  have i2 : ∀ j : Nat, j < 12 → w32 (w32 (((from_ + pl : Nat) : Int) + 8) + (j : Int)) = ((from_ + pl + 8 + j : Nat) : Int) := fun j hj => by
    rw [show w32 (((from_ + pl : Nat) : Int) + 8) = ((from_ + pl + 8 : Nat) : Int) from w_ck (k := 8) (by omega)]; exact w_ck (by omega)
  have e := lq_mSeals_shield_b35 (v0 := s) (v3 := row) (v4 := (from_ : Int)) (v5 := ((from_ + pl : Nat) : Int)) (v6 := does) FU 0 h1 (by omega) (by unfold FU; omega) (by omega) hr (by intro j _ hj; rw [i2 j hj, hl1]; exact ix16 (by omega)) (by rw [L1.r16]; omega) (by rw [L1.r16, L1.l15]; intro j _ hj; exact ix16 hj) (by rw [L1.r16]; omega)
  have e' : f_mSeals_shield_b35_lp FU s row (from_ : Int) ((from_ + pl : Nat) : Int) does 0 h1 = _ := e
  rw [e', L1.r16]
  clear e e'
  unfold lx_mSeals_shield_b35
  have k2 : ∀ j, j < 12 → hI (fI h1 (s + 15) 0 0 12 (fun j => hI h1 row ((w32 (w32 (((from_ + pl : Nat) : Int) + 8) + (j : Int))).toNat))) (s + 15) j = hI h row (from_ + pl + 8 + j) := fun j hj => by
    rw [hI_fI, if_pos ⟨rfl, by omega, by omega⟩, Nat.sub_zero, i2 j hj, Int.toNat_natCast, E1 _ _ (by omega)]
  have E2 : ∀ x k, x ≠ s + 15 → hI (fI h1 (s + 15) 0 0 12 (fun j => hI h1 row ((w32 (w32 (((from_ + pl : Nat) : Int) + 8) + (j : Int))).toNat))) x k = hI h1 x k := fun x k hx => by rw [hI_fI, if_neg (fun z => hx z.1)]
  have L2 : LSeals (fI h1 (s + 15) 0 0 12 (fun j => hI h1 row ((w32 (w32 (((from_ + pl : Nat) : Int) + 8) + (j : Int))).toNat))) s := L1.of rfI lfI
  have hl2 : ln (fI h1 (s + 15) 0 0 12 (fun j => hI h1 row ((w32 (w32 (((from_ + pl : Nat) : Int) + 8) + (j : Int))).toNat))) row = ln h row := by rw [lfI]; exact hl1
  generalize fI h1 (s + 15) 0 0 12 (fun j => hI h1 row ((w32 (w32 (((from_ + pl : Nat) : Int) + 8) + (j : Int))).toNat)) = h2 at *
  clear i2
  have rw2 : ∀ j, hI h2 row j = hI h row j := fun j => by rw [E2 _ _ (by omega), E1 _ _ (by omega)]
  obtain ⟨v, ev, bvv, iv⟩ := m_wordOf (r := row) (i := from_ + pl + 4) (h := h2) hr (by omega) (by omega) (fun j hj => by rw [rw2]; exact (hR _ (by omega)).1)
  have w1 : w32 (((from_ + pl : Nat) : Int) + 4) = ((from_ + pl + 4 : Nat) : Int) := w_ck (k := 4) (by omega)
  simp only [w1]
  clear w1
  rw [ev, wp_b2, wp_some]
  have hwl : wl (hI h2 row) (from_ + pl + 4) = wl R (from_ + pl + 4) := by
    unfold wl
    simp only [rw2, (hR (from_ + pl + 4) (by omega)).2, (hR (from_ + pl + 4 + 1) (by omega)).2, (hR (from_ + pl + 4 + 2) (by omega)).2, (hR (from_ + pl + 4 + 3) (by omega)).2, Int.emod_emod]
  refine wp_b1o (m_blockOf (K := H) (N := fun j => R (from_ + pl + 8 + j)) (c := wl R (from_ + pl + 4)) L2 (bvv.trans hwl) (fun j hj => by rw [E2 _ _ (by omega), k1 j hj]; exact hH j hj) (fun j hj => by rw [k2 j hj]; exact ⟨(hR _ (by omega)).1, by rw [(hR _ (by omega)).2, Int.emod_emod]⟩)) (fun h3 e3 q3 => ?_)
  have F3 := BkF.of L2 e3
  have L3 := L2.of F3.1.1 F3.1.2
  have r3 : ∀ j, hI h3 row j = hI h row j := fun j => by rw [F3.2 _ _ (by omega), rw2]
  have hl3 : ln h3 row = ln h row := by rw [F3.1.2, hl2]
  rw [wp_cn]
  refine ⟨hr, ?_⟩
  rw [hl3, wp_ck]
  refine ⟨ix16 (by omega), ?_⟩
  rw [L3.r19, wp_cn]
  refine ⟨by omega, ?_⟩
  rw [wp_ck, L3.l18]
  refine ⟨by decide, ?_⟩
  rw [wp_ck]
  refine ⟨ix16 (by omega), ?_⟩
  have q0 : ∀ j, j < 64 → hI h3 (s + 18) j = MSK H R (from_ + pl) j := q3
  have mb : ∀ j, 0 ≤ MSK H R (from_ + pl) j ∧ MSK H R (from_ + pl) j < 256 := fun j => CHW_lt _ _
  have t0 : Int.toNat 0 = 0 := rfl
  rw [Int.toNat_natCast, t0, q0 0 (by omega), r3, (hR from_ (by omega)).2]
  have fin : ∀ x7 : Int, ∀ n : Nat, n ≤ 4 → x7 = SHW H R from_ (from_ + pl) → (n : Int) = (if does ≠ 0 then R from_ % 256 else SHW H R from_ (from_ + pl)) % 4 + 1 → wp (f_mSeals_shield_b130_lp FU s row (from_ : Int) ((from_ + pl : Nat) : Int) x7 (n : Int) 0 h3) (fun p => ∃ n : Nat, (n : Int) = (if does ≠ 0 then R from_ % 256 else SHW H R from_ (from_ + pl)) % 4 + 1 ∧ p.1 = (n : Int) ∧ hI p.2 row from_ = SHW H R from_ (from_ + pl) ∧ (∀ j, j < n → hI p.2 row (from_ + pl + j) = bx (R (from_ + pl + j)) (MSK H R (from_ + pl) (1 + j))) ∧ ∀ j, j ≠ from_ → (j < from_ + pl ∨ from_ + pl + n ≤ j) → hI p.2 row j = hI h row j) := fun x7 n hn e7 en => by
    refine wp_of (m_sh130 (M := MSK H R (from_ + pl)) (x7 := x7) L3 hr hd hn hpl (by omega) (by rw [hl3]; omega) q0 mb (fun j hj => by rw [r3]; exact (hR _ (by omega)).1) FU 0 h3 (by omega) (by unfold FU; omega) rfl rfl (fun _ _ _ => rfl) (fun j hj => absurd hj (Nat.not_lt_zero j)) (fun _ _ => rfl)) (fun o _ q => ?_)
    refine ⟨n, en, q.1, by rw [q.2.1, e7], fun j hj => ?_, fun j a b => by rw [q.2.2.2 j a b, r3]⟩
    rw [q.2.2.1 j hj, r3, (hR _ (by omega)).2, bx_mod]
  have xb : 0 ≤ R from_ % 256 ∧ R from_ % 256 < 256 := by omega
  have shw : ∀ m : Int, m = (if R from_ % 256 ≤ 127 then 32 else 16) → iXor (R from_ % 256) (MSK H R (from_ + pl) 0 % m) = SHW H R from_ (from_ + pl) := fun m hm => by
    have mb0 := mb 0
    unfold SHW
    rw [iXor_lt xb (by subst hm; generalize MSK H R (from_ + pl) 0 = y at *; split <;> omega), bx_mod, hm]
  have a31 : iAnd (MSK H R (from_ + pl) 0) 31 = MSK H R (from_ + pl) 0 % 32 := iAnd_mask (n := 5) (by decide) rfl
  have a15 : iAnd (MSK H R (from_ + pl) 0) 15 = MSK H R (from_ + pl) 0 % 16 := iAnd_mask (n := 4) (by decide) rfl
  have a3 : ∀ z : Int, 0 ≤ z ∧ z < 256 → w32 (iAnd z 3 + 1) = ((z % 4 + 1).toNat : Int) ∧ (z % 4 + 1).toNat ≤ 4 ∧ ((z % 4 + 1).toNat : Int) = z % 4 + 1 := fun z hz => by
    rw [show iAnd z 3 = z % 4 from iAnd_mask (n := 2) (by decide) rfl]
    refine ⟨?_, by omega, by omega⟩
    unfold w32; omega
  have sb := SHW_lt H R from_ (from_ + pl)
  have mid : ∀ sv : Int, iXor (R from_ % 256) (iAnd (MSK H R (from_ + pl) 0) sv) = SHW H R from_ (from_ + pl) → wp (f_mSeals_shield_b103 s row (from_ : Int) ((from_ + pl : Nat) : Int) does (R from_ % 256) (MSK H R (from_ + pl) 0) sv h3) (fun p => ∃ n : Nat, (n : Int) = (if does ≠ 0 then R from_ % 256 else SHW H R from_ (from_ + pl)) % 4 + 1 ∧ p.1 = (n : Int) ∧ hI p.2 row from_ = SHW H R from_ (from_ + pl) ∧ (∀ j, j < n → hI p.2 row (from_ + pl + j) = bx (R (from_ + pl + j)) (MSK H R (from_ + pl) (1 + j))) ∧ ∀ j, j ≠ from_ → (j < from_ + pl ∨ from_ + pl + n ≤ j) → hI p.2 row j = hI h row j) := fun sv hsv => by
    unfold f_mSeals_shield_b103
    rw [wp_lt1, hsv]
    by_cases d0 : does = 0
    · rw [if_pos d0]
      unfold f_mSeals_shield_b121
      obtain ⟨u1, u2, u3⟩ := a3 _ sb
      rw [wp_lt1, u1]
      exact fin _ _ u2 rfl (by rw [u3, if_neg (fun z => z d0)])
    · rw [if_neg d0, wp_cn]
      refine ⟨hr, ?_⟩
      rw [hl3, wp_ck]
      refine ⟨ix16 (by omega), ?_⟩
      unfold f_mSeals_shield_b121
      rw [Int.toNat_natCast, r3, (hR from_ (by omega)).2]
      obtain ⟨u1, u2, u3⟩ := a3 _ xb
      rw [wp_lt1, u1]
      exact fin _ _ u2 rfl (by rw [u3, if_pos d0])
  by_cases g : R from_ % 256 ≤ 127
  · rw [if_pos g]; exact mid 31 (by rw [a31]; exact shw 32 (by rw [if_pos g]))
  · rw [if_neg g]; exact mid 15 (by rw [a15]; exact shw 16 (by rw [if_neg g]))
