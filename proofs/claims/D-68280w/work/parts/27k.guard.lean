/-! guards: the class's shield -/
theorem c_shield {g b row from_ pl : Nat} {H R : Nat → Int} {does : Int} {h : Hp} (L : LGu h g) (LB : LBn h b) (hd : g + 4 < b ∨ b + 28 < g) (hH : ∀ j, j < 32 → hI h (g + 4) j % 256 = H j % 256) (hr : row ≠ 0) (hrd : row < b ∨ b + 28 < row) (hpl : 0 < pl) (hz : from_ + pl + 20 < 800000000) (hl : from_ + pl + 20 ≤ ln h row) (hR : ∀ j, j < from_ + pl + 20 → hI h row j % 256 = R j % 256) (hb : -128 ≤ hI h row from_ ∧ hI h row from_ < 128) :
    wp (f_cGuard_shield g b row (from_ : Int) (pl : Int) does h) (fun o => ∃ n : Nat, (n : Int) = (if does ≠ 0 then R from_ % 256 else SHW H R from_ (from_ + pl)) % 4 + 1 ∧ o.1 = (n : Int) ∧ hI o.2 row from_ = i8 (SHW H R from_ (from_ + pl)) ∧ (∀ j, j < n → hI o.2 row (from_ + pl + j) = i8 (bx (R (from_ + pl + j)) (MSK H R (from_ + pl) (1 + j)))) ∧ ∀ j, j ≠ from_ → (j < from_ + pl ∨ from_ + pl + n ≤ j) → hI o.2 row j = hI h row j) := by
  have l0 := L.1
  have b0 := LB.1
  unfold f_cGuard_shield
  have e1 : w32 ((from_ : Int) + (pl : Int)) = ((from_ + pl : Nat) : Int) := w_ck (by omega)
  have e2 : w32 (((from_ + pl : Nat) : Int) + 4) = ((from_ + pl + 4 : Nat) : Int) := by clear e1; exact w_ck (k := 4) (by omega)
  have e3 : w32 (((from_ + pl + 4 : Nat) : Int) + 4) = ((from_ + pl + 8 : Nat) : Int) := by clear e1 e2; exact w_ck (c := from_ + pl + 4) (k := 4) (by omega)
  rw [wp_lt1]
  simp only [e1, e2, e3]
  clear e1 e2 e3
  rw [wp_cn]
  refine ⟨by omega, ?_⟩
  obtain ⟨v, ev, bvv, cv⟩ := c_word (r := row) (i := from_ + pl + 4) (h := h) hr (by omega) (by omega)
  rw [ev, b2_some, LB.r0_1, wp_cn]
  clear ev
  refine ⟨by omega, ?_⟩
  rw [L.r0_3]
  have cw : bv v = wl R (from_ + pl + 4) := by rw [bvv]; exact wl_congr (fun i hi => hR _ (by omega))
  refine wp_b1o (c_kbegin (a := b + 16) (key := g + 4) (r := row) (at_ := from_ + pl + 8) (K := H) (N := fun j => R (from_ + pl + 8 + j)) LB.s16_LKs (by omega) (by omega) (by rw [L.l4]; omega) hH hr (by omega) (by omega) (by omega) (fun j hj => hR _ (by omega)) cw cv) (fun h1 e1 q1 => ?_)
  have F1 : Fe (wI_cKeystream_begin (b + 16) (g + 4) row ((from_ + pl + 8 : Nat) : Int) v h) (wJ_cKeystream_begin (b + 16) (g + 4) row ((from_ + pl + 8 : Nat) : Int) v h) h h1 := fe_cKeystream_begin (b + 16) (g + 4) row ((from_ + pl + 8 : Nat) : Int) v h _ e1
  have LB1 := LB.of F1.r F1.l
  have R1 : ∀ j, hI h1 row j = hI h row j := fun j => F1.I (by simp only [wI_cKeystream_begin, LB.r16_0]; omega)
  have n1 : ln h1 row = ln h row := by rw [F1.l]
  clear F1 e1
  rw [LB1.r0_1, wp_cn]
  refine ⟨by omega, ?_⟩
  refine wp_b1o (c_next (a := b + 16) LB1.s16_LKs q1) (fun h2 e2 q2 => ?_)
  have F2 := NF (a := b + 16) LB1.s16_LKs e2
  have LB2 := LB1.of F2.1.1 F2.1.2
  have R2 : ∀ j, hI h2 row j = hI h row j := fun j => by rw [F2.2 _ _ (by omega), R1]
  have n2 : ln h2 row = ln h row := by rw [F2.1.2]; exact n1
  have M2 : ∀ j, j < 64 → hI h2 (b + 19) j = i8 (MSK H R (from_ + pl) j) := q2.1
  clear F2 e2 q1 q2 R1 n1
  rw [LB2.r0_1, wp_cn]
  refine ⟨by omega, ?_⟩
  rw [wp_lt1, LB2.r16_2, wp_cn]
  refine ⟨hr, ?_⟩
  rw [wp_ck, n2]
  refine ⟨ix16 (by omega), ?_⟩
  rw [wp_lt1, wp_ck]
  refine ⟨ix16 (by omega), ?_⟩
  rw [wp_cn]
  refine ⟨by omega, ?_⟩
  rw [wp_ck, LB2.l19]
  refine ⟨⟨by decide, by decide⟩, ?_⟩
  rw [wp_ck]
  refine ⟨ix16 (by omega), ?_⟩
  rw [Int.toNat_natCast, show Int.toNat 0 = 0 from rfl, R2, M2 0 (by omega)]
  have rf := hR from_ (by omega)
  generalize hX : hI h row from_ = X at *
  have main : ∀ msk : Int, (msk = 31 ∨ msk = 15) → iAnd (i8 (MSK H R (from_ + pl) 0)) msk = MSK H R (from_ + pl) 0 % (if R from_ % 256 ≤ 127 then 32 else 16) → wp (f_cGuard_shield_b76 g row (from_ : Int) (pl : Int) does (b + 19) (w32 (iAnd X 3 + 1)) row (from_ : Int) X (i8 (MSK H R (from_ + pl) 0)) msk h2) (fun o => ∃ n : Nat, (n : Int) = (if does ≠ 0 then R from_ % 256 else SHW H R from_ (from_ + pl)) % 4 + 1 ∧ o.1 = (n : Int) ∧ hI o.2 row from_ = i8 (SHW H R from_ (from_ + pl)) ∧ (∀ j, j < n → hI o.2 row (from_ + pl + j) = i8 (bx (R (from_ + pl + j)) (MSK H R (from_ + pl) (1 + j)))) ∧ ∀ j, j ≠ from_ → (j < from_ + pl ∨ from_ + pl + n ≤ j) → hI o.2 row j = hI h row j) := by
    intro msk hm hmv
    unfold f_cGuard_shield_b76
    rw [wp_cn]
    refine ⟨hr, ?_⟩
    rw [wp_ck, n2]
    refine ⟨ix16 (by omega), ?_⟩
    rw [wp_lt1, Int.toNat_natCast, hmv]
    have vv : i8 (i8 (iXor X (i8 (MSK H R (from_ + pl) 0 % (if R from_ % 256 ≤ 127 then 32 else 16))))) = i8 (SHW H R from_ (from_ + pl)) := by
      rw [i8_1]
      refine i8_congr ?_
      rw [iXor_256]
      unfold SHW
      rw [bx_cong (x' := R from_) (y' := MSK H R (from_ + pl) 0 % (if R from_ % 256 ≤ 127 then 32 else 16)) rf (i8_m _)]
      have := bx_lt (R from_) (MSK H R (from_ + pl) 0 % (if R from_ % 256 ≤ 127 then 32 else 16))
      omega
    rw [vv]
    clear vv hmv
    have S := SHW_lt H R from_ (from_ + pl)
    have E3 : ∀ x j, x ≠ row → hI (sI h2 row from_ (i8 (SHW H R from_ (from_ + pl)))) x j = hI h2 x j := fun x j hx => by rw [hI_sI, if_neg (fun z => hx z.1)]
    have U3 : ∀ j, j ≠ from_ → hI (sI h2 row from_ (i8 (SHW H R from_ (from_ + pl)))) row j = hI h row j := fun j hj => by rw [hI_sI, if_neg (fun z => hj z.2)]; exact R2 j
    have X3 : hI (sI h2 row from_ (i8 (SHW H R from_ (from_ + pl)))) row from_ = i8 (SHW H R from_ (from_ + pl)) := by rw [hI_sI, if_pos ⟨rfl, rfl⟩]
    have n3 : ln (sI h2 row from_ (i8 (SHW H R from_ (from_ + pl)))) row = ln h row := n2
    have m3 : ln (sI h2 row from_ (i8 (SHW H R from_ (from_ + pl)))) (b + 19) = 64 := LB2.l19
    generalize sI h2 row from_ (i8 (SHW H R from_ (from_ + pl))) = h3 at *
    have fin : ∀ n : Nat, n ≤ 4 → (n : Int) = (if does ≠ 0 then R from_ % 256 else SHW H R from_ (from_ + pl)) % 4 + 1 → wp (f_cGuard_shield_b95 g row (from_ : Int) (pl : Int) (b + 19) (n : Int) h3) (fun o => ∃ n : Nat, (n : Int) = (if does ≠ 0 then R from_ % 256 else SHW H R from_ (from_ + pl)) % 4 + 1 ∧ o.1 = (n : Int) ∧ hI o.2 row from_ = i8 (SHW H R from_ (from_ + pl)) ∧ (∀ j, j < n → hI o.2 row (from_ + pl + j) = i8 (bx (R (from_ + pl + j)) (MSK H R (from_ + pl) (1 + j)))) ∧ ∀ j, j ≠ from_ → (j < from_ + pl ∨ from_ + pl + n ≤ j) → hI o.2 row j = hI h row j) := by
      intro n hn4 hnv
      unfold f_cGuard_shield_b95
      refine wp_of (c_sh98 (M := MSK H R (from_ + pl)) (h0 := h3) hr (by omega) (by omega) hn4 (by omega) (by rw [n3]; omega) m3 (fun j hj => by rw [E3 _ _ (by omega), M2 j hj, i8_m]) FU 0 h3 (by omega) (by unfold FU; omega) rfl (fun _ _ _ => rfl) (fun j hj => absurd hj (Nat.not_lt_zero j)) (fun _ _ => rfl)) (fun o _ q => ⟨n, hnv, q.1, by rw [q.2.2 _ (by omega)]; exact X3, fun j hj => ?_, fun j h1 h2 => by rw [q.2.2 _ h2]; exact U3 j h1⟩)
      rw [q.2.1 j hj, U3 _ (by omega), bx_cong (hR _ (by omega)) rfl]
    have a3 : ∀ z : Int, iAnd z 3 = z % 4 := fun z => iAnd_mask (n := 2) (by decide) rfl
    by_cases hdo : does ≠ 0
    · rw [if_pos hdo, a3]
      have ew : w32 (X % 4 + 1) = (((X % 4 + 1).toNat : Nat) : Int) := by clear X3; unfold w32; omega
      rw [ew]
      refine fin _ (by clear ew X3; omega) ?_
      rw [if_pos hdo]
      clear ew X3
      omega
    · rw [if_neg hdo, wp_cn]
      refine ⟨hr, ?_⟩
      rw [wp_ck, n3]
      refine ⟨ix16 (by omega), ?_⟩
      rw [wp_lt1, X3, a3]
      have ew : w32 (i8 (SHW H R from_ (from_ + pl)) % 4 + 1) = (((SHW H R from_ (from_ + pl) % 4 + 1).toNat : Nat) : Int) := by clear X3; unfold w32 i8; omega
      rw [ew]
      refine fin _ (by clear ew X3; omega) ?_
      rw [if_neg hdo]
      clear ew X3
      omega
  have am : ∀ z : Int, iAnd z 31 = z % 32 := fun z => iAnd_mask (n := 5) (by decide) rfl
  have an : ∀ z : Int, iAnd z 15 = z % 16 := fun z => iAnd_mask (n := 4) (by decide) rfl
  by_cases hX0 : 0 ≤ X
  · rw [if_pos hX0]
    refine main 31 (Or.inl rfl) ?_
    rw [am, if_pos (by omega)]
    generalize MSK H R (from_ + pl) 0 = z
    clear main
    unfold i8; omega
  · rw [if_neg hX0]
    refine main 15 (Or.inr rfl) ?_
    rw [an, if_neg (by omega)]
    generalize MSK H R (from_ + pl) 0 = z
    clear main
    unfold i8; omega
