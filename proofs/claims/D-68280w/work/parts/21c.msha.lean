/-! the model's Seals: digests -/
theorem pow2_le {m n : Nat} (h : m ≤ n) : (2 : Int) ^ m ≤ 2 ^ n := by
  have := Int.ofNat_le.mpr (Nat.pow_le_pow_right (n := 2) (by decide) h)
  rw [Int.natCast_pow, Int.natCast_pow] at this
  exact this
theorem lAnd255 (x : Int) : lAnd x 255 = x % 256 := lAnd_mask (n := 8) (by decide) rfl
theorem bv_inw {y : Int} (h : inw y) : ((bv y).toNat : Int) = y := by rw [bv_nat]; unfold inw at h; omega
theorem sh24 (j : Nat) : w32 (24 - w32 (8 * iRem (j : Int) 4)) = ((24 - 8 * (j % 4) : Nat) : Int) ∨ 2147483648 ≤ j := by
  rcases Nat.lt_or_ge j 2147483648 with hj | hj
  · left
    rw [iRem_eq ⟨by omega, by omega⟩ (by decide) (by omega) (by decide)]
    unfold w32
    omega
  · exact Or.inr hj
theorem m_dout {s : Nat} {h : Hp} {S : Nat → BitVec 32} (L : LSeals h s) (hS : ∀ i, i < 8 → bv (hJ h (s + 7) i) = S i ∧ inw (hJ h (s + 7) i)) : wp (f_mSeals_digestWork_b125_lp FU s 0 h) (fun h' => ∀ k, k < 32 → hI h' (s + 9) k = ((S (k / 4)).toNat : Int) / 2 ^ (24 - 8 * (k % 4)) % 256) := by
  have dv : ∀ j : Nat, j < 32 → iDiv (j : Int) 4 = ((j / 4 : Nat) : Int) := fun j hj => by rw [iDiv_eq ⟨by omega, by omega⟩ (by decide) (by omega) (by decide)]; omega
  have e := lq_mSeals_digestWork_b125 (v0 := s) FU 0 h (by omega) (by unfold FU; omega) (by omega) (by rw [L.r6]; omega) (by rw [L.r6, L.l7]; intro j _ hj; rw [dv j hj]; exact ⟨by omega, by omega⟩) (by rw [L.r8]; omega) (by rw [L.r8, L.l9]; intro j _ hj; exact ⟨by omega, by omega⟩)
  have e' : f_mSeals_digestWork_b125_lp FU s 0 h = _ := e
  rw [e', L.r6, L.r8]
  unfold lx_mSeals_digestWork_b125
  rw [wp_some]
  intro k hk
  rw [hI_fI, if_pos ⟨rfl, by omega, by omega⟩]
  simp only [Nat.sub_zero]
  have hy := hS (k / 4) (by omega)
  rw [dv k hk, Int.toNat_natCast, ← hy.1, bv_inw hy.2]
  rcases sh24 k with q | q
  · rw [q, lShr_eq ⟨by have := hy.2; unfold inw at this; omega, by have := hy.2; unfold inw at this; omega⟩ (by omega), lAnd255]
    generalize hJ h (s + 7) (k / 4) / 2 ^ (24 - 8 * (k % 4)) = z
    exact w32_id ⟨by omega, by omega⟩
  · omega
theorem m_dparts {s N : Nat} {P : Nat → Int} (hN : 64 * N ≤ 2400) (n : Nat) : ∀ (k : Nat) (h : Hp), LSeals h s → MCs h s → k ≤ N → N - k < n → (∀ j, j < 64 * N → 0 ≤ hI h (s + 5) j ∧ hI h (s + 5) j < 256 ∧ hI h (s + 5) j % 256 = P j % 256) → (∀ i, i < 8 → bv (hJ h (s + 7) i) = shK P k i ∧ inw (hJ h (s + 7) i)) → wp (f_mSeals_digestWork_b107_lp n s ((64 * N : Nat) : Int) ((64 * k : Nat) : Int) h) (fun h' => ∀ k, k < 32 → hI h' (s + 9) k = ((shK P N (k / 4)).toNat : Int) / 2 ^ (24 - 8 * (k % 4)) % 256) := by
  induction n with
  | zero => intro k h _ _ _ hn; omega
  | succ n ih =>
    intro k h L M hk hn hB hH
    show wp (f_mSeals_digestWork_b107 (f_mSeals_digestWork_b107_lp n) s ((64 * N : Nat) : Int) ((64 * k : Nat) : Int) h) _
    unfold f_mSeals_digestWork_b107
    by_cases hx : ((64 * N : Nat) : Int) ≤ ((64 * k : Nat) : Int)
    · rw [if_pos hx]
      have : k = N := by omega
      subst this
      exact m_dout L hH
    · rw [if_neg hx]
      refine wp_b1o (m_part (fr := 64 * k) (by omega) L M (fun j hj => ⟨(hB _ (by omega)).1, (hB _ (by omega)).2.1⟩) hH) (fun h1 e q => ?_)
      have F : Fe (wI_mSeals_part s ((64 * k : Nat) : Int) h) (wJ_mSeals_part s ((64 * k : Nat) : Int) h) h h1 := fe_mSeals_part s ((64 * k : Nat) : Int) h _ e
      have nI : ∀ x k, hI h1 x k = hI h x k := fun x k => F.I (fun z => z)
      have nJ : ∀ x k, x < s + 6 → hJ h1 x k = hJ h x k := fun x k hx => F.J (by simp only [wJ_mSeals_part, L.r5, L.r6, L.r7]; omega)
      have e1 : w32 (((64 * k : Nat) : Int) + 64) = ((64 * (k + 1) : Nat) : Int) := by unfold w32; omega
      rw [e1]
      clear e1
      refine ih (k + 1) h1 (L.fe F) (M.of (fun k => nJ _ k (by omega)) (fun k => nJ _ k (by omega))) (by omega) (by omega) (fun j hj => by rw [nI]; exact hB j hj) (fun i hi => ⟨(q i hi).1.trans ?_, (q i hi).2⟩)
      exact shC_congr (fun i hi => rfl) (fun j hj => (hB _ (by omega)).2.2) hi
theorem m_dlen {s n N : Nat} {B : Nat → Int} (hN : 64 * N ≤ 2400) (hnN : n + 9 ≤ 64 * N) (Q : Hp → Prop) (f : Nat) : ∀ (k : Nat) (h : Hp), LSeals h s → k ≤ 4 → 4 - k < f →
    (∀ h', LSeals h' s → (∀ x y, hJ h' x y = hJ h x y) → (∀ x y, x ≠ s + 5 → hI h' x y = hI h x y) → (∀ y, hI h' (s + 5) y = if 64 * N - 4 ≤ y ∧ y < 64 * N - k then (8 * (n : Int)) / 2 ^ (8 * (64 * N - 1 - y)) % 256 else hI h (s + 5) y) → wp (f_mSeals_digestWork_b81_lp FU s ((64 * N : Nat) : Int) 0 h') Q) →
    wp (f_mSeals_digestWork_b45_lp f s (n : Int) ((64 * N : Nat) : Int) (k : Int) h) Q := by
  induction f with
  | zero => intro k h _ _ hf; omega
  | succ f ih =>
    intro k h L hk hf K
    show wp (f_mSeals_digestWork_b45 (f_mSeals_digestWork_b45_lp f) s n ((64 * N : Nat) : Int) k h) _
    unfold f_mSeals_digestWork_b45
    by_cases hx : (4 : Int) ≤ k
    · rw [if_pos hx]
      have : k = 4 := by omega
      subst this
      exact K h L (fun _ _ => rfl) (fun _ _ _ => rfl) (fun y => by rw [if_neg (by omega)])
    · rw [if_neg hx]
      have e0 : w32 (w32 (((64 * N : Nat) : Int) - 1) - (k : Int)) = ((64 * N - 1 - k : Nat) : Int) := by unfold w32; omega
      have e1 : w32 ((k : Int) + 1) = ((k + 1 : Nat) : Int) := by unfold w32; omega
      have e2 : w32 (8 * (n : Int)) = 8 * (n : Int) := w32_id ⟨by omega, by omega⟩
      have e3 : w32 (8 * (k : Int)) = ((8 * k : Nat) : Int) := by unfold w32; omega
      simp only [wp_some, wp_lt1, wp_b1, wp_b2, wp_ck, wp_cn, L.r4, L.l5, e0, e1, e2, e3, Int.toNat_natCast]
      clear e0 e1 e2 e3
      have l0 := L.1
      refine ⟨by omega, ⟨by omega, by omega⟩, ?_⟩
      rw [iShr_eq (x := 8 * (n : Int)) ⟨by omega, by omega⟩ (n := 8 * k) (by omega), byte255]
      refine ih (k + 1) _ (L.of rfl rfl) (by omega) (by omega) (fun h' L' q1 q2 q3 => K h' L' q1 (fun x y hx => ?_) (fun y => ?_))
      · rw [q2 x y hx, hI_sI, if_neg (fun z => hx z.1)]
      · rw [q3 y, hI_sI]
        by_cases hy : y = 64 * N - 1 - k
        · rw [if_neg (by omega), if_pos ⟨rfl, hy⟩, if_pos (by omega), hy, show 64 * N - 1 - (64 * N - 1 - k) = k by omega]
        · by_cases hy2 : 64 * N - 4 ≤ y ∧ y < 64 * N - (k + 1)
          · rw [if_pos hy2, if_pos (by omega)]
          · rw [if_neg hy2, if_neg (fun z => hy z.2), if_neg (by omega)]
theorem m_digestWork {s n : Nat} {h : Hp} (hn : n + 72 ≤ 2400) (L : LSeals h s) (M : MCs h s) (hB : ∀ j, j < n → 0 ≤ hI h (s + 5) j ∧ hI h (s + 5) j < 256) : wp (f_mSeals_digestWork s (n : Int) h) (fun h' => ∀ k, k < 32 → hI h' (s + 9) k = SHA n (fun j => hI h (s + 5) j) k) := by
  unfold f_mSeals_digestWork
  have l0 := L.1
  generalize hNd : (n + 8) / 64 + 1 = N
  have e0 : w32 ((w32 (iDiv (w32 ((n : Int) + 8)) 64 * 64)) + 64) = ((64 * N : Nat) : Int) := by
    have a1 : w32 ((n : Int) + 8) = ((n + 8 : Nat) : Int) := by unfold w32; omega
    rw [a1, iDiv_eq ⟨by omega, by omega⟩ (by decide) (by omega) (by decide)]
    clear a1
    unfold w32
    omega
  rw [wp_lt1, e0]
  clear e0
  have e := lq_mSeals_digestWork_b16 (v0 := s) (v1 := (n : Int)) (N := 64 * N) FU n h (by omega) (by unfold FU; omega) (by omega) (by rw [L.r4]; omega) (by rw [L.r4, L.l5]; intro j _ hj; exact ⟨by omega, by omega⟩)
  rw [e, L.r4]
  unfold lx_mSeals_digestWork_b16
  have z1 : hR (fI h (s + 5) 0 n (64 * N) fun j => 0) s 4 = s + 5 := L.r4
  have z2 : ln (fI h (s + 5) 0 n (64 * N) fun j => 0) (s + 5) = 2400 := L.l5
  simp only [wp_some, wp_lt1, wp_b1, wp_b2, wp_ck, wp_cn, z1, z2, Int.toNat_natCast]
  refine ⟨by omega, ⟨by omega, by omega⟩, ?_⟩
  refine m_dlen (n := n) (N := N) (B := fun j => hI h (s + 5) j) (by omega) (by omega) _ FU 0 _ (L.of rfl rfl) (by omega) (by unfold FU; omega) (fun h' L' q1 q2 q3 => ?_)
  have e2 := lq_mSeals_digestWork_b81 (v0 := s) (v2 := ((64 * N : Nat) : Int)) FU 0 h' (by omega) (by unfold FU; omega) (by omega) (by rw [L'.r0]; omega) (by rw [L'.r0, L'.l1]; intro j _ hj; exact ⟨by omega, by omega⟩) (by rw [L'.r6]; omega) (by rw [L'.r6, L'.l7]; intro j _ hj; exact ⟨by omega, by omega⟩) (by rw [L'.r0, L'.r6]; omega)
  have e2' : f_mSeals_digestWork_b81_lp FU s ((64 * N : Nat) : Int) 0 h' = _ := e2
  rw [e2', L'.r0, L'.r6]
  unfold lx_mSeals_digestWork_b81
  have wk : ∀ y, hI h' (s + 5) y = if 64 * N - 4 ≤ y ∧ y < 64 * N then (8 * (n : Int)) / 2 ^ (8 * (64 * N - 1 - y)) % 256 else if y = n then 128 else if n ≤ y ∧ y < 64 * N then 0 else hI h (s + 5) y := fun y => by
    rw [q3 y, hI_sI, hI_fI]
    by_cases c1 : 64 * N - 4 ≤ y ∧ y < 64 * N
    · rw [if_pos (by omega), if_pos c1]
    · rw [if_neg (by omega), if_neg c1]
      by_cases c2 : y = n
      · rw [if_pos ⟨rfl, c2⟩, if_pos c2]
      · rw [if_neg (fun z => c2 z.2), if_neg c2]
        by_cases c3 : n ≤ y ∧ y < 64 * N
        · rw [if_pos ⟨rfl, by omega, by omega⟩, if_pos c3]
        · rw [if_neg (by omega), if_neg c3]
  have sp : ∀ j, j < 64 * N → 0 ≤ hI h' (s + 5) j ∧ hI h' (s + 5) j < 256 ∧ hI h' (s + 5) j % 256 = shPad n (fun j => hI h (s + 5) j) j % 256 := fun j hj => by
    rw [wk j]
    unfold shPad
    by_cases c1 : 64 * N - 4 ≤ j ∧ j < 64 * N
    · rw [if_pos c1, if_neg (by omega), if_neg (by omega), if_neg (by omega), show (n + 8) / 64 * 64 + 63 - j = 64 * N - 1 - j by omega]
      generalize (8 * (n : Int)) / 2 ^ (8 * (64 * N - 1 - j)) = z
      omega
    · rw [if_neg c1]
      by_cases c2 : j = n
      · rw [if_pos c2, if_neg (by omega), if_pos c2]; omega
      · rw [if_neg c2]
        by_cases c3 : n ≤ j ∧ j < 64 * N
        · rw [if_pos c3, if_neg (by omega), if_neg (by omega)]
          by_cases c4 : j < (n + 8) / 64 * 64 + 56
          · rw [if_pos c4]; omega
          · rw [if_neg c4]
            have hz : (8 * (n : Int)) / 2 ^ (8 * ((n + 8) / 64 * 64 + 63 - j)) = 0 := by
              refine Int.ediv_eq_zero_of_lt (by omega) ?_
              have : (2 : Int) ^ 32 ≤ 2 ^ (8 * ((n + 8) / 64 * 64 + 63 - j)) := pow2_le (by omega)
              have p32 : (2 : Int) ^ 32 = 4294967296 := rfl
              omega
            rw [hz]; omega
        · rw [if_neg c3, if_pos (by omega)]
          have := hB j (by omega)
          exact ⟨this.1, this.2, rfl⟩
  have nJ : ∀ x k, x ≠ s + 7 → hJ (fJ h' (s + 7) 0 0 8 fun j => hJ h' (s + 1) j) x k = hJ h x k := fun x k hx => by
    rw [hJ_fJ, if_neg (fun z => hx z.1), q1]; rfl
  have M1 : MCs (fJ h' (s + 7) 0 0 8 fun j => hJ h' (s + 1) j) s := M.of (fun k => nJ _ k (by omega)) (fun k => nJ _ k (by omega))
  have := m_dparts (s := s) (N := N) (P := shPad n (fun j => hI h (s + 5) j)) (by omega) FU 0 (fJ h' (s + 7) 0 0 8 fun j => hJ h' (s + 1) j) (L'.of rfl rfl) M1 (by omega) (by unfold FU; omega) sp (fun i hi => by
    rw [hJ_fJ, if_pos ⟨rfl, by omega, by omega⟩]
    simp only [Nat.sub_zero]
    rw [q1]
    show bv (hJ h (s + 1) i) = H0 i ∧ inw (hJ h (s + 1) i)
    rw [M.1 i hi, bv_m32]
    exact ⟨rfl, by unfold inw; omega⟩)
  refine wp_of this (fun h2 _ q k hk => ?_)
  rw [q k hk]
  unfold SHA
  rw [hNd]
