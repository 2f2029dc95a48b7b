/-! Poly: the model's tallyOf, blocks and tag -/
def addD (a Z : Nat → Int) (k : Nat) : Int := a k + (if k < 16 then Z k else if k = 16 then 1 else 0)
theorem dg_plus (D E : Nat → Int) : ∀ n, dg (fun k => D k + E k) n = dg D n + dg E n
  | 0 => rfl
  | n + 1 => by
    show dg (fun k => D k + E k) n + (D n + E n) * 256 ^ n = dg D n + D n * 256 ^ n + (dg E n + E n * 256 ^ n)
    rw [dg_plus D E n]
    grind
theorem add_val (a Z : Nat → Int) : dg (addD a Z) 18 = dg a 18 + dg Z 16 + 340282366920938463463374607431768211456 := by
  have e1 : dg (addD a Z) 18 = dg a 18 + dg (fun k => if k < 16 then Z k else if k = 16 then 1 else 0) 18 := dg_plus _ _ 18
  have e2 : dg (fun k => if k < 16 then Z k else if k = 16 then 1 else 0) 18 = dg Z 16 + 340282366920938463463374607431768211456 := by
    show dg (fun k => if k < 16 then Z k else if k = 16 then 1 else 0) 16 + 1 * 256 ^ 16 + 0 * 256 ^ 17 = _
    rw [dg_congr (E := Z) 16 (fun i hi => if_pos hi), show (256 : Int) ^ 16 = 340282366920938463463374607431768211456 from by decide]
    omega
  rw [e1, e2, Int.add_assoc]
theorem m_t107 {s n at_ : Nat} {a Z : Nat → Int} {K : Nat → Int → Int → Hp → Option Hp} {Q : Hp → Prop} {h0 : Hp} (ba : dgs a 36) (bZ : dgs Z 16) (hZ : AI h0 (s + 23) (fun j => Z (j - at_)) (at_ + 16) ∨ True) (hZ' : ∀ j, j < 16 → hI h0 (s + 23) (at_ + j) = Z j) (hat : at_ + 16 ≤ 2400) (hsz : dg (addD a Z) 18 < 256 ^ 18) (kk : ∀ h' D, LSeals h' s → (∀ x k, x ≠ s + 19 → hI h' x k = hI h0 x k) → AI h' (s + 19) D 18 → dgs D 18 → dg D 18 = dg (addD a Z) 18 → wp (b1 (f_mSeals_multiply s h') fun h37 => K s (n : Int) (w32 ((at_ : Int) + 16)) h37) Q) (f : Nat) : ∀ (k : Nat) (y : Int) (D : Nat → Int) (h : Hp), k ≤ 18 → 18 - k < f → LSeals h s → (∀ x k, x ≠ s + 19 → hI h x k = hI h0 x k) → (∀ i, k ≤ i → i < 36 → hI h (s + 19) i = a i) → ChS h (s + 19) (addD a Z) D k y → 0 ≤ y ∧ y ≤ 5000 → wp (f_mSeals_tallyOf_b107_lp K f s (n : Int) (at_ : Int) y (k : Int) h) Q := by
  induction f with
  | zero => intro k y D h _ hf; omega
  | succ f ih =>
    intro k y D h hk hf L E A C hy
    have l0 := L.1
    show wp (f_mSeals_tallyOf_b107 K (f_mSeals_tallyOf_b107_lp K f) s (n : Int) (at_ : Int) y (k : Int) h) Q
    unfold f_mSeals_tallyOf_b107
    by_cases h18 : (18 : Int) ≤ k
    · have : k = 18 := by omega
      subst this
      rw [if_pos h18]
      exact kk h D L E C.1 C.2.1 (C.done hy.1 hsz)
    · have e1 : w32 ((at_ : Int) + (k : Int)) = ((at_ + k : Nat) : Int) := w_ck (by omega)
      simp only [e1, Int.toNat_natCast]
      clear e1
      rw [if_neg h18, L.r20, L.r24, L.l19, L.l23, wp_cn]
      refine ⟨by omega, ?_⟩
      rw [wp_ck]
      refine ⟨ix16 (by omega), ?_⟩
      rw [A k (Nat.le_refl _) (by omega)]
      have ab := ba k (by omega)
      have fin : ∀ z : Int, a k + z = addD a Z k → 0 ≤ z ∧ z < 256 → wp (f_mSeals_tallyOf_b153 K (f_mSeals_tallyOf_b107_lp K f) s (n : Int) (at_ : Int) (k : Int) y (a k) z h) Q := by
        intro z hz zb
        unfold f_mSeals_tallyOf_b153
        have e3 : w32 (y + w32 (a k + z)) = y + addD a Z k := by
          rw [hz]
          have : 0 ≤ addD a Z k ∧ addD a Z k < 512 := by rw [← hz]; omega
          clear hz kk ih A
          generalize addD a Z k = w at *
          rw [w32_id (x := w) ⟨by omega, by omega⟩, w32_id ⟨by omega, by omega⟩]
        have fb : 0 ≤ addD a Z k ∧ addD a Z k < 512 := by rw [← hz]; omega
        rw [wp_lt1]
        simp only [e3, w_k1 (show k < 1000000000 by omega), Int.toNat_natCast]
        clear e3 hz
        rw [L.r20, L.l19, wp_cn]
        refine ⟨by omega, ?_⟩
        rw [wp_ck]
        refine ⟨ix16 (by omega), ?_⟩
        rw [wp_lt1, wp_lt1]
        have C1 := C.s (v := iAnd (y + addD a Z k) 255) (sh8 (by omega)).1
        rw [(sh8 (y := y + addD a Z k) (by omega)).2]
        exact ih (k + 1) _ _ _ (by omega) (by omega) (L.of rsI lsI) (fun x j hx => by rw [hI_sI, if_neg (fun z => hx z.1)]; exact E x j hx) (fun i h1 h2 => by rw [hI_sI, if_neg (by omega)]; exact A i (by omega) h2) C1 (by omega)
      by_cases h16 : (16 : Int) ≤ k
      · rw [if_pos h16]
        by_cases e16 : (k : Int) ≠ 16
        · rw [if_pos e16]
          exact fin 0 (by unfold addD; rw [if_neg (by omega), if_neg (by omega)]) (by decide)
        · rw [if_neg e16]
          exact fin 1 (by unfold addD; rw [if_neg (by omega), if_pos (by omega)]) (by decide)
      · rw [if_neg h16, wp_cn]
        refine ⟨by omega, ?_⟩
        rw [wp_ck]
        refine ⟨ix16 (by omega), ?_⟩
        rw [E _ _ (by omega), hZ' k (by omega)]
        exact fin _ (by unfold addD; rw [if_pos (by omega)]) (bZ k (by omega))
def TgQ (s : Nat) (T : Int) (h' : Hp) : Prop := ∀ j, j < 16 → hI h' (s + 22) j = byt T j
theorem dg_byt {D : Nat → Int} {T : Int} (h : dgs D 16) (e : dg D 16 = T % 340282366920938463463374607431768211456) {j : Nat} (hj : j < 16) : D j = byt T j := by
  have s1 := dg_split D j (16 - j)
  rw [show j + (16 - j) = 16 by omega] at s1
  have s2 : dg (fun i => D (j + i)) (16 - j) = D j + 256 * dg (fun i => D (j + (1 + i))) (16 - j - 1) := by
    have := dg_split (fun i => D (j + i)) 1 (16 - j - 1)
    rw [show 1 + (16 - j - 1) = 16 - j by omega] at this
    rw [this]
    show (0 + D (j + 0) * 256 ^ 0) + 256 ^ 1 * _ = _
    rw [Nat.add_zero, show (256 : Int) ^ 0 = 1 from rfl, show (256 : Int) ^ 1 = 256 from rfl]
    omega
  have b1 := dg_lt (D := D) j (fun i hi => h i (by omega))
  have b2 := h j hj
  have hp := p256_pos j
  have q1 : dg D 16 / 256 ^ j % 256 = D j := by
    rw [s1, Int.add_mul_ediv_left _ _ (by omega), Int.ediv_eq_zero_of_lt b1.1 b1.2, Int.zero_add, s2]
    generalize dg (fun i => D (j + (1 + i))) (16 - j - 1) = w
    omega
  rw [← q1, e]
  unfold byt
  have p8 : (2 : Int) ^ (8 * j) = 256 ^ j := by rw [Int.pow_mul]; rfl
  rw [p8]
  have d : (340282366920938463463374607431768211456 : Int) = 256 ^ j * (256 * 256 ^ (15 - j)) := by
    rw [← p256, ← Int.pow_add, show j + (15 - j + 1) = 16 by omega]; decide
  have t : T = T % 340282366920938463463374607431768211456 + 340282366920938463463374607431768211456 * (T / 340282366920938463463374607431768211456) := by omega
  generalize T % 340282366920938463463374607431768211456 = u at *
  generalize T / 340282366920938463463374607431768211456 = v at *
  rw [t, d, Int.mul_assoc, Int.add_mul_ediv_left _ _ (by omega), Int.mul_assoc, Int.add_mul_emod_self_left]
theorem m_t252 {s : Nat} {X N : Nat → Int} {ab : Int} (hab : ab = 0 ∨ ab = 1) (bX : dgs X 16) (bN : dgs N 16) (f : Nat) : ∀ (k : Nat) (y : Int) (D : Nat → Int) (h : Hp), k ≤ 16 → 16 - k < f → LSeals h s → (∀ i, i < 16 → hI h (if ab = 0 then s + 19 else s + 21) i = X i) → (∀ i, i < 16 → hI h (s + 18) (16 + i) = N i) → ChS h (s + 22) (fun k => X k + N k) D k y → 0 ≤ y ∧ y ≤ 5000 → wp (f_mSeals_tallyOf_b252_lp f s y ab (k : Int) h) (TgQ s (dg X 16 + dg N 16)) := by
  induction f with
  | zero => intro k y D h _ hf; omega
  | succ f ih =>
    intro k y D h hk hf L EX EN C hy
    have l0 := L.1
    show wp (f_mSeals_tallyOf_b252 (f_mSeals_tallyOf_b252_lp f) s y ab (k : Int) h) _
    unfold f_mSeals_tallyOf_b252
    by_cases h16 : (16 : Int) ≤ k
    · have : k = 16 := by omega
      subst this
      rw [if_pos h16, wp_some]
      intro j hj
      rw [C.1 j hj]
      refine dg_byt C.2.1 ?_ hj
      have c3 := C.2.2
      have b := dg_lt 16 C.2.1
      rw [dg_plus, show (256 : Int) ^ 16 = 340282366920938463463374607431768211456 from by decide] at c3
      rw [show (256 : Int) ^ 16 = 340282366920938463463374607431768211456 from by decide] at b
      generalize dg D 16 = u at *
      generalize dg X 16 = v at *
      generalize dg N 16 = w at *
      clear EX EN C ih
      omega
    · have fin : wp (f_mSeals_tallyOf_b281 (f_mSeals_tallyOf_b252_lp f) s ab (k : Int) y (X k) h) (TgQ s (dg X 16 + dg N 16)) := by
        unfold f_mSeals_tallyOf_b281
        have e1 : w32 (16 + (k : Int)) = ((16 + k : Nat) : Int) := w_ck (c := 16) (by omega)
        simp only [e1, Int.toNat_natCast]
        clear e1
        rw [L.r19, L.r23, L.l18, L.l22, wp_cn]
        refine ⟨by omega, ?_⟩
        rw [wp_ck]
        refine ⟨ix16 (by omega), ?_⟩
        have xb := bX k (by omega)
        have nb := bN k (by omega)
        rw [EN k (by omega)]
        have e3 : w32 (y + w32 (X k + N k)) = y + (X k + N k) := by
          clear EX EN ih C
          generalize X k = u at *
          generalize N k = v at *
          rw [w32_id (x := u + v) ⟨by omega, by omega⟩, w32_id ⟨by omega, by omega⟩]
        rw [wp_lt1]
        simp only [e3, w_k1 (show k < 1000000000 by omega)]
        clear e3
        rw [wp_cn]
        refine ⟨by omega, ?_⟩
        rw [wp_ck]
        refine ⟨ix16 (by omega), ?_⟩
        rw [wp_lt1, wp_lt1]
        have C1 := C.s (v := iAnd (y + (X k + N k)) 255) (sh8 (by omega)).1
        rw [(sh8 (y := y + (X k + N k)) (by omega)).2]
        refine ih (k + 1) _ _ _ (by omega) (by omega) (L.of rsI lsI) (fun i hi => ?_) (fun i hi => by rw [hI_sI, if_neg (by omega)]; exact EN i hi) C1 (by show 0 ≤ (y + (X k + N k)) / 256 ∧ _; omega)
        rw [hI_sI, if_neg (by split <;> omega)]
        exact EX i hi
      rw [if_neg h16, Int.toNat_natCast]
      have ex := EX k (by omega)
      by_cases a0 : ab = 0
      · rw [if_pos a0] at ex
        rw [if_pos a0, L.r20, L.l19, wp_cn]
        refine ⟨by clear ex; omega, ?_⟩
        rw [wp_ck]
        refine ⟨ix16 (by clear ex; omega), ?_⟩
        rw [ex]
        exact fin
      · rw [if_neg a0] at ex
        rw [if_neg a0, L.r22, L.l21, wp_cn]
        refine ⟨by clear ex; omega, ?_⟩
        rw [wp_ck]
        refine ⟨ix16 (by clear ex; omega), ?_⟩
        rw [ex]
        exact fin
