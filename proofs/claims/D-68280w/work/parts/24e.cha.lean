/-! ChaCha: rows are covered -/
/-- byte k of the stream of a key, a nonce, from counter c on -/
def KSB (K N : Nat → Int) (c : BitVec 32) (k : Nat) : Int := CHW (CF K N (c + bv ((k / 64 : Nat) : Int))) (k % 64)
theorem CF12 (K N : Nat → Int) (c d : BitVec 32) (i : Nat) : ud1 (CF K N c) 12 d i = CF K N d i := by
  unfold ud1 CF
  by_cases h : i = 12
  · rw [if_pos h]; subst h; rfl
  · rw [if_neg h]
    by_cases h0 : i < 12
    · rw [if_pos h0, if_pos h0]
    · rw [if_neg h0, if_neg h, if_neg h0, if_neg h]
theorem CF_12 (K N : Nat → Int) (c : BitVec 32) : CF K N c 12 = c := rfl
theorem i8_m (x : Int) : i8 x % 256 = x % 256 := by unfold i8; omega
theorem bx_cong {x x' y y' : Int} (h : x % 256 = x' % 256) (g : y % 256 = y' % 256) : bx x y = bx x' y' := by unfold bx; rw [h, g]
theorem bv_s (n : Nat) : bv ((n : Nat) : Int) + 1#32 = bv ((n + 1 : Nat) : Int) := by
  rw [show ((n + 1 : Nat) : Int) = (n : Int) + 1 from rfl, bv_add]; rfl
theorem NF {a : Nat} {h h' : Hp} (L : LKs h a) (e : f_cKeystream_next a h = some h') : (hR h' = hR h ∧ ln h' = ln h) ∧ ∀ x k, x < a + 1 ∨ a + 3 < x → hI h' x k = hI h x k := by
  have F : Fe (wI_cKeystream_next a h) (wJ_cKeystream_next a h) h h' := fe_cKeystream_next a h _ e
  exact ⟨⟨F.r, F.l⟩, fun x k hx => F.I (by simp only [wI_cKeystream_next, L.r0_0, L.r0_1, L.r0_2]; intro z; rcases z with z | z | z <;> omega)⟩
theorem c_cov {a row from_ n : Nat} {K N : Nat → Int} {c : BitVec 32} {h0 : Hp} (hr : row ≠ 0) (hrd : row < a ∨ a + 3 < row) (hz : from_ + n < 1000000000) (f : Nat) : ∀ (k : Nat) (h : Hp), k ≤ n → n - k < f → LKs h a → from_ + n ≤ ln h row → XS h (a + 1) (CF K N (c + bv (((k + 63) / 64 : Nat) : Int))) → (k % 64 ≠ 0 → ∀ j, j < 64 → hI h (a + 3) j = i8 (CHW (CF K N (c + bv ((k / 64 : Nat) : Int))) j)) →
    (∀ j, j < k → hI h row (from_ + j) = i8 (bx (hI h0 row (from_ + j)) (KSB K N c j))) → (∀ j, j < from_ ∨ from_ + k ≤ j → hI h row j = hI h0 row j) →
    wp (f_cKeystream_cover_b3_lp f a row (from_ : Int) (n : Int) (k : Int) h) (fun h' => (∀ j, j < n → hI h' row (from_ + j) = i8 (bx (hI h0 row (from_ + j)) (KSB K N c j))) ∧ ∀ j, j < from_ ∨ from_ + n ≤ j → hI h' row j = hI h0 row j) := by
  induction f with
  | zero => intro k h _ hf; omega
  | succ f ih =>
    intro k h hk hf L hl S B D E
    have l0 := L.1
    show wp (f_cKeystream_cover_b3 (f_cKeystream_cover_b3_lp f) a row (from_ : Int) (n : Int) (k : Int) h) _
    unfold f_cKeystream_cover_b3
    by_cases hx : (n : Int) ≤ k
    · rw [if_pos hx, wp_some]
      have : k = n := by omega
      subst this
      exact ⟨D, E⟩
    · rw [if_neg hx]
      have tail : ∀ g : Hp, LKs g a → from_ + n ≤ ln g row → XS g (a + 1) (CF K N (c + bv ((k / 64 + 1 : Nat) : Int))) → (∀ j, j < 64 → hI g (a + 3) j = i8 (CHW (CF K N (c + bv ((k / 64 : Nat) : Int))) j)) → (∀ j, hI g row j = hI h row j) → wp (f_cKeystream_cover_b21 (f_cKeystream_cover_b3_lp f) a row (from_ : Int) (n : Int) (k : Int) g) (fun h' => (∀ j, j < n → hI h' row (from_ + j) = i8 (bx (hI h0 row (from_ + j)) (KSB K N c j))) ∧ ∀ j, j < from_ ∨ from_ + n ≤ j → hI h' row j = hI h0 row j) := by
        intro g Lg hlg Sg Bg Rg
        unfold f_cKeystream_cover_b21
        have e1 : w32 ((from_ : Int) + (k : Int)) = ((from_ + k : Nat) : Int) := w_ck (by omega)
        have e2 : iRem (k : Int) 64 = ((k % 64 : Nat) : Int) := iRem_nat (n := 64) (by omega) (by omega) (by omega)
        simp only [e1, e2, w_k1 (show k < 1000000000 by omega), Int.toNat_natCast]
        clear e1 e2
        rw [wp_cn]
        refine ⟨hr, ?_⟩
        rw [wp_ck]
        refine ⟨ix16 (by omega), ?_⟩
        rw [Lg.r0_2, wp_cn]
        refine ⟨by omega, ?_⟩
        rw [wp_ck, Lg.l3]
        refine ⟨ix16 (by omega), ?_⟩
        rw [wp_ck]
        refine ⟨ix16 (by omega), ?_⟩
        rw [wp_lt1]
        refine ih (k + 1) _ (by omega) (by omega) (Lg.of rsI lsI) hlg ?_ (fun hm j hj => ?_) (fun j hj => ?_) (fun j hj => ?_)
        · intro i hi
          rw [hI_sI, if_neg (by omega), show (k + 1 + 63) / 64 = k / 64 + 1 by omega]
          exact Sg i hi
        · rw [hI_sI, if_neg (by omega), show (k + 1) / 64 = k / 64 by omega]
          exact Bg j hj
        · rw [hI_sI]
          by_cases he : j = k
          · subst he
            rw [if_pos ⟨rfl, rfl⟩, i8_1, Rg, E _ (by omega), Bg _ (by omega)]
            refine i8_congr ?_
            rw [iXor_256, bx_cong rfl (i8_m _)]
            have := bx_lt (hI h0 row (from_ + j)) (CHW (CF K N (c + bv ((j / 64 : Nat) : Int))) (j % 64))
            unfold KSB
            omega
          · rw [if_neg (by omega), Rg]; exact D j (by omega)
        · rw [hI_sI, if_neg (by omega), Rg]; exact E j (by omega)
      by_cases hm : k % 64 = 0
      · rw [if_neg (by rw [show iRem (k : Int) 64 = ((k % 64 : Nat) : Int) from iRem_nat (n := 64) (by omega) (by omega) (by omega), hm]; simp)]
        rw [show (k + 63) / 64 = k / 64 by omega] at S
        refine wp_b1o (c_next L S) (fun g e q => ?_)
        have F := NF L e
        refine tail g (L.of F.1.1 F.1.2) (by rw [F.1.2]; exact hl) (fun i hi => ?_) q.1 (fun j => F.2 _ _ (by omega))
        have := q.2 i hi
        rw [CF12, CF_12, BitVec.add_assoc, bv_s] at this
        exact this
      · rw [if_pos (by rw [show iRem (k : Int) 64 = ((k % 64 : Nat) : Int) from iRem_nat (n := 64) (by omega) (by omega) (by omega)]; omega)]
        rw [show (k + 63) / 64 = k / 64 + 1 by omega] at S
        exact tail h L hl S (B hm) (fun _ => rfl)
theorem c_cover {a row from_ n : Nat} {K N : Nat → Int} {c : BitVec 32} {h : Hp} (L : LKs h a) (S : XS h (a + 1) (CF K N c)) (hr : row ≠ 0) (hrd : row < a ∨ a + 3 < row) (hz : from_ + n < 900000000) (hl : from_ + n ≤ ln h row) :
    wp (f_cKeystream_cover a row (from_ : Int) (n : Int) h) (fun h' => (∀ j, j < n → hI h' row (from_ + j) = i8 (bx (hI h row (from_ + j)) (KSB K N c j))) ∧ ∀ j, j < from_ ∨ from_ + n ≤ j → hI h' row j = hI h row j) := by
  unfold f_cKeystream_cover
  refine c_cov (h0 := h) (K := K) (N := N) (c := c) hr hrd (by omega) FU 0 h (by omega) (by unfold FU; omega) L hl ?_ (fun hm => absurd rfl hm) (fun j hj => by omega) (fun j hj => rfl)
  rw [show bv (((0 + 63) / 64 : Nat) : Int) = 0#32 from rfl, BitVec.add_zero]
  exact S
def BkF (s : Nat) (h h' : Hp) : Prop := (hR h' = hR h ∧ ln h' = ln h) ∧ ∀ x k, x ≠ s + 18 → hI h' x k = hI h x k
theorem BkF.of {s : Nat} {c : Int} {h h' : Hp} (L : LSeals h s) (e : f_mSeals_blockOf s c h = some h') : BkF s h h' := by
  have F : Fe (wI_mSeals_blockOf s c h) (wJ_mSeals_blockOf s c h) h h' := fe_mSeals_blockOf s c h _ e
  exact ⟨⟨F.r, F.l⟩, fun x k hx => F.I (by simp only [wI_mSeals_blockOf, L.r19]; exact hx)⟩
theorem m_chg {s row from_ n : Nat} {K N : Nat → Int} {h0 : Hp} (hr : row ≠ 0) (hrd : row < s ∨ s + 23 < row) (hz : from_ + n < 1000000000) (hb : ∀ j, j < n → 0 ≤ hI h0 row (from_ + j) ∧ hI h0 row (from_ + j) < 256) (f : Nat) : ∀ (k : Nat) (h : Hp), k ≤ n → n - k < f → LSeals h s → from_ + n ≤ ln h row → (∀ j, j < 32 → (0 ≤ hI h (s + 14) j ∧ hI h (s + 14) j < 256) ∧ hI h (s + 14) j % 256 = K j % 256) → (∀ j, j < 12 → (0 ≤ hI h (s + 15) j ∧ hI h (s + 15) j < 256) ∧ hI h (s + 15) j % 256 = N j % 256) → (k % 64 ≠ 0 → ∀ j, j < 64 → hI h (s + 18) j = CHW (CF K N (1#32 + bv ((k / 64 : Nat) : Int))) j) →
    (∀ j, j < k → hI h row (from_ + j) = bx (hI h0 row (from_ + j)) (KSB K N 1#32 j)) → (∀ j, j < from_ ∨ from_ + k ≤ j → hI h row j = hI h0 row j) →
    wp (f_mSeals_change_b3_lp f s row (from_ : Int) ((from_ + n : Nat) : Int) ((from_ + k : Nat) : Int) h) (fun h' => (∀ j, j < n → hI h' row (from_ + j) = bx (hI h0 row (from_ + j)) (KSB K N 1#32 j)) ∧ ∀ j, j < from_ ∨ from_ + n ≤ j → hI h' row j = hI h0 row j) := by
  induction f with
  | zero => intro k h _ hf; omega
  | succ f ih =>
    intro k h hk hf L hl hK hN B D E
    have l0 := L.1
    show wp (f_mSeals_change_b3 (f_mSeals_change_b3_lp f) s row (from_ : Int) ((from_ + n : Nat) : Int) ((from_ + k : Nat) : Int) h) _
    unfold f_mSeals_change_b3
    by_cases hx : ((from_ + n : Nat) : Int) ≤ ((from_ + k : Nat) : Int)
    · rw [if_pos hx, wp_some]
      have : k = n := by omega
      subst this
      exact ⟨D, E⟩
    · rw [if_neg hx]
      have e0 : w32 (((from_ + k : Nat) : Int) - (from_ : Int)) = ((k : Nat) : Int) := by unfold w32; omega
      have e2 : iRem (k : Int) 64 = ((k % 64 : Nat) : Int) := iRem_nat (n := 64) (by omega) (by omega) (by omega)
      have e3 : iDiv (k : Int) 64 = ((k / 64 : Nat) : Int) := iDiv_nat (n := 64) (by omega) (by omega) (by omega)
      have tail : ∀ g : Hp, LSeals g s → from_ + n ≤ ln g row → (∀ j, j < 32 → (0 ≤ hI g (s + 14) j ∧ hI g (s + 14) j < 256) ∧ hI g (s + 14) j % 256 = K j % 256) → (∀ j, j < 12 → (0 ≤ hI g (s + 15) j ∧ hI g (s + 15) j < 256) ∧ hI g (s + 15) j % 256 = N j % 256) → (∀ j, j < 64 → hI g (s + 18) j = CHW (CF K N (1#32 + bv ((k / 64 : Nat) : Int))) j) → (∀ j, hI g row j = hI h row j) → wp (f_mSeals_change_b33 (f_mSeals_change_b3_lp f) s row (from_ : Int) ((from_ + n : Nat) : Int) ((from_ + k : Nat) : Int) g) (fun h' => (∀ j, j < n → hI h' row (from_ + j) = bx (hI h0 row (from_ + j)) (KSB K N 1#32 j)) ∧ ∀ j, j < from_ ∨ from_ + n ≤ j → hI h' row j = hI h0 row j) := by
        intro g Lg hlg hKg hNg Bg Rg
        unfold f_mSeals_change_b33
        simp only [e0, e2, w_k1 (show from_ + k < 1000000000 by omega), Int.toNat_natCast]
        clear e0 e2 e3
        rw [wp_cn]
        refine ⟨hr, ?_⟩
        rw [wp_ck]
        refine ⟨ix16 (by omega), ?_⟩
        rw [Lg.r19, wp_cn]
        refine ⟨by omega, ?_⟩
        rw [wp_ck, Lg.l18]
        refine ⟨ix16 (by omega), ?_⟩
        rw [wp_ck]
        refine ⟨ix16 (by omega), ?_⟩
        rw [wp_lt1]
        refine ih (k + 1) _ (by omega) (by omega) (Lg.of rsI lsI) hlg (fun j hj => by rw [hI_sI, if_neg (by omega)]; exact hKg j hj) (fun j hj => by rw [hI_sI, if_neg (by omega)]; exact hNg j hj) (fun hm j hj => ?_) (fun j hj => ?_) (fun j hj => ?_)
        · rw [hI_sI, if_neg (by omega), show (k + 1) / 64 = k / 64 by omega]
          exact Bg j hj
        · rw [hI_sI]
          by_cases he : j = k
          · subst he
            rw [if_pos ⟨rfl, rfl⟩, Rg, E _ (by omega), Bg _ (by omega), iXor_lt (hb j (by omega)) (CHW_lt _ _)]
            rfl
          · rw [if_neg (by omega), Rg]; exact D j (by omega)
        · rw [hI_sI, if_neg (by omega), Rg]; exact E j (by omega)
      by_cases hm : k % 64 = 0
      · rw [if_neg (by rw [e0, e2, hm]; simp)]
        have e4 : w32 (((k / 64 : Nat) : Int) + 1) = ((k / 64 + 1 : Nat) : Int) := w_k1 (by omega)
        simp only [e0, e3, e4]
        clear e0 e2 e3 e4
        have e5 : bv ((k / 64 + 1 : Nat) : Int) = 1#32 + bv ((k / 64 : Nat) : Int) := by rw [← bv_s, BitVec.add_comm]
        refine wp_b1o (m_blockOf L e5 hK hN) (fun g e q => ?_)
        have F := BkF.of L e
        exact tail g (L.of F.1.1 F.1.2) (by rw [F.1.2]; exact hl) (fun j hj => by rw [F.2 _ _ (by omega)]; exact hK j hj) (fun j hj => by rw [F.2 _ _ (by omega)]; exact hN j hj) q (fun j => F.2 _ _ (by omega))
      · rw [if_pos (by rw [e0, e2]; clear e0 e2 e3; omega)]
        exact tail h L hl hK hN (B hm) (fun _ => rfl)
theorem m_change {s row from_ n : Nat} {K N : Nat → Int} {h : Hp} (L : LSeals h s) (hr : row ≠ 0) (hrd : row < s ∨ s + 23 < row) (hz : from_ + n < 900000000) (hl : from_ + n ≤ ln h row) (hb : ∀ j, j < n → 0 ≤ hI h row (from_ + j) ∧ hI h row (from_ + j) < 256) (hK : ∀ j, j < 32 → (0 ≤ hI h (s + 14) j ∧ hI h (s + 14) j < 256) ∧ hI h (s + 14) j % 256 = K j % 256) (hN : ∀ j, j < 12 → (0 ≤ hI h (s + 15) j ∧ hI h (s + 15) j < 256) ∧ hI h (s + 15) j % 256 = N j % 256) :
    wp (f_mSeals_change s row (from_ : Int) ((from_ + n : Nat) : Int) h) (fun h' => (∀ j, j < n → hI h' row (from_ + j) = bx (hI h row (from_ + j)) (KSB K N 1#32 j)) ∧ ∀ j, j < from_ ∨ from_ + n ≤ j → hI h' row j = hI h row j) := by
  unfold f_mSeals_change
  exact m_chg (h0 := h) hr hrd (by omega) hb FU 0 h (by omega) (by unfold FU; omega) L hl hK hN (fun hm => absurd rfl hm) (fun j hj => by omega) (fun j hj => rfl)
