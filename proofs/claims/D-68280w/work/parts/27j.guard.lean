/-! guards: shields -/
/-- bytes of a mask: of the hiding key and a sample behind a place -/
def MSK (H R : Nat → Int) (p k : Nat) : Int := CHW (CF H (fun j => R (p + 8 + j)) (wl R (p + 4))) k
/-- the first byte, with its mask -/
def SHW (H R : Nat → Int) (from_ p : Nat) : Int := bx (R from_) (MSK H R p 0 % (if R from_ % 256 ≤ 127 then 32 else 16))
theorem SHW_lt (H R : Nat → Int) (from_ p : Nat) : 0 ≤ SHW H R from_ p ∧ SHW H R from_ p < 256 := bx_lt _ _
theorem c_sh98 {g row mk from_ pl n : Nat} {M : Nat → Int} {h0 : Hp} (hr : row ≠ 0) (hm : mk ≠ 0) (hne : mk ≠ row) (hn : n ≤ 4) (hz : from_ + pl + 4 < 900000000) (hl : from_ + pl + 4 ≤ ln h0 row) (hml : ln h0 mk = 64) (hM : ∀ j, j < 64 → hI h0 mk j % 256 = M j % 256) (f : Nat) : ∀ (k : Nat) (h : Hp), k ≤ n → n - k < f → ln h = ln h0 → (∀ x j, x ≠ row → hI h x j = hI h0 x j) → (∀ j, j < k → hI h row (from_ + pl + j) = i8 (bx (hI h0 row (from_ + pl + j)) (M (1 + j)))) → (∀ j, j < from_ + pl ∨ from_ + pl + k ≤ j → hI h row j = hI h0 row j) → wp (f_cGuard_shield_b98_lp f g row (from_ : Int) (pl : Int) mk (n : Int) (k : Int) h) (fun o => o.1 = (n : Int) ∧ (∀ j, j < n → hI o.2 row (from_ + pl + j) = i8 (bx (hI h0 row (from_ + pl + j)) (M (1 + j)))) ∧ ∀ j, j < from_ + pl ∨ from_ + pl + n ≤ j → hI o.2 row j = hI h0 row j) := by
  induction f with
  | zero => intro k h _ hf; omega
  | succ f ih =>
    intro k h hk hf el E D U
    show wp (f_cGuard_shield_b98 (f_cGuard_shield_b98_lp f) g row (from_ : Int) (pl : Int) mk (n : Int) (k : Int) h) _
    unfold f_cGuard_shield_b98
    by_cases hx : (n : Int) ≤ k
    · have : k = n := by omega
      subst this
      rw [if_pos hx, wp_some]
      exact ⟨rfl, D, U⟩
    · have e1 : w32 ((from_ : Int) + (pl : Int)) = ((from_ + pl : Nat) : Int) := w_ck (by omega)
      have e2 : w32 (((from_ + pl : Nat) : Int) + (k : Int)) = ((from_ + pl + k : Nat) : Int) := w_ck (by clear e1; omega)
      have e3 : w32 (1 + (k : Int)) = ((1 + k : Nat) : Int) := w_ck (c := 1) (by clear e1 e2; omega)
      simp only [e1, e2, e3, w_k1 (show k < 1000000000 by clear e1 e2 e3; omega), Int.toNat_natCast]
      clear e1 e2 e3
      rw [if_neg hx, wp_cn]
      refine ⟨hr, ?_⟩
      rw [el, wp_ck]
      refine ⟨ix16 (by omega), ?_⟩
      rw [wp_cn]
      refine ⟨hm, ?_⟩
      rw [wp_ck, hml]
      refine ⟨ix16 (by omega), ?_⟩
      rw [wp_ck]
      refine ⟨ix16 (by omega), ?_⟩
      rw [wp_lt1]
      refine ih (k + 1) _ (by omega) (by omega) (by rw [lsI]; exact el) (fun x j hx => by rw [hI_sI, if_neg (fun z => hx z.1)]; exact E x j hx) (fun j hj => ?_) (fun j hj => ?_)
      · rw [hI_sI]
        by_cases e : j = k
        · subst e
          rw [if_pos ⟨rfl, rfl⟩, i8_1, U _ (by omega), E _ _ hne]
          refine i8_congr ?_
          rw [iXor_256, bx_cong rfl (hM _ (by omega))]
          have := bx_lt (hI h0 row (from_ + pl + j)) (M (1 + j))
          omega
        · rw [if_neg (by omega)]; exact D j (by omega)
      · rw [hI_sI, if_neg (by omega)]; exact U j (by omega)
