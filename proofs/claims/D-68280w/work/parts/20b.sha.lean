theorem c_spread2 {a : Nat} {m : Nat → BitVec 32} (n : Nat) : ∀ (t : Nat) (h : Hp), LHash h a → 16 ≤ t → t ≤ 64 → 64 - t < n → (∀ j, j < t → bv (hI h (a + 2) j) = sch m j) → wp (f_cHash_spread_b89_lp n a (t : Int) h) (fun h' => ∀ j, j < 64 → bv (hI h' (a + 2) j) = sch m j) := by
  induction n with
  | zero => intro t h _ _ _ hn; omega
  | succ n ih =>
    intro t h L h1 h2 hn hw
    show wp (f_cHash_spread_b89 (f_cHash_spread_b89_lp n) a t h) _
    unfold f_cHash_spread_b89
    have L' := L
    obtain ⟨l0, l1, l2, l3, l4, l5, l6⟩ := L'
    by_cases ht : (64 : Int) ≤ t
    · rw [if_pos ht, wp_some]; intro j hj; exact hw j (by omega)
    · rw [if_neg ht]
      have e15 : w32 ((t : Int) - 15) = ((t - 15 : Nat) : Int) := by unfold w32; omega
      have e2 : w32 ((t : Int) - 2) = ((t - 2 : Nat) : Int) := by unfold w32; omega
      have e16 : w32 ((t : Int) - 16) = ((t - 16 : Nat) : Int) := by unfold w32; omega
      have e7 : w32 ((t : Int) - 7) = ((t - 7 : Nat) : Int) := by unfold w32; omega
      have e1 : w32 ((t : Int) + 1) = ((t + 1 : Nat) : Int) := by unfold w32; omega
      simp only [wp_some, wp_lt1, wp_b1, wp_b2, wp_ck, wp_cn, f_jInteger_rotateRight, l2, l5, e15, e2, e16, e7, e1, Int.toNat_natCast]
      clear e15 e2 e16 e7 e1
      refine ⟨by omega, ⟨by omega, by omega⟩, ⟨by omega, by omega⟩, by omega, ⟨by omega, by omega⟩, ⟨by omega, by omega⟩, ⟨by omega, by omega⟩, ?_⟩
      refine ih (t + 1) _ L (by omega) (by omega) (by omega) (fun j hj => ?_)
      rw [hI_sI]
      by_cases hjt : j = t
      · subst hjt
        rw [if_pos ⟨rfl, rfl⟩, sch, if_neg (by omega)]
        simp only [bv_w32, bv_add, bv_iXor, bv_rot7, bv_rot18, bv_rot17, bv_rot19, bv_us3, bv_us10, hw _ (show j - 15 < j by omega), hw _ (show j - 2 < j by omega), hw _ (show j - 16 < j by omega), hw _ (show j - 7 < j by omega)]
        rfl
      · rw [if_neg (fun z => hjt z.2)]; exact hw j (by omega)
theorem c_spread1 {a : Nat} (n : Nat) : ∀ (t : Nat) (h : Hp), LHash h a → t ≤ 16 → 16 - t < n → (∀ j, j < t → bv (hI h (a + 2) j) = wd (fun j => hI h (a + 3) j) j) → wp (f_cHash_spread_b2_lp n a (t : Int) h) (fun h' => ∀ j, j < 64 → bv (hI h' (a + 2) j) = sch (wd (fun j => hI h (a + 3) j)) j) := by
  induction n with
  | zero => intro t h _ _ hn; omega
  | succ n ih =>
    intro t h L h2 hn hw
    show wp (f_cHash_spread_b2 (f_cHash_spread_b2_lp n) a t h) _
    unfold f_cHash_spread_b2
    have L' := L
    obtain ⟨l0, l1, l2, l3, l4, l5, l6⟩ := L'
    by_cases ht : (16 : Int) ≤ t
    · rw [if_pos ht]
      have : t = 16 := by omega
      subst this
      exact c_spread2 FU 16 h L (by omega) (by omega) (by unfold FU; omega) (fun j hj => by rw [sch, if_pos hj]; exact hw j hj)
    · rw [if_neg ht]
      have e0 : w32 (4 * (t : Int)) = ((4 * t : Nat) : Int) := by unfold w32; omega
      have e1 : w32 (((4 * t : Nat) : Int) + 1) = ((4 * t + 1 : Nat) : Int) := by unfold w32; omega
      have e2 : w32 (((4 * t : Nat) : Int) + 2) = ((4 * t + 2 : Nat) : Int) := by unfold w32; omega
      have e3 : w32 (((4 * t : Nat) : Int) + 3) = ((4 * t + 3 : Nat) : Int) := by unfold w32; omega
      have e4 : w32 ((t : Int) + 1) = ((t + 1 : Nat) : Int) := by unfold w32; omega
      simp only [wp_some, wp_lt1, wp_b1, wp_b2, wp_ck, wp_cn, l2, l3, l5, l6, e0, e1, e2, e3, e4, Int.toNat_natCast]
      clear e0 e1 e2 e3 e4
      refine ⟨by omega, ⟨by omega, by omega⟩, ⟨by omega, by omega⟩, ⟨by omega, by omega⟩, ⟨by omega, by omega⟩, by omega, ⟨by omega, by omega⟩, ?_⟩
      have hk : ∀ j, hI (sI h (a + 2) t (iOr (iOr (iOr (iShl (iAnd (hI h (a + 3) (4 * t)) 255) 24) (iShl (iAnd (hI h (a + 3) (4 * t + 1)) 255) 16)) (iShl (iAnd (hI h (a + 3) (4 * t + 2)) 255) 8)) (iAnd (hI h (a + 3) (4 * t + 3)) 255))) (a + 3) j = hI h (a + 3) j := fun j => by rw [hI_sI, if_neg (by omega)]
      have := ih (t + 1) _ (show LHash (sI h (a + 2) t (iOr (iOr (iOr (iShl (iAnd (hI h (a + 3) (4 * t)) 255) 24) (iShl (iAnd (hI h (a + 3) (4 * t + 1)) 255) 16)) (iShl (iAnd (hI h (a + 3) (4 * t + 2)) 255) 8)) (iAnd (hI h (a + 3) (4 * t + 3)) 255))) a from L) (by omega) (by omega) (fun j hj => by
        simp only [hk]
        rw [hI_sI]
        by_cases hjt : j = t
        · subst hjt
          rw [if_pos ⟨rfl, rfl⟩, word4]; rfl
        · rw [if_neg (fun z => hjt z.2)]; exact hw j (by omega))
      simp only [hk] at this
      exact this
theorem c_spread {a : Nat} {h : Hp} (L : LHash h a) : wp (f_cHash_spread a h) (fun h' => ∀ j, j < 64 → bv (hI h' (a + 2) j) = sch (wd (fun j => hI h (a + 3) j)) j) := by
  unfold f_cHash_spread
  exact c_spread1 FU 0 h L (by omega) (by unfold FU; omega) (fun j hj => by omega)
