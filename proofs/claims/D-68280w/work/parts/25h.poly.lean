/-! Poly: the class's end, whole -/
theorem c_e153 {a to at_ : Nat} {x y : Int} {h0 : Hp} (ht : to ≠ 0) (hz : at_ + 16 < 1000000000) (hx : c64 x) (hy : c64 y) (f : Nat) : ∀ (k : Nat) (h : Hp), k ≤ 8 → 8 - k < f → at_ + 16 ≤ ln h to → (∀ j, j < k → hI h to (at_ + j) = i8 (byt (x % 18446744073709551616) j) ∧ hI h to (at_ + 8 + j) = i8 (byt (y % 18446744073709551616) j)) → (∀ j, j < at_ ∨ at_ + 16 ≤ j → hI h to j = hI h0 to j) → wp (f_cTally_end_b153_lp f a to (at_ : Int) y x (k : Int) h) (fun h' => (∀ j, j < 8 → hI h' to (at_ + j) = i8 (byt (x % 18446744073709551616) j) ∧ hI h' to (at_ + 8 + j) = i8 (byt (y % 18446744073709551616) j)) ∧ ∀ j, j < at_ ∨ at_ + 16 ≤ j → hI h' to j = hI h0 to j) := by
  induction f with
  | zero => intro k h _ hf; omega
  | succ f ih =>
    intro k h hk hf hl D E
    show wp (f_cTally_end_b153 (f_cTally_end_b153_lp f) a to (at_ : Int) y x (k : Int) h) _
    unfold f_cTally_end_b153
    by_cases hx8 : (8 : Int) ≤ k
    · rw [if_pos hx8, wp_some]
      have : k = 8 := by omega
      subst this
      exact ⟨D, E⟩
    · have e1 : w32 ((at_ : Int) + (k : Int)) = ((at_ + k : Nat) : Int) := w_ck (by omega)
      have e2 : w32 ((at_ : Int) + 8) = ((at_ + 8 : Nat) : Int) := w_ck (k := 8) (by omega)
      have e3 : w32 (((at_ + 8 : Nat) : Int) + (k : Int)) = ((at_ + 8 + k : Nat) : Int) := w_ck (by omega)
      have e4 : w32 (8 * (k : Int)) = ((8 * k : Nat) : Int) := w_4k (c := 8) (by omega)
      simp only [e1, e2, e3, e4, w_k1 (show k < 1000000000 by omega), Int.toNat_natCast, byt_lo hx (show k < 8 by omega), byt_lo hy (show k < 8 by omega)]
      clear e1 e2 e3 e4
      rw [if_neg hx8, wp_cn]
      refine ⟨ht, ?_⟩
      rw [wp_ck]
      refine ⟨ix16 (by omega), ?_⟩
      rw [wp_lt1, wp_ck, ln_sI]
      refine ⟨ix16 (by omega), ?_⟩
      rw [wp_lt1]
      refine ih (k + 1) _ (by omega) (by omega) hl (fun j hj => ?_) (fun j hj => ?_)
      · rw [hI_sI, hI_sI, hI_sI, hI_sI]
        by_cases he : j = k
        · subst he
          rw [if_neg (by omega), if_pos ⟨rfl, rfl⟩, if_pos ⟨rfl, rfl⟩]
          exact ⟨rfl, rfl⟩
        · rw [if_neg (by omega), if_neg (by omega), if_neg (by omega), if_neg (by omega)]
          exact D j (by omega)
      · rw [hI_sI, if_neg (by omega), hI_sI, if_neg (by omega)]; exact E j hj
theorem c_e60 {a to at_ : Nat} {W : Nat → Int} {h : Hp} (L : LTal h a) (J : JS h (a + 1) W) (b : lb W 67108864) (ht : to ≠ 0) (hz : at_ + 16 < 900000000) (hl : at_ + 16 ≤ ln h to) {s0 s1 : Int} (h0 : hJ h a 5 % 18446744073709551616 = s0) (h1 : hJ h a 6 % 18446744073709551616 = s1) :
    wp (f_cTally_end_b60 a to (at_ : Int) h) (fun h' => (∀ j, j < 16 → hI h' to (at_ + j) = i8 (byt (val W + s0 + s1 * 18446744073709551616) j)) ∧ ∀ j, j < at_ ∨ at_ + 16 ≤ j → hI h' to j = hI h to j) := by
  have l0 := L.1
  obtain ⟨A, Bq⟩ := c_ab b
  have v0 := val_lt b
  unfold f_cTally_end_b60
  rw [L.r0_0, L.l1, wp_cn]
  refine ⟨by omega, ?_⟩
  rw [wp_ck, wp_ck, wp_ck]
  refine ⟨⟨by decide, by decide⟩, ⟨by decide, by decide⟩, ⟨by decide, by decide⟩, ?_⟩
  rw [wp_lt1, wp_ck, wp_ck, wp_ck]
  refine ⟨⟨by decide, by decide⟩, ⟨by decide, by decide⟩, ⟨by decide, by decide⟩, ?_⟩
  simp only [show Int.toNat 0 = 0 from rfl, show Int.toNat 1 = 1 from rfl, show Int.toNat 2 = 2 from rfl, show Int.toNat 3 = 3 from rfl, show Int.toNat 4 = 4 from rfl, J 0 (by omega), J 1 (by omega), J 2 (by omega), J 3 (by omega), J 4 (by omega)]
  have cA : c64 (lOr (lOr (W 0) (lShl (W 1) 26)) (lShl (W 2) 52)) := c64_toInt _
  generalize lOr (lOr (W 0) (lShl (W 1) 26)) (lShl (W 2) 52) = x at *
  generalize lOr (lOr (lUshr (W 2) 12) (lShl (W 3) 14)) (lShl (W 4) 40) = y at *
  generalize val W = V at *
  generalize hJ h a 5 = p at *
  generalize hJ h a 6 = q at *
  rw [wp_lt1, wp_lt1]
  obtain ⟨r, er, hr⟩ := c_cmpU (w64 (x + p)) x h (c64_w _) cA
  rw [er, b2_some]
  clear er J
  have fin : ∀ c : Int, (c = if 0 ≤ r then 0 else 1) → wp (f_cTally_end_b146 a to (at_ : Int) (w64 (x + p)) y q c h) (fun h' => (∀ j, j < 16 → hI h' to (at_ + j) = i8 (byt (V + s0 + s1 * 18446744073709551616) j)) ∧ ∀ j, j < at_ ∨ at_ + 16 ≤ j → hI h' to j = hI h to j) := by
    intro c hc
    unfold f_cTally_end_b146
    rw [wp_lt1]
    refine wp_of (c_e153 (h0 := h) ht (by omega) (c64_w _) (c64_w _) FU 0 h (by omega) (by unfold FU; omega) hl (fun j hj => by omega) (fun j hj => rfl)) (fun h' _ w => ⟨fun j hj => ?_, w.2⟩)
    have E1 : w64 (x + p) % 18446744073709551616 = (V + s0 + s1 * 18446744073709551616) % 18446744073709551616 := by
      clear hr hc w
      unfold w64
      omega
    have E2 : w64 (y + w64 (q + c)) % 18446744073709551616 = (V + s0 + s1 * 18446744073709551616) / 18446744073709551616 % 18446744073709551616 := by
      rw [E1, A] at hr
      clear E1 w
      have hcc : c = if V % 18446744073709551616 ≤ (V + s0 + s1 * 18446744073709551616) % 18446744073709551616 then 0 else 1 := by
        rw [hc]
        by_cases g : 0 ≤ r
        · rw [if_pos g, if_pos (hr.mp g)]
        · rw [if_neg g, if_neg (fun z => g (hr.mpr z))]
      clear hr hc
      have e1 : w64 (y + w64 (q + c)) % 18446744073709551616 = (y % 18446744073709551616 + q % 18446744073709551616 + c) % 18446744073709551616 := by
        clear hcc; unfold w64; omega
      rw [e1, Bq, h1]
      have s0b : 0 ≤ s0 ∧ s0 < 18446744073709551616 := by omega
      clear e1 Bq A h0 h1 cA
      split at hcc <;> subst hcc <;> omega
    by_cases hj8 : j < 8
    · rw [(w.1 j hj8).1, E1, (byt_split hj8).1]
    · have := (w.1 (j - 8) (by omega)).2
      rw [show at_ + 8 + (j - 8) = at_ + j by omega, E2, (byt_split (by omega)).2, show 8 + (j - 8) = j by omega] at this
      exact this
  by_cases g : 0 ≤ r
  · rw [if_pos g]; exact fin 0 (by rw [if_pos g])
  · rw [if_neg g]; exact fin 1 (by rw [if_neg g])
theorem c_tend {a to at_ n : Nat} {F B : Nat → Int} {h : Hp} (L : LTal h a) (T : TS h a F n B) (hn : n % 16 = 0) (ht : to ≠ 0) (hz : at_ + 16 < 900000000) (hl : at_ + 16 ≤ ln h to) (hd : to < a ∨ a + 4 < to) {s0 s1 : Int} (h0 : hJ h a 5 % 18446744073709551616 = s0) (h1 : hJ h a 6 % 18446744073709551616 = s1) :
    wp (f_cTally_end a to (at_ : Int) h) (fun h' => (∀ j, j < 16 → hI h' to (at_ + j) = i8 (byt (pAcc (val F) B (n / 16) + s0 + s1 * 18446744073709551616) j)) ∧ ∀ j, j < at_ ∨ at_ + 16 ≤ j → hI h' to j = hI h to j) := by
  have l0 := L.1
  obtain ⟨-, ⟨S, J, N, V⟩, u, -⟩ := T
  unfold f_cTally_end
  rw [if_pos (by rw [u, hn]; decide)]
  clear u
  unfold f_cTally_end_b13
  have b0 : lb S 2305843009213693952 := fun i hi => by
    by_cases z : i = 0
    · subst z; have := N.1; omega
    · have := N.2 i (by omega) hi; omega
  have cf : ∀ {g g' : Hp}, LTal g a → f_cTally_carry a g = some g' → (hR g' = hR g ∧ ln g' = ln g) ∧ (∀ x k, hI g' x k = hI g x k) ∧ (∀ x k, x ≠ a + 1 → hJ g' x k = hJ g x k) := fun {g g'} Lg e => by
    have F : Fe (wI_cTally_carry a g) (wJ_cTally_carry a g) g g' := fe_cTally_carry a g _ e
    exact ⟨⟨F.r, F.l⟩, fun x k => F.I (fun z => z), fun x k hx => F.J (by simp only [wJ_cTally_carry, Lg.r0_0]; exact hx)⟩
  refine wp_b1o (c_carry L J b0) (fun g1 e1 q1 => ?_)
  have F1 := cf L e1
  have L1 := L.of F1.1.1 F1.1.2
  have b1 : lb (CR S) 2305843009213693952 := by
    have c := CR_lb b0 (by decide)
    intro i hi
    by_cases z : i = 0
    · subst z; have := c.1; omega
    · have := c.2 i (by omega) hi; omega
  refine wp_b1o (c_carry L1 q1 b1) (fun g2 e2 q2 => ?_)
  have F2 := cf L1 e2
  have L2 := L1.of F2.1.1 F2.1.2
  have b2 : lb (CR (CR S)) 67108864 := CR4 N
  have V2 : val (CR (CR S)) % PP = pAcc (val F) B (n / 16) := by rw [CR_mod, CR_mod]; exact V
  have i2 : ∀ x k, hI g2 x k = hI h x k := fun x k => by rw [F2.2.1, F1.2.1]
  have j5 : hJ g2 a 5 % 18446744073709551616 = s0 := by rw [F2.2.2 _ _ (by omega), F1.2.2 _ _ (by omega)]; exact h0
  have j6 : hJ g2 a 6 % 18446744073709551616 = s1 := by rw [F2.2.2 _ _ (by omega), F1.2.2 _ _ (by omega)]; exact h1
  have hl2 : at_ + 16 ≤ ln g2 to := by rw [F2.1.2, F1.1.2]; exact hl
  clear q1 e1 e2 F1 F2 L1 b0 b1 J N V cf h0 h1 hl
  generalize CR (CR S) = W at *
  obtain ⟨r, er, hr, hw⟩ := c_whole L2 q2 b2
  rw [er, b2_some]
  clear er
  have vl := val_lt b2
  by_cases g : PP ≤ val W
  · have r1 := hw.mpr g
    rw [if_neg (by omega), L2.r0_0, L2.l1, wp_cn]
    refine ⟨by omega, ?_⟩
    rw [wp_ck, wp_ck]
    refine ⟨⟨by decide, by decide⟩, ⟨by decide, by decide⟩, ?_⟩
    obtain ⟨g0, g1', g2', g3, g4⟩ := (whole_iff b2).mp g
    have w0 := b2 0 (by omega)
    rw [wp_lt1, show Int.toNat 0 = 0 from rfl, q2 0 (by omega), w64_id (x := W 0 - 67108859) ⟨by omega, by omega⟩]
    have L3 : LTal (sJ g2 (a + 1) 0 (W 0 - 67108859)) a := L2.of rsJ lsJ
    have e := lq_cTally_end_b42 (v0 := a) (v1 := to) (v2 := (at_ : Int)) FU 1 (sJ g2 (a + 1) 0 (W 0 - 67108859)) (by omega) (by unfold FU; omega) (by omega) (by rw [L3.r0_0]; omega) (by rw [L3.r0_0, L3.l1]; intro j _ hj; exact ix16 hj)
    have e' : f_cTally_end_b42_lp FU a to (at_ : Int) 1 (sJ g2 (a + 1) 0 (W 0 - 67108859)) = _ := e
    rw [e', L3.r0_0]
    clear e e'
    unfold lx_cTally_end_b42
    have J4 : JS (fJ (sJ g2 (a + 1) 0 (W 0 - 67108859)) (a + 1) 0 1 5 (fun _ => 0)) (a + 1) (fun i => if i = 0 then W 0 - 67108859 else 0) := fun i hi => by
      rw [hJ_fJ, hJ_sJ]
      by_cases z : i = 0
      · subst z; rw [if_neg (by omega), if_pos ⟨rfl, rfl⟩]; rfl
      · rw [if_pos ⟨rfl, by omega, by omega⟩]; exact (if_neg z).symm
    have vW : val (fun i => if i = 0 then W 0 - 67108859 else 0) = pAcc (val F) B (n / 16) := by
      rw [← V2]
      show (W 0 - 67108859) + 0 * 67108864 + 0 * 4503599627370496 + 0 * 302231454903657293676544 + 0 * 20282409603651670423947251286016 = _
      unfold val
      rw [g1', g2', g3, g4]
      unfold PP
      omega
    refine wp_of (c_e60 (W := fun i => if i = 0 then W 0 - 67108859 else 0) (L3.of rfJ lfJ) J4 (fun i hi => ?_) ht hz hl2 (s0 := s0) (s1 := s1) ?_ ?_) (fun h' _ w => ?_)
    · show 0 ≤ (if i = 0 then W 0 - 67108859 else 0) ∧ (if i = 0 then W 0 - 67108859 else 0) < 67108864
      by_cases z : i = 0
      · rw [if_pos z]; omega
      · rw [if_neg z]; decide
    · rw [hJ_fJ, if_neg (by omega), hJ_sJ, if_neg (by omega)]; exact j5
    · rw [hJ_fJ, if_neg (by omega), hJ_sJ, if_neg (by omega)]; exact j6
    · rw [vW] at w
      exact ⟨w.1, fun j hj => by rw [w.2 j hj]; exact i2 _ _⟩
  · have r0 : r = 0 := by
      rcases hr with z | z
      · exact z
      · exact absurd (hw.mp z) g
    rw [if_pos r0]
    have vW : val W = pAcc (val F) B (n / 16) := by rw [← V2, Int.emod_eq_of_lt vl.1 (by omega)]
    refine wp_of (c_e60 L2 q2 b2 ht hz hl2 j5 j6) (fun h' _ w => ?_)
    rw [vW] at w
    exact ⟨w.1, fun j hj => by rw [w.2 j hj]; exact i2 _ _⟩
