/-! Poly: the model's tallyOf, whole -/
theorem byt_128 {T U : Int} (h : T % 340282366920938463463374607431768211456 = U % 340282366920938463463374607431768211456) {j : Nat} (hj : j < 16) : byt T j = byt U j := by
  have key : ∀ V : Int, byt V j = V % 340282366920938463463374607431768211456 / 256 ^ j % 256 := by
    intro V
    unfold byt
    have p8 : (2 : Int) ^ (8 * j) = 256 ^ j := by rw [Int.pow_mul]; rfl
    rw [p8]
    have hp := p256_pos j
    have d : (340282366920938463463374607431768211456 : Int) = 256 ^ j * (256 * 256 ^ (15 - j)) := by
      rw [← p256, ← Int.pow_add, show j + (15 - j + 1) = 16 by omega]; decide
    have t : V = V % 340282366920938463463374607431768211456 + 340282366920938463463374607431768211456 * (V / 340282366920938463463374607431768211456) := by omega
    generalize V % 340282366920938463463374607431768211456 = u at *
    generalize V / 340282366920938463463374607431768211456 = v at *
    rw [t, d, Int.mul_assoc, Int.add_mul_ediv_left _ _ (by omega), Int.mul_assoc, Int.add_mul_emod_self_left]
  rw [key, key, h]
/-- the last sum: five more, to see whether it is above -/
theorem m_t193 {s : Nat} {a N : Nat → Int} {h0 : Hp} (ba : dgs a 36) (hs : dg a 36 < 1361129467683753853853498429727072845824) (bN : dgs N 16) (hN : ∀ i, i < 16 → hI h0 (s + 18) (16 + i) = N i) (hA : AI h0 (s + 19) a 36) (f : Nat) : ∀ (k : Nat) (y : Int) (D : Nat → Int) (h : Hp), k ≤ 17 → 17 - k < f → LSeals h s → (∀ x k, x ≠ s + 21 → hI h x k = hI h0 x k) → AI h (s + 21) D k → dgs D k → dg D k + y * 256 ^ k = dg a k + 5 → 0 ≤ y ∧ y ≤ 5000 → wp (f_mSeals_tallyOf_b193_lp f s y (k : Int) h) (TgQ s (dg a 36 % PP + dg N 16)) := by
  induction f with
  | zero => intro k y D h _ hf; omega
  | succ f ih =>
    intro k y D h hk hf L E A bD V hy
    have l0 := L.1
    show wp (f_mSeals_tallyOf_b193 (f_mSeals_tallyOf_b193_lp f) s y (k : Int) h) _
    unfold f_mSeals_tallyOf_b193
    by_cases h17 : (17 : Int) ≤ k
    · have : k = 17 := by omega
      subst this
      have a17 : dg a 36 = dg a 17 := (dg_small (m := 17) (n := 19) ba (by show dg a 36 < 256 ^ 17; rw [show (256 : Int) ^ 17 = 87112285931760246646623899502532662132736 from by decide]; omega)).1
      have a0 := dg_lt 36 ba
      have b17 := dg_lt 17 bD
      rw [show (256 : Int) ^ 17 = 87112285931760246646623899502532662132736 from by decide] at V b17
      have y0 : y = 0 := by clear ih E A; omega
      have v17 : dg D 17 = dg a 36 + 5 := by clear ih E A; omega
      have s17 : dg D 17 = dg D 16 + D 16 * 340282366920938463463374607431768211456 := by
        show dg D 16 + D 16 * 256 ^ 16 = _
        rw [show (256 : Int) ^ 16 = 340282366920938463463374607431768211456 from by decide]
      have t17 : dg a 17 = dg a 16 + a 16 * 340282366920938463463374607431768211456 := by
        show dg a 16 + a 16 * 256 ^ 16 = _
        rw [show (256 : Int) ^ 16 = 340282366920938463463374607431768211456 from by decide]
      have b16 := dg_lt (D := D) 16 (fun i hi => bD i (by omega))
      have c16 := dg_lt (D := a) 16 (fun i hi => ba i (by omega))
      rw [show (256 : Int) ^ 16 = 340282366920938463463374607431768211456 from by decide] at b16 c16
      rw [a17] at v17 hs a0 ⊢
      rw [if_pos h17, L.r22, L.l21, wp_cn]
      refine ⟨by omega, ?_⟩
      rw [wp_ck]
      refine ⟨⟨by decide, by decide⟩, ?_⟩
      rw [show Int.toNat 16 = 16 from rfl, A 16 (by omega)]
      have hD16 := bD 16 (by omega)
      unfold f_mSeals_tallyOf_b246
      by_cases g : D 16 < 4
      · rw [if_pos g]
        have vm : dg a 17 % PP = dg a 17 := Int.emod_eq_of_lt a0.1 (by unfold PP; clear ih E A; omega)
        refine wp_of (m_t252 (X := a) (N := N) (Or.inl rfl) (fun i hi => ba i (by omega)) bN FU 0 0 (fun _ => 0) h (by omega) (by unfold FU; omega) L (fun i hi => by rw [if_pos rfl, E _ _ (by omega)]; exact hA i (by omega)) (fun i hi => by rw [E _ _ (by omega)]; exact hN i hi) ⟨fun i hi => by omega, fun i hi => by omega, by show (0 : Int) + 0 * 1 = 0; decide⟩ (by decide)) (fun h' _ q j hj => ?_)
        rw [q j hj]
        refine byt_128 ?_ hj
        rw [vm, t17]
        clear ih E A q
        omega
      · rw [if_neg g]
        have vm : dg a 17 % PP = dg a 17 - PP := by
          have : dg a 17 = dg a 17 - PP + PP * 1 := by omega
          rw [this, Int.add_mul_emod_self_left]
          have h1 : 0 ≤ dg a 17 - PP ∧ dg a 17 - PP < PP := by unfold PP; clear ih E A; omega
          rw [Int.emod_eq_of_lt h1.1 h1.2]
          omega
        refine wp_of (m_t252 (X := D) (N := N) (Or.inr rfl) (fun i hi => bD i (by omega)) bN FU 0 0 (fun _ => 0) h (by omega) (by unfold FU; omega) L (fun i hi => by rw [if_neg (by decide)]; exact A i (by omega)) (fun i hi => by rw [E _ _ (by omega)]; exact hN i hi) ⟨fun i hi => by omega, fun i hi => by omega, by show (0 : Int) + 0 * 1 = 0; decide⟩ (by decide)) (fun h' _ q j hj => ?_)
        rw [q j hj]
        refine byt_128 ?_ hj
        rw [vm]
        unfold PP
        clear ih E A q
        omega
    · rw [if_neg h17, L.r20, L.l19, wp_cn, Int.toNat_natCast]
      refine ⟨by omega, ?_⟩
      rw [wp_ck]
      refine ⟨ix16 (by omega), ?_⟩
      have ab := ba k (by omega)
      have ea : hI h (s + 19) k = a k := by rw [E _ _ (by omega)]; exact hA k (by omega)
      have e3 : w32 (y + a k) = y + a k := by
        clear ih E A ea V
        generalize a k = u at *
        exact w32_id ⟨by omega, by omega⟩
      rw [ea, wp_lt1]
      simp only [e3, w_k1 (show k < 1000000000 by omega)]
      clear e3 ea
      rw [L.r22, L.l21, wp_cn]
      refine ⟨by omega, ?_⟩
      rw [wp_ck]
      refine ⟨ix16 (by omega), ?_⟩
      rw [wp_lt1, wp_lt1, (sh8 (y := y + a k) (by omega)).1, (sh8 (y := y + a k) (by omega)).2]
      have e : dg (ud1 D k ((y + a k) % 256)) k = dg D k := dg_congr k (fun i hi => by unfold ud1; rw [if_neg (by omega)])
      have ev : ud1 D k ((y + a k) % 256) k = (y + a k) % 256 := by unfold ud1; rw [if_pos rfl]
      refine ih (k + 1) _ (ud1 D k ((y + a k) % 256)) _ (by omega) (by omega) (L.of rsI lsI) (fun x j hx => by rw [hI_sI, if_neg (fun z => hx z.1)]; exact E x j hx) (fun i hi => ?_) (fun i hi => ?_) (dg_step (by rw [e]; exact V) ev) (by omega)
      · rw [hI_sI]
        unfold ud1
        by_cases g : i = k
        · rw [if_pos ⟨rfl, g⟩, if_pos g]
        · rw [if_neg (fun z => g z.2), if_neg g]; exact A i (by omega)
      · unfold ud1
        by_cases g : i = k
        · rw [if_pos g]; omega
        · rw [if_neg g]; exact bD i (by omega)
theorem MulF {s : Nat} {h h' : Hp} (L : LSeals h s) (e : f_mSeals_multiply s h = some h') : (hR h' = hR h ∧ ln h' = ln h) ∧ ∀ x k, x ≠ s + 19 → x ≠ s + 21 → hI h' x k = hI h x k := by
  have F : Fe (wI_mSeals_multiply s h) (wJ_mSeals_multiply s h) h h' := fe_mSeals_multiply s h _ e
  exact ⟨⟨F.r, F.l⟩, fun x k h1 h2 => F.I (by simp only [wI_mSeals_multiply, L.r20, L.r22]; intro z; rcases z with z | z <;> omega)⟩
theorem m_t97 {s m : Nat} {K Z N : Nat → Int} {h0 : Hp} (hm : 16 * m ≤ 2400) (bZ : ∀ j, j < 16 * m → 0 ≤ Z j ∧ Z j < 256) (hZ : ∀ j, j < 16 * m → hI h0 (s + 23) j = Z j) (bN : dgs N 16) (hN : ∀ i, i < 16 → hI h0 (s + 18) (16 + i) = N i) (hR0 : AI h0 (s + 20) (cb K) 16) (f : Nat) : ∀ (i : Nat) (a : Nat → Int) (h : Hp), i ≤ m → m - i < f → LSeals h s → (∀ x k, x ≠ s + 19 → x ≠ s + 21 → hI h x k = hI h0 x k) → AI h (s + 19) a 36 → dgs a 36 → dg a 36 < 1361129467683753853853498429727072845824 → dg a 36 % PP = pAcc (pR_ K) Z i → wp (f_mSeals_tallyOf_b97_lp f s ((16 * m : Nat) : Int) ((16 * i : Nat) : Int) h) (TgQ s (pAcc (pR_ K) Z m + dg N 16)) := by
  induction f with
  | zero => intro i a h _ hf; omega
  | succ f ih =>
    intro i a h hi hf L E A ba sa V
    have l0 := L.1
    show wp (f_mSeals_tallyOf_b97 (f_mSeals_tallyOf_b97_lp f) s ((16 * m : Nat) : Int) ((16 * i : Nat) : Int) h) _
    unfold f_mSeals_tallyOf_b97
    by_cases hx : ((16 * m : Nat) : Int) ≤ ((16 * i : Nat) : Int)
    · have : i = m := by omega
      subst this
      rw [if_pos hx, ← V]
      exact m_t193 (h0 := h) ba sa bN (fun j hj => by rw [E _ _ (by omega) (by omega)]; exact hN j hj) A FU 0 5 (fun _ => 0) h (by omega) (by unfold FU; omega) L (fun _ _ _ => rfl) (fun i hi => by omega) (fun i hi => by omega) (by show (0 : Int) + 5 * 1 = 0 + 5; decide) (by decide)
    · rw [if_neg hx]
      have a18 : dg a 36 = dg a 18 := (dg_small (m := 18) (n := 18) ba (by show dg a 36 < 256 ^ 18; rw [show (256 : Int) ^ 18 = 22300745198530623141535718272648361505980416 from by decide]; omega)).1
      have bZi : dgs (fun j => Z (16 * i + j)) 16 := fun j hj => bZ _ (by omega)
      have zlt := dg_lt 16 bZi
      have av := add_val a (fun j => Z (16 * i + j))
      rw [show (256 : Int) ^ 16 = 340282366920938463463374607431768211456 from by decide] at zlt
      refine m_t107 (h0 := h) (Z := fun j => Z (16 * i + j)) ba bZi (Or.inr trivial) (fun j hj => by rw [E _ _ (by omega) (by omega)]; exact hZ _ (by omega)) (by omega) (by rw [av, show (256 : Int) ^ 18 = 22300745198530623141535718272648361505980416 from by decide]; omega) (fun h1 D L1 E1 A1 b1 v1 => ?_) FU 0 0 (fun _ => 0) h (by omega) (by unfold FU; omega) L (fun _ _ _ => rfl) (fun j _ hj => A j hj) ⟨fun i hi => by omega, fun i hi => by omega, by show (0 : Int) + 0 * 1 = 0; decide⟩ (by decide)
      rw [av] at v1
      refine wp_b1o (m_multiply L1 (fun j hj => by rw [E1 _ _ (by omega), E _ _ (by omega) (by omega)]; exact hR0 j hj) A1 (cb_dgs K) b1 (cb_val K).2 (by rw [v1]; omega)) (fun h2 e2 q2 => ?_)
      obtain ⟨D2, A2, b2, s2, w2⟩ := q2
      have F2 := MulF L1 e2
      have ew : w32 (((16 * i : Nat) : Int) + 16) = ((16 * (i + 1) : Nat) : Int) := by clear w2 v1 V; unfold w32; omega
      simp only [ew]
      clear ew
      refine ih (i + 1) D2 h2 (by omega) (by omega) (L1.of F2.1.1 F2.1.2) (fun x k g1 g2 => by rw [F2.2 x k g1 g2, E1 _ _ g1, E _ _ g1 g2]) A2 b2 s2 ?_
      rw [w2, v1, (cb_val K).1, Int.mul_comm]
      show _ = ((pAcc (pR_ K) Z i + (le8 Z (16 * i) + le8 Z (16 * i + 8) * 18446744073709551616) + 340282366920938463463374607431768211456) * pR_ K) % PP
      rw [dg16 bZi, le8_sh, le8_sh, Nat.add_zero, ← a18, Int.add_assoc, Int.add_assoc (pAcc _ _ _)]
      exact modPP V
theorem m_tallyOf {s m : Nat} {K Z : Nat → Int} {h : Hp} (L : LSeals h s) (hm : 16 * m ≤ 2400) (bK : ∀ i, i < 32 → (0 ≤ hI h (s + 18) i ∧ hI h (s + 18) i < 256) ∧ hI h (s + 18) i = K i % 256) (bZ : ∀ j, j < 16 * m → 0 ≤ Z j ∧ Z j < 256) (hZ : ∀ j, j < 16 * m → hI h (s + 23) j = Z j) : wp (f_mSeals_tallyOf s ((16 * m : Nat) : Int) h) (fun h' => ∀ j, j < 16 → hI h' (s + 22) j = byt (pAcc (pR_ K) Z m + le8 K 16 + le8 K 24 * 18446744073709551616) j) := by
  have l0 := L.1
  unfold f_mSeals_tallyOf
  refine m_t2 (n := 16 * m) (K := K) (h0 := h) (fun i hi => bK i (by omega)) (fun h1 L1 A1 E1 => ?_) FU 0 h (by omega) (by unfold FU; omega) L (fun i hi => by omega) (fun _ _ _ => rfl)
  have e := lq_mSeals_tallyOf_b76 (v0 := s) (v1 := ((16 * m : Nat) : Int)) FU 0 h1 (by omega) (by unfold FU; omega) (by omega) (by rw [L1.r20]; omega) (by rw [L1.r20, L1.l19]; intro j _ hj; exact ix16 (by omega))
  have e' : f_mSeals_tallyOf_b76_lp FU s ((16 * m : Nat) : Int) 0 h1 = _ := e
  rw [e', L1.r20]
  clear e e'
  unfold lx_mSeals_tallyOf_b76
  have bN : dgs (fun i => K (16 + i) % 256) 16 := fun i hi => by show 0 ≤ K (16 + i) % 256 ∧ K (16 + i) % 256 < 256; omega
  have eN : dg (fun i => K (16 + i) % 256) 16 = le8 K 16 + le8 K 24 * 18446744073709551616 := by
    rw [dg16 bN, show le8 (fun i => K (16 + i) % 256) 0 = le8 K 16 from le8_congr (fun i _ => by show K (16 + (0 + i)) % 256 % 256 = _; rw [Int.emod_emod, Nat.zero_add]), show le8 (fun i => K (16 + i) % 256) 8 = le8 K 24 from le8_congr (fun i _ => by show K (16 + (8 + i)) % 256 % 256 = _; rw [Int.emod_emod, ← Nat.add_assoc])]
  rw [Int.add_assoc, ← eN]
  have z36 : dg (fun _ => (0 : Int)) 36 = 0 := by rw [dg_z (m := 0) 36 (by omega) (fun _ _ _ => rfl)]; rfl
  refine m_t97 (m := m) (K := K) (Z := Z) (h0 := fI h1 (s + 19) 0 0 40 (fun _ => 0)) hm bZ (fun j hj => ?_) bN (fun i hi => ?_) (fun i hi => ?_) FU 0 (fun _ => 0) _ (by omega) (by unfold FU; omega) (L1.of rfI lfI) (fun _ _ _ _ => rfl) (fun i hi => ?_) (fun i hi => ⟨by show (0 : Int) ≤ 0; decide, by show (0 : Int) < 256; decide⟩) (by rw [z36]; decide) (by rw [z36]; rfl)
  · rw [hI_fI, if_neg (by omega), E1 _ _ (by omega)]; exact hZ j hj
  · rw [hI_fI, if_neg (by omega), E1 _ _ (by omega)]; exact (bK (16 + i) (by omega)).2
  · rw [hI_fI, if_neg (by omega)]; exact A1 i hi
  · rw [hI_fI, if_pos ⟨rfl, by omega, by omega⟩]
