/-! Poly: the model's multiply -/
def AI (h : Hp) (x : Nat) (D : Nat → Int) (n : Nat) : Prop := ∀ i, i < n → hI h x i = D i
def cut0 (D : Nat → Int) (n : Nat) (i : Nat) : Int := if i < n then D i else 0
theorem cut_ge {D : Nat → Int} {n i : Nat} (h : n ≤ i) : cut0 D n i = 0 := if_neg (by omega)
theorem cut_lt {D : Nat → Int} {n i : Nat} (h : i < n) : cut0 D n i = D i := if_pos h
theorem cut_bd {D : Nat → Int} {n : Nat} (h : dgs D n) (i : Nat) : 0 ≤ cut0 D n i ∧ cut0 D n i ≤ 255 := by
  by_cases g : i < n
  · rw [cut_lt g]; have := h i g; omega
  · rw [cut_ge (by omega)]; decide
theorem cvs_bd {r a : Nat → Int} (hr : ∀ i, 0 ≤ r i ∧ r i ≤ 255) (ha : ∀ i, 0 ≤ a i ∧ a i ≤ 255) {k : Nat} : ∀ m, 0 ≤ cvs r a k m ∧ cvs r a k m ≤ (m : Int) * 65025
  | 0 => ⟨Int.le_refl _, by show (0 : Int) ≤ 0 * _; omega⟩
  | m + 1 => by
    have ih := cvs_bd hr ha (k := k) m
    have g := mul_bd (hr m).1 (hr m).2 (ha (k - m)).1 (ha (k - m)).2
    show 0 ≤ cvs r a k m + r m * a (k - m) ∧ cvs r a k m + r m * a (k - m) ≤ _
    generalize r m * a (k - m) = z at *
    generalize cvs r a k m = y at *
    omega
theorem cvs_16 {r a : Nat → Int} {k : Nat} : ∀ m, 16 ≤ m → cvs (cut0 r 16) a k m = cvs (cut0 r 16) a k 16
  | 0, h => by omega
  | m + 1, h => by
    by_cases e : m + 1 = 16
    · rw [e]
    · show cvs (cut0 r 16) a k m + cut0 r 16 m * a (k - m) = _
      rw [cut_ge (by omega), cvs_16 m (by omega)]
      omega
theorem m_b12 {s k : Nat} {r a : Nat → Int} {K4 : Nat → Int → Int → Hp → Option Hp} {Q : Hp → Prop} {y0 : Int} {h : Hp} (hk : k < 36) (br : dgs r 16) (ba : dgs a 18) (L : LSeals h s) (R : AI h (s + 20) r 16) (A : AI h (s + 19) a 18) (hy : 0 ≤ y0 ∧ y0 ≤ 5000) (kk : wp (f_mSeals_multiply_b59 K4 s (y0 + cvs (cut0 r 16) (cut0 a 18) k (k + 1)) (k : Int) h) Q) (f : Nat) : ∀ i, i ≤ 16 → i ≤ k + 1 → 16 - i < f → wp (f_mSeals_multiply_b12_lp K4 f s (y0 + cvs (cut0 r 16) (cut0 a 18) k i) (k : Int) (i : Int) h) Q := by
  induction f with
  | zero => intro i _ _ hf; omega
  | succ f ih =>
    intro i hi hik hf
    have l0 := L.1
    show wp (f_mSeals_multiply_b12 K4 (f_mSeals_multiply_b12_lp K4 f) s (y0 + cvs (cut0 r 16) (cut0 a 18) k i) (k : Int) (i : Int) h) Q
    unfold f_mSeals_multiply_b12
    by_cases h16 : (16 : Int) ≤ i
    · have : i = 16 := by omega
      subst this
      rw [if_pos h16, ← cvs_16 (k + 1) (by omega)]
      exact kk
    · rw [if_neg h16]
      by_cases hlt : (k : Int) < (i : Int)
      · rw [if_pos hlt, show i = k + 1 by omega]
        exact kk
      · rw [if_neg hlt]
        have e1 : w32 ((k : Int) - (i : Int)) = ((k - i : Nat) : Int) := by clear kk; unfold w32; omega
        simp only [e1, Int.toNat_natCast]
        clear e1
        have cb1 := cvs_bd (cut_bd br) (cut_bd ba) (k := k) i
        have step : ∀ z : Int, z = cut0 r 16 i * cut0 a 18 (k - i) → 0 ≤ z ∧ z ≤ 65025 → wp (f_mSeals_multiply_b51 K4 (f_mSeals_multiply_b12_lp K4 f) s (k : Int) (i : Int) (y0 + cvs (cut0 r 16) (cut0 a 18) k i) z h) Q := by
          intro z hz zb
          unfold f_mSeals_multiply_b51
          have e2 : w32 (y0 + cvs (cut0 r 16) (cut0 a 18) k i + z) = y0 + cvs (cut0 r 16) (cut0 a 18) k (i + 1) := by
            show _ = y0 + (cvs (cut0 r 16) (cut0 a 18) k i + cut0 r 16 i * cut0 a 18 (k - i))
            rw [← hz]
            clear hz kk
            generalize cvs (cut0 r 16) (cut0 a 18) k i = y at *
            rw [w32_id ⟨by omega, by omega⟩]
            omega
          rw [wp_lt1]
          simp only [e2, w_k1 (show i < 1000000000 by omega)]
          exact ih (i + 1) (by omega) (by omega) (by omega)
        have zb := mul_bd (cut_bd br i).1 (cut_bd br i).2 (cut_bd ba (k - i)).1 (cut_bd ba (k - i)).2
        by_cases h18 : (18 : Int) ≤ ((k - i : Nat) : Int)
        · rw [if_pos h18]
          refine step 0 ?_ (by decide)
          rw [cut_ge (D := a) (by omega), Int.mul_zero]
        · rw [if_neg h18, L.r20, L.r21, L.l19, L.l20, wp_cn]
          refine ⟨by omega, ?_⟩
          rw [wp_ck]
          refine ⟨ix16 (by omega), ?_⟩
          rw [wp_cn]
          refine ⟨by omega, ?_⟩
          rw [wp_ck]
          refine ⟨ix16 (by omega), ?_⟩
          rw [R i (by omega), A (k - i) (by omega)]
          rw [cut_lt (D := r) (by omega), cut_lt (D := a) (by omega)] at zb
          have e3 : w32 (r i * a (k - i)) = r i * a (k - i) := by
            clear kk step ih R A
            generalize r i * a (k - i) = z at *
            exact w32_id ⟨by omega, by omega⟩
          rw [e3]
          refine step _ ?_ (by clear kk step ih R A; omega)
          rw [cut_lt (D := r) (by omega), cut_lt (D := a) (by omega)]
/-- a chain of carries writes a row -/
def ChS (h : Hp) (x : Nat) (c D : Nat → Int) (k : Nat) (y : Int) : Prop := AI h x D k ∧ dgs D k ∧ dg D k + y * 256 ^ k = dg c k
theorem ChS.s {h : Hp} {x k : Nat} {c D : Nat → Int} {y v : Int} (C : ChS h x c D k y) (hv : v = (y + c k) % 256) : ChS (sI h x k v) x c (ud1 D k v) (k + 1) ((y + c k) / 256) := by
  obtain ⟨c1, c2, c3⟩ := C
  have e : dg (ud1 D k v) k = dg D k := dg_congr k (fun i hi => by unfold ud1; rw [if_neg (by omega)])
  have ev : ud1 D k v k = v := by unfold ud1; rw [if_pos rfl]
  refine ⟨fun i hi => ?_, fun i hi => ?_, ?_⟩
  · rw [hI_sI]
    unfold ud1
    by_cases g : i = k
    · rw [if_pos ⟨rfl, g⟩, if_pos g]
    · rw [if_neg (fun z => g z.2), if_neg g]; exact c1 i (by omega)
  · unfold ud1
    by_cases g : i = k
    · rw [if_pos g, hv]; omega
    · rw [if_neg g]; exact c2 i (by omega)
  · have := dg_step (D := ud1 D k v) (c := c) (k := k) (y := y) (y0 := 0) (by rw [e, Int.add_zero]; exact c3) (by rw [ev]; exact hv)
    rw [Int.add_zero] at this
    exact this
theorem ChS.done {h : Hp} {x n : Nat} {c D : Nat → Int} {y : Int} (C : ChS h x c D n y) (hy : 0 ≤ y) (hs : dg c n < 256 ^ n) : dg D n = dg c n := by
  obtain ⟨-, c2, c3⟩ := C
  have b := dg_lt n c2
  have hp := p256_pos n
  have : y = 0 := by
    by_cases g : y ≤ 0
    · omega
    · have := Int.mul_le_mul_of_nonneg_right (show (1 : Int) ≤ y by omega) (Int.le_of_lt hp)
      generalize y * 256 ^ n = w at *
      omega
  rw [this] at c3
  omega
theorem sh8 {y : Int} (h : 0 ≤ y ∧ y < 2000000000) : iAnd y 255 = y % 256 ∧ iShr y 8 = y / 256 := ⟨byte255 y, iShr_eq (n := 8) ⟨by omega, by omega⟩ (by decide)⟩
theorem m_b4 {s : Nat} {r a : Nat → Int} {Q : Hp → Prop} (br : dgs r 16) (ba : dgs a 18) (kk : ∀ h' D, LSeals h' s → AI h' (s + 21) D 36 → dgs D 36 → dg D 36 = dg r 16 * dg a 18 → wp (f_mSeals_multiply_b83_lp FU s 0 h') Q) (hsz : dg r 16 * dg a 18 < 256 ^ 36) (f : Nat) : ∀ (k : Nat) (y : Int) (D : Nat → Int) (h : Hp), k ≤ 36 → 36 - k < f → LSeals h s → AI h (s + 20) r 16 → AI h (s + 19) a 18 → ChS h (s + 21) (fun k => cvs (cut0 r 16) (cut0 a 18) k (k + 1)) D k y → 0 ≤ y ∧ y ≤ 5000 → wp (f_mSeals_multiply_b4_lp f s y (k : Int) h) Q := by
  induction f with
  | zero => intro k y D h _ hf; omega
  | succ f ih =>
    intro k y D h hk hf L R A C hy
    have l0 := L.1
    show wp (f_mSeals_multiply_b4 (f_mSeals_multiply_b4_lp f) s y (k : Int) h) Q
    unfold f_mSeals_multiply_b4
    have cm : dg (fun k => cvs (cut0 r 16) (cut0 a 18) k (k + 1)) 36 = dg r 16 * dg a 18 := by
      rw [cv_mul (fun i hi => cut_ge hi) (fun i hi => cut_ge hi), dg_congr (E := r) 16 (fun i hi => cut_lt hi), dg_congr (E := a) 18 (fun i hi => cut_lt hi)]
    by_cases h36 : (36 : Int) ≤ k
    · have : k = 36 := by omega
      subst this
      rw [if_pos h36]
      exact kk h D L C.1 C.2.1 (by rw [C.done hy.1 (by rw [cm]; exact hsz), cm])
    · rw [if_neg h36]
      have e0 : y = y + cvs (cut0 r 16) (cut0 a 18) k 0 := by show y = y + 0; omega
      have cb1 : 0 ≤ cvs (cut0 r 16) (cut0 a 18) k (k + 1) ∧ cvs (cut0 r 16) (cut0 a 18) k (k + 1) ≤ 1040400 := by
        by_cases g : k + 1 ≤ 16
        · have := cvs_bd (cut_bd br) (cut_bd ba) (k := k) (k + 1); omega
        · rw [cvs_16 (k + 1) (by omega)]
          have := cvs_bd (cut_bd br) (cut_bd ba) (k := k) 16; omega
      have fin : wp (f_mSeals_multiply_b59 (f_mSeals_multiply_b4_lp f) s (y + cvs (cut0 r 16) (cut0 a 18) k (k + 1)) (k : Int) h) Q := by
        unfold f_mSeals_multiply_b59
        rw [L.r22, L.l21, wp_cn]
        refine ⟨by omega, ?_⟩
        rw [wp_ck]
        refine ⟨ix16 (by omega), ?_⟩
        rw [wp_lt1, wp_lt1, Int.toNat_natCast]
        simp only [w_k1 (show k < 1000000000 by omega)]
        have C1 := C.s (v := iAnd (y + cvs (cut0 r 16) (cut0 a 18) k (k + 1)) 255) (sh8 (by omega)).1
        rw [(sh8 (y := y + cvs (cut0 r 16) (cut0 a 18) k (k + 1)) (by omega)).2]
        refine ih (k + 1) _ _ _ (by omega) (by omega) (L.of rsI lsI) (fun i hi => by rw [hI_sI, if_neg (by omega)]; exact R i hi) (fun i hi => by rw [hI_sI, if_neg (by omega)]; exact A i hi) C1 (by omega)
      have := m_b12 (K4 := f_mSeals_multiply_b4_lp f) (Q := Q) (show k < 36 by omega) br ba L R A hy fin FU 0 (by omega) (by omega) (by unfold FU; omega)
      rw [← e0] at this
      exact this
