theorem c_rounds {a : Nat} {W H : Nat → BitVec 32} (n : Nat) : ∀ (t : Nat) (v1 v2 v3 v4 v5 v6 v7 v8 : Int) (h : Hp), LHash h a → SC h → t ≤ 64 → 64 - t < n → (∀ j, j < 64 → bv (hI h (a + 2) j) = W j) →
    bv v1 = shN W H t 0 → bv v2 = shN W H t 1 → bv v3 = shN W H t 2 → bv v4 = shN W H t 3 → bv v5 = shN W H t 4 → bv v6 = shN W H t 5 → bv v7 = shN W H t 6 → bv v8 = shN W H t 7 → (∀ i, i < 8 → bv (hI h (a + 1) i) = H i) →
    wp (f_cHash_work_b70_lp n a v1 v2 v3 v4 v5 v6 v7 v8 (t : Int) h) (fun h' => ∀ i, i < 8 → bv (hI h' (a + 1) i) = H i + shN W H 64 i ∧ c32 (hI h' (a + 1) i)) := by
  induction n with
  | zero => intro t v1 v2 v3 v4 v5 v6 v7 v8 h _ _ _ hn; omega
  | succ n ih =>
    intro t v1 v2 v3 v4 v5 v6 v7 v8 h L S h2 hn hW g1 g2 g3 g4 g5 g6 g7 g8 hH
    show wp (f_cHash_work_b70 (f_cHash_work_b70_lp n) a v1 v2 v3 v4 v5 v6 v7 v8 t h) _
    unfold f_cHash_work_b70
    have L' := L
    obtain ⟨l0, l1, l2, l3, l4, l5, l6⟩ := L'
    have S' := S
    obtain ⟨⟨s1, s2, s3, s4⟩, s5, s6⟩ := S'
    by_cases ht : (64 : Int) ≤ t
    · have : t = 64 := by omega
      subst this
      rw [if_pos ht]
      simp only [wp_some, wp_lt1, wp_b1, wp_b2, wp_ck, wp_cn, hI_sI, hJ_sJ, hR_sR, hI_sJ, hI_sR, hJ_sI, hJ_sR, hR_sI, hR_sJ, ln_sI, ln_sJ, ln_sR, kd_sI, kd_sJ, kd_sR, hN_sI, hN_sJ, hN_sR, hZ_sI, hZ_sJ, hZ_sR, l1, l4]
      repeat' apply And.intro
      any_goals omega
      intro i hi
      have hi' : i = 0 ∨ i = 1 ∨ i = 2 ∨ i = 3 ∨ i = 4 ∨ i = 5 ∨ i = 6 ∨ i = 7 := by omega
      rcases hi' with rfl | rfl | rfl | rfl | rfl | rfl | rfl | rfl
      all_goals simp [bv_w32, bv_add, hH, g1, g2, g3, g4, g5, g6, g7, g8]
      all_goals exact c32_w _
    · rw [if_neg ht]
      have e1 : w32 ((t : Int) + 1) = ((t + 1 : Nat) : Int) := by unfold w32; omega
      simp only [wp_some, wp_lt1, wp_b1, wp_b2, wp_ck, wp_cn, f_jInteger_rotateRight, s2, s4, l2, l5, e1, Int.toNat_natCast]
      clear e1
      refine ⟨by omega, ⟨by omega, by omega⟩, by omega, ⟨by omega, by omega⟩, ?_⟩
      have hp : bv (w32 (w32 (w32 (w32 (v8 + iXor (iXor (iOr (iUshr v5 6) (iShl v5 (w32 (-6)))) (iOr (iUshr v5 11) (iShl v5 (w32 (-11))))) (iOr (iUshr v5 25) (iShl v5 (w32 (-25))))) + iXor v7 (iAnd v5 (iXor v6 v7))) + hI h 32 t) + hI h (a + 2) t)) = shP W (shN W H t) t := by
        simp only [bv_w32, bv_add, bv_iXor, bv_iAnd, bv_rot6, bv_rot11, bv_rot25, s6, hW t (by omega), g5, g6, g7, g8]
        rfl
      refine ih (t + 1) _ _ _ _ _ _ _ _ h L S (by omega) (by omega) hW ?_ g1 g2 g3 ?_ g5 g6 g7 hH
      · show _ = shS W (shN W H t) t 0
        rw [bv_w32, bv_add, hp]
        simp only [bv_w32, bv_add, bv_iXor, bv_rot2, bv_rot13, bv_rot22]
        simp only [bv_iAnd, bv_iOr, g1, g2, g3]
        rfl
      · show _ = shS W (shN W H t) t 4
        rw [bv_w32, bv_add, hp, g4]
        rfl
theorem LHash.fe {A B : Nat → Nat → Prop} {h h' : Hp} (F : Fe A B h h') {a : Nat} (L : LHash h a) : LHash h' a := by
  unfold LHash at *; rw [F.r, F.l]; exact L
theorem c_work {a : Nat} {h : Hp} (L : LHash h a) (S : SC h) : wp (f_cHash_work a h) (fun h' => ∀ i, i < 8 → bv (hI h' (a + 1) i) = shC (fun i => bv (hI h (a + 1) i)) (fun j => hI h (a + 3) j) i ∧ c32 (hI h' (a + 1) i)) := by
  unfold f_cHash_work
  refine wp_b1o (c_spread L) (fun h1 e q => ?_)
  have F : Fe (wI_cHash_spread a h) (wJ_cHash_spread a h) h h1 := fe_cHash_spread a h _ e
  have L1 := L.fe F
  obtain ⟨l0, l1, l2, l3, l4, l5, l6⟩ := L
  have L2 := L1
  obtain ⟨m0, m1, m2, m3, m4, m5, m6⟩ := L2
  have nI : ∀ x k, x ≠ a + 2 → hI h1 x k = hI h x k := fun x k hx => F.I (fun z => hx (by
    have z' : x = hR h a 1 := z
    rw [z', l2]))
  have S1 : SC h1 := by
    obtain ⟨⟨s1, s2, s3, s4⟩, s5, s6⟩ := S
    refine ⟨⟨by rw [F.r]; exact s1, by rw [F.r]; exact s2, by rw [F.l]; exact s3, by rw [F.l]; exact s4⟩, fun k => ?_, fun k => ?_⟩
    · rw [nI 31 k (by omega)]; exact s5 k
    · rw [nI 32 k (by omega)]; exact s6 k
  simp only [wp_some, wp_lt1, wp_b1, wp_b2, wp_ck, wp_cn, m1, m4]
  repeat' apply And.intro
  any_goals omega
  have := c_rounds (W := sch (wd (fun j => hI h (a + 3) j))) (H := fun i => bv (hI h (a + 1) i)) FU 0 (hI h1 (a + 1) 0) (hI h1 (a + 1) 1) (hI h1 (a + 1) 2) (hI h1 (a + 1) 3) (hI h1 (a + 1) 4) (hI h1 (a + 1) 5) (hI h1 (a + 1) 6) (hI h1 (a + 1) 7) h1 L1 S1 (by omega) (by unfold FU; omega) q
    (by rw [nI _ _ (by omega)]; rfl) (by rw [nI _ _ (by omega)]; rfl) (by rw [nI _ _ (by omega)]; rfl) (by rw [nI _ _ (by omega)]; rfl) (by rw [nI _ _ (by omega)]; rfl) (by rw [nI _ _ (by omega)]; rfl) (by rw [nI _ _ (by omega)]; rfl) (by rw [nI _ _ (by omega)]; rfl) (fun i _ => by rw [nI _ _ (by omega)])
  exact this
theorem sch_lt {m : Nat → BitVec 32} {t : Nat} (h : t < 16) : sch m t = m t := by rw [sch, if_pos h]
theorem sch_ge {m : Nat → BitVec 32} {t : Nat} (h : ¬ t < 16) : sch m t = sch m (t - 16) + sg0 (sch m (t - 15)) + sch m (t - 7) + sg1 (sch m (t - 2)) := by rw [sch, if_neg h]
theorem sch_congr {m m' : Nat → BitVec 32} (h : ∀ t, t < 16 → m t = m' t) (t : Nat) : sch m t = sch m' t := by
  induction t using Nat.strongRecOn with
  | ind t ih =>
    by_cases ht : t < 16
    · rw [sch_lt ht, sch_lt ht]; exact h t ht
    · rw [sch_ge ht, sch_ge ht, ih (t - 16) (by omega), ih (t - 15) (by omega), ih (t - 7) (by omega), ih (t - 2) (by omega)]
theorem shN_congr {W W' : Nat → BitVec 32} (s : Nat → BitVec 32) (n : Nat) (h : ∀ t, t < n → W t = W' t) : shN W s n = shN W' s n := by
  induction n with
  | zero => rfl
  | succ n ih =>
    show shS W (shN W s n) n = shS W' (shN W' s n) n
    rw [ih (fun t ht => h t (by omega))]
    unfold shS shP
    rw [h n (by omega)]
theorem wd_congr {B B' : Nat → Int} {t : Nat} (ht : t < 16) (h : ∀ j, j < 64 → B j % 256 = B' j % 256) : wd B t = wd B' t := by
  unfold wd
  rw [h _ (show 4 * t < 64 by omega), h _ (show 4 * t + 1 < 64 by omega), h _ (show 4 * t + 2 < 64 by omega), h _ (show 4 * t + 3 < 64 by omega)]
theorem shC_congr {H H' : Nat → BitVec 32} {B B' : Nat → Int} (hH : ∀ i, i < 8 → H i = H' i) (h : ∀ j, j < 64 → B j % 256 = B' j % 256) {i : Nat} (hi : i < 8) : shC H B i = shC H' B' i := by
  have e1 : shN (sch (wd B)) H 64 = shN (sch (wd B')) H 64 := shN_congr H 64 (fun t _ => sch_congr (fun t ht => wd_congr ht h) t)
  have e2 : ∀ (n : Nat) (i : Nat), i < 8 → shN (sch (wd B')) H n i = shN (sch (wd B')) H' n i := by
    intro n
    induction n with
    | zero => exact hH
    | succ n ih =>
      intro i hi
      show shS _ (shN _ H n) n i = shS _ (shN _ H' n) n i
      unfold shS shP
      rw [ih 0 (by omega), ih 1 (by omega), ih 2 (by omega), ih 3 (by omega), ih 4 (by omega), ih 5 (by omega), ih 6 (by omega), ih 7 (by omega)]
      by_cases h0 : i = 0
      · rw [if_pos h0, if_pos h0]
      · rw [if_neg h0, if_neg h0, ih (i - 1) (by omega)]
  unfold shC
  rw [e1, e2 64 i hi, hH i hi]
/-- a Hash at a has taken the first n bytes of B -/
def HS (h : Hp) (a n : Nat) (B : Nat → Int) : Prop := hI h a 3 = ((n % 64 : Nat) : Int) ∧ (∀ i, i < 8 → bv (hI h (a + 1) i) = shK B (n / 64) i ∧ c32 (hI h (a + 1) i)) ∧ (∀ j, j < n % 64 → hI h (a + 3) j % 256 = B (64 * (n / 64) + j) % 256)
theorem i8_mod (x : Int) : i8 x % 256 = x % 256 := by unfold i8; omega
theorem c_addByte {a n : Nat} {h : Hp} {B : Nat → Int} {v : Int} (L : LHash h a) (S : SC h) (Q : HS h a n B) (hv : v % 256 = B n % 256) : wp (f_cHash_addByte a v h) (fun h' => HS h' a (n + 1) B) := by
  unfold f_cHash_addByte
  have L' := L
  obtain ⟨l0, l1, l2, l3, l4, l5, l6⟩ := L'
  obtain ⟨q1, q2, q3⟩ := Q
  have e0 : ((n % 64 : Nat) : Int).toNat = n % 64 := by omega
  have e1 : w32 (((n % 64 : Nat) : Int) + 1) = ((n % 64 + 1 : Nat) : Int) := by unfold w32; omega
  have na : ¬ (a = a + 3) := by omega
  simp only [wp_some, wp_lt1, wp_b1, wp_b2, wp_ck, wp_cn, hI_sI, hJ_sJ, hR_sR, hI_sJ, hI_sR, hJ_sI, hJ_sR, hR_sI, hR_sJ, ln_sI, ln_sJ, ln_sR, kd_sI, kd_sJ, kd_sR, hN_sI, hN_sJ, hN_sR, hZ_sI, hZ_sJ, hZ_sR, l3, l6, q1, e0, na, false_and, if_false, and_self, if_true, e1]
  clear e1 e0
  refine ⟨by omega, ⟨by omega, by omega⟩, ?_⟩
  have hd : 64 * (n / 64) + n % 64 = n := by omega
  rw [wp_if]
  refine ⟨fun hne => ?_, fun he => ?_⟩
  · have hm : n % 64 + 1 < 64 := by omega
    have d1 : (n + 1) / 64 = n / 64 := by omega
    have d2 : (n + 1) % 64 = n % 64 + 1 := by omega
    rw [wp_some]
    refine ⟨?_, fun i hi => ?_, fun j hj => ?_⟩
    · rw [d2, hI_sI, if_pos ⟨rfl, rfl⟩]
    · rw [d1]; simp only [hI_sI, hJ_sJ, hR_sR, hI_sJ, hI_sR, hJ_sI, hJ_sR, hR_sI, hR_sJ, ln_sI, ln_sJ, ln_sR, kd_sI, kd_sJ, kd_sR, hN_sI, hN_sJ, hN_sR, hZ_sI, hZ_sJ, hZ_sR]; rw [if_neg (by omega), if_neg (by omega)]; exact q2 i hi
    · rw [d1]; simp only [hI_sI, hJ_sJ, hR_sR, hI_sJ, hI_sR, hJ_sI, hJ_sR, hR_sI, hR_sJ, ln_sI, ln_sJ, ln_sR, kd_sI, kd_sJ, kd_sR, hN_sI, hN_sJ, hN_sR, hZ_sI, hZ_sJ, hZ_sR]; rw [if_neg (by omega)]
      by_cases hj2 : j = n % 64
      · rw [if_pos ⟨trivial, hj2⟩, hj2, hd, i8_mod, i8_mod]; exact hv
      · rw [if_neg (fun z => hj2 z.2)]; exact q3 j (by omega)
  · have hm : n % 64 = 63 := by omega
    have d1 : (n + 1) / 64 = n / 64 + 1 := by omega
    have d2 : (n + 1) % 64 = 0 := by omega
    refine wp_b1o (c_work (show LHash _ a from L) (show SC _ from ?_)) (fun h5 e5 q5 => ?_)
    · obtain ⟨s1, s5, s6⟩ := S
      refine ⟨s1, fun k => ?_, fun k => ?_⟩
      · simp only [hI_sI, hJ_sJ, hR_sR, hI_sJ, hI_sR, hJ_sI, hJ_sR, hR_sI, hR_sJ, ln_sI, ln_sJ, ln_sR, kd_sI, kd_sJ, kd_sR, hN_sI, hN_sJ, hN_sR, hZ_sI, hZ_sJ, hZ_sR]; rw [if_neg (by omega), if_neg (by omega)]; exact s5 k
      · simp only [hI_sI, hJ_sJ, hR_sR, hI_sJ, hI_sR, hJ_sI, hJ_sR, hR_sI, hR_sJ, ln_sI, ln_sJ, ln_sR, kd_sI, kd_sJ, kd_sR, hN_sI, hN_sJ, hN_sR, hZ_sI, hZ_sJ, hZ_sR]; rw [if_neg (by omega), if_neg (by omega)]; exact s6 k
    · simp only [wp_some, wp_lt1, wp_b1, wp_b2, wp_ck, wp_cn]
      refine ⟨?_, fun i hi => ?_, fun j hj => by omega⟩
      · rw [d2, hI_sI, if_pos ⟨rfl, rfl⟩]; rfl
      · rw [d1]; simp only [hI_sI, hJ_sJ, hR_sR, hI_sJ, hI_sR, hJ_sI, hJ_sR, hR_sI, hR_sJ, ln_sI, ln_sJ, ln_sR, kd_sI, kd_sJ, kd_sR, hN_sI, hN_sJ, hN_sR, hZ_sI, hZ_sJ, hZ_sR]; rw [if_neg (by omega)]
        refine ⟨(q5 i hi).1.trans ?_, (q5 i hi).2⟩
        refine shC_congr (fun i hi => ?_) (fun j hj => ?_) hi
        · simp only [hI_sI, hJ_sJ, hR_sR, hI_sJ, hI_sR, hJ_sI, hJ_sR, hR_sI, hR_sJ, ln_sI, ln_sJ, ln_sR, kd_sI, kd_sJ, kd_sR, hN_sI, hN_sJ, hN_sR, hZ_sI, hZ_sJ, hZ_sR]; rw [if_neg (by omega), if_neg (by omega)]; exact (q2 i hi).1
        · simp only [hI_sI, hJ_sJ, hR_sR, hI_sJ, hI_sR, hJ_sI, hJ_sR, hR_sI, hR_sJ, ln_sI, ln_sJ, ln_sR, kd_sI, kd_sJ, kd_sR, hN_sI, hN_sJ, hN_sR, hZ_sI, hZ_sJ, hZ_sR]; rw [if_neg (by omega)]
          by_cases hj2 : j = n % 64
          · rw [if_pos ⟨trivial, hj2⟩, hj2, hd, i8_mod, i8_mod]; exact hv
          · rw [if_neg (fun z => hj2 z.2)]; exact q3 j (by omega)
