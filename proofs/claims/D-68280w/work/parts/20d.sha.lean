theorem addByte_fe {a : Nat} {v : Int} {h h' : Hp} (L : LHash h a) (F : Fe (wI_cHash_addByte a v h) (wJ_cHash_addByte a v h) h h') : (∀ x k, x < a ∨ a + 3 < x → hI h' x k = hI h x k) ∧ (∀ x k, hJ h' x k = hJ h x k) := by
  obtain ⟨l0, l1, l2, l3, l4, l5, l6⟩ := L
  refine ⟨fun x k hx => F.I (by simp only [wI_cHash_addByte, l1, l2, l3]; omega), fun x k => F.J (fun z => z)⟩
theorem SC.of {h h' : Hp} (S : SC h) (e1 : hR h' = hR h) (e2 : ln h' = ln h) (e3 : ∀ k, hI h' 31 k = hI h 31 k) (e4 : ∀ k, hI h' 32 k = hI h 32 k) : SC h' := by
  obtain ⟨s1, s5, s6⟩ := S
  exact ⟨by rw [e1, e2]; exact s1, fun k => (e3 k).trans (s5 k), fun k => (e4 k).trans (s6 k)⟩
theorem c_addL {a r N cnt fr : Nat} {B : Nat → Int} (hr : r ≠ 0) (hd : r < a ∨ a + 3 < r) (hz : fr + cnt < 2147483648) (n : Nat) : ∀ (i : Nat) (h : Hp), LHash h a → SC h → HS h a (N + i) B → i ≤ cnt → cnt - i < n → fr + cnt ≤ ln h r → (∀ j, j < cnt → hI h r (fr + j) % 256 = B (N + j) % 256) → wp (f_cHash_add_b3_lp n a r (fr : Int) (cnt : Int) (i : Int) h) (fun h' => HS h' a (N + cnt) B ∧ hJ h' a 4 = w64 (hJ h a 4 + cnt)) := by
  induction n with
  | zero => intro i h _ _ _ _ hn; omega
  | succ n ih =>
    intro i h L S Q hi hn hln hrow
    show wp (f_cHash_add_b3 (f_cHash_add_b3_lp n) a r fr cnt i h) _
    unfold f_cHash_add_b3
    by_cases ht : (cnt : Int) ≤ i
    · have : i = cnt := by omega
      subst this
      rw [if_pos ht]
      simp only [wp_some, wp_lt1, wp_b1, wp_b2, wp_ck, wp_cn]
      refine ⟨?_, ?_⟩
      · exact Q
      · rw [hJ_sJ, if_pos ⟨rfl, rfl⟩]
    · rw [if_neg ht, wp_cn]
      refine ⟨hr, ?_⟩
      have e0 : w32 ((fr : Int) + i) = ((fr + i : Nat) : Int) := by unfold w32; omega
      have e1 : w32 ((i : Int) + 1) = ((i + 1 : Nat) : Int) := by unfold w32; omega
      rw [wp_ck, e0, e1, Int.toNat_natCast]
      clear e0 e1
      refine ⟨⟨by omega, by omega⟩, ?_⟩
      refine wp_b1o (c_addByte L S Q (by rw [hrow i (by omega)])) (fun h1 e q => ?_)
      have F : Fe (wI_cHash_addByte a _ h) (wJ_cHash_addByte a _ h) h h1 := fe_cHash_addByte a _ h _ e
      obtain ⟨f1, f2⟩ := addByte_fe L F
      have l0 := L.1
      refine wp_of (ih (i + 1) h1 (L.fe F) (S.of F.r F.l (fun k => f1 31 k (by omega)) (fun k => f1 32 k (by omega))) q (by omega) (by omega) (by rw [F.l]; exact hln) (fun j hj => by rw [f1 r _ hd]; exact hrow j hj)) (fun h2 _ q2 => ⟨q2.1, by rw [q2.2, f2]⟩)
theorem c_add {a r N cnt fr : Nat} {B : Nat → Int} {h : Hp} (hr : r ≠ 0) (hd : r < a ∨ a + 3 < r) (hz : fr + cnt < 2147483648) (hf : cnt < 1000000000) (L : LHash h a) (S : SC h) (Q : HS h a N B) (hln : fr + cnt ≤ ln h r) (hrow : ∀ j, j < cnt → hI h r (fr + j) % 256 = B (N + j) % 256) : wp (f_cHash_add a r (fr : Int) (cnt : Int) h) (fun h' => HS h' a (N + cnt) B ∧ hJ h' a 4 = w64 (hJ h a 4 + cnt)) := by
  unfold f_cHash_add
  exact c_addL hr hd hz FU 0 h L S Q (by omega) (by unfold FU; omega) hln hrow
theorem c_begin {a : Nat} {h : Hp} {B : Nat → Int} (L : LHash h a) (S : SC h) : wp (f_cHash_begin a h) (fun h' => HS h' a 0 B ∧ hJ h' a 4 = 0) := by
  unfold f_cHash_begin
  obtain ⟨l0, l1, l2, l3, l4, l5, l6⟩ := L
  obtain ⟨⟨s1, s2, s3, s4⟩, s5, s6⟩ := S
  simp only [wp_some, wp_lt1, wp_b1, wp_b2, wp_ck, wp_cn, s1, s3, l1, l4]
  refine ⟨by omega, by omega, by decide, ⟨?_, fun i hi => ?_, fun j hj => by omega⟩, ?_⟩
  · rw [hI_sJ, hI_sI, if_pos ⟨rfl, rfl⟩]; rfl
  · simp only [hI_sI, hJ_sJ, hR_sR, hI_sJ, hI_sR, hJ_sI, hJ_sR, hR_sI, hR_sJ, ln_sI, ln_sJ, ln_sR, kd_sI, kd_sJ, kd_sR, hN_sI, hN_sJ, hN_sR, hZ_sI, hZ_sJ, hZ_sR, hI_cI, hJ_cJ, hJ_cI, hI_cJ, hR_cI, hR_cJ, ln_cI, ln_cJ, kd_cI, kd_cJ, hN_cI, hN_cJ, hZ_cI, hZ_cJ]
    rw [if_neg (by omega), if_pos ⟨trivial, by omega, by omega⟩, s5]
    refine ⟨?_, ?_⟩
    · show bv _ = bv (sST.getD i 0)
      congr 2
      simp
    · have h1 : ∀ v ∈ sST, c32 v := by decide
      generalize (Int.toNat 0 + (i - Int.toNat 0)) = k
      rw [List.getD_eq_getElem?_getD]
      cases hk : sST[k]? with
      | none => decide
      | some v => exact h1 v (List.mem_of_getElem? hk)
  · rw [hJ_sJ, if_pos ⟨rfl, rfl⟩]
theorem shK_congr {B B' : Nat → Int} : ∀ (k : Nat), (∀ j, j < 64 * k → B j % 256 = B' j % 256) → ∀ i, i < 8 → shK B k i = shK B' k i
  | 0, _, _, _ => rfl
  | k + 1, h, i, hi => shC_congr (fun i hi => shK_congr k (fun j hj => h j (by omega)) i hi) (fun j hj => h _ (by omega)) hi
theorem HS.congr {h : Hp} {a n : Nat} {B B' : Nat → Int} (Q : HS h a n B) (hB : ∀ j, j < n → B j % 256 = B' j % 256) : HS h a n B' := by
  obtain ⟨q1, q2, q3⟩ := Q
  refine ⟨q1, fun i hi => ⟨(q2 i hi).1.trans (shK_congr _ (fun j hj => hB j (by omega)) i hi), (q2 i hi).2⟩, fun j hj => (q3 j hj).trans (hB _ (by omega))⟩
theorem i8_congr {x y : Int} (h : x % 256 = y % 256) : i8 x = i8 y := by unfold i8; omega
theorem bv_nat {s : Int} : ((bv s).toNat : Int) = s % 4294967296 := ofI_nat 32 s
theorem w32_m256 (x : Int) : w32 x % 256 = x % 256 := by unfold w32; omega
theorem out_byte {s : Int} (hs : c32 s) {k : Nat} : i8 (i8 (iShr s (w32 (24 - w32 (8 * ((k % 4 : Nat) : Int)))))) = i8 (((bv s).toNat : Int) / 2 ^ (24 - 8 * (k % 4)) % 256) := by
  have e : ∀ x, i8 (i8 x) = i8 x := fun x => i8_congr (i8_mod x)
  rw [e, bv_nat]
  have hk : k % 4 = 0 ∨ k % 4 = 1 ∨ k % 4 = 2 ∨ k % 4 = 3 := by omega
  unfold c32 at hs
  rcases hk with hk | hk | hk | hk <;> rw [hk]
  · have := iShr_eq (x := s) hs (n := 24) (by decide)
    rw [show w32 (24 - w32 (8 * ((0 : Nat) : Int))) = ((24 : Nat) : Int) from by decide, this]
    refine i8_congr ?_
    rw [show (2 : Int) ^ 24 = 16777216 from rfl]
    omega
  · have := iShr_eq (x := s) hs (n := 16) (by decide)
    rw [show w32 (24 - w32 (8 * ((1 : Nat) : Int))) = ((16 : Nat) : Int) from by decide, this]
    refine i8_congr ?_
    rw [show (2 : Int) ^ 16 = 65536 from rfl]
    omega
  · have := iShr_eq (x := s) hs (n := 8) (by decide)
    rw [show w32 (24 - w32 (8 * ((2 : Nat) : Int))) = ((8 : Nat) : Int) from by decide, this]
    refine i8_congr ?_
    rw [show (2 : Int) ^ 8 = 256 from rfl]
    omega
  · have := iShr_eq (x := s) hs (n := 0) (by decide)
    rw [show w32 (24 - w32 (8 * ((3 : Nat) : Int))) = ((0 : Nat) : Int) from by decide, this]
    refine i8_congr ?_
    rw [show (2 : Int) ^ 0 = 1 from rfl]
    omega
theorem c_out {a to at_ : Nat} {D : Nat → Int} (ht : to ≠ 0) (hd : to < a ∨ a + 3 < to) (hz : at_ + 32 < 2147483648) (n : Nat) : ∀ (k : Nat) (h : Hp), LHash h a → k ≤ 32 → 32 - k < n → at_ + 32 ≤ ln h to → (∀ j, j < 32 → c32 (hI h (a + 1) (j / 4)) ∧ D j = ((bv (hI h (a + 1) (j / 4))).toNat : Int) / 2 ^ (24 - 8 * (j % 4)) % 256) → wp (f_cHash_end_b57_lp n a to (at_ : Int) (k : Int) h) (fun h' => (∀ j, k ≤ j → j < 32 → hI h' to (at_ + j) = i8 (D j)) ∧ (∀ j, j < at_ + k ∨ at_ + 32 ≤ j → hI h' to j = hI h to j)) := by
  induction n with
  | zero => intro k h _ _ hn; omega
  | succ n ih =>
    intro k h L hk hn hln hD
    show wp (f_cHash_end_b57 (f_cHash_end_b57_lp n) a to at_ k h) _
    unfold f_cHash_end_b57
    have L' := L
    obtain ⟨l0, l1, l2, l3, l4, l5, l6⟩ := L'
    by_cases hk2 : (32 : Int) ≤ k
    · rw [if_pos hk2, wp_some]
      exact ⟨fun j h1 h2 => by omega, fun j hj => rfl⟩
    · rw [if_neg hk2]
      have e1 : iDiv (k : Int) 4 = ((k / 4 : Nat) : Int) := by rw [iDiv_eq ⟨by omega, by omega⟩ (by decide) (by omega) (by decide)]; omega
      have e2 : iRem (k : Int) 4 = ((k % 4 : Nat) : Int) := by rw [iRem_eq ⟨by omega, by omega⟩ (by decide) (by omega) (by decide)]; omega
      have e3 : w32 ((at_ : Int) + k) = ((at_ + k : Nat) : Int) := by unfold w32; omega
      have e4 : w32 ((k : Int) + 1) = ((k + 1 : Nat) : Int) := by unfold w32; omega
      simp only [wp_some, wp_lt1, wp_b1, wp_b2, wp_ck, wp_cn, l1, l4, e1, e2, e3, e4, Int.toNat_natCast]
      clear e1 e2 e3 e4
      refine ⟨by omega, ⟨by omega, by omega⟩, ht, ⟨by omega, by omega⟩, ?_⟩
      refine wp_of (ih (k + 1) _ (show LHash _ a from L) (by omega) (by omega) hln (fun j hj => ?_)) (fun h' _ q => ⟨fun j h1 h2 => ?_, fun j hj => ?_⟩)
      · simp only [hI_sI, hJ_sJ, hR_sR, hI_sJ, hI_sR, hJ_sI, hJ_sR, hR_sI, hR_sJ, ln_sI, ln_sJ, ln_sR, kd_sI, kd_sJ, kd_sR, hN_sI, hN_sJ, hN_sR, hZ_sI, hZ_sJ, hZ_sR]; rw [if_neg (by omega)]; exact hD j hj
      · by_cases hjk : j = k
        · subst hjk
          rw [q.2 _ (by omega)]
          rw [hI_sI, if_pos ⟨rfl, rfl⟩, out_byte (hD j (by omega)).1, ← (hD j (by omega)).2]
        · exact q.1 j (by omega) h2
      · rw [q.2 j (by omega)]
        simp only [hI_sI, hJ_sJ, hR_sR, hI_sJ, hI_sR, hJ_sI, hJ_sR, hR_sI, hR_sJ, ln_sI, ln_sJ, ln_sR, kd_sI, kd_sJ, kd_sR, hN_sI, hN_sJ, hN_sR, hZ_sI, hZ_sJ, hZ_sR]
        rw [if_neg (by omega)]
theorem c_end {a n to at_ : Nat} {h : Hp} {B : Nat → Int} (L : LHash h a) (S : SC h) (Q : HS h a n B) (hc : hJ h a 4 = n) (hn : n < 100000000) (ht : to ≠ 0) (hd : to < a ∨ a + 3 < to) (hz : at_ + 32 < 2147483648) (hln : at_ + 32 ≤ ln h to) : wp (f_cHash_end a to (at_ : Int) h) (fun h' => (∀ k, k < 32 → hI h' to (at_ + k) = i8 (SHA n B k)) ∧ (∀ j, j < at_ ∨ at_ + 32 ≤ j → hI h' to j = hI h to j)) := by
  have l0 := L.1
  have hP1 : ∀ j, j < n → shPad n B j = B j := fun j hj => if_pos hj
  -- the bytes of the length
  have b27 : ∀ (f k : Nat) (h' : Hp), LHash h' a → SC h' → k ≤ 8 → 8 - k < f → HS h' a ((n + 8) / 64 * 64 + 56 + k) (shPad n B) → hJ h' a 4 = n → at_ + 32 ≤ ln h' to → wp (f_cHash_end_b27_lp f a to (at_ : Int) (7 - (k : Int)) h') (fun h2 => (∀ k, k < 32 → hI h2 to (at_ + k) = i8 (SHA n B k)) ∧ (∀ j, j < at_ ∨ at_ + 32 ≤ j → hI h2 to j = hI h' to j)) := by
    intro f
    induction f with
    | zero => intro k h' _ _ _ hk; omega
    | succ f ih =>
      intro k h' L' S' hk hf Q' hc' hln'
      show wp (f_cHash_end_b27 (f_cHash_end_b27_lp f) a to at_ (7 - (k : Int)) h') _
      unfold f_cHash_end_b27
      by_cases hk8 : 7 - (k : Int) < 0
      · rw [if_pos hk8]
        have : k = 8 := by omega
        subst this
        have d1 : ((n + 8) / 64 * 64 + 56 + 8) / 64 = (n + 8) / 64 + 1 := by omega
        obtain ⟨-, q2, -⟩ := Q'
        rw [d1] at q2
        refine wp_of (c_out (D := fun k => SHA n B k) ht hd hz FU 0 h' L' (by omega) (by unfold FU; omega) hln' (fun j hj => ⟨(q2 _ (by omega)).2, ?_⟩)) (fun h2 _ q => ⟨fun k hk => q.1 k (by omega) hk, fun j hj => q.2 j (by omega)⟩)
        show SHA n B j = _
        unfold SHA
        rw [(q2 (j / 4) (by omega)).1]
      · rw [if_neg hk8]
        have e1 : w32 (8 * (7 - (k : Int))) = ((8 * (7 - k) : Nat) : Int) := by unfold w32; omega
        have e2 : w64 (8 * (n : Int)) = 8 * n := w64_id ⟨by omega, by omega⟩
        have e3 : lShr (8 * (n : Int)) ((8 * (7 - k) : Nat) : Int) = (8 * (n : Int)) / 2 ^ (8 * (7 - k)) := lShr_eq ⟨by omega, by omega⟩ (by omega)
        have e4 : w32 (7 - (k : Int) + (-1)) = 7 - ((k + 1 : Nat) : Int) := by unfold w32; omega
        rw [hc', e2, e1, e3, e4]
        clear e1 e2 e3 e4
        have hbd : 0 ≤ (8 * (n : Int)) / 2 ^ (8 * (7 - k)) ∧ (8 * (n : Int)) / 2 ^ (8 * (7 - k)) ≤ 8 * n := ⟨Int.ediv_nonneg (by omega) (Int.le_of_lt (Int.pow_pos (by decide))), Int.ediv_le_self _ (by omega)⟩
        have hval : shPad n B ((n + 8) / 64 * 64 + 56 + k) = (8 * (n : Int)) / 2 ^ (8 * (7 - k)) := by
          unfold shPad
          rw [if_neg (by omega), if_neg (by omega), if_neg (by omega)]
          congr 3
          omega
        refine wp_b1o (c_addByte L' S' Q' (by rw [hval]; exact w32_m256 _)) (fun h1 e q => ?_)
        have F : Fe (wI_cHash_addByte a _ h') (wJ_cHash_addByte a _ h') h' h1 := fe_cHash_addByte a _ h' _ e
        obtain ⟨f1, f2⟩ := addByte_fe L' F
        refine wp_of (ih (k + 1) h1 (L'.fe F) (S'.of F.r F.l (fun k => f1 31 k (by omega)) (fun k => f1 32 k (by omega))) (by omega) (by omega) q (by rw [f2]; exact hc') (by rw [F.l]; exact hln')) (fun h2 _ q2 => ⟨q2.1, fun j hj => by rw [q2.2 j hj, f1 to j hd]⟩)
  have b7 : ∀ (f m : Nat) (h' : Hp), LHash h' a → SC h' → n < m → m ≤ (n + 8) / 64 * 64 + 56 → (n + 8) / 64 * 64 + 56 - m < f → HS h' a m (shPad n B) → hJ h' a 4 = n → at_ + 32 ≤ ln h' to → wp (f_cHash_end_b7_lp f a to (at_ : Int) h') (fun h2 => (∀ k, k < 32 → hI h2 to (at_ + k) = i8 (SHA n B k)) ∧ (∀ j, j < at_ ∨ at_ + 32 ≤ j → hI h2 to j = hI h' to j)) := by
    intro f
    induction f with
    | zero => intro m h' _ _ _ _ hk; omega
    | succ f ih =>
      intro m h' L' S' hm1 hm2 hf Q' hc' hln'
      show wp (f_cHash_end_b7 (f_cHash_end_b7_lp f) a to at_ h') _
      unfold f_cHash_end_b7
      by_cases h56 : hI h' a 3 = 56
      · rw [if_pos h56]
        have hm : m = (n + 8) / 64 * 64 + 56 := by
          have := Q'.1
          rw [h56] at this
          omega
        subst hm
        have := b27 FU 0 h' L' S' (by omega) (by unfold FU; omega) Q' hc' hln'
        exact this
      · rw [if_neg h56]
        have hm : m < (n + 8) / 64 * 64 + 56 := by
          have := Q'.1
          rcases Nat.lt_or_ge m ((n + 8) / 64 * 64 + 56) with hlt | hge
          · exact hlt
          · have hme : m = (n + 8) / 64 * 64 + 56 := by omega
            rw [hme] at this
            exact absurd (this.trans (by omega)) h56
        have hval : shPad n B m = 0 := by
          unfold shPad
          rw [if_neg (by omega), if_neg (by omega), if_pos (by omega)]
        refine wp_b1o (c_addByte L' S' Q' (by rw [hval])) (fun h1 e q => ?_)
        have F : Fe (wI_cHash_addByte a _ h') (wJ_cHash_addByte a _ h') h' h1 := fe_cHash_addByte a _ h' _ e
        obtain ⟨f1, f2⟩ := addByte_fe L' F
        refine wp_of (ih (m + 1) h1 (L'.fe F) (S'.of F.r F.l (fun k => f1 31 k (by omega)) (fun k => f1 32 k (by omega))) (by omega) (by omega) (by omega) q (by rw [f2]; exact hc') (by rw [F.l]; exact hln')) (fun h2 _ q2 => ⟨q2.1, fun j hj => by rw [q2.2 j hj, f1 to j hd]⟩)
  unfold f_cHash_end
  have Q1 : HS h a n (shPad n B) := Q.congr (fun j hj => by rw [hP1 j hj])
  have hval : shPad n B n = 128 := by unfold shPad; rw [if_neg (by omega), if_pos rfl]
  refine wp_b1o (c_addByte L S Q1 (by rw [hval])) (fun h1 e q => ?_)
  have F : Fe (wI_cHash_addByte a _ h) (wJ_cHash_addByte a _ h) h h1 := fe_cHash_addByte a _ h _ e
  obtain ⟨f1, f2⟩ := addByte_fe L F
  exact wp_of (b7 FU (n + 1) h1 (L.fe F) (S.of F.r F.l (fun k => f1 31 k (by omega)) (fun k => f1 32 k (by omega))) (by omega) (by omega) (by unfold FU; omega) q (by rw [f2]; exact hc) (by rw [F.l]; exact hln)) (fun h2 _ q2 => ⟨q2.1, fun j hj => by rw [q2.2 j hj, f1 to j hd]⟩)
