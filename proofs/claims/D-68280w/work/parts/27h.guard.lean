/-! guards: the class's open -/
theorem iOr_zero {x y : Int} (hx : c32 x) (hy : c32 y) : iOr x y = 0 ↔ x = 0 ∧ y = 0 := by
  constructor
  · intro h
    have hz : bv x ||| bv y = 0#32 := by rw [← bv_iOr, h]; rfl
    have h1 : bv x = 0#32 := by
      apply BitVec.eq_of_getLsbD_eq
      intro i hi
      have := congrArg (fun z => z.getLsbD i) hz
      simp only [BitVec.getLsbD_or, BitVec.getLsbD_zero, Bool.or_eq_false_iff] at this
      rw [this.1, BitVec.getLsbD_zero]
    have h2 : bv y = 0#32 := by
      apply BitVec.eq_of_getLsbD_eq
      intro i hi
      have := congrArg (fun z => z.getLsbD i) hz
      simp only [BitVec.getLsbD_or, BitVec.getLsbD_zero, Bool.or_eq_false_iff] at this
      rw [this.2, BitVec.getLsbD_zero]
    exact ⟨bv_inj hx (by decide) h1, bv_inj hy (by decide) h2⟩
  · rintro ⟨rfl, rfl⟩; decide
theorem iXor_zero {x y : Int} (hx : c32 x) (hy : c32 y) : iXor x y = 0 ↔ x = y := by
  constructor
  · intro h
    have hz : bv x ^^^ bv y = 0#32 := by rw [← bv_iXor, h]; rfl
    exact bv_inj hx hy (BitVec.xor_eq_zero_iff.mp hz)
  · rintro rfl
    show (bv x ^^^ bv x).toInt = 0
    rw [BitVec.xor_self]; rfl
theorem i8_eq {x y : Int} (hx : -128 ≤ x ∧ x < 128) (hy : 0 ≤ y ∧ y < 256) : i8 y = x ↔ x % 256 = y := by unfold i8; omega
theorem c_op27 {g b row from_ head sz : Nat} {T : Nat → Int} {n : Int} {Q : Int × Hp → Prop} {h : Hp} (LB : LBn h b) (hr : row ≠ 0) (hz : from_ + sz + 16 < 800000000) (hl : from_ + sz + 16 ≤ ln h row) (hb : ∀ j, j < 16 → -128 ≤ hI h row (from_ + sz + j) ∧ hI h row (from_ + sz + j) < 128) (bT : ∀ j, j < 16 → 0 ≤ T j ∧ T j < 256) (hT : ∀ j, j < 16 → hI h (b + 28) j = i8 (T j)) (k1 : (∀ j, j < 16 → hI h row (from_ + sz + j) % 256 = T j) → wp (b1 (f_cGuard_begin g b n 1 h) fun h4 => if b = 0 then none else if hR h4 b 1 = 0 then none else b1 (f_cKeystream_cover (hR h4 b 1) row (w32 ((from_ : Int) + (head : Int))) (w32 ((sz : Int) - (head : Int))) h4) fun h8 => some ((sz : Int), h8)) Q) (k2 : (¬ ∀ j, j < 16 → hI h row (from_ + sz + j) % 256 = T j) → Q (-1, h)) (f : Nat) : ∀ (k : Nat) (v : Int), k ≤ 16 → 16 - k < f → c32 v → (v = 0 ↔ ∀ j, j < k → hI h row (from_ + sz + j) % 256 = T j) → wp (f_cGuard_open_b27_lp f g b n row (from_ : Int) (head : Int) (sz : Int) v (k : Int) h) Q := by
  induction f with
  | zero => intro k v _ hf; omega
  | succ f ih =>
    intro k v hk hf cv hv
    have b0 := LB.1
    show wp (f_cGuard_open_b27 (f_cGuard_open_b27_lp f) g b n row (from_ : Int) (head : Int) (sz : Int) v (k : Int) h) Q
    unfold f_cGuard_open_b27
    by_cases hx : (16 : Int) ≤ k
    · have : k = 16 := by omega
      subst this
      rw [if_pos hx]
      by_cases v0 : v = 0
      · rw [if_pos v0]; exact k1 (hv.mp v0)
      · rw [if_neg v0, wp_some]; exact k2 (fun z => v0 (hv.mpr z))
    · have e1 : w32 ((from_ : Int) + (sz : Int)) = ((from_ + sz : Nat) : Int) := w_ck (by omega)
      have e2 : w32 (((from_ + sz : Nat) : Int) + (k : Int)) = ((from_ + sz + k : Nat) : Int) := w_ck (by clear e1; omega)
      simp only [e1, e2, w_k1 (show k < 1000000000 by clear e1 e2; omega), Int.toNat_natCast]
      clear e1 e2
      rw [if_neg hx, wp_cn]
      refine ⟨by omega, ?_⟩
      rw [LB.r0_6, LB.l28, wp_cn]
      refine ⟨by omega, ?_⟩
      rw [wp_ck]
      refine ⟨ix16 (by omega), ?_⟩
      rw [wp_cn]
      refine ⟨hr, ?_⟩
      rw [wp_ck]
      refine ⟨ix16 (by omega), ?_⟩
      rw [wp_lt1]
      have rb := hb k (by omega)
      have tb := bT k (by omega)
      have ti : -128 ≤ i8 (T k) ∧ i8 (T k) < 128 := by unfold i8; omega
      refine ih (k + 1) _ (by omega) (by omega) (c32_toInt _) ?_
      rw [iOr_zero cv (y := iXor (hI h (b + 28) k) (hI h row (from_ + sz + k))) (c32_toInt _), iXor_zero (by rw [hT k (by omega)]; exact ⟨by omega, by omega⟩) ⟨by omega, by omega⟩, hv, hT k (by omega), i8_eq rb tb]
      constructor
      · rintro ⟨a1, a2⟩ j hj
        by_cases e : j = k
        · rw [e]; exact a2
        · exact a1 j (by omega)
      · intro a; exact ⟨fun j hj => a j (by omega), a k (by omega)⟩
theorem c_open {g b row from_ head size : Nat} {K V R : Nat → Int} {n : Int} {h : Hp} (L : LGu h g) (LB : LBn h b) (hd : g + 4 < b ∨ b + 28 < g) (hK : ∀ j, j < 32 → hI h (g + 2) j % 256 = K j % 256) (hV : ∀ j, j < 12 → hI h (g + 3) j % 256 = V j % 256) (hn : c64 n) (hr : row ≠ 0) (hrd : row < b ∨ b + 28 < row) (hrg : row < g ∨ g + 4 < row) (hhs : head ≤ size) (hz : from_ + size + 16 < 700000000) (hl : from_ + size + 16 ≤ ln h row) (hR : ∀ j, j < size + 16 → hI h row (from_ + j) % 256 = R j % 256) (hb : ∀ j, j < 16 → -128 ≤ hI h row (from_ + size + j) ∧ hI h row (from_ + size + j) < 128) :
    wp (f_cGuard_open g b n row (from_ : Int) (head : Int) ((size + 16 : Nat) : Int) h) (fun o => ((∀ j, j < 16 → R (size + j) % 256 = TAG K (NON V n) R head (size - head) j) → o.1 = (size : Int) ∧ (∀ j, head ≤ j → j < size → hI o.2 row (from_ + j) = i8 (COV K (NON V n) R head j)) ∧ ∀ j, j < from_ + head ∨ from_ + size ≤ j → hI o.2 row j = hI h row j) ∧ ((¬ ∀ j, j < 16 → R (size + j) % 256 = TAG K (NON V n) R head (size - head) j) → o.1 = -1 ∧ ∀ j, hI o.2 row j = hI h row j)) := by
  have l0 := L.1
  have b0 := LB.1
  unfold f_cGuard_open
  have w0 : w32 (((size + 16 : Nat) : Int) - 16) = (size : Int) := by unfold w32; omega
  rw [wp_lt1]
  simp only [w0]
  clear w0
  refine wp_b1o (c_reckon (K := K) (V := V) (R := R) L LB hd hK hV hn hr hrd hhs (by omega) (by omega) (fun j hj => hR j (by omega))) (fun h1 e1 q1 => ?_)
  have F1 := RkF.of LB e1
  have LB1 := LB.of F1.1.1 F1.1.2
  have L1 := L.of F1.1.1 F1.1.2
  have R1 : ∀ j, hI h1 row j = hI h row j := fun j => F1.2 _ _ (by omega)
  have tq : ∀ j, j < 16 → (hI h1 row (from_ + size + j) % 256 = TAG K (NON V n) R head (size - head) j ↔ R (size + j) % 256 = TAG K (NON V n) R head (size - head) j) := fun j hj => by rw [R1, Nat.add_assoc, hR (size + j) (by omega)]
  refine c_op27 (T := TAG K (NON V n) R head (size - head)) LB1 hr (by omega) (by rw [F1.1.2]; exact hl) (fun j hj => by rw [R1]; exact hb j hj) (fun j _ => TAG_lt _ _ _ _ _ _) q1 (fun ok => ?_) (fun no => ?_) FU 0 0 (by omega) (by unfold FU; omega) (by decide) ⟨fun _ j hj => absurd hj (Nat.not_lt_zero j), fun _ => rfl⟩
  · refine wp_b1o (c_gbegin (K := K) (V := V) (cc := 1) (c := 1#32) L1 LB1 hd (fun j hj => by rw [F1.2 _ _ (by omega)]; exact hK j hj) (fun j hj => by rw [F1.2 _ _ (by omega)]; exact hV j hj) hn rfl (by decide)) (fun h2 e2 q2 => ?_)
    have F2 := RkF.begin LB1 e2
    have LB2 := LB1.of F2.1.1 F2.1.2
    have w1 : w32 ((from_ : Int) + (head : Int)) = ((from_ + head : Nat) : Int) := w_ck (by omega)
    have w2 : w32 ((size : Int) - (head : Int)) = ((size - head : Nat) : Int) := by clear w1; unfold w32; omega
    simp only [w1, w2]
    clear w1 w2
    rw [wp_cn]
    refine ⟨by omega, ?_⟩
    rw [LB2.r0_1, wp_cn]
    refine ⟨by omega, ?_⟩
    refine wp_b1o (c_cover (a := b + 16) (from_ := from_ + head) (n := size - head) LB2.s16_LKs q2 hr (by omega) (by omega) (by rw [F2.1.2, F1.1.2]; omega)) (fun h3 e3 q3 => ?_)
    rw [wp_some]
    refine ⟨fun _ => ⟨rfl, fun j g1 g2 => ?_, fun j hj => by rw [q3.2 _ (by omega), F2.2 _ _ (by omega), R1]⟩, fun no => absurd (fun j hj => (tq j hj).mp (ok j hj)) no⟩
    have := q3.1 (j - head) (by omega)
    rw [show from_ + head + (j - head) = from_ + j by omega] at this
    unfold COV
    rw [this, if_neg (by omega), F2.2 _ _ (by omega), R1, bx_cong (hR j (by omega)) rfl]
  · exact ⟨fun ok => absurd (fun j hj => (tq j hj).mpr (ok j hj)) no, fun _ => ⟨rfl, R1⟩⟩
