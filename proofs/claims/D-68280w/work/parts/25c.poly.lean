/-! Poly: the class's product and take -/
def gF5 (F : Nat → Int) (k i : Nat) : Int := if i ≤ k then F (k - i) else 5 * F (5 + k - i)
def prd (S F : Nat → Int) (k : Nat) : Nat → Int
  | 0 => 0
  | i + 1 => prd S F k i + S i * gF5 F k i
theorem val_prd (S F : Nat → Int) : ∃ q, val S * val F = val (fun k => prd S F k 5) + PP * q := by
  refine ⟨(S 1 * F 4 + S 2 * F 3 + S 3 * F 2 + S 4 * F 1) + (S 2 * F 4 + S 3 * F 3 + S 4 * F 2) * 67108864 + (S 3 * F 4 + S 4 * F 3) * 4503599627370496 + S 4 * F 4 * 302231454903657293676544, ?_⟩
  show (S 0 + S 1 * 67108864 + S 2 * 4503599627370496 + S 3 * 302231454903657293676544 + S 4 * 20282409603651670423947251286016) * (F 0 + F 1 * 67108864 + F 2 * 4503599627370496 + F 3 * 302231454903657293676544 + F 4 * 20282409603651670423947251286016) = (0 + S 0 * F 0 + S 1 * (5 * F 4) + S 2 * (5 * F 3) + S 3 * (5 * F 2) + S 4 * (5 * F 1)) + (0 + S 0 * F 1 + S 1 * F 0 + S 2 * (5 * F 4) + S 3 * (5 * F 3) + S 4 * (5 * F 2)) * 67108864 + (0 + S 0 * F 2 + S 1 * F 1 + S 2 * F 0 + S 3 * (5 * F 4) + S 4 * (5 * F 3)) * 4503599627370496 + (0 + S 0 * F 3 + S 1 * F 2 + S 2 * F 1 + S 3 * F 0 + S 4 * (5 * F 4)) * 302231454903657293676544 + (0 + S 0 * F 4 + S 1 * F 3 + S 2 * F 2 + S 3 * F 1 + S 4 * F 0) * 20282409603651670423947251286016 + 1361129467683753853853498429727072845819 * _
  generalize S 0 = s0
  generalize S 1 = s1
  generalize S 2 = s2
  generalize S 3 = s3
  generalize S 4 = s4
  generalize F 0 = f0
  generalize F 1 = f1
  generalize F 2 = f2
  generalize F 3 = f3
  generalize F 4 = f4
  grind
theorem mul_bd {x y A B : Int} (h0 : 0 ≤ x) (h1 : x ≤ A) (h2 : 0 ≤ y) (h3 : y ≤ B) : 0 ≤ x * y ∧ x * y ≤ A * B := ⟨Int.mul_nonneg h0 h2, Int.mul_le_mul h1 h3 h2 (Int.le_trans h0 h1)⟩
theorem gF5_bd {F : Nat → Int} (b : lb F 67108864) {k i : Nat} (hk : k < 5) (hi : i < 5) : 0 ≤ gF5 F k i ∧ gF5 F k i ≤ 335544320 := by
  unfold gF5
  split
  · have := b (k - i) (by omega); omega
  · have := b (5 + k - i) (by omega); omega
theorem prd_bd {S F : Nat → Int} (bs : lb S 268435456) (bf : lb F 67108864) {k : Nat} (hk : k < 5) : ∀ n, n ≤ 5 → 0 ≤ prd S F k n ∧ prd S F k n ≤ (n : Int) * 90071992547409920
  | 0, _ => ⟨Int.le_refl _, by show (0 : Int) ≤ 0 * _; omega⟩
  | n + 1, hn => by
    have ih := prd_bd bs bf hk n (by omega)
    have g := gF5_bd bf hk (show n < 5 by omega)
    have s := bs n (by omega)
    have m := mul_bd (x := S n) (y := gF5 F k n) (A := 268435456) (B := 335544320) s.1 (by omega) g.1 g.2
    show 0 ≤ prd S F k n + S n * gF5 F k n ∧ prd S F k n + S n * gF5 F k n ≤ _
    generalize S n * gF5 F k n = z at *
    generalize prd S F k n = y at *
    omega
/-- what the product's loops know -/
def PdS (h : Hp) (a : Nat) (S F : Nat → Int) : Prop := LTal h a ∧ JS h (a + 1) S ∧ JS h (a + 2) F
theorem PdS.s {h : Hp} {a : Nat} {S F : Nat → Int} {k : Nat} {v : Int} (P : PdS h a S F) : PdS (sJ h (a + 3) k v) a S F := ⟨P.1.of rsJ lsJ, fun i hi => by rw [hJ_sJ, if_neg (by omega)]; exact P.2.1 i hi, fun i hi => by rw [hJ_sJ, if_neg (by omega)]; exact P.2.2 i hi⟩
theorem c_b79 {a k : Nat} {S F : Nat → Int} {K : Nat → Int → Hp → Option Hp} {Q : Hp → Prop} (bs : lb S 268435456) (bf : lb F 67108864) (hk : k < 5) (kk : ∀ h', PdS h' a S F → (∀ j, j < k + 1 → hJ h' (a + 3) j = prd S F j 5) → wp (K a ((k + 1 : Nat) : Int) h') Q) (f : Nat) : ∀ (i : Nat) (h : Hp), i ≤ 5 → 5 - i < f → PdS h a S F → (∀ j, j < k → hJ h (a + 3) j = prd S F j 5) → hJ h (a + 3) k = prd S F k i → wp (f_cTally_take_b79_lp K f a (k : Int) (i : Int) h) Q := by
  induction f with
  | zero => intro i h _ hf; omega
  | succ f ih =>
    intro i h hi hf P D E
    obtain ⟨L, J, JF⟩ := id P
    have l0 := L.1
    show wp (f_cTally_take_b79 K (f_cTally_take_b79_lp K f) a (k : Int) (i : Int) h) Q
    unfold f_cTally_take_b79
    by_cases hx : (5 : Int) ≤ i
    · rw [if_pos hx]
      have : i = 5 := by omega
      subst this
      simp only [w_k1 (show k < 1000000000 by omega)]
      refine kk h P (fun j hj => ?_)
      by_cases he : j = k
      · rw [he]; exact E
      · exact D j (by omega)
    · rw [if_neg hx, L.r0_0, L.r0_1, L.r0_2, L.l1, L.l2, L.l3, wp_cn]
      refine ⟨by omega, ?_⟩
      rw [wp_ck]
      refine ⟨ix16 hk, ?_⟩
      rw [wp_cn]
      refine ⟨by omega, ?_⟩
      rw [wp_ck]
      refine ⟨ix16 (by omega), ?_⟩
      have tail : ∀ g : Int, g = gF5 F k i → wp (f_cTally_take_b132 K (f_cTally_take_b79_lp K f) a (k : Int) (i : Int) (a + 3) (k : Int) (hJ h (a + 3) k) (hJ h (a + 1) i) g h) Q := by
        intro g hg
        unfold f_cTally_take_b132
        rw [wp_cn]
        refine ⟨by omega, ?_⟩
        rw [wp_ck, L.l3]
        refine ⟨ix16 hk, ?_⟩
        simp only [w_k1 (show i < 1000000000 by omega), Int.toNat_natCast]
        have gb := gF5_bd bf hk (show i < 5 by omega)
        have sb := bs i (by omega)
        have mb := mul_bd (x := S i) (y := gF5 F k i) (A := 268435456) (B := 335544320) sb.1 (by omega) gb.1 gb.2
        have pb := prd_bd bs bf hk i (by omega)
        rw [wp_lt1, E, J i (by omega), hg]
        have hv : w64 (prd S F k i + w64 (S i * gF5 F k i)) = prd S F k (i + 1) := by
          show _ = prd S F k i + S i * gF5 F k i
          generalize S i * gF5 F k i = z at *
          generalize prd S F k i = y at *
          have hi5 : (i : Int) ≤ 4 := by omega
          rw [w64_id (x := z) ⟨by omega, by omega⟩, w64_id ⟨by omega, by omega⟩]
        rw [hv]
        refine ih (i + 1) _ (by omega) (by omega) P.s (fun j hj => by rw [hJ_sJ, if_neg (by omega)]; exact D j hj) (by rw [hJ_sJ, if_pos ⟨rfl, rfl⟩])
      by_cases hlt : (k : Int) < (i : Int)
      · have e1 : w32 (5 + (k : Int)) = ((5 + k : Nat) : Int) := w_ck (c := 5) (by omega)
        have e2 : w32 (((5 + k : Nat) : Int) - (i : Int)) = ((5 + k - i : Nat) : Int) := by clear e1 E; unfold w32; omega
        simp only [e1, e2, Int.toNat_natCast]
        clear e1 e2
        rw [if_pos hlt, wp_cn]
        refine ⟨by omega, ?_⟩
        rw [wp_ck]
        refine ⟨ix16 (by omega), ?_⟩
        refine tail _ ?_
        have fb := bf (5 + k - i) (by omega)
        rw [JF (5 + k - i) (by omega), w64_id ⟨by omega, by omega⟩]
        unfold gF5
        rw [if_neg (by omega)]
      · have e2 : w32 ((k : Int) - (i : Int)) = ((k - i : Nat) : Int) := by clear E; unfold w32; omega
        simp only [e2, Int.toNat_natCast]
        clear e2
        rw [if_neg hlt, wp_cn]
        refine ⟨by omega, ?_⟩
        rw [wp_ck]
        refine ⟨ix16 (by omega), ?_⟩
        refine tail _ ?_
        rw [JF (k - i) (by omega)]
        unfold gF5
        rw [if_pos (by omega)]
def TkQ (a : Nat) (S F : Nat → Int) (h' : Hp) : Prop := JS h' (a + 1) (CR (CR (fun k => prd S F k 5))) ∧ hI h' a 4 = 0
theorem lb5 {S : Nat → Int} {B : Int} (h : ∀ i, i < 5 → 0 ≤ S i ∧ S i < B) : lb S B := h
theorem CF_fe {a : Nat} {h h' : Hp} (L : LTal h a) (e : f_cTally_carry a h = some h') : hR h' = hR h ∧ ln h' = ln h := by
  have F : Fe (wI_cTally_carry a h) (wJ_cTally_carry a h) h h' := fe_cTally_carry a h _ e
  exact ⟨F.r, F.l⟩
theorem c_b64 {a : Nat} {S F : Nat → Int} (bs : lb S 268435456) (bf : lb F 67108864) (f : Nat) : ∀ (k : Nat) (h : Hp), k ≤ 5 → 5 - k < f → PdS h a S F → (∀ j, j < k → hJ h (a + 3) j = prd S F j 5) → wp (f_cTally_take_b64_lp f a (k : Int) h) (TkQ a S F) := by
  induction f with
  | zero => intro k h _ hf; omega
  | succ f ih =>
    intro k h hk hf P D
    obtain ⟨L, J, JF⟩ := id P
    have l0 := L.1
    show wp (f_cTally_take_b64 (f_cTally_take_b64_lp f) a (k : Int) h) _
    unfold f_cTally_take_b64
    by_cases hx : (5 : Int) ≤ k
    · have : k = 5 := by omega
      subst this
      rw [if_pos hx, L.r0_0, L.r0_2, L.l1, L.l3, wp_cn]
      refine ⟨by omega, ?_⟩
      rw [wp_cn]
      refine ⟨by omega, ?_⟩
      rw [wp_ck]
      refine ⟨by unfold cpk; omega, ?_⟩
      rw [wp_lt1]
      have L1 : LTal (cpJ h (a + 3) (Int.toNat 0) (a + 1) (Int.toNat 0) (Int.toNat 5)) a := L.of rcJ lcJ
      have J1 : JS (cpJ h (a + 3) (Int.toNat 0) (a + 1) (Int.toNat 0) (Int.toNat 5)) (a + 1) (fun k => prd S F k 5) := fun i hi => by
        rw [hJ_cJ, if_pos ⟨rfl, Nat.zero_le _, by exact hi⟩]
        have := D i hi
        simpa using this
      generalize cpJ h (a + 3) (Int.toNat 0) (a + 1) (Int.toNat 0) (Int.toNat 5) = g at *
      have B1 : lb (fun k => prd S F k 5) 2305843009213693952 := fun i hi => by
        have := prd_bd bs bf hi 5 (by omega)
        show 0 ≤ prd S F i 5 ∧ prd S F i 5 < _
        generalize prd S F i 5 = z at *
        omega
      refine wp_b1o (c_carry L1 J1 B1) (fun g1 e1 q1 => ?_)
      have F1 := CF_fe L1 e1
      have B2 : lb (CR (fun k => prd S F k 5)) 2305843009213693952 := by
        have c := CR_lb B1 (by decide)
        intro i hi
        by_cases h0 : i = 0
        · subst h0; have := c.1; omega
        · have := c.2 i (by omega) hi; omega
      refine wp_b1o (c_carry (L1.of F1.1 F1.2) q1 B2) (fun g2 e2 q2 => ?_)
      rw [wp_lt1, wp_some]
      exact ⟨q2, by rw [hI_sI, if_pos ⟨rfl, rfl⟩]⟩
    · rw [if_neg hx, L.r0_2, L.l3, wp_cn]
      refine ⟨by omega, ?_⟩
      rw [wp_ck]
      refine ⟨ix16 (by omega), ?_⟩
      rw [wp_lt1, Int.toNat_natCast]
      refine c_b79 bs bf (by omega) (fun h' P' D' => ih (k + 1) h' (by omega) (by omega) P' D') FU 0 _ (by omega) (by unfold FU; omega) P.s (fun j hj => by rw [hJ_sJ, if_neg (by omega)]; exact D j hj) (by rw [hJ_sJ, if_pos ⟨rfl, rfl⟩]; rfl)
