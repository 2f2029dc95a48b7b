/-! Poly: the class's Tally: eight, split, carry -/
/-- eight bytes as a number, the lowest first -/
def le8 (B : Nat → Int) (j : Nat) : Int := ((wl B j).toNat : Int) + ((wl B (j + 4)).toNat : Int) * 4294967296
theorem le8_lt (B : Nat → Int) (j : Nat) : 0 ≤ le8 B j ∧ le8 B j < 18446744073709551616 := by
  unfold le8
  have h1 := (wl B j).isLt
  have h2 := (wl B (j + 4)).isLt
  generalize (wl B j).toNat = x at *
  generalize (wl B (j + 4)).toNat = y at *
  omega
theorem le8_congr {B B' : Nat → Int} {j j' : Nat} (h : ∀ i, i < 8 → B (j + i) % 256 = B' (j' + i) % 256) : le8 B j = le8 B' j' := by
  unfold le8
  rw [wl_congr (j := j) (j' := j') (fun i hi => h i (by omega)), wl_congr (j := j + 4) (j' := j' + 4) (fun i hi => by rw [Nat.add_assoc, Nat.add_assoc]; exact h (4 + i) (by omega))]
theorem bvn (x : Int) : ((bv x).toNat : Int) = x % 4294967296 := ofI_nat 32 x
theorem c_eight {r i : Nat} {h : Hp} (hr : r ≠ 0) (hl : i + 8 ≤ ln h r) (hz : i + 8 < 1000000000) : ∃ v, f_cTally_eight r (i : Int) h = some (v, h) ∧ v % 18446744073709551616 = le8 (hI h r) i := by
  obtain ⟨v, ev, bvv, cv⟩ := c_word (i := i) hr (h := h) (by omega) (by omega)
  obtain ⟨u, eu, bvu, cu⟩ := c_word (i := i + 4) hr (h := h) (by omega) (by omega)
  unfold f_cTally_eight
  rw [ev, b2_some, show w32 ((i : Int) + 4) = ((i + 4 : Nat) : Int) from w_ck (c := i) (k := 4) (by omega), eu, b2_some]
  refine ⟨_, rfl, ?_⟩
  unfold le8
  rw [← bvv, ← bvu, bvn, bvn]
  have e1 : lAnd v 4294967295 = v % 4294967296 := lAnd_mask (n := 32) (by decide) rfl
  have e2 : lShl u 32 = w64 (u * 4294967296) := lShl_eq (x := u) (n := 32) (by decide)
  rw [e1, e2, lOr_comm, lOr_add (n := 32) (by decide) (by rw [show (2 : Int) ^ 32 = 4294967296 from rfl]; unfold w64; omega) (by omega) (by rw [show (2 : Int) ^ 32 = 4294967296 from rfl]; omega)]
  clear e1 e2 ev eu bvv bvu
  unfold w64
  omega
def JS (h : Hp) (x : Nat) (S : Nat → Int) : Prop := ∀ i, i < 5 → hJ h x i = S i
theorem JS.s {h : Hp} {x i : Nat} {S : Nat → Int} {v : Int} (J : JS h x S) : JS (sJ h x i v) x (ud1 S i v) := fun j hj => by
  rw [hJ_sJ]
  unfold ud1
  by_cases he : j = i
  · rw [if_pos ⟨rfl, he⟩, if_pos he]
  · rw [if_neg (fun z => he z.2), if_neg he]; exact J j hj
theorem c_split {x : Nat} {a b u v : Int} {h : Hp} (hx : x ≠ 0) (hl : ln h x = 5) (hu : a % 18446744073709551616 = u) (hv : b % 18446744073709551616 = v) : wp (f_cTally_split a b x h) (fun h' => JS h' x (SPL u v)) := by
  have hu2 : 0 ≤ u ∧ u < 18446744073709551616 := by omega
  have hv2 : 0 ≤ v ∧ v < 18446744073709551616 := by omega
  have e0 : lAnd a 67108863 = u % 67108864 := by
    rw [show lAnd a 67108863 = a % 67108864 from lAnd_mask (n := 26) (by decide) rfl]; omega
  have e1 : lAnd (lUshr a 26) 67108863 = u / 67108864 % 67108864 := by
    rw [show lAnd (lUshr a 26) 67108863 = lUshr a 26 % 67108864 from lAnd_mask (n := 26) (by decide) rfl, show lUshr a 26 = w64 (a % 18446744073709551616 / 67108864) from lUshr_eq (n := 26) (by decide), hu]
    clear e0; unfold w64; omega
  have e2 : lAnd (lOr (lUshr a 52) (lShl b 12)) 67108863 = u / 4503599627370496 + v % 16384 * 4096 := by
    clear e0 e1
    rw [show lAnd (lOr (lUshr a 52) (lShl b 12)) 67108863 = lOr (lUshr a 52) (lShl b 12) % 67108864 from lAnd_mask (n := 26) (by decide) rfl, show lUshr a 52 = w64 (a % 18446744073709551616 / 4503599627370496) from lUshr_eq (n := 52) (by decide), show lShl b 12 = w64 (b * 4096) from lShl_eq (n := 12) (by decide), hu, lOr_comm, w64_id (x := u / 4503599627370496) ⟨by omega, by omega⟩, lOr_add (n := 12) (by decide) (by rw [show (2 : Int) ^ 12 = 4096 from rfl]; unfold w64; omega) (by omega) (by rw [show (2 : Int) ^ 12 = 4096 from rfl]; omega)]
    unfold w64; omega
  have e3 : lAnd (lUshr b 14) 67108863 = v / 16384 % 67108864 := by
    clear e0 e1 e2
    rw [show lAnd (lUshr b 14) 67108863 = lUshr b 14 % 67108864 from lAnd_mask (n := 26) (by decide) rfl, show lUshr b 14 = w64 (b % 18446744073709551616 / 16384) from lUshr_eq (n := 14) (by decide), hv]
    unfold w64; omega
  have e4 : lUshr b 40 = v / 1099511627776 := by
    clear e0 e1 e2 e3
    rw [show lUshr b 40 = w64 (b % 18446744073709551616 / 1099511627776) from lUshr_eq (n := 40) (by decide), hv]
    unfold w64; omega
  unfold f_cTally_split
  rw [e0, e1, e2, e3, e4]
  clear e0 e1 e2 e3 e4
  simp only [wp_some, wp_lt1, wp_b1, wp_b2, wp_ck, wp_cn, ln_sJ, hl]
  refine ⟨hx, ⟨by decide, by decide⟩, ⟨by decide, by decide⟩, ⟨by decide, by decide⟩, ⟨by decide, by decide⟩, ⟨by decide, by decide⟩, fun i hi => ?_⟩
  simp only [hJ_sJ, show Int.toNat 0 = 0 from rfl, show Int.toNat 1 = 1 from rfl, show Int.toNat 2 = 2 from rfl, show Int.toNat 3 = 3 from rfl, show Int.toNat 4 = 4 from rfl, true_and]
  unfold SPL
  rcases (by omega : i = 0 ∨ i = 1 ∨ i = 2 ∨ i = 3 ∨ i = 4) with e | e | e | e | e <;> subst e <;> rfl
/-- one step of a carry -/
def cst (S : Nat → Int) (k : Nat) : Nat → Int := ud1 (ud1 S (k + 1) (S (k + 1) + S k / 67108864)) k (S k % 67108864)
theorem us26 {x : Int} (h0 : 0 ≤ x) (h1 : x < 4611686018427387904) : lUshr x 26 = x / 67108864 := by
  rw [show lUshr x 26 = w64 (x % 18446744073709551616 / 67108864) from lUshr_eq (n := 26) (by decide), w64_id ⟨by omega, by omega⟩]; omega
theorem c_cst {a k : Nat} {S : Nat → Int} {h : Hp} {K : Nat → Int → Hp → Option Hp} {Q : Hp → Prop} (hk : k < 4) (L : LTal h a) (J : JS h (a + 1) S) (b0 : 0 ≤ S k ∧ S k < 4611686018427387904) (b1 : 0 ≤ S (k + 1) ∧ S (k + 1) < 4611686018427387904) (kk : ∀ h', LTal h' a → JS h' (a + 1) (cst S k) → wp (K a ((k + 1 : Nat) : Int) h') Q) : wp (f_cTally_carry_b2 K a (k : Int) h) Q := by
  have l0 := L.1
  unfold f_cTally_carry_b2
  simp only [w_k1 (show k < 1000000000 by omega), Int.toNat_natCast]
  rw [if_neg (by omega), L.r0_0, L.l1, wp_cn]
  refine ⟨by omega, ?_⟩
  rw [wp_ck, wp_ck, wp_ck]
  refine ⟨ix16 (by omega), ix16 (by omega), ix16 (by omega), ?_⟩
  rw [wp_lt1, J k (by omega), J (k + 1) (by omega), us26 b0.1 b0.2, w64_id ⟨by omega, by omega⟩]
  have J1 : JS (sJ h (a + 1) (k + 1) (S (k + 1) + S k / 67108864)) (a + 1) (ud1 S (k + 1) (S (k + 1) + S k / 67108864)) := J.s
  have L1 : LTal (sJ h (a + 1) (k + 1) (S (k + 1) + S k / 67108864)) a := L.of rsJ lsJ
  generalize sJ h (a + 1) (k + 1) (S (k + 1) + S k / 67108864) = g at *
  rw [L1.r0_0, L1.l1, wp_cn]
  refine ⟨by omega, ?_⟩
  rw [wp_ck, wp_ck]
  refine ⟨ix16 (by omega), ix16 (by omega), ?_⟩
  rw [wp_lt1, J1 k (by omega), show lAnd (ud1 S (k + 1) (S (k + 1) + S k / 67108864) k) 67108863 = ud1 S (k + 1) (S (k + 1) + S k / 67108864) k % 67108864 from lAnd_mask (n := 26) (by decide) rfl]
  refine kk _ (L1.of rsJ lsJ) ?_
  have := J1.s (i := k) (v := ud1 S (k + 1) (S (k + 1) + S k / 67108864) k % 67108864)
  have e : ud1 S (k + 1) (S (k + 1) + S k / 67108864) k = S k := by unfold ud1; rw [if_neg (by omega)]
  rw [e] at this ⊢
  exact this
theorem c_carry {a : Nat} {S : Nat → Int} {h : Hp} (L : LTal h a) (J : JS h (a + 1) S) (b : lb S 2305843009213693952) : wp (f_cTally_carry a h) (fun h' => JS h' (a + 1) (CR S)) := by
  have h0 := b 0 (by omega)
  have h1 := b 1 (by omega)
  have h2 := b 2 (by omega)
  have h3 := b 3 (by omega)
  have h4 := b 4 (by omega)
  have l0 := L.1
  unfold f_cTally_carry
  obtain ⟨f, hf⟩ : ∃ f, FU = f + 5 := ⟨999999995, rfl⟩
  rw [hf]
  clear hf
  refine c_cst (k := 0) (by omega) L J (by omega) (by show 0 ≤ S 1 ∧ S 1 < _; omega) (fun g1 L1 J1 => ?_)
  refine c_cst (k := 1) (K := f_cTally_carry_b2_lp (f + 3)) (by omega) L1 J1 (by show 0 ≤ S 1 + S 0 / 67108864 ∧ S 1 + S 0 / 67108864 < _; omega) (by show 0 ≤ S 2 ∧ S 2 < _; omega) (fun g2 L2 J2 => ?_)
  refine c_cst (k := 2) (K := f_cTally_carry_b2_lp (f + 2)) (by omega) L2 J2 (by show 0 ≤ S 2 + (S 1 + S 0 / 67108864) / 67108864 ∧ S 2 + (S 1 + S 0 / 67108864) / 67108864 < _; omega) (by show 0 ≤ S 3 ∧ S 3 < _; omega) (fun g3 L3 J3 => ?_)
  refine c_cst (k := 3) (K := f_cTally_carry_b2_lp (f + 1)) (by omega) L3 J3 (by show 0 ≤ S 3 + (S 2 + (S 1 + S 0 / 67108864) / 67108864) / 67108864 ∧ S 3 + (S 2 + (S 1 + S 0 / 67108864) / 67108864) / 67108864 < _; omega) (by show 0 ≤ S 4 ∧ S 4 < _; omega) (fun g4 L4 J4 => ?_)
  show wp (f_cTally_carry_b2 (f_cTally_carry_b2_lp f) a 4 g4) _
  have t0 : cst (cst (cst (cst S 0) 1) 2) 3 0 = S 0 % 67108864 := rfl
  have t4 : cst (cst (cst (cst S 0) 1) 2) 3 4 = S 4 + (S 3 + (S 2 + (S 1 + S 0 / 67108864) / 67108864) / 67108864) / 67108864 := rfl
  have u0 := J4 0 (by omega)
  have u4 := J4 4 (by omega)
  rw [t0] at u0
  rw [t4] at u4
  generalize hT : S 4 + (S 3 + (S 2 + (S 1 + S 0 / 67108864) / 67108864) / 67108864) / 67108864 = T at *
  have hT2 : 0 ≤ T ∧ T < 4611686018427387904 := by clear u0 u4 t0 t4; omega
  unfold f_cTally_carry_b2
  rw [if_pos (by decide), L4.r0_0, L4.l1, wp_cn]
  refine ⟨by clear u0 u4 t0 t4; omega, ?_⟩
  rw [wp_ck, wp_ck, wp_ck]
  refine ⟨⟨by decide, by decide⟩, ⟨by decide, by decide⟩, ⟨by decide, by decide⟩, ?_⟩
  rw [wp_lt1, show Int.toNat 0 = 0 from rfl, show Int.toNat 4 = 4 from rfl, u0, u4, us26 hT2.1 hT2.2, w64_id (x := 5 * (T / 67108864)) ⟨by clear u0 u4 t0 t4; omega, by clear u0 u4 t0 t4; omega⟩, w64_id ⟨by clear u0 u4 t0 t4; omega, by clear u0 u4 t0 t4; omega⟩]
  have J5 := J4.s (i := 0) (v := S 0 % 67108864 + 5 * (T / 67108864))
  have L5 : LTal (sJ g4 (a + 1) 0 (S 0 % 67108864 + 5 * (T / 67108864))) a := L4.of rsJ lsJ
  generalize sJ g4 (a + 1) 0 (S 0 % 67108864 + 5 * (T / 67108864)) = g5 at *
  rw [L5.r0_0, L5.l1, wp_cn]
  refine ⟨by clear u0 u4 t0 t4; omega, ?_⟩
  rw [wp_ck, wp_ck]
  refine ⟨⟨by decide, by decide⟩, ⟨by decide, by decide⟩, ?_⟩
  have u5 : hJ g5 (a + 1) 4 = T := by rw [J5 4 (by omega)]; exact t4
  rw [wp_lt1, wp_some, u5, show lAnd T 67108863 = T % 67108864 from lAnd_mask (n := 26) (by decide) rfl]
  have J6 := J5.s (i := 4) (v := T % 67108864)
  intro i hi
  rw [J6 i hi]
  rcases (by clear u0 u4 t0 t4; omega : i = 0 ∨ i = 1 ∨ i = 2 ∨ i = 3 ∨ i = 4) with e | e | e | e | e <;> subst e
  · show S 0 % 67108864 + 5 * (T / 67108864) = CR S 0
    rw [← hT]; rfl
  · rfl
  · rfl
  · rfl
  · show T % 67108864 = CR S 4
    rw [← hT]; rfl
