/-! ChaCha: the words, a quarter of a round, on both sides -/
section
variable {h : Hp} {a k s sp d dp n P o N : Nat} {v : Int} {E : Nat → Int}
theorem rsI : hR (sI h a k v) = hR h := rfl
theorem rsJ : hR (sJ h a k v) = hR h := rfl
theorem lsI : ln (sI h a k v) = ln h := rfl
theorem lsJ : ln (sJ h a k v) = ln h := rfl
theorem rcI : hR (cpI h s sp d dp n) = hR h := rfl
theorem lcI : ln (cpI h s sp d dp n) = ln h := rfl
theorem rcJ : hR (cpJ h s sp d dp n) = hR h := rfl
theorem lcJ : ln (cpJ h s sp d dp n) = ln h := rfl
theorem rfI : hR (fI h P o k N E) = hR h := rfl
theorem lfI : ln (fI h P o k N E) = ln h := rfl
theorem rfJ : hR (fJ h P o k N E) = hR h := rfl
theorem lfJ : ln (fJ h P o k N E) = ln h := rfl
end
def rl (n : Nat) (x : BitVec 32) : BitVec 32 := (x <<< n) ||| (x >>> (32 - n))
def ud1 {α : Type} (X : Nat → α) (i : Nat) (v : α) : Nat → α := fun j => if j = i then v else X j
def chH (X : Nat → BitVec 32) (p q s n : Nat) : Nat → BitVec 32 := ud1 (ud1 X p (X p + X q)) s (rl n (ud1 X p (X p + X q) s ^^^ ud1 X p (X p + X q) p))
def chM (X : Nat → BitVec 32) (a b c d : Nat) : Nat → BitVec 32 := chH (chH (chH (chH X a b d 16) c d b 12) a b d 8) c d b 7
def chQ (s : Nat) (X : Nat → BitVec 32) : Nat → (Nat → BitVec 32)
  | 0 => X
  | k + 1 => chM (chQ s X k) k (4 + (k + s) % 4) (8 + (k + 2 * s) % 4) (12 + (k + 3 * s) % 4)
def chN (X : Nat → BitVec 32) : Nat → (Nat → BitVec 32)
  | 0 => X
  | r + 1 => chQ (r % 2) (chN X r) 4
theorem neg_shu : ∀ n : Nat, n < 32 → 0 < n → (Int32.ofInt (w32 (-(n : Int)))).toUInt32 &&& Int32.toUInt32 31 = (Int32.ofInt ((32 - n : Nat) : Int)).toUInt32 &&& Int32.toUInt32 31 := by decide
theorem bv_rotl (x : Int) {n : Nat} (h0 : 0 < n) (hn : n < 32) : bv (iOr (iShl x (n : Int)) (iUshr x (w32 (-(n : Int))))) = rl n (bv x) := by
  have e : iUshr x (w32 (-(n : Int))) = iUshr x ((32 - n : Nat) : Int) := by unfold iUshr; rw [neg_shu n hn h0]
  rw [bv_iOr, bv_iShl x hn, e, bv_iUshr x (by omega)]
  rfl
/-- sixteen words of the class / of the model -/
def XS (h : Hp) (x : Nat) (X : Nat → BitVec 32) : Prop := ∀ i, i < 16 → bv (hI h x i) = X i ∧ c32 (hI h x i)
def YS (h : Hp) (x : Nat) (X : Nat → BitVec 32) : Prop := ∀ i, i < 16 → bv (hJ h x i) = X i ∧ inw (hJ h x i)
theorem XS.s {h : Hp} {x i : Nat} {X : Nat → BitVec 32} {v : Int} {w : BitVec 32} (S : XS h x X) (e : bv v = w) (c : c32 v) : XS (sI h x i v) x (ud1 X i w) := fun j hj => by
  rw [hI_sI]
  unfold ud1
  by_cases he : j = i
  · rw [if_pos ⟨rfl, he⟩, if_pos he]; exact ⟨e, c⟩
  · rw [if_neg (fun z => he z.2), if_neg he]; exact S j hj
theorem YS.s {h : Hp} {x i : Nat} {X : Nat → BitVec 32} {v : Int} {w : BitVec 32} (S : YS h x X) (e : bv v = w) (c : inw v) : YS (sJ h x i v) x (ud1 X i w) := fun j hj => by
  rw [hJ_sJ]
  unfold ud1
  by_cases he : j = i
  · rw [if_pos ⟨rfl, he⟩, if_pos he]; exact ⟨e, c⟩
  · rw [if_neg (fun z => he z.2), if_neg he]; exact S j hj
theorem wp_rotl {r n : Int} {h : Hp} {Q : Int × Hp → Prop} : wp (f_jInteger_rotateLeft r n h) Q ↔ Q (iOr (iShl r n) (iUshr r (w32 (-n))), h) := wp_some
theorem ix16 {i n : Nat} (hi : i < n) : ix (i : Int) n := ⟨by omega, by omega⟩
/-- one half of a quarter, as it stands in the class's mix -/
theorem c_half {a p q s n : Nat} {m : Int} {X : Nat → BitVec 32} {h : Hp} {K : Hp → Option Hp} {Q : Hp → Prop} (L : LKs h a) (S : XS h (a + 2) X) (hp : p < 16) (hq : q < 16) (hs : s < 16) (hm : m = (n : Int)) (hn0 : 0 < n) (hn : n < 32) (k : ∀ h', LKs h' a → XS h' (a + 2) (chH X p q s n) → wp (K h') Q) :
    wp (if hR h a 1 = 0 then none else
      if ix (p : Int) (ln h (hR h a 1)) then
        if ix (q : Int) (ln h (hR h a 1)) then
          if ix (p : Int) (ln h (hR h a 1)) then
            lt1 (sI h (hR h a 1) (p : Int).toNat (w32 ((hI h (hR h a 1) (p : Int).toNat) + (hI h (hR h a 1) (q : Int).toNat)))) fun h5 =>
            if hR h5 a 1 = 0 then none else
            if ix (s : Int) (ln h5 (hR h5 a 1)) then
              if ix (p : Int) (ln h5 (hR h5 a 1)) then
                b2 (f_jInteger_rotateLeft (iXor (hI h5 (hR h5 a 1) (s : Int).toNat) (hI h5 (hR h5 a 1) (p : Int).toNat)) m h5) fun r11 h9 =>
                if ix (s : Int) (ln h9 (hR h5 a 1)) then
                  lt1 (sI h9 (hR h5 a 1) (s : Int).toNat r11) fun h13 => K h13
                else none
              else none
            else none
          else none
        else none
      else none) Q := by
  have l0 := L.1
  subst hm
  rw [L.r0_1, L.l2, wp_cn]
  refine ⟨by omega, ?_⟩
  rw [wp_ck, wp_ck, wp_ck]
  refine ⟨ix16 hp, ix16 hq, ix16 hp, ?_⟩
  rw [wp_lt1]
  simp only [Int.toNat_natCast]
  have S1 : XS (sI h (a + 2) p (w32 (hI h (a + 2) p + hI h (a + 2) q))) (a + 2) (ud1 X p (X p + X q)) := S.s (by rw [bv_w32, bv_add, (S p hp).1, (S q hq).1]) (c32_w _)
  have L1 : LKs (sI h (a + 2) p (w32 (hI h (a + 2) p + hI h (a + 2) q))) a := L
  generalize sI h (a + 2) p (w32 (hI h (a + 2) p + hI h (a + 2) q)) = h5 at S1 L1 ⊢
  rw [L1.r0_1, L1.l2, wp_cn]
  refine ⟨by omega, ?_⟩
  rw [wp_ck, wp_ck]
  refine ⟨ix16 hs, ix16 hp, ?_⟩
  rw [wp_b2, wp_rotl]
  show wp (if ix (s : Int) (ln h5 (a + 2)) then _ else none) Q
  rw [L1.l2, wp_ck]
  refine ⟨ix16 hs, ?_⟩
  rw [wp_lt1]
  refine k _ L1 (S1.s ?_ (c32_toInt _))
  rw [bv_rotl _ hn0 hn, bv_iXor, (S1 s hs).1, (S1 p hp).1]
theorem c_mix {a p q r s : Nat} {X : Nat → BitVec 32} {h : Hp} (L : LKs h a) (S : XS h (a + 2) X) (hp : p < 16) (hq : q < 16) (hr : r < 16) (hs : s < 16) : wp (f_cKeystream_mix a (p : Int) (q : Int) (r : Int) (s : Int) h) (fun h' => XS h' (a + 2) (chM X p q r s)) := by
  unfold f_cKeystream_mix
  refine c_half (n := 16) L S hp hq hs rfl (by decide) (by decide) (fun h1 L1 S1 => ?_)
  refine c_half (n := 12) L1 S1 hr hs hq rfl (by decide) (by decide) (fun h2 L2 S2 => ?_)
  refine c_half (n := 8) L2 S2 hp hq hs rfl (by decide) (by decide) (fun h3 L3 S3 => ?_)
  refine c_half (n := 7) L3 S3 hr hs hq rfl (by decide) (by decide) (fun h4 L4 S4 => ?_)
  rw [wp_some]
  exact S4
theorem ofI64_nat {x : Int} (h0 : 0 ≤ x) (h1 : x < 4294967296) : (BitVec.ofInt 64 x).toNat = x.toNat := by
  rw [BitVec.toNat_ofInt, Int.emod_eq_of_lt h0 (Int.lt_trans h1 (by decide))]
theorem lXor_nat {x y : Int} (hx : inw x) (hy : inw y) : lXor x y = ((x.toNat ^^^ y.toNat : Nat) : Int) := by
  unfold inw at *
  have h1 := ofI64_nat hx.1 hx.2
  have h2 := ofI64_nat hy.1 hy.2
  have h3 : x.toNat ^^^ y.toNat < 2 ^ 32 := Nat.xor_lt_two_pow (by omega) (by omega)
  show (BitVec.ofInt 64 x ^^^ BitVec.ofInt 64 y).toInt = _
  rw [BitVec.toInt_eq_toNat_of_lt (by rw [BitVec.toNat_xor, h1, h2]; omega), BitVec.toNat_xor, h1, h2]
theorem inw_xor {x y : Int} (hx : inw x) (hy : inw y) : inw (lXor x y) := by
  rw [lXor_nat hx hy]
  unfold inw at *
  have h3 : x.toNat ^^^ y.toNat < 2 ^ 32 := Nat.xor_lt_two_pow (by omega) (by omega)
  omega
theorem bv_left {x : Int} (hx : inw x) {n : Nat} (hn0 : 0 < n) (hn : n < 32) : bv (lAnd (lOr (lShl x n) (lShr x (w32 (32 - (n : Int))))) 4294967295) = rl n (bv x) := by
  have e : w32 (32 - (n : Int)) = ((32 - n : Nat) : Int) := by unfold w32; omega
  rw [(and32 _).1, e, bv_lOr, bv_lShl x (by omega), bv_lShr hx.1 hx.2 (by omega)]
  rfl
theorem m_half {s p q t n : Nat} {m : Int} {X : Nat → BitVec 32} {h : Hp} (L : LSeals h s) (S : YS h (s + 16) X) (hp : p < 16) (hq : q < 16) (ht : t < 16) (hm : m = (n : Int)) (hn0 : 0 < n) (hn : n < 32) : wp (f_mSeals_half s (p : Int) (q : Int) (t : Int) m h) (fun h' => YS h' (s + 16) (chH X p q t n) ∧ LSeals h' s) := by
  have l0 := L.1
  subst hm
  unfold f_mSeals_half f_mSeals_left
  rw [L.r17, L.l16, wp_cn]
  refine ⟨by omega, ?_⟩
  rw [wp_ck, wp_ck, wp_ck]
  refine ⟨ix16 hp, ix16 hq, ix16 hp, ?_⟩
  rw [wp_lt1]
  simp only [Int.toNat_natCast]
  have S1 : YS (sJ h (s + 16) p (lAnd (w64 (hJ h (s + 16) p + hJ h (s + 16) q)) 4294967295)) (s + 16) (ud1 X p (X p + X q)) := S.s (by rw [(and32 _).1, bv_w64, bv_add, (S p hp).1, (S q hq).1]) (and32 _).2
  have L1 : LSeals (sJ h (s + 16) p (lAnd (w64 (hJ h (s + 16) p + hJ h (s + 16) q)) 4294967295)) s := L.of rsJ lsJ
  generalize sJ h (s + 16) p (lAnd (w64 (hJ h (s + 16) p + hJ h (s + 16) q)) 4294967295) = h5 at S1 L1 ⊢
  rw [L1.r17, L1.l16, wp_cn]
  refine ⟨by omega, ?_⟩
  rw [wp_ck, wp_ck]
  refine ⟨ix16 ht, ix16 hp, ?_⟩
  rw [b2_some, L1.l16, wp_ck]
  refine ⟨ix16 ht, ?_⟩
  rw [wp_lt1, wp_some]
  refine ⟨S1.s ?_ (and32 _).2, L1.of rsJ lsJ⟩
  rw [bv_left (inw_xor (S1 t ht).2 (S1 p hp).2) hn0 hn, bv_lXor, (S1 t ht).1, (S1 p hp).1]
theorem m_mix {s p q r t : Nat} {X : Nat → BitVec 32} {h : Hp} (L : LSeals h s) (S : YS h (s + 16) X) (hp : p < 16) (hq : q < 16) (hr : r < 16) (ht : t < 16) : wp (f_mSeals_mix s (p : Int) (q : Int) (r : Int) (t : Int) h) (fun h' => YS h' (s + 16) (chM X p q r t)) := by
  unfold f_mSeals_mix
  refine wp_b1o (m_half (n := 16) L S hp hq ht rfl (by decide) (by decide)) (fun h1 _ q1 => ?_)
  refine wp_b1o (m_half (n := 12) q1.2 q1.1 hr ht hq rfl (by decide) (by decide)) (fun h2 _ q2 => ?_)
  refine wp_b1o (m_half (n := 8) q2.2 q2.1 hp hq ht rfl (by decide) (by decide)) (fun h3 _ q3 => ?_)
  refine wp_b1o (m_half (n := 7) q3.2 q3.1 hr ht hq rfl (by decide) (by decide)) (fun h4 _ q4 => ?_)
  rw [wp_some]
  exact q4.1
