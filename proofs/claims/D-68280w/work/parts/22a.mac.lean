/-! HMAC as a function of bytes; the class's Mac -/
def bx (x y : Int) : Int := (((x % 256).toNat ^^^ (y % 256).toNat : Nat) : Int)
theorem bx_lt (x y : Int) : 0 ≤ bx x y ∧ bx x y < 256 := by
  unfold bx
  have : (x % 256).toNat ^^^ (y % 256).toNat < 2 ^ 8 := Nat.xor_lt_two_pow (by omega) (by omega)
  omega
theorem toInt_m256 (z : BitVec 32) : z.toInt % 256 = ((z.toNat % 256 : Nat) : Int) := by
  have h := z.isLt
  rw [BitVec.toInt_eq_toNat_bmod, show ((2 ^ 32 : Nat)) = 4294967296 from rfl, ← w32_bmod, w32_m256]
  omega
theorem iXor_256 (x y : Int) : iXor x y % 256 = bx x y := by
  show (bv x ^^^ bv y).toInt % 256 = _
  rw [toInt_m256, BitVec.toNat_xor]
  unfold bx
  have h1 : (bv x).toNat % 256 = (x % 256).toNat := by have := bv_nat (s := x); omega
  have h2 : (bv y).toNat % 256 = (y % 256).toNat := by have := bv_nat (s := y); omega
  have h3 := Nat.xor_mod_two_pow (a := (bv x).toNat) (b := (bv y).toNat) (n := 8)
  rw [show (2 : Nat) ^ 8 = 256 from rfl, h1, h2] at h3
  rw [h3]
theorem bx_mod (x y : Int) : bx (x % 256) y = bx x y := by unfold bx; rw [Int.emod_emod]
theorem bx_congr {x x' : Int} (y : Int) (h : x % 256 = x' % 256) : bx x y = bx x' y := by unfold bx; rw [h]
theorem bx_bx (x : Int) : bx (bx x 54) 106 = bx x 92 := by
  have h := bx_lt x 54
  unfold bx at *
  rw [Int.emod_eq_of_lt h.1 h.2, Int.toNat_natCast]
  rw [Nat.xor_assoc]
  rfl
theorem iXor_lt {x y : Int} (hx : 0 ≤ x ∧ x < 256) (hy : 0 ≤ y ∧ y < 256) : iXor x y = bx x y := by
  have h1 : (bv x).toNat = x.toNat := by have := bv_nat (s := x); omega
  have h2 : (bv y).toNat = y.toNat := by have := bv_nat (s := y); omega
  have h3 : x.toNat ^^^ y.toNat < 2 ^ 8 := Nat.xor_lt_two_pow (by omega) (by omega)
  show (bv x ^^^ bv y).toInt = _
  rw [BitVec.toInt_eq_toNat_of_lt (by rw [BitVec.toNat_xor, h1, h2]; omega), BitVec.toNat_xor, h1, h2]
  unfold bx
  rw [Int.emod_eq_of_lt hx.1 hx.2, Int.emod_eq_of_lt hy.1 hy.2]
def kpad (n : Nat) (K : Nat → Int) (j : Nat) : Int := if j < n then K j else 0
def hmI (n : Nat) (K T : Nat → Int) (j : Nat) : Int := if j < 64 then bx (kpad n K j) 54 else T (j - 64)
def hmO (n : Nat) (K D : Nat → Int) (j : Nat) : Int := if j < 64 then bx (kpad n K j) 92 else D (j - 64)
/-- byte k of the MAC of m bytes T under a key of n bytes, at most 64 -/
def HMAC (n : Nat) (K : Nat → Int) (m : Nat) (T : Nat → Int) (k : Nat) : Int := SHA 96 (hmO n K (SHA (64 + m) (hmI n K T))) k
theorem SHA_lt (n : Nat) (B : Nat → Int) (k : Nat) : 0 ≤ SHA n B k ∧ SHA n B k < 256 := by
  unfold SHA
  generalize ((shK (shPad n B) ((n + 8) / 64 + 1) (k / 4)).toNat : Int) / 2 ^ (24 - 8 * (k % 4)) = z
  omega
theorem SHA_congr {n : Nat} {B B' : Nat → Int} (h : ∀ j, j < n → B j % 256 = B' j % 256) {k : Nat} (hk : k < 32) : SHA n B k = SHA n B' k := by
  unfold SHA
  rw [shK_congr (B := shPad n B) (B' := shPad n B') _ (fun j _ => ?_) (k / 4) (by omega)]
  unfold shPad
  by_cases hj : j < n
  · rw [if_pos hj, if_pos hj]; exact h j hj
  · rw [if_neg hj, if_neg hj]
/-- a Mac lies at a -/
def LMac (h : Hp) (a : Nat) : Prop := 64 ≤ a ∧ (hR h a 0 = a + 1 ∧ hR h a 1 = a + 5 ∧ hR h a 2 = a + 9 ∧ hR h a 3 = a + 10 ∧ ln h (a + 9) = 64 ∧ ln h (a + 10) = 32) ∧ LHash h (a + 1) ∧ LHash h (a + 5)
theorem LMac.of {h h' : Hp} {a : Nat} (L : LMac h a) (e1 : hR h' = hR h) (e2 : ln h' = ln h) : LMac h' a := by unfold LMac LHash at *; rw [e1, e2]; exact L
theorem LMac.fe {A B : Nat → Nat → Prop} {h h' : Hp} (F : Fe A B h h') {a : Nat} (L : LMac h a) : LMac h' a := L.of F.r F.l
/-- what Hash methods leave alone -/
def HF (a : Nat) (h h' : Hp) : Prop := (hR h' = hR h ∧ ln h' = ln h) ∧ (∀ x k, x < a ∨ a + 3 < x → hI h' x k = hI h x k) ∧ (∀ x k, x ≠ a → hJ h' x k = hJ h x k)
theorem HF.of_begin {a : Nat} {h h' : Hp} (L : LHash h a) (e : f_cHash_begin a h = some h') : HF a h h' := by
  have F : Fe (wI_cHash_begin a h) (wJ_cHash_begin a h) h h' := fe_cHash_begin a h _ e
  obtain ⟨l0, l1, l2, l3, l4, l5, l6⟩ := L
  exact ⟨⟨F.r, F.l⟩, fun x k hx => F.I (by simp only [wI_cHash_begin, l1, l2, l3]; omega), fun x k hx => F.J (by simp only [wJ_cHash_begin]; omega)⟩
theorem HF.of_add {a r : Nat} {fr cnt : Int} {h h' : Hp} (L : LHash h a) (e : f_cHash_add a r fr cnt h = some h') : HF a h h' := by
  have F : Fe (wI_cHash_add a r fr cnt h) (wJ_cHash_add a r fr cnt h) h h' := fe_cHash_add a r fr cnt h _ e
  obtain ⟨l0, l1, l2, l3, l4, l5, l6⟩ := L
  exact ⟨⟨F.r, F.l⟩, fun x k hx => F.I (by simp only [wI_cHash_add, l1, l2, l3]; omega), fun x k hx => F.J (by simp only [wJ_cHash_add]; omega)⟩
/-- the same but for the row that is written to -/
def HFe (a to : Nat) (h h' : Hp) : Prop := (hR h' = hR h ∧ ln h' = ln h) ∧ (∀ x k, (x < a ∨ a + 3 < x) → x ≠ to → hI h' x k = hI h x k) ∧ (∀ x k, hJ h' x k = hJ h x k)
theorem HFe.of_end {a to : Nat} {p : Int} {h h' : Hp} (L : LHash h a) (e : f_cHash_end a to p h = some h') : HFe a to h h' := by
  have F : Fe (wI_cHash_end a to p h) (wJ_cHash_end a to p h) h h' := fe_cHash_end a to p h _ e
  obtain ⟨l0, l1, l2, l3, l4, l5, l6⟩ := L
  exact ⟨⟨F.r, F.l⟩, fun x k hx ht => F.I (by simp only [wI_cHash_end, l1, l2, l3]; omega), fun x k => F.J (fun z => z)⟩
theorem HS.frame {a b n : Nat} {B : Nat → Int} {h h' : Hp} (Q : HS h b n B) (hI' : ∀ x k, b ≤ x → x ≤ b + 3 → hI h' x k = hI h x k) : HS h' b n B := by
  obtain ⟨q1, q2, q3⟩ := Q
  refine ⟨by rw [hI' _ _ (by omega) (by omega)]; exact q1, fun i hi => by rw [hI' _ _ (by omega) (by omega)]; exact q2 i hi, fun j hj => by rw [hI' _ _ (by omega) (by omega)]; exact q3 j hj⟩
theorem c_turn {a : Nat} {v : Int} {h : Hp} (L : LMac h a) : f_cMac_turn a v h = some (fI h (a + 9) 0 0 64 (fun j => i8 (i8 (iXor (hI h (a + 9) j) (i8 v))))) := by
  obtain ⟨l0, ⟨l1, l2, l3, l4, l5, l6⟩, -, -⟩ := L
  unfold f_cMac_turn
  have e := lq_cMac_turn_b2 (v0 := a) (v1 := v) FU 0 h (by omega) (by unfold FU; omega) (by omega) (by rw [l3]; omega) (by rw [l3, l5]; intro j _ hj; exact ⟨by omega, by omega⟩) (by rw [l3, l5]; intro j _ hj; exact ⟨by omega, by omega⟩)
  have e' : f_cMac_turn_b2_lp FU a v 0 h = _ := e
  rw [e', l3]
  rfl
/-- a Mac under a key has taken m bytes of T -/
def MacS (h : Hp) (a n : Nat) (K : Nat → Int) (m : Nat) (T : Nat → Int) : Prop := (HS h (a + 1) (64 + m) (hmI n K T) ∧ hJ h (a + 1) 4 = 64 + m) ∧ HS h (a + 5) 64 (hmO n K T) ∧ hJ h (a + 5) 4 = 64
theorem c_macB {a n : Nat} {K T : Nat → Int} {h : Hp} (L : LMac h a) (S : SC h) (hP : ∀ j, j < 64 → hI h (a + 9) j % 256 = kpad n K j % 256) : wp (f_cMac_begin_b73 a h) (fun h' => MacS h' a n K 0 T) := by
  have l0 := L.1
  have L0 := L
  obtain ⟨-, ⟨l1, l2, l3, l4, l5, l6⟩, LI, LO⟩ := L0
  unfold f_cMac_begin_b73
  rw [c_turn L, wp_b1, wp_some]
  generalize hg1 : fI h (a + 9) 0 0 64 (fun j => i8 (i8 (iXor (hI h (a + 9) j) (i8 54)))) = g1
  have G1 : LMac g1 a := by rw [← hg1]; exact L
  have p1 : ∀ j, j < 64 → hI g1 (a + 9) j % 256 = bx (kpad n K j) 54 := fun j hj => by
    rw [← hg1, hI_fI, if_pos ⟨rfl, by omega, by omega⟩, i8_mod, i8_mod, Nat.sub_zero, iXor_256, ← bx_congr _ (hP j hj)]
    rfl
  have S1 : SC g1 := by rw [← hg1]; exact S.of rfl rfl (fun k => by rw [hI_fI, if_neg (by omega)]) (fun k => by rw [hI_fI, if_neg (by omega)])
  clear hg1
  obtain ⟨-, ⟨m1, m2, m3, m4, m5, m6⟩, LI1, LO1⟩ := id G1
  rw [m1, wp_cn]
  refine ⟨by omega, ?_⟩
  refine wp_b1o (c_begin (B := hmI n K T) LI1 S1) (fun g2 e2 q2 => ?_)
  have F2 := HF.of_begin LI1 e2
  have G2 : LMac g2 a := G1.of F2.1.1 F2.1.2
  have S2 : SC g2 := S1.of F2.1.1 F2.1.2 (fun k => F2.2.1 31 k (by omega)) (fun k => F2.2.1 32 k (by omega))
  rw [F2.1.1, m1, m3, wp_cn]
  refine ⟨by omega, ?_⟩
  have h64 : ∀ j, j < 64 → hI g2 (a + 9) (0 + j) % 256 = hmI n K T (0 + j) % 256 := fun j hj => by
    rw [Nat.zero_add, F2.2.1 (a + 9) j (by omega)]
    unfold hmI
    rw [if_pos hj, p1 j hj]
    have := bx_lt (kpad n K j) 54
    omega
  have w3 := c_add (a := a + 1) (r := a + 9) (N := 0) (cnt := 64) (fr := 0) (by omega) (by omega) (by omega) (by omega) G2.2.2.1 S2 q2.1 (by rw [F2.1.2, m5]; omega) h64
  refine wp_b1o w3 (fun g3 e3 q3 => ?_)
  have F3 := HF.of_add G2.2.2.1 e3
  have G3 : LMac g3 a := G2.of F3.1.1 F3.1.2
  have S3 : SC g3 := S2.of F3.1.1 F3.1.2 (fun k => F3.2.1 31 k (by omega)) (fun k => F3.2.1 32 k (by omega))
  rw [c_turn G3, wp_b1, wp_some]
  generalize hg4 : fI g3 (a + 9) 0 0 64 (fun j => i8 (i8 (iXor (hI g3 (a + 9) j) (i8 106)))) = g4
  have G4 : LMac g4 a := by rw [← hg4]; exact G3
  have p4 : ∀ j, j < 64 → hI g4 (a + 9) j % 256 = bx (kpad n K j) 92 := fun j hj => by
    rw [← hg4, hI_fI, if_pos ⟨rfl, by omega, by omega⟩, i8_mod, i8_mod, Nat.sub_zero, iXor_256, F3.2.1 (a + 9) j (by omega), F2.2.1 (a + 9) j (by omega), ← bx_mod, p1 j hj]
    exact bx_bx _
  have n4 : ∀ x k, x ≠ a + 9 → hI g4 x k = hI g3 x k := fun x k hx => by rw [← hg4, hI_fI, if_neg (fun z => hx z.1)]
  have j4 : ∀ x k, hJ g4 x k = hJ g3 x k := fun x k => by rw [← hg4]; rfl
  have S4 : SC g4 := S3.of (by rw [← hg4]; rfl) (by rw [← hg4]; rfl) (fun k => n4 31 k (by omega)) (fun k => n4 32 k (by omega))
  clear hg4
  obtain ⟨-, ⟨o1, o2, o3, o4, o5, o6⟩, LI4, LO4⟩ := id G4
  rw [o2, wp_cn]
  refine ⟨by omega, ?_⟩
  refine wp_b1o (c_begin (B := hmO n K T) LO4 S4) (fun g5 e5 q5 => ?_)
  have F5 := HF.of_begin LO4 e5
  have G5 : LMac g5 a := G4.of F5.1.1 F5.1.2
  have S5 : SC g5 := S4.of F5.1.1 F5.1.2 (fun k => F5.2.1 31 k (by omega)) (fun k => F5.2.1 32 k (by omega))
  rw [F5.1.1, o2, o3, wp_cn]
  refine ⟨by omega, ?_⟩
  have h65 : ∀ j, j < 64 → hI g5 (a + 9) (0 + j) % 256 = hmO n K T (0 + j) % 256 := fun j hj => by
    rw [Nat.zero_add, F5.2.1 (a + 9) j (by omega)]
    unfold hmO
    rw [if_pos hj, p4 j hj]
    have := bx_lt (kpad n K j) 92
    omega
  have w6 := c_add (a := a + 5) (r := a + 9) (N := 0) (cnt := 64) (fr := 0) (by omega) (by omega) (by omega) (by omega) G5.2.2.2 S5 q5.1 (by rw [F5.1.2, o5]; omega) h65
  refine wp_b1o w6 (fun g6 e6 q6 => ?_)
  have F6 := HF.of_add G5.2.2.2 e6
  rw [wp_some]
  have tr : ∀ x k, a + 1 ≤ x → x ≤ a + 1 + 3 → hI g6 x k = hI g3 x k := fun x k h1 h2 => by
    rw [F6.2.1 x k (by omega), F5.2.1 x k (by omega), n4 x k (by omega)]
  refine ⟨⟨HS.frame (a := a) (b := a + 1) (by simpa using q3.1) tr, ?_⟩, by simpa using q6.1, ?_⟩
  · rw [F6.2.2 _ _ (by omega), F5.2.2 _ _ (by omega), j4, q3.2, q2.2]; decide
  · rw [q6.2, q5.2]; decide
