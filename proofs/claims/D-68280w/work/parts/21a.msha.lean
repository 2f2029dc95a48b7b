/-! the model's Seals: SHA-256 -/
theorem lAnd32 (x : Int) : lAnd x 4294967295 = x % 4294967296 := lAnd_mask (n := 32) (by decide) rfl
/-- what Seals.right answers -/
def RT (n x : Int) : Int := lAnd (lOr (lShr x n) (lShl x (w32 (32 - n)))) 4294967295
theorem bv_RT {x : Int} (h0 : 0 ≤ x) (h1 : x < 4294967296) {n : Nat} (hn0 : 0 < n) (hn : n < 32) : bv (RT n x) = rr n (bv x) ∧ 0 ≤ RT n x ∧ RT n x < 4294967296 := by
  unfold RT
  have e : w32 (32 - (n : Int)) = ((32 - n : Nat) : Int) := by unfold w32; omega
  rw [lAnd32, e]
  clear e
  refine ⟨?_, by omega, by omega⟩
  rw [bv_congr (x := lOr (lShr x n) (lShl x ((32 - n : Nat) : Int)) % 4294967296) (y := lOr (lShr x n) (lShl x ((32 - n : Nat) : Int))) (by omega)]
  rw [bv_lOr, bv_lShr h0 h1 (by omega), bv_lShl x (by omega)]
  rfl
theorem ch_eq (e f g : BitVec 32) : (e &&& f) ||| ((bv 4294967295 ^^^ e) &&& g) = chF e f g := by
  unfold chF
  apply BitVec.eq_of_getLsbD_eq
  intro i hi
  have h1 : (bv 4294967295).getLsbD i = true := by
    have : ∀ i : Nat, i < 32 → (bv 4294967295).getLsbD i = true := by decide
    exact this i hi
  simp only [BitVec.getLsbD_or, BitVec.getLsbD_and, BitVec.getLsbD_xor, h1]
  cases e.getLsbD i <;> cases f.getLsbD i <;> cases g.getLsbD i <;> rfl
theorem mj_eq (a b c : BitVec 32) : (a &&& b) ||| (a &&& c) ||| (b &&& c) = mjF a b c := by
  unfold mjF
  apply BitVec.eq_of_getLsbD_eq
  intro i hi
  simp only [BitVec.getLsbD_or, BitVec.getLsbD_and]
  cases a.getLsbD i <;> cases b.getLsbD i <;> cases c.getLsbD i <;> rfl
/-- the tables that the model's Seals made: the first words and those of the rounds -/
def MCs (h : Hp) (s : Nat) : Prop := (∀ i, i < 8 → hJ h (s + 1) i = sST.getD i 0 % 4294967296) ∧ (∀ i, i < 64 → hJ h (s + 2) i = sRO.getD i 0 % 4294967296)
def inw (x : Int) : Prop := 0 ≤ x ∧ x < 4294967296
theorem i7 {x : Int} : iAnd x 7 = x % 8 := iAnd_mask (n := 3) (by decide) rfl
/-- state of a round: place j stands at (64 - t + j) % 8 -/
def MS (h : Hp) (s : Nat) (S : Nat → BitVec 32) (t : Nat) : Prop := ∀ j, j < 8 → bv (hJ h (s + 8) ((64 - t + j) % 8)) = S j ∧ inw (hJ h (s + 8) ((64 - t + j) % 8))
theorem m_p {x7 e f g k w : Int} (he : inw e) : bv (w64 (w64 (w64 (w64 (x7 + lXor (lXor (RT 6 e) (RT 11 e)) (RT 25 e)) + lOr (lAnd e f) (lAnd (lXor 4294967295 e) g)) + k) + w)) = bv x7 + bS1 (bv e) + chF (bv e) (bv f) (bv g) + bv k + bv w := by
  simp only [bv_w64, bv_add, bv_lXor, bv_lOr, bv_lAnd, ch_eq, (bv_RT he.1 he.2 (n := 6) (by decide) (by decide)).1, (bv_RT he.1 he.2 (n := 11) (by decide) (by decide)).1, (bv_RT he.1 he.2 (n := 25) (by decide) (by decide)).1, show ∀ x, RT 6 x = RT ((6 : Nat) : Int) x from fun _ => rfl, show ∀ x, RT 11 x = RT ((11 : Nat) : Int) x from fun _ => rfl, show ∀ x, RT 25 x = RT ((25 : Nat) : Int) x from fun _ => rfl]
  rfl
theorem m_q {a b c : Int} (ha : inw a) : bv (w64 (lXor (lXor (RT 2 a) (RT 13 a)) (RT 22 a) + lOr (lOr (lAnd a b) (lAnd a c)) (lAnd b c))) = bS0 (bv a) + mjF (bv a) (bv b) (bv c) := by
  simp only [bv_w64, bv_add, bv_lXor, bv_lOr, bv_lAnd, mj_eq, (bv_RT ha.1 ha.2 (n := 2) (by decide) (by decide)).1, (bv_RT ha.1 ha.2 (n := 13) (by decide) (by decide)).1, (bv_RT ha.1 ha.2 (n := 22) (by decide) (by decide)).1, show ∀ x, RT 2 x = RT ((2 : Nat) : Int) x from fun _ => rfl, show ∀ x, RT 13 x = RT ((13 : Nat) : Int) x from fun _ => rfl, show ∀ x, RT 22 x = RT ((22 : Nat) : Int) x from fun _ => rfl]
  rfl
theorem bv_m32 (x : Int) : bv (x % 4294967296) = bv x := bv_congr (by omega)
theorem and32 (x : Int) : bv (lAnd x 4294967295) = bv x ∧ inw (lAnd x 4294967295) := by rw [lAnd32]; exact ⟨bv_m32 x, by unfold inw; omega⟩
theorem m_round {s t : Nat} {h : Hp} {W S : Nat → BitVec 32} (L : LSeals h s) (M : MCs h s) (ht : t < 64) (hW : bv (hJ h (s + 6) t) = W t) (hS : MS h s S t) : wp (f_mSeals_round s (t : Int) h) (fun h' => MS h' s (shS W S t) (t + 1)) := by
  unfold f_mSeals_round
  have o0 : iAnd (w32 (64 - (t : Int))) 7 = (((64 - t) % 8 : Nat) : Int) := by rw [i7]; unfold w32; omega
  have oj : ∀ j : Nat, j < 8 → iAnd (w32 ((((64 - t) % 8 : Nat) : Int) + (j : Int))) 7 = (((64 - t + j) % 8 : Nat) : Int) := fun j hj => by rw [i7]; unfold w32; omega
  have o1 := oj 1 (by decide)
  have o2 := oj 2 (by decide)
  have o3 := oj 3 (by decide)
  have o4 := oj 4 (by decide)
  have o5 := oj 5 (by decide)
  have o6 := oj 6 (by decide)
  have o7 := oj 7 (by decide)
  have o1' : iAnd (w32 ((((64 - t) % 8 : Nat) : Int) + 1)) 7 = _ := o1
  have o2' : iAnd (w32 ((((64 - t) % 8 : Nat) : Int) + 2)) 7 = _ := o2
  have o3' : iAnd (w32 ((((64 - t) % 8 : Nat) : Int) + 3)) 7 = _ := o3
  have o4' : iAnd (w32 ((((64 - t) % 8 : Nat) : Int) + 4)) 7 = _ := o4
  have o5' : iAnd (w32 ((((64 - t) % 8 : Nat) : Int) + 5)) 7 = _ := o5
  have o6' : iAnd (w32 ((((64 - t) % 8 : Nat) : Int) + 6)) 7 = _ := o6
  have o7' : iAnd (w32 ((((64 - t) % 8 : Nat) : Int) + 7)) 7 = _ := o7
  simp only [wp_some, wp_lt1, wp_b1, wp_b2, wp_ck, wp_cn, hI_sI, hJ_sJ, hR_sR, hI_sJ, hI_sR, hJ_sI, hJ_sR, hR_sI, hR_sJ, ln_sI, ln_sJ, ln_sR, kd_sI, kd_sJ, kd_sR, hN_sI, hN_sJ, hN_sR, hZ_sI, hZ_sJ, hZ_sR, f_mSeals_right, o0, o1', o2', o3', o4', o5', o6', o7', L.r7, L.r1, L.r5, L.l8, L.l2, L.l6, Int.toNat_natCast]
  clear o0 o1 o2 o3 o4 o5 o6 o7 o1' o2' o3' o4' o5' o6' o7' oj
  have l0 := L.1
  repeat' apply And.intro
  any_goals omega
  intro j hj
  have e : ∀ n x, lAnd (lOr (lShr x n) (lShl x (w32 (32 - n)))) 4294967295 = RT n x := fun _ _ => rfl
  simp only [e]
  have g := fun j hj => (hS j hj)
  have b0 := g 0 (by decide); have b1 := g 1 (by decide); have b2 := g 2 (by decide); have b3 := g 3 (by decide)
  have b4 := g 4 (by decide); have b5 := g 5 (by decide); have b6 := g 6 (by decide); have b7 := g 7 (by decide)
  simp only [Nat.add_zero] at b0
  have hk : bv (hJ h (s + 2) t) = KK t := by rw [M.2 t ht, bv_m32]; rfl
  have hp := m_p (x7 := hJ h (s + 8) ((64 - t + 7) % 8)) (f := hJ h (s + 8) ((64 - t + 5) % 8)) (g := hJ h (s + 8) ((64 - t + 6) % 8)) (k := hJ h (s + 2) t) (w := hJ h (s + 6) t) b4.2
  rw [b7.1, b4.1, b5.1, b6.1, hk, hW] at hp
  have hq := m_q (b := hJ h (s + 8) ((64 - t + 1) % 8)) (c := hJ h (s + 8) ((64 - t + 2) % 8)) b0.2
  rw [b0.1, b1.1, b2.1] at hq
  by_cases j0 : j = 0
  · subst j0
    rw [hJ_sJ, if_pos ⟨rfl, by omega⟩]
    refine ⟨?_, (and32 _).2⟩
    rw [(and32 _).1, bv_w64, bv_add, hp, hq]
    rfl
  · rw [hJ_sJ, if_neg (by omega), hJ_sJ]
    by_cases j4 : j = 4
    · subst j4
      rw [if_pos ⟨rfl, by omega⟩]
      refine ⟨?_, (and32 _).2⟩
      rw [(and32 _).1, bv_w64, bv_add, hp, b3.1]
      rfl
    · rw [if_neg (by omega), show (64 - (t + 1) + j) % 8 = (64 - t + (j - 1)) % 8 by omega]
      refine ⟨?_, (hS (j - 1) (by omega)).2⟩
      rw [(hS (j - 1) (by omega)).1]
      show _ = shS W S t j
      unfold shS
      rw [if_neg j0, if_neg j4]
