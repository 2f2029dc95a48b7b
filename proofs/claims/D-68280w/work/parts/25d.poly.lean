/-! Poly: the class's take, add, fill -/
theorem val_near {S : Nat → Int} (h : near S) : 0 ≤ val S := by
  have h0 := h.1
  have h1 := h.2 1 (by omega) (by omega)
  have h2 := h.2 2 (by omega) (by omega)
  have h3 := h.2 3 (by omega) (by omega)
  have h4 := h.2 4 (by omega) (by omega)
  unfold val
  omega
theorem CR2_val (S F : Nat → Int) : val (CR (CR (fun k => prd S F k 5))) % PP = (val S * val F) % PP := by
  obtain ⟨q, hq⟩ := val_prd S F
  rw [hq, val_CR (fun k => prd S F k 5), val_CR (CR (fun k => prd S F k 5))]
  rw [Int.add_mul_emod_self_left, Int.add_mul_emod_self_left, Int.add_mul_emod_self_left]
theorem c_take {a : Nat} {S F : Nat → Int} {h : Hp} (L : LTal h a) (J : JS h (a + 1) S) (N : near S) (JF : JS h (a + 2) F) (bf : lb F 67108864) : wp (f_cTally_take a 16777216 h) (fun h' => (∃ S', JS h' (a + 1) S' ∧ near S' ∧ val S' % PP = ((val S + (le8 (hI h (a + 4)) 0 + le8 (hI h (a + 4)) 8 * 18446744073709551616) + 340282366920938463463374607431768211456) * val F) % PP) ∧ hI h' a 4 = 0) := by
  have l0 := L.1
  unfold f_cTally_take
  obtain ⟨u, eu, hu⟩ := c_eight (r := a + 4) (i := 0) (h := h) (by omega) (by rw [L.l4]; omega) (by omega)
  obtain ⟨v, ev, hv⟩ := c_eight (r := a + 4) (i := 8) (h := h) (by omega) (by rw [L.l4]; omega) (by omega)
  rw [L.r0_3, show f_cTally_eight (a + 4) 0 h = some (u, h) from eu, b2_some, L.r0_3, show f_cTally_eight (a + 4) 8 h = some (v, h) from ev, b2_some, L.r0_2]
  clear eu ev
  have u2 := le8_lt (hI h (a + 4)) 0
  have v2 := le8_lt (hI h (a + 4)) 8
  generalize le8 (hI h (a + 4)) 0 = U at *
  generalize le8 (hI h (a + 4)) 8 = V at *
  refine wp_b1o (c_split (by omega) L.l3 hu hv) (fun g e q => ?_)
  have Fe1 : Fe (wI_cTally_split u v (a + 3) h) (wJ_cTally_split u v (a + 3) h) h g := fe_cTally_split u v (a + 3) h _ e
  clear e hu hv
  have Lg := L.of Fe1.r Fe1.l
  have Jg : JS g (a + 1) S := fun i hi => by rw [Fe1.J (by simp only [wJ_cTally_split]; omega)]; exact J i hi
  have JFg : JS g (a + 2) F := fun i hi => by rw [Fe1.J (by simp only [wJ_cTally_split]; omega)]; exact JF i hi
  clear Fe1 J JF
  have e := lq_cTally_take_b26 (v0 := a) (v1 := 16777216) FU 0 g (by omega) (by unfold FU; omega) (by omega) (by rw [Lg.r0_0]; omega) (by rw [Lg.r0_0, Lg.l1]; intro j _ hj; exact ix16 hj) (by rw [Lg.r0_2]; omega) (by rw [Lg.r0_2, Lg.l3]; intro j _ hj; exact ix16 hj) (by rw [Lg.r0_0, Lg.l1]; intro j _ hj; exact ix16 hj) (by rw [Lg.r0_0, Lg.r0_2]; omega)
  have e' : f_cTally_take_b26_lp FU a 16777216 0 g = _ := e
  rw [e', Lg.r0_0, Lg.r0_2]
  clear e e'
  unfold lx_cTally_take_b26
  have sp := SPL_lb u2 v2
  have n0 := N.1
  have sb : ∀ i, i < 5 → 0 ≤ S i ∧ S i < 67108869 := fun i hi => by
    by_cases hz : i = 0
    · subst hz; exact n0
    · have := N.2 i (by omega) hi; omega
  have L1 : LTal (fJ g (a + 1) 0 0 5 (fun j => w64 (hJ g (a + 1) j + hJ g (a + 3) j))) a := Lg.of rfJ lfJ
  have J1 : JS (fJ g (a + 1) 0 0 5 (fun j => w64 (hJ g (a + 1) j + hJ g (a + 3) j))) (a + 1) (fun i => S i + SPL U V i) := fun i hi => by
    rw [hJ_fJ, if_pos ⟨rfl, by omega, by omega⟩, Nat.sub_zero, Jg i hi, q i hi]
    have h1 := sb i hi
    have h2 := sp i hi
    exact w64_id ⟨by omega, by omega⟩
  have JF1 : JS (fJ g (a + 1) 0 0 5 (fun j => w64 (hJ g (a + 1) j + hJ g (a + 3) j))) (a + 2) F := fun i hi => by
    rw [hJ_fJ, if_neg (by omega)]; exact JFg i hi
  generalize fJ g (a + 1) 0 0 5 (fun j => w64 (hJ g (a + 1) j + hJ g (a + 3) j)) = g1 at *
  rw [L1.r0_0, L1.l1, wp_cn]
  refine ⟨by omega, ?_⟩
  rw [wp_ck, wp_ck]
  refine ⟨⟨by decide, by decide⟩, ⟨by decide, by decide⟩, ?_⟩
  rw [wp_lt1, show Int.toNat 4 = 4 from rfl, J1 4 (by omega)]
  have s4 := sb 4 (by omega)
  have p4 := sp 4 (by omega)
  rw [w64_id (x := S 4 + SPL U V 4 + 16777216) ⟨by omega, by omega⟩]
  have J2 := J1.s (i := 4) (v := S 4 + SPL U V 4 + 16777216)
  generalize hS2 : ud1 (fun i => S i + SPL U V i) 4 (S 4 + SPL U V 4 + 16777216) = S2 at *
  have b2 : lb S2 268435456 := fun i hi => by
    rw [← hS2]
    unfold ud1
    have h1 := sb i hi
    have h2 := sp i hi
    split
    · omega
    · show 0 ≤ S i + SPL U V i ∧ S i + SPL U V i < _
      omega
  have vS2 : val S2 = val S + (U + V * 18446744073709551616) + 340282366920938463463374607431768211456 := by
    rw [← val_SPL u2 v2, ← hS2]
    show (S 0 + SPL U V 0) + (S 1 + SPL U V 1) * 67108864 + (S 2 + SPL U V 2) * 4503599627370496 + (S 3 + SPL U V 3) * 302231454903657293676544 + (S 4 + SPL U V 4 + 16777216) * 20282409603651670423947251286016 = _
    unfold val
    omega
  have P2 : PdS (sJ g1 (a + 1) 4 (S 4 + SPL U V 4 + 16777216)) a S2 F := ⟨L1.of rsJ lsJ, J2, fun i hi => by rw [hJ_sJ, if_neg (by omega)]; exact JF1 i hi⟩
  refine wp_of (c_b64 b2 bf FU 0 _ (by omega) (by unfold FU; omega) P2 (fun j hj => by omega)) (fun h' _ r => ⟨⟨_, r.1, CR2 ?_, ?_⟩, r.2⟩)
  · intro i hi
    have := prd_bd b2 bf hi 5 (by omega)
    show 0 ≤ prd S2 F i 5 ∧ prd S2 F i 5 < _
    generalize prd S2 F i 5 = z at *
    omega
  · rw [CR2_val, vS2]
/-- the sum over the first blocks -/
def pAcc (R : Int) (B : Nat → Int) : Nat → Int
  | 0 => 0
  | i + 1 => ((pAcc R B i + (le8 B (16 * i) + le8 B (16 * i + 8) * 18446744073709551616) + 340282366920938463463374607431768211456) * R) % PP
/-- a Tally has taken n bytes of B -/
def TS (h : Hp) (a : Nat) (F : Nat → Int) (n : Nat) (B : Nat → Int) : Prop := (JS h (a + 2) F ∧ lb F 67108864) ∧ (∃ S, JS h (a + 1) S ∧ near S ∧ val S % PP = pAcc (val F) B (n / 16)) ∧ hI h a 4 = ((n % 16 : Nat) : Int) ∧ ∀ j, j < n % 16 → hI h (a + 4) j % 256 = B (16 * (n / 16) + j) % 256
theorem modPP {x y z w : Int} (h : x % PP = y) : ((x + z) * w) % PP = ((y + z) * w) % PP := by
  rw [← h, Int.mul_emod, Int.mul_emod (x % PP + z), Int.emod_add_emod]
theorem TkF {a : Nat} {v : Int} {h h' : Hp} (L : LTal h a) (e : f_cTally_take a v h = some h') : (hR h' = hR h ∧ ln h' = ln h) ∧ (∀ x k, x ≠ a → hI h' x k = hI h x k) ∧ (∀ x k, x ≠ a + 1 → x ≠ a + 3 → hJ h' x k = hJ h x k) := by
  have F : Fe (wI_cTally_take a v h) (wJ_cTally_take a v h) h h' := fe_cTally_take a v h _ e
  exact ⟨⟨F.r, F.l⟩, fun x k hx => F.I (by simp only [wI_cTally_take]; omega), fun x k h1 h2 => F.J (by simp only [wJ_cTally_take, L.r0_0, L.r0_2]; intro z; rcases z with z | z <;> omega)⟩
/-- a byte comes into the piece; if it is full it is taken -/
theorem c_full {a n : Nat} {F B : Nat → Int} {h : Hp} (L : LTal h a) (T : (JS h (a + 2) F ∧ lb F 67108864) ∧ (∃ S, JS h (a + 1) S ∧ near S ∧ val S % PP = pAcc (val F) B (n / 16)) ∧ ∀ j, j < 16 → hI h (a + 4) j % 256 = B (16 * (n / 16) + j) % 256) : wp (f_cTally_take a 16777216 h) (fun h' => TS h' a F (16 * (n / 16) + 16) B) := by
  obtain ⟨⟨JF, bf⟩, ⟨S, J, N, V⟩, P⟩ := T
  refine wp_of (c_take L J N JF bf) (fun h' e q => ?_)
  obtain ⟨⟨S', J', N', V'⟩, z⟩ := q
  have Fr := TkF L e
  have hd : (16 * (n / 16) + 16) / 16 = n / 16 + 1 := by omega
  have hm : (16 * (n / 16) + 16) % 16 = 0 := by omega
  refine ⟨⟨fun i hi => by rw [Fr.2.2 _ _ (by omega) (by omega)]; exact JF i hi, bf⟩, ⟨S', J', N', ?_⟩, by rw [z, hm]; rfl, fun j hj => by omega⟩
  rw [hd, V', show le8 (hI h (a + 4)) 0 = le8 B (16 * (n / 16)) from le8_congr (fun i hi => by rw [Nat.zero_add]; exact P i (by omega)), show le8 (hI h (a + 4)) 8 = le8 B (16 * (n / 16) + 8) from le8_congr (fun i hi => by rw [Nat.add_assoc]; exact P (8 + i) (by omega))]
  show _ = ((pAcc (val F) B (n / 16) + (le8 B (16 * (n / 16)) + le8 B (16 * (n / 16) + 8) * 18446744073709551616) + 340282366920938463463374607431768211456) * val F) % PP
  rw [Int.add_assoc, Int.add_assoc (pAcc _ _ _)]
  exact modPP V
