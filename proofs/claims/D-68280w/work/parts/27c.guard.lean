/-! guards: the class's tag -/
/-- what a tag is reckoned of: a head and a body, each filled with 0s, then their sizes -/
def CNT (head body k : Nat) : Int := if k % 8 ≤ 3 then (if 8 ≤ k then (body : Int) else (head : Int)) / 2 ^ (8 * (k % 8)) % 256 else 0
def f16 (n : Nat) : Nat := 16 * ((n + 15) / 16)
def AEB (R : Nat → Int) (head body j : Nat) : Int := if j < head then R j % 256 else if j < f16 head then 0 else if j < f16 head + body then R (head + (j - f16 head)) % 256 else if j < f16 head + f16 body then 0 else CNT head body (j - f16 head - f16 body)
def B0 (K N : Nat → Int) (k : Nat) : Int := CHW (CF K N 0#32) k
def TAG (K N R : Nat → Int) (head body j : Nat) : Int := byt (pAcc (pR_ (B0 K N)) (AEB R head body) ((f16 head + f16 body) / 16 + 1) + le8 (B0 K N) 16 + le8 (B0 K N) 24 * 18446744073709551616) j
theorem CNT_lt (head body k : Nat) : 0 ≤ CNT head body k ∧ CNT head body k < 256 := by
  unfold CNT
  split
  · generalize (if 8 ≤ k then (body : Int) else (head : Int)) / 2 ^ (8 * (k % 8)) = z; omega
  · decide
theorem AEB_lt (R : Nat → Int) (head body j : Nat) : 0 ≤ AEB R head body j ∧ AEB R head body j < 256 := by
  unfold AEB
  split
  · omega
  · split
    · decide
    · split
      · omega
      · split
        · decide
        · exact CNT_lt _ _ _
def TaF (a : Nat) (h h' : Hp) : Prop := (hR h' = hR h ∧ ln h' = ln h) ∧ (∀ x k, x ≠ a → x ≠ a + 4 → hI h' x k = hI h x k) ∧ (∀ x k, x ≠ a + 1 → x ≠ a + 3 → hJ h' x k = hJ h x k)
theorem TaF.add {a r : Nat} {f n : Int} {h h' : Hp} (L : LTal h a) (e : f_cTally_add a r f n h = some h') : TaF a h h' := by
  have F : Fe (wI_cTally_add a r f n h) (wJ_cTally_add a r f n h) h h' := fe_cTally_add a r f n h _ e
  exact ⟨⟨F.r, F.l⟩, fun x k h1 h2 => F.I (by simp only [wI_cTally_add, L.r0_3]; intro z; rcases z with z | z <;> omega), fun x k h1 h2 => F.J (by simp only [wJ_cTally_add, L.r0_0, L.r0_2]; intro z; rcases z with z | z | z <;> omega)⟩
theorem TaF.fill {a : Nat} {h h' : Hp} (L : LTal h a) (e : f_cTally_fill a h = some h') : TaF a h h' := by
  have F : Fe (wI_cTally_fill a h) (wJ_cTally_fill a h) h h' := fe_cTally_fill a h _ e
  exact ⟨⟨F.r, F.l⟩, fun x k h1 h2 => F.I (by simp only [wI_cTally_fill, L.r0_3]; intro z; rcases z with z | z <;> omega), fun x k h1 h2 => F.J (by simp only [wJ_cTally_fill, L.r0_0, L.r0_2]; intro z; rcases z with z | z | z <;> omega)⟩
theorem sh_cnt {x k : Nat} (hx : x < 1000000000) (hk : k % 8 ≤ 3) : i8 (i8 (iShr (x : Int) ((8 * (k % 8) : Nat) : Int))) % 256 = (x : Int) / 2 ^ (8 * (k % 8)) % 256 := by
  rw [i8_mod', iShr_eq ⟨by omega, by omega⟩ (by omega)]
theorem c_reckon {g b row from_ head size : Nat} {K V R : Nat → Int} {n : Int} {h : Hp} (L : LGu h g) (LB : LBn h b) (hd : g + 4 < b ∨ b + 28 < g) (hK : ∀ j, j < 32 → hI h (g + 2) j % 256 = K j % 256) (hV : ∀ j, j < 12 → hI h (g + 3) j % 256 = V j % 256) (hn : c64 n) (hr : row ≠ 0) (hrd : row < b ∨ b + 28 < row) (hhs : head ≤ size) (hz : from_ + size < 800000000) (hl : from_ + size ≤ ln h row) (hR : ∀ j, j < size → hI h row (from_ + j) % 256 = R j % 256) :
    wp (f_cGuard_reckon g b n row (from_ : Int) (head : Int) (size : Int) h) (fun h' => ∀ j, j < 16 → hI h' (b + 28) j = i8 (TAG K (NON V n) R head (size - head) j)) := by
  have l0 := L.1
  have b0 := LB.1
  unfold f_cGuard_reckon
  refine wp_b1o (c_gbegin (cc := 0) (c := 0#32) L LB hd hK hV hn rfl (by decide)) (fun h1 e1 q1 => ?_)
  have F1 : Fe (wI_cGuard_begin g b n 0 h) (wJ_cGuard_begin g b n 0 h) h h1 := fe_cGuard_begin g b n 0 h _ e1
  have LB1 := LB.of F1.r F1.l
  have I1 : ∀ j, hI h1 row j = hI h row j := fun j => F1.I (by simp only [wI_cGuard_begin, LB.r0_4, LB.r0_1, LB.r16_0]; intro z; rcases z with z | z <;> omega)
  have ln1 : ln h1 row = ln h row := by rw [F1.l]
  clear F1 e1
  rw [wp_cn]
  refine ⟨by omega, ?_⟩
  rw [LB1.r0_1, wp_cn]
  refine ⟨by omega, ?_⟩
  refine wp_b1o (c_next (a := b + 16) LB1.s16_LKs q1) (fun h2 e2 q2 => ?_)
  have F2 := NF (a := b + 16) LB1.s16_LKs e2
  have LB2 := LB1.of F2.1.1 F2.1.2
  have I2 : ∀ j, hI h2 row j = hI h row j := fun j => by rw [F2.2 _ _ (by omega)]; exact I1 j
  have ln2 : ln h2 row = ln h row := by rw [F2.1.2]; exact ln1
  clear F2 e2 I1 ln1 q1
  rw [LB2.r0_1, wp_cn]
  refine ⟨by omega, ?_⟩
  rw [LB2.r0_2, wp_cn]
  refine ⟨by omega, ?_⟩
  rw [LB2.r16_2]
  have LT2 := LB2.s20_LTal
  refine wp_b1o (c_tbegin (a := b + 20) (key := b + 19) (K := B0 K (NON V n)) (B := AEB R head (size - head)) LT2 (by omega) (by omega) (by rw [LB2.l19]; omega) (fun j hj => by rw [q2.1 j (by omega), i8_m]; rfl)) (fun h3 e3 q3 => ?_)
  obtain ⟨F, vF, T3, lo3, hi3⟩ := q3
  have F3 : Fe (wI_cTally_begin (b + 20) (b + 19) h2) (wJ_cTally_begin (b + 20) (b + 19) h2) h2 h3 := fe_cTally_begin (b + 20) (b + 19) h2 _ e3
  have LB3 := LB2.of F3.r F3.l
  have I3 : ∀ j, hI h3 row j = hI h row j := fun j => by rw [F3.I (by simp only [wI_cTally_begin]; omega)]; exact I2 j
  have ln3 : ln h3 row = ln h row := by rw [F3.l]; exact ln2
  clear F3 e3 I2 ln2 q2 LT2
  have w1 : w32 ((from_ : Int) + (head : Int)) = ((from_ + head : Nat) : Int) := w_ck (by omega)
  have w2 : w32 ((size : Int) - (head : Int)) = ((size - head : Nat) : Int) := by clear lo3 hi3 w1; unfold w32; omega
  simp only [w1, w2]
  rw [LB3.r0_2, wp_cn]
  refine ⟨by clear lo3 hi3 w1 w2; omega, ?_⟩
  have LT3 := LB3.s20_LTal
  refine wp_b1o (c_tallyAdd (a := b + 20) (cnt := head) LT3 T3 hr (by clear lo3 hi3 w1 w2; omega) (by clear lo3 hi3 w1 w2; omega) (by rw [ln3]; clear lo3 hi3 w1 w2; omega) (fun j hj => by
    rw [I3, hR j (by clear lo3 hi3 w1 w2; omega), Nat.zero_add]; unfold AEB; rw [if_pos hj, Int.emod_emod])) (fun h4 e4 T4 => ?_)
  have F4 := TaF.add LT3 e4
  have LB4 := LB3.of F4.1.1 F4.1.2
  have I4 : ∀ j, hI h4 row j = hI h row j := fun j => by rw [F4.2.1 _ _ (by clear lo3 hi3 w1 w2; omega) (by clear lo3 hi3 w1 w2; omega)]; exact I3 j
  have ln4 : ln h4 row = ln h row := by rw [F4.1.2]; exact ln3
  have lo4 : hJ h4 (b + 20) 5 % 18446744073709551616 = le8 (B0 K (NON V n)) 16 := by rw [F4.2.2 _ _ (by clear lo3 hi3 w1 w2; omega) (by clear lo3 hi3 w1 w2; omega)]; exact lo3
  have hi4 : hJ h4 (b + 20) 6 % 18446744073709551616 = le8 (B0 K (NON V n)) 24 := by rw [F4.2.2 _ _ (by clear lo3 hi3 lo4 w1 w2; omega) (by clear lo3 hi3 lo4 w1 w2; omega)]; exact hi3
  clear F4 e4 I3 ln3 lo3 hi3 T3 LT3 w1 w2
  rw [Nat.zero_add] at T4
  rw [LB4.r0_2, wp_cn]
  refine ⟨by clear lo4 hi4; omega, ?_⟩
  have LT4 := LB4.s20_LTal
  refine wp_b1o (c_fill (a := b + 20) LT4 T4 (fun j g1 g2 => by unfold AEB; rw [if_neg (by clear lo4 hi4; omega), if_pos (by unfold f16; exact g2)]; rfl)) (fun h5 e5 T5 => ?_)
  have F5 := TaF.fill LT4 e5
  have LB5 := LB4.of F5.1.1 F5.1.2
  have I5 : ∀ j, hI h5 row j = hI h row j := fun j => by rw [F5.2.1 _ _ (by clear lo4 hi4; omega) (by clear lo4 hi4; omega)]; exact I4 j
  have ln5 : ln h5 row = ln h row := by rw [F5.1.2]; exact ln4
  have lo5 : hJ h5 (b + 20) 5 % 18446744073709551616 = le8 (B0 K (NON V n)) 16 := by rw [F5.2.2 _ _ (by clear lo4 hi4; omega) (by clear lo4 hi4; omega)]; exact lo4
  have hi5 : hJ h5 (b + 20) 6 % 18446744073709551616 = le8 (B0 K (NON V n)) 24 := by rw [F5.2.2 _ _ (by clear lo4 hi4 lo5; omega) (by clear lo4 hi4 lo5; omega)]; exact hi4
  clear F5 e5 I4 ln4 lo4 hi4 T4 LT4
  have T5' : TS h5 (b + 20) F (f16 head) (AEB R head (size - head)) := T5
  clear T5
  have h16 : head ≤ f16 head := by clear lo5 hi5; unfold f16; omega
  rw [LB5.r0_2, wp_cn]
  refine ⟨by clear lo5 hi5; omega, ?_⟩
  have LT5 := LB5.s20_LTal
  refine wp_b1o (c_tallyAdd (a := b + 20) (from_ := from_ + head) (cnt := size - head) LT5 T5' hr (by clear lo5 hi5; omega) (by clear lo5 hi5; omega) (by rw [ln5]; clear lo5 hi5; omega) (fun j hj => by
    rw [I5, Nat.add_assoc, hR (head + j) (by clear lo5 hi5; omega)]
    unfold AEB
    rw [if_neg (by clear lo5 hi5; omega), if_neg (by clear lo5 hi5; omega), if_pos (by clear lo5 hi5; omega), Int.emod_emod, show f16 head + j - f16 head = j by clear lo5 hi5; omega])) (fun h6 e6 T6 => ?_)
  have F6 := TaF.add LT5 e6
  have LB6 := LB5.of F6.1.1 F6.1.2
  have lo6 : hJ h6 (b + 20) 5 % 18446744073709551616 = le8 (B0 K (NON V n)) 16 := by rw [F6.2.2 _ _ (by clear lo5 hi5; omega) (by clear lo5 hi5; omega)]; exact lo5
  have hi6 : hJ h6 (b + 20) 6 % 18446744073709551616 = le8 (B0 K (NON V n)) 24 := by rw [F6.2.2 _ _ (by clear lo5 hi5 lo6; omega) (by clear lo5 hi5 lo6; omega)]; exact hi5
  clear F6 e6 I5 ln5 lo5 hi5 T5' LT5
  rw [LB6.r0_2, wp_cn]
  refine ⟨by clear lo6 hi6; omega, ?_⟩
  have LT6 := LB6.s20_LTal
  have fe16 : 16 * ((f16 head + (size - head) + 15) / 16) = f16 head + f16 (size - head) := by clear lo6 hi6; unfold f16; omega
  refine wp_b1o (c_fill (a := b + 20) LT6 T6 (fun j g1 g2 => by
    rw [fe16] at g2
    unfold AEB
    rw [if_neg (by clear lo6 hi6 fe16; omega), if_neg (by clear lo6 hi6 fe16; omega), if_neg (by clear lo6 hi6 fe16; omega), if_pos g2]; rfl)) (fun h7 e7 T7 => ?_)
  rw [fe16] at T7
  have F7 := TaF.fill LT6 e7
  have LB7 := LB6.of F7.1.1 F7.1.2
  have lo7 : hJ h7 (b + 20) 5 % 18446744073709551616 = le8 (B0 K (NON V n)) 16 := by rw [F7.2.2 _ _ (by clear lo6 hi6 fe16; omega) (by clear lo6 hi6 fe16; omega)]; exact lo6
  have hi7 : hJ h7 (b + 20) 6 % 18446744073709551616 = le8 (B0 K (NON V n)) 24 := by rw [F7.2.2 _ _ (by clear lo6 hi6 lo7 fe16; omega) (by clear lo6 hi6 lo7 fe16; omega)]; exact hi6
  clear F7 e7 lo6 hi6 T6 LT6 fe16
  have e := lq_cGuard_reckon_b77 (v0 := g) (v1 := b) (v6 := (head : Int)) (v7 := (size : Int)) FU 0 h7 (by omega) (by unfold FU; omega) (by omega) (by clear lo7 hi7; omega) (by rw [LB7.r0_5]; intro j _ _ _ _; clear lo7 hi7; omega) (by rw [LB7.r0_5, LB7.l27]; intro j _ hj _ _; exact ix16 hj) (by rw [LB7.r0_5]; intro j _ _ _ _; clear lo7 hi7; omega) (by rw [LB7.r0_5, LB7.l27]; intro j _ hj _ _; exact ix16 hj) (by rw [LB7.r0_5]; intro j _ _ _; clear lo7 hi7; omega) (by rw [LB7.r0_5, LB7.l27]; intro j _ hj _; exact ix16 hj)
  have e' : f_cGuard_reckon_b77_lp FU g b (head : Int) (size : Int) 0 h7 = _ := e
  rw [e', LB7.r0_5]
  clear e e'
  unfold lx_cGuard_reckon_b77
  generalize hE : (fun j : Nat => if iRem (j : Int) 8 ≤ 3 then (if 8 ≤ (j : Int) then i8 (i8 (iShr (w32 ((size : Int) - (head : Int))) (w32 (8 * iRem (j : Int) 8)))) else i8 (i8 (iShr (head : Int) (w32 (8 * iRem (j : Int) 8))))) else i8 (i8 0)) = E
  have hC : ∀ j, j < 16 → E j % 256 = CNT head (size - head) j := fun j hj => by
    rw [← hE]
    show (if iRem (j : Int) 8 ≤ 3 then (if 8 ≤ (j : Int) then i8 (i8 (iShr (w32 ((size : Int) - (head : Int))) (w32 (8 * iRem (j : Int) 8)))) else i8 (i8 (iShr (head : Int) (w32 (8 * iRem (j : Int) 8))))) else i8 (i8 0)) % 256 = _
    have r1 : iRem (j : Int) 8 = ((j % 8 : Nat) : Int) := iRem_nat (n := 8) (by clear lo7 hi7; omega) (by omega) (by omega)
    have r2 : w32 (8 * ((j % 8 : Nat) : Int)) = ((8 * (j % 8) : Nat) : Int) := w_4k (c := 8) (by clear lo7 hi7 r1; omega)
    have r3 : w32 ((size : Int) - (head : Int)) = ((size - head : Nat) : Int) := by clear lo7 hi7 r1 r2; unfold w32; omega
    simp only [r1, r2, r3]
    clear r1 r2 r3 lo7 hi7
    unfold CNT
    by_cases g3 : j % 8 ≤ 3
    · rw [if_pos (by omega), if_pos g3]
      by_cases g8 : 8 ≤ j
      · rw [if_pos (by omega), if_pos g8]; exact sh_cnt (by omega) g3
      · rw [if_neg (by omega), if_neg g8]; exact sh_cnt (by omega) g3
    · rw [if_neg (by omega), if_neg g3]; decide
  have LB8 : LBn (fI h7 (b + 27) 0 0 16 E) b := LB7.of rfI lfI
  have T8 : TS (fI h7 (b + 27) 0 0 16 E) (b + 20) F (f16 head + f16 (size - head)) (AEB R head (size - head)) := by
    obtain ⟨t1, t2, t3, t4⟩ := T7
    exact ⟨t1, t2, by rw [hI_fI, if_neg (by clear lo7 hi7; omega)]; exact t3, fun j hj => by rw [hI_fI, if_neg (by clear lo7 hi7 t3; omega)]; exact t4 j hj⟩
  have I8 : ∀ j, j < 16 → hI (fI h7 (b + 27) 0 0 16 E) (b + 27) (0 + j) % 256 = CNT head (size - head) j := fun j hj => by
    rw [hI_fI, if_pos ⟨rfl, by clear lo7 hi7; omega, by clear lo7 hi7; omega⟩, Nat.zero_add, Nat.sub_zero]; exact hC j hj
  have lo8 : hJ (fI h7 (b + 27) 0 0 16 E) (b + 20) 5 % 18446744073709551616 = le8 (B0 K (NON V n)) 16 := lo7
  have hi8 : hJ (fI h7 (b + 27) 0 0 16 E) (b + 20) 6 % 18446744073709551616 = le8 (B0 K (NON V n)) 24 := hi7
  generalize fI h7 (b + 27) 0 0 16 E = h8 at *
  clear lo7 hi7 T7 hC hE
  rw [wp_cn]
  refine ⟨by clear lo8 hi8; omega, ?_⟩
  rw [LB8.r0_2, wp_cn]
  refine ⟨by clear lo8 hi8; omega, ?_⟩
  rw [LB8.r0_5]
  have LT8 := LB8.s20_LTal
  refine wp_b1o (c_tallyAdd (a := b + 20) (row := b + 27) (from_ := 0) (cnt := 16) LT8 T8 (by clear lo8 hi8; omega) (by clear lo8 hi8; omega) (by clear lo8 hi8; omega) (by rw [LB8.l27]; omega) (fun j hj => by
    rw [I8 j hj]
    unfold AEB
    have f1 : f16 head % 16 = 0 ∧ f16 (size - head) % 16 = 0 ∧ size - head ≤ f16 (size - head) := by clear lo8 hi8; unfold f16; omega
    rw [if_neg (by clear lo8 hi8; omega), if_neg (by clear lo8 hi8; omega), if_neg (by clear lo8 hi8; omega), if_neg (by clear lo8 hi8; omega), show f16 head + f16 (size - head) + j - f16 head - f16 (size - head) = j by clear lo8 hi8; omega]
    have := CNT_lt head (size - head) j
    omega)) (fun h9 e9 T9 => ?_)
  have F9 := TaF.add LT8 e9
  have LB9 := LB8.of F9.1.1 F9.1.2
  have lo9 : hJ h9 (b + 20) 5 % 18446744073709551616 = le8 (B0 K (NON V n)) 16 := by rw [F9.2.2 _ _ (by clear lo8 hi8; omega) (by clear lo8 hi8; omega)]; exact lo8
  have hi9 : hJ h9 (b + 20) 6 % 18446744073709551616 = le8 (B0 K (NON V n)) 24 := by rw [F9.2.2 _ _ (by clear lo8 hi8 lo9; omega) (by clear lo8 hi8 lo9; omega)]; exact hi8
  clear F9 e9 lo8 hi8 T8 I8
  rw [LB9.r0_2, wp_cn]
  refine ⟨by clear lo9 hi9; omega, ?_⟩
  rw [LB9.r0_6]
  have f1 : f16 head % 16 = 0 ∧ f16 (size - head) % 16 = 0 := by clear lo9 hi9; unfold f16; omega
  refine wp_b1o (c_tend (a := b + 20) (to := b + 28) (at_ := 0) LB9.s20_LTal T9 (by clear lo9 hi9; omega) (by clear lo9 hi9; omega) (by clear lo9 hi9; omega) (by rw [LB9.l28]; omega) (by clear lo9 hi9; omega) lo9 hi9) (fun h' _ q => ?_)
  rw [wp_some]
  intro j hj
  have := q.1 j hj
  rw [Nat.zero_add, vF, show (f16 head + f16 (size - head) + 16) / 16 = (f16 head + f16 (size - head)) / 16 + 1 by clear lo9 hi9 this; omega] at this
  exact this
