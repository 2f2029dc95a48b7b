/-! streams, class: the other side's streams come; a stream is opened -/
section
variable {h h' h'' : Hp} {a s i j k x y m : Nat} {w w' w'' : Nat → Nat} {z z' z'' : HSt} {v b was c : Int}
theorem HV.cnt (V : HV s z) : hCnt z ≤ 256 ∧ (∀ u, u < 2 → (zQ z (11 + 10 * u) < 64 ∨ zQ z (10 + 10 * u) < 64) → hCnt z < 256) := by
  obtain ⟨_, _, _, w0, w1⟩ := V.2.1
  obtain ⟨⟨a1, a2, a3⟩, ⟨a4, a5, a6⟩, _⟩ := w0
  obtain ⟨⟨b1, b2, b3⟩, ⟨b4, b5, b6⟩, _⟩ := w1
  simp only [Nat.reduceMul, Nat.reduceAdd, Nat.mul_zero, Nat.add_zero] at a1 a2 a3 a4 a5 a6 b1 b2 b3 b4 b5 b6
  unfold hCnt
  refine ⟨by omega, fun u hu hh => ?_⟩
  rcases (show u = 0 ∨ u = 1 by omega) with e | e
  · rw [e] at hh
    simp only [Nat.reduceMul, Nat.reduceAdd, Nat.mul_zero, Nat.add_zero] at hh
    omega
  · rw [e] at hh
    simp only [Nat.reduceMul, Nat.reduceAdd, Nat.mul_zero, Nat.add_zero] at hh
    omega
theorem hCnt_up (hk : k = 10 ∨ k = 11 ∨ k = 20 ∨ k = 21) (h0 : 0 ≤ zQ z k) : hCnt (uQ z k (zQ z k + 1)) = hCnt z + 1 := by
  unfold hCnt
  rcases hk with e | e | e | e <;> subst e <;> simp only [zQ_uP, zQ_uM, zQ_uS, zQ_uC, zP_uQ, zP_uM, zP_uS, zP_uC, zM_uQ, zM_uP, zM_uS, zM_uC, zE_uQ, zE_uP, zE_uM, zE_uC, zH_uQ, zH_uP, zH_uM, zH_uS, zW_uQ, zW_uP, zW_uM, zW_uS, zB_uQ, zB_uP, zB_uM, zB_uS, zB_uC, zQ_uQe, zP_uPe, zM_uMe, zE_uSe, zH_uCe, zW_uCe, zOT_uP, zOT_uM, zQ_uQn, zP_uPn, ne_eq, Nat.reduceEqDiff, not_false_eq_true] <;> omega
theorem hCnt_beg : hCnt (zBeg s z i) = hCnt z := rfl
/-- room of a beginning -/
theorem HO.beg {z1 : HSt} (hz : hCnt z1 = hCnt z + 1) (lt : hCnt z < 256) (m : RmE h h' a) (n : hN h' ≤ hN h + 2 ∧ hZ h' ≤ hZ h + 25) (wk : ∀ x, x < hN h → w' x = w x) (g : GF (fun x => w x ≠ 0) h h') : HO h a w z h' w' z1 := by
  obtain ⟨m1, m2, m3, m4⟩ := m
  refine ⟨⟨?_, ?_⟩, wk, g⟩
  · unfold hrN; rw [m1, m3, hz]; omega
  · unfold hrZ; rw [m2, m4, hz]; omega
theorem cm_d (hi : i < 256) : iDiv (i : Int) 4 = ((i / 4 : Nat) : Int) := iDiv_nat (n := 4) (by omega) (by decide) (by decide)
theorem cm_r (hi : i < 256) : iRem (i : Int) 4 = ((i % 4 : Nat) : Int) := iRem_nat (n := 4) (by omega) (by decide) (by decide)
theorem cm_4 {t r : Nat} (h : 4 * t + r < 256) (e : i % 4 = r) : w32 (w32 (4 * (t : Int)) + ((i % 4 : Nat) : Int)) = ((4 * t + r : Nat) : Int) := by
  rw [w32_id (x := 4 * (t : Int)) ⟨by omega, by omega⟩, w32_id ⟨by omega, by omega⟩]; omega
theorem c_hCmL {r : Nat} (hr : r < 4) (ho : r % 2 ≠ s) (i4 : i % 4 = r) (hi : i < 256) : ∀ n F (h : Hp) (w : Nat → Nat) (z : HSt), HC h a w s z → HV s z → (zQ z (11 + 10 * (r / 2 % 2))).toNat + n = max (i / 4 + 1) (zQ z (11 + 10 * (r / 2 % 2))).toNat → zQ z (11 + 10 * (r / 2 % 2)) + n ≤ zQ z (12 + 10 * (r / 2 % 2)) → hrN h a z ≤ CN → hrZ h a z ≤ CZ → n < F →
    ∃ h' w', f_cHall_come_b7_lp F a (i : Int) (a + 4 + r / 2 % 2) h = some h' ∧ HC h' a w' s (zCms s r n z) ∧ HO h a w z h' w' (zCms s r n z) := by
  obtain ⟨u, eu⟩ : ∃ u, u = r / 2 % 2 := ⟨_, rfl⟩
  have u2 : u < 2 := by omega
  intro n
  induction n with
  | zero =>
    intro F h w z C V hn hb rN rZ hF
    obtain ⟨F, rfl⟩ : ∃ F', F = F' + 1 := ⟨F - 1, by omega⟩
    have l0 := C.L.1
    have q := (C.wy r).1
    unfold f_cHall_come_b7_lp f_cHall_come_b7
    rw [if_neg (by omega), cm_d hi, q.2.1, if_pos (by omega)]
    exact ⟨h, w, rfl, C, HO.rf⟩
  | succ n ih =>
    intro F h w z C V hn hb rN rZ hF
    obtain ⟨F, rfl⟩ : ∃ F', F = F' + 1 := ⟨F - 1, by omega⟩
    have l0 := C.L.1
    obtain ⟨q, wq⟩ := C.wy r
    have vw := V.w r
    unfold HVw at vw
    rw [← eu] at q wq vw hn hb
    obtain ⟨t, et⟩ : ∃ t : Nat, zQ z (11 + 10 * u) = t := ⟨(zQ z (11 + 10 * u)).toNat, by omega⟩
    rw [et] at vw hn hb
    rw [Int.toNat_natCast] at hn
    obtain ⟨_, v2, _⟩ := vw
    have ii : 4 * t + r < 256 := by omega
    have im : (4 * t + r) / 2 % 2 = u ∧ (4 * t + r) % 2 = r % 2 ∧ (4 * t + r) / 4 = t := by omega
    have h0 : zP z 0 (4 * t + r) = 0 := by
      have v := (V.S ii).1
      have o : zOT s z (4 * t + r) = t := by unfold zOT; rw [if_neg (by omega), im.1, et]
      rw [o, im.2.2] at v
      rcases v.1 with z | z
      · exact z
      · have := v.2.1 z; omega
    have lt : hCnt z < 256 := V.cnt.2 u u2 (Or.inl (by omega))
    have q2 : hI h (a + 4 + u) 1 = (t : Int) := by rw [q.2.1, et]
    unfold f_cHall_come_b7_lp f_cHall_come_b7
    rw [← eu, if_neg (by omega), cm_d hi, q2, if_neg (by omega), cm_r hi, cm_4 (i := i) ii i4]
    unfold hrN at rN
    unfold hrZ at rZ
    obtain ⟨h1, w1, b1, b2, b3, b4, b5, b6⟩ := c_hBeg C (V.no ii h0) ii (by omega) (by omega)
    have aw : a + 4 + u < hN h := (C.W.2.2.2.2.2.2 _ (by rw [wq]; omega)).2
    have i1 : hI h1 (a + 4 + u) 1 = (t : Int) := by rw [b4.i aw (by omega)]; exact q2
    rw [b1, b1_some, i1, w_k1 (by omega), lt1_eq]
    have FF : FX (fun x => x = a + 4 + u) h1 (sI h1 (a + 4 + u) 1 ((t + 1 : Nat) : Int)) := FX.sI rfl
    obtain ⟨q', wq'⟩ := b2.wy r
    rw [← eu] at q' wq'
    obtain ⟨z1, ez1⟩ : ∃ z1, z1 = uQ (zBeg s z (4 * t + r)) (11 + 10 * u) ((t + 1 : Nat) : Int) := ⟨_, rfl⟩
    have C1 : HC (sI h1 (a + 4 + u) 1 ((t + 1 : Nat) : Int)) a w1 s z1 := by
      refine b2.sWy u2 FF ?_ (fun k hk => by rw [ez1, zQ_uQn (by omega)]) (by rw [ez1]; rfl)
      obtain ⟨a0, a1, a2, a3, a4, a5, a6, a7⟩ := q'
      rw [ez1]
      unfold HCw
      rw [zQ_uQn (by omega), zQ_uQe, zQ_uQn (by omega), zQ_uQn (by omega), zQ_uQn (by omega), zQ_uQn (by omega), zQ_uQn (by omega)]
      refine ⟨?_, ?_, ?_, ?_, ?_, ?_, ?_, ?_⟩ <;> grind [hI_sI, hJ_sI]
    have ez : z1 = uQ (zBeg s z (4 * t + r)) (11 + 10 * u) (zQ z (11 + 10 * u) + 1) := by rw [ez1, et]; rfl
    have V1 : HV s z1 := by
      rw [ez]
      exact V.beg (k := 11 + 10 * u) ii h0 (by rw [if_neg (by omega), im.1]) (by rw [et, im.2.2]) (by rw [if_neg (by omega), et, show 11 + 10 * u + 1 + 0 = 12 + 10 * u by omega]; omega)
    have O1 : HO h a w z (sI h1 (a + 4 + u) 1 ((t + 1 : Nat) : Int)) w1 z1 := by
      have hz : hCnt z1 = hCnt z + 1 := by rw [ez]; exact hCnt_up (z := zBeg s z (4 * t + r)) (by omega) (by rw [zBeg_Q, et]; omega)
      have rm2 : RmE h1 (sI h1 (a + 4 + u) 1 ((t + 1 : Nat) : Int)) a := RmE.of b2 (fun x hx => FF.s (fun t => by rw [t, wq'] at hx; omega))
      refine HO.beg hz lt ⟨rm2.1.trans b5.1, rm2.2.1.trans b5.2.1, rm2.2.2.1.trans b5.2.2.1, rm2.2.2.2.trans b5.2.2.2⟩ b6 b3 ?_
      refine (b4.mono (fun x hx => ?_)).trans' (OnI.gf (C := fun x => x = a + 4 + u) OnI.refl.s (fun x y hx => by rw [hI_sI, if_neg (fun t => hx t.1)])) (fun x _ hx => ?_)
      · rcases hx with e | e
        · rw [e, C.W.own 1]; decide
        · rw [e, C.W.own 2]; decide
      · rw [hx, wq]; omega
    have e11 : zQ z1 (11 + 10 * u) = ((t + 1 : Nat) : Int) := by rw [ez1, zQ_uQe]
    have e12 : zQ z1 (12 + 10 * u) = zQ z (12 + 10 * u) := by rw [ez1, zQ_uQn (by omega), zBeg_Q]
    obtain ⟨h', w', c1, c2, c3⟩ := ih F _ w1 z1 C1 V1 (by rw [← eu, e11, Int.toNat_natCast]; omega) (by rw [← eu, e11, e12]; omega) (Nat.le_trans O1.1.1 (by unfold hrN; exact rN)) (Nat.le_trans O1.1.2 (by unfold hrZ; exact rZ)) (by omega)
    rw [← eu] at c1
    have ec : zCms s r (n + 1) z = zCms s r n z1 := by
      show zCms s r n (uQ (zBeg s z (4 * (zQ z (11 + 10 * (r / 2 % 2))).toNat + r)) (11 + 10 * (r / 2 % 2)) (zQ z (11 + 10 * (r / 2 % 2)) + 1)) = _
      rw [← eu, ez, et, Int.toNat_natCast]
    rw [ec]
    exact ⟨h', w', c1, c2, O1.tr c3⟩
/-- the other side's stream is there, and all before it -/
theorem c_hCome (C : HC h a w s z) (V : HV s z) (hi : i < 256) (ho : i % 2 ≠ s) (hg : ((i / 4 : Nat) : Int) < zQ z (12 + 10 * (i / 2 % 2))) (rN : hrN h a z ≤ CN) (rZ : hrZ h a z ≤ CZ) : ∃ h' w', f_cHall_come a (i : Int) h = some h' ∧ HC h' a w' s (zCome s z i) ∧ HO h a w z h' w' (zCome s z i) := by
  have vw := V.w i
  unfold HVw at vw
  have e2 : i % 4 / 2 % 2 = i / 2 % 2 := by omega
  obtain ⟨F, hF, F9⟩ := fu_ex
  have := c_hCmL (a := a) (s := s) (r := i % 4) (i := i) (by omega) (by omega) rfl hi (i / 4 + 1 - (zQ z (11 + 10 * (i / 2 % 2))).toNat) F h w z C V (by rw [e2]; omega) (by rw [e2]; omega) rN rZ (by omega)
  obtain ⟨h', w', c1, c2, c3⟩ := this
  unfold f_cHall_come zCome
  rw [if_neg ho, c_hWay C.L ⟨by omega, by omega⟩, b2_some, show ((i : Int) / 2 % 2).toNat = i / 2 % 2 by omega, ← hF]
  rw [e2] at c1
  exact ⟨h', w', c1, c2, c3⟩
theorem zCome_V (V : HV s z) (hi : i < 256) (hg : i % 2 ≠ s → ((i / 4 : Nat) : Int) < zQ z (12 + 10 * (i / 2 % 2))) (hown : i % 2 = s → zP z 0 i = 1) : HV s (zCome s z i) ∧ zCmF z (zCome s z i) ∧ zP (zCome s z i) 0 i = 1 := by
  unfold zCome
  by_cases ho : i % 2 = s
  · rw [if_pos ho]; exact ⟨V, zCmF.rf, hown ho⟩
  · rw [if_neg ho]
    have vw := V.w i
    unfold HVw at vw
    have e2 : i % 4 / 2 % 2 = i / 2 % 2 := by omega
    have hg' := hg ho
    obtain ⟨a1, a2, a3⟩ := HV.cms (s := s) (r := i % 4) (by omega) (by omega) (i / 4 + 1 - (zQ z (11 + 10 * (i / 2 % 2))).toNat) z V (by rw [e2]; omega)
    refine ⟨a1, a2, ((a1.S hi).1.2).2 ?_⟩
    unfold zOT
    rw [if_neg ho]
    rw [e2] at a3
    rw [a3]; omega
/-- open: w is 0 for both ways, 1 for one -/
theorem c_hOpen {u : Nat} (hu : u < 2) (C : HC h a w s z) (V : HV s z) (rN : hrN h a z ≤ CN) (rZ : hrZ h a z ≤ CZ) (hv : v = if u = 0 then 1 else 0) : ∃ h' w', f_cHall_open a v h = some ((zOpen s u z).1, h') ∧ HC h' a w' s (zOpen s u z).2 ∧ HO h a w z h' w' (zOpen s u z).2 := by
  have L := C.L
  have l0 := L.1
  obtain ⟨_, _, r3, _, _, _, _, _, _, r30, r31, _⟩ := L.rr
  have l3 := L.ll.2.2.1
  have s2 := V.1
  obtain ⟨q, wq⟩ := C.wy (2 * u)
  have vw := V.w (2 * u)
  rw [show 2 * u / 2 % 2 = u by omega] at q wq vw
  obtain ⟨q0, q1, q2, q3, q4, q5, q6, q7⟩ := q
  obtain ⟨va, vb, vc, vd, ve⟩ := vw
  have key : ∀ (v : Int), v = (if u = 0 then 1 else 0) → f_cHall_open a v h = if zQ z (10 + 10 * u) < zQ z (13 + 10 * u) then f_cHall_open_b53 a (a + 4 + u) (w32 (4 * zQ z (10 + 10 * u))) (2 * u : Nat) h else some (-1, sJ h (a + 4 + u) 4 (zQ z (13 + 10 * u))) := fun v hv => by
    unfold f_cHall_open f_cHall_open_b13
    rcases (show u = 0 ∨ u = 1 by omega) with e | e
    · subst e
      rw [if_pos rfl] at hv
      rw [if_neg (by omega), r3, if_neg (by omega), l3, if_pos (by decide), lt1_eq]
      show (if hR h (a + 3) 0 = 0 then none else _) = _
      have t0 : (Int.toNat 0) = 0 := rfl
      rw [t0, r30, if_neg (by omega), q0, q3, if_neg (show ¬ v = 0 by omega)]
      rfl
    · subst e
      rw [if_neg (by decide)] at hv
      rw [if_pos hv, r3, if_neg (by omega), l3, if_pos (by decide), lt1_eq]
      have t1 : (Int.toNat 1) = 1 := rfl
      rw [t1, r31, if_neg (by omega), show a + 5 = a + 4 + 1 from rfl, q0, q3, if_pos hv]
      rfl
  rw [key v hv]
  unfold zOpen
  by_cases c : zQ z (10 + 10 * u) < zQ z (13 + 10 * u)
  · rw [if_pos c, if_neg (by omega)]
    obtain ⟨t, et⟩ : ∃ t : Nat, zQ z (10 + 10 * u) = t := ⟨(zQ z (10 + 10 * u)).toNat, by omega⟩
    rw [et, Int.toNat_natCast]
    rw [et] at va c q0
    have ii : 4 * t + 2 * u + s < 256 := by omega
    have im : (4 * t + 2 * u + s) / 2 % 2 = u ∧ (4 * t + 2 * u + s) % 2 = s ∧ (4 * t + 2 * u + s) / 4 = t := by omega
    have h0 : zP z 0 (4 * t + 2 * u + s) = 0 := by
      have v := (V.S ii).1
      have o : zOT s z (4 * t + 2 * u + s) = t := by unfold zOT; rw [if_pos im.2.1, im.1, et]
      rw [o, im.2.2] at v
      rcases v.1 with z | z
      · exact z
      · have := v.2.1 z; omega
    have lt : hCnt z < 256 := V.cnt.2 u hu (Or.inr (by omega))
    have ey : w32 (w32 (w32 (4 * (t : Int)) + ((2 * u : Nat) : Int)) + (s : Int)) = ((4 * t + 2 * u + s : Nat) : Int) := by
      rw [w32_id (x := 4 * (t : Int)) ⟨by omega, by omega⟩, w32_id (x := 4 * (t : Int) + ((2 * u : Nat) : Int)) ⟨by omega, by omega⟩, w32_id ⟨by omega, by omega⟩]; omega
    unfold f_cHall_open_b53
    rw [C.2.1.1.1, ey, lt1_eq, if_neg (by omega), q0, w_k1 (by omega), lt1_eq]
    have FF : FX (fun x => x = a + 4 + u) h (sI h (a + 4 + u) 0 ((t + 1 : Nat) : Int)) := FX.sI rfl
    obtain ⟨z1, ez1⟩ : ∃ z1, z1 = uQ z (10 + 10 * u) ((t + 1 : Nat) : Int) := ⟨_, rfl⟩
    have C1 : HC (sI h (a + 4 + u) 0 ((t + 1 : Nat) : Int)) a w s z1 := by
      refine C.sWy hu FF ?_ (fun k hk => by rw [ez1, zQ_uQn (by omega)]) (by rw [ez1]; rfl)
      rw [ez1]
      unfold HCw
      rw [zQ_uQe, zQ_uQn (by omega), zQ_uQn (by omega), zQ_uQn (by omega), zQ_uQn (by omega), zQ_uQn (by omega), zQ_uQn (by omega)]
      refine ⟨?_, ?_, ?_, ?_, ?_, ?_, ?_, ?_⟩ <;> grind [hI_sI, hJ_sI]
    have D1 : zNo z1 (4 * t + 2 * u + s) := by rw [ez1]; exact V.no ii h0
    have rm2 : RmE h (sI h (a + 4 + u) 0 ((t + 1 : Nat) : Int)) a := RmE.of C (fun x hx => FF.s (fun t => by rw [t, wq] at hx; omega))
    unfold hrN at rN
    unfold hrZ at rZ
    obtain ⟨h1, w1, b1, b2, b3, b4, b5, b6⟩ := c_hBeg C1 D1 ii (by show hN h + 2 ≤ CN; omega) (by show hZ h + 25 ≤ CZ; omega)
    rw [b1, b1_some]
    have ez : zBeg s z1 (4 * t + 2 * u + s) = uQ (zBeg s z (4 * t + 2 * u + s)) (10 + 10 * u) (zQ z (10 + 10 * u) + 1) := by
      rw [ez1, zBeg_uQ (by omega), et]; rfl
    have er : uQ z (10 + 10 * u) ((t : Int) + 1) = z1 := by rw [ez1]; rfl
    rw [er]
    refine ⟨h1, w1, by show some (((4 * t + 2 * u + s : Nat) : Int), h1) = some (4 * (t : Int) + 2 * u + s, h1); congr 2, b2, ?_⟩
    have hz : hCnt (zBeg s z1 (4 * t + 2 * u + s)) = hCnt z + 1 := by rw [ez]; exact hCnt_up (z := zBeg s z (4 * t + 2 * u + s)) (by omega) (by rw [zBeg_Q, et]; omega)
    refine HO.beg hz lt ⟨b5.1.trans rm2.1, b5.2.1.trans rm2.2.1, b5.2.2.1.trans rm2.2.2.1, b5.2.2.2.trans rm2.2.2.2⟩ b6 b3 ?_
    refine (OnI.gf (C := fun x => w x ≠ 0) OnI.refl.s (fun x y hx => by rw [hI_sI, if_neg (fun t => hx (by rw [t.1, wq]; omega))])).trans' b4 (fun x _ hx => ?_)
    rcases hx with e | e
    · rw [e, C.W.own 1]; decide
    · rw [e, C.W.own 2]; decide
  · rw [if_neg c, if_pos (by omega)]
    have FF : FX (fun x => x = a + 4 + u) h (sJ h (a + 4 + u) 4 (zQ z (13 + 10 * u))) := FX.sJ rfl
    refine ⟨_, w, rfl, C.sWy hu FF ?_ (fun k hk => by rw [zQ_uQn (by omega)]) rfl, HO.fx C FF (fun x hx => by rw [hx, wq]; omega) ?_⟩
    · unfold HCw
      rw [zQ_uQn (by omega), zQ_uQn (by omega), zQ_uQn (by omega), zQ_uQn (by omega), zQ_uQe, zQ_uQn (by omega), zQ_uQn (by omega)]
      refine ⟨?_, ?_, ?_, ?_, ?_, ?_, ?_, ?_⟩ <;> grind [hI_sJ, hJ_sJ]
    · unfold hCnt
      rw [zQ_uQn (by omega), zQ_uQn (by omega), zQ_uQn (by omega), zQ_uQn (by omega)]
end
