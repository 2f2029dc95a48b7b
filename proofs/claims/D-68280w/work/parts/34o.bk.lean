/-! the book: losses, class and model -/
theorem flp_cg {E E' : Nat → Int} {cs : Int → Bool} : ∀ {c}, (∀ j, j < c → E j = E' j) → flp E cs c = flp E' cs c := by
  intro c
  induction c with
  | zero => intro _; rfl
  | succ c ih =>
    intro h
    have e := ih (fun j hj => h j (by lia))
    have ec := h c (by lia)
    show (if cs (E c) then (if (flp E cs c).1 < 0 then E c else (flp E cs c).1, E c) else flp E cs c) = (if cs (E' c) then (if (flp E' cs c).1 < 0 then E' c else (flp E' cs c).1, E' c) else flp E' cs c)
    rw [e, ec]
section
variable {a m s fr : Nat} {X Y : Nat} {lm : Int}
theorem LsP.tr {hc hc1 hc' hm' : Hp} {w w1 : Nat → Nat} (c : CmF a hc hc1) (h1 : ∀ x, x < hN hc → w1 x ≠ 0 → w x ≠ 0) (h2 : hN hc ≤ hN hc1) (P : LsP hc1 a w1 m X Y hc' hm') : LsP hc a w m X Y hc' hm' := by
  obtain ⟨w', q1, q2, q3, q4, q5, q6⟩ := P
  exact ⟨w', q1, fun x hx hz => h1 x hx (q2 x (by lia) hz), by lia, q4, q5, c.tr q6⟩
/-- a packet is lost: the class's part up to its loop, the model's finding -/
theorem j_lose {hc hm : Hp} {n k c : Nat} {w : Nat → Nat} {late v7 : Int} (B : BkR hc a w hm m) (hs : s < 3) (hn : hI hm (m + 1) s = (n : Int)) (hk : k < n) (d : hI hm (m + 9) s = 0) (o : hI hm (m + 4) (4096 * s + k) = 0) (g : hI hm (m + 13) (2 * s + 1) = ((fr + c : Nat) : Int)) (hl : ltI hm m s fr c late) (hX : X ≤ CN) (hY : Y ≤ CZ) (rN : hN hc + bpot hc a ≤ X) (rZ : hZ hc + 2 * bpot hc a ≤ Y) (k38 : Nat → Nat → Int → Int → Int → Int → Int → Int → Hp → Option (Int × Hp)) (kM : Hp → Option Hp) (R : Int × Hp → Hp → Prop)
    (KK : ∀ hc' hm' w' late', BkR hc' a w' hm' m → WE w w' hc s → hN hc ≤ hN hc' → hN hc' + bpot hc' a ≤ X → hZ hc' + 2 * bpot hc' a ≤ Y → DnM hm hm' m s k 1 → CmF a hc hc' → hI hm' (m + 13) (2 * s + 1) = ((fr + (c + 1) : Nat) : Int) → fr + (c + 1) ≤ 4096 → (∀ j, j < c → lsE hm' m s fr j = lsE hm m s fr j) → lsE hm' m s fr c = (k : Int) → ltI hm' m s fr (c + 1) late' → wp (k38 a (a + 6 + 11 * s) lm late' (flp (lsE hm' m s fr) (lsX hm' m s) (c + 1)).1 (flp (lsE hm' m s fr) (lsX hm' m s) (c + 1)).2 1 ((k + 1 : Nat) : Int) hc') (fun o => wp (kM hm') (R o))) :
    wp (f_cBook_losses_b86 k38 a (a + 6 + 11 * s) lm late (flp (lsE hm m s fr) (lsX hm m s) c).1 (flp (lsE hm m s fr) (lsX hm m s) c).2 (k : Int) hc) (fun o => wp (b1 (f_mBook_find m (s : Int) (k : Int) 2 hm) kM) (R o)) := by
  obtain ⟨tm, sz, mk, fo, W0, K1, K2, Q, S, T⟩ := SpR.opn B hs hn
  have L := B.1.1
  have LM := B.1.2
  have a0 := L.1
  have m0 := LM.1
  have ws := B.ws_le
  have wa := B.2.2.1
  have BS := B.2.2.2.2.1
  have BB := B.2.2.2.2.2
  have k4096 : k < 4096 := by have := K2.2.2.2.1; lia
  have hmk : mk k % 4 = 0 := by rw [← (K2.2.2.2.2.2.1 k hk).2.2.1]; exact o
  obtain ⟨f0, e0, V0, f1, e1, V1, Q0, Q1, QM, _⟩ := Q
  have QM' := QM d
  have pos := ctO_pos hk hmk
  have he1 : e1 = fr + c := by have := QM'.2.1.2.1; lia
  have he : e1 < 4096 := by have := K2.2.2.2.1; have := QM'.2.2.1; lia
  have g13 : hI hm (m + 13) (2 * s + 1) = (e1 : Int) := QM'.2.1.2.1
  have sp := L.sp hs
  have rm := QR.room Q0 Q1 hs rfl rN rZ
  have c4 : hI hc (a + 6 + 11 * s) 4 = ctO mk n := by have := S.2.2.2.1; rw [if_pos d] at this; exact this
  have c5 : hI hc (a + 6 + 11 * s) 5 = ctE mk n := by have := S.2.2.2.2.1; rw [if_pos d] at this; exact this
  have wS := W0
  obtain ⟨w1, w2, w3, w4, w5, w6, w7, w8, w9, w10, w11, w0⟩ := W0
  have n3 : ∀ x, w x ≠ 53 → x ≠ a + 3 := fun x hx z => hx (by rw [z]; exact wa.2.2.2.1)
  have z3 : ¬ (a + 3 = 0) := by lia
  have p0 : ¬ (a + 6 + 11 * s = 0) := by lia
  -- the model finds
  obtain ⟨hm1, emf, FM, g1, g2, fo3, K4⟩ := m_find (b := 1) (st := 2) (e := e1) K2 hk hmk (by decide) rfl he g13
  have mm : ∀ y, hI hm1 m y = hI hm m y := fun y => FM.2 _ _ (by lia) (by lia) (by lia) (by lia)
  rw [emf, b1_some]
  unfold f_cBook_losses_b86 f_cBook_losses_b128 f_cBook_losses_b189 f_cBook_losses_b195 f_cBook_losses_b218
  rw [if_neg p0]
  refine wp_b2o (c_settle wS K1 hk hmk (Or.inr rfl) c4 c5) (fun r25 h2 _ q => ?_)
  obtain ⟨er, F2, u4, u5, fo2, K3⟩ := q
  dsimp only at er F2 u4 u5 K3
  have r2 : ∀ x y, hR h2 x y = hR hc x y := fun x y => by rw [F2.1.r]
  have l2 : ∀ x, ln h2 x = ln hc x := fun x => by rw [F2.1.l]
  have ca3 : ∀ y, hI h2 (a + 3) y = hI hc (a + 3) y := fun y => F2.2 _ _ (fun z => by have := congrArg w z.1; lia) (by lia)
  rw [r2, L.r0_2, if_neg z3, lt1_eq]
  obtain ⟨h3, e3⟩ : ∃ h3, h3 = sI h2 (a + 3) 3 (w32 (hI h2 (a + 3) 3 - r25)) := ⟨_, rfl⟩
  rw [← e3]
  have e3' : h3 = sI (sI h2 (a + 3) 3 (w32 (hI h2 (a + 3) 3 - r25))) (a + 3) 0 (hI hm m 24) := by
    rw [← e3, sI_id]
    rw [e3, hI_sI, if_neg (by lia), ca3]; exact BS.2.2.1
  have O3 : OnI hc h3 := by rw [e3]; exact F2.1.s
  have i3 : ∀ x y, ¬ (x = hR hc (a + 6 + 11 * s) 2 ∧ y = k) → ¬ (x = a + 6 + 11 * s ∧ (y = 4 ∨ y = 5 ∨ y = 9)) → x ≠ a + 3 → hI h3 x y = hI hc x y := fun x y q1 q2 q3 => by
    rw [e3, hI_sI, if_neg (by lia)]; exact F2.2 x y q1 q2
  have Q13 : QuC h3 (a + 6 + 11 * s + 6) f1 e1 V1 := Q1.on O3 (fun y => i3 _ _ (fun z => by have := congrArg w z.1; lia) (by lia) (by lia)) (fun y => i3 _ _ (fun z => by have := congrArg w z.1; lia) (fun z => by have := congrArg w z.1; lia) (n3 _ (by rw [w8]; lia)))
  have r3 : ∀ x y, hR h3 x y = hR hc x y := fun x y => by rw [O3.r]
  have l3' : ∀ x, ln h3 x = ln hc x := fun x => by rw [O3.l]
  have zT : hR hc (a + 6 + 11 * s) 0 ≠ 0 := wne (w := w) (by rw [w2, w0]; lia)
  have x1 : ix (k : Int) (ln hc (hR hc (a + 6 + 11 * s) 0)) := ⟨by lia, by have := K1.2.2.2.2.1.1; lia⟩
  have tk : hI h3 (hR hc (a + 6 + 11 * s) 0) k = tm k := by rw [i3 _ _ (fun z => by have := congrArg w z.1; lia) (fun z => by have := congrArg w z.1; lia) (n3 _ (by rw [w2]; lia))]; exact (K1.2.2.2.2.2.1 k hk).1
  have sk : 0 < sz k := (T.1 k hk).2.2
  -- what is known behind the queue
  have rest : ∀ late' : Int, late' = (if mk k / 8 % 2 = 1 then max late (tm k) else late) → wp (if a + 6 + 11 * s = 0 then none else if hR h3 (a + 6 + 11 * s) 12 = 0 then none else b1 (f_cQueue_add (hR h3 (a + 6 + 11 * s) 12) (k : Int) h3) fun h33 => b2 (f_cSpace_is (a + 6 + 11 * s) (k : Int) 4 h33) fun r37 h35 => if r37 = 0 then (k38 a (a + 6 + 11 * s) lm late' (flp (lsE hm m s fr) (lsX hm m s) c).1 (flp (lsE hm m s fr) (lsX hm m s) c).2 1 (w32 ((k : Int) + 1)) h35) else if hR h35 a 1 = 0 then none else if (hI h35 (hR h35 a 1) 4) < 0 then (k38 a (a + 6 + 11 * s) lm late' (flp (lsE hm m s fr) (lsX hm m s) c).1 (flp (lsE hm m s fr) (lsX hm m s) c).2 1 (w32 ((k : Int) + 1)) h35) else if hR h35 (a + 6 + 11 * s) 0 = 0 then none else if ix (k : Int) (ln h35 (hR h35 (a + 6 + 11 * s) 0)) then if (hI h35 (hR h35 (a + 6 + 11 * s) 0) (k : Int).toNat) ≤ (hI h35 (hR h35 a 1) 4) then (k38 a (a + 6 + 11 * s) lm late' (flp (lsE hm m s fr) (lsX hm m s) c).1 (flp (lsE hm m s fr) (lsX hm m s) c).2 1 (w32 ((k : Int) + 1)) h35) else if 0 ≤ (flp (lsE hm m s fr) (lsX hm m s) c).1 then (k38 a (a + 6 + 11 * s) lm late' (flp (lsE hm m s fr) (lsX hm m s) c).1 (k : Int) 1 (w32 ((k : Int) + 1)) h35) else (k38 a (a + 6 + 11 * s) lm late' (k : Int) (k : Int) 1 (w32 ((k : Int) + 1)) h35) else none) (fun o => wp (kM hm1) (R o)) := fun late' hlate => by
    rw [if_neg p0, r3, sp.2.2.1, if_neg (show ¬ (a + 6 + 11 * s + 6 = 0) by lia)]
    refine wp_b1o (c_qadd (v := (k : Int)) Q13 he hX hY (by rw [O3.n, O3.l, O3.r]; exact rm.2.1) (by rw [O3.z, O3.l, O3.r]; exact rm.2.2)) (fun hc' _ q => ?_)
    obtain ⟨QA, QF, pN, pZ⟩ := q
    obtain ⟨w', R1, R2, R3, R4, R5, R6⟩ := j_core (st := 2) (WW := hI hm m 24) (hm' := hm1) B hs (b := 1) (by decide) rfl hk hmk d wS K1 K2 Q0 Q1 QM' S T F2 u4 u5 K3 er e3' ⟨fun z => absurd z (by decide), fun _ => ⟨rfl, rfl, rfl⟩⟩ QA QF pN pZ FM g1 g2 K4 (by rw [sI_id (mm 24)]) (by rw [if_neg (by decide)]; lia) rN rZ
    have hn1 : hI hm1 (m + 1) s = (n : Int) := by rw [FM.2 _ _ (by lia) (by lia) (by lia) (by lia)]; exact hn
    obtain ⟨tm', sz', mk', fo', W', K1', K2', _⟩ := SpR.opn R1 hs hn1
    have L' := R1.1.1
    have el : mk' k / 4 % 2 = hI hm (m + 5) (4096 * s + k) := by rw [← (K2'.2.2.2.2.2.1 k hk).2.2.2.1, FM.2 _ _ (by lia) (by lia) (by lia) (by lia)]
    have te : hI hc' (hR hc' (a + 6 + 11 * s) 0) k = lsT hm m s (k : Int) := by
      rw [(K1'.2.2.2.2.2.1 k hk).1, ← (K2'.2.2.2.2.2.1 k hk).2.1, FM.2 _ _ (by lia) (by lia) (by lia) (by lia)]
      unfold lsT; rw [Int.toNat_natCast]
    have tml : lsT hm m s (k : Int) = tm k := by unfold lsT; rw [Int.toNat_natCast]; exact (K2.2.2.2.2.2.1 k hk).2.1
    have fs : hI hc' (a + 2) 4 = hI hm m 22 := by rw [R1.2.2.2.2.1.2.1.2.2.2.2]; exact mm 22
    have D : DnM hm hm1 m s k 1 := by
      refine ⟨FM.1, fun x y q1 q2 q3 q4 _ => FM.2 x y q1 q2 (fun z => q3 z.1) q4, ?_, e1, he, g13, g1, g2, fun y hy => FM.2 _ _ (by lia) (by lia) (by lia) (by lia)⟩
      rw [(K4.2.2.2.2.2.1 k hk).2.2.1]; unfold up1; rw [if_pos rfl]; lia
    have E1 : ∀ j, j < c → lsE hm1 m s fr j = lsE hm m s fr j := fun j hj => by unfold lsE; exact FM.2 _ _ (by lia) (by lia) (by lia) (by lia)
    have E2 : lsE hm1 m s fr c = (k : Int) := by unfold lsE; rw [← he1]; exact g2
    have eX : lsX hm1 m s = lsX hm m s := funext fun v => by
      unfold lsX lsT
      rw [mm 22, FM.2 (m + 5) _ (by lia) (by lia) (by lia) (by lia), FM.2 (m + 3) _ (by lia) (by lia) (by lia) (by lia)]
    have eT : ∀ v, lsT hm1 m s v = lsT hm m s v := fun v => by unfold lsT; exact FM.2 (m + 3) _ (by lia) (by lia) (by lia) (by lia)
    have eC : ∀ v, lsC hm1 m s v = lsC hm m s v := fun v => by unfold lsC; exact FM.2 (m + 6) _ (by lia) (by lia) (by lia) (by lia)
    have ck : lsC hm m s (k : Int) = mk k / 8 % 2 := by unfold lsC; rw [Int.toNat_natCast]; exact (K2.2.2.2.2.2.1 k hk).2.2.2.2.1
    have tk0 := (T.1 k hk).1
    have LT : ltI hm1 m s fr (c + 1) late' := by
      obtain ⟨q1, q2, q3⟩ := hl
      refine ⟨by rw [hlate]; split <;> lia, ?_, fun j hj hcn => ?_⟩
      · by_cases cc : mk k / 8 % 2 = 1
        · rw [if_pos cc] at hlate
          by_cases cm : late ≤ tm k
          · exact Or.inr ⟨c, by lia, by rw [E2, eC, ck]; lia, by rw [E2, eT, tml, hlate]; lia⟩
          · have el : late' = late := by lia
            rcases q2 with q2 | ⟨j, j1, j2, j3⟩
            · lia
            · exact Or.inr ⟨j, by lia, by rw [E1 j j1, eC]; exact j2, by rw [E1 j j1, eT, el]; exact j3⟩
        · rw [if_neg cc] at hlate
          rcases q2 with q2 | ⟨j, j1, j2, j3⟩
          · exact Or.inl (by rw [hlate]; exact q2)
          · exact Or.inr ⟨j, by lia, by rw [E1 j j1, eC]; exact j2, by rw [E1 j j1, eT, hlate]; exact j3⟩
      · by_cases ej : j = c
        · rw [ej, E2] at hcn ⊢
          rw [eC, ck] at hcn
          rw [eT, tml, hlate, if_pos (by lia)]; lia
        · have hj' : j < c := by lia
          rw [E1 j hj', eC] at hcn
          rw [E1 j hj', eT]
          have := q3 j hj' hcn
          rw [hlate]; split <;> lia
    have fl1 : flp (lsE hm1 m s fr) (lsX hm1 m s) (c + 1) = if lsX hm m s (k : Int) then (if (flp (lsE hm m s fr) (lsX hm m s) c).1 < 0 then (k : Int) else (flp (lsE hm m s fr) (lsX hm m s) c).1, (k : Int)) else flp (lsE hm m s fr) (lsX hm m s) c := by
      rw [eX]
      show (if lsX hm m s (lsE hm1 m s fr c) then (if (flp (lsE hm1 m s fr) (lsX hm m s) c).1 < 0 then lsE hm1 m s fr c else (flp (lsE hm1 m s fr) (lsX hm m s) c).1, lsE hm1 m s fr c) else flp (lsE hm1 m s fr) (lsX hm m s) c) = _
      rw [E2, flp_cg E1]
    have kk := KK hc' hm1 w' late' R1 R2 R3.1 R4 R5 D R6 (by rw [g1, he1]; rfl) (by lia) E1 E2 LT
    rw [fl1] at kk
    have T' := K1'.2.2.2.2.1.1
    have z1 : hR hc' (a + 6 + 11 * s) 0 ≠ 0 := wne (w := w') (by rw [W'.2.1, W'.2.2.2.2.2.2.2.2.2.2.2]; lia)
    have x1' : ix (k : Int) (ln hc' (hR hc' (a + 6 + 11 * s) 0)) := ⟨by lia, by lia⟩
    have lx : lsX hm m s (k : Int) = decide (0 ≤ hI hm m 22 ∧ hI hm (m + 5) (4096 * s + k) ≠ 0 ∧ hI hm m 22 < lsT hm m s (k : Int)) := by unfold lsX; rw [Int.toNat_natCast]
    rw [c_is W' K1' hk (b := 4) (by decide), b2_some, el, L'.r0_1, if_neg (show ¬ (a + 2 = 0) by lia), fs, if_neg z1, if_pos x1', Int.toNat_natCast, te, w_k1 (by lia)]
    have no : lsX hm m s (k : Int) = false → wp (k38 a (a + 6 + 11 * s) lm late' (flp (lsE hm m s fr) (lsX hm m s) c).1 (flp (lsE hm m s fr) (lsX hm m s) c).2 1 ((k + 1 : Nat) : Int) hc') (fun o => wp (kM hm1) (R o)) := fun q => by
      rw [q] at kk; exact kk
    by_cases b1' : hI hm (m + 5) (4096 * s + k) = 0
    · rw [if_pos b1']
      exact no (by rw [lx]; exact decide_eq_false (fun z => z.2.1 b1'))
    · rw [if_neg b1']
      by_cases b2' : hI hm m 22 < 0
      · rw [if_pos b2']
        exact no (by rw [lx]; exact decide_eq_false (by lia))
      · rw [if_neg b2']
        by_cases b3 : lsT hm m s (k : Int) ≤ hI hm m 22
        · rw [if_pos b3]
          exact no (by rw [lx]; exact decide_eq_false (by lia))
        · have yes : lsX hm m s (k : Int) = true := by rw [lx]; exact decide_eq_true ⟨by lia, b1', by lia⟩
          rw [yes] at kk
          simp only [if_true] at kk
          rw [if_neg b3]
          by_cases b4 : 0 ≤ (flp (lsE hm m s fr) (lsX hm m s) c).1
          · rw [if_neg (show ¬ (flp (lsE hm m s fr) (lsX hm m s) c).1 < 0 by lia)] at kk
            rw [if_pos b4]; exact kk
          · rw [if_pos (show (flp (lsE hm m s fr) (lsX hm m s) c).1 < 0 by lia)] at kk
            rw [if_neg b4]; exact kk
  by_cases cc : mk k / 8 % 2 = 1
  · rw [if_pos cc] at er
    rw [if_neg (show ¬ r25 ≤ 0 by lia), r3, if_neg zT, l3', if_pos x1, lt1_eq, Int.toNat_natCast, tk]
    have t := rest (max late (tm k)) (by rw [if_pos cc])
    rw [Int.toNat_natCast] at t
    exact t
  · rw [if_neg cc] at er
    rw [if_pos (show r25 ≤ 0 by lia)]
    have t := rest late (by rw [if_neg cc])
    rw [Int.toNat_natCast] at t
    exact t
end
