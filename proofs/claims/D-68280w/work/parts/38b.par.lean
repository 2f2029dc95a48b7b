/-! parameters, class -/
section
variable {h : Hp} {P a r N at_ : Nat} {T : Nat → Int} {s : PSt}
abbrev inP (P a x : Nat) : Prop := (P ≤ x ∧ x ≤ P + 3) ∨ x = a
theorem FX.adv {D : Nat → Prop} {b : Bool} (m : D a) : FX D h (adv h a at_ b) := ⟨⟨rfl, rfl, rfl⟩, fun x y q => by rw [hI_adv, if_neg (fun z => q (by rw [z.1]; exact m)), if_neg (fun z => q (by rw [z.1]; exact m))], fun _ _ _ => rfl⟩
theorem FX.sJ {D : Nat → Prop} {k : Nat} {v : Int} (m : D a) : FX D h (sJ h a k v) := ⟨⟨rfl, rfl, rfl⟩, fun _ _ _ => rfl, fun x y q => by rw [hJ_sJ, if_neg (fun z => q (by rw [z.1]; exact m))]⟩
/-- the class's parameters behind a new one, the reader anywhere -/
theorem PaC.up {h' : Hp} {k : Nat} {v : Int} (C : PaC h P s) (hk : k < 17) (rl : hR h' = hR h ∧ ln h' = ln h)
    (e2 : ∀ y, hI h' (P + 2) y = if y = k then 1 else hI h (P + 2) y) (e3 : ∀ y, hI h' (P + 3) y = if y = k then (at_ : Int) else hI h (P + 3) y) (e1 : ∀ y, hJ h' (P + 1) y = if y = k then v else hJ h (P + 1) y) : PaC h' P (pUp s k v at_) := by
  obtain ⟨L, c1, c2, c3⟩ := C
  refine ⟨L.of rl.1 rl.2, fun j hj => ?_, fun j hj => ?_, fun j hj hs => ?_⟩
  · show _ = up1 s.1 k 1 j ∧ (up1 s.1 k 1 j = 0 ∨ up1 s.1 k 1 j = 1)
    rw [e2]
    by_cases q : j = k
    · rw [if_pos q, q, up1_eq]; exact ⟨rfl, Or.inr rfl⟩
    · rw [if_neg q, up1_ne q]; exact c1 j hj
  · show _ = up1 s.2.1 k v j
    rw [e1]
    by_cases q : j = k
    · rw [if_pos q, q, up1_eq]
    · rw [if_neg q, up1_ne q]; exact c2 j hj
  · show _ = up1 s.2.2 k (at_ : Int) j
    rw [e3]
    by_cases q : j = k
    · rw [if_pos q, q, up1_eq]
    · rw [if_neg q, up1_ne q]
      refine c3 j hj ?_
      have hs' : up1 s.1 k 1 j ≠ 0 := hs
      rw [up1_ne q] at hs'; exact hs'
theorem c_pone {k n : Nat} {ans : Bool} (C : PaC h P s) (A : PaA P a r) (R : RD h a r at_ N false) (hB : BRc h r N T) (hk : k < 17) (hn : at_ + n ≤ N) :
    ∃ c h', f_cParameters_one P a (k : Int) (n : Int) (bi ans) h = some (c, h') ∧ 0 ≤ c ∧ FX (inP P a) h h' ∧ (c = 0 → ¬ (s.1 k ≠ 0 ∨ (pAln k = true ∧ ans = false) ∨ pOk T k n at_ = false) ∧ PaC h' P (pUp s k (pVal T k n at_) at_) ∧ RD h' a r (at_ + n) N false) ∧ (c ≠ 0 → (s.1 k ≠ 0 ∨ (pAln k = true ∧ ans = false) ∨ pOk T k n at_ = false)) := by
  obtain ⟨L, c1, c2, c3⟩ := id C
  obtain ⟨A1, A2⟩ := A
  have l0 := L.1
  have a0 := R.nz
  have xk : ix (k : Int) 17 := ⟨by lia, by lia⟩
  have Nz := R.sm
  unfold f_cParameters_one
  rw [L.r0_1, if_neg (by lia), L.l2, if_pos xk, Int.toNat_natCast, (c1 k hk).1]
  by_cases q0 : s.1 k = 0
  · rw [if_pos q0, c_pisAnswer hk, b2_some]
    have b25 : ∃ c h', f_cParameters_one_b25 P a (k : Int) (n : Int) h = some (c, h') ∧ 0 ≤ c ∧ FX (inP P a) h h' ∧ (c = 0 → pOk T k n at_ = true ∧ PaC h' P (pUp s k (pVal T k n at_) at_) ∧ RD h' a r (at_ + n) N false) ∧ (c ≠ 0 → pOk T k n at_ = false) := by
      obtain ⟨h2, eh2⟩ : ∃ h2, h2 = sI (sI h (P + 2) k 1) (P + 3) k (at_ : Int) := ⟨_, rfl⟩
      have L1 : LPar (sI h (P + 2) k 1) P := L.of rfl rfl
      have L2 : LPar h2 P := by rw [eh2]; exact L.of rfl rfl
      have R2 : RD h2 a r at_ N false := by rw [eh2]; exact (R.sI (Or.inl (by lia))).sI (Or.inl (by lia))
      have B2 : BRc h2 r N T := hB.of (fun y => by rw [eh2, hI_sI, if_neg (by lia), hI_sI, if_neg (by lia)])
      have i1 : hI (sI h (P + 2) k 1) a 1 = (at_ : Int) := by rw [hI_sI, if_neg (by lia)]; exact R.i1
      have F2 : FX (inP P a) h h2 := by rw [eh2]; exact FX.tr (FX.sI (by lia)) (FX.sI (by lia))
      have ey : w32 ((at_ : Int) + (n : Int)) = ((at_ + n : Nat) : Int) := by unfold w32; lia
      have m1 : ∀ y, hI h2 (P + 2) y = if y = k then 1 else hI h (P + 2) y := fun y => by
        rw [eh2, hI_sI, if_neg (by lia), hI_sI]
        by_cases q : y = k
        · rw [if_pos ⟨rfl, q⟩, if_pos q]
        · rw [if_neg (fun z => q z.2), if_neg q]
      have m2 : ∀ y, hI h2 (P + 3) y = if y = k then (at_ : Int) else hI h (P + 3) y := fun y => by
        rw [eh2, hI_sI]
        by_cases q : y = k
        · rw [if_pos ⟨rfl, q⟩, if_pos q]
        · rw [if_neg (fun z => q z.2), if_neg q, hI_sI, if_neg (by lia)]
      -- the end: the reader is set behind the data
      have fin : ∀ (g : Hp) (x : Nat) (v6 v : Int), (∀ y z, ¬ (y = a ∧ z = 1) → hI g y z = hI h2 y z) → (hR g = hR h2 ∧ ln g = ln h2 ∧ g.1 = h2.1 ∧ g.2.1 = h2.2.1) → (∀ y z, hJ g y z = if y = P + 1 ∧ z = k then v else hJ h2 y z) → (v6 ≠ 0 → pOk T k n at_ = true ∧ v = pVal T k n at_) → (pOk T k n at_ = true → v6 ≠ 0) → ∃ c h', f_cParameters_one_b240 P a ((at_ + n : Nat) : Int) v6 g = some (c, h') ∧ 0 ≤ c ∧ FX (inP P a) h h' ∧ (c = 0 → pOk T k n at_ = true ∧ PaC h' P (pUp s k (pVal T k n at_) at_) ∧ RD h' a r (at_ + n) N false) ∧ (c ≠ 0 → pOk T k n at_ = false) := by
        intro g x v6 v e1 e2 e3 e4 e5
        have FF : FX (inP P a) h (sI g a 1 ((at_ + n : Nat) : Int)) := by
          refine F2.tr ⟨⟨e2.2.2.1, e2.2.2.2, e2.1⟩, fun y z q => ?_, fun y z q => ?_⟩
          · rw [hI_sI, if_neg (by lia)]; exact e1 y z (by lia)
          · show hJ g y z = _
            rw [e3, if_neg (by lia)]
        unfold f_cParameters_one_b240
        rw [if_neg a0, lt1_eq]
        by_cases q : v6 = 0
        · rw [if_pos q]
          exact ⟨3, _, rfl, by decide, FF, fun z => absurd z (by decide), fun _ => by cases hx : pOk T k n at_ with | true => exact absurd q (e5 hx) | false => rfl⟩
        · rw [if_neg q]
          refine ⟨0, _, rfl, by decide, FF, fun _ => ⟨(e4 q).1, ?_, ?_⟩, fun z => absurd rfl z⟩
          · rw [← (e4 q).2]
            refine C.up hk ⟨?_, ?_⟩ (fun y => ?_) (fun y => ?_) (fun y => ?_)
            · show hR g = hR h
              rw [e2.1]; exact F2.r
            · show ln g = ln h
              rw [e2.2.1]; exact F2.l
            · rw [hI_sI, if_neg (by lia), e1 _ _ (by lia)]; exact m1 y
            · rw [hI_sI, if_neg (by lia), e1 _ _ (by lia)]; exact m2 y
            · show hJ g (P + 1) y = _
              rw [e3]
              by_cases q : y = k
              · rw [if_pos ⟨rfl, q⟩, if_pos q]
              · rw [if_neg (fun z => q z.2), if_neg q, eh2]; rfl
          · obtain ⟨r1, r2, r3, r4, r5, r6, r7, r8⟩ := R2
            refine ⟨r1, ?_, ?_, ?_, ?_, hn, ?_, r8⟩
            · show hR g a 0 = r
              rw [e2.1]; exact r2
            · rw [hI_sI, if_pos ⟨rfl, rfl⟩]
            · rw [hI_sI, if_neg (by lia), e1 _ _ (by lia)]; exact r4
            · rw [hI_sI, if_neg (by lia), e1 _ _ (by lia)]; exact r5
            · show N ≤ ln g r
              rw [e2.2.1]; exact r7
      unfold f_cParameters_one_b25
      rw [L.r0_1, if_neg (by lia), L.l2, if_pos xk, Int.toNat_natCast, lt1_eq, if_neg a0, L1.r0_2, if_neg (by lia), L1.l3, if_pos xk, i1, lt1_eq, ← eh2, R2.i1, ey, lt1_eq, c_pisBytes hk, b2_some]
      have pj : ∀ (v : Int) (b : Int), (b ≠ 0 → pOk T k n at_ = true ∧ v = pVal T k n at_) → (pOk T k n at_ = true → b ≠ 0) → ∃ c h', (b2 (f_cBytes_pass a (n : Int) (sJ h2 (P + 1) k v)) fun r42 h40 => f_cParameters_one_b240 P a ((at_ + n : Nat) : Int) b h40) = some (c, h') ∧ 0 ≤ c ∧ FX (inP P a) h h' ∧ (c = 0 → pOk T k n at_ = true ∧ PaC h' P (pUp s k (pVal T k n at_) at_) ∧ RD h' a r (at_ + n) N false) ∧ (c ≠ 0 → pOk T k n at_ = false) := fun v b g1 g2 => by
        have RJ : RD (sJ h2 (P + 1) k v) a r at_ N false := R2.sJ
        rw [c_pass RJ (by lia), b2_some, pB_f hn, pA_f (pB_f hn)]
        refine fin _ 0 b v (fun y z q => ?_) ⟨rfl, rfl, rfl, rfl⟩ (fun y z => ?_) g1 g2
        · rw [hI_adv, if_neg q]
          by_cases q3 : y = a ∧ z = 3
          · rw [if_pos q3, q3.1, q3.2]; exact R2.i3.symm
          · rw [if_neg q3]; rfl
        · rw [hJ_adv, hJ_sJ]
      by_cases qb : pByt k = true
      · have k12 : k ≠ 12 := fun z => by rw [z] at qb; exact absurd qb (by decide)
        have ev : pVal T k n at_ = (n : Int) := by unfold pVal; rw [if_pos qb]
        rw [if_pos qb, if_neg (by decide), L2.r0_0, if_neg (by lia), L2.l1, if_pos xk, lt1_eq]
        unfold f_cParameters_one_b106 f_cParameters_one_b121
        by_cases q2 : k = 2
        · have eo : pOk T k n at_ = decide (n = 16) := by unfold pOk; rw [if_neg k12, if_pos q2]
          rw [if_neg (show ¬ ((k : Int) ≠ 2) by lia)]
          by_cases q : n = 16
          · rw [if_neg (show ¬ ((n : Int) ≠ 16) by lia), if_neg a0]
            exact pj (n : Int) 1 (fun _ => ⟨by rw [eo]; exact decide_eq_true q, ev.symm⟩) (fun _ => by decide)
          · rw [if_pos (show (n : Int) ≠ 16 by lia), if_neg a0]
            exact pj (n : Int) 0 (fun z => absurd rfl z) (fun z => by rw [eo, decide_eq_true_iff] at z; exact absurd z q)
        · rw [if_pos (show (k : Int) ≠ 2 by lia)]
          by_cases q13 : k = 13
          · have eo : pOk T k n at_ = decide (41 ≤ n ∧ n ≤ 61) := by unfold pOk; rw [if_neg k12, if_neg q2, if_pos q13]
            rw [if_neg (show ¬ ((k : Int) ≠ 13) by lia)]
            by_cases q : n < 41
            · rw [if_pos (show (n : Int) < 41 by lia), if_neg a0]
              exact pj (n : Int) 0 (fun z => absurd rfl z) (fun z => by rw [eo, decide_eq_true_iff] at z; lia)
            · rw [if_neg (show ¬ (n : Int) < 41 by lia)]
              by_cases q' : 61 < n
              · rw [if_pos (show 61 < (n : Int) by lia), if_neg a0]
                exact pj (n : Int) 0 (fun z => absurd rfl z) (fun z => by rw [eo, decide_eq_true_iff] at z; lia)
              · rw [if_neg (show ¬ 61 < (n : Int) by lia), if_neg a0]
                exact pj (n : Int) 1 (fun _ => ⟨by rw [eo, decide_eq_true_iff]; lia, ev.symm⟩) (fun _ => by decide)
          · have eo : pOk T k n at_ = decide (n ≤ 20) := by unfold pOk; rw [if_neg k12, if_neg q2, if_neg q13, if_pos qb]
            rw [if_pos (show (k : Int) ≠ 13 by lia)]
            by_cases q : 20 < n
            · rw [if_pos (show 20 < (n : Int) by lia), if_neg a0]
              exact pj (n : Int) 0 (fun z => absurd rfl z) (fun z => by rw [eo, decide_eq_true_iff] at z; lia)
            · rw [if_neg (show ¬ 20 < (n : Int) by lia), if_neg a0]
              exact pj (n : Int) 1 (fun _ => ⟨by rw [eo, decide_eq_true_iff]; lia, ev.symm⟩) (fun _ => by decide)
      · have qf : pByt k = false := by cases hx : pByt k with | true => exact absurd hx qb | false => rfl
        have k2 : k ≠ 2 ∧ k ≠ 13 := ⟨fun z => by rw [z] at qf; exact absurd qf (by decide), fun z => by rw [z] at qf; exact absurd qf (by decide)⟩
        rw [if_neg qb, if_pos rfl]
        by_cases q12 : k = 12
        · have eo : pOk T k n at_ = decide (n = 0) := by unfold pOk; rw [if_pos q12]
          have ev : pVal T k n at_ = 1 := by unfold pVal; rw [if_neg qb, if_pos q12]
          rw [if_neg (show ¬ ((k : Int) ≠ 12) by lia), L2.r0_0, if_neg (by lia), L2.l1, if_pos xk, lt1_eq]
          unfold f_cParameters_one_b154
          by_cases q : n = 0
          · rw [if_neg (show ¬ ((n : Int) ≠ 0) by lia), if_neg a0]
            exact pj 1 1 (fun _ => ⟨by rw [eo]; exact decide_eq_true q, ev.symm⟩) (fun _ => by decide)
          · rw [if_pos (show (n : Int) ≠ 0 by lia), if_neg a0]
            exact pj 1 0 (fun z => absurd rfl z) (fun z => by rw [eo, decide_eq_true_iff] at z; exact absurd z q)
        · have eo : pOk T k n at_ = (decide (n = nsz T at_) && pRng k (nvl T at_)) := by unfold pOk; rw [if_neg q12, if_neg k2.1, if_neg k2.2, if_neg qb]
          have ev : pVal T k n at_ = nvl T at_ := by unfold pVal; rw [if_neg qb, if_neg q12]
          have ns := nsz_pos T at_
          have bad : n ≠ nsz T at_ → ∃ c h', f_cParameters_one_b193 P a (k : Int) ((at_ + n : Nat) : Int) h2 = some (c, h') ∧ 0 ≤ c ∧ FX (inP P a) h h' ∧ (c = 0 → pOk T k n at_ = true ∧ PaC h' P (pUp s k (pVal T k n at_) at_) ∧ RD h' a r (at_ + n) N false) ∧ (c ≠ 0 → pOk T k n at_ = false) := fun q => by
            unfold f_cParameters_one_b193 f_cParameters_one_b194 f_cParameters_one_b214
            rw [if_pos rfl, L2.r0_0, if_neg (by lia), L2.l1, if_pos xk, Int.toNat_natCast, lt1_eq, if_pos rfl]
            unfold f_cParameters_one_b237 f_cParameters_one_b238
            exact fin _ 0 0 0 (fun y z q => rfl) ⟨rfl, rfl, rfl, rfl⟩ (fun y z => by rw [hJ_sJ]) (fun z => absurd rfl z) (fun z => by rw [eo, Bool.and_eq_true, decide_eq_true_iff] at z; exact absurd z.1 q)
          rw [if_pos (show (k : Int) ≠ 12 by lia)]
          by_cases qn : n = 0
          · rw [if_pos (show (n : Int) ≤ 0 by lia)]
            exact bad (by lia)
          · have row : hR h2 a 0 = r := R2.row
            have ll : N ≤ ln h2 r := R2.2.2.2.2.2.2.1
            have bt := B2 at_ (by lia)
            rw [if_neg (show ¬ (n : Int) ≤ 0 by lia), row, if_neg R2.rz, R2.i1, if_pos (show ix (at_ : Int) (ln h2 r) from ⟨by lia, by lia⟩), Int.toNat_natCast, nsz_c bt.1 bt.2]
            by_cases q : n = nsz T at_
            · have nb : nB T at_ N false = false := by unfold nB; simp; lia
              rw [if_neg (show ¬ ((n : Int) ≠ ((nsz T at_ : Nat) : Int)) by lia)]
              unfold f_cParameters_one_b194
              rw [if_neg (by decide), if_neg a0, c_number R2 B2, b2_some, nb, nV_g nb, show nA T at_ N false = at_ + n by unfold nA; rw [nb, q]; rfl]
              unfold f_cParameters_one_b214
              have L3 : LPar (adv h2 a (at_ + n) false) P := L2.of rfl rfl
              have L4 : ∀ v, LPar (sJ (adv h2 a (at_ + n) false) (P + 1) k v) P := fun v => L2.of rfl rfl
              rw [L2.r0_0, if_neg (by lia), show ln (adv h2 a (at_ + n) false) (P + 1) = 17 from L3.l1, if_pos xk, Int.toNat_natCast, lt1_eq, if_neg (by decide), (L4 _).r0_0, if_neg (by lia), (L4 _).l1, if_pos xk, hJ_sJ, if_pos ⟨rfl, rfl⟩, c_pfits hk, b2_some]
              have cont : ∀ b : Int, (b ≠ 0 → pOk T k n at_ = true) → (pOk T k n at_ = true → b ≠ 0) → ∃ c h', f_cParameters_one_b238 P a ((at_ + n : Nat) : Int) b (sJ (adv h2 a (at_ + n) false) (P + 1) k (nvl T at_)) = some (c, h') ∧ 0 ≤ c ∧ FX (inP P a) h h' ∧ (c = 0 → pOk T k n at_ = true ∧ PaC h' P (pUp s k (pVal T k n at_) at_) ∧ RD h' a r (at_ + n) N false) ∧ (c ≠ 0 → pOk T k n at_ = false) := fun b g1 g2 => by
                unfold f_cParameters_one_b238
                refine fin _ 0 b (nvl T at_) (fun y z q => ?_) ⟨rfl, rfl, rfl, rfl⟩ (fun y z => ?_) (fun z => ⟨g1 z, ev.symm⟩) g2
                · show hI (adv h2 a (at_ + n) false) y z = _
                  rw [hI_adv, if_neg q]
                  by_cases q3 : y = a ∧ z = 3
                  · rw [if_pos q3, q3.1, q3.2]; exact R2.i3.symm
                  · rw [if_neg q3]
                · rw [hJ_sJ, hJ_adv]
              by_cases qr : pRng k (nvl T at_) = true
              · rw [if_pos qr, if_neg (by decide)]
                exact cont 1 (fun _ => by rw [eo, Bool.and_eq_true, decide_eq_true_iff]; exact ⟨q, qr⟩) (fun _ => by decide)
              · rw [if_neg qr, if_pos rfl]
                unfold f_cParameters_one_b237
                exact cont 0 (fun z => absurd rfl z) (fun z => by rw [eo, Bool.and_eq_true] at z; exact absurd z.2 qr)
            · rw [if_pos (show (n : Int) ≠ ((nsz T at_ : Nat) : Int) by lia)]
              exact bad q
    obtain ⟨c, h', e1, e2, e3, e4, e5⟩ := b25
    by_cases qa : pAln k = true
    · rw [if_pos qa, if_neg (by decide)]
      cases ans with
      | false =>
        rw [if_neg (show ¬ (bi false ≠ 0) from fun z => z rfl)]
        exact ⟨4, h, rfl, by decide, FX.rf, fun z => absurd z (by decide), fun _ => Or.inr (Or.inl ⟨qa, rfl⟩)⟩
      | true =>
        rw [if_pos (show bi true ≠ 0 by decide)]
        refine ⟨c, h', e1, e2, e3, fun z => ⟨fun y => ?_, (e4 z).2⟩, fun y => ?_⟩
        · rcases y with y | y | y
          · exact y q0
          · exact absurd y.2 (by decide)
          · rw [(e4 z).1] at y; exact absurd y (by decide)
        · exact Or.inr (Or.inr (e5 y))
    · rw [if_neg qa, if_pos rfl]
      refine ⟨c, h', e1, e2, e3, fun z => ⟨fun y => ?_, (e4 z).2⟩, fun y => ?_⟩
      · rcases y with y | y | y
        · exact y q0
        · exact qa y.1
        · rw [(e4 z).1] at y; exact absurd y (by decide)
      · exact Or.inr (Or.inr (e5 y))
  · rw [if_neg q0]
    exact ⟨2, h, rfl, by decide, FX.rf, fun z => absurd z (by decide), fun _ => Or.inl q0⟩
end
