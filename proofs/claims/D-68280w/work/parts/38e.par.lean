/-! parameters, model: all of a row -/
section
variable {h h' : Hp} {d w N at_ : Nat} {T : Nat → Int} {s : PSt}
theorem m_psuits {k n : Nat} (X : PaX h d w N T) (hk : k < 17) (hn : at_ + n ≤ N) : ∃ h', f_mSide_suits d w (k : Int) (at_ : Int) (n : Int) h = some (if pOk T k n at_ then 1 else 0, h') ∧ PaF d w h h' ∧ (∀ y, hI h' (d + 35) y = hI h (d + 35) y) ∧ (∀ j, j ≠ k → hJ h' (d + 34) j = hJ h (d + 34) j) ∧ (pByt k = false → k ≠ 12 → pOk T k n at_ = true → hJ h' (d + 34) k = nvl T at_) := by
  obtain ⟨L, W, nn, n3, B⟩ := id X
  have l0 := L.1
  have sb : ∀ (c : Prop) [Decidable c] (b : Bool), (c ↔ b = false) → (pByt k = false → k ≠ 12 → False) → b = pOk T k n at_ → ∃ h', (if c then some ((0 : Int), h) else some (1, h)) = some (if pOk T k n at_ then 1 else 0, h') ∧ PaF d w h h' ∧ (∀ y, hI h' (d + 35) y = hI h (d + 35) y) ∧ (∀ j, j ≠ k → hJ h' (d + 34) j = hJ h (d + 34) j) ∧ (pByt k = false → k ≠ 12 → pOk T k n at_ = true → hJ h' (d + 34) k = nvl T at_) := fun c _ b q1 q2 q3 => by
    refine ⟨h, ?_, PaF.rf, fun _ => rfl, fun _ _ => rfl, fun a b _ => (q2 a b).elim⟩
    rw [← q3]
    by_cases z : c
    · rw [if_pos z, if_neg (by rw [q1.1 z]; decide)]
    · rw [if_neg z, if_pos (by cases hb : b with | true => rfl | false => exact absurd (q1.2 hb) z)]
  unfold f_mSide_suits
  by_cases q12 : k = 12
  · rw [if_neg (show ¬ ((k : Int) ≠ 12) by omega)]
    exact sb _ (decide (n = 0)) (by rw [decide_eq_false_iff_not]; omega) (fun _ z => z q12) (by unfold pOk; rw [if_pos q12])
  · rw [if_pos (show (k : Int) ≠ 12 by omega)]
    by_cases q2 : k = 2
    · rw [if_neg (show ¬ ((k : Int) ≠ 2) by omega)]
      exact sb _ (decide (n = 16)) (by rw [decide_eq_false_iff_not]; omega) (fun z _ => by rw [q2] at z; exact absurd z (by decide)) (by unfold pOk; rw [if_neg q12, if_pos q2])
    · rw [if_pos (show (k : Int) ≠ 2 by omega)]
      by_cases q13 : k = 13
      · rw [if_neg (show ¬ ((k : Int) ≠ 13) by omega)]
        have e : ∀ x : Option (Int × Hp), (if (n : Int) < 41 then some ((0 : Int), h) else if 61 < (n : Int) then some (0, h) else some (1, h)) = (if (n : Int) < 41 ∨ 61 < (n : Int) then some ((0 : Int), h) else some (1, h)) := fun _ => by
          by_cases z : (n : Int) < 41
          · rw [if_pos z, if_pos (Or.inl z)]
          · rw [if_neg z]
            by_cases z' : 61 < (n : Int)
            · rw [if_pos z', if_pos (Or.inr z')]
            · rw [if_neg z', if_neg (fun y => by rcases y with y | y; exact z y; exact z' y)]
        rw [e none]
        exact sb _ (decide (41 ≤ n ∧ n ≤ 61)) (by rw [decide_eq_false_iff_not]; omega) (fun z _ => by rw [q13] at z; exact absurd z (by decide)) (by unfold pOk; rw [if_neg q12, if_neg q2, if_pos q13])
      · rw [if_pos (show (k : Int) ≠ 13 by omega), m_phasBytes hk, b2_some]
        by_cases qb : pByt k = true
        · rw [if_pos qb, if_neg (show ¬ (1 : Int) = 0 by decide)]
          exact sb _ (decide (n ≤ 20)) (by rw [decide_eq_false_iff_not]; omega) (fun z _ => by rw [qb] at z; exact absurd z (by decide)) (by unfold pOk; rw [if_neg q12, if_neg q2, if_neg q13, if_pos qb])
        · have qf : pByt k = false := by cases hx : pByt k with | true => exact absurd hx qb | false => rfl
          have eo : pOk T k n at_ = (decide (n = nsz T at_) && pRng k (nvl T at_)) := by unfold pOk; rw [if_neg q12, if_neg q2, if_neg q13, if_neg qb]
          have ew : w32 ((at_ : Int) + (n : Int)) = ((at_ + n : Nat) : Int) := by unfold w32; omega
          obtain ⟨g, eg, Rg, Fg⟩ := m_plook (at_ := at_) (M := at_ + n) X (by omega) (by omega)
          have Bg : BRm g (d + 84) (at_ + n) T := fun j hj => by
            have := B j (by omega)
            exact ⟨this.1, by rw [Fg.2.2.1 _ _ (by omega) (by omega)]; exact this.2⟩
          obtain ⟨b1, eb1⟩ : ∃ b1, b1 = nB T at_ (at_ + n) false := ⟨_, rfl⟩
          obtain ⟨a1, ea1⟩ : ∃ a1, a1 = nA T at_ (at_ + n) false := ⟨_, rfl⟩
          obtain ⟨v, ev⟩ : ∃ v, v = nV T at_ (at_ + n) false := ⟨_, rfl⟩
          have R1 : RD (adv g w a1 b1) w (d + 84) a1 (at_ + n) b1 := Rg.adv (by rw [ea1]; exact nA_le (by omega))
          have F1 : PaF d w h (adv g w a1 b1) := Fg.tr PaF.adv
          have L1 : MSd (adv g w a1 b1) d := (X.f F1).1
          have ns := nsz_pos T at_
          have i5 : ∀ y, hI (adv g w a1 b1) (d + 35) y = hI h (d + 35) y := fun y => by
            have hw : g = sI (sI (sI (sR h w 0 (d + 84)) w 1 (at_ : Int)) w 2 ((at_ + n : Nat) : Int)) w 3 0 := (Option.some.inj eg).symm
            rw [hI_adv, if_neg (by omega), if_neg (by omega), hw, hI_sI, if_neg (by omega), hI_sI, if_neg (by omega), hI_sI, if_neg (by omega)]; rfl
          have jj : ∀ j, hJ (adv g w a1 b1) (d + 34) j = hJ h (d + 34) j := fun j => by
            have hw : g = sI (sI (sI (sR h w 0 (d + 84)) w 1 (at_ : Int)) w 2 ((at_ + n : Nat) : Int)) w 3 0 := (Option.some.inj eg).symm
            rw [hJ_adv, hw]; rfl
          obtain ⟨g2, eg2⟩ : ∃ g2, g2 = sJ (adv g w a1 b1) (d + 34) k v := ⟨_, rfl⟩
          have F2 : PaF d w h g2 := by rw [eg2]; exact F1.tr PaF.sJ
          have fin : ∀ (b : Bool), b = pOk T k n at_ → (b = true → v = nvl T at_) → ∃ h', some ((if b then (1 : Int) else 0), g2) = some (if pOk T k n at_ then 1 else 0, h') ∧ PaF d w h h' ∧ (∀ y, hI h' (d + 35) y = hI h (d + 35) y) ∧ (∀ j, j ≠ k → hJ h' (d + 34) j = hJ h (d + 34) j) ∧ (pByt k = false → k ≠ 12 → pOk T k n at_ = true → hJ h' (d + 34) k = nvl T at_) := fun b q1 q2 => by
            refine ⟨g2, by rw [q1], F2, fun y => by rw [eg2]; exact i5 y, fun j hj => ?_, fun _ _ q => ?_⟩
            · rw [eg2, hJ_sJ, if_neg (fun z => hj z.2)]; exact jj j
            · rw [eg2, hJ_sJ, if_pos ⟨rfl, rfl⟩]; exact q2 (by rw [q1]; exact q)
          rw [if_neg qb, if_pos rfl, L.r0_3, if_neg (by omega), if_neg W.1, L.r76_13, ew, eg, b1_some, m_number Rg Bg, b2_some, ← ev, ← eb1, ← ea1, L1.r0_22, if_neg (by omega), L1.l34, if_pos (show ix (k : Int) 17 from ⟨by omega, by omega⟩), Int.toNat_natCast, lt1_eq, ← eg2]
          have i3 : hI g2 w 3 = bi b1 := by rw [eg2]; exact R1.i3
          have i1 : hI g2 w 1 = (a1 : Int) := by rw [eg2]; exact R1.i1
          rw [i3, i1]
          by_cases qn : n = nsz T at_
          · have nb : b1 = false := by rw [eb1]; unfold nB; simp; omega
            have ea : a1 = at_ + n := by rw [ea1]; unfold nA; rw [← eb1, nb, qn]; rfl
            have evv : v = nvl T at_ := by rw [ev]; exact nV_g (by rw [← eb1]; exact nb)
            rw [nb, if_neg (show ¬ (bi false ≠ 0) from fun z => z rfl), if_pos (show (a1 : Int) = ((at_ + n : Nat) : Int) by omega), m_psuitR hk qf q12]
            exact fin (pRng k v) (by rw [eo, evv, decide_eq_true qn, Bool.true_and]) (fun _ => evv)
          · have po : pOk T k n at_ = false := by rw [eo, decide_eq_false qn, Bool.false_and]
            by_cases qs : n < nsz T at_
            · have nb : b1 = true := by rw [eb1]; unfold nB; simp; omega
              rw [nb, if_pos (show bi true ≠ 0 by decide)]
              have := fin false po.symm (fun z => absurd z (by decide))
              rw [if_neg (by decide)] at this; exact this
            · have nb : b1 = false := by rw [eb1]; unfold nB; simp; omega
              have ea : a1 = at_ + nsz T at_ := by rw [ea1]; unfold nA; rw [← eb1, nb]; rfl
              rw [nb, if_neg (show ¬ (bi false ≠ 0) from fun z => z rfl), if_neg (show ¬ (a1 : Int) = ((at_ + n : Nat) : Int) by omega)]
              have := fin false po.symm (fun z => absurd z (by decide))
              rw [if_neg (by decide)] at this; exact this
/-- what the model has kept -/
def PaK (h : Hp) (d : Nat) (s : PSt) : Prop := (∀ k, pRel k → hJ h (d + 34) k = s.2.1 k) ∧ (s.1 0 ≠ 0 → hI h (d + 35) 0 = s.2.2 0) ∧ (s.1 15 ≠ 0 → hI h (d + 35) 1 = s.2.2 15)
end
