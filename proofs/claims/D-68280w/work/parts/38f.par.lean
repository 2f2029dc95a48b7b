/-! parameters, model: the loop over a row -/
section
variable {h h' : Hp} {d w N : Nat} {T : Nat → Int}
theorem PaK.up {s : PSt} {k n at_ : Nat} (K : PaK h d s) (hk : k < 17) (e1 : ∀ j, j ≠ k → hJ h' (d + 34) j = hJ h (d + 34) j) (e2 : pRel k → hJ h' (d + 34) k = pVal T k n at_) (e3 : hI h' (d + 35) 0 = if k = 0 then (at_ : Int) else hI h (d + 35) 0) (e4 : hI h' (d + 35) 1 = if k = 15 then (at_ : Int) else hI h (d + 35) 1) : PaK h' d (pUp s k (pVal T k n at_) at_) := by
  obtain ⟨k1, k2, k3⟩ := K
  refine ⟨fun j hj => ?_, fun hs => ?_, fun hs => ?_⟩
  · show _ = up1 s.2.1 k (pVal T k n at_) j
    by_cases q : j = k
    · rw [q, up1_eq]; exact e2 (by rw [← q]; exact hj)
    · rw [up1_ne q, e1 j q]; exact k1 j hj
  · show _ = up1 s.2.2 k (at_ : Int) 0
    rw [e3]
    by_cases q : k = 0
    · rw [if_pos q, q, up1_eq]
    · rw [if_neg q, up1_ne (fun z => q z.symm)]
      refine k2 ?_
      have hs' : up1 s.1 k 1 0 ≠ 0 := hs
      rw [up1_ne (fun z => q z.symm)] at hs'; exact hs'
  · show _ = up1 s.2.2 k (at_ : Int) 15
    rw [e4]
    by_cases q : k = 15
    · rw [if_pos q, q, up1_eq]
    · rw [if_neg q, up1_ne (fun z => q z.symm)]
      refine k3 ?_
      have hs' : up1 s.1 k 1 15 ≠ 0 := hs
      rw [up1_ne (fun z => q z.symm)] at hs'; exact hs'
theorem m_preadL {num : Int} (hnum : num = 0 ∨ num = 1) : ∀ (f at_ : Nat) (seen : Int) (s : PSt) (h : Hp), PaX h d w N T → hI h d 0 = num → PSe seen s.1 → PaK h d s → at_ ≤ N → N - at_ < f →
    ∃ v h', f_mSide_readsParameters_b4_lp f d w seen (at_ : Int) h = some (v, h') ∧ PaF d w h h' ∧ (match pRun T N (decide (num = 0)) f at_ s with | some s' => v = 1 ∧ PaK h' d s' | none => v = 0) := by
  intro f
  induction f with
  | zero => intro at_ seen s h X i0 S K h1 h2; omega
  | succ f ih =>
    intro at_ seen s h X i0 S K hp h3
    obtain ⟨L, W, nn, n3, B⟩ := id X
    have l0 := L.1
    show ∃ v h', f_mSide_readsParameters_b4 (f_mSide_readsParameters_b4_lp f) d w seen (at_ : Int) h = some (v, h') ∧ _
    unfold f_mSide_readsParameters_b4
    rw [L.r0_3, if_neg (show ¬ d + 76 = 0 by omega), nn]
    by_cases c0 : N ≤ at_
    · have e : pRun T N (decide (num = 0)) (f + 1) at_ s = some s := by show (if N ≤ at_ then some s else _) = _; rw [if_pos c0]
      rw [if_pos (show (N : Int) ≤ (at_ : Int) by omega), e]
      exact ⟨1, h, rfl, PaF.rf, rfl, K⟩
    · obtain ⟨g, eg, Rg, Fg⟩ := m_plook (at_ := at_) (M := N) X n3 hp
      have Xg := X.f Fg
      have Bg : BRm g (d + 84) N T := Xg.2.2.2.2
      obtain ⟨b1, eb1⟩ : ∃ b1, b1 = nB T at_ N false := ⟨_, rfl⟩
      obtain ⟨at1, ea1⟩ : ∃ at1, at1 = nA T at_ N false := ⟨_, rfl⟩
      obtain ⟨id, eid⟩ : ∃ id, id = nV T at_ N false := ⟨_, rfl⟩
      have R1 : RD (adv g w at1 b1) w (d + 84) at1 N b1 := Rg.adv (by rw [ea1]; exact nA_le hp)
      have B1 : BRm (adv g w at1 b1) (d + 84) N T := Bg.adv (by omega)
      obtain ⟨b2, eb2⟩ : ∃ b2, b2 = nB T at1 N b1 := ⟨_, rfl⟩
      obtain ⟨at2, ea2⟩ : ∃ at2, at2 = nA T at1 N b1 := ⟨_, rfl⟩
      obtain ⟨n, en⟩ : ∃ n, n = nV T at1 N b1 := ⟨_, rfl⟩
      have R2 : RD (adv g w at2 b2) w (d + 84) at2 N b2 := Rg.adv (by rw [ea2]; exact nA_le R1.le)
      have idb : 0 ≤ id := by rw [eid]; exact (nV_lt _ _ _ _).1
      have nb : 0 ≤ n := by rw [en]; exact (nV_lt _ _ _ _).1
      obtain ⟨m, em⟩ : ∃ m : Nat, n = m := ⟨n.toNat, by omega⟩
      obtain ⟨b3, eb3⟩ : ∃ b3, b3 = pB at2 N b2 m := ⟨_, rfl⟩
      obtain ⟨at3, ea3⟩ : ∃ at3, at3 = pA at2 N b2 m := ⟨_, rfl⟩
      have R3 : RD (adv g w at3 b3) w (d + 84) at3 N b3 := Rg.adv (by rw [ea3]; exact pA_le R2.le)
      have F3 : PaF d w h (adv g w at3 b3) := Fg.tr PaF.adv
      have e : pRun T N (decide (num = 0)) (f + 1) at_ s = if b2 = true ∨ ((N - at2 : Nat) : Int) < n then none else if 17 ≤ id then pRun T N (decide (num = 0)) f (at2 + n.toNat) s else if s.1 id.toNat ≠ 0 ∨ (pAln id.toNat = true ∧ decide (num = 0) = false) ∨ pOk T id.toNat n.toNat at2 = false then none else pRun T N (decide (num = 0)) f (at2 + n.toNat) (pUp s id.toNat (pVal T id.toNat n.toNat at2) (at2 : Nat)) := by
        show (if N ≤ at_ then some s else _) = _
        rw [if_neg c0, eb2, ea2, en, eid, eb1, ea1]
      rw [e, if_neg (show ¬ (N : Int) ≤ (at_ : Int) by omega), if_neg W.1, L.r76_13, eg, b1_some, m_number Rg Bg, b2_some, ← eid, ← eb1, ← ea1, m_number R1 B1, b2_some, ← en, ← eb2, ← ea2, adv_adv, m_pass R2 em, b2_some, ← eb3, ← ea3, adv_adv, R3.i3]
      have bad : b3 = true ↔ (b2 = true ∨ ((N - at2 : Nat) : Int) < n) := by
        have := R2.le
        rw [eb3, em]
        cases b2 with
        | true => unfold pB; simp
        | false => unfold pB; simp; omega
      by_cases cb : b3 = true
      · rw [if_neg (show ¬ bi b3 = 0 by rw [cb]; decide), if_pos (bad.1 cb)]
        exact ⟨0, _, rfl, F3, rfl⟩
      · have cb' : b3 = false := by cases b3 with | true => exact absurd rfl cb | false => rfl
        have nbad : ¬ (b2 = true ∨ ((N - at2 : Nat) : Int) < n) := fun z => cb (bad.2 z)
        have hm : at2 + m ≤ N := by have := R2.le; omega
        have b2f : b2 = false := by cases hb : b2 with | true => exact absurd (Or.inl hb) nbad | false => rfl
        have e3 : at3 = at2 + m := by rw [ea3, b2f]; exact pA_f (pB_f hm)
        have pr : at_ < at2 := by
          have g2 := eb2.symm
          rw [b2f] at g2
          have b1f : b1 = false := by
            cases hb : b1 with
            | true => rw [hb] at g2; unfold nB at g2; simp at g2
            | false => rfl
          have h2' : at2 = at1 + nsz T at1 := by rw [ea2]; unfold nA; rw [g2]; rfl
          have h1' : at1 = at_ + nsz T at_ := by rw [ea1]; unfold nA; rw [← eb1, b1f]; rfl
          have := nsz_pos T at_
          omega
        obtain ⟨g3, eg3⟩ : ∃ g3, g3 = adv g w at3 b3 := ⟨_, rfl⟩
        rw [← eg3] at F3 R3 ⊢
        have X3 := X.f F3
        have n35 : w ≠ d + 35 := by omega
        have hw : g = sI (sI (sI (sR h w 0 (d + 84)) w 1 (at_ : Int)) w 2 (N : Int)) w 3 0 := (Option.some.inj eg).symm
        have g335 : ∀ y, hI g3 (d + 35) y = hI h (d + 35) y := fun y => by rw [eg3, hI_adv, if_neg (by omega), if_neg (by omega), hw, hI_sI, if_neg (by omega), hI_sI, if_neg (by omega), hI_sI, if_neg (by omega)]; rfl
        have g334 : ∀ y, hJ g3 (d + 34) y = hJ h (d + 34) y := fun y => by rw [eg3, hJ_adv, hw]; rfl
        have K3 : PaK g3 d s := ⟨fun k hk => by rw [g334]; exact K.1 k hk, fun z => by rw [g335]; exact K.2.1 z, fun z => by rw [g335]; exact K.2.2 z⟩
        have i3 : hI g3 d 0 = num := by rw [F3.2.2.1 _ _ (by omega) (by omega)]; exact i0
        rw [cb', if_pos (show bi false = 0 from rfl), if_neg nbad, em, Int.toNat_natCast, R3.i1, lt1_eq, e3]
        by_cases ci : 17 ≤ id
        · rw [if_neg (show ¬ id ≤ 16 by omega), if_pos ci]
          obtain ⟨v, h', e1, e2, e3'⟩ := ih (at2 + m) seen s g3 X3 i3 S K3 hm (by omega)
          exact ⟨v, h', e1, F3.tr e2, e3'⟩
        · obtain ⟨k, ek⟩ : ∃ k : Nat, id = k := ⟨id.toNat, by omega⟩
          have hk : k < 17 := by omega
          rw [if_pos (show id ≤ 16 by omega), if_neg ci, ek, Int.toNat_natCast, w32_id (x := (k : Int)) ⟨by omega, by omega⟩, lt1_eq]
          obtain ⟨g4, e4, F4, i4, j4, v4⟩ := m_psuits (at_ := at2) X3 hk hm
          have X4 := X3.f F4
          have L4 := X4.1
          have c140 : ∃ v h', f_mSide_readsParameters_b140 (f_mSide_readsParameters_b4_lp f) d w seen ((at2 + m : Nat) : Int) (m : Int) (at2 : Int) (k : Int) g3 = some (v, h') ∧ PaF d w h h' ∧ (match (if pOk T k m at2 = false then none else pRun T N (decide (num = 0)) f (at2 + m) (pUp s k (pVal T k m at2) (at2 : Nat))) with | some s' => v = 1 ∧ PaK h' d s' | none => v = 0) := by
            unfold f_mSide_readsParameters_b140
            rw [w32_id (x := (m : Int)) ⟨by omega, by omega⟩, e4, b2_some]
            by_cases po : pOk T k m at2 = false
            · rw [if_pos po, if_neg (show ¬ pOk T k m at2 = true by rw [po]; decide), if_neg (by decide)]
              exact ⟨0, g4, rfl, F3.tr F4, rfl⟩
            · have pt : pOk T k m at2 = true := by cases hx : pOk T k m at2 with | true => rfl | false => exact absurd hx po
              rw [if_neg po, if_pos pt, if_pos (by decide), lt1_eq, m_phasBytes hk, b2_some]
              have S' := S.put hk
              have go : ∀ g5 : Hp, PaF d w h g5 → (∀ j, j ≠ k → hJ g5 (d + 34) j = hJ h (d + 34) j) → (pRel k → hJ g5 (d + 34) k = pVal T k m at2) → (∀ y, hI g5 (d + 35) y = hI h (d + 35) y) → ∃ v h', f_mSide_readsParameters_b181 (f_mSide_readsParameters_b4_lp f) d w (iOr seen (iShl 1 (k : Int))) ((at2 + m : Nat) : Int) (at2 : Int) (k : Int) g5 = some (v, h') ∧ PaF d w h h' ∧ (match pRun T N (decide (num = 0)) f (at2 + m) (pUp s k (pVal T k m at2) (at2 : Nat)) with | some s' => v = 1 ∧ PaK h' d s' | none => v = 0) := fun g5 F5 j5 v5 i5 => by
                have L5 := (X.f F5).1
                have last : ∀ g6 : Hp, PaF d w h g6 → (∀ y, hJ g6 (d + 34) y = hJ g5 (d + 34) y) → hI g6 (d + 35) 0 = (if k = 0 then (at2 : Int) else hI h (d + 35) 0) → hI g6 (d + 35) 1 = (if k = 15 then (at2 : Int) else hI h (d + 35) 1) → ∃ v h', f_mSide_readsParameters_b4_lp f d w (iOr seen (iShl 1 (k : Int))) ((at2 + m : Nat) : Int) g6 = some (v, h') ∧ PaF d w h h' ∧ (match pRun T N (decide (num = 0)) f (at2 + m) (pUp s k (pVal T k m at2) (at2 : Nat)) with | some s' => v = 1 ∧ PaK h' d s' | none => v = 0) := fun g6 F6 j6 p6 q6 => by
                  have K6 : PaK g6 d (pUp s k (pVal T k m at2) (at2 : Nat)) := K.up hk (fun j hj => by rw [j6]; exact j5 j hj) (fun z => by rw [j6]; exact v5 z) p6 q6
                  have i6 : hI g6 d 0 = num := by rw [F6.2.2.1 _ _ (by omega) (by omega)]; exact i0
                  obtain ⟨v, h', e1, e2, e3'⟩ := ih (at2 + m) (iOr seen (iShl 1 (k : Int))) _ g6 (X.f F6) i6 S' K6 hm (by omega)
                  exact ⟨v, h', e1, F6.tr e2, e3'⟩
                unfold f_mSide_readsParameters_b181
                by_cases k0 : k = 0
                · have L6 : MSd (sI g5 (d + 35) 0 (at2 : Int)) d := L5.of rfl rfl
                  rw [if_neg (show ¬ ((k : Int) ≠ 0) by omega), L5.r0_23, if_neg (show ¬ d + 35 = 0 by omega), L5.l35, if_pos (show ix 0 2 by decide), show Int.toNat 0 = 0 from rfl, lt1_eq]
                  unfold f_mSide_readsParameters_b194 f_mSide_readsParameters_b209
                  rw [if_pos (show (k : Int) ≠ 15 by omega)]
                  exact last _ (F5.tr PaF.sI) (fun _ => rfl) (by rw [hI_sI, if_pos ⟨rfl, rfl⟩, if_pos k0]) (by rw [hI_sI, if_neg (by omega), if_neg (by omega)]; exact i5 1)
                · rw [if_pos (show (k : Int) ≠ 0 by omega)]
                  unfold f_mSide_readsParameters_b194 f_mSide_readsParameters_b209
                  by_cases k15 : k = 15
                  · rw [if_neg (show ¬ ((k : Int) ≠ 15) by omega), L5.r0_23, if_neg (show ¬ d + 35 = 0 by omega), L5.l35, if_pos (show ix 1 2 by decide), show Int.toNat 1 = 1 from rfl, lt1_eq]
                    exact last _ (F5.tr PaF.sI) (fun _ => rfl) (by rw [hI_sI, if_neg (by omega), if_neg k0]; exact i5 0) (by rw [hI_sI, if_pos ⟨rfl, rfl⟩, if_pos k15])
                  · rw [if_pos (show (k : Int) ≠ 15 by omega)]
                    exact last _ F5 (fun _ => rfl) (by rw [if_neg k0]; exact i5 0) (by rw [if_neg k15]; exact i5 1)
              by_cases qb : pByt k = true
              · rw [if_pos qb, if_neg (show ¬ (1 : Int) = 0 by decide), L4.r0_22, if_neg (show ¬ d + 34 = 0 by omega), L4.l34, if_pos (show ix (k : Int) 17 from ⟨by omega, by omega⟩), Int.toNat_natCast, lt1_eq]
                refine go _ ((F3.tr F4).tr PaF.sJ) (fun j hj => ?_) (fun _ => ?_) (fun y => ?_)
                · rw [hJ_sJ, if_neg (fun z => hj z.2), j4 j hj]; exact g334 j
                · rw [hJ_sJ, if_pos ⟨rfl, rfl⟩]; unfold pVal; rw [if_pos qb]
                · show hI g4 (d + 35) y = _
                  rw [i4]; exact g335 y
              · have qf : pByt k = false := by cases hx : pByt k with | true => exact absurd hx qb | false => rfl
                rw [if_neg qb, if_pos rfl]
                refine go _ (F3.tr F4) (fun j hj => by rw [j4 j hj]; exact g334 j) (fun z => ?_) (fun y => by rw [i4]; exact g335 y)
                have k12 : k ≠ 12 := by unfold pRel at z; omega
                rw [v4 qf k12 pt]; unfold pVal; rw [if_neg qb, if_neg k12]
          have b115 : ∀ a0 : Int, (a0 = 0 ↔ pAln k = false) → ∃ v h', f_mSide_readsParameters_b115 (f_mSide_readsParameters_b4_lp f) d w seen ((at2 + m : Nat) : Int) (m : Int) (at2 : Int) (k : Int) a0 g3 = some (v, h') ∧ PaF d w h h' ∧ (match (if s.1 k ≠ 0 ∨ (pAln k = true ∧ decide (num = 0) = false) ∨ pOk T k m at2 = false then none else pRun T N (decide (num = 0)) f (at2 + m) (pUp s k (pVal T k m at2) (at2 : Nat))) with | some s' => v = 1 ∧ PaK h' d s' | none => v = 0) := fun a0 ha => by
            have s01 : s.1 k = 0 ∨ s.1 k = 1 := by
              obtain ⟨_, _, _, e⟩ := S
              rw [e k hk]; split
              · exact Or.inr rfl
              · exact Or.inl rfl
            unfold f_mSide_readsParameters_b115
            rw [S.get hk]
            by_cases q0 : s.1 k = 1
            · rw [if_pos q0, if_pos (Or.inl (by omega))]
              exact ⟨0, g3, rfl, F3, rfl⟩
            · have q0' : s.1 k = 0 := by omega
              rw [if_neg q0]
              have red : (¬ (pAln k = true ∧ decide (num = 0) = false)) → (if s.1 k ≠ 0 ∨ (pAln k = true ∧ decide (num = 0) = false) ∨ pOk T k m at2 = false then none else pRun T N (decide (num = 0)) f (at2 + m) (pUp s k (pVal T k m at2) (at2 : Nat))) = (if pOk T k m at2 = false then none else pRun T N (decide (num = 0)) f (at2 + m) (pUp s k (pVal T k m at2) (at2 : Nat))) := fun q => by
                by_cases po : pOk T k m at2 = false
                · rw [if_pos po, if_pos (Or.inr (Or.inr po))]
                · rw [if_neg po, if_neg (fun z => by rcases z with z | z | z; exact z q0'; exact q z; exact po z)]
              by_cases ca : a0 = 0
              · rw [if_pos ca, red (fun z => by rw [ha.1 ca] at z; exact absurd z.1 (by decide))]
                exact c140
              · rw [if_neg ca, i3]
                have pa : pAln k = true := by cases hx : pAln k with | true => rfl | false => exact absurd (ha.2 hx) ca
                by_cases c1 : num = 1
                · rw [if_pos c1, if_pos (Or.inr (Or.inl ⟨pa, decide_eq_false (by omega)⟩))]
                  exact ⟨0, g3, rfl, F3, rfl⟩
                · rw [if_neg c1, red (fun z => by have := z.2; rw [decide_eq_false_iff_not] at this; omega)]
                  exact c140
          have pal : ∀ b : Bool, decide (k = 0 ∨ k = 2 ∨ k = 13 ∨ k = 16) = b → pAln k = b := fun b q => q
          unfold f_mSide_readsParameters_b110
          by_cases k0 : k = 0
          · rw [if_pos (show (k : Int) = 0 by omega)]
            exact b115 1 ⟨fun z => absurd z (by decide), fun z => by rw [pal true (decide_eq_true (Or.inl k0))] at z; exact absurd z (by decide)⟩
          · rw [if_neg (show ¬ (k : Int) = 0 by omega)]
            by_cases k2 : k = 2
            · rw [if_pos (show (k : Int) = 2 by omega)]
              exact b115 1 ⟨fun z => absurd z (by decide), fun z => by rw [pal true (decide_eq_true (Or.inr (Or.inl k2)))] at z; exact absurd z (by decide)⟩
            · rw [if_neg (show ¬ (k : Int) = 2 by omega)]
              by_cases k13 : k = 13
              · rw [if_pos (show (k : Int) = 13 by omega)]
                exact b115 1 ⟨fun z => absurd z (by decide), fun z => by rw [pal true (decide_eq_true (Or.inr (Or.inr (Or.inl k13))))] at z; exact absurd z (by decide)⟩
              · rw [if_neg (show ¬ (k : Int) = 13 by omega)]
                by_cases k16 : k = 16
                · rw [if_neg (show ¬ ((k : Int) ≠ 16) by omega)]
                  exact b115 1 ⟨fun z => absurd z (by decide), fun z => by rw [pal true (decide_eq_true (Or.inr (Or.inr (Or.inr k16))))] at z; exact absurd z (by decide)⟩
                · rw [if_pos (show (k : Int) ≠ 16 by omega)]
                  exact b115 0 ⟨fun _ => pal false (decide_eq_false (by omega)), fun _ => rfl⟩
end
