/-! parameters, class: all of a row -/
section
variable {P a r N : Nat} {T : Nat → Int}
theorem RD.left {h : Hp} {at_ : Nat} (R : RD h a r at_ N false) : f_cBytes_left a h = some (((N - at_ : Nat) : Int), h) := by rw [c_left R]; rfl
theorem c_preadL {ans : Bool} (A : PaA P a r) : ∀ (f at_ : Nat) (v3 : Int) (s : PSt) (h : Hp), PaC h P s → RD h a r at_ N false → BRc h r N T → 0 ≤ v3 → v3 ≤ at_ → N - at_ < f →
    ∃ v h', f_cParameters_read_b16_lp f P a (bi ans) v3 h = some (v, h') ∧ FX (inP P a) h h' ∧ (match pRun T N ans f at_ s with | some s' => 0 ≤ v ∧ PaC h' P s' | none => v = -1) := by
  intro f
  induction f with
  | zero => intro at_ v3 s h C R B h1 h2 h3; lia
  | succ f ih =>
    intro at_ v3 s h C R B h1 h2 h3
    have L := C.1
    have l0 := L.1
    have a0 := R.nz
    have Nz := R.sm
    obtain ⟨A1, A2⟩ := id A
    show ∃ v h', f_cParameters_read_b16 (f_cParameters_read_b16_lp f) P a (bi ans) v3 h = some (v, h') ∧ _
    unfold f_cParameters_read_b16
    rw [if_neg a0, R.left, b2_some]
    by_cases c0 : N ≤ at_
    · have e : pRun T N ans (f + 1) at_ s = some s := by show (if N ≤ at_ then some s else _) = _; rw [if_pos c0]
      rw [if_pos (show ((N - at_ : Nat) : Int) ≤ 0 by omega), e]
      exact ⟨v3, h, rfl, FX.rf, h1, C⟩
    · have hp := R.le
      obtain ⟨b1, eb1⟩ : ∃ b1, b1 = nB T at_ N false := ⟨_, rfl⟩
      obtain ⟨at1, ea1⟩ : ∃ at1, at1 = nA T at_ N false := ⟨_, rfl⟩
      obtain ⟨id, eid⟩ : ∃ id, id = nV T at_ N false := ⟨_, rfl⟩
      have R1 : RD (adv h a at1 b1) a r at1 N b1 := R.adv (by rw [ea1]; exact nA_le hp)
      have B1 : BRc (adv h a at1 b1) r N T := B.adv R.ne
      obtain ⟨b2, eb2⟩ : ∃ b2, b2 = nB T at1 N b1 := ⟨_, rfl⟩
      obtain ⟨at2, ea2⟩ : ∃ at2, at2 = nA T at1 N b1 := ⟨_, rfl⟩
      obtain ⟨n, en⟩ : ∃ n, n = nV T at1 N b1 := ⟨_, rfl⟩
      have R2 : RD (adv h a at2 b2) a r at2 N b2 := R.adv (by rw [ea2]; exact nA_le R1.le)
      have B2 : BRc (adv h a at2 b2) r N T := B.adv R.ne
      have idb : 0 ≤ id := by rw [eid]; exact (nV_lt _ _ _ _).1
      have nb : 0 ≤ n := by rw [en]; exact (nV_lt _ _ _ _).1
      have F2 : FX (inP P a) h (adv h a at2 b2) := FX.adv (Or.inr rfl)
      have C2 : PaC (adv h a at2 b2) P s := by
        obtain ⟨_, c1, c2, c3⟩ := C
        exact ⟨L.of rfl rfl, fun k hk => by rw [hI_adv, if_neg (by lia), if_neg (by lia)]; exact c1 k hk, c2, fun k hk hs => by rw [hI_adv, if_neg (by lia), if_neg (by lia)]; exact c3 k hk hs⟩
      have e : pRun T N ans (f + 1) at_ s = if b2 = true ∨ ((N - at2 : Nat) : Int) < n then none else if 17 ≤ id then pRun T N ans f (at2 + n.toNat) s else if s.1 id.toNat ≠ 0 ∨ (pAln id.toNat = true ∧ ans = false) ∨ pOk T id.toNat n.toNat at2 = false then none else pRun T N ans f (at2 + n.toNat) (pUp s id.toNat (pVal T id.toNat n.toNat at2) (at2 : Nat)) := by
        show (if N ≤ at_ then some s else _) = _
        rw [if_neg c0, eb2, ea2, en, eid, eb1, ea1]
      rw [e, if_neg (show ¬ ((N - at_ : Nat) : Int) ≤ 0 by omega), lt1_eq, c_number R B, b2_some, ← eid, ← eb1, ← ea1, c_number R1 B1, b2_some, ← en, ← eb2, ← ea2, adv_adv, R2.i3, R.i1]
      have bad : ∀ (c : Int) (g : Hp), 0 < c → LPar g P → FX (inP P a) h g → ∃ v h', f_cParameters_read_b89 (f_cParameters_read_b16_lp f) P a (bi ans) v3 (at_ : Int) id n P c g = some (v, h') ∧ FX (inP P a) h h' ∧ v = -1 := fun c g hc Lg Fg => by
        unfold f_cParameters_read_b89
        have e3 : hI (sI g P 3 c) P 3 = c := by rw [hI_sI, if_pos ⟨rfl, rfl⟩]
        rw [if_neg (show ¬ P = 0 by omega), lt1_eq, e3, if_neg (show ¬ c ≤ 0 by omega), lt1_eq]
        exact ⟨-1, _, rfl, (Fg.tr (FX.sI (by lia))).tr (FX.sI (by lia)), rfl⟩
      have bad1 : ∀ (g : Hp), LPar g P → FX (inP P a) h g → ∃ v h', f_cParameters_read_b60 (f_cParameters_read_b16_lp f) P a (bi ans) v3 (at_ : Int) id n P g = some (v, h') ∧ FX (inP P a) h h' ∧ v = -1 := fun g Lg Fg => by
        unfold f_cParameters_read_b60
        exact bad 1 g (by decide) Lg Fg
      by_cases cb : b2 = true
      · rw [if_pos (show bi b2 ≠ 0 by rw [cb]; decide), if_pos (Or.inl cb)]
        exact bad1 _ C2.1 F2
      · have cb' : b2 = false := by cases b2 with | true => exact absurd rfl cb | false => rfl
        have R2' : RD (adv h a at2 b2) a r at2 N false := by rw [cb'] at R2 ⊢; exact R2
        rw [if_neg (show ¬ (bi b2 ≠ 0) by rw [cb']; exact fun z => z rfl), R2'.left, b2_some]
        -- the numbers took bytes
        have pr : at_ < at2 := by
          rw [cb'] at eb2
          have g2 := eb2.symm
          have b1f : b1 = false := by
            cases hb : b1 with
            | true => rw [hb] at g2; unfold nB at g2; simp at g2
            | false => rfl
          have h2' : at2 = at1 + nsz T at1 := by rw [ea2]; unfold nA; rw [g2]; rfl
          have h1' : at1 = at_ + nsz T at_ := by rw [ea1]; unfold nA; rw [← eb1, b1f]; rfl
          have := nsz_pos T at_
          lia
        by_cases cn : ((N - at2 : Nat) : Int) < n
        · rw [if_neg (show ¬ n ≤ ((N - at2 : Nat) : Int) by omega), if_pos (Or.inr cn)]
          exact bad1 _ C2.1 F2
        · obtain ⟨m, em⟩ : ∃ m : Nat, n = m := ⟨n.toNat, by lia⟩
          have le2 := R2.le
          have hm : at2 + m ≤ N := by lia
          rw [if_pos (show n ≤ ((N - at2 : Nat) : Int) by omega), if_neg (show ¬ (b2 = true ∨ ((N - at2 : Nat) : Int) < n) from fun z => by rcases z with z | z; exact cb z; exact cn z), em, Int.toNat_natCast]
          by_cases ci : 17 ≤ id
          · rw [if_pos ci, if_pos ci]
            unfold f_cParameters_read_b89
            have R3 : RD (sI (adv h a at2 b2) P 3 0) a r at2 N false := R2'.sI (Or.inl (by lia))
            have wm : w32 (m : Int) = (m : Int) := w32_id ⟨by lia, by lia⟩
            have e30 : hI (sI (adv h a at2 b2) P 3 0) P 3 = 0 := by rw [hI_sI, if_pos ⟨rfl, rfl⟩]
            rw [if_neg (show ¬ P = 0 by omega), lt1_eq, e30, if_pos (show (0 : Int) ≤ 0 by decide), if_pos ci, if_neg a0, wm, c_pass R3 (by lia), b2_some, pB_f hm, pA_f (pB_f hm)]
            unfold f_cParameters_read_b130
            obtain ⟨g, eg⟩ : ∃ g, g = adv (sI (adv h a at2 b2) P 3 0) a (at2 + m) false := ⟨_, rfl⟩
            have Fg : FX (inP P a) h g := by rw [eg]; exact (F2.tr (FX.sI (by lia))).tr (FX.adv (Or.inr rfl))
            have Rg : RD g a r (at2 + m) N false := by rw [eg]; exact R3.adv hm
            have Bg : BRc g r N T := by rw [eg]; exact (B2.of (fun k => by rw [hI_sI, if_neg (by lia)])).adv R.ne
            have Cg : PaC g P s := by
              obtain ⟨_, c1, c2, c3⟩ := C2
              have ii : ∀ x y, P < x → x ≤ P + 3 → hI g x y = hI (adv h a at2 b2) x y := fun x y q1 q2 => by rw [eg, hI_adv, if_neg (by lia), if_neg (by lia), hI_sI, if_neg (by lia)]
              exact ⟨by rw [eg]; exact L.of rfl rfl, fun k hk => by rw [ii _ _ (by lia) (by lia)]; exact c1 k hk, fun k hk => by rw [eg]; exact c2 k hk, fun k hk hs => by rw [ii _ _ (by lia) (by lia)]; exact c3 k hk hs⟩
            rw [← eg]
            obtain ⟨v, h', e1, e2, e3⟩ := ih (at2 + m) v3 s g Cg Rg Bg h1 (by lia) (by lia)
            exact ⟨v, h', e1, Fg.tr e2, e3⟩
          · obtain ⟨k, ek⟩ : ∃ k : Nat, id = k := ⟨id.toNat, by lia⟩
            have hk : k < 17 := by lia
            have wk : w32 (k : Int) = (k : Int) := w32_id ⟨by lia, by lia⟩
            have wm : w32 (m : Int) = (m : Int) := w32_id ⟨by lia, by lia⟩
            obtain ⟨c, g, p1, p2, p3, p4, p5⟩ := c_pone (ans := ans) C2 A R2' B2 hk hm
            rw [if_neg ci, if_neg ci, ek, Int.toNat_natCast, wk, wm, p1, b2_some]
            have Lg : LPar g P := C2.1.of p3.r p3.l
            by_cases cc : c = 0
            · obtain ⟨q1, q2, q3⟩ := p4 cc
              rw [if_neg q1]
              unfold f_cParameters_read_b89
              have e3' : hI (sI g P 3 c) P 3 = 0 := by rw [hI_sI, if_pos ⟨rfl, rfl⟩, cc]
              have ew : w32 (v3 + 1) = v3 + 1 := w32_id ⟨by lia, by lia⟩
              rw [if_neg (show ¬ P = 0 by omega), lt1_eq, e3', if_pos (show (0 : Int) ≤ 0 by decide), if_neg (show ¬ 17 ≤ (k : Int) by lia), ew]
              unfold f_cParameters_read_b130
              have Fg : FX (inP P a) h (sI g P 3 c) := (F2.tr p3).tr (FX.sI (by lia))
              have Rg : RD (sI g P 3 c) a r (at2 + m) N false := q3.sI (Or.inl (by lia))
              have Bg : BRc (sI g P 3 c) r N T := B2.of (fun y => by have ner := R.ne; rw [hI_sI, if_neg (by omega), p3.i (by omega)])
              have Cg : PaC (sI g P 3 c) P (pUp s k (pVal T k m at2) (at2 : Nat)) := by
                obtain ⟨_, c1, c2, c3⟩ := q2
                exact ⟨Lg.of rfl rfl, fun k hk => by rw [hI_sI, if_neg (by lia)]; exact c1 k hk, c2, fun k hk hs => by rw [hI_sI, if_neg (by lia)]; exact c3 k hk hs⟩
              obtain ⟨v, h', e1, e2, e3⟩ := ih (at2 + m) (v3 + 1) _ _ Cg Rg Bg (by lia) (by lia) (by lia)
              exact ⟨v, h', e1, Fg.tr e2, e3⟩
            · have q1 : s.1 k ≠ 0 ∨ (pAln k = true ∧ ans = false) ∨ pOk T k m at2 = false := p5 cc
              rw [if_pos q1]
              have := bad c g (by lia) Lg (F2.tr p3)
              rw [ek, em] at this
              exact this
end
