/-! reading: a frame of the model, whole (3) -/
theorem m_read {h : Hp} {w r e p : Nat} {B : Nat → Int} {level : Int} (n1 : w + 1 ≠ r) (R : RD h w r p e false) (hB : BRm h r e B) (hp : p < e) (he : e ≤ 1400) (r5 : hR h w 5 = w + 1) (l5 : ln h (w + 1) = 4) : wp (f_mWire_read w level h) (fun o => (∃ at_ b, FxE h o.2 ∧ RD o.2 w r at_ e b ∧ BRm o.2 r e B) ∧ (30 < B p → o.1 = 2) ∧ (B p ≤ 30 → rdK (B p) level → o.1 = 4) ∧ (B p ≤ 30 → ¬ rdK (B p) level → rdQm h w r e B (B p) (p + 1) o)) := by
  have nz := R.nz
  have rn := R.rn
  unfold f_mWire_read
  have mt := m_take R hB (n := 1) (by decide)
  refine wp_b2e mt ?_
  clear mt
  have p1 : pB p e false 1 = false := pB_f (by lia)
  have bb := hB.b (j := p) hp
  rw [p1, pA_f p1, be1 bb.1 bb.2]
  simp only [Bool.false_eq_true, if_false]
  have w1 : w32 (B p) = B p := w32_id ⟨by lia, by lia⟩
  rw [wp_lt1, w1]
  obtain ⟨f, hf⟩ : ∃ f, FU = f + 1 + 1 + 1 + 1 + 1 := ⟨999999995, rfl⟩
  have v0 : w32 (0 + 1) = 1 := by decide
  have v1 : w32 (1 + 1) = 2 := by decide
  have v2 : w32 (2 + 1) = 3 := by decide
  have v3 : w32 (3 + 1) = 4 := by decide
  have z5 : ¬ (w + 1 = 0) := by lia
  have x0 : ix 0 4 := by decide
  have x1 : ix 1 4 := by decide
  have x2 : ix 2 4 := by decide
  have x3 : ix 3 4 := by decide
  rw [hf]
  simp only [f_mWire_read_b9_lp, f_mWire_read_b9, lt1_eq, hR_adv, hR_sJ, ln_adv, ln_sJ, r5, l5, if_neg z5, if_pos x0, if_pos x1, if_pos x2, if_pos x3, v0, v1, v2, v3, tn0, tn1, tn2, tn3]
  rw [if_neg (show ¬ (4 : Int) ≤ 0 by decide), if_neg (show ¬ (4 : Int) ≤ 1 by decide), if_neg (show ¬ (4 : Int) ≤ 2 by decide), if_neg (show ¬ (4 : Int) ≤ 3 by decide), if_pos (show (4 : Int) ≤ 4 by decide)]
  have X1 : FxE h (sI (sI (sI (sJ (sJ (sJ (sJ (adv h w (p + 1) false) (w + 1) 0 0) (w + 1) 1 0) (w + 1) 2 0) (w + 1) 3 0) w 6 0) w 7 0) w 8 0) := FxE.sI (FxE.sI (FxE.sI (FxE.sJ (FxE.sJ (FxE.sJ (FxE.sJ (FxE.adv FxE.rf)))))))
  have R1 : RD (sI (sI (sI (sJ (sJ (sJ (sJ (adv h w (p + 1) false) (w + 1) 0 0) (w + 1) 1 0) (w + 1) 2 0) (w + 1) 3 0) w 6 0) w 7 0) w 8 0) w r (p + 1) e false := (((R.adv (by lia)).sJ.sJ.sJ.sJ.sI (Or.inr (by decide))).sI (Or.inr (by decide))).sI (Or.inr (by decide))
  have B1 : BRm (sI (sI (sI (sJ (sJ (sJ (sJ (adv h w (p + 1) false) (w + 1) 0 0) (w + 1) 1 0) (w + 1) 2 0) (w + 1) 3 0) w 6 0) w 7 0) w 8 0) r e B := hB.of (fun k => by grind [hI_sI, hI_sJ, hI_sR, hI_adv, hJ_sI, hJ_sJ, hJ_sR, hJ_adv, hR_sI, hR_sJ, hR_sR, hR_adv, ln_sI, ln_sJ, ln_sR, ln_adv, bi])
  have z1 : hJ (sI (sI (sI (sJ (sJ (sJ (sJ (adv h w (p + 1) false) (w + 1) 0 0) (w + 1) 1 0) (w + 1) 2 0) (w + 1) 3 0) w 6 0) w 7 0) w 8 0) (w + 1) 0 = 0 ∧ hJ (sI (sI (sI (sJ (sJ (sJ (sJ (adv h w (p + 1) false) (w + 1) 0 0) (w + 1) 1 0) (w + 1) 2 0) (w + 1) 3 0) w 6 0) w 7 0) w 8 0) (w + 1) 1 = 0 ∧ hJ (sI (sI (sI (sJ (sJ (sJ (sJ (adv h w (p + 1) false) (w + 1) 0 0) (w + 1) 1 0) (w + 1) 2 0) (w + 1) 3 0) w 6 0) w 7 0) w 8 0) (w + 1) 2 = 0 ∧ hI (sI (sI (sI (sJ (sJ (sJ (sJ (adv h w (p + 1) false) (w + 1) 0 0) (w + 1) 1 0) (w + 1) 2 0) (w + 1) 3 0) w 6 0) w 7 0) w 8 0) w 6 = 0 ∧ hI (sI (sI (sI (sJ (sJ (sJ (sJ (adv h w (p + 1) false) (w + 1) 0 0) (w + 1) 1 0) (w + 1) 2 0) (w + 1) 3 0) w 6 0) w 7 0) w 8 0) w 7 = 0 ∧ hI (sI (sI (sI (sJ (sJ (sJ (sJ (adv h w (p + 1) false) (w + 1) 0 0) (w + 1) 1 0) (w + 1) 2 0) (w + 1) 3 0) w 6 0) w 7 0) w 8 0) w 8 = 0 := by grind [hI_sI, hI_sJ, hI_sR, hI_adv, hJ_sI, hJ_sJ, hJ_sR, hJ_adv, hR_sI, hR_sJ, hR_sR, hR_adv, ln_sI, ln_sJ, ln_sR, ln_adv, bi]
  generalize sI (sI (sI (sJ (sJ (sJ (sJ (adv h w (p + 1) false) (w + 1) 0 0) (w + 1) 1 0) (w + 1) 2 0) (w + 1) 3 0) w 6 0) w 7 0) w 8 0 = h1 at *
  by_cases c30 : B p ≤ 30
  · rw [if_pos c30]
    have go : wp (f_mWire_read_b69 w level (B p) w (frK (B p)) h1) (fun o => (∃ at_ b, FxE h o.2 ∧ RD o.2 w r at_ e b ∧ BRm o.2 r e B) ∧ (30 < B p → o.1 = 2) ∧ (B p ≤ 30 → rdK (B p) level → o.1 = 4) ∧ (B p ≤ 30 → ¬ rdK (B p) level → rdQm h w r e B (B p) (p + 1) o)) := by
      unfold f_mWire_read_b69
      rw [wp_cn]
      refine ⟨nz, ?_⟩
      rw [wp_lt1]
      have X2 : FxE h (sI h1 w 4 (frK (B p))) := X1.sI
      have R2 : RD (sI h1 w 4 (frK (B p))) w r (p + 1) e false := R1.sI (Or.inr (by decide))
      have B2 : BRm (sI h1 w 4 (frK (B p))) r e B := B1.of (fun k => by grind [hI_sI, hI_sJ, hI_sR, hI_adv, hJ_sI, hJ_sJ, hJ_sR, hJ_adv, hR_sI, hR_sJ, hR_sR, hR_adv, ln_sI, ln_sJ, ln_sR, ln_adv, bi])
      have k2 : hI (sI h1 w 4 (frK (B p))) w 4 = frK (B p) := by grind [hI_sI, hI_sJ, hI_sR, hI_adv, hJ_sI, hJ_sJ, hJ_sR, hJ_adv, hR_sI, hR_sJ, hR_sR, hR_adv, ln_sI, ln_sJ, ln_sR, ln_adv, bi]
      have z2 : hJ (sI h1 w 4 (frK (B p))) (w + 1) 0 = 0 ∧ hJ (sI h1 w 4 (frK (B p))) (w + 1) 1 = 0 ∧ hJ (sI h1 w 4 (frK (B p))) (w + 1) 2 = 0 ∧ hI (sI h1 w 4 (frK (B p))) w 6 = 0 ∧ hI (sI h1 w 4 (frK (B p))) w 7 = 0 ∧ hI (sI h1 w 4 (frK (B p))) w 8 = 0 := by grind [hI_sI, hI_sJ, hI_sR, hI_adv, hJ_sI, hJ_sJ, hJ_sR, hJ_adv, hR_sI, hR_sJ, hR_sR, hR_adv, ln_sI, ln_sJ, ln_sR, ln_adv, bi]
      have main : ¬ rdK (B p) level → wp (f_mWire_read_b105 w (B p) (sI h1 w 4 (frK (B p)))) (fun o => (∃ at_ b, FxE h o.2 ∧ RD o.2 w r at_ e b ∧ BRm o.2 r e B) ∧ (30 < B p → o.1 = 2) ∧ (B p ≤ 30 → rdK (B p) level → o.1 = 4) ∧ (B p ≤ 30 → ¬ rdK (B p) level → rdQm h w r e B (B p) (p + 1) o)) := fun nk => by
        refine wp_of (m_rd105 n1 X2 R2 B2 he ⟨bb.1, c30⟩ k2 z2 (by rw [X2.1]; exact r5) (by rw [X2.2.1]; exact l5)) (fun o _ q => ⟨?_, fun z => by lia, fun _ z => absurd z nk, fun _ _ => q⟩)
        obtain ⟨at_, b, q1, q2, q3, _⟩ := q
        exact ⟨at_, b, q1, q2, q3⟩
      rw [k2]
      by_cases cl : 2 ≤ level
      · rw [if_pos cl]
        exact main (fun z => by unfold rdK at z; lia)
      · rw [if_neg cl]
        by_cases ce : B p < 4 ∨ B p = 6 ∨ B p = 28
        · have ek : frK (B p) = B p := by unfold frK; rw [if_neg (by lia)]
          have nk : ¬ rdK (B p) level := fun z => z.2 ce
          have mm := main nk
          rw [ek] at mm ⊢
          by_cases d1 : B p ≤ 3
          · rw [if_pos d1]; exact mm
          · rw [if_neg d1]
            by_cases d2 : B p = 6
            · rw [if_pos d2]; exact mm
            · rw [if_neg d2, if_pos (by lia)]; exact mm
        · have kn : 3 < frK (B p) ∧ frK (B p) ≠ 6 ∧ frK (B p) ≠ 28 := by unfold frK; split <;> lia
          rw [if_neg (by lia), if_neg kn.2.1, if_neg kn.2.2, wp_some]
          exact ⟨⟨_, _, X2, R2, B2⟩, fun z => by lia, fun _ _ => rfl, fun _ z => absurd ⟨by lia, ce⟩ z⟩
    unfold f_mWire_read_b68
    by_cases c8 : B p < 8
    · rw [if_pos c8]
      rw [show frK (B p) = B p by unfold frK; rw [if_neg (by lia)]] at go
      exact go
    · rw [if_neg c8]
      by_cases c16 : 16 ≤ B p
      · rw [if_pos c16]
        rw [show frK (B p) = B p by unfold frK; rw [if_neg (by lia)]] at go
        exact go
      · rw [if_neg c16]
        rw [show frK (B p) = 8 by unfold frK; rw [if_pos (by lia)]] at go
        exact go
  · rw [if_neg c30, wp_some]
    exact ⟨⟨_, _, X1, R1, B1⟩, fun _ => rfl, fun z => absurd z c30, fun z => absurd z c30⟩
