/-! reading: a frame of the class, whole (4) -/
def rdQ (Q : Int × Hp → Prop) (X Y F I r e : Nat) (B : Nat → Int) (k level : Int) (o : Int × Hp) : Prop := (∃ lo hi N at_ b, FW o.2 F I r lo hi N ∧ RD o.2 I r at_ e b ∧ BRc o.2 r e B ∧ hN o.2 + (2048 - N) ≤ X ∧ hZ o.2 + 4 * (2048 - N) ≤ Y ∧ hR o.2 F 7 = r) ∧ (30 < k → o.1 = 2) ∧ (k ≤ 30 → rdK k level → o.1 = 4) ∧ (k ≤ 30 → ¬ rdK k level → Q o)
theorem c_read {h : Hp} {F I r lo hi N p e : Nat} {B : Nat → Int} {level : Int} (W : FW h F I r lo hi N) (R : RD h I r p e false) (hB : BRc h r e B) (hp : p < e) (he : e ≤ 1400) (hX : hN h + (2048 - N) ≤ CN) (hY : hZ h + 4 * (2048 - N) ≤ CZ) : wp (f_cFrame_read F I level h) (rdQ (rdQc (hN h + (2048 - N)) (hZ h + 4 * (2048 - N)) F I r e B (B p) (p + 1)) (hN h + (2048 - N)) (hZ h + 4 * (2048 - N)) F I r e B (B p) level) := by
  have nz := R.nz
  have rn := R.rn
  have ⟨⟨w1, w2, w3, w4, w5, w6, w7, w8, w9, w10⟩, ⟨f6, f12, f13, l1, l2, l3⟩, ⟨s1, s2⟩, a1, a2, a3, a4, a5⟩ := W
  unfold f_cFrame_read
  refine wp_b1o (c_clear w1 f6 l1) (fun h1 _ q => ?_)
  obtain ⟨X1, cI, cJ⟩ := q
  have W1 := W.fx X1
  have R1 : RD h1 I r p e false := R.of (fun k => by rw [cI, if_neg (by lia)]) (by rw [X1.1]) (by rw [X1.2.1])
  have B1 : BRc h1 r e B := hB.of (fun k => by rw [cI, if_neg (by lia)])
  have n1 := hN_fx X1
  have n2 := hZ_fx X1
  rw [wp_cn]
  refine ⟨nz, ?_⟩
  rw [wp_lt1, R1.row]
  have z1 : hJ h1 F 2 = 0 ∧ hJ h1 F 3 = 0 ∧ hJ h1 F 4 = 0 ∧ hI h1 F 8 = 0 ∧ hI h1 F 9 = 0 ∧ hI h1 F 11 = 0 := by
    rw [cJ, cJ, cJ, cI, cI, cI]; simp
  clear cI cJ
  have W2 : FW (sR h1 F 7 r) F I r lo hi N := by
    obtain ⟨y1, ⟨g6, g12, g13, m1, m2, m3⟩, y3⟩ := W1
    exact ⟨y1, ⟨by rw [hR_sR, if_neg (by lia)]; exact g6, by rw [hR_sR, if_neg (by lia)]; exact g12, by rw [hR_sR, if_neg (by lia)]; exact g13, m1, m2, m3⟩, y3⟩
  have R2 : RD (sR h1 F 7 r) I r p e false := R1.sR (by lia)
  have B2 : BRc (sR h1 F 7 r) r e B := B1.of (fun k => rfl)
  have g7 : hR (sR h1 F 7 r) F 7 = r := by rw [hR_sR, if_pos ⟨rfl, rfl⟩]
  have n3 : hN (sR h1 F 7 r) = hN h := n1
  have n4 : hZ (sR h1 F 7 r) = hZ h := n2
  have z2 : hJ (sR h1 F 7 r) F 2 = 0 ∧ hJ (sR h1 F 7 r) F 3 = 0 ∧ hJ (sR h1 F 7 r) F 4 = 0 ∧ hI (sR h1 F 7 r) F 8 = 0 ∧ hI (sR h1 F 7 r) F 9 = 0 ∧ hI (sR h1 F 7 r) F 11 = 0 := z1
  generalize sR h1 F 7 r = h2 at *
  clear z1 W1 R1 B1 X1 n1 n2
  refine wp_b2e (c_one R2 B2) ?_
  have p1 : pB p e false 1 = false := pB_f (by lia)
  have bb := B2.b (j := p) hp
  rw [p1, pA_f p1]
  simp only [Bool.false_eq_true, if_false]
  have R3 := R2.adv (at' := p + 1) (b' := false) (by lia)
  have B3 := B2.adv (w := I) (b := false) R2.ne (x := p + 1)
  have W3 : FW (adv h2 I (p + 1) false) F I r lo hi N := W2
  have g73 : hR (adv h2 I (p + 1) false) F 7 = r := g7
  have z3 : hJ (adv h2 I (p + 1) false) F 2 = 0 ∧ hJ (adv h2 I (p + 1) false) F 3 = 0 ∧ hJ (adv h2 I (p + 1) false) F 4 = 0 ∧ hI (adv h2 I (p + 1) false) F 8 = 0 ∧ hI (adv h2 I (p + 1) false) F 9 = 0 ∧ hI (adv h2 I (p + 1) false) F 11 = 0 := by grind [hI_sI, hI_sJ, hI_sR, hI_adv, hJ_sI, hJ_sJ, hJ_sR, hJ_adv, hR_sI, hR_sJ, hR_sR, hR_adv, ln_sI, ln_sJ, ln_sR, ln_adv, bi]
  have n5 : hN (adv h2 I (p + 1) false) = hN h := n3
  have n6 : hZ (adv h2 I (p + 1) false) = hZ h := n4
  generalize adv h2 I (p + 1) false = h3 at *
  clear R2 B2 W2 g7 z2 n3 n4 h2
  have pre : ∀ h4 : Hp, FxE h3 h4 → (∀ x k, x ≠ F → hI h4 x k = hI h3 x k) → (∃ lo hi N' at_ b, FW h4 F I r lo hi N' ∧ RD h4 I r at_ e b ∧ BRc h4 r e B ∧ hN h4 + (2048 - N') ≤ hN h + (2048 - N) ∧ hZ h4 + 4 * (2048 - N') ≤ hZ h + 4 * (2048 - N) ∧ hR h4 F 7 = r) := fun h4 X E =>
    ⟨lo, hi, N, p + 1, false, W3.fx X, R3.of (fun k => E _ _ (by lia)) (by rw [X.1]) (by rw [X.2.1]), B3.of (fun k => E _ _ (by lia)), by rw [hN_fx X, n5]; lia, by rw [hZ_fx X, n6]; lia, by rw [X.1]; exact g73⟩
  have fail : ∀ c : Int, ∀ (h' : Hp) (Q : Int × Hp → Prop), Q (c, sI h' F 1 c) → wp (b2 (f_cFrame_fails F c h') fun r31 h29 => some (r31, h29)) Q := fun c h' Q q => by
    unfold f_cFrame_fails
    rw [wp_b2, wp_lt1, wp_some, wp_some]; exact q
  have ik : f_cFrame_isKind (B p) h3 = some (if 30 < B p then 0 else 1, h3) := by
    unfold f_cFrame_isKind
    rw [if_neg (by lia)]
    split <;> rfl
  refine wp_b2e ik ?_
  by_cases c30 : 30 < B p
  · rw [if_pos c30, if_neg (by decide)]
    exact fail 2 h3 _ ⟨pre _ (FxE.sI FxE.rf) (fun x k hx => by rw [hI_sI, if_neg (by lia)]), fun _ => rfl, fun z => by lia, fun z => by lia⟩
  · rw [if_neg c30, if_pos (by decide)]
    have go : wp (f_cFrame_read_b49 F I level (B p) F (frK (B p)) h3) (rdQ (rdQc (hN h + (2048 - N)) (hZ h + 4 * (2048 - N)) F I r e B (B p) (p + 1)) (hN h + (2048 - N)) (hZ h + 4 * (2048 - N)) F I r e B (B p) level) := by
      unfold f_cFrame_read_b49
      rw [wp_cn]
      refine ⟨w1, ?_⟩
      rw [wp_lt1]
      have W4 : FW (sI h3 F 0 (frK (B p))) F I r lo hi N := W3
      have R4 : RD (sI h3 F 0 (frK (B p))) I r (p + 1) e false := R3.sI (Or.inl w2)
      have B4 : BRc (sI h3 F 0 (frK (B p))) r e B := B3.of (fun k => by grind [hI_sI, hI_sJ, hI_sR, hI_adv, hJ_sI, hJ_sJ, hJ_sR, hJ_adv, hR_sI, hR_sJ, hR_sR, hR_adv, ln_sI, ln_sJ, ln_sR, ln_adv, bi])
      have z4 : hJ (sI h3 F 0 (frK (B p))) F 2 = 0 ∧ hJ (sI h3 F 0 (frK (B p))) F 3 = 0 ∧ hJ (sI h3 F 0 (frK (B p))) F 4 = 0 ∧ hI (sI h3 F 0 (frK (B p))) F 8 = 0 ∧ hI (sI h3 F 0 (frK (B p))) F 9 = 0 ∧ hI (sI h3 F 0 (frK (B p))) F 11 = 0 := by grind [hI_sI, hI_sJ, hI_sR, hI_adv, hJ_sI, hJ_sJ, hJ_sR, hJ_adv, hR_sI, hR_sJ, hR_sR, hR_adv, ln_sI, ln_sJ, ln_sR, ln_adv, bi]
      have m1 : hN (sI h3 F 0 (frK (B p))) = hN h := n5
      have m2 : hZ (sI h3 F 0 (frK (B p))) = hZ h := n6
      have k4 : hI (sI h3 F 0 (frK (B p))) F 0 = frK (B p) := by grind [hI_sI, hI_sJ, hI_sR, hI_adv, hJ_sI, hJ_sJ, hJ_sR, hJ_adv, hR_sI, hR_sJ, hR_sR, hR_adv, ln_sI, ln_sJ, ln_sR, ln_adv, bi]
      have main : ¬ rdK (B p) level → wp (f_cFrame_read_b70 F I (B p) (sI h3 F 0 (frK (B p)))) (rdQ (rdQc (hN h + (2048 - N)) (hZ h + 4 * (2048 - N)) F I r e B (B p) (p + 1)) (hN h + (2048 - N)) (hZ h + 4 * (2048 - N)) F I r e B (B p) level) := fun nk => by
        have := c_rd70 W4 R4 B4 he (k := B p) (by lia) (by rw [m1]; exact hX) (by rw [m2]; exact hY) g73 k4 z4
        rw [m1, m2] at this
        refine wp_of this (fun o _ q => ⟨?_, fun z => by lia, fun _ z => absurd z nk, fun _ _ => q⟩)
        obtain ⟨lo', hi', N', at_, b, q1, q2, q3, q4, q5, q6, _⟩ := q
        exact ⟨lo', hi', N', at_, b, q1, q2, q3, q4, q5, q6⟩
      by_cases cl : 2 ≤ level
      · rw [if_pos cl]
        exact main (fun z => by unfold rdK at z; lia)
      · rw [if_neg cl]
        have ie : f_cFrame_isEarly (B p) (sI h3 F 0 (frK (B p))) = some (if B p < 4 ∨ B p = 6 ∨ B p = 28 then 1 else 0, sI h3 F 0 (frK (B p))) := by
          unfold f_cFrame_isEarly f_cFrame_isEarly_b17
          grind
        refine wp_b2e ie ?_
        by_cases ce : B p < 4 ∨ B p = 6 ∨ B p = 28
        · rw [if_pos ce, if_pos (by decide)]
          exact main (fun z => z.2 ce)
        · rw [if_neg ce, if_neg (by decide)]
          exact fail 4 _ _ ⟨pre _ (FxE.sI (FxE.sI FxE.rf)) (fun x k hx => by rw [hI_sI, if_neg (by lia), hI_sI, if_neg (by lia)]), fun z => by lia, fun _ _ => rfl, fun _ z => absurd ⟨by lia, ce⟩ z⟩
    unfold f_cFrame_read_b48
    by_cases c7 : B p ≤ 7
    · rw [if_pos c7]
      rw [show frK (B p) = B p by unfold frK; rw [if_neg (by lia)]] at go
      exact go
    · rw [if_neg c7]
      by_cases c16 : 16 ≤ B p
      · rw [if_pos c16]
        rw [show frK (B p) = B p by unfold frK; rw [if_neg (by lia)]] at go
        exact go
      · rw [if_neg c16]
        rw [show frK (B p) = 8 by unfold frK; rw [if_pos (by lia)]] at go
        exact go
