/-! reading: a frame of the class, whole (3) -/
section
variable {h : Hp} {F I r e : Nat} {B : Nat → Int} {k : Int}
theorem FW.sI1 {lo hi N x y : Nat} {v : Int} (W : FW h F I r lo hi N) : FW (sI h x y v) F I r lo hi N := W
theorem hN_fx {g h : Hp} (X : FxE g h) : hN h = hN g := by unfold hN; rw [X.2.2]
theorem hZ_fx {g h : Hp} (X : FxE g h) : hZ h = hZ g := by unfold hZ; rw [X.2.2]
theorem c_rd70 {lo hi N p : Nat} (W : FW h F I r lo hi N) (R : RD h I r p e false) (hB : BRc h r e B) (he : e ≤ 1400) (k0 : 0 ≤ k ∧ k ≤ 30) (hX : hN h + (2048 - N) ≤ CN) (hY : hZ h + 4 * (2048 - N) ≤ CZ) (h7 : hR h F 7 = r) (hk : hI h F 0 = frK k) (z : hJ h F 2 = 0 ∧ hJ h F 3 = 0 ∧ hJ h F 4 = 0 ∧ hI h F 8 = 0 ∧ hI h F 9 = 0 ∧ hI h F 11 = 0) : wp (f_cFrame_read_b70 F I k h) (rdQc (hN h + (2048 - N)) (hZ h + 4 * (2048 - N)) F I r e B k p) := by
  have nz := R.nz
  have ⟨⟨w1, w2, w3, w4, w5, w6, w7, w8, w9, w10⟩, ⟨f6, f12, f13, l1, l2, l3⟩, ⟨s1, s2⟩, a1, a2, a3, a4, a5⟩ := W
  unfold f_cFrame_read_b70
  have fail : ∀ c : Int, ∀ (h' : Hp) (Q : Int × Hp → Prop), Q (c, sI h' F 1 c) → wp (b2 (f_cFrame_fails F c h') fun r31 h29 => some (r31, h29)) Q := fun c h' Q q => by
    unfold f_cFrame_fails
    rw [wp_b2, wp_lt1, wp_some, wp_some]; exact q
  by_cases c0 : k = 0
  · have hk0 : hI h F 0 = 0 := by rw [hk, c0]; rfl
    have ff : f_cFrame_fields F I k h = b2 (f_cFrame_paddings F I h) fun r5 h3 => if r5 = 0 ∨ r5 = 1 then some (r5, h3) else none := by unfold f_cFrame_fields; rw [if_pos hk0]
    rw [ff, wp_b2, wp_b2]
    unfold f_cFrame_paddings
    rw [wp_lt1]
    refine wp_of (c_pad (ho := h) (f0 := e - p) (kind := 0) FU p (sJ h F 2 1) (Nat.le_refl _) (by unfold FU; lia) w1 w2 w3 (FxE.sJ FxE.rf) R.sJ hB hk0) (fun o _ q => ?_)
    obtain ⟨q1, q2, q3, q4, q5⟩ := q
    rw [q1, if_pos (Or.inr rfl), wp_some, wp_cn]
    refine ⟨nz, ?_⟩
    dsimp only
    rw [q3.i3, if_pos (show bi false = 0 from rfl), if_neg (by decide), wp_some]
    have n1 := hN_fx q2
    have n2 := hZ_fx q2
    refine ⟨lo, hi, N, _, _, W.fx q2, q3, q4, by rw [n1]; lia, by rw [n2]; lia, by rw [q2.1]; exact h7, fun _ => ⟨rfl, rfl, rfl, q5⟩, fun z => by lia, fun z => absurd c0 z.1⟩
  · by_cases c2 : k = 2 ∨ k = 3
    · have hk0 : hI h F 0 = k := by rw [hk]; unfold frK; rw [if_neg (by lia)]
      have ff : f_cFrame_fields F I k h = f_cFrame_fields_b152 F I h := by
        unfold f_cFrame_fields
        rw [hk0, if_neg c0, if_neg (by lia)]
        by_cases c3 : k = 2
        · rw [if_pos c3]
        · rw [if_neg c3, if_pos (by lia)]
      rw [ff]
      unfold f_cFrame_fields_b152
      have L : AKc h F I r e B k 0 0 lo hi N 0 p false := ⟨⟨w1, w2, w3, w4, w5⟩, ⟨R, hB, ⟨⟨w1, w6, w7, w8, w9, w10⟩, f12, f13, l2, l3, z.2.2.2.2.2, by lia, s1, s2, a1, a2, by lia⟩⟩, ⟨hk0, z.1, z.2.1, z.2.2.1, z.2.2.2.1, z.2.2.2.2.1⟩, ⟨f6, h7⟩, l1, a4, a5, a3⟩
      rw [wp_b2, wp_b2]
      refine wp_of (c_ack L hX hY he) (fun o eo q => ?_)
      obtain ⟨q1, lo', hi', N', n', at_, L', x', y', V⟩ := q
      refine wp_01 q1 ?_
      dsimp only
      rw [wp_cn]
      refine ⟨nz, ?_⟩
      rw [L'.R.i3]
      have r7 : hR o.2 F 7 = r := L'.2.2.2.1.2
      have S' := L'.S
      cases hb : (akT B e p k).2 with
      | true =>
        rw [hb] at L'
        rw [if_neg (by decide)]
        refine fail 1 _ _ ⟨lo', hi', N', at_, true, L'.W.sI1, L'.R.sI (Or.inl w2), L'.BR.of (fun k => by grind [hI_sI, hI_sJ, hI_sR, hI_adv, hJ_sI, hJ_sJ, hJ_sR, hJ_adv, hR_sI, hR_sJ, hR_sR, hR_adv, ln_sI, ln_sJ, ln_sR, ln_adv, bi]), x', y', r7, fun z => absurd z c0, fun _ => ⟨fun _ => rfl, fun z => by rw [hb] at z; exact absurd z (by decide)⟩, fun z => by lia⟩
      | false =>
        obtain ⟨v1, v2, v3, v4⟩ := V hb
        rw [hb] at L'
        rw [if_pos (show bi false = 0 from rfl)]
        by_cases g : o.1 = 0
        · rw [if_pos g]
          have nk : eOk B (akA B e p) (akP B e p) (akR B e p) = false := by
            cases hc : eOk B (akA B e p) (akP B e p) (akR B e p) with
            | false => rfl
            | true => have := v3.mpr hc; lia
          refine fail 3 _ _ ⟨lo', hi', N', at_, false, L'.W.sI1, L'.R.sI (Or.inl w2), L'.BR.of (fun k => by grind [hI_sI, hI_sJ, hI_sR, hI_adv, hJ_sI, hJ_sJ, hJ_sR, hJ_adv, hR_sI, hR_sJ, hR_sR, hR_adv, ln_sI, ln_sJ, ln_sR, ln_adv, bi]), x', y', r7, fun z => absurd z c0, fun _ => ⟨fun z => by rw [hb] at z; exact absurd z (by decide), fun _ => ⟨rfl, v1, v2, fun _ => rfl, fun z => by rw [nk] at z; exact absurd z (by decide)⟩⟩, fun z => by lia⟩
        · have g1 : o.1 = 1 := by lia
          rw [if_neg g, wp_some]
          obtain ⟨u1, u2⟩ := v4 g1
          refine ⟨lo', hi', N', at_, false, L'.W, L'.R, L'.BR, x', y', r7, fun z => absurd z c0, fun _ => ⟨fun z => by rw [hb] at z; exact absurd z (by decide), fun _ => ⟨rfl, v1, v2, fun z => by rw [v3.mp g1] at z; exact absurd z (by decide), fun _ => ⟨rfl, L'.2.2.1.1, L'.2.2.1.2.2.1, ?_, ?_, u2⟩⟩⟩, fun z => by lia⟩
          · rw [S'.2.2.2.2.2.1, u1]
          · have := S'.2.2.2.2.2.2.1; lia
    · have L : CFr h h F I r e B (frK k) (p, false, 0, 0, 0, 0, 0) := ⟨⟨w1, w2, w3, FxE.rf⟩, R, hB, hk, fun _ => ⟨z.1, z.2.1, z.2.2.1, z.2.2.2.1, z.2.2.2.2.1⟩, fun _ => by dsimp only; lia⟩
      rw [wp_b2]
      refine wp_of (c_plain L k0 c0 (by lia) (by lia)) (fun o _ q => ?_)
      obtain ⟨L', q1, q2⟩ := q
      have X := L'.1.2.2.2
      have n1 := hN_fx X
      have n2 := hZ_fx X
      rw [wp_cn]
      refine ⟨nz, ?_⟩
      rw [L'.R.i3]
      have r7 : hR o.2 F 7 = r := by rw [X.1]; exact h7
      cases hb : (frS B e k p).2.1 with
      | true =>
        have R' := L'.R
        rw [hb] at R'
        rw [if_neg (by decide)]
        refine fail 1 _ _ ⟨lo, hi, N, _, true, (W.fx X).sI1, R'.sI (Or.inl w2), L'.BR.of (fun k => by grind [hI_sI, hI_sJ, hI_sR, hI_adv, hJ_sI, hJ_sJ, hJ_sR, hJ_adv, hR_sI, hR_sJ, hR_sR, hR_adv, ln_sI, ln_sJ, ln_sR, ln_adv, bi]), by rw [hN_sI, n1]; lia, by rw [hZ_sI, n2]; lia, r7, fun z => absurd z c0, fun z => absurd z c2, fun _ => ⟨fun _ => rfl, fun z => by rw [hb] at z; exact absurd z (by decide)⟩⟩
      | false =>
        have R' := L'.R
        rw [hb] at R'
        have q3 := q2 hb
        rw [if_pos (show bi false = 0 from rfl)]
        by_cases g : o.1 = 0
        · rw [if_pos g]
          refine fail 3 _ _ ⟨lo, hi, N, _, false, (W.fx X).sI1, R'.sI (Or.inl w2), L'.BR.of (fun k => by grind [hI_sI, hI_sJ, hI_sR, hI_adv, hJ_sI, hJ_sJ, hJ_sR, hJ_adv, hR_sI, hR_sJ, hR_sR, hR_adv, ln_sI, ln_sJ, ln_sR, ln_adv, bi]), by rw [hN_sI, n1]; lia, by rw [hZ_sI, n2]; lia, r7, fun z => absurd z c0, fun z => absurd z c2, fun _ => ⟨fun z => by rw [hb] at z; exact absurd z (by decide), fun _ => ⟨rfl, rfl, fun _ => rfl, fun z => by have := q3.mpr z; lia⟩⟩⟩
        · rw [if_neg g, wp_some]
          refine ⟨lo, hi, N, _, false, W.fx X, R', L'.BR, by rw [n1]; lia, by rw [n2]; lia, r7, fun z => absurd z c0, fun z => absurd z c2, fun _ => ⟨fun z => by rw [hb] at z; exact absurd z (by decide), fun _ => ⟨rfl, rfl, fun z => absurd (q3.mp (by lia)) z, fun _ => ⟨rfl, L'.k, L'.v⟩⟩⟩⟩
end
