/-! the book: losses, whole -/
section
variable {a m s fr n : Nat} {X Y : Nat} {lm : Int}
theorem j_lossD {hc hm : Hp} {w : Nat → Nat} (B : BkR hc a w hm m) (hs : s < 3) (hn : hI hm (m + 1) s = (n : Int)) (d : hI hm (m + 9) s ≠ 0) (g : hI hm (m + 13) (2 * s + 1) = (fr : Int)) (hfr : fr ≤ 4096) (rN : hN hc + bpot hc a ≤ X) (rZ : hZ hc + 2 * bpot hc a ≤ Y) (F : Nat) : ∀ k : Nat, k ≤ n → n - k < F → wp (f_cBook_losses_b38_lp F a (a + 6 + 11 * s) lm (-1) (-1) (-1) 0 (k : Int) hc) (fun o => wp (f_mBook_losses_b31_lp F m (s : Int) (fr : Int) lm (k : Int) hm) (fun hm' => LsP hc a w m X Y o.2 hm')) := by
  induction F with
  | zero => intro k _ hf; lia
  | succ F ih =>
    intro k hk hf
    obtain ⟨tm, sz, mk, fo, W, K1, K2, Q, S, T⟩ := SpR.opn B hs hn
    have L := B.1.1
    have LM := B.1.2
    have a0 := L.1
    have m0 := LM.1
    have p0 : ¬ (a + 6 + 11 * s = 0) := by lia
    have nb := K2.2.2.2.1
    have gr := S.2.1
    have zz10 : ¬ (m + 10 = 0) := by lia
    have xs : ix (s : Int) 3 := ⟨by lia, by lia⟩
    have d1 : hI hc (a + 6 + 11 * s) 10 ≠ 0 := by rw [S.1.1]; exact d
    show wp (f_cBook_losses_b38 (f_cBook_losses_b38_lp F) a (a + 6 + 11 * s) lm (-1) (-1) (-1) 0 (k : Int) hc) (fun o => wp (f_mBook_losses_b31 (f_mBook_losses_b31_lp F) m (s : Int) (fr : Int) lm (k : Int) hm) (fun hm' => LsP hc a w m X Y o.2 hm'))
    unfold f_cBook_losses_b38 f_mBook_losses_b31
    simp only [if_neg p0, LM.r0_12, LM.l10, if_neg zz10, if_pos xs, Int.toNat_natCast, gr.1]
    by_cases c0 : hI hm (m + 10) s ≤ k
    · simp only [if_pos c0]
      exact j_exit (c := 0) (X := X) (Y := Y) (late := -1) (v7 := 0) B hs hn (Or.inr rfl) hfr g (fun j hj => absurd hj (Nat.not_lt_zero j)) (fun i j _ hj => absurd hj (Nat.not_lt_zero j)) ⟨by decide, Or.inl rfl, fun j hj => absurd hj (Nat.not_lt_zero j)⟩ (Or.inl rfl) rN rZ
    · have hkn : k < n := by lia
      have cs : f_cSpace_state (a + 6 + 11 * s) (k : Int) hc = some (3, hc) := by unfold f_cSpace_state; rw [if_neg d1]
      unfold f_cBook_losses_b218 f_mBook_losses_b142
      simp only [if_neg c0, cs, b2_some, K2.out hkn, if_neg (show ¬ (hI hm (m + 9) s = 0 ∧ mk k % 4 = 0) from fun z => d z.1), if_neg (show ¬ ((0 : Int) ≠ 0) by decide), if_neg (show ¬ ((3 : Int) = 0) by decide), w_k1 (show k < 1000000000 by lia)]
      exact ih (k + 1) (by lia) (by lia)
theorem j_losses {hc hm : Hp} {w : Nat → Nat} (B : BkR hc a w hm m) (hs : s < 3) (hX : X ≤ CN) (hY : Y ≤ CZ) (rN : hN hc + bpot hc a ≤ X) (rZ : hZ hc + 2 * bpot hc a ≤ Y) : wp (f_cBook_losses a (s : Int) hc) (fun o => wp (f_mBook_losses m (s : Int) hm) (fun hm' => LsP hc a w m X Y o.2 hm')) := by
  obtain ⟨n, tm0, sz0, mk0, fo0, _, _, K0, _⟩ := B.2.2.2.1 s hs
  have hn := K0.2.1
  obtain ⟨tm, sz, mk, fo, W, K1, K2, Q, S, T⟩ := SpR.opn B hs hn
  have L := B.1.1
  have LM := B.1.2
  have a0 := L.1
  have m0 := LM.1
  have p0 : ¬ (a + 6 + 11 * s = 0) := by lia
  have z1 : ¬ (a + 1 = 0) := by lia
  have z2 : ¬ (a + 2 = 0) := by lia
  have zz13 : ¬ (m + 13 = 0) := by lia
  have zz11 : ¬ (m + 11 = 0) := by lia
  have zz8 : ¬ (m + 8 = 0) := by lia
  have xs : ix (s : Int) 3 := ⟨by lia, by lia⟩
  have x6 : ix ((2 * s + 1 : Nat) : Int) 6 := ⟨by lia, by lia⟩
  have w1 : w32 (w32 (2 * (s : Int)) + 1) = ((2 * s + 1 : Nat) : Int) := by unfold w32; lia
  have lim := B.lim
  have hb : 0 ≤ hI hm (m + 13) (2 * s + 1) ∧ hI hm (m + 13) (2 * s + 1) ≤ 4096 := by
    obtain ⟨f0, e0, V0, f1, e1, V1, q1, q2, q3, q4⟩ := Q
    by_cases d : hI hm (m + 9) s = 0
    · have := (q3 d).2.1.2.1
      have := q2.2.2.2.1
      lia
    · exact (q4 d).2.2.2.2
  obtain ⟨fr, hfr⟩ : ∃ fr : Nat, hI hm (m + 13) (2 * s + 1) = (fr : Int) := ⟨_, (Int.toNat_of_nonneg hb.1).symm⟩
  have fr4 : fr ≤ 4096 := by have := hb.2; lia
  have nb := K2.2.2.2.1
  -- the start
  have B1 : BkR (sI hc (a + 6 + 11 * s) 8 (-1)) a w (sI hm (m + 11) s (-1)) m := B.s1 (y := 8) (z := 11) hs (Or.inr ⟨rfl, rfl⟩)
  have O1 : OnI hc (sI hc (a + 6 + 11 * s) 8 (-1)) := OnI.refl.s
  have rf : hI (sI hc (a + 6 + 11 * s) 8 (-1)) (a + 6 + 11 * s) 9 = (fo : Int) := by rw [hI_sI, if_neg (by lia)]; exact K1.2.1
  have mf : hI (sI hm (m + 11) s (-1)) (m + 8) s = (fo : Int) := by rw [hI_sI, if_neg (by lia)]; exact K2.2.2.1
  unfold f_cBook_losses f_mBook_losses
  simp only [L.r0_0, L.l1, if_neg z1, if_pos xs, Int.toNat_natCast, (L.sp hs).1, L.r0_1, if_neg z2, c_limit, b2_some, if_neg p0, lt1_eq, LM.r0_16, LM.l13, if_neg zz13, w1, if_pos x6, hfr, m_limit, LM.r0_13, LM.l11, if_neg zz11, hR_sI, ln_sI, LM.r0_10, LM.l8, if_neg zz8, rf, mf, lim.1]
  obtain ⟨F, hF, F9⟩ := fu_ex
  rw [← hF]
  have hn1 : hI (sI hm (m + 11) s (-1)) (m + 1) s = (n : Int) := by rw [hI_sI, if_neg (by lia)]; exact hn
  have g1 : hI (sI hm (m + 11) s (-1)) (m + 13) (2 * s + 1) = (fr : Int) := by rw [hI_sI, if_neg (by lia)]; exact hfr
  have e9 : hI (sI hm (m + 11) s (-1)) (m + 9) s = hI hm (m + 9) s := by rw [hI_sI, if_neg (by lia)]
  by_cases d : hI hm (m + 9) s = 0
  · refine wp_of (j_lossL (X := X) (Y := Y) hs hX hY lim.2 F fo 0 (sI hc (a + 6 + 11 * s) 8 (-1)) (sI hm (m + 11) s (-1)) w (-1) 0 B1 hn1 (by rw [e9]; exact d) K1.2.2.2.1.1 (by lia) g1 fr4 (fun j hj => absurd hj (Nat.not_lt_zero j)) (fun i j _ hj => absurd hj (Nat.not_lt_zero j)) (Or.inl (by rw [hI_sI, if_pos ⟨rfl, rfl⟩]; decide)) ⟨by decide, Or.inl rfl, fun j hj => absurd hj (Nat.not_lt_zero j)⟩ (Or.inl rfl) (by rw [bpot_on O1]; exact rN) (by rw [bpot_on O1]; exact rZ)) (fun o _ q => wp_of q (fun hm' _ q => ?_))
    exact LsP.tr (CmF.of O1 (fun x y h1 h2 h3 => by rw [hI_sI, if_neg (by lia)])) (fun _ _ z => z) (Nat.le_refl _) q
  · refine wp_of (j_lossD (X := X) (Y := Y) (lm := limV (hI hm m 18) (hI hm m 20)) B1 hs hn1 (by rw [e9]; exact d) g1 fr4 (by rw [bpot_on O1]; exact rN) (by rw [bpot_on O1]; exact rZ) F fo K1.2.2.2.1.1 (by lia)) (fun o _ q => wp_of q (fun hm' _ q => ?_))
    exact LsP.tr (CmF.of O1 (fun x y h1 h2 h3 => by rw [hI_sI, if_neg (by lia)])) (fun _ _ z => z) (Nat.le_refl _) q
end
