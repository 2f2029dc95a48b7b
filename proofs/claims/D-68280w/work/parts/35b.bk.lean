/-! the book: a space is discarded -/
section
variable {hc hm : Hp} {a m p s n fo : Nat} {tm sz mk : Nat → Int} {w : Nat → Nat}
theorem c_inflL (W : SpW hc p s w) (K : PkC hc p n tm sz mk fo) (F : Nat) : ∀ (k : Nat) (v : Int), k ≤ n → n - k < F → v = ctF mk sz k → f_cSpace_inFlight_b7_lp F p v (k : Int) hc = some (ctF mk sz n, hc) := by
  induction F with
  | zero => intro k v _ hf; lia
  | succ F ih =>
    intro k v hk hf hv
    show f_cSpace_inFlight_b7 (f_cSpace_inFlight_b7_lp F) p v (k : Int) hc = _
    unfold f_cSpace_inFlight_b7 f_cSpace_inFlight_b45
    have z1 : hR hc p 1 ≠ 0 := wne (w := w) (by rw [W.2.2.1, W.2.2.2.2.2.2.2.2.2.2.2]; lia)
    have z2 : hR hc p 2 ≠ 0 := wne (w := w) (by rw [W.2.2.2.1, W.2.2.2.2.2.2.2.2.2.2.2]; lia)
    have W' := W
    have K' := K
    obtain ⟨k1, k2, k3, k4, ⟨k5, k6, k7⟩, k8, k9⟩ := K
    rw [k1]
    by_cases c : (n : Int) ≤ k
    · have e : k = n := by lia
      rw [if_pos c, hv, e]
    · have hkn : k < n := by lia
      have x1 : ix (k : Int) (ln hc (hR hc p 1)) := ⟨by lia, by lia⟩
      have x2 : ix (k : Int) (ln hc (hR hc p 2)) := ⟨by lia, by lia⟩
      have q := mk_and (k9 k hkn).1
      have bF := ctF_0 (mk := mk) (sz := sz) (n := k) (fun i hi => (k9 i (by lia)).2)
      have sb := (k9 k hkn).2
      have wv : w32 (v + sz k) = v + sz k := w32_id ⟨by lia, by lia⟩
      have e1 : ctF mk sz (k + 1) = ctF mk sz k + if mk k % 4 = 0 ∧ mk k / 8 % 2 = 1 then sz k else 0 := rfl
      rw [if_neg c, if_neg z2, if_pos x2, Int.toNat_natCast, (k8 k hkn).2.2, q.1, w_k1 (by lia)]
      by_cases c0 : mk k % 4 = 0
      · rw [if_neg (fun z => z c0), c_is W' K' hkn (b := 8) (by decide), b2_some]
        by_cases c8 : mk k / 8 % 2 = 0
        · rw [if_pos c8]
          exact ih (k + 1) v (by lia) (by lia) (by rw [e1, if_neg (by lia), hv]; lia)
        · rw [if_neg c8, if_neg z1, if_pos x1, (k8 k hkn).2.1, lt1_eq, wv]
          exact ih (k + 1) _ (by lia) (by lia) (by rw [e1, if_pos ⟨c0, by lia⟩, hv])
      · rw [if_pos c0]
        exact ih (k + 1) v (by lia) (by lia) (by rw [e1, if_neg (by lia), hv]; lia)
theorem c_infl (W : SpW hc p s w) (K : PkC hc p n tm sz mk fo) : f_cSpace_inFlight p hc = some (ctF mk sz n, hc) := by
  obtain ⟨F, hF, F9⟩ := fu_ex
  unfold f_cSpace_inFlight
  rw [lt1_eq, K.2.1, ← hF]
  exact c_inflL W K F fo 0 K.2.2.2.1.1 (by have := K.2.2.1; lia) ((ctO_fo K.2.2.2.1.2.1).2.2 sz).symm
set_option maxHeartbeats 4000000 in
theorem j_discard (B : BkR hc a w hm m) (C : CmA hc a hm m) (hs : s < 3) (d : hI hm (m + 9) s = 0) : wp (f_cBook_discard a (s : Int) hc) (fun hc' => wp (f_mBook_discard m (s : Int) hm) (fun hm' => BkR hc' a w hm' m ∧ CmA hc' a hm' m ∧ hc'.1 = hc.1 ∧ hR hc' = hR hc ∧ ln hc' = ln hc)) := by
  have L := B.1.1
  have LM := B.1.2
  have a0 := L.1
  have m0 := LM.1
  have sp := L.sp hs
  have wa := B.2.2.1
  have bw := B.2.1
  have BS := B.2.2.2.2.1
  have BB := B.2.2.2.2.2
  obtain ⟨n, tm, sz, mk, fo, W, K1, K2, Q, S, T⟩ := B.2.2.2.1 s hs
  have xs : ix (s : Int) 3 := ⟨by lia, by lia⟩
  obtain ⟨p, ep⟩ : ∃ p, p = a + 6 + 11 * s := ⟨_, rfl⟩
  rw [← ep] at W K1 Q S sp
  have zp : ¬ (p = 0) := by lia
  have w2s : w32 (2 * (s : Int)) = ((2 * s : Nat) : Int) := by unfold w32; lia
  have w2s1 : w32 (((2 * s : Nat) : Int) + 1) = ((2 * s + 1 : Nat) : Int) := by unfold w32; lia
  have x6 : ix ((2 * s : Nat) : Int) 6 := ⟨by lia, by lia⟩
  have x61 : ix ((2 * s + 1 : Nat) : Int) 6 := ⟨by lia, by lia⟩
  -- the heaps behind
  obtain ⟨h1, e1⟩ : ∃ h1, h1 = sI (sI (sI (sJ (sI (sI (sI (sI (sI (sI (sI (sI (sI (sI hc (a + 3) 3 (w32 (hI hc (a + 3) 3 - ctF mk sz n))) p 10 1) p 4 0) p 5 0) p 8 (-1)) (p + 4) 1 0) (p + 4) 2 0) (p + 6) 1 0) (p + 6) 2 0) (p + 8) 2 0) (p + 8) 3 0) p 14 0) p 17 0) a 4 0 := ⟨_, rfl⟩
  obtain ⟨m1, em⟩ : ∃ m1, m1 = sI (sI (sI (sJ (sI (sI (sI (sI (sI hm (m + 9) s 1) (m + 11) s (-1)) (m + 14) (2 * s) (hI hm (m + 13) (2 * s))) (m + 14) (2 * s + 1) (hI hm (m + 13) (2 * s + 1))) (m + 17) s 0) (m + 20) s 0) (m + 22) s 0) (m + 24) s 0) m 23 0 := ⟨_, rfl⟩
  have cE : f_cBook_discard a (s : Int) hc = some h1 := by
    unfold f_cBook_discard f_cSpace_discard f_cQueue_clear f_cRanges_clear
    simp only [L.r0_0, L.r0_2, L.l1, if_neg (show ¬ (a + 1 = 0) by lia), if_neg (show ¬ (a + 3 = 0) by lia), if_pos xs, Int.toNat_natCast, sp.1, ← ep, if_neg zp, c_infl W K1, b2_some, hR_sI, ln_sI, lt1_eq, sp.2.1, sp.2.2.1, sp.2.2.2, if_neg (show ¬ (p + 4 = 0) by lia), if_neg (show ¬ (p + 6 = 0) by lia), if_neg (show ¬ (p + 8 = 0) by lia), b1_some, hR_sJ]
    rw [e1]
  have mE : f_mBook_discard m (s : Int) hm = some m1 := by
    have g1 : ∀ y, hI (sI (sI hm (m + 9) s 1) (m + 11) s (-1)) (m + 13) y = hI hm (m + 13) y := fun y => by rw [hI_sI, if_neg (by lia), hI_sI, if_neg (by lia)]
    have g2 : ∀ u, hI (sI (sI (sI hm (m + 9) s 1) (m + 11) s (-1)) (m + 14) (2 * s) u) (m + 13) (2 * s + 1) = hI hm (m + 13) (2 * s + 1) := fun u => by rw [hI_sI, if_neg (by lia), g1]
    unfold f_mBook_discard
    simp only [LM.r0_11, LM.r0_13, LM.r0_16, LM.r0_17, LM.r0_30, LM.r0_33, LM.r0_35, LM.r0_37, LM.l9, LM.l11, LM.l13, LM.l14, LM.l17, LM.l20, LM.l22, LM.l24, if_neg (show ¬ (m + 9 = 0) by lia), if_neg (show ¬ (m + 11 = 0) by lia), if_neg (show ¬ (m + 13 = 0) by lia), if_neg (show ¬ (m + 14 = 0) by lia), if_neg (show ¬ (m + 17 = 0) by lia), if_neg (show ¬ (m + 20 = 0) by lia), if_neg (show ¬ (m + 22 = 0) by lia), if_neg (show ¬ (m + 24 = 0) by lia), if_pos xs, Int.toNat_natCast, hR_sI, ln_sI, hR_sJ, ln_sJ, lt1_eq, w2s, w2s1, if_pos x6, if_pos x61, g1, g2]
    rw [em]
  rw [cE, mE, wp_some, wp_some]
  clear cE mE
  -- reads
  have fst1 : h1.1 = hc.1 := by rw [e1]; rfl
  have r1 : hR h1 = hR hc := funext fun x => funext fun y => by rw [e1]; simp only [hR_sI, hR_sJ]
  have l1 : ln h1 = ln hc := funext fun x => by rw [e1]; simp only [ln_sI, ln_sJ]
  have rm1 : hR m1 = hR hm := funext fun x => funext fun y => by rw [em]; simp only [hR_sI, hR_sJ]
  have lm1 : ln m1 = ln hm := funext fun x => by rw [em]; simp only [ln_sI, ln_sJ]
  have rI : ∀ x y, hI h1 x y = if x = a ∧ y = 4 then 0 else if x = p ∧ y = 17 then 0 else if x = p ∧ y = 14 then 0 else if x = p + 8 ∧ y = 2 then 0 else if x = p + 6 ∧ y = 2 then 0 else if x = p + 6 ∧ y = 1 then 0 else if x = p + 4 ∧ y = 2 then 0 else if x = p + 4 ∧ y = 1 then 0 else if x = p ∧ y = 8 then -1 else if x = p ∧ y = 5 then 0 else if x = p ∧ y = 4 then 0 else if x = p ∧ y = 10 then 1 else if x = a + 3 ∧ y = 3 then w32 (hI hc (a + 3) 3 - ctF mk sz n) else hI hc x y := fun x y => by rw [e1, hI_sI, hI_sI, hI_sI, hI_sJ, hI_sI, hI_sI, hI_sI, hI_sI, hI_sI, hI_sI, hI_sI, hI_sI, hI_sI, hI_sI]
  have rJ : ∀ x y, hJ h1 x y = if x = p + 8 ∧ y = 3 then 0 else hJ hc x y := fun x y => by rw [e1]; rfl
  have mI : ∀ x y, hI m1 x y = if x = m ∧ y = 23 then 0 else if x = m + 24 ∧ y = s then 0 else if x = m + 22 ∧ y = s then 0 else if x = m + 17 ∧ y = s then 0 else if x = m + 14 ∧ y = 2 * s + 1 then hI hm (m + 13) (2 * s + 1) else if x = m + 14 ∧ y = 2 * s then hI hm (m + 13) (2 * s) else if x = m + 11 ∧ y = s then -1 else if x = m + 9 ∧ y = s then 1 else hI hm x y := fun x y => by rw [em, hI_sI, hI_sI, hI_sI, hI_sJ, hI_sI, hI_sI, hI_sI, hI_sI, hI_sI]
  have mJ : ∀ x y, hJ m1 x y = if x = m + 20 ∧ y = s then 0 else hJ hm x y := fun x y => by rw [em]; rfl
  clear e1 em
  have rO : ∀ x y, x ≠ a → x ≠ a + 3 → x ≠ p → x ≠ p + 4 → x ≠ p + 6 → x ≠ p + 8 → hI h1 x y = hI hc x y := fun x y q1 q2 q3 q4 q5 q6 => by
    rw [rI, if_neg (by lia), if_neg (by lia), if_neg (by lia), if_neg (by lia), if_neg (by lia), if_neg (by lia), if_neg (by lia), if_neg (by lia), if_neg (by lia), if_neg (by lia), if_neg (by lia), if_neg (by lia), if_neg (by lia)]
  have rP : ∀ y, y ≠ 4 → y ≠ 5 → y ≠ 8 → y ≠ 10 → y ≠ 14 → y ≠ 17 → hI h1 p y = hI hc p y := fun y q1 q2 q3 q4 q5 q6 => by
    rw [rI, if_neg (by lia), if_neg (by lia), if_neg (by lia), if_neg (by lia), if_neg (by lia), if_neg (by lia), if_neg (by lia), if_neg (by lia), if_neg (by lia), if_neg (by lia), if_neg (by lia), if_neg (by lia), if_neg (by lia)]
  have mO : ∀ x y, ¬ (x = m ∧ y = 23) → ¬ ((x = m + 9 ∨ x = m + 11 ∨ x = m + 17 ∨ x = m + 22 ∨ x = m + 24) ∧ y = s) → ¬ (x = m + 14 ∧ (y = 2 * s ∨ y = 2 * s + 1)) → hI m1 x y = hI hm x y := fun x y q1 q2 q3 => by
    rw [mI, if_neg q1, if_neg (by lia), if_neg (by lia), if_neg (by lia), if_neg (by lia), if_neg (by lia), if_neg (by lia), if_neg (by lia)]
  have n1 : hN h1 = hN hc := by unfold hN; rw [fst1]
  have MF : ∀ s', s' ≠ s → MFs hm m1 m s' := fun s' h => ⟨fun i y hi hy => mO _ _ (by lia) (by lia) (by lia), fun i y h1 h2 hy => mO _ _ (by lia) (by lia) (by lia), fun i y hi hy => mO _ _ (by lia) (by lia) (by lia), fun y hy => mO _ _ (by lia) (by lia) (by lia), fun q => q.of rm1 lm1⟩
  have LM1 : MBk m1 m := LM.of rm1 lm1
  have L1 : LBk h1 a := L.of r1 l1
  have K2' : PkM m1 m s n tm sz mk fo := by
    obtain ⟨⟨_, g0⟩, k1, k2, k3, k4, k5, k6⟩ := K2
    refine ⟨⟨LM1, g0⟩, by rw [mO _ _ (by lia) (by lia) (by lia)]; exact k1, by rw [mO _ _ (by lia) (by lia) (by lia)]; exact k2, k3, k4, fun i hi => ?_, k6⟩
    rw [mO _ _ (by lia) (by lia) (by lia), mO _ _ (by lia) (by lia) (by lia), mO _ _ (by lia) (by lia) (by lia), mO _ _ (by lia) (by lia) (by lia), mO _ _ (by lia) (by lia) (by lia), mO _ _ (by lia) (by lia) (by lia)]
    exact k5 i hi
  have tim : hI m1 m 0 = hI hm m 0 := mO _ _ (by lia) (by lia) (by lia)
  have d1 : hI m1 (m + 9) s = 1 := by rw [mI, if_neg (by lia), if_neg (by lia), if_neg (by lia), if_neg (by lia), if_neg (by lia), if_neg (by lia), if_neg (by lia), if_pos ⟨rfl, rfl⟩]
  have G : GF (fun x => w x / 10 = s + 1 ∨ x = a ∨ x = a + 3) hc h1 := by
    refine ⟨by rw [n1]; exact Nat.le_refl _, fun x _ hx => ⟨fun y => ⟨?_, ?_, by rw [r1]⟩, by rw [l1]⟩⟩
    · exact rO x y (fun z => hx (Or.inr (Or.inl z))) (fun z => hx (Or.inr (Or.inr z))) (fun z => hx (Or.inl (by rw [z, W.1]; lia))) (fun z => hx (Or.inl (by rw [z, W.2.2.2.2.1]; lia))) (fun z => hx (Or.inl (by rw [z, W.2.2.2.2.2.2.1]; lia))) (fun z => hx (Or.inl (by rw [z, W.2.2.2.2.2.2.2.2.1]; lia)))
    · rw [rJ, if_neg (fun z => hx (Or.inl (by rw [z.1, W.2.2.2.2.2.2.2.2.1]; lia)))]
  have B' : BkR h1 a w m1 m := by
    refine ⟨⟨L1, LM1⟩, fun x hx => by rw [n1]; exact bw x hx, wa, fun s' hs' => ?_, ?_, ?_⟩
    · rw [tim]
      by_cases cs : s' = s
      · subst cs
        rw [← ep]
        have W' := W
        obtain ⟨w1, w2, w3, w4, w5, w6, w7, w8, w9, w10, w11, w0⟩ := W
        have nx : ∀ x, (w x = 10 * s' + 12 ∨ w x = 10 * s' + 13 ∨ w x = 10 * s' + 14 ∨ w x = 10 * s' + 16 ∨ w x = 10 * s' + 18) → ∀ y, hI h1 x y = hI hc x y := fun x hx y => rO x y (fun z => by rw [z, wa.1] at hx; lia) (fun z => by rw [z, wa.2.2.2.1] at hx; lia) (fun z => by rw [z, w1] at hx; lia) (fun z => by rw [z, w5] at hx; lia) (fun z => by rw [z, w7] at hx; lia) (fun z => by rw [z, w9] at hx; lia)
        refine ⟨n, tm, sz, mk, fo, by unfold SpW; rw [r1]; exact W', ?_, K2', ?_, ?_, T⟩
        · obtain ⟨k1, k2, k3, k4, k5, k6, k7⟩ := K1
          refine ⟨by rw [rP 3 (by decide) (by decide) (by decide) (by decide) (by decide) (by decide)]; exact k1, by rw [rP 9 (by decide) (by decide) (by decide) (by decide) (by decide) (by decide)]; exact k2, k3, k4, by rw [r1, l1]; exact k5, fun i hi => ?_, k7⟩
          rw [r1, nx _ (by lia), nx _ (by lia), nx _ (by lia)]
          exact k6 i hi
        · obtain ⟨f0, e0, V0, f1, e1, V1, q1, q2, q3, q4⟩ := Q
          have cl : ∀ {q f e V}, hI h1 q 1 = 0 → hI h1 q 2 = 0 → QuC hc q f e V → QuC h1 q 0 0 V := fun {q f e V} c1 c2 Q => by
            obtain ⟨b1, b2, b3, b4, z, b5, b6, b7, b8⟩ := Q
            exact ⟨c1, c2, Nat.le_refl _, by decide, by rw [r1, n1]; exact z, by rw [r1, l1]; exact Nat.zero_le _, by rw [r1, l1]; exact b6, by rw [r1, l1]; exact b7, fun j hj => absurd hj (Nat.not_lt_zero j)⟩
          have u1 : hI h1 (p + 4) 1 = 0 := by rw [rI, if_neg (by lia), if_neg (by lia), if_neg (by lia), if_neg (by lia), if_neg (by lia), if_neg (by lia), if_neg (by lia), if_pos ⟨rfl, rfl⟩]
          have u2 : hI h1 (p + 4) 2 = 0 := by rw [rI, if_neg (by lia), if_neg (by lia), if_neg (by lia), if_neg (by lia), if_neg (by lia), if_neg (by lia), if_pos ⟨rfl, rfl⟩]
          have u3 : hI h1 (p + 6) 1 = 0 := by rw [rI, if_neg (by lia), if_neg (by lia), if_neg (by lia), if_neg (by lia), if_neg (by lia), if_pos ⟨rfl, rfl⟩]
          have u4 : hI h1 (p + 6) 2 = 0 := by rw [rI, if_neg (by lia), if_neg (by lia), if_neg (by lia), if_neg (by lia), if_pos ⟨rfl, rfl⟩]
          have g13 : ∀ y, hI m1 (m + 13) y = hI hm (m + 13) y := fun y => mO _ _ (by lia) (by lia) (by lia)
          have t0 : hI m1 (m + 14) (2 * s') = hI hm (m + 13) (2 * s') := by rw [mI, if_neg (by lia), if_neg (by lia), if_neg (by lia), if_neg (by lia), if_neg (by lia), if_pos ⟨rfl, rfl⟩]
          have t1 : hI m1 (m + 14) (2 * s' + 1) = hI hm (m + 13) (2 * s' + 1) := by rw [mI, if_neg (by lia), if_neg (by lia), if_neg (by lia), if_neg (by lia), if_pos ⟨rfl, rfl⟩]
          refine ⟨0, 0, V0, 0, 0, V1, cl u1 u2 q1, cl u3 u4 q2, fun z => by rw [d1] at z; exact absurd z (by decide), fun _ => ⟨rfl, rfl, by rw [t0, g13], by rw [t1, g13], ?_, ?_⟩⟩
          · rw [g13, (q3 d).2.1.2.1]; lia
          · rw [g13, (q3 d).2.1.2.1]; have := q2.2.2.2.1; lia
        · obtain ⟨⟨s1, s1'⟩, ⟨s2, s3, s4⟩, s5, s6, s7, s8⟩ := S
          have v10 : hI h1 p 10 = 1 := by rw [rI, if_neg (by lia), if_neg (by lia), if_neg (by lia), if_neg (by lia), if_neg (by lia), if_neg (by lia), if_neg (by lia), if_neg (by lia), if_neg (by lia), if_neg (by lia), if_neg (by lia), if_pos ⟨rfl, rfl⟩]
          have v8 : hI h1 p 8 = -1 := by rw [rI, if_neg (by lia), if_neg (by lia), if_neg (by lia), if_neg (by lia), if_neg (by lia), if_neg (by lia), if_neg (by lia), if_neg (by lia), if_pos ⟨rfl, rfl⟩]
          have v5 : hI h1 p 5 = 0 := by rw [rI, if_neg (by lia), if_neg (by lia), if_neg (by lia), if_neg (by lia), if_neg (by lia), if_neg (by lia), if_neg (by lia), if_neg (by lia), if_neg (by lia), if_pos ⟨rfl, rfl⟩]
          have v4 : hI h1 p 4 = 0 := by rw [rI, if_neg (by lia), if_neg (by lia), if_neg (by lia), if_neg (by lia), if_neg (by lia), if_neg (by lia), if_neg (by lia), if_neg (by lia), if_neg (by lia), if_neg (by lia), if_pos ⟨rfl, rfl⟩]
          have g11 : hI m1 (m + 11) s' = -1 := by rw [mI, if_neg (by lia), if_neg (by lia), if_neg (by lia), if_neg (by lia), if_neg (by lia), if_neg (by lia), if_pos ⟨rfl, rfl⟩]
          unfold ScR
          rw [v10, v8, v5, v4, d1, g11, rP 6 (by decide) (by decide) (by decide) (by decide) (by decide) (by decide), rP 7 (by decide) (by decide) (by decide) (by decide) (by decide) (by decide), mO (m + 10) s' (by lia) (by lia) (by lia), if_neg (by decide), if_neg (by decide)]
          exact ⟨⟨rfl, Or.inr rfl⟩, ⟨s2, s3, s4⟩, rfl, rfl, rfl, s8⟩
      · exact (B.2.2.2.1 s' hs').fr bw G (fun x hx z => by
          rcases z with z | z | z
          · lia
          · rw [z, wa.1] at hx; lia
          · rw [z, wa.2.2.2.1] at hx; lia) (fun _ _ => rfl) W.2.2.2.2.2.2.2.2.2.2.2 (MF s' cs)
    · obtain ⟨⟨b1, b2, b3, b4, b5⟩, ⟨b6, b7, b8, b9, b10⟩, b11, b12, b13, b14⟩ := BS
      have ca : ∀ y, y ≠ 4 → hI h1 a y = hI hc a y := fun y hy => by rw [rI, if_neg (by lia), if_neg (by lia), if_neg (by lia), if_neg (by lia), if_neg (by lia), if_neg (by lia), if_neg (by lia), if_neg (by lia), if_neg (by lia), if_neg (by lia), if_neg (by lia), if_neg (by lia), if_neg (by lia)]
      have ca4 : hI h1 a 4 = 0 := by rw [rI, if_pos ⟨rfl, rfl⟩]
      have ca2 : ∀ y, hI h1 (a + 2) y = hI hc (a + 2) y := fun y => rO _ _ (by lia) (by lia) (by lia) (by lia) (by lia) (by lia)
      have ca3 : ∀ y, y ≠ 3 → hI h1 (a + 3) y = hI hc (a + 3) y := fun y hy => by rw [rI, if_neg (by lia), if_neg (by lia), if_neg (by lia), if_neg (by lia), if_neg (by lia), if_neg (by lia), if_neg (by lia), if_neg (by lia), if_neg (by lia), if_neg (by lia), if_neg (by lia), if_neg (by lia), if_neg (by lia)]
      have ca33 : hI h1 (a + 3) 3 = w32 (hI hc (a + 3) 3 - ctF mk sz n) := by rw [rI, if_neg (by lia), if_neg (by lia), if_neg (by lia), if_neg (by lia), if_neg (by lia), if_neg (by lia), if_neg (by lia), if_neg (by lia), if_neg (by lia), if_neg (by lia), if_neg (by lia), if_neg (by lia), if_pos ⟨rfl, rfl⟩]
      have mm : ∀ y, y ≠ 23 → hI m1 m y = hI hm m y := fun y hy => mO _ _ (by lia) (by lia) (by lia)
      have m23 : hI m1 m 23 = 0 := by rw [mI, if_pos ⟨rfl, rfl⟩]
      have fo_ : ∀ s', s' < 3 → s' ≠ s → flM m1 m s' = flM hm m s' := fun s' h1 h2 => (flM_fr (B.2.2.2.1 s' h1) (MF s' h2)).1
      have fs : flM m1 m s = 0 := by rw [K2'.fl.1]; unfold flS; rw [d1, if_neg (by decide)]
      have fs' : flM hm m s = ctF mk sz n := by rw [K2.fl.1]; unfold flS; rw [if_pos d]
      have fb : ∀ s', s' < 3 → 0 ≤ flM hm m s' ∧ flM hm m s' ≤ 140000000 := fun s' h1 => by
        obtain ⟨n', tm', sz', mk', fo', _, _, K2', _⟩ := B.2.2.2.1 s' h1
        rw [K2'.fl.1]
        have := ctF_0 (mk := mk') (sz := sz') (n := n') (fun i hi => (K2'.2.2.2.2.2.2 i hi).2)
        have := K2'.2.2.2.1
        unfold flS; split <;> lia
      have sum : w32 (hI hc (a + 3) 3 - ctF mk sz n) = flM m1 m 0 + flM m1 m 1 + flM m1 m 2 := by
        have f0 := fb 0 (by decide)
        have f1 := fb 1 (by decide)
        have f2 := fb 2 (by decide)
        rw [b14, ← fs']
        rcases (show s = 0 ∨ s = 1 ∨ s = 2 by lia) with rfl | rfl | rfl
        · rw [fs, fo_ 1 (by decide) (by decide), fo_ 2 (by decide) (by decide), w32_id ⟨by lia, by lia⟩]; lia
        · rw [fs, fo_ 0 (by decide) (by decide), fo_ 2 (by decide) (by decide), w32_id ⟨by lia, by lia⟩]; lia
        · rw [fs, fo_ 0 (by decide) (by decide), fo_ 1 (by decide) (by decide), w32_id ⟨by lia, by lia⟩]; lia
      unfold BkS
      rw [ca 3 (by decide), ca4, ca 5 (by decide), ca 6 (by decide), ca 7 (by decide), ca2, ca2, ca2, ca2, ca2, ca3 0 (by decide), ca3 1 (by decide), ca3 2 (by decide), ca33, sum, mm 0 (by decide), m23, mm 14 (by decide), mm 1 (by decide), mm 2 (by decide), mm 18 (by decide), mm 19 (by decide), mm 20 (by decide), mm 21 (by decide), mm 22 (by decide), mm 24 (by decide), mm 25 (by decide), mm 26 (by decide)]
      exact ⟨⟨b1, rfl, b3, b4, b5⟩, ⟨b6, b7, b8, b9, b10⟩, b11, b12, b13, rfl⟩
    · obtain ⟨c1, c2, c3, c4, c5, c6, c7, c8, c9, c10⟩ := BB
      have mm : ∀ y, y ≠ 23 → hI m1 m y = hI hm m y := fun y hy => mO _ _ (by lia) (by lia) (by lia)
      have m23 : hI m1 m 23 = 0 := by rw [mI, if_pos ⟨rfl, rfl⟩]
      have dn : ∀ s', s' < 3 → dnM m1 m s' = dnM hm m s' := fun s' h1 => by
        by_cases cs : s' = s
        · rw [cs, K2'.fl.2, K2.fl.2]
        · exact (flM_fr (B.2.2.2.1 s' h1) (MF s' cs)).2
      unfold BkB
      rw [dn 0 (by decide), dn 1 (by decide), dn 2 (by decide), mm 0 (by decide), m23, mm 1 (by decide), mm 2 (by decide), mm 18 (by decide), mm 19 (by decide), mm 20 (by decide), mm 21 (by decide), mm 24 (by decide), mm 26 (by decide)]
      exact ⟨c1, ⟨by decide, by decide⟩, c3, c4, c5, c6, c7, c8, c9, c10⟩
  refine ⟨B', fun s' hs' => ?_, fst1, r1, l1⟩
  rw [tim]
  by_cases cs : s' = s
  · subst cs
    rw [← ep]
    have Ca := C s' hs'
    rw [← ep] at Ca
    obtain ⟨n', lo, hi, fl, Gc, Gm, D, bd, ⟨e1', e2, e3, e4⟩, e5, e6, e7⟩ := Ca
    have v14 : hI h1 p 14 = 0 := by rw [rI, if_neg (by lia), if_neg (by lia), if_pos ⟨rfl, rfl⟩]
    have v17 : hI h1 p 17 = 0 := by rw [rI, if_neg (by lia), if_pos ⟨rfl, rfl⟩]
    have v82 : hI h1 (p + 8) 2 = 0 := by rw [rI, if_neg (by lia), if_neg (by lia), if_neg (by lia), if_pos ⟨rfl, rfl⟩]
    have j83 : hJ h1 (p + 8) 3 = 0 := by rw [rJ, if_pos ⟨rfl, rfl⟩]
    have q22 : hI m1 (m + 22) s' = 0 := by rw [mI, if_neg (by lia), if_neg (by lia), if_pos ⟨rfl, rfl⟩]
    have q24 : hI m1 (m + 24) s' = 0 := by rw [mI, if_neg (by lia), if_pos ⟨rfl, rfl⟩]
    have q17 : hI m1 (m + 17) s' = 0 := by rw [mI, if_neg (by lia), if_neg (by lia), if_neg (by lia), if_pos ⟨rfl, rfl⟩]
    have q20 : hJ m1 (m + 20) s' = 0 := by rw [mJ, if_pos ⟨rfl, rfl⟩]
    have no : ∀ i : Nat, ¬ i < 0 := Nat.not_lt_zero
    have LR : LRan h1 (p + 8) := by rw [ep]; exact L1.ran hs'
    refine ⟨0, lo, hi, 0, ⟨LR, v82, by decide, j83, fun i hi' => absurd hi' (no i)⟩, ⟨LM1, hs', q17, by decide, q20, fun i hi' => absurd hi' (no i)⟩, ⟨fun i hi' => absurd hi' (no i), fun i hi' => by lia⟩, fun i hi' => absurd hi' (no i), ⟨by rw [v14, q22], ?_, ?_, by rw [v17, q24]⟩, Or.inl q24, ?_, ?_⟩
    · rw [rP 15 (by decide) (by decide) (by decide) (by decide) (by decide) (by decide), mO _ _ (by lia) (by lia) (by lia)]; exact e2
    · rw [rP 16 (by decide) (by decide) (by decide) (by decide) (by decide) (by decide), mO _ _ (by lia) (by lia) (by lia)]; exact e3
    · rw [mO _ _ (by lia) (by lia) (by lia)]; exact e6
    · rw [mO _ _ (by lia) (by lia) (by lia)]; exact e7
  · refine (C s' hs').fr2 hs' L1 LM1 (fun y hy => rO _ _ (by lia) (by lia) (by lia) (by lia) (by lia) (by lia)) (fun i y h1 h2 => ⟨rO _ _ (by lia) (by lia) (by lia) (by lia) (by lia) (by lia), ?_⟩) (fun i hi' => mO _ _ (by lia) (by lia) (by lia)) (fun i hi' => ?_) ?_ (Int.le_refl _)
    · rw [rJ, if_neg (by lia)]
    · rw [mJ, if_neg (by lia), mJ, if_neg (by lia)]; exact ⟨rfl, rfl⟩
    · rw [mJ, if_neg (by lia)]
end
