/-! the book: times of probes -/
section
variable {hc hm : Hp} {a m s n : Nat} {w : Nat → Nat}
/-- what of a space is out and elicits, as the class counts it -/
def elc (hc : Hp) (a s : Nat) : Int := hI hc (a + 6 + 11 * s) 5
theorem c_quietL (L : LBk hc a) (F : Nat) : ∀ (k : Nat) (v : Int), k ≤ 3 → 3 - k < F → (v = 0 ∨ v = 1) → (v = 1 ↔ ∀ s, s < k → elc hc a s = 0) → wp (f_cBook_isQuiet_b13_lp F a v (a + 1) 3 (k : Int) hc) (fun o => o.2 = hc ∧ (o.1 = 0 ∨ o.1 = 1) ∧ (o.1 = 1 ↔ ∀ s, s < 3 → elc hc a s = 0)) := by
  induction F with
  | zero => intro k v _ hf; lia
  | succ F ih =>
    intro k v hk hf v01 V
    show wp (f_cBook_isQuiet_b13 (f_cBook_isQuiet_b13_lp F) a v (a + 1) 3 (k : Int) hc) _
    unfold f_cBook_isQuiet_b13 f_cBook_isQuiet_b41 f_cBook_isQuiet_b42
    have a0 := L.1
    by_cases c : (3 : Int) ≤ k
    · have e : k = 3 := by lia
      subst e
      rw [if_pos c]
      exact wp_01 v01 ⟨rfl, v01, V⟩
    · have hs : k < 3 := by lia
      have xs : ix (k : Int) 3 := ⟨by lia, by lia⟩
      rw [if_neg c, if_neg (show ¬ (a + 1 = 0) by lia), L.l1, if_pos xs, lt1_eq, Int.toNat_natCast, (L.sp hs).1, if_neg (show ¬ (a + 6 + 11 * k = 0) by lia), w_k1 (by lia)]
      have st : ∀ v' : Int, (v' = 1 ↔ v = 1 ∧ elc hc a k = 0) → (v' = 1 ↔ ∀ s, s < k + 1 → elc hc a s = 0) := fun v' h => by
        rw [h, V]
        constructor
        · rintro ⟨h1, h2⟩ s hs'
          by_cases e : s = k
          · rw [e]; exact h2
          · exact h1 s (by lia)
        · intro h1
          exact ⟨fun s hs' => h1 s (by lia), h1 k (by lia)⟩
      by_cases cv : v = 0
      · rw [if_pos cv]
        exact ih (k + 1) 0 (by lia) (by lia) (Or.inl rfl) (st 0 (by lia))
      · rw [if_neg cv]
        by_cases ce : hI hc (a + 6 + 11 * k) 5 = 0
        · rw [if_neg (fun z => z ce)]
          exact ih (k + 1) 1 (by lia) (by lia) (Or.inr rfl) (st 1 ⟨fun _ => ⟨by lia, ce⟩, fun _ => rfl⟩)
        · rw [if_pos ce]
          exact ih (k + 1) 0 (by lia) (by lia) (Or.inl rfl) (st 0 ⟨fun z => absurd z (by decide), fun z => absurd z.2 ce⟩)
theorem c_quiet (L : LBk hc a) : ∃ v, f_cBook_isQuiet a hc = some (v, hc) ∧ (v = 0 ∨ v = 1) ∧ (v = 1 ↔ ∀ s, s < 3 → elc hc a s = 0) := by
  have a0 := L.1
  obtain ⟨F, hF, F9⟩ := fu_ex
  unfold f_cBook_isQuiet
  rw [lt1_eq, L.r0_0, if_neg (show ¬ (a + 1 = 0) by lia), lt1_eq, L.l1, ← hF]
  obtain ⟨⟨v, h'⟩, e, q1, q2, q3⟩ := c_quietL L F 0 1 (by decide) (by lia) (Or.inr rfl) ⟨fun _ s hs => absurd hs (Nat.not_lt_zero s), fun _ => rfl⟩
  dsimp only at q1 q2 q3
  subst q1
  exact ⟨v, e, q2, q3⟩
theorem j_firstL (B : BkR hc a w hm m) (F : Nat) : ∀ k : Nat, k ≤ 3 → 3 - k < F → ∃ v, f_cBook_firstSpace_b2_lp F a (k : Int) hc = some (v, hc) ∧ f_mBook_firstSpace_b2_lp F m (k : Int) hm = some (v, hm) := by
  induction F with
  | zero => intro k _ hf; lia
  | succ F ih =>
    intro k hk hf
    have L := B.1.1
    have LM := B.1.2
    have a0 := L.1
    have m0 := LM.1
    show ∃ v, f_cBook_firstSpace_b2 (f_cBook_firstSpace_b2_lp F) a (k : Int) hc = some (v, hc) ∧ f_mBook_firstSpace_b2 (f_mBook_firstSpace_b2_lp F) m (k : Int) hm = some (v, hm)
    unfold f_cBook_firstSpace_b2 f_mBook_firstSpace_b2
    by_cases c : (3 : Int) ≤ k
    · exact ⟨(k : Int), by rw [if_pos c], by rw [if_pos c]⟩
    · have hs : k < 3 := by lia
      have xs : ix (k : Int) 3 := ⟨by lia, by lia⟩
      obtain ⟨n, tm, sz, mk, fo, _, _, _, _, S, _⟩ := B.2.2.2.1 k hs
      simp only [if_neg c, L.r0_0, if_neg (show ¬ (a + 1 = 0) by lia), L.l1, if_pos xs, Int.toNat_natCast, (L.sp hs).1, if_neg (show ¬ (a + 6 + 11 * k = 0) by lia), S.1.1, LM.r0_11, LM.l9, if_neg (show ¬ (m + 9 = 0) by lia), w_k1 (show k < 1000000000 by lia)]
      by_cases d : hI hm (m + 9) k = 0
      · exact ⟨(k : Int), by rw [if_pos d], by rw [if_pos d]⟩
      · obtain ⟨v, e1, e2⟩ := ih (k + 1) (by lia) (by lia)
        exact ⟨v, by rw [if_neg d]; exact e1, by rw [if_neg d]; exact e2⟩
theorem j_first (B : BkR hc a w hm m) : ∃ v, f_cBook_firstSpace a hc = some (v, hc) ∧ f_mBook_firstSpace m hm = some (v, hm) := by
  obtain ⟨F, hF, F9⟩ := fu_ex
  unfold f_cBook_firstSpace f_mBook_firstSpace
  rw [← hF]
  exact j_firstL B F 0 (by decide) (by lia)
/-- whether a space has an eliciting packet out -/
theorem j_old (B : BkR hc a w hm m) (hs : s < 3) : ∃ v, f_mBook_oldest m (s : Int) hm = some (v, hm) ∧ (0 ≤ v ↔ 0 < elc hc a s) ∧ -1 ≤ v ∧ (0 ≤ v → ∃ i n : Nat, v = (i : Int) ∧ hI hm (m + 1) s = (n : Int) ∧ i < n ∧ hI hm (m + 9) s = 0 ∧ hI hm (m + 4) (4096 * s + i) = 0 ∧ hI hm (m + 5) (4096 * s + i) = 1 ∧ ∀ i', i' < i → ¬ (hI hm (m + 4) (4096 * s + i') = 0 ∧ hI hm (m + 5) (4096 * s + i') = 1)) := by
  obtain ⟨n, tm, sz, mk, fo, W, K1, K2, Q, S, T⟩ := B.2.2.2.1 s hs
  obtain ⟨⟨v, h'⟩, e, q1, q2⟩ := m_oldest K2
  dsimp only at q1 q2
  subst q1
  have s5 := S.2.2.2.2.1
  have cp := ctE_pos (mk := mk) (n := n)
  refine ⟨v, e, ?_, ?_, fun hv => ?_⟩
  · unfold elc
    rw [s5]
    rcases q2 with ⟨z1, z2⟩ | ⟨i, z1, z2, z3, z4, z5⟩
    · by_cases d : hI h' (m + 9) s = 0
      · rw [if_pos d, cp]
        exact ⟨fun h => by lia, fun ⟨i, h1, h2⟩ => absurd ⟨d, h2⟩ (z2 i h1)⟩
      · rw [if_neg d]
        exact ⟨fun h => by lia, fun h => by lia⟩
    · rw [if_pos z3, cp]
      exact ⟨fun _ => ⟨i, z2, z4⟩, fun _ => by lia⟩
  · rcases q2 with ⟨z1, z2⟩ | ⟨i, z1, _⟩ <;> lia
  · rcases q2 with ⟨z1, z2⟩ | ⟨i, z1, z2, z3, z4, z5⟩
    · lia
    · have ki := K2.2.2.2.2.2.1 i z2
      refine ⟨i, n, z1, K2.2.1, z2, z3, by rw [ki.2.2.1]; lia, by rw [ki.2.2.2.1]; lia, fun i' hi' z => ?_⟩
      have ki' := K2.2.2.2.2.2.1 i' (by lia)
      have kb := (K2.2.2.2.2.2.2 i' (by lia)).1
      rw [ki'.2.2.1, ki'.2.2.2.1] at z
      exact z5 i' hi' (by lia)
theorem m_pt60 {tm sz mk : Nat → Int} {fo : Nat} {wt t : Int} (K : PkM hm m s n tm sz mk fo) {i : Nat} (hi : i < n) (hel : mk i / 4 % 2 = 1) (hla : ∀ j, i < j → j < n → mk j / 4 % 2 = 0) (ht : tm i = t) (F : Nat) : ∀ j : Nat, i ≤ j → j < n → j - i < F → f_mBook_probeTime_b60_lp F m (s : Int) wt (j : Int) hm = some (w32 (t + wt), hm) := by
  induction F with
  | zero => intro j _ _ hf; lia
  | succ F ih =>
    intro j hij hj hf
    show f_mBook_probeTime_b60 (f_mBook_probeTime_b60_lp F) m (s : Int) wt (j : Int) hm = _
    unfold f_mBook_probeTime_b60
    have L := K.1.1
    have m0 := L.1
    have nb := K.2.2.2.1
    have x2 : ix ((4096 * s + j : Nat) : Int) 12288 := ⟨by lia, by have := K.1.2; lia⟩
    have kj := K.2.2.2.2.2.1 j hj
    simp only [L.r0_7, L.r0_5, L.l5, L.l3, if_neg (show ¬ (m + 5 = 0) by lia), if_neg (show ¬ (m + 3 = 0) by lia), w4s K.1.2 (show j ≤ 4096 by lia), if_pos x2, Int.toNat_natCast, kj.2.2.2.1, kj.2.1]
    by_cases c : j = i
    · subst c
      rw [if_pos (by lia), ht]
    · have := hla j (by lia) hj
      have w1 : w32 ((j : Int) + (-1)) = ((j - 1 : Nat) : Int) := by unfold w32; lia
      rw [if_neg (by lia), w1]
      exact ih (j - 1) (by lia) (by lia) (by lia)
theorem last_el {mk : Nat → Int} : ∀ {n}, (∃ i, i < n ∧ mk i / 4 % 2 = 1) → ∃ i, i < n ∧ mk i / 4 % 2 = 1 ∧ ∀ j, i < j → j < n → mk j / 4 % 2 = 0 := by
  intro n
  induction n with
  | zero => rintro ⟨i, h, _⟩; exact absurd h (Nat.not_lt_zero i)
  | succ n ih =>
    rintro ⟨i, h1, h2⟩
    by_cases c : mk n / 4 % 2 = 1
    · exact ⟨n, by lia, c, fun j hj1 hj2 => by lia⟩
    · by_cases e : i = n
      · rw [e] at h2; exact absurd h2 c
      · obtain ⟨k, h3, h4, h5⟩ := ih ⟨i, by lia, h2⟩
        exact ⟨k, by lia, h4, fun j hj1 hj2 => by
          by_cases e : j = n
          · rw [e]; lia
          · exact h5 j hj1 (by lia)⟩
theorem j_probe (B : BkR hc a w hm m) (hs : s < 3) : ∃ v, f_cBook_probeTime a (s : Int) hc = some (v, hc) ∧ f_mBook_probeTime m (s : Int) hm = some (v, hm) := by
  obtain ⟨n, tm, sz, mk, fo, W, K1, K2, Q, S, T⟩ := B.2.2.2.1 s hs
  have L := B.1.1
  have LM := B.1.2
  have a0 := L.1
  have m0 := LM.1
  have BS := B.2.2.2.2.1
  have BB := B.2.2.2.2.2
  have xs : ix (s : Int) 3 := ⟨by lia, by lia⟩
  have z1 : ¬ (a + 1 = 0) := by lia
  have z2 : ¬ (a + 2 = 0) := by lia
  have zp : ¬ (a + 6 + 11 * s = 0) := by lia
  have zm : ¬ (m = 0) := by lia
  have zm9 : ¬ (m + 9 = 0) := by lia
  have zm1 : ¬ (m + 1 = 0) := by lia
  unfold f_cBook_probeTime f_mBook_probeTime
  simp only [L.r0_0, L.l1, if_neg z1, if_pos xs, Int.toNat_natCast, (L.sp hs).1, lt1_eq, if_neg zp, S.1.1, LM.r0_11, LM.l9, if_neg zm9, BS.1.2.2.2.1]
  by_cases d : hI hm (m + 9) s = 0
  · -- not discarded
    have go : ((s : Int) = 2 → hI hm m 1 ≠ 0) → ∃ v, f_cBook_probeTime_b28 a (s : Int) (a + 6 + 11 * s) hc = some (v, hc) ∧ f_mBook_probeTime_b23 m (s : Int) hm = some (v, hm) := fun h2 => by
      -- the patience
      obtain ⟨b, hb⟩ : ∃ b : Int, b = if (s : Int) = 2 then 1 else 0 := ⟨_, rfl⟩
      have cpat : f_cBook_patience a (s : Int) hc = some (patV (hI hm m 18) (hI hm m 19) b, hc) := by
        unfold f_cBook_patience f_cBook_patience_b20 f_cBook_patience_b21
        simp only [L.r0_1, if_neg z2, c_tpat, b2_some, B.pat, BS.1.2.2.2.1]
        by_cases c : (s : Int) = 2
        · rw [if_neg (fun z => z c), if_neg (h2 c), hb, if_pos c]
        · rw [if_pos c, hb, if_neg c]
      have mpat : f_mBook_probeTime_b23 m (s : Int) hm = f_mBook_probeTime_b34 m (s : Int) m b hm := by
        unfold f_mBook_probeTime_b23
        by_cases c : (s : Int) = 2
        · rw [if_neg (fun z => z c), hb, if_pos c]
        · rw [if_pos c, hb, if_neg c]
      obtain ⟨os, eos, os1, os2, os3⟩ := j_old B hs
      obtain ⟨o0, eo0, o01, _⟩ := j_old B (s := 0) (by decide)
      obtain ⟨o1, eo1, o11, _⟩ := j_old B (s := 1) (by decide)
      obtain ⟨o2, eo2, o21, _⟩ := j_old B (s := 2) (by decide)
      obtain ⟨fv, ef1, ef2⟩ := j_first B
      obtain ⟨qv, eq1, eq2, eq3⟩ := c_quiet L
      have ecp : ∀ s', s' < 3 → 0 ≤ elc hc a s' := fun s' h => by
        obtain ⟨n', _, _, mk', _, _, _, _, _, S', _⟩ := B.2.2.2.1 s' h
        have := S'.2.2.2.2.1
        have := ctE_0 mk' n'
        unfold elc
        rw [S'.2.2.2.2.1]
        split <;> lia
      obtain ⟨wt, hwt⟩ : ∃ wt, wt = iShl (patV (hI hm m 18) (hI hm m 19) b) (hI hm m 23) := ⟨_, rfl⟩
      rw [mpat]
      unfold f_cBook_probeTime_b28 f_mBook_probeTime_b34
      simp only [cpat, b2_some, lt1_eq, if_neg zp, if_neg zm, m_pat, BS.1.2.1, BS.1.2.2.2.2, eos]
      rw [← hwt]
      by_cases ce : 0 < elc hc a s
      · -- an eliciting one is out: from the last eliciting one on
        have el5 : ¬ hI hc (a + 6 + 11 * s) 5 ≤ 0 := by unfold elc at ce; lia
        have os0 := os1.mpr ce
        obtain ⟨i, n', e1, e2, e3, e4, e5, e6, e7⟩ := os3 os0
        have hn' : n' = n := by have := K2.2.1; lia
        subst hn'
        have mi : mk i / 4 % 2 = 1 := by rw [← (K2.2.2.2.2.2.1 i e3).2.2.2.1]; exact e6
        obtain ⟨l, l1, l2, l3⟩ := last_el ⟨i, e3, mi⟩
        have lt := S.2.2.2.2.2 l l1 l2 l3
        have nb := K2.2.2.2.1
        refine ⟨w32 (hI hc (a + 6 + 11 * s) 7 + wt), by rw [if_neg el5], ?_⟩
        rw [if_neg (show ¬ os < 0 by lia), LM.r0_3, if_neg zm1, LM.l1, if_pos xs, Int.toNat_natCast, K2.2.1]
        have w1 : w32 ((n' : Int) - 1) = ((n' - 1 : Nat) : Int) := by unfold w32; lia
        obtain ⟨F, hF, F9⟩ := fu_ex
        rw [w1, ← hF]
        exact m_pt60 K2 l1 l2 l3 lt.symm F (n' - 1) (by lia) (by lia) (by lia)
      · have el5 : hI hc (a + 6 + 11 * s) 5 ≤ 0 := by unfold elc at ce; lia
        have osn : os < 0 := by
          by_cases q : 0 ≤ os
          · exact absurd (os1.mp q) ce
          · lia
        rw [if_pos el5, if_pos osn]
        simp only [show ((0 : Nat) : Int) = 0 from rfl, show ((1 : Nat) : Int) = 1 from rfl, show ((2 : Nat) : Int) = 2 from rfl] at eo0 eo1 eo2
        -- whether all is quiet
        have any : ∃ k : Int, (k = 0 ∨ k = 1) ∧ (k = 0 ↔ qv = 1) ∧ (b2 (f_mBook_oldest m 0 hm) fun r13 h11 => if 0 ≤ r13 then (f_mBook_probeTime_b120 m (s : Int) wt h11) else b2 (f_mBook_oldest m 1 h11) fun r16 h14 => if 0 ≤ r16 then (f_mBook_probeTime_b120 m (s : Int) wt h14) else b2 (f_mBook_oldest m 2 h14) fun r19 h17 => if r19 < 0 then (f_mBook_probeTime_b125 m (s : Int) wt 0 h17) else f_mBook_probeTime_b120 m (s : Int) wt h17) = f_mBook_probeTime_b125 m (s : Int) wt k hm := by
          unfold f_mBook_probeTime_b120
          have c0 := ecp 0 (by decide)
          have c1 := ecp 1 (by decide)
          have c2 := ecp 2 (by decide)
          rw [eo0, b2_some]
          by_cases q0 : 0 ≤ o0
          · refine ⟨1, Or.inr rfl, ⟨fun z => absurd z (by decide), fun z => ?_⟩, by rw [if_pos q0]⟩
            have := eq3.mp z 0 (by decide)
            have := o01.mp q0
            lia
          · rw [if_neg q0, eo1, b2_some]
            by_cases q1 : 0 ≤ o1
            · refine ⟨1, Or.inr rfl, ⟨fun z => absurd z (by decide), fun z => ?_⟩, by rw [if_pos q1]⟩
              have := eq3.mp z 1 (by decide)
              have := o11.mp q1
              lia
            · rw [if_neg q1, eo2, b2_some]
              by_cases q2 : 0 ≤ o2
              · refine ⟨1, Or.inr rfl, ⟨fun z => absurd z (by decide), fun z => ?_⟩, by rw [if_neg (by lia)]⟩
                have := eq3.mp z 2 (by decide)
                have := o21.mp q2
                lia
              · refine ⟨0, Or.inl rfl, ⟨fun _ => eq3.mpr (fun s' h' => ?_), fun _ => rfl⟩, by rw [if_pos (by lia)]⟩
                rcases (show s' = 0 ∨ s' = 1 ∨ s' = 2 by lia) with rfl | rfl | rfl
                · by_cases q : 0 < elc hc a 0
                  · exact absurd (o01.mpr q) q0
                  · lia
                · by_cases q : 0 < elc hc a 1
                  · exact absurd (o11.mpr q) q1
                  · lia
                · by_cases q : 0 < elc hc a 2
                  · exact absurd (o21.mpr q) q2
                  · lia
        obtain ⟨k, k01, k1, k2⟩ := any
        rw [k2]
        unfold f_mBook_probeTime_b125
        simp only [ef1, ef2, b2_some, eq1, BS.1.2.2.1]
        by_cases ca : hI hm m 2 = 0
        · exact ⟨-1, by rw [if_pos ca], by rw [if_pos ca]⟩
        · rw [if_neg ca, if_neg ca]
          by_cases cf : fv = s
          · by_cases ck : k = 0
            · refine ⟨w32 (hI hm m 14 + wt), ?_, ?_⟩
              · rw [if_neg (fun z => z cf), if_neg (by have := k1.mp ck; lia)]
              · rw [if_neg (fun z => z ck), if_neg (fun z => z cf)]
            · refine ⟨-1, ?_, by rw [if_pos ck]⟩
              have q0 : qv = 0 := by
                by_cases q : qv = 1
                · exact absurd (k1.mpr q) ck
                · lia
              rw [if_neg (fun z => z cf), if_pos q0]
          · refine ⟨-1, by rw [if_pos cf], ?_⟩
            by_cases ck : k = 0
            · rw [if_neg (fun z => z ck), if_pos cf]
            · rw [if_pos ck]
    simp only [if_neg (show ¬ (hI hm (m + 9) s ≠ 0) from fun z => z d)]
    by_cases c : (s : Int) = 2
    · simp only [if_neg (show ¬ ((s : Int) ≠ 2) from fun z => z c)]
      by_cases e : hI hm m 1 = 0
      · exact ⟨-1, by rw [if_neg (fun z => z e)], by rw [if_neg (fun z => z e)]⟩
      · simp only [if_pos (show hI hm m 1 ≠ 0 from e)]; exact go (fun _ => e)
    · simp only [if_pos (show (s : Int) ≠ 2 from c)]; exact go (fun z => absurd z c)
  · exact ⟨-1, by rw [if_pos d], by rw [if_pos d]⟩
end
