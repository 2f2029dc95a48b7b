/-! the book: a packet comes, side by side; what is due -/
def CmA (hc : Hp) (a : Nat) (hm : Hp) (m : Nat) : Prop := ∀ s, s < 3 → CmR hc (a + 6 + 11 * s) hm m s (hI hm m 0)
section
variable {hc hc' hm hm' : Hp} {a m p s n k : Nat} {w : Nat → Nat} {T T' x el : Int}
theorem CmR.fr2 (C : CmR hc (a + 6 + 11 * s) hm m s T) (hs : s < 3) (L : LBk hc' a) (LM : MBk hm' m) (F1 : ∀ y, 14 ≤ y → hI hc' (a + 6 + 11 * s) y = hI hc (a + 6 + 11 * s) y) (F2 : ∀ i y, 8 ≤ i → i ≤ 10 → hI hc' (a + 6 + 11 * s + i) y = hI hc (a + 6 + 11 * s + i) y ∧ hJ hc' (a + 6 + 11 * s + i) y = hJ hc (a + 6 + 11 * s + i) y) (M1 : ∀ i, i = 17 ∨ (21 ≤ i ∧ i ≤ 24) → hI hm' (m + i) s = hI hm (m + i) s) (M2 : ∀ i, i < 65 → hJ hm' (m + 18) (65 * s + i) = hJ hm (m + 18) (65 * s + i) ∧ hJ hm' (m + 19) (65 * s + i) = hJ hm (m + 19) (65 * s + i)) (M3 : hJ hm' (m + 20) s = hJ hm (m + 20) s) (t : T ≤ T') : CmR hc' (a + 6 + 11 * s) hm' m s T' := by
  obtain ⟨n, lo, hi, fl, ⟨g1, g2, g3, g4, g5⟩, ⟨k1, k2, k3, k4, k5, k6⟩, D, bd, ⟨e1, e2, e3, e4⟩, e5, e6, e7⟩ := C
  refine ⟨n, lo, hi, fl, ⟨L.ran hs, by rw [(F2 8 2 (by decide) (by decide)).1]; exact g2, g3, by rw [(F2 8 3 (by decide) (by decide)).2]; exact g4, fun i hi' => ?_⟩, ⟨LM, k2, by rw [M1 17 (by lia)]; exact k3, k4, by rw [M3]; exact k5, fun i hi' => ?_⟩, D, bd, ?_, ?_, ?_, ?_⟩
  · have := g5 i hi'
    have f9 := (F2 9 i (by decide) (by decide)).2
    have f10 := (F2 10 i (by decide) (by decide)).2
    rw [show a + 6 + 11 * s + 8 + 1 = a + 6 + 11 * s + 9 by lia, show a + 6 + 11 * s + 8 + 2 = a + 6 + 11 * s + 10 by lia] at this ⊢
    rw [f9, f10]; exact this
  · rw [(M2 i (by lia)).1, (M2 i (by lia)).2]; exact k6 i hi'
  · rw [F1 14 (by decide), F1 15 (by decide), F1 16 (by decide), F1 17 (by decide), M1 22 (by lia), M1 23 (by lia), M1 21 (by lia), M1 24 (by lia)]
    exact ⟨e1, e2, e3, e4⟩
  · rw [M1 24 (by lia)]; exact e5
  · rw [M1 23 (by lia)]; exact ⟨e6.1, by lia⟩
  · rw [M1 21 (by lia)]; exact ⟨e7.1, by lia⟩
theorem j_takes (B : BkR hc a w hm m) (C : CmA hc a hm m) (hs : s < 3) (hx : 0 ≤ x ∧ x < 4611686018427387904) : wp (f_cSpace_takes (a + 6 + 11 * s) (hI hm m 0) x el hc) (fun o => wp (f_mBook_came m (s : Int) x el hm) (fun hm' => BkR o.2 a w hm' m ∧ CmA o.2 a hm' m ∧ o.2.1 = hc.1 ∧ hR o.2 = hR hc ∧ ln o.2 = ln hc)) := by
  have L := B.1.1
  have LM := B.1.2
  have a0 := L.1
  have m0 := LM.1
  have p0 : a + 6 + 11 * s ≠ 0 := by lia
  have sp := L.sp hs
  have BB := B.2.2.2.2.2
  obtain ⟨n, lo, hi, fl, G, Gm, D, bd, ⟨e1, e2, e3, e4⟩, e5, e6, e7⟩ := C s hs
  refine wp_of (c_takes (T := hI hm m 0) (el := el) G D bd sp.2.2.2 p0 hx) (fun o eo q => ?_)
  obtain ⟨q1, q2⟩ := q
  by_cases c : x < fl ∨ ∃ i, i < n ∧ lo i ≤ x ∧ x ≤ hi i
  · have eh := q1 c
    obtain ⟨⟨v, h1⟩, em, r1, r2, r3⟩ := m_isOld (x := x) Gm
    dsimp only at r1 r2 r3
    subst r1
    have v1 := r3.mpr c
    unfold f_mBook_came
    rw [em, b2_some, if_neg (by lia), wp_some, eh]
    exact ⟨B, C, rfl, rfl, rfl⟩
  · obtain ⟨k, k1, k2, k3, G', V⟩ := q2 c
    have hb : ∀ i, i < n → 0 ≤ hi i ∧ hi i < 4611686018427387904 := fun i hi' => by
      have := bd i hi'
      have := D.1 i hi'
      lia
    have F := fe_cSpace_takes _ _ _ _ _ o eo
    have Fr : hR o.2 = hR hc := F.r
    have Fl : ln o.2 = ln hc := F.l
    have Fn : o.2.1 = hc.1 := F.1.1
    have FI : ∀ y k, ¬ (y = a + 6 + 11 * s + 8 ∧ k = 2) → ¬ (y = a + 6 + 11 * s ∧ 14 ≤ k) → hI o.2 y k = hI hc y k := fun y k h1 h2 => F.I (fun z => by unfold wI_cSpace_takes at z; rw [sp.2.2.2] at z; lia)
    have rr : hR hc (a + 6 + 11 * s + 8) 0 = a + 6 + 11 * s + 8 + 1 ∧ hR hc (a + 6 + 11 * s + 8) 1 = a + 6 + 11 * s + 8 + 2 := ⟨G.1.r0_0, G.1.r0_1⟩
    have FJ : ∀ y k, ¬ (y = a + 6 + 11 * s + 8 ∧ k = 3) → y ≠ a + 6 + 11 * s + 9 → y ≠ a + 6 + 11 * s + 10 → hJ o.2 y k = hJ hc y k := fun y k h1 h2 h3 => F.J (fun z => by unfold wJ_cSpace_takes at z; rw [sp.2.2.2, rr.1, rr.2] at z; lia)
    refine wp_of (m_came (T := hI hm m 0) (el := el) Gm k1 k2 k3 hx hb rfl c) (fun hm' em q => ?_)
    obtain ⟨MF, R', t21, t24, t23, t22⟩ := q
    have nin : k < n → hi k < x := fun h => by
      by_cases q : x ≤ hi k
      · exact absurd (Or.inr ⟨k, h, k3 h, q⟩) c
      · lia
    have AD := ad_d D G.2.2.1 k1 k2 nin hx bd
    have tv := tkC_v (hc := hc) (p := a + 6 + 11 * s) (hI hm m 0) x el (if n = 0 then 0 else hi 0 + 1)
    have mt : hI hm' m 0 = hI hm m 0 := MF.2.2.2.1 _ _ (by lia)
    have nn : hN o.2 = hN hc := by unfold hN; rw [Fn]
    have B' : BkR o.2 a w hm' m := by
      refine B.gen Fr Fl nn (fun y k h1 h2 h3 h4 h5 h6 h7 h8 h9 h10 => ?_) MF.1 MF.2.1 (fun y k h1 h2 => MF.2.2.2.1 _ _ (by lia))
      have h11 : y ≠ a + 6 + 11 * s + 8 := by
        rcases (show s = 0 ∨ s = 1 ∨ s = 2 by lia) with rfl | rfl | rfl <;> lia
      have h12 : ¬ (y = a + 6 + 11 * s ∧ 14 ≤ k) := by
        rcases (show s = 0 ∨ s = 1 ∨ s = 2 by lia) with rfl | rfl | rfl <;> lia
      exact FI y k (fun z => h11 z.1) h12
    refine ⟨B', fun s' hs' => ?_, Fn, Fr, Fl⟩
    rw [mt]
    by_cases cs : s' = s
    · subst cs
      refine ⟨_, _, _, _, G', R', AD.1, AD.2, ⟨?_, ?_, ?_, ?_⟩, ?_, ?_, ?_⟩
      · rw [V 14 (by decide), tv.2.2.2, t22, e1]
      · rw [V 15 (by decide), tv.2.2.1, t23, e1, e2]
      · rw [V 16 (by decide), tv.1, t21, e3]
      · rw [V 17 (by decide), tv.2.1, t24, e4]
      · rw [t24]
        (repeat' split) <;> first | exact e5 | exact Or.inl rfl | exact Or.inr rfl
      · have := BB.1
        rw [t23]
        (repeat' split) <;> first | exact e6 | exact ⟨by lia, Int.le_refl _⟩
      · have := BB.1
        rw [t21]
        by_cases cc : x < (if n = 0 then 0 else hi 0 + 1)
        · rw [if_pos cc]; exact e7
        · rw [if_neg cc]; exact ⟨by lia, Int.le_refl _⟩
    · refine (C s' hs').fr2 hs' B'.1.1 B'.1.2 (fun y hy => FI _ _ (by lia) (by lia)) (fun i y h1 h2 => ⟨FI _ _ (by lia) (by lia), FJ _ _ (by lia) (by lia) (by lia)⟩) (fun i hi' => MF.2.2.2.1 _ _ (by lia)) (fun i hi' => ⟨MF.2.2.2.2 _ _ (by lia), MF.2.2.2.2 _ _ (by lia)⟩) (MF.2.2.2.2 _ _ (by lia)) (Int.le_refl _)
/-- whether an acknowledgement is due, its delay -/
theorem j_due (B : BkR hc a w hm m) (C : CmA hc a hm m) (hs : s < 3) : ∃ v, f_cBook_due a (s : Int) hc = some (v, hc) ∧ f_mBook_due m (s : Int) hm = some (v, hm) ∧ (v = 0 ∨ v = 1) ∧ (v = 1 → hI hm (m + 22) s ≠ 0) := by
  have L := B.1.1
  have LM := B.1.2
  have a0 := L.1
  have m0 := LM.1
  have BS := B.2.2.2.2.1
  have BB := B.2.2.2.2.2
  obtain ⟨n, lo, hi, fl, G, Gm, D, bd, ⟨e1, e2, e3, e4⟩, e5, e6, e7⟩ := C s hs
  have xs : ix (s : Int) 3 := ⟨by lia, by lia⟩
  have w1 : w32 (hI hm (m + 23) s + 25) = hI hm (m + 23) s + 25 := w32_id ⟨by lia, by have := BB.1; lia⟩
  have w2 : w32 (hI hm m 0 - hI hm (m + 23) s) = hI hm m 0 - hI hm (m + 23) s := w32_id ⟨by have := BB.1; lia, by have := BB.1; lia⟩
  unfold f_cBook_due f_mBook_due f_cBook_due_b50 f_mBook_due_b51
  simp only [L.r0_0, L.l1, if_neg (show ¬ (a + 1 = 0) by lia), if_pos xs, Int.toNat_natCast, (L.sp hs).1, lt1_eq, if_neg (show ¬ (a + 6 + 11 * s = 0) by lia), e1, e2, e4, BS.1.1, LM.r0_35, LM.r0_37, LM.r0_36, LM.l22, LM.l24, LM.l23, if_neg (show ¬ (m + 22 = 0) by lia), if_neg (show ¬ (m + 24 = 0) by lia), if_neg (show ¬ (m + 23 = 0) by lia), w1, w2]
  by_cases c : hI hm (m + 22) s = 0
  · exact ⟨0, by rw [if_neg (fun z => z c)], by rw [if_neg (fun z => z c)], Or.inl rfl, fun z => absurd z (by decide)⟩
  · simp only [if_pos (show hI hm (m + 22) s ≠ 0 from c)]
    by_cases c2 : (s : Int) < 2
    · exact ⟨1, by rw [if_pos c2], by rw [if_pos c2], Or.inr rfl, fun _ => c⟩
    · simp only [if_neg c2]
      by_cases c3 : hI hm (m + 24) s = 0
      · by_cases c4 : 1 < hI hm (m + 22) s
        · exact ⟨1, by rw [if_neg (fun z => z c3), if_pos c4], by rw [if_pos c4], Or.inr rfl, fun _ => c⟩
        · by_cases c5 : hI hm m 0 < hI hm (m + 23) s + 25
          · exact ⟨0, by rw [if_neg (fun z => z c3), if_neg c4, if_pos c5], by rw [if_neg c4, if_neg (fun z => z c3), if_pos (by lia)], Or.inl rfl, fun z => absurd z (by decide)⟩
          · exact ⟨1, by rw [if_neg (fun z => z c3), if_neg c4, if_neg c5], by rw [if_neg c4, if_neg (fun z => z c3), if_neg (by lia)], Or.inr rfl, fun _ => c⟩
      · refine ⟨1, by rw [if_pos c3], ?_, Or.inr rfl, fun _ => c⟩
        by_cases c4 : 1 < hI hm (m + 22) s
        · rw [if_pos c4]
        · rw [if_neg c4, if_pos c3]
theorem j_delay (B : BkR hc a w hm m) (C : CmA hc a hm m) (hs : s < 3) : ∃ v, f_cBook_delay a (s : Int) hc = some (v, hc) ∧ f_mBook_delay m (s : Int) hm = some (v, hm) ∧ 0 ≤ v ∧ v ≤ 200000 := by
  have L := B.1.1
  have LM := B.1.2
  have a0 := L.1
  have m0 := LM.1
  have BS := B.2.2.2.2.1
  have BB := B.2.2.2.2.2
  obtain ⟨n, lo, hi, fl, G, Gm, D, bd, ⟨e1, e2, e3, e4⟩, e5, e6, e7⟩ := C s hs
  have xs : ix (s : Int) 3 := ⟨by lia, by lia⟩
  have w2 : w32 (hI hm m 0 - hI hm (m + 21) s) = hI hm m 0 - hI hm (m + 21) s := w32_id ⟨by have := BB.1; lia, by have := BB.1; lia⟩
  unfold f_cBook_delay f_mBook_delay
  simp only [L.r0_0, L.l1, if_neg (show ¬ (a + 1 = 0) by lia), if_pos xs, Int.toNat_natCast, (L.sp hs).1, (L.sp hs).2.2.2, if_neg (show ¬ (a + 6 + 11 * s = 0) by lia), if_neg (show ¬ (a + 6 + 11 * s + 8 = 0) by lia), e3, BS.1.1, G.2.1, LM.r0_30, LM.r0_34, LM.l17, LM.l21, if_neg (show ¬ (m + 17 = 0) by lia), if_neg (show ¬ (m + 21 = 0) by lia), Gm.2.2.1, w2]
  by_cases c : (n : Int) = 0
  · exact ⟨0, by rw [if_neg (fun z => z c)], by rw [if_neg (fun z => z c)], by decide, by decide⟩
  · exact ⟨_, by rw [if_pos c], by rw [if_pos c], by lia, by have := BB.1; lia⟩
theorem j_written (B : BkR hc a w hm m) (C : CmA hc a hm m) (hs : s < 3) : wp (f_cBook_written a (s : Int) hc) (fun o => wp (f_mBook_written m (s : Int) hm) (fun hm' => BkR o.2 a w hm' m ∧ CmA o.2 a hm' m ∧ OnI hc o.2)) := by
  have L := B.1.1
  have LM := B.1.2
  have a0 := L.1
  have m0 := LM.1
  have xs : ix (s : Int) 3 := ⟨by lia, by lia⟩
  have z6 : ¬ (a + 6 + 11 * s = 0) := by lia
  obtain ⟨h1, e1⟩ : ∃ h1, h1 = sI (sI hc (a + 6 + 11 * s) 14 0) (a + 6 + 11 * s) 17 0 := ⟨_, rfl⟩
  obtain ⟨m1, em⟩ : ∃ m1, m1 = sI (sI hm (m + 22) s 0) (m + 24) s 0 := ⟨_, rfl⟩
  have O1 : OnI hc h1 := by rw [e1]; exact OnI.refl.s.s
  have M1 : OnI hm m1 := by rw [em]; exact OnI.refl.s.s
  have ac : ∀ y k, ¬ (y = a + 6 + 11 * s ∧ (k = 14 ∨ k = 17)) → hI h1 y k = hI hc y k := fun y k h => by rw [e1, hI_sI, if_neg (by lia), hI_sI, if_neg (by lia)]
  have am : ∀ y k, ¬ ((y = m + 22 ∨ y = m + 24) ∧ k = s) → hI m1 y k = hI hm y k := fun y k h => by rw [em, hI_sI, if_neg (by lia), hI_sI, if_neg (by lia)]
  have B' : BkR h1 a w m1 m := by
    refine B.gen O1.r O1.l O1.n (fun y k h1 _ _ _ _ _ _ _ _ _ => ac y k ?_) M1.r M1.l (fun y k _ h2 => am y k (by lia))
    rcases (show s = 0 ∨ s = 1 ∨ s = 2 by lia) with rfl | rfl | rfl <;> lia
  have C' : CmA h1 a m1 m := fun s' hs' => by
    have t0 : hI m1 m 0 = hI hm m 0 := am _ _ (by lia)
    rw [t0]
    by_cases cs : s' = s
    · subst cs
      obtain ⟨n, lo, hi, fl, G, Gm, D, bd, ⟨e1', e2, e3, e4⟩, e5, e6, e7⟩ := C s' hs'
      have p14 : hI h1 (a + 6 + 11 * s') 14 = 0 := by rw [e1, hI_sI, if_neg (by lia), hI_sI, if_pos ⟨rfl, rfl⟩]
      have p17 : hI h1 (a + 6 + 11 * s') 17 = 0 := by rw [e1, hI_sI, if_pos ⟨rfl, rfl⟩]
      have q22 : hI m1 (m + 22) s' = 0 := by rw [em, hI_sI, if_neg (by lia), hI_sI, if_pos ⟨rfl, rfl⟩]
      have q24 : hI m1 (m + 24) s' = 0 := by rw [em, hI_sI, if_pos ⟨rfl, rfl⟩]
      obtain ⟨_, _, k3, k4, k5, k6⟩ := Gm
      refine ⟨n, lo, hi, fl, G.on O1.r O1.l O1.j (ac _ _ (by lia)), ⟨B'.1.2, hs', by rw [am _ _ (by lia)]; exact k3, k4, by rw [M1.j]; exact k5, fun i hi' => by rw [M1.j]; exact k6 i hi'⟩, D, bd, ⟨by rw [p14, q22], by rw [ac _ _ (by lia), am _ _ (by lia)]; exact e2, by rw [ac _ _ (by lia), am _ _ (by lia)]; exact e3, by rw [p17, q24]⟩, Or.inl q24, by rw [am _ _ (by lia)]; exact e6, by rw [am _ _ (by lia)]; exact e7⟩
    · exact (C s' hs').fr2 hs' B'.1.1 B'.1.2 (fun y hy => ac _ _ (by lia)) (fun i y h1 h2 => ⟨ac _ _ (by lia), by rw [O1.j]⟩) (fun i hi' => am _ _ (by lia)) (fun i hi' => by rw [M1.j]; exact ⟨rfl, rfl⟩) (by rw [M1.j]) (Int.le_refl _)
  obtain ⟨v, d1, _⟩ := j_delay B' C' hs
  unfold f_cBook_written f_mBook_written
  simp only [hR_sI, ln_sI, L.r0_0, L.l1, if_neg (show ¬ (a + 1 = 0) by lia), if_pos xs, Int.toNat_natCast, (L.sp hs).1, if_neg z6, lt1_eq, LM.r0_35, LM.r0_37, LM.l22, LM.l24, if_neg (show ¬ (m + 22 = 0) by lia), if_neg (show ¬ (m + 24 = 0) by lia), ← e1, ← em, d1, b2_some, wp_some]
  exact ⟨B', C', O1⟩
end
