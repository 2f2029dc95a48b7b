/-! the book: losses, the end of both -/
section
variable {hc hc' hm hm' : Hp} {a m s n fo fr c : Nat} {tm sz mk : Nat → Int} {w : Nat → Nat} {X Y : Nat}
theorem BkR.win (B : BkR hc a w hm m) (O : OnI hc hc') (e : ∀ x y, ¬ (x = a + 3 ∧ y ≤ 2) → hI hc' x y = hI hc x y) (OM : OnI hm hm') (eM : ∀ x y, ¬ (x = m ∧ 24 ≤ y ∧ y ≤ 26) → hI hm' x y = hI hm x y) (v0 : hI hc' (a + 3) 0 = hI hm' m 24) (v1 : hI hc' (a + 3) 1 = hI hm' m 25) (v2 : hI hc' (a + 3) 2 = hI hm' m 26) (b0 : 2400 ≤ hI hm' m 24 ∧ hI hm' m 24 ≤ hI hm m 24) (b2 : -1 ≤ hI hm' m 26 ∧ hI hm' m 26 ≤ hI hm m 0) : BkR hc' a w hm' m := by
  have m0 := B.1.2.1
  have fl := fun s => flM_on (hm := hm) (hm' := hm') (m := m) (s := s) OM (fun x y hx => eM x y (fun z => hx z.1)) m0
  refine B.sc O (fun x y h1 h2 h3 => e x y (fun z => h3 z.1)) OM (fun x y hx => eM x y (fun z => hx z.1)) (by rw [eM _ _ (by lia)]; exact Int.le_refl _) ?_ ?_
  · obtain ⟨⟨b1, b2, b3, b4, b5⟩, ⟨b6, b7, b8, b9, b10⟩, b11, b12, b13, b14⟩ := B.2.2.2.2.1
    unfold BkS
    have ca : ∀ k, hI hc' a k = hI hc a k := fun k => e _ _ (by lia)
    have ca2 : ∀ k, hI hc' (a + 2) k = hI hc (a + 2) k := fun k => e _ _ (by lia)
    have mm : ∀ k, k < 24 → hI hm' m k = hI hm m k := fun k hk => eM _ _ (by lia)
    simp only [ca, ca2, (fl 0).1, (fl 1).1, (fl 2).1]
    rw [mm 0 (by decide), mm 23 (by decide), mm 14 (by decide), mm 1 (by decide), mm 2 (by decide), mm 18 (by decide), mm 19 (by decide), mm 20 (by decide), mm 21 (by decide), mm 22 (by decide), e (a + 3) 3 (by lia)]
    exact ⟨⟨b1, b2, b3, b4, b5⟩, ⟨b6, b7, b8, b9, b10⟩, v0, v1, v2, b14⟩
  · obtain ⟨c1, c2, c3, c4, c5, c6, c7, c8, c9, c10⟩ := B.2.2.2.2.2
    have mm : ∀ k, k < 24 → hI hm' m k = hI hm m k := fun k hk => eM _ _ (by lia)
    unfold BkB
    rw [(fl 0).2, (fl 1).2, (fl 2).2, mm 0 (by decide), mm 23 (by decide), mm 1 (by decide), mm 2 (by decide), mm 18 (by decide), mm 20 (by decide), mm 21 (by decide), mm 19 (by decide)]
    exact ⟨c1, c2, c3, c4, c5, c6, c7, ⟨b0.1, by lia⟩, b2, c10⟩
/-- what losses leave: the relation, no cell taken from others, the room -/
def LsP (hc : Hp) (a : Nat) (w : Nat → Nat) (m X Y : Nat) (hc' hm' : Hp) : Prop := ∃ w', BkR hc' a w' hm' m ∧ (∀ x, x < hN hc → w' x ≠ 0 → w x ≠ 0) ∧ hN hc ≤ hN hc' ∧ hN hc' + bpot hc' a ≤ X ∧ hZ hc' + 2 * bpot hc' a ≤ Y ∧ CmF a hc hc'
theorem bpot_on (O : OnI hc hc') : bpot hc' a = bpot hc a := by unfold bpot bps; rw [O.r, O.l]
theorem j_tail (B : BkR hc a w hm m) (hs : s < 3) (hn : hI hm (m + 1) s = (n : Int)) (d0 : hI hm (m + 9) s = 0 ∨ c = 0) (hf : fr + c ≤ 4096) (g : hI hm (m + 13) (2 * s + 1) = ((fr + c : Nat) : Int)) (hE : ∀ j, j < c → 0 ≤ lsE hm m s fr j ∧ lsE hm m s fr j < n) (hi : ∀ i j, i < j → j < c → lsE hm m s fr i < lsE hm m s fr j) {v7 : Int} (v01 : v7 = 0 ∨ v7 = 1) (rN : hN hc + bpot hc a ≤ X) (rZ : hZ hc + 2 * bpot hc a ≤ Y) : wp (f_cBook_losses_b242 a (a + 6 + 11 * s) (flp (lsE hm m s fr) (lsX hm m s) c).1 (flp (lsE hm m s fr) (lsX hm m s) c).2 v7 hc) (fun o => wp (f_mBook_losses_b268 m (s : Int) (fr : Int) hm) (fun hm' => LsP hc a w m X Y o.2 hm')) := by
  obtain ⟨tm, sz, mk, fo, W, K1, K2, Q, S, T⟩ := SpR.opn B hs hn
  have L := B.1.1
  have a0 := L.1
  have m0 := B.1.2.1
  have wa := B.2.2.1
  have same : LsP hc a w m X Y hc hm := ⟨w, B, fun _ _ z => z, Nat.le_refl _, rN, rZ, CmF.rf⟩
  have fb := flp_b (cs := lsX hm m s) hE hi c (Nat.le_refl _)
  have start : ∀ {R : Hp → Prop}, ((flp (lsE hm m s fr) (lsX hm m s) c).1 < 0 → R hm) → (0 ≤ (flp (lsE hm m s fr) (lsX hm m s) c).1 → wp (f_mBook_persists_b120_lp FU m (s : Int) (flp (lsE hm m s fr) (lsX hm m s) c).1 (flp (lsE hm m s fr) (lsX hm m s) c).2 0 (flp (lsE hm m s fr) (lsX hm m s) c).1 hm) R) → wp (f_mBook_losses_b268 m (s : Int) (fr : Int) hm) R := fun {R} k0 k1 => by
    have t := m_ps8L K2 hf g hE k0 k1 FU 0 (Nat.zero_le _) (by unfold FU; lia)
    unfold f_mBook_losses_b268 f_mBook_persists
    exact wp_b1o t (fun h _ q => by rw [wp_some]; exact q)
  unfold f_cBook_losses_b242
  rcases fb with fb | ⟨f1, f2, j, f3, f4⟩
  · rw [if_pos (by rw [fb]; decide)]
    refine wp_01 v01 (start (fun _ => same) (fun z => ?_))
    rw [fb] at z; exact absurd z (by decide)
  · have d : hI hm (m + 9) s = 0 := d0.resolve_right (by lia)
    have dd : hI hc (a + 6 + 11 * s) 10 = 0 := by rw [S.1.1]; exact d
    have b2 := hE j f3
    obtain ⟨f, hf'⟩ : ∃ f : Nat, (flp (lsE hm m s fr) (lsX hm m s) c).1 = (f : Int) := ⟨_, (Int.toNat_of_nonneg f1).symm⟩
    obtain ⟨l, hl'⟩ : ∃ l : Nat, (flp (lsE hm m s fr) (lsX hm m s) c).2 = (l : Int) := ⟨_, (Int.toNat_of_nonneg (by lia)).symm⟩
    rw [hf', hl'] at start ⊢
    have hfl : f ≤ l := by lia
    have hln : l < n := by lia
    rw [if_neg (by lia)]
    refine wp_b2o (c_per L W K1 dd hfl hln) (fun r h1 _ q => ?_)
    obtain ⟨q1, q2, q3⟩ := q
    dsimp only at q1 q2 q3
    subst q1
    rw [B.pat 1] at q3
    have nb := K2.2.2.2.1
    by_cases c0 : r = 0
    · rw [if_pos c0]
      refine wp_01 v01 (start (fun z => by lia) (fun _ => m_perL K2 hfl hln (fun _ => same) (fun z => by have := q3.mpr z; lia) FU f 0 (Nat.le_refl _) hfl (by unfold FU; lia) (Or.inl rfl) ⟨fun _ i h1 h2 => by lia, fun _ => rfl⟩))
    · have z3 : ¬ (a + 3 = 0) := by lia
      rw [if_neg c0, L.r0_2, if_neg z3]
      unfold f_cWindow_collapse
      rw [lt1_eq, lt1_eq, b1_some]
      have cond := q3.mp (by lia)
      have ws := B.ws_le
      have BB := B.2.2.2.2.2
      refine wp_01 v01 (start (fun z => by lia) (fun _ => m_perL K2 hfl hln (fun z => absurd cond z) (fun _ => ?_) FU f 0 (Nat.le_refl _) hfl (by unfold FU; lia) (Or.inl rfl) ⟨fun _ i h1 h2 => by lia, fun _ => rfl⟩))
      have OO : OnI h1 (sI (sI h1 (a + 3) 0 2400) (a + 3) 2 (-1)) := OnI.refl.s.s
      refine ⟨w, B.win OO (fun x y h => ?_) OnI.refl.s.s (fun x y h => ?_) ?_ ?_ ?_ ?_ ?_, fun _ _ z => z, Nat.le_refl _, ?_, ?_, CmF.of OO (fun x y h1 h2 _ => by rw [hI_sI, if_neg (by lia), hI_sI, if_neg (by lia)])⟩
      · rw [hI_sI, if_neg (by lia), hI_sI, if_neg (by lia)]
      · rw [hI_sI, if_neg (by lia), hI_sI, if_neg (by lia)]
      · rw [hI_sI, if_neg (by lia), hI_sI, if_pos ⟨rfl, rfl⟩, hI_sI, if_neg (by lia), hI_sI, if_pos ⟨rfl, rfl⟩]
      · rw [hI_sI, if_neg (by lia), hI_sI, if_neg (by lia), hI_sI, if_neg (by lia), hI_sI, if_neg (by lia)]; exact B.2.2.2.2.1.2.2.2.1
      · rw [hI_sI, if_pos ⟨rfl, rfl⟩, hI_sI, if_pos ⟨rfl, rfl⟩]
      · rw [hI_sI, if_neg (by lia), hI_sI, if_pos ⟨rfl, rfl⟩]; lia
      · rw [hI_sI, if_pos ⟨rfl, rfl⟩]; have := BB.1; lia
      · rw [bpot_on OO]; exact rN
      · rw [bpot_on OO]; exact rZ
/-- the latest time of a counted packet that was lost -/
def ltI (hm : Hp) (m s fr c : Nat) (late : Int) : Prop := -1 ≤ late ∧ (late = -1 ∨ ∃ j, j < c ∧ lsC hm m s (lsE hm m s fr j) ≠ 0 ∧ late = lsT hm m s (lsE hm m s fr j)) ∧ ∀ j, j < c → lsC hm m s (lsE hm m s fr j) ≠ 0 → 0 ≤ lsT hm m s (lsE hm m s fr j) ∧ lsT hm m s (lsE hm m s fr j) ≤ late
theorem j_exit (B : BkR hc a w hm m) (hs : s < 3) (hn : hI hm (m + 1) s = (n : Int)) (d : hI hm (m + 9) s = 0 ∨ c = 0) (hf : fr + c ≤ 4096) (g : hI hm (m + 13) (2 * s + 1) = ((fr + c : Nat) : Int)) (hE : ∀ j, j < c → 0 ≤ lsE hm m s fr j ∧ lsE hm m s fr j < n) (hi : ∀ i j, i < j → j < c → lsE hm m s fr i < lsE hm m s fr j) {late v7 : Int} (hl : ltI hm m s fr c late) (v01 : v7 = 0 ∨ v7 = 1) (rN : hN hc + bpot hc a ≤ X) (rZ : hZ hc + 2 * bpot hc a ≤ Y) : wp (if late < 0 then f_cBook_losses_b242 a (a + 6 + 11 * s) (flp (lsE hm m s fr) (lsX hm m s) c).1 (flp (lsE hm m s fr) (lsX hm m s) c).2 v7 hc else if hR hc a 2 = 0 then none else b1 (f_cWindow_shrink (hR hc a 2) (hI hc a 3) late hc) fun h13 => f_cBook_losses_b242 a (a + 6 + 11 * s) (flp (lsE hm m s fr) (lsX hm m s) c).1 (flp (lsE hm m s fr) (lsX hm m s) c).2 v7 h13) (fun o => wp (f_mBook_losses_b154_lp FU m (s : Int) (fr : Int) 0 (fr : Int) hm) (fun hm' => LsP hc a w m X Y o.2 hm')) := by
  obtain ⟨tm, sz, mk, fo, W, K1, K2, Q, S, T⟩ := SpR.opn B hs hn
  have L := B.1.1
  have a0 := L.1
  have m0 := B.1.2.1
  have BS := B.2.2.2.2.1
  have BB := B.2.2.2.2.2
  have ws := B.ws_le
  have z3 : ¬ (a + 3 = 0) := by lia
  obtain ⟨l1, l2, l3⟩ := hl
  have fm := fun {R : Hp → Prop} k0 k1 => m_fall (R := R) K2 hf g hE k0 k1 FU 0 0 (Nat.zero_le _) (by unfold FU; lia) (Or.inl rfl) ⟨fun z => absurd z (by decide), fun ⟨i, h1, _⟩ => absurd h1 (Nat.not_lt_zero i)⟩
  have rec_ := BB.2.2.2.2.2.2.2.2.1
  by_cases c1 : ∃ j, j < c ∧ lsC hm m s (lsE hm m s fr j) ≠ 0 ∧ (hI hm m 26 < 0 ∨ hI hm m 26 < lsT hm m s (lsE hm m s fr j))
  · obtain ⟨j, j1, j2, j3⟩ := c1
    have t := l3 j j1 j2
    have late0 : ¬ late < 0 := by lia
    have rl : hI hm m 26 < late := by lia
    rw [if_neg late0, L.r0_2, if_neg z3]
    unfold f_cWindow_shrink
    have e2 : hI hc (a + 3) 2 = hI hm m 26 := BS.2.2.2.2.1
    have e0 : hI hc (a + 3) 0 = hI hm m 24 := BS.2.2.1
    have eT : hI hc a 3 = hI hm m 0 := BS.1.1
    have x0 : ∀ v, hI (sI hc (a + 3) 2 v) (a + 3) 0 = hI hm m 24 := fun v => by rw [hI_sI, if_neg (by lia)]; exact e0
    have x1 : ∀ v u, hI (sI (sI hc (a + 3) 2 v) (a + 3) 1 u) (a + 3) 1 = u := fun v u => by rw [hI_sI, if_pos ⟨rfl, rfl⟩]
    rw [e2, if_pos rl, lt1_eq, x0, lt1_eq, x1, lt1_eq, b1_some, eT]
    have d2 : iDiv (hI hm m 24) 2 = hI hm m 24 / 2 := iDiv_eq ⟨by lia, by lia⟩ (by decide) (by lia) (by decide)
    obtain ⟨hcS, eS⟩ : ∃ hcS, hcS = sI (sI (sI hc (a + 3) 2 (hI hm m 0)) (a + 3) 1 (iDiv (hI hm m 24) 2)) (a + 3) 0 (max (iDiv (hI hm m 24) 2) 2400) := ⟨_, rfl⟩
    obtain ⟨hmS, eSm⟩ : ∃ hmS, hmS = sI (sI (sI hm m 26 (hI hm m 0)) m 25 (iDiv (hI hm m 24) 2)) m 24 (max (iDiv (hI hm m 24) 2) 2400) := ⟨_, rfl⟩
    rw [← eS]
    have OS : OnI hc hcS := by rw [eS]; exact OnI.refl.s.s.s
    have OSm : OnI hm hmS := by rw [eSm]; exact OnI.refl.s.s.s
    have fS : ∀ x y, ¬ (x = a + 3 ∧ y ≤ 2) → hI hcS x y = hI hc x y := fun x y h => by rw [eS, hI_sI, if_neg (by lia), hI_sI, if_neg (by lia), hI_sI, if_neg (by lia)]
    have fSm : ∀ x y, ¬ (x = m ∧ 24 ≤ y ∧ y ≤ 26) → hI hmS x y = hI hm x y := fun x y h => by rw [eSm, hI_sI, if_neg (by lia), hI_sI, if_neg (by lia), hI_sI, if_neg (by lia)]
    have B' : BkR hcS a w hmS m := B.win OS fS OSm fSm (by rw [eS, eSm, hI_sI, if_pos ⟨rfl, rfl⟩, hI_sI, if_pos ⟨rfl, rfl⟩]) (by rw [eS, eSm, hI_sI, if_neg (by lia), hI_sI, if_pos ⟨rfl, rfl⟩, hI_sI, if_neg (by lia), hI_sI, if_pos ⟨rfl, rfl⟩]) (by rw [eS, eSm, hI_sI, if_neg (by lia), hI_sI, if_neg (by lia), hI_sI, if_pos ⟨rfl, rfl⟩, hI_sI, if_neg (by lia), hI_sI, if_neg (by lia), hI_sI, if_pos ⟨rfl, rfl⟩]) (by rw [eSm, hI_sI, if_pos ⟨rfl, rfl⟩, d2]; lia) (by rw [eSm, hI_sI, if_neg (by lia), hI_sI, if_neg (by lia), hI_sI, if_pos ⟨rfl, rfl⟩]; have := BB.1; lia)
    have eE : lsE hmS m s fr = lsE hm m s fr := funext fun j => by unfold lsE; exact fSm _ _ (by lia)
    have eX : lsX hmS m s = lsX hm m s := funext fun v => by
      unfold lsX lsT
      rw [fSm m 22 (by lia), fSm (m + 5) _ (by lia), fSm (m + 3) _ (by lia)]
    have t := j_tail (X := X) (Y := Y) B' hs (by rw [fSm _ _ (by lia)]; exact hn) (d.imp (fun z => by rw [fSm _ _ (by lia)]; exact z) id) hf (by rw [fSm _ _ (by lia)]; exact g) (by rw [eE]; exact hE) (by rw [eE]; exact hi) v01 (by rw [OS.n, bpot_on OS]; exact rN) (by rw [OS.z, bpot_on OS]; exact rZ)
    rw [eE, eX] at t
    refine wp_of t (fun o _ q => fm (fun z => absurd ⟨j, j1, j2, j3⟩ z) (fun _ => ?_))
    rw [← eSm]
    refine wp_of q (fun hm' _ q => ?_)
    obtain ⟨w', q1, q2, q3, q4, q5, q6⟩ := q
    exact ⟨w', q1, fun x hx => q2 x (by rw [OS.n]; exact hx), by rw [← OS.n]; exact q3, q4, q5, (CmF.of OS (fun x y h1 h2 _ => fS x y (by lia))).tr q6⟩
  · have t := j_tail (X := X) (Y := Y) B hs hn d hf g hE hi v01 rN rZ
    have fin : wp (f_cBook_losses_b242 a (a + 6 + 11 * s) (flp (lsE hm m s fr) (lsX hm m s) c).1 (flp (lsE hm m s fr) (lsX hm m s) c).2 v7 hc) (fun o => wp (f_mBook_losses_b154_lp FU m (s : Int) (fr : Int) 0 (fr : Int) hm) (fun hm' => LsP hc a w m X Y o.2 hm')) := wp_of t (fun o _ q => fm (fun _ => q) (fun z => absurd z c1))
    by_cases c2 : late < 0
    · rw [if_pos c2]; exact fin
    · have rl : ¬ hI hm m 26 < late := fun z => by
        rcases l2 with l2 | ⟨j, j1, j2, j3⟩
        · lia
        · exact c1 ⟨j, j1, j2, Or.inr (by rw [← j3]; exact z)⟩
      have e2 : hI hc (a + 3) 2 = hI hm m 26 := BS.2.2.2.2.1
      rw [if_neg c2, L.r0_2, if_neg z3]
      unfold f_cWindow_shrink
      rw [e2, if_neg rl, b1_some]
      exact fin
end
