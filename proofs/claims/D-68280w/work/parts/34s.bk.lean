/-! the book: an acknowledgement, the model's first round; samples; the packets that arrived -/
section
variable {hm : Hp} {m s n N fo fr : Nat} {tm sz mk lo hi : Nat → Int} {dl most : Int} {R : Int × Hp → Prop}
theorem m_ak61 (K : PkM hm m s n tm sz mk fo) (Sm : SnM hm m N lo hi) (hN : N ≤ 64) (d : hI hm (m + 9) s = 0) (KK : ∀ v5 v6 : Int, (v6 = 0 ∨ v6 = 1) → (v5 ≠ 0 ↔ ∃ i, newP lo hi mk N n i) → (v6 = 1 ↔ ∃ i, newP lo hi mk N n i ∧ mk i / 4 % 2 = 1) → wp (f_mBook_acknowledge_b61 (fun _ _ _ _ _ _ _ _ _ => none) m (s : Int) dl most (fr : Int) v5 v6 (n : Int) hm) R) (F : Nat) : ∀ (j : Nat) (v5 v6 : Int), j ≤ n → n - j < F → (0 ≤ v5 ∧ v5 ≤ j) → (v6 = 0 ∨ v6 = 1) → (v5 ≠ 0 ↔ ∃ i, i < j ∧ newP lo hi mk N n i) → (v6 = 1 ↔ ∃ i, i < j ∧ newP lo hi mk N n i ∧ mk i / 4 % 2 = 1) → wp (f_mBook_acknowledge_b61_lp F m (s : Int) dl most (fr : Int) v5 v6 (j : Int) hm) R := by
  induction F with
  | zero => intro j v5 v6 _ hf; lia
  | succ F ih =>
    intro j v5 v6 hj hf b5 b6 I5 I6
    show wp (f_mBook_acknowledge_b61 (f_mBook_acknowledge_b61_lp F) m (s : Int) dl most (fr : Int) v5 v6 (j : Int) hm) R
    have L := K.1.1
    have m0 := L.1
    have nb := K.2.2.2.1
    have z1 : ¬ (m + 1 = 0) := by lia
    have z5 : ¬ (m + 5 = 0) := by lia
    have xs : ix (s : Int) 3 := ⟨by lia, by have := K.1.2; lia⟩
    have hn := K.2.1
    by_cases c : (n : Int) ≤ j
    · have e : j = n := by lia
      subst e
      have t := KK v5 v6 b6 (by rw [I5]; exact ⟨fun ⟨i, _, h⟩ => ⟨i, h⟩, fun ⟨i, h⟩ => ⟨i, h.1, h⟩⟩) (by rw [I6]; exact ⟨fun ⟨i, _, h⟩ => ⟨i, h⟩, fun ⟨i, h, h2⟩ => ⟨i, h.1, h, h2⟩⟩)
      unfold f_mBook_acknowledge_b61 at t ⊢
      simp only [L.r0_3, L.l1, if_neg z1, if_pos xs, Int.toNat_natCast, hn, if_pos c] at t ⊢
      exact t
    · have hjn : j < n := by lia
      obtain ⟨v, ev, v01, vn⟩ := m_isNew K Sm hN d hjn
      have x2 : ix ((4096 * s + j : Nat) : Int) 12288 := ⟨by lia, by have := K.1.2; lia⟩
      unfold f_mBook_acknowledge_b61 f_mBook_acknowledge_b109 f_mBook_acknowledge_b114 f_mBook_acknowledge_b116
      simp only [L.r0_3, L.l1, if_neg z1, if_pos xs, Int.toNat_natCast, hn, if_neg c, ev, b2_some, L.r0_7, L.l5, if_neg z5, w4s K.1.2 (show j ≤ 4096 by lia), if_pos x2, (K.2.2.2.2.2.1 j hjn).2.2.2.1, w_k1 (show j < 1000000000 by lia)]
      have nx : ∀ i, (i < j + 1 ∧ newP lo hi mk N n i) ↔ (i < j ∧ newP lo hi mk N n i) ∨ (i = j ∧ newP lo hi mk N n j) := fun i => by
        constructor
        · rintro ⟨h1, h2⟩
          by_cases e : i = j
          · rw [e] at h2; exact Or.inr ⟨e, h2⟩
          · exact Or.inl ⟨by lia, h2⟩
        · rintro (⟨h1, h2⟩ | ⟨h1, h2⟩)
          · exact ⟨by lia, h2⟩
          · rw [h1]; exact ⟨by lia, h2⟩
      by_cases cv : v = 0
      · have nn : ¬ newP lo hi mk N n j := fun z => by have := vn.mpr z; lia
        rw [if_neg (fun z => z cv)]
        refine ih (j + 1) v5 v6 (by lia) (by lia) (by lia) b6 ?_ ?_
        · rw [I5]; exact ⟨fun ⟨i, h1, h2⟩ => ⟨i, by lia, h2⟩, fun ⟨i, h⟩ => by
            rcases (nx i).mp h with h | h
            · exact ⟨i, h⟩
            · exact absurd h.2 nn⟩
        · rw [I6]; exact ⟨fun ⟨i, h1, h2⟩ => ⟨i, by lia, h2⟩, fun ⟨i, h1, h2, h3⟩ => by
            rcases (nx i).mp ⟨h1, h2⟩ with h | h
            · exact ⟨i, h.1, h2, h3⟩
            · exact absurd h.2 nn⟩
      · have ny : newP lo hi mk N n j := vn.mp (by lia)
        have w5 : w32 (v5 + 1) = v5 + 1 := w32_id ⟨by lia, by lia⟩
        rw [if_pos cv, w5]
        have n5 : v5 + 1 ≠ 0 ↔ ∃ i, i < j + 1 ∧ newP lo hi mk N n i := ⟨fun _ => ⟨j, by lia, ny⟩, fun _ => by lia⟩
        by_cases c6 : v6 = 0
        · rw [if_neg (fun z => z c6)]
          by_cases ce : mk j / 4 % 2 = 0
          · rw [if_pos ce]
            refine ih (j + 1) (v5 + 1) 0 (by lia) (by lia) (by lia) (Or.inl rfl) n5 ⟨fun z => absurd z (by decide), fun ⟨i, h1, h2, h3⟩ => ?_⟩
            rcases (nx i).mp ⟨h1, h2⟩ with h | h
            · have := I6.mpr ⟨i, h.1, h2, h3⟩; lia
            · rw [h.1] at h3; lia
          · rw [if_neg ce]
            exact ih (j + 1) (v5 + 1) 1 (by lia) (by lia) (by lia) (Or.inr rfl) n5 ⟨fun _ => ⟨j, by lia, ny, by lia⟩, fun _ => rfl⟩
        · rw [if_pos c6]
          refine ih (j + 1) (v5 + 1) 1 (by lia) (by lia) (by lia) (Or.inr rfl) n5 ⟨fun _ => ?_, fun _ => rfl⟩
          obtain ⟨i, h1, h2⟩ := I6.mp (by lia)
          exact ⟨i, by lia, h2⟩
/-- the model's second round passes over what is not new -/
theorem m_catch (K : PkM hm m s n tm sz mk fo) (Sm : SnM hm m N lo hi) (hN : N ≤ 64) (d : hI hm (m + 9) s = 0) {G : Nat} : ∀ (e j : Nat), j + e ≤ n → (∀ i, j ≤ i → i < j + e → ¬ newP lo hi mk N n i) → f_mBook_acknowledge_b189_lp (G + e) m (s : Int) (j : Int) hm = f_mBook_acknowledge_b189_lp G m (s : Int) ((j + e : Nat) : Int) hm := by
  intro e
  induction e with
  | zero => intro j _ _; rfl
  | succ e ih =>
    intro j hj V
    have L := K.1.1
    have m0 := L.1
    have nb := K.2.2.2.1
    have z1 : ¬ (m + 1 = 0) := by lia
    have xs : ix (s : Int) 3 := ⟨by lia, by have := K.1.2; lia⟩
    obtain ⟨v, ev, v01, vn⟩ := m_isNew K Sm hN d (show j < n by lia)
    have v0 : v = 0 := by
      by_cases q : v = 1
      · exact absurd (vn.mp q) (V j (Nat.le_refl _) (by lia))
      · lia
    show f_mBook_acknowledge_b189 (f_mBook_acknowledge_b189_lp (G + e)) m (s : Int) (j : Int) hm = _
    unfold f_mBook_acknowledge_b189 f_mBook_acknowledge_b233
    simp only [L.r0_3, L.l1, if_neg z1, if_pos xs, Int.toNat_natCast, K.2.1, if_neg (show ¬ ((n : Int) ≤ j) by lia), ev, b2_some, v0, if_neg (show ¬ ((0 : Int) ≠ 0) by decide), w_k1 (show j < 1000000000 by lia)]
    rw [ih (j + 1) (by lia) (fun i h1 h2 => V i (by lia) (by lia)), show j + 1 + e = j + (e + 1) by lia]
end
section
variable {hc hc' hm hm' : Hp} {a m s n N : Nat} {lo hi : Nat → Int} {w : Nat → Nat} {X Y : Nat} {r dl T : Int}
theorem BkR.smp (B : BkR hc a w hm m) (hr : 0 ≤ r ∧ r ≤ hI hm m 0) (hd : 0 ≤ dl ∧ dl ≤ 25) : wp (f_cTrip_sample (a + 2) (hI hm m 0) r dl hc) (fun hc' => wp (f_mBook_sample m r dl hm) (fun hm' => BkR hc' a w hm' m ∧ OnI hc hc' ∧ (∀ x y, x ≠ a + 2 → hI hc' x y = hI hc x y) ∧ OnI hm hm' ∧ ∀ x y, ¬ (x = m ∧ 18 ≤ y ∧ y ≤ 22) → hI hm' x y = hI hm x y)) := by
  have m0 := B.1.2.1
  have a0 := B.1.1.1
  obtain ⟨⟨b1, b2, b3, b4, b5⟩, ⟨b6, b7, b8, b9, b10⟩, b11, b12, b13, b14⟩ := B.2.2.2.2.1
  obtain ⟨c1, c2, c3, c4, c5, c6, c7, c8, c9, c10⟩ := B.2.2.2.2.2
  refine wp_of (c_sample (hc := hc) (T := hI hm m 0) (r := r) (dl := dl) (by lia) b6 b7 b9 b10) (fun hc' _ q => wp_of (m_sample (hm := hm) (T := hI hm m 0) (r := r) (dl := dl) (by lia) rfl rfl rfl rfl rfl) (fun hm' _ p => ?_))
  obtain ⟨q1, q2, q3, q4, q5, q6, q7⟩ := q
  obtain ⟨p1, p2, p3, p4, p5, p6, p7⟩ := p
  have sb := spB (S := hI hm m 18) (V := hI hm m 19) (le := hI hm m 21) (fi := hI hm m 22) (r := r) (dl := dl) c5 c10 c7 ⟨hr.1, by lia⟩ hd
  have fl := fun s => flM_on (hm := hm) (hm' := hm') (m := m) (s := s) p1 (fun x y hx => p2 x y (fun z => hx z.1)) m0
  have mm : ∀ k, k < 18 ∨ 22 < k → hI hm' m k = hI hm m k := fun k hk => p2 _ _ (by lia)
  refine ⟨B.sc q1 (fun x y h1 h2 h3 => q2 x y h2) p1 (fun x y hx => p2 x y (fun z => hx z.1)) (by rw [mm 0 (by decide)]; exact Int.le_refl _) ?_ ?_, q1, q2, p1, p2⟩
  · unfold BkS
    simp only [q2 a _ (by lia), q2 (a + 3) _ (by lia), (fl 0).1, (fl 1).1, (fl 2).1]
    rw [mm 0 (by decide), mm 23 (by decide), mm 14 (by decide), mm 1 (by decide), mm 2 (by decide), mm 24 (by decide), mm 25 (by decide), mm 26 (by decide), q3, q4, q5, q6, q7, p3, p4, p5, p6, p7]
    exact ⟨⟨b1, b2, b3, b4, b5⟩, ⟨rfl, rfl, rfl, rfl, rfl⟩, b11, b12, b13, b14⟩
  · unfold BkB
    rw [(fl 0).2, (fl 1).2, (fl 2).2, mm 0 (by decide), mm 23 (by decide), mm 1 (by decide), mm 2 (by decide), mm 24 (by decide), mm 26 (by decide), p3, p4, p5, p6]
    exact ⟨c1, c2, c3, c4, sb.1, ⟨hr.1, by lia⟩, sb.2.2, c8, c9, sb.2.1⟩
theorem BkR.bo (B : BkR hc a w hm m) {v : Int} (hv : 0 ≤ v ∧ v ≤ 10) : BkR (sI hc a 4 v) a w (sI hm m 23 v) m := by
  have m0 := B.1.2.1
  have a0 := B.1.1.1
  obtain ⟨⟨b1, b2, b3, b4, b5⟩, ⟨b6, b7, b8, b9, b10⟩, b11, b12, b13, b14⟩ := B.2.2.2.2.1
  obtain ⟨c1, c2, c3, c4, c5, c6, c7, c8, c9, c10⟩ := B.2.2.2.2.2
  have eM : ∀ x y, ¬ (x = m ∧ y = 23) → hI (sI hm m 23 v) x y = hI hm x y := fun x y h => by rw [hI_sI, if_neg h]
  have eC : ∀ x y, ¬ (x = a ∧ y = 4) → hI (sI hc a 4 v) x y = hI hc x y := fun x y h => by rw [hI_sI, if_neg h]
  have fl := fun s => flM_on (hm := hm) (hm' := sI hm m 23 v) (m := m) (s := s) OnI.refl.s (fun x y hx => eM x y (fun z => hx z.1)) m0
  have mm : ∀ k, k ≠ 23 → hI (sI hm m 23 v) m k = hI hm m k := fun k hk => eM _ _ (by lia)
  have m23 : hI (sI hm m 23 v) m 23 = v := by rw [hI_sI, if_pos ⟨rfl, rfl⟩]
  have c4' : hI (sI hc a 4 v) a 4 = v := by rw [hI_sI, if_pos ⟨rfl, rfl⟩]
  refine B.sc OnI.refl.s (fun x y h1 h2 h3 => eC x y (fun z => h1 z.1)) OnI.refl.s (fun x y hx => eM x y (fun z => hx z.1)) (by rw [mm 0 (by decide)]; exact Int.le_refl _) ?_ ?_
  · unfold BkS
    simp only [eC (a + 2) _ (by lia), eC (a + 3) _ (by lia), (fl 0).1, (fl 1).1, (fl 2).1]
    rw [mm 0 (by decide), m23, mm 14 (by decide), mm 1 (by decide), mm 2 (by decide), mm 18 (by decide), mm 19 (by decide), mm 20 (by decide), mm 21 (by decide), mm 22 (by decide), mm 24 (by decide), mm 25 (by decide), mm 26 (by decide), c4', eC a 3 (by lia), eC a 5 (by lia), eC a 6 (by lia), eC a 7 (by lia)]
    exact ⟨⟨b1, rfl, b3, b4, b5⟩, ⟨b6, b7, b8, b9, b10⟩, b11, b12, b13, b14⟩
  · unfold BkB
    rw [(fl 0).2, (fl 1).2, (fl 2).2, mm 0 (by decide), m23, mm 1 (by decide), mm 2 (by decide), mm 18 (by decide), mm 19 (by decide), mm 20 (by decide), mm 21 (by decide), mm 24 (by decide), mm 26 (by decide)]
    exact ⟨c1, hv, c3, c4, c5, c6, c7, c8, c9, c10⟩
end
