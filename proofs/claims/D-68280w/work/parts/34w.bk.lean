/-! the book: ticks -/
def erl (t : Nat → Int) (T : Int) : Nat → Int × Int
  | 0 => (-1, 0)
  | k + 1 => if t k < 0 ∨ T < t k ∨ (0 ≤ (erl t T k).1 ∧ (erl t T k).2 ≤ t k) then erl t T k else ((k : Int), t k)
theorem erl_b {t : Nat → Int} {T : Int} : ∀ k, erl t T k = (-1, 0) ∨ ∃ i : Nat, i < k ∧ (erl t T k).1 = (i : Int) ∧ (erl t T k).2 = t i ∧ 0 ≤ t i := by
  intro k
  induction k with
  | zero => exact Or.inl rfl
  | succ k ih =>
    show (if t k < 0 ∨ T < t k ∨ (0 ≤ (erl t T k).1 ∧ (erl t T k).2 ≤ t k) then erl t T k else ((k : Int), t k)) = (-1, 0) ∨ ∃ i : Nat, i < k + 1 ∧ (if t k < 0 ∨ T < t k ∨ (0 ≤ (erl t T k).1 ∧ (erl t T k).2 ≤ t k) then erl t T k else ((k : Int), t k)).1 = (i : Int) ∧ (if t k < 0 ∨ T < t k ∨ (0 ≤ (erl t T k).1 ∧ (erl t T k).2 ≤ t k) then erl t T k else ((k : Int), t k)).2 = t i ∧ 0 ≤ t i
    by_cases c : t k < 0 ∨ T < t k ∨ (0 ≤ (erl t T k).1 ∧ (erl t T k).2 ≤ t k)
    · rw [if_pos c]
      rcases ih with h | ⟨i, h1, h2⟩
      · exact Or.inl h
      · exact Or.inr ⟨i, by lia, h2⟩
    · rw [if_neg c]
      exact Or.inr ⟨k, by lia, rfl, rfl, by lia⟩
section
variable {hc hm : Hp} {a m : Nat} {w : Nat → Nat} {X Y : Nat} {t : Nat → Int} {T v1 : Int}
theorem erl_s (k : Nat) : erl t T (k + 1) = if t k < 0 ∨ T < t k ∨ (0 ≤ (erl t T k).1 ∧ (erl t T k).2 ≤ t k) then erl t T k else ((k : Int), t k) := rfl
theorem c_earL (L : LBk hc a) (eT : hI hc a 3 = T) (h0 : v1 = 0 → ∀ k : Nat, k < 3 → f_cBook_probeTime a (k : Int) hc = some (t k, hc)) (h1 : v1 ≠ 0 → ∀ k, k < 3 → hI hc (a + 6 + 11 * k) 8 = t k) (F : Nat) : ∀ k : Nat, k ≤ 3 → 3 - k < F → f_cBook_earliest_b7_lp F a v1 (erl t T k).1 (erl t T k).2 (k : Int) hc = some ((erl t T 3).1, hc) := by
  induction F with
  | zero => intro k _ hf; lia
  | succ F ih =>
    intro k hk hf
    show f_cBook_earliest_b7 (f_cBook_earliest_b7_lp F) a v1 (erl t T k).1 (erl t T k).2 (k : Int) hc = _
    have a0 := L.1
    have go : k < 3 → f_cBook_earliest_b36 (f_cBook_earliest_b7_lp F) a v1 (erl t T k).1 (erl t T k).2 (k : Int) (t k) hc = some ((erl t T 3).1, hc) := fun hk3 => by
      have nxt := ih (k + 1) (by lia) (by lia)
      unfold f_cBook_earliest_b36 f_cBook_earliest_b65 f_cBook_earliest_b71
      rw [eT, w_k1 (by lia)]
      rw [erl_s] at nxt
      by_cases c1 : t k < 0
      · rw [if_pos c1]
        rw [if_pos (Or.inl c1)] at nxt; exact nxt
      · rw [if_neg c1]
        by_cases c2 : T < t k
        · rw [if_pos c2]
          rw [if_pos (Or.inr (Or.inl c2))] at nxt; exact nxt
        · rw [if_neg c2]
          by_cases c3 : 0 ≤ (erl t T k).1 ∧ (erl t T k).2 ≤ t k
          · rw [if_neg (by lia), if_neg (by lia)]
            rw [if_pos (Or.inr (Or.inr c3))] at nxt; exact nxt
          · have c : ¬ (t k < 0 ∨ T < t k ∨ (0 ≤ (erl t T k).1 ∧ (erl t T k).2 ≤ t k)) := by rintro (z | z | z); exact c1 z; exact c2 z; exact c3 z
            rw [if_neg c] at nxt
            by_cases c4 : (erl t T k).1 < 0
            · rw [if_pos c4]; exact nxt
            · rw [if_neg c4, if_pos (by lia)]; exact nxt
    unfold f_cBook_earliest_b7
    by_cases c : (3 : Int) ≤ k
    · have e : k = 3 := by lia
      rw [if_pos c, e]
    · have hk3 : k < 3 := by lia
      have xs : ix (k : Int) 3 := ⟨by lia, by lia⟩
      rw [if_neg c]
      by_cases cv : v1 = 0
      · rw [if_pos cv, h0 cv k hk3, b2_some]; exact go hk3
      · rw [if_neg cv, L.r0_0, if_neg (show ¬ (a + 1 = 0) by lia), L.l1, if_pos xs, Int.toNat_natCast, (L.sp hk3).1, if_neg (show ¬ (a + 6 + 11 * k = 0) by lia), h1 cv k hk3]; exact go hk3
theorem m_t83L (eT : hI hm m 0 = T) (h0 : ∀ k : Nat, k < 3 → f_mBook_probeTime m (k : Int) hm = some (t k, hm)) (F : Nat) : ∀ k : Nat, k ≤ 3 → 3 - k < F → f_mBook_tick_b83_lp F m (erl t T k).1 (erl t T k).2 (k : Int) hm = (if 0 ≤ (erl t T 3).1 then (if 10 ≤ (hI hm m 23) then f_mBook_tick_b160 m (erl t T 3).1 m 10 hm else f_mBook_tick_b160 m (erl t T 3).1 m (w32 ((hI hm m 23) + 1)) hm) else some (0, hm)) := by
  induction F with
  | zero => intro k _ hf; lia
  | succ F ih =>
    intro k hk hf
    show f_mBook_tick_b83 (f_mBook_tick_b83_lp F) m (erl t T k).1 (erl t T k).2 (k : Int) hm = _
    unfold f_mBook_tick_b83 f_mBook_tick_b122 f_mBook_tick_b127
    by_cases c : (3 : Int) ≤ k
    · have e : k = 3 := by lia
      rw [if_pos c, e]
    · have hk3 : k < 3 := by lia
      have nxt := ih (k + 1) (by lia) (by lia)
      rw [erl_s] at nxt
      rw [if_neg c, h0 k hk3, b2_some, eT, w_k1 (by lia)]
      by_cases c1 : t k < 0
      · rw [if_pos c1]
        rw [if_pos (Or.inl c1)] at nxt; exact nxt
      · rw [if_neg c1]
        by_cases c2 : T < t k
        · rw [if_pos c2]
          rw [if_pos (Or.inr (Or.inl c2))] at nxt; exact nxt
        · rw [if_neg c2]
          by_cases c3 : 0 ≤ (erl t T k).1 ∧ (erl t T k).2 ≤ t k
          · rw [if_neg (show ¬ (erl t T k).1 < 0 by lia), if_neg (show ¬ t k < (erl t T k).2 by lia)]
            rw [if_pos (Or.inr (Or.inr c3))] at nxt; exact nxt
          · have c : ¬ (t k < 0 ∨ T < t k ∨ (0 ≤ (erl t T k).1 ∧ (erl t T k).2 ≤ t k)) := by rintro (z | z | z); exact c1 z; exact c2 z; exact c3 z
            rw [if_neg c] at nxt
            by_cases c4 : (erl t T k).1 < 0
            · rw [if_pos c4]; exact nxt
            · rw [if_neg c4, if_pos (show t k < (erl t T k).2 by lia)]; exact nxt
theorem m_t14L (LM : MBk hm m) (eT : hI hm m 0 = T) (h1 : ∀ k, k < 3 → hI hm (m + 11) k = t k) (F : Nat) : ∀ k : Nat, k ≤ 3 → 3 - k < F → f_mBook_tick_b14_lp F m (erl t T k).1 (k : Int) hm = (if (erl t T 3).1 < 0 then f_mBook_tick_b83_lp FU m (erl t T 3).1 0 0 hm else b1 (f_mBook_losses m (erl t T 3).1 hm) fun h2 => some (1, h2)) := by
  induction F with
  | zero => intro k _ hf; lia
  | succ F ih =>
    intro k hk hf
    show f_mBook_tick_b14 (f_mBook_tick_b14_lp F) m (erl t T k).1 (k : Int) hm = _
    unfold f_mBook_tick_b14 f_mBook_tick_b60 f_mBook_tick_b62
    have m0 := LM.1
    by_cases c : (3 : Int) ≤ k
    · have e : k = 3 := by lia
      rw [if_pos c, e]
    · have hk3 : k < 3 := by lia
      have xs : ix (k : Int) 3 := ⟨by lia, by lia⟩
      have nxt := ih (k + 1) (by lia) (by lia)
      rw [erl_s] at nxt
      simp only [if_neg c, LM.r0_13, LM.l11, if_neg (show ¬ (m + 11 = 0) by lia), if_pos xs, Int.toNat_natCast, h1 k hk3, eT, w_k1 (show k < 1000000000 by lia)]
      by_cases c1 : t k < 0
      · rw [if_pos c1]
        rw [if_pos (Or.inl c1)] at nxt; exact nxt
      · rw [if_neg c1]
        by_cases c2 : T < t k
        · rw [if_pos c2]
          rw [if_pos (Or.inr (Or.inl c2))] at nxt; exact nxt
        · rw [if_neg c2]
          rcases erl_b (t := t) (T := T) k with e | ⟨i, e1, e2, e3, e4⟩
          · rw [if_neg (by rw [e]; lia)] at nxt
            rw [if_pos (by rw [e]; decide)]; exact nxt
          · have xi : ix (i : Int) 3 := ⟨by lia, by lia⟩
            rw [if_neg (show ¬ (erl t T k).1 < 0 by lia), e2, if_pos xi, Int.toNat_natCast, h1 i (by lia)]
            by_cases c3 : t i ≤ t k
            · rw [if_pos (Or.inr (Or.inr ⟨by lia, by lia⟩)), e2] at nxt
              rw [if_pos c3]; exact nxt
            · rw [if_neg (by lia)] at nxt
              rw [if_neg c3]; exact nxt
theorem j_tick (B : BkR hc a w hm m) (hT : hI hm m 0 < 200000) (hX : X ≤ CN) (hY : Y ≤ CZ) (rN : hN hc + bpot hc a ≤ X) (rZ : hZ hc + 2 * bpot hc a ≤ Y) : wp (f_cBook_tick a hc) (fun o => wp (f_mBook_tick m hm) (fun p => o.1 = p.1 ∧ (o.1 = 0 ∨ o.1 = 1 ∨ ∃ k : Nat, k < 3 ∧ o.1 = 2 + (k : Int)) ∧ LsP hc a w m X Y o.2 p.2)) := by
  have L := B.1.1
  have LM := B.1.2
  have a0 := L.1
  have m0 := LM.1
  have BS := B.2.2.2.2.1
  have BB := B.2.2.2.2.2
  have wT : w32 (hI hm m 0 + 1) = hI hm m 0 + 1 := w32_id ⟨by have := BB.1; lia, by lia⟩
  obtain ⟨h1, e1⟩ : ∃ h1, h1 = sI hc a 3 (hI hm m 0 + 1) := ⟨_, rfl⟩
  obtain ⟨m1, em1⟩ : ∃ m1, m1 = sI hm m 0 (hI hm m 0 + 1) := ⟨_, rfl⟩
  have O1 : OnI hc h1 := by rw [e1]; exact OnI.refl.s
  have M1 : OnI hm m1 := by rw [em1]; exact OnI.refl.s
  have am : ∀ x y, ¬ (x = m ∧ y = 0) → hI m1 x y = hI hm x y := fun x y hx => by rw [em1, hI_sI, if_neg hx]
  have ac : ∀ x y, ¬ (x = a ∧ y = 3) → hI h1 x y = hI hc x y := fun x y hx => by rw [e1, hI_sI, if_neg hx]
  have t1 : hI m1 m 0 = hI hm m 0 + 1 := by rw [em1, hI_sI, if_pos ⟨rfl, rfl⟩]
  have tc1 : hI h1 a 3 = hI hm m 0 + 1 := by rw [e1, hI_sI, if_pos ⟨rfl, rfl⟩]
  have B1 : BkR h1 a w m1 m := by
    obtain ⟨⟨b1, b2, b3, b4, b5⟩, ⟨b6, b7, b8, b9, b10⟩, b11, b12, b13, b14⟩ := BS
    obtain ⟨c1, c2, c3, c4, c5, c6, c7, c8, c9, c10⟩ := BB
    have fl := fun s => flM_on (hm := hm) (hm' := m1) (m := m) (s := s) M1 (fun x y hx => am x y (fun z => hx z.1)) m0
    have mm : ∀ k, k ≠ 0 → hI m1 m k = hI hm m k := fun k hk => am _ _ (by lia)
    refine B.sc O1 (fun x y h1 h2 h3 => ac x y (fun z => h1 z.1)) M1 (fun x y hx => am x y (fun z => hx z.1)) (by rw [t1]; lia) ?_ ?_
    · unfold BkS
      simp only [ac (a + 2) _ (by lia), ac (a + 3) _ (by lia), (fl 0).1, (fl 1).1, (fl 2).1]
      rw [t1, tc1, mm 23 (by decide), mm 14 (by decide), mm 1 (by decide), mm 2 (by decide), mm 18 (by decide), mm 19 (by decide), mm 20 (by decide), mm 21 (by decide), mm 22 (by decide), mm 24 (by decide), mm 25 (by decide), mm 26 (by decide), ac a 4 (by lia), ac a 5 (by lia), ac a 6 (by lia), ac a 7 (by lia)]
      exact ⟨⟨rfl, b2, b3, b4, b5⟩, ⟨b6, b7, b8, b9, b10⟩, b11, b12, b13, b14⟩
    · unfold BkB
      rw [(fl 0).2, (fl 1).2, (fl 2).2, t1, mm 23 (by decide), mm 1 (by decide), mm 2 (by decide), mm 18 (by decide), mm 19 (by decide), mm 20 (by decide), mm 21 (by decide), mm 24 (by decide), mm 26 (by decide)]
      exact ⟨by lia, c2, c3, c4, c5, c6, c7, c8, by lia, c10⟩
  have C1 : CmF a hc h1 := CmF.of O1 (fun x y h1 h2 _ => ac x y (by lia))
  have L1 := B1.1.1
  have LM1 := B1.1.2
  have st : LsP hc a w m X Y h1 m1 := ⟨w, B1, fun _ _ z => z, by rw [O1.n]; exact Nat.le_refl _, by rw [O1.n, bpot_on O1]; exact rN, by rw [O1.z, bpot_on O1]; exact rZ, C1⟩
  obtain ⟨t, ht⟩ : ∃ t : Nat → Int, t = fun k => hI m1 (m + 11) k := ⟨_, rfl⟩
  have htk : ∀ k, hI m1 (m + 11) k = t k := fun k => by rw [ht]
  have hcl : ∀ k, k < 3 → hI h1 (a + 6 + 11 * k) 8 = t k := fun k hk => by
    obtain ⟨_, _, _, _, _, _, _, _, _, S, _⟩ := B1.2.2.2.1 k hk
    rw [S.2.2.1, htk]
  have hpr : ∃ p : Nat → Int, ∀ k : Nat, k < 3 → f_cBook_probeTime a (k : Int) h1 = some (p k, h1) ∧ f_mBook_probeTime m (k : Int) m1 = some (p k, m1) := by
    obtain ⟨p0, q0⟩ := j_probe B1 (s := 0) (by decide)
    obtain ⟨p1, q1⟩ := j_probe B1 (s := 1) (by decide)
    obtain ⟨p2, q2⟩ := j_probe B1 (s := 2) (by decide)
    refine ⟨fun k => if k = 0 then p0 else if k = 1 then p1 else p2, fun k hk => ?_⟩
    rcases (show k = 0 ∨ k = 1 ∨ k = 2 by lia) with rfl | rfl | rfl
    · exact q0
    · exact q1
    · exact q2
  obtain ⟨p, hp⟩ := hpr
  have start : ∀ u : Nat → Int, erl u (hI hm m 0 + 1) 0 = (-1, 0) := fun _ => rfl
  unfold f_cBook_tick f_mBook_tick f_cBook_earliest
  rw [lt1_eq, BS.1.1, wT, lt1_eq, ← e1, ← em1]
  obtain ⟨F, hF, F9⟩ := fu_ex
  have ce := c_earL (v1 := 1) (t := t) L1 tc1 (fun z => absurd z (by decide)) (fun _ => hcl) F 0 (by decide) (by lia)
  have ce2 := c_earL (v1 := 0) (t := p) L1 tc1 (fun _ k hk => (hp k hk).1) (fun z => absurd rfl z) F 0 (by decide) (by lia)
  have me := m_t14L (t := t) LM1 t1 (fun k _ => htk k) F 0 (by decide) (by lia)
  have me2 := m_t83L (t := p) t1 (fun k hk => (hp k hk).2) F 0 (by decide) (by lia)
  simp only [start, show ((0 : Nat) : Int) = 0 from rfl] at ce ce2 me me2
  rw [← hF] at me ⊢
  rw [me, ce, b2_some]
  rcases erl_b (t := t) (T := hI hm m 0 + 1) 3 with e | ⟨i, i1, i2, i3, i4⟩
  · -- no loss is due
    simp only [e, if_pos (show (-1 : Int) < 0 by decide)]
    rw [ce2, b2_some, me2]
    have bo := BB.2.1
    have b23 : hI m1 m 23 = hI hm m 23 := am _ _ (by lia)
    rcases erl_b (t := p) (T := hI hm m 0 + 1) 3 with e | ⟨i, i1, i2, i3, i4⟩
    · simp only [e, if_neg (show ¬ (0 : Int) ≤ -1 by decide)]
      rw [wp_some, wp_some]
      exact ⟨rfl, Or.inl rfl, st⟩
    · rw [i2, if_pos (by lia), if_pos (by lia), wp_lt1, wp_some]
      have c4 : hI h1 a 4 = hI hm m 23 := by rw [ac a 4 (by lia)]; exact BS.1.2.1
      have wb : w32 (hI hm m 23 + 1) = hI hm m 23 + 1 := w32_id ⟨by lia, by lia⟩
      have w2 : w32 (2 + (i : Int)) = 2 + (i : Int) := w32_id ⟨by lia, by lia⟩
      obtain ⟨bv, hbv⟩ : ∃ bv, bv = min (hI hm m 23 + 1) 10 := ⟨_, rfl⟩
      have mb : (if 10 ≤ hI m1 m 23 then f_mBook_tick_b160 m (i : Int) m 10 m1 else f_mBook_tick_b160 m (i : Int) m (w32 (hI m1 m 23 + 1)) m1) = some (2 + (i : Int), sI m1 m 23 bv) := by
        unfold f_mBook_tick_b160
        rw [b23, wb, w2, if_neg (show ¬ (m = 0) by lia)]
        by_cases c : 10 ≤ hI hm m 23
        · rw [if_pos c, lt1_eq, show bv = 10 by lia]
        · rw [if_neg c, if_neg (show ¬ (m = 0) by lia), lt1_eq, show bv = hI hm m 23 + 1 by lia]
      rw [mb, wp_some, c4, wb, ← hbv, w2]
      refine ⟨rfl, Or.inr (Or.inr ⟨i, i1, rfl⟩), ?_⟩
      have O2 : OnI h1 (sI h1 a 4 bv) := OnI.refl.s
      exact ⟨w, B1.bo ⟨by lia, by lia⟩, fun _ _ z => z, by rw [O2.n, O1.n]; exact Nat.le_refl _, by rw [O2.n, O1.n, bpot_on O2, bpot_on O1]; exact rN, by rw [O2.z, O1.z, bpot_on O2, bpot_on O1]; exact rZ, C1.tr (CmF.of O2 (fun x y h1 h2 _ => by rw [hI_sI, if_neg (by lia)]))⟩
  · rw [i2, if_neg (show ¬ (i : Int) < 0 by lia), if_neg (show ¬ (i : Int) < 0 by lia)]
    refine wp_b2o (j_losses B1 (s := i) i1 hX hY (by rw [O1.n, bpot_on O1]; exact rN) (by rw [O1.z, bpot_on O1]; exact rZ)) (fun x hc' _ q => ?_)
    obtain ⟨hm', ex, q⟩ := q
    rw [ex, b1_some, wp_some, wp_some]
    exact ⟨rfl, Or.inr (Or.inl rfl), LsP.tr C1 (fun _ _ z => z) (by rw [O1.n]; exact Nat.le_refl _) q⟩
end
