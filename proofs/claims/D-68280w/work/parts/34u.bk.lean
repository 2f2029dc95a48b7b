/-! the book: an acknowledgement whole -/
section
variable {hc hm : Hp} {a m s n N : Nat} {lo hi : Nat → Int} {w : Nat → Nat} {X Y : Nat} {dl : Int}
theorem c_isSent (B : BkR hc a w hm m) (hs : s < 3) (hn : hI hm (m + 1) s = (n : Int)) (Sc : SnC hc a N lo hi) (hN : 1 ≤ N) : f_cBook_isSent a (s : Int) hc = some (if hi 0 < n then 1 else 0, hc) := by
  obtain ⟨tm, sz, mk, fo, W, K1, K2, Q, S, T⟩ := SpR.opn B hs hn
  have L := B.1.1
  have a0 := L.1
  have z1 : ¬ (a + 1 = 0) := by lia
  have z5 : ¬ (a + 5 = 0) := by lia
  have p0 : ¬ (a + 6 + 11 * s = 0) := by lia
  have xs : ix (s : Int) 3 := ⟨by lia, by lia⟩
  have x0 : ix (0 : Int) 64 := by decide
  unfold f_cBook_isSent
  simp only [L.r0_9, L.r0_0, L.l5, L.l1, if_neg z1, if_neg z5, if_pos xs, if_pos x0, tn0, Int.toNat_natCast, (L.sp hs).1, if_neg p0, K1.1, (Sc 0 (by lia)).2]
  by_cases c : hi 0 < n
  · rw [if_neg (by lia), if_pos c]
  · rw [if_pos (by lia), if_neg c]
theorem j_ackB (B : BkR hc a w hm m) (hs : s < 3) (hn : hI hm (m + 1) s = (n : Int)) (Sm : SnM hm m N lo hi) (hN : 1 ≤ N) (h : ¬ hi 0 < n) : f_mBook_acknowledge m (s : Int) dl hm = some (0, hm) := by
  have LM := B.1.2
  have m0 := LM.1
  have z1 : ¬ (m + 1 = 0) := by lia
  have z16 : ¬ (m + 16 = 0) := by lia
  have xs : ix (s : Int) 3 := ⟨by lia, by lia⟩
  have x0 : ix (0 : Int) 64 := by decide
  unfold f_mBook_acknowledge
  simp only [LM.r0_29, LM.r0_3, LM.l16, LM.l1, if_neg z1, if_neg z16, if_pos xs, if_pos x0, tn0, Int.toNat_natCast, (Sm.2 0 (by lia)).2, hn, if_neg h]
theorem j_ack (B : BkR hc a w hm m) (hs : s < 3) (hn : hI hm (m + 1) s = (n : Int)) (d : hI hm (m + 9) s = 0) (Sc : SnC hc a N lo hi) (e10 : hI hc a 10 = (N : Int)) (Sm : SnM hm m N lo hi) (Sb : SnB N n lo hi) (hd : 0 ≤ dl) (hX : X ≤ CN) (hY : Y ≤ CZ) (rN : hN hc + bpot hc a ≤ X) (rZ : hZ hc + 2 * bpot hc a ≤ Y) : wp (f_cBook_acknowledge a (s : Int) dl hc) (fun o => wp (f_mBook_acknowledge m (s : Int) dl hm) (fun p => p.1 = 1 ∧ LsP hc a w m X Y o.2 p.2)) := by
  have L := B.1.1
  have LM := B.1.2
  have a0 := L.1
  have m0 := LM.1
  have S0 := (SpR.opn B hs hn)
  obtain ⟨_, _, _, _, _, K1o, K2o, _, So, _⟩ := S0
  have z1 : ¬ (a + 1 = 0) := by lia
  have z5 : ¬ (a + 5 = 0) := by lia
  have p0 : ¬ (a + 6 + 11 * s = 0) := by lia
  have xs : ix (s : Int) 3 := ⟨by lia, by lia⟩
  have x0 : ix (0 : Int) 64 := by decide
  have zm1 : ¬ (m + 1 = 0) := by lia
  have zm16 : ¬ (m + 16 = 0) := by lia
  have zm10 : ¬ (m + 10 = 0) := by lia
  have zm8 : ¬ (m + 8 = 0) := by lia
  have zm3 : ¬ (m + 3 = 0) := by lia
  have nb := K2o.2.2.2.1
  have Nb := Sb.1
  have b0 := Sb.2.2 0 (by lia)
  have D0 := Sb.2.1.1 0 (by lia)
  obtain ⟨top, ht⟩ : ∃ top : Nat, hi 0 = (top : Int) := ⟨(hi 0).toNat, by lia⟩
  have gr := So.2.1
  have wt : w32 (top : Int) = (top : Int) := w32_id ⟨by lia, by lia⟩
  have htn : top < n := by lia
  obtain ⟨v, hv⟩ : ∃ v, v = max (hI hm (m + 10) s) (top : Int) := ⟨_, rfl⟩
  have B8 : BkR (sI hc (a + 6 + 11 * s) 6 v) a w (sI hm (m + 10) s v) m := B.s1 (y := 6) (z := 10) hs (Or.inl ⟨rfl, rfl, by lia, by rw [hn]; lia⟩)
  obtain ⟨h8, e8⟩ : ∃ h8, h8 = sI hc (a + 6 + 11 * s) 6 v := ⟨_, rfl⟩
  obtain ⟨m8, em8⟩ : ∃ m8, m8 = sI hm (m + 10) s v := ⟨_, rfl⟩
  rw [← e8, ← em8] at B8
  have O8 : OnI hc h8 := by rw [e8]; exact OnI.refl.s
  have M8 : OnI hm m8 := by rw [em8]; exact OnI.refl.s
  have am : ∀ x y, x ≠ m + 10 → hI m8 x y = hI hm x y := fun x y hx => by rw [em8, hI_sI, if_neg (fun z => hx z.1)]
  have hn8 : hI m8 (m + 1) s = (n : Int) := by rw [am _ _ (by lia)]; exact hn
  have d8 : hI m8 (m + 9) s = 0 := by rw [am _ _ (by lia)]; exact d
  have Sc8 : SnC h8 a N lo hi := fun i hi' => by rw [O8.j]; exact Sc i hi'
  have Sm8 : SnM m8 m N lo hi := ⟨by rw [am _ _ (by lia)]; exact Sm.1, fun i hi' => by rw [M8.j]; exact Sm.2 i hi'⟩
  have e10' : hI h8 a 10 = (N : Int) := by rw [e8, hI_sI, if_neg (by lia)]; exact e10
  have C8 : CmF a hc h8 := CmF.of O8 (fun x y h1 h2 h3 => by rw [e8, hI_sI, if_neg (by lia)])
  have A8 : AkS h8 m8 a m s n N lo hi w X Y := ⟨B8, hn8, d8, Sc8, Sm8, by rw [O8.n, bpot_on O8]; exact rN, by rw [O8.z, bpot_on O8]; exact rZ⟩
  obtain ⟨tm, sz, mk, fo, W, K1, K2, Q, S, T⟩ := SpR.opn B8 hs hn8
  have L8 := B8.1.1
  have LM8 := B8.1.2
  have dd : hI h8 (a + 6 + 11 * s) 10 = 0 := by rw [S.1.1]; exact d8
  have fo8 : hI m8 (m + 8) s = (fo : Int) := K2.2.2.1
  have BS := B8.2.2.2.2.1
  have BB := B8.2.2.2.2.2
  -- from behind the sample on
  have fin : ∀ (hx mx : Hp) (v7 : Int), AkS hx mx a m s n N lo hi w X Y → (∀ x y, x ≠ m → hI mx x y = hI m8 x y) → (∀ x y, x ≠ a + 2 → hI hx x y = hI h8 x y) → wp (f_cBook_acknowledge_b199 a (s : Int) (a + 6 + 11 * s) v7 hx) (fun o => wp (f_mBook_acknowledge_b185 m (s : Int) (fo : Int) mx) (fun p => p.1 = 1 ∧ LsP hx a w m X Y o.2 p.2)) := fun hx mx v7 A e e' => by
    unfold f_cBook_acknowledge_b199 f_mBook_acknowledge_b185
    have w1 : w32 ((N : Int) - 1) = (N : Int) - 1 := w32_id ⟨by lia, by lia⟩
    rw [e' a 10 (by lia), e10', lt1_eq, w1]
    obtain ⟨F, hF, F9⟩ := fu_ex
    rw [← hF]
    have Kx := K2.2.2.2.2.1
    refine j_ak207 hs hX hY Sb F N fo F hx mx w (Nat.le_refl _) (by lia) A (fun i hi' => ?_) Kx.1 (by lia) (fun _ => Or.inr (by rw [e _ _ (by lia), fo8]; exact Int.le_refl _))
    obtain ⟨h1, h2, h3⟩ := hi'
    refine ⟨?_, h3⟩
    by_cases q : i < fo
    · exfalso
      rw [e _ _ (by lia), (K2.2.2.2.2.2.1 i h1).2.2.1] at h2
      exact Kx.2.1 i q h2
    · lia
  have in0 : inR lo hi 0 top := ⟨by lia, by lia⟩
  have ntop : newP lo hi mk N n top ↔ mk top % 4 = 0 := ⟨fun z => z.2.1, fun z => ⟨htn, z, 0, by lia, in0⟩⟩
  obtain ⟨vt, evt, vt01, vtn⟩ := m_isNew K2 Sm8 (by lia) d8 htn
  have stay : ∀ x : Int × Hp, x.2 = h8 → LsP hc a w m X Y x.2 m8 := fun x hx => by
    rw [hx]; exact ⟨w, B8, fun _ _ z => z, by rw [O8.n]; exact Nat.le_refl _, A8.2.2.2.2.2.1, A8.2.2.2.2.2.2, C8⟩
  -- both rounds
  have go : ∀ tn : Int, (tn = 0 ↔ ¬ newP lo hi mk N n top) → wp (f_cBook_acknowledge_b43 a (s : Int) dl (a + 6 + 11 * s) (top : Int) tn h8) (fun o => wp (f_mBook_acknowledge_b61_lp FU m (s : Int) dl (top : Int) (fo : Int) 0 0 (fo : Int) m8) (fun p => p.1 = 1 ∧ LsP hc a w m X Y o.2 p.2)) := fun tn htn0 => by
    unfold f_cBook_acknowledge_b43
    obtain ⟨F, hF, F9⟩ := fu_ex
    rw [← hF]
    refine c_ak54 L8 W K1 dd Sc8 e10' Sb (fun v6 v7 I => ?_) F 0 0 0 (Nat.zero_le _) (by lia) ⟨⟨Int.le_refl 0, by lia⟩, Or.inl rfl, ⟨fun z => absurd rfl z, fun ⟨i, h1, h2, h3⟩ => ?_⟩, ⟨fun z => absurd z (by decide), fun ⟨i, ⟨h1, h2, h3⟩, _⟩ => ?_⟩⟩
    · have In := akI_new I
      have I6 := I.2.1
      have m61 := fun {R : Int × Hp → Prop} KK => m_ak61 (R := R) (dl := dl) (most := (top : Int)) (fr := fo) K2 Sm8 (by lia) d8 KK F fo 0 0 K2.2.2.2.2.1.1 (by lia) ⟨Int.le_refl 0, by lia⟩ (Or.inl rfl) ⟨fun z => absurd rfl z, fun ⟨i, h1, h2⟩ => absurd h2.2.1 (K2.2.2.2.2.1.2.1 i h1)⟩ ⟨fun z => absurd z (by decide), fun ⟨i, h1, h2, _⟩ => absurd h2.2.1 (K2.2.2.2.2.1.2.1 i h1)⟩
      unfold f_cBook_acknowledge_b54
      rw [e10', if_pos (Int.le_refl _)]
      by_cases c7 : v7 = 0
      · rw [if_neg (fun z => z c7), wp_some]
        refine m61 (fun v5 v6' _ h5 _ => ?_)
        have n5 : ¬ v5 ≠ 0 := fun z => In.1.mpr (h5.mp z) c7
        unfold f_mBook_acknowledge_b61
        simp only [LM8.r0_3, LM8.l1, if_neg zm1, if_pos xs, Int.toNat_natCast, hn8, if_pos (Int.le_refl (n : Int)), if_neg n5, wp_some]
        exact ⟨by trivial, stay (0, h8) rfl⟩
      · rw [if_pos c7]
        -- without a sample
        have plain : (tn = 0 ∨ v6 = 0) → wp (f_cBook_acknowledge_b199 a (s : Int) (a + 6 + 11 * s) v7 h8) (fun o => wp (f_mBook_acknowledge_b61_lp F m (s : Int) dl (top : Int) (fo : Int) 0 0 (fo : Int) m8) (fun p => p.1 = 1 ∧ LsP hc a w m X Y o.2 p.2)) := fun hp => by
          refine wp_of (fin h8 m8 v7 A8 (fun _ _ _ => rfl) (fun _ _ _ => rfl)) (fun o _ q => m61 (fun v5 v6' v01 h5 h6 => ?_))
          have n5 : v5 ≠ 0 := h5.mpr (In.1.mp c7)
          have q' : wp (f_mBook_acknowledge_b185 m (s : Int) (fo : Int) m8) (fun p => p.1 = 1 ∧ LsP hc a w m X Y o.2 p.2) := wp_of q (fun p _ q => ⟨q.1, LsP.tr C8 (fun x _ z => z) (by rw [O8.n]; exact Nat.le_refl _) q.2⟩)
          unfold f_mBook_acknowledge_b61
          simp only [LM8.r0_3, LM8.l1, if_neg zm1, if_pos xs, Int.toNat_natCast, hn8, if_pos (Int.le_refl (n : Int)), if_pos n5, evt, b2_some]
          rcases hp with hp | hp
          · have : vt = 0 := by
              by_cases q : vt = 1
              · exact absurd (vtn.mp q) (htn0.mp hp)
              · lia
            rw [if_pos this]
            split <;> exact q'
          · have : v6' = 0 := by
              by_cases q : v6' = 1
              · have := In.2.mpr (h6.mp q); lia
              · lia
            rw [if_pos this]; exact q'
        by_cases ct : tn = 0
        · rw [if_pos ct]; exact plain (Or.inl ct)
        · rw [if_neg ct]
          by_cases c6 : v6 = 0
          · rw [if_pos c6]; exact plain (Or.inr c6)
          · have nt : newP lo hi mk N n top := by
              by_cases q : newP lo hi mk N n top
              · exact q
              · exact absurd (htn0.mpr q) ct
            have vt1 : vt = 1 := vtn.mpr nt
            have zT : hR h8 (a + 6 + 11 * s) 0 ≠ 0 := wne (w := w) (by rw [W.2.1, W.2.2.2.2.2.2.2.2.2.2.2]; lia)
            have x3 : ix (top : Int) (ln h8 (hR h8 (a + 6 + 11 * s) 0)) := ⟨by lia, by have := K1.2.2.2.2.1.1; lia⟩
            have x4 : ix ((4096 * s + top : Nat) : Int) 12288 := ⟨by lia, by lia⟩
            have tt := T.1 top htn
            have wr : w32 (hI m8 m 0 - tm top) = hI m8 m 0 - tm top := w32_id ⟨by lia, by have := BB.1; lia⟩
            -- with a sample of a delay
            have smp : ∀ dd' : Int, 0 ≤ dd' ∧ dd' ≤ 25 → wp (f_cBook_acknowledge_b196 a (s : Int) (a + 6 + 11 * s) v7 (a + 2) (hI m8 m 0) (hI m8 m 0 - tm top) dd' h8) (fun o => wp (f_mBook_acknowledge_b182 m (s : Int) (fo : Int) m (hI m8 m 0 - tm top) dd' m8) (fun p => p.1 = 1 ∧ LsP hc a w m X Y o.2 p.2)) := fun dd' hdd => by
              unfold f_cBook_acknowledge_b196 f_mBook_acknowledge_b182
              rw [if_neg (show ¬ (a + 2 = 0) by lia), if_neg (show ¬ (m = 0) by lia)]
              refine wp_b1o (B8.smp (r := hI m8 m 0 - tm top) (dl := dd') ⟨by lia, by lia⟩ hdd) (fun hx _ q => ?_)
              obtain ⟨mx, ex, q1, q2, q3, q4, q5⟩ := q
              have Ax : AkS hx mx a m s n N lo hi w X Y := ⟨q1, by rw [q5 _ _ (by lia)]; exact hn8, by rw [q5 _ _ (by lia)]; exact d8, fun i hi' => by rw [q2.j]; exact Sc8 i hi', ⟨by rw [q5 _ _ (by lia)]; exact Sm8.1, fun i hi' => by rw [q4.j]; exact Sm8.2 i hi'⟩, by rw [q2.n, bpot_on q2]; exact A8.2.2.2.2.2.1, by rw [q2.z, bpot_on q2]; exact A8.2.2.2.2.2.2⟩
              rw [ex, b1_some]
              refine wp_of (fin hx mx v7 Ax (fun x y h => q5 x y (fun z => h z.1)) q3) (fun o _ q => wp_of q (fun p _ q => ⟨q.1, LsP.tr (C8.tr (CmF.of q2 (fun x y h1 h2 _ => q3 x y (by lia)))) (fun x _ z => z) (by rw [q2.n, O8.n]; exact Nat.le_refl _) q.2⟩))
            rw [if_neg c6, if_neg p0, if_neg zT, if_pos x3, Int.toNat_natCast, (K1.2.2.2.2.2.1 top htn).1, L8.r0_1, BS.1.1, wr]
            have mod : ∀ (dd' : Int), (∀ o : Int × Hp, wp (f_mBook_acknowledge_b182 m (s : Int) (fo : Int) m (hI m8 m 0 - tm top) dd' m8) (fun p => p.1 = 1 ∧ LsP hc a w m X Y o.2 p.2) → dd' = (if 2 ≤ (s : Int) then min dl 25 else 0) → wp (f_mBook_acknowledge_b61_lp F m (s : Int) dl (top : Int) (fo : Int) 0 0 (fo : Int) m8) (fun p => p.1 = 1 ∧ LsP hc a w m X Y o.2 p.2)) := fun dd' o q hdd => by
              refine m61 (fun v5 v6' v01 h5 h6 => ?_)
              have n5 : v5 ≠ 0 := h5.mpr (In.1.mp c7)
              have n6 : ¬ v6' = 0 := fun z => by
                have := h6.mpr (In.2.mp (by lia)); lia
              unfold f_mBook_acknowledge_b61
              simp only [LM8.r0_3, LM8.l1, if_neg zm1, if_pos xs, Int.toNat_natCast, hn8, if_pos (Int.le_refl (n : Int)), if_pos n5, if_neg n6, evt, b2_some, vt1, if_neg (show ¬ ((1 : Int) = 0) by decide), LM8.r0_5, LM8.l3, if_neg zm3, w4s hs (show top ≤ 4096 by lia), if_pos x4, (K2.2.2.2.2.2.1 top htn).2.1, wr]
              by_cases c2 : 2 ≤ (s : Int)
              · rw [if_pos c2] at hdd ⊢
                by_cases c25 : dl ≤ 25
                · rw [if_pos c25]
                  have : dd' = dl := by lia
                  rw [← this]; exact q
                · rw [if_neg c25]
                  have : dd' = 25 := by lia
                  rw [← this]; exact q
              · rw [if_neg c2] at hdd ⊢
                rw [← hdd]; exact q
            by_cases c2 : 2 ≤ (s : Int)
            · rw [if_pos c2]
              exact wp_of (smp (min dl 25) ⟨by lia, by lia⟩) (fun o _ q => mod _ o q (by rw [if_pos c2]))
            · rw [if_neg c2]
              exact wp_of (smp 0 ⟨by lia, by lia⟩) (fun o _ q => mod _ o q (by rw [if_neg c2]))
    · rcases h3 with ⟨r', h3, _⟩ | ⟨_, h3⟩
      · exact absurd h3 (Nat.not_lt_zero r')
      · exact absurd h3 (Nat.not_lt_zero i)
    · rcases h3 with ⟨r', h3, _⟩ | ⟨_, h3⟩
      · exact absurd h3 (Nat.not_lt_zero r')
      · exact absurd h3 (Nat.not_lt_zero i)
  unfold f_cBook_acknowledge f_mBook_acknowledge
  simp only [L.r0_9, L.r0_0, L.l5, L.l1, if_neg z1, if_neg z5, if_pos xs, if_pos x0, tn0, Int.toNat_natCast, (L.sp hs).1, if_neg p0, (Sc 0 (by lia)).2, lt1_eq, LM.r0_29, LM.r0_3, LM.r0_12, LM.l16, LM.l1, LM.l10, if_neg zm1, if_neg zm16, if_neg zm10, (Sm.2 0 (by lia)).2, hn, ht, wt, if_pos (show (top : Int) < n by lia), m_greaterB, b2_some, gr.1, hR_sI, ln_sI, LM.r0_10, LM.l8, if_neg zm8]
  rw [← hv, ← e8, ← em8]
  rw [c_state W K1 htn dd, b2_some, fo8]
  by_cases ct : mk top % 4 = 0
  · rw [if_neg (fun z => z ct)]
    exact go 1 ⟨fun z => absurd z (by decide), fun z => absurd (ntop.mpr ct) z⟩
  · rw [if_pos ct]
    exact go 0 ⟨fun _ z => ct (ntop.mp z), fun _ => rfl⟩
end
