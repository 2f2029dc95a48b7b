/-! the book: losses, the loop -/
section
variable {a m s fr n : Nat} {X Y : Nat} {lm : Int}
theorem j_lossL (hs : s < 3) (hX : X ≤ CN) (hY : Y ≤ CZ) (hlm : 1 ≤ lm ∧ lm ≤ 300000) (F : Nat) : ∀ (k c : Nat) (hc hm : Hp) (w : Nat → Nat) (late v7 : Int), BkR hc a w hm m → hI hm (m + 1) s = (n : Int) → hI hm (m + 9) s = 0 → k ≤ n → n - k < F → hI hm (m + 13) (2 * s + 1) = ((fr + c : Nat) : Int) → fr + c ≤ 4096 → (∀ j, j < c → 0 ≤ lsE hm m s fr j ∧ lsE hm m s fr j < k) → (∀ i j, i < j → j < c → lsE hm m s fr i < lsE hm m s fr j) → (hI hm (m + 11) s < 0 ∨ ∀ k', k ≤ k' → k' < n → hI hm (m + 11) s ≤ hI hm (m + 3) (4096 * s + k') + lm) → ltI hm m s fr c late → (v7 = 0 ∨ v7 = 1) → hN hc + bpot hc a ≤ X → hZ hc + 2 * bpot hc a ≤ Y →
    wp (f_cBook_losses_b38_lp F a (a + 6 + 11 * s) lm late (flp (lsE hm m s fr) (lsX hm m s) c).1 (flp (lsE hm m s fr) (lsX hm m s) c).2 v7 (k : Int) hc) (fun o => wp (f_mBook_losses_b31_lp F m (s : Int) (fr : Int) lm (k : Int) hm) (fun hm' => LsP hc a w m X Y o.2 hm')) := by
  induction F with
  | zero => intro k c hc hm w late v7 _ _ _ _ hf; lia
  | succ F ih =>
    intro k c hc hm w late v7 B hn d hk hf g hfr hE hi hlt hl v01 rN rZ
    obtain ⟨tm, sz, mk, fo, W, K1, K2, Q, S, T⟩ := SpR.opn B hs hn
    have L := B.1.1
    have LM := B.1.2
    have a0 := L.1
    have m0 := LM.1
    have BS := B.2.2.2.2.1
    have BB := B.2.2.2.2.2
    have p0 : ¬ (a + 6 + 11 * s = 0) := by lia
    have nb := K2.2.2.2.1
    have gr := S.2.1
    have dd : hI hc (a + 6 + 11 * s) 10 = 0 := by rw [S.1.1]; exact d
    have zz10 : ¬ (m + 10 = 0) := by lia
    have zz3 : ¬ (m + 3 = 0) := by lia
    have zz11 : ¬ (m + 11 = 0) := by lia
    have xs : ix (s : Int) 3 := ⟨by lia, by lia⟩
    have zT : hR hc (a + 6 + 11 * s) 0 ≠ 0 := wne (w := w) (by rw [W.2.1, W.2.2.2.2.2.2.2.2.2.2.2]; lia)
    show wp (f_cBook_losses_b38 (f_cBook_losses_b38_lp F) a (a + 6 + 11 * s) lm late (flp (lsE hm m s fr) (lsX hm m s) c).1 (flp (lsE hm m s fr) (lsX hm m s) c).2 v7 (k : Int) hc) (fun o => wp (f_mBook_losses_b31 (f_mBook_losses_b31_lp F) m (s : Int) (fr : Int) lm (k : Int) hm) (fun hm' => LsP hc a w m X Y o.2 hm'))
    unfold f_cBook_losses_b38 f_mBook_losses_b31
    simp only [if_neg p0, L.r0_2, LM.r0_12, LM.r0_13, LM.r0_5, LM.l10, LM.l11, LM.l3, if_neg zz10, if_neg zz3, if_neg zz11, if_pos xs, Int.toNat_natCast, gr.1]
    by_cases c0 : hI hm (m + 10) s ≤ k
    · simp only [if_pos c0]
      have t := j_exit (X := X) (Y := Y) (late := late) (v7 := v7) B hs hn (Or.inl d) hfr g (fun j hj => by have := hE j hj; lia) hi hl v01 rN rZ
      rw [L.r0_2] at t
      exact t
    · simp only [if_neg c0]
      have hkn : k < n := by lia
      have x2 : ix ((4096 * s + k : Nat) : Int) 12288 := ⟨by lia, by lia⟩
      have tk := (K2.2.2.2.2.2.1 k hkn).2.1
      have tkb := (T.1 k hkn)
      have Tb := BB.1
      have wd : w32 (tm k + lm) = tm k + lm := w32_id ⟨by lia, by lia⟩
      have w3 : w32 (hI hm (m + 10) s - 3) = hI hm (m + 10) s - 3 := w32_id ⟨by lia, by lia⟩
      -- a packet that is passed over
      have skip : ∀ (hc2 hm2 : Hp), BkR hc2 a w hm2 m → (hc2 = hc ∧ hm2 = hm ∨ ∃ v, hc2 = sI hc (a + 6 + 11 * s) 8 v ∧ hm2 = sI hm (m + 11) s v) → (hI hm2 (m + 11) s < 0 ∨ ∀ k', k + 1 ≤ k' → k' < n → hI hm2 (m + 11) s ≤ hI hm2 (m + 3) (4096 * s + k') + lm) → wp (f_cBook_losses_b38_lp F a (a + 6 + 11 * s) lm late (flp (lsE hm m s fr) (lsX hm m s) c).1 (flp (lsE hm m s fr) (lsX hm m s) c).2 v7 (w32 ((k : Int) + 1)) hc2) (fun o => wp (f_mBook_losses_b31_lp F m (s : Int) (fr : Int) lm (w32 ((k : Int) + 1)) hm2) (fun hm' => LsP hc a w m X Y o.2 hm')) := fun hc2 hm2 B2 e2 hlt2 => by
        have eM : ∀ x y, ¬ (x = m + 11) → hI hm2 x y = hI hm x y := fun x y hx => by
          rcases e2 with ⟨_, e⟩ | ⟨v, _, e⟩
          · rw [e]
          · rw [e, hI_sI, if_neg (fun z => hx z.1)]
        have eO : OnI hc hc2 := by
          rcases e2 with ⟨e, _⟩ | ⟨v, e, _⟩
          · rw [e]; exact OnI.refl
          · rw [e]; exact OnI.refl.s
        have eE : lsE hm2 m s fr = lsE hm m s fr := funext fun j => by unfold lsE; exact eM _ _ (by lia)
        have eX : lsX hm2 m s = lsX hm m s := funext fun v => by
          unfold lsX lsT
          rw [eM m 22 (by lia), eM (m + 5) _ (by lia), eM (m + 3) _ (by lia)]
        have eL : ltI hm2 m s fr c late := by
          unfold ltI lsC lsT at hl ⊢
          rw [eE]
          obtain ⟨q1, q2, q3⟩ := hl
          refine ⟨q1, ?_, fun j hj hcn => ?_⟩
          · rcases q2 with q2 | ⟨j, j1, j2, j3⟩
            · exact Or.inl q2
            · exact Or.inr ⟨j, j1, by rw [eM _ _ (by lia)]; exact j2, by rw [eM _ _ (by lia)]; exact j3⟩
          · rw [eM _ _ (by lia)] at hcn
            rw [eM _ _ (by lia)]
            exact q3 j hj hcn
        have t := ih (k + 1) c hc2 hm2 w late v7 B2 (by rw [eM _ _ (by lia)]; exact hn) (by rw [eM _ _ (by lia)]; exact d) (by lia) (by lia) (by rw [eM _ _ (by lia)]; exact g) hfr (fun j hj => by rw [eE]; have := hE j hj; lia) (by rw [eE]; exact hi) hlt2 eL v01 (by rw [eO.n, bpot_on eO]; exact rN) (by rw [eO.z, bpot_on eO]; exact rZ)
        rw [eE, eX] at t
        rw [w_k1 (by lia)]
        refine wp_of t (fun o _ q => wp_of q (fun hm' _ q => ?_))
        exact LsP.tr (CmF.of eO (fun x y h1 h2 h3 => by
          rcases e2 with ⟨e, _⟩ | ⟨v, e, _⟩
          · rw [e]
          · rw [e, hI_sI, if_neg (by lia)])) (fun x _ z => z) (by rw [eO.n]; exact Nat.le_refl _) q
      have hltS : hI hm (m + 11) s < 0 ∨ ∀ k', k + 1 ≤ k' → k' < n → hI hm (m + 11) s ≤ hI hm (m + 3) (4096 * s + k') + lm := by
        rcases hlt with z | z
        · exact Or.inl z
        · exact Or.inr (fun k' h1 h2 => z k' (by lia) h2)
      rw [c_state W K1 hkn dd, b2_some, K2.out hkn, b2_some]
      unfold f_cBook_losses_b218 f_mBook_losses_b142 f_mBook_losses_b130 f_mBook_losses_b141 f_mBook_losses_b142
      by_cases cm : mk k % 4 = 0
      · simp only [if_pos cm, if_pos (show hI hm (m + 9) s = 0 ∧ mk k % 4 = 0 from ⟨d, cm⟩)]
        have lose : wp (f_cBook_losses_b86 (f_cBook_losses_b38_lp F) a (a + 6 + 11 * s) lm late (flp (lsE hm m s fr) (lsX hm m s) c).1 (flp (lsE hm m s fr) (lsX hm m s) c).2 (k : Int) hc) (fun o => wp (f_mBook_losses_b94 (f_mBook_losses_b31_lp F) m (s : Int) (fr : Int) lm (k : Int) hm) (fun hm' => LsP hc a w m X Y o.2 hm')) := by
          unfold f_mBook_losses_b94 f_mBook_losses_b142
          refine j_lose (v7 := v7) B hs hn hkn d (by rw [(K2.2.2.2.2.2.1 k hkn).2.2.1]; exact cm) g hl hX hY rN rZ (f_cBook_losses_b38_lp F) _ (fun o hm' => LsP hc a w m X Y o.2 hm') (fun hc' hm' w' late' R1 R2 R3 R4 R5 D R6 g' hfr' E1 E2 LT => ?_)
          have DM := D.2.1
          have t := ih (k + 1) (c + 1) hc' hm' w' late' 1 R1 (by rw [DM _ _ (by lia) (by lia) (by lia) (by lia) (by lia)]; exact hn) (by rw [DM _ _ (by lia) (by lia) (by lia) (by lia) (by lia)]; exact d) (by lia) (by lia) g' hfr' (fun j hj => by
            by_cases e : j = c
            · rw [e, E2]; lia
            · rw [E1 j (by lia)]; have := hE j (by lia); lia) (fun i j hij hj => by
            by_cases e : j = c
            · rw [e, E2, E1 i (by lia)]; have := hE i (by lia); lia
            · rw [E1 j (by lia), E1 i (by lia)]; exact hi i j hij (by lia)) (by
            rw [DM (m + 11) s (by lia) (by lia) (by lia) (by lia) (by lia)]
            rcases hltS with z | z
            · exact Or.inl z
            · exact Or.inr (fun k' h1 h2 => by rw [DM (m + 3) _ (by lia) (by lia) (by lia) (by lia) (by lia)]; exact z k' h1 h2)) LT (Or.inr rfl) R4 R5
          rw [w_k1 (by lia)]
          refine wp_of t (fun o _ q => wp_of q (fun hm2 _ q => ?_))
          exact LsP.tr R6 (fun x hx hz => by
            rcases R2 x hx with z | z
            · rw [← z]; exact hz
            · exact absurd z.2 hz) R3 q
        have x3 : ix (k : Int) (ln hc (hR hc (a + 6 + 11 * s) 0)) := ⟨by lia, by have := K1.2.2.2.2.1.1; lia⟩
        simp only [if_pos (show (1 : Int) ≠ 0 by decide), w4s hs (show k ≤ 4096 by lia), if_pos x2, Int.toNat_natCast, tk, wd, lt1_eq, gr.1, LM.r0_12, LM.r0_13, LM.r0_5, LM.l10, LM.l11, LM.l3, if_neg zz10, if_neg zz3, if_neg zz11, if_pos xs, w3, if_neg zT, if_pos x3, (K1.2.2.2.2.2.1 k hkn).1, BS.1.1, S.2.2.1]
        by_cases cr : (k : Int) ≤ hI hm (m + 10) s - 3
        · simp only [if_pos cr]
          exact lose
        · simp only [if_neg cr]
          by_cases ct : hI hm m 0 < tm k + lm
          · simp only [if_pos ct]
            by_cases cl : 0 ≤ hI hm (m + 11) s
            · simp only [if_pos cl, if_neg (show ¬ hI hm (m + 11) s < 0 by lia)]
              have le : hI hm (m + 11) s ≤ tm k + lm := by
                rcases hlt with z | z
                · lia
                · have := z k (Nat.le_refl _) hkn; rw [tk] at this; exact this
              simp only [if_pos le, sI_id (h := hm) (a := m + 11) (k := s) rfl]
              exact skip hc hm B (Or.inl ⟨rfl, rfl⟩) hltS
            · simp only [if_neg cl, if_pos (show hI hm (m + 11) s < 0 by lia)]
              refine skip _ _ (B.s1 (y := 8) (z := 11) hs (Or.inr ⟨rfl, rfl⟩)) (Or.inr ⟨tm k + lm, rfl, rfl⟩) (Or.inr (fun k' h1 h2 => ?_))
              rw [hI_sI, if_pos ⟨rfl, rfl⟩, hI_sI, if_neg (by lia), (K2.2.2.2.2.2.1 k' h2).2.1]
              have := T.2 k k' (by lia) h2
              lia
          · simp only [if_neg ct]
            exact lose
      · simp only [if_neg cm, if_neg (show ¬ (hI hm (m + 9) s = 0 ∧ mk k % 4 = 0) from fun z => cm z.2)]
        simp only [if_neg (show ¬ ((0 : Int) ≠ 0) by decide)]
        exact skip hc hm B (Or.inl ⟨rfl, rfl⟩) hltS
end
