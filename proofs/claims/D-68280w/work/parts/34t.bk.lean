/-! the book: an acknowledgement, the packets that arrived -/
/-- what is new, in the model's heap -/
def nwH (hm : Hp) (m s : Nat) (lo hi : Nat → Int) (N n i : Nat) : Prop := i < n ∧ hI hm (m + 4) (4096 * s + i) = 0 ∧ ∃ r, r < N ∧ inR lo hi r i
def AkS (hc hm : Hp) (a m s n N : Nat) (lo hi : Nat → Int) (w : Nat → Nat) (X Y : Nat) : Prop := BkR hc a w hm m ∧ hI hm (m + 1) s = (n : Int) ∧ hI hm (m + 9) s = 0 ∧ SnC hc a N lo hi ∧ SnM hm m N lo hi ∧ hN hc + bpot hc a ≤ X ∧ hZ hc + 2 * bpot hc a ≤ Y
section
variable {a m s n N : Nat} {lo hi : Nat → Int} {X Y : Nat} {v7 : Int}
theorem nwH_iff {hm : Hp} {tm sz mk : Nat → Int} {fo i : Nat} (K : PkM hm m s n tm sz mk fo) : nwH hm m s lo hi N n i ↔ newP lo hi mk N n i := by
  unfold nwH newP
  constructor
  · rintro ⟨h1, h2, h3⟩; exact ⟨h1, by rw [← (K.2.2.2.2.2.1 i h1).2.2.1]; exact h2, h3⟩
  · rintro ⟨h1, h2, h3⟩; exact ⟨h1, by rw [(K.2.2.2.2.2.1 i h1).2.2.1]; exact h2, h3⟩
theorem j_ak230 (hs : s < 3) (hX : X ≤ CN) (hY : Y ≤ CZ) (Sb : SnB N n lo hi) {r : Nat} (hr : r < N) (k207 : Nat → Int → Nat → Int → Int → Hp → Option (Int × Hp)) (KK : ∀ (hc hm : Hp) (w : Nat → Nat) (j G : Nat), AkS hc hm a m s n N lo hi w X Y → (∀ i, nwH hm m s lo hi N n i → j ≤ i ∧ ∃ r', r' < r ∧ inR lo hi r' i) → j ≤ n → n - j < G → ((j : Int) ≤ hi r + 1 ∨ (j : Int) ≤ hI hm (m + 8) s) → wp (k207 a (s : Int) (a + 6 + 11 * s) v7 (w32 ((r : Int) + (-1))) hc) (fun o => wp (f_mBook_acknowledge_b189_lp G m (s : Int) (j : Int) hm) (fun p => p.1 = 1 ∧ LsP hc a w m X Y o.2 p.2))) (F : Nat) : ∀ (k j G : Nat) (hc hm : Hp) (w : Nat → Nat), AkS hc hm a m s n N lo hi w X Y → lo r ≤ k → k ≤ n → n - k < F → j ≤ k → ((k : Int) ≤ hi r + 1 ∨ (j : Int) ≤ hI hm (m + 8) s) → (∀ i, nwH hm m s lo hi N n i → j ≤ i ∧ ((∃ r', r' < r ∧ inR lo hi r' i) ∨ (inR lo hi r i ∧ k ≤ i))) → n - j < G → wp (f_cBook_acknowledge_b230_lp k207 F a (s : Int) (a + 6 + 11 * s) v7 (r : Int) (k : Int) hc) (fun o => wp (f_mBook_acknowledge_b189_lp G m (s : Int) (j : Int) hm) (fun p => p.1 = 1 ∧ LsP hc a w m X Y o.2 p.2)) := by
  induction F with
  | zero => intro k j G hc hm w _ _ _ hf; lia
  | succ F ih =>
    intro k j G hc hm w A hlo hkn hf hjk Hk V hG
    show wp (f_cBook_acknowledge_b230 k207 (f_cBook_acknowledge_b230_lp k207 F) a (s : Int) (a + 6 + 11 * s) v7 (r : Int) (k : Int) hc) _
    obtain ⟨B, hn, d, Sc, Sm, rN, rZ⟩ := id A
    obtain ⟨tm, sz, mk, fo, W, K1, K2, Q, S, T⟩ := SpR.opn B hs hn
    have L := B.1.1
    have LM := B.1.2
    have a0 := L.1
    have m0 := LM.1
    have nb := K2.2.2.2.1
    have Nb := Sb.1
    have bb := Sb.2.2 r hr
    have z5 : ¬ (a + 5 = 0) := by lia
    have p0 : ¬ (a + 6 + 11 * s = 0) := by lia
    have x1 : ix (r : Int) 64 := ⟨by lia, by lia⟩
    have dd : hI hc (a + 6 + 11 * s) 10 = 0 := by rw [S.1.1]; exact d
    unfold f_cBook_acknowledge_b230 f_cBook_acknowledge_b260
    rw [L.r0_9, if_neg z5, L.l5, if_pos x1, Int.toNat_natCast, (Sc r hr).2]
    by_cases c : hi r < k
    · rw [if_pos c]
      refine KK hc hm w j G A (fun i hi' => ⟨(V i hi').1, ?_⟩) (by lia) hG (Hk.imp (fun z => by lia) id)
      rcases (V i hi').2 with h | ⟨h1, h2⟩
      · exact h
      · unfold inR at h1; lia
    · have hk : k < n := by lia
      have ink : inR lo hi r k := ⟨hlo, by lia⟩
      have wk := w_k1 (show k < 1000000000 by lia)
      rw [if_neg c, if_neg p0, c_state W K1 hk dd, b2_some]
      by_cases cm : mk k % 4 = 0
      · rw [if_neg (fun z => z cm)]
        have ok : hI hm (m + 4) (4096 * s + k) = 0 := by rw [(K2.2.2.2.2.2.1 k hk).2.2.1]; exact cm
        refine wp_b1o (j_done B hs hn hk d ok hX hY rN rZ) (fun hc' _ q => ?_)
        obtain ⟨hm1, e1, hm', e2, w', R1, R2, R3, R4, R5, R6, D⟩ := q
        have DM := D.2.1
        have am : ∀ x y, x ≠ m + 4 → x ≠ m + 8 → x ≠ m + 12 → x ≠ m + 13 → x ≠ m → hI hm' x y = hI hm x y := fun x y h1 h2 h3 h4 h5 => DM x y (fun z => h1 z.1) (fun z => h2 z.1) h3 (fun z => h4 z.1) (fun z => h5 z.1)
        have wa := B.2.2.1
        have bw := B.2.1
        have A' : AkS hc' hm' a m s n N lo hi w' X Y := by
          refine ⟨R1, by rw [am _ _ (by lia) (by lia) (by lia) (by lia) (by lia)]; exact hn, by rw [am _ _ (by lia) (by lia) (by lia) (by lia) (by lia)]; exact d, fun i hi' => ?_, ⟨by rw [DM _ _ (by lia) (by lia) (by lia) (by lia) (by lia)]; exact Sm.1, fun i hi' => by rw [D.1.j]; exact Sm.2 i hi'⟩, R4, R5⟩
          rw [R3.j (bw _ (by lia)) (fun z => by rcases z with z | z; rw [wa.2.2.2.2.1] at z; lia; lia), R3.j (bw _ (by lia)) (fun z => by rcases z with z | z; rw [wa.2.2.2.2.2] at z; lia; lia)]
          exact Sc i hi'
        -- the model goes on to k, finds it, goes on
        obtain ⟨G', hG'⟩ : ∃ G', G = (G' + 1) + (k - j) := ⟨G - (k - j) - 1, by lia⟩
        have nk : newP lo hi mk N n k := ⟨hk, cm, r, hr, ink⟩
        obtain ⟨v, ev, v01, vn⟩ := m_isNew K2 Sm (by lia) d hk
        have em : f_mBook_acknowledge_b189_lp G m (s : Int) (j : Int) hm = f_mBook_acknowledge_b189_lp G' m (s : Int) ((k + 1 : Nat) : Int) hm' := by
          rw [hG', m_catch K2 Sm (by lia) d (k - j) j (by lia) (fun i h1 h2 z => ?_), show j + (k - j) = k by lia]
          · show f_mBook_acknowledge_b189 (f_mBook_acknowledge_b189_lp G') m (s : Int) (k : Int) hm = _
            unfold f_mBook_acknowledge_b189 f_mBook_acknowledge_b233
            have z1 : ¬ (m + 1 = 0) := by lia
            have xs : ix (s : Int) 3 := ⟨by lia, by lia⟩
            simp only [LM.r0_3, LM.l1, if_neg z1, if_pos xs, Int.toNat_natCast, K2.2.1, if_neg (show ¬ ((n : Int) ≤ k) by lia), ev, b2_some, vn.mpr nk, if_pos (show (1 : Int) ≠ 0 by decide), e1, b1_some, e2, wk]
          · rcases (V i ((nwH_iff K2).mpr z)).2 with ⟨r', h3, h4⟩ | ⟨h3, h4⟩
            · have := Sb.lt h3 hr ink h4; lia
            · lia
        rw [em, wk]
        refine wp_of (ih (k + 1) (k + 1) G' hc' hm' w' A' (by lia) (by lia) (by lia) (Nat.le_refl _) (Or.inl (by lia)) (fun i hi' => ?_) (by lia)) (fun o _ q => wp_of q (fun p _ q => ⟨q.1, LsP.tr R6 (fun x hx hz => by
          rcases R2 x hx with z | z
          · rw [← z]; exact hz
          · exact absurd z.2 hz) R3.1 q.2⟩))
        obtain ⟨i1, i2, i3⟩ := hi'
        have ik : i ≠ k := fun z => by rw [z, D.2.2.1] at i2; exact absurd i2 (by decide)
        have io : nwH hm m s lo hi N n i := ⟨i1, by rw [← DM (m + 4) _ (by lia) (by lia) (by lia) (by lia) (by lia)]; exact i2, i3⟩
        rcases (V i io).2 with ⟨r', h3, h4⟩ | ⟨h3, h4⟩
        · have := Sb.lt h3 hr ink h4
          exact ⟨by lia, Or.inl ⟨r', h3, h4⟩⟩
        · exact ⟨by lia, Or.inr ⟨h3, by lia⟩⟩
      · rw [if_pos cm, wk]
        refine ih (k + 1) j G hc hm w A (by lia) (by lia) (by lia) (by lia) (Or.inl (by lia)) (fun i hi' => ⟨(V i hi').1, ?_⟩) hG
        rcases (V i hi').2 with h | ⟨h1, h2⟩
        · exact Or.inl h
        · refine Or.inr ⟨h1, ?_⟩
          have ik : i ≠ k := fun z => by
            have := ((nwH_iff K2).mp hi').2.1
            rw [z] at this; exact cm this
          lia
theorem j_ak207 (hs : s < 3) (hX : X ≤ CN) (hY : Y ≤ CZ) (Sb : SnB N n lo hi) (F : Nat) : ∀ (r j G : Nat) (hc hm : Hp) (w : Nat → Nat), r ≤ N → r < F → AkS hc hm a m s n N lo hi w X Y → (∀ i, nwH hm m s lo hi N n i → j ≤ i ∧ ∃ r', r' < r ∧ inR lo hi r' i) → j ≤ n → n - j < G → (r ≠ 0 → (j : Int) ≤ lo (r - 1) ∨ (j : Int) ≤ hI hm (m + 8) s) → wp (f_cBook_acknowledge_b207_lp F a (s : Int) (a + 6 + 11 * s) v7 ((r : Int) - 1) hc) (fun o => wp (f_mBook_acknowledge_b189_lp G m (s : Int) (j : Int) hm) (fun p => p.1 = 1 ∧ LsP hc a w m X Y o.2 p.2)) := by
  induction F with
  | zero => intro r j G hc hm w _ hf; lia
  | succ F ih =>
    intro r j G hc hm w hrN hf A V hj hG J
    show wp (f_cBook_acknowledge_b207 (f_cBook_acknowledge_b207_lp F) a (s : Int) (a + 6 + 11 * s) v7 ((r : Int) - 1) hc) _
    obtain ⟨B, hn, d, Sc, Sm, rN, rZ⟩ := id A
    obtain ⟨tm, sz, mk, fo, W, K1, K2, Q, S, T⟩ := SpR.opn B hs hn
    have L := B.1.1
    have LM := B.1.2
    have a0 := L.1
    have m0 := LM.1
    have nb := K2.2.2.2.1
    have Nb := Sb.1
    unfold f_cBook_acknowledge_b207
    by_cases c : r = 0
    · rw [if_pos (by lia)]
      obtain ⟨G', hG'⟩ : ∃ G', G = (G' + 1) + (n - j) := ⟨G - (n - j) - 1, by lia⟩
      have em : f_mBook_acknowledge_b189_lp G m (s : Int) (j : Int) hm = (b1 (f_mBook_losses m (s : Int) hm) fun h31 => lt1 (sI h31 m 23 0) fun h33 => some (1, h33)) := by
        rw [hG', m_catch K2 Sm (by lia) d (n - j) j (by lia) (fun i h1 h2 z => ?_), show j + (n - j) = n by lia]
        · show f_mBook_acknowledge_b189 (f_mBook_acknowledge_b189_lp G') m (s : Int) (n : Int) hm = _
          unfold f_mBook_acknowledge_b189
          have z1 : ¬ (m + 1 = 0) := by lia
          have xs : ix (s : Int) 3 := ⟨by lia, by lia⟩
          simp only [LM.r0_3, LM.l1, if_neg z1, if_pos xs, Int.toNat_natCast, K2.2.1, if_pos (show ((n : Int) ≤ n) by lia)]
        · obtain ⟨_, r', h3, _⟩ := V i ((nwH_iff K2).mpr z)
          lia
      rw [em]
      refine wp_b2o (j_losses B hs hX hY rN rZ) (fun x hc' _ q => ?_)
      obtain ⟨hm', e1, w', q1, q2, q3, q4, q5, q6⟩ := q
      dsimp only at q1 q3 q4 q5 q6
      rw [e1, b1_some, lt1_eq, lt1_eq, wp_some, wp_some]
      exact ⟨rfl, w', q1.bo ⟨by decide, by decide⟩, q2, q3, by rw [bpot_on (hc := hc') OnI.refl.s]; exact q4, by rw [bpot_on (hc := hc') OnI.refl.s]; exact q5, q6.tr (CmF.of OnI.refl.s (fun x y h1 h2 _ => by rw [hI_sI, if_neg (by lia)]))⟩
    · have e : (r : Int) - 1 = ((r - 1 : Nat) : Int) := by lia
      have hr : r - 1 < N := by lia
      have bb := Sb.2.2 (r - 1) hr
      have Db := Sb.2.1.1 (r - 1) hr
      have z4 : ¬ (a + 4 = 0) := by lia
      have p0 : ¬ (a + 6 + 11 * s = 0) := by lia
      have x1 : ix ((r - 1 : Nat) : Int) 64 := ⟨by lia, by lia⟩
      have fon := K1.2.2.2.1
      rw [e, if_neg (by lia), L.r0_8, if_neg z4, L.l4, if_pos x1, if_neg p0, lt1_eq, Int.toNat_natCast, (Sc (r - 1) hr).1, K1.2.1]
      obtain ⟨k0, hk0⟩ : ∃ k0 : Nat, max (lo (r - 1)) (fo : Int) = (k0 : Int) := ⟨(max (lo (r - 1)) (fo : Int)).toNat, by lia⟩
      rw [hk0, w32_id ⟨by lia, by have := fon.1; lia⟩]
      obtain ⟨F', hF', F9⟩ := fu_ex
      rw [← hF']
      -- where the model is: at most at the class's place
      have fo_new : ∀ i, nwH hm m s lo hi N n i → fo ≤ i := fun i hi' => by
        by_cases q : i < fo
        · exact absurd ((nwH_iff K2).mp hi').2.1 (fon.2.1 i q)
        · lia
      have fom : hI hm (m + 8) s = (fo : Int) := K2.2.2.1
      have J' := J c
      rw [fom] at J'
      refine j_ak230 hs hX hY Sb hr (f_cBook_acknowledge_b207_lp F) (fun hc' hm' w' j' G2 A' V' hj' hG2 Hj => ?_) F' k0 j G hc hm w A (by lia) (by have := fon.1; lia) (by lia) (by lia) (by rw [fom]; lia) (fun i hi' => ⟨(V i hi').1, ?_⟩) hG
      · have t := ih (r - 1) j' G2 hc' hm' w' (by lia) (by lia) A' V' hj' hG2 (fun z => Hj.imp (fun y => by have := Sb.2.1.2 (r - 1 - 1) (by lia); rw [show r - 1 - 1 + 1 = r - 1 by lia] at this; lia) id)
        have w1 : w32 (((r - 1 : Nat) : Int) + (-1)) = ((r - 1 : Nat) : Int) - 1 := by rw [w32_id ⟨by lia, by lia⟩]; lia
        rw [w1]; exact t
      · obtain ⟨r', h3, h4⟩ := (V i hi').2
        by_cases q : r' = r - 1
        · rw [q] at h4
          have := fo_new i hi'
          exact Or.inr ⟨h4, by unfold inR at h4; lia⟩
        · exact Or.inl ⟨r', by lia, h4⟩
end
