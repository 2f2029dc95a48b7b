/-! guards: the model's tag -/
/-- all but the sealed row is as before -/
def SeF (s : Nat) (h h' : Hp) : Prop := (hR h' = hR h ∧ ln h' = ln h) ∧ ∀ x k, x ≠ s + 23 → hI h' x k = hI h x k
theorem SeF.tr {s : Nat} {h g h' : Hp} (F : SeF s h g) (G : SeF s g h') : SeF s h h' := ⟨⟨G.1.1.trans F.1.1, G.1.2.trans F.1.2⟩, fun x k hx => (G.2 x k hx).trans (F.2 x k hx)⟩
theorem SeF.sI {s k : Nat} {v : Int} {h g : Hp} (F : SeF s h g) : SeF s h (sI g (s + 23) k v) := ⟨F.1, fun x j hx => by rw [hI_sI, if_neg (fun z => hx z.1)]; exact F.2 x j hx⟩
theorem m_fil {s N : Nat} {B : Nat → Int} {h0 : Hp} (hN : f16 N ≤ 2400) (hB : ∀ j, N ≤ j → j < f16 N → B j = 0) (f : Nat) : ∀ (n : Nat) (h : Hp), N ≤ n → n ≤ f16 N → f16 N - n < f → LSeals h s → SeF s h0 h → (∀ j, j < n → hI h (s + 23) j = B j) → wp (f_mSeals_fill_b2_lp f s (n : Int) h) (fun o => o.1 = ((f16 N : Nat) : Int) ∧ SeF s h0 o.2 ∧ ∀ j, j < f16 N → hI o.2 (s + 23) j = B j) := by
  induction f with
  | zero => intro n h _ _ hf; omega
  | succ f ih =>
    intro n h h1 h2 hf L F Q
    have l0 := L.1
    show wp (f_mSeals_fill_b2 (f_mSeals_fill_b2_lp f) s (n : Int) h) _
    unfold f_mSeals_fill_b2
    have r1 : iRem (n : Int) 16 = ((n % 16 : Nat) : Int) := iRem_nat (n := 16) (by omega) (by omega) (by omega)
    simp only [r1]
    clear r1
    by_cases hm : n % 16 = 0
    · have : n = f16 N := by unfold f16 at *; omega
      rw [if_pos (by omega), wp_some]
      exact ⟨by rw [this], F, by rw [← this]; exact Q⟩
    · have hlt : n < f16 N := by
        rcases Nat.lt_or_ge n (f16 N) with z | z
        · exact z
        · have : n = f16 N := by omega
          unfold f16 at this; omega
      rw [if_neg (by omega), L.r24, L.l23, wp_cn]
      refine ⟨by omega, ?_⟩
      rw [wp_ck]
      refine ⟨ix16 (by omega), ?_⟩
      rw [wp_lt1, Int.toNat_natCast]
      simp only [w_k1 (show n < 1000000000 by omega)]
      refine ih (n + 1) _ (by omega) (by omega) (by omega) (L.of rsI lsI) F.sI (fun j hj => ?_)
      rw [hI_sI]
      by_cases e : j = n
      · rw [if_pos ⟨rfl, e⟩, hB j (by omega) (by omega)]
      · rw [if_neg (fun z => e z.2)]; exact Q j (by omega)
theorem m_fill {s N : Nat} {B : Nat → Int} {h : Hp} (L : LSeals h s) (hN : f16 N ≤ 2400) (hB : ∀ j, N ≤ j → j < f16 N → B j = 0) (Q : ∀ j, j < N → hI h (s + 23) j = B j) : wp (f_mSeals_fill s (N : Int) h) (fun o => o.1 = ((f16 N : Nat) : Int) ∧ SeF s h o.2 ∧ ∀ j, j < f16 N → hI o.2 (s + 23) j = B j) := by
  unfold f_mSeals_fill
  exact m_fil hN hB FU N h (Nat.le_refl _) (by unfold f16; omega) (by unfold FU; omega) L ⟨⟨rfl, rfl⟩, fun _ _ _ => rfl⟩ Q
theorem m_tg93 {s head body M : Nat} {K N B : Nat → Int} {h : Hp} (L : LSeals h s) (hM : M % 16 = 0) (hM2 : M + 16 ≤ 2400) (hh : head < 1000000) (hb : body < 1000000) (bB : ∀ j, j < M + 16 → 0 ≤ B j ∧ B j < 256) (hC : ∀ j, j < 16 → B (M + j) = CNT head body j) (Q : ∀ j, j < M → hI h (s + 23) j = B j) (hK : ∀ j, j < 32 → (0 ≤ hI h (s + 14) j ∧ hI h (s + 14) j < 256) ∧ hI h (s + 14) j % 256 = K j % 256) (hN : ∀ j, j < 12 → (0 ≤ hI h (s + 15) j ∧ hI h (s + 15) j < 256) ∧ hI h (s + 15) j % 256 = N j % 256) :
    wp (f_mSeals_tagOf_b93_lp FU s (head : Int) (M : Int) (body : Int) 0 h) (fun h' => ∀ j, j < 16 → hI h' (s + 22) j = byt (pAcc (pR_ (B0 K N)) B (M / 16 + 1) + le8 (B0 K N) 16 + le8 (B0 K N) 24 * 18446744073709551616) j) := by
  have l0 := L.1
  have ix1 : ∀ j : Nat, j < 16 → w32 ((M : Int) + (j : Int)) = ((M + j : Nat) : Int) := fun j hj => w_ck (by omega)
  have e := lq_mSeals_tagOf_b93 (v0 := s) (v3 := (head : Int)) (v6 := (body : Int)) (o := M) FU 0 h (by omega) (by unfold FU; omega) (by omega) (by rw [L.r24]; intro j _ _ _ _; omega) (by rw [L.r24, L.l23]; intro j _ hj _ _; rw [ix1 j hj]; exact ix16 (by omega)) (by rw [L.r24]; intro j _ _ _ _; omega) (by rw [L.r24, L.l23]; intro j _ hj _ _; rw [ix1 j hj]; exact ix16 (by omega)) (by rw [L.r24]; intro j _ _ _; omega) (by rw [L.r24, L.l23]; intro j _ hj _; rw [ix1 j hj]; exact ix16 (by omega))
  have e' : f_mSeals_tagOf_b93_lp FU s (head : Int) (M : Int) (body : Int) 0 h = _ := e
  rw [e', L.r24]
  clear e e' ix1
  unfold lx_mSeals_tagOf_b93
  generalize hE : (fun j : Nat => if iRem (j : Int) 8 ≤ 3 then (if 8 ≤ (j : Int) then iAnd (iShr (body : Int) (w32 (8 * iRem (j : Int) 8))) 255 else iAnd (iShr (head : Int) (w32 (8 * iRem (j : Int) 8))) 255) else 0) = E
  have hCe : ∀ j, j < 16 → E j = CNT head body j := fun j hj => by
    rw [← hE]
    show (if iRem (j : Int) 8 ≤ 3 then (if 8 ≤ (j : Int) then iAnd (iShr (body : Int) (w32 (8 * iRem (j : Int) 8))) 255 else iAnd (iShr (head : Int) (w32 (8 * iRem (j : Int) 8))) 255) else 0) = _
    have r1 : iRem (j : Int) 8 = ((j % 8 : Nat) : Int) := iRem_nat (n := 8) (by omega) (by omega) (by omega)
    have r2 : w32 (8 * ((j % 8 : Nat) : Int)) = ((8 * (j % 8) : Nat) : Int) := w_4k (c := 8) (by clear r1; omega)
    simp only [r1, r2]
    clear r1 r2
    unfold CNT
    by_cases g3 : j % 8 ≤ 3
    · rw [if_pos (by omega), if_pos g3]
      by_cases g8 : 8 ≤ j
      · rw [if_pos (by omega), if_pos g8, byte255, iShr_eq ⟨by omega, by omega⟩ (by omega)]
      · rw [if_neg (by omega), if_neg g8, byte255, iShr_eq ⟨by omega, by omega⟩ (by omega)]
    · rw [if_neg (by omega), if_neg g3]
  have L1 : LSeals (fI h (s + 23) M 0 16 E) s := L.of rfI lfI
  have Q1 : ∀ j, j < M + 16 → hI (fI h (s + 23) M 0 16 E) (s + 23) j = B j := fun j hj => by
    rw [hI_fI]
    by_cases g : M ≤ j
    · rw [if_pos ⟨rfl, by omega, by omega⟩, hCe _ (by omega), ← hC _ (by omega), show M + (j - M) = j by omega]
    · rw [if_neg (by omega)]; exact Q j (by omega)
  have E1 : ∀ x k, x ≠ s + 23 → hI (fI h (s + 23) M 0 16 E) x k = hI h x k := fun x k hx => by rw [hI_fI, if_neg (fun z => hx z.1)]
  generalize fI h (s + 23) M 0 16 E = h1 at *
  clear hCe hE
  refine wp_b1o (m_blockOf (cc := 0) (c := 0#32) (K := K) (N := N) L1 rfl (fun j hj => by rw [E1 _ _ (by omega)]; exact hK j hj) (fun j hj => by rw [E1 _ _ (by omega)]; exact hN j hj)) (fun h2 e2 q2 => ?_)
  have F2 := BkF.of L1 e2
  have ew : w32 ((M : Int) + 16) = ((16 * (M / 16 + 1) : Nat) : Int) := by unfold w32; omega
  simp only [ew]
  clear ew
  refine wp_b1o (m_tallyOf (K := B0 K N) (Z := B) (L1.of F2.1.1 F2.1.2) (by omega) (fun i hi => ?_) (fun j hj => bB j (by omega)) (fun j hj => by rw [F2.2 _ _ (by omega)]; exact Q1 j (by omega))) (fun h3 _ q3 => ?_)
  · rw [q2 i (by omega)]
    have := CHW_lt (CF K N 0#32) i
    exact ⟨this, by show _ = CHW (CF K N 0#32) i % 256; rw [Int.emod_eq_of_lt this.1 this.2]⟩
  · rw [wp_some]
    exact q3
