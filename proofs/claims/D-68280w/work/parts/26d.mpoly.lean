/-! Poly: the model's multiply, folded twice -/
theorem quart {p q : Int} (hp : 0 ≤ p ∧ p < 256) (hq : 0 ≤ q ∧ q < 256) : iOr (iShr p 2) (iShl (iAnd q 3) 6) = p / 4 + 64 * (q % 4) := by
  have e1 : iShr p 2 = p / 4 := iShr_eq (n := 2) ⟨by omega, by omega⟩ (by decide)
  have e2 : iAnd q 3 = q % 4 := iAnd_mask (n := 2) (by decide) rfl
  have e3 : iShl (q % 4) 6 = w32 (q % 4 * 64) := iShl_eq (n := 6) (by decide)
  rw [e1, e2, e3, w32_id (x := q % 4 * 64) ⟨by omega, by omega⟩, iOr_comm, iOr_add (n := 6) (by decide) (by rw [show (2 : Int) ^ 6 = 64 from rfl]; omega) (by omega) (by rw [show (2 : Int) ^ 6 = 64 from rfl]; omega), w32_id ⟨by omega, by omega⟩]
  omega
theorem m_b92 {s : Nat} {p : Nat → Int} {rnd : Int} {K : Nat → Int → Hp → Option Hp} {Q : Hp → Prop} (bp : dgs p 36) (hsz : dg (foD p) 36 < 256 ^ 36) (kk : ∀ h' D, LSeals h' s → AI h' (s + 19) D 36 → AI h' (s + 21) D 36 → dgs D 36 → dg D 36 = dg (foD p) 36 → wp (K s (w32 (rnd + 1)) h') Q) (f : Nat) : ∀ (k : Nat) (y : Int) (D : Nat → Int) (h : Hp), k ≤ 36 → 36 - k < f → LSeals h s → AI h (s + 21) p 36 → ChS h (s + 19) (foD p) D k y → 0 ≤ y ∧ y ≤ 5000 → wp (f_mSeals_multiply_b92_lp K f s y rnd (k : Int) h) Q := by
  induction f with
  | zero => intro k y D h _ hf; omega
  | succ f ih =>
    intro k y D h hk hf L P C hy
    have l0 := L.1
    show wp (f_mSeals_multiply_b92 K (f_mSeals_multiply_b92_lp K f) s y rnd (k : Int) h) Q
    unfold f_mSeals_multiply_b92
    by_cases h36 : (36 : Int) ≤ k
    · have : k = 36 := by omega
      subst this
      rw [if_pos h36]
      have e := lq_mSeals_multiply_b218 (k83 := K) (v0 := s) (v2 := rnd) FU 0 h (by omega) (by unfold FU; omega) (by omega) (by rw [L.r20]; omega) (by rw [L.r20, L.l19]; intro j _ hj; exact ix16 (by omega)) (by rw [L.r22]; omega) (by rw [L.r22, L.l21]; intro j _ hj; exact ix16 (by omega)) (by rw [L.r20, L.r22]; omega)
      have e' : f_mSeals_multiply_b218_lp K FU s rnd 0 h = _ := e
      rw [e', L.r20, L.r22]
      clear e e'
      unfold lx_mSeals_multiply_b218
      refine kk _ D (L.of rfI lfI) (fun i hi => by rw [hI_fI, if_neg (by omega)]; exact C.1 i hi) (fun i hi => by rw [hI_fI, if_pos ⟨rfl, by omega, by omega⟩]; exact C.1 i hi) C.2.1 (C.done hy.1 hsz)
    · rw [if_neg h36]
      have pb : ∀ i, i < 36 → 0 ≤ p i ∧ p i < 256 := bp
      have fin : ∀ lo hi_ : Int, lo = loD p k → hi_ = hiD p k → 0 ≤ lo ∧ lo < 256 → 0 ≤ hi_ ∧ hi_ < 256 → wp (f_mSeals_multiply_b182 K (f_mSeals_multiply_b92_lp K f) s y rnd (k : Int) hi_ lo h) Q := by
        intro lo hi_ e1 e2 b1 b2
        unfold f_mSeals_multiply_b182
        have e3 : w32 (y + w32 (lo + w32 (5 * hi_))) = y + foD p k := by
          unfold foD
          rw [← e1, ← e2]
          clear e1 e2 kk ih
          rw [w32_id (x := 5 * hi_) ⟨by omega, by omega⟩, w32_id (x := lo + 5 * hi_) ⟨by omega, by omega⟩, w32_id ⟨by omega, by omega⟩]
        have fb : 0 ≤ foD p k ∧ foD p k ≤ 1530 := by unfold foD; rw [← e1, ← e2]; omega
        rw [wp_lt1]
        simp only [e3, w_k1 (show k < 1000000000 by omega), Int.toNat_natCast]
        clear e3 e1 e2
        rw [L.r20, L.l19, wp_cn]
        refine ⟨by omega, ?_⟩
        rw [wp_ck]
        refine ⟨ix16 (by omega), ?_⟩
        rw [wp_lt1, wp_lt1]
        have C1 := C.s (v := iAnd (y + foD p k) 255) (sh8 (by omega)).1
        rw [(sh8 (y := y + foD p k) (by omega)).2]
        exact ih (k + 1) _ _ _ (by omega) (by omega) (L.of rsI lsI) (fun i hi => by rw [hI_sI, if_neg (by omega)]; exact P i hi) C1 (by omega)
      have mid : ∀ hi_ : Int, hi_ = hiD p k → 0 ≤ hi_ ∧ hi_ < 256 → wp (f_mSeals_multiply_b147 K (f_mSeals_multiply_b92_lp K f) s y rnd (k : Int) hi_ h) Q := by
        intro hi_ e2 b2
        unfold f_mSeals_multiply_b147
        rw [L.r22, L.l21, Int.toNat_natCast]
        by_cases h16 : (16 : Int) ≤ k
        · rw [if_pos h16]
          by_cases e16 : (k : Int) ≠ 16
          · rw [if_pos e16]
            exact fin 0 hi_ (by unfold loD; rw [if_neg (by omega), if_neg (by omega)]) e2 (by decide) b2
          · have : k = 16 := by omega
            subst this
            rw [if_neg e16, wp_cn]
            refine ⟨by omega, ?_⟩
            rw [wp_ck]
            refine ⟨ix16 (by omega), ?_⟩
            rw [P 16 (by omega), show iAnd (p 16) 3 = p 16 % 4 from iAnd_mask (n := 2) (by decide) rfl]
            exact fin _ hi_ rfl e2 (by omega) b2
        · rw [if_neg h16, wp_cn]
          refine ⟨by omega, ?_⟩
          rw [wp_ck]
          refine ⟨ix16 (by omega), ?_⟩
          rw [P k (by omega)]
          exact fin _ hi_ (by unfold loD; rw [if_pos (by omega)]) e2 (pb k (by omega)) b2
      by_cases h18 : (18 : Int) ≤ k
      · rw [if_pos h18]
        exact mid 0 (by unfold hiD; rw [if_neg (by omega)]) (by decide)
      · have e1 : w32 (16 + (k : Int)) = ((16 + k : Nat) : Int) := w_ck (c := 16) (by omega)
        have e2 : w32 (17 + (k : Int)) = ((17 + k : Nat) : Int) := w_ck (c := 17) (by omega)
        simp only [e1, e2, Int.toNat_natCast]
        clear e1 e2
        rw [if_neg h18, L.r22, L.l21, wp_cn]
        refine ⟨by omega, ?_⟩
        rw [wp_ck]
        refine ⟨ix16 (by omega), ?_⟩
        rw [if_neg (by omega), wp_ck]
        refine ⟨ix16 (by omega), ?_⟩
        unfold f_mSeals_multiply_b139
        rw [P (16 + k) (by omega), P (17 + k) (by omega), quart (pb _ (by omega)) (pb _ (by omega))]
        have b1 := pb (16 + k) (by omega)
        have b2 := pb (17 + k) (by omega)
        exact mid _ (by unfold hiD; rw [if_pos (by omega)]) (by omega)
theorem m_b83 {s : Nat} {p : Nat → Int} {h : Hp} (L : LSeals h s) (P : AI h (s + 21) p 36) (bp : dgs p 36) (hN : dg p 36 < 57896044618658097711785492504343953926634992332820282019728792003956564819968) : wp (f_mSeals_multiply_b83_lp FU s 0 h) (fun h' => ∃ D, AI h' (s + 19) D 36 ∧ dgs D 36 ∧ dg D 36 < 1361129467683753853853498429727072845824 ∧ dg D 36 % PP = dg p 36 % PP) := by
  obtain ⟨f, hf⟩ : ∃ f, FU = f + 3 := ⟨999999997, rfl⟩
  rw [hf]
  clear hf
  have f36 : (256 : Int) ^ 34 ≤ 256 ^ 36 := by decide
  show wp (f_mSeals_multiply_b83 (f_mSeals_multiply_b83_lp (f + 2)) s 0 h) _
  unfold f_mSeals_multiply_b83
  rw [if_neg (by decide)]
  have s1 : dg (foD p) 36 < 256 ^ 36 := by
    have hq : (57896044618658097711785492504343953926634992332820282019728792003956564819968 : Int) ≤ 256 ^ 34 := by decide
    obtain ⟨H, h0, h1, h2, h3⟩ := fold_val bp (Int.lt_of_lt_of_le hN hq)
    clear hq
    have hp : (57896044618658097711785492504343953926634992332820282019728792003956564819968 : Int) ≤ 256 ^ 36 := by decide
    unfold PP at h1
    clear h2 h3 f36
    refine Int.lt_of_lt_of_le ?_ hp
    clear hp
    omega
  refine m_b92 bp s1 (fun h1 D1 L1 A1 P1 b1 v1 => ?_) FU 0 0 (fun _ => 0) h (by omega) (by unfold FU; omega) L P ⟨fun i hi => by omega, fun i hi => by omega, by show (0 : Int) + 0 * 1 = 0; decide⟩ (by decide)
  obtain ⟨g1, g2, g3⟩ := fold2 bp b1 hN v1
  rw [show w32 (0 + 1) = 1 from by decide]
  show wp (f_mSeals_multiply_b83 (f_mSeals_multiply_b83_lp (f + 1)) s 1 h1) _
  unfold f_mSeals_multiply_b83
  rw [if_neg (by decide)]
  have s2 : dg (foD D1) 36 < 256 ^ 36 := by
    exact Int.lt_of_lt_of_le g2 (by decide)
  refine m_b92 b1 s2 (fun h2 D2 L2 A2 P2 b2 v2 => ?_) FU 0 0 (fun _ => 0) h1 (by omega) (by unfold FU; omega) L1 P1 ⟨fun i hi => by omega, fun i hi => by omega, by show (0 : Int) + 0 * 1 = 0; decide⟩ (by decide)
  rw [show w32 (1 + 1) = 2 from by decide]
  show wp (f_mSeals_multiply_b83 (f_mSeals_multiply_b83_lp f) s 2 h2) _
  unfold f_mSeals_multiply_b83
  rw [if_pos (by decide), wp_some]
  exact ⟨D2, A2, b2, by rw [v2]; exact g2, by rw [v2]; exact g3⟩
theorem m_multiply {s : Nat} {r a : Nat → Int} {h : Hp} (L : LSeals h s) (R : AI h (s + 20) r 16) (A : AI h (s + 19) a 18) (br : dgs r 16) (ba : dgs a 18) (hr : dg r 16 < 21267647932558653966460912964485513216) (ha : dg a 18 < 2722258935367507707706996859454145691648) : wp (f_mSeals_multiply s h) (fun h' => ∃ D, AI h' (s + 19) D 36 ∧ dgs D 36 ∧ dg D 36 < 1361129467683753853853498429727072845824 ∧ dg D 36 % PP = (dg r 16 * dg a 18) % PP) := by
  have r0 := dg_lt 16 br
  have a0 := dg_lt 18 ba
  have m := mul_bd (x := dg r 16) (y := dg a 18) (A := 21267647932558653966460912964485513216 - 1) (B := 2722258935367507707706996859454145691648 - 1) r0.1 (by omega) a0.1 (by omega)
  have mN : dg r 16 * dg a 18 < 57896044618658097711785492504343953926634992332820282019728792003956564819968 := by
    have : (21267647932558653966460912964485513216 - 1 : Int) * (2722258935367507707706996859454145691648 - 1) < 57896044618658097711785492504343953926634992332820282019728792003956564819968 := by decide
    omega
  unfold f_mSeals_multiply
  refine m_b4 br ba (fun h' D L' P' b' v' => ?_) ?_ FU 0 0 (fun _ => 0) h (by omega) (by unfold FU; omega) L R A ⟨fun i hi => by omega, fun i hi => by omega, by show (0 : Int) + 0 * 1 = 0; decide⟩ (by decide)
  · rw [← v']
    exact m_b83 L' P' b' (by rw [v']; exact mN)
  · exact Int.lt_of_lt_of_le mN (by decide)
