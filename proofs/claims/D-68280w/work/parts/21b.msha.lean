/-! the model's Seals: a part of a digest -/
theorem m_padd {s : Nat} {h : Hp} (L : LSeals h s) : wp (f_mSeals_part_b248_lp FU s 0 h) (fun h' => ∀ i, i < 8 → hJ h' (s + 7) i = lAnd (w64 (hJ h (s + 7) i + hJ h (s + 8) i)) 4294967295) := by
  have e := lq_mSeals_part_b248 (v0 := s) FU 0 h (by omega) (by unfold FU; omega) (by omega) (by rw [L.r6]; omega) (by rw [L.r6, L.l7]; intro j _ hj; exact ⟨by omega, by omega⟩) (by rw [L.r7]; omega) (by rw [L.r7, L.l8]; intro j _ hj; exact ⟨by omega, by omega⟩) (by rw [L.r6, L.l7]; intro j _ hj; exact ⟨by omega, by omega⟩) (by rw [L.r6, L.r7]; omega)
  have e' : f_mSeals_part_b248_lp FU s 0 h = _ := e
  rw [e', L.r6, L.r7]
  unfold lx_mSeals_part_b248
  rw [wp_some]
  intro i hi
  rw [hJ_fJ, if_pos ⟨rfl, by omega, by omega⟩]
  simp only [Nat.sub_zero]
theorem MCs.of {h h' : Hp} {s : Nat} (M : MCs h s) (e1 : ∀ k, hJ h' (s + 1) k = hJ h (s + 1) k) (e2 : ∀ k, hJ h' (s + 2) k = hJ h (s + 2) k) : MCs h' s := ⟨fun i hi => (e1 i).trans (M.1 i hi), fun i hi => (e2 i).trans (M.2 i hi)⟩
theorem m_prounds {s : Nat} {W H : Nat → BitVec 32} (n : Nat) : ∀ (t : Nat) (h : Hp), LSeals h s → MCs h s → t ≤ 64 → 64 - t < n → (∀ j, j < 64 → bv (hJ h (s + 6) j) = W j) → MS h s (shN W H t) t → (∀ i, i < 8 → bv (hJ h (s + 7) i) = H i) → wp (f_mSeals_part_b229_lp n s (t : Int) h) (fun h' => ∀ i, i < 8 → bv (hJ h' (s + 7) i) = H i + shN W H 64 i ∧ inw (hJ h' (s + 7) i)) := by
  induction n with
  | zero => intro t h _ _ _ hn; omega
  | succ n ih =>
    intro t h L M ht hn hW hS hH
    show wp (f_mSeals_part_b229 (f_mSeals_part_b229_lp n) s t h) _
    unfold f_mSeals_part_b229
    by_cases h64 : (64 : Int) ≤ t
    · rw [if_pos h64]
      have : t = 64 := by omega
      subst this
      refine wp_of (m_padd L) (fun h' _ q i hi => ?_)
      rw [q i hi]
      refine ⟨?_, (and32 _).2⟩
      have := (hS i hi).1
      rw [show (64 - 64 + i) % 8 = i by omega] at this
      rw [(and32 _).1, bv_w64, bv_add, hH i hi, this]
    · rw [if_neg h64]
      refine wp_b1o (m_round L M (by omega) (hW t (by omega)) hS) (fun h1 e q => ?_)
      have F : Fe (wI_mSeals_round s t h) (wJ_mSeals_round s t h) h h1 := fe_mSeals_round s t h _ e
      have nJ : ∀ x k, x ≠ s + 8 → hJ h1 x k = hJ h x k := fun x k hx => F.J (by simp only [wJ_mSeals_round, L.r7]; omega)
      have e1 : w32 ((t : Int) + 1) = ((t + 1 : Nat) : Int) := by unfold w32; omega
      rw [e1]
      clear e1
      exact ih (t + 1) h1 (L.fe F) (M.of (fun k => nJ _ k (by omega)) (fun k => nJ _ k (by omega))) (by omega) (by omega) (fun j hj => by rw [nJ _ _ (by omega)]; exact hW j hj) q (fun i hi => by rw [nJ _ _ (by omega)]; exact hH i hi)
theorem m_pcopy {s : Nat} {W H : Nat → BitVec 32} {h : Hp} (L : LSeals h s) (M : MCs h s) (hW : ∀ j, j < 64 → bv (hJ h (s + 6) j) = W j) (hH : ∀ i, i < 8 → bv (hJ h (s + 7) i) = H i ∧ inw (hJ h (s + 7) i)) : wp (f_mSeals_part_b203_lp FU s 0 h) (fun h' => ∀ i, i < 8 → bv (hJ h' (s + 7) i) = H i + shN W H 64 i ∧ inw (hJ h' (s + 7) i)) := by
  have e := lq_mSeals_part_b203 (v0 := s) FU 0 h (by omega) (by unfold FU; omega) (by omega) (by rw [L.r6]; omega) (by rw [L.r6, L.l7]; intro j _ hj; exact ⟨by omega, by omega⟩) (by rw [L.r7]; omega) (by rw [L.r7, L.l8]; intro j _ hj; exact ⟨by omega, by omega⟩) (by rw [L.r6, L.r7]; omega)
  have e' : f_mSeals_part_b203_lp FU s 0 h = _ := e
  rw [e', L.r6, L.r7]
  unfold lx_mSeals_part_b203
  have nJ : ∀ x k, x ≠ s + 8 → hJ (fJ h (s + 8) 0 0 8 fun j => hJ h (s + 7) j) x k = hJ h x k := fun x k hx => by rw [hJ_fJ, if_neg (fun z => hx z.1)]
  refine m_prounds FU 0 _ (L.of rfl rfl) (M.of (fun k => nJ _ k (by omega)) (fun k => nJ _ k (by omega))) (by omega) (by unfold FU; omega) (fun j hj => by rw [nJ _ _ (by omega)]; exact hW j hj) (fun j hj => ?_) (fun i hi => by rw [nJ _ _ (by omega)]; exact (hH i hi).1)
  rw [show (64 - 0 + j) % 8 = j by omega, hJ_fJ, if_pos ⟨rfl, by omega, by omega⟩]
  simp only [Nat.sub_zero]
  exact hH j hj
theorem bv_ls3 {x : Int} (h : inw x) : bv (lShr x 3) = bv x >>> 3 := bv_lShr h.1 h.2 (n := 3) (by decide)
theorem bv_ls10 {x : Int} (h : inw x) : bv (lShr x 10) = bv x >>> 10 := bv_lShr h.1 h.2 (n := 10) (by decide)
theorem m_s0 {x : Int} (h : inw x) : bv (lXor (lXor (RT 7 x) (RT 18 x)) (lShr x 3)) = sg0 (bv x) := by
  rw [bv_lXor, bv_lXor, show RT 7 x = RT ((7 : Nat) : Int) x from rfl, show RT 18 x = RT ((18 : Nat) : Int) x from rfl, (bv_RT h.1 h.2 (n := 7) (by decide) (by decide)).1, (bv_RT h.1 h.2 (n := 18) (by decide) (by decide)).1, bv_ls3 h]
  rfl
theorem m_s1 {x : Int} (h : inw x) : bv (lXor (lXor (RT 17 x) (RT 19 x)) (lShr x 10)) = sg1 (bv x) := by
  rw [bv_lXor, bv_lXor, show RT 17 x = RT ((17 : Nat) : Int) x from rfl, show RT 19 x = RT ((19 : Nat) : Int) x from rfl, (bv_RT h.1 h.2 (n := 17) (by decide) (by decide)).1, (bv_RT h.1 h.2 (n := 19) (by decide) (by decide)).1, bv_ls10 h]
  rfl
theorem m_word {p q r t : Int} (hp : 0 ≤ p ∧ p < 256) (hq : 0 ≤ q ∧ q < 256) (hr : 0 ≤ r ∧ r < 256) (ht : 0 ≤ t ∧ t < 256) : w64 (w64 (w64 (w64 (w64 (w64 (p * 256) + q) * 256) + r) * 256) + t) = ((p * 256 + q) * 256 + r) * 256 + t := by
  rw [w64_id (x := p * 256) ⟨by omega, by omega⟩, w64_id (x := p * 256 + q) ⟨by omega, by omega⟩, w64_id (x := (p * 256 + q) * 256) ⟨by omega, by omega⟩, w64_id (x := (p * 256 + q) * 256 + r) ⟨by omega, by omega⟩, w64_id (x := ((p * 256 + q) * 256 + r) * 256) ⟨by omega, by omega⟩, w64_id ⟨by omega, by omega⟩]
theorem m_psched {s fr : Nat} {H : Nat → BitVec 32} (hfr : fr + 64 ≤ 2400) (n : Nat) : ∀ (t : Nat) (h : Hp), LSeals h s → MCs h s → t ≤ 64 → 64 - t < n → (∀ j, j < 64 → 0 ≤ hI h (s + 5) (fr + j) ∧ hI h (s + 5) (fr + j) < 256) → (∀ j, j < t → bv (hJ h (s + 6) j) = sch (wd (fun j => hI h (s + 5) (fr + j))) j ∧ inw (hJ h (s + 6) j)) → (∀ i, i < 8 → bv (hJ h (s + 7) i) = H i ∧ inw (hJ h (s + 7) i)) →
    wp (f_mSeals_part_b2_lp n s (fr : Int) (t : Int) h) (fun h' => ∀ i, i < 8 → bv (hJ h' (s + 7) i) = shC H (fun j => hI h (s + 5) (fr + j)) i ∧ inw (hJ h' (s + 7) i)) := by
  induction n with
  | zero => intro t h _ _ _ hn; omega
  | succ n ih =>
    intro t h L M ht hn hB hw hH
    show wp (f_mSeals_part_b2 (f_mSeals_part_b2_lp n) s fr t h) _
    unfold f_mSeals_part_b2
    have l0 := L.1
    by_cases h64 : (64 : Int) ≤ t
    · rw [if_pos h64]
      exact m_pcopy L M (fun j hj => (hw j (by omega)).1) hH
    · rw [if_neg h64]
      have e1 : w32 ((t : Int) + 1) = ((t + 1 : Nat) : Int) := by unfold w32; omega
      -- what is written at t is right
      have step : ∀ v : Int, bv v = sch (wd (fun j => hI h (s + 5) (fr + j))) t → inw v → wp (f_mSeals_part_b195 (f_mSeals_part_b2_lp n) s fr t (sJ h (s + 6) t v)) (fun h' => ∀ i, i < 8 → bv (hJ h' (s + 7) i) = shC H (fun j => hI h (s + 5) (fr + j)) i ∧ inw (hJ h' (s + 7) i)) := by
        intro v hv hi
        unfold f_mSeals_part_b195
        rw [e1]
        clear e1
        refine ih (t + 1) (sJ h (s + 6) t v) (L.of rfl rfl) (M.of (fun k => by rw [hJ_sJ, if_neg (by omega)]) (fun k => by rw [hJ_sJ, if_neg (by omega)])) (by omega) (by omega) hB (fun j hj => ?_) (fun i hi => by rw [hJ_sJ, if_neg (by omega)]; exact hH i hi)
        rw [hJ_sJ]
        by_cases hjt : j = t
        · rw [if_pos ⟨rfl, hjt⟩, hjt]; exact ⟨hv, hi⟩
        · rw [if_neg (fun z => hjt z.2)]; exact hw j (by omega)
      clear e1
      by_cases h16 : (16 : Int) ≤ t
      · rw [if_pos h16]
        have e15 : w32 ((t : Int) - 15) = ((t - 15 : Nat) : Int) := by unfold w32; omega
        have e2 : w32 ((t : Int) - 2) = ((t - 2 : Nat) : Int) := by unfold w32; omega
        have e16 : w32 ((t : Int) - 16) = ((t - 16 : Nat) : Int) := by unfold w32; omega
        have e7 : w32 ((t : Int) - 7) = ((t - 7 : Nat) : Int) := by unfold w32; omega
        simp only [wp_some, wp_lt1, wp_b1, wp_b2, wp_ck, wp_cn, f_mSeals_right, L.r5, L.l6, e15, e2, e16, e7, Int.toNat_natCast]
        clear e15 e2 e16 e7
        have ee : ∀ n x, lAnd (lOr (lShr x n) (lShl x (w32 (32 - n)))) 4294967295 = RT n x := fun _ _ => rfl
        simp only [ee]
        repeat' apply And.intro
        any_goals omega
        refine step _ ?_ (and32 _).2
        rw [(and32 _).1, bv_w64, bv_add, bv_w64, bv_add, bv_w64, bv_add, m_s0 (hw _ (by omega)).2, m_s1 (hw _ (by omega)).2, (hw (t - 16) (by omega)).1, (hw (t - 15) (by omega)).1, (hw (t - 7) (by omega)).1, (hw (t - 2) (by omega)).1]
        exact (sch_ge (by omega)).symm
      · rw [if_neg h16]
        have e0 : w32 ((fr : Int) + w32 (4 * (t : Int))) = ((fr + 4 * t : Nat) : Int) := by unfold w32; omega
        have e2 : w32 (((fr + 4 * t : Nat) : Int) + 1) = ((fr + (4 * t + 1) : Nat) : Int) := by unfold w32; omega
        have e3 : w32 (((fr + 4 * t : Nat) : Int) + 2) = ((fr + (4 * t + 2) : Nat) : Int) := by unfold w32; omega
        have e4 : w32 (((fr + 4 * t : Nat) : Int) + 3) = ((fr + (4 * t + 3) : Nat) : Int) := by unfold w32; omega
        simp only [wp_some, wp_lt1, wp_b1, wp_b2, wp_ck, wp_cn, L.r4, L.l5, L.r5, L.l6, e0, e2, e3, e4, Int.toNat_natCast]
        clear e0 e2 e3 e4
        repeat' apply And.intro
        any_goals omega
        have b0 := hB (4 * t) (by omega)
        have b1 := hB (4 * t + 1) (by omega)
        have b2 := hB (4 * t + 2) (by omega)
        have b3 := hB (4 * t + 3) (by omega)
        rw [m_word b0 b1 b2 b3]
        refine step _ ?_ ?_
        · rw [sch_lt (by omega)]
          unfold wd
          rw [Int.emod_eq_of_lt b0.1 b0.2, Int.emod_eq_of_lt b1.1 b1.2, Int.emod_eq_of_lt b2.1 b2.2, Int.emod_eq_of_lt b3.1 b3.2]
        · unfold inw; omega
theorem m_part {s fr : Nat} {H : Nat → BitVec 32} {h : Hp} (hfr : fr + 64 ≤ 2400) (L : LSeals h s) (M : MCs h s) (hB : ∀ j, j < 64 → 0 ≤ hI h (s + 5) (fr + j) ∧ hI h (s + 5) (fr + j) < 256) (hH : ∀ i, i < 8 → bv (hJ h (s + 7) i) = H i ∧ inw (hJ h (s + 7) i)) : wp (f_mSeals_part s (fr : Int) h) (fun h' => ∀ i, i < 8 → bv (hJ h' (s + 7) i) = shC H (fun j => hI h (s + 5) (fr + j)) i ∧ inw (hJ h' (s + 7) i)) := by
  unfold f_mSeals_part
  exact m_psched hfr FU 0 h L M (by omega) (by unfold FU; omega) hB (fun j hj => by omega) hH
