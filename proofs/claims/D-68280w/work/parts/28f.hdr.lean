/-! reading: headers, the model -/
theorem tn0 : Int.toNat 0 = 0 := rfl
theorem tn1 : Int.toNat 1 = 1 := rfl
theorem tn2 : Int.toNat 2 = 2 := rfl
theorem tn3 : Int.toNat 3 = 3 := rfl
theorem tn4 : Int.toNat 4 = 4 := rfl
theorem tn5 : Int.toNat 5 = 5 := rfl
theorem tn6 : Int.toNat 6 = 6 := rfl
theorem tn7 : Int.toNat 7 = 7 := rfl
theorem tn8 : Int.toNat 8 = 8 := rfl
theorem tn9 : Int.toNat 9 = 9 := rfl
theorem ixs {i n : Nat} : ix (OfNat.ofNat i : Int) n ↔ i < n := by
  show (0 ≤ ((i : Nat) : Int) ∧ ((i : Nat) : Int) < n) ↔ _
  lia
theorem BRm.b {h : Hp} {r e : Nat} {B : Nat → Int} (hB : BRm h r e B) {j : Nat} (hj : j < e) : 0 ≤ B j ∧ B j < 256 := (hB j hj).1
/-- the model's header D and wire w, of the pair M -/
def MHd (h : Hp) (M w D : Nat) : Prop := (M ≠ w ∧ M ≠ D ∧ D ≠ w ∧ D ≠ 0 ∧ w ≠ 0) ∧ hR h M 22 = w ∧ hR h M 19 = D ∧ ln h D = 10
theorem MHd.of {h h' : Hp} {M w D : Nat} (L : MHd h M w D) (e1 : ∀ k, hR h' M k = hR h M k) (e2 : ln h' D = ln h D) : MHd h' M w D := by unfold MHd at *; grind
section
variable {h : Hp} {M w D r q e frm : Nat} {B : Nat → Int}
theorem MHd.r22 (L : MHd h M w D) : hR h M 22 = w := L.2.1
theorem MHd.r19 (L : MHd h M w D) : hR h M 19 = D := L.2.2.1
theorem MHd.l (L : MHd h M w D) : ln h D = 10 := L.2.2.2
theorem m_hdL {kind : Int} {to toS by_ byS : Nat} (L : MHd h M w D) (R : RD h w r q e false) (hB : BRm h r e B) (n2 : D ≠ r) (c : hI h D 0 = kind ∧ hI h D 3 = frm ∧ hI h D 6 = to ∧ hI h D 7 = toS ∧ hI h D 8 = by_ ∧ hI h D 9 = byS) : wp (f_mP_reads_b257 M (e : Int) h) (hdQm (hdL B frm e q kind to toS by_ byS) frm D) := by
  have sm := R.sm
  have rn := R.rn
  have ⟨⟨d1, d2, d3, d4, d5⟩, _⟩ := L
  unfold f_mP_reads_b257 hdL
  rw [L.r22, wp_cn]
  refine ⟨d5, wp_b2e (m_number R hB) ?_⟩
  simp only [hR_adv, L.r22, L.r19, ln_adv, L.l, hR_sI, ln_sI, tn0, tn1, tn2, tn3, tn4, tn5, tn6, tn7, tn8, tn9]
  rw [wp_cn]
  refine ⟨d5, ?_⟩
  by_cases g : nB B q e false = true
  · rw [if_pos (by grind [hI_sI, hI_sJ, hI_sR, hI_adv, hJ_sI, hJ_sJ, hJ_sR, hJ_adv, hR_sI, hR_sJ, hR_sR, hR_adv, ln_sI, ln_sJ, ln_sR, ln_adv, bi]), if_pos g, wp_some]; rfl
  · have g' : nB B q e false = false := by simpa using g
    have le : q + nsz B q ≤ e := by have := nsz_pos B q; unfold nB at g'; simp at g'; lia
    have vl := nvl_lt B q
    rw [if_neg (by grind [hI_sI, hI_sJ, hI_sR, hI_adv, hJ_sI, hJ_sJ, hJ_sR, hJ_adv, hR_sI, hR_sJ, hR_sR, hR_adv, ln_sI, ln_sJ, ln_sR, ln_adv, bi]), if_neg g, nV_g g', g', nA_f le]
    by_cases c1 : nvl B q < 20
    · rw [if_pos c1, if_pos c1, wp_some]; rfl
    · rw [if_neg c1, if_neg c1]
      have i1 : hI (adv h w (q + nsz B q) false) w 1 = ((q + nsz B q : Nat) : Int) := by grind [hI_sI, hI_sJ, hI_sR, hI_adv, hJ_sI, hJ_sJ, hJ_sR, hJ_adv, hR_sI, hR_sJ, hR_sR, hR_adv, ln_sI, ln_sJ, ln_sR, ln_adv, bi]
      rw [i1, w_em le sm]
      by_cases c2 : nvl B q ≤ ((e - (q + nsz B q) : Nat) : Int)
      · rw [if_pos c2, if_neg (show ¬ (((e - (q + nsz B q) : Nat) : Int) < nvl B q) by lia)]
        have i2 : hI (sI (adv h w (q + nsz B q) false) D 4 ((q + nsz B q : Nat) : Int)) w 1 = ((q + nsz B q : Nat) : Int) := by grind [hI_sI, hI_sJ, hI_sR, hI_adv, hJ_sI, hJ_sJ, hJ_sR, hJ_adv, hR_sI, hR_sJ, hR_sR, hR_adv, ln_sI, ln_sJ, ln_sR, ln_adv, bi]
        have w1 : w32 (((q + nsz B q : Nat) : Int) + w32 (nvl B q)) = ((q + nsz B q + (nvl B q).toNat : Nat) : Int) := by
          rw [show nvl B q = (((nvl B q).toNat : Nat) : Int) by lia]
          exact w_wn (by lia)
        simp only [wp_cn, wp_ck, wp_lt1, wp_some, hI_sI, hJ_sJ, hR_sR, hI_sJ, hI_sR, hJ_sI, hJ_sR, hR_sI, hR_sJ, ln_sI, ln_sJ, ln_sR, kd_sI, kd_sJ, kd_sR, hN_sI, hN_sJ, hN_sR, hZ_sI, hZ_sJ, hZ_sR, hR_adv, hJ_adv, ln_adv, hN_adv, hZ_adv, ne_eq, not_false_eq_true, true_and, and_false, false_and, and_true, if_false, if_true, and_self, ixs, Nat.reduceEqDiff, Int.toNat_natCast, tn0, tn1, tn2, tn3, tn4, tn5, tn6, tn7, tn8, tn9, L.r22, L.r19, L.l, d4, d5, i1, w1]
        unfold hdQm
        grind [hI_sI, hI_sJ, hI_sR, hI_adv, hJ_sI, hJ_sJ, hJ_sR, hJ_adv, hR_sI, hR_sJ, hR_sR, hR_adv, ln_sI, ln_sJ, ln_sR, ln_adv, bi]
      · rw [if_neg c2, if_pos (show ((e - (q + nsz B q) : Nat) : Int) < nvl B q by lia), wp_some]; rfl
theorem m_hdNm {p : Nat} (L : MHd h M w D) (R : RD h w r p e false) (hB : BRm h r e B) (n2 : D ≠ r) {v : Nat} (hv : v = 6 ∨ v = 8) : wp (f_mP_readsName M (v : Int) h) (fun o => (o.1 = 0 ∧ (e < p + 1 ∨ 20 < B p ∨ e < p + 1 + (B p).toNat)) ∨ (o.1 = 1 ∧ p + 1 + (B p).toNat ≤ e ∧ B p ≤ 20 ∧ o.2 = sI (sI (adv h w (p + 1 + (B p).toNat) false) D v ((p + 1 : Nat) : Int)) D (v + 1) (((B p).toNat : Nat) : Int))) := by
  have sm := R.sm
  have rn := R.rn
  have ⟨⟨d1, d2, d3, d4, d5⟩, _⟩ := L
  unfold f_mP_readsName
  rw [L.r22, wp_cn]
  have mt := m_take R hB (n := 1) (by decide)
  refine ⟨d5, wp_b2e mt ?_⟩
  clear mt
  simp only [hR_adv, L.r22, L.r19, wp_lt1, ln_adv]
  rw [wp_cn]
  refine ⟨d5, ?_⟩
  by_cases l1 : e < p + 1
  · rw [if_pos (by have := pB_t l1; grind [hI_sI, hI_sJ, hI_sR, hI_adv, hJ_sI, hJ_sJ, hJ_sR, hJ_adv, hR_sI, hR_sJ, hR_sR, hR_adv, ln_sI, ln_sJ, ln_sR, ln_adv, bi]), wp_some]
    exact Or.inl ⟨rfl, Or.inl l1⟩
  · have p1 : pB p e false 1 = false := pB_f (by lia)
    have bb := hB.b (j := p) (by lia)
    rw [p1, pA_f p1, be1 bb.1 bb.2, if_neg (by grind [hI_sI, hI_sJ, hI_sR, hI_adv, hJ_sI, hJ_sJ, hJ_sR, hJ_adv, hR_sI, hR_sJ, hR_sR, hR_adv, ln_sI, ln_sJ, ln_sR, ln_adv, bi])]
    simp only [Bool.false_eq_true, if_false]
    have w1 : w32 (B p) = (((B p).toNat : Nat) : Int) := by rw [w32_id ⟨by lia, by lia⟩]; lia
    rw [w1]
    by_cases l2 : 20 < B p
    · rw [if_neg (by lia), wp_some]
      exact Or.inl ⟨rfl, Or.inr (Or.inl l2)⟩
    · rw [if_pos (show (((B p).toNat : Nat) : Int) ≤ 20 by lia)]
      have R1 := R.adv (at' := p + 1) (b' := false) (by lia)
      refine wp_b2e (m_pass R1 rfl) ?_
      have w2 : w32 ((v : Int) + 1) = ((v + 1 : Nat) : Int) := w_k1 (by lia)
      have x1 : ix (v : Int) 10 := ⟨by lia, by lia⟩
      have x2 : ix ((v + 1 : Nat) : Int) 10 := ⟨by lia, by lia⟩
      simp only [wp_cn, wp_ck, wp_lt1, wp_some, hI_sI, hJ_sJ, hR_sR, hI_sJ, hI_sR, hJ_sI, hJ_sR, hR_sI, hR_sJ, ln_sI, ln_sJ, ln_sR, kd_sI, kd_sJ, kd_sR, hN_sI, hN_sJ, hN_sR, hZ_sI, hZ_sJ, hZ_sR, hR_adv, hJ_adv, ln_adv, hN_adv, hZ_adv, ne_eq, not_false_eq_true, true_and, and_false, false_and, and_true, if_false, if_true, and_self, ixs, Nat.reduceEqDiff, Int.toNat_natCast, tn0, tn1, tn2, tn3, tn4, tn5, tn6, tn7, tn8, tn9, L.r22, L.r19, L.l, d4, d5, w2, x1, x2, adv_adv]
      by_cases l3 : e < p + 1 + (B p).toNat
      · rw [if_pos (by have := pB_t l3; grind [hI_sI, hI_sJ, hI_sR, hI_adv, hJ_sI, hJ_sJ, hJ_sR, hJ_adv, hR_sI, hR_sJ, hR_sR, hR_adv, ln_sI, ln_sJ, ln_sR, ln_adv, bi]), wp_some]
        exact ⟨x1, x2, Or.inl ⟨rfl, Or.inr (Or.inr l3)⟩⟩
      · have p2 : pB (p + 1) e false (B p).toNat = false := pB_f (by lia)
        rw [p2, pA_f p2, if_neg (by grind [hI_sI, hI_sJ, hI_sR, hI_adv, hJ_sI, hJ_sJ, hJ_sR, hJ_adv, hR_sI, hR_sJ, hR_sR, hR_adv, ln_sI, ln_sJ, ln_sR, ln_adv, bi]), wp_some]
        exact ⟨x1, x2, Or.inr ⟨rfl, by lia, by lia, rfl⟩⟩
theorem m_rdL {Q : Int × Hp → Prop} {h0 : Hp} (L : MHd h0 M w D) (kk : ∀ h' K, (∀ x k, x ≠ D → hI h' x k = hI h0 x k) → hJ h' = hJ h0 → hR h' = hR h0 → ln h' = ln h0 → (∀ k, k < 10 → hI h' D k = 0) → wp (f_mP_reads_b15 K M (frm : Int) (e : Int) 10 h') Q) (f : Nat) : ∀ (k : Nat) (h' : Hp), k ≤ 10 → 10 - k < f → (∀ x k, x ≠ D → hI h' x k = hI h0 x k) → hJ h' = hJ h0 → hR h' = hR h0 → ln h' = ln h0 → (∀ j, j < k → hI h' D j = 0) → wp (f_mP_reads_b15_lp f M (frm : Int) (e : Int) (k : Int) h') Q := by
  induction f with
  | zero => intro k h' _ hf; lia
  | succ f ih =>
    intro k h' hk hf e1 e2 e3 e4 e5
    show wp (f_mP_reads_b15 (f_mP_reads_b15_lp f) M (frm : Int) (e : Int) (k : Int) h') Q
    by_cases hx : k = 10
    · subst hx
      exact kk h' _ e1 e2 e3 e4 e5
    · unfold f_mP_reads_b15
      have w1 : w32 ((k : Int) + 1) = ((k + 1 : Nat) : Int) := w_k1 (by lia)
      have x1 : ix (k : Int) 10 := ⟨by lia, by lia⟩
      rw [if_neg (by lia)]
      simp only [wp_cn, wp_ck, wp_lt1, wp_some, hI_sI, hJ_sJ, hR_sR, hI_sJ, hI_sR, hJ_sI, hJ_sR, hR_sI, hR_sJ, ln_sI, ln_sJ, ln_sR, kd_sI, kd_sJ, kd_sR, hN_sI, hN_sJ, hN_sR, hZ_sI, hZ_sJ, hZ_sR, hR_adv, hJ_adv, ln_adv, hN_adv, hZ_adv, ne_eq, not_false_eq_true, true_and, and_false, false_and, and_true, if_false, if_true, and_self, ixs, Nat.reduceEqDiff, Int.toNat_natCast, tn0, tn1, tn2, tn3, tn4, tn5, tn6, tn7, tn8, tn9, e3, e4, L.r19, L.l, L.1.2.2.2.1, w1]
      refine ⟨x1, ih (k + 1) _ (by lia) (by lia) (fun x j hx => by rw [hI_sI, if_neg (by lia)]; exact e1 x j hx) e2 e3 e4 (fun j hj => ?_)⟩
      rw [hI_sI]
      by_cases g : j = k
      · rw [if_pos ⟨rfl, g⟩]
      · rw [if_neg (by lia)]; exact e5 j (by lia)
theorem m_header (L : MHd h M w D) (hB : BRm h r e B) (hM : hR h M 18 = r) (n1 : r ≠ w) (n2 : D ≠ r) (n3 : r ≠ 0) (hl : e ≤ ln h r) (hs : e < 1000000) (hf : frm ≤ e) : wp (f_mP_reads M (frm : Int) (e : Int) h) (hdQm (hdS B frm e) frm D) := by
  have ⟨⟨d1, d2, d3, d4, d5⟩, _⟩ := L
  unfold f_mP_reads f_mWire_look
  simp only [wp_cn, wp_ck, wp_lt1, wp_some, hI_sI, hJ_sJ, hR_sR, hI_sJ, hI_sR, hJ_sI, hJ_sR, hR_sI, hR_sJ, ln_sI, ln_sJ, ln_sR, kd_sI, kd_sJ, kd_sR, hN_sI, hN_sJ, hN_sR, hZ_sI, hZ_sJ, hZ_sR, hR_adv, hJ_adv, ln_adv, hN_adv, hZ_adv, ne_eq, not_false_eq_true, true_and, and_false, false_and, and_true, if_false, if_true, and_self, ixs, Nat.reduceEqDiff, Int.toNat_natCast, tn0, tn1, tn2, tn3, tn4, tn5, tn6, tn7, tn8, tn9, wp_b1, L.r22, hM, d5]
  have R0 : RD (sI (sI (sI (sR h w 0 r) w 1 (frm : Int)) w 2 (e : Int)) w 3 0) w r frm e false := by unfold RD; grind [hI_sI, hI_sJ, hI_sR, hI_adv, hJ_sI, hJ_sJ, hJ_sR, hJ_adv, hR_sI, hR_sJ, hR_sR, hR_adv, ln_sI, ln_sJ, ln_sR, ln_adv, bi]
  have L0 : MHd (sI (sI (sI (sR h w 0 r) w 1 (frm : Int)) w 2 (e : Int)) w 3 0) M w D := L.of (fun k => by grind [hI_sI, hI_sJ, hI_sR, hI_adv, hJ_sI, hJ_sJ, hJ_sR, hJ_adv, hR_sI, hR_sJ, hR_sR, hR_adv, ln_sI, ln_sJ, ln_sR, ln_adv, bi]) (by grind [hI_sI, hI_sJ, hI_sR, hI_adv, hJ_sI, hJ_sJ, hJ_sR, hJ_adv, hR_sI, hR_sJ, hR_sR, hR_adv, ln_sI, ln_sJ, ln_sR, ln_adv, bi])
  have B0 : BRm (sI (sI (sI (sR h w 0 r) w 1 (frm : Int)) w 2 (e : Int)) w 3 0) r e B := hB.of (fun k => by grind [hI_sI, hI_sJ, hI_sR, hI_adv, hJ_sI, hJ_sJ, hJ_sR, hJ_adv, hR_sI, hR_sJ, hR_sR, hR_adv, ln_sI, ln_sJ, ln_sR, ln_adv, bi])
  generalize sI (sI (sI (sR h w 0 r) w 1 (frm : Int)) w 2 (e : Int)) w 3 0 = h1 at *
  refine m_rdL L0 (fun h2 K e1 e2 e3 e4 e5 => ?_) FU 0 h1 (by lia) (by unfold FU; lia) (fun _ _ _ => rfl) rfl rfl rfl (fun j hj => absurd hj (Nat.not_lt_zero j))
  have R1 : RD h2 w r frm e false := R0.of (fun k => e1 _ _ (by lia)) (by rw [e3]) (by rw [e4])
  have L1 : MHd h2 M w D := L0.of (fun k => by rw [e3]) (by rw [e4])
  have B1 : BRm h2 r e B := B0.of (fun k => e1 _ _ (by lia))
  clear R0 L0 B0 e1 e2 e3 e4 hB
  unfold f_mP_reads_b15 hdS
  rw [if_pos (by decide)]
  simp only [wp_cn, wp_ck, wp_lt1, wp_some, hI_sI, hJ_sJ, hR_sR, hI_sJ, hI_sR, hJ_sI, hJ_sR, hR_sI, hR_sJ, ln_sI, ln_sJ, ln_sR, kd_sI, kd_sJ, kd_sR, hN_sI, hN_sJ, hN_sR, hZ_sI, hZ_sJ, hZ_sR, hR_adv, hJ_adv, ln_adv, hN_adv, hZ_adv, ne_eq, not_false_eq_true, true_and, and_false, false_and, and_true, if_false, if_true, and_self, ixs, Nat.reduceEqDiff, Int.toNat_natCast, tn0, tn1, tn2, tn3, tn4, tn5, tn6, tn7, tn8, tn9, L1.r22, d5]
  have mt := m_take R1 B1 (n := 1) (by decide)
  refine wp_b2e mt ?_
  clear mt
  simp only [wp_cn, wp_ck, wp_lt1, wp_some, hI_sI, hJ_sJ, hR_sR, hI_sJ, hI_sR, hJ_sI, hJ_sR, hR_sI, hR_sJ, ln_sI, ln_sJ, ln_sR, kd_sI, kd_sJ, kd_sR, hN_sI, hN_sJ, hN_sR, hZ_sI, hZ_sJ, hZ_sR, hR_adv, hJ_adv, ln_adv, hN_adv, hZ_adv, ne_eq, not_false_eq_true, true_and, and_false, false_and, and_true, if_false, if_true, and_self, ixs, Nat.reduceEqDiff, Int.toNat_natCast, tn0, tn1, tn2, tn3, tn4, tn5, tn6, tn7, tn8, tn9, L1.r22, d5]
  by_cases l1 : e < frm + 1
  · rw [if_pos l1, if_pos (by have := pB_t l1; grind [hI_sI, hI_sJ, hI_sR, hI_adv, hJ_sI, hJ_sJ, hJ_sR, hJ_adv, hR_sI, hR_sJ, hR_sR, hR_adv, ln_sI, ln_sJ, ln_sR, ln_adv, bi]), wp_some]; rfl
  · have p1 : pB frm e false 1 = false := pB_f (by lia)
    have bb := B1.b (j := frm) (by lia)
    rw [if_neg l1, p1, pA_f p1, be1 bb.1 bb.2, if_neg (by grind [hI_sI, hI_sJ, hI_sR, hI_adv, hJ_sI, hJ_sJ, hJ_sR, hJ_adv, hR_sI, hR_sJ, hR_sR, hR_adv, ln_sI, ln_sJ, ln_sR, ln_adv, bi])]
    have w1 : w32 (B frm) = B frm := w32_id ⟨by lia, by lia⟩
    simp only [Bool.false_eq_true, if_false, w1]
    by_cases l2 : B frm / 64 % 2 = 0
    · rw [if_pos l2, if_neg (fun z => z ((iAnd64 bb.1 bb.2).mpr l2)), wp_some]; rfl
    · rw [if_neg l2, if_pos (fun z => l2 ((iAnd64 bb.1 bb.2).mp z))]
      simp only [wp_cn, wp_ck, wp_lt1, wp_some, hI_sI, hJ_sJ, hR_sR, hI_sJ, hI_sR, hJ_sI, hJ_sR, hR_sI, hR_sJ, ln_sI, ln_sJ, ln_sR, kd_sI, kd_sJ, kd_sR, hN_sI, hN_sJ, hN_sR, hZ_sI, hZ_sJ, hZ_sR, hR_adv, hJ_adv, ln_adv, hN_adv, hZ_adv, ne_eq, not_false_eq_true, true_and, and_false, false_and, and_true, if_false, if_true, and_self, ixs, Nat.reduceEqDiff, Int.toNat_natCast, tn0, tn1, tn2, tn3, tn4, tn5, tn6, tn7, tn8, tn9, L1.r19, L1.r22, L1.l, d4]
      refine ⟨by decide, ?_⟩
      have R2 : RD (sI (adv h2 w (frm + 1) false) D 3 (frm : Int)) w r (frm + 1) e false := (R1.adv (by lia)).sI (Or.inl d3)
      have B2 : BRm (sI (adv h2 w (frm + 1) false) D 3 (frm : Int)) r e B := B1.of (fun k => by grind [hI_sI, hI_sJ, hI_sR, hI_adv, hJ_sI, hJ_sJ, hJ_sR, hJ_adv, hR_sI, hR_sJ, hR_sR, hR_adv, ln_sI, ln_sJ, ln_sR, ln_adv, bi])
      have L2 : MHd (sI (adv h2 w (frm + 1) false) D 3 (frm : Int)) M w D := L1.of (fun k => by grind [hI_sI, hI_sJ, hI_sR, hI_adv, hJ_sI, hJ_sJ, hJ_sR, hJ_adv, hR_sI, hR_sJ, hR_sR, hR_adv, ln_sI, ln_sJ, ln_sR, ln_adv, bi]) (by grind [hI_sI, hI_sJ, hI_sR, hI_adv, hJ_sI, hJ_sJ, hJ_sR, hJ_adv, hR_sI, hR_sJ, hR_sR, hR_adv, ln_sI, ln_sJ, ln_sR, ln_adv, bi])
      have f3 : hI (sI (adv h2 w (frm + 1) false) D 3 (frm : Int)) D 3 = (frm : Int) := by grind [hI_sI, hI_sJ, hI_sR, hI_adv, hJ_sI, hJ_sJ, hJ_sR, hJ_adv, hR_sI, hR_sJ, hR_sR, hR_adv, ln_sI, ln_sJ, ln_sR, ln_adv, bi]
      have f8 : hI (sI (adv h2 w (frm + 1) false) D 3 (frm : Int)) D 8 = 0 := by have := e5 8 (by lia); grind [hI_sI, hI_sJ, hI_sR, hI_adv, hJ_sI, hJ_sJ, hJ_sR, hJ_adv, hR_sI, hR_sJ, hR_sR, hR_adv, ln_sI, ln_sJ, ln_sR, ln_adv, bi]
      have f9 : hI (sI (adv h2 w (frm + 1) false) D 3 (frm : Int)) D 9 = 0 := by have := e5 9 (by lia); grind [hI_sI, hI_sJ, hI_sR, hI_adv, hJ_sI, hJ_sJ, hJ_sR, hJ_adv, hR_sI, hR_sJ, hR_sR, hR_adv, ln_sI, ln_sJ, ln_sR, ln_adv, bi]
      generalize sI (adv h2 w (frm + 1) false) D 3 (frm : Int) = h3 at *
      clear R1 B1 L1 e5
      by_cases l3 : B frm < 128
      · rw [if_pos l3, if_neg (show ¬ (128 ≤ B frm) by lia)]
        simp only [wp_cn, wp_ck, wp_lt1, wp_some, hI_sI, hJ_sJ, hR_sR, hI_sJ, hI_sR, hJ_sI, hJ_sR, hR_sI, hR_sJ, ln_sI, ln_sJ, ln_sR, kd_sI, kd_sJ, kd_sR, hN_sI, hN_sJ, hN_sR, hZ_sI, hZ_sJ, hZ_sR, hR_adv, hJ_adv, ln_adv, hN_adv, hZ_adv, ne_eq, not_false_eq_true, true_and, and_false, false_and, and_true, if_false, if_true, and_self, ixs, Nat.reduceEqDiff, Int.toNat_natCast, tn0, tn1, tn2, tn3, tn4, tn5, tn6, tn7, tn8, tn9, L2.r19, L2.r22, L2.l, d4, d5]
        refine ⟨by decide, ?_⟩
        have R3 : RD (sI h3 D 0 4) w r (frm + 1) e false := R2.sI (Or.inl d3)
        refine wp_b2e (m_pass (n := 8) R3 rfl) ?_
        simp only [wp_cn, wp_ck, wp_lt1, wp_some, hI_sI, hJ_sJ, hR_sR, hI_sJ, hI_sR, hJ_sI, hJ_sR, hR_sI, hR_sJ, ln_sI, ln_sJ, ln_sR, kd_sI, kd_sJ, kd_sR, hN_sI, hN_sJ, hN_sR, hZ_sI, hZ_sJ, hZ_sR, hR_adv, hJ_adv, ln_adv, hN_adv, hZ_adv, ne_eq, not_false_eq_true, true_and, and_false, false_and, and_true, if_false, if_true, and_self, ixs, Nat.reduceEqDiff, Int.toNat_natCast, tn0, tn1, tn2, tn3, tn4, tn5, tn6, tn7, tn8, tn9, L2.r19, L2.r22, L2.l, d4, d5]
        refine ⟨by decide, by decide, by decide, ?_⟩
        have R4 : ∀ a b c : Int, RD (sI (sI (sI (adv (sI h3 D 0 4) w (pA (frm + 1) e false 8) (pB (frm + 1) e false 8)) D 6 a) D 7 b) D 4 c) w r (pA (frm + 1) e false 8) e (pB (frm + 1) e false 8) := fun a b c => (((R3.adv (pA_le R3.le)).sI (Or.inl d3)).sI (Or.inl d3)).sI (Or.inl d3)
        refine wp_b2e (m_pass (n := 20) (R4 _ _ _) rfl) ?_
        simp only [wp_cn, wp_ck, wp_lt1, wp_some, hI_sI, hJ_sJ, hR_sR, hI_sJ, hI_sR, hJ_sI, hJ_sR, hR_sI, hR_sJ, ln_sI, ln_sJ, ln_sR, kd_sI, kd_sJ, kd_sR, hN_sI, hN_sJ, hN_sR, hZ_sI, hZ_sJ, hZ_sR, hR_adv, hJ_adv, ln_adv, hN_adv, hZ_adv, ne_eq, not_false_eq_true, true_and, and_false, false_and, and_true, if_false, if_true, and_self, ixs, Nat.reduceEqDiff, Int.toNat_natCast, tn0, tn1, tn2, tn3, tn4, tn5, tn6, tn7, tn8, tn9, L2.r19, L2.r22, L2.l, d4, d5]
        refine ⟨by decide, ?_⟩
        by_cases l4 : e < frm + 1 + 8 + 20
        · have pp : pB (pA (frm + 1) e false 8) e (pB (frm + 1) e false 8) 20 = true := by unfold pB pA; grind [pB]
          rw [if_pos l4, if_neg (by grind [hI_sI, hI_sJ, hI_sR, hI_adv, hJ_sI, hJ_sJ, hJ_sR, hJ_adv, hR_sI, hR_sJ, hR_sR, hR_adv, ln_sI, ln_sJ, ln_sR, ln_adv, bi]), wp_some]; rfl
        · have p1 : pB (frm + 1) e false 8 = false := pB_f (by lia)
          have p2 : pB (frm + 1 + 8) e false 20 = false := pB_f (by lia)
          rw [if_neg l4, p1, pA_f p1, p2, pA_f p2, if_pos (by grind [hI_sI, hI_sJ, hI_sR, hI_adv, hJ_sI, hJ_sJ, hJ_sR, hJ_adv, hR_sI, hR_sJ, hR_sR, hR_adv, ln_sI, ln_sJ, ln_sR, ln_adv, bi]), wp_some]
          unfold hdQm
          grind [hI_sI, hI_sJ, hI_sR, hI_adv, hJ_sI, hJ_sJ, hJ_sR, hJ_adv, hR_sI, hR_sJ, hR_sR, hR_adv, ln_sI, ln_sJ, ln_sR, ln_adv, bi]
      · rw [if_neg l3, if_pos (show 128 ≤ B frm by lia)]
        simp only [wp_cn, wp_ck, wp_lt1, wp_some, hI_sI, hJ_sJ, hR_sR, hI_sJ, hI_sR, hJ_sI, hJ_sR, hR_sI, hR_sJ, ln_sI, ln_sJ, ln_sR, kd_sI, kd_sJ, kd_sR, hN_sI, hN_sJ, hN_sR, hZ_sI, hZ_sJ, hZ_sR, hR_adv, hJ_adv, ln_adv, hN_adv, hZ_adv, ne_eq, not_false_eq_true, true_and, and_false, false_and, and_true, if_false, if_true, and_self, ixs, Nat.reduceEqDiff, Int.toNat_natCast, tn0, tn1, tn2, tn3, tn4, tn5, tn6, tn7, tn8, tn9, L2.r19, L2.r22, L2.l, d4, d5, iShr4 bb.1 bb.2]
        refine ⟨by decide, ?_⟩
        have R3 : RD (sI h3 D 0 (B frm / 16 % 4)) w r (frm + 1) e false := R2.sI (Or.inl d3)
        have B3 : BRm (sI h3 D 0 (B frm / 16 % 4)) r e B := B2.of (fun k => by grind [hI_sI, hI_sJ, hI_sR, hI_adv, hJ_sI, hJ_sJ, hJ_sR, hJ_adv, hR_sI, hR_sJ, hR_sR, hR_adv, ln_sI, ln_sJ, ln_sR, ln_adv, bi])
        have L3 : MHd (sI h3 D 0 (B frm / 16 % 4)) M w D := L2.of (fun k => by grind [hI_sI, hI_sJ, hI_sR, hI_adv, hJ_sI, hJ_sJ, hJ_sR, hJ_adv, hR_sI, hR_sJ, hR_sR, hR_adv, ln_sI, ln_sJ, ln_sR, ln_adv, bi]) (by grind [hI_sI, hI_sJ, hI_sR, hI_adv, hJ_sI, hJ_sJ, hJ_sR, hJ_adv, hR_sI, hR_sJ, hR_sR, hR_adv, ln_sI, ln_sJ, ln_sR, ln_adv, bi])
        have g0 : hI (sI h3 D 0 (B frm / 16 % 4)) D 0 = B frm / 16 % 4 := by grind [hI_sI, hI_sJ, hI_sR, hI_adv, hJ_sI, hJ_sJ, hJ_sR, hJ_adv, hR_sI, hR_sJ, hR_sR, hR_adv, ln_sI, ln_sJ, ln_sR, ln_adv, bi]
        have g3 : hI (sI h3 D 0 (B frm / 16 % 4)) D 3 = (frm : Int) := by grind [hI_sI, hI_sJ, hI_sR, hI_adv, hJ_sI, hJ_sJ, hJ_sR, hJ_adv, hR_sI, hR_sJ, hR_sR, hR_adv, ln_sI, ln_sJ, ln_sR, ln_adv, bi]
        generalize sI h3 D 0 (B frm / 16 % 4) = h4 at *
        clear R2 B2 L2 f3 f8 f9
        have mt := m_take R3 B3 (n := 4) (by decide)
        refine wp_b2e mt ?_
        clear mt
        unfold hdN
        by_cases l4 : e < frm + 6
        · rw [if_pos l4]
          by_cases l5 : e < frm + 1 + 4
          · have p1 := pB_t l5
            simp only [p1, if_true]
            rw [if_pos (by decide), wp_some]; rfl
          · have p1 : pB (frm + 1) e false 4 = false := pB_f (by lia)
            rw [p1, pA_f p1]
            simp only [Bool.false_eq_true, if_false]
            by_cases l6 : w64 (be B (frm + 1) 4) = 1
            · rw [if_neg (fun z => z l6)]
              simp only [wp_cn, wp_ck, wp_lt1, wp_some, hI_sI, hJ_sJ, hR_sR, hI_sJ, hI_sR, hJ_sI, hJ_sR, hR_sI, hR_sJ, ln_sI, ln_sJ, ln_sR, kd_sI, kd_sJ, kd_sR, hN_sI, hN_sJ, hN_sR, hZ_sI, hZ_sJ, hZ_sR, hR_adv, hJ_adv, ln_adv, hN_adv, hZ_adv, ne_eq, not_false_eq_true, true_and, and_false, false_and, and_true, if_false, if_true, and_self, ixs, Nat.reduceEqDiff, Int.toNat_natCast, tn0, tn1, tn2, tn3, tn4, tn5, tn6, tn7, tn8, tn9, L3.r22, d5]
              rw [if_neg (by grind [hI_sI, hI_sJ, hI_sR, hI_adv, hJ_sI, hJ_sJ, hJ_sR, hJ_adv, hR_sI, hR_sJ, hR_sR, hR_adv, ln_sI, ln_sJ, ln_sR, ln_adv, bi])]
              have R4 := R3.adv (at' := frm + 1 + 4) (b' := false) (by lia)
              have L4 : MHd (adv h4 w (frm + 1 + 4) false) M w D := L3.of (fun k => rfl) rfl
              have B4 := B3.adv (w := w) (b := false) R3.ne (x := frm + 1 + 4)
              refine wp_b2o (m_hdNm L4 R4 B4 n2 (v := 6) (Or.inl rfl)) (fun rr h5 _ q => ?_)
              rcases q with q | q
              · rw [if_pos q.1, wp_some]; rfl
              · exact absurd q.2.1 (by lia)
            · rw [if_pos l6, wp_some]; rfl
        · have p1 : pB (frm + 1) e false 4 = false := pB_f (by lia)
          have b4 := be4 (B := B) (p := frm + 1) (fun j hj => B3.b (by lia))
          rw [if_neg l4, p1, pA_f p1, b4.1]
          simp only [Bool.false_eq_true, if_false]
          by_cases l6 : be B (frm + 1) 4 = 1
          · simp only [l6, ne_eq, not_true_eq_false, if_false]
            simp only [wp_cn, wp_ck, wp_lt1, wp_some, hI_sI, hJ_sJ, hR_sR, hI_sJ, hI_sR, hJ_sI, hJ_sR, hR_sI, hR_sJ, ln_sI, ln_sJ, ln_sR, kd_sI, kd_sJ, kd_sR, hN_sI, hN_sJ, hN_sR, hZ_sI, hZ_sJ, hZ_sR, hR_adv, hJ_adv, ln_adv, hN_adv, hZ_adv, ne_eq, not_false_eq_true, true_and, and_false, false_and, and_true, if_false, if_true, and_self, ixs, Nat.reduceEqDiff, Int.toNat_natCast, tn0, tn1, tn2, tn3, tn4, tn5, tn6, tn7, tn8, tn9, L3.r22, d5]
            rw [if_neg (by grind [hI_sI, hI_sJ, hI_sR, hI_adv, hJ_sI, hJ_sJ, hJ_sR, hJ_adv, hR_sI, hR_sJ, hR_sR, hR_adv, ln_sI, ln_sJ, ln_sR, ln_adv, bi])]
            have R4 := R3.adv (at' := frm + 1 + 4) (b' := false) (by lia)
            have L4 : MHd (adv h4 w (frm + 1 + 4) false) M w D := L3.of (fun k => rfl) rfl
            have B4 := B3.adv (w := w) (b := false) R3.ne (x := frm + 1 + 4)
            have bt := B3.b (j := frm + 5) (by lia)
            refine wp_b2o (m_hdNm L4 R4 B4 n2 (v := 6) (Or.inl rfl)) (fun rr h5 _ q => ?_)
            have a5 : frm + 1 + 4 = frm + 5 := rfl
            rw [a5] at q
            simp only [adv_adv] at q
            clear R4 L4 B4
            obtain ⟨t, ht⟩ : ∃ t, t = (B (frm + 5)).toNat := ⟨_, rfl⟩
            rw [← ht] at q ⊢
            rcases q with q | q
            · rw [if_pos q.1, wp_some]
              by_cases l7 : 20 < t
              · rw [if_pos l7]; rfl
              · rw [if_neg l7, if_pos (by lia)]; rfl
            · obtain ⟨q0, q1, q2, q3⟩ := q
              rw [if_neg (by rw [q0]; decide), if_neg (show ¬ 20 < t by lia)]
              have a6 : frm + 5 + 1 = frm + 6 := rfl
              rw [a6] at q1 q3
              have R4 : RD h5 w r (frm + 6 + t) e false := by rw [q3]; exact ((R3.adv (by lia)).sI (Or.inl d3)).sI (Or.inl d3)
              have L4 : MHd h5 M w D := by rw [q3]; exact L3.of (fun k => by grind [hI_sI, hI_sJ, hI_sR, hI_adv, hJ_sI, hJ_sJ, hJ_sR, hJ_adv, hR_sI, hR_sJ, hR_sR, hR_adv, ln_sI, ln_sJ, ln_sR, ln_adv, bi]) (by grind [hI_sI, hI_sJ, hI_sR, hI_adv, hJ_sI, hJ_sJ, hJ_sR, hJ_adv, hR_sI, hR_sJ, hR_sR, hR_adv, ln_sI, ln_sJ, ln_sR, ln_adv, bi])
              have B4 : BRm h5 r e B := by rw [q3]; exact B3.of (fun k => by grind [hI_sI, hI_sJ, hI_sR, hI_adv, hJ_sI, hJ_sJ, hJ_sR, hJ_adv, hR_sI, hR_sJ, hR_sR, hR_adv, ln_sI, ln_sJ, ln_sR, ln_adv, bi])
              have y0 : hI h5 D 0 = B frm / 16 % 4 ∧ hI h5 D 3 = (frm : Int) ∧ hI h5 D 6 = ((frm + 6 : Nat) : Int) ∧ hI h5 D 7 = (t : Int) := by rw [q3]; grind [hI_sI, hI_sJ, hI_sR, hI_adv, hJ_sI, hJ_sJ, hJ_sR, hJ_adv, hR_sI, hR_sJ, hR_sR, hR_adv, ln_sI, ln_sJ, ln_sR, ln_adv, bi]
              clear q3 R3 B3 L3 g0 g3
              refine wp_b2o (m_hdNm L4 R4 B4 n2 (v := 8) (Or.inr rfl)) (fun rr2 h6 _ q => ?_)
              obtain ⟨y, hy⟩ : ∃ y, y = (B (frm + 6 + t)).toNat := ⟨_, rfl⟩
              rw [← hy] at q ⊢
              dsimp only at q
              rcases q with q | q
              · rw [if_neg (fun z => z q.1), wp_some]
                by_cases l7 : e < frm + 6 + t + 1
                · rw [if_pos l7]; rfl
                · have by_ := B4.b (j := frm + 6 + t) (by lia)
                  rw [if_neg l7]
                  by_cases l8 : 20 < y
                  · rw [if_pos l8]; rfl
                  · rw [if_neg l8, if_pos (by lia)]; rfl
              · obtain ⟨q4, q5, q6, q7⟩ := q
                have by_ := B4.b (j := frm + 6 + t) (by lia)
                rw [if_pos (by rw [q4]; decide), if_neg (show ¬ e < frm + 6 + t + 1 by lia), if_neg (show ¬ 20 < y by lia), if_neg (show ¬ e < frm + 6 + t + 1 + y by lia)]
                have R5 : RD h6 w r (frm + 6 + t + 1 + y) e false := by rw [q7]; exact ((R4.adv (by lia)).sI (Or.inl d3)).sI (Or.inl d3)
                have L5 : MHd h6 M w D := by rw [q7]; exact L4.of (fun k => by grind [hI_sI, hI_sJ, hI_sR, hI_adv, hJ_sI, hJ_sJ, hJ_sR, hJ_adv, hR_sI, hR_sJ, hR_sR, hR_adv, ln_sI, ln_sJ, ln_sR, ln_adv, bi]) (by grind [hI_sI, hI_sJ, hI_sR, hI_adv, hJ_sI, hJ_sJ, hJ_sR, hJ_adv, hR_sI, hR_sJ, hR_sR, hR_adv, ln_sI, ln_sJ, ln_sR, ln_adv, bi])
                have B5 : BRm h6 r e B := by rw [q7]; exact B4.of (fun k => by grind [hI_sI, hI_sJ, hI_sR, hI_adv, hJ_sI, hJ_sJ, hJ_sR, hJ_adv, hR_sI, hR_sJ, hR_sR, hR_adv, ln_sI, ln_sJ, ln_sR, ln_adv, bi])
                have y1 : hI h6 D 0 = B frm / 16 % 4 ∧ hI h6 D 3 = (frm : Int) ∧ hI h6 D 6 = ((frm + 6 : Nat) : Int) ∧ hI h6 D 7 = (t : Int) ∧ hI h6 D 8 = ((frm + 6 + t + 1 : Nat) : Int) ∧ hI h6 D 9 = (y : Int) := by rw [q7]; grind [hI_sI, hI_sJ, hI_sR, hI_adv, hJ_sI, hJ_sJ, hJ_sR, hJ_adv, hR_sI, hR_sJ, hR_sR, hR_adv, ln_sI, ln_sJ, ln_sR, ln_adv, bi]
                clear q7 R4 B4 L4 y0 q0 q4
                simp only [wp_cn, wp_ck, wp_lt1, wp_some, hI_sI, hJ_sJ, hR_sR, hI_sJ, hI_sR, hJ_sI, hJ_sR, hR_sI, hR_sJ, ln_sI, ln_sJ, ln_sR, kd_sI, kd_sJ, kd_sR, hN_sI, hN_sJ, hN_sR, hZ_sI, hZ_sJ, hZ_sR, hR_adv, hJ_adv, ln_adv, hN_adv, hZ_adv, ne_eq, not_false_eq_true, true_and, and_false, false_and, and_true, if_false, if_true, and_self, ixs, Nat.reduceEqDiff, Int.toNat_natCast, tn0, tn1, tn2, tn3, tn4, tn5, tn6, tn7, tn8, tn9, L5.r19, L5.l, L5.r22, d4, d5, y1.1]
                refine ⟨by decide, ?_⟩
                unfold hdT
                by_cases c0 : B frm / 16 % 4 = 0
                · rw [if_pos c0, if_neg (by lia), wp_ck]
                  refine ⟨by decide, ?_⟩
                  rw [if_pos (by lia), wp_ck]
                  refine ⟨by decide, ?_⟩
                  rw [if_neg (fun z => z c0)]
                  refine wp_b2e (m_number R5 B5) ?_
                  have vl := nV_lt B (frm + 6 + t + 1 + y) e false
                  have R6 := R5.adv (at' := nA B (frm + 6 + t + 1 + y) e false) (b' := nB B (frm + 6 + t + 1 + y) e false) (nA_le R5.le)
                  refine wp_b2e (m_pass R6 (n := (nV B (frm + 6 + t + 1 + y) e false).toNat) (by lia)) ?_
                  rw [adv_adv]
                  by_cases g : nB B (frm + 6 + t + 1 + y) e false = true
                  · rw [if_pos g, g, nA_t g, nV_t g, pB_b, pA_t pB_b]
                    unfold f_mP_reads_b257
                    have R7 := R5.adv (at' := frm + 6 + t + 1 + y) (b' := true) R5.le
                    have B7 := B5.adv (w := w) (b := true) R5.ne (x := frm + 6 + t + 1 + y)
                    simp only [wp_cn, wp_ck, wp_lt1, wp_some, hI_sI, hJ_sJ, hR_sR, hI_sJ, hI_sR, hJ_sI, hJ_sR, hR_sI, hR_sJ, ln_sI, ln_sJ, ln_sR, kd_sI, kd_sJ, kd_sR, hN_sI, hN_sJ, hN_sR, hZ_sI, hZ_sJ, hZ_sR, hR_adv, hJ_adv, ln_adv, hN_adv, hZ_adv, ne_eq, not_false_eq_true, true_and, and_false, false_and, and_true, if_false, if_true, and_self, ixs, Nat.reduceEqDiff, Int.toNat_natCast, tn0, tn1, tn2, tn3, tn4, tn5, tn6, tn7, tn8, tn9, L5.r22, d5]
                    refine wp_b2e (m_number R7 B7) ?_
                    simp only [wp_cn, wp_ck, wp_lt1, wp_some, hI_sI, hJ_sJ, hR_sR, hI_sJ, hI_sR, hJ_sI, hJ_sR, hR_sI, hR_sJ, ln_sI, ln_sJ, ln_sR, kd_sI, kd_sJ, kd_sR, hN_sI, hN_sJ, hN_sR, hZ_sI, hZ_sJ, hZ_sR, hR_adv, hJ_adv, ln_adv, hN_adv, hZ_adv, ne_eq, not_false_eq_true, true_and, and_false, false_and, and_true, if_false, if_true, and_self, ixs, Nat.reduceEqDiff, Int.toNat_natCast, tn0, tn1, tn2, tn3, tn4, tn5, tn6, tn7, tn8, tn9, L5.r22, d5]
                    rw [if_pos (by have : nB B (frm + 6 + t + 1 + y) e true = true := by simp [nB]
                                   grind [hI_sI, hI_sJ, hI_sR, hI_adv, hJ_sI, hJ_sJ, hJ_sR, hJ_adv, hR_sI, hR_sJ, hR_sR, hR_adv, ln_sI, ln_sJ, ln_sR, ln_adv, bi]), wp_some]; rfl
                  · have g' : nB B (frm + 6 + t + 1 + y) e false = false := by simpa using g
                    have le : frm + 6 + t + 1 + y + nsz B (frm + 6 + t + 1 + y) ≤ e := by have := nsz_pos B (frm + 6 + t + 1 + y); unfold nB at g'; simp at g'; lia
                    rw [if_neg g, g', nA_f le, nV_g g']
                    rw [nV_g g'] at vl
                    generalize frm + 6 + t + 1 + y = z at *
                    by_cases c2 : ((e - (z + nsz B z) : Nat) : Int) < nvl B z
                    · have p1 : pB (z + nsz B z) e false (nvl B z).toNat = true := pB_t (by lia)
                      rw [if_pos c2, p1, pA_t p1]
                      unfold f_mP_reads_b257
                      have R7 := R5.adv (at' := z + nsz B z) (b' := true) le
                      have B7 := B5.adv (w := w) (b := true) R5.ne (x := z + nsz B z)
                      simp only [wp_cn, wp_ck, wp_lt1, wp_some, hI_sI, hJ_sJ, hR_sR, hI_sJ, hI_sR, hJ_sI, hJ_sR, hR_sI, hR_sJ, ln_sI, ln_sJ, ln_sR, kd_sI, kd_sJ, kd_sR, hN_sI, hN_sJ, hN_sR, hZ_sI, hZ_sJ, hZ_sR, hR_adv, hJ_adv, ln_adv, hN_adv, hZ_adv, ne_eq, not_false_eq_true, true_and, and_false, false_and, and_true, if_false, if_true, and_self, ixs, Nat.reduceEqDiff, Int.toNat_natCast, tn0, tn1, tn2, tn3, tn4, tn5, tn6, tn7, tn8, tn9, L5.r22, d5]
                      refine wp_b2e (m_number R7 B7) ?_
                      simp only [wp_cn, wp_ck, wp_lt1, wp_some, hI_sI, hJ_sJ, hR_sR, hI_sJ, hI_sR, hJ_sI, hJ_sR, hR_sI, hR_sJ, ln_sI, ln_sJ, ln_sR, kd_sI, kd_sJ, kd_sR, hN_sI, hN_sJ, hN_sR, hZ_sI, hZ_sJ, hZ_sR, hR_adv, hJ_adv, ln_adv, hN_adv, hZ_adv, ne_eq, not_false_eq_true, true_and, and_false, false_and, and_true, if_false, if_true, and_self, ixs, Nat.reduceEqDiff, Int.toNat_natCast, tn0, tn1, tn2, tn3, tn4, tn5, tn6, tn7, tn8, tn9, L5.r22, d5]
                      rw [if_pos (by have : nB B (z + nsz B z) e true = true := by simp [nB]
                                     grind [hI_sI, hI_sJ, hI_sR, hI_adv, hJ_sI, hJ_sJ, hJ_sR, hJ_adv, hR_sI, hR_sJ, hR_sR, hR_adv, ln_sI, ln_sJ, ln_sR, ln_adv, bi]), wp_some]; rfl
                    · have p1 : pB (z + nsz B z) e false (nvl B z).toNat = false := pB_f (by lia)
                      rw [if_neg c2, p1, pA_f p1]
                      refine m_hdL (r := r) (L5.of (fun k => rfl) rfl) (R5.adv (by lia)) (B5.adv R5.ne) n2 ?_
                      grind [hI_sI, hI_sJ, hI_sR, hI_adv, hJ_sI, hJ_sJ, hJ_sR, hJ_adv, hR_sI, hR_sJ, hR_sR, hR_adv, ln_sI, ln_sJ, ln_sR, ln_adv, bi]
                · rw [if_neg c0]
                  by_cases c2 : B frm / 16 % 4 = 2
                  · rw [if_pos c2, if_neg (by lia), wp_ck]
                    refine ⟨by decide, ?_⟩
                    rw [if_pos (by lia), wp_ck]
                    refine ⟨by decide, ?_⟩
                    rw [if_pos c0]
                    exact m_hdL L5 R5 B5 n2 y1
                  · rw [if_neg c2]
                    by_cases c3 : B frm / 16 % 4 = 1
                    · rw [if_pos c3, wp_some]; rfl
                    · rw [if_neg c3, wp_ck]
                      refine ⟨by decide, ?_⟩
                      rw [if_neg (by lia), wp_some]; rfl
          · simp only [ne_eq, l6, not_false_eq_true, if_true]
            rw [wp_some]; rfl
end
