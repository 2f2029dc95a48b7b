/-! reading: headers, the class -/
theorem iAnd64 {x : Int} (h0 : 0 ≤ x) (h1 : x < 256) : iAnd x 64 = 0 ↔ x / 64 % 2 = 0 := by
  have := (by decide +kernel : ∀ x : Fin 256, iAnd (x.val : Int) 64 = 0 ↔ (x.val : Int) / 64 % 2 = 0) ⟨x.toNat, by lia⟩
  simpa [Int.toNat_of_nonneg h0] using this
theorem iShr4 {x : Int} (h0 : 0 ≤ x) (h1 : x < 256) : iAnd (iShr x 4) 3 = x / 16 % 4 := by
  have e2 : iShr x 4 = x / 2 ^ 4 := iShr_eq (n := 4) ⟨by lia, by lia⟩ (by decide)
  rw [e2]
  exact iAnd_mask (n := 2) (by decide) rfl
theorem be1 {B : Nat → Int} {p : Nat} (h0 : 0 ≤ B p) (h1 : B p < 256) : w64 (be B p 1) = B p := by
  show w64 (0 * 256 + B (p + 0)) = B p
  rw [Nat.add_zero, Int.zero_mul, Int.zero_add]; exact w64_id ⟨by lia, by lia⟩
theorem be4 {B : Nat → Int} {p : Nat} (h : ∀ j, j < 4 → 0 ≤ B (p + j) ∧ B (p + j) < 256) : w64 (be B p 4) = be B p 4 ∧ 0 ≤ be B p 4 ∧ be B p 4 < 4294967296 := by
  have h0 := h 0 (by decide)
  have h1 := h 1 (by decide)
  have h2 := h 2 (by decide)
  have h3 := h 3 (by decide)
  have e : be B p 4 = (((0 * 256 + B (p + 0)) * 256 + B (p + 1)) * 256 + B (p + 2)) * 256 + B (p + 3) := rfl
  rw [e]
  exact ⟨w64_id ⟨by lia, by lia⟩, by lia, by lia⟩
theorem BRc.b {h : Hp} {r e : Nat} {B : Nat → Int} (hB : BRc h r e B) {j : Nat} (hj : j < e) : 0 ≤ B j ∧ B j < 256 := by
  have := hB j hj
  lia
theorem c_hdF {H : Nat} {c : Int} {h : Hp} {Q : Int × Hp → Prop} (q : Q (c, sI h H 2 c)) : wp (b2 (f_cHeader_fails H c h) fun r h' => some (r, h')) Q := by
  unfold f_cHeader_fails
  rw [wp_b2, wp_lt1, wp_some, wp_some]; exact q
theorem c_hdT {h : Hp} {H I r q e frm : Nat} {kind : Int} {to toS by_ byS : Nat} {B : Nat → Int} (R : RD h I r q e false) (hB : BRc h r e B) (n1 : H ≠ I) (n2 : H ≠ r) (c : hI h H 0 = kind ∧ hI h H 3 = frm ∧ hI h H 7 = to ∧ hI h H 8 = toS ∧ hI h H 9 = by_ ∧ hI h H 10 = byS) (n3 : H ≠ 0) (hk : kind = 0 ∨ kind = 2) : wp (f_cHeader_readLong_b165 H I h) (hdQc (hdT B frm e q kind to toS by_ byS) frm H) := by
  have nz := R.nz
  have sm := R.sm
  have rn := R.rn
  unfold f_cHeader_readLong_b165 f_cHeader_readRest hdT
  rw [wp_b2, c.1]
  simp only [wp_some]
  rcases hk with hk | hk
  · rw [if_neg (by simp [hk]), if_pos hk, wp_cn]
    refine ⟨nz, wp_b2e (c_number R hB) ?_⟩
    have R1 := R.adv (at' := nA B q e false) (b' := nB B q e false) (nA_le R.le)
    have B1 := hB.adv (w := I) (b := nB B q e false) R.ne (x := nA B q e false)
    refine wp_b2e (c_left R1) ?_
    unfold f_cHeader_readRest_b27 f_cHeader_readRest_b41
    by_cases g : nB B q e false = true
    · rw [g, nV_t g, nA_t g]
      simp only [if_true, Int.le_refl]
      rw [wp_cn]
      refine ⟨nz, ?_⟩
      rw [if_neg (by grind [hI_sI, hI_sJ, hI_sR, hI_adv, hJ_sI, hJ_sJ, hJ_sR, hJ_adv, hR_sI, hR_sJ, hR_sR, hR_adv, ln_sI, ln_sJ, ln_sR, ln_adv, bi]), wp_cn]
      refine ⟨n3, ?_⟩
      rw [wp_lt1, wp_cn]
      refine ⟨nz, ?_⟩
      rw [g, nA_t g] at R1 B1
      have R2 : RD (sI (adv h I q true) H 12 0) I r q e true := R1.sI (Or.inl n1)
      have i12 : hI (sI (adv h I q true) H 12 0) H 12 = ((0 : Nat) : Int) := by rw [hI_sI, if_pos ⟨rfl, rfl⟩]; rfl
      rw [i12]
      refine wp_b2e (c_pass R2 (n := 0) (by decide)) ?_
      rw [wp_lt1]
      have R3 := (R2.adv (at' := pA q e true 0) (b' := pB q e true 0) (pA_le R2.le)).sI (x := H) (k := 11) (v := (q : Int)) (Or.inl n1)
      rw [pB_b, pA_t pB_b] at R3
      rw [pB_b, pA_t pB_b]
      unfold f_cHeader_readRest_b56 f_cHeader_readRest_b94
      rw [wp_cn]
      refine ⟨nz, ?_⟩
      refine wp_b2e (c_number R3 (B := B) (hB.of (fun k => by grind [hI_sI, hI_sJ, hI_sR, hI_adv, hJ_sI, hJ_sJ, hJ_sR, hJ_adv, hR_sI, hR_sJ, hR_sR, hR_adv, ln_sI, ln_sJ, ln_sR, ln_adv, bi]))) ?_
      rw [wp_lt1, if_pos (by grind [hI_sI, hI_adv, bi, nB])]
      refine c_hdF ?_
      show (0 : Int) < 1
      decide
    · have g' : nB B q e false = false := by simpa using g
      have le : q + nsz B q ≤ e := by have := nsz_pos B q; unfold nB at g'; simp at g'; lia
      have vl := nvl_lt B q
      rw [g', nV_g g', nA_f le]
      rw [g', nA_f le] at R1 B1
      simp only [Bool.false_eq_true, if_false]
      by_cases c2 : nvl B q ≤ ((e - (q + nsz B q) : Nat) : Int)
      · rw [if_pos c2, if_neg (show ¬ (((e - (q + nsz B q) : Nat) : Int) < nvl B q) by lia), wp_cn]
        refine ⟨nz, ?_⟩
        rw [if_pos (by grind [hI_sI, hI_sJ, hI_sR, hI_adv, hJ_sI, hJ_sJ, hJ_sR, hJ_adv, hR_sI, hR_sJ, hR_sR, hR_adv, ln_sI, ln_sJ, ln_sR, ln_adv, bi]), wp_cn]
        refine ⟨n3, ?_⟩
        rw [wp_lt1, wp_cn]
        refine ⟨nz, ?_⟩
        have w1 : w32 (nvl B q) = (((nvl B q).toNat : Nat) : Int) := by rw [w32_id ⟨by lia, by lia⟩]; lia
        rw [w1]
        have R2 : RD (sI (adv h I (q + nsz B q) false) H 12 (((nvl B q).toNat : Nat) : Int)) I r (q + nsz B q) e false := R1.sI (Or.inl n1)
        have i12 : hI (sI (adv h I (q + nsz B q) false) H 12 (((nvl B q).toNat : Nat) : Int)) H 12 = (((nvl B q).toNat : Nat) : Int) := by rw [hI_sI, if_pos ⟨rfl, rfl⟩]
        rw [i12]
        refine wp_b2e (c_pass R2 (by lia)) ?_
        rw [wp_lt1]
        have pf : pB (q + nsz B q) e false (nvl B q).toNat = false := pB_f (by lia)
        rw [pf, pA_f pf]
        have R3 := (R2.adv (at' := q + nsz B q + (nvl B q).toNat) (b' := false) (by lia)).sI (x := H) (k := 11) (v := ((q + nsz B q : Nat) : Int)) (Or.inl n1)
        refine c_hdL R3 (hB.of (fun k => by grind [hI_sI, hI_sJ, hI_sR, hI_adv, hJ_sI, hJ_sJ, hJ_sR, hJ_adv, hR_sI, hR_sJ, hR_sR, hR_adv, ln_sI, ln_sJ, ln_sR, ln_adv, bi])) n1 n2 (by grind [hI_sI, hI_sJ, hI_sR, hI_adv, hJ_sI, hJ_sJ, hJ_sR, hJ_adv, hR_sI, hR_sJ, hR_sR, hR_adv, ln_sI, ln_sJ, ln_sR, ln_adv, bi])
      · rw [if_neg c2, if_pos (show ((e - (q + nsz B q) : Nat) : Int) < nvl B q by lia), wp_lt1, wp_cn]
        refine ⟨nz, ?_⟩
        rw [if_neg (by grind [hI_sI, hI_sJ, hI_sR, hI_adv, hJ_sI, hJ_sJ, hJ_sR, hJ_adv, hR_sI, hR_sJ, hR_sR, hR_adv, ln_sI, ln_sJ, ln_sR, ln_adv, bi]), wp_cn]
        refine ⟨n3, ?_⟩
        rw [wp_lt1, wp_cn]
        refine ⟨nz, ?_⟩
        have ad : sI (adv h I (q + nsz B q) false) I 3 1 = adv h I (q + nsz B q) true := by unfold adv; rw [sI_cm (by lia), sI_ov]; rfl
        rw [ad]
        have R2 : RD (sI (adv h I (q + nsz B q) true) H 12 0) I r (q + nsz B q) e true := (R.adv le).sI (Or.inl n1)
        have i12 : hI (sI (adv h I (q + nsz B q) true) H 12 0) H 12 = ((0 : Nat) : Int) := by rw [hI_sI, if_pos ⟨rfl, rfl⟩]; rfl
        rw [i12]
        refine wp_b2e (c_pass R2 (n := 0) (by decide)) ?_
        rw [wp_lt1]
        have R3 := (R2.adv (at' := pA (q + nsz B q) e true 0) (b' := pB (q + nsz B q) e true 0) (pA_le R2.le)).sI (x := H) (k := 11) (v := ((q + nsz B q : Nat) : Int)) (Or.inl n1)
        rw [pB_b, pA_t pB_b] at R3
        rw [pB_b, pA_t pB_b]
        unfold f_cHeader_readRest_b56 f_cHeader_readRest_b94
        rw [wp_cn]
        refine ⟨nz, ?_⟩
        refine wp_b2e (c_number R3 (B := B) (hB.of (fun k => by grind [hI_sI, hI_sJ, hI_sR, hI_adv, hJ_sI, hJ_sJ, hJ_sR, hJ_adv, hR_sI, hR_sJ, hR_sR, hR_adv, ln_sI, ln_sJ, ln_sR, ln_adv, bi]))) ?_
        rw [wp_lt1, if_pos (by grind [hI_sI, hI_adv, bi, nB])]
        refine c_hdF ?_
        show (0 : Int) < 1
        decide
  · rw [if_pos (by simp [hk]), if_neg (by simp [hk]), if_pos hk]
    exact c_hdL R hB n1 n2 c
theorem c_hdN {h : Hp} {H I r e frm : Nat} {B : Nat → Int} (R : RD h I r (frm + 1) e false) (hB : BRc h r e B) (n1 : H ≠ I) (n2 : H ≠ r) (n3 : H ≠ 0) (c : hI h H 3 = frm) (hb : 0 ≤ B frm ∧ B frm < 256) : wp (f_cHeader_readLong H I (B frm) h) (hdQc (hdN B frm e (B (frm + 5)).toNat (B (frm + 6 + (B (frm + 5)).toNat)).toNat) frm H) := by
  have nz := R.nz
  have sm := R.sm
  have rn := R.rn
  unfold f_cHeader_readLong hdN
  rw [wp_lt1, iShr4 hb.1 hb.2, wp_lt1, wp_cn]
  refine ⟨nz, ?_⟩
  have k0 : ∀ v : Int, hI (sI (sI h H 0 (B frm / 16 % 4)) H 1 v) H 0 = B frm / 16 % 4 := fun v => by grind [hI_sI, hI_sJ, hI_sR, hI_adv, hJ_sI, hJ_sJ, hJ_sR, hJ_adv, hR_sI, hR_sJ, hR_sR, hR_adv, ln_sI, ln_sJ, ln_sR, ln_adv, bi]
  have k3 : ∀ v : Int, hI (sI (sI h H 0 (B frm / 16 % 4)) H 1 v) H 3 = frm := fun v => by grind [hI_sI, hI_sJ, hI_sR, hI_adv, hJ_sI, hJ_sJ, hJ_sR, hJ_adv, hR_sI, hR_sJ, hR_sR, hR_adv, ln_sI, ln_sJ, ln_sR, ln_adv, bi]
  have R0 : ∀ v : Int, RD (sI (sI h H 0 (B frm / 16 % 4)) H 1 v) I r (frm + 1) e false := fun v => (R.sI (Or.inl n1)).sI (Or.inl n1)
  have B0 : ∀ v : Int, BRc (sI (sI h H 0 (B frm / 16 % 4)) H 1 v) r e B := fun v => hB.of (fun k => by grind [hI_sI, hI_sJ, hI_sR, hI_adv, hJ_sI, hJ_sJ, hJ_sR, hJ_adv, hR_sI, hR_sJ, hR_sR, hR_adv, ln_sI, ln_sJ, ln_sR, ln_adv, bi])
  replace k0 := k0 (iAnd (B frm) 15)
  replace k3 := k3 (iAnd (B frm) 15)
  replace R0 := R0 (iAnd (B frm) 15)
  replace B0 := B0 (iAnd (B frm) 15)
  generalize sI (sI h H 0 (B frm / 16 % 4)) H 1 (iAnd (B frm) 15) = h1 at *
  clear R hB c h
  have cm := c_many R0 B0 (n := 4) (by decide)
  refine wp_b2e cm ?_
  clear cm
  rw [wp_lt1]
  have R1 := R0.adv (at' := pA (frm + 1) e false 4) (b' := pB (frm + 1) e false 4) (pA_le R0.le)
  have B1 := B0.adv (w := I) (b := pB (frm + 1) e false 4) R0.ne (x := pA (frm + 1) e false 4)
  have R1 := R1.sJ (x := H) (k := 6) (v := if pB (frm + 1) e false 4 then 0 else w64 (be B (frm + 1) 4))
  have B1 := B1.of (h' := sJ (adv h1 I (pA (frm + 1) e false 4) (pB (frm + 1) e false 4)) H 6 (if pB (frm + 1) e false 4 then 0 else w64 (be B (frm + 1) 4))) (fun k => rfl)
  refine wp_b2e (c_one R1 B1) ?_
  rw [wp_lt1]
  by_cases l1 : e < frm + 6
  · rw [if_pos l1, if_neg (by
      have : pB (pA (frm + 1) e false 4) e (pB (frm + 1) e false 4) 1 = true := by unfold pB pA; grind [pB]
      grind [hI_sI, hI_sJ, hI_sR, hI_adv, hJ_sI, hJ_sJ, hJ_sR, hJ_adv, hR_sI, hR_sJ, hR_sR, hR_adv, ln_sI, ln_sJ, ln_sR, ln_adv, bi])]
    refine c_hdF ?_
    show (0 : Int) < 1
    decide
  · have p1 : pB (frm + 1) e false 4 = false := pB_f (by lia)
    have p2 : pB (frm + 1 + 4) e false 1 = false := pB_f (by lia)
    rw [if_neg l1]
    rw [p1, pA_f p1] at R1 B1
    rw [p1, pA_f p1, p2, pA_f p2]
    simp only [Bool.false_eq_true, if_false] at R1 B1 ⊢
    have b4 := be4 (B := B) (p := frm + 1) (fun j hj => B0.b (by lia))
    have bt := B0.b (j := frm + 5) (by lia)
    rw [b4.1] at R1 B1 ⊢
    rw [if_pos (by grind [hI_sI, hI_sJ, hI_sR, hI_adv, hJ_sI, hJ_sJ, hJ_sR, hJ_adv, hR_sI, hR_sJ, hR_sR, hR_adv, ln_sI, ln_sJ, ln_sR, ln_adv, bi])]
    have a4 : frm + 1 + 4 = frm + 5 := rfl
    have a5 : frm + 5 + 1 = frm + 6 := rfl
    rw [a4] at R1 B1 ⊢
    by_cases l2 : be B (frm + 1) 4 = 1
    · rw [if_pos (by grind [hI_sI, hI_sJ, hI_sR, hI_adv, hJ_sI, hJ_sJ, hJ_sR, hJ_adv, hR_sI, hR_sJ, hR_sR, hR_adv, ln_sI, ln_sJ, ln_sR, ln_adv, bi]), if_neg (show ¬ (be B (frm + 1) 4 ≠ 1) from fun z => z l2)]
      have R2 : RD (sI (adv (sJ (adv h1 I (frm + 5) false) H 6 (be B (frm + 1) 4)) I (frm + 5 + 1) false) H 8 (B (frm + 5))) I r (frm + 6) e false := (R1.adv (by lia)).sI (Or.inl n1)
      have B2 : BRc (sI (adv (sJ (adv h1 I (frm + 5) false) H 6 (be B (frm + 1) 4)) I (frm + 5 + 1) false) H 8 (B (frm + 5))) r e B := B0.of (fun k => by grind [hI_sI, hI_sJ, hI_sR, hI_adv, hJ_sI, hJ_sJ, hJ_sR, hJ_adv, hR_sI, hR_sJ, hR_sR, hR_adv, ln_sI, ln_sJ, ln_sR, ln_adv, bi])
      have k0 : hI (sI (adv (sJ (adv h1 I (frm + 5) false) H 6 (be B (frm + 1) 4)) I (frm + 5 + 1) false) H 8 (B (frm + 5))) H 0 = B frm / 16 % 4 := by grind [hI_sI, hI_sJ, hI_sR, hI_adv, hJ_sI, hJ_sJ, hJ_sR, hJ_adv, hR_sI, hR_sJ, hR_sR, hR_adv, ln_sI, ln_sJ, ln_sR, ln_adv, bi]
      have k3 : hI (sI (adv (sJ (adv h1 I (frm + 5) false) H 6 (be B (frm + 1) 4)) I (frm + 5 + 1) false) H 8 (B (frm + 5))) H 3 = frm := by grind [hI_sI, hI_sJ, hI_sR, hI_adv, hJ_sI, hJ_sJ, hJ_sR, hJ_adv, hR_sI, hR_sJ, hR_sR, hR_adv, ln_sI, ln_sJ, ln_sR, ln_adv, bi]
      have k8 : hI (sI (adv (sJ (adv h1 I (frm + 5) false) H 6 (be B (frm + 1) 4)) I (frm + 5 + 1) false) H 8 (B (frm + 5))) H 8 = (((B (frm + 5)).toNat : Nat) : Int) := by rw [hI_sI, if_pos ⟨rfl, rfl⟩]; lia
      generalize sI (adv (sJ (adv h1 I (frm + 5) false) H 6 (be B (frm + 1) 4)) I (frm + 5 + 1) false) H 8 (B (frm + 5)) = h2 at *
      clear R1 B1 R0 B0 p1 p2 b4 l2
      generalize (B (frm + 5)).toNat = t at *
      clear bt
      rw [k8]
      by_cases l3 : 20 < t
      · rw [if_neg (by lia), if_pos l3]
        refine c_hdF ?_
        show (0 : Int) < 5
        decide
      · rw [if_pos (show ((t : Nat) : Int) ≤ 20 by lia), if_neg l3]
        refine wp_b2e (c_pass R2 (by lia)) ?_
        rw [wp_lt1]
        have R3 := (R2.adv (at' := pA (frm + 6) e false t) (b' := pB (frm + 6) e false t) (pA_le R2.le)).sI (x := H) (k := 7) (v := ((frm + 6 : Nat) : Int)) (Or.inl n1)
        have B3 : BRc (sI (adv h2 I (pA (frm + 6) e false t) (pB (frm + 6) e false t)) H 7 ((frm + 6 : Nat) : Int)) r e B := B2.of (fun k => by grind [hI_sI, hI_sJ, hI_sR, hI_adv, hJ_sI, hJ_sJ, hJ_sR, hJ_adv, hR_sI, hR_sJ, hR_sR, hR_adv, ln_sI, ln_sJ, ln_sR, ln_adv, bi])
        refine wp_b2e (c_one R3 B3) ?_
        rw [wp_lt1]
        by_cases l4 : e < frm + 6 + t + 1
        · rw [if_pos l4, if_neg (by
            have : pB (pA (frm + 6) e false t) e (pB (frm + 6) e false t) 1 = true := by unfold pB pA; grind [pB]
            grind [hI_sI, hI_sJ, hI_sR, hI_adv, hJ_sI, hJ_sJ, hJ_sR, hJ_adv, hR_sI, hR_sJ, hR_sR, hR_adv, ln_sI, ln_sJ, ln_sR, ln_adv, bi])]
          refine c_hdF ?_
          show (0 : Int) < 1
          decide
        · have p1 : pB (frm + 6) e false t = false := pB_f (by lia)
          have p2 : pB (frm + 6 + t) e false 1 = false := pB_f (by lia)
          rw [if_neg l4]
          rw [p1, pA_f p1] at R3 B3
          rw [p1, pA_f p1, p2, pA_f p2]
          simp only [Bool.false_eq_true, if_false]
          rw [if_pos (by grind [hI_sI, hI_sJ, hI_sR, hI_adv, hJ_sI, hJ_sJ, hJ_sR, hJ_adv, hR_sI, hR_sJ, hR_sR, hR_adv, ln_sI, ln_sJ, ln_sR, ln_adv, bi])]
          have bt := B2.b (j := frm + 6 + t) (by lia)
          have R4 : RD (sI (adv (sI (adv h2 I (frm + 6 + t) false) H 7 ((frm + 6 : Nat) : Int)) I (frm + 6 + t + 1) false) H 10 (B (frm + 6 + t))) I r (frm + 6 + t + 1) e false := (R3.adv (by lia)).sI (Or.inl n1)
          have B4 : BRc (sI (adv (sI (adv h2 I (frm + 6 + t) false) H 7 ((frm + 6 : Nat) : Int)) I (frm + 6 + t + 1) false) H 10 (B (frm + 6 + t))) r e B := B2.of (fun k => by grind [hI_sI, hI_sJ, hI_sR, hI_adv, hJ_sI, hJ_sJ, hJ_sR, hJ_adv, hR_sI, hR_sJ, hR_sR, hR_adv, ln_sI, ln_sJ, ln_sR, ln_adv, bi])
          have k0 : hI (sI (adv (sI (adv h2 I (frm + 6 + t) false) H 7 ((frm + 6 : Nat) : Int)) I (frm + 6 + t + 1) false) H 10 (B (frm + 6 + t))) H 0 = B frm / 16 % 4 := by grind [hI_sI, hI_sJ, hI_sR, hI_adv, hJ_sI, hJ_sJ, hJ_sR, hJ_adv, hR_sI, hR_sJ, hR_sR, hR_adv, ln_sI, ln_sJ, ln_sR, ln_adv, bi]
          have k3 : hI (sI (adv (sI (adv h2 I (frm + 6 + t) false) H 7 ((frm + 6 : Nat) : Int)) I (frm + 6 + t + 1) false) H 10 (B (frm + 6 + t))) H 3 = frm := by grind [hI_sI, hI_sJ, hI_sR, hI_adv, hJ_sI, hJ_sJ, hJ_sR, hJ_adv, hR_sI, hR_sJ, hR_sR, hR_adv, ln_sI, ln_sJ, ln_sR, ln_adv, bi]
          have k7 : hI (sI (adv (sI (adv h2 I (frm + 6 + t) false) H 7 ((frm + 6 : Nat) : Int)) I (frm + 6 + t + 1) false) H 10 (B (frm + 6 + t))) H 7 = ((frm + 6 : Nat) : Int) := by grind [hI_sI, hI_sJ, hI_sR, hI_adv, hJ_sI, hJ_sJ, hJ_sR, hJ_adv, hR_sI, hR_sJ, hR_sR, hR_adv, ln_sI, ln_sJ, ln_sR, ln_adv, bi]
          have k8 : hI (sI (adv (sI (adv h2 I (frm + 6 + t) false) H 7 ((frm + 6 : Nat) : Int)) I (frm + 6 + t + 1) false) H 10 (B (frm + 6 + t))) H 8 = (t : Int) := by grind [hI_sI, hI_sJ, hI_sR, hI_adv, hJ_sI, hJ_sJ, hJ_sR, hJ_adv, hR_sI, hR_sJ, hR_sR, hR_adv, ln_sI, ln_sJ, ln_sR, ln_adv, bi]
          have k10 : hI (sI (adv (sI (adv h2 I (frm + 6 + t) false) H 7 ((frm + 6 : Nat) : Int)) I (frm + 6 + t + 1) false) H 10 (B (frm + 6 + t))) H 10 = (((B (frm + 6 + t)).toNat : Nat) : Int) := by rw [hI_sI, if_pos ⟨rfl, rfl⟩]; lia
          generalize sI (adv (sI (adv h2 I (frm + 6 + t) false) H 7 ((frm + 6 : Nat) : Int)) I (frm + 6 + t + 1) false) H 10 (B (frm + 6 + t)) = h3 at *
          clear R3 B3 R2 B2 p1 p2 bt
          generalize (B (frm + 6 + t)).toNat = y at *
          rw [k10]
          by_cases l5 : 20 < y
          · rw [if_neg (by lia), if_pos l5]
            refine c_hdF ?_
            show (0 : Int) < 5
            decide
          · rw [if_pos (show ((y : Nat) : Int) ≤ 20 by lia), if_neg l5]
            refine wp_b2e (c_pass R4 (by lia)) ?_
            rw [wp_lt1]
            by_cases l6 : e < frm + 6 + t + 1 + y
            · rw [if_pos l6, if_neg (by
                have : pB (frm + 6 + t + 1) e false y = true := pB_t l6
                grind [hI_sI, hI_sJ, hI_sR, hI_adv, hJ_sI, hJ_sJ, hJ_sR, hJ_adv, hR_sI, hR_sJ, hR_sR, hR_adv, ln_sI, ln_sJ, ln_sR, ln_adv, bi])]
              refine c_hdF ?_
              show (0 : Int) < 1
              decide
            · have p1 : pB (frm + 6 + t + 1) e false y = false := pB_f (by lia)
              rw [if_neg l6, p1, pA_f p1]
              have R5 : RD (sI (adv h3 I (frm + 6 + t + 1 + y) false) H 9 ((frm + 6 + t + 1 : Nat) : Int)) I r (frm + 6 + t + 1 + y) e false := (R4.adv (by lia)).sI (Or.inl n1)
              have B5 : BRc (sI (adv h3 I (frm + 6 + t + 1 + y) false) H 9 ((frm + 6 + t + 1 : Nat) : Int)) r e B := B4.of (fun k => by grind [hI_sI, hI_sJ, hI_sR, hI_adv, hJ_sI, hJ_sJ, hJ_sR, hJ_adv, hR_sI, hR_sJ, hR_sR, hR_adv, ln_sI, ln_sJ, ln_sR, ln_adv, bi])
              have kk : hI (sI (adv h3 I (frm + 6 + t + 1 + y) false) H 9 ((frm + 6 + t + 1 : Nat) : Int)) H 0 = B frm / 16 % 4 ∧ hI (sI (adv h3 I (frm + 6 + t + 1 + y) false) H 9 ((frm + 6 + t + 1 : Nat) : Int)) H 3 = frm ∧ hI (sI (adv h3 I (frm + 6 + t + 1 + y) false) H 9 ((frm + 6 + t + 1 : Nat) : Int)) H 7 = ((frm + 6 : Nat) : Int) ∧ hI (sI (adv h3 I (frm + 6 + t + 1 + y) false) H 9 ((frm + 6 + t + 1 : Nat) : Int)) H 8 = (t : Int) ∧ hI (sI (adv h3 I (frm + 6 + t + 1 + y) false) H 9 ((frm + 6 + t + 1 : Nat) : Int)) H 9 = ((frm + 6 + t + 1 : Nat) : Int) ∧ hI (sI (adv h3 I (frm + 6 + t + 1 + y) false) H 9 ((frm + 6 + t + 1 : Nat) : Int)) H 10 = (y : Int) := by grind [hI_sI, hI_sJ, hI_sR, hI_adv, hJ_sI, hJ_sJ, hJ_sR, hJ_adv, hR_sI, hR_sJ, hR_sR, hR_adv, ln_sI, ln_sJ, ln_sR, ln_adv, bi]
              rw [if_pos (by grind [hI_sI, hI_sJ, hI_sR, hI_adv, hJ_sI, hJ_sJ, hJ_sR, hJ_adv, hR_sI, hR_sJ, hR_sR, hR_adv, ln_sI, ln_sJ, ln_sR, ln_adv, bi]), kk.1]
              by_cases c0 : B frm / 16 % 4 = 0
              · rw [if_pos c0]
                exact c_hdT R5 B5 n1 n2 kk n3 (Or.inl c0)
              · rw [if_neg c0]
                by_cases c2 : B frm / 16 % 4 = 2
                · rw [if_neg (fun z => z c2)]
                  exact c_hdT R5 B5 n1 n2 kk n3 (Or.inr c2)
                · rw [if_pos c2]
                  refine c_hdF ?_
                  unfold hdT
                  rw [if_neg c0, if_neg c2]
                  show (0 : Int) < 4
                  decide
    · rw [if_neg (by grind [hI_sI, hI_sJ, hI_sR, hI_adv, hJ_sI, hJ_sJ, hJ_sR, hJ_adv, hR_sI, hR_sJ, hR_sR, hR_adv, ln_sI, ln_sJ, ln_sR, ln_adv, bi]), if_pos l2]
      refine c_hdF ?_
      show (0 : Int) < 3
      decide
theorem c_header {h : Hp} {H I r e frm : Nat} {B : Nat → Int} (R : RD h I r frm e false) (hB : BRc h r e B) (n1 : H ≠ I) (n2 : H ≠ r) (n3 : H ≠ 0) : wp (f_cHeader_read H I 8 h) (hdQc (hdS B frm e) frm H) := by
  have nz := R.nz
  have sm := R.sm
  have rn := R.rn
  unfold f_cHeader_read hdS
  simp only [wp_lt1]
  rw [wp_cn]
  refine ⟨nz, ?_⟩
  have k0 : hI (sI (sI (sI (sI (sJ (sI h H 2 0) H 6 0) H 9 0) H 10 0) H 11 0) H 12 0) I 1 = (frm : Int) := by rw [← R.i1]; grind [hI_sI, hI_sJ, hI_sR, hI_adv, hJ_sI, hJ_sJ, hJ_sR, hJ_adv, hR_sI, hR_sJ, hR_sR, hR_adv, ln_sI, ln_sJ, ln_sR, ln_adv, bi]
  rw [k0]
  have R0 : RD (sI (sI (sI (sI (sI (sJ (sI h H 2 0) H 6 0) H 9 0) H 10 0) H 11 0) H 12 0) H 3 (frm : Int)) I r frm e false := R.of (fun k => by grind [hI_sI, hI_sJ, hI_sR, hI_adv, hJ_sI, hJ_sJ, hJ_sR, hJ_adv, hR_sI, hR_sJ, hR_sR, hR_adv, ln_sI, ln_sJ, ln_sR, ln_adv, bi]) (by grind [hI_sI, hI_sJ, hI_sR, hI_adv, hJ_sI, hJ_sJ, hJ_sR, hJ_adv, hR_sI, hR_sJ, hR_sR, hR_adv, ln_sI, ln_sJ, ln_sR, ln_adv, bi]) (by grind [hI_sI, hI_sJ, hI_sR, hI_adv, hJ_sI, hJ_sJ, hJ_sR, hJ_adv, hR_sI, hR_sJ, hR_sR, hR_adv, ln_sI, ln_sJ, ln_sR, ln_adv, bi])
  have B0 : BRc (sI (sI (sI (sI (sI (sJ (sI h H 2 0) H 6 0) H 9 0) H 10 0) H 11 0) H 12 0) H 3 (frm : Int)) r e B := hB.of (fun k => by grind [hI_sI, hI_sJ, hI_sR, hI_adv, hJ_sI, hJ_sJ, hJ_sR, hJ_adv, hR_sI, hR_sJ, hR_sR, hR_adv, ln_sI, ln_sJ, ln_sR, ln_adv, bi])
  have k3 : hI (sI (sI (sI (sI (sI (sJ (sI h H 2 0) H 6 0) H 9 0) H 10 0) H 11 0) H 12 0) H 3 (frm : Int)) H 3 = (frm : Int) := by grind [hI_sI, hI_sJ, hI_sR, hI_adv, hJ_sI, hJ_sJ, hJ_sR, hJ_adv, hR_sI, hR_sJ, hR_sR, hR_adv, ln_sI, ln_sJ, ln_sR, ln_adv, bi]
  have k9 : hI (sI (sI (sI (sI (sI (sJ (sI h H 2 0) H 6 0) H 9 0) H 10 0) H 11 0) H 12 0) H 3 (frm : Int)) H 9 = 0 := by grind [hI_sI, hI_sJ, hI_sR, hI_adv, hJ_sI, hJ_sJ, hJ_sR, hJ_adv, hR_sI, hR_sJ, hR_sR, hR_adv, ln_sI, ln_sJ, ln_sR, ln_adv, bi]
  have k10 : hI (sI (sI (sI (sI (sI (sJ (sI h H 2 0) H 6 0) H 9 0) H 10 0) H 11 0) H 12 0) H 3 (frm : Int)) H 10 = 0 := by grind [hI_sI, hI_sJ, hI_sR, hI_adv, hJ_sI, hJ_sJ, hJ_sR, hJ_adv, hR_sI, hR_sJ, hR_sR, hR_adv, ln_sI, ln_sJ, ln_sR, ln_adv, bi]
  generalize sI (sI (sI (sI (sI (sJ (sI h H 2 0) H 6 0) H 9 0) H 10 0) H 11 0) H 12 0) H 3 (frm : Int) = h1 at *
  clear R hB k0 h
  rw [wp_lt1]
  refine wp_b2e (c_one R0 B0) ?_
  by_cases l1 : e < frm + 1
  · rw [if_pos l1, if_neg (by have := pB_t l1; grind [hI_sI, hI_sJ, hI_sR, hI_adv, hJ_sI, hJ_sJ, hJ_sR, hJ_adv, hR_sI, hR_sJ, hR_sR, hR_adv, ln_sI, ln_sJ, ln_sR, ln_adv, bi])]
    refine c_hdF ?_
    show (0 : Int) < 1
    decide
  · have p1 : pB frm e false 1 = false := pB_f (by lia)
    have bb := B0.b (j := frm) (by lia)
    rw [if_neg l1, p1, pA_f p1]
    simp only [Bool.false_eq_true, if_false]
    rw [if_pos (by grind [hI_sI, hI_sJ, hI_sR, hI_adv, hJ_sI, hJ_sJ, hJ_sR, hJ_adv, hR_sI, hR_sJ, hR_sR, hR_adv, ln_sI, ln_sJ, ln_sR, ln_adv, bi])]
    have R1 := R0.adv (at' := frm + 1) (b' := false) (by lia)
    have B1 := B0.adv (w := I) (b := false) R0.ne (x := frm + 1)
    by_cases l2 : B frm / 64 % 2 = 0
    · rw [if_pos l2, if_neg (fun z => z ((iAnd64 bb.1 bb.2).mpr l2))]
      refine c_hdF ?_
      show (0 : Int) < 2
      decide
    · rw [if_neg l2, if_pos (fun z => l2 ((iAnd64 bb.1 bb.2).mp z))]
      by_cases l3 : B frm < 128
      · rw [if_pos l3, if_neg (show ¬ (128 ≤ B frm) by lia), wp_b2]
        simp only [wp_some]
        unfold f_cHeader_readShort f_cHeader_readShort_b59
        simp only [wp_lt1]
        rw [wp_cn]
        refine ⟨nz, ?_⟩
        have R2 : RD (sI (sI (sI (adv h1 I (frm + 1) false) H 0 4) H 1 (iAnd (B frm) 63)) H 8 8) I r (frm + 1) e false := ((R1.sI (Or.inl n1)).sI (Or.inl n1)).sI (Or.inl n1)
        refine wp_b2e (c_pass R2 (n := 8) (by decide)) ?_
        simp only [wp_lt1]
        by_cases l4 : e < frm + 1 + 8
        · have p1 := pB_t l4
          rw [p1, pA_t p1, if_pos (by grind [hI_sI, hI_sJ, hI_sR, hI_adv, hJ_sI, hJ_sJ, hJ_sR, hJ_adv, hR_sI, hR_sJ, hR_sR, hR_adv, ln_sI, ln_sJ, ln_sR, ln_adv, bi]), if_pos (show e < frm + 1 + 8 + 20 by lia)]
          refine c_hdF ?_
          show (0 : Int) < 1
          decide
        · have p1 : pB (frm + 1) e false 8 = false := pB_f (by lia)
          have R3 := R2.adv (at' := frm + 1 + 8) (b' := false) (by lia)
          have R4 : ∀ a b c : Int, RD (sI (sI (sI (adv (sI (sI (sI (adv h1 I (frm + 1) false) H 0 4) H 1 (iAnd (B frm) 63)) H 8 8) I (frm + 1 + 8) false) H 7 a) H 4 b) H 5 c) I r (frm + 1 + 8) e false := fun a b c => ((R3.sI (Or.inl n1)).sI (Or.inl n1)).sI (Or.inl n1)
          rw [p1, pA_f p1, if_neg (by grind [hI_sI, hI_sJ, hI_sR, hI_adv, hJ_sI, hJ_sJ, hJ_sR, hJ_adv, hR_sI, hR_sJ, hR_sR, hR_adv, ln_sI, ln_sJ, ln_sR, ln_adv, bi])]
          refine wp_b2e (c_left (R4 _ _ _)) ?_
          simp only [Bool.false_eq_true, if_false]
          by_cases l5 : e < frm + 1 + 8 + 20
          · rw [if_pos l5, if_neg (by lia)]
            refine c_hdF ?_
            show (0 : Int) < 1
            decide
          · rw [if_neg l5, if_pos (by lia), wp_some]
            have i2 := R0.i2
            unfold hdQc HdO
            grind [hI_sI, hI_sJ, hI_sR, hI_adv, hJ_sI, hJ_sJ, hJ_sR, hJ_adv, hR_sI, hR_sJ, hR_sR, hR_adv, ln_sI, ln_sJ, ln_sR, ln_adv, bi]
      · rw [if_neg l3, if_pos (show 128 ≤ B frm by lia), wp_b2]
        simp only [wp_some]
        refine c_hdN R1 B1 n1 n2 n3 (by grind [hI_sI, hI_sJ, hI_sR, hI_adv, hJ_sI, hJ_sJ, hJ_sR, hJ_adv, hR_sI, hR_sJ, hR_sR, hR_adv, ln_sI, ln_sJ, ln_sR, ln_adv, bi]) bb
