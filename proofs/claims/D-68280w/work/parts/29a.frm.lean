/-! reading: frames, what they are; the class -/
/-- a frame that is read: where, over, a, b, c, its data's place and size -/
abbrev FS : Type := Nat × Bool × Int × Int × Int × Int × Int
def fA (B : Nat → Int) (e : Nat) (s : FS) : FS := (nA B s.1 e s.2.1, nB B s.1 e s.2.1, nV B s.1 e s.2.1, s.2.2.2.1, s.2.2.2.2.1, s.2.2.2.2.2.1, s.2.2.2.2.2.2)
def fB (B : Nat → Int) (e : Nat) (s : FS) : FS := (nA B s.1 e s.2.1, nB B s.1 e s.2.1, s.2.2.1, nV B s.1 e s.2.1, s.2.2.2.2.1, s.2.2.2.2.2.1, s.2.2.2.2.2.2)
def fC (B : Nat → Int) (e : Nat) (s : FS) : FS := (nA B s.1 e s.2.1, nB B s.1 e s.2.1, s.2.2.1, s.2.2.2.1, nV B s.1 e s.2.1, s.2.2.2.2.2.1, s.2.2.2.2.2.2)
/-- n bytes of data -/
def fP (e : Nat) (n : Int) (s : FS) : FS := (pA s.1 e s.2.1 n.toNat, pB s.1 e s.2.1 n.toNat, s.2.2.1, s.2.2.2.1, s.2.2.2.2.1, (s.1 : Int), n)
/-- data with its size ahead -/
def fD (B : Nat → Int) (e : Nat) (s : FS) : FS := fP e (nV B s.1 e s.2.1) (nA B s.1 e s.2.1, nB B s.1 e s.2.1, s.2.2)
/-- whether the values are right -/
def fOk (kind : Int) (s : FS) : Prop :=
  if kind = 6 ∨ kind = 8 then s.2.2.2.1 + s.2.2.2.2.2.2 ≤ 4611686018427387903
  else if kind = 7 then 0 < s.2.2.2.2.2.2
  else if kind = 24 then s.2.2.2.1 ≤ s.2.2.1 ∧ 0 < s.2.2.2.2.2.2 ∧ s.2.2.2.2.2.2 ≤ 20
  else if kind = 18 ∨ kind = 19 ∨ kind = 22 ∨ kind = 23 then s.2.2.1 ≤ 1152921504606846976
  else True
/-- values in their bounds -/
def fBd (s : FS) : Prop := s.2.1 = false → (0 ≤ s.2.2.2.1 ∧ s.2.2.2.1 < 4611686018427387904) ∧ 0 ≤ s.2.2.2.2.2.2 ∧ s.2.2.2.2.2.2 < 1000000
def fVal (a b c dA dS : Int) (s : FS) : Prop := s.2.1 = false → a = s.2.2.1 ∧ b = s.2.2.2.1 ∧ c = s.2.2.2.2.1 ∧ dA = s.2.2.2.2.2.1 ∧ dS = s.2.2.2.2.2.2
/-- references, lengths and the room are those of another heap -/
def FxE (ho h : Hp) : Prop := hR h = hR ho ∧ ln h = ln ho ∧ h.1 = ho.1
def CFr (ho h : Hp) (F I r e : Nat) (B : Nat → Int) (kind : Int) (s : FS) : Prop := (F ≠ 0 ∧ F ≠ I ∧ F ≠ r ∧ FxE ho h) ∧ RD h I r s.1 e s.2.1 ∧ BRc h r e B ∧ hI h F 0 = kind ∧ fVal (hJ h F 2) (hJ h F 3) (hJ h F 4) (hI h F 8) (hI h F 9) s ∧ fBd s
section
variable {ho h : Hp} {F I r e : Nat} {B : Nat → Int} {kind : Int} {s : FS}
theorem nB_mono (g : nB B s.1 e s.2.1 = false) : s.2.1 = false := by unfold nB at g; cases hb : s.2.1 <;> simp [hb] at g ⊢
theorem pB_mono {n : Nat} (g : pB s.1 e s.2.1 n = false) : s.2.1 = false := (pB_inv g).1
theorem CFr.ne (L : CFr ho h F I r e B kind s) : F ≠ I := L.1.2.1
theorem CFr.R (L : CFr ho h F I r e B kind s) : RD h I r s.1 e s.2.1 := L.2.1
theorem CFr.BR (L : CFr ho h F I r e B kind s) : BRc h r e B := L.2.2.1
theorem CFr.k (L : CFr ho h F I r e B kind s) : hI h F 0 = kind := L.2.2.2.1
theorem CFr.a (L : CFr ho h F I r e B kind s) : CFr ho (sJ (adv h I (nA B s.1 e s.2.1) (nB B s.1 e s.2.1)) F 2 (nV B s.1 e s.2.1)) F I r e B kind (fA B e s) := by
  obtain ⟨⟨z1, z2, z3⟩, R, hB, k, v, d⟩ := L
  have rn := R.rn
  refine ⟨⟨z1, z2, z3⟩, (R.adv (nA_le R.le)).sJ, hB.of (fun k => by grind [hI_sI, hI_sJ, hI_sR, hI_adv, hJ_sI, hJ_sJ, hJ_sR, hJ_adv, hR_sI, hR_sJ, hR_sR, hR_adv, ln_sI, ln_sJ, ln_sR, ln_adv, bi]), by grind [hI_sI, hI_sJ, hI_sR, hI_adv, hJ_sI, hJ_sJ, hJ_sR, hJ_adv, hR_sI, hR_sJ, hR_sR, hR_adv, ln_sI, ln_sJ, ln_sR, ln_adv, bi], fun g => ?_, fun g => d (nB_mono g)⟩
  have v1 := v (nB_mono g)
  unfold fA
  grind [hI_sI, hI_sJ, hI_sR, hI_adv, hJ_sI, hJ_sJ, hJ_sR, hJ_adv, hR_sI, hR_sJ, hR_sR, hR_adv, ln_sI, ln_sJ, ln_sR, ln_adv, bi]
theorem CFr.b (L : CFr ho h F I r e B kind s) : CFr ho (sJ (adv h I (nA B s.1 e s.2.1) (nB B s.1 e s.2.1)) F 3 (nV B s.1 e s.2.1)) F I r e B kind (fB B e s) := by
  obtain ⟨⟨z1, z2, z3⟩, R, hB, k, v, d⟩ := L
  have rn := R.rn
  refine ⟨⟨z1, z2, z3⟩, (R.adv (nA_le R.le)).sJ, hB.of (fun k => by grind [hI_sI, hI_sJ, hI_sR, hI_adv, hJ_sI, hJ_sJ, hJ_sR, hJ_adv, hR_sI, hR_sJ, hR_sR, hR_adv, ln_sI, ln_sJ, ln_sR, ln_adv, bi]), by grind [hI_sI, hI_sJ, hI_sR, hI_adv, hJ_sI, hJ_sJ, hJ_sR, hJ_adv, hR_sI, hR_sJ, hR_sR, hR_adv, ln_sI, ln_sJ, ln_sR, ln_adv, bi], fun g => ?_, fun g => ?_⟩
  · have v1 := v (nB_mono g)
    unfold fB
    grind [hI_sI, hI_sJ, hI_sR, hI_adv, hJ_sI, hJ_sJ, hJ_sR, hJ_adv, hR_sI, hR_sJ, hR_sR, hR_adv, ln_sI, ln_sJ, ln_sR, ln_adv, bi]
  · exact ⟨nV_lt B s.1 e s.2.1, (d (nB_mono g)).2⟩
theorem CFr.c (L : CFr ho h F I r e B kind s) : CFr ho (sJ (adv h I (nA B s.1 e s.2.1) (nB B s.1 e s.2.1)) F 4 (nV B s.1 e s.2.1)) F I r e B kind (fC B e s) := by
  obtain ⟨⟨z1, z2, z3⟩, R, hB, k, v, d⟩ := L
  have rn := R.rn
  refine ⟨⟨z1, z2, z3⟩, (R.adv (nA_le R.le)).sJ, hB.of (fun k => by grind [hI_sI, hI_sJ, hI_sR, hI_adv, hJ_sI, hJ_sJ, hJ_sR, hJ_adv, hR_sI, hR_sJ, hR_sR, hR_adv, ln_sI, ln_sJ, ln_sR, ln_adv, bi]), by grind [hI_sI, hI_sJ, hI_sR, hI_adv, hJ_sI, hJ_sJ, hJ_sR, hJ_adv, hR_sI, hR_sJ, hR_sR, hR_adv, ln_sI, ln_sJ, ln_sR, ln_adv, bi], fun g => ?_, fun g => d (nB_mono g)⟩
  have v1 := v (nB_mono g)
  unfold fC
  grind [hI_sI, hI_sJ, hI_sR, hI_adv, hJ_sI, hJ_sJ, hJ_sR, hJ_adv, hR_sI, hR_sJ, hR_sR, hR_adv, ln_sI, ln_sJ, ln_sR, ln_adv, bi]
theorem c_slice (L : CFr ho h F I r e B kind s) : wp (f_cFrame_slice F I h) (fun h' => CFr ho h' F I r e B kind (fD B e s)) := by
  have ⟨⟨z1, z2, z3⟩, R, hB, k, v, d⟩ := L
  have rn := R.rn
  have nz := R.nz
  have sm := R.sm
  unfold f_cFrame_slice f_cFrame_slice_b20 f_cFrame_slice_b34
  rw [wp_cn]
  refine ⟨nz, wp_b2e (c_number R hB) ?_⟩
  have R1 := R.adv (at' := nA B s.1 e s.2.1) (b' := nB B s.1 e s.2.1) (nA_le R.le)
  refine wp_b2e (c_left R1) ?_
  have vl := nV_lt B s.1 e s.2.1
  have le1 := nA_le (B := B) (b := s.2.1) R.le
  unfold fD
  by_cases g : nB B s.1 e s.2.1 = true
  · rw [nV_t g, g, nA_t g]
    rw [g, nA_t g] at R1
    simp only [if_true, Int.le_refl]
    rw [wp_cn]
    refine ⟨nz, ?_⟩
    rw [if_neg (by grind [hI_sI, hI_sJ, hI_sR, hI_adv, hJ_sI, hJ_sJ, hJ_sR, hJ_adv, hR_sI, hR_sJ, hR_sR, hR_adv, ln_sI, ln_sJ, ln_sR, ln_adv, bi])]
    simp only [wp_cn, wp_ck, wp_lt1, wp_some, hI_sI, hJ_sJ, hR_sR, hI_sJ, hI_sR, hJ_sI, hJ_sR, hR_sI, hR_sJ, ln_sI, ln_sJ, ln_sR, kd_sI, kd_sJ, kd_sR, hN_sI, hN_sJ, hN_sR, hZ_sI, hZ_sJ, hZ_sR, hR_adv, hJ_adv, ln_adv, hN_adv, hZ_adv, ne_eq, not_false_eq_true, true_and, and_false, false_and, and_true, if_false, if_true, and_self, ixs, Nat.reduceEqDiff, Int.toNat_natCast, tn0, tn1, tn2, tn3, tn4, tn5, tn6, tn7, tn8, tn9, z1, nz]
    have R2 : RD (sI (adv h I s.1 true) F 9 0) I r s.1 e true := R1.sI (Or.inl z2)
    refine wp_b2e (c_pass R2 (n := 0) (by decide)) ?_
    rw [pB_b, pA_t pB_b]
    simp only [wp_cn, wp_ck, wp_lt1, wp_some, hI_sI, hJ_sJ, hR_sR, hI_sJ, hI_sR, hJ_sI, hJ_sR, hR_sI, hR_sJ, ln_sI, ln_sJ, ln_sR, kd_sI, kd_sJ, kd_sR, hN_sI, hN_sJ, hN_sR, hZ_sI, hZ_sJ, hZ_sR, hR_adv, hJ_adv, ln_adv, hN_adv, hZ_adv, ne_eq, not_false_eq_true, true_and, and_false, false_and, and_true, if_false, if_true, and_self, ixs, Nat.reduceEqDiff, Int.toNat_natCast, tn0, tn1, tn2, tn3, tn4, tn5, tn6, tn7, tn8, tn9]
    refine ⟨⟨z1, z2, z3⟩, ?_, ?_, ?_, fun g => ?_, fun g => ?_⟩
    · unfold fP; rw [pB_b, pA_t pB_b]; exact (R2.adv R.le).sI (Or.inl z2)
    · exact hB.of (fun k => by grind [hI_sI, hI_sJ, hI_sR, hI_adv, hJ_sI, hJ_sJ, hJ_sR, hJ_adv, hR_sI, hR_sJ, hR_sR, hR_adv, ln_sI, ln_sJ, ln_sR, ln_adv, bi])
    · grind [hI_sI, hI_sJ, hI_sR, hI_adv, hJ_sI, hJ_sJ, hJ_sR, hJ_adv, hR_sI, hR_sJ, hR_sR, hR_adv, ln_sI, ln_sJ, ln_sR, ln_adv, bi]
    · unfold fP at g; simp [pB] at g
    · unfold fP at g; simp [pB] at g
  · have g' : nB B s.1 e s.2.1 = false := by simpa using g
    have sb := nB_mono g'
    rw [g', nV_g g']
    rw [nV_g g'] at vl
    rw [g'] at R1
    simp only [Bool.false_eq_true, if_false]
    generalize hp : nA B s.1 e s.2.1 = p at *
    by_cases c2 : nvl B s.1 ≤ ((e - p : Nat) : Int)
    · rw [if_pos c2]
      simp only [wp_cn, wp_ck, wp_lt1, wp_some, hI_sI, hJ_sJ, hR_sR, hI_sJ, hI_sR, hJ_sI, hJ_sR, hR_sI, hR_sJ, ln_sI, ln_sJ, ln_sR, kd_sI, kd_sJ, kd_sR, hN_sI, hN_sJ, hN_sR, hZ_sI, hZ_sJ, hZ_sR, hR_adv, hJ_adv, ln_adv, hN_adv, hZ_adv, ne_eq, not_false_eq_true, true_and, and_false, false_and, and_true, if_false, if_true, and_self, ixs, Nat.reduceEqDiff, Int.toNat_natCast, tn0, tn1, tn2, tn3, tn4, tn5, tn6, tn7, tn8, tn9, z1, nz]
      rw [if_pos (by grind [hI_sI, hI_sJ, hI_sR, hI_adv, hJ_sI, hJ_sJ, hJ_sR, hJ_adv, hR_sI, hR_sJ, hR_sR, hR_adv, ln_sI, ln_sJ, ln_sR, ln_adv, bi])]
      have w1 : w32 (nvl B s.1) = (((nvl B s.1).toNat : Nat) : Int) := by rw [w32_id ⟨by lia, by lia⟩]; lia
      simp only [wp_cn, wp_ck, wp_lt1, wp_some, hI_sI, hJ_sJ, hR_sR, hI_sJ, hI_sR, hJ_sI, hJ_sR, hR_sI, hR_sJ, ln_sI, ln_sJ, ln_sR, kd_sI, kd_sJ, kd_sR, hN_sI, hN_sJ, hN_sR, hZ_sI, hZ_sJ, hZ_sR, hR_adv, hJ_adv, ln_adv, hN_adv, hZ_adv, ne_eq, not_false_eq_true, true_and, and_false, false_and, and_true, if_false, if_true, and_self, ixs, Nat.reduceEqDiff, Int.toNat_natCast, tn0, tn1, tn2, tn3, tn4, tn5, tn6, tn7, tn8, tn9, z1, nz, w1]
      have R2 : RD (sI (adv h I p false) F 9 (((nvl B s.1).toNat : Nat) : Int)) I r p e false := R1.sI (Or.inl z2)
      refine wp_b2e (c_pass R2 (by lia)) ?_
      have p1 : pB p e false (nvl B s.1).toNat = false := pB_f (by lia)
      rw [p1, pA_f p1]
      simp only [wp_cn, wp_ck, wp_lt1, wp_some, hI_sI, hJ_sJ, hR_sR, hI_sJ, hI_sR, hJ_sI, hJ_sR, hR_sI, hR_sJ, ln_sI, ln_sJ, ln_sR, kd_sI, kd_sJ, kd_sR, hN_sI, hN_sJ, hN_sR, hZ_sI, hZ_sJ, hZ_sR, hR_adv, hJ_adv, ln_adv, hN_adv, hZ_adv, ne_eq, not_false_eq_true, true_and, and_false, false_and, and_true, if_false, if_true, and_self, ixs, Nat.reduceEqDiff, Int.toNat_natCast, tn0, tn1, tn2, tn3, tn4, tn5, tn6, tn7, tn8, tn9]
      refine ⟨⟨z1, z2, z3⟩, ?_, ?_, ?_, fun g => ?_, fun g => ?_⟩
      · unfold fP; dsimp only; rw [p1, pA_f p1]; exact (R2.adv (by lia)).sI (Or.inl z2)
      · exact hB.of (fun k => by grind [hI_sI, hI_sJ, hI_sR, hI_adv, hJ_sI, hJ_sJ, hJ_sR, hJ_adv, hR_sI, hR_sJ, hR_sR, hR_adv, ln_sI, ln_sJ, ln_sR, ln_adv, bi])
      · grind [hI_sI, hI_sJ, hI_sR, hI_adv, hJ_sI, hJ_sJ, hJ_sR, hJ_adv, hR_sI, hR_sJ, hR_sR, hR_adv, ln_sI, ln_sJ, ln_sR, ln_adv, bi]
      · have v1 := v sb
        unfold fP
        grind [hI_sI, hI_sJ, hI_sR, hI_adv, hJ_sI, hJ_sJ, hJ_sR, hJ_adv, hR_sI, hR_sJ, hR_sR, hR_adv, ln_sI, ln_sJ, ln_sR, ln_adv, bi]
      · have d1 := d sb
        unfold fP
        exact ⟨d1.1, by dsimp only; lia, by dsimp only; lia⟩
    · rw [if_neg c2]
      simp only [wp_cn, wp_ck, wp_lt1, wp_some, hI_sI, hJ_sJ, hR_sR, hI_sJ, hI_sR, hJ_sI, hJ_sR, hR_sI, hR_sJ, ln_sI, ln_sJ, ln_sR, kd_sI, kd_sJ, kd_sR, hN_sI, hN_sJ, hN_sR, hZ_sI, hZ_sJ, hZ_sR, hR_adv, hJ_adv, ln_adv, hN_adv, hZ_adv, ne_eq, not_false_eq_true, true_and, and_false, false_and, and_true, if_false, if_true, and_self, ixs, Nat.reduceEqDiff, Int.toNat_natCast, tn0, tn1, tn2, tn3, tn4, tn5, tn6, tn7, tn8, tn9, z1, nz]
      rw [if_neg (by grind [hI_sI, hI_sJ, hI_sR, hI_adv, hJ_sI, hJ_sJ, hJ_sR, hJ_adv, hR_sI, hR_sJ, hR_sR, hR_adv, ln_sI, ln_sJ, ln_sR, ln_adv, bi])]
      simp only [wp_cn, wp_ck, wp_lt1, wp_some, hI_sI, hJ_sJ, hR_sR, hI_sJ, hI_sR, hJ_sI, hJ_sR, hR_sI, hR_sJ, ln_sI, ln_sJ, ln_sR, kd_sI, kd_sJ, kd_sR, hN_sI, hN_sJ, hN_sR, hZ_sI, hZ_sJ, hZ_sR, hR_adv, hJ_adv, ln_adv, hN_adv, hZ_adv, ne_eq, not_false_eq_true, true_and, and_false, false_and, and_true, if_false, if_true, and_self, ixs, Nat.reduceEqDiff, Int.toNat_natCast, tn0, tn1, tn2, tn3, tn4, tn5, tn6, tn7, tn8, tn9, z1, nz]
      have ad : sI (adv h I p false) I 3 1 = adv h I p true := by unfold adv; rw [sI_cm (by lia), sI_ov]; rfl
      rw [ad]
      have R2 : RD (sI (adv h I p true) F 9 0) I r p e true := (R.adv le1).sI (Or.inl z2)
      refine wp_b2e (c_pass R2 (n := 0) (by decide)) ?_
      rw [pB_b, pA_t pB_b]
      simp only [wp_cn, wp_ck, wp_lt1, wp_some, hI_sI, hJ_sJ, hR_sR, hI_sJ, hI_sR, hJ_sI, hJ_sR, hR_sI, hR_sJ, ln_sI, ln_sJ, ln_sR, kd_sI, kd_sJ, kd_sR, hN_sI, hN_sJ, hN_sR, hZ_sI, hZ_sJ, hZ_sR, hR_adv, hJ_adv, ln_adv, hN_adv, hZ_adv, ne_eq, not_false_eq_true, true_and, and_false, false_and, and_true, if_false, if_true, and_self, ixs, Nat.reduceEqDiff, Int.toNat_natCast, tn0, tn1, tn2, tn3, tn4, tn5, tn6, tn7, tn8, tn9]
      have p1 : pB p e false (nvl B s.1).toNat = true := pB_t (by lia)
      refine ⟨⟨z1, z2, z3⟩, ?_, ?_, ?_, fun g => ?_, fun g => ?_⟩
      · unfold fP; dsimp only; rw [p1, pA_t p1]; exact (R2.adv le1).sI (Or.inl z2)
      · exact hB.of (fun k => by grind [hI_sI, hI_sJ, hI_sR, hI_adv, hJ_sI, hJ_sJ, hJ_sR, hJ_adv, hR_sI, hR_sJ, hR_sR, hR_adv, ln_sI, ln_sJ, ln_sR, ln_adv, bi])
      · grind [hI_sI, hI_sJ, hI_sR, hI_adv, hJ_sI, hJ_sJ, hJ_sR, hJ_adv, hR_sI, hR_sJ, hR_sR, hR_adv, ln_sI, ln_sJ, ln_sR, ln_adv, bi]
      · unfold fP at g; dsimp only at g; rw [p1] at g; exact absurd g (by decide)
      · unfold fP at g; dsimp only at g; rw [p1] at g; exact absurd g (by decide)
end
