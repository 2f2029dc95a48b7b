/-! reading: frames of the model -/
def MFr (ho h : Hp) (w r e : Nat) (B : Nat → Int) (kind : Int) (s : FS) : Prop := (w + 1 ≠ r ∧ FxE ho h) ∧ RD h w r s.1 e s.2.1 ∧ BRm h r e B ∧ hI h w 4 = kind ∧ fVal (hJ h (w + 1) 0) (hJ h (w + 1) 1) (hJ h (w + 1) 2) (hI h w 6) (hI h w 7) s ∧ fBd s ∧ hR h w 5 = w + 1 ∧ ln h (w + 1) = 4
section
variable {ho h : Hp} {w r e : Nat} {B : Nat → Int} {kind : Int} {s : FS}
theorem MFr.R (L : MFr ho h w r e B kind s) : RD h w r s.1 e s.2.1 := L.2.1
theorem MFr.BR (L : MFr ho h w r e B kind s) : BRm h r e B := L.2.2.1
theorem MFr.k (L : MFr ho h w r e B kind s) : hI h w 4 = kind := L.2.2.2.1
theorem MFr.v (L : MFr ho h w r e B kind s) : fVal (hJ h (w + 1) 0) (hJ h (w + 1) 1) (hJ h (w + 1) 2) (hI h w 6) (hI h w 7) s := L.2.2.2.2.1
theorem MFr.d (L : MFr ho h w r e B kind s) : fBd s := L.2.2.2.2.2.1
theorem MFr.r5 (L : MFr ho h w r e B kind s) : hR h w 5 = w + 1 := L.2.2.2.2.2.2.1
theorem MFr.l (L : MFr ho h w r e B kind s) : ln h (w + 1) = 4 := L.2.2.2.2.2.2.2
theorem MFr.a (L : MFr ho h w r e B kind s) : MFr ho (sJ (adv h w (nA B s.1 e s.2.1) (nB B s.1 e s.2.1)) (w + 1) 0 (nV B s.1 e s.2.1)) w r e B kind (fA B e s) := by
  obtain ⟨⟨z1, z2⟩, R, hB, k, v, d, r5, l⟩ := L
  have rn := R.rn
  refine ⟨⟨z1, z2⟩, (R.adv (nA_le R.le)).sJ, hB.of (fun k => by grind [hI_sI, hI_sJ, hI_sR, hI_adv, hJ_sI, hJ_sJ, hJ_sR, hJ_adv, hR_sI, hR_sJ, hR_sR, hR_adv, ln_sI, ln_sJ, ln_sR, ln_adv, bi]), by grind [hI_sI, hI_sJ, hI_sR, hI_adv, hJ_sI, hJ_sJ, hJ_sR, hJ_adv, hR_sI, hR_sJ, hR_sR, hR_adv, ln_sI, ln_sJ, ln_sR, ln_adv, bi], fun g => ?_, fun g => d (nB_mono g), r5, l⟩
  have v1 := v (nB_mono g)
  unfold fA
  grind [hI_sI, hI_sJ, hI_sR, hI_adv, hJ_sI, hJ_sJ, hJ_sR, hJ_adv, hR_sI, hR_sJ, hR_sR, hR_adv, ln_sI, ln_sJ, ln_sR, ln_adv, bi]
theorem MFr.b (L : MFr ho h w r e B kind s) : MFr ho (sJ (adv h w (nA B s.1 e s.2.1) (nB B s.1 e s.2.1)) (w + 1) 1 (nV B s.1 e s.2.1)) w r e B kind (fB B e s) := by
  obtain ⟨⟨z1, z2⟩, R, hB, k, v, d, r5, l⟩ := L
  have rn := R.rn
  refine ⟨⟨z1, z2⟩, (R.adv (nA_le R.le)).sJ, hB.of (fun k => by grind [hI_sI, hI_sJ, hI_sR, hI_adv, hJ_sI, hJ_sJ, hJ_sR, hJ_adv, hR_sI, hR_sJ, hR_sR, hR_adv, ln_sI, ln_sJ, ln_sR, ln_adv, bi]), by grind [hI_sI, hI_sJ, hI_sR, hI_adv, hJ_sI, hJ_sJ, hJ_sR, hJ_adv, hR_sI, hR_sJ, hR_sR, hR_adv, ln_sI, ln_sJ, ln_sR, ln_adv, bi], fun g => ?_, fun g => ⟨nV_lt B s.1 e s.2.1, (d (nB_mono g)).2⟩, r5, l⟩
  have v1 := v (nB_mono g)
  unfold fB
  grind [hI_sI, hI_sJ, hI_sR, hI_adv, hJ_sI, hJ_sJ, hJ_sR, hJ_adv, hR_sI, hR_sJ, hR_sR, hR_adv, ln_sI, ln_sJ, ln_sR, ln_adv, bi]
theorem MFr.c (L : MFr ho h w r e B kind s) : MFr ho (sJ (adv h w (nA B s.1 e s.2.1) (nB B s.1 e s.2.1)) (w + 1) 2 (nV B s.1 e s.2.1)) w r e B kind (fC B e s) := by
  obtain ⟨⟨z1, z2⟩, R, hB, k, v, d, r5, l⟩ := L
  have rn := R.rn
  refine ⟨⟨z1, z2⟩, (R.adv (nA_le R.le)).sJ, hB.of (fun k => by grind [hI_sI, hI_sJ, hI_sR, hI_adv, hJ_sI, hJ_sJ, hJ_sR, hJ_adv, hR_sI, hR_sJ, hR_sR, hR_adv, ln_sI, ln_sJ, ln_sR, ln_adv, bi]), by grind [hI_sI, hI_sJ, hI_sR, hI_adv, hJ_sI, hJ_sJ, hJ_sR, hJ_adv, hR_sI, hR_sJ, hR_sR, hR_adv, ln_sI, ln_sJ, ln_sR, ln_adv, bi], fun g => ?_, fun g => d (nB_mono g), r5, l⟩
  have v1 := v (nB_mono g)
  unfold fC
  grind [hI_sI, hI_sJ, hI_sR, hI_adv, hJ_sI, hJ_sJ, hJ_sR, hJ_adv, hR_sI, hR_sJ, hR_sR, hR_adv, ln_sI, ln_sJ, ln_sR, ln_adv, bi]
/-- a number that is only passed -/
theorem MFr.p (L : MFr ho h w r e B kind s) {p : Nat} {b : Bool} (hp : p ≤ e) (hb : b = false → s.2.1 = false) : MFr ho (adv h w p b) w r e B kind (p, b, s.2.2) := by
  obtain ⟨⟨z1, z2⟩, R, hB, k, v, d, r5, l⟩ := L
  have rn := R.rn
  refine ⟨⟨z1, z2⟩, R.adv hp, hB.of (fun k => by grind [hI_sI, hI_sJ, hI_sR, hI_adv, hJ_sI, hJ_sJ, hJ_sR, hJ_adv, hR_sI, hR_sJ, hR_sR, hR_adv, ln_sI, ln_sJ, ln_sR, ln_adv, bi]), by grind [hI_sI, hI_sJ, hI_sR, hI_adv, hJ_sI, hJ_sJ, hJ_sR, hJ_adv, hR_sI, hR_sJ, hR_sR, hR_adv, ln_sI, ln_sJ, ln_sR, ln_adv, bi], fun g => ?_, fun g => d (hb g), r5, l⟩
  have v1 := v (hb g)
  grind [hI_sI, hI_sJ, hI_sR, hI_adv, hJ_sI, hJ_sJ, hJ_sR, hJ_adv, hR_sI, hR_sJ, hR_sR, hR_adv, ln_sI, ln_sJ, ln_sR, ln_adv, bi]
theorem m_data (L : MFr ho h w r e B kind s) {v : Int} (v0 : 0 ≤ v) : wp (f_mWire_takeData w v h) (fun h' => MFr ho h' w r e B kind (fP e v s)) := by
  obtain ⟨⟨z1, z2⟩, R, hB, k, vv, d, r5, l⟩ := L
  have rn := R.rn
  have nz := R.nz
  have sm := R.sm
  unfold f_mWire_takeData f_mWire_takeData_b23
  refine wp_b2e (m_pass R (n := v.toNat) (by lia)) ?_
  have R1 := R.adv (at' := pA s.1 e s.2.1 v.toNat) (b' := pB s.1 e s.2.1 v.toNat) (pA_le R.le)
  have i3 : hI (sI (adv h w (pA s.1 e s.2.1 v.toNat) (pB s.1 e s.2.1 v.toNat)) w 6 (s.1 : Int)) w 3 = bi (pB s.1 e s.2.1 v.toNat) := by grind [hI_sI, hI_sJ, hI_sR, hI_adv, hJ_sI, hJ_sJ, hJ_sR, hJ_adv, hR_sI, hR_sJ, hR_sR, hR_adv, ln_sI, ln_sJ, ln_sR, ln_adv, bi]
  rw [wp_lt1, i3]
  have fin : ∀ x : Int, (pB s.1 e s.2.1 v.toNat = false → x = v) → MFr ho (sI (sI (adv h w (pA s.1 e s.2.1 v.toNat) (pB s.1 e s.2.1 v.toNat)) w 6 (s.1 : Int)) w 7 x) w r e B kind (fP e v s) := fun x hx => by
    refine ⟨⟨z1, z2⟩, (R1.sI (Or.inr (by decide))).sI (Or.inr (by decide)), hB.of (fun k => by grind [hI_sI, hI_sJ, hI_sR, hI_adv, hJ_sI, hJ_sJ, hJ_sR, hJ_adv, hR_sI, hR_sJ, hR_sR, hR_adv, ln_sI, ln_sJ, ln_sR, ln_adv, bi]), by grind [hI_sI, hI_sJ, hI_sR, hI_adv, hJ_sI, hJ_sJ, hJ_sR, hJ_adv, hR_sI, hR_sJ, hR_sR, hR_adv, ln_sI, ln_sJ, ln_sR, ln_adv, bi], fun g => ?_, fun g => ?_, r5, l⟩
    · have g' : pB s.1 e s.2.1 v.toNat = false := g
      have v1 := vv (pB_inv g').1
      have x1 := hx g'
      unfold fP
      grind [hI_sI, hI_sJ, hI_sR, hI_adv, hJ_sI, hJ_sJ, hJ_sR, hJ_adv, hR_sI, hR_sJ, hR_sR, hR_adv, ln_sI, ln_sJ, ln_sR, ln_adv, bi]
    · have g' : pB s.1 e s.2.1 v.toNat = false := g
      have d1 := d (pB_inv g').1
      have l2 := (pB_inv g').2
      unfold fP
      exact ⟨d1.1, v0, by dsimp only; lia⟩
  cases hb : pB s.1 e s.2.1 v.toNat with
  | true =>
    rw [if_neg (by decide), ← hb, wp_cn]
    refine ⟨nz, ?_⟩
    rw [wp_lt1, wp_some]
    exact fin 0 (fun z => by rw [hb] at z; exact absurd z (by decide))
  | false =>
    have l2 := (pB_inv hb).2
    rw [if_pos (show bi false = 0 from rfl), ← hb, wp_cn]
    refine ⟨nz, ?_⟩
    rw [wp_lt1, wp_some]
    exact fin _ (fun _ => w32_id ⟨by lia, by lia⟩)
theorem m_tf0 {f : Nat} {Q : Hp → Prop} (q : Q h) : wp (f_mWire_takeFields_b5_lp (f + 1) w 0 h) Q := by
  show wp (f_mWire_takeFields_b5 (f_mWire_takeFields_b5_lp f) w 0 h) Q
  unfold f_mWire_takeFields_b5
  rw [if_pos (by decide), wp_some]; exact q
theorem m_tfN {f : Nat} {Q : Hp → Prop} {v q : Int} {d : Nat} (v0 : 0 < v) (hr : iRem v 10 = ((d + 1 : Nat) : Int)) (hq : iDiv v 10 = q) (hd : d < 3) (L : MFr ho h w r e B kind s) (kk : wp (f_mWire_takeFields_b5_lp f w q (sJ (adv h w (nA B s.1 e s.2.1) (nB B s.1 e s.2.1)) (w + 1) d (nV B s.1 e s.2.1))) Q) : wp (f_mWire_takeFields_b5_lp (f + 1) w v h) Q := by
  show wp (f_mWire_takeFields_b5 (f_mWire_takeFields_b5_lp f) w v h) Q
  unfold f_mWire_takeFields_b5 f_mWire_takeFields_b62
  have w1 : w32 (((d + 1 : Nat) : Int) - 1) = (d : Int) := by unfold w32; lia
  rw [if_neg (by lia), wp_lt1, hr, if_pos (by lia), if_pos (by lia)]
  refine wp_b2e (m_number L.R L.BR) ?_
  rw [L.r5, wp_cn]
  refine ⟨by lia, ?_⟩
  rw [w1, ln_adv, L.l, wp_ck]
  refine ⟨⟨by lia, by lia⟩, ?_⟩
  rw [wp_lt1, wp_lt1, Int.toNat_natCast, hq]
  exact kk
theorem m_tfD {f : Nat} {Q : Hp → Prop} {v q : Int} (v0 : 0 < v) (hr : iRem v 10 = 4) (hq : iDiv v 10 = q) (L : MFr ho h w r e B kind s) (kk : ∀ h', MFr ho h' w r e B kind (fD B e s) → wp (f_mWire_takeFields_b5_lp f w q h') Q) : wp (f_mWire_takeFields_b5_lp (f + 1) w v h) Q := by
  show wp (f_mWire_takeFields_b5 (f_mWire_takeFields_b5_lp f) w v h) Q
  unfold f_mWire_takeFields_b5 f_mWire_takeFields_b62
  rw [if_neg (by lia), wp_lt1, hr, if_pos (by decide), if_neg (by decide)]
  refine wp_b2e (m_number L.R L.BR) ?_
  refine wp_b1o (m_data (L.p (nA_le L.R.le) nB_mono) (nV_lt B s.1 e s.2.1).1) (fun h1 _ q1 => ?_)
  rw [wp_lt1, hq]
  exact kk h1 q1
theorem m_tfE {f : Nat} {Q : Hp → Prop} (L : MFr ho h w r e B kind s) (kk : ∀ h', MFr ho h' w r e B kind (fE B e s) → wp (f_mWire_takeFields_b5_lp f w 0 h') Q) : wp (f_mWire_takeFields_b5_lp (f + 1) w 5 h) Q := by
  show wp (f_mWire_takeFields_b5 (f_mWire_takeFields_b5_lp f) w 5 h) Q
  unfold f_mWire_takeFields_b5 f_mWire_takeFields_b62
  have e1 : iRem 5 10 = 5 := by decide
  have e2 : iDiv 5 10 = 0 := by decide
  have mt := m_take L.R L.BR (n := 8) (by decide)
  rw [if_neg (by decide), wp_lt1, e1, if_neg (by decide)]
  refine wp_b2e mt ?_
  rw [L.r5, wp_cn]
  refine ⟨by lia, ?_⟩
  rw [ln_adv, L.l, wp_ck]
  refine ⟨by decide, ?_⟩
  rw [wp_lt1, wp_lt1, e2, tn0]
  refine kk _ ?_
  obtain ⟨⟨z1, z2⟩, R, hB, k, v, d, r5, l⟩ := L
  have rn := R.rn
  refine ⟨⟨z1, z2⟩, (R.adv (pA_le R.le)).sJ, hB.of (fun k => by grind [hI_sI, hI_sJ, hI_sR, hI_adv, hJ_sI, hJ_sJ, hJ_sR, hJ_adv, hR_sI, hR_sJ, hR_sR, hR_adv, ln_sI, ln_sJ, ln_sR, ln_adv, bi]), by grind [hI_sI, hI_sJ, hI_sR, hI_adv, hJ_sI, hJ_sJ, hJ_sR, hJ_adv, hR_sI, hR_sJ, hR_sR, hR_adv, ln_sI, ln_sJ, ln_sR, ln_adv, bi], fun g => ?_, fun g => d (pB_inv g).1, r5, l⟩
  have v1 := v (pB_inv g).1
  unfold fE
  grind [hI_sI, hI_sJ, hI_sR, hI_adv, hJ_sI, hJ_sJ, hJ_sR, hJ_adv, hR_sI, hR_sJ, hR_sR, hR_adv, ln_sI, ln_sJ, ln_sR, ln_adv, bi]
end
