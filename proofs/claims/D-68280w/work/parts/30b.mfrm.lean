/-! reading: frames of the model (2) -/
section
variable {ho h : Hp} {w r e : Nat} {B : Nat → Int} {kind : Int} {s : FS}
/-- the fields of a kind -/
def fdS (B : Nat → Int) (e : Nat) (k : Int) (s : FS) : FS :=
  if k = 4 then fC B e (fB B e (fA B e s))
  else if k = 5 ∨ k = 17 ∨ k = 21 ∨ k = 24 then fB B e (fA B e s)
  else if k = 6 then fD B e (fB B e s)
  else if k = 7 then fD B e s
  else if k = 26 ∨ k = 27 then fE B e s
  else if k = 28 then fD B e (fB B e (fA B e s))
  else if k = 29 then fD B e (fA B e s)
  else if 16 ≤ k ∧ k ≤ 25 then fA B e s
  else s
def fdN (k : Int) : Int := if k = 4 then 321 else if k = 5 then 21 else if k = 6 then 42 else if k = 7 then 4 else if k = 17 then 21 else if k = 21 then 21 else if k = 24 then 21 else if k = 26 then 5 else if k = 27 then 5 else if k = 28 then 421 else if k = 29 then 41 else if 16 ≤ k ∧ k ≤ 25 then 1 else 0
theorem m_fieldsN {k : Int} (k0 : 0 ≤ k ∧ k ≤ 30) : f_mWire_fields k h = some (fdN k, h) := by
  have : k = ((k.toNat : Nat) : Int) := by lia
  generalize k.toNat = n at this
  subst this
  have hn : n < 31 := by lia
  have cs : n = 0 ∨ n = 1 ∨ n = 2 ∨ n = 3 ∨ n = 4 ∨ n = 5 ∨ n = 6 ∨ n = 7 ∨ n = 8 ∨ n = 9 ∨ n = 10 ∨ n = 11 ∨ n = 12 ∨ n = 13 ∨ n = 14 ∨ n = 15 ∨ n = 16 ∨ n = 17 ∨ n = 18 ∨ n = 19 ∨ n = 20 ∨ n = 21 ∨ n = 22 ∨ n = 23 ∨ n = 24 ∨ n = 25 ∨ n = 26 ∨ n = 27 ∨ n = 28 ∨ n = 29 ∨ n = 30 := by lia
  clear k0 hn
  rcases cs with rfl | rfl | rfl | rfl | rfl | rfl | rfl | rfl | rfl | rfl | rfl | rfl | rfl | rfl | rfl | rfl | rfl | rfl | rfl | rfl | rfl | rfl | rfl | rfl | rfl | rfl | rfl | rfl | rfl | rfl | rfl <;> rfl
theorem m_takeFields (L : MFr ho h w r e B kind s) {k : Int} (k0 : 0 ≤ k ∧ k ≤ 30) : wp (f_mWire_takeFields w k h) (fun h' => MFr ho h' w r e B kind (fdS B e k s)) := by
  unfold f_mWire_takeFields
  refine wp_b2e (m_fieldsN k0) ?_
  obtain ⟨f, hf⟩ : ∃ f, FU = f + 1 + 1 + 1 + 1 := ⟨999999996, rfl⟩
  rw [hf]
  unfold fdS fdN
  by_cases c4 : k = 4
  · rw [if_pos c4, if_pos c4]
    refine m_tfN (d := 0) (q := 32) (by decide) (by decide) (by decide) (by decide) L ?_
    refine m_tfN (d := 1) (q := 3) (by decide) (by decide) (by decide) (by decide) L.a ?_
    refine m_tfN (d := 2) (q := 0) (by decide) (by decide) (by decide) (by decide) L.a.b ?_
    exact m_tf0 L.a.b.c
  · rw [if_neg c4, if_neg c4]
    have two : wp (f_mWire_takeFields_b5_lp (f + 1 + 1 + 1 + 1) w 21 h) (fun h' => MFr ho h' w r e B kind (fB B e (fA B e s))) := by
      refine m_tfN (d := 0) (q := 2) (by decide) (by decide) (by decide) (by decide) L ?_
      refine m_tfN (d := 1) (q := 0) (by decide) (by decide) (by decide) (by decide) L.a ?_
      exact m_tf0 L.a.b
    by_cases c5 : k = 5
    · rw [if_pos c5, if_pos (Or.inl c5)]; exact two
    · rw [if_neg c5]
      by_cases c6 : k = 6
      · rw [if_pos c6, if_neg (by lia), if_pos c6]
        refine m_tfN (d := 1) (q := 4) (by decide) (by decide) (by decide) (by decide) L ?_
        refine m_tfD (q := 0) (by decide) (by decide) (by decide) L.b (fun h1 L1 => ?_)
        exact m_tf0 L1
      · rw [if_neg c6]
        by_cases c7 : k = 7
        · rw [if_pos c7, if_neg (by lia), if_neg c6, if_pos c7]
          refine m_tfD (q := 0) (by decide) (by decide) (by decide) L (fun h1 L1 => ?_)
          exact m_tf0 L1
        · rw [if_neg c7]
          by_cases c17 : k = 17
          · rw [if_pos c17, if_pos (by lia)]; exact two
          · rw [if_neg c17]
            by_cases c21 : k = 21
            · rw [if_pos c21, if_pos (by lia)]; exact two
            · rw [if_neg c21]
              by_cases c24 : k = 24
              · rw [if_pos c24, if_pos (by lia)]; exact two
              · rw [if_neg c24, if_neg (show ¬ (k = 5 ∨ k = 17 ∨ k = 21 ∨ k = 24) by lia), if_neg c6, if_neg c7]
                by_cases c26 : k = 26
                · rw [if_pos c26, if_pos (by lia)]
                  exact m_tfE L (fun h1 L1 => m_tf0 L1)
                · rw [if_neg c26]
                  by_cases c27 : k = 27
                  · rw [if_pos c27, if_pos (by lia)]
                    exact m_tfE L (fun h1 L1 => m_tf0 L1)
                  · rw [if_neg c27, if_neg (show ¬ (k = 26 ∨ k = 27) by lia)]
                    by_cases c28 : k = 28
                    · rw [if_pos c28, if_pos c28]
                      refine m_tfN (d := 0) (q := 42) (by decide) (by decide) (by decide) (by decide) L ?_
                      refine m_tfN (d := 1) (q := 4) (by decide) (by decide) (by decide) (by decide) L.a ?_
                      refine m_tfD (q := 0) (by decide) (by decide) (by decide) L.a.b (fun h1 L1 => ?_)
                      exact m_tf0 L1
                    · rw [if_neg c28, if_neg c28]
                      by_cases c29 : k = 29
                      · rw [if_pos c29, if_pos c29]
                        refine m_tfN (d := 0) (q := 4) (by decide) (by decide) (by decide) (by decide) L ?_
                        refine m_tfD (q := 0) (by decide) (by decide) (by decide) L.a (fun h1 L1 => ?_)
                        exact m_tf0 L1
                      · rw [if_neg c29, if_neg c29]
                        by_cases cc : 16 ≤ k ∧ k ≤ 25
                        · rw [if_pos cc, if_pos cc]
                          refine m_tfN (d := 0) (q := 0) (by decide) (by decide) (by decide) (by decide) L ?_
                          exact m_tf0 L.a
                        · rw [if_neg cc, if_neg cc]
                          exact m_tf0 L
theorem MFr.j3 (L : MFr ho h w r e B kind s) {v : Int} : MFr ho (sJ h (w + 1) 3 v) w r e B kind s := by
  obtain ⟨⟨z1, z2⟩, R, hB, k, vv, d, r5, l⟩ := L
  refine ⟨⟨z1, z2⟩, R.sJ, hB, k, fun g => ?_, d, r5, l⟩
  have v1 := vv g
  grind [hI_sI, hI_sJ, hI_sR, hI_adv, hJ_sI, hJ_sJ, hJ_sR, hJ_adv, hR_sI, hR_sJ, hR_sR, hR_adv, ln_sI, ln_sJ, ln_sR, ln_adv, bi]
theorem m_st51 {p b} {d bb : Int} (L : MFr ho h w r e B kind (p, b, s.2.2.1, s.2.2.2.1, s.2.2.2.2)) (h3 : hJ h (w + 1) 3 = d) (hb : 0 ≤ bb ∧ bb < 4611686018427387904) : wp (f_mWire_takeStream_b51 w (w + 1) 1 bb h) (fun h' => MFr ho h' w r e B kind (if d = 1 then fD B e (p, b, s.2.2.1, bb, s.2.2.2.2) else fR e (p, b, s.2.2.1, bb, s.2.2.2.2))) := by
  have nz := L.R.nz
  have sm := L.R.sm
  have le := L.R.le
  dsimp only at le
  unfold f_mWire_takeStream_b51 f_mWire_takeStream_b93
  rw [wp_cn]
  refine ⟨by lia, ?_⟩
  rw [L.l, wp_ck]
  refine ⟨by decide, ?_⟩
  rw [wp_lt1, hR_sJ, L.r5, ln_sJ, L.l, tn1, tn3, wp_cn]
  refine ⟨by lia, ?_⟩
  rw [wp_ck]
  refine ⟨by decide, ?_⟩
  have L1 : MFr ho (sJ h (w + 1) 1 bb) w r e B kind (p, b, s.2.2.1, bb, s.2.2.2.2) := by
    obtain ⟨⟨z1, z2⟩, R, hB, k, vv, dd, r5, l⟩ := L
    refine ⟨⟨z1, z2⟩, R.sJ, hB, k, fun g => ?_, fun g => ⟨hb, (dd g).2⟩, r5, l⟩
    have v1 := vv g
    grind [hI_sI, hI_sJ, hI_sR, hI_adv, hJ_sI, hJ_sJ, hJ_sR, hJ_adv, hR_sI, hR_sJ, hR_sR, hR_adv, ln_sI, ln_sJ, ln_sR, ln_adv, bi]
  have d1 : hJ (sJ h (w + 1) 1 bb) (w + 1) 3 = d := by grind [hI_sI, hI_sJ, hI_sR, hI_adv, hJ_sI, hJ_sJ, hJ_sR, hJ_adv, hR_sI, hR_sJ, hR_sR, hR_adv, ln_sI, ln_sJ, ln_sR, ln_adv, bi]
  generalize sJ h (w + 1) 1 bb = h1 at *
  rw [d1]
  by_cases c : d = 1
  · rw [if_neg (fun z => z c), if_pos c]
    refine wp_b2e (m_number L1.R L1.BR) ?_
    rw [wp_cn]
    refine ⟨nz, ?_⟩
    refine wp_b1o (m_data (L1.p (nA_le L1.R.le) nB_mono) (nV_lt B _ e _).1) (fun h2 _ q => ?_)
    rw [wp_some]
    exact q
  · rw [if_pos c, if_neg c]
    have i3 := L1.R.i3
    have i1 := L1.R.i1
    have i2 := L1.R.i2
    dsimp only at i1 i3
    rw [i3, i1, i2]
    unfold fR
    cases b with
    | true =>
      rw [if_neg (by decide), wp_cn]
      refine ⟨nz, wp_b1o (m_data L1 (v := 0) (by decide)) (fun h2 _ q => ?_)⟩
      rw [wp_some]
      exact q
    | false =>
      have w1 : w64 ((e : Int) - (p : Int)) = ((e - p : Nat) : Int) := by rw [w64_id ⟨by lia, by lia⟩]; lia
      rw [if_pos (show bi false = 0 from rfl), wp_cn, w1]
      refine ⟨nz, wp_b1o (m_data L1 (v := ((e - p : Nat) : Int)) (by lia)) (fun h2 _ q => ?_)⟩
      rw [wp_some]
      exact q
theorem m_streams {p : Nat} (L : MFr ho h w r e B kind (p, false, 0, 0, 0, 0, 0)) {k : Int} (h0 : 0 ≤ k) (h1 : k < 256) : wp (f_mWire_takeStream w k h) (fun h' => MFr ho h' w r e B kind (fSt B e k (p, false, 0, 0, 0, 0, 0))) := by
  have nz := L.R.nz
  unfold f_mWire_takeStream fSt
  rw [L.r5, wp_cn]
  refine ⟨by lia, ?_⟩
  rw [L.l, wp_ck]
  refine ⟨by decide, ?_⟩
  rw [wp_lt1, hR_sJ, L.r5, wp_cn]
  refine ⟨by lia, ?_⟩
  rw [ln_sJ, L.l, wp_ck]
  refine ⟨by decide, ?_⟩
  rw [wp_lt1, tn2, tn3, iShr1 h0 h1, iAnd1, iAnd4 h0 h1]
  have L1 : MFr ho (sJ (sJ h (w + 1) 2 (k % 2)) (w + 1) 3 (k / 2 % 2)) w r e B kind (p, false, 0, 0, k % 2, 0, 0) := by
    obtain ⟨⟨z1, z2⟩, R, hB, kk, vv, dd, r5, l⟩ := L
    refine ⟨⟨z1, z2⟩, R.sJ.sJ, hB, kk, fun g => ?_, dd, r5, l⟩
    have v1 := vv g
    grind [hI_sI, hI_sJ, hI_sR, hI_adv, hJ_sI, hJ_sJ, hJ_sR, hJ_adv, hR_sI, hR_sJ, hR_sR, hR_adv, ln_sI, ln_sJ, ln_sR, ln_adv, bi]
  have d1 : hJ (sJ (sJ h (w + 1) 2 (k % 2)) (w + 1) 3 (k / 2 % 2)) (w + 1) 3 = k / 2 % 2 := by grind [hI_sI, hI_sJ, hI_sR, hI_adv, hJ_sI, hJ_sJ, hJ_sR, hJ_adv, hR_sI, hR_sJ, hR_sR, hR_adv, ln_sI, ln_sJ, ln_sR, ln_adv, bi]
  generalize sJ (sJ h (w + 1) 2 (k % 2)) (w + 1) 3 (k / 2 % 2) = h2 at *
  refine wp_b2e (m_number L1.R L1.BR) ?_
  rw [L1.r5, wp_cn]
  refine ⟨by lia, ?_⟩
  rw [ln_adv, L1.l, wp_ck]
  refine ⟨by decide, ?_⟩
  rw [wp_lt1, tn0]
  have L2 := L1.a
  have d2 : hJ (sJ (adv h2 w (nA B p e false) (nB B p e false)) (w + 1) 0 (nV B p e false)) (w + 1) 3 = k / 2 % 2 := by grind [hI_sI, hI_sJ, hI_sR, hI_adv, hJ_sI, hJ_sJ, hJ_sR, hJ_adv, hR_sI, hR_sJ, hR_sR, hR_adv, ln_sI, ln_sJ, ln_sR, ln_adv, bi]
  dsimp only at L2 ⊢
  generalize sJ (adv h2 w (nA B p e false) (nB B p e false)) (w + 1) 0 (nV B p e false) = h3 at *
  rw [L2.r5]
  by_cases c : k / 4 % 2 = 0
  · rw [if_pos (show 4 * (k / 4 % 2) ≤ 0 by lia)]
    simp only [if_pos c]
    exact m_st51 (s := (0, false, nV B p e false, 0, k % 2, 0, 0)) L2 d2 (by decide)
  · rw [if_neg (show ¬ 4 * (k / 4 % 2) ≤ 0 by lia)]
    simp only [if_neg c]
    refine wp_b2e (m_number L2.R L2.BR) ?_
    have L3 := L2.p (p := nA B (fA B e (p, false, 0, 0, k % 2, 0, 0)).1 e (fA B e (p, false, 0, 0, k % 2, 0, 0)).2.1) (b := nB B (fA B e (p, false, 0, 0, k % 2, 0, 0)).1 e (fA B e (p, false, 0, 0, k % 2, 0, 0)).2.1) (nA_le L2.R.le) nB_mono
    dsimp only [fA] at L3 ⊢
    exact m_st51 (s := (0, false, nV B p e false, 0, k % 2, 0, 0)) L3 (by rw [hJ_adv]; exact d2) (nV_lt B _ e _)
end
