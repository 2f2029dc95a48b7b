/-! reading: a frame of the model, whole -/
section
variable {ho h : Hp} {w r e : Nat} {B : Nat → Int} {kind k : Int} {s : FS}
theorem m_right (L : MFr ho h w r e B kind s) (n2 : kind ≠ 2) (n3 : kind ≠ 3) (hb : s.2.1 = false) : wp (f_mWire_isRight w h) (fun o => o.2 = h ∧ (o.1 = 0 ∨ o.1 = 1) ∧ (o.1 = 1 ↔ fOk kind s)) := by
  have v := L.v hb
  have d := L.d hb
  have fin : ∀ c : Int, c = 0 ∨ c = 1 → (c = 1 ↔ fOk kind s) → wp (some (c, h)) (fun o => o.2 = h ∧ (o.1 = 0 ∨ o.1 = 1) ∧ (o.1 = 1 ↔ fOk kind s)) := fun c hc q => by
    rw [wp_some]; exact ⟨rfl, hc, q⟩
  unfold f_mWire_isRight f_mWire_isRight_b199 f_mWire_isRight_b180 f_mWire_isRight_b74
  have w1 : w64 (hJ h (w + 1) 1 + hI h w 7) = hJ h (w + 1) 1 + hI h w 7 := w64_id ⟨by lia, by lia⟩
  have x0 : ix 0 4 := by decide
  have x1 : ix 1 4 := by decide
  have z5 : ¬ (w + 1 = 0) := by lia
  simp only [L.k, L.r5, L.l, tn0, tn1, w1, if_pos x0, if_pos x1, if_neg z5]
  rw [if_neg n2, if_pos n3]
  (repeat' split) <;> refine fin _ (by decide) ?_ <;> (unfold fOk; clear fin L w1; grind)
theorem m_pad {f0 : Nat} (f : Nat) : ∀ (p : Nat) (h : Hp), e - p ≤ f0 → f0 < f → FxE ho h → RD h w r p e false → BRm h r e B → hI h w 4 = kind → wp (f_mWire_takeRest_b7_lp f w h) (fun h' => FxE ho h' ∧ RD h' w r (pdE B e f0 p) e false ∧ BRm h' r e B ∧ hI h' w 4 = kind) := by
  induction f0 generalizing f with
  | zero =>
    intro p h hp hf X R hB k
    obtain ⟨f, rfl⟩ : ∃ g, f = g + 1 := ⟨f - 1, by lia⟩
    show wp (f_mWire_takeRest_b7 (f_mWire_takeRest_b7_lp f) w h) _
    unfold f_mWire_takeRest_b7
    have le := R.le
    rw [R.i1, R.i2, if_pos (by lia), wp_some]
    exact ⟨X, R, hB, k⟩
  | succ f0 ih =>
    intro p h hp hf X R hB k
    obtain ⟨f, rfl⟩ : ∃ g, f = g + 1 := ⟨f - 1, by lia⟩
    show wp (f_mWire_takeRest_b7 (f_mWire_takeRest_b7_lp f) w h) _
    unfold f_mWire_takeRest_b7 pdE
    have le := R.le
    have sm := R.sm
    rw [R.i1, R.i2]
    by_cases c : p < e
    · rw [if_neg (by lia), R.row, wp_cn]
      refine ⟨R.rz, ?_⟩
      rw [wp_ck, Int.toNat_natCast]
      refine ⟨R.ix c, ?_⟩
      rw [(hB p c).2]
      by_cases c2 : B p = 0
      · rw [if_neg (fun z => z c2), if_pos ⟨c, c2⟩, wp_lt1, w_k1 (by lia)]
        have rn := R.rn
        have ad : sI h w 1 ((p + 1 : Nat) : Int) = adv h w (p + 1) false := by unfold adv; rw [sI_id R.i3]
        rw [ad]
        exact ih f (p + 1) _ (by lia) (by lia) X.adv (R.adv (by lia)) (hB.of (fun k => by grind [hI_sI, hI_sJ, hI_sR, hI_adv, hJ_sI, hJ_sJ, hJ_sR, hJ_adv, hR_sI, hR_sJ, hR_sR, hR_adv, ln_sI, ln_sJ, ln_sR, ln_adv, bi])) (by grind [hI_sI, hI_sJ, hI_sR, hI_adv, hJ_sI, hJ_sJ, hJ_sR, hJ_adv, hR_sI, hR_sJ, hR_sR, hR_adv, ln_sI, ln_sJ, ln_sR, ln_adv, bi])
      · rw [if_pos c2, if_neg (fun z => c2 z.2), wp_some]
        exact ⟨X, R, hB, k⟩
    · rw [if_pos (by lia), if_neg (fun z => c z.1), wp_some]
      exact ⟨X, R, hB, k⟩
theorem m_plain {p : Nat} (L : MFr ho h w r e B (frK k) (p, false, 0, 0, 0, 0, 0)) (k0 : 0 ≤ k ∧ k ≤ 30) (n0 : k ≠ 0) (n2 : k ≠ 2) (n3 : k ≠ 3) : wp (f_mWire_takeRest w k h) (fun h' => MFr ho h' w r e B (frK k) (frS B e k p)) := by
  unfold f_mWire_takeRest
  rw [L.k]
  by_cases c4 : 8 ≤ k ∧ k < 16
  · have e1 : frK k = 8 := by unfold frK; rw [if_pos c4]
    have e2 : frS B e k p = fSt B e k (p, false, 0, 0, 0, 0, 0) := by unfold frS; rw [if_neg (by lia), if_neg (by lia), if_neg (by lia), if_pos c4]
    rw [e1] at L ⊢
    rw [e2, if_pos (by decide), if_neg (by decide), if_pos (by decide), if_neg (by decide)]
    refine wp_b1o (m_streams L k0.1 (by lia)) (fun h1 _ q => ?_)
    rw [wp_some]; exact q
  · have e1 : frK k = k := by unfold frK; rw [if_neg c4]
    rw [e1] at L ⊢
    rw [if_pos n0, if_neg n2, if_pos n3, if_pos (show k ≠ 8 by lia)]
    refine wp_b1o (m_takeFields L k0) (fun h1 _ q => ?_)
    rw [q.k]
    by_cases c24 : k = 24
    · have e2 : frS B e k p = fN2 e (fN1 B e (fB B e (fA B e (p, false, 0, 0, 0, 0, 0)))) := by unfold frS; rw [if_neg (by lia), if_neg (by lia), if_pos c24]
      have e3 : fdS B e k (p, false, 0, 0, 0, 0, 0) = fB B e (fA B e (p, false, 0, 0, 0, 0, 0)) := by unfold fdS; rw [if_neg (by lia), if_pos (by lia)]
      rw [e3] at q
      rw [if_pos c24, e2]
      generalize fB B e (fA B e (p, false, 0, 0, 0, 0, 0)) = s2 at *
      have mt := m_take q.R q.BR (n := 1) (by decide)
      refine wp_b2e mt ?_
      have hv : (if pB s2.1 e s2.2.1 1 then 0 else w64 (be B s2.1 1)) = (if pB s2.1 e s2.2.1 1 then 0 else B s2.1) := by
        by_cases g : pB s2.1 e s2.2.1 1 = true
        · rw [if_pos g, if_pos g]
        · rw [if_neg g, if_neg g]
          have g' : pB s2.1 e s2.2.1 1 = false := by simpa using g
          have := q.BR.b (j := s2.1) (by have := (pB_inv g').2; lia)
          exact be1 this.1 this.2
      have v0 : 0 ≤ (if pB s2.1 e s2.2.1 1 then 0 else B s2.1) := by
        by_cases g : pB s2.1 e s2.2.1 1 = true
        · rw [if_pos g]; decide
        · rw [if_neg g]
          have g' : pB s2.1 e s2.2.1 1 = false := by simpa using g
          exact (q.BR.b (j := s2.1) (by have := (pB_inv g').2; lia)).1
      rw [hv]
      refine wp_b1o (m_data (q.p (p := pA s2.1 e s2.2.1 1) (b := pB s2.1 e s2.2.1 1) (pA_le q.R.le) (fun g => (pB_inv g).1)) v0) (fun h2 _ q2 => ?_)
      have q3 : MFr ho h2 w r e B k (fN1 B e s2) := q2
      generalize fN1 B e s2 = s3 at *
      refine wp_b2e (m_pass q3.R (n := 16) rfl) ?_
      rw [wp_some]
      exact q3.p (pA_le q3.R.le) (fun g => (pB_inv g).1)
    · rw [if_neg c24, wp_some]
      have e2 : frS B e k p = fdS B e k (p, false, 0, 0, 0, 0, 0) := by
        unfold frS fdS
        clear q L
        by_cases a1 : k = 1 ∨ k = 30
        · rw [if_pos a1, if_neg (by lia), if_neg (by lia), if_neg (by lia), if_neg (by lia), if_neg (by lia), if_neg (by lia), if_neg (by lia), if_neg (by lia)]
        · rw [if_neg a1]
          by_cases a2 : k = 26 ∨ k = 27
          · rw [if_pos a2, if_neg (by lia), if_neg (by lia), if_neg (by lia), if_neg (by lia), if_pos a2]
          · rw [if_neg a2, if_neg c24, if_neg c4]
            by_cases a3 : k = 4
            · rw [if_pos a3, if_pos a3]
            · rw [if_neg a3, if_neg a3]
              by_cases a4 : k = 5 ∨ k = 17 ∨ k = 21
              · rw [if_neg (by lia), if_neg (by lia), if_neg (by lia), if_neg (by lia), if_pos a4, if_pos (by lia)]
              · rw [if_neg (show ¬ (k = 5 ∨ k = 17 ∨ k = 21 ∨ k = 24) by lia), if_neg a2, if_neg a4]
                by_cases b6 : k = 6
                · rw [if_pos b6, if_pos b6]
                · rw [if_neg b6, if_neg b6]
                  by_cases b7 : k = 7
                  · rw [if_pos b7, if_pos b7]
                  · rw [if_neg b7, if_neg b7]
                    by_cases b8 : k = 28
                    · rw [if_pos b8, if_pos b8]
                    · rw [if_neg b8, if_neg b8]
                      by_cases b9 : k = 29
                      · rw [if_pos b9, if_pos b9]
                      · rw [if_neg b9, if_neg b9, if_pos (show 16 ≤ k ∧ k ≤ 25 by lia)]
      rw [e2]
      exact q
end
