/-! reading: a frame of the class, whole -/
/-- behind padding -/
def pdE (B : Nat → Int) (e : Nat) : Nat → Nat → Nat
  | 0, p => p
  | f + 1, p => if p < e ∧ B p = 0 then pdE B e f (p + 1) else p
def frK (k : Int) : Int := if 8 ≤ k ∧ k < 16 then 8 else k
/-- a frame of another kind than padding and acknowledgements, with the first byte k, from p on -/
def frS (B : Nat → Int) (e : Nat) (k : Int) (p : Nat) : FS :=
  if k = 1 ∨ k = 30 then (p, false, 0, 0, 0, 0, 0)
  else if k = 26 ∨ k = 27 then fE B e (p, false, 0, 0, 0, 0, 0)
  else if k = 24 then fN2 e (fN1 B e (fB B e (fA B e (p, false, 0, 0, 0, 0, 0))))
  else if 8 ≤ k ∧ k < 16 then fSt B e k (p, false, 0, 0, 0, 0, 0)
  else if k = 4 then fC B e (fB B e (fA B e (p, false, 0, 0, 0, 0, 0)))
  else if k = 6 then fD B e (fB B e (p, false, 0, 0, 0, 0, 0))
  else if k = 7 then fD B e (p, false, 0, 0, 0, 0, 0)
  else if k = 28 then fD B e (fB B e (fA B e (p, false, 0, 0, 0, 0, 0)))
  else if k = 29 then fD B e (fA B e (p, false, 0, 0, 0, 0, 0))
  else if k = 5 ∨ k = 17 ∨ k = 21 then fB B e (fA B e (p, false, 0, 0, 0, 0, 0))
  else fA B e (p, false, 0, 0, 0, 0, 0)
theorem FxE.rf {h : Hp} : FxE h h := ⟨rfl, rfl, rfl⟩
theorem FxE.sI {ho h : Hp} {a k : Nat} {v : Int} (X : FxE ho h) : FxE ho (sI h a k v) := ⟨X.1, X.2.1, X.2.2⟩
theorem FxE.sJ {ho h : Hp} {a k : Nat} {v : Int} (X : FxE ho h) : FxE ho (sJ h a k v) := ⟨X.1, X.2.1, X.2.2⟩
theorem FxE.adv {ho h : Hp} {a p : Nat} {b : Bool} (X : FxE ho h) : FxE ho (adv h a p b) := ⟨X.1, X.2.1, X.2.2⟩
theorem FxE.tr {ho h h' : Hp} (X : FxE ho h) (Y : FxE h h') : FxE ho h' := ⟨Y.1.trans X.1, Y.2.1.trans X.2.1, Y.2.2.trans X.2.2⟩
def clQ (F : Nat) (h h' : Hp) : Prop := FxE h h' ∧ (∀ x k, hI h' x k = if x = F ∧ (k = 0 ∨ k = 1 ∨ k = 8 ∨ k = 9 ∨ k = 10 ∨ k = 11) then 0 else hI h x k) ∧ (∀ x k, hJ h' x k = if (x = F ∧ (k = 2 ∨ k = 3 ∨ k = 4 ∨ k = 5)) ∨ (x = F + 1 ∧ k < 3) then 0 else hJ h x k)
theorem c_clear {h : Hp} {F : Nat} (z : F ≠ 0) (h6 : hR h F 6 = F + 1) (hl : ln h (F + 1) = 3) : wp (f_cFrame_clear F h) (clQ F h) := by
  obtain ⟨f, hf⟩ : ∃ f, FU = f + 1 + 1 + 1 + 1 := ⟨999999996, rfl⟩
  have w0 : w32 (0 + 1) = 1 := by decide
  have w1 : w32 (1 + 1) = 2 := by decide
  have w2 : w32 (2 + 1) = 3 := by decide
  unfold f_cFrame_clear
  rw [hf]
  simp only [lt1_eq, f_cFrame_clear_b32_lp, f_cFrame_clear_b32, hR_sI, hR_sJ, ln_sI, ln_sJ, h6, hl, w0, w1, w2, tn0, tn1, tn2]
  rw [if_neg (by decide), if_neg (by lia), if_pos (by decide), if_neg (by decide), if_neg (by lia), if_pos (by decide), if_neg (by decide), if_neg (by lia), if_pos (by decide), if_pos (by decide), wp_some]
  unfold clQ
  refine ⟨?_, fun x k => ?_, fun x k => ?_⟩
  · exact FxE.sI (FxE.sI (FxE.sI (FxE.sI (FxE.sJ (FxE.sJ (FxE.sJ (FxE.sJ (FxE.sJ (FxE.sJ (FxE.sJ (FxE.sI (FxE.sI FxE.rf))))))))))))
  · simp only [hI_sI, hI_sJ]
    clear h6 hl hf w0 w1 w2
    by_cases g : x = F
    · grind (splits := 20)
    · simp [g]
  · simp only [hJ_sI, hJ_sJ]
    clear h6 hl hf w0 w1 w2
    by_cases g : x = F
    · grind (splits := 20)
    · by_cases g2 : x = F + 1
      · grind (splits := 20)
      · simp [g, g2]
section
variable {ho h : Hp} {F I r e : Nat} {B : Nat → Int} {kind : Int} {s : FS}
theorem c_pad {f0 : Nat} (f : Nat) : ∀ (p : Nat) (h : Hp), e - p ≤ f0 → f0 < f → F ≠ 0 → F ≠ I → F ≠ r → FxE ho h → RD h I r p e false → BRc h r e B → hI h F 0 = kind → wp (f_cFrame_paddings_b5_lp f F I h) (fun o => o.1 = 1 ∧ FxE ho o.2 ∧ RD o.2 I r (pdE B e f0 p) e false ∧ BRc o.2 r e B ∧ hI o.2 F 0 = kind) := by
  induction f0 generalizing f with
  | zero =>
    intro p h hp hf z1 z2 z3 X R hB k
    obtain ⟨f, rfl⟩ : ∃ g, f = g + 1 := ⟨f - 1, by lia⟩
    show wp (f_cFrame_paddings_b5 (f_cFrame_paddings_b5_lp f) F I h) _
    unfold f_cFrame_paddings_b5
    have le := R.le
    rw [wp_cn]
    refine ⟨R.nz, wp_b2e (c_left R) ?_⟩
    simp only [Bool.false_eq_true, if_false]
    rw [if_pos (by lia), wp_some]
    exact ⟨rfl, X, R, hB, k⟩
  | succ f0 ih =>
    intro p h hp hf z1 z2 z3 X R hB k
    obtain ⟨f, rfl⟩ : ∃ g, f = g + 1 := ⟨f - 1, by lia⟩
    show wp (f_cFrame_paddings_b5 (f_cFrame_paddings_b5_lp f) F I h) _
    unfold f_cFrame_paddings_b5 pdE
    have le := R.le
    rw [wp_cn]
    refine ⟨R.nz, wp_b2e (c_left R) ?_⟩
    simp only [Bool.false_eq_true, if_false]
    by_cases c : p < e
    · rw [if_neg (by lia), R.row, R.i1, wp_cn]
      refine ⟨R.rz, ?_⟩
      rw [wp_ck, Int.toNat_natCast]
      refine ⟨R.ix c, ?_⟩
      have bb := hB p c
      by_cases c2 : B p = 0
      · rw [if_neg (by lia), if_pos ⟨c, c2⟩]
        have rn := R.rn
        have cp := c_pass R (n := 1) (by decide)
        refine wp_b2e cp ?_
        rw [wp_lt1]
        have p1 : pB p e false 1 = false := pB_f (by lia)
        rw [p1, pA_f p1]
        exact ih f (p + 1) _ (by lia) (by lia) z1 z2 z3 X ((R.adv (by lia)).sJ) (hB.of (fun k => by grind [hI_sI, hI_sJ, hI_sR, hI_adv, hJ_sI, hJ_sJ, hJ_sR, hJ_adv, hR_sI, hR_sJ, hR_sR, hR_adv, ln_sI, ln_sJ, ln_sR, ln_adv, bi])) (by grind [hI_sI, hI_sJ, hI_sR, hI_adv, hJ_sI, hJ_sJ, hJ_sR, hJ_adv, hR_sI, hR_sJ, hR_sR, hR_adv, ln_sI, ln_sJ, ln_sR, ln_adv, bi])
      · rw [if_pos (by lia), if_neg (by lia), wp_some]
        exact ⟨rfl, X, R, hB, k⟩
    · rw [if_pos (by lia), if_neg (by lia), wp_some]
      exact ⟨rfl, X, R, hB, k⟩
/-- what the class's read leaves behind: its answer; the reader, the frame's parts; the frame's rows, and their room -/
def rdK (k level : Int) : Prop := level < 2 ∧ ¬ (k < 4 ∨ k = 6 ∨ k = 28)
/-- the frame's rows, and a reader, in a heap -/
def FW (h : Hp) (F I r lo hi N : Nat) : Prop := (F ≠ 0 ∧ F ≠ I ∧ F ≠ r ∧ F + 1 ≠ lo ∧ F + 1 ≠ hi ∧ lo ≠ 0 ∧ hi ≠ 0 ∧ F ≠ lo ∧ F ≠ hi ∧ lo ≠ hi) ∧ (hR h F 6 = F + 1 ∧ hR h F 12 = lo ∧ hR h F 13 = hi ∧ ln h (F + 1) = 3 ∧ ln h lo = N ∧ ln h hi = N) ∧ (16 ≤ N ∧ N ≤ 2048) ∧ lo < hN h ∧ hi < hN h ∧ F + 1 < hN h ∧ I < hN h ∧ r < hN h
theorem FW.fx {h h' : Hp} {lo hi N : Nat} (W : FW h F I r lo hi N) (X : FxE h h') : FW h' F I r lo hi N := by
  obtain ⟨x1, x2, x3⟩ := X
  have : hN h' = hN h := by unfold hN; rw [x3]
  unfold FW at *
  rw [x1, x2, this]; exact W
theorem AKc.W {A D : Int} {lo hi N n p : Nat} {b : Bool} (L : AKc h F I r e B kind A D lo hi N n p b) : FW h F I r lo hi N := by
  obtain ⟨⟨z1, z2, z3, z4, z5⟩, ⟨R, BR, ⟨⟨y1, y2, y3, y4, y5, y6⟩, e1, e2, l1, l2, m, s1, s2, s3, s4, s5, s6⟩⟩, _, t1, t2, t3, t4, t5⟩ := L
  exact ⟨⟨z1, z2, z3, z4, z5, y2, y3, y4, y5, y6⟩, ⟨t1.1, e1, e2, t2, l1, l2⟩, ⟨s2, s3⟩, s4, s5, t5, t3, t4⟩
def rdQc (X Y F I r e : Nat) (B : Nat → Int) (k : Int) (p : Nat) (o : Int × Hp) : Prop := ∃ lo hi N at_ b, FW o.2 F I r lo hi N ∧ RD o.2 I r at_ e b ∧ BRc o.2 r e B ∧ hN o.2 + (2048 - N) ≤ X ∧ hZ o.2 + 4 * (2048 - N) ≤ Y ∧ hR o.2 F 7 = r ∧
  (k = 0 → o.1 = 0 ∧ b = false ∧ at_ = pdE B e (e - p) p ∧ hI o.2 F 0 = 0) ∧
  ((k = 2 ∨ k = 3) → ((akT B e p k).2 = true → o.1 = 1) ∧ ((akT B e p k).2 = false → b = false ∧ at_ = (akT B e p k).1 ∧ ePos B (akA B e p) (akP B e p) (akR B e p) ≤ e ∧ (eOk B (akA B e p) (akP B e p) (akR B e p) = false → o.1 = 3) ∧ (eOk B (akA B e p) (akP B e p) (akR B e p) = true → o.1 = 0 ∧ hI o.2 F 0 = k ∧ hJ o.2 F 3 = akD B e p ∧ hI o.2 F 11 = ((akR B e p + 1 : Nat) : Int) ∧ akR B e p + 1 ≤ N ∧ ∀ j, j ≤ akR B e p → hJ o.2 lo j = eBot B (akA B e p) (akP B e p) j ∧ hJ o.2 hi j = eTop B (akA B e p) (akP B e p) j))) ∧
  ((k ≠ 0 ∧ k ≠ 2 ∧ k ≠ 3) → ((frS B e k p).2.1 = true → o.1 = 1) ∧ ((frS B e k p).2.1 = false → b = false ∧ at_ = (frS B e k p).1 ∧ (¬ fOk (frK k) (frS B e k p) → o.1 = 3) ∧ (fOk (frK k) (frS B e k p) → o.1 = 0 ∧ hI o.2 F 0 = frK k ∧ fVal (hJ o.2 F 2) (hJ o.2 F 3) (hJ o.2 F 4) (hI o.2 F 8) (hI o.2 F 9) (frS B e k p))))
end
