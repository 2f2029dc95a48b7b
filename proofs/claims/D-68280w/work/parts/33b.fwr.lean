/-! writing: a frame of the class, all kinds but ACKs and padding -/
def carB (k : Int) : Prop := k = 6 ∨ k = 7 ∨ k = 8 ∨ k = 24 ∨ k = 28 ∨ k = 29
def hdB (k b c d : Int) : Int := if k = 8 then iOr (iOr 8 (if 0 < b then 4 else 0)) (w32 (w64 (w64 (2 * d) + c))) else k
/-- the bytes of a frame -/
def frL (k a b c d sz : Int) (row : List Int) : List Int :=
  [hdB k b c d] ++ (if k = 1 ∨ k = 30 then [] else if k = 26 ∨ k = 27 then byL a 8 else
    (if k = 6 ∨ k = 7 then [] else numL a) ++ ((if k < 7 ∨ (k = 8 ∧ 0 < b) ∨ k = 17 ∨ k = 21 ∨ k = 28 then numL b else []) ++ ((if k = 4 then numL c else []) ++
    (if k = 6 ∨ k = 7 ∨ k = 8 ∨ k = 28 ∨ k = 29 then (if k = 8 ∧ d ≠ 1 then [] else numL sz) ++ row else []))))
section
variable {h0 h : Hp} {f a r at0 e x o n : Nat} {L : List Int} {k va vb vc vd : Int}
/-- what a frame is, in the heap ahead of the writing -/
def FrC (h0 : Hp) (f a r x o n : Nat) (k va vb vc vd : Int) : Prop := (a ≠ 0 ∧ f ≠ a ∧ f ≠ r ∧ x ≠ 0 ∧ x ≠ r ∧ x ≠ a) ∧ hI h0 f 0 = k ∧ hJ h0 f 2 = va ∧ hJ h0 f 3 = vb ∧ hJ h0 f 4 = vc ∧ hJ h0 f 5 = vd ∧ hR h0 f 7 = x ∧ hI h0 f 8 = (o : Int) ∧ hI h0 f 9 = (n : Int) ∧ o + n ≤ ln h0 x ∧ o + n < 1000000 ∧ ∀ j, j < n → -128 ≤ hI h0 x (o + j) ∧ hI h0 x (o + j) < 128
theorem fw_312 (K : FrC h0 f a r x o n k va vb vc vd) (O : OW h0 h a r at0 e L) (k24 : k ≠ 24) : wp (f_cFrame_write_b312 f a h) (fun h' => OW h0 h' a r at0 e (L ++ lB h0 x o n)) := by
  obtain ⟨⟨a0, fa, fr, x0, xr, xa⟩, k1, k2, k3, k4, k5, k6, k7, k8, k9, k10, k11⟩ := K
  unfold f_cFrame_write_b312
  rw [if_neg a0, O.rr, O.i fa fr, O.i fa fr, k6, k7, k8]
  refine wp_b1o (o_row O x0 xr xa k9 k10 k11) (fun h2 _ O2 => ?_)
  rw [O2.i fa fr, k1, if_pos k24, wp_some]
  exact O2
theorem fw_303 (K : FrC h0 f a r x o n k va vb vc vd) (O : OW h0 h a r at0 e L) (k24 : k ≠ 24) : wp (f_cFrame_write_b303 f a h) (fun h' => OW h0 h' a r at0 e (L ++ (numL n ++ lB h0 x o n))) := by
  have K' := K
  obtain ⟨⟨a0, fa, fr, x0, xr, xa⟩, k1, k2, k3, k4, k5, k6, k7, k8, k9, k10, k11⟩ := K
  unfold f_cFrame_write_b303
  rw [if_neg a0, O.i fa fr, k8]
  refine wp_b1o (o_num O) (fun h2 _ O2 => ?_)
  rw [← List.append_assoc]
  exact fw_312 K' O2 k24
theorem fw_257 (K : FrC h0 f a r x o n k va vb vc vd) (O : OW h0 h a r at0 e L) (k24 : k ≠ 24) : wp (f_cFrame_write_b257 f a h) (fun h' => OW h0 h' a r at0 e (L ++ (if k = 6 ∨ k = 7 ∨ k = 8 ∨ k = 28 ∨ k = 29 then (if k = 8 ∧ vd ≠ 1 then [] else numL n) ++ lB h0 x o n else []))) := by
  have K' := K
  obtain ⟨⟨a0, fa, fr, x0, xr, xa⟩, k1, k2, k3, k4, k5, k6, k7, k8, k9, k10, k11⟩ := K
  unfold f_cFrame_write_b257
  have kk : hI h f 0 = k := by rw [O.i fa fr]; exact k1
  rw [c_carries kk, b2_some, kk, O.j, k5]
  by_cases c : k = 6 ∨ k = 7 ∨ k = 8 ∨ k = 28 ∨ k = 29
  · have c' : k = 6 ∨ k = 7 ∨ k = 8 ∨ k = 24 ∨ k = 28 ∨ k = 29 := by lia
    rw [if_pos c', if_pos (by decide), if_pos k24]
    simp only [if_pos c]
    by_cases c8 : k = 8
    · rw [if_neg (fun z => z c8)]
      by_cases cd : vd = 1
      · rw [if_neg (fun z => z cd)]
        have : ¬ (k = 8 ∧ vd ≠ 1) := fun z => z.2 cd
        simp only [if_neg this]
        exact fw_303 K' O k24
      · rw [if_pos cd]
        have : k = 8 ∧ vd ≠ 1 := ⟨c8, cd⟩
        simp only [if_pos this, List.nil_append]
        exact fw_312 K' O k24
    · rw [if_pos c8]
      have : ¬ (k = 8 ∧ vd ≠ 1) := fun z => c8 z.1
      simp only [if_neg this]
      exact fw_303 K' O k24
  · have c' : ¬ (k = 6 ∨ k = 7 ∨ k = 8 ∨ k = 24 ∨ k = 28 ∨ k = 29) := by lia
    rw [if_neg c', if_neg (by decide), wp_some]
    simp only [if_neg c, List.append_nil]
    exact O
theorem fw_241 (K : FrC h0 f a r x o n k va vb vc vd) (O : OW h0 h a r at0 e L) (k24 : k ≠ 24) : wp (f_cFrame_write_b241 f a h) (fun h' => OW h0 h' a r at0 e (L ++ ((if k = 4 then numL vc else []) ++ (if k = 6 ∨ k = 7 ∨ k = 8 ∨ k = 28 ∨ k = 29 then (if k = 8 ∧ vd ≠ 1 then [] else numL n) ++ lB h0 x o n else [])))) := by
  have K' := K
  obtain ⟨⟨a0, fa, fr, x0, xr, xa⟩, k1, k2, k3, k4, k5, k6, k7, k8, k9, k10, k11⟩ := K
  unfold f_cFrame_write_b241
  rw [O.i fa fr, k1]
  by_cases c : k = 4
  · rw [if_neg (fun z => z c), if_neg a0, O.j, k4]
    refine wp_b1o (o_num O) (fun h2 _ O2 => ?_)
    simp only [if_pos c]
    rw [← List.append_assoc]
    exact fw_257 K' O2 k24
  · rw [if_pos c]
    simp only [if_neg c, List.nil_append]
    exact fw_257 K' O k24
theorem fw_170 (K : FrC h0 f a r x o n k va vb vc vd) (O : OW h0 h a r at0 e L) (k24 : k ≠ 24) : wp (f_cFrame_write_b170 f a h) (fun h' => OW h0 h' a r at0 e (L ++ ((if k < 7 ∨ (k = 8 ∧ 0 < vb) ∨ k = 17 ∨ k = 21 ∨ k = 28 then numL vb else []) ++ ((if k = 4 then numL vc else []) ++ (if k = 6 ∨ k = 7 ∨ k = 8 ∨ k = 28 ∨ k = 29 then (if k = 8 ∧ vd ≠ 1 then [] else numL n) ++ lB h0 x o n else []))))) := by
  have K' := K
  obtain ⟨⟨a0, fa, fr, x0, xr, xa⟩, k1, k2, k3, k4, k5, k6, k7, k8, k9, k10, k11⟩ := K
  have w233 : (k < 7 ∨ (k = 8 ∧ 0 < vb) ∨ k = 17 ∨ k = 21 ∨ k = 28) → wp (f_cFrame_write_b233 f a h) (fun h' => OW h0 h' a r at0 e (L ++ ((if k < 7 ∨ (k = 8 ∧ 0 < vb) ∨ k = 17 ∨ k = 21 ∨ k = 28 then numL vb else []) ++ ((if k = 4 then numL vc else []) ++ (if k = 6 ∨ k = 7 ∨ k = 8 ∨ k = 28 ∨ k = 29 then (if k = 8 ∧ vd ≠ 1 then [] else numL n) ++ lB h0 x o n else []))))) := fun c => by
    unfold f_cFrame_write_b233
    rw [if_neg a0, O.j, k3]
    refine wp_b1o (o_num O) (fun h2 _ O2 => ?_)
    simp only [if_pos c]
    rw [← List.append_assoc]
    exact fw_241 K' O2 k24
  have w241 : ¬ (k < 7 ∨ (k = 8 ∧ 0 < vb) ∨ k = 17 ∨ k = 21 ∨ k = 28) → wp (f_cFrame_write_b241 f a h) (fun h' => OW h0 h' a r at0 e (L ++ ((if k < 7 ∨ (k = 8 ∧ 0 < vb) ∨ k = 17 ∨ k = 21 ∨ k = 28 then numL vb else []) ++ ((if k = 4 then numL vc else []) ++ (if k = 6 ∨ k = 7 ∨ k = 8 ∨ k = 28 ∨ k = 29 then (if k = 8 ∧ vd ≠ 1 then [] else numL n) ++ lB h0 x o n else []))))) := fun c => by
    simp only [if_neg c, List.nil_append]
    exact fw_241 K' O k24
  unfold f_cFrame_write_b170 f_cFrame_write_b197
  simp only [O.i fa fr, O.j, k1, k3]
  by_cases c1 : k < 7
  · rw [if_pos c1]; exact w233 (by lia)
  · rw [if_neg c1]
    by_cases c8 : k = 8
    · rw [if_neg (fun z => z c8)]
      by_cases cb : 0 < vb
      · rw [if_pos cb]; exact w233 (by lia)
      · rw [if_neg cb, if_neg (by lia), if_neg (by lia), if_neg (by lia), if_pos (by lia)]; exact w241 (by lia)
    · rw [if_pos c8]
      by_cases c17 : k = 17
      · rw [if_pos c17]; exact w233 (by lia)
      · rw [if_neg c17]
        by_cases c21 : k = 21
        · rw [if_pos c21]; exact w233 (by lia)
        · rw [if_neg c21, if_neg k24]
          by_cases c28 : k = 28
          · rw [if_neg (fun z => z c28)]; exact w233 (by lia)
          · rw [if_pos c28]; exact w241 (by lia)
theorem fw_80 (K : FrC h0 f a r x o n k va vb vc vd) (O : OW h0 h a r at0 e L) (k24 : k ≠ 24) (k4 : k = 1 ∨ 4 ≤ k) (ca : c64 va) : wp (f_cFrame_write_b80 f a a (hdB k vb vc vd) h) (fun h' => OW h0 h' a r at0 e (L ++ frL k va vb vc vd n (lB h0 x o n))) := by
  have K' := K
  obtain ⟨⟨a0, fa, fr, x0, xr, xa⟩, k1, k2, k3, _, _, k6, k7, k8, k9, k10, k11⟩ := K
  unfold f_cFrame_write_b80 frL f_cFrame_write_b133
  rw [if_neg a0, ← List.append_assoc]
  refine wp_b1o (o_put O) (fun h2 _ O2 => ?_)
  simp only [O2.i fa fr, O2.j, k1, k2]
  by_cases c1 : k = 1
  · rw [if_pos c1, wp_some]
    simp only [if_pos (show k = 1 ∨ k = 30 by lia), List.append_nil]
    exact O2
  · rw [if_neg c1]
    by_cases c30 : k = 30
    · rw [if_neg (fun z => z c30), wp_some]
      simp only [if_pos (show k = 1 ∨ k = 30 by lia), List.append_nil]
      exact O2
    · have n1 : ¬ (k = 1 ∨ k = 30) := by lia
      rw [if_pos c30, if_pos (by lia)]
      simp only [if_neg n1]
      by_cases c26 : k = 26 ∨ k = 27
      · simp only [if_pos c26]
        have g : wp (if a = 0 then none else b1 (f_cBytes_putMany a va 8 h2) fun h10 => some h10) (fun h' => OW h0 h' a r at0 e (L ++ [hdB k vb vc vd] ++ byL va 8)) := by
          rw [if_neg a0]
          exact wp_b1o (o_many (n := 8) O2 ca (by decide)) (fun h3 _ O3 => by rw [wp_some]; exact O3)
        by_cases c : k = 26
        · rw [if_pos c]; exact g
        · rw [if_neg c, if_neg (by lia)]; exact g
      · simp only [if_neg c26]
        rw [if_neg (by lia), if_pos (by lia)]
        by_cases c6 : k = 6 ∨ k = 7
        · simp only [if_pos c6, List.nil_append]
          have g := fw_170 K' O2 k24
          by_cases c : k = 6
          · rw [if_pos c]; exact g
          · rw [if_neg c, if_pos (by lia)]; exact g
        · simp only [if_neg c6]
          rw [if_neg (by lia), if_neg (by lia), if_neg a0]
          refine wp_b1o (o_num O2) (fun h3 _ O3 => ?_)
          rw [← List.append_assoc]
          exact fw_170 K' O3 k24
theorem c_fwrite (K : FrC h0 f a r x o n k va vb vc vd) (O : OW h0 h a r at0 e L) (k24 : k ≠ 24) (k4 : k = 1 ∨ 4 ≤ k) (ca : c64 va) : wp (f_cFrame_write f a h) (fun h' => OW h0 h' a r at0 e (L ++ frL k va vb vc vd n (lB h0 x o n))) := by
  have g := fw_80 K O k24 k4 ca
  obtain ⟨⟨a0, fa, fr, x0, xr, xa⟩, k1, k2, k3, k4', k5, _⟩ := K
  unfold f_cFrame_write f_cFrame_write_b57
  rw [O.i fa fr, k1, O.j, k3, k4', k5, if_pos (by lia)]
  unfold hdB at g
  by_cases c8 : k = 8
  · rw [if_pos c8] at g
    rw [if_neg (fun z => z c8)]
    by_cases cb : 0 < vb
    · rw [if_pos cb] at g; rw [if_neg (by lia)]; exact g
    · rw [if_neg cb] at g; rw [if_pos (by lia)]; exact g
  · rw [if_neg c8] at g
    rw [if_pos c8]; exact g
end
