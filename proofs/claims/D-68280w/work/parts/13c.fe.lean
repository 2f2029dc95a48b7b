/-! effects (gen/fe.py) -/
def wI_mP_parameter_b97 (v0 : Nat) (v1 : Int) (v2 : Int) (v3 : Int) (s0 : Nat) (s1 : Int) (h : Hp) (x k : Nat) : Prop := x = hR h (hR h v0 6) 6 ∨ (x = s0 ∧ k = 0)
def wJ_mP_parameter_b97 (v0 : Nat) (v1 : Int) (v2 : Int) (v3 : Int) (s0 : Nat) (s1 : Int) (h : Hp) (x k : Nat) : Prop := x = hR h (hR h (hR h v0 7) v1.toNat) 5 ∨ x = hR h (hR h v0 6) 0 ∨ x = hR h (hR h v0 6) 9
def wI_mP_parameter_b72 (v0 : Nat) (v1 : Int) (v2 : Int) (v3 : Int) (s0 : Nat) (s1 : Int) (h : Hp) (x k : Nat) : Prop := x = hR h (hR h v0 6) 6 ∨ (x = s0 ∧ k = 0) ∨ (x = v0 ∧ k = 0)
def wJ_mP_parameter_b72 (v0 : Nat) (v1 : Int) (v2 : Int) (v3 : Int) (s0 : Nat) (s1 : Int) (h : Hp) (x k : Nat) : Prop := x = hR h (hR h (hR h v0 7) v1.toNat) 5 ∨ x = hR h (hR h v0 6) 0 ∨ x = hR h (hR h v0 6) 9
def wI_mP_parameter_b67 (v0 : Nat) (v1 : Int) (v2 : Int) (v3 : Int) (s0 : Nat) (h : Hp) (x k : Nat) : Prop := x = hR h (hR h v0 6) 6 ∨ (x = s0 ∧ k = 0) ∨ (x = v0 ∧ k = 0)
def wJ_mP_parameter_b67 (v0 : Nat) (v1 : Int) (v2 : Int) (v3 : Int) (s0 : Nat) (h : Hp) (x k : Nat) : Prop := x = hR h (hR h (hR h v0 7) v1.toNat) 5 ∨ x = hR h (hR h v0 6) 0 ∨ x = hR h (hR h v0 6) 9
def wI_mP_parameter_b64 (v0 : Nat) (v1 : Int) (v2 : Int) (v3 : Int) (s0 : Nat) (s1 : Int) (s2 : Int) (h : Hp) (x k : Nat) : Prop := x = hR h (hR h v0 6) 6 ∨ (x = s0 ∧ k = 0) ∨ (x = v0 ∧ k = 0)
def wJ_mP_parameter_b64 (v0 : Nat) (v1 : Int) (v2 : Int) (v3 : Int) (s0 : Nat) (s1 : Int) (s2 : Int) (h : Hp) (x k : Nat) : Prop := x = hR h (hR h (hR h v0 7) v1.toNat) 5 ∨ x = hR h (hR h v0 6) 0 ∨ x = hR h (hR h v0 6) 9
def wI_mP_parameter_b21 (v0 : Nat) (v1 : Int) (v2 : Int) (v3 : Int) (s0 : Int) (h : Hp) (x k : Nat) : Prop := x = hR h (hR h v0 6) 6 ∨ (x = v0 ∧ k = 0)
def wJ_mP_parameter_b21 (v0 : Nat) (v1 : Int) (v2 : Int) (v3 : Int) (s0 : Int) (h : Hp) (x k : Nat) : Prop := x = hR h (hR h (hR h v0 7) v1.toNat) 5 ∨ x = hR h (hR h v0 6) 0 ∨ x = hR h (hR h v0 6) 9
def wI_mP_parameter_b16 (v0 : Nat) (v1 : Int) (v2 : Int) (v3 : Int) (h : Hp) (x k : Nat) : Prop := x = hR h (hR h v0 6) 6 ∨ (x = v0 ∧ k = 0)
def wJ_mP_parameter_b16 (v0 : Nat) (v1 : Int) (v2 : Int) (v3 : Int) (h : Hp) (x k : Nat) : Prop := x = hR h (hR h (hR h v0 7) v1.toNat) 5 ∨ x = hR h (hR h v0 6) 0 ∨ x = hR h (hR h v0 6) 9
def wI_mP_parameter_b20 (v0 : Nat) (v1 : Int) (v2 : Int) (v3 : Int) (h : Hp) (x k : Nat) : Prop := x = hR h (hR h v0 6) 6 ∨ (x = v0 ∧ k = 0)
def wJ_mP_parameter_b20 (v0 : Nat) (v1 : Int) (v2 : Int) (v3 : Int) (h : Hp) (x k : Nat) : Prop := x = hR h (hR h (hR h v0 7) v1.toNat) 5 ∨ x = hR h (hR h v0 6) 0 ∨ x = hR h (hR h v0 6) 9
def wI_mP_parameter (v0 : Nat) (v1 : Int) (v2 : Int) (v3 : Int) (h : Hp) (x k : Nat) : Prop := x = hR h (hR h v0 6) 6 ∨ (x = v0 ∧ k = 0)
def wJ_mP_parameter (v0 : Nat) (v1 : Int) (v2 : Int) (v3 : Int) (h : Hp) (x k : Nat) : Prop := x = hR h (hR h (hR h v0 7) v1.toNat) 5 ∨ x = hR h (hR h v0 6) 0 ∨ x = hR h (hR h v0 6) 9
theorem fe_mP_parameter_b97 (v0 : Nat) (v1 : Int) (v2 : Int) (v3 : Int) (s0 : Nat) (s1 : Int) (h : Hp) : Feo (wI_mP_parameter_b97 v0 v1 v2 v3 s0 s1 h) (wJ_mP_parameter_b97 v0 v1 v2 v3 s0 s1 h) h id (f_mP_parameter_b97 v0 v1 v2 v3 s0 s1 h) := by
  unfold f_mP_parameter_b97
  refine fe_it fe_no ?_
  refine fe_b2 Fe.rf (fe_mP_fails _ _ _ _) (fun x k hx => by simp only [wI_mP_fails] at hx; have e := hx; exact Or.inr (e)) (fun x k hx => False.elim hx) (fun r14 h12 F1 => ?_)
  refine fe_it ?_ ?_
  · refine fe_b1 F1 (fe_mP_set _ _ _ _ _) (fun x k hx => by simp only [wI_mP_set, F1.r] at hx; have e := hx; exact Or.inl (e)) (fun x k hx => by simp only [wJ_mP_set, F1.r] at hx; rcases hx with e | e | e <;> first | exact Or.inl (e) | exact Or.inr (Or.inl (e)) | exact Or.inr (Or.inr (e))) (fun h15 F2 => ?_)
    exact fe_so F2
  · exact fe_so F1
theorem fe_mP_parameter_b72 (v0 : Nat) (v1 : Int) (v2 : Int) (v3 : Int) (s0 : Nat) (s1 : Int) (h : Hp) : Feo (wI_mP_parameter_b72 v0 v1 v2 v3 s0 s1 h) (wJ_mP_parameter_b72 v0 v1 v2 v3 s0 s1 h) h id (f_mP_parameter_b72 v0 v1 v2 v3 s0 s1 h) := by
  unfold f_mP_parameter_b72
  refine fe_it fe_no ?_
  refine fe_b2 Fe.rf (fe_mP_fails _ _ _ _) (fun x k hx => by simp only [wI_mP_fails] at hx; have e := hx; exact Or.inr (Or.inl (e))) (fun x k hx => False.elim hx) (fun r7 h5 F1 => ?_)
  refine fe_it ?_ ?_
  · exact fe_so F1
  · refine fe_it fe_no ?_
    refine fe_it ?_ fe_no
    refine fe_it fe_no ?_
    refine fe_it ?_ ?_
    · exact fe_j F1 (fe_mP_parameter_b97 _ _ _ _ _ _ _) (fun x k hx => by simp only [wI_mP_parameter_b97, F1.r] at hx; rcases hx with e | e <;> first | exact Or.inl (e) | exact Or.inr (Or.inr (e))) (fun x k hx => by simp only [wJ_mP_parameter_b97, F1.r] at hx; rcases hx with e | e | e <;> first | exact Or.inl (e) | exact Or.inr (Or.inl (e)) | exact Or.inr (Or.inr (e)))
    · exact fe_j F1 (fe_mP_parameter_b97 _ _ _ _ _ _ _) (fun x k hx => by simp only [wI_mP_parameter_b97, F1.r] at hx; rcases hx with e | e <;> first | exact Or.inl (e) | exact Or.inr (Or.inr (e))) (fun x k hx => by simp only [wJ_mP_parameter_b97, F1.r] at hx; rcases hx with e | e | e <;> first | exact Or.inl (e) | exact Or.inr (Or.inl (e)) | exact Or.inr (Or.inr (e)))
theorem fe_mP_parameter_b67 (v0 : Nat) (v1 : Int) (v2 : Int) (v3 : Int) (s0 : Nat) (h : Hp) : Feo (wI_mP_parameter_b67 v0 v1 v2 v3 s0 h) (wJ_mP_parameter_b67 v0 v1 v2 v3 s0 h) h id (f_mP_parameter_b67 v0 v1 v2 v3 s0 h) := by
  unfold f_mP_parameter_b67
  exact fe_j Fe.rf (fe_mP_parameter_b72 _ _ _ _ _ _ _) (fun x k hx => by simp only [wI_mP_parameter_b72] at hx; rcases hx with e | e | e <;> first | exact Or.inl (e) | exact Or.inr (Or.inl (e)) | exact Or.inr (Or.inr (e))) (fun x k hx => by simp only [wJ_mP_parameter_b72] at hx; rcases hx with e | e | e <;> first | exact Or.inl (e) | exact Or.inr (Or.inl (e)) | exact Or.inr (Or.inr (e)))
theorem fe_mP_parameter_b64 (v0 : Nat) (v1 : Int) (v2 : Int) (v3 : Int) (s0 : Nat) (s1 : Int) (s2 : Int) (h : Hp) : Feo (wI_mP_parameter_b64 v0 v1 v2 v3 s0 s1 s2 h) (wJ_mP_parameter_b64 v0 v1 v2 v3 s0 s1 s2 h) h id (f_mP_parameter_b64 v0 v1 v2 v3 s0 s1 s2 h) := by
  unfold f_mP_parameter_b64
  refine fe_it ?_ ?_
  · exact fe_j Fe.rf (fe_mP_parameter_b72 _ _ _ _ _ _ _) (fun x k hx => by simp only [wI_mP_parameter_b72] at hx; rcases hx with e | e | e <;> first | exact Or.inl (e) | exact Or.inr (Or.inl (e)) | exact Or.inr (Or.inr (e))) (fun x k hx => by simp only [wJ_mP_parameter_b72] at hx; rcases hx with e | e | e <;> first | exact Or.inl (e) | exact Or.inr (Or.inl (e)) | exact Or.inr (Or.inr (e)))
  · exact fe_j Fe.rf (fe_mP_parameter_b67 _ _ _ _ _ _) (fun x k hx => by simp only [wI_mP_parameter_b67] at hx; rcases hx with e | e | e <;> first | exact Or.inl (e) | exact Or.inr (Or.inl (e)) | exact Or.inr (Or.inr (e))) (fun x k hx => by simp only [wJ_mP_parameter_b67] at hx; rcases hx with e | e | e <;> first | exact Or.inl (e) | exact Or.inr (Or.inl (e)) | exact Or.inr (Or.inr (e)))
theorem fe_mP_parameter_b21 (v0 : Nat) (v1 : Int) (v2 : Int) (v3 : Int) (s0 : Int) (h : Hp) : Feo (wI_mP_parameter_b21 v0 v1 v2 v3 s0 h) (wJ_mP_parameter_b21 v0 v1 v2 v3 s0 h) h id (f_mP_parameter_b21 v0 v1 v2 v3 s0 h) := by
  unfold f_mP_parameter_b21
  refine fe_b2 Fe.rf (fe_mP_no _ _) (fun x k hx => False.elim hx) (fun x k hx => False.elim hx) (fun r3 h1 F1 => ?_)
  refine fe_it ?_ ?_
  · exact fe_j F1 (fe_mP_parameter_b67 _ _ _ _ _ _) (fun x k hx => by simp only [wI_mP_parameter_b67, F1.r] at hx; rcases hx with e | e | e <;> first | exact Or.inl (e) | exact Or.inr (e)) (fun x k hx => by simp only [wJ_mP_parameter_b67, F1.r] at hx; rcases hx with e | e | e <;> first | exact Or.inl (e) | exact Or.inr (Or.inl (e)) | exact Or.inr (Or.inr (e)))
  · refine fe_it ?_ ?_
    · exact fe_j F1 (fe_mP_parameter_b67 _ _ _ _ _ _) (fun x k hx => by simp only [wI_mP_parameter_b67, F1.r] at hx; rcases hx with e | e | e <;> first | exact Or.inl (e) | exact Or.inr (e)) (fun x k hx => by simp only [wJ_mP_parameter_b67, F1.r] at hx; rcases hx with e | e | e <;> first | exact Or.inl (e) | exact Or.inr (Or.inl (e)) | exact Or.inr (Or.inr (e)))
    · refine fe_it ?_ ?_
      · exact fe_j F1 (fe_mP_parameter_b67 _ _ _ _ _ _) (fun x k hx => by simp only [wI_mP_parameter_b67, F1.r] at hx; rcases hx with e | e | e <;> first | exact Or.inl (e) | exact Or.inr (e)) (fun x k hx => by simp only [wJ_mP_parameter_b67, F1.r] at hx; rcases hx with e | e | e <;> first | exact Or.inl (e) | exact Or.inr (Or.inl (e)) | exact Or.inr (Or.inr (e)))
      · refine fe_it ?_ ?_
        · refine fe_it ?_ ?_
          · exact fe_j F1 (fe_mP_parameter_b64 _ _ _ _ _ _ _ _) (fun x k hx => by simp only [wI_mP_parameter_b64, F1.r] at hx; rcases hx with e | e | e <;> first | exact Or.inl (e) | exact Or.inr (e)) (fun x k hx => by simp only [wJ_mP_parameter_b64, F1.r] at hx; rcases hx with e | e | e <;> first | exact Or.inl (e) | exact Or.inr (Or.inl (e)) | exact Or.inr (Or.inr (e)))
          · exact fe_j F1 (fe_mP_parameter_b64 _ _ _ _ _ _ _ _) (fun x k hx => by simp only [wI_mP_parameter_b64, F1.r] at hx; rcases hx with e | e | e <;> first | exact Or.inl (e) | exact Or.inr (e)) (fun x k hx => by simp only [wJ_mP_parameter_b64, F1.r] at hx; rcases hx with e | e | e <;> first | exact Or.inl (e) | exact Or.inr (Or.inl (e)) | exact Or.inr (Or.inr (e)))
        · exact fe_j F1 (fe_mP_parameter_b64 _ _ _ _ _ _ _ _) (fun x k hx => by simp only [wI_mP_parameter_b64, F1.r] at hx; rcases hx with e | e | e <;> first | exact Or.inl (e) | exact Or.inr (e)) (fun x k hx => by simp only [wJ_mP_parameter_b64, F1.r] at hx; rcases hx with e | e | e <;> first | exact Or.inl (e) | exact Or.inr (Or.inl (e)) | exact Or.inr (Or.inr (e)))
theorem fe_mP_parameter_b16 (v0 : Nat) (v1 : Int) (v2 : Int) (v3 : Int) (h : Hp) : Feo (wI_mP_parameter_b16 v0 v1 v2 v3 h) (wJ_mP_parameter_b16 v0 v1 v2 v3 h) h id (f_mP_parameter_b16 v0 v1 v2 v3 h) := by
  unfold f_mP_parameter_b16
  exact fe_j Fe.rf (fe_mP_parameter_b21 _ _ _ _ _ _) (fun x k hx => by simp only [wI_mP_parameter_b21] at hx; rcases hx with e | e <;> first | exact Or.inl (e) | exact Or.inr (e)) (fun x k hx => by simp only [wJ_mP_parameter_b21] at hx; rcases hx with e | e | e <;> first | exact Or.inl (e) | exact Or.inr (Or.inl (e)) | exact Or.inr (Or.inr (e)))
theorem fe_mP_parameter_b20 (v0 : Nat) (v1 : Int) (v2 : Int) (v3 : Int) (h : Hp) : Feo (wI_mP_parameter_b20 v0 v1 v2 v3 h) (wJ_mP_parameter_b20 v0 v1 v2 v3 h) h id (f_mP_parameter_b20 v0 v1 v2 v3 h) := by
  unfold f_mP_parameter_b20
  exact fe_j Fe.rf (fe_mP_parameter_b21 _ _ _ _ _ _) (fun x k hx => by simp only [wI_mP_parameter_b21] at hx; rcases hx with e | e <;> first | exact Or.inl (e) | exact Or.inr (e)) (fun x k hx => by simp only [wJ_mP_parameter_b21] at hx; rcases hx with e | e | e <;> first | exact Or.inl (e) | exact Or.inr (Or.inl (e)) | exact Or.inr (Or.inr (e)))
theorem fe_mP_parameter (v0 : Nat) (v1 : Int) (v2 : Int) (v3 : Int) (h : Hp) : Feo (wI_mP_parameter v0 v1 v2 v3 h) (wJ_mP_parameter v0 v1 v2 v3 h) h id (f_mP_parameter v0 v1 v2 v3 h) := by
  unfold f_mP_parameter
  refine fe_it ?_ ?_
  · exact fe_j Fe.rf (fe_mP_parameter_b16 _ _ _ _ _) (fun x k hx => by simp only [wI_mP_parameter_b16] at hx; rcases hx with e | e <;> first | exact Or.inl (e) | exact Or.inr (e)) (fun x k hx => by simp only [wJ_mP_parameter_b16] at hx; rcases hx with e | e | e <;> first | exact Or.inl (e) | exact Or.inr (Or.inl (e)) | exact Or.inr (Or.inr (e)))
  · refine fe_it ?_ ?_
    · exact fe_j Fe.rf (fe_mP_parameter_b20 _ _ _ _ _) (fun x k hx => by simp only [wI_mP_parameter_b20] at hx; rcases hx with e | e <;> first | exact Or.inl (e) | exact Or.inr (e)) (fun x k hx => by simp only [wJ_mP_parameter_b20] at hx; rcases hx with e | e | e <;> first | exact Or.inl (e) | exact Or.inr (Or.inl (e)) | exact Or.inr (Or.inr (e)))
    · refine fe_it ?_ ?_
      · exact fe_j Fe.rf (fe_mP_parameter_b20 _ _ _ _ _) (fun x k hx => by simp only [wI_mP_parameter_b20] at hx; rcases hx with e | e <;> first | exact Or.inl (e) | exact Or.inr (e)) (fun x k hx => by simp only [wJ_mP_parameter_b20] at hx; rcases hx with e | e | e <;> first | exact Or.inl (e) | exact Or.inr (Or.inl (e)) | exact Or.inr (Or.inr (e)))
      · exact fe_j Fe.rf (fe_mP_parameter_b16 _ _ _ _ _) (fun x k hx => by simp only [wI_mP_parameter_b16] at hx; rcases hx with e | e <;> first | exact Or.inl (e) | exact Or.inr (e)) (fun x k hx => by simp only [wJ_mP_parameter_b16] at hx; rcases hx with e | e | e <;> first | exact Or.inl (e) | exact Or.inr (Or.inl (e)) | exact Or.inr (Or.inr (e)))
def wI_mSeals_right (v0 : Int) (v2 : Int) (h : Hp) (x k : Nat) : Prop := False
def wJ_mSeals_right (v0 : Int) (v2 : Int) (h : Hp) (x k : Nat) : Prop := False
theorem fe_mSeals_right (v0 : Int) (v2 : Int) (h : Hp) : Feo (wI_mSeals_right v0 v2 h) (wJ_mSeals_right v0 v2 h) h Prod.snd (f_mSeals_right v0 v2 h) := by
  unfold f_mSeals_right
  exact fe_so Fe.rf
def wI_mSeals_round (v0 : Nat) (v1 : Int) (h : Hp) (x k : Nat) : Prop := False
def wJ_mSeals_round (v0 : Nat) (v1 : Int) (h : Hp) (x k : Nat) : Prop := x = hR h v0 7
theorem fe_mSeals_round (v0 : Nat) (v1 : Int) (h : Hp) : Feo (wI_mSeals_round v0 v1 h) (wJ_mSeals_round v0 v1 h) h id (f_mSeals_round v0 v1 h) := by
  unfold f_mSeals_round
  refine fe_v (fun y1 => ?_)
  refine fe_it fe_no ?_
  refine fe_it ?_ fe_no
  refine fe_v (fun y4 => ?_)
  refine fe_it ?_ fe_no
  refine fe_v (fun y6 => ?_)
  refine fe_it ?_ fe_no
  refine fe_v (fun y8 => ?_)
  refine fe_it ?_ fe_no
  refine fe_b2 Fe.rf (fe_mSeals_right _ _ _) (fun x k hx => False.elim hx) (fun x k hx => False.elim hx) (fun r12 h10 F1 => ?_)
  refine fe_b2 F1 (fe_mSeals_right _ _ _) (fun x k hx => False.elim hx) (fun x k hx => False.elim hx) (fun r15 h13 F2 => ?_)
  refine fe_b2 F2 (fe_mSeals_right _ _ _) (fun x k hx => False.elim hx) (fun x k hx => False.elim hx) (fun r18 h16 F3 => ?_)
  refine fe_it fe_no ?_
  refine fe_it ?_ fe_no
  refine fe_it fe_no ?_
  refine fe_it ?_ fe_no
  refine fe_v (fun y23 => ?_)
  refine fe_it fe_no ?_
  refine fe_it ?_ fe_no
  refine fe_v (fun y26 => ?_)
  refine fe_it ?_ fe_no
  refine fe_v (fun y28 => ?_)
  refine fe_it ?_ fe_no
  refine fe_v (fun y30 => ?_)
  refine fe_b2 F3 (fe_mSeals_right _ _ _) (fun x k hx => False.elim hx) (fun x k hx => False.elim hx) (fun r33 h31 F4 => ?_)
  refine fe_b2 F4 (fe_mSeals_right _ _ _) (fun x k hx => False.elim hx) (fun x k hx => False.elim hx) (fun r36 h34 F5 => ?_)
  refine fe_b2 F5 (fe_mSeals_right _ _ _) (fun x k hx => False.elim hx) (fun x k hx => False.elim hx) (fun r39 h37 F6 => ?_)
  refine fe_v (fun y40 => ?_)
  refine fe_it fe_no ?_
  refine fe_it ?_ fe_no
  refine fe_it ?_ fe_no
  refine fe_J F6 ((by first | (simp only [F1.r, F2.r, F3.r, F4.r, F5.r, F6.r]; exact rfl) | simp only [F1.r, F2.r, F3.r, F4.r, F5.r, F6.r])) (fun h44 F7 => ?_)
  refine fe_it fe_no ?_
  refine fe_it ?_ fe_no
  refine fe_J F7 ((by first | (simp only [F1.r, F2.r, F3.r, F4.r, F5.r, F6.r, F7.r]; exact rfl) | simp only [F1.r, F2.r, F3.r, F4.r, F5.r, F6.r, F7.r])) (fun h47 F8 => ?_)
  exact fe_so F8
def wI_mSeals_part_b195 (v0 : Nat) (v1 : Int) (v2 : Int) (h : Hp) (x k : Nat) : Prop := False
def wJ_mSeals_part_b195 (v0 : Nat) (v1 : Int) (v2 : Int) (h : Hp) (x k : Nat) : Prop := x = hR h v0 5 ∨ x = hR h v0 6 ∨ x = hR h v0 7
def wI_mSeals_part_b248 (v0 : Nat) (v2 : Int) (h : Hp) (x k : Nat) : Prop := False
def wJ_mSeals_part_b248 (v0 : Nat) (v2 : Int) (h : Hp) (x k : Nat) : Prop := x = hR h v0 6
def wI_mSeals_part_b229 (v0 : Nat) (v2 : Int) (h : Hp) (x k : Nat) : Prop := False
def wJ_mSeals_part_b229 (v0 : Nat) (v2 : Int) (h : Hp) (x k : Nat) : Prop := x = hR h v0 6 ∨ x = hR h v0 7
def wI_mSeals_part_b203 (v0 : Nat) (v2 : Int) (h : Hp) (x k : Nat) : Prop := False
def wJ_mSeals_part_b203 (v0 : Nat) (v2 : Int) (h : Hp) (x k : Nat) : Prop := x = hR h v0 6 ∨ x = hR h v0 7
def wI_mSeals_part_b2 (v0 : Nat) (v1 : Int) (v2 : Int) (h : Hp) (x k : Nat) : Prop := False
def wJ_mSeals_part_b2 (v0 : Nat) (v1 : Int) (v2 : Int) (h : Hp) (x k : Nat) : Prop := x = hR h v0 5 ∨ x = hR h v0 6 ∨ x = hR h v0 7
def wI_mSeals_part (v0 : Nat) (v1 : Int) (h : Hp) (x k : Nat) : Prop := False
def wJ_mSeals_part (v0 : Nat) (v1 : Int) (h : Hp) (x k : Nat) : Prop := x = hR h v0 5 ∨ x = hR h v0 6 ∨ x = hR h v0 7
theorem fe_mSeals_part_b195 {k2 : Nat → Int → Int → Hp → Option (Hp)} (hk2 : ∀ (v0 : Nat) (v1 : Int) (v2 : Int) (h : Hp), Feo (wI_mSeals_part_b2 v0 v1 v2 h) (wJ_mSeals_part_b2 v0 v1 v2 h) h id (k2 v0 v1 v2 h)) (v0 : Nat) (v1 : Int) (v2 : Int) (h : Hp) : Feo (wI_mSeals_part_b195 v0 v1 v2 h) (wJ_mSeals_part_b195 v0 v1 v2 h) h id (f_mSeals_part_b195 k2 v0 v1 v2 h) := by
  unfold f_mSeals_part_b195
  exact fe_j Fe.rf (hk2 _ _ _ _) (fun x k hx => False.elim hx) (fun x k hx => by simp only [wJ_mSeals_part_b2] at hx; rcases hx with e | e | e <;> first | exact Or.inl (e) | exact Or.inr (Or.inl (e)) | exact Or.inr (Or.inr (e)))
theorem fe_mSeals_part_b248 {k248 : Nat → Int → Hp → Option (Hp)} (hk248 : ∀ (v0 : Nat) (v2 : Int) (h : Hp), Feo (wI_mSeals_part_b248 v0 v2 h) (wJ_mSeals_part_b248 v0 v2 h) h id (k248 v0 v2 h)) (v0 : Nat) (v2 : Int) (h : Hp) : Feo (wI_mSeals_part_b248 v0 v2 h) (wJ_mSeals_part_b248 v0 v2 h) h id (f_mSeals_part_b248 k248 v0 v2 h) := by
  unfold f_mSeals_part_b248
  refine fe_it ?_ ?_
  · exact fe_so Fe.rf
  · refine fe_it fe_no ?_
    refine fe_it ?_ fe_no
    refine fe_it fe_no ?_
    refine fe_it ?_ fe_no
    refine fe_it ?_ fe_no
    refine fe_J Fe.rf (rfl) (fun h51 F1 => ?_)
    exact fe_j F1 (hk248 _ _ _) (fun x k hx => False.elim hx) (fun x k hx => by simp only [wJ_mSeals_part_b248, F1.r] at hx; have e := hx; exact e)
theorem fe_mSeals_part_b248_lp (n : Nat) : ∀ (v0 : Nat) (v2 : Int) (h : Hp), Feo (wI_mSeals_part_b248 v0 v2 h) (wJ_mSeals_part_b248 v0 v2 h) h id (f_mSeals_part_b248_lp n v0 v2 h) := by
  induction n with
  | zero => intro v0 v2 h; exact fe_no
  | succ n ih => intro v0 v2 h; exact fe_mSeals_part_b248 ih v0 v2 h
theorem fe_mSeals_part_b229 {k229 : Nat → Int → Hp → Option (Hp)} (hk229 : ∀ (v0 : Nat) (v2 : Int) (h : Hp), Feo (wI_mSeals_part_b229 v0 v2 h) (wJ_mSeals_part_b229 v0 v2 h) h id (k229 v0 v2 h)) (v0 : Nat) (v2 : Int) (h : Hp) : Feo (wI_mSeals_part_b229 v0 v2 h) (wJ_mSeals_part_b229 v0 v2 h) h id (f_mSeals_part_b229 k229 v0 v2 h) := by
  unfold f_mSeals_part_b229
  refine fe_it ?_ ?_
  · exact fe_j Fe.rf (fe_mSeals_part_b248_lp FU _ _ _) (fun x k hx => False.elim hx) (fun x k hx => by simp only [wJ_mSeals_part_b248] at hx; have e := hx; exact Or.inl (e))
  · refine fe_b1 Fe.rf (fe_mSeals_round _ _ _) (fun x k hx => False.elim hx) (fun x k hx => by simp only [wJ_mSeals_round] at hx; have e := hx; exact Or.inr (e)) (fun h44 F1 => ?_)
    exact fe_j F1 (hk229 _ _ _) (fun x k hx => False.elim hx) (fun x k hx => by simp only [wJ_mSeals_part_b229, F1.r] at hx; rcases hx with e | e <;> first | exact Or.inl (e) | exact Or.inr (e))
theorem fe_mSeals_part_b229_lp (n : Nat) : ∀ (v0 : Nat) (v2 : Int) (h : Hp), Feo (wI_mSeals_part_b229 v0 v2 h) (wJ_mSeals_part_b229 v0 v2 h) h id (f_mSeals_part_b229_lp n v0 v2 h) := by
  induction n with
  | zero => intro v0 v2 h; exact fe_no
  | succ n ih => intro v0 v2 h; exact fe_mSeals_part_b229 ih v0 v2 h
theorem fe_mSeals_part_b203 {k203 : Nat → Int → Hp → Option (Hp)} (hk203 : ∀ (v0 : Nat) (v2 : Int) (h : Hp), Feo (wI_mSeals_part_b203 v0 v2 h) (wJ_mSeals_part_b203 v0 v2 h) h id (k203 v0 v2 h)) (v0 : Nat) (v2 : Int) (h : Hp) : Feo (wI_mSeals_part_b203 v0 v2 h) (wJ_mSeals_part_b203 v0 v2 h) h id (f_mSeals_part_b203 k203 v0 v2 h) := by
  unfold f_mSeals_part_b203
  refine fe_it ?_ ?_
  · exact fe_j Fe.rf (fe_mSeals_part_b229_lp FU _ _ _) (fun x k hx => False.elim hx) (fun x k hx => by simp only [wJ_mSeals_part_b229] at hx; rcases hx with e | e <;> first | exact Or.inl (e) | exact Or.inr (e))
  · refine fe_it fe_no ?_
    refine fe_it ?_ fe_no
    refine fe_it fe_no ?_
    refine fe_it ?_ fe_no
    refine fe_J Fe.rf (Or.inr (rfl)) (fun h43 F1 => ?_)
    exact fe_j F1 (hk203 _ _ _) (fun x k hx => False.elim hx) (fun x k hx => by simp only [wJ_mSeals_part_b203, F1.r] at hx; rcases hx with e | e <;> first | exact Or.inl (e) | exact Or.inr (e))
theorem fe_mSeals_part_b203_lp (n : Nat) : ∀ (v0 : Nat) (v2 : Int) (h : Hp), Feo (wI_mSeals_part_b203 v0 v2 h) (wJ_mSeals_part_b203 v0 v2 h) h id (f_mSeals_part_b203_lp n v0 v2 h) := by
  induction n with
  | zero => intro v0 v2 h; exact fe_no
  | succ n ih => intro v0 v2 h; exact fe_mSeals_part_b203 ih v0 v2 h
theorem fe_mSeals_part_b2 {k2 : Nat → Int → Int → Hp → Option (Hp)} (hk2 : ∀ (v0 : Nat) (v1 : Int) (v2 : Int) (h : Hp), Feo (wI_mSeals_part_b2 v0 v1 v2 h) (wJ_mSeals_part_b2 v0 v1 v2 h) h id (k2 v0 v1 v2 h)) (v0 : Nat) (v1 : Int) (v2 : Int) (h : Hp) : Feo (wI_mSeals_part_b2 v0 v1 v2 h) (wJ_mSeals_part_b2 v0 v1 v2 h) h id (f_mSeals_part_b2 k2 v0 v1 v2 h) := by
  unfold f_mSeals_part_b2
  refine fe_it ?_ ?_
  · exact fe_j Fe.rf (fe_mSeals_part_b203_lp FU _ _ _) (fun x k hx => False.elim hx) (fun x k hx => by simp only [wJ_mSeals_part_b203] at hx; rcases hx with e | e <;> first | exact Or.inr (Or.inl (e)) | exact Or.inr (Or.inr (e)))
  · refine fe_it ?_ ?_
    · refine fe_it fe_no ?_
      refine fe_it ?_ fe_no
      refine fe_b2 Fe.rf (fe_mSeals_right _ _ _) (fun x k hx => False.elim hx) (fun x k hx => False.elim hx) (fun r5 h3 F1 => ?_)
      refine fe_it fe_no ?_
      refine fe_it ?_ fe_no
      refine fe_b2 F1 (fe_mSeals_right _ _ _) (fun x k hx => False.elim hx) (fun x k hx => False.elim hx) (fun r10 h8 F2 => ?_)
      refine fe_it fe_no ?_
      refine fe_it ?_ fe_no
      refine fe_v (fun y13 => ?_)
      refine fe_it ?_ fe_no
      refine fe_b2 F2 (fe_mSeals_right _ _ _) (fun x k hx => False.elim hx) (fun x k hx => False.elim hx) (fun r17 h15 F3 => ?_)
      refine fe_it fe_no ?_
      refine fe_it ?_ fe_no
      refine fe_b2 F3 (fe_mSeals_right _ _ _) (fun x k hx => False.elim hx) (fun x k hx => False.elim hx) (fun r22 h20 F4 => ?_)
      refine fe_it fe_no ?_
      refine fe_it ?_ fe_no
      refine fe_v (fun y25 => ?_)
      refine fe_it ?_ fe_no
      refine fe_it ?_ fe_no
      refine fe_it ?_ fe_no
      refine fe_J F4 (Or.inl ((by first | (simp only [F1.r, F2.r, F3.r, F4.r]; exact rfl) | simp only [F1.r, F2.r, F3.r, F4.r]))) (fun h29 F5 => ?_)
      exact fe_j F5 (fe_mSeals_part_b195 hk2 _ _ _ _) (fun x k hx => False.elim hx) (fun x k hx => by simp only [wJ_mSeals_part_b195, F1.r, F2.r, F3.r, F4.r, F5.r] at hx; rcases hx with e | e | e <;> first | exact Or.inl (e) | exact Or.inr (Or.inl (e)) | exact Or.inr (Or.inr (e)))
    · refine fe_v (fun y30 => ?_)
      refine fe_it fe_no ?_
      refine fe_it ?_ fe_no
      refine fe_it ?_ fe_no
      refine fe_it ?_ fe_no
      refine fe_it ?_ fe_no
      refine fe_it fe_no ?_
      refine fe_it ?_ fe_no
      refine fe_J Fe.rf (Or.inl (rfl)) (fun h38 F6 => ?_)
      exact fe_j F6 (fe_mSeals_part_b195 hk2 _ _ _ _) (fun x k hx => False.elim hx) (fun x k hx => by simp only [wJ_mSeals_part_b195, F6.r] at hx; rcases hx with e | e | e <;> first | exact Or.inl (e) | exact Or.inr (Or.inl (e)) | exact Or.inr (Or.inr (e)))
theorem fe_mSeals_part_b2_lp (n : Nat) : ∀ (v0 : Nat) (v1 : Int) (v2 : Int) (h : Hp), Feo (wI_mSeals_part_b2 v0 v1 v2 h) (wJ_mSeals_part_b2 v0 v1 v2 h) h id (f_mSeals_part_b2_lp n v0 v1 v2 h) := by
  induction n with
  | zero => intro v0 v1 v2 h; exact fe_no
  | succ n ih => intro v0 v1 v2 h; exact fe_mSeals_part_b2 ih v0 v1 v2 h
theorem fe_mSeals_part (v0 : Nat) (v1 : Int) (h : Hp) : Feo (wI_mSeals_part v0 v1 h) (wJ_mSeals_part v0 v1 h) h id (f_mSeals_part v0 v1 h) := by
  unfold f_mSeals_part
  exact fe_j Fe.rf (fe_mSeals_part_b2_lp FU _ _ _ _) (fun x k hx => False.elim hx) (fun x k hx => by simp only [wJ_mSeals_part_b2] at hx; rcases hx with e | e | e <;> first | exact Or.inl (e) | exact Or.inr (Or.inl (e)) | exact Or.inr (Or.inr (e)))
def wI_mSeals_digestWork_b125 (v0 : Nat) (v3 : Int) (h : Hp) (x k : Nat) : Prop := x = hR h v0 8
def wJ_mSeals_digestWork_b125 (v0 : Nat) (v3 : Int) (h : Hp) (x k : Nat) : Prop := False
def wI_mSeals_digestWork_b107 (v0 : Nat) (v2 : Int) (v3 : Int) (h : Hp) (x k : Nat) : Prop := x = hR h v0 8
def wJ_mSeals_digestWork_b107 (v0 : Nat) (v2 : Int) (v3 : Int) (h : Hp) (x k : Nat) : Prop := x = hR h v0 5 ∨ x = hR h v0 6 ∨ x = hR h v0 7
def wI_mSeals_digestWork_b81 (v0 : Nat) (v2 : Int) (v3 : Int) (h : Hp) (x k : Nat) : Prop := x = hR h v0 8
def wJ_mSeals_digestWork_b81 (v0 : Nat) (v2 : Int) (v3 : Int) (h : Hp) (x k : Nat) : Prop := x = hR h v0 5 ∨ x = hR h v0 6 ∨ x = hR h v0 7
def wI_mSeals_digestWork_b45 (v0 : Nat) (v1 : Int) (v2 : Int) (v3 : Int) (h : Hp) (x k : Nat) : Prop := x = hR h v0 4 ∨ x = hR h v0 8
def wJ_mSeals_digestWork_b45 (v0 : Nat) (v1 : Int) (v2 : Int) (v3 : Int) (h : Hp) (x k : Nat) : Prop := x = hR h v0 5 ∨ x = hR h v0 6 ∨ x = hR h v0 7
def wI_mSeals_digestWork_b16 (v0 : Nat) (v1 : Int) (v2 : Int) (v3 : Int) (h : Hp) (x k : Nat) : Prop := x = hR h v0 4 ∨ x = hR h v0 8
def wJ_mSeals_digestWork_b16 (v0 : Nat) (v1 : Int) (v2 : Int) (v3 : Int) (h : Hp) (x k : Nat) : Prop := x = hR h v0 5 ∨ x = hR h v0 6 ∨ x = hR h v0 7
def wI_mSeals_digestWork (v0 : Nat) (v1 : Int) (h : Hp) (x k : Nat) : Prop := x = hR h v0 4 ∨ x = hR h v0 8
def wJ_mSeals_digestWork (v0 : Nat) (v1 : Int) (h : Hp) (x k : Nat) : Prop := x = hR h v0 5 ∨ x = hR h v0 6 ∨ x = hR h v0 7
theorem fe_mSeals_digestWork_b125 {k125 : Nat → Int → Hp → Option (Hp)} (hk125 : ∀ (v0 : Nat) (v3 : Int) (h : Hp), Feo (wI_mSeals_digestWork_b125 v0 v3 h) (wJ_mSeals_digestWork_b125 v0 v3 h) h id (k125 v0 v3 h)) (v0 : Nat) (v3 : Int) (h : Hp) : Feo (wI_mSeals_digestWork_b125 v0 v3 h) (wJ_mSeals_digestWork_b125 v0 v3 h) h id (f_mSeals_digestWork_b125 k125 v0 v3 h) := by
  unfold f_mSeals_digestWork_b125
  refine fe_it ?_ ?_
  · exact fe_so Fe.rf
  · refine fe_it fe_no ?_
    refine fe_it ?_ fe_no
    refine fe_it fe_no ?_
    refine fe_it ?_ fe_no
    refine fe_I Fe.rf (rfl) (fun h22 F1 => ?_)
    exact fe_j F1 (hk125 _ _ _) (fun x k hx => by simp only [wI_mSeals_digestWork_b125, F1.r] at hx; have e := hx; exact e) (fun x k hx => False.elim hx)
theorem fe_mSeals_digestWork_b125_lp (n : Nat) : ∀ (v0 : Nat) (v3 : Int) (h : Hp), Feo (wI_mSeals_digestWork_b125 v0 v3 h) (wJ_mSeals_digestWork_b125 v0 v3 h) h id (f_mSeals_digestWork_b125_lp n v0 v3 h) := by
  induction n with
  | zero => intro v0 v3 h; exact fe_no
  | succ n ih => intro v0 v3 h; exact fe_mSeals_digestWork_b125 ih v0 v3 h
theorem fe_mSeals_digestWork_b107 {k107 : Nat → Int → Int → Hp → Option (Hp)} (hk107 : ∀ (v0 : Nat) (v2 : Int) (v3 : Int) (h : Hp), Feo (wI_mSeals_digestWork_b107 v0 v2 v3 h) (wJ_mSeals_digestWork_b107 v0 v2 v3 h) h id (k107 v0 v2 v3 h)) (v0 : Nat) (v2 : Int) (v3 : Int) (h : Hp) : Feo (wI_mSeals_digestWork_b107 v0 v2 v3 h) (wJ_mSeals_digestWork_b107 v0 v2 v3 h) h id (f_mSeals_digestWork_b107 k107 v0 v2 v3 h) := by
  unfold f_mSeals_digestWork_b107
  refine fe_it ?_ ?_
  · exact fe_j Fe.rf (fe_mSeals_digestWork_b125_lp FU _ _ _) (fun x k hx => by simp only [wI_mSeals_digestWork_b125] at hx; have e := hx; exact e) (fun x k hx => False.elim hx)
  · refine fe_b1 Fe.rf (fe_mSeals_part _ _ _) (fun x k hx => False.elim hx) (fun x k hx => by simp only [wJ_mSeals_part] at hx; rcases hx with e | e | e <;> first | exact Or.inl (e) | exact Or.inr (Or.inl (e)) | exact Or.inr (Or.inr (e))) (fun h16 F1 => ?_)
    exact fe_j F1 (hk107 _ _ _ _) (fun x k hx => by simp only [wI_mSeals_digestWork_b107, F1.r] at hx; have e := hx; exact e) (fun x k hx => by simp only [wJ_mSeals_digestWork_b107, F1.r] at hx; rcases hx with e | e | e <;> first | exact Or.inl (e) | exact Or.inr (Or.inl (e)) | exact Or.inr (Or.inr (e)))
theorem fe_mSeals_digestWork_b107_lp (n : Nat) : ∀ (v0 : Nat) (v2 : Int) (v3 : Int) (h : Hp), Feo (wI_mSeals_digestWork_b107 v0 v2 v3 h) (wJ_mSeals_digestWork_b107 v0 v2 v3 h) h id (f_mSeals_digestWork_b107_lp n v0 v2 v3 h) := by
  induction n with
  | zero => intro v0 v2 v3 h; exact fe_no
  | succ n ih => intro v0 v2 v3 h; exact fe_mSeals_digestWork_b107 ih v0 v2 v3 h
theorem fe_mSeals_digestWork_b81 {k81 : Nat → Int → Int → Hp → Option (Hp)} (hk81 : ∀ (v0 : Nat) (v2 : Int) (v3 : Int) (h : Hp), Feo (wI_mSeals_digestWork_b81 v0 v2 v3 h) (wJ_mSeals_digestWork_b81 v0 v2 v3 h) h id (k81 v0 v2 v3 h)) (v0 : Nat) (v2 : Int) (v3 : Int) (h : Hp) : Feo (wI_mSeals_digestWork_b81 v0 v2 v3 h) (wJ_mSeals_digestWork_b81 v0 v2 v3 h) h id (f_mSeals_digestWork_b81 k81 v0 v2 v3 h) := by
  unfold f_mSeals_digestWork_b81
  refine fe_it ?_ ?_
  · exact fe_j Fe.rf (fe_mSeals_digestWork_b107_lp FU _ _ _ _) (fun x k hx => by simp only [wI_mSeals_digestWork_b107] at hx; have e := hx; exact e) (fun x k hx => by simp only [wJ_mSeals_digestWork_b107] at hx; rcases hx with e | e | e <;> first | exact Or.inl (e) | exact Or.inr (Or.inl (e)) | exact Or.inr (Or.inr (e)))
  · refine fe_it fe_no ?_
    refine fe_it ?_ fe_no
    refine fe_it fe_no ?_
    refine fe_it ?_ fe_no
    refine fe_J Fe.rf (Or.inr (Or.inl (rfl))) (fun h15 F1 => ?_)
    exact fe_j F1 (hk81 _ _ _ _) (fun x k hx => by simp only [wI_mSeals_digestWork_b81, F1.r] at hx; have e := hx; exact e) (fun x k hx => by simp only [wJ_mSeals_digestWork_b81, F1.r] at hx; rcases hx with e | e | e <;> first | exact Or.inl (e) | exact Or.inr (Or.inl (e)) | exact Or.inr (Or.inr (e)))
theorem fe_mSeals_digestWork_b81_lp (n : Nat) : ∀ (v0 : Nat) (v2 : Int) (v3 : Int) (h : Hp), Feo (wI_mSeals_digestWork_b81 v0 v2 v3 h) (wJ_mSeals_digestWork_b81 v0 v2 v3 h) h id (f_mSeals_digestWork_b81_lp n v0 v2 v3 h) := by
  induction n with
  | zero => intro v0 v2 v3 h; exact fe_no
  | succ n ih => intro v0 v2 v3 h; exact fe_mSeals_digestWork_b81 ih v0 v2 v3 h
theorem fe_mSeals_digestWork_b45 {k45 : Nat → Int → Int → Int → Hp → Option (Hp)} (hk45 : ∀ (v0 : Nat) (v1 : Int) (v2 : Int) (v3 : Int) (h : Hp), Feo (wI_mSeals_digestWork_b45 v0 v1 v2 v3 h) (wJ_mSeals_digestWork_b45 v0 v1 v2 v3 h) h id (k45 v0 v1 v2 v3 h)) (v0 : Nat) (v1 : Int) (v2 : Int) (v3 : Int) (h : Hp) : Feo (wI_mSeals_digestWork_b45 v0 v1 v2 v3 h) (wJ_mSeals_digestWork_b45 v0 v1 v2 v3 h) h id (f_mSeals_digestWork_b45 k45 v0 v1 v2 v3 h) := by
  unfold f_mSeals_digestWork_b45
  refine fe_it ?_ ?_
  · exact fe_j Fe.rf (fe_mSeals_digestWork_b81_lp FU _ _ _ _) (fun x k hx => by simp only [wI_mSeals_digestWork_b81] at hx; have e := hx; exact Or.inr (e)) (fun x k hx => by simp only [wJ_mSeals_digestWork_b81] at hx; rcases hx with e | e | e <;> first | exact Or.inl (e) | exact Or.inr (Or.inl (e)) | exact Or.inr (Or.inr (e)))
  · refine fe_it fe_no ?_
    refine fe_it ?_ fe_no
    refine fe_I Fe.rf (Or.inl (rfl)) (fun h10 F1 => ?_)
    exact fe_j F1 (hk45 _ _ _ _ _) (fun x k hx => by simp only [wI_mSeals_digestWork_b45, F1.r] at hx; rcases hx with e | e <;> first | exact Or.inl (e) | exact Or.inr (e)) (fun x k hx => by simp only [wJ_mSeals_digestWork_b45, F1.r] at hx; rcases hx with e | e | e <;> first | exact Or.inl (e) | exact Or.inr (Or.inl (e)) | exact Or.inr (Or.inr (e)))
theorem fe_mSeals_digestWork_b45_lp (n : Nat) : ∀ (v0 : Nat) (v1 : Int) (v2 : Int) (v3 : Int) (h : Hp), Feo (wI_mSeals_digestWork_b45 v0 v1 v2 v3 h) (wJ_mSeals_digestWork_b45 v0 v1 v2 v3 h) h id (f_mSeals_digestWork_b45_lp n v0 v1 v2 v3 h) := by
  induction n with
  | zero => intro v0 v1 v2 v3 h; exact fe_no
  | succ n ih => intro v0 v1 v2 v3 h; exact fe_mSeals_digestWork_b45 ih v0 v1 v2 v3 h
theorem fe_mSeals_digestWork_b16 {k16 : Nat → Int → Int → Int → Hp → Option (Hp)} (hk16 : ∀ (v0 : Nat) (v1 : Int) (v2 : Int) (v3 : Int) (h : Hp), Feo (wI_mSeals_digestWork_b16 v0 v1 v2 v3 h) (wJ_mSeals_digestWork_b16 v0 v1 v2 v3 h) h id (k16 v0 v1 v2 v3 h)) (v0 : Nat) (v1 : Int) (v2 : Int) (v3 : Int) (h : Hp) : Feo (wI_mSeals_digestWork_b16 v0 v1 v2 v3 h) (wJ_mSeals_digestWork_b16 v0 v1 v2 v3 h) h id (f_mSeals_digestWork_b16 k16 v0 v1 v2 v3 h) := by
  unfold f_mSeals_digestWork_b16
  refine fe_it ?_ ?_
  · refine fe_it fe_no ?_
    refine fe_it ?_ fe_no
    refine fe_I Fe.rf (Or.inl (rfl)) (fun h4 F1 => ?_)
    exact fe_j F1 (fe_mSeals_digestWork_b45_lp FU _ _ _ _ _) (fun x k hx => by simp only [wI_mSeals_digestWork_b45, F1.r] at hx; rcases hx with e | e <;> first | exact Or.inl (e) | exact Or.inr (e)) (fun x k hx => by simp only [wJ_mSeals_digestWork_b45, F1.r] at hx; rcases hx with e | e | e <;> first | exact Or.inl (e) | exact Or.inr (Or.inl (e)) | exact Or.inr (Or.inr (e)))
  · refine fe_it fe_no ?_
    refine fe_it ?_ fe_no
    refine fe_I Fe.rf (Or.inl (rfl)) (fun h7 F2 => ?_)
    exact fe_j F2 (hk16 _ _ _ _ _) (fun x k hx => by simp only [wI_mSeals_digestWork_b16, F2.r] at hx; rcases hx with e | e <;> first | exact Or.inl (e) | exact Or.inr (e)) (fun x k hx => by simp only [wJ_mSeals_digestWork_b16, F2.r] at hx; rcases hx with e | e | e <;> first | exact Or.inl (e) | exact Or.inr (Or.inl (e)) | exact Or.inr (Or.inr (e)))
theorem fe_mSeals_digestWork_b16_lp (n : Nat) : ∀ (v0 : Nat) (v1 : Int) (v2 : Int) (v3 : Int) (h : Hp), Feo (wI_mSeals_digestWork_b16 v0 v1 v2 v3 h) (wJ_mSeals_digestWork_b16 v0 v1 v2 v3 h) h id (f_mSeals_digestWork_b16_lp n v0 v1 v2 v3 h) := by
  induction n with
  | zero => intro v0 v1 v2 v3 h; exact fe_no
  | succ n ih => intro v0 v1 v2 v3 h; exact fe_mSeals_digestWork_b16 ih v0 v1 v2 v3 h
theorem fe_mSeals_digestWork (v0 : Nat) (v1 : Int) (h : Hp) : Feo (wI_mSeals_digestWork v0 v1 h) (wJ_mSeals_digestWork v0 v1 h) h id (f_mSeals_digestWork v0 v1 h) := by
  unfold f_mSeals_digestWork
  refine fe_v (fun y1 => ?_)
  exact fe_j Fe.rf (fe_mSeals_digestWork_b16_lp FU _ _ _ _ _) (fun x k hx => by simp only [wI_mSeals_digestWork_b16] at hx; rcases hx with e | e <;> first | exact Or.inl (e) | exact Or.inr (e)) (fun x k hx => by simp only [wJ_mSeals_digestWork_b16] at hx; rcases hx with e | e | e <;> first | exact Or.inl (e) | exact Or.inr (Or.inl (e)) | exact Or.inr (Or.inr (e)))
def wI_mSeals_macText_b32 (v0 : Nat) (v1 : Nat) (v2 : Int) (v3 : Int) (v4 : Int) (s0 : Nat) (s1 : Int) (s2 : Int) (h : Hp) (x k : Nat) : Prop := x = (hR h v0 9) ∨ x = hR h v0 4 ∨ x = hR h v0 8 ∨ x = s0
def wJ_mSeals_macText_b32 (v0 : Nat) (v1 : Nat) (v2 : Int) (v3 : Int) (v4 : Int) (s0 : Nat) (s1 : Int) (s2 : Int) (h : Hp) (x k : Nat) : Prop := x = hR h v0 5 ∨ x = hR h v0 6 ∨ x = hR h v0 7
def wI_mSeals_macText_b154 (v0 : Nat) (v4 : Int) (h : Hp) (x k : Nat) : Prop := x = hR h v0 4 ∨ x = hR h v0 8
def wJ_mSeals_macText_b154 (v0 : Nat) (v4 : Int) (h : Hp) (x k : Nat) : Prop := x = hR h v0 5 ∨ x = hR h v0 6 ∨ x = hR h v0 7
def wI_mSeals_macText_b121 (v0 : Nat) (v4 : Int) (h : Hp) (x k : Nat) : Prop := x = hR h v0 4 ∨ x = hR h v0 8
def wJ_mSeals_macText_b121 (v0 : Nat) (v4 : Int) (h : Hp) (x k : Nat) : Prop := x = hR h v0 5 ∨ x = hR h v0 6 ∨ x = hR h v0 7
def wI_mSeals_macText_b75 (v0 : Nat) (v4 : Int) (h : Hp) (x k : Nat) : Prop := x = hR h v0 4 ∨ x = hR h v0 8
def wJ_mSeals_macText_b75 (v0 : Nat) (v4 : Int) (h : Hp) (x k : Nat) : Prop := x = hR h v0 5 ∨ x = hR h v0 6 ∨ x = hR h v0 7
def wI_mSeals_macText_b42 (v0 : Nat) (v4 : Int) (h : Hp) (x k : Nat) : Prop := x = hR h v0 4 ∨ x = hR h v0 8
def wJ_mSeals_macText_b42 (v0 : Nat) (v4 : Int) (h : Hp) (x k : Nat) : Prop := x = hR h v0 5 ∨ x = hR h v0 6 ∨ x = hR h v0 7
def wI_mSeals_macText_b3 (v0 : Nat) (v1 : Nat) (v2 : Int) (v3 : Int) (v4 : Int) (h : Hp) (x k : Nat) : Prop := x = (hR h v0 9) ∨ x = hR h v0 4 ∨ x = hR h v0 8
def wJ_mSeals_macText_b3 (v0 : Nat) (v1 : Nat) (v2 : Int) (v3 : Int) (v4 : Int) (h : Hp) (x k : Nat) : Prop := x = hR h v0 5 ∨ x = hR h v0 6 ∨ x = hR h v0 7
def wI_mSeals_macText (v0 : Nat) (v1 : Nat) (v2 : Int) (v3 : Int) (h : Hp) (x k : Nat) : Prop := x = (hR h v0 9) ∨ x = hR h v0 4 ∨ x = hR h v0 8
def wJ_mSeals_macText (v0 : Nat) (v1 : Nat) (v2 : Int) (v3 : Int) (h : Hp) (x k : Nat) : Prop := x = hR h v0 5 ∨ x = hR h v0 6 ∨ x = hR h v0 7
theorem fe_mSeals_macText_b32 {k3 : Nat → Nat → Int → Int → Int → Hp → Option (Hp)} (hk3 : ∀ (v0 : Nat) (v1 : Nat) (v2 : Int) (v3 : Int) (v4 : Int) (h : Hp), Feo (wI_mSeals_macText_b3 v0 v1 v2 v3 v4 h) (wJ_mSeals_macText_b3 v0 v1 v2 v3 v4 h) h id (k3 v0 v1 v2 v3 v4 h)) (v0 : Nat) (v1 : Nat) (v2 : Int) (v3 : Int) (v4 : Int) (s0 : Nat) (s1 : Int) (s2 : Int) (h : Hp) : Feo (wI_mSeals_macText_b32 v0 v1 v2 v3 v4 s0 s1 s2 h) (wJ_mSeals_macText_b32 v0 v1 v2 v3 v4 s0 s1 s2 h) h id (f_mSeals_macText_b32 k3 v0 v1 v2 v3 v4 s0 s1 s2 h) := by
  unfold f_mSeals_macText_b32
  refine fe_it fe_no ?_
  refine fe_it ?_ fe_no
  refine fe_I Fe.rf (Or.inr (Or.inr (Or.inr (rfl)))) (fun h29 F1 => ?_)
  exact fe_j F1 (hk3 _ _ _ _ _ _) (fun x k hx => by simp only [wI_mSeals_macText_b3, F1.r] at hx; rcases hx with e | e | e <;> first | exact Or.inl (e) | exact Or.inr (Or.inl (e)) | exact Or.inr (Or.inr (Or.inl (e)))) (fun x k hx => by simp only [wJ_mSeals_macText_b3, F1.r] at hx; rcases hx with e | e | e <;> first | exact Or.inl (e) | exact Or.inr (Or.inl (e)) | exact Or.inr (Or.inr (e)))
theorem fe_mSeals_macText_b154 {k154 : Nat → Int → Hp → Option (Hp)} (hk154 : ∀ (v0 : Nat) (v4 : Int) (h : Hp), Feo (wI_mSeals_macText_b154 v0 v4 h) (wJ_mSeals_macText_b154 v0 v4 h) h id (k154 v0 v4 h)) (v0 : Nat) (v4 : Int) (h : Hp) : Feo (wI_mSeals_macText_b154 v0 v4 h) (wJ_mSeals_macText_b154 v0 v4 h) h id (f_mSeals_macText_b154 k154 v0 v4 h) := by
  unfold f_mSeals_macText_b154
  refine fe_it ?_ ?_
  · refine fe_b1 Fe.rf (fe_mSeals_digestWork _ _ _) (fun x k hx => by simp only [wI_mSeals_digestWork] at hx; rcases hx with e | e <;> first | exact Or.inl (e) | exact Or.inr (e)) (fun x k hx => by simp only [wJ_mSeals_digestWork] at hx; rcases hx with e | e | e <;> first | exact Or.inl (e) | exact Or.inr (Or.inl (e)) | exact Or.inr (Or.inr (e))) (fun h20 F1 => ?_)
    exact fe_so F1
  · refine fe_it fe_no ?_
    refine fe_it ?_ fe_no
    refine fe_it fe_no ?_
    refine fe_it ?_ fe_no
    refine fe_I Fe.rf (Or.inl (rfl)) (fun h26 F2 => ?_)
    exact fe_j F2 (hk154 _ _ _) (fun x k hx => by simp only [wI_mSeals_macText_b154, F2.r] at hx; rcases hx with e | e <;> first | exact Or.inl (e) | exact Or.inr (e)) (fun x k hx => by simp only [wJ_mSeals_macText_b154, F2.r] at hx; rcases hx with e | e | e <;> first | exact Or.inl (e) | exact Or.inr (Or.inl (e)) | exact Or.inr (Or.inr (e)))
theorem fe_mSeals_macText_b154_lp (n : Nat) : ∀ (v0 : Nat) (v4 : Int) (h : Hp), Feo (wI_mSeals_macText_b154 v0 v4 h) (wJ_mSeals_macText_b154 v0 v4 h) h id (f_mSeals_macText_b154_lp n v0 v4 h) := by
  induction n with
  | zero => intro v0 v4 h; exact fe_no
  | succ n ih => intro v0 v4 h; exact fe_mSeals_macText_b154 ih v0 v4 h
theorem fe_mSeals_macText_b121 {k121 : Nat → Int → Hp → Option (Hp)} (hk121 : ∀ (v0 : Nat) (v4 : Int) (h : Hp), Feo (wI_mSeals_macText_b121 v0 v4 h) (wJ_mSeals_macText_b121 v0 v4 h) h id (k121 v0 v4 h)) (v0 : Nat) (v4 : Int) (h : Hp) : Feo (wI_mSeals_macText_b121 v0 v4 h) (wJ_mSeals_macText_b121 v0 v4 h) h id (f_mSeals_macText_b121 k121 v0 v4 h) := by
  unfold f_mSeals_macText_b121
  refine fe_it ?_ ?_
  · exact fe_j Fe.rf (fe_mSeals_macText_b154_lp FU _ _ _) (fun x k hx => by simp only [wI_mSeals_macText_b154] at hx; rcases hx with e | e <;> first | exact Or.inl (e) | exact Or.inr (e)) (fun x k hx => by simp only [wJ_mSeals_macText_b154] at hx; rcases hx with e | e | e <;> first | exact Or.inl (e) | exact Or.inr (Or.inl (e)) | exact Or.inr (Or.inr (e)))
  · refine fe_it fe_no ?_
    refine fe_it ?_ fe_no
    refine fe_it fe_no ?_
    refine fe_it ?_ fe_no
    refine fe_I Fe.rf (Or.inl (rfl)) (fun h19 F1 => ?_)
    exact fe_j F1 (hk121 _ _ _) (fun x k hx => by simp only [wI_mSeals_macText_b121, F1.r] at hx; rcases hx with e | e <;> first | exact Or.inl (e) | exact Or.inr (e)) (fun x k hx => by simp only [wJ_mSeals_macText_b121, F1.r] at hx; rcases hx with e | e | e <;> first | exact Or.inl (e) | exact Or.inr (Or.inl (e)) | exact Or.inr (Or.inr (e)))
theorem fe_mSeals_macText_b121_lp (n : Nat) : ∀ (v0 : Nat) (v4 : Int) (h : Hp), Feo (wI_mSeals_macText_b121 v0 v4 h) (wJ_mSeals_macText_b121 v0 v4 h) h id (f_mSeals_macText_b121_lp n v0 v4 h) := by
  induction n with
  | zero => intro v0 v4 h; exact fe_no
  | succ n ih => intro v0 v4 h; exact fe_mSeals_macText_b121 ih v0 v4 h
theorem fe_mSeals_macText_b75 {k75 : Nat → Int → Hp → Option (Hp)} (hk75 : ∀ (v0 : Nat) (v4 : Int) (h : Hp), Feo (wI_mSeals_macText_b75 v0 v4 h) (wJ_mSeals_macText_b75 v0 v4 h) h id (k75 v0 v4 h)) (v0 : Nat) (v4 : Int) (h : Hp) : Feo (wI_mSeals_macText_b75 v0 v4 h) (wJ_mSeals_macText_b75 v0 v4 h) h id (f_mSeals_macText_b75 k75 v0 v4 h) := by
  unfold f_mSeals_macText_b75
  refine fe_it ?_ ?_
  · refine fe_b1 Fe.rf (fe_mSeals_digestWork _ _ _) (fun x k hx => by simp only [wI_mSeals_digestWork] at hx; rcases hx with e | e <;> first | exact Or.inl (e) | exact Or.inr (e)) (fun x k hx => by simp only [wJ_mSeals_digestWork] at hx; rcases hx with e | e | e <;> first | exact Or.inl (e) | exact Or.inr (Or.inl (e)) | exact Or.inr (Or.inr (e))) (fun h8 F1 => ?_)
    exact fe_j F1 (fe_mSeals_macText_b121_lp FU _ _ _) (fun x k hx => by simp only [wI_mSeals_macText_b121, F1.r] at hx; rcases hx with e | e <;> first | exact Or.inl (e) | exact Or.inr (e)) (fun x k hx => by simp only [wJ_mSeals_macText_b121, F1.r] at hx; rcases hx with e | e | e <;> first | exact Or.inl (e) | exact Or.inr (Or.inl (e)) | exact Or.inr (Or.inr (e)))
  · refine fe_it fe_no ?_
    refine fe_it ?_ fe_no
    refine fe_it fe_no ?_
    refine fe_it ?_ fe_no
    refine fe_I Fe.rf (Or.inl (rfl)) (fun h14 F2 => ?_)
    exact fe_j F2 (hk75 _ _ _) (fun x k hx => by simp only [wI_mSeals_macText_b75, F2.r] at hx; rcases hx with e | e <;> first | exact Or.inl (e) | exact Or.inr (e)) (fun x k hx => by simp only [wJ_mSeals_macText_b75, F2.r] at hx; rcases hx with e | e | e <;> first | exact Or.inl (e) | exact Or.inr (Or.inl (e)) | exact Or.inr (Or.inr (e)))
theorem fe_mSeals_macText_b75_lp (n : Nat) : ∀ (v0 : Nat) (v4 : Int) (h : Hp), Feo (wI_mSeals_macText_b75 v0 v4 h) (wJ_mSeals_macText_b75 v0 v4 h) h id (f_mSeals_macText_b75_lp n v0 v4 h) := by
  induction n with
  | zero => intro v0 v4 h; exact fe_no
  | succ n ih => intro v0 v4 h; exact fe_mSeals_macText_b75 ih v0 v4 h
theorem fe_mSeals_macText_b42 {k42 : Nat → Int → Hp → Option (Hp)} (hk42 : ∀ (v0 : Nat) (v4 : Int) (h : Hp), Feo (wI_mSeals_macText_b42 v0 v4 h) (wJ_mSeals_macText_b42 v0 v4 h) h id (k42 v0 v4 h)) (v0 : Nat) (v4 : Int) (h : Hp) : Feo (wI_mSeals_macText_b42 v0 v4 h) (wJ_mSeals_macText_b42 v0 v4 h) h id (f_mSeals_macText_b42 k42 v0 v4 h) := by
  unfold f_mSeals_macText_b42
  refine fe_it ?_ ?_
  · exact fe_j Fe.rf (fe_mSeals_macText_b75_lp FU _ _ _) (fun x k hx => by simp only [wI_mSeals_macText_b75] at hx; rcases hx with e | e <;> first | exact Or.inl (e) | exact Or.inr (e)) (fun x k hx => by simp only [wJ_mSeals_macText_b75] at hx; rcases hx with e | e | e <;> first | exact Or.inl (e) | exact Or.inr (Or.inl (e)) | exact Or.inr (Or.inr (e)))
  · refine fe_it fe_no ?_
    refine fe_it ?_ fe_no
    refine fe_it fe_no ?_
    refine fe_it ?_ fe_no
    refine fe_I Fe.rf (Or.inl (rfl)) (fun h7 F1 => ?_)
    exact fe_j F1 (hk42 _ _ _) (fun x k hx => by simp only [wI_mSeals_macText_b42, F1.r] at hx; rcases hx with e | e <;> first | exact Or.inl (e) | exact Or.inr (e)) (fun x k hx => by simp only [wJ_mSeals_macText_b42, F1.r] at hx; rcases hx with e | e | e <;> first | exact Or.inl (e) | exact Or.inr (Or.inl (e)) | exact Or.inr (Or.inr (e)))
theorem fe_mSeals_macText_b42_lp (n : Nat) : ∀ (v0 : Nat) (v4 : Int) (h : Hp), Feo (wI_mSeals_macText_b42 v0 v4 h) (wJ_mSeals_macText_b42 v0 v4 h) h id (f_mSeals_macText_b42_lp n v0 v4 h) := by
  induction n with
  | zero => intro v0 v4 h; exact fe_no
  | succ n ih => intro v0 v4 h; exact fe_mSeals_macText_b42 ih v0 v4 h
theorem fe_mSeals_macText_b3 {k3 : Nat → Nat → Int → Int → Int → Hp → Option (Hp)} (hk3 : ∀ (v0 : Nat) (v1 : Nat) (v2 : Int) (v3 : Int) (v4 : Int) (h : Hp), Feo (wI_mSeals_macText_b3 v0 v1 v2 v3 v4 h) (wJ_mSeals_macText_b3 v0 v1 v2 v3 v4 h) h id (k3 v0 v1 v2 v3 v4 h)) (v0 : Nat) (v1 : Nat) (v2 : Int) (v3 : Int) (v4 : Int) (h : Hp) : Feo (wI_mSeals_macText_b3 v0 v1 v2 v3 v4 h) (wJ_mSeals_macText_b3 v0 v1 v2 v3 v4 h) h id (f_mSeals_macText_b3 k3 v0 v1 v2 v3 v4 h) := by
  unfold f_mSeals_macText_b3
  refine fe_it ?_ ?_
  · exact fe_j Fe.rf (fe_mSeals_macText_b42_lp FU _ _ _) (fun x k hx => by simp only [wI_mSeals_macText_b42] at hx; rcases hx with e | e <;> first | exact Or.inr (Or.inl (e)) | exact Or.inr (Or.inr (e))) (fun x k hx => by simp only [wJ_mSeals_macText_b42] at hx; rcases hx with e | e | e <;> first | exact Or.inl (e) | exact Or.inr (Or.inl (e)) | exact Or.inr (Or.inr (e)))
  · refine fe_it ?_ ?_
    · exact fe_j Fe.rf (fe_mSeals_macText_b32 hk3 _ _ _ _ _ _ _ _ _) (fun x k hx => by simp only [wI_mSeals_macText_b32] at hx; rcases hx with e | e | e | e <;> first | exact Or.inl (e) | exact Or.inr (Or.inl (e)) | exact Or.inr (Or.inr (e))) (fun x k hx => by simp only [wJ_mSeals_macText_b32] at hx; rcases hx with e | e | e <;> first | exact Or.inl (e) | exact Or.inr (Or.inl (e)) | exact Or.inr (Or.inr (e)))
    · refine fe_it fe_no ?_
      refine fe_it ?_ fe_no
      exact fe_j Fe.rf (fe_mSeals_macText_b32 hk3 _ _ _ _ _ _ _ _ _) (fun x k hx => by simp only [wI_mSeals_macText_b32] at hx; rcases hx with e | e | e | e <;> first | exact Or.inl (e) | exact Or.inr (Or.inl (e)) | exact Or.inr (Or.inr (e))) (fun x k hx => by simp only [wJ_mSeals_macText_b32] at hx; rcases hx with e | e | e <;> first | exact Or.inl (e) | exact Or.inr (Or.inl (e)) | exact Or.inr (Or.inr (e)))
theorem fe_mSeals_macText_b3_lp (n : Nat) : ∀ (v0 : Nat) (v1 : Nat) (v2 : Int) (v3 : Int) (v4 : Int) (h : Hp), Feo (wI_mSeals_macText_b3 v0 v1 v2 v3 v4 h) (wJ_mSeals_macText_b3 v0 v1 v2 v3 v4 h) h id (f_mSeals_macText_b3_lp n v0 v1 v2 v3 v4 h) := by
  induction n with
  | zero => intro v0 v1 v2 v3 v4 h; exact fe_no
  | succ n ih => intro v0 v1 v2 v3 v4 h; exact fe_mSeals_macText_b3 ih v0 v1 v2 v3 v4 h
theorem fe_mSeals_macText (v0 : Nat) (v1 : Nat) (v2 : Int) (v3 : Int) (h : Hp) : Feo (wI_mSeals_macText v0 v1 v2 v3 h) (wJ_mSeals_macText v0 v1 v2 v3 h) h id (f_mSeals_macText v0 v1 v2 v3 h) := by
  unfold f_mSeals_macText
  exact fe_j Fe.rf (fe_mSeals_macText_b3_lp FU _ _ _ _ _ _) (fun x k hx => by simp only [wI_mSeals_macText_b3] at hx; rcases hx with e | e | e <;> first | exact Or.inl (e) | exact Or.inr (Or.inl (e)) | exact Or.inr (Or.inr (e))) (fun x k hx => by simp only [wJ_mSeals_macText_b3] at hx; rcases hx with e | e | e <;> first | exact Or.inl (e) | exact Or.inr (Or.inl (e)) | exact Or.inr (Or.inr (e)))
def wI_mSeals_mac_b47 (v0 : Nat) (v7 : Nat) (v8 : Int) (h : Hp) (x k : Nat) : Prop := x = v7
def wJ_mSeals_mac_b47 (v0 : Nat) (v7 : Nat) (v8 : Int) (h : Hp) (x k : Nat) : Prop := False
def wI_mSeals_mac_b3 (v0 : Nat) (v1 : Nat) (v2 : Int) (v3 : Int) (v4 : Nat) (v5 : Int) (v6 : Int) (v7 : Nat) (v8 : Int) (h : Hp) (x k : Nat) : Prop := x = (hR h v0 9) ∨ x = hR h v0 10 ∨ x = hR h v0 4 ∨ x = hR h v0 8 ∨ (x = v0 ∧ k = 11) ∨ x = v7
def wJ_mSeals_mac_b3 (v0 : Nat) (v1 : Nat) (v2 : Int) (v3 : Int) (v4 : Nat) (v5 : Int) (v6 : Int) (v7 : Nat) (v8 : Int) (h : Hp) (x k : Nat) : Prop := x = hR h v0 5 ∨ x = hR h v0 6 ∨ x = hR h v0 7
def wI_mSeals_mac (v0 : Nat) (v1 : Nat) (v2 : Int) (v3 : Int) (v4 : Nat) (v5 : Int) (v6 : Int) (v7 : Nat) (h : Hp) (x k : Nat) : Prop := x = (hR h v0 9) ∨ x = hR h v0 10 ∨ x = hR h v0 4 ∨ x = hR h v0 8 ∨ (x = v0 ∧ k = 11) ∨ x = v7
def wJ_mSeals_mac (v0 : Nat) (v1 : Nat) (v2 : Int) (v3 : Int) (v4 : Nat) (v5 : Int) (v6 : Int) (v7 : Nat) (h : Hp) (x k : Nat) : Prop := x = hR h v0 5 ∨ x = hR h v0 6 ∨ x = hR h v0 7
theorem fe_mSeals_mac_b47 {k47 : Nat → Nat → Int → Hp → Option (Hp)} (hk47 : ∀ (v0 : Nat) (v7 : Nat) (v8 : Int) (h : Hp), Feo (wI_mSeals_mac_b47 v0 v7 v8 h) (wJ_mSeals_mac_b47 v0 v7 v8 h) h id (k47 v0 v7 v8 h)) (v0 : Nat) (v7 : Nat) (v8 : Int) (h : Hp) : Feo (wI_mSeals_mac_b47 v0 v7 v8 h) (wJ_mSeals_mac_b47 v0 v7 v8 h) h id (f_mSeals_mac_b47 k47 v0 v7 v8 h) := by
  unfold f_mSeals_mac_b47
  refine fe_it ?_ ?_
  · exact fe_so Fe.rf
  · refine fe_it fe_no ?_
    refine fe_it ?_ fe_no
    refine fe_it fe_no ?_
    refine fe_it ?_ fe_no
    refine fe_I Fe.rf (rfl) (fun h13 F1 => ?_)
    exact fe_j F1 (hk47 _ _ _ _) (fun x k hx => by simp only [wI_mSeals_mac_b47, F1.r] at hx; have e := hx; exact e) (fun x k hx => False.elim hx)
theorem fe_mSeals_mac_b47_lp (n : Nat) : ∀ (v0 : Nat) (v7 : Nat) (v8 : Int) (h : Hp), Feo (wI_mSeals_mac_b47 v0 v7 v8 h) (wJ_mSeals_mac_b47 v0 v7 v8 h) h id (f_mSeals_mac_b47_lp n v0 v7 v8 h) := by
  induction n with
  | zero => intro v0 v7 v8 h; exact fe_no
  | succ n ih => intro v0 v7 v8 h; exact fe_mSeals_mac_b47 ih v0 v7 v8 h
theorem fe_mSeals_mac_b3 {k3 : Nat → Nat → Int → Int → Nat → Int → Int → Nat → Int → Hp → Option (Hp)} (hk3 : ∀ (v0 : Nat) (v1 : Nat) (v2 : Int) (v3 : Int) (v4 : Nat) (v5 : Int) (v6 : Int) (v7 : Nat) (v8 : Int) (h : Hp), Feo (wI_mSeals_mac_b3 v0 v1 v2 v3 v4 v5 v6 v7 v8 h) (wJ_mSeals_mac_b3 v0 v1 v2 v3 v4 v5 v6 v7 v8 h) h id (k3 v0 v1 v2 v3 v4 v5 v6 v7 v8 h)) (v0 : Nat) (v1 : Nat) (v2 : Int) (v3 : Int) (v4 : Nat) (v5 : Int) (v6 : Int) (v7 : Nat) (v8 : Int) (h : Hp) : Feo (wI_mSeals_mac_b3 v0 v1 v2 v3 v4 v5 v6 v7 v8 h) (wJ_mSeals_mac_b3 v0 v1 v2 v3 v4 v5 v6 v7 v8 h) h id (f_mSeals_mac_b3 k3 v0 v1 v2 v3 v4 v5 v6 v7 v8 h) := by
  unfold f_mSeals_mac_b3
  refine fe_it ?_ ?_
  · refine fe_I Fe.rf (Or.inr (Or.inr (Or.inr (Or.inr (Or.inl (⟨rfl, rfl⟩)))))) (fun h1 F1 => ?_)
    refine fe_b1 F1 (fe_mSeals_macText _ _ _ _ _) (fun x k hx => by simp only [wI_mSeals_macText, F1.r] at hx; rcases hx with e | e | e <;> first | exact Or.inl (e) | exact Or.inr (Or.inr (Or.inl (e))) | exact Or.inr (Or.inr (Or.inr (Or.inl (e))))) (fun x k hx => by simp only [wJ_mSeals_macText, F1.r] at hx; rcases hx with e | e | e <;> first | exact Or.inl (e) | exact Or.inr (Or.inl (e)) | exact Or.inr (Or.inr (e))) (fun h2 F2 => ?_)
    exact fe_j F2 (fe_mSeals_mac_b47_lp FU _ _ _ _) (fun x k hx => by simp only [wI_mSeals_mac_b47, F1.r, F2.r] at hx; have e := hx; exact Or.inr (Or.inr (Or.inr (Or.inr (Or.inr (e)))))) (fun x k hx => False.elim hx)
  · refine fe_it fe_no ?_
    refine fe_it ?_ fe_no
    refine fe_it fe_no ?_
    refine fe_it ?_ fe_no
    refine fe_I Fe.rf (Or.inr (Or.inl (rfl))) (fun h8 F3 => ?_)
    exact fe_j F3 (hk3 _ _ _ _ _ _ _ _ _ _) (fun x k hx => by simp only [wI_mSeals_mac_b3, F3.r] at hx; rcases hx with e | e | e | e | e | e <;> first | exact Or.inl (e) | exact Or.inr (Or.inl (e)) | exact Or.inr (Or.inr (Or.inl (e))) | exact Or.inr (Or.inr (Or.inr (Or.inl (e)))) | exact Or.inr (Or.inr (Or.inr (Or.inr (Or.inl (e))))) | exact Or.inr (Or.inr (Or.inr (Or.inr (Or.inr (e)))))) (fun x k hx => by simp only [wJ_mSeals_mac_b3, F3.r] at hx; rcases hx with e | e | e <;> first | exact Or.inl (e) | exact Or.inr (Or.inl (e)) | exact Or.inr (Or.inr (e)))
theorem fe_mSeals_mac_b3_lp (n : Nat) : ∀ (v0 : Nat) (v1 : Nat) (v2 : Int) (v3 : Int) (v4 : Nat) (v5 : Int) (v6 : Int) (v7 : Nat) (v8 : Int) (h : Hp), Feo (wI_mSeals_mac_b3 v0 v1 v2 v3 v4 v5 v6 v7 v8 h) (wJ_mSeals_mac_b3 v0 v1 v2 v3 v4 v5 v6 v7 v8 h) h id (f_mSeals_mac_b3_lp n v0 v1 v2 v3 v4 v5 v6 v7 v8 h) := by
  induction n with
  | zero => intro v0 v1 v2 v3 v4 v5 v6 v7 v8 h; exact fe_no
  | succ n ih => intro v0 v1 v2 v3 v4 v5 v6 v7 v8 h; exact fe_mSeals_mac_b3 ih v0 v1 v2 v3 v4 v5 v6 v7 v8 h
theorem fe_mSeals_mac (v0 : Nat) (v1 : Nat) (v2 : Int) (v3 : Int) (v4 : Nat) (v5 : Int) (v6 : Int) (v7 : Nat) (h : Hp) : Feo (wI_mSeals_mac v0 v1 v2 v3 v4 v5 v6 v7 h) (wJ_mSeals_mac v0 v1 v2 v3 v4 v5 v6 v7 h) h id (f_mSeals_mac v0 v1 v2 v3 v4 v5 v6 v7 h) := by
  unfold f_mSeals_mac
  exact fe_j Fe.rf (fe_mSeals_mac_b3_lp FU _ _ _ _ _ _ _ _ _ _) (fun x k hx => by simp only [wI_mSeals_mac_b3] at hx; rcases hx with e | e | e | e | e | e <;> first | exact Or.inl (e) | exact Or.inr (Or.inl (e)) | exact Or.inr (Or.inr (Or.inl (e))) | exact Or.inr (Or.inr (Or.inr (Or.inl (e)))) | exact Or.inr (Or.inr (Or.inr (Or.inr (Or.inl (e))))) | exact Or.inr (Or.inr (Or.inr (Or.inr (Or.inr (e)))))) (fun x k hx => by simp only [wJ_mSeals_mac_b3] at hx; rcases hx with e | e | e <;> first | exact Or.inl (e) | exact Or.inr (Or.inl (e)) | exact Or.inr (Or.inr (e)))
def wI_mSeals_words (v0 : Int) (h : Hp) (x k : Nat) : Prop := False
def wJ_mSeals_words (v0 : Int) (h : Hp) (x k : Nat) : Prop := False
theorem fe_mSeals_words (v0 : Int) (h : Hp) : Feo (wI_mSeals_words v0 h) (wJ_mSeals_words v0 h) h Prod.snd (f_mSeals_words v0 h) := by
  unfold f_mSeals_words
  refine fe_it ?_ ?_
  · exact fe_so Fe.rf
  · refine fe_it ?_ ?_
    · exact fe_so Fe.rf
    · refine fe_it ?_ ?_
      · exact fe_so Fe.rf
      · refine fe_it ?_ ?_
        · exact fe_so Fe.rf
        · refine fe_it ?_ ?_
          · exact fe_so Fe.rf
          · refine fe_it ?_ ?_
            · exact fe_so Fe.rf
            · refine fe_it ?_ ?_
              · exact fe_so Fe.rf
              · refine fe_it ?_ ?_
                · exact fe_so Fe.rf
                · refine fe_it ?_ ?_
                  · exact fe_so Fe.rf
                  · refine fe_it ?_ ?_
                    · exact fe_so Fe.rf
                    · exact fe_so Fe.rf
def wI_mSeals_tell (v0 : Nat) (v1 : Int) (h : Hp) (x k : Nat) : Prop := x = hR h v0 12 ∨ (x = v0 ∧ k = 13)
def wJ_mSeals_tell (v0 : Nat) (v1 : Int) (h : Hp) (x k : Nat) : Prop := False
theorem fe_mSeals_tell (v0 : Nat) (v1 : Int) (h : Hp) : Feo (wI_mSeals_tell v0 v1 h) (wJ_mSeals_tell v0 v1 h) h id (f_mSeals_tell v0 v1 h) := by
  unfold f_mSeals_tell
  refine fe_it fe_no ?_
  refine fe_it ?_ fe_no
  refine fe_I Fe.rf (Or.inl (rfl)) (fun h3 F1 => ?_)
  refine fe_I F1 (Or.inr (⟨rfl, rfl⟩)) (fun h4 F2 => ?_)
  exact fe_so F2
def wI_mSeals_label_b228 (v0 : Nat) (v6 : Int) (v7 : Nat) (v8 : Int) (v12 : Int) (h : Hp) (x k : Nat) : Prop := x = v7
def wJ_mSeals_label_b228 (v0 : Nat) (v6 : Int) (v7 : Nat) (v8 : Int) (v12 : Int) (h : Hp) (x k : Nat) : Prop := False
def wI_mSeals_label_b198 (v0 : Nat) (v6 : Int) (v7 : Nat) (v8 : Int) (v12 : Int) (h : Hp) (x k : Nat) : Prop := x = hR h v0 14 ∨ x = v7
def wJ_mSeals_label_b198 (v0 : Nat) (v6 : Int) (v7 : Nat) (v8 : Int) (v12 : Int) (h : Hp) (x k : Nat) : Prop := False
def wI_mSeals_label_b150 (v0 : Nat) (v1 : Nat) (v2 : Int) (v6 : Int) (v7 : Nat) (v8 : Int) (v12 : Int) (h : Hp) (x k : Nat) : Prop := x = (hR h v0 9) ∨ x = hR h v0 10 ∨ x = hR h v0 14 ∨ x = hR h v0 4 ∨ x = hR h v0 8 ∨ (x = v0 ∧ k = 11) ∨ x = v7
def wJ_mSeals_label_b150 (v0 : Nat) (v1 : Nat) (v2 : Int) (v6 : Int) (v7 : Nat) (v8 : Int) (v12 : Int) (h : Hp) (x k : Nat) : Prop := x = hR h v0 5 ∨ x = hR h v0 6 ∨ x = hR h v0 7
def wI_mSeals_label_b120 (v0 : Nat) (v1 : Nat) (v2 : Int) (v4 : Nat) (v5 : Int) (v6 : Int) (v7 : Nat) (v8 : Int) (v12 : Int) (h : Hp) (x k : Nat) : Prop := x = (hR h v0 9) ∨ x = hR h v0 10 ∨ x = hR h v0 12 ∨ x = hR h v0 14 ∨ x = hR h v0 4 ∨ x = hR h v0 8 ∨ (x = v0 ∧ k = 11) ∨ (x = v0 ∧ k = 13) ∨ x = v7
def wJ_mSeals_label_b120 (v0 : Nat) (v1 : Nat) (v2 : Int) (v4 : Nat) (v5 : Int) (v6 : Int) (v7 : Nat) (v8 : Int) (v12 : Int) (h : Hp) (x k : Nat) : Prop := x = hR h v0 5 ∨ x = hR h v0 6 ∨ x = hR h v0 7
def wI_mSeals_label_b83 (v0 : Nat) (v1 : Nat) (v2 : Int) (v4 : Nat) (v5 : Int) (v6 : Int) (v7 : Nat) (v8 : Int) (v9 : Int) (v12 : Int) (h : Hp) (x k : Nat) : Prop := x = (hR h v0 9) ∨ x = hR h v0 10 ∨ x = hR h v0 12 ∨ x = hR h v0 14 ∨ x = hR h v0 4 ∨ x = hR h v0 8 ∨ (x = v0 ∧ k = 11) ∨ (x = v0 ∧ k = 13) ∨ x = v7
def wJ_mSeals_label_b83 (v0 : Nat) (v1 : Nat) (v2 : Int) (v4 : Nat) (v5 : Int) (v6 : Int) (v7 : Nat) (v8 : Int) (v9 : Int) (v12 : Int) (h : Hp) (x k : Nat) : Prop := x = hR h v0 5 ∨ x = hR h v0 6 ∨ x = hR h v0 7
def wI_mSeals_label_b35 (v0 : Nat) (v1 : Nat) (v2 : Int) (v4 : Nat) (v5 : Int) (v6 : Int) (v7 : Nat) (v8 : Int) (v9 : Int) (v11 : Int) (h : Hp) (x k : Nat) : Prop := x = (hR h v0 9) ∨ x = hR h v0 10 ∨ x = hR h v0 12 ∨ x = hR h v0 14 ∨ x = hR h v0 4 ∨ x = hR h v0 8 ∨ (x = v0 ∧ k = 11) ∨ (x = v0 ∧ k = 13) ∨ x = v7
def wJ_mSeals_label_b35 (v0 : Nat) (v1 : Nat) (v2 : Int) (v4 : Nat) (v5 : Int) (v6 : Int) (v7 : Nat) (v8 : Int) (v9 : Int) (v11 : Int) (h : Hp) (x k : Nat) : Prop := x = hR h v0 5 ∨ x = hR h v0 6 ∨ x = hR h v0 7
def wI_mSeals_label_b9 (v0 : Nat) (v1 : Nat) (v2 : Int) (v4 : Nat) (v5 : Int) (v6 : Int) (v7 : Nat) (v8 : Int) (v9 : Int) (v11 : Int) (h : Hp) (x k : Nat) : Prop := x = (hR h v0 9) ∨ x = hR h v0 10 ∨ x = hR h v0 12 ∨ x = hR h v0 14 ∨ x = hR h v0 4 ∨ x = hR h v0 8 ∨ (x = v0 ∧ k = 11) ∨ (x = v0 ∧ k = 13) ∨ x = v7
def wJ_mSeals_label_b9 (v0 : Nat) (v1 : Nat) (v2 : Int) (v4 : Nat) (v5 : Int) (v6 : Int) (v7 : Nat) (v8 : Int) (v9 : Int) (v11 : Int) (h : Hp) (x k : Nat) : Prop := x = hR h v0 5 ∨ x = hR h v0 6 ∨ x = hR h v0 7
def wI_mSeals_label (v0 : Nat) (v1 : Nat) (v2 : Int) (v3 : Int) (v4 : Nat) (v5 : Int) (v6 : Int) (v7 : Nat) (v8 : Int) (h : Hp) (x k : Nat) : Prop := x = (hR h v0 9) ∨ x = hR h v0 10 ∨ x = hR h v0 12 ∨ x = hR h v0 14 ∨ x = hR h v0 4 ∨ x = hR h v0 8 ∨ (x = v0 ∧ k = 11) ∨ (x = v0 ∧ k = 13) ∨ x = v7
def wJ_mSeals_label (v0 : Nat) (v1 : Nat) (v2 : Int) (v3 : Int) (v4 : Nat) (v5 : Int) (v6 : Int) (v7 : Nat) (v8 : Int) (h : Hp) (x k : Nat) : Prop := x = hR h v0 5 ∨ x = hR h v0 6 ∨ x = hR h v0 7
theorem fe_mSeals_label_b228 {k228 : Nat → Int → Nat → Int → Int → Hp → Option (Hp)} (hk228 : ∀ (v0 : Nat) (v6 : Int) (v7 : Nat) (v8 : Int) (v12 : Int) (h : Hp), Feo (wI_mSeals_label_b228 v0 v6 v7 v8 v12 h) (wJ_mSeals_label_b228 v0 v6 v7 v8 v12 h) h id (k228 v0 v6 v7 v8 v12 h)) (v0 : Nat) (v6 : Int) (v7 : Nat) (v8 : Int) (v12 : Int) (h : Hp) : Feo (wI_mSeals_label_b228 v0 v6 v7 v8 v12 h) (wJ_mSeals_label_b228 v0 v6 v7 v8 v12 h) h id (f_mSeals_label_b228 k228 v0 v6 v7 v8 v12 h) := by
  unfold f_mSeals_label_b228
  refine fe_it ?_ ?_
  · exact fe_so Fe.rf
  · refine fe_it fe_no ?_
    refine fe_it ?_ fe_no
    refine fe_it fe_no ?_
    refine fe_it ?_ fe_no
    refine fe_I Fe.rf (rfl) (fun h45 F1 => ?_)
    exact fe_j F1 (hk228 _ _ _ _ _ _) (fun x k hx => by simp only [wI_mSeals_label_b228, F1.r] at hx; have e := hx; exact e) (fun x k hx => False.elim hx)
theorem fe_mSeals_label_b228_lp (n : Nat) : ∀ (v0 : Nat) (v6 : Int) (v7 : Nat) (v8 : Int) (v12 : Int) (h : Hp), Feo (wI_mSeals_label_b228 v0 v6 v7 v8 v12 h) (wJ_mSeals_label_b228 v0 v6 v7 v8 v12 h) h id (f_mSeals_label_b228_lp n v0 v6 v7 v8 v12 h) := by
  induction n with
  | zero => intro v0 v6 v7 v8 v12 h; exact fe_no
  | succ n ih => intro v0 v6 v7 v8 v12 h; exact fe_mSeals_label_b228 ih v0 v6 v7 v8 v12 h
theorem fe_mSeals_label_b198 {k198 : Nat → Int → Nat → Int → Int → Hp → Option (Hp)} (hk198 : ∀ (v0 : Nat) (v6 : Int) (v7 : Nat) (v8 : Int) (v12 : Int) (h : Hp), Feo (wI_mSeals_label_b198 v0 v6 v7 v8 v12 h) (wJ_mSeals_label_b198 v0 v6 v7 v8 v12 h) h id (k198 v0 v6 v7 v8 v12 h)) (v0 : Nat) (v6 : Int) (v7 : Nat) (v8 : Int) (v12 : Int) (h : Hp) : Feo (wI_mSeals_label_b198 v0 v6 v7 v8 v12 h) (wJ_mSeals_label_b198 v0 v6 v7 v8 v12 h) h id (f_mSeals_label_b198 k198 v0 v6 v7 v8 v12 h) := by
  unfold f_mSeals_label_b198
  refine fe_it ?_ ?_
  · exact fe_j Fe.rf (fe_mSeals_label_b228_lp FU _ _ _ _ _ _) (fun x k hx => by simp only [wI_mSeals_label_b228] at hx; have e := hx; exact Or.inr (e)) (fun x k hx => False.elim hx)
  · refine fe_it fe_no ?_
    refine fe_it ?_ fe_no
    refine fe_it fe_no ?_
    refine fe_it ?_ fe_no
    refine fe_I Fe.rf (Or.inl (rfl)) (fun h40 F1 => ?_)
    exact fe_j F1 (hk198 _ _ _ _ _ _) (fun x k hx => by simp only [wI_mSeals_label_b198, F1.r] at hx; rcases hx with e | e <;> first | exact Or.inl (e) | exact Or.inr (e)) (fun x k hx => False.elim hx)
theorem fe_mSeals_label_b198_lp (n : Nat) : ∀ (v0 : Nat) (v6 : Int) (v7 : Nat) (v8 : Int) (v12 : Int) (h : Hp), Feo (wI_mSeals_label_b198 v0 v6 v7 v8 v12 h) (wJ_mSeals_label_b198 v0 v6 v7 v8 v12 h) h id (f_mSeals_label_b198_lp n v0 v6 v7 v8 v12 h) := by
  induction n with
  | zero => intro v0 v6 v7 v8 v12 h; exact fe_no
  | succ n ih => intro v0 v6 v7 v8 v12 h; exact fe_mSeals_label_b198 ih v0 v6 v7 v8 v12 h
theorem fe_mSeals_label_b150 {k150 : Nat → Nat → Int → Int → Nat → Int → Int → Hp → Option (Hp)} (hk150 : ∀ (v0 : Nat) (v1 : Nat) (v2 : Int) (v6 : Int) (v7 : Nat) (v8 : Int) (v12 : Int) (h : Hp), Feo (wI_mSeals_label_b150 v0 v1 v2 v6 v7 v8 v12 h) (wJ_mSeals_label_b150 v0 v1 v2 v6 v7 v8 v12 h) h id (k150 v0 v1 v2 v6 v7 v8 v12 h)) (v0 : Nat) (v1 : Nat) (v2 : Int) (v6 : Int) (v7 : Nat) (v8 : Int) (v12 : Int) (h : Hp) : Feo (wI_mSeals_label_b150 v0 v1 v2 v6 v7 v8 v12 h) (wJ_mSeals_label_b150 v0 v1 v2 v6 v7 v8 v12 h) h id (f_mSeals_label_b150 k150 v0 v1 v2 v6 v7 v8 v12 h) := by
  unfold f_mSeals_label_b150
  refine fe_it ?_ ?_
  · refine fe_I Fe.rf (Or.inr (Or.inr (Or.inr (Or.inr (Or.inr (Or.inl (⟨rfl, rfl⟩))))))) (fun h28 F1 => ?_)
    refine fe_b1 F1 (fe_mSeals_macText _ _ _ _ _) (fun x k hx => by simp only [wI_mSeals_macText, F1.r] at hx; rcases hx with e | e | e <;> first | exact Or.inl (e) | exact Or.inr (Or.inr (Or.inr (Or.inl (e)))) | exact Or.inr (Or.inr (Or.inr (Or.inr (Or.inl (e)))))) (fun x k hx => by simp only [wJ_mSeals_macText, F1.r] at hx; rcases hx with e | e | e <;> first | exact Or.inl (e) | exact Or.inr (Or.inl (e)) | exact Or.inr (Or.inr (e))) (fun h29 F2 => ?_)
    exact fe_j F2 (fe_mSeals_label_b198_lp FU _ _ _ _ _ _) (fun x k hx => by simp only [wI_mSeals_label_b198, F1.r, F2.r] at hx; rcases hx with e | e <;> first | exact Or.inr (Or.inr (Or.inl (e))) | exact Or.inr (Or.inr (Or.inr (Or.inr (Or.inr (Or.inr (e))))))) (fun x k hx => False.elim hx)
  · refine fe_it fe_no ?_
    refine fe_it ?_ fe_no
    refine fe_it fe_no ?_
    refine fe_it ?_ fe_no
    refine fe_I Fe.rf (Or.inr (Or.inl (rfl))) (fun h35 F3 => ?_)
    exact fe_j F3 (hk150 _ _ _ _ _ _ _ _) (fun x k hx => by simp only [wI_mSeals_label_b150, F3.r] at hx; rcases hx with e | e | e | e | e | e | e <;> first | exact Or.inl (e) | exact Or.inr (Or.inl (e)) | exact Or.inr (Or.inr (Or.inl (e))) | exact Or.inr (Or.inr (Or.inr (Or.inl (e)))) | exact Or.inr (Or.inr (Or.inr (Or.inr (Or.inl (e))))) | exact Or.inr (Or.inr (Or.inr (Or.inr (Or.inr (Or.inl (e)))))) | exact Or.inr (Or.inr (Or.inr (Or.inr (Or.inr (Or.inr (e))))))) (fun x k hx => by simp only [wJ_mSeals_label_b150, F3.r] at hx; rcases hx with e | e | e <;> first | exact Or.inl (e) | exact Or.inr (Or.inl (e)) | exact Or.inr (Or.inr (e)))
theorem fe_mSeals_label_b150_lp (n : Nat) : ∀ (v0 : Nat) (v1 : Nat) (v2 : Int) (v6 : Int) (v7 : Nat) (v8 : Int) (v12 : Int) (h : Hp), Feo (wI_mSeals_label_b150 v0 v1 v2 v6 v7 v8 v12 h) (wJ_mSeals_label_b150 v0 v1 v2 v6 v7 v8 v12 h) h id (f_mSeals_label_b150_lp n v0 v1 v2 v6 v7 v8 v12 h) := by
  induction n with
  | zero => intro v0 v1 v2 v6 v7 v8 v12 h; exact fe_no
  | succ n ih => intro v0 v1 v2 v6 v7 v8 v12 h; exact fe_mSeals_label_b150 ih v0 v1 v2 v6 v7 v8 v12 h
theorem fe_mSeals_label_b120 {k120 : Nat → Nat → Int → Nat → Int → Int → Nat → Int → Int → Hp → Option (Hp)} (hk120 : ∀ (v0 : Nat) (v1 : Nat) (v2 : Int) (v4 : Nat) (v5 : Int) (v6 : Int) (v7 : Nat) (v8 : Int) (v12 : Int) (h : Hp), Feo (wI_mSeals_label_b120 v0 v1 v2 v4 v5 v6 v7 v8 v12 h) (wJ_mSeals_label_b120 v0 v1 v2 v4 v5 v6 v7 v8 v12 h) h id (k120 v0 v1 v2 v4 v5 v6 v7 v8 v12 h)) (v0 : Nat) (v1 : Nat) (v2 : Int) (v4 : Nat) (v5 : Int) (v6 : Int) (v7 : Nat) (v8 : Int) (v12 : Int) (h : Hp) : Feo (wI_mSeals_label_b120 v0 v1 v2 v4 v5 v6 v7 v8 v12 h) (wJ_mSeals_label_b120 v0 v1 v2 v4 v5 v6 v7 v8 v12 h) h id (f_mSeals_label_b120 k120 v0 v1 v2 v4 v5 v6 v7 v8 v12 h) := by
  unfold f_mSeals_label_b120
  refine fe_it ?_ ?_
  · refine fe_b1 Fe.rf (fe_mSeals_tell _ _ _) (fun x k hx => by simp only [wI_mSeals_tell] at hx; rcases hx with e | e <;> first | exact Or.inr (Or.inr (Or.inl (e))) | exact Or.inr (Or.inr (Or.inr (Or.inr (Or.inr (Or.inr (Or.inr (Or.inl (e))))))))) (fun x k hx => False.elim hx) (fun h22 F1 => ?_)
    exact fe_j F1 (fe_mSeals_label_b150_lp FU _ _ _ _ _ _ _ _) (fun x k hx => by simp only [wI_mSeals_label_b150, F1.r] at hx; rcases hx with e | e | e | e | e | e | e <;> first | exact Or.inl (e) | exact Or.inr (Or.inl (e)) | exact Or.inr (Or.inr (Or.inr (Or.inl (e)))) | exact Or.inr (Or.inr (Or.inr (Or.inr (Or.inl (e))))) | exact Or.inr (Or.inr (Or.inr (Or.inr (Or.inr (Or.inl (e)))))) | exact Or.inr (Or.inr (Or.inr (Or.inr (Or.inr (Or.inr (Or.inl (e))))))) | exact Or.inr (Or.inr (Or.inr (Or.inr (Or.inr (Or.inr (Or.inr (Or.inr (e))))))))) (fun x k hx => by simp only [wJ_mSeals_label_b150, F1.r] at hx; rcases hx with e | e | e <;> first | exact Or.inl (e) | exact Or.inr (Or.inl (e)) | exact Or.inr (Or.inr (e)))
  · refine fe_it fe_no ?_
    refine fe_it ?_ fe_no
    refine fe_b1 Fe.rf (fe_mSeals_tell _ _ _) (fun x k hx => by simp only [wI_mSeals_tell] at hx; rcases hx with e | e <;> first | exact Or.inr (Or.inr (Or.inl (e))) | exact Or.inr (Or.inr (Or.inr (Or.inr (Or.inr (Or.inr (Or.inr (Or.inl (e))))))))) (fun x k hx => False.elim hx) (fun h26 F2 => ?_)
    exact fe_j F2 (hk120 _ _ _ _ _ _ _ _ _ _) (fun x k hx => by simp only [wI_mSeals_label_b120, F2.r] at hx; rcases hx with e | e | e | e | e | e | e | e | e <;> first | exact Or.inl (e) | exact Or.inr (Or.inl (e)) | exact Or.inr (Or.inr (Or.inl (e))) | exact Or.inr (Or.inr (Or.inr (Or.inl (e)))) | exact Or.inr (Or.inr (Or.inr (Or.inr (Or.inl (e))))) | exact Or.inr (Or.inr (Or.inr (Or.inr (Or.inr (Or.inl (e)))))) | exact Or.inr (Or.inr (Or.inr (Or.inr (Or.inr (Or.inr (Or.inl (e))))))) | exact Or.inr (Or.inr (Or.inr (Or.inr (Or.inr (Or.inr (Or.inr (Or.inl (e)))))))) | exact Or.inr (Or.inr (Or.inr (Or.inr (Or.inr (Or.inr (Or.inr (Or.inr (e))))))))) (fun x k hx => by simp only [wJ_mSeals_label_b120, F2.r] at hx; rcases hx with e | e | e <;> first | exact Or.inl (e) | exact Or.inr (Or.inl (e)) | exact Or.inr (Or.inr (e)))
theorem fe_mSeals_label_b120_lp (n : Nat) : ∀ (v0 : Nat) (v1 : Nat) (v2 : Int) (v4 : Nat) (v5 : Int) (v6 : Int) (v7 : Nat) (v8 : Int) (v12 : Int) (h : Hp), Feo (wI_mSeals_label_b120 v0 v1 v2 v4 v5 v6 v7 v8 v12 h) (wJ_mSeals_label_b120 v0 v1 v2 v4 v5 v6 v7 v8 v12 h) h id (f_mSeals_label_b120_lp n v0 v1 v2 v4 v5 v6 v7 v8 v12 h) := by
  induction n with
  | zero => intro v0 v1 v2 v4 v5 v6 v7 v8 v12 h; exact fe_no
  | succ n ih => intro v0 v1 v2 v4 v5 v6 v7 v8 v12 h; exact fe_mSeals_label_b120 ih v0 v1 v2 v4 v5 v6 v7 v8 v12 h
theorem fe_mSeals_label_b83 {k83 : Nat → Nat → Int → Nat → Int → Int → Nat → Int → Int → Int → Hp → Option (Hp)} (hk83 : ∀ (v0 : Nat) (v1 : Nat) (v2 : Int) (v4 : Nat) (v5 : Int) (v6 : Int) (v7 : Nat) (v8 : Int) (v9 : Int) (v12 : Int) (h : Hp), Feo (wI_mSeals_label_b83 v0 v1 v2 v4 v5 v6 v7 v8 v9 v12 h) (wJ_mSeals_label_b83 v0 v1 v2 v4 v5 v6 v7 v8 v9 v12 h) h id (k83 v0 v1 v2 v4 v5 v6 v7 v8 v9 v12 h)) (v0 : Nat) (v1 : Nat) (v2 : Int) (v4 : Nat) (v5 : Int) (v6 : Int) (v7 : Nat) (v8 : Int) (v9 : Int) (v12 : Int) (h : Hp) : Feo (wI_mSeals_label_b83 v0 v1 v2 v4 v5 v6 v7 v8 v9 v12 h) (wJ_mSeals_label_b83 v0 v1 v2 v4 v5 v6 v7 v8 v9 v12 h) h id (f_mSeals_label_b83 k83 v0 v1 v2 v4 v5 v6 v7 v8 v9 v12 h) := by
  unfold f_mSeals_label_b83
  refine fe_it ?_ ?_
  · refine fe_b1 Fe.rf (fe_mSeals_tell _ _ _) (fun x k hx => by simp only [wI_mSeals_tell] at hx; rcases hx with e | e <;> first | exact Or.inr (Or.inr (Or.inl (e))) | exact Or.inr (Or.inr (Or.inr (Or.inr (Or.inr (Or.inr (Or.inr (Or.inl (e))))))))) (fun x k hx => False.elim hx) (fun h18 F1 => ?_)
    exact fe_j F1 (fe_mSeals_label_b120_lp FU _ _ _ _ _ _ _ _ _ _) (fun x k hx => by simp only [wI_mSeals_label_b120, F1.r] at hx; rcases hx with e | e | e | e | e | e | e | e | e <;> first | exact Or.inl (e) | exact Or.inr (Or.inl (e)) | exact Or.inr (Or.inr (Or.inl (e))) | exact Or.inr (Or.inr (Or.inr (Or.inl (e)))) | exact Or.inr (Or.inr (Or.inr (Or.inr (Or.inl (e))))) | exact Or.inr (Or.inr (Or.inr (Or.inr (Or.inr (Or.inl (e)))))) | exact Or.inr (Or.inr (Or.inr (Or.inr (Or.inr (Or.inr (Or.inl (e))))))) | exact Or.inr (Or.inr (Or.inr (Or.inr (Or.inr (Or.inr (Or.inr (Or.inl (e)))))))) | exact Or.inr (Or.inr (Or.inr (Or.inr (Or.inr (Or.inr (Or.inr (Or.inr (e))))))))) (fun x k hx => by simp only [wJ_mSeals_label_b120, F1.r] at hx; rcases hx with e | e | e <;> first | exact Or.inl (e) | exact Or.inr (Or.inl (e)) | exact Or.inr (Or.inr (e)))
  · refine fe_b1 Fe.rf (fe_mSeals_tell _ _ _) (fun x k hx => by simp only [wI_mSeals_tell] at hx; rcases hx with e | e <;> first | exact Or.inr (Or.inr (Or.inl (e))) | exact Or.inr (Or.inr (Or.inr (Or.inr (Or.inr (Or.inr (Or.inr (Or.inl (e))))))))) (fun x k hx => False.elim hx) (fun h20 F2 => ?_)
    exact fe_j F2 (hk83 _ _ _ _ _ _ _ _ _ _ _) (fun x k hx => by simp only [wI_mSeals_label_b83, F2.r] at hx; rcases hx with e | e | e | e | e | e | e | e | e <;> first | exact Or.inl (e) | exact Or.inr (Or.inl (e)) | exact Or.inr (Or.inr (Or.inl (e))) | exact Or.inr (Or.inr (Or.inr (Or.inl (e)))) | exact Or.inr (Or.inr (Or.inr (Or.inr (Or.inl (e))))) | exact Or.inr (Or.inr (Or.inr (Or.inr (Or.inr (Or.inl (e)))))) | exact Or.inr (Or.inr (Or.inr (Or.inr (Or.inr (Or.inr (Or.inl (e))))))) | exact Or.inr (Or.inr (Or.inr (Or.inr (Or.inr (Or.inr (Or.inr (Or.inl (e)))))))) | exact Or.inr (Or.inr (Or.inr (Or.inr (Or.inr (Or.inr (Or.inr (Or.inr (e))))))))) (fun x k hx => by simp only [wJ_mSeals_label_b83, F2.r] at hx; rcases hx with e | e | e <;> first | exact Or.inl (e) | exact Or.inr (Or.inl (e)) | exact Or.inr (Or.inr (e)))
theorem fe_mSeals_label_b83_lp (n : Nat) : ∀ (v0 : Nat) (v1 : Nat) (v2 : Int) (v4 : Nat) (v5 : Int) (v6 : Int) (v7 : Nat) (v8 : Int) (v9 : Int) (v12 : Int) (h : Hp), Feo (wI_mSeals_label_b83 v0 v1 v2 v4 v5 v6 v7 v8 v9 v12 h) (wJ_mSeals_label_b83 v0 v1 v2 v4 v5 v6 v7 v8 v9 v12 h) h id (f_mSeals_label_b83_lp n v0 v1 v2 v4 v5 v6 v7 v8 v9 v12 h) := by
  induction n with
  | zero => intro v0 v1 v2 v4 v5 v6 v7 v8 v9 v12 h; exact fe_no
  | succ n ih => intro v0 v1 v2 v4 v5 v6 v7 v8 v9 v12 h; exact fe_mSeals_label_b83 ih v0 v1 v2 v4 v5 v6 v7 v8 v9 v12 h
theorem fe_mSeals_label_b35 (v0 : Nat) (v1 : Nat) (v2 : Int) (v4 : Nat) (v5 : Int) (v6 : Int) (v7 : Nat) (v8 : Int) (v9 : Int) (v11 : Int) (h : Hp) : Feo (wI_mSeals_label_b35 v0 v1 v2 v4 v5 v6 v7 v8 v9 v11 h) (wJ_mSeals_label_b35 v0 v1 v2 v4 v5 v6 v7 v8 v9 v11 h) h id (f_mSeals_label_b35 v0 v1 v2 v4 v5 v6 v7 v8 v9 v11 h) := by
  unfold f_mSeals_label_b35
  refine fe_I Fe.rf (Or.inr (Or.inr (Or.inr (Or.inr (Or.inr (Or.inr (Or.inr (Or.inl (⟨rfl, rfl⟩))))))))) (fun h4 F1 => ?_)
  refine fe_b1 F1 (fe_mSeals_tell _ _ _) (fun x k hx => by simp only [wI_mSeals_tell, F1.r] at hx; rcases hx with e | e <;> first | exact Or.inr (Or.inr (Or.inl (e))) | exact Or.inr (Or.inr (Or.inr (Or.inr (Or.inr (Or.inr (Or.inr (Or.inl (e))))))))) (fun x k hx => False.elim hx) (fun h5 F2 => ?_)
  refine fe_b1 F2 (fe_mSeals_tell _ _ _) (fun x k hx => by simp only [wI_mSeals_tell, F1.r, F2.r] at hx; rcases hx with e | e <;> first | exact Or.inr (Or.inr (Or.inl (e))) | exact Or.inr (Or.inr (Or.inr (Or.inr (Or.inr (Or.inr (Or.inr (Or.inl (e))))))))) (fun x k hx => False.elim hx) (fun h7 F3 => ?_)
  refine fe_b1 F3 (fe_mSeals_tell _ _ _) (fun x k hx => by simp only [wI_mSeals_tell, F1.r, F2.r, F3.r] at hx; rcases hx with e | e <;> first | exact Or.inr (Or.inr (Or.inl (e))) | exact Or.inr (Or.inr (Or.inr (Or.inr (Or.inr (Or.inr (Or.inr (Or.inl (e))))))))) (fun x k hx => False.elim hx) (fun h9 F4 => ?_)
  refine fe_b1 F4 (fe_mSeals_tell _ _ _) (fun x k hx => by simp only [wI_mSeals_tell, F1.r, F2.r, F3.r, F4.r] at hx; rcases hx with e | e <;> first | exact Or.inr (Or.inr (Or.inl (e))) | exact Or.inr (Or.inr (Or.inr (Or.inr (Or.inr (Or.inr (Or.inr (Or.inl (e))))))))) (fun x k hx => False.elim hx) (fun h11 F5 => ?_)
  refine fe_b1 F5 (fe_mSeals_tell _ _ _) (fun x k hx => by simp only [wI_mSeals_tell, F1.r, F2.r, F3.r, F4.r, F5.r] at hx; rcases hx with e | e <;> first | exact Or.inr (Or.inr (Or.inl (e))) | exact Or.inr (Or.inr (Or.inr (Or.inr (Or.inr (Or.inr (Or.inr (Or.inl (e))))))))) (fun x k hx => False.elim hx) (fun h13 F6 => ?_)
  refine fe_b1 F6 (fe_mSeals_tell _ _ _) (fun x k hx => by simp only [wI_mSeals_tell, F1.r, F2.r, F3.r, F4.r, F5.r, F6.r] at hx; rcases hx with e | e <;> first | exact Or.inr (Or.inr (Or.inl (e))) | exact Or.inr (Or.inr (Or.inr (Or.inr (Or.inr (Or.inr (Or.inr (Or.inl (e))))))))) (fun x k hx => False.elim hx) (fun h15 F7 => ?_)
  refine fe_v (fun y17 => ?_)
  exact fe_j F7 (fe_mSeals_label_b83_lp FU _ _ _ _ _ _ _ _ _ _ _) (fun x k hx => by simp only [wI_mSeals_label_b83, F1.r, F2.r, F3.r, F4.r, F5.r, F6.r, F7.r] at hx; rcases hx with e | e | e | e | e | e | e | e | e <;> first | exact Or.inl (e) | exact Or.inr (Or.inl (e)) | exact Or.inr (Or.inr (Or.inl (e))) | exact Or.inr (Or.inr (Or.inr (Or.inl (e)))) | exact Or.inr (Or.inr (Or.inr (Or.inr (Or.inl (e))))) | exact Or.inr (Or.inr (Or.inr (Or.inr (Or.inr (Or.inl (e)))))) | exact Or.inr (Or.inr (Or.inr (Or.inr (Or.inr (Or.inr (Or.inl (e))))))) | exact Or.inr (Or.inr (Or.inr (Or.inr (Or.inr (Or.inr (Or.inr (Or.inl (e)))))))) | exact Or.inr (Or.inr (Or.inr (Or.inr (Or.inr (Or.inr (Or.inr (Or.inr (e))))))))) (fun x k hx => by simp only [wJ_mSeals_label_b83, F1.r, F2.r, F3.r, F4.r, F5.r, F6.r, F7.r] at hx; rcases hx with e | e | e <;> first | exact Or.inl (e) | exact Or.inr (Or.inl (e)) | exact Or.inr (Or.inr (e)))
theorem fe_mSeals_label_b9 {k9 : Nat → Nat → Int → Nat → Int → Int → Nat → Int → Int → Int → Hp → Option (Hp)} (hk9 : ∀ (v0 : Nat) (v1 : Nat) (v2 : Int) (v4 : Nat) (v5 : Int) (v6 : Int) (v7 : Nat) (v8 : Int) (v9 : Int) (v11 : Int) (h : Hp), Feo (wI_mSeals_label_b9 v0 v1 v2 v4 v5 v6 v7 v8 v9 v11 h) (wJ_mSeals_label_b9 v0 v1 v2 v4 v5 v6 v7 v8 v9 v11 h) h id (k9 v0 v1 v2 v4 v5 v6 v7 v8 v9 v11 h)) (v0 : Nat) (v1 : Nat) (v2 : Int) (v4 : Nat) (v5 : Int) (v6 : Int) (v7 : Nat) (v8 : Int) (v9 : Int) (v11 : Int) (h : Hp) : Feo (wI_mSeals_label_b9 v0 v1 v2 v4 v5 v6 v7 v8 v9 v11 h) (wJ_mSeals_label_b9 v0 v1 v2 v4 v5 v6 v7 v8 v9 v11 h) h id (f_mSeals_label_b9 k9 v0 v1 v2 v4 v5 v6 v7 v8 v9 v11 h) := by
  unfold f_mSeals_label_b9
  refine fe_it ?_ ?_
  · exact fe_j Fe.rf (fe_mSeals_label_b35 _ _ _ _ _ _ _ _ _ _ _) (fun x k hx => by simp only [wI_mSeals_label_b35] at hx; rcases hx with e | e | e | e | e | e | e | e | e <;> first | exact Or.inl (e) | exact Or.inr (Or.inl (e)) | exact Or.inr (Or.inr (Or.inl (e))) | exact Or.inr (Or.inr (Or.inr (Or.inl (e)))) | exact Or.inr (Or.inr (Or.inr (Or.inr (Or.inl (e))))) | exact Or.inr (Or.inr (Or.inr (Or.inr (Or.inr (Or.inl (e)))))) | exact Or.inr (Or.inr (Or.inr (Or.inr (Or.inr (Or.inr (Or.inl (e))))))) | exact Or.inr (Or.inr (Or.inr (Or.inr (Or.inr (Or.inr (Or.inr (Or.inl (e)))))))) | exact Or.inr (Or.inr (Or.inr (Or.inr (Or.inr (Or.inr (Or.inr (Or.inr (e))))))))) (fun x k hx => by simp only [wJ_mSeals_label_b35] at hx; rcases hx with e | e | e <;> first | exact Or.inl (e) | exact Or.inr (Or.inl (e)) | exact Or.inr (Or.inr (e)))
  · refine fe_it ?_ ?_
    · exact fe_j Fe.rf (fe_mSeals_label_b35 _ _ _ _ _ _ _ _ _ _ _) (fun x k hx => by simp only [wI_mSeals_label_b35] at hx; rcases hx with e | e | e | e | e | e | e | e | e <;> first | exact Or.inl (e) | exact Or.inr (Or.inl (e)) | exact Or.inr (Or.inr (Or.inl (e))) | exact Or.inr (Or.inr (Or.inr (Or.inl (e)))) | exact Or.inr (Or.inr (Or.inr (Or.inr (Or.inl (e))))) | exact Or.inr (Or.inr (Or.inr (Or.inr (Or.inr (Or.inl (e)))))) | exact Or.inr (Or.inr (Or.inr (Or.inr (Or.inr (Or.inr (Or.inl (e))))))) | exact Or.inr (Or.inr (Or.inr (Or.inr (Or.inr (Or.inr (Or.inr (Or.inl (e)))))))) | exact Or.inr (Or.inr (Or.inr (Or.inr (Or.inr (Or.inr (Or.inr (Or.inr (e))))))))) (fun x k hx => by simp only [wJ_mSeals_label_b35] at hx; rcases hx with e | e | e <;> first | exact Or.inl (e) | exact Or.inr (Or.inl (e)) | exact Or.inr (Or.inr (e)))
    · exact fe_j Fe.rf (hk9 _ _ _ _ _ _ _ _ _ _ _) (fun x k hx => by simp only [wI_mSeals_label_b9] at hx; rcases hx with e | e | e | e | e | e | e | e | e <;> first | exact Or.inl (e) | exact Or.inr (Or.inl (e)) | exact Or.inr (Or.inr (Or.inl (e))) | exact Or.inr (Or.inr (Or.inr (Or.inl (e)))) | exact Or.inr (Or.inr (Or.inr (Or.inr (Or.inl (e))))) | exact Or.inr (Or.inr (Or.inr (Or.inr (Or.inr (Or.inl (e)))))) | exact Or.inr (Or.inr (Or.inr (Or.inr (Or.inr (Or.inr (Or.inl (e))))))) | exact Or.inr (Or.inr (Or.inr (Or.inr (Or.inr (Or.inr (Or.inr (Or.inl (e)))))))) | exact Or.inr (Or.inr (Or.inr (Or.inr (Or.inr (Or.inr (Or.inr (Or.inr (e))))))))) (fun x k hx => by simp only [wJ_mSeals_label_b9] at hx; rcases hx with e | e | e <;> first | exact Or.inl (e) | exact Or.inr (Or.inl (e)) | exact Or.inr (Or.inr (e)))
theorem fe_mSeals_label_b9_lp (n : Nat) : ∀ (v0 : Nat) (v1 : Nat) (v2 : Int) (v4 : Nat) (v5 : Int) (v6 : Int) (v7 : Nat) (v8 : Int) (v9 : Int) (v11 : Int) (h : Hp), Feo (wI_mSeals_label_b9 v0 v1 v2 v4 v5 v6 v7 v8 v9 v11 h) (wJ_mSeals_label_b9 v0 v1 v2 v4 v5 v6 v7 v8 v9 v11 h) h id (f_mSeals_label_b9_lp n v0 v1 v2 v4 v5 v6 v7 v8 v9 v11 h) := by
  induction n with
  | zero => intro v0 v1 v2 v4 v5 v6 v7 v8 v9 v11 h; exact fe_no
  | succ n ih => intro v0 v1 v2 v4 v5 v6 v7 v8 v9 v11 h; exact fe_mSeals_label_b9 ih v0 v1 v2 v4 v5 v6 v7 v8 v9 v11 h
theorem fe_mSeals_label (v0 : Nat) (v1 : Nat) (v2 : Int) (v3 : Int) (v4 : Nat) (v5 : Int) (v6 : Int) (v7 : Nat) (v8 : Int) (h : Hp) : Feo (wI_mSeals_label v0 v1 v2 v3 v4 v5 v6 v7 v8 h) (wJ_mSeals_label v0 v1 v2 v3 v4 v5 v6 v7 v8 h) h id (f_mSeals_label v0 v1 v2 v3 v4 v5 v6 v7 v8 h) := by
  unfold f_mSeals_label
  refine fe_b2 Fe.rf (fe_mSeals_words _ _) (fun x k hx => False.elim hx) (fun x k hx => False.elim hx) (fun r3 h1 F1 => ?_)
  exact fe_j F1 (fe_mSeals_label_b9_lp FU _ _ _ _ _ _ _ _ _ _ _) (fun x k hx => by simp only [wI_mSeals_label_b9, F1.r] at hx; rcases hx with e | e | e | e | e | e | e | e | e <;> first | exact Or.inl (e) | exact Or.inr (Or.inl (e)) | exact Or.inr (Or.inr (Or.inl (e))) | exact Or.inr (Or.inr (Or.inr (Or.inl (e)))) | exact Or.inr (Or.inr (Or.inr (Or.inr (Or.inl (e))))) | exact Or.inr (Or.inr (Or.inr (Or.inr (Or.inr (Or.inl (e)))))) | exact Or.inr (Or.inr (Or.inr (Or.inr (Or.inr (Or.inr (Or.inl (e))))))) | exact Or.inr (Or.inr (Or.inr (Or.inr (Or.inr (Or.inr (Or.inr (Or.inl (e)))))))) | exact Or.inr (Or.inr (Or.inr (Or.inr (Or.inr (Or.inr (Or.inr (Or.inr (e))))))))) (fun x k hx => by simp only [wJ_mSeals_label_b9, F1.r] at hx; rcases hx with e | e | e <;> first | exact Or.inl (e) | exact Or.inr (Or.inl (e)) | exact Or.inr (Or.inr (e)))
def wI_mGreet_firstSecrets_b51 (v0 : Nat) (v4 : Nat) (v5 : Int) (h : Hp) (x k : Nat) : Prop := x = (hR h (hR h v0 1) 9) ∨ (x = (hR h v0 1) ∧ k = 11) ∨ (x = (hR h v0 1) ∧ k = 13) ∨ x = hR h (hR h v0 1) 10 ∨ x = hR h (hR h v0 1) 12 ∨ x = hR h (hR h v0 1) 14 ∨ x = hR h (hR h v0 1) 4 ∨ x = hR h (hR h v0 1) 8 ∨ x = v4
def wJ_mGreet_firstSecrets_b51 (v0 : Nat) (v4 : Nat) (v5 : Int) (h : Hp) (x k : Nat) : Prop := x = hR h (hR h v0 1) 5 ∨ x = hR h (hR h v0 1) 6 ∨ x = hR h (hR h v0 1) 7
def wI_mGreet_firstSecrets_b3 (v0 : Nat) (v1 : Nat) (v2 : Int) (v3 : Int) (v4 : Nat) (v5 : Int) (h : Hp) (x k : Nat) : Prop := x = (hR h (hR h v0 1) 9) ∨ (x = (hR h v0 1) ∧ k = 11) ∨ (x = (hR h v0 1) ∧ k = 13) ∨ x = (hR h v0 22) ∨ x = hR h (hR h v0 1) 10 ∨ x = hR h (hR h v0 1) 12 ∨ x = hR h (hR h v0 1) 14 ∨ x = hR h (hR h v0 1) 4 ∨ x = hR h (hR h v0 1) 8 ∨ x = hR h v0 21 ∨ x = v4
def wJ_mGreet_firstSecrets_b3 (v0 : Nat) (v1 : Nat) (v2 : Int) (v3 : Int) (v4 : Nat) (v5 : Int) (h : Hp) (x k : Nat) : Prop := x = hR h (hR h v0 1) 5 ∨ x = hR h (hR h v0 1) 6 ∨ x = hR h (hR h v0 1) 7
def wI_mGreet_firstSecrets (v0 : Nat) (v1 : Nat) (v2 : Int) (v3 : Int) (v4 : Nat) (h : Hp) (x k : Nat) : Prop := x = (hR h (hR h v0 1) 9) ∨ (x = (hR h v0 1) ∧ k = 11) ∨ (x = (hR h v0 1) ∧ k = 13) ∨ x = (hR h v0 22) ∨ x = hR h (hR h v0 1) 10 ∨ x = hR h (hR h v0 1) 12 ∨ x = hR h (hR h v0 1) 14 ∨ x = hR h (hR h v0 1) 4 ∨ x = hR h (hR h v0 1) 8 ∨ x = hR h v0 21 ∨ x = v4
def wJ_mGreet_firstSecrets (v0 : Nat) (v1 : Nat) (v2 : Int) (v3 : Int) (v4 : Nat) (h : Hp) (x k : Nat) : Prop := x = hR h (hR h v0 1) 5 ∨ x = hR h (hR h v0 1) 6 ∨ x = hR h (hR h v0 1) 7
theorem fe_mGreet_firstSecrets_b51 {k51 : Nat → Nat → Int → Hp → Option (Hp)} (hk51 : ∀ (v0 : Nat) (v4 : Nat) (v5 : Int) (h : Hp), Feo (wI_mGreet_firstSecrets_b51 v0 v4 v5 h) (wJ_mGreet_firstSecrets_b51 v0 v4 v5 h) h id (k51 v0 v4 v5 h)) (v0 : Nat) (v4 : Nat) (v5 : Int) (h : Hp) : Feo (wI_mGreet_firstSecrets_b51 v0 v4 v5 h) (wJ_mGreet_firstSecrets_b51 v0 v4 v5 h) h id (f_mGreet_firstSecrets_b51 k51 v0 v4 v5 h) := by
  unfold f_mGreet_firstSecrets_b51
  refine fe_it ?_ ?_
  · exact fe_so Fe.rf
  · refine fe_it fe_no ?_
    refine fe_b1 Fe.rf (fe_mSeals_label _ _ _ _ _ _ _ _ _ _) (fun x k hx => by simp only [wI_mSeals_label] at hx; rcases hx with e | e | e | e | e | e | e | e | e <;> first | exact Or.inl (e) | exact Or.inr (Or.inl (e)) | exact Or.inr (Or.inr (Or.inl (e))) | exact Or.inr (Or.inr (Or.inr (Or.inl (e)))) | exact Or.inr (Or.inr (Or.inr (Or.inr (Or.inl (e))))) | exact Or.inr (Or.inr (Or.inr (Or.inr (Or.inr (Or.inl (e)))))) | exact Or.inr (Or.inr (Or.inr (Or.inr (Or.inr (Or.inr (Or.inl (e))))))) | exact Or.inr (Or.inr (Or.inr (Or.inr (Or.inr (Or.inr (Or.inr (Or.inl (e)))))))) | exact Or.inr (Or.inr (Or.inr (Or.inr (Or.inr (Or.inr (Or.inr (Or.inr (e))))))))) (fun x k hx => by simp only [wJ_mSeals_label] at hx; rcases hx with e | e | e <;> first | exact Or.inl (e) | exact Or.inr (Or.inl (e)) | exact Or.inr (Or.inr (e))) (fun h8 F1 => ?_)
    exact fe_j F1 (hk51 _ _ _ _) (fun x k hx => by simp only [wI_mGreet_firstSecrets_b51, F1.r] at hx; rcases hx with e | e | e | e | e | e | e | e | e <;> first | exact Or.inl (e) | exact Or.inr (Or.inl (e)) | exact Or.inr (Or.inr (Or.inl (e))) | exact Or.inr (Or.inr (Or.inr (Or.inl (e)))) | exact Or.inr (Or.inr (Or.inr (Or.inr (Or.inl (e))))) | exact Or.inr (Or.inr (Or.inr (Or.inr (Or.inr (Or.inl (e)))))) | exact Or.inr (Or.inr (Or.inr (Or.inr (Or.inr (Or.inr (Or.inl (e))))))) | exact Or.inr (Or.inr (Or.inr (Or.inr (Or.inr (Or.inr (Or.inr (Or.inl (e)))))))) | exact Or.inr (Or.inr (Or.inr (Or.inr (Or.inr (Or.inr (Or.inr (Or.inr (e))))))))) (fun x k hx => by simp only [wJ_mGreet_firstSecrets_b51, F1.r] at hx; rcases hx with e | e | e <;> first | exact Or.inl (e) | exact Or.inr (Or.inl (e)) | exact Or.inr (Or.inr (e)))
theorem fe_mGreet_firstSecrets_b51_lp (n : Nat) : ∀ (v0 : Nat) (v4 : Nat) (v5 : Int) (h : Hp), Feo (wI_mGreet_firstSecrets_b51 v0 v4 v5 h) (wJ_mGreet_firstSecrets_b51 v0 v4 v5 h) h id (f_mGreet_firstSecrets_b51_lp n v0 v4 v5 h) := by
  induction n with
  | zero => intro v0 v4 v5 h; exact fe_no
  | succ n ih => intro v0 v4 v5 h; exact fe_mGreet_firstSecrets_b51 ih v0 v4 v5 h
theorem fe_mGreet_firstSecrets_b3 {k3 : Nat → Nat → Int → Int → Nat → Int → Hp → Option (Hp)} (hk3 : ∀ (v0 : Nat) (v1 : Nat) (v2 : Int) (v3 : Int) (v4 : Nat) (v5 : Int) (h : Hp), Feo (wI_mGreet_firstSecrets_b3 v0 v1 v2 v3 v4 v5 h) (wJ_mGreet_firstSecrets_b3 v0 v1 v2 v3 v4 v5 h) h id (k3 v0 v1 v2 v3 v4 v5 h)) (v0 : Nat) (v1 : Nat) (v2 : Int) (v3 : Int) (v4 : Nat) (v5 : Int) (h : Hp) : Feo (wI_mGreet_firstSecrets_b3 v0 v1 v2 v3 v4 v5 h) (wJ_mGreet_firstSecrets_b3 v0 v1 v2 v3 v4 v5 h) h id (f_mGreet_firstSecrets_b3 k3 v0 v1 v2 v3 v4 v5 h) := by
  unfold f_mGreet_firstSecrets_b3
  refine fe_it ?_ ?_
  · refine fe_it fe_no ?_
    refine fe_b1 Fe.rf (fe_mSeals_mac _ _ _ _ _ _ _ _ _) (fun x k hx => by simp only [wI_mSeals_mac] at hx; rcases hx with e | e | e | e | e | e <;> first | exact Or.inl (e) | exact Or.inr (Or.inl (e)) | exact Or.inr (Or.inr (Or.inr (Or.inl (e)))) | exact Or.inr (Or.inr (Or.inr (Or.inr (Or.inl (e))))) | exact Or.inr (Or.inr (Or.inr (Or.inr (Or.inr (Or.inr (Or.inr (Or.inl (e)))))))) | exact Or.inr (Or.inr (Or.inr (Or.inr (Or.inr (Or.inr (Or.inr (Or.inr (Or.inl (e)))))))))) (fun x k hx => by simp only [wJ_mSeals_mac] at hx; rcases hx with e | e | e <;> first | exact Or.inl (e) | exact Or.inr (Or.inl (e)) | exact Or.inr (Or.inr (e))) (fun h2 F1 => ?_)
    exact fe_j F1 (fe_mGreet_firstSecrets_b51_lp FU _ _ _ _) (fun x k hx => by simp only [wI_mGreet_firstSecrets_b51, F1.r] at hx; rcases hx with e | e | e | e | e | e | e | e | e <;> first | exact Or.inl (e) | exact Or.inr (Or.inl (e)) | exact Or.inr (Or.inr (Or.inl (e))) | exact Or.inr (Or.inr (Or.inr (Or.inr (Or.inl (e))))) | exact Or.inr (Or.inr (Or.inr (Or.inr (Or.inr (Or.inl (e)))))) | exact Or.inr (Or.inr (Or.inr (Or.inr (Or.inr (Or.inr (Or.inl (e))))))) | exact Or.inr (Or.inr (Or.inr (Or.inr (Or.inr (Or.inr (Or.inr (Or.inl (e)))))))) | exact Or.inr (Or.inr (Or.inr (Or.inr (Or.inr (Or.inr (Or.inr (Or.inr (Or.inl (e))))))))) | exact Or.inr (Or.inr (Or.inr (Or.inr (Or.inr (Or.inr (Or.inr (Or.inr (Or.inr (Or.inr (e))))))))))) (fun x k hx => by simp only [wJ_mGreet_firstSecrets_b51, F1.r] at hx; rcases hx with e | e | e <;> first | exact Or.inl (e) | exact Or.inr (Or.inl (e)) | exact Or.inr (Or.inr (e)))
  · refine fe_it fe_no ?_
    refine fe_it ?_ fe_no
    refine fe_I Fe.rf (Or.inr (Or.inr (Or.inr (Or.inr (Or.inr (Or.inr (Or.inr (Or.inr (Or.inr (Or.inl (rfl))))))))))) (fun h6 F2 => ?_)
    exact fe_j F2 (hk3 _ _ _ _ _ _ _) (fun x k hx => by simp only [wI_mGreet_firstSecrets_b3, F2.r] at hx; rcases hx with e | e | e | e | e | e | e | e | e | e | e <;> first | exact Or.inl (e) | exact Or.inr (Or.inl (e)) | exact Or.inr (Or.inr (Or.inl (e))) | exact Or.inr (Or.inr (Or.inr (Or.inl (e)))) | exact Or.inr (Or.inr (Or.inr (Or.inr (Or.inl (e))))) | exact Or.inr (Or.inr (Or.inr (Or.inr (Or.inr (Or.inl (e)))))) | exact Or.inr (Or.inr (Or.inr (Or.inr (Or.inr (Or.inr (Or.inl (e))))))) | exact Or.inr (Or.inr (Or.inr (Or.inr (Or.inr (Or.inr (Or.inr (Or.inl (e)))))))) | exact Or.inr (Or.inr (Or.inr (Or.inr (Or.inr (Or.inr (Or.inr (Or.inr (Or.inl (e))))))))) | exact Or.inr (Or.inr (Or.inr (Or.inr (Or.inr (Or.inr (Or.inr (Or.inr (Or.inr (Or.inl (e)))))))))) | exact Or.inr (Or.inr (Or.inr (Or.inr (Or.inr (Or.inr (Or.inr (Or.inr (Or.inr (Or.inr (e))))))))))) (fun x k hx => by simp only [wJ_mGreet_firstSecrets_b3, F2.r] at hx; rcases hx with e | e | e <;> first | exact Or.inl (e) | exact Or.inr (Or.inl (e)) | exact Or.inr (Or.inr (e)))
theorem fe_mGreet_firstSecrets_b3_lp (n : Nat) : ∀ (v0 : Nat) (v1 : Nat) (v2 : Int) (v3 : Int) (v4 : Nat) (v5 : Int) (h : Hp), Feo (wI_mGreet_firstSecrets_b3 v0 v1 v2 v3 v4 v5 h) (wJ_mGreet_firstSecrets_b3 v0 v1 v2 v3 v4 v5 h) h id (f_mGreet_firstSecrets_b3_lp n v0 v1 v2 v3 v4 v5 h) := by
  induction n with
  | zero => intro v0 v1 v2 v3 v4 v5 h; exact fe_no
  | succ n ih => intro v0 v1 v2 v3 v4 v5 h; exact fe_mGreet_firstSecrets_b3 ih v0 v1 v2 v3 v4 v5 h
theorem fe_mGreet_firstSecrets (v0 : Nat) (v1 : Nat) (v2 : Int) (v3 : Int) (v4 : Nat) (h : Hp) : Feo (wI_mGreet_firstSecrets v0 v1 v2 v3 v4 h) (wJ_mGreet_firstSecrets v0 v1 v2 v3 v4 h) h id (f_mGreet_firstSecrets v0 v1 v2 v3 v4 h) := by
  unfold f_mGreet_firstSecrets
  exact fe_j Fe.rf (fe_mGreet_firstSecrets_b3_lp FU _ _ _ _ _ _ _) (fun x k hx => by simp only [wI_mGreet_firstSecrets_b3] at hx; rcases hx with e | e | e | e | e | e | e | e | e | e | e <;> first | exact Or.inl (e) | exact Or.inr (Or.inl (e)) | exact Or.inr (Or.inr (Or.inl (e))) | exact Or.inr (Or.inr (Or.inr (Or.inl (e)))) | exact Or.inr (Or.inr (Or.inr (Or.inr (Or.inl (e))))) | exact Or.inr (Or.inr (Or.inr (Or.inr (Or.inr (Or.inl (e)))))) | exact Or.inr (Or.inr (Or.inr (Or.inr (Or.inr (Or.inr (Or.inl (e))))))) | exact Or.inr (Or.inr (Or.inr (Or.inr (Or.inr (Or.inr (Or.inr (Or.inl (e)))))))) | exact Or.inr (Or.inr (Or.inr (Or.inr (Or.inr (Or.inr (Or.inr (Or.inr (Or.inl (e))))))))) | exact Or.inr (Or.inr (Or.inr (Or.inr (Or.inr (Or.inr (Or.inr (Or.inr (Or.inr (Or.inl (e)))))))))) | exact Or.inr (Or.inr (Or.inr (Or.inr (Or.inr (Or.inr (Or.inr (Or.inr (Or.inr (Or.inr (e))))))))))) (fun x k hx => by simp only [wJ_mGreet_firstSecrets_b3] at hx; rcases hx with e | e | e <;> first | exact Or.inl (e) | exact Or.inr (Or.inl (e)) | exact Or.inr (Or.inr (e)))
def wI_mSeals_arm (v0 : Nat) (v1 : Nat) (v2 : Int) (v3 : Nat) (v4 : Int) (h : Hp) (x k : Nat) : Prop := x = (hR h v0 9) ∨ x = hR h v0 10 ∨ x = hR h v0 12 ∨ x = hR h v0 14 ∨ x = hR h v0 4 ∨ x = hR h v0 8 ∨ (x = v0 ∧ k = 11) ∨ (x = v0 ∧ k = 13) ∨ x = v3
def wJ_mSeals_arm (v0 : Nat) (v1 : Nat) (v2 : Int) (v3 : Nat) (v4 : Int) (h : Hp) (x k : Nat) : Prop := x = hR h v0 5 ∨ x = hR h v0 6 ∨ x = hR h v0 7
theorem fe_mSeals_arm (v0 : Nat) (v1 : Nat) (v2 : Int) (v3 : Nat) (v4 : Int) (h : Hp) : Feo (wI_mSeals_arm v0 v1 v2 v3 v4 h) (wJ_mSeals_arm v0 v1 v2 v3 v4 h) h id (f_mSeals_arm v0 v1 v2 v3 v4 h) := by
  unfold f_mSeals_arm
  refine fe_b1 Fe.rf (fe_mSeals_label _ _ _ _ _ _ _ _ _ _) (fun x k hx => by simp only [wI_mSeals_label] at hx; rcases hx with e | e | e | e | e | e | e | e | e <;> first | exact Or.inl (e) | exact Or.inr (Or.inl (e)) | exact Or.inr (Or.inr (Or.inl (e))) | exact Or.inr (Or.inr (Or.inr (Or.inl (e)))) | exact Or.inr (Or.inr (Or.inr (Or.inr (Or.inl (e))))) | exact Or.inr (Or.inr (Or.inr (Or.inr (Or.inr (Or.inl (e)))))) | exact Or.inr (Or.inr (Or.inr (Or.inr (Or.inr (Or.inr (Or.inl (e))))))) | exact Or.inr (Or.inr (Or.inr (Or.inr (Or.inr (Or.inr (Or.inr (Or.inl (e)))))))) | exact Or.inr (Or.inr (Or.inr (Or.inr (Or.inr (Or.inr (Or.inr (Or.inr (e))))))))) (fun x k hx => by simp only [wJ_mSeals_label] at hx; rcases hx with e | e | e <;> first | exact Or.inl (e) | exact Or.inr (Or.inl (e)) | exact Or.inr (Or.inr (e))) (fun h1 F1 => ?_)
  refine fe_b1 F1 (fe_mSeals_label _ _ _ _ _ _ _ _ _ _) (fun x k hx => by simp only [wI_mSeals_label, F1.r] at hx; rcases hx with e | e | e | e | e | e | e | e | e <;> first | exact Or.inl (e) | exact Or.inr (Or.inl (e)) | exact Or.inr (Or.inr (Or.inl (e))) | exact Or.inr (Or.inr (Or.inr (Or.inl (e)))) | exact Or.inr (Or.inr (Or.inr (Or.inr (Or.inl (e))))) | exact Or.inr (Or.inr (Or.inr (Or.inr (Or.inr (Or.inl (e)))))) | exact Or.inr (Or.inr (Or.inr (Or.inr (Or.inr (Or.inr (Or.inl (e))))))) | exact Or.inr (Or.inr (Or.inr (Or.inr (Or.inr (Or.inr (Or.inr (Or.inl (e)))))))) | exact Or.inr (Or.inr (Or.inr (Or.inr (Or.inr (Or.inr (Or.inr (Or.inr (e))))))))) (fun x k hx => by simp only [wJ_mSeals_label, F1.r] at hx; rcases hx with e | e | e <;> first | exact Or.inl (e) | exact Or.inr (Or.inl (e)) | exact Or.inr (Or.inr (e))) (fun h3 F2 => ?_)
  refine fe_b1 F2 (fe_mSeals_label _ _ _ _ _ _ _ _ _ _) (fun x k hx => by simp only [wI_mSeals_label, F1.r, F2.r] at hx; rcases hx with e | e | e | e | e | e | e | e | e <;> first | exact Or.inl (e) | exact Or.inr (Or.inl (e)) | exact Or.inr (Or.inr (Or.inl (e))) | exact Or.inr (Or.inr (Or.inr (Or.inl (e)))) | exact Or.inr (Or.inr (Or.inr (Or.inr (Or.inl (e))))) | exact Or.inr (Or.inr (Or.inr (Or.inr (Or.inr (Or.inl (e)))))) | exact Or.inr (Or.inr (Or.inr (Or.inr (Or.inr (Or.inr (Or.inl (e))))))) | exact Or.inr (Or.inr (Or.inr (Or.inr (Or.inr (Or.inr (Or.inr (Or.inl (e)))))))) | exact Or.inr (Or.inr (Or.inr (Or.inr (Or.inr (Or.inr (Or.inr (Or.inr (e))))))))) (fun x k hx => by simp only [wJ_mSeals_label, F1.r, F2.r] at hx; rcases hx with e | e | e <;> first | exact Or.inl (e) | exact Or.inr (Or.inl (e)) | exact Or.inr (Or.inr (e))) (fun h5 F3 => ?_)
  exact fe_so F3
def wI_mSide_arm (v0 : Nat) (v1 : Int) (h : Hp) (x k : Nat) : Prop := x = (hR h (hR h v0 1) 9) ∨ (x = (hR h v0 1) ∧ k = 11) ∨ (x = (hR h v0 1) ∧ k = 13) ∨ x = (hR h v0 18) ∨ x = hR h (hR h v0 1) 10 ∨ x = hR h (hR h v0 1) 12 ∨ x = hR h (hR h v0 1) 14 ∨ x = hR h (hR h v0 1) 4 ∨ x = hR h (hR h v0 1) 8 ∨ x = hR h v0 19
def wJ_mSide_arm (v0 : Nat) (v1 : Int) (h : Hp) (x k : Nat) : Prop := x = hR h (hR h v0 1) 5 ∨ x = hR h (hR h v0 1) 6 ∨ x = hR h (hR h v0 1) 7
theorem fe_mSide_arm (v0 : Nat) (v1 : Int) (h : Hp) : Feo (wI_mSide_arm v0 v1 h) (wJ_mSide_arm v0 v1 h) h id (f_mSide_arm v0 v1 h) := by
  unfold f_mSide_arm
  refine fe_it fe_no ?_
  refine fe_it fe_no ?_
  refine fe_b1 Fe.rf (fe_mSeals_arm _ _ _ _ _ _) (fun x k hx => by simp only [wI_mSeals_arm] at hx; rcases hx with e | e | e | e | e | e | e | e | e <;> first | exact Or.inl (e) | exact Or.inr (Or.inl (e)) | exact Or.inr (Or.inr (Or.inl (e))) | exact Or.inr (Or.inr (Or.inr (Or.inl (e)))) | exact Or.inr (Or.inr (Or.inr (Or.inr (Or.inl (e))))) | exact Or.inr (Or.inr (Or.inr (Or.inr (Or.inr (Or.inl (e)))))) | exact Or.inr (Or.inr (Or.inr (Or.inr (Or.inr (Or.inr (Or.inl (e))))))) | exact Or.inr (Or.inr (Or.inr (Or.inr (Or.inr (Or.inr (Or.inr (Or.inl (e)))))))) | exact Or.inr (Or.inr (Or.inr (Or.inr (Or.inr (Or.inr (Or.inr (Or.inr (Or.inl (e)))))))))) (fun x k hx => by simp only [wJ_mSeals_arm] at hx; rcases hx with e | e | e <;> first | exact Or.inl (e) | exact Or.inr (Or.inl (e)) | exact Or.inr (Or.inr (e))) (fun h3 F1 => ?_)
  refine fe_it fe_no ?_
  refine fe_it fe_no ?_
  refine fe_b1 F1 (fe_mSeals_arm _ _ _ _ _ _) (fun x k hx => by simp only [wI_mSeals_arm, F1.r] at hx; rcases hx with e | e | e | e | e | e | e | e | e <;> first | exact Or.inl (e) | exact Or.inr (Or.inl (e)) | exact Or.inr (Or.inr (Or.inl (e))) | exact Or.inr (Or.inr (Or.inr (Or.inl (e)))) | exact Or.inr (Or.inr (Or.inr (Or.inr (Or.inl (e))))) | exact Or.inr (Or.inr (Or.inr (Or.inr (Or.inr (Or.inl (e)))))) | exact Or.inr (Or.inr (Or.inr (Or.inr (Or.inr (Or.inr (Or.inl (e))))))) | exact Or.inr (Or.inr (Or.inr (Or.inr (Or.inr (Or.inr (Or.inr (Or.inl (e)))))))) | exact Or.inr (Or.inr (Or.inr (Or.inr (Or.inr (Or.inr (Or.inr (Or.inr (Or.inl (e)))))))))) (fun x k hx => by simp only [wJ_mSeals_arm, F1.r] at hx; rcases hx with e | e | e <;> first | exact Or.inl (e) | exact Or.inr (Or.inl (e)) | exact Or.inr (Or.inr (e))) (fun h7 F2 => ?_)
  refine fe_it fe_no ?_
  refine fe_it ?_ fe_no
  refine fe_I F2 (Or.inr (Or.inr (Or.inr (Or.inr (Or.inr (Or.inr (Or.inr (Or.inr (Or.inr ((by first | (simp only [F1.r, F2.r]; exact rfl) | simp only [F1.r, F2.r]))))))))))) (fun h11 F3 => ?_)
  exact fe_so F3
def wI_mSide_putOwn (v0 : Nat) (v1 : Int) (h : Hp) (x k : Nat) : Prop := x = hR h (hR h v0 3) 4 ∨ (x = hR h v0 3 ∧ k = 5)
def wJ_mSide_putOwn (v0 : Nat) (v1 : Int) (h : Hp) (x k : Nat) : Prop := False
theorem fe_mSide_putOwn (v0 : Nat) (v1 : Int) (h : Hp) : Feo (wI_mSide_putOwn v0 v1 h) (wJ_mSide_putOwn v0 v1 h) h id (f_mSide_putOwn v0 v1 h) := by
  unfold f_mSide_putOwn
  refine fe_it fe_no ?_
  refine fe_it fe_no ?_
  refine fe_it ?_ fe_no
  refine fe_I Fe.rf (Or.inl (rfl)) (fun h4 F1 => ?_)
  refine fe_it fe_no ?_
  refine fe_I F1 (Or.inr (⟨(by first | (simp only [F1.r]; exact rfl) | simp only [F1.r]), rfl⟩)) (fun h6 F2 => ?_)
  exact fe_so F2
def wI_mSide_putName_b14 (v0 : Nat) (v2 : Nat) (v3 : Int) (v4 : Int) (h : Hp) (x k : Nat) : Prop := x = hR h (hR h v0 3) 4 ∨ (x = hR h v0 3 ∧ k = 5)
def wJ_mSide_putName_b14 (v0 : Nat) (v2 : Nat) (v3 : Int) (v4 : Int) (h : Hp) (x k : Nat) : Prop := False
def wI_mSide_putName (v0 : Nat) (v1 : Int) (v2 : Nat) (v3 : Int) (h : Hp) (x k : Nat) : Prop := x = hR h (hR h v0 3) 4 ∨ (x = hR h v0 3 ∧ k = 5)
def wJ_mSide_putName (v0 : Nat) (v1 : Int) (v2 : Nat) (v3 : Int) (h : Hp) (x k : Nat) : Prop := False
theorem fe_mSide_putName_b14 {k14 : Nat → Nat → Int → Int → Hp → Option (Hp)} (hk14 : ∀ (v0 : Nat) (v2 : Nat) (v3 : Int) (v4 : Int) (h : Hp), Feo (wI_mSide_putName_b14 v0 v2 v3 v4 h) (wJ_mSide_putName_b14 v0 v2 v3 v4 h) h id (k14 v0 v2 v3 v4 h)) (v0 : Nat) (v2 : Nat) (v3 : Int) (v4 : Int) (h : Hp) : Feo (wI_mSide_putName_b14 v0 v2 v3 v4 h) (wJ_mSide_putName_b14 v0 v2 v3 v4 h) h id (f_mSide_putName_b14 k14 v0 v2 v3 v4 h) := by
  unfold f_mSide_putName_b14
  refine fe_it ?_ ?_
  · exact fe_so Fe.rf
  · refine fe_it fe_no ?_
    refine fe_it ?_ fe_no
    refine fe_b1 Fe.rf (fe_mSide_putOwn _ _ _) (fun x k hx => by simp only [wI_mSide_putOwn] at hx; rcases hx with e | e <;> first | exact Or.inl (e) | exact Or.inr (e)) (fun x k hx => False.elim hx) (fun h7 F1 => ?_)
    exact fe_j F1 (hk14 _ _ _ _ _) (fun x k hx => by simp only [wI_mSide_putName_b14, F1.r] at hx; rcases hx with e | e <;> first | exact Or.inl (e) | exact Or.inr (e)) (fun x k hx => False.elim hx)
theorem fe_mSide_putName_b14_lp (n : Nat) : ∀ (v0 : Nat) (v2 : Nat) (v3 : Int) (v4 : Int) (h : Hp), Feo (wI_mSide_putName_b14 v0 v2 v3 v4 h) (wJ_mSide_putName_b14 v0 v2 v3 v4 h) h id (f_mSide_putName_b14_lp n v0 v2 v3 v4 h) := by
  induction n with
  | zero => intro v0 v2 v3 v4 h; exact fe_no
  | succ n ih => intro v0 v2 v3 v4 h; exact fe_mSide_putName_b14 ih v0 v2 v3 v4 h
theorem fe_mSide_putName (v0 : Nat) (v1 : Int) (v2 : Nat) (v3 : Int) (h : Hp) : Feo (wI_mSide_putName v0 v1 v2 v3 h) (wJ_mSide_putName v0 v1 v2 v3 h) h id (f_mSide_putName v0 v1 v2 v3 h) := by
  unfold f_mSide_putName
  refine fe_b1 Fe.rf (fe_mSide_putOwn _ _ _) (fun x k hx => by simp only [wI_mSide_putOwn] at hx; rcases hx with e | e <;> first | exact Or.inl (e) | exact Or.inr (e)) (fun x k hx => False.elim hx) (fun h1 F1 => ?_)
  refine fe_b1 F1 (fe_mSide_putOwn _ _ _) (fun x k hx => by simp only [wI_mSide_putOwn, F1.r] at hx; rcases hx with e | e <;> first | exact Or.inl (e) | exact Or.inr (e)) (fun x k hx => False.elim hx) (fun h3 F2 => ?_)
  exact fe_j F2 (fe_mSide_putName_b14_lp FU _ _ _ _ _) (fun x k hx => by simp only [wI_mSide_putName_b14, F1.r, F2.r] at hx; rcases hx with e | e <;> first | exact Or.inl (e) | exact Or.inr (e)) (fun x k hx => False.elim hx)
def wI_mWire_needs (v0 : Int) (h : Hp) (x k : Nat) : Prop := False
def wJ_mWire_needs (v0 : Int) (h : Hp) (x k : Nat) : Prop := False
theorem fe_mWire_needs (v0 : Int) (h : Hp) : Feo (wI_mWire_needs v0 h) (wJ_mWire_needs v0 h) h Prod.snd (f_mWire_needs v0 h) := by
  unfold f_mWire_needs
  refine fe_it ?_ ?_
  · refine fe_it ?_ ?_
    · refine fe_it ?_ ?_
      · exact fe_so Fe.rf
      · exact fe_so Fe.rf
    · exact fe_so Fe.rf
  · exact fe_so Fe.rf
def wI_mSide_putNumber_b74 (v0 : Nat) (v7 : Int) (v9 : Int) (h : Hp) (x k : Nat) : Prop := x = hR h (hR h v0 3) 4 ∨ (x = hR h v0 3 ∧ k = 5)
def wJ_mSide_putNumber_b74 (v0 : Nat) (v7 : Int) (v9 : Int) (h : Hp) (x k : Nat) : Prop := False
def wI_mSide_putNumber_b52 (v0 : Nat) (v2 : Int) (v4 : Int) (s0 : Int) (h : Hp) (x k : Nat) : Prop := x = hR h (hR h v0 3) 4 ∨ (x = hR h v0 3 ∧ k = 5)
def wJ_mSide_putNumber_b52 (v0 : Nat) (v2 : Int) (v4 : Int) (s0 : Int) (h : Hp) (x k : Nat) : Prop := False
def wI_mSide_putNumber (v0 : Nat) (v1 : Int) (v2 : Int) (h : Hp) (x k : Nat) : Prop := x = hR h (hR h v0 3) 4 ∨ (x = hR h v0 3 ∧ k = 5)
def wJ_mSide_putNumber (v0 : Nat) (v1 : Int) (v2 : Int) (h : Hp) (x k : Nat) : Prop := False
theorem fe_mSide_putNumber_b74 {k74 : Nat → Int → Int → Hp → Option (Hp)} (hk74 : ∀ (v0 : Nat) (v7 : Int) (v9 : Int) (h : Hp), Feo (wI_mSide_putNumber_b74 v0 v7 v9 h) (wJ_mSide_putNumber_b74 v0 v7 v9 h) h id (k74 v0 v7 v9 h)) (v0 : Nat) (v7 : Int) (v9 : Int) (h : Hp) : Feo (wI_mSide_putNumber_b74 v0 v7 v9 h) (wJ_mSide_putNumber_b74 v0 v7 v9 h) h id (f_mSide_putNumber_b74 k74 v0 v7 v9 h) := by
  unfold f_mSide_putNumber_b74
  refine fe_it ?_ ?_
  · exact fe_so Fe.rf
  · refine fe_b1 Fe.rf (fe_mSide_putOwn _ _ _) (fun x k hx => by simp only [wI_mSide_putOwn] at hx; rcases hx with e | e <;> first | exact Or.inl (e) | exact Or.inr (e)) (fun x k hx => False.elim hx) (fun h10 F1 => ?_)
    exact fe_j F1 (hk74 _ _ _ _) (fun x k hx => by simp only [wI_mSide_putNumber_b74, F1.r] at hx; rcases hx with e | e <;> first | exact Or.inl (e) | exact Or.inr (e)) (fun x k hx => False.elim hx)
theorem fe_mSide_putNumber_b74_lp (n : Nat) : ∀ (v0 : Nat) (v7 : Int) (v9 : Int) (h : Hp), Feo (wI_mSide_putNumber_b74 v0 v7 v9 h) (wJ_mSide_putNumber_b74 v0 v7 v9 h) h id (f_mSide_putNumber_b74_lp n v0 v7 v9 h) := by
  induction n with
  | zero => intro v0 v7 v9 h; exact fe_no
  | succ n ih => intro v0 v7 v9 h; exact fe_mSide_putNumber_b74 ih v0 v7 v9 h
theorem fe_mSide_putNumber_b52 (v0 : Nat) (v2 : Int) (v4 : Int) (s0 : Int) (h : Hp) : Feo (wI_mSide_putNumber_b52 v0 v2 v4 s0 h) (wJ_mSide_putNumber_b52 v0 v2 v4 s0 h) h id (f_mSide_putNumber_b52 v0 v2 v4 s0 h) := by
  unfold f_mSide_putNumber_b52
  refine fe_v (fun y8 => ?_)
  refine fe_v (fun y9 => ?_)
  exact fe_j Fe.rf (fe_mSide_putNumber_b74_lp FU _ _ _ _) (fun x k hx => by simp only [wI_mSide_putNumber_b74] at hx; rcases hx with e | e <;> first | exact Or.inl (e) | exact Or.inr (e)) (fun x k hx => False.elim hx)
theorem fe_mSide_putNumber (v0 : Nat) (v1 : Int) (v2 : Int) (h : Hp) : Feo (wI_mSide_putNumber v0 v1 v2 h) (wJ_mSide_putNumber v0 v1 v2 h) h id (f_mSide_putNumber v0 v1 v2 h) := by
  unfold f_mSide_putNumber
  refine fe_b2 Fe.rf (fe_mWire_needs _ _) (fun x k hx => False.elim hx) (fun x k hx => False.elim hx) (fun r3 h1 F1 => ?_)
  refine fe_b1 F1 (fe_mSide_putOwn _ _ _) (fun x k hx => by simp only [wI_mSide_putOwn, F1.r] at hx; rcases hx with e | e <;> first | exact Or.inl (e) | exact Or.inr (e)) (fun x k hx => False.elim hx) (fun h4 F2 => ?_)
  refine fe_b1 F2 (fe_mSide_putOwn _ _ _) (fun x k hx => by simp only [wI_mSide_putOwn, F1.r, F2.r] at hx; rcases hx with e | e <;> first | exact Or.inl (e) | exact Or.inr (e)) (fun x k hx => False.elim hx) (fun h6 F3 => ?_)
  refine fe_it ?_ ?_
  · refine fe_it ?_ ?_
    · refine fe_it ?_ ?_
      · exact fe_j F3 (fe_mSide_putNumber_b52 _ _ _ _ _) (fun x k hx => by simp only [wI_mSide_putNumber_b52, F1.r, F2.r, F3.r] at hx; rcases hx with e | e <;> first | exact Or.inl (e) | exact Or.inr (e)) (fun x k hx => False.elim hx)
      · exact fe_j F3 (fe_mSide_putNumber_b52 _ _ _ _ _) (fun x k hx => by simp only [wI_mSide_putNumber_b52, F1.r, F2.r, F3.r] at hx; rcases hx with e | e <;> first | exact Or.inl (e) | exact Or.inr (e)) (fun x k hx => False.elim hx)
    · exact fe_j F3 (fe_mSide_putNumber_b52 _ _ _ _ _) (fun x k hx => by simp only [wI_mSide_putNumber_b52, F1.r, F2.r, F3.r] at hx; rcases hx with e | e <;> first | exact Or.inl (e) | exact Or.inr (e)) (fun x k hx => False.elim hx)
  · exact fe_j F3 (fe_mSide_putNumber_b52 _ _ _ _ _) (fun x k hx => by simp only [wI_mSide_putNumber_b52, F1.r, F2.r, F3.r] at hx; rcases hx with e | e <;> first | exact Or.inl (e) | exact Or.inr (e)) (fun x k hx => False.elim hx)
def wI_mSide_makeParameters_b113 (v0 : Nat) (v1 : Int) (h : Hp) (x k : Nat) : Prop := x = hR h (hR h v0 3) 4 ∨ (x = hR h v0 3 ∧ k = 5)
def wJ_mSide_makeParameters_b113 (v0 : Nat) (v1 : Int) (h : Hp) (x k : Nat) : Prop := False
def wI_mSide_makeParameters_b91 (v0 : Nat) (v1 : Int) (h : Hp) (x k : Nat) : Prop := x = hR h (hR h v0 3) 4 ∨ (x = hR h v0 3 ∧ k = 5)
def wJ_mSide_makeParameters_b91 (v0 : Nat) (v1 : Int) (h : Hp) (x k : Nat) : Prop := False
def wI_mSide_makeParameters_b75 (v0 : Nat) (v1 : Int) (h : Hp) (x k : Nat) : Prop := x = hR h (hR h v0 3) 4 ∨ (x = hR h v0 3 ∧ k = 5)
def wJ_mSide_makeParameters_b75 (v0 : Nat) (v1 : Int) (h : Hp) (x k : Nat) : Prop := False
def wI_mSide_makeParameters_b60 (v0 : Nat) (v1 : Int) (h : Hp) (x k : Nat) : Prop := x = hR h (hR h v0 3) 4 ∨ (x = hR h v0 3 ∧ k = 5)
def wJ_mSide_makeParameters_b60 (v0 : Nat) (v1 : Int) (h : Hp) (x k : Nat) : Prop := False
def wI_mSide_makeParameters_b47 (v0 : Nat) (v1 : Int) (h : Hp) (x k : Nat) : Prop := x = hR h (hR h v0 3) 4 ∨ (x = hR h v0 3 ∧ k = 5)
def wJ_mSide_makeParameters_b47 (v0 : Nat) (v1 : Int) (h : Hp) (x k : Nat) : Prop := False
def wI_mSide_makeParameters_b28 (v0 : Nat) (v1 : Int) (h : Hp) (x k : Nat) : Prop := x = hR h (hR h v0 3) 4 ∨ (x = hR h v0 3 ∧ k = 5)
def wJ_mSide_makeParameters_b28 (v0 : Nat) (v1 : Int) (h : Hp) (x k : Nat) : Prop := False
def wI_mSide_makeParameters_b26 (v0 : Nat) (h : Hp) (x k : Nat) : Prop := x = hR h (hR h v0 3) 4 ∨ (x = hR h v0 3 ∧ k = 5)
def wJ_mSide_makeParameters_b26 (v0 : Nat) (h : Hp) (x k : Nat) : Prop := False
def wI_mSide_makeParameters (v0 : Nat) (h : Hp) (x k : Nat) : Prop := x = hR h (hR h v0 3) 4 ∨ (x = hR h v0 3 ∧ k = 5)
def wJ_mSide_makeParameters (v0 : Nat) (h : Hp) (x k : Nat) : Prop := False
theorem fe_mSide_makeParameters_b113 {k28 : Nat → Int → Hp → Option (Hp)} (hk28 : ∀ (v0 : Nat) (v1 : Int) (h : Hp), Feo (wI_mSide_makeParameters_b28 v0 v1 h) (wJ_mSide_makeParameters_b28 v0 v1 h) h id (k28 v0 v1 h)) (v0 : Nat) (v1 : Int) (h : Hp) : Feo (wI_mSide_makeParameters_b113 v0 v1 h) (wJ_mSide_makeParameters_b113 v0 v1 h) h id (f_mSide_makeParameters_b113 k28 v0 v1 h) := by
  unfold f_mSide_makeParameters_b113
  exact fe_j Fe.rf (hk28 _ _ _) (fun x k hx => by simp only [wI_mSide_makeParameters_b28] at hx; rcases hx with e | e <;> first | exact Or.inl (e) | exact Or.inr (e)) (fun x k hx => False.elim hx)
theorem fe_mSide_makeParameters_b91 {k28 : Nat → Int → Hp → Option (Hp)} (hk28 : ∀ (v0 : Nat) (v1 : Int) (h : Hp), Feo (wI_mSide_makeParameters_b28 v0 v1 h) (wJ_mSide_makeParameters_b28 v0 v1 h) h id (k28 v0 v1 h)) (v0 : Nat) (v1 : Int) (h : Hp) : Feo (wI_mSide_makeParameters_b91 v0 v1 h) (wJ_mSide_makeParameters_b91 v0 v1 h) h id (f_mSide_makeParameters_b91 k28 v0 v1 h) := by
  unfold f_mSide_makeParameters_b91
  refine fe_it fe_no ?_
  refine fe_it ?_ fe_no
  refine fe_it ?_ ?_
  · exact fe_j Fe.rf (fe_mSide_makeParameters_b113 hk28 _ _ _) (fun x k hx => by simp only [wI_mSide_makeParameters_b113] at hx; rcases hx with e | e <;> first | exact Or.inl (e) | exact Or.inr (e)) (fun x k hx => False.elim hx)
  · refine fe_it ?_ fe_no
    refine fe_b1 Fe.rf (fe_mSide_putNumber _ _ _ _) (fun x k hx => by simp only [wI_mSide_putNumber] at hx; rcases hx with e | e <;> first | exact Or.inl (e) | exact Or.inr (e)) (fun x k hx => False.elim hx) (fun h17 F1 => ?_)
    exact fe_j F1 (fe_mSide_makeParameters_b113 hk28 _ _ _) (fun x k hx => by simp only [wI_mSide_makeParameters_b113, F1.r] at hx; rcases hx with e | e <;> first | exact Or.inl (e) | exact Or.inr (e)) (fun x k hx => False.elim hx)
theorem fe_mSide_makeParameters_b75 {k28 : Nat → Int → Hp → Option (Hp)} (hk28 : ∀ (v0 : Nat) (v1 : Int) (h : Hp), Feo (wI_mSide_makeParameters_b28 v0 v1 h) (wJ_mSide_makeParameters_b28 v0 v1 h) h id (k28 v0 v1 h)) (v0 : Nat) (v1 : Int) (h : Hp) : Feo (wI_mSide_makeParameters_b75 v0 v1 h) (wJ_mSide_makeParameters_b75 v0 v1 h) h id (f_mSide_makeParameters_b75 k28 v0 v1 h) := by
  unfold f_mSide_makeParameters_b75
  refine fe_it ?_ ?_
  · exact fe_j Fe.rf (fe_mSide_makeParameters_b91 hk28 _ _ _) (fun x k hx => by simp only [wI_mSide_makeParameters_b91] at hx; rcases hx with e | e <;> first | exact Or.inl (e) | exact Or.inr (e)) (fun x k hx => False.elim hx)
  · refine fe_it ?_ ?_
    · exact fe_j Fe.rf (fe_mSide_makeParameters_b113 hk28 _ _ _) (fun x k hx => by simp only [wI_mSide_makeParameters_b113] at hx; rcases hx with e | e <;> first | exact Or.inl (e) | exact Or.inr (e)) (fun x k hx => False.elim hx)
    · refine fe_it ?_ ?_
      · exact fe_j Fe.rf (fe_mSide_makeParameters_b113 hk28 _ _ _) (fun x k hx => by simp only [wI_mSide_makeParameters_b113] at hx; rcases hx with e | e <;> first | exact Or.inl (e) | exact Or.inr (e)) (fun x k hx => False.elim hx)
      · exact fe_j Fe.rf (fe_mSide_makeParameters_b91 hk28 _ _ _) (fun x k hx => by simp only [wI_mSide_makeParameters_b91] at hx; rcases hx with e | e <;> first | exact Or.inl (e) | exact Or.inr (e)) (fun x k hx => False.elim hx)
theorem fe_mSide_makeParameters_b60 {k28 : Nat → Int → Hp → Option (Hp)} (hk28 : ∀ (v0 : Nat) (v1 : Int) (h : Hp), Feo (wI_mSide_makeParameters_b28 v0 v1 h) (wJ_mSide_makeParameters_b28 v0 v1 h) h id (k28 v0 v1 h)) (v0 : Nat) (v1 : Int) (h : Hp) : Feo (wI_mSide_makeParameters_b60 v0 v1 h) (wJ_mSide_makeParameters_b60 v0 v1 h) h id (f_mSide_makeParameters_b60 k28 v0 v1 h) := by
  unfold f_mSide_makeParameters_b60
  refine fe_it ?_ ?_
  · exact fe_j Fe.rf (fe_mSide_makeParameters_b75 hk28 _ _ _) (fun x k hx => by simp only [wI_mSide_makeParameters_b75] at hx; rcases hx with e | e <;> first | exact Or.inl (e) | exact Or.inr (e)) (fun x k hx => False.elim hx)
  · refine fe_b1 Fe.rf (fe_mSide_putNumber _ _ _ _) (fun x k hx => by simp only [wI_mSide_putNumber] at hx; rcases hx with e | e <;> first | exact Or.inl (e) | exact Or.inr (e)) (fun x k hx => False.elim hx) (fun h12 F1 => ?_)
    exact fe_j F1 (fe_mSide_makeParameters_b75 hk28 _ _ _) (fun x k hx => by simp only [wI_mSide_makeParameters_b75, F1.r] at hx; rcases hx with e | e <;> first | exact Or.inl (e) | exact Or.inr (e)) (fun x k hx => False.elim hx)
theorem fe_mSide_makeParameters_b47 {k28 : Nat → Int → Hp → Option (Hp)} (hk28 : ∀ (v0 : Nat) (v1 : Int) (h : Hp), Feo (wI_mSide_makeParameters_b28 v0 v1 h) (wJ_mSide_makeParameters_b28 v0 v1 h) h id (k28 v0 v1 h)) (v0 : Nat) (v1 : Int) (h : Hp) : Feo (wI_mSide_makeParameters_b47 v0 v1 h) (wJ_mSide_makeParameters_b47 v0 v1 h) h id (f_mSide_makeParameters_b47 k28 v0 v1 h) := by
  unfold f_mSide_makeParameters_b47
  refine fe_it ?_ ?_
  · exact fe_j Fe.rf (fe_mSide_makeParameters_b60 hk28 _ _ _) (fun x k hx => by simp only [wI_mSide_makeParameters_b60] at hx; rcases hx with e | e <;> first | exact Or.inl (e) | exact Or.inr (e)) (fun x k hx => False.elim hx)
  · refine fe_b1 Fe.rf (fe_mSide_putNumber _ _ _ _) (fun x k hx => by simp only [wI_mSide_putNumber] at hx; rcases hx with e | e <;> first | exact Or.inl (e) | exact Or.inr (e)) (fun x k hx => False.elim hx) (fun h10 F1 => ?_)
    exact fe_j F1 (fe_mSide_makeParameters_b60 hk28 _ _ _) (fun x k hx => by simp only [wI_mSide_makeParameters_b60, F1.r] at hx; rcases hx with e | e <;> first | exact Or.inl (e) | exact Or.inr (e)) (fun x k hx => False.elim hx)
theorem fe_mSide_makeParameters_b28 {k28 : Nat → Int → Hp → Option (Hp)} (hk28 : ∀ (v0 : Nat) (v1 : Int) (h : Hp), Feo (wI_mSide_makeParameters_b28 v0 v1 h) (wJ_mSide_makeParameters_b28 v0 v1 h) h id (k28 v0 v1 h)) (v0 : Nat) (v1 : Int) (h : Hp) : Feo (wI_mSide_makeParameters_b28 v0 v1 h) (wJ_mSide_makeParameters_b28 v0 v1 h) h id (f_mSide_makeParameters_b28 k28 v0 v1 h) := by
  unfold f_mSide_makeParameters_b28
  refine fe_it ?_ ?_
  · refine fe_it fe_no ?_
    refine fe_b1 Fe.rf (fe_mSide_putName _ _ _ _ _) (fun x k hx => by simp only [wI_mSide_putName] at hx; rcases hx with e | e <;> first | exact Or.inl (e) | exact Or.inr (e)) (fun x k hx => False.elim hx) (fun h6 F1 => ?_)
    exact fe_so F1
  · refine fe_it ?_ ?_
    · exact fe_j Fe.rf (fe_mSide_makeParameters_b47 hk28 _ _ _) (fun x k hx => by simp only [wI_mSide_makeParameters_b47] at hx; rcases hx with e | e <;> first | exact Or.inl (e) | exact Or.inr (e)) (fun x k hx => False.elim hx)
    · refine fe_b1 Fe.rf (fe_mSide_putNumber _ _ _ _) (fun x k hx => by simp only [wI_mSide_putNumber] at hx; rcases hx with e | e <;> first | exact Or.inl (e) | exact Or.inr (e)) (fun x k hx => False.elim hx) (fun h8 F2 => ?_)
      exact fe_j F2 (fe_mSide_makeParameters_b47 hk28 _ _ _) (fun x k hx => by simp only [wI_mSide_makeParameters_b47, F2.r] at hx; rcases hx with e | e <;> first | exact Or.inl (e) | exact Or.inr (e)) (fun x k hx => False.elim hx)
theorem fe_mSide_makeParameters_b28_lp (n : Nat) : ∀ (v0 : Nat) (v1 : Int) (h : Hp), Feo (wI_mSide_makeParameters_b28 v0 v1 h) (wJ_mSide_makeParameters_b28 v0 v1 h) h id (f_mSide_makeParameters_b28_lp n v0 v1 h) := by
  induction n with
  | zero => intro v0 v1 h; exact fe_no
  | succ n ih => intro v0 v1 h; exact fe_mSide_makeParameters_b28 ih v0 v1 h
theorem fe_mSide_makeParameters_b26 (v0 : Nat) (h : Hp) : Feo (wI_mSide_makeParameters_b26 v0 h) (wJ_mSide_makeParameters_b26 v0 h) h id (f_mSide_makeParameters_b26 v0 h) := by
  unfold f_mSide_makeParameters_b26
  exact fe_j Fe.rf (fe_mSide_makeParameters_b28_lp FU _ _ _) (fun x k hx => by simp only [wI_mSide_makeParameters_b28] at hx; rcases hx with e | e <;> first | exact Or.inl (e) | exact Or.inr (e)) (fun x k hx => False.elim hx)
theorem fe_mSide_makeParameters (v0 : Nat) (h : Hp) : Feo (wI_mSide_makeParameters v0 h) (wJ_mSide_makeParameters v0 h) h id (f_mSide_makeParameters v0 h) := by
  unfold f_mSide_makeParameters
  refine fe_it fe_no ?_
  refine fe_I Fe.rf (Or.inr (⟨rfl, rfl⟩)) (fun h2 F1 => ?_)
  refine fe_it ?_ ?_
  · exact fe_j F1 (fe_mSide_makeParameters_b26 _ _) (fun x k hx => by simp only [wI_mSide_makeParameters_b26, F1.r] at hx; rcases hx with e | e <;> first | exact Or.inl (e) | exact Or.inr (e)) (fun x k hx => False.elim hx)
  · refine fe_b1 F1 (fe_mSide_putName _ _ _ _ _) (fun x k hx => by simp only [wI_mSide_putName, F1.r] at hx; rcases hx with e | e <;> first | exact Or.inl (e) | exact Or.inr (e)) (fun x k hx => False.elim hx) (fun h3 F2 => ?_)
    exact fe_j F2 (fe_mSide_makeParameters_b26 _ _) (fun x k hx => by simp only [wI_mSide_makeParameters_b26, F1.r, F2.r] at hx; rcases hx with e | e <;> first | exact Or.inl (e) | exact Or.inr (e)) (fun x k hx => False.elim hx)
def wI_mGreet_send (v0 : Nat) (v1 : Int) (v2 : Int) (h : Hp) (x k : Nat) : Prop := x = hR h v0 10 ∨ x = hR h v0 9
def wJ_mGreet_send (v0 : Nat) (v1 : Int) (v2 : Int) (h : Hp) (x k : Nat) : Prop := False
theorem fe_mGreet_send (v0 : Nat) (v1 : Int) (v2 : Int) (h : Hp) : Feo (wI_mGreet_send v0 v1 v2 h) (wJ_mGreet_send v0 v1 v2 h) h id (f_mGreet_send v0 v1 v2 h) := by
  unfold f_mGreet_send
  refine fe_it fe_no ?_
  refine fe_it ?_ fe_no
  refine fe_it fe_no ?_
  refine fe_it ?_ fe_no
  refine fe_I Fe.rf (Or.inr (rfl)) (fun h5 F1 => ?_)
  refine fe_it fe_no ?_
  refine fe_it ?_ fe_no
  refine fe_it ?_ fe_no
  refine fe_I F1 (Or.inl ((by first | (simp only [F1.r]; exact rfl) | simp only [F1.r]))) (fun h9 F2 => ?_)
  exact fe_so F2
def wI_mGreet_note (v0 : Nat) (v1 : Int) (h : Hp) (x k : Nat) : Prop := x = hR h v0 15 ∨ (x = v0 ∧ k = 16)
def wJ_mGreet_note (v0 : Nat) (v1 : Int) (h : Hp) (x k : Nat) : Prop := False
theorem fe_mGreet_note (v0 : Nat) (v1 : Int) (h : Hp) : Feo (wI_mGreet_note v0 v1 h) (wJ_mGreet_note v0 v1 h) h id (f_mGreet_note v0 v1 h) := by
  unfold f_mGreet_note
  refine fe_it fe_no ?_
  refine fe_it ?_ fe_no
  refine fe_I Fe.rf (Or.inl (rfl)) (fun h3 F1 => ?_)
  refine fe_I F1 (Or.inr (⟨rfl, rfl⟩)) (fun h4 F2 => ?_)
  exact fe_so F2
def wI_mGreet_says_b142 (v0 : Nat) (v1 : Int) (v2 : Int) (v3 : Int) (v4 : Int) (v6 : Int) (h : Hp) (x k : Nat) : Prop := x = hR h v0 10 ∨ x = hR h v0 15 ∨ x = hR h v0 9 ∨ (x = v0 ∧ k = 16)
def wJ_mGreet_says_b142 (v0 : Nat) (v1 : Int) (v2 : Int) (v3 : Int) (v4 : Int) (v6 : Int) (h : Hp) (x k : Nat) : Prop := False
def wI_mGreet_says_b198 (v0 : Nat) (v2 : Int) (v3 : Int) (v6 : Int) (h : Hp) (x k : Nat) : Prop := x = hR h v0 15 ∨ (x = v0 ∧ k = 16)
def wJ_mGreet_says_b198 (v0 : Nat) (v2 : Int) (v3 : Int) (v6 : Int) (h : Hp) (x k : Nat) : Prop := False
def wI_mGreet_says_b194 (v0 : Nat) (v2 : Int) (v3 : Int) (v4 : Int) (h : Hp) (x k : Nat) : Prop := x = hR h v0 15 ∨ (x = v0 ∧ k = 16)
def wJ_mGreet_says_b194 (v0 : Nat) (v2 : Int) (v3 : Int) (v4 : Int) (h : Hp) (x k : Nat) : Prop := False
def wI_mGreet_says_b163 (v0 : Nat) (v1 : Int) (v2 : Int) (v3 : Int) (v4 : Int) (v6 : Int) (h : Hp) (x k : Nat) : Prop := x = hR h v0 10 ∨ x = hR h v0 15 ∨ x = hR h v0 9 ∨ (x = v0 ∧ k = 16)
def wJ_mGreet_says_b163 (v0 : Nat) (v1 : Int) (v2 : Int) (v3 : Int) (v4 : Int) (v6 : Int) (h : Hp) (x k : Nat) : Prop := False
def wI_mGreet_says_b160 (v0 : Nat) (v1 : Int) (v2 : Int) (v3 : Int) (v4 : Int) (h : Hp) (x k : Nat) : Prop := x = hR h v0 10 ∨ x = hR h v0 15 ∨ x = hR h v0 9 ∨ (x = v0 ∧ k = 16)
def wJ_mGreet_says_b160 (v0 : Nat) (v1 : Int) (v2 : Int) (v3 : Int) (v4 : Int) (h : Hp) (x k : Nat) : Prop := False
def wI_mGreet_says_b122 (v0 : Nat) (v1 : Int) (v2 : Int) (v3 : Int) (v4 : Int) (v6 : Int) (h : Hp) (x k : Nat) : Prop := x = hR h v0 10 ∨ x = hR h v0 15 ∨ x = hR h v0 9 ∨ (x = v0 ∧ k = 16)
def wJ_mGreet_says_b122 (v0 : Nat) (v1 : Int) (v2 : Int) (v3 : Int) (v4 : Int) (v6 : Int) (h : Hp) (x k : Nat) : Prop := False
def wI_mGreet_says_b119 (v0 : Nat) (v1 : Int) (v2 : Int) (v3 : Int) (v4 : Int) (h : Hp) (x k : Nat) : Prop := x = hR h v0 10 ∨ x = hR h v0 15 ∨ x = hR h v0 9 ∨ (x = v0 ∧ k = 16)
def wJ_mGreet_says_b119 (v0 : Nat) (v1 : Int) (v2 : Int) (v3 : Int) (v4 : Int) (h : Hp) (x k : Nat) : Prop := False
def wI_mGreet_says_b88 (v0 : Nat) (v1 : Int) (v2 : Int) (v3 : Int) (v4 : Int) (v6 : Int) (h : Hp) (x k : Nat) : Prop := x = hR h v0 10 ∨ x = hR h v0 15 ∨ x = hR h v0 9 ∨ (x = v0 ∧ k = 16)
def wJ_mGreet_says_b88 (v0 : Nat) (v1 : Int) (v2 : Int) (v3 : Int) (v4 : Int) (v6 : Int) (h : Hp) (x k : Nat) : Prop := False
def wI_mGreet_says_b50 (v0 : Nat) (v1 : Int) (v2 : Int) (v3 : Int) (v4 : Int) (s0 : Int) (h : Hp) (x k : Nat) : Prop := x = hR h v0 10 ∨ x = hR h v0 15 ∨ x = hR h v0 9 ∨ (x = v0 ∧ k = 16)
def wJ_mGreet_says_b50 (v0 : Nat) (v1 : Int) (v2 : Int) (v3 : Int) (v4 : Int) (s0 : Int) (h : Hp) (x k : Nat) : Prop := False
def wI_mGreet_says_b11 (v0 : Nat) (v1 : Int) (v2 : Int) (s0 : Int) (h : Hp) (x k : Nat) : Prop := x = hR h v0 10 ∨ x = hR h v0 15 ∨ x = hR h v0 9 ∨ (x = v0 ∧ k = 16)
def wJ_mGreet_says_b11 (v0 : Nat) (v1 : Int) (v2 : Int) (s0 : Int) (h : Hp) (x k : Nat) : Prop := False
def wI_mGreet_says (v0 : Nat) (v1 : Int) (v2 : Int) (h : Hp) (x k : Nat) : Prop := x = hR h v0 10 ∨ x = hR h v0 15 ∨ x = hR h v0 9 ∨ (x = v0 ∧ k = 16)
def wJ_mGreet_says (v0 : Nat) (v1 : Int) (v2 : Int) (h : Hp) (x k : Nat) : Prop := False
theorem fe_mGreet_says_b142 {k122 : Nat → Int → Int → Int → Int → Int → Hp → Option (Hp)} (hk122 : ∀ (v0 : Nat) (v1 : Int) (v2 : Int) (v3 : Int) (v4 : Int) (v6 : Int) (h : Hp), Feo (wI_mGreet_says_b122 v0 v1 v2 v3 v4 v6 h) (wJ_mGreet_says_b122 v0 v1 v2 v3 v4 v6 h) h id (k122 v0 v1 v2 v3 v4 v6 h)) (v0 : Nat) (v1 : Int) (v2 : Int) (v3 : Int) (v4 : Int) (v6 : Int) (h : Hp) : Feo (wI_mGreet_says_b142 v0 v1 v2 v3 v4 v6 h) (wJ_mGreet_says_b142 v0 v1 v2 v3 v4 v6 h) h id (f_mGreet_says_b142 k122 v0 v1 v2 v3 v4 v6 h) := by
  unfold f_mGreet_says_b142
  refine fe_it fe_no ?_
  refine fe_it ?_ fe_no
  refine fe_b1 Fe.rf (fe_mGreet_send _ _ _ _) (fun x k hx => by simp only [wI_mGreet_send] at hx; rcases hx with e | e <;> first | exact Or.inl (e) | exact Or.inr (Or.inr (Or.inl (e)))) (fun x k hx => False.elim hx) (fun h28 F1 => ?_)
  exact fe_j F1 (hk122 _ _ _ _ _ _ _) (fun x k hx => by simp only [wI_mGreet_says_b122, F1.r] at hx; rcases hx with e | e | e | e <;> first | exact Or.inl (e) | exact Or.inr (Or.inl (e)) | exact Or.inr (Or.inr (Or.inl (e))) | exact Or.inr (Or.inr (Or.inr (e)))) (fun x k hx => False.elim hx)
theorem fe_mGreet_says_b198 {k198 : Nat → Int → Int → Int → Hp → Option (Hp)} (hk198 : ∀ (v0 : Nat) (v2 : Int) (v3 : Int) (v6 : Int) (h : Hp), Feo (wI_mGreet_says_b198 v0 v2 v3 v6 h) (wJ_mGreet_says_b198 v0 v2 v3 v6 h) h id (k198 v0 v2 v3 v6 h)) (v0 : Nat) (v2 : Int) (v3 : Int) (v6 : Int) (h : Hp) : Feo (wI_mGreet_says_b198 v0 v2 v3 v6 h) (wJ_mGreet_says_b198 v0 v2 v3 v6 h) h id (f_mGreet_says_b198 k198 v0 v2 v3 v6 h) := by
  unfold f_mGreet_says_b198
  refine fe_it fe_no ?_
  refine fe_it ?_ fe_no
  refine fe_it ?_ ?_
  · exact fe_so Fe.rf
  · refine fe_it ?_ ?_
    · exact fe_so Fe.rf
    · refine fe_it fe_no ?_
      refine fe_it ?_ fe_no
      refine fe_b1 Fe.rf (fe_mGreet_note _ _ _) (fun x k hx => by simp only [wI_mGreet_note] at hx; rcases hx with e | e <;> first | exact Or.inl (e) | exact Or.inr (e)) (fun x k hx => False.elim hx) (fun h24 F1 => ?_)
      exact fe_j F1 (hk198 _ _ _ _ _) (fun x k hx => by simp only [wI_mGreet_says_b198, F1.r] at hx; rcases hx with e | e <;> first | exact Or.inl (e) | exact Or.inr (e)) (fun x k hx => False.elim hx)
theorem fe_mGreet_says_b198_lp (n : Nat) : ∀ (v0 : Nat) (v2 : Int) (v3 : Int) (v6 : Int) (h : Hp), Feo (wI_mGreet_says_b198 v0 v2 v3 v6 h) (wJ_mGreet_says_b198 v0 v2 v3 v6 h) h id (f_mGreet_says_b198_lp n v0 v2 v3 v6 h) := by
  induction n with
  | zero => intro v0 v2 v3 v6 h; exact fe_no
  | succ n ih => intro v0 v2 v3 v6 h; exact fe_mGreet_says_b198 ih v0 v2 v3 v6 h
theorem fe_mGreet_says_b194 (v0 : Nat) (v2 : Int) (v3 : Int) (v4 : Int) (h : Hp) : Feo (wI_mGreet_says_b194 v0 v2 v3 v4 h) (wJ_mGreet_says_b194 v0 v2 v3 v4 h) h id (f_mGreet_says_b194 v0 v2 v3 v4 h) := by
  unfold f_mGreet_says_b194
  exact fe_j Fe.rf (fe_mGreet_says_b198_lp FU _ _ _ _ _) (fun x k hx => by simp only [wI_mGreet_says_b198] at hx; rcases hx with e | e <;> first | exact Or.inl (e) | exact Or.inr (e)) (fun x k hx => False.elim hx)
theorem fe_mGreet_says_b163 {k163 : Nat → Int → Int → Int → Int → Int → Hp → Option (Hp)} (hk163 : ∀ (v0 : Nat) (v1 : Int) (v2 : Int) (v3 : Int) (v4 : Int) (v6 : Int) (h : Hp), Feo (wI_mGreet_says_b163 v0 v1 v2 v3 v4 v6 h) (wJ_mGreet_says_b163 v0 v1 v2 v3 v4 v6 h) h id (k163 v0 v1 v2 v3 v4 v6 h)) (v0 : Nat) (v1 : Int) (v2 : Int) (v3 : Int) (v4 : Int) (v6 : Int) (h : Hp) : Feo (wI_mGreet_says_b163 v0 v1 v2 v3 v4 v6 h) (wJ_mGreet_says_b163 v0 v1 v2 v3 v4 v6 h) h id (f_mGreet_says_b163 k163 v0 v1 v2 v3 v4 v6 h) := by
  unfold f_mGreet_says_b163
  refine fe_it ?_ ?_
  · exact fe_j Fe.rf (fe_mGreet_says_b194 _ _ _ _ _) (fun x k hx => by simp only [wI_mGreet_says_b194] at hx; rcases hx with e | e <;> first | exact Or.inr (Or.inl (e)) | exact Or.inr (Or.inr (Or.inr (e)))) (fun x k hx => False.elim hx)
  · refine fe_it ?_ ?_
    · exact fe_j Fe.rf (fe_mGreet_says_b194 _ _ _ _ _) (fun x k hx => by simp only [wI_mGreet_says_b194] at hx; rcases hx with e | e <;> first | exact Or.inr (Or.inl (e)) | exact Or.inr (Or.inr (Or.inr (e)))) (fun x k hx => False.elim hx)
    · refine fe_it fe_no ?_
      refine fe_it ?_ fe_no
      refine fe_b1 Fe.rf (fe_mGreet_send _ _ _ _) (fun x k hx => by simp only [wI_mGreet_send] at hx; rcases hx with e | e <;> first | exact Or.inl (e) | exact Or.inr (Or.inr (Or.inl (e)))) (fun x k hx => False.elim hx) (fun h18 F1 => ?_)
      exact fe_j F1 (hk163 _ _ _ _ _ _ _) (fun x k hx => by simp only [wI_mGreet_says_b163, F1.r] at hx; rcases hx with e | e | e | e <;> first | exact Or.inl (e) | exact Or.inr (Or.inl (e)) | exact Or.inr (Or.inr (Or.inl (e))) | exact Or.inr (Or.inr (Or.inr (e)))) (fun x k hx => False.elim hx)
theorem fe_mGreet_says_b163_lp (n : Nat) : ∀ (v0 : Nat) (v1 : Int) (v2 : Int) (v3 : Int) (v4 : Int) (v6 : Int) (h : Hp), Feo (wI_mGreet_says_b163 v0 v1 v2 v3 v4 v6 h) (wJ_mGreet_says_b163 v0 v1 v2 v3 v4 v6 h) h id (f_mGreet_says_b163_lp n v0 v1 v2 v3 v4 v6 h) := by
  induction n with
  | zero => intro v0 v1 v2 v3 v4 v6 h; exact fe_no
  | succ n ih => intro v0 v1 v2 v3 v4 v6 h; exact fe_mGreet_says_b163 ih v0 v1 v2 v3 v4 v6 h
theorem fe_mGreet_says_b160 (v0 : Nat) (v1 : Int) (v2 : Int) (v3 : Int) (v4 : Int) (h : Hp) : Feo (wI_mGreet_says_b160 v0 v1 v2 v3 v4 h) (wJ_mGreet_says_b160 v0 v1 v2 v3 v4 h) h id (f_mGreet_says_b160 v0 v1 v2 v3 v4 h) := by
  unfold f_mGreet_says_b160
  exact fe_j Fe.rf (fe_mGreet_says_b163_lp FU _ _ _ _ _ _ _) (fun x k hx => by simp only [wI_mGreet_says_b163] at hx; rcases hx with e | e | e | e <;> first | exact Or.inl (e) | exact Or.inr (Or.inl (e)) | exact Or.inr (Or.inr (Or.inl (e))) | exact Or.inr (Or.inr (Or.inr (e)))) (fun x k hx => False.elim hx)
theorem fe_mGreet_says_b122 {k122 : Nat → Int → Int → Int → Int → Int → Hp → Option (Hp)} (hk122 : ∀ (v0 : Nat) (v1 : Int) (v2 : Int) (v3 : Int) (v4 : Int) (v6 : Int) (h : Hp), Feo (wI_mGreet_says_b122 v0 v1 v2 v3 v4 v6 h) (wJ_mGreet_says_b122 v0 v1 v2 v3 v4 v6 h) h id (k122 v0 v1 v2 v3 v4 v6 h)) (v0 : Nat) (v1 : Int) (v2 : Int) (v3 : Int) (v4 : Int) (v6 : Int) (h : Hp) : Feo (wI_mGreet_says_b122 v0 v1 v2 v3 v4 v6 h) (wJ_mGreet_says_b122 v0 v1 v2 v3 v4 v6 h) h id (f_mGreet_says_b122 k122 v0 v1 v2 v3 v4 v6 h) := by
  unfold f_mGreet_says_b122
  refine fe_it ?_ ?_
  · exact fe_j Fe.rf (fe_mGreet_says_b160 _ _ _ _ _ _) (fun x k hx => by simp only [wI_mGreet_says_b160] at hx; rcases hx with e | e | e | e <;> first | exact Or.inl (e) | exact Or.inr (Or.inl (e)) | exact Or.inr (Or.inr (Or.inl (e))) | exact Or.inr (Or.inr (Or.inr (e)))) (fun x k hx => False.elim hx)
  · refine fe_it ?_ ?_
    · exact fe_j Fe.rf (fe_mGreet_says_b142 hk122 _ _ _ _ _ _ _) (fun x k hx => by simp only [wI_mGreet_says_b142] at hx; rcases hx with e | e | e | e <;> first | exact Or.inl (e) | exact Or.inr (Or.inl (e)) | exact Or.inr (Or.inr (Or.inl (e))) | exact Or.inr (Or.inr (Or.inr (e)))) (fun x k hx => False.elim hx)
    · refine fe_it ?_ ?_
      · exact fe_j Fe.rf (fe_mGreet_says_b160 _ _ _ _ _ _) (fun x k hx => by simp only [wI_mGreet_says_b160] at hx; rcases hx with e | e | e | e <;> first | exact Or.inl (e) | exact Or.inr (Or.inl (e)) | exact Or.inr (Or.inr (Or.inl (e))) | exact Or.inr (Or.inr (Or.inr (e)))) (fun x k hx => False.elim hx)
      · exact fe_j Fe.rf (fe_mGreet_says_b142 hk122 _ _ _ _ _ _ _) (fun x k hx => by simp only [wI_mGreet_says_b142] at hx; rcases hx with e | e | e | e <;> first | exact Or.inl (e) | exact Or.inr (Or.inl (e)) | exact Or.inr (Or.inr (Or.inl (e))) | exact Or.inr (Or.inr (Or.inr (e)))) (fun x k hx => False.elim hx)
theorem fe_mGreet_says_b122_lp (n : Nat) : ∀ (v0 : Nat) (v1 : Int) (v2 : Int) (v3 : Int) (v4 : Int) (v6 : Int) (h : Hp), Feo (wI_mGreet_says_b122 v0 v1 v2 v3 v4 v6 h) (wJ_mGreet_says_b122 v0 v1 v2 v3 v4 v6 h) h id (f_mGreet_says_b122_lp n v0 v1 v2 v3 v4 v6 h) := by
  induction n with
  | zero => intro v0 v1 v2 v3 v4 v6 h; exact fe_no
  | succ n ih => intro v0 v1 v2 v3 v4 v6 h; exact fe_mGreet_says_b122 ih v0 v1 v2 v3 v4 v6 h
theorem fe_mGreet_says_b119 (v0 : Nat) (v1 : Int) (v2 : Int) (v3 : Int) (v4 : Int) (h : Hp) : Feo (wI_mGreet_says_b119 v0 v1 v2 v3 v4 h) (wJ_mGreet_says_b119 v0 v1 v2 v3 v4 h) h id (f_mGreet_says_b119 v0 v1 v2 v3 v4 h) := by
  unfold f_mGreet_says_b119
  exact fe_j Fe.rf (fe_mGreet_says_b122_lp FU _ _ _ _ _ _ _) (fun x k hx => by simp only [wI_mGreet_says_b122] at hx; rcases hx with e | e | e | e <;> first | exact Or.inl (e) | exact Or.inr (Or.inl (e)) | exact Or.inr (Or.inr (Or.inl (e))) | exact Or.inr (Or.inr (Or.inr (e)))) (fun x k hx => False.elim hx)
theorem fe_mGreet_says_b88 {k88 : Nat → Int → Int → Int → Int → Int → Hp → Option (Hp)} (hk88 : ∀ (v0 : Nat) (v1 : Int) (v2 : Int) (v3 : Int) (v4 : Int) (v6 : Int) (h : Hp), Feo (wI_mGreet_says_b88 v0 v1 v2 v3 v4 v6 h) (wJ_mGreet_says_b88 v0 v1 v2 v3 v4 v6 h) h id (k88 v0 v1 v2 v3 v4 v6 h)) (v0 : Nat) (v1 : Int) (v2 : Int) (v3 : Int) (v4 : Int) (v6 : Int) (h : Hp) : Feo (wI_mGreet_says_b88 v0 v1 v2 v3 v4 v6 h) (wJ_mGreet_says_b88 v0 v1 v2 v3 v4 v6 h) h id (f_mGreet_says_b88 k88 v0 v1 v2 v3 v4 v6 h) := by
  unfold f_mGreet_says_b88
  refine fe_it ?_ ?_
  · exact fe_j Fe.rf (fe_mGreet_says_b119 _ _ _ _ _ _) (fun x k hx => by simp only [wI_mGreet_says_b119] at hx; rcases hx with e | e | e | e <;> first | exact Or.inl (e) | exact Or.inr (Or.inl (e)) | exact Or.inr (Or.inr (Or.inl (e))) | exact Or.inr (Or.inr (Or.inr (e)))) (fun x k hx => False.elim hx)
  · refine fe_it ?_ ?_
    · exact fe_j Fe.rf (fe_mGreet_says_b119 _ _ _ _ _ _) (fun x k hx => by simp only [wI_mGreet_says_b119] at hx; rcases hx with e | e | e | e <;> first | exact Or.inl (e) | exact Or.inr (Or.inl (e)) | exact Or.inr (Or.inr (Or.inl (e))) | exact Or.inr (Or.inr (Or.inr (e)))) (fun x k hx => False.elim hx)
    · refine fe_it fe_no ?_
      refine fe_it ?_ fe_no
      refine fe_b1 Fe.rf (fe_mGreet_send _ _ _ _) (fun x k hx => by simp only [wI_mGreet_send] at hx; rcases hx with e | e <;> first | exact Or.inl (e) | exact Or.inr (Or.inr (Or.inl (e)))) (fun x k hx => False.elim hx) (fun h14 F1 => ?_)
      exact fe_j F1 (hk88 _ _ _ _ _ _ _) (fun x k hx => by simp only [wI_mGreet_says_b88, F1.r] at hx; rcases hx with e | e | e | e <;> first | exact Or.inl (e) | exact Or.inr (Or.inl (e)) | exact Or.inr (Or.inr (Or.inl (e))) | exact Or.inr (Or.inr (Or.inr (e)))) (fun x k hx => False.elim hx)
theorem fe_mGreet_says_b88_lp (n : Nat) : ∀ (v0 : Nat) (v1 : Int) (v2 : Int) (v3 : Int) (v4 : Int) (v6 : Int) (h : Hp), Feo (wI_mGreet_says_b88 v0 v1 v2 v3 v4 v6 h) (wJ_mGreet_says_b88 v0 v1 v2 v3 v4 v6 h) h id (f_mGreet_says_b88_lp n v0 v1 v2 v3 v4 v6 h) := by
  induction n with
  | zero => intro v0 v1 v2 v3 v4 v6 h; exact fe_no
  | succ n ih => intro v0 v1 v2 v3 v4 v6 h; exact fe_mGreet_says_b88 ih v0 v1 v2 v3 v4 v6 h
theorem fe_mGreet_says_b50 (v0 : Nat) (v1 : Int) (v2 : Int) (v3 : Int) (v4 : Int) (s0 : Int) (h : Hp) : Feo (wI_mGreet_says_b50 v0 v1 v2 v3 v4 s0 h) (wJ_mGreet_says_b50 v0 v1 v2 v3 v4 s0 h) h id (f_mGreet_says_b50 v0 v1 v2 v3 v4 s0 h) := by
  unfold f_mGreet_says_b50
  refine fe_b1 Fe.rf (fe_mGreet_send _ _ _ _) (fun x k hx => by simp only [wI_mGreet_send] at hx; rcases hx with e | e <;> first | exact Or.inl (e) | exact Or.inr (Or.inr (Or.inl (e)))) (fun x k hx => False.elim hx) (fun h4 F1 => ?_)
  refine fe_b1 F1 (fe_mGreet_send _ _ _ _) (fun x k hx => by simp only [wI_mGreet_send, F1.r] at hx; rcases hx with e | e <;> first | exact Or.inl (e) | exact Or.inr (Or.inr (Or.inl (e)))) (fun x k hx => False.elim hx) (fun h6 F2 => ?_)
  refine fe_b1 F2 (fe_mGreet_send _ _ _ _) (fun x k hx => by simp only [wI_mGreet_send, F1.r, F2.r] at hx; rcases hx with e | e <;> first | exact Or.inl (e) | exact Or.inr (Or.inr (Or.inl (e)))) (fun x k hx => False.elim hx) (fun h8 F3 => ?_)
  refine fe_b1 F3 (fe_mGreet_send _ _ _ _) (fun x k hx => by simp only [wI_mGreet_send, F1.r, F2.r, F3.r] at hx; rcases hx with e | e <;> first | exact Or.inl (e) | exact Or.inr (Or.inr (Or.inl (e)))) (fun x k hx => False.elim hx) (fun h10 F4 => ?_)
  exact fe_j F4 (fe_mGreet_says_b88_lp FU _ _ _ _ _ _ _) (fun x k hx => by simp only [wI_mGreet_says_b88, F1.r, F2.r, F3.r, F4.r] at hx; rcases hx with e | e | e | e <;> first | exact Or.inl (e) | exact Or.inr (Or.inl (e)) | exact Or.inr (Or.inr (Or.inl (e))) | exact Or.inr (Or.inr (Or.inr (e)))) (fun x k hx => False.elim hx)
theorem fe_mGreet_says_b11 (v0 : Nat) (v1 : Int) (v2 : Int) (s0 : Int) (h : Hp) : Feo (wI_mGreet_says_b11 v0 v1 v2 s0 h) (wJ_mGreet_says_b11 v0 v1 v2 s0 h) h id (f_mGreet_says_b11 v0 v1 v2 s0 h) := by
  unfold f_mGreet_says_b11
  refine fe_it fe_no ?_
  refine fe_it ?_ fe_no
  refine fe_v (fun y3 => ?_)
  refine fe_it ?_ ?_
  · refine fe_it ?_ ?_
    · exact fe_j Fe.rf (fe_mGreet_says_b50 _ _ _ _ _ _ _) (fun x k hx => by simp only [wI_mGreet_says_b50] at hx; rcases hx with e | e | e | e <;> first | exact Or.inl (e) | exact Or.inr (Or.inl (e)) | exact Or.inr (Or.inr (Or.inl (e))) | exact Or.inr (Or.inr (Or.inr (e)))) (fun x k hx => False.elim hx)
    · exact fe_j Fe.rf (fe_mGreet_says_b50 _ _ _ _ _ _ _) (fun x k hx => by simp only [wI_mGreet_says_b50] at hx; rcases hx with e | e | e | e <;> first | exact Or.inl (e) | exact Or.inr (Or.inl (e)) | exact Or.inr (Or.inr (Or.inl (e))) | exact Or.inr (Or.inr (Or.inr (e)))) (fun x k hx => False.elim hx)
  · exact fe_j Fe.rf (fe_mGreet_says_b50 _ _ _ _ _ _ _) (fun x k hx => by simp only [wI_mGreet_says_b50] at hx; rcases hx with e | e | e | e <;> first | exact Or.inl (e) | exact Or.inr (Or.inl (e)) | exact Or.inr (Or.inr (Or.inl (e))) | exact Or.inr (Or.inr (Or.inr (e)))) (fun x k hx => False.elim hx)
theorem fe_mGreet_says (v0 : Nat) (v1 : Int) (v2 : Int) (h : Hp) : Feo (wI_mGreet_says v0 v1 v2 h) (wJ_mGreet_says v0 v1 v2 h) h id (f_mGreet_says v0 v1 v2 h) := by
  unfold f_mGreet_says
  refine fe_it ?_ ?_
  · exact fe_j Fe.rf (fe_mGreet_says_b11 _ _ _ _ _) (fun x k hx => by simp only [wI_mGreet_says_b11] at hx; rcases hx with e | e | e | e <;> first | exact Or.inl (e) | exact Or.inr (Or.inl (e)) | exact Or.inr (Or.inr (Or.inl (e))) | exact Or.inr (Or.inr (Or.inr (e)))) (fun x k hx => False.elim hx)
  · exact fe_j Fe.rf (fe_mGreet_says_b11 _ _ _ _ _) (fun x k hx => by simp only [wI_mGreet_says_b11] at hx; rcases hx with e | e | e | e <;> first | exact Or.inl (e) | exact Or.inr (Or.inl (e)) | exact Or.inr (Or.inr (Or.inl (e))) | exact Or.inr (Or.inr (Or.inr (e)))) (fun x k hx => False.elim hx)
def wI_mGreet_begin_b13 (v0 : Nat) (s0 : Nat) (s1 : Int) (h : Hp) (x k : Nat) : Prop := x = hR h v0 10 ∨ x = hR h v0 15 ∨ x = hR h v0 9 ∨ (x = s0 ∧ k = 6) ∨ (x = v0 ∧ k = 16)
def wJ_mGreet_begin_b13 (v0 : Nat) (s0 : Nat) (s1 : Int) (h : Hp) (x k : Nat) : Prop := False
def wI_mGreet_begin (v0 : Nat) (h : Hp) (x k : Nat) : Prop := x = hR h v0 10 ∨ x = hR h v0 15 ∨ x = hR h v0 9 ∨ (x = v0 ∧ k = 6) ∨ (x = v0 ∧ k = 16)
def wJ_mGreet_begin (v0 : Nat) (h : Hp) (x k : Nat) : Prop := False
theorem fe_mGreet_begin_b13 (v0 : Nat) (s0 : Nat) (s1 : Int) (h : Hp) : Feo (wI_mGreet_begin_b13 v0 s0 s1 h) (wJ_mGreet_begin_b13 v0 s0 s1 h) h id (f_mGreet_begin_b13 v0 s0 s1 h) := by
  unfold f_mGreet_begin_b13
  refine fe_it fe_no ?_
  refine fe_I Fe.rf (Or.inr (Or.inr (Or.inr (Or.inl (⟨rfl, rfl⟩))))) (fun h2 F1 => ?_)
  refine fe_it ?_ ?_
  · exact fe_so F1
  · refine fe_b1 F1 (fe_mGreet_says _ _ _ _) (fun x k hx => by simp only [wI_mGreet_says, F1.r] at hx; rcases hx with e | e | e | e <;> first | exact Or.inl (e) | exact Or.inr (Or.inl (e)) | exact Or.inr (Or.inr (Or.inl (e))) | exact Or.inr (Or.inr (Or.inr (Or.inr (e))))) (fun x k hx => False.elim hx) (fun h3 F2 => ?_)
    exact fe_so F2
theorem fe_mGreet_begin (v0 : Nat) (h : Hp) : Feo (wI_mGreet_begin v0 h) (wJ_mGreet_begin v0 h) h id (f_mGreet_begin v0 h) := by
  unfold f_mGreet_begin
  refine fe_it ?_ ?_
  · exact fe_j Fe.rf (fe_mGreet_begin_b13 _ _ _ _) (fun x k hx => by simp only [wI_mGreet_begin_b13] at hx; rcases hx with e | e | e | e | e <;> first | exact Or.inl (e) | exact Or.inr (Or.inl (e)) | exact Or.inr (Or.inr (Or.inl (e))) | exact Or.inr (Or.inr (Or.inr (Or.inl (e)))) | exact Or.inr (Or.inr (Or.inr (Or.inr (e))))) (fun x k hx => False.elim hx)
  · exact fe_j Fe.rf (fe_mGreet_begin_b13 _ _ _ _) (fun x k hx => by simp only [wI_mGreet_begin_b13] at hx; rcases hx with e | e | e | e | e <;> first | exact Or.inl (e) | exact Or.inr (Or.inl (e)) | exact Or.inr (Or.inr (Or.inl (e))) | exact Or.inr (Or.inr (Or.inr (Or.inl (e)))) | exact Or.inr (Or.inr (Or.inr (Or.inr (e))))) (fun x k hx => False.elim hx)
def wI_mSide_begin_b157 (v0 : Nat) (v3 : Int) (h : Hp) (x k : Nat) : Prop := x = hR h v0 13
def wJ_mSide_begin_b157 (v0 : Nat) (v3 : Int) (h : Hp) (x k : Nat) : Prop := False
def wI_mSide_begin_b95 (v0 : Nat) (h : Hp) (x k : Nat) : Prop := x = (hR h (hR h v0 1) 9) ∨ (x = (hR h v0 1) ∧ k = 11) ∨ (x = (hR h v0 1) ∧ k = 13) ∨ x = (hR h v0 18) ∨ (x = (hR h v0 3) ∧ k = 6) ∨ (x = (hR h v0 3) ∧ k = 16) ∨ x = hR h (hR h v0 1) 10 ∨ x = hR h (hR h v0 1) 12 ∨ x = hR h (hR h v0 1) 14 ∨ x = hR h (hR h v0 1) 4 ∨ x = hR h (hR h v0 1) 8 ∨ x = hR h (hR h v0 3) 10 ∨ x = hR h (hR h v0 3) 15 ∨ x = hR h (hR h v0 3) 4 ∨ x = hR h (hR h v0 3) 9 ∨ x = hR h v0 13 ∨ x = hR h v0 19 ∨ (x = hR h v0 3 ∧ k = 5) ∨ (x = hR h v0 4 ∧ k = 2) ∨ (x = v0 ∧ k = 8) ∨ (x = v0 ∧ k = 14) ∨ (x = v0 ∧ k = 40) ∨ (x = v0 ∧ k = 41)
def wJ_mSide_begin_b95 (v0 : Nat) (h : Hp) (x k : Nat) : Prop := x = hR h (hR h v0 1) 5 ∨ x = hR h (hR h v0 1) 6 ∨ x = hR h (hR h v0 1) 7
def wI_mSide_begin_b50 (v0 : Nat) (v3 : Int) (h : Hp) (x k : Nat) : Prop := x = (hR h (hR h v0 1) 9) ∨ (x = (hR h v0 1) ∧ k = 11) ∨ (x = (hR h v0 1) ∧ k = 13) ∨ x = (hR h v0 18) ∨ (x = (hR h v0 3) ∧ k = 6) ∨ (x = (hR h v0 3) ∧ k = 16) ∨ x = hR h (hR h v0 1) 10 ∨ x = hR h (hR h v0 1) 12 ∨ x = hR h (hR h v0 1) 14 ∨ x = hR h (hR h v0 1) 4 ∨ x = hR h (hR h v0 1) 8 ∨ x = hR h (hR h v0 3) 10 ∨ x = hR h (hR h v0 3) 15 ∨ x = hR h (hR h v0 3) 17 ∨ x = hR h (hR h v0 3) 4 ∨ x = hR h (hR h v0 3) 9 ∨ x = hR h v0 13 ∨ x = hR h v0 19 ∨ (x = hR h v0 3 ∧ k = 5) ∨ (x = hR h v0 3 ∧ k = 18) ∨ (x = hR h v0 4 ∧ k = 2) ∨ (x = v0 ∧ k = 8) ∨ (x = v0 ∧ k = 14) ∨ (x = v0 ∧ k = 40) ∨ (x = v0 ∧ k = 41)
def wJ_mSide_begin_b50 (v0 : Nat) (v3 : Int) (h : Hp) (x k : Nat) : Prop := x = hR h (hR h v0 1) 5 ∨ x = hR h (hR h v0 1) 6 ∨ x = hR h (hR h v0 1) 7
def wI_mSide_begin_b2 (v0 : Nat) (v1 : Nat) (v2 : Int) (v3 : Int) (h : Hp) (x k : Nat) : Prop := x = (hR h (hR h (hR h v0 3) 1) 9) ∨ x = (hR h (hR h v0 1) 9) ∨ (x = (hR h (hR h v0 3) 1) ∧ k = 11) ∨ (x = (hR h (hR h v0 3) 1) ∧ k = 13) ∨ x = (hR h (hR h v0 3) 22) ∨ (x = (hR h v0 1) ∧ k = 11) ∨ (x = (hR h v0 1) ∧ k = 13) ∨ x = (hR h v0 18) ∨ x = (hR h v0 20) ∨ (x = (hR h v0 3) ∧ k = 6) ∨ (x = (hR h v0 3) ∧ k = 16) ∨ x = hR h (hR h (hR h v0 3) 1) 10 ∨ x = hR h (hR h (hR h v0 3) 1) 12 ∨ x = hR h (hR h (hR h v0 3) 1) 14 ∨ x = hR h (hR h (hR h v0 3) 1) 4 ∨ x = hR h (hR h (hR h v0 3) 1) 8 ∨ x = hR h (hR h v0 1) 10 ∨ x = hR h (hR h v0 1) 12 ∨ x = hR h (hR h v0 1) 14 ∨ x = hR h (hR h v0 1) 4 ∨ x = hR h (hR h v0 1) 8 ∨ x = hR h (hR h v0 3) 10 ∨ x = hR h (hR h v0 3) 15 ∨ x = hR h (hR h v0 3) 17 ∨ x = hR h (hR h v0 3) 21 ∨ x = hR h (hR h v0 3) 4 ∨ x = hR h (hR h v0 3) 9 ∨ x = hR h v0 13 ∨ x = hR h v0 16 ∨ x = hR h v0 19 ∨ (x = hR h v0 3 ∧ k = 5) ∨ (x = hR h v0 3 ∧ k = 18) ∨ (x = hR h v0 4 ∧ k = 2) ∨ (x = v0 ∧ k = 8) ∨ (x = v0 ∧ k = 14) ∨ (x = v0 ∧ k = 17) ∨ (x = v0 ∧ k = 40) ∨ (x = v0 ∧ k = 41)
def wJ_mSide_begin_b2 (v0 : Nat) (v1 : Nat) (v2 : Int) (v3 : Int) (h : Hp) (x k : Nat) : Prop := x = hR h (hR h (hR h v0 3) 1) 5 ∨ x = hR h (hR h (hR h v0 3) 1) 6 ∨ x = hR h (hR h (hR h v0 3) 1) 7 ∨ x = hR h (hR h v0 1) 5 ∨ x = hR h (hR h v0 1) 6 ∨ x = hR h (hR h v0 1) 7
def wI_mSide_begin (v0 : Nat) (v1 : Nat) (v2 : Int) (h : Hp) (x k : Nat) : Prop := x = (hR h (hR h (hR h v0 3) 1) 9) ∨ x = (hR h (hR h v0 1) 9) ∨ (x = (hR h (hR h v0 3) 1) ∧ k = 11) ∨ (x = (hR h (hR h v0 3) 1) ∧ k = 13) ∨ x = (hR h (hR h v0 3) 22) ∨ (x = (hR h v0 1) ∧ k = 11) ∨ (x = (hR h v0 1) ∧ k = 13) ∨ x = (hR h v0 18) ∨ x = (hR h v0 20) ∨ (x = (hR h v0 3) ∧ k = 6) ∨ (x = (hR h v0 3) ∧ k = 16) ∨ x = hR h (hR h (hR h v0 3) 1) 10 ∨ x = hR h (hR h (hR h v0 3) 1) 12 ∨ x = hR h (hR h (hR h v0 3) 1) 14 ∨ x = hR h (hR h (hR h v0 3) 1) 4 ∨ x = hR h (hR h (hR h v0 3) 1) 8 ∨ x = hR h (hR h v0 1) 10 ∨ x = hR h (hR h v0 1) 12 ∨ x = hR h (hR h v0 1) 14 ∨ x = hR h (hR h v0 1) 4 ∨ x = hR h (hR h v0 1) 8 ∨ x = hR h (hR h v0 3) 10 ∨ x = hR h (hR h v0 3) 15 ∨ x = hR h (hR h v0 3) 17 ∨ x = hR h (hR h v0 3) 21 ∨ x = hR h (hR h v0 3) 4 ∨ x = hR h (hR h v0 3) 9 ∨ x = hR h v0 13 ∨ x = hR h v0 16 ∨ x = hR h v0 19 ∨ (x = hR h v0 3 ∧ k = 5) ∨ (x = hR h v0 3 ∧ k = 18) ∨ (x = hR h v0 4 ∧ k = 2) ∨ (x = v0 ∧ k = 8) ∨ (x = v0 ∧ k = 14) ∨ (x = v0 ∧ k = 17) ∨ (x = v0 ∧ k = 40) ∨ (x = v0 ∧ k = 41)
def wJ_mSide_begin (v0 : Nat) (v1 : Nat) (v2 : Int) (h : Hp) (x k : Nat) : Prop := x = hR h (hR h (hR h v0 3) 1) 5 ∨ x = hR h (hR h (hR h v0 3) 1) 6 ∨ x = hR h (hR h (hR h v0 3) 1) 7 ∨ x = hR h (hR h v0 1) 5 ∨ x = hR h (hR h v0 1) 6 ∨ x = hR h (hR h v0 1) 7
theorem fe_mSide_begin_b157 {k157 : Nat → Int → Hp → Option (Hp)} (hk157 : ∀ (v0 : Nat) (v3 : Int) (h : Hp), Feo (wI_mSide_begin_b157 v0 v3 h) (wJ_mSide_begin_b157 v0 v3 h) h id (k157 v0 v3 h)) (v0 : Nat) (v3 : Int) (h : Hp) : Feo (wI_mSide_begin_b157 v0 v3 h) (wJ_mSide_begin_b157 v0 v3 h) h id (f_mSide_begin_b157 k157 v0 v3 h) := by
  unfold f_mSide_begin_b157
  refine fe_it ?_ ?_
  · exact fe_so Fe.rf
  · refine fe_it fe_no ?_
    refine fe_it ?_ fe_no
    refine fe_it fe_no ?_
    refine fe_it ?_ fe_no
    refine fe_I Fe.rf (rfl) (fun h36 F1 => ?_)
    exact fe_j F1 (hk157 _ _ _) (fun x k hx => by simp only [wI_mSide_begin_b157, F1.r] at hx; have e := hx; exact e) (fun x k hx => False.elim hx)
theorem fe_mSide_begin_b157_lp (n : Nat) : ∀ (v0 : Nat) (v3 : Int) (h : Hp), Feo (wI_mSide_begin_b157 v0 v3 h) (wJ_mSide_begin_b157 v0 v3 h) h id (f_mSide_begin_b157_lp n v0 v3 h) := by
  induction n with
  | zero => intro v0 v3 h; exact fe_no
  | succ n ih => intro v0 v3 h; exact fe_mSide_begin_b157 ih v0 v3 h
theorem fe_mSide_begin_b95 (v0 : Nat) (h : Hp) : Feo (wI_mSide_begin_b95 v0 h) (wJ_mSide_begin_b95 v0 h) h id (f_mSide_begin_b95 v0 h) := by
  unfold f_mSide_begin_b95
  refine fe_b1 Fe.rf (fe_mSide_arm _ _ _) (fun x k hx => by simp only [wI_mSide_arm] at hx; rcases hx with e | e | e | e | e | e | e | e | e | e <;> first | exact Or.inl (e) | exact Or.inr (Or.inl (e)) | exact Or.inr (Or.inr (Or.inl (e))) | exact Or.inr (Or.inr (Or.inr (Or.inl (e)))) | exact Or.inr (Or.inr (Or.inr (Or.inr (Or.inr (Or.inr (Or.inl (e))))))) | exact Or.inr (Or.inr (Or.inr (Or.inr (Or.inr (Or.inr (Or.inr (Or.inl (e)))))))) | exact Or.inr (Or.inr (Or.inr (Or.inr (Or.inr (Or.inr (Or.inr (Or.inr (Or.inl (e))))))))) | exact Or.inr (Or.inr (Or.inr (Or.inr (Or.inr (Or.inr (Or.inr (Or.inr (Or.inr (Or.inl (e)))))))))) | exact Or.inr (Or.inr (Or.inr (Or.inr (Or.inr (Or.inr (Or.inr (Or.inr (Or.inr (Or.inr (Or.inl (e))))))))))) | exact Or.inr (Or.inr (Or.inr (Or.inr (Or.inr (Or.inr (Or.inr (Or.inr (Or.inr (Or.inr (Or.inr (Or.inr (Or.inr (Or.inr (Or.inr (Or.inr (Or.inl (e)))))))))))))))))) (fun x k hx => by simp only [wJ_mSide_arm] at hx; rcases hx with e | e | e <;> first | exact Or.inl (e) | exact Or.inr (Or.inl (e)) | exact Or.inr (Or.inr (e))) (fun h18 F1 => ?_)
  refine fe_b1 F1 (fe_mSide_makeParameters _ _) (fun x k hx => by simp only [wI_mSide_makeParameters, F1.r] at hx; rcases hx with e | e <;> first | exact Or.inr (Or.inr (Or.inr (Or.inr (Or.inr (Or.inr (Or.inr (Or.inr (Or.inr (Or.inr (Or.inr (Or.inr (Or.inr (Or.inl (e)))))))))))))) | exact Or.inr (Or.inr (Or.inr (Or.inr (Or.inr (Or.inr (Or.inr (Or.inr (Or.inr (Or.inr (Or.inr (Or.inr (Or.inr (Or.inr (Or.inr (Or.inr (Or.inr (Or.inl (e))))))))))))))))))) (fun x k hx => False.elim hx) (fun h20 F2 => ?_)
  refine fe_it fe_no ?_
  refine fe_b1 F2 (fe_mGreet_begin _ _) (fun x k hx => by simp only [wI_mGreet_begin, F1.r, F2.r] at hx; rcases hx with e | e | e | e | e <;> first | exact Or.inr (Or.inr (Or.inr (Or.inr (Or.inl (e))))) | exact Or.inr (Or.inr (Or.inr (Or.inr (Or.inr (Or.inl (e)))))) | exact Or.inr (Or.inr (Or.inr (Or.inr (Or.inr (Or.inr (Or.inr (Or.inr (Or.inr (Or.inr (Or.inr (Or.inl (e)))))))))))) | exact Or.inr (Or.inr (Or.inr (Or.inr (Or.inr (Or.inr (Or.inr (Or.inr (Or.inr (Or.inr (Or.inr (Or.inr (Or.inl (e))))))))))))) | exact Or.inr (Or.inr (Or.inr (Or.inr (Or.inr (Or.inr (Or.inr (Or.inr (Or.inr (Or.inr (Or.inr (Or.inr (Or.inr (Or.inr (Or.inl (e)))))))))))))))) (fun x k hx => False.elim hx) (fun h23 F3 => ?_)
  refine fe_I F3 (Or.inr (Or.inr (Or.inr (Or.inr (Or.inr (Or.inr (Or.inr (Or.inr (Or.inr (Or.inr (Or.inr (Or.inr (Or.inr (Or.inr (Or.inr (Or.inr (Or.inr (Or.inr (Or.inr (Or.inl (⟨rfl, rfl⟩))))))))))))))))))))) (fun h25 F4 => ?_)
  refine fe_it fe_no ?_
  refine fe_I F4 (Or.inr (Or.inr (Or.inr (Or.inr (Or.inr (Or.inr (Or.inr (Or.inr (Or.inr (Or.inr (Or.inr (Or.inr (Or.inr (Or.inr (Or.inr (Or.inr (Or.inr (Or.inr (Or.inr (Or.inr (Or.inr (Or.inl (⟨rfl, rfl⟩))))))))))))))))))))))) (fun h27 F5 => ?_)
  refine fe_I F5 (Or.inr (Or.inr (Or.inr (Or.inr (Or.inr (Or.inr (Or.inr (Or.inr (Or.inr (Or.inr (Or.inr (Or.inr (Or.inr (Or.inr (Or.inr (Or.inr (Or.inr (Or.inr (Or.inr (Or.inr (Or.inr (Or.inr (⟨rfl, rfl⟩))))))))))))))))))))))) (fun h28 F6 => ?_)
  refine fe_it ?_ ?_
  · refine fe_it fe_no ?_
    refine fe_I F6 (Or.inr (Or.inr (Or.inr (Or.inr (Or.inr (Or.inr (Or.inr (Or.inr (Or.inr (Or.inr (Or.inr (Or.inr (Or.inr (Or.inr (Or.inr (Or.inr (Or.inr (Or.inr (Or.inl (⟨(by first | (simp only [F1.r, F2.r, F3.r, F4.r, F5.r, F6.r]; exact rfl) | simp only [F1.r, F2.r, F3.r, F4.r, F5.r, F6.r]), rfl⟩)))))))))))))))))))) (fun h30 F7 => ?_)
    refine fe_I F7 (Or.inr (Or.inr (Or.inr (Or.inr (Or.inr (Or.inr (Or.inr (Or.inr (Or.inr (Or.inr (Or.inr (Or.inr (Or.inr (Or.inr (Or.inr (Or.inr (Or.inr (Or.inr (Or.inr (Or.inr (Or.inl (⟨rfl, rfl⟩)))))))))))))))))))))) (fun h31 F8 => ?_)
    exact fe_j F8 (fe_mSide_begin_b157_lp FU _ _ _) (fun x k hx => by simp only [wI_mSide_begin_b157, F1.r, F2.r, F3.r, F4.r, F5.r, F6.r, F7.r, F8.r] at hx; have e := hx; exact Or.inr (Or.inr (Or.inr (Or.inr (Or.inr (Or.inr (Or.inr (Or.inr (Or.inr (Or.inr (Or.inr (Or.inr (Or.inr (Or.inr (Or.inr (Or.inl (e))))))))))))))))) (fun x k hx => False.elim hx)
  · exact fe_so F6
theorem fe_mSide_begin_b50 {k50 : Nat → Int → Hp → Option (Hp)} (hk50 : ∀ (v0 : Nat) (v3 : Int) (h : Hp), Feo (wI_mSide_begin_b50 v0 v3 h) (wJ_mSide_begin_b50 v0 v3 h) h id (k50 v0 v3 h)) (v0 : Nat) (v3 : Int) (h : Hp) : Feo (wI_mSide_begin_b50 v0 v3 h) (wJ_mSide_begin_b50 v0 v3 h) h id (f_mSide_begin_b50 k50 v0 v3 h) := by
  unfold f_mSide_begin_b50
  refine fe_it ?_ ?_
  · refine fe_it fe_no ?_
    refine fe_it ?_ ?_
    · exact fe_j Fe.rf (fe_mSide_begin_b95 _ _) (fun x k hx => by simp only [wI_mSide_begin_b95] at hx; rcases hx with e | e | e | e | e | e | e | e | e | e | e | e | e | e | e | e | e | e | e | e | e | e | e <;> first | exact Or.inl (e) | exact Or.inr (Or.inl (e)) | exact Or.inr (Or.inr (Or.inl (e))) | exact Or.inr (Or.inr (Or.inr (Or.inl (e)))) | exact Or.inr (Or.inr (Or.inr (Or.inr (Or.inl (e))))) | exact Or.inr (Or.inr (Or.inr (Or.inr (Or.inr (Or.inl (e)))))) | exact Or.inr (Or.inr (Or.inr (Or.inr (Or.inr (Or.inr (Or.inl (e))))))) | exact Or.inr (Or.inr (Or.inr (Or.inr (Or.inr (Or.inr (Or.inr (Or.inl (e)))))))) | exact Or.inr (Or.inr (Or.inr (Or.inr (Or.inr (Or.inr (Or.inr (Or.inr (Or.inl (e))))))))) | exact Or.inr (Or.inr (Or.inr (Or.inr (Or.inr (Or.inr (Or.inr (Or.inr (Or.inr (Or.inl (e)))))))))) | exact Or.inr (Or.inr (Or.inr (Or.inr (Or.inr (Or.inr (Or.inr (Or.inr (Or.inr (Or.inr (Or.inl (e))))))))))) | exact Or.inr (Or.inr (Or.inr (Or.inr (Or.inr (Or.inr (Or.inr (Or.inr (Or.inr (Or.inr (Or.inr (Or.inl (e)))))))))))) | exact Or.inr (Or.inr (Or.inr (Or.inr (Or.inr (Or.inr (Or.inr (Or.inr (Or.inr (Or.inr (Or.inr (Or.inr (Or.inl (e))))))))))))) | exact Or.inr (Or.inr (Or.inr (Or.inr (Or.inr (Or.inr (Or.inr (Or.inr (Or.inr (Or.inr (Or.inr (Or.inr (Or.inr (Or.inr (Or.inl (e))))))))))))))) | exact Or.inr (Or.inr (Or.inr (Or.inr (Or.inr (Or.inr (Or.inr (Or.inr (Or.inr (Or.inr (Or.inr (Or.inr (Or.inr (Or.inr (Or.inr (Or.inl (e)))))))))))))))) | exact Or.inr (Or.inr (Or.inr (Or.inr (Or.inr (Or.inr (Or.inr (Or.inr (Or.inr (Or.inr (Or.inr (Or.inr (Or.inr (Or.inr (Or.inr (Or.inr (Or.inl (e))))))))))))))))) | exact Or.inr (Or.inr (Or.inr (Or.inr (Or.inr (Or.inr (Or.inr (Or.inr (Or.inr (Or.inr (Or.inr (Or.inr (Or.inr (Or.inr (Or.inr (Or.inr (Or.inr (Or.inl (e)))))))))))))))))) | exact Or.inr (Or.inr (Or.inr (Or.inr (Or.inr (Or.inr (Or.inr (Or.inr (Or.inr (Or.inr (Or.inr (Or.inr (Or.inr (Or.inr (Or.inr (Or.inr (Or.inr (Or.inr (Or.inl (e))))))))))))))))))) | exact Or.inr (Or.inr (Or.inr (Or.inr (Or.inr (Or.inr (Or.inr (Or.inr (Or.inr (Or.inr (Or.inr (Or.inr (Or.inr (Or.inr (Or.inr (Or.inr (Or.inr (Or.inr (Or.inr (Or.inr (Or.inl (e))))))))))))))))))))) | exact Or.inr (Or.inr (Or.inr (Or.inr (Or.inr (Or.inr (Or.inr (Or.inr (Or.inr (Or.inr (Or.inr (Or.inr (Or.inr (Or.inr (Or.inr (Or.inr (Or.inr (Or.inr (Or.inr (Or.inr (Or.inr (Or.inl (e)))))))))))))))))))))) | exact Or.inr (Or.inr (Or.inr (Or.inr (Or.inr (Or.inr (Or.inr (Or.inr (Or.inr (Or.inr (Or.inr (Or.inr (Or.inr (Or.inr (Or.inr (Or.inr (Or.inr (Or.inr (Or.inr (Or.inr (Or.inr (Or.inr (Or.inl (e))))))))))))))))))))))) | exact Or.inr (Or.inr (Or.inr (Or.inr (Or.inr (Or.inr (Or.inr (Or.inr (Or.inr (Or.inr (Or.inr (Or.inr (Or.inr (Or.inr (Or.inr (Or.inr (Or.inr (Or.inr (Or.inr (Or.inr (Or.inr (Or.inr (Or.inr (Or.inl (e)))))))))))))))))))))))) | exact Or.inr (Or.inr (Or.inr (Or.inr (Or.inr (Or.inr (Or.inr (Or.inr (Or.inr (Or.inr (Or.inr (Or.inr (Or.inr (Or.inr (Or.inr (Or.inr (Or.inr (Or.inr (Or.inr (Or.inr (Or.inr (Or.inr (Or.inr (Or.inr (e))))))))))))))))))))))))) (fun x k hx => by simp only [wJ_mSide_begin_b95] at hx; rcases hx with e | e | e <;> first | exact Or.inl (e) | exact Or.inr (Or.inl (e)) | exact Or.inr (Or.inr (e)))
    · refine fe_I Fe.rf (Or.inr (Or.inr (Or.inr (Or.inr (Or.inr (Or.inr (Or.inr (Or.inr (Or.inr (Or.inr (Or.inr (Or.inr (Or.inr (Or.inr (Or.inr (Or.inr (Or.inr (Or.inr (Or.inr (Or.inl (⟨rfl, rfl⟩))))))))))))))))))))) (fun h11 F1 => ?_)
      exact fe_j F1 (fe_mSide_begin_b95 _ _) (fun x k hx => by simp only [wI_mSide_begin_b95, F1.r] at hx; rcases hx with e | e | e | e | e | e | e | e | e | e | e | e | e | e | e | e | e | e | e | e | e | e | e <;> first | exact Or.inl (e) | exact Or.inr (Or.inl (e)) | exact Or.inr (Or.inr (Or.inl (e))) | exact Or.inr (Or.inr (Or.inr (Or.inl (e)))) | exact Or.inr (Or.inr (Or.inr (Or.inr (Or.inl (e))))) | exact Or.inr (Or.inr (Or.inr (Or.inr (Or.inr (Or.inl (e)))))) | exact Or.inr (Or.inr (Or.inr (Or.inr (Or.inr (Or.inr (Or.inl (e))))))) | exact Or.inr (Or.inr (Or.inr (Or.inr (Or.inr (Or.inr (Or.inr (Or.inl (e)))))))) | exact Or.inr (Or.inr (Or.inr (Or.inr (Or.inr (Or.inr (Or.inr (Or.inr (Or.inl (e))))))))) | exact Or.inr (Or.inr (Or.inr (Or.inr (Or.inr (Or.inr (Or.inr (Or.inr (Or.inr (Or.inl (e)))))))))) | exact Or.inr (Or.inr (Or.inr (Or.inr (Or.inr (Or.inr (Or.inr (Or.inr (Or.inr (Or.inr (Or.inl (e))))))))))) | exact Or.inr (Or.inr (Or.inr (Or.inr (Or.inr (Or.inr (Or.inr (Or.inr (Or.inr (Or.inr (Or.inr (Or.inl (e)))))))))))) | exact Or.inr (Or.inr (Or.inr (Or.inr (Or.inr (Or.inr (Or.inr (Or.inr (Or.inr (Or.inr (Or.inr (Or.inr (Or.inl (e))))))))))))) | exact Or.inr (Or.inr (Or.inr (Or.inr (Or.inr (Or.inr (Or.inr (Or.inr (Or.inr (Or.inr (Or.inr (Or.inr (Or.inr (Or.inr (Or.inl (e))))))))))))))) | exact Or.inr (Or.inr (Or.inr (Or.inr (Or.inr (Or.inr (Or.inr (Or.inr (Or.inr (Or.inr (Or.inr (Or.inr (Or.inr (Or.inr (Or.inr (Or.inl (e)))))))))))))))) | exact Or.inr (Or.inr (Or.inr (Or.inr (Or.inr (Or.inr (Or.inr (Or.inr (Or.inr (Or.inr (Or.inr (Or.inr (Or.inr (Or.inr (Or.inr (Or.inr (Or.inl (e))))))))))))))))) | exact Or.inr (Or.inr (Or.inr (Or.inr (Or.inr (Or.inr (Or.inr (Or.inr (Or.inr (Or.inr (Or.inr (Or.inr (Or.inr (Or.inr (Or.inr (Or.inr (Or.inr (Or.inl (e)))))))))))))))))) | exact Or.inr (Or.inr (Or.inr (Or.inr (Or.inr (Or.inr (Or.inr (Or.inr (Or.inr (Or.inr (Or.inr (Or.inr (Or.inr (Or.inr (Or.inr (Or.inr (Or.inr (Or.inr (Or.inl (e))))))))))))))))))) | exact Or.inr (Or.inr (Or.inr (Or.inr (Or.inr (Or.inr (Or.inr (Or.inr (Or.inr (Or.inr (Or.inr (Or.inr (Or.inr (Or.inr (Or.inr (Or.inr (Or.inr (Or.inr (Or.inr (Or.inr (Or.inl (e))))))))))))))))))))) | exact Or.inr (Or.inr (Or.inr (Or.inr (Or.inr (Or.inr (Or.inr (Or.inr (Or.inr (Or.inr (Or.inr (Or.inr (Or.inr (Or.inr (Or.inr (Or.inr (Or.inr (Or.inr (Or.inr (Or.inr (Or.inr (Or.inl (e)))))))))))))))))))))) | exact Or.inr (Or.inr (Or.inr (Or.inr (Or.inr (Or.inr (Or.inr (Or.inr (Or.inr (Or.inr (Or.inr (Or.inr (Or.inr (Or.inr (Or.inr (Or.inr (Or.inr (Or.inr (Or.inr (Or.inr (Or.inr (Or.inr (Or.inl (e))))))))))))))))))))))) | exact Or.inr (Or.inr (Or.inr (Or.inr (Or.inr (Or.inr (Or.inr (Or.inr (Or.inr (Or.inr (Or.inr (Or.inr (Or.inr (Or.inr (Or.inr (Or.inr (Or.inr (Or.inr (Or.inr (Or.inr (Or.inr (Or.inr (Or.inr (Or.inl (e)))))))))))))))))))))))) | exact Or.inr (Or.inr (Or.inr (Or.inr (Or.inr (Or.inr (Or.inr (Or.inr (Or.inr (Or.inr (Or.inr (Or.inr (Or.inr (Or.inr (Or.inr (Or.inr (Or.inr (Or.inr (Or.inr (Or.inr (Or.inr (Or.inr (Or.inr (Or.inr (e))))))))))))))))))))))))) (fun x k hx => by simp only [wJ_mSide_begin_b95, F1.r] at hx; rcases hx with e | e | e <;> first | exact Or.inl (e) | exact Or.inr (Or.inl (e)) | exact Or.inr (Or.inr (e)))
  · refine fe_it fe_no ?_
    refine fe_it fe_no ?_
    refine fe_it ?_ fe_no
    refine fe_it fe_no ?_
    refine fe_it ?_ fe_no
    refine fe_I Fe.rf (Or.inr (Or.inr (Or.inr (Or.inr (Or.inr (Or.inr (Or.inr (Or.inr (Or.inr (Or.inr (Or.inr (Or.inr (Or.inr (Or.inl (rfl))))))))))))))) (fun h17 F2 => ?_)
    exact fe_j F2 (hk50 _ _ _) (fun x k hx => by simp only [wI_mSide_begin_b50, F2.r] at hx; rcases hx with e | e | e | e | e | e | e | e | e | e | e | e | e | e | e | e | e | e | e | e | e | e | e | e | e <;> first | exact Or.inl (e) | exact Or.inr (Or.inl (e)) | exact Or.inr (Or.inr (Or.inl (e))) | exact Or.inr (Or.inr (Or.inr (Or.inl (e)))) | exact Or.inr (Or.inr (Or.inr (Or.inr (Or.inl (e))))) | exact Or.inr (Or.inr (Or.inr (Or.inr (Or.inr (Or.inl (e)))))) | exact Or.inr (Or.inr (Or.inr (Or.inr (Or.inr (Or.inr (Or.inl (e))))))) | exact Or.inr (Or.inr (Or.inr (Or.inr (Or.inr (Or.inr (Or.inr (Or.inl (e)))))))) | exact Or.inr (Or.inr (Or.inr (Or.inr (Or.inr (Or.inr (Or.inr (Or.inr (Or.inl (e))))))))) | exact Or.inr (Or.inr (Or.inr (Or.inr (Or.inr (Or.inr (Or.inr (Or.inr (Or.inr (Or.inl (e)))))))))) | exact Or.inr (Or.inr (Or.inr (Or.inr (Or.inr (Or.inr (Or.inr (Or.inr (Or.inr (Or.inr (Or.inl (e))))))))))) | exact Or.inr (Or.inr (Or.inr (Or.inr (Or.inr (Or.inr (Or.inr (Or.inr (Or.inr (Or.inr (Or.inr (Or.inl (e)))))))))))) | exact Or.inr (Or.inr (Or.inr (Or.inr (Or.inr (Or.inr (Or.inr (Or.inr (Or.inr (Or.inr (Or.inr (Or.inr (Or.inl (e))))))))))))) | exact Or.inr (Or.inr (Or.inr (Or.inr (Or.inr (Or.inr (Or.inr (Or.inr (Or.inr (Or.inr (Or.inr (Or.inr (Or.inr (Or.inl (e)))))))))))))) | exact Or.inr (Or.inr (Or.inr (Or.inr (Or.inr (Or.inr (Or.inr (Or.inr (Or.inr (Or.inr (Or.inr (Or.inr (Or.inr (Or.inr (Or.inl (e))))))))))))))) | exact Or.inr (Or.inr (Or.inr (Or.inr (Or.inr (Or.inr (Or.inr (Or.inr (Or.inr (Or.inr (Or.inr (Or.inr (Or.inr (Or.inr (Or.inr (Or.inl (e)))))))))))))))) | exact Or.inr (Or.inr (Or.inr (Or.inr (Or.inr (Or.inr (Or.inr (Or.inr (Or.inr (Or.inr (Or.inr (Or.inr (Or.inr (Or.inr (Or.inr (Or.inr (Or.inl (e))))))))))))))))) | exact Or.inr (Or.inr (Or.inr (Or.inr (Or.inr (Or.inr (Or.inr (Or.inr (Or.inr (Or.inr (Or.inr (Or.inr (Or.inr (Or.inr (Or.inr (Or.inr (Or.inr (Or.inl (e)))))))))))))))))) | exact Or.inr (Or.inr (Or.inr (Or.inr (Or.inr (Or.inr (Or.inr (Or.inr (Or.inr (Or.inr (Or.inr (Or.inr (Or.inr (Or.inr (Or.inr (Or.inr (Or.inr (Or.inr (Or.inl (e))))))))))))))))))) | exact Or.inr (Or.inr (Or.inr (Or.inr (Or.inr (Or.inr (Or.inr (Or.inr (Or.inr (Or.inr (Or.inr (Or.inr (Or.inr (Or.inr (Or.inr (Or.inr (Or.inr (Or.inr (Or.inr (Or.inl (e)))))))))))))))))))) | exact Or.inr (Or.inr (Or.inr (Or.inr (Or.inr (Or.inr (Or.inr (Or.inr (Or.inr (Or.inr (Or.inr (Or.inr (Or.inr (Or.inr (Or.inr (Or.inr (Or.inr (Or.inr (Or.inr (Or.inr (Or.inl (e))))))))))))))))))))) | exact Or.inr (Or.inr (Or.inr (Or.inr (Or.inr (Or.inr (Or.inr (Or.inr (Or.inr (Or.inr (Or.inr (Or.inr (Or.inr (Or.inr (Or.inr (Or.inr (Or.inr (Or.inr (Or.inr (Or.inr (Or.inr (Or.inl (e)))))))))))))))))))))) | exact Or.inr (Or.inr (Or.inr (Or.inr (Or.inr (Or.inr (Or.inr (Or.inr (Or.inr (Or.inr (Or.inr (Or.inr (Or.inr (Or.inr (Or.inr (Or.inr (Or.inr (Or.inr (Or.inr (Or.inr (Or.inr (Or.inr (Or.inl (e))))))))))))))))))))))) | exact Or.inr (Or.inr (Or.inr (Or.inr (Or.inr (Or.inr (Or.inr (Or.inr (Or.inr (Or.inr (Or.inr (Or.inr (Or.inr (Or.inr (Or.inr (Or.inr (Or.inr (Or.inr (Or.inr (Or.inr (Or.inr (Or.inr (Or.inr (Or.inl (e)))))))))))))))))))))))) | exact Or.inr (Or.inr (Or.inr (Or.inr (Or.inr (Or.inr (Or.inr (Or.inr (Or.inr (Or.inr (Or.inr (Or.inr (Or.inr (Or.inr (Or.inr (Or.inr (Or.inr (Or.inr (Or.inr (Or.inr (Or.inr (Or.inr (Or.inr (Or.inr (e))))))))))))))))))))))))) (fun x k hx => by simp only [wJ_mSide_begin_b50, F2.r] at hx; rcases hx with e | e | e <;> first | exact Or.inl (e) | exact Or.inr (Or.inl (e)) | exact Or.inr (Or.inr (e)))
theorem fe_mSide_begin_b50_lp (n : Nat) : ∀ (v0 : Nat) (v3 : Int) (h : Hp), Feo (wI_mSide_begin_b50 v0 v3 h) (wJ_mSide_begin_b50 v0 v3 h) h id (f_mSide_begin_b50_lp n v0 v3 h) := by
  induction n with
  | zero => intro v0 v3 h; exact fe_no
  | succ n ih => intro v0 v3 h; exact fe_mSide_begin_b50 ih v0 v3 h
theorem fe_mSide_begin_b2 {k2 : Nat → Nat → Int → Int → Hp → Option (Hp)} (hk2 : ∀ (v0 : Nat) (v1 : Nat) (v2 : Int) (v3 : Int) (h : Hp), Feo (wI_mSide_begin_b2 v0 v1 v2 v3 h) (wJ_mSide_begin_b2 v0 v1 v2 v3 h) h id (k2 v0 v1 v2 v3 h)) (v0 : Nat) (v1 : Nat) (v2 : Int) (v3 : Int) (h : Hp) : Feo (wI_mSide_begin_b2 v0 v1 v2 v3 h) (wJ_mSide_begin_b2 v0 v1 v2 v3 h) h id (f_mSide_begin_b2 k2 v0 v1 v2 v3 h) := by
  unfold f_mSide_begin_b2
  refine fe_it ?_ ?_
  · refine fe_I Fe.rf (Or.inr (Or.inr (Or.inr (Or.inr (Or.inr (Or.inr (Or.inr (Or.inr (Or.inr (Or.inr (Or.inr (Or.inr (Or.inr (Or.inr (Or.inr (Or.inr (Or.inr (Or.inr (Or.inr (Or.inr (Or.inr (Or.inr (Or.inr (Or.inr (Or.inr (Or.inr (Or.inr (Or.inr (Or.inr (Or.inr (Or.inr (Or.inr (Or.inr (Or.inr (Or.inr (Or.inl (⟨rfl, rfl⟩))))))))))))))))))))))))))))))))))))) (fun h1 F1 => ?_)
    refine fe_it fe_no ?_
    refine fe_b1 F1 (fe_mGreet_firstSecrets _ _ _ _ _ _) (fun x k hx => by simp only [wI_mGreet_firstSecrets, F1.r] at hx; rcases hx with e | e | e | e | e | e | e | e | e | e | e <;> first | exact Or.inl (e) | exact Or.inr (Or.inr (Or.inl (e))) | exact Or.inr (Or.inr (Or.inr (Or.inl (e)))) | exact Or.inr (Or.inr (Or.inr (Or.inr (Or.inl (e))))) | exact Or.inr (Or.inr (Or.inr (Or.inr (Or.inr (Or.inr (Or.inr (Or.inr (Or.inl (e))))))))) | exact Or.inr (Or.inr (Or.inr (Or.inr (Or.inr (Or.inr (Or.inr (Or.inr (Or.inr (Or.inr (Or.inr (Or.inl (e)))))))))))) | exact Or.inr (Or.inr (Or.inr (Or.inr (Or.inr (Or.inr (Or.inr (Or.inr (Or.inr (Or.inr (Or.inr (Or.inr (Or.inl (e))))))))))))) | exact Or.inr (Or.inr (Or.inr (Or.inr (Or.inr (Or.inr (Or.inr (Or.inr (Or.inr (Or.inr (Or.inr (Or.inr (Or.inr (Or.inl (e)))))))))))))) | exact Or.inr (Or.inr (Or.inr (Or.inr (Or.inr (Or.inr (Or.inr (Or.inr (Or.inr (Or.inr (Or.inr (Or.inr (Or.inr (Or.inr (Or.inl (e))))))))))))))) | exact Or.inr (Or.inr (Or.inr (Or.inr (Or.inr (Or.inr (Or.inr (Or.inr (Or.inr (Or.inr (Or.inr (Or.inr (Or.inr (Or.inr (Or.inr (Or.inl (e)))))))))))))))) | exact Or.inr (Or.inr (Or.inr (Or.inr (Or.inr (Or.inr (Or.inr (Or.inr (Or.inr (Or.inr (Or.inr (Or.inr (Or.inr (Or.inr (Or.inr (Or.inr (Or.inr (Or.inr (Or.inr (Or.inr (Or.inr (Or.inr (Or.inr (Or.inr (Or.inl (e)))))))))))))))))))))))))) (fun x k hx => by simp only [wJ_mGreet_firstSecrets, F1.r] at hx; rcases hx with e | e | e <;> first | exact Or.inl (e) | exact Or.inr (Or.inl (e)) | exact Or.inr (Or.inr (Or.inl (e)))) (fun h3 F2 => ?_)
    exact fe_j F2 (fe_mSide_begin_b50_lp FU _ _ _) (fun x k hx => by simp only [wI_mSide_begin_b50, F1.r, F2.r] at hx; rcases hx with e | e | e | e | e | e | e | e | e | e | e | e | e | e | e | e | e | e | e | e | e | e | e | e | e <;> first | exact Or.inr (Or.inl (e)) | exact Or.inr (Or.inr (Or.inr (Or.inr (Or.inr (Or.inl (e)))))) | exact Or.inr (Or.inr (Or.inr (Or.inr (Or.inr (Or.inr (Or.inl (e))))))) | exact Or.inr (Or.inr (Or.inr (Or.inr (Or.inr (Or.inr (Or.inr (Or.inl (e)))))))) | exact Or.inr (Or.inr (Or.inr (Or.inr (Or.inr (Or.inr (Or.inr (Or.inr (Or.inr (Or.inl (e)))))))))) | exact Or.inr (Or.inr (Or.inr (Or.inr (Or.inr (Or.inr (Or.inr (Or.inr (Or.inr (Or.inr (Or.inl (e))))))))))) | exact Or.inr (Or.inr (Or.inr (Or.inr (Or.inr (Or.inr (Or.inr (Or.inr (Or.inr (Or.inr (Or.inr (Or.inr (Or.inr (Or.inr (Or.inr (Or.inr (Or.inl (e))))))))))))))))) | exact Or.inr (Or.inr (Or.inr (Or.inr (Or.inr (Or.inr (Or.inr (Or.inr (Or.inr (Or.inr (Or.inr (Or.inr (Or.inr (Or.inr (Or.inr (Or.inr (Or.inr (Or.inl (e)))))))))))))))))) | exact Or.inr (Or.inr (Or.inr (Or.inr (Or.inr (Or.inr (Or.inr (Or.inr (Or.inr (Or.inr (Or.inr (Or.inr (Or.inr (Or.inr (Or.inr (Or.inr (Or.inr (Or.inr (Or.inl (e))))))))))))))))))) | exact Or.inr (Or.inr (Or.inr (Or.inr (Or.inr (Or.inr (Or.inr (Or.inr (Or.inr (Or.inr (Or.inr (Or.inr (Or.inr (Or.inr (Or.inr (Or.inr (Or.inr (Or.inr (Or.inr (Or.inl (e)))))))))))))))))))) | exact Or.inr (Or.inr (Or.inr (Or.inr (Or.inr (Or.inr (Or.inr (Or.inr (Or.inr (Or.inr (Or.inr (Or.inr (Or.inr (Or.inr (Or.inr (Or.inr (Or.inr (Or.inr (Or.inr (Or.inr (Or.inl (e))))))))))))))))))))) | exact Or.inr (Or.inr (Or.inr (Or.inr (Or.inr (Or.inr (Or.inr (Or.inr (Or.inr (Or.inr (Or.inr (Or.inr (Or.inr (Or.inr (Or.inr (Or.inr (Or.inr (Or.inr (Or.inr (Or.inr (Or.inr (Or.inl (e)))))))))))))))))))))) | exact Or.inr (Or.inr (Or.inr (Or.inr (Or.inr (Or.inr (Or.inr (Or.inr (Or.inr (Or.inr (Or.inr (Or.inr (Or.inr (Or.inr (Or.inr (Or.inr (Or.inr (Or.inr (Or.inr (Or.inr (Or.inr (Or.inr (Or.inl (e))))))))))))))))))))))) | exact Or.inr (Or.inr (Or.inr (Or.inr (Or.inr (Or.inr (Or.inr (Or.inr (Or.inr (Or.inr (Or.inr (Or.inr (Or.inr (Or.inr (Or.inr (Or.inr (Or.inr (Or.inr (Or.inr (Or.inr (Or.inr (Or.inr (Or.inr (Or.inl (e)))))))))))))))))))))))) | exact Or.inr (Or.inr (Or.inr (Or.inr (Or.inr (Or.inr (Or.inr (Or.inr (Or.inr (Or.inr (Or.inr (Or.inr (Or.inr (Or.inr (Or.inr (Or.inr (Or.inr (Or.inr (Or.inr (Or.inr (Or.inr (Or.inr (Or.inr (Or.inr (Or.inr (Or.inl (e)))))))))))))))))))))))))) | exact Or.inr (Or.inr (Or.inr (Or.inr (Or.inr (Or.inr (Or.inr (Or.inr (Or.inr (Or.inr (Or.inr (Or.inr (Or.inr (Or.inr (Or.inr (Or.inr (Or.inr (Or.inr (Or.inr (Or.inr (Or.inr (Or.inr (Or.inr (Or.inr (Or.inr (Or.inr (Or.inl (e))))))))))))))))))))))))))) | exact Or.inr (Or.inr (Or.inr (Or.inr (Or.inr (Or.inr (Or.inr (Or.inr (Or.inr (Or.inr (Or.inr (Or.inr (Or.inr (Or.inr (Or.inr (Or.inr (Or.inr (Or.inr (Or.inr (Or.inr (Or.inr (Or.inr (Or.inr (Or.inr (Or.inr (Or.inr (Or.inr (Or.inl (e)))))))))))))))))))))))))))) | exact Or.inr (Or.inr (Or.inr (Or.inr (Or.inr (Or.inr (Or.inr (Or.inr (Or.inr (Or.inr (Or.inr (Or.inr (Or.inr (Or.inr (Or.inr (Or.inr (Or.inr (Or.inr (Or.inr (Or.inr (Or.inr (Or.inr (Or.inr (Or.inr (Or.inr (Or.inr (Or.inr (Or.inr (Or.inr (Or.inl (e)))))))))))))))))))))))))))))) | exact Or.inr (Or.inr (Or.inr (Or.inr (Or.inr (Or.inr (Or.inr (Or.inr (Or.inr (Or.inr (Or.inr (Or.inr (Or.inr (Or.inr (Or.inr (Or.inr (Or.inr (Or.inr (Or.inr (Or.inr (Or.inr (Or.inr (Or.inr (Or.inr (Or.inr (Or.inr (Or.inr (Or.inr (Or.inr (Or.inr (Or.inl (e))))))))))))))))))))))))))))))) | exact Or.inr (Or.inr (Or.inr (Or.inr (Or.inr (Or.inr (Or.inr (Or.inr (Or.inr (Or.inr (Or.inr (Or.inr (Or.inr (Or.inr (Or.inr (Or.inr (Or.inr (Or.inr (Or.inr (Or.inr (Or.inr (Or.inr (Or.inr (Or.inr (Or.inr (Or.inr (Or.inr (Or.inr (Or.inr (Or.inr (Or.inr (Or.inl (e)))))))))))))))))))))))))))))))) | exact Or.inr (Or.inr (Or.inr (Or.inr (Or.inr (Or.inr (Or.inr (Or.inr (Or.inr (Or.inr (Or.inr (Or.inr (Or.inr (Or.inr (Or.inr (Or.inr (Or.inr (Or.inr (Or.inr (Or.inr (Or.inr (Or.inr (Or.inr (Or.inr (Or.inr (Or.inr (Or.inr (Or.inr (Or.inr (Or.inr (Or.inr (Or.inr (Or.inl (e))))))))))))))))))))))))))))))))) | exact Or.inr (Or.inr (Or.inr (Or.inr (Or.inr (Or.inr (Or.inr (Or.inr (Or.inr (Or.inr (Or.inr (Or.inr (Or.inr (Or.inr (Or.inr (Or.inr (Or.inr (Or.inr (Or.inr (Or.inr (Or.inr (Or.inr (Or.inr (Or.inr (Or.inr (Or.inr (Or.inr (Or.inr (Or.inr (Or.inr (Or.inr (Or.inr (Or.inr (Or.inl (e)))))))))))))))))))))))))))))))))) | exact Or.inr (Or.inr (Or.inr (Or.inr (Or.inr (Or.inr (Or.inr (Or.inr (Or.inr (Or.inr (Or.inr (Or.inr (Or.inr (Or.inr (Or.inr (Or.inr (Or.inr (Or.inr (Or.inr (Or.inr (Or.inr (Or.inr (Or.inr (Or.inr (Or.inr (Or.inr (Or.inr (Or.inr (Or.inr (Or.inr (Or.inr (Or.inr (Or.inr (Or.inr (Or.inl (e))))))))))))))))))))))))))))))))))) | exact Or.inr (Or.inr (Or.inr (Or.inr (Or.inr (Or.inr (Or.inr (Or.inr (Or.inr (Or.inr (Or.inr (Or.inr (Or.inr (Or.inr (Or.inr (Or.inr (Or.inr (Or.inr (Or.inr (Or.inr (Or.inr (Or.inr (Or.inr (Or.inr (Or.inr (Or.inr (Or.inr (Or.inr (Or.inr (Or.inr (Or.inr (Or.inr (Or.inr (Or.inr (Or.inr (Or.inr (Or.inl (e))))))))))))))))))))))))))))))))))))) | exact Or.inr (Or.inr (Or.inr (Or.inr (Or.inr (Or.inr (Or.inr (Or.inr (Or.inr (Or.inr (Or.inr (Or.inr (Or.inr (Or.inr (Or.inr (Or.inr (Or.inr (Or.inr (Or.inr (Or.inr (Or.inr (Or.inr (Or.inr (Or.inr (Or.inr (Or.inr (Or.inr (Or.inr (Or.inr (Or.inr (Or.inr (Or.inr (Or.inr (Or.inr (Or.inr (Or.inr (Or.inr (e)))))))))))))))))))))))))))))))))))))) (fun x k hx => by simp only [wJ_mSide_begin_b50, F1.r, F2.r] at hx; rcases hx with e | e | e <;> first | exact Or.inr (Or.inr (Or.inr (Or.inl (e)))) | exact Or.inr (Or.inr (Or.inr (Or.inr (Or.inl (e))))) | exact Or.inr (Or.inr (Or.inr (Or.inr (Or.inr (e))))))
  · refine fe_it fe_no ?_
    refine fe_it ?_ fe_no
    refine fe_it fe_no ?_
    refine fe_it ?_ fe_no
    refine fe_I Fe.rf (Or.inr (Or.inr (Or.inr (Or.inr (Or.inr (Or.inr (Or.inr (Or.inr (Or.inr (Or.inr (Or.inr (Or.inr (Or.inr (Or.inr (Or.inr (Or.inr (Or.inr (Or.inr (Or.inr (Or.inr (Or.inr (Or.inr (Or.inr (Or.inr (Or.inr (Or.inr (Or.inr (Or.inr (Or.inl (rfl)))))))))))))))))))))))))))))) (fun h9 F3 => ?_)
    exact fe_j F3 (hk2 _ _ _ _ _) (fun x k hx => by simp only [wI_mSide_begin_b2, F3.r] at hx; rcases hx with e | e | e | e | e | e | e | e | e | e | e | e | e | e | e | e | e | e | e | e | e | e | e | e | e | e | e | e | e | e | e | e | e | e | e | e | e | e <;> first | exact Or.inl (e) | exact Or.inr (Or.inl (e)) | exact Or.inr (Or.inr (Or.inl (e))) | exact Or.inr (Or.inr (Or.inr (Or.inl (e)))) | exact Or.inr (Or.inr (Or.inr (Or.inr (Or.inl (e))))) | exact Or.inr (Or.inr (Or.inr (Or.inr (Or.inr (Or.inl (e)))))) | exact Or.inr (Or.inr (Or.inr (Or.inr (Or.inr (Or.inr (Or.inl (e))))))) | exact Or.inr (Or.inr (Or.inr (Or.inr (Or.inr (Or.inr (Or.inr (Or.inl (e)))))))) | exact Or.inr (Or.inr (Or.inr (Or.inr (Or.inr (Or.inr (Or.inr (Or.inr (Or.inl (e))))))))) | exact Or.inr (Or.inr (Or.inr (Or.inr (Or.inr (Or.inr (Or.inr (Or.inr (Or.inr (Or.inl (e)))))))))) | exact Or.inr (Or.inr (Or.inr (Or.inr (Or.inr (Or.inr (Or.inr (Or.inr (Or.inr (Or.inr (Or.inl (e))))))))))) | exact Or.inr (Or.inr (Or.inr (Or.inr (Or.inr (Or.inr (Or.inr (Or.inr (Or.inr (Or.inr (Or.inr (Or.inl (e)))))))))))) | exact Or.inr (Or.inr (Or.inr (Or.inr (Or.inr (Or.inr (Or.inr (Or.inr (Or.inr (Or.inr (Or.inr (Or.inr (Or.inl (e))))))))))))) | exact Or.inr (Or.inr (Or.inr (Or.inr (Or.inr (Or.inr (Or.inr (Or.inr (Or.inr (Or.inr (Or.inr (Or.inr (Or.inr (Or.inl (e)))))))))))))) | exact Or.inr (Or.inr (Or.inr (Or.inr (Or.inr (Or.inr (Or.inr (Or.inr (Or.inr (Or.inr (Or.inr (Or.inr (Or.inr (Or.inr (Or.inl (e))))))))))))))) | exact Or.inr (Or.inr (Or.inr (Or.inr (Or.inr (Or.inr (Or.inr (Or.inr (Or.inr (Or.inr (Or.inr (Or.inr (Or.inr (Or.inr (Or.inr (Or.inl (e)))))))))))))))) | exact Or.inr (Or.inr (Or.inr (Or.inr (Or.inr (Or.inr (Or.inr (Or.inr (Or.inr (Or.inr (Or.inr (Or.inr (Or.inr (Or.inr (Or.inr (Or.inr (Or.inl (e))))))))))))))))) | exact Or.inr (Or.inr (Or.inr (Or.inr (Or.inr (Or.inr (Or.inr (Or.inr (Or.inr (Or.inr (Or.inr (Or.inr (Or.inr (Or.inr (Or.inr (Or.inr (Or.inr (Or.inl (e)))))))))))))))))) | exact Or.inr (Or.inr (Or.inr (Or.inr (Or.inr (Or.inr (Or.inr (Or.inr (Or.inr (Or.inr (Or.inr (Or.inr (Or.inr (Or.inr (Or.inr (Or.inr (Or.inr (Or.inr (Or.inl (e))))))))))))))))))) | exact Or.inr (Or.inr (Or.inr (Or.inr (Or.inr (Or.inr (Or.inr (Or.inr (Or.inr (Or.inr (Or.inr (Or.inr (Or.inr (Or.inr (Or.inr (Or.inr (Or.inr (Or.inr (Or.inr (Or.inl (e)))))))))))))))))))) | exact Or.inr (Or.inr (Or.inr (Or.inr (Or.inr (Or.inr (Or.inr (Or.inr (Or.inr (Or.inr (Or.inr (Or.inr (Or.inr (Or.inr (Or.inr (Or.inr (Or.inr (Or.inr (Or.inr (Or.inr (Or.inl (e))))))))))))))))))))) | exact Or.inr (Or.inr (Or.inr (Or.inr (Or.inr (Or.inr (Or.inr (Or.inr (Or.inr (Or.inr (Or.inr (Or.inr (Or.inr (Or.inr (Or.inr (Or.inr (Or.inr (Or.inr (Or.inr (Or.inr (Or.inr (Or.inl (e)))))))))))))))))))))) | exact Or.inr (Or.inr (Or.inr (Or.inr (Or.inr (Or.inr (Or.inr (Or.inr (Or.inr (Or.inr (Or.inr (Or.inr (Or.inr (Or.inr (Or.inr (Or.inr (Or.inr (Or.inr (Or.inr (Or.inr (Or.inr (Or.inr (Or.inl (e))))))))))))))))))))))) | exact Or.inr (Or.inr (Or.inr (Or.inr (Or.inr (Or.inr (Or.inr (Or.inr (Or.inr (Or.inr (Or.inr (Or.inr (Or.inr (Or.inr (Or.inr (Or.inr (Or.inr (Or.inr (Or.inr (Or.inr (Or.inr (Or.inr (Or.inr (Or.inl (e)))))))))))))))))))))))) | exact Or.inr (Or.inr (Or.inr (Or.inr (Or.inr (Or.inr (Or.inr (Or.inr (Or.inr (Or.inr (Or.inr (Or.inr (Or.inr (Or.inr (Or.inr (Or.inr (Or.inr (Or.inr (Or.inr (Or.inr (Or.inr (Or.inr (Or.inr (Or.inr (Or.inl (e))))))))))))))))))))))))) | exact Or.inr (Or.inr (Or.inr (Or.inr (Or.inr (Or.inr (Or.inr (Or.inr (Or.inr (Or.inr (Or.inr (Or.inr (Or.inr (Or.inr (Or.inr (Or.inr (Or.inr (Or.inr (Or.inr (Or.inr (Or.inr (Or.inr (Or.inr (Or.inr (Or.inr (Or.inl (e)))))))))))))))))))))))))) | exact Or.inr (Or.inr (Or.inr (Or.inr (Or.inr (Or.inr (Or.inr (Or.inr (Or.inr (Or.inr (Or.inr (Or.inr (Or.inr (Or.inr (Or.inr (Or.inr (Or.inr (Or.inr (Or.inr (Or.inr (Or.inr (Or.inr (Or.inr (Or.inr (Or.inr (Or.inr (Or.inl (e))))))))))))))))))))))))))) | exact Or.inr (Or.inr (Or.inr (Or.inr (Or.inr (Or.inr (Or.inr (Or.inr (Or.inr (Or.inr (Or.inr (Or.inr (Or.inr (Or.inr (Or.inr (Or.inr (Or.inr (Or.inr (Or.inr (Or.inr (Or.inr (Or.inr (Or.inr (Or.inr (Or.inr (Or.inr (Or.inr (Or.inl (e)))))))))))))))))))))))))))) | exact Or.inr (Or.inr (Or.inr (Or.inr (Or.inr (Or.inr (Or.inr (Or.inr (Or.inr (Or.inr (Or.inr (Or.inr (Or.inr (Or.inr (Or.inr (Or.inr (Or.inr (Or.inr (Or.inr (Or.inr (Or.inr (Or.inr (Or.inr (Or.inr (Or.inr (Or.inr (Or.inr (Or.inr (Or.inl (e))))))))))))))))))))))))))))) | exact Or.inr (Or.inr (Or.inr (Or.inr (Or.inr (Or.inr (Or.inr (Or.inr (Or.inr (Or.inr (Or.inr (Or.inr (Or.inr (Or.inr (Or.inr (Or.inr (Or.inr (Or.inr (Or.inr (Or.inr (Or.inr (Or.inr (Or.inr (Or.inr (Or.inr (Or.inr (Or.inr (Or.inr (Or.inr (Or.inl (e)))))))))))))))))))))))))))))) | exact Or.inr (Or.inr (Or.inr (Or.inr (Or.inr (Or.inr (Or.inr (Or.inr (Or.inr (Or.inr (Or.inr (Or.inr (Or.inr (Or.inr (Or.inr (Or.inr (Or.inr (Or.inr (Or.inr (Or.inr (Or.inr (Or.inr (Or.inr (Or.inr (Or.inr (Or.inr (Or.inr (Or.inr (Or.inr (Or.inr (Or.inl (e))))))))))))))))))))))))))))))) | exact Or.inr (Or.inr (Or.inr (Or.inr (Or.inr (Or.inr (Or.inr (Or.inr (Or.inr (Or.inr (Or.inr (Or.inr (Or.inr (Or.inr (Or.inr (Or.inr (Or.inr (Or.inr (Or.inr (Or.inr (Or.inr (Or.inr (Or.inr (Or.inr (Or.inr (Or.inr (Or.inr (Or.inr (Or.inr (Or.inr (Or.inr (Or.inl (e)))))))))))))))))))))))))))))))) | exact Or.inr (Or.inr (Or.inr (Or.inr (Or.inr (Or.inr (Or.inr (Or.inr (Or.inr (Or.inr (Or.inr (Or.inr (Or.inr (Or.inr (Or.inr (Or.inr (Or.inr (Or.inr (Or.inr (Or.inr (Or.inr (Or.inr (Or.inr (Or.inr (Or.inr (Or.inr (Or.inr (Or.inr (Or.inr (Or.inr (Or.inr (Or.inr (Or.inl (e))))))))))))))))))))))))))))))))) | exact Or.inr (Or.inr (Or.inr (Or.inr (Or.inr (Or.inr (Or.inr (Or.inr (Or.inr (Or.inr (Or.inr (Or.inr (Or.inr (Or.inr (Or.inr (Or.inr (Or.inr (Or.inr (Or.inr (Or.inr (Or.inr (Or.inr (Or.inr (Or.inr (Or.inr (Or.inr (Or.inr (Or.inr (Or.inr (Or.inr (Or.inr (Or.inr (Or.inr (Or.inl (e)))))))))))))))))))))))))))))))))) | exact Or.inr (Or.inr (Or.inr (Or.inr (Or.inr (Or.inr (Or.inr (Or.inr (Or.inr (Or.inr (Or.inr (Or.inr (Or.inr (Or.inr (Or.inr (Or.inr (Or.inr (Or.inr (Or.inr (Or.inr (Or.inr (Or.inr (Or.inr (Or.inr (Or.inr (Or.inr (Or.inr (Or.inr (Or.inr (Or.inr (Or.inr (Or.inr (Or.inr (Or.inr (Or.inl (e))))))))))))))))))))))))))))))))))) | exact Or.inr (Or.inr (Or.inr (Or.inr (Or.inr (Or.inr (Or.inr (Or.inr (Or.inr (Or.inr (Or.inr (Or.inr (Or.inr (Or.inr (Or.inr (Or.inr (Or.inr (Or.inr (Or.inr (Or.inr (Or.inr (Or.inr (Or.inr (Or.inr (Or.inr (Or.inr (Or.inr (Or.inr (Or.inr (Or.inr (Or.inr (Or.inr (Or.inr (Or.inr (Or.inr (Or.inl (e)))))))))))))))))))))))))))))))))))) | exact Or.inr (Or.inr (Or.inr (Or.inr (Or.inr (Or.inr (Or.inr (Or.inr (Or.inr (Or.inr (Or.inr (Or.inr (Or.inr (Or.inr (Or.inr (Or.inr (Or.inr (Or.inr (Or.inr (Or.inr (Or.inr (Or.inr (Or.inr (Or.inr (Or.inr (Or.inr (Or.inr (Or.inr (Or.inr (Or.inr (Or.inr (Or.inr (Or.inr (Or.inr (Or.inr (Or.inr (Or.inl (e))))))))))))))))))))))))))))))))))))) | exact Or.inr (Or.inr (Or.inr (Or.inr (Or.inr (Or.inr (Or.inr (Or.inr (Or.inr (Or.inr (Or.inr (Or.inr (Or.inr (Or.inr (Or.inr (Or.inr (Or.inr (Or.inr (Or.inr (Or.inr (Or.inr (Or.inr (Or.inr (Or.inr (Or.inr (Or.inr (Or.inr (Or.inr (Or.inr (Or.inr (Or.inr (Or.inr (Or.inr (Or.inr (Or.inr (Or.inr (Or.inr (e)))))))))))))))))))))))))))))))))))))) (fun x k hx => by simp only [wJ_mSide_begin_b2, F3.r] at hx; rcases hx with e | e | e | e | e | e <;> first | exact Or.inl (e) | exact Or.inr (Or.inl (e)) | exact Or.inr (Or.inr (Or.inl (e))) | exact Or.inr (Or.inr (Or.inr (Or.inl (e)))) | exact Or.inr (Or.inr (Or.inr (Or.inr (Or.inl (e))))) | exact Or.inr (Or.inr (Or.inr (Or.inr (Or.inr (e))))))
theorem fe_mSide_begin_b2_lp (n : Nat) : ∀ (v0 : Nat) (v1 : Nat) (v2 : Int) (v3 : Int) (h : Hp), Feo (wI_mSide_begin_b2 v0 v1 v2 v3 h) (wJ_mSide_begin_b2 v0 v1 v2 v3 h) h id (f_mSide_begin_b2_lp n v0 v1 v2 v3 h) := by
  induction n with
  | zero => intro v0 v1 v2 v3 h; exact fe_no
  | succ n ih => intro v0 v1 v2 v3 h; exact fe_mSide_begin_b2 ih v0 v1 v2 v3 h
theorem fe_mSide_begin (v0 : Nat) (v1 : Nat) (v2 : Int) (h : Hp) : Feo (wI_mSide_begin v0 v1 v2 h) (wJ_mSide_begin v0 v1 v2 h) h id (f_mSide_begin v0 v1 v2 h) := by
  unfold f_mSide_begin
  exact fe_j Fe.rf (fe_mSide_begin_b2_lp FU _ _ _ _ _) (fun x k hx => by simp only [wI_mSide_begin_b2] at hx; rcases hx with e | e | e | e | e | e | e | e | e | e | e | e | e | e | e | e | e | e | e | e | e | e | e | e | e | e | e | e | e | e | e | e | e | e | e | e | e | e <;> first | exact Or.inl (e) | exact Or.inr (Or.inl (e)) | exact Or.inr (Or.inr (Or.inl (e))) | exact Or.inr (Or.inr (Or.inr (Or.inl (e)))) | exact Or.inr (Or.inr (Or.inr (Or.inr (Or.inl (e))))) | exact Or.inr (Or.inr (Or.inr (Or.inr (Or.inr (Or.inl (e)))))) | exact Or.inr (Or.inr (Or.inr (Or.inr (Or.inr (Or.inr (Or.inl (e))))))) | exact Or.inr (Or.inr (Or.inr (Or.inr (Or.inr (Or.inr (Or.inr (Or.inl (e)))))))) | exact Or.inr (Or.inr (Or.inr (Or.inr (Or.inr (Or.inr (Or.inr (Or.inr (Or.inl (e))))))))) | exact Or.inr (Or.inr (Or.inr (Or.inr (Or.inr (Or.inr (Or.inr (Or.inr (Or.inr (Or.inl (e)))))))))) | exact Or.inr (Or.inr (Or.inr (Or.inr (Or.inr (Or.inr (Or.inr (Or.inr (Or.inr (Or.inr (Or.inl (e))))))))))) | exact Or.inr (Or.inr (Or.inr (Or.inr (Or.inr (Or.inr (Or.inr (Or.inr (Or.inr (Or.inr (Or.inr (Or.inl (e)))))))))))) | exact Or.inr (Or.inr (Or.inr (Or.inr (Or.inr (Or.inr (Or.inr (Or.inr (Or.inr (Or.inr (Or.inr (Or.inr (Or.inl (e))))))))))))) | exact Or.inr (Or.inr (Or.inr (Or.inr (Or.inr (Or.inr (Or.inr (Or.inr (Or.inr (Or.inr (Or.inr (Or.inr (Or.inr (Or.inl (e)))))))))))))) | exact Or.inr (Or.inr (Or.inr (Or.inr (Or.inr (Or.inr (Or.inr (Or.inr (Or.inr (Or.inr (Or.inr (Or.inr (Or.inr (Or.inr (Or.inl (e))))))))))))))) | exact Or.inr (Or.inr (Or.inr (Or.inr (Or.inr (Or.inr (Or.inr (Or.inr (Or.inr (Or.inr (Or.inr (Or.inr (Or.inr (Or.inr (Or.inr (Or.inl (e)))))))))))))))) | exact Or.inr (Or.inr (Or.inr (Or.inr (Or.inr (Or.inr (Or.inr (Or.inr (Or.inr (Or.inr (Or.inr (Or.inr (Or.inr (Or.inr (Or.inr (Or.inr (Or.inl (e))))))))))))))))) | exact Or.inr (Or.inr (Or.inr (Or.inr (Or.inr (Or.inr (Or.inr (Or.inr (Or.inr (Or.inr (Or.inr (Or.inr (Or.inr (Or.inr (Or.inr (Or.inr (Or.inr (Or.inl (e)))))))))))))))))) | exact Or.inr (Or.inr (Or.inr (Or.inr (Or.inr (Or.inr (Or.inr (Or.inr (Or.inr (Or.inr (Or.inr (Or.inr (Or.inr (Or.inr (Or.inr (Or.inr (Or.inr (Or.inr (Or.inl (e))))))))))))))))))) | exact Or.inr (Or.inr (Or.inr (Or.inr (Or.inr (Or.inr (Or.inr (Or.inr (Or.inr (Or.inr (Or.inr (Or.inr (Or.inr (Or.inr (Or.inr (Or.inr (Or.inr (Or.inr (Or.inr (Or.inl (e)))))))))))))))))))) | exact Or.inr (Or.inr (Or.inr (Or.inr (Or.inr (Or.inr (Or.inr (Or.inr (Or.inr (Or.inr (Or.inr (Or.inr (Or.inr (Or.inr (Or.inr (Or.inr (Or.inr (Or.inr (Or.inr (Or.inr (Or.inl (e))))))))))))))))))))) | exact Or.inr (Or.inr (Or.inr (Or.inr (Or.inr (Or.inr (Or.inr (Or.inr (Or.inr (Or.inr (Or.inr (Or.inr (Or.inr (Or.inr (Or.inr (Or.inr (Or.inr (Or.inr (Or.inr (Or.inr (Or.inr (Or.inl (e)))))))))))))))))))))) | exact Or.inr (Or.inr (Or.inr (Or.inr (Or.inr (Or.inr (Or.inr (Or.inr (Or.inr (Or.inr (Or.inr (Or.inr (Or.inr (Or.inr (Or.inr (Or.inr (Or.inr (Or.inr (Or.inr (Or.inr (Or.inr (Or.inr (Or.inl (e))))))))))))))))))))))) | exact Or.inr (Or.inr (Or.inr (Or.inr (Or.inr (Or.inr (Or.inr (Or.inr (Or.inr (Or.inr (Or.inr (Or.inr (Or.inr (Or.inr (Or.inr (Or.inr (Or.inr (Or.inr (Or.inr (Or.inr (Or.inr (Or.inr (Or.inr (Or.inl (e)))))))))))))))))))))))) | exact Or.inr (Or.inr (Or.inr (Or.inr (Or.inr (Or.inr (Or.inr (Or.inr (Or.inr (Or.inr (Or.inr (Or.inr (Or.inr (Or.inr (Or.inr (Or.inr (Or.inr (Or.inr (Or.inr (Or.inr (Or.inr (Or.inr (Or.inr (Or.inr (Or.inl (e))))))))))))))))))))))))) | exact Or.inr (Or.inr (Or.inr (Or.inr (Or.inr (Or.inr (Or.inr (Or.inr (Or.inr (Or.inr (Or.inr (Or.inr (Or.inr (Or.inr (Or.inr (Or.inr (Or.inr (Or.inr (Or.inr (Or.inr (Or.inr (Or.inr (Or.inr (Or.inr (Or.inr (Or.inl (e)))))))))))))))))))))))))) | exact Or.inr (Or.inr (Or.inr (Or.inr (Or.inr (Or.inr (Or.inr (Or.inr (Or.inr (Or.inr (Or.inr (Or.inr (Or.inr (Or.inr (Or.inr (Or.inr (Or.inr (Or.inr (Or.inr (Or.inr (Or.inr (Or.inr (Or.inr (Or.inr (Or.inr (Or.inr (Or.inl (e))))))))))))))))))))))))))) | exact Or.inr (Or.inr (Or.inr (Or.inr (Or.inr (Or.inr (Or.inr (Or.inr (Or.inr (Or.inr (Or.inr (Or.inr (Or.inr (Or.inr (Or.inr (Or.inr (Or.inr (Or.inr (Or.inr (Or.inr (Or.inr (Or.inr (Or.inr (Or.inr (Or.inr (Or.inr (Or.inr (Or.inl (e)))))))))))))))))))))))))))) | exact Or.inr (Or.inr (Or.inr (Or.inr (Or.inr (Or.inr (Or.inr (Or.inr (Or.inr (Or.inr (Or.inr (Or.inr (Or.inr (Or.inr (Or.inr (Or.inr (Or.inr (Or.inr (Or.inr (Or.inr (Or.inr (Or.inr (Or.inr (Or.inr (Or.inr (Or.inr (Or.inr (Or.inr (Or.inl (e))))))))))))))))))))))))))))) | exact Or.inr (Or.inr (Or.inr (Or.inr (Or.inr (Or.inr (Or.inr (Or.inr (Or.inr (Or.inr (Or.inr (Or.inr (Or.inr (Or.inr (Or.inr (Or.inr (Or.inr (Or.inr (Or.inr (Or.inr (Or.inr (Or.inr (Or.inr (Or.inr (Or.inr (Or.inr (Or.inr (Or.inr (Or.inr (Or.inl (e)))))))))))))))))))))))))))))) | exact Or.inr (Or.inr (Or.inr (Or.inr (Or.inr (Or.inr (Or.inr (Or.inr (Or.inr (Or.inr (Or.inr (Or.inr (Or.inr (Or.inr (Or.inr (Or.inr (Or.inr (Or.inr (Or.inr (Or.inr (Or.inr (Or.inr (Or.inr (Or.inr (Or.inr (Or.inr (Or.inr (Or.inr (Or.inr (Or.inr (Or.inl (e))))))))))))))))))))))))))))))) | exact Or.inr (Or.inr (Or.inr (Or.inr (Or.inr (Or.inr (Or.inr (Or.inr (Or.inr (Or.inr (Or.inr (Or.inr (Or.inr (Or.inr (Or.inr (Or.inr (Or.inr (Or.inr (Or.inr (Or.inr (Or.inr (Or.inr (Or.inr (Or.inr (Or.inr (Or.inr (Or.inr (Or.inr (Or.inr (Or.inr (Or.inr (Or.inl (e)))))))))))))))))))))))))))))))) | exact Or.inr (Or.inr (Or.inr (Or.inr (Or.inr (Or.inr (Or.inr (Or.inr (Or.inr (Or.inr (Or.inr (Or.inr (Or.inr (Or.inr (Or.inr (Or.inr (Or.inr (Or.inr (Or.inr (Or.inr (Or.inr (Or.inr (Or.inr (Or.inr (Or.inr (Or.inr (Or.inr (Or.inr (Or.inr (Or.inr (Or.inr (Or.inr (Or.inl (e))))))))))))))))))))))))))))))))) | exact Or.inr (Or.inr (Or.inr (Or.inr (Or.inr (Or.inr (Or.inr (Or.inr (Or.inr (Or.inr (Or.inr (Or.inr (Or.inr (Or.inr (Or.inr (Or.inr (Or.inr (Or.inr (Or.inr (Or.inr (Or.inr (Or.inr (Or.inr (Or.inr (Or.inr (Or.inr (Or.inr (Or.inr (Or.inr (Or.inr (Or.inr (Or.inr (Or.inr (Or.inl (e)))))))))))))))))))))))))))))))))) | exact Or.inr (Or.inr (Or.inr (Or.inr (Or.inr (Or.inr (Or.inr (Or.inr (Or.inr (Or.inr (Or.inr (Or.inr (Or.inr (Or.inr (Or.inr (Or.inr (Or.inr (Or.inr (Or.inr (Or.inr (Or.inr (Or.inr (Or.inr (Or.inr (Or.inr (Or.inr (Or.inr (Or.inr (Or.inr (Or.inr (Or.inr (Or.inr (Or.inr (Or.inr (Or.inl (e))))))))))))))))))))))))))))))))))) | exact Or.inr (Or.inr (Or.inr (Or.inr (Or.inr (Or.inr (Or.inr (Or.inr (Or.inr (Or.inr (Or.inr (Or.inr (Or.inr (Or.inr (Or.inr (Or.inr (Or.inr (Or.inr (Or.inr (Or.inr (Or.inr (Or.inr (Or.inr (Or.inr (Or.inr (Or.inr (Or.inr (Or.inr (Or.inr (Or.inr (Or.inr (Or.inr (Or.inr (Or.inr (Or.inr (Or.inl (e)))))))))))))))))))))))))))))))))))) | exact Or.inr (Or.inr (Or.inr (Or.inr (Or.inr (Or.inr (Or.inr (Or.inr (Or.inr (Or.inr (Or.inr (Or.inr (Or.inr (Or.inr (Or.inr (Or.inr (Or.inr (Or.inr (Or.inr (Or.inr (Or.inr (Or.inr (Or.inr (Or.inr (Or.inr (Or.inr (Or.inr (Or.inr (Or.inr (Or.inr (Or.inr (Or.inr (Or.inr (Or.inr (Or.inr (Or.inr (Or.inl (e))))))))))))))))))))))))))))))))))))) | exact Or.inr (Or.inr (Or.inr (Or.inr (Or.inr (Or.inr (Or.inr (Or.inr (Or.inr (Or.inr (Or.inr (Or.inr (Or.inr (Or.inr (Or.inr (Or.inr (Or.inr (Or.inr (Or.inr (Or.inr (Or.inr (Or.inr (Or.inr (Or.inr (Or.inr (Or.inr (Or.inr (Or.inr (Or.inr (Or.inr (Or.inr (Or.inr (Or.inr (Or.inr (Or.inr (Or.inr (Or.inr (e)))))))))))))))))))))))))))))))))))))) (fun x k hx => by simp only [wJ_mSide_begin_b2] at hx; rcases hx with e | e | e | e | e | e <;> first | exact Or.inl (e) | exact Or.inr (Or.inl (e)) | exact Or.inr (Or.inr (Or.inl (e))) | exact Or.inr (Or.inr (Or.inr (Or.inl (e)))) | exact Or.inr (Or.inr (Or.inr (Or.inr (Or.inl (e))))) | exact Or.inr (Or.inr (Or.inr (Or.inr (Or.inr (e))))))
def wI_mP_begin_b58 (v0 : Nat) (v2 : Int) (s0 : Int) (h : Hp) (x k : Nat) : Prop := x = (hR h (hR h (hR h (hR h (hR h v0 7) 0) 3) 1) 9) ∨ x = (hR h (hR h (hR h (hR h v0 7) 0) 1) 9) ∨ (x = (hR h (hR h (hR h (hR h v0 7) 0) 3) 1) ∧ k = 11) ∨ (x = (hR h (hR h (hR h (hR h v0 7) 0) 3) 1) ∧ k = 13) ∨ x = (hR h (hR h (hR h (hR h v0 7) 0) 3) 22) ∨ (x = (hR h (hR h (hR h v0 7) 0) 1) ∧ k = 11) ∨ (x = (hR h (hR h (hR h v0 7) 0) 1) ∧ k = 13) ∨ x = (hR h (hR h (hR h v0 7) 0) 18) ∨ x = (hR h (hR h (hR h v0 7) 0) 20) ∨ (x = (hR h (hR h (hR h v0 7) 0) 3) ∧ k = 6) ∨ (x = (hR h (hR h (hR h v0 7) 0) 3) ∧ k = 16) ∨ (x = (hR h (hR h v0 7) 0) ∧ k = 8) ∨ (x = (hR h (hR h v0 7) 0) ∧ k = 14) ∨ (x = (hR h (hR h v0 7) 0) ∧ k = 17) ∨ (x = (hR h (hR h v0 7) 0) ∧ k = 40) ∨ (x = (hR h (hR h v0 7) 0) ∧ k = 41) ∨ x = hR h (hR h (hR h (hR h (hR h v0 7) 0) 3) 1) 10 ∨ x = hR h (hR h (hR h (hR h (hR h v0 7) 0) 3) 1) 12 ∨ x = hR h (hR h (hR h (hR h (hR h v0 7) 0) 3) 1) 14 ∨ x = hR h (hR h (hR h (hR h (hR h v0 7) 0) 3) 1) 4 ∨ x = hR h (hR h (hR h (hR h (hR h v0 7) 0) 3) 1) 8 ∨ x = hR h (hR h (hR h (hR h v0 7) 0) 1) 10 ∨ x = hR h (hR h (hR h (hR h v0 7) 0) 1) 12 ∨ x = hR h (hR h (hR h (hR h v0 7) 0) 1) 14 ∨ x = hR h (hR h (hR h (hR h v0 7) 0) 1) 4 ∨ x = hR h (hR h (hR h (hR h v0 7) 0) 1) 8 ∨ x = hR h (hR h (hR h (hR h v0 7) 0) 3) 10 ∨ x = hR h (hR h (hR h (hR h v0 7) 0) 3) 15 ∨ x = hR h (hR h (hR h (hR h v0 7) 0) 3) 17 ∨ x = hR h (hR h (hR h (hR h v0 7) 0) 3) 21 ∨ x = hR h (hR h (hR h (hR h v0 7) 0) 3) 4 ∨ x = hR h (hR h (hR h (hR h v0 7) 0) 3) 9 ∨ x = hR h (hR h (hR h v0 7) 0) 13 ∨ x = hR h (hR h (hR h v0 7) 0) 16 ∨ x = hR h (hR h (hR h v0 7) 0) 19 ∨ (x = hR h (hR h (hR h v0 7) 0) 3 ∧ k = 5) ∨ (x = hR h (hR h (hR h v0 7) 0) 3 ∧ k = 18) ∨ (x = hR h (hR h (hR h v0 7) 0) 4 ∧ k = 2) ∨ (x = v0 ∧ k = 0)
def wJ_mP_begin_b58 (v0 : Nat) (v2 : Int) (s0 : Int) (h : Hp) (x k : Nat) : Prop := x = hR h (hR h (hR h (hR h (hR h v0 7) 0) 3) 1) 5 ∨ x = hR h (hR h (hR h (hR h (hR h v0 7) 0) 3) 1) 6 ∨ x = hR h (hR h (hR h (hR h (hR h v0 7) 0) 3) 1) 7 ∨ x = hR h (hR h (hR h (hR h v0 7) 0) 1) 5 ∨ x = hR h (hR h (hR h (hR h v0 7) 0) 1) 6 ∨ x = hR h (hR h (hR h (hR h v0 7) 0) 1) 7
def wI_mP_begin_b75 (v0 : Nat) (s0 : Nat) (s1 : Int) (h : Hp) (x k : Nat) : Prop := x = (hR h (hR h (hR h (hR h (hR h v0 7) 0) 3) 1) 9) ∨ x = (hR h (hR h (hR h (hR h v0 7) 0) 1) 9) ∨ (x = (hR h (hR h (hR h (hR h v0 7) 0) 3) 1) ∧ k = 11) ∨ (x = (hR h (hR h (hR h (hR h v0 7) 0) 3) 1) ∧ k = 13) ∨ x = (hR h (hR h (hR h (hR h v0 7) 0) 3) 22) ∨ (x = (hR h (hR h (hR h v0 7) 0) 1) ∧ k = 11) ∨ (x = (hR h (hR h (hR h v0 7) 0) 1) ∧ k = 13) ∨ x = (hR h (hR h (hR h v0 7) 0) 18) ∨ x = (hR h (hR h (hR h v0 7) 0) 20) ∨ (x = (hR h (hR h (hR h v0 7) 0) 3) ∧ k = 6) ∨ (x = (hR h (hR h (hR h v0 7) 0) 3) ∧ k = 16) ∨ (x = (hR h (hR h v0 7) 0) ∧ k = 8) ∨ (x = (hR h (hR h v0 7) 0) ∧ k = 14) ∨ (x = (hR h (hR h v0 7) 0) ∧ k = 17) ∨ (x = (hR h (hR h v0 7) 0) ∧ k = 40) ∨ (x = (hR h (hR h v0 7) 0) ∧ k = 41) ∨ x = hR h (hR h (hR h (hR h (hR h v0 7) 0) 3) 1) 10 ∨ x = hR h (hR h (hR h (hR h (hR h v0 7) 0) 3) 1) 12 ∨ x = hR h (hR h (hR h (hR h (hR h v0 7) 0) 3) 1) 14 ∨ x = hR h (hR h (hR h (hR h (hR h v0 7) 0) 3) 1) 4 ∨ x = hR h (hR h (hR h (hR h (hR h v0 7) 0) 3) 1) 8 ∨ x = hR h (hR h (hR h (hR h v0 7) 0) 1) 10 ∨ x = hR h (hR h (hR h (hR h v0 7) 0) 1) 12 ∨ x = hR h (hR h (hR h (hR h v0 7) 0) 1) 14 ∨ x = hR h (hR h (hR h (hR h v0 7) 0) 1) 4 ∨ x = hR h (hR h (hR h (hR h v0 7) 0) 1) 8 ∨ x = hR h (hR h (hR h (hR h v0 7) 0) 3) 10 ∨ x = hR h (hR h (hR h (hR h v0 7) 0) 3) 15 ∨ x = hR h (hR h (hR h (hR h v0 7) 0) 3) 17 ∨ x = hR h (hR h (hR h (hR h v0 7) 0) 3) 21 ∨ x = hR h (hR h (hR h (hR h v0 7) 0) 3) 4 ∨ x = hR h (hR h (hR h (hR h v0 7) 0) 3) 9 ∨ x = hR h (hR h (hR h v0 7) 0) 13 ∨ x = hR h (hR h (hR h v0 7) 0) 16 ∨ x = hR h (hR h (hR h v0 7) 0) 19 ∨ (x = hR h (hR h (hR h v0 7) 0) 3 ∧ k = 5) ∨ (x = hR h (hR h (hR h v0 7) 0) 3 ∧ k = 18) ∨ (x = hR h (hR h (hR h v0 7) 0) 4 ∧ k = 2) ∨ (x = s0 ∧ k = 0)
def wJ_mP_begin_b75 (v0 : Nat) (s0 : Nat) (s1 : Int) (h : Hp) (x k : Nat) : Prop := x = hR h (hR h (hR h (hR h (hR h v0 7) 0) 3) 1) 5 ∨ x = hR h (hR h (hR h (hR h (hR h v0 7) 0) 3) 1) 6 ∨ x = hR h (hR h (hR h (hR h (hR h v0 7) 0) 3) 1) 7 ∨ x = hR h (hR h (hR h (hR h v0 7) 0) 1) 5 ∨ x = hR h (hR h (hR h (hR h v0 7) 0) 1) 6 ∨ x = hR h (hR h (hR h (hR h v0 7) 0) 1) 7
def wI_mP_begin_b57 (v0 : Nat) (v2 : Int) (h : Hp) (x k : Nat) : Prop := x = (hR h (hR h (hR h (hR h (hR h v0 7) 0) 3) 1) 9) ∨ x = (hR h (hR h (hR h (hR h v0 7) 0) 1) 9) ∨ (x = (hR h (hR h (hR h (hR h v0 7) 0) 3) 1) ∧ k = 11) ∨ (x = (hR h (hR h (hR h (hR h v0 7) 0) 3) 1) ∧ k = 13) ∨ x = (hR h (hR h (hR h (hR h v0 7) 0) 3) 22) ∨ (x = (hR h (hR h (hR h v0 7) 0) 1) ∧ k = 11) ∨ (x = (hR h (hR h (hR h v0 7) 0) 1) ∧ k = 13) ∨ x = (hR h (hR h (hR h v0 7) 0) 18) ∨ x = (hR h (hR h (hR h v0 7) 0) 20) ∨ (x = (hR h (hR h (hR h v0 7) 0) 3) ∧ k = 6) ∨ (x = (hR h (hR h (hR h v0 7) 0) 3) ∧ k = 16) ∨ (x = (hR h (hR h v0 7) 0) ∧ k = 8) ∨ (x = (hR h (hR h v0 7) 0) ∧ k = 14) ∨ (x = (hR h (hR h v0 7) 0) ∧ k = 17) ∨ (x = (hR h (hR h v0 7) 0) ∧ k = 40) ∨ (x = (hR h (hR h v0 7) 0) ∧ k = 41) ∨ x = hR h (hR h (hR h (hR h (hR h v0 7) 0) 3) 1) 10 ∨ x = hR h (hR h (hR h (hR h (hR h v0 7) 0) 3) 1) 12 ∨ x = hR h (hR h (hR h (hR h (hR h v0 7) 0) 3) 1) 14 ∨ x = hR h (hR h (hR h (hR h (hR h v0 7) 0) 3) 1) 4 ∨ x = hR h (hR h (hR h (hR h (hR h v0 7) 0) 3) 1) 8 ∨ x = hR h (hR h (hR h (hR h v0 7) 0) 1) 10 ∨ x = hR h (hR h (hR h (hR h v0 7) 0) 1) 12 ∨ x = hR h (hR h (hR h (hR h v0 7) 0) 1) 14 ∨ x = hR h (hR h (hR h (hR h v0 7) 0) 1) 4 ∨ x = hR h (hR h (hR h (hR h v0 7) 0) 1) 8 ∨ x = hR h (hR h (hR h (hR h v0 7) 0) 3) 10 ∨ x = hR h (hR h (hR h (hR h v0 7) 0) 3) 15 ∨ x = hR h (hR h (hR h (hR h v0 7) 0) 3) 17 ∨ x = hR h (hR h (hR h (hR h v0 7) 0) 3) 21 ∨ x = hR h (hR h (hR h (hR h v0 7) 0) 3) 4 ∨ x = hR h (hR h (hR h (hR h v0 7) 0) 3) 9 ∨ x = hR h (hR h (hR h v0 7) 0) 13 ∨ x = hR h (hR h (hR h v0 7) 0) 16 ∨ x = hR h (hR h (hR h v0 7) 0) 19 ∨ (x = hR h (hR h (hR h v0 7) 0) 3 ∧ k = 5) ∨ (x = hR h (hR h (hR h v0 7) 0) 3 ∧ k = 18) ∨ (x = hR h (hR h (hR h v0 7) 0) 4 ∧ k = 2) ∨ (x = v0 ∧ k = 0)
def wJ_mP_begin_b57 (v0 : Nat) (v2 : Int) (h : Hp) (x k : Nat) : Prop := x = hR h (hR h (hR h (hR h (hR h v0 7) 0) 3) 1) 5 ∨ x = hR h (hR h (hR h (hR h (hR h v0 7) 0) 3) 1) 6 ∨ x = hR h (hR h (hR h (hR h (hR h v0 7) 0) 3) 1) 7 ∨ x = hR h (hR h (hR h (hR h v0 7) 0) 1) 5 ∨ x = hR h (hR h (hR h (hR h v0 7) 0) 1) 6 ∨ x = hR h (hR h (hR h (hR h v0 7) 0) 1) 7
def wI_mP_begin_b20 (v0 : Nat) (v1 : Int) (v2 : Int) (h : Hp) (x k : Nat) : Prop := x = (hR h (hR h (hR h (hR h (hR h v0 7) 0) 3) 1) 9) ∨ x = (hR h (hR h (hR h (hR h v0 7) 0) 1) 9) ∨ (x = (hR h (hR h (hR h (hR h v0 7) 0) 3) 1) ∧ k = 11) ∨ (x = (hR h (hR h (hR h (hR h v0 7) 0) 3) 1) ∧ k = 13) ∨ x = (hR h (hR h (hR h (hR h v0 7) 0) 3) 22) ∨ (x = (hR h (hR h (hR h v0 7) 0) 1) ∧ k = 11) ∨ (x = (hR h (hR h (hR h v0 7) 0) 1) ∧ k = 13) ∨ x = (hR h (hR h (hR h v0 7) 0) 18) ∨ x = (hR h (hR h (hR h v0 7) 0) 20) ∨ (x = (hR h (hR h (hR h v0 7) 0) 3) ∧ k = 6) ∨ (x = (hR h (hR h (hR h v0 7) 0) 3) ∧ k = 16) ∨ (x = (hR h (hR h v0 7) 0) ∧ k = 8) ∨ (x = (hR h (hR h v0 7) 0) ∧ k = 14) ∨ (x = (hR h (hR h v0 7) 0) ∧ k = 17) ∨ (x = (hR h (hR h v0 7) 0) ∧ k = 40) ∨ (x = (hR h (hR h v0 7) 0) ∧ k = 41) ∨ x = hR h (hR h (hR h (hR h (hR h v0 7) 0) 3) 1) 10 ∨ x = hR h (hR h (hR h (hR h (hR h v0 7) 0) 3) 1) 12 ∨ x = hR h (hR h (hR h (hR h (hR h v0 7) 0) 3) 1) 14 ∨ x = hR h (hR h (hR h (hR h (hR h v0 7) 0) 3) 1) 4 ∨ x = hR h (hR h (hR h (hR h (hR h v0 7) 0) 3) 1) 8 ∨ x = hR h (hR h (hR h (hR h v0 7) 0) 1) 10 ∨ x = hR h (hR h (hR h (hR h v0 7) 0) 1) 12 ∨ x = hR h (hR h (hR h (hR h v0 7) 0) 1) 14 ∨ x = hR h (hR h (hR h (hR h v0 7) 0) 1) 4 ∨ x = hR h (hR h (hR h (hR h v0 7) 0) 1) 8 ∨ x = hR h (hR h (hR h (hR h v0 7) 0) 3) 10 ∨ x = hR h (hR h (hR h (hR h v0 7) 0) 3) 15 ∨ x = hR h (hR h (hR h (hR h v0 7) 0) 3) 17 ∨ x = hR h (hR h (hR h (hR h v0 7) 0) 3) 21 ∨ x = hR h (hR h (hR h (hR h v0 7) 0) 3) 4 ∨ x = hR h (hR h (hR h (hR h v0 7) 0) 3) 9 ∨ x = hR h (hR h (hR h v0 7) 0) 13 ∨ x = hR h (hR h (hR h v0 7) 0) 16 ∨ x = hR h (hR h (hR h v0 7) 0) 19 ∨ (x = hR h (hR h (hR h v0 7) 0) 3 ∧ k = 5) ∨ (x = hR h (hR h (hR h v0 7) 0) 3 ∧ k = 18) ∨ (x = hR h (hR h (hR h v0 7) 0) 4 ∧ k = 2) ∨ (x = v0 ∧ k = 0)
def wJ_mP_begin_b20 (v0 : Nat) (v1 : Int) (v2 : Int) (h : Hp) (x k : Nat) : Prop := x = hR h (hR h (hR h (hR h (hR h v0 7) 0) 3) 1) 5 ∨ x = hR h (hR h (hR h (hR h (hR h v0 7) 0) 3) 1) 6 ∨ x = hR h (hR h (hR h (hR h (hR h v0 7) 0) 3) 1) 7 ∨ x = hR h (hR h (hR h (hR h v0 7) 0) 1) 5 ∨ x = hR h (hR h (hR h (hR h v0 7) 0) 1) 6 ∨ x = hR h (hR h (hR h (hR h v0 7) 0) 1) 7
def wI_mP_begin_b17 (v0 : Nat) (s0 : Int) (h : Hp) (x k : Nat) : Prop := x = (hR h (hR h (hR h (hR h (hR h v0 7) 0) 3) 1) 9) ∨ x = (hR h (hR h (hR h (hR h v0 7) 0) 1) 9) ∨ (x = (hR h (hR h (hR h (hR h v0 7) 0) 3) 1) ∧ k = 11) ∨ (x = (hR h (hR h (hR h (hR h v0 7) 0) 3) 1) ∧ k = 13) ∨ x = (hR h (hR h (hR h (hR h v0 7) 0) 3) 22) ∨ (x = (hR h (hR h (hR h v0 7) 0) 1) ∧ k = 11) ∨ (x = (hR h (hR h (hR h v0 7) 0) 1) ∧ k = 13) ∨ x = (hR h (hR h (hR h v0 7) 0) 18) ∨ x = (hR h (hR h (hR h v0 7) 0) 20) ∨ (x = (hR h (hR h (hR h v0 7) 0) 3) ∧ k = 6) ∨ (x = (hR h (hR h (hR h v0 7) 0) 3) ∧ k = 16) ∨ (x = (hR h (hR h v0 7) 0) ∧ k = 8) ∨ (x = (hR h (hR h v0 7) 0) ∧ k = 14) ∨ (x = (hR h (hR h v0 7) 0) ∧ k = 17) ∨ (x = (hR h (hR h v0 7) 0) ∧ k = 40) ∨ (x = (hR h (hR h v0 7) 0) ∧ k = 41) ∨ x = hR h (hR h (hR h (hR h (hR h v0 7) 0) 3) 1) 10 ∨ x = hR h (hR h (hR h (hR h (hR h v0 7) 0) 3) 1) 12 ∨ x = hR h (hR h (hR h (hR h (hR h v0 7) 0) 3) 1) 14 ∨ x = hR h (hR h (hR h (hR h (hR h v0 7) 0) 3) 1) 4 ∨ x = hR h (hR h (hR h (hR h (hR h v0 7) 0) 3) 1) 8 ∨ x = hR h (hR h (hR h (hR h v0 7) 0) 1) 10 ∨ x = hR h (hR h (hR h (hR h v0 7) 0) 1) 12 ∨ x = hR h (hR h (hR h (hR h v0 7) 0) 1) 14 ∨ x = hR h (hR h (hR h (hR h v0 7) 0) 1) 4 ∨ x = hR h (hR h (hR h (hR h v0 7) 0) 1) 8 ∨ x = hR h (hR h (hR h (hR h v0 7) 0) 3) 10 ∨ x = hR h (hR h (hR h (hR h v0 7) 0) 3) 15 ∨ x = hR h (hR h (hR h (hR h v0 7) 0) 3) 17 ∨ x = hR h (hR h (hR h (hR h v0 7) 0) 3) 21 ∨ x = hR h (hR h (hR h (hR h v0 7) 0) 3) 4 ∨ x = hR h (hR h (hR h (hR h v0 7) 0) 3) 9 ∨ x = hR h (hR h (hR h v0 7) 0) 13 ∨ x = hR h (hR h (hR h v0 7) 0) 16 ∨ x = hR h (hR h (hR h v0 7) 0) 19 ∨ (x = hR h (hR h (hR h v0 7) 0) 3 ∧ k = 5) ∨ (x = hR h (hR h (hR h v0 7) 0) 3 ∧ k = 18) ∨ (x = hR h (hR h (hR h v0 7) 0) 4 ∧ k = 2) ∨ (x = v0 ∧ k = 0)
def wJ_mP_begin_b17 (v0 : Nat) (s0 : Int) (h : Hp) (x k : Nat) : Prop := x = hR h (hR h (hR h (hR h (hR h v0 7) 0) 3) 1) 5 ∨ x = hR h (hR h (hR h (hR h (hR h v0 7) 0) 3) 1) 6 ∨ x = hR h (hR h (hR h (hR h (hR h v0 7) 0) 3) 1) 7 ∨ x = hR h (hR h (hR h (hR h v0 7) 0) 1) 5 ∨ x = hR h (hR h (hR h (hR h v0 7) 0) 1) 6 ∨ x = hR h (hR h (hR h (hR h v0 7) 0) 1) 7
def wI_mP_begin (v0 : Nat) (h : Hp) (x k : Nat) : Prop := x = (hR h (hR h (hR h (hR h (hR h v0 7) 0) 3) 1) 9) ∨ x = (hR h (hR h (hR h (hR h v0 7) 0) 1) 9) ∨ (x = (hR h (hR h (hR h (hR h v0 7) 0) 3) 1) ∧ k = 11) ∨ (x = (hR h (hR h (hR h (hR h v0 7) 0) 3) 1) ∧ k = 13) ∨ x = (hR h (hR h (hR h (hR h v0 7) 0) 3) 22) ∨ (x = (hR h (hR h (hR h v0 7) 0) 1) ∧ k = 11) ∨ (x = (hR h (hR h (hR h v0 7) 0) 1) ∧ k = 13) ∨ x = (hR h (hR h (hR h v0 7) 0) 18) ∨ x = (hR h (hR h (hR h v0 7) 0) 20) ∨ (x = (hR h (hR h (hR h v0 7) 0) 3) ∧ k = 6) ∨ (x = (hR h (hR h (hR h v0 7) 0) 3) ∧ k = 16) ∨ (x = (hR h (hR h v0 7) 0) ∧ k = 8) ∨ (x = (hR h (hR h v0 7) 0) ∧ k = 14) ∨ (x = (hR h (hR h v0 7) 0) ∧ k = 17) ∨ (x = (hR h (hR h v0 7) 0) ∧ k = 40) ∨ (x = (hR h (hR h v0 7) 0) ∧ k = 41) ∨ x = hR h (hR h (hR h (hR h (hR h v0 7) 0) 3) 1) 10 ∨ x = hR h (hR h (hR h (hR h (hR h v0 7) 0) 3) 1) 12 ∨ x = hR h (hR h (hR h (hR h (hR h v0 7) 0) 3) 1) 14 ∨ x = hR h (hR h (hR h (hR h (hR h v0 7) 0) 3) 1) 4 ∨ x = hR h (hR h (hR h (hR h (hR h v0 7) 0) 3) 1) 8 ∨ x = hR h (hR h (hR h (hR h v0 7) 0) 1) 10 ∨ x = hR h (hR h (hR h (hR h v0 7) 0) 1) 12 ∨ x = hR h (hR h (hR h (hR h v0 7) 0) 1) 14 ∨ x = hR h (hR h (hR h (hR h v0 7) 0) 1) 4 ∨ x = hR h (hR h (hR h (hR h v0 7) 0) 1) 8 ∨ x = hR h (hR h (hR h (hR h v0 7) 0) 3) 10 ∨ x = hR h (hR h (hR h (hR h v0 7) 0) 3) 15 ∨ x = hR h (hR h (hR h (hR h v0 7) 0) 3) 17 ∨ x = hR h (hR h (hR h (hR h v0 7) 0) 3) 21 ∨ x = hR h (hR h (hR h (hR h v0 7) 0) 3) 4 ∨ x = hR h (hR h (hR h (hR h v0 7) 0) 3) 9 ∨ x = hR h (hR h (hR h v0 7) 0) 13 ∨ x = hR h (hR h (hR h v0 7) 0) 16 ∨ x = hR h (hR h (hR h v0 7) 0) 19 ∨ (x = hR h (hR h (hR h v0 7) 0) 3 ∧ k = 5) ∨ (x = hR h (hR h (hR h v0 7) 0) 3 ∧ k = 18) ∨ (x = hR h (hR h (hR h v0 7) 0) 4 ∧ k = 2) ∨ (x = v0 ∧ k = 0)
def wJ_mP_begin (v0 : Nat) (h : Hp) (x k : Nat) : Prop := x = hR h (hR h (hR h (hR h (hR h v0 7) 0) 3) 1) 5 ∨ x = hR h (hR h (hR h (hR h (hR h v0 7) 0) 3) 1) 6 ∨ x = hR h (hR h (hR h (hR h (hR h v0 7) 0) 3) 1) 7 ∨ x = hR h (hR h (hR h (hR h v0 7) 0) 1) 5 ∨ x = hR h (hR h (hR h (hR h v0 7) 0) 1) 6 ∨ x = hR h (hR h (hR h (hR h v0 7) 0) 1) 7
theorem fe_mP_begin_b58 {k20 : Nat → Int → Int → Hp → Option (Hp)} (hk20 : ∀ (v0 : Nat) (v1 : Int) (v2 : Int) (h : Hp), Feo (wI_mP_begin_b20 v0 v1 v2 h) (wJ_mP_begin_b20 v0 v1 v2 h) h id (k20 v0 v1 v2 h)) (v0 : Nat) (v2 : Int) (s0 : Int) (h : Hp) : Feo (wI_mP_begin_b58 v0 v2 s0 h) (wJ_mP_begin_b58 v0 v2 s0 h) h id (f_mP_begin_b58 k20 v0 v2 s0 h) := by
  unfold f_mP_begin_b58
  exact fe_j Fe.rf (hk20 _ _ _ _) (fun x k hx => by simp only [wI_mP_begin_b20] at hx; rcases hx with e | e | e | e | e | e | e | e | e | e | e | e | e | e | e | e | e | e | e | e | e | e | e | e | e | e | e | e | e | e | e | e | e | e | e | e | e | e | e <;> first | exact Or.inl (e) | exact Or.inr (Or.inl (e)) | exact Or.inr (Or.inr (Or.inl (e))) | exact Or.inr (Or.inr (Or.inr (Or.inl (e)))) | exact Or.inr (Or.inr (Or.inr (Or.inr (Or.inl (e))))) | exact Or.inr (Or.inr (Or.inr (Or.inr (Or.inr (Or.inl (e)))))) | exact Or.inr (Or.inr (Or.inr (Or.inr (Or.inr (Or.inr (Or.inl (e))))))) | exact Or.inr (Or.inr (Or.inr (Or.inr (Or.inr (Or.inr (Or.inr (Or.inl (e)))))))) | exact Or.inr (Or.inr (Or.inr (Or.inr (Or.inr (Or.inr (Or.inr (Or.inr (Or.inl (e))))))))) | exact Or.inr (Or.inr (Or.inr (Or.inr (Or.inr (Or.inr (Or.inr (Or.inr (Or.inr (Or.inl (e)))))))))) | exact Or.inr (Or.inr (Or.inr (Or.inr (Or.inr (Or.inr (Or.inr (Or.inr (Or.inr (Or.inr (Or.inl (e))))))))))) | exact Or.inr (Or.inr (Or.inr (Or.inr (Or.inr (Or.inr (Or.inr (Or.inr (Or.inr (Or.inr (Or.inr (Or.inl (e)))))))))))) | exact Or.inr (Or.inr (Or.inr (Or.inr (Or.inr (Or.inr (Or.inr (Or.inr (Or.inr (Or.inr (Or.inr (Or.inr (Or.inl (e))))))))))))) | exact Or.inr (Or.inr (Or.inr (Or.inr (Or.inr (Or.inr (Or.inr (Or.inr (Or.inr (Or.inr (Or.inr (Or.inr (Or.inr (Or.inl (e)))))))))))))) | exact Or.inr (Or.inr (Or.inr (Or.inr (Or.inr (Or.inr (Or.inr (Or.inr (Or.inr (Or.inr (Or.inr (Or.inr (Or.inr (Or.inr (Or.inl (e))))))))))))))) | exact Or.inr (Or.inr (Or.inr (Or.inr (Or.inr (Or.inr (Or.inr (Or.inr (Or.inr (Or.inr (Or.inr (Or.inr (Or.inr (Or.inr (Or.inr (Or.inl (e)))))))))))))))) | exact Or.inr (Or.inr (Or.inr (Or.inr (Or.inr (Or.inr (Or.inr (Or.inr (Or.inr (Or.inr (Or.inr (Or.inr (Or.inr (Or.inr (Or.inr (Or.inr (Or.inl (e))))))))))))))))) | exact Or.inr (Or.inr (Or.inr (Or.inr (Or.inr (Or.inr (Or.inr (Or.inr (Or.inr (Or.inr (Or.inr (Or.inr (Or.inr (Or.inr (Or.inr (Or.inr (Or.inr (Or.inl (e)))))))))))))))))) | exact Or.inr (Or.inr (Or.inr (Or.inr (Or.inr (Or.inr (Or.inr (Or.inr (Or.inr (Or.inr (Or.inr (Or.inr (Or.inr (Or.inr (Or.inr (Or.inr (Or.inr (Or.inr (Or.inl (e))))))))))))))))))) | exact Or.inr (Or.inr (Or.inr (Or.inr (Or.inr (Or.inr (Or.inr (Or.inr (Or.inr (Or.inr (Or.inr (Or.inr (Or.inr (Or.inr (Or.inr (Or.inr (Or.inr (Or.inr (Or.inr (Or.inl (e)))))))))))))))))))) | exact Or.inr (Or.inr (Or.inr (Or.inr (Or.inr (Or.inr (Or.inr (Or.inr (Or.inr (Or.inr (Or.inr (Or.inr (Or.inr (Or.inr (Or.inr (Or.inr (Or.inr (Or.inr (Or.inr (Or.inr (Or.inl (e))))))))))))))))))))) | exact Or.inr (Or.inr (Or.inr (Or.inr (Or.inr (Or.inr (Or.inr (Or.inr (Or.inr (Or.inr (Or.inr (Or.inr (Or.inr (Or.inr (Or.inr (Or.inr (Or.inr (Or.inr (Or.inr (Or.inr (Or.inr (Or.inl (e)))))))))))))))))))))) | exact Or.inr (Or.inr (Or.inr (Or.inr (Or.inr (Or.inr (Or.inr (Or.inr (Or.inr (Or.inr (Or.inr (Or.inr (Or.inr (Or.inr (Or.inr (Or.inr (Or.inr (Or.inr (Or.inr (Or.inr (Or.inr (Or.inr (Or.inl (e))))))))))))))))))))))) | exact Or.inr (Or.inr (Or.inr (Or.inr (Or.inr (Or.inr (Or.inr (Or.inr (Or.inr (Or.inr (Or.inr (Or.inr (Or.inr (Or.inr (Or.inr (Or.inr (Or.inr (Or.inr (Or.inr (Or.inr (Or.inr (Or.inr (Or.inr (Or.inl (e)))))))))))))))))))))))) | exact Or.inr (Or.inr (Or.inr (Or.inr (Or.inr (Or.inr (Or.inr (Or.inr (Or.inr (Or.inr (Or.inr (Or.inr (Or.inr (Or.inr (Or.inr (Or.inr (Or.inr (Or.inr (Or.inr (Or.inr (Or.inr (Or.inr (Or.inr (Or.inr (Or.inl (e))))))))))))))))))))))))) | exact Or.inr (Or.inr (Or.inr (Or.inr (Or.inr (Or.inr (Or.inr (Or.inr (Or.inr (Or.inr (Or.inr (Or.inr (Or.inr (Or.inr (Or.inr (Or.inr (Or.inr (Or.inr (Or.inr (Or.inr (Or.inr (Or.inr (Or.inr (Or.inr (Or.inr (Or.inl (e)))))))))))))))))))))))))) | exact Or.inr (Or.inr (Or.inr (Or.inr (Or.inr (Or.inr (Or.inr (Or.inr (Or.inr (Or.inr (Or.inr (Or.inr (Or.inr (Or.inr (Or.inr (Or.inr (Or.inr (Or.inr (Or.inr (Or.inr (Or.inr (Or.inr (Or.inr (Or.inr (Or.inr (Or.inr (Or.inl (e))))))))))))))))))))))))))) | exact Or.inr (Or.inr (Or.inr (Or.inr (Or.inr (Or.inr (Or.inr (Or.inr (Or.inr (Or.inr (Or.inr (Or.inr (Or.inr (Or.inr (Or.inr (Or.inr (Or.inr (Or.inr (Or.inr (Or.inr (Or.inr (Or.inr (Or.inr (Or.inr (Or.inr (Or.inr (Or.inr (Or.inl (e)))))))))))))))))))))))))))) | exact Or.inr (Or.inr (Or.inr (Or.inr (Or.inr (Or.inr (Or.inr (Or.inr (Or.inr (Or.inr (Or.inr (Or.inr (Or.inr (Or.inr (Or.inr (Or.inr (Or.inr (Or.inr (Or.inr (Or.inr (Or.inr (Or.inr (Or.inr (Or.inr (Or.inr (Or.inr (Or.inr (Or.inr (Or.inl (e))))))))))))))))))))))))))))) | exact Or.inr (Or.inr (Or.inr (Or.inr (Or.inr (Or.inr (Or.inr (Or.inr (Or.inr (Or.inr (Or.inr (Or.inr (Or.inr (Or.inr (Or.inr (Or.inr (Or.inr (Or.inr (Or.inr (Or.inr (Or.inr (Or.inr (Or.inr (Or.inr (Or.inr (Or.inr (Or.inr (Or.inr (Or.inr (Or.inl (e)))))))))))))))))))))))))))))) | exact Or.inr (Or.inr (Or.inr (Or.inr (Or.inr (Or.inr (Or.inr (Or.inr (Or.inr (Or.inr (Or.inr (Or.inr (Or.inr (Or.inr (Or.inr (Or.inr (Or.inr (Or.inr (Or.inr (Or.inr (Or.inr (Or.inr (Or.inr (Or.inr (Or.inr (Or.inr (Or.inr (Or.inr (Or.inr (Or.inr (Or.inl (e))))))))))))))))))))))))))))))) | exact Or.inr (Or.inr (Or.inr (Or.inr (Or.inr (Or.inr (Or.inr (Or.inr (Or.inr (Or.inr (Or.inr (Or.inr (Or.inr (Or.inr (Or.inr (Or.inr (Or.inr (Or.inr (Or.inr (Or.inr (Or.inr (Or.inr (Or.inr (Or.inr (Or.inr (Or.inr (Or.inr (Or.inr (Or.inr (Or.inr (Or.inr (Or.inl (e)))))))))))))))))))))))))))))))) | exact Or.inr (Or.inr (Or.inr (Or.inr (Or.inr (Or.inr (Or.inr (Or.inr (Or.inr (Or.inr (Or.inr (Or.inr (Or.inr (Or.inr (Or.inr (Or.inr (Or.inr (Or.inr (Or.inr (Or.inr (Or.inr (Or.inr (Or.inr (Or.inr (Or.inr (Or.inr (Or.inr (Or.inr (Or.inr (Or.inr (Or.inr (Or.inr (Or.inl (e))))))))))))))))))))))))))))))))) | exact Or.inr (Or.inr (Or.inr (Or.inr (Or.inr (Or.inr (Or.inr (Or.inr (Or.inr (Or.inr (Or.inr (Or.inr (Or.inr (Or.inr (Or.inr (Or.inr (Or.inr (Or.inr (Or.inr (Or.inr (Or.inr (Or.inr (Or.inr (Or.inr (Or.inr (Or.inr (Or.inr (Or.inr (Or.inr (Or.inr (Or.inr (Or.inr (Or.inr (Or.inl (e)))))))))))))))))))))))))))))))))) | exact Or.inr (Or.inr (Or.inr (Or.inr (Or.inr (Or.inr (Or.inr (Or.inr (Or.inr (Or.inr (Or.inr (Or.inr (Or.inr (Or.inr (Or.inr (Or.inr (Or.inr (Or.inr (Or.inr (Or.inr (Or.inr (Or.inr (Or.inr (Or.inr (Or.inr (Or.inr (Or.inr (Or.inr (Or.inr (Or.inr (Or.inr (Or.inr (Or.inr (Or.inr (Or.inl (e))))))))))))))))))))))))))))))))))) | exact Or.inr (Or.inr (Or.inr (Or.inr (Or.inr (Or.inr (Or.inr (Or.inr (Or.inr (Or.inr (Or.inr (Or.inr (Or.inr (Or.inr (Or.inr (Or.inr (Or.inr (Or.inr (Or.inr (Or.inr (Or.inr (Or.inr (Or.inr (Or.inr (Or.inr (Or.inr (Or.inr (Or.inr (Or.inr (Or.inr (Or.inr (Or.inr (Or.inr (Or.inr (Or.inr (Or.inl (e)))))))))))))))))))))))))))))))))))) | exact Or.inr (Or.inr (Or.inr (Or.inr (Or.inr (Or.inr (Or.inr (Or.inr (Or.inr (Or.inr (Or.inr (Or.inr (Or.inr (Or.inr (Or.inr (Or.inr (Or.inr (Or.inr (Or.inr (Or.inr (Or.inr (Or.inr (Or.inr (Or.inr (Or.inr (Or.inr (Or.inr (Or.inr (Or.inr (Or.inr (Or.inr (Or.inr (Or.inr (Or.inr (Or.inr (Or.inr (Or.inl (e))))))))))))))))))))))))))))))))))))) | exact Or.inr (Or.inr (Or.inr (Or.inr (Or.inr (Or.inr (Or.inr (Or.inr (Or.inr (Or.inr (Or.inr (Or.inr (Or.inr (Or.inr (Or.inr (Or.inr (Or.inr (Or.inr (Or.inr (Or.inr (Or.inr (Or.inr (Or.inr (Or.inr (Or.inr (Or.inr (Or.inr (Or.inr (Or.inr (Or.inr (Or.inr (Or.inr (Or.inr (Or.inr (Or.inr (Or.inr (Or.inr (Or.inl (e)))))))))))))))))))))))))))))))))))))) | exact Or.inr (Or.inr (Or.inr (Or.inr (Or.inr (Or.inr (Or.inr (Or.inr (Or.inr (Or.inr (Or.inr (Or.inr (Or.inr (Or.inr (Or.inr (Or.inr (Or.inr (Or.inr (Or.inr (Or.inr (Or.inr (Or.inr (Or.inr (Or.inr (Or.inr (Or.inr (Or.inr (Or.inr (Or.inr (Or.inr (Or.inr (Or.inr (Or.inr (Or.inr (Or.inr (Or.inr (Or.inr (Or.inr (e))))))))))))))))))))))))))))))))))))))) (fun x k hx => by simp only [wJ_mP_begin_b20] at hx; rcases hx with e | e | e | e | e | e <;> first | exact Or.inl (e) | exact Or.inr (Or.inl (e)) | exact Or.inr (Or.inr (Or.inl (e))) | exact Or.inr (Or.inr (Or.inr (Or.inl (e)))) | exact Or.inr (Or.inr (Or.inr (Or.inr (Or.inl (e))))) | exact Or.inr (Or.inr (Or.inr (Or.inr (Or.inr (e))))))
theorem fe_mP_begin_b75 (v0 : Nat) (s0 : Nat) (s1 : Int) (h : Hp) : Feo (wI_mP_begin_b75 v0 s0 s1 h) (wJ_mP_begin_b75 v0 s0 s1 h) h id (f_mP_begin_b75 v0 s0 s1 h) := by
  unfold f_mP_begin_b75
  refine fe_it fe_no ?_
  refine fe_b2 Fe.rf (fe_mP_fails _ _ _ _) (fun x k hx => by simp only [wI_mP_fails] at hx; have e := hx; exact Or.inr (Or.inr (Or.inr (Or.inr (Or.inr (Or.inr (Or.inr (Or.inr (Or.inr (Or.inr (Or.inr (Or.inr (Or.inr (Or.inr (Or.inr (Or.inr (Or.inr (Or.inr (Or.inr (Or.inr (Or.inr (Or.inr (Or.inr (Or.inr (Or.inr (Or.inr (Or.inr (Or.inr (Or.inr (Or.inr (Or.inr (Or.inr (Or.inr (Or.inr (Or.inr (Or.inr (Or.inr (Or.inr (e))))))))))))))))))))))))))))))))))))))) (fun x k hx => False.elim hx) (fun r11 h9 F1 => ?_)
  refine fe_it ?_ ?_
  · refine fe_it fe_no ?_
    refine fe_it ?_ fe_no
    refine fe_it ?_ fe_no
    refine fe_it fe_no ?_
    refine fe_it fe_no ?_
    refine fe_b1 F1 (fe_mSide_begin _ _ _ _) (fun x k hx => by simp only [wI_mSide_begin, F1.r] at hx; rcases hx with e | e | e | e | e | e | e | e | e | e | e | e | e | e | e | e | e | e | e | e | e | e | e | e | e | e | e | e | e | e | e | e | e | e | e | e | e | e <;> first | exact Or.inl (e) | exact Or.inr (Or.inl (e)) | exact Or.inr (Or.inr (Or.inl (e))) | exact Or.inr (Or.inr (Or.inr (Or.inl (e)))) | exact Or.inr (Or.inr (Or.inr (Or.inr (Or.inl (e))))) | exact Or.inr (Or.inr (Or.inr (Or.inr (Or.inr (Or.inl (e)))))) | exact Or.inr (Or.inr (Or.inr (Or.inr (Or.inr (Or.inr (Or.inl (e))))))) | exact Or.inr (Or.inr (Or.inr (Or.inr (Or.inr (Or.inr (Or.inr (Or.inl (e)))))))) | exact Or.inr (Or.inr (Or.inr (Or.inr (Or.inr (Or.inr (Or.inr (Or.inr (Or.inl (e))))))))) | exact Or.inr (Or.inr (Or.inr (Or.inr (Or.inr (Or.inr (Or.inr (Or.inr (Or.inr (Or.inl (e)))))))))) | exact Or.inr (Or.inr (Or.inr (Or.inr (Or.inr (Or.inr (Or.inr (Or.inr (Or.inr (Or.inr (Or.inl (e))))))))))) | exact Or.inr (Or.inr (Or.inr (Or.inr (Or.inr (Or.inr (Or.inr (Or.inr (Or.inr (Or.inr (Or.inr (Or.inl (e)))))))))))) | exact Or.inr (Or.inr (Or.inr (Or.inr (Or.inr (Or.inr (Or.inr (Or.inr (Or.inr (Or.inr (Or.inr (Or.inr (Or.inl (e))))))))))))) | exact Or.inr (Or.inr (Or.inr (Or.inr (Or.inr (Or.inr (Or.inr (Or.inr (Or.inr (Or.inr (Or.inr (Or.inr (Or.inr (Or.inl (e)))))))))))))) | exact Or.inr (Or.inr (Or.inr (Or.inr (Or.inr (Or.inr (Or.inr (Or.inr (Or.inr (Or.inr (Or.inr (Or.inr (Or.inr (Or.inr (Or.inl (e))))))))))))))) | exact Or.inr (Or.inr (Or.inr (Or.inr (Or.inr (Or.inr (Or.inr (Or.inr (Or.inr (Or.inr (Or.inr (Or.inr (Or.inr (Or.inr (Or.inr (Or.inl (e)))))))))))))))) | exact Or.inr (Or.inr (Or.inr (Or.inr (Or.inr (Or.inr (Or.inr (Or.inr (Or.inr (Or.inr (Or.inr (Or.inr (Or.inr (Or.inr (Or.inr (Or.inr (Or.inl (e))))))))))))))))) | exact Or.inr (Or.inr (Or.inr (Or.inr (Or.inr (Or.inr (Or.inr (Or.inr (Or.inr (Or.inr (Or.inr (Or.inr (Or.inr (Or.inr (Or.inr (Or.inr (Or.inr (Or.inl (e)))))))))))))))))) | exact Or.inr (Or.inr (Or.inr (Or.inr (Or.inr (Or.inr (Or.inr (Or.inr (Or.inr (Or.inr (Or.inr (Or.inr (Or.inr (Or.inr (Or.inr (Or.inr (Or.inr (Or.inr (Or.inl (e))))))))))))))))))) | exact Or.inr (Or.inr (Or.inr (Or.inr (Or.inr (Or.inr (Or.inr (Or.inr (Or.inr (Or.inr (Or.inr (Or.inr (Or.inr (Or.inr (Or.inr (Or.inr (Or.inr (Or.inr (Or.inr (Or.inl (e)))))))))))))))))))) | exact Or.inr (Or.inr (Or.inr (Or.inr (Or.inr (Or.inr (Or.inr (Or.inr (Or.inr (Or.inr (Or.inr (Or.inr (Or.inr (Or.inr (Or.inr (Or.inr (Or.inr (Or.inr (Or.inr (Or.inr (Or.inl (e))))))))))))))))))))) | exact Or.inr (Or.inr (Or.inr (Or.inr (Or.inr (Or.inr (Or.inr (Or.inr (Or.inr (Or.inr (Or.inr (Or.inr (Or.inr (Or.inr (Or.inr (Or.inr (Or.inr (Or.inr (Or.inr (Or.inr (Or.inr (Or.inl (e)))))))))))))))))))))) | exact Or.inr (Or.inr (Or.inr (Or.inr (Or.inr (Or.inr (Or.inr (Or.inr (Or.inr (Or.inr (Or.inr (Or.inr (Or.inr (Or.inr (Or.inr (Or.inr (Or.inr (Or.inr (Or.inr (Or.inr (Or.inr (Or.inr (Or.inl (e))))))))))))))))))))))) | exact Or.inr (Or.inr (Or.inr (Or.inr (Or.inr (Or.inr (Or.inr (Or.inr (Or.inr (Or.inr (Or.inr (Or.inr (Or.inr (Or.inr (Or.inr (Or.inr (Or.inr (Or.inr (Or.inr (Or.inr (Or.inr (Or.inr (Or.inr (Or.inl (e)))))))))))))))))))))))) | exact Or.inr (Or.inr (Or.inr (Or.inr (Or.inr (Or.inr (Or.inr (Or.inr (Or.inr (Or.inr (Or.inr (Or.inr (Or.inr (Or.inr (Or.inr (Or.inr (Or.inr (Or.inr (Or.inr (Or.inr (Or.inr (Or.inr (Or.inr (Or.inr (Or.inl (e))))))))))))))))))))))))) | exact Or.inr (Or.inr (Or.inr (Or.inr (Or.inr (Or.inr (Or.inr (Or.inr (Or.inr (Or.inr (Or.inr (Or.inr (Or.inr (Or.inr (Or.inr (Or.inr (Or.inr (Or.inr (Or.inr (Or.inr (Or.inr (Or.inr (Or.inr (Or.inr (Or.inr (Or.inl (e)))))))))))))))))))))))))) | exact Or.inr (Or.inr (Or.inr (Or.inr (Or.inr (Or.inr (Or.inr (Or.inr (Or.inr (Or.inr (Or.inr (Or.inr (Or.inr (Or.inr (Or.inr (Or.inr (Or.inr (Or.inr (Or.inr (Or.inr (Or.inr (Or.inr (Or.inr (Or.inr (Or.inr (Or.inr (Or.inl (e))))))))))))))))))))))))))) | exact Or.inr (Or.inr (Or.inr (Or.inr (Or.inr (Or.inr (Or.inr (Or.inr (Or.inr (Or.inr (Or.inr (Or.inr (Or.inr (Or.inr (Or.inr (Or.inr (Or.inr (Or.inr (Or.inr (Or.inr (Or.inr (Or.inr (Or.inr (Or.inr (Or.inr (Or.inr (Or.inr (Or.inl (e)))))))))))))))))))))))))))) | exact Or.inr (Or.inr (Or.inr (Or.inr (Or.inr (Or.inr (Or.inr (Or.inr (Or.inr (Or.inr (Or.inr (Or.inr (Or.inr (Or.inr (Or.inr (Or.inr (Or.inr (Or.inr (Or.inr (Or.inr (Or.inr (Or.inr (Or.inr (Or.inr (Or.inr (Or.inr (Or.inr (Or.inr (Or.inl (e))))))))))))))))))))))))))))) | exact Or.inr (Or.inr (Or.inr (Or.inr (Or.inr (Or.inr (Or.inr (Or.inr (Or.inr (Or.inr (Or.inr (Or.inr (Or.inr (Or.inr (Or.inr (Or.inr (Or.inr (Or.inr (Or.inr (Or.inr (Or.inr (Or.inr (Or.inr (Or.inr (Or.inr (Or.inr (Or.inr (Or.inr (Or.inr (Or.inl (e)))))))))))))))))))))))))))))) | exact Or.inr (Or.inr (Or.inr (Or.inr (Or.inr (Or.inr (Or.inr (Or.inr (Or.inr (Or.inr (Or.inr (Or.inr (Or.inr (Or.inr (Or.inr (Or.inr (Or.inr (Or.inr (Or.inr (Or.inr (Or.inr (Or.inr (Or.inr (Or.inr (Or.inr (Or.inr (Or.inr (Or.inr (Or.inr (Or.inr (Or.inl (e))))))))))))))))))))))))))))))) | exact Or.inr (Or.inr (Or.inr (Or.inr (Or.inr (Or.inr (Or.inr (Or.inr (Or.inr (Or.inr (Or.inr (Or.inr (Or.inr (Or.inr (Or.inr (Or.inr (Or.inr (Or.inr (Or.inr (Or.inr (Or.inr (Or.inr (Or.inr (Or.inr (Or.inr (Or.inr (Or.inr (Or.inr (Or.inr (Or.inr (Or.inr (Or.inl (e)))))))))))))))))))))))))))))))) | exact Or.inr (Or.inr (Or.inr (Or.inr (Or.inr (Or.inr (Or.inr (Or.inr (Or.inr (Or.inr (Or.inr (Or.inr (Or.inr (Or.inr (Or.inr (Or.inr (Or.inr (Or.inr (Or.inr (Or.inr (Or.inr (Or.inr (Or.inr (Or.inr (Or.inr (Or.inr (Or.inr (Or.inr (Or.inr (Or.inr (Or.inr (Or.inr (Or.inl (e))))))))))))))))))))))))))))))))) | exact Or.inr (Or.inr (Or.inr (Or.inr (Or.inr (Or.inr (Or.inr (Or.inr (Or.inr (Or.inr (Or.inr (Or.inr (Or.inr (Or.inr (Or.inr (Or.inr (Or.inr (Or.inr (Or.inr (Or.inr (Or.inr (Or.inr (Or.inr (Or.inr (Or.inr (Or.inr (Or.inr (Or.inr (Or.inr (Or.inr (Or.inr (Or.inr (Or.inr (Or.inl (e)))))))))))))))))))))))))))))))))) | exact Or.inr (Or.inr (Or.inr (Or.inr (Or.inr (Or.inr (Or.inr (Or.inr (Or.inr (Or.inr (Or.inr (Or.inr (Or.inr (Or.inr (Or.inr (Or.inr (Or.inr (Or.inr (Or.inr (Or.inr (Or.inr (Or.inr (Or.inr (Or.inr (Or.inr (Or.inr (Or.inr (Or.inr (Or.inr (Or.inr (Or.inr (Or.inr (Or.inr (Or.inr (Or.inl (e))))))))))))))))))))))))))))))))))) | exact Or.inr (Or.inr (Or.inr (Or.inr (Or.inr (Or.inr (Or.inr (Or.inr (Or.inr (Or.inr (Or.inr (Or.inr (Or.inr (Or.inr (Or.inr (Or.inr (Or.inr (Or.inr (Or.inr (Or.inr (Or.inr (Or.inr (Or.inr (Or.inr (Or.inr (Or.inr (Or.inr (Or.inr (Or.inr (Or.inr (Or.inr (Or.inr (Or.inr (Or.inr (Or.inr (Or.inl (e)))))))))))))))))))))))))))))))))))) | exact Or.inr (Or.inr (Or.inr (Or.inr (Or.inr (Or.inr (Or.inr (Or.inr (Or.inr (Or.inr (Or.inr (Or.inr (Or.inr (Or.inr (Or.inr (Or.inr (Or.inr (Or.inr (Or.inr (Or.inr (Or.inr (Or.inr (Or.inr (Or.inr (Or.inr (Or.inr (Or.inr (Or.inr (Or.inr (Or.inr (Or.inr (Or.inr (Or.inr (Or.inr (Or.inr (Or.inr (Or.inl (e))))))))))))))))))))))))))))))))))))) | exact Or.inr (Or.inr (Or.inr (Or.inr (Or.inr (Or.inr (Or.inr (Or.inr (Or.inr (Or.inr (Or.inr (Or.inr (Or.inr (Or.inr (Or.inr (Or.inr (Or.inr (Or.inr (Or.inr (Or.inr (Or.inr (Or.inr (Or.inr (Or.inr (Or.inr (Or.inr (Or.inr (Or.inr (Or.inr (Or.inr (Or.inr (Or.inr (Or.inr (Or.inr (Or.inr (Or.inr (Or.inr (Or.inl (e))))))))))))))))))))))))))))))))))))))) (fun x k hx => by simp only [wJ_mSide_begin, F1.r] at hx; rcases hx with e | e | e | e | e | e <;> first | exact Or.inl (e) | exact Or.inr (Or.inl (e)) | exact Or.inr (Or.inr (Or.inl (e))) | exact Or.inr (Or.inr (Or.inr (Or.inl (e)))) | exact Or.inr (Or.inr (Or.inr (Or.inr (Or.inl (e))))) | exact Or.inr (Or.inr (Or.inr (Or.inr (Or.inr (e)))))) (fun h17 F2 => ?_)
    exact fe_so F2
  · exact fe_so F1
theorem fe_mP_begin_b57 {k20 : Nat → Int → Int → Hp → Option (Hp)} (hk20 : ∀ (v0 : Nat) (v1 : Int) (v2 : Int) (h : Hp), Feo (wI_mP_begin_b20 v0 v1 v2 h) (wJ_mP_begin_b20 v0 v1 v2 h) h id (k20 v0 v1 v2 h)) (v0 : Nat) (v2 : Int) (h : Hp) : Feo (wI_mP_begin_b57 v0 v2 h) (wJ_mP_begin_b57 v0 v2 h) h id (f_mP_begin_b57 k20 v0 v2 h) := by
  unfold f_mP_begin_b57
  exact fe_j Fe.rf (fe_mP_begin_b58 hk20 _ _ _ _) (fun x k hx => by simp only [wI_mP_begin_b58] at hx; rcases hx with e | e | e | e | e | e | e | e | e | e | e | e | e | e | e | e | e | e | e | e | e | e | e | e | e | e | e | e | e | e | e | e | e | e | e | e | e | e | e <;> first | exact Or.inl (e) | exact Or.inr (Or.inl (e)) | exact Or.inr (Or.inr (Or.inl (e))) | exact Or.inr (Or.inr (Or.inr (Or.inl (e)))) | exact Or.inr (Or.inr (Or.inr (Or.inr (Or.inl (e))))) | exact Or.inr (Or.inr (Or.inr (Or.inr (Or.inr (Or.inl (e)))))) | exact Or.inr (Or.inr (Or.inr (Or.inr (Or.inr (Or.inr (Or.inl (e))))))) | exact Or.inr (Or.inr (Or.inr (Or.inr (Or.inr (Or.inr (Or.inr (Or.inl (e)))))))) | exact Or.inr (Or.inr (Or.inr (Or.inr (Or.inr (Or.inr (Or.inr (Or.inr (Or.inl (e))))))))) | exact Or.inr (Or.inr (Or.inr (Or.inr (Or.inr (Or.inr (Or.inr (Or.inr (Or.inr (Or.inl (e)))))))))) | exact Or.inr (Or.inr (Or.inr (Or.inr (Or.inr (Or.inr (Or.inr (Or.inr (Or.inr (Or.inr (Or.inl (e))))))))))) | exact Or.inr (Or.inr (Or.inr (Or.inr (Or.inr (Or.inr (Or.inr (Or.inr (Or.inr (Or.inr (Or.inr (Or.inl (e)))))))))))) | exact Or.inr (Or.inr (Or.inr (Or.inr (Or.inr (Or.inr (Or.inr (Or.inr (Or.inr (Or.inr (Or.inr (Or.inr (Or.inl (e))))))))))))) | exact Or.inr (Or.inr (Or.inr (Or.inr (Or.inr (Or.inr (Or.inr (Or.inr (Or.inr (Or.inr (Or.inr (Or.inr (Or.inr (Or.inl (e)))))))))))))) | exact Or.inr (Or.inr (Or.inr (Or.inr (Or.inr (Or.inr (Or.inr (Or.inr (Or.inr (Or.inr (Or.inr (Or.inr (Or.inr (Or.inr (Or.inl (e))))))))))))))) | exact Or.inr (Or.inr (Or.inr (Or.inr (Or.inr (Or.inr (Or.inr (Or.inr (Or.inr (Or.inr (Or.inr (Or.inr (Or.inr (Or.inr (Or.inr (Or.inl (e)))))))))))))))) | exact Or.inr (Or.inr (Or.inr (Or.inr (Or.inr (Or.inr (Or.inr (Or.inr (Or.inr (Or.inr (Or.inr (Or.inr (Or.inr (Or.inr (Or.inr (Or.inr (Or.inl (e))))))))))))))))) | exact Or.inr (Or.inr (Or.inr (Or.inr (Or.inr (Or.inr (Or.inr (Or.inr (Or.inr (Or.inr (Or.inr (Or.inr (Or.inr (Or.inr (Or.inr (Or.inr (Or.inr (Or.inl (e)))))))))))))))))) | exact Or.inr (Or.inr (Or.inr (Or.inr (Or.inr (Or.inr (Or.inr (Or.inr (Or.inr (Or.inr (Or.inr (Or.inr (Or.inr (Or.inr (Or.inr (Or.inr (Or.inr (Or.inr (Or.inl (e))))))))))))))))))) | exact Or.inr (Or.inr (Or.inr (Or.inr (Or.inr (Or.inr (Or.inr (Or.inr (Or.inr (Or.inr (Or.inr (Or.inr (Or.inr (Or.inr (Or.inr (Or.inr (Or.inr (Or.inr (Or.inr (Or.inl (e)))))))))))))))))))) | exact Or.inr (Or.inr (Or.inr (Or.inr (Or.inr (Or.inr (Or.inr (Or.inr (Or.inr (Or.inr (Or.inr (Or.inr (Or.inr (Or.inr (Or.inr (Or.inr (Or.inr (Or.inr (Or.inr (Or.inr (Or.inl (e))))))))))))))))))))) | exact Or.inr (Or.inr (Or.inr (Or.inr (Or.inr (Or.inr (Or.inr (Or.inr (Or.inr (Or.inr (Or.inr (Or.inr (Or.inr (Or.inr (Or.inr (Or.inr (Or.inr (Or.inr (Or.inr (Or.inr (Or.inr (Or.inl (e)))))))))))))))))))))) | exact Or.inr (Or.inr (Or.inr (Or.inr (Or.inr (Or.inr (Or.inr (Or.inr (Or.inr (Or.inr (Or.inr (Or.inr (Or.inr (Or.inr (Or.inr (Or.inr (Or.inr (Or.inr (Or.inr (Or.inr (Or.inr (Or.inr (Or.inl (e))))))))))))))))))))))) | exact Or.inr (Or.inr (Or.inr (Or.inr (Or.inr (Or.inr (Or.inr (Or.inr (Or.inr (Or.inr (Or.inr (Or.inr (Or.inr (Or.inr (Or.inr (Or.inr (Or.inr (Or.inr (Or.inr (Or.inr (Or.inr (Or.inr (Or.inr (Or.inl (e)))))))))))))))))))))))) | exact Or.inr (Or.inr (Or.inr (Or.inr (Or.inr (Or.inr (Or.inr (Or.inr (Or.inr (Or.inr (Or.inr (Or.inr (Or.inr (Or.inr (Or.inr (Or.inr (Or.inr (Or.inr (Or.inr (Or.inr (Or.inr (Or.inr (Or.inr (Or.inr (Or.inl (e))))))))))))))))))))))))) | exact Or.inr (Or.inr (Or.inr (Or.inr (Or.inr (Or.inr (Or.inr (Or.inr (Or.inr (Or.inr (Or.inr (Or.inr (Or.inr (Or.inr (Or.inr (Or.inr (Or.inr (Or.inr (Or.inr (Or.inr (Or.inr (Or.inr (Or.inr (Or.inr (Or.inr (Or.inl (e)))))))))))))))))))))))))) | exact Or.inr (Or.inr (Or.inr (Or.inr (Or.inr (Or.inr (Or.inr (Or.inr (Or.inr (Or.inr (Or.inr (Or.inr (Or.inr (Or.inr (Or.inr (Or.inr (Or.inr (Or.inr (Or.inr (Or.inr (Or.inr (Or.inr (Or.inr (Or.inr (Or.inr (Or.inr (Or.inl (e))))))))))))))))))))))))))) | exact Or.inr (Or.inr (Or.inr (Or.inr (Or.inr (Or.inr (Or.inr (Or.inr (Or.inr (Or.inr (Or.inr (Or.inr (Or.inr (Or.inr (Or.inr (Or.inr (Or.inr (Or.inr (Or.inr (Or.inr (Or.inr (Or.inr (Or.inr (Or.inr (Or.inr (Or.inr (Or.inr (Or.inl (e)))))))))))))))))))))))))))) | exact Or.inr (Or.inr (Or.inr (Or.inr (Or.inr (Or.inr (Or.inr (Or.inr (Or.inr (Or.inr (Or.inr (Or.inr (Or.inr (Or.inr (Or.inr (Or.inr (Or.inr (Or.inr (Or.inr (Or.inr (Or.inr (Or.inr (Or.inr (Or.inr (Or.inr (Or.inr (Or.inr (Or.inr (Or.inl (e))))))))))))))))))))))))))))) | exact Or.inr (Or.inr (Or.inr (Or.inr (Or.inr (Or.inr (Or.inr (Or.inr (Or.inr (Or.inr (Or.inr (Or.inr (Or.inr (Or.inr (Or.inr (Or.inr (Or.inr (Or.inr (Or.inr (Or.inr (Or.inr (Or.inr (Or.inr (Or.inr (Or.inr (Or.inr (Or.inr (Or.inr (Or.inr (Or.inl (e)))))))))))))))))))))))))))))) | exact Or.inr (Or.inr (Or.inr (Or.inr (Or.inr (Or.inr (Or.inr (Or.inr (Or.inr (Or.inr (Or.inr (Or.inr (Or.inr (Or.inr (Or.inr (Or.inr (Or.inr (Or.inr (Or.inr (Or.inr (Or.inr (Or.inr (Or.inr (Or.inr (Or.inr (Or.inr (Or.inr (Or.inr (Or.inr (Or.inr (Or.inl (e))))))))))))))))))))))))))))))) | exact Or.inr (Or.inr (Or.inr (Or.inr (Or.inr (Or.inr (Or.inr (Or.inr (Or.inr (Or.inr (Or.inr (Or.inr (Or.inr (Or.inr (Or.inr (Or.inr (Or.inr (Or.inr (Or.inr (Or.inr (Or.inr (Or.inr (Or.inr (Or.inr (Or.inr (Or.inr (Or.inr (Or.inr (Or.inr (Or.inr (Or.inr (Or.inl (e)))))))))))))))))))))))))))))))) | exact Or.inr (Or.inr (Or.inr (Or.inr (Or.inr (Or.inr (Or.inr (Or.inr (Or.inr (Or.inr (Or.inr (Or.inr (Or.inr (Or.inr (Or.inr (Or.inr (Or.inr (Or.inr (Or.inr (Or.inr (Or.inr (Or.inr (Or.inr (Or.inr (Or.inr (Or.inr (Or.inr (Or.inr (Or.inr (Or.inr (Or.inr (Or.inr (Or.inl (e))))))))))))))))))))))))))))))))) | exact Or.inr (Or.inr (Or.inr (Or.inr (Or.inr (Or.inr (Or.inr (Or.inr (Or.inr (Or.inr (Or.inr (Or.inr (Or.inr (Or.inr (Or.inr (Or.inr (Or.inr (Or.inr (Or.inr (Or.inr (Or.inr (Or.inr (Or.inr (Or.inr (Or.inr (Or.inr (Or.inr (Or.inr (Or.inr (Or.inr (Or.inr (Or.inr (Or.inr (Or.inl (e)))))))))))))))))))))))))))))))))) | exact Or.inr (Or.inr (Or.inr (Or.inr (Or.inr (Or.inr (Or.inr (Or.inr (Or.inr (Or.inr (Or.inr (Or.inr (Or.inr (Or.inr (Or.inr (Or.inr (Or.inr (Or.inr (Or.inr (Or.inr (Or.inr (Or.inr (Or.inr (Or.inr (Or.inr (Or.inr (Or.inr (Or.inr (Or.inr (Or.inr (Or.inr (Or.inr (Or.inr (Or.inr (Or.inl (e))))))))))))))))))))))))))))))))))) | exact Or.inr (Or.inr (Or.inr (Or.inr (Or.inr (Or.inr (Or.inr (Or.inr (Or.inr (Or.inr (Or.inr (Or.inr (Or.inr (Or.inr (Or.inr (Or.inr (Or.inr (Or.inr (Or.inr (Or.inr (Or.inr (Or.inr (Or.inr (Or.inr (Or.inr (Or.inr (Or.inr (Or.inr (Or.inr (Or.inr (Or.inr (Or.inr (Or.inr (Or.inr (Or.inr (Or.inl (e)))))))))))))))))))))))))))))))))))) | exact Or.inr (Or.inr (Or.inr (Or.inr (Or.inr (Or.inr (Or.inr (Or.inr (Or.inr (Or.inr (Or.inr (Or.inr (Or.inr (Or.inr (Or.inr (Or.inr (Or.inr (Or.inr (Or.inr (Or.inr (Or.inr (Or.inr (Or.inr (Or.inr (Or.inr (Or.inr (Or.inr (Or.inr (Or.inr (Or.inr (Or.inr (Or.inr (Or.inr (Or.inr (Or.inr (Or.inr (Or.inl (e))))))))))))))))))))))))))))))))))))) | exact Or.inr (Or.inr (Or.inr (Or.inr (Or.inr (Or.inr (Or.inr (Or.inr (Or.inr (Or.inr (Or.inr (Or.inr (Or.inr (Or.inr (Or.inr (Or.inr (Or.inr (Or.inr (Or.inr (Or.inr (Or.inr (Or.inr (Or.inr (Or.inr (Or.inr (Or.inr (Or.inr (Or.inr (Or.inr (Or.inr (Or.inr (Or.inr (Or.inr (Or.inr (Or.inr (Or.inr (Or.inr (Or.inl (e)))))))))))))))))))))))))))))))))))))) | exact Or.inr (Or.inr (Or.inr (Or.inr (Or.inr (Or.inr (Or.inr (Or.inr (Or.inr (Or.inr (Or.inr (Or.inr (Or.inr (Or.inr (Or.inr (Or.inr (Or.inr (Or.inr (Or.inr (Or.inr (Or.inr (Or.inr (Or.inr (Or.inr (Or.inr (Or.inr (Or.inr (Or.inr (Or.inr (Or.inr (Or.inr (Or.inr (Or.inr (Or.inr (Or.inr (Or.inr (Or.inr (Or.inr (e))))))))))))))))))))))))))))))))))))))) (fun x k hx => by simp only [wJ_mP_begin_b58] at hx; rcases hx with e | e | e | e | e | e <;> first | exact Or.inl (e) | exact Or.inr (Or.inl (e)) | exact Or.inr (Or.inr (Or.inl (e))) | exact Or.inr (Or.inr (Or.inr (Or.inl (e)))) | exact Or.inr (Or.inr (Or.inr (Or.inr (Or.inl (e))))) | exact Or.inr (Or.inr (Or.inr (Or.inr (Or.inr (e))))))
theorem fe_mP_begin_b20 {k20 : Nat → Int → Int → Hp → Option (Hp)} (hk20 : ∀ (v0 : Nat) (v1 : Int) (v2 : Int) (h : Hp), Feo (wI_mP_begin_b20 v0 v1 v2 h) (wJ_mP_begin_b20 v0 v1 v2 h) h id (k20 v0 v1 v2 h)) (v0 : Nat) (v1 : Int) (v2 : Int) (h : Hp) : Feo (wI_mP_begin_b20 v0 v1 v2 h) (wJ_mP_begin_b20 v0 v1 v2 h) h id (f_mP_begin_b20 k20 v0 v1 v2 h) := by
  unfold f_mP_begin_b20
  refine fe_it ?_ ?_
  · refine fe_it ?_ ?_
    · exact fe_j Fe.rf (fe_mP_begin_b75 _ _ _ _) (fun x k hx => by simp only [wI_mP_begin_b75] at hx; rcases hx with e | e | e | e | e | e | e | e | e | e | e | e | e | e | e | e | e | e | e | e | e | e | e | e | e | e | e | e | e | e | e | e | e | e | e | e | e | e | e <;> first | exact Or.inl (e) | exact Or.inr (Or.inl (e)) | exact Or.inr (Or.inr (Or.inl (e))) | exact Or.inr (Or.inr (Or.inr (Or.inl (e)))) | exact Or.inr (Or.inr (Or.inr (Or.inr (Or.inl (e))))) | exact Or.inr (Or.inr (Or.inr (Or.inr (Or.inr (Or.inl (e)))))) | exact Or.inr (Or.inr (Or.inr (Or.inr (Or.inr (Or.inr (Or.inl (e))))))) | exact Or.inr (Or.inr (Or.inr (Or.inr (Or.inr (Or.inr (Or.inr (Or.inl (e)))))))) | exact Or.inr (Or.inr (Or.inr (Or.inr (Or.inr (Or.inr (Or.inr (Or.inr (Or.inl (e))))))))) | exact Or.inr (Or.inr (Or.inr (Or.inr (Or.inr (Or.inr (Or.inr (Or.inr (Or.inr (Or.inl (e)))))))))) | exact Or.inr (Or.inr (Or.inr (Or.inr (Or.inr (Or.inr (Or.inr (Or.inr (Or.inr (Or.inr (Or.inl (e))))))))))) | exact Or.inr (Or.inr (Or.inr (Or.inr (Or.inr (Or.inr (Or.inr (Or.inr (Or.inr (Or.inr (Or.inr (Or.inl (e)))))))))))) | exact Or.inr (Or.inr (Or.inr (Or.inr (Or.inr (Or.inr (Or.inr (Or.inr (Or.inr (Or.inr (Or.inr (Or.inr (Or.inl (e))))))))))))) | exact Or.inr (Or.inr (Or.inr (Or.inr (Or.inr (Or.inr (Or.inr (Or.inr (Or.inr (Or.inr (Or.inr (Or.inr (Or.inr (Or.inl (e)))))))))))))) | exact Or.inr (Or.inr (Or.inr (Or.inr (Or.inr (Or.inr (Or.inr (Or.inr (Or.inr (Or.inr (Or.inr (Or.inr (Or.inr (Or.inr (Or.inl (e))))))))))))))) | exact Or.inr (Or.inr (Or.inr (Or.inr (Or.inr (Or.inr (Or.inr (Or.inr (Or.inr (Or.inr (Or.inr (Or.inr (Or.inr (Or.inr (Or.inr (Or.inl (e)))))))))))))))) | exact Or.inr (Or.inr (Or.inr (Or.inr (Or.inr (Or.inr (Or.inr (Or.inr (Or.inr (Or.inr (Or.inr (Or.inr (Or.inr (Or.inr (Or.inr (Or.inr (Or.inl (e))))))))))))))))) | exact Or.inr (Or.inr (Or.inr (Or.inr (Or.inr (Or.inr (Or.inr (Or.inr (Or.inr (Or.inr (Or.inr (Or.inr (Or.inr (Or.inr (Or.inr (Or.inr (Or.inr (Or.inl (e)))))))))))))))))) | exact Or.inr (Or.inr (Or.inr (Or.inr (Or.inr (Or.inr (Or.inr (Or.inr (Or.inr (Or.inr (Or.inr (Or.inr (Or.inr (Or.inr (Or.inr (Or.inr (Or.inr (Or.inr (Or.inl (e))))))))))))))))))) | exact Or.inr (Or.inr (Or.inr (Or.inr (Or.inr (Or.inr (Or.inr (Or.inr (Or.inr (Or.inr (Or.inr (Or.inr (Or.inr (Or.inr (Or.inr (Or.inr (Or.inr (Or.inr (Or.inr (Or.inl (e)))))))))))))))))))) | exact Or.inr (Or.inr (Or.inr (Or.inr (Or.inr (Or.inr (Or.inr (Or.inr (Or.inr (Or.inr (Or.inr (Or.inr (Or.inr (Or.inr (Or.inr (Or.inr (Or.inr (Or.inr (Or.inr (Or.inr (Or.inl (e))))))))))))))))))))) | exact Or.inr (Or.inr (Or.inr (Or.inr (Or.inr (Or.inr (Or.inr (Or.inr (Or.inr (Or.inr (Or.inr (Or.inr (Or.inr (Or.inr (Or.inr (Or.inr (Or.inr (Or.inr (Or.inr (Or.inr (Or.inr (Or.inl (e)))))))))))))))))))))) | exact Or.inr (Or.inr (Or.inr (Or.inr (Or.inr (Or.inr (Or.inr (Or.inr (Or.inr (Or.inr (Or.inr (Or.inr (Or.inr (Or.inr (Or.inr (Or.inr (Or.inr (Or.inr (Or.inr (Or.inr (Or.inr (Or.inr (Or.inl (e))))))))))))))))))))))) | exact Or.inr (Or.inr (Or.inr (Or.inr (Or.inr (Or.inr (Or.inr (Or.inr (Or.inr (Or.inr (Or.inr (Or.inr (Or.inr (Or.inr (Or.inr (Or.inr (Or.inr (Or.inr (Or.inr (Or.inr (Or.inr (Or.inr (Or.inr (Or.inl (e)))))))))))))))))))))))) | exact Or.inr (Or.inr (Or.inr (Or.inr (Or.inr (Or.inr (Or.inr (Or.inr (Or.inr (Or.inr (Or.inr (Or.inr (Or.inr (Or.inr (Or.inr (Or.inr (Or.inr (Or.inr (Or.inr (Or.inr (Or.inr (Or.inr (Or.inr (Or.inr (Or.inl (e))))))))))))))))))))))))) | exact Or.inr (Or.inr (Or.inr (Or.inr (Or.inr (Or.inr (Or.inr (Or.inr (Or.inr (Or.inr (Or.inr (Or.inr (Or.inr (Or.inr (Or.inr (Or.inr (Or.inr (Or.inr (Or.inr (Or.inr (Or.inr (Or.inr (Or.inr (Or.inr (Or.inr (Or.inl (e)))))))))))))))))))))))))) | exact Or.inr (Or.inr (Or.inr (Or.inr (Or.inr (Or.inr (Or.inr (Or.inr (Or.inr (Or.inr (Or.inr (Or.inr (Or.inr (Or.inr (Or.inr (Or.inr (Or.inr (Or.inr (Or.inr (Or.inr (Or.inr (Or.inr (Or.inr (Or.inr (Or.inr (Or.inr (Or.inl (e))))))))))))))))))))))))))) | exact Or.inr (Or.inr (Or.inr (Or.inr (Or.inr (Or.inr (Or.inr (Or.inr (Or.inr (Or.inr (Or.inr (Or.inr (Or.inr (Or.inr (Or.inr (Or.inr (Or.inr (Or.inr (Or.inr (Or.inr (Or.inr (Or.inr (Or.inr (Or.inr (Or.inr (Or.inr (Or.inr (Or.inl (e)))))))))))))))))))))))))))) | exact Or.inr (Or.inr (Or.inr (Or.inr (Or.inr (Or.inr (Or.inr (Or.inr (Or.inr (Or.inr (Or.inr (Or.inr (Or.inr (Or.inr (Or.inr (Or.inr (Or.inr (Or.inr (Or.inr (Or.inr (Or.inr (Or.inr (Or.inr (Or.inr (Or.inr (Or.inr (Or.inr (Or.inr (Or.inl (e))))))))))))))))))))))))))))) | exact Or.inr (Or.inr (Or.inr (Or.inr (Or.inr (Or.inr (Or.inr (Or.inr (Or.inr (Or.inr (Or.inr (Or.inr (Or.inr (Or.inr (Or.inr (Or.inr (Or.inr (Or.inr (Or.inr (Or.inr (Or.inr (Or.inr (Or.inr (Or.inr (Or.inr (Or.inr (Or.inr (Or.inr (Or.inr (Or.inl (e)))))))))))))))))))))))))))))) | exact Or.inr (Or.inr (Or.inr (Or.inr (Or.inr (Or.inr (Or.inr (Or.inr (Or.inr (Or.inr (Or.inr (Or.inr (Or.inr (Or.inr (Or.inr (Or.inr (Or.inr (Or.inr (Or.inr (Or.inr (Or.inr (Or.inr (Or.inr (Or.inr (Or.inr (Or.inr (Or.inr (Or.inr (Or.inr (Or.inr (Or.inl (e))))))))))))))))))))))))))))))) | exact Or.inr (Or.inr (Or.inr (Or.inr (Or.inr (Or.inr (Or.inr (Or.inr (Or.inr (Or.inr (Or.inr (Or.inr (Or.inr (Or.inr (Or.inr (Or.inr (Or.inr (Or.inr (Or.inr (Or.inr (Or.inr (Or.inr (Or.inr (Or.inr (Or.inr (Or.inr (Or.inr (Or.inr (Or.inr (Or.inr (Or.inr (Or.inl (e)))))))))))))))))))))))))))))))) | exact Or.inr (Or.inr (Or.inr (Or.inr (Or.inr (Or.inr (Or.inr (Or.inr (Or.inr (Or.inr (Or.inr (Or.inr (Or.inr (Or.inr (Or.inr (Or.inr (Or.inr (Or.inr (Or.inr (Or.inr (Or.inr (Or.inr (Or.inr (Or.inr (Or.inr (Or.inr (Or.inr (Or.inr (Or.inr (Or.inr (Or.inr (Or.inr (Or.inl (e))))))))))))))))))))))))))))))))) | exact Or.inr (Or.inr (Or.inr (Or.inr (Or.inr (Or.inr (Or.inr (Or.inr (Or.inr (Or.inr (Or.inr (Or.inr (Or.inr (Or.inr (Or.inr (Or.inr (Or.inr (Or.inr (Or.inr (Or.inr (Or.inr (Or.inr (Or.inr (Or.inr (Or.inr (Or.inr (Or.inr (Or.inr (Or.inr (Or.inr (Or.inr (Or.inr (Or.inr (Or.inl (e)))))))))))))))))))))))))))))))))) | exact Or.inr (Or.inr (Or.inr (Or.inr (Or.inr (Or.inr (Or.inr (Or.inr (Or.inr (Or.inr (Or.inr (Or.inr (Or.inr (Or.inr (Or.inr (Or.inr (Or.inr (Or.inr (Or.inr (Or.inr (Or.inr (Or.inr (Or.inr (Or.inr (Or.inr (Or.inr (Or.inr (Or.inr (Or.inr (Or.inr (Or.inr (Or.inr (Or.inr (Or.inr (Or.inl (e))))))))))))))))))))))))))))))))))) | exact Or.inr (Or.inr (Or.inr (Or.inr (Or.inr (Or.inr (Or.inr (Or.inr (Or.inr (Or.inr (Or.inr (Or.inr (Or.inr (Or.inr (Or.inr (Or.inr (Or.inr (Or.inr (Or.inr (Or.inr (Or.inr (Or.inr (Or.inr (Or.inr (Or.inr (Or.inr (Or.inr (Or.inr (Or.inr (Or.inr (Or.inr (Or.inr (Or.inr (Or.inr (Or.inr (Or.inl (e)))))))))))))))))))))))))))))))))))) | exact Or.inr (Or.inr (Or.inr (Or.inr (Or.inr (Or.inr (Or.inr (Or.inr (Or.inr (Or.inr (Or.inr (Or.inr (Or.inr (Or.inr (Or.inr (Or.inr (Or.inr (Or.inr (Or.inr (Or.inr (Or.inr (Or.inr (Or.inr (Or.inr (Or.inr (Or.inr (Or.inr (Or.inr (Or.inr (Or.inr (Or.inr (Or.inr (Or.inr (Or.inr (Or.inr (Or.inr (Or.inl (e))))))))))))))))))))))))))))))))))))) | exact Or.inr (Or.inr (Or.inr (Or.inr (Or.inr (Or.inr (Or.inr (Or.inr (Or.inr (Or.inr (Or.inr (Or.inr (Or.inr (Or.inr (Or.inr (Or.inr (Or.inr (Or.inr (Or.inr (Or.inr (Or.inr (Or.inr (Or.inr (Or.inr (Or.inr (Or.inr (Or.inr (Or.inr (Or.inr (Or.inr (Or.inr (Or.inr (Or.inr (Or.inr (Or.inr (Or.inr (Or.inr (Or.inl (e)))))))))))))))))))))))))))))))))))))) | exact Or.inr (Or.inr (Or.inr (Or.inr (Or.inr (Or.inr (Or.inr (Or.inr (Or.inr (Or.inr (Or.inr (Or.inr (Or.inr (Or.inr (Or.inr (Or.inr (Or.inr (Or.inr (Or.inr (Or.inr (Or.inr (Or.inr (Or.inr (Or.inr (Or.inr (Or.inr (Or.inr (Or.inr (Or.inr (Or.inr (Or.inr (Or.inr (Or.inr (Or.inr (Or.inr (Or.inr (Or.inr (Or.inr (e))))))))))))))))))))))))))))))))))))))) (fun x k hx => by simp only [wJ_mP_begin_b75] at hx; rcases hx with e | e | e | e | e | e <;> first | exact Or.inl (e) | exact Or.inr (Or.inl (e)) | exact Or.inr (Or.inr (Or.inl (e))) | exact Or.inr (Or.inr (Or.inr (Or.inl (e)))) | exact Or.inr (Or.inr (Or.inr (Or.inr (Or.inl (e))))) | exact Or.inr (Or.inr (Or.inr (Or.inr (Or.inr (e))))))
    · exact fe_j Fe.rf (fe_mP_begin_b75 _ _ _ _) (fun x k hx => by simp only [wI_mP_begin_b75] at hx; rcases hx with e | e | e | e | e | e | e | e | e | e | e | e | e | e | e | e | e | e | e | e | e | e | e | e | e | e | e | e | e | e | e | e | e | e | e | e | e | e | e <;> first | exact Or.inl (e) | exact Or.inr (Or.inl (e)) | exact Or.inr (Or.inr (Or.inl (e))) | exact Or.inr (Or.inr (Or.inr (Or.inl (e)))) | exact Or.inr (Or.inr (Or.inr (Or.inr (Or.inl (e))))) | exact Or.inr (Or.inr (Or.inr (Or.inr (Or.inr (Or.inl (e)))))) | exact Or.inr (Or.inr (Or.inr (Or.inr (Or.inr (Or.inr (Or.inl (e))))))) | exact Or.inr (Or.inr (Or.inr (Or.inr (Or.inr (Or.inr (Or.inr (Or.inl (e)))))))) | exact Or.inr (Or.inr (Or.inr (Or.inr (Or.inr (Or.inr (Or.inr (Or.inr (Or.inl (e))))))))) | exact Or.inr (Or.inr (Or.inr (Or.inr (Or.inr (Or.inr (Or.inr (Or.inr (Or.inr (Or.inl (e)))))))))) | exact Or.inr (Or.inr (Or.inr (Or.inr (Or.inr (Or.inr (Or.inr (Or.inr (Or.inr (Or.inr (Or.inl (e))))))))))) | exact Or.inr (Or.inr (Or.inr (Or.inr (Or.inr (Or.inr (Or.inr (Or.inr (Or.inr (Or.inr (Or.inr (Or.inl (e)))))))))))) | exact Or.inr (Or.inr (Or.inr (Or.inr (Or.inr (Or.inr (Or.inr (Or.inr (Or.inr (Or.inr (Or.inr (Or.inr (Or.inl (e))))))))))))) | exact Or.inr (Or.inr (Or.inr (Or.inr (Or.inr (Or.inr (Or.inr (Or.inr (Or.inr (Or.inr (Or.inr (Or.inr (Or.inr (Or.inl (e)))))))))))))) | exact Or.inr (Or.inr (Or.inr (Or.inr (Or.inr (Or.inr (Or.inr (Or.inr (Or.inr (Or.inr (Or.inr (Or.inr (Or.inr (Or.inr (Or.inl (e))))))))))))))) | exact Or.inr (Or.inr (Or.inr (Or.inr (Or.inr (Or.inr (Or.inr (Or.inr (Or.inr (Or.inr (Or.inr (Or.inr (Or.inr (Or.inr (Or.inr (Or.inl (e)))))))))))))))) | exact Or.inr (Or.inr (Or.inr (Or.inr (Or.inr (Or.inr (Or.inr (Or.inr (Or.inr (Or.inr (Or.inr (Or.inr (Or.inr (Or.inr (Or.inr (Or.inr (Or.inl (e))))))))))))))))) | exact Or.inr (Or.inr (Or.inr (Or.inr (Or.inr (Or.inr (Or.inr (Or.inr (Or.inr (Or.inr (Or.inr (Or.inr (Or.inr (Or.inr (Or.inr (Or.inr (Or.inr (Or.inl (e)))))))))))))))))) | exact Or.inr (Or.inr (Or.inr (Or.inr (Or.inr (Or.inr (Or.inr (Or.inr (Or.inr (Or.inr (Or.inr (Or.inr (Or.inr (Or.inr (Or.inr (Or.inr (Or.inr (Or.inr (Or.inl (e))))))))))))))))))) | exact Or.inr (Or.inr (Or.inr (Or.inr (Or.inr (Or.inr (Or.inr (Or.inr (Or.inr (Or.inr (Or.inr (Or.inr (Or.inr (Or.inr (Or.inr (Or.inr (Or.inr (Or.inr (Or.inr (Or.inl (e)))))))))))))))))))) | exact Or.inr (Or.inr (Or.inr (Or.inr (Or.inr (Or.inr (Or.inr (Or.inr (Or.inr (Or.inr (Or.inr (Or.inr (Or.inr (Or.inr (Or.inr (Or.inr (Or.inr (Or.inr (Or.inr (Or.inr (Or.inl (e))))))))))))))))))))) | exact Or.inr (Or.inr (Or.inr (Or.inr (Or.inr (Or.inr (Or.inr (Or.inr (Or.inr (Or.inr (Or.inr (Or.inr (Or.inr (Or.inr (Or.inr (Or.inr (Or.inr (Or.inr (Or.inr (Or.inr (Or.inr (Or.inl (e)))))))))))))))))))))) | exact Or.inr (Or.inr (Or.inr (Or.inr (Or.inr (Or.inr (Or.inr (Or.inr (Or.inr (Or.inr (Or.inr (Or.inr (Or.inr (Or.inr (Or.inr (Or.inr (Or.inr (Or.inr (Or.inr (Or.inr (Or.inr (Or.inr (Or.inl (e))))))))))))))))))))))) | exact Or.inr (Or.inr (Or.inr (Or.inr (Or.inr (Or.inr (Or.inr (Or.inr (Or.inr (Or.inr (Or.inr (Or.inr (Or.inr (Or.inr (Or.inr (Or.inr (Or.inr (Or.inr (Or.inr (Or.inr (Or.inr (Or.inr (Or.inr (Or.inl (e)))))))))))))))))))))))) | exact Or.inr (Or.inr (Or.inr (Or.inr (Or.inr (Or.inr (Or.inr (Or.inr (Or.inr (Or.inr (Or.inr (Or.inr (Or.inr (Or.inr (Or.inr (Or.inr (Or.inr (Or.inr (Or.inr (Or.inr (Or.inr (Or.inr (Or.inr (Or.inr (Or.inl (e))))))))))))))))))))))))) | exact Or.inr (Or.inr (Or.inr (Or.inr (Or.inr (Or.inr (Or.inr (Or.inr (Or.inr (Or.inr (Or.inr (Or.inr (Or.inr (Or.inr (Or.inr (Or.inr (Or.inr (Or.inr (Or.inr (Or.inr (Or.inr (Or.inr (Or.inr (Or.inr (Or.inr (Or.inl (e)))))))))))))))))))))))))) | exact Or.inr (Or.inr (Or.inr (Or.inr (Or.inr (Or.inr (Or.inr (Or.inr (Or.inr (Or.inr (Or.inr (Or.inr (Or.inr (Or.inr (Or.inr (Or.inr (Or.inr (Or.inr (Or.inr (Or.inr (Or.inr (Or.inr (Or.inr (Or.inr (Or.inr (Or.inr (Or.inl (e))))))))))))))))))))))))))) | exact Or.inr (Or.inr (Or.inr (Or.inr (Or.inr (Or.inr (Or.inr (Or.inr (Or.inr (Or.inr (Or.inr (Or.inr (Or.inr (Or.inr (Or.inr (Or.inr (Or.inr (Or.inr (Or.inr (Or.inr (Or.inr (Or.inr (Or.inr (Or.inr (Or.inr (Or.inr (Or.inr (Or.inl (e)))))))))))))))))))))))))))) | exact Or.inr (Or.inr (Or.inr (Or.inr (Or.inr (Or.inr (Or.inr (Or.inr (Or.inr (Or.inr (Or.inr (Or.inr (Or.inr (Or.inr (Or.inr (Or.inr (Or.inr (Or.inr (Or.inr (Or.inr (Or.inr (Or.inr (Or.inr (Or.inr (Or.inr (Or.inr (Or.inr (Or.inr (Or.inl (e))))))))))))))))))))))))))))) | exact Or.inr (Or.inr (Or.inr (Or.inr (Or.inr (Or.inr (Or.inr (Or.inr (Or.inr (Or.inr (Or.inr (Or.inr (Or.inr (Or.inr (Or.inr (Or.inr (Or.inr (Or.inr (Or.inr (Or.inr (Or.inr (Or.inr (Or.inr (Or.inr (Or.inr (Or.inr (Or.inr (Or.inr (Or.inr (Or.inl (e)))))))))))))))))))))))))))))) | exact Or.inr (Or.inr (Or.inr (Or.inr (Or.inr (Or.inr (Or.inr (Or.inr (Or.inr (Or.inr (Or.inr (Or.inr (Or.inr (Or.inr (Or.inr (Or.inr (Or.inr (Or.inr (Or.inr (Or.inr (Or.inr (Or.inr (Or.inr (Or.inr (Or.inr (Or.inr (Or.inr (Or.inr (Or.inr (Or.inr (Or.inl (e))))))))))))))))))))))))))))))) | exact Or.inr (Or.inr (Or.inr (Or.inr (Or.inr (Or.inr (Or.inr (Or.inr (Or.inr (Or.inr (Or.inr (Or.inr (Or.inr (Or.inr (Or.inr (Or.inr (Or.inr (Or.inr (Or.inr (Or.inr (Or.inr (Or.inr (Or.inr (Or.inr (Or.inr (Or.inr (Or.inr (Or.inr (Or.inr (Or.inr (Or.inr (Or.inl (e)))))))))))))))))))))))))))))))) | exact Or.inr (Or.inr (Or.inr (Or.inr (Or.inr (Or.inr (Or.inr (Or.inr (Or.inr (Or.inr (Or.inr (Or.inr (Or.inr (Or.inr (Or.inr (Or.inr (Or.inr (Or.inr (Or.inr (Or.inr (Or.inr (Or.inr (Or.inr (Or.inr (Or.inr (Or.inr (Or.inr (Or.inr (Or.inr (Or.inr (Or.inr (Or.inr (Or.inl (e))))))))))))))))))))))))))))))))) | exact Or.inr (Or.inr (Or.inr (Or.inr (Or.inr (Or.inr (Or.inr (Or.inr (Or.inr (Or.inr (Or.inr (Or.inr (Or.inr (Or.inr (Or.inr (Or.inr (Or.inr (Or.inr (Or.inr (Or.inr (Or.inr (Or.inr (Or.inr (Or.inr (Or.inr (Or.inr (Or.inr (Or.inr (Or.inr (Or.inr (Or.inr (Or.inr (Or.inr (Or.inl (e)))))))))))))))))))))))))))))))))) | exact Or.inr (Or.inr (Or.inr (Or.inr (Or.inr (Or.inr (Or.inr (Or.inr (Or.inr (Or.inr (Or.inr (Or.inr (Or.inr (Or.inr (Or.inr (Or.inr (Or.inr (Or.inr (Or.inr (Or.inr (Or.inr (Or.inr (Or.inr (Or.inr (Or.inr (Or.inr (Or.inr (Or.inr (Or.inr (Or.inr (Or.inr (Or.inr (Or.inr (Or.inr (Or.inl (e))))))))))))))))))))))))))))))))))) | exact Or.inr (Or.inr (Or.inr (Or.inr (Or.inr (Or.inr (Or.inr (Or.inr (Or.inr (Or.inr (Or.inr (Or.inr (Or.inr (Or.inr (Or.inr (Or.inr (Or.inr (Or.inr (Or.inr (Or.inr (Or.inr (Or.inr (Or.inr (Or.inr (Or.inr (Or.inr (Or.inr (Or.inr (Or.inr (Or.inr (Or.inr (Or.inr (Or.inr (Or.inr (Or.inr (Or.inl (e)))))))))))))))))))))))))))))))))))) | exact Or.inr (Or.inr (Or.inr (Or.inr (Or.inr (Or.inr (Or.inr (Or.inr (Or.inr (Or.inr (Or.inr (Or.inr (Or.inr (Or.inr (Or.inr (Or.inr (Or.inr (Or.inr (Or.inr (Or.inr (Or.inr (Or.inr (Or.inr (Or.inr (Or.inr (Or.inr (Or.inr (Or.inr (Or.inr (Or.inr (Or.inr (Or.inr (Or.inr (Or.inr (Or.inr (Or.inr (Or.inl (e))))))))))))))))))))))))))))))))))))) | exact Or.inr (Or.inr (Or.inr (Or.inr (Or.inr (Or.inr (Or.inr (Or.inr (Or.inr (Or.inr (Or.inr (Or.inr (Or.inr (Or.inr (Or.inr (Or.inr (Or.inr (Or.inr (Or.inr (Or.inr (Or.inr (Or.inr (Or.inr (Or.inr (Or.inr (Or.inr (Or.inr (Or.inr (Or.inr (Or.inr (Or.inr (Or.inr (Or.inr (Or.inr (Or.inr (Or.inr (Or.inr (Or.inl (e)))))))))))))))))))))))))))))))))))))) | exact Or.inr (Or.inr (Or.inr (Or.inr (Or.inr (Or.inr (Or.inr (Or.inr (Or.inr (Or.inr (Or.inr (Or.inr (Or.inr (Or.inr (Or.inr (Or.inr (Or.inr (Or.inr (Or.inr (Or.inr (Or.inr (Or.inr (Or.inr (Or.inr (Or.inr (Or.inr (Or.inr (Or.inr (Or.inr (Or.inr (Or.inr (Or.inr (Or.inr (Or.inr (Or.inr (Or.inr (Or.inr (Or.inr (e))))))))))))))))))))))))))))))))))))))) (fun x k hx => by simp only [wJ_mP_begin_b75] at hx; rcases hx with e | e | e | e | e | e <;> first | exact Or.inl (e) | exact Or.inr (Or.inl (e)) | exact Or.inr (Or.inr (Or.inl (e))) | exact Or.inr (Or.inr (Or.inr (Or.inl (e)))) | exact Or.inr (Or.inr (Or.inr (Or.inr (Or.inl (e))))) | exact Or.inr (Or.inr (Or.inr (Or.inr (Or.inr (e))))))
  · refine fe_it ?_ ?_
    · exact fe_j Fe.rf (fe_mP_begin_b57 hk20 _ _ _) (fun x k hx => by simp only [wI_mP_begin_b57] at hx; rcases hx with e | e | e | e | e | e | e | e | e | e | e | e | e | e | e | e | e | e | e | e | e | e | e | e | e | e | e | e | e | e | e | e | e | e | e | e | e | e | e <;> first | exact Or.inl (e) | exact Or.inr (Or.inl (e)) | exact Or.inr (Or.inr (Or.inl (e))) | exact Or.inr (Or.inr (Or.inr (Or.inl (e)))) | exact Or.inr (Or.inr (Or.inr (Or.inr (Or.inl (e))))) | exact Or.inr (Or.inr (Or.inr (Or.inr (Or.inr (Or.inl (e)))))) | exact Or.inr (Or.inr (Or.inr (Or.inr (Or.inr (Or.inr (Or.inl (e))))))) | exact Or.inr (Or.inr (Or.inr (Or.inr (Or.inr (Or.inr (Or.inr (Or.inl (e)))))))) | exact Or.inr (Or.inr (Or.inr (Or.inr (Or.inr (Or.inr (Or.inr (Or.inr (Or.inl (e))))))))) | exact Or.inr (Or.inr (Or.inr (Or.inr (Or.inr (Or.inr (Or.inr (Or.inr (Or.inr (Or.inl (e)))))))))) | exact Or.inr (Or.inr (Or.inr (Or.inr (Or.inr (Or.inr (Or.inr (Or.inr (Or.inr (Or.inr (Or.inl (e))))))))))) | exact Or.inr (Or.inr (Or.inr (Or.inr (Or.inr (Or.inr (Or.inr (Or.inr (Or.inr (Or.inr (Or.inr (Or.inl (e)))))))))))) | exact Or.inr (Or.inr (Or.inr (Or.inr (Or.inr (Or.inr (Or.inr (Or.inr (Or.inr (Or.inr (Or.inr (Or.inr (Or.inl (e))))))))))))) | exact Or.inr (Or.inr (Or.inr (Or.inr (Or.inr (Or.inr (Or.inr (Or.inr (Or.inr (Or.inr (Or.inr (Or.inr (Or.inr (Or.inl (e)))))))))))))) | exact Or.inr (Or.inr (Or.inr (Or.inr (Or.inr (Or.inr (Or.inr (Or.inr (Or.inr (Or.inr (Or.inr (Or.inr (Or.inr (Or.inr (Or.inl (e))))))))))))))) | exact Or.inr (Or.inr (Or.inr (Or.inr (Or.inr (Or.inr (Or.inr (Or.inr (Or.inr (Or.inr (Or.inr (Or.inr (Or.inr (Or.inr (Or.inr (Or.inl (e)))))))))))))))) | exact Or.inr (Or.inr (Or.inr (Or.inr (Or.inr (Or.inr (Or.inr (Or.inr (Or.inr (Or.inr (Or.inr (Or.inr (Or.inr (Or.inr (Or.inr (Or.inr (Or.inl (e))))))))))))))))) | exact Or.inr (Or.inr (Or.inr (Or.inr (Or.inr (Or.inr (Or.inr (Or.inr (Or.inr (Or.inr (Or.inr (Or.inr (Or.inr (Or.inr (Or.inr (Or.inr (Or.inr (Or.inl (e)))))))))))))))))) | exact Or.inr (Or.inr (Or.inr (Or.inr (Or.inr (Or.inr (Or.inr (Or.inr (Or.inr (Or.inr (Or.inr (Or.inr (Or.inr (Or.inr (Or.inr (Or.inr (Or.inr (Or.inr (Or.inl (e))))))))))))))))))) | exact Or.inr (Or.inr (Or.inr (Or.inr (Or.inr (Or.inr (Or.inr (Or.inr (Or.inr (Or.inr (Or.inr (Or.inr (Or.inr (Or.inr (Or.inr (Or.inr (Or.inr (Or.inr (Or.inr (Or.inl (e)))))))))))))))))))) | exact Or.inr (Or.inr (Or.inr (Or.inr (Or.inr (Or.inr (Or.inr (Or.inr (Or.inr (Or.inr (Or.inr (Or.inr (Or.inr (Or.inr (Or.inr (Or.inr (Or.inr (Or.inr (Or.inr (Or.inr (Or.inl (e))))))))))))))))))))) | exact Or.inr (Or.inr (Or.inr (Or.inr (Or.inr (Or.inr (Or.inr (Or.inr (Or.inr (Or.inr (Or.inr (Or.inr (Or.inr (Or.inr (Or.inr (Or.inr (Or.inr (Or.inr (Or.inr (Or.inr (Or.inr (Or.inl (e)))))))))))))))))))))) | exact Or.inr (Or.inr (Or.inr (Or.inr (Or.inr (Or.inr (Or.inr (Or.inr (Or.inr (Or.inr (Or.inr (Or.inr (Or.inr (Or.inr (Or.inr (Or.inr (Or.inr (Or.inr (Or.inr (Or.inr (Or.inr (Or.inr (Or.inl (e))))))))))))))))))))))) | exact Or.inr (Or.inr (Or.inr (Or.inr (Or.inr (Or.inr (Or.inr (Or.inr (Or.inr (Or.inr (Or.inr (Or.inr (Or.inr (Or.inr (Or.inr (Or.inr (Or.inr (Or.inr (Or.inr (Or.inr (Or.inr (Or.inr (Or.inr (Or.inl (e)))))))))))))))))))))))) | exact Or.inr (Or.inr (Or.inr (Or.inr (Or.inr (Or.inr (Or.inr (Or.inr (Or.inr (Or.inr (Or.inr (Or.inr (Or.inr (Or.inr (Or.inr (Or.inr (Or.inr (Or.inr (Or.inr (Or.inr (Or.inr (Or.inr (Or.inr (Or.inr (Or.inl (e))))))))))))))))))))))))) | exact Or.inr (Or.inr (Or.inr (Or.inr (Or.inr (Or.inr (Or.inr (Or.inr (Or.inr (Or.inr (Or.inr (Or.inr (Or.inr (Or.inr (Or.inr (Or.inr (Or.inr (Or.inr (Or.inr (Or.inr (Or.inr (Or.inr (Or.inr (Or.inr (Or.inr (Or.inl (e)))))))))))))))))))))))))) | exact Or.inr (Or.inr (Or.inr (Or.inr (Or.inr (Or.inr (Or.inr (Or.inr (Or.inr (Or.inr (Or.inr (Or.inr (Or.inr (Or.inr (Or.inr (Or.inr (Or.inr (Or.inr (Or.inr (Or.inr (Or.inr (Or.inr (Or.inr (Or.inr (Or.inr (Or.inr (Or.inl (e))))))))))))))))))))))))))) | exact Or.inr (Or.inr (Or.inr (Or.inr (Or.inr (Or.inr (Or.inr (Or.inr (Or.inr (Or.inr (Or.inr (Or.inr (Or.inr (Or.inr (Or.inr (Or.inr (Or.inr (Or.inr (Or.inr (Or.inr (Or.inr (Or.inr (Or.inr (Or.inr (Or.inr (Or.inr (Or.inr (Or.inl (e)))))))))))))))))))))))))))) | exact Or.inr (Or.inr (Or.inr (Or.inr (Or.inr (Or.inr (Or.inr (Or.inr (Or.inr (Or.inr (Or.inr (Or.inr (Or.inr (Or.inr (Or.inr (Or.inr (Or.inr (Or.inr (Or.inr (Or.inr (Or.inr (Or.inr (Or.inr (Or.inr (Or.inr (Or.inr (Or.inr (Or.inr (Or.inl (e))))))))))))))))))))))))))))) | exact Or.inr (Or.inr (Or.inr (Or.inr (Or.inr (Or.inr (Or.inr (Or.inr (Or.inr (Or.inr (Or.inr (Or.inr (Or.inr (Or.inr (Or.inr (Or.inr (Or.inr (Or.inr (Or.inr (Or.inr (Or.inr (Or.inr (Or.inr (Or.inr (Or.inr (Or.inr (Or.inr (Or.inr (Or.inr (Or.inl (e)))))))))))))))))))))))))))))) | exact Or.inr (Or.inr (Or.inr (Or.inr (Or.inr (Or.inr (Or.inr (Or.inr (Or.inr (Or.inr (Or.inr (Or.inr (Or.inr (Or.inr (Or.inr (Or.inr (Or.inr (Or.inr (Or.inr (Or.inr (Or.inr (Or.inr (Or.inr (Or.inr (Or.inr (Or.inr (Or.inr (Or.inr (Or.inr (Or.inr (Or.inl (e))))))))))))))))))))))))))))))) | exact Or.inr (Or.inr (Or.inr (Or.inr (Or.inr (Or.inr (Or.inr (Or.inr (Or.inr (Or.inr (Or.inr (Or.inr (Or.inr (Or.inr (Or.inr (Or.inr (Or.inr (Or.inr (Or.inr (Or.inr (Or.inr (Or.inr (Or.inr (Or.inr (Or.inr (Or.inr (Or.inr (Or.inr (Or.inr (Or.inr (Or.inr (Or.inl (e)))))))))))))))))))))))))))))))) | exact Or.inr (Or.inr (Or.inr (Or.inr (Or.inr (Or.inr (Or.inr (Or.inr (Or.inr (Or.inr (Or.inr (Or.inr (Or.inr (Or.inr (Or.inr (Or.inr (Or.inr (Or.inr (Or.inr (Or.inr (Or.inr (Or.inr (Or.inr (Or.inr (Or.inr (Or.inr (Or.inr (Or.inr (Or.inr (Or.inr (Or.inr (Or.inr (Or.inl (e))))))))))))))))))))))))))))))))) | exact Or.inr (Or.inr (Or.inr (Or.inr (Or.inr (Or.inr (Or.inr (Or.inr (Or.inr (Or.inr (Or.inr (Or.inr (Or.inr (Or.inr (Or.inr (Or.inr (Or.inr (Or.inr (Or.inr (Or.inr (Or.inr (Or.inr (Or.inr (Or.inr (Or.inr (Or.inr (Or.inr (Or.inr (Or.inr (Or.inr (Or.inr (Or.inr (Or.inr (Or.inl (e)))))))))))))))))))))))))))))))))) | exact Or.inr (Or.inr (Or.inr (Or.inr (Or.inr (Or.inr (Or.inr (Or.inr (Or.inr (Or.inr (Or.inr (Or.inr (Or.inr (Or.inr (Or.inr (Or.inr (Or.inr (Or.inr (Or.inr (Or.inr (Or.inr (Or.inr (Or.inr (Or.inr (Or.inr (Or.inr (Or.inr (Or.inr (Or.inr (Or.inr (Or.inr (Or.inr (Or.inr (Or.inr (Or.inl (e))))))))))))))))))))))))))))))))))) | exact Or.inr (Or.inr (Or.inr (Or.inr (Or.inr (Or.inr (Or.inr (Or.inr (Or.inr (Or.inr (Or.inr (Or.inr (Or.inr (Or.inr (Or.inr (Or.inr (Or.inr (Or.inr (Or.inr (Or.inr (Or.inr (Or.inr (Or.inr (Or.inr (Or.inr (Or.inr (Or.inr (Or.inr (Or.inr (Or.inr (Or.inr (Or.inr (Or.inr (Or.inr (Or.inr (Or.inl (e)))))))))))))))))))))))))))))))))))) | exact Or.inr (Or.inr (Or.inr (Or.inr (Or.inr (Or.inr (Or.inr (Or.inr (Or.inr (Or.inr (Or.inr (Or.inr (Or.inr (Or.inr (Or.inr (Or.inr (Or.inr (Or.inr (Or.inr (Or.inr (Or.inr (Or.inr (Or.inr (Or.inr (Or.inr (Or.inr (Or.inr (Or.inr (Or.inr (Or.inr (Or.inr (Or.inr (Or.inr (Or.inr (Or.inr (Or.inr (Or.inl (e))))))))))))))))))))))))))))))))))))) | exact Or.inr (Or.inr (Or.inr (Or.inr (Or.inr (Or.inr (Or.inr (Or.inr (Or.inr (Or.inr (Or.inr (Or.inr (Or.inr (Or.inr (Or.inr (Or.inr (Or.inr (Or.inr (Or.inr (Or.inr (Or.inr (Or.inr (Or.inr (Or.inr (Or.inr (Or.inr (Or.inr (Or.inr (Or.inr (Or.inr (Or.inr (Or.inr (Or.inr (Or.inr (Or.inr (Or.inr (Or.inr (Or.inl (e)))))))))))))))))))))))))))))))))))))) | exact Or.inr (Or.inr (Or.inr (Or.inr (Or.inr (Or.inr (Or.inr (Or.inr (Or.inr (Or.inr (Or.inr (Or.inr (Or.inr (Or.inr (Or.inr (Or.inr (Or.inr (Or.inr (Or.inr (Or.inr (Or.inr (Or.inr (Or.inr (Or.inr (Or.inr (Or.inr (Or.inr (Or.inr (Or.inr (Or.inr (Or.inr (Or.inr (Or.inr (Or.inr (Or.inr (Or.inr (Or.inr (Or.inr (e))))))))))))))))))))))))))))))))))))))) (fun x k hx => by simp only [wJ_mP_begin_b57] at hx; rcases hx with e | e | e | e | e | e <;> first | exact Or.inl (e) | exact Or.inr (Or.inl (e)) | exact Or.inr (Or.inr (Or.inl (e))) | exact Or.inr (Or.inr (Or.inr (Or.inl (e)))) | exact Or.inr (Or.inr (Or.inr (Or.inr (Or.inl (e))))) | exact Or.inr (Or.inr (Or.inr (Or.inr (Or.inr (e))))))
    · refine fe_it fe_no ?_
      refine fe_it ?_ fe_no
      refine fe_it fe_no ?_
      refine fe_it ?_ ?_
      · exact fe_j Fe.rf (fe_mP_begin_b57 hk20 _ _ _) (fun x k hx => by simp only [wI_mP_begin_b57] at hx; rcases hx with e | e | e | e | e | e | e | e | e | e | e | e | e | e | e | e | e | e | e | e | e | e | e | e | e | e | e | e | e | e | e | e | e | e | e | e | e | e | e <;> first | exact Or.inl (e) | exact Or.inr (Or.inl (e)) | exact Or.inr (Or.inr (Or.inl (e))) | exact Or.inr (Or.inr (Or.inr (Or.inl (e)))) | exact Or.inr (Or.inr (Or.inr (Or.inr (Or.inl (e))))) | exact Or.inr (Or.inr (Or.inr (Or.inr (Or.inr (Or.inl (e)))))) | exact Or.inr (Or.inr (Or.inr (Or.inr (Or.inr (Or.inr (Or.inl (e))))))) | exact Or.inr (Or.inr (Or.inr (Or.inr (Or.inr (Or.inr (Or.inr (Or.inl (e)))))))) | exact Or.inr (Or.inr (Or.inr (Or.inr (Or.inr (Or.inr (Or.inr (Or.inr (Or.inl (e))))))))) | exact Or.inr (Or.inr (Or.inr (Or.inr (Or.inr (Or.inr (Or.inr (Or.inr (Or.inr (Or.inl (e)))))))))) | exact Or.inr (Or.inr (Or.inr (Or.inr (Or.inr (Or.inr (Or.inr (Or.inr (Or.inr (Or.inr (Or.inl (e))))))))))) | exact Or.inr (Or.inr (Or.inr (Or.inr (Or.inr (Or.inr (Or.inr (Or.inr (Or.inr (Or.inr (Or.inr (Or.inl (e)))))))))))) | exact Or.inr (Or.inr (Or.inr (Or.inr (Or.inr (Or.inr (Or.inr (Or.inr (Or.inr (Or.inr (Or.inr (Or.inr (Or.inl (e))))))))))))) | exact Or.inr (Or.inr (Or.inr (Or.inr (Or.inr (Or.inr (Or.inr (Or.inr (Or.inr (Or.inr (Or.inr (Or.inr (Or.inr (Or.inl (e)))))))))))))) | exact Or.inr (Or.inr (Or.inr (Or.inr (Or.inr (Or.inr (Or.inr (Or.inr (Or.inr (Or.inr (Or.inr (Or.inr (Or.inr (Or.inr (Or.inl (e))))))))))))))) | exact Or.inr (Or.inr (Or.inr (Or.inr (Or.inr (Or.inr (Or.inr (Or.inr (Or.inr (Or.inr (Or.inr (Or.inr (Or.inr (Or.inr (Or.inr (Or.inl (e)))))))))))))))) | exact Or.inr (Or.inr (Or.inr (Or.inr (Or.inr (Or.inr (Or.inr (Or.inr (Or.inr (Or.inr (Or.inr (Or.inr (Or.inr (Or.inr (Or.inr (Or.inr (Or.inl (e))))))))))))))))) | exact Or.inr (Or.inr (Or.inr (Or.inr (Or.inr (Or.inr (Or.inr (Or.inr (Or.inr (Or.inr (Or.inr (Or.inr (Or.inr (Or.inr (Or.inr (Or.inr (Or.inr (Or.inl (e)))))))))))))))))) | exact Or.inr (Or.inr (Or.inr (Or.inr (Or.inr (Or.inr (Or.inr (Or.inr (Or.inr (Or.inr (Or.inr (Or.inr (Or.inr (Or.inr (Or.inr (Or.inr (Or.inr (Or.inr (Or.inl (e))))))))))))))))))) | exact Or.inr (Or.inr (Or.inr (Or.inr (Or.inr (Or.inr (Or.inr (Or.inr (Or.inr (Or.inr (Or.inr (Or.inr (Or.inr (Or.inr (Or.inr (Or.inr (Or.inr (Or.inr (Or.inr (Or.inl (e)))))))))))))))))))) | exact Or.inr (Or.inr (Or.inr (Or.inr (Or.inr (Or.inr (Or.inr (Or.inr (Or.inr (Or.inr (Or.inr (Or.inr (Or.inr (Or.inr (Or.inr (Or.inr (Or.inr (Or.inr (Or.inr (Or.inr (Or.inl (e))))))))))))))))))))) | exact Or.inr (Or.inr (Or.inr (Or.inr (Or.inr (Or.inr (Or.inr (Or.inr (Or.inr (Or.inr (Or.inr (Or.inr (Or.inr (Or.inr (Or.inr (Or.inr (Or.inr (Or.inr (Or.inr (Or.inr (Or.inr (Or.inl (e)))))))))))))))))))))) | exact Or.inr (Or.inr (Or.inr (Or.inr (Or.inr (Or.inr (Or.inr (Or.inr (Or.inr (Or.inr (Or.inr (Or.inr (Or.inr (Or.inr (Or.inr (Or.inr (Or.inr (Or.inr (Or.inr (Or.inr (Or.inr (Or.inr (Or.inl (e))))))))))))))))))))))) | exact Or.inr (Or.inr (Or.inr (Or.inr (Or.inr (Or.inr (Or.inr (Or.inr (Or.inr (Or.inr (Or.inr (Or.inr (Or.inr (Or.inr (Or.inr (Or.inr (Or.inr (Or.inr (Or.inr (Or.inr (Or.inr (Or.inr (Or.inr (Or.inl (e)))))))))))))))))))))))) | exact Or.inr (Or.inr (Or.inr (Or.inr (Or.inr (Or.inr (Or.inr (Or.inr (Or.inr (Or.inr (Or.inr (Or.inr (Or.inr (Or.inr (Or.inr (Or.inr (Or.inr (Or.inr (Or.inr (Or.inr (Or.inr (Or.inr (Or.inr (Or.inr (Or.inl (e))))))))))))))))))))))))) | exact Or.inr (Or.inr (Or.inr (Or.inr (Or.inr (Or.inr (Or.inr (Or.inr (Or.inr (Or.inr (Or.inr (Or.inr (Or.inr (Or.inr (Or.inr (Or.inr (Or.inr (Or.inr (Or.inr (Or.inr (Or.inr (Or.inr (Or.inr (Or.inr (Or.inr (Or.inl (e)))))))))))))))))))))))))) | exact Or.inr (Or.inr (Or.inr (Or.inr (Or.inr (Or.inr (Or.inr (Or.inr (Or.inr (Or.inr (Or.inr (Or.inr (Or.inr (Or.inr (Or.inr (Or.inr (Or.inr (Or.inr (Or.inr (Or.inr (Or.inr (Or.inr (Or.inr (Or.inr (Or.inr (Or.inr (Or.inl (e))))))))))))))))))))))))))) | exact Or.inr (Or.inr (Or.inr (Or.inr (Or.inr (Or.inr (Or.inr (Or.inr (Or.inr (Or.inr (Or.inr (Or.inr (Or.inr (Or.inr (Or.inr (Or.inr (Or.inr (Or.inr (Or.inr (Or.inr (Or.inr (Or.inr (Or.inr (Or.inr (Or.inr (Or.inr (Or.inr (Or.inl (e)))))))))))))))))))))))))))) | exact Or.inr (Or.inr (Or.inr (Or.inr (Or.inr (Or.inr (Or.inr (Or.inr (Or.inr (Or.inr (Or.inr (Or.inr (Or.inr (Or.inr (Or.inr (Or.inr (Or.inr (Or.inr (Or.inr (Or.inr (Or.inr (Or.inr (Or.inr (Or.inr (Or.inr (Or.inr (Or.inr (Or.inr (Or.inl (e))))))))))))))))))))))))))))) | exact Or.inr (Or.inr (Or.inr (Or.inr (Or.inr (Or.inr (Or.inr (Or.inr (Or.inr (Or.inr (Or.inr (Or.inr (Or.inr (Or.inr (Or.inr (Or.inr (Or.inr (Or.inr (Or.inr (Or.inr (Or.inr (Or.inr (Or.inr (Or.inr (Or.inr (Or.inr (Or.inr (Or.inr (Or.inr (Or.inl (e)))))))))))))))))))))))))))))) | exact Or.inr (Or.inr (Or.inr (Or.inr (Or.inr (Or.inr (Or.inr (Or.inr (Or.inr (Or.inr (Or.inr (Or.inr (Or.inr (Or.inr (Or.inr (Or.inr (Or.inr (Or.inr (Or.inr (Or.inr (Or.inr (Or.inr (Or.inr (Or.inr (Or.inr (Or.inr (Or.inr (Or.inr (Or.inr (Or.inr (Or.inl (e))))))))))))))))))))))))))))))) | exact Or.inr (Or.inr (Or.inr (Or.inr (Or.inr (Or.inr (Or.inr (Or.inr (Or.inr (Or.inr (Or.inr (Or.inr (Or.inr (Or.inr (Or.inr (Or.inr (Or.inr (Or.inr (Or.inr (Or.inr (Or.inr (Or.inr (Or.inr (Or.inr (Or.inr (Or.inr (Or.inr (Or.inr (Or.inr (Or.inr (Or.inr (Or.inl (e)))))))))))))))))))))))))))))))) | exact Or.inr (Or.inr (Or.inr (Or.inr (Or.inr (Or.inr (Or.inr (Or.inr (Or.inr (Or.inr (Or.inr (Or.inr (Or.inr (Or.inr (Or.inr (Or.inr (Or.inr (Or.inr (Or.inr (Or.inr (Or.inr (Or.inr (Or.inr (Or.inr (Or.inr (Or.inr (Or.inr (Or.inr (Or.inr (Or.inr (Or.inr (Or.inr (Or.inl (e))))))))))))))))))))))))))))))))) | exact Or.inr (Or.inr (Or.inr (Or.inr (Or.inr (Or.inr (Or.inr (Or.inr (Or.inr (Or.inr (Or.inr (Or.inr (Or.inr (Or.inr (Or.inr (Or.inr (Or.inr (Or.inr (Or.inr (Or.inr (Or.inr (Or.inr (Or.inr (Or.inr (Or.inr (Or.inr (Or.inr (Or.inr (Or.inr (Or.inr (Or.inr (Or.inr (Or.inr (Or.inl (e)))))))))))))))))))))))))))))))))) | exact Or.inr (Or.inr (Or.inr (Or.inr (Or.inr (Or.inr (Or.inr (Or.inr (Or.inr (Or.inr (Or.inr (Or.inr (Or.inr (Or.inr (Or.inr (Or.inr (Or.inr (Or.inr (Or.inr (Or.inr (Or.inr (Or.inr (Or.inr (Or.inr (Or.inr (Or.inr (Or.inr (Or.inr (Or.inr (Or.inr (Or.inr (Or.inr (Or.inr (Or.inr (Or.inl (e))))))))))))))))))))))))))))))))))) | exact Or.inr (Or.inr (Or.inr (Or.inr (Or.inr (Or.inr (Or.inr (Or.inr (Or.inr (Or.inr (Or.inr (Or.inr (Or.inr (Or.inr (Or.inr (Or.inr (Or.inr (Or.inr (Or.inr (Or.inr (Or.inr (Or.inr (Or.inr (Or.inr (Or.inr (Or.inr (Or.inr (Or.inr (Or.inr (Or.inr (Or.inr (Or.inr (Or.inr (Or.inr (Or.inr (Or.inl (e)))))))))))))))))))))))))))))))))))) | exact Or.inr (Or.inr (Or.inr (Or.inr (Or.inr (Or.inr (Or.inr (Or.inr (Or.inr (Or.inr (Or.inr (Or.inr (Or.inr (Or.inr (Or.inr (Or.inr (Or.inr (Or.inr (Or.inr (Or.inr (Or.inr (Or.inr (Or.inr (Or.inr (Or.inr (Or.inr (Or.inr (Or.inr (Or.inr (Or.inr (Or.inr (Or.inr (Or.inr (Or.inr (Or.inr (Or.inr (Or.inl (e))))))))))))))))))))))))))))))))))))) | exact Or.inr (Or.inr (Or.inr (Or.inr (Or.inr (Or.inr (Or.inr (Or.inr (Or.inr (Or.inr (Or.inr (Or.inr (Or.inr (Or.inr (Or.inr (Or.inr (Or.inr (Or.inr (Or.inr (Or.inr (Or.inr (Or.inr (Or.inr (Or.inr (Or.inr (Or.inr (Or.inr (Or.inr (Or.inr (Or.inr (Or.inr (Or.inr (Or.inr (Or.inr (Or.inr (Or.inr (Or.inr (Or.inl (e)))))))))))))))))))))))))))))))))))))) | exact Or.inr (Or.inr (Or.inr (Or.inr (Or.inr (Or.inr (Or.inr (Or.inr (Or.inr (Or.inr (Or.inr (Or.inr (Or.inr (Or.inr (Or.inr (Or.inr (Or.inr (Or.inr (Or.inr (Or.inr (Or.inr (Or.inr (Or.inr (Or.inr (Or.inr (Or.inr (Or.inr (Or.inr (Or.inr (Or.inr (Or.inr (Or.inr (Or.inr (Or.inr (Or.inr (Or.inr (Or.inr (Or.inr (e))))))))))))))))))))))))))))))))))))))) (fun x k hx => by simp only [wJ_mP_begin_b57] at hx; rcases hx with e | e | e | e | e | e <;> first | exact Or.inl (e) | exact Or.inr (Or.inl (e)) | exact Or.inr (Or.inr (Or.inl (e))) | exact Or.inr (Or.inr (Or.inr (Or.inl (e)))) | exact Or.inr (Or.inr (Or.inr (Or.inr (Or.inl (e))))) | exact Or.inr (Or.inr (Or.inr (Or.inr (Or.inr (e))))))
      · refine fe_it ?_ fe_no
        refine fe_it ?_ ?_
        · exact fe_j Fe.rf (fe_mP_begin_b57 hk20 _ _ _) (fun x k hx => by simp only [wI_mP_begin_b57] at hx; rcases hx with e | e | e | e | e | e | e | e | e | e | e | e | e | e | e | e | e | e | e | e | e | e | e | e | e | e | e | e | e | e | e | e | e | e | e | e | e | e | e <;> first | exact Or.inl (e) | exact Or.inr (Or.inl (e)) | exact Or.inr (Or.inr (Or.inl (e))) | exact Or.inr (Or.inr (Or.inr (Or.inl (e)))) | exact Or.inr (Or.inr (Or.inr (Or.inr (Or.inl (e))))) | exact Or.inr (Or.inr (Or.inr (Or.inr (Or.inr (Or.inl (e)))))) | exact Or.inr (Or.inr (Or.inr (Or.inr (Or.inr (Or.inr (Or.inl (e))))))) | exact Or.inr (Or.inr (Or.inr (Or.inr (Or.inr (Or.inr (Or.inr (Or.inl (e)))))))) | exact Or.inr (Or.inr (Or.inr (Or.inr (Or.inr (Or.inr (Or.inr (Or.inr (Or.inl (e))))))))) | exact Or.inr (Or.inr (Or.inr (Or.inr (Or.inr (Or.inr (Or.inr (Or.inr (Or.inr (Or.inl (e)))))))))) | exact Or.inr (Or.inr (Or.inr (Or.inr (Or.inr (Or.inr (Or.inr (Or.inr (Or.inr (Or.inr (Or.inl (e))))))))))) | exact Or.inr (Or.inr (Or.inr (Or.inr (Or.inr (Or.inr (Or.inr (Or.inr (Or.inr (Or.inr (Or.inr (Or.inl (e)))))))))))) | exact Or.inr (Or.inr (Or.inr (Or.inr (Or.inr (Or.inr (Or.inr (Or.inr (Or.inr (Or.inr (Or.inr (Or.inr (Or.inl (e))))))))))))) | exact Or.inr (Or.inr (Or.inr (Or.inr (Or.inr (Or.inr (Or.inr (Or.inr (Or.inr (Or.inr (Or.inr (Or.inr (Or.inr (Or.inl (e)))))))))))))) | exact Or.inr (Or.inr (Or.inr (Or.inr (Or.inr (Or.inr (Or.inr (Or.inr (Or.inr (Or.inr (Or.inr (Or.inr (Or.inr (Or.inr (Or.inl (e))))))))))))))) | exact Or.inr (Or.inr (Or.inr (Or.inr (Or.inr (Or.inr (Or.inr (Or.inr (Or.inr (Or.inr (Or.inr (Or.inr (Or.inr (Or.inr (Or.inr (Or.inl (e)))))))))))))))) | exact Or.inr (Or.inr (Or.inr (Or.inr (Or.inr (Or.inr (Or.inr (Or.inr (Or.inr (Or.inr (Or.inr (Or.inr (Or.inr (Or.inr (Or.inr (Or.inr (Or.inl (e))))))))))))))))) | exact Or.inr (Or.inr (Or.inr (Or.inr (Or.inr (Or.inr (Or.inr (Or.inr (Or.inr (Or.inr (Or.inr (Or.inr (Or.inr (Or.inr (Or.inr (Or.inr (Or.inr (Or.inl (e)))))))))))))))))) | exact Or.inr (Or.inr (Or.inr (Or.inr (Or.inr (Or.inr (Or.inr (Or.inr (Or.inr (Or.inr (Or.inr (Or.inr (Or.inr (Or.inr (Or.inr (Or.inr (Or.inr (Or.inr (Or.inl (e))))))))))))))))))) | exact Or.inr (Or.inr (Or.inr (Or.inr (Or.inr (Or.inr (Or.inr (Or.inr (Or.inr (Or.inr (Or.inr (Or.inr (Or.inr (Or.inr (Or.inr (Or.inr (Or.inr (Or.inr (Or.inr (Or.inl (e)))))))))))))))))))) | exact Or.inr (Or.inr (Or.inr (Or.inr (Or.inr (Or.inr (Or.inr (Or.inr (Or.inr (Or.inr (Or.inr (Or.inr (Or.inr (Or.inr (Or.inr (Or.inr (Or.inr (Or.inr (Or.inr (Or.inr (Or.inl (e))))))))))))))))))))) | exact Or.inr (Or.inr (Or.inr (Or.inr (Or.inr (Or.inr (Or.inr (Or.inr (Or.inr (Or.inr (Or.inr (Or.inr (Or.inr (Or.inr (Or.inr (Or.inr (Or.inr (Or.inr (Or.inr (Or.inr (Or.inr (Or.inl (e)))))))))))))))))))))) | exact Or.inr (Or.inr (Or.inr (Or.inr (Or.inr (Or.inr (Or.inr (Or.inr (Or.inr (Or.inr (Or.inr (Or.inr (Or.inr (Or.inr (Or.inr (Or.inr (Or.inr (Or.inr (Or.inr (Or.inr (Or.inr (Or.inr (Or.inl (e))))))))))))))))))))))) | exact Or.inr (Or.inr (Or.inr (Or.inr (Or.inr (Or.inr (Or.inr (Or.inr (Or.inr (Or.inr (Or.inr (Or.inr (Or.inr (Or.inr (Or.inr (Or.inr (Or.inr (Or.inr (Or.inr (Or.inr (Or.inr (Or.inr (Or.inr (Or.inl (e)))))))))))))))))))))))) | exact Or.inr (Or.inr (Or.inr (Or.inr (Or.inr (Or.inr (Or.inr (Or.inr (Or.inr (Or.inr (Or.inr (Or.inr (Or.inr (Or.inr (Or.inr (Or.inr (Or.inr (Or.inr (Or.inr (Or.inr (Or.inr (Or.inr (Or.inr (Or.inr (Or.inl (e))))))))))))))))))))))))) | exact Or.inr (Or.inr (Or.inr (Or.inr (Or.inr (Or.inr (Or.inr (Or.inr (Or.inr (Or.inr (Or.inr (Or.inr (Or.inr (Or.inr (Or.inr (Or.inr (Or.inr (Or.inr (Or.inr (Or.inr (Or.inr (Or.inr (Or.inr (Or.inr (Or.inr (Or.inl (e)))))))))))))))))))))))))) | exact Or.inr (Or.inr (Or.inr (Or.inr (Or.inr (Or.inr (Or.inr (Or.inr (Or.inr (Or.inr (Or.inr (Or.inr (Or.inr (Or.inr (Or.inr (Or.inr (Or.inr (Or.inr (Or.inr (Or.inr (Or.inr (Or.inr (Or.inr (Or.inr (Or.inr (Or.inr (Or.inl (e))))))))))))))))))))))))))) | exact Or.inr (Or.inr (Or.inr (Or.inr (Or.inr (Or.inr (Or.inr (Or.inr (Or.inr (Or.inr (Or.inr (Or.inr (Or.inr (Or.inr (Or.inr (Or.inr (Or.inr (Or.inr (Or.inr (Or.inr (Or.inr (Or.inr (Or.inr (Or.inr (Or.inr (Or.inr (Or.inr (Or.inl (e)))))))))))))))))))))))))))) | exact Or.inr (Or.inr (Or.inr (Or.inr (Or.inr (Or.inr (Or.inr (Or.inr (Or.inr (Or.inr (Or.inr (Or.inr (Or.inr (Or.inr (Or.inr (Or.inr (Or.inr (Or.inr (Or.inr (Or.inr (Or.inr (Or.inr (Or.inr (Or.inr (Or.inr (Or.inr (Or.inr (Or.inr (Or.inl (e))))))))))))))))))))))))))))) | exact Or.inr (Or.inr (Or.inr (Or.inr (Or.inr (Or.inr (Or.inr (Or.inr (Or.inr (Or.inr (Or.inr (Or.inr (Or.inr (Or.inr (Or.inr (Or.inr (Or.inr (Or.inr (Or.inr (Or.inr (Or.inr (Or.inr (Or.inr (Or.inr (Or.inr (Or.inr (Or.inr (Or.inr (Or.inr (Or.inl (e)))))))))))))))))))))))))))))) | exact Or.inr (Or.inr (Or.inr (Or.inr (Or.inr (Or.inr (Or.inr (Or.inr (Or.inr (Or.inr (Or.inr (Or.inr (Or.inr (Or.inr (Or.inr (Or.inr (Or.inr (Or.inr (Or.inr (Or.inr (Or.inr (Or.inr (Or.inr (Or.inr (Or.inr (Or.inr (Or.inr (Or.inr (Or.inr (Or.inr (Or.inl (e))))))))))))))))))))))))))))))) | exact Or.inr (Or.inr (Or.inr (Or.inr (Or.inr (Or.inr (Or.inr (Or.inr (Or.inr (Or.inr (Or.inr (Or.inr (Or.inr (Or.inr (Or.inr (Or.inr (Or.inr (Or.inr (Or.inr (Or.inr (Or.inr (Or.inr (Or.inr (Or.inr (Or.inr (Or.inr (Or.inr (Or.inr (Or.inr (Or.inr (Or.inr (Or.inl (e)))))))))))))))))))))))))))))))) | exact Or.inr (Or.inr (Or.inr (Or.inr (Or.inr (Or.inr (Or.inr (Or.inr (Or.inr (Or.inr (Or.inr (Or.inr (Or.inr (Or.inr (Or.inr (Or.inr (Or.inr (Or.inr (Or.inr (Or.inr (Or.inr (Or.inr (Or.inr (Or.inr (Or.inr (Or.inr (Or.inr (Or.inr (Or.inr (Or.inr (Or.inr (Or.inr (Or.inl (e))))))))))))))))))))))))))))))))) | exact Or.inr (Or.inr (Or.inr (Or.inr (Or.inr (Or.inr (Or.inr (Or.inr (Or.inr (Or.inr (Or.inr (Or.inr (Or.inr (Or.inr (Or.inr (Or.inr (Or.inr (Or.inr (Or.inr (Or.inr (Or.inr (Or.inr (Or.inr (Or.inr (Or.inr (Or.inr (Or.inr (Or.inr (Or.inr (Or.inr (Or.inr (Or.inr (Or.inr (Or.inl (e)))))))))))))))))))))))))))))))))) | exact Or.inr (Or.inr (Or.inr (Or.inr (Or.inr (Or.inr (Or.inr (Or.inr (Or.inr (Or.inr (Or.inr (Or.inr (Or.inr (Or.inr (Or.inr (Or.inr (Or.inr (Or.inr (Or.inr (Or.inr (Or.inr (Or.inr (Or.inr (Or.inr (Or.inr (Or.inr (Or.inr (Or.inr (Or.inr (Or.inr (Or.inr (Or.inr (Or.inr (Or.inr (Or.inl (e))))))))))))))))))))))))))))))))))) | exact Or.inr (Or.inr (Or.inr (Or.inr (Or.inr (Or.inr (Or.inr (Or.inr (Or.inr (Or.inr (Or.inr (Or.inr (Or.inr (Or.inr (Or.inr (Or.inr (Or.inr (Or.inr (Or.inr (Or.inr (Or.inr (Or.inr (Or.inr (Or.inr (Or.inr (Or.inr (Or.inr (Or.inr (Or.inr (Or.inr (Or.inr (Or.inr (Or.inr (Or.inr (Or.inr (Or.inl (e)))))))))))))))))))))))))))))))))))) | exact Or.inr (Or.inr (Or.inr (Or.inr (Or.inr (Or.inr (Or.inr (Or.inr (Or.inr (Or.inr (Or.inr (Or.inr (Or.inr (Or.inr (Or.inr (Or.inr (Or.inr (Or.inr (Or.inr (Or.inr (Or.inr (Or.inr (Or.inr (Or.inr (Or.inr (Or.inr (Or.inr (Or.inr (Or.inr (Or.inr (Or.inr (Or.inr (Or.inr (Or.inr (Or.inr (Or.inr (Or.inl (e))))))))))))))))))))))))))))))))))))) | exact Or.inr (Or.inr (Or.inr (Or.inr (Or.inr (Or.inr (Or.inr (Or.inr (Or.inr (Or.inr (Or.inr (Or.inr (Or.inr (Or.inr (Or.inr (Or.inr (Or.inr (Or.inr (Or.inr (Or.inr (Or.inr (Or.inr (Or.inr (Or.inr (Or.inr (Or.inr (Or.inr (Or.inr (Or.inr (Or.inr (Or.inr (Or.inr (Or.inr (Or.inr (Or.inr (Or.inr (Or.inr (Or.inl (e)))))))))))))))))))))))))))))))))))))) | exact Or.inr (Or.inr (Or.inr (Or.inr (Or.inr (Or.inr (Or.inr (Or.inr (Or.inr (Or.inr (Or.inr (Or.inr (Or.inr (Or.inr (Or.inr (Or.inr (Or.inr (Or.inr (Or.inr (Or.inr (Or.inr (Or.inr (Or.inr (Or.inr (Or.inr (Or.inr (Or.inr (Or.inr (Or.inr (Or.inr (Or.inr (Or.inr (Or.inr (Or.inr (Or.inr (Or.inr (Or.inr (Or.inr (e))))))))))))))))))))))))))))))))))))))) (fun x k hx => by simp only [wJ_mP_begin_b57] at hx; rcases hx with e | e | e | e | e | e <;> first | exact Or.inl (e) | exact Or.inr (Or.inl (e)) | exact Or.inr (Or.inr (Or.inl (e))) | exact Or.inr (Or.inr (Or.inr (Or.inl (e)))) | exact Or.inr (Or.inr (Or.inr (Or.inr (Or.inl (e))))) | exact Or.inr (Or.inr (Or.inr (Or.inr (Or.inr (e))))))
        · exact fe_j Fe.rf (fe_mP_begin_b58 hk20 _ _ _ _) (fun x k hx => by simp only [wI_mP_begin_b58] at hx; rcases hx with e | e | e | e | e | e | e | e | e | e | e | e | e | e | e | e | e | e | e | e | e | e | e | e | e | e | e | e | e | e | e | e | e | e | e | e | e | e | e <;> first | exact Or.inl (e) | exact Or.inr (Or.inl (e)) | exact Or.inr (Or.inr (Or.inl (e))) | exact Or.inr (Or.inr (Or.inr (Or.inl (e)))) | exact Or.inr (Or.inr (Or.inr (Or.inr (Or.inl (e))))) | exact Or.inr (Or.inr (Or.inr (Or.inr (Or.inr (Or.inl (e)))))) | exact Or.inr (Or.inr (Or.inr (Or.inr (Or.inr (Or.inr (Or.inl (e))))))) | exact Or.inr (Or.inr (Or.inr (Or.inr (Or.inr (Or.inr (Or.inr (Or.inl (e)))))))) | exact Or.inr (Or.inr (Or.inr (Or.inr (Or.inr (Or.inr (Or.inr (Or.inr (Or.inl (e))))))))) | exact Or.inr (Or.inr (Or.inr (Or.inr (Or.inr (Or.inr (Or.inr (Or.inr (Or.inr (Or.inl (e)))))))))) | exact Or.inr (Or.inr (Or.inr (Or.inr (Or.inr (Or.inr (Or.inr (Or.inr (Or.inr (Or.inr (Or.inl (e))))))))))) | exact Or.inr (Or.inr (Or.inr (Or.inr (Or.inr (Or.inr (Or.inr (Or.inr (Or.inr (Or.inr (Or.inr (Or.inl (e)))))))))))) | exact Or.inr (Or.inr (Or.inr (Or.inr (Or.inr (Or.inr (Or.inr (Or.inr (Or.inr (Or.inr (Or.inr (Or.inr (Or.inl (e))))))))))))) | exact Or.inr (Or.inr (Or.inr (Or.inr (Or.inr (Or.inr (Or.inr (Or.inr (Or.inr (Or.inr (Or.inr (Or.inr (Or.inr (Or.inl (e)))))))))))))) | exact Or.inr (Or.inr (Or.inr (Or.inr (Or.inr (Or.inr (Or.inr (Or.inr (Or.inr (Or.inr (Or.inr (Or.inr (Or.inr (Or.inr (Or.inl (e))))))))))))))) | exact Or.inr (Or.inr (Or.inr (Or.inr (Or.inr (Or.inr (Or.inr (Or.inr (Or.inr (Or.inr (Or.inr (Or.inr (Or.inr (Or.inr (Or.inr (Or.inl (e)))))))))))))))) | exact Or.inr (Or.inr (Or.inr (Or.inr (Or.inr (Or.inr (Or.inr (Or.inr (Or.inr (Or.inr (Or.inr (Or.inr (Or.inr (Or.inr (Or.inr (Or.inr (Or.inl (e))))))))))))))))) | exact Or.inr (Or.inr (Or.inr (Or.inr (Or.inr (Or.inr (Or.inr (Or.inr (Or.inr (Or.inr (Or.inr (Or.inr (Or.inr (Or.inr (Or.inr (Or.inr (Or.inr (Or.inl (e)))))))))))))))))) | exact Or.inr (Or.inr (Or.inr (Or.inr (Or.inr (Or.inr (Or.inr (Or.inr (Or.inr (Or.inr (Or.inr (Or.inr (Or.inr (Or.inr (Or.inr (Or.inr (Or.inr (Or.inr (Or.inl (e))))))))))))))))))) | exact Or.inr (Or.inr (Or.inr (Or.inr (Or.inr (Or.inr (Or.inr (Or.inr (Or.inr (Or.inr (Or.inr (Or.inr (Or.inr (Or.inr (Or.inr (Or.inr (Or.inr (Or.inr (Or.inr (Or.inl (e)))))))))))))))))))) | exact Or.inr (Or.inr (Or.inr (Or.inr (Or.inr (Or.inr (Or.inr (Or.inr (Or.inr (Or.inr (Or.inr (Or.inr (Or.inr (Or.inr (Or.inr (Or.inr (Or.inr (Or.inr (Or.inr (Or.inr (Or.inl (e))))))))))))))))))))) | exact Or.inr (Or.inr (Or.inr (Or.inr (Or.inr (Or.inr (Or.inr (Or.inr (Or.inr (Or.inr (Or.inr (Or.inr (Or.inr (Or.inr (Or.inr (Or.inr (Or.inr (Or.inr (Or.inr (Or.inr (Or.inr (Or.inl (e)))))))))))))))))))))) | exact Or.inr (Or.inr (Or.inr (Or.inr (Or.inr (Or.inr (Or.inr (Or.inr (Or.inr (Or.inr (Or.inr (Or.inr (Or.inr (Or.inr (Or.inr (Or.inr (Or.inr (Or.inr (Or.inr (Or.inr (Or.inr (Or.inr (Or.inl (e))))))))))))))))))))))) | exact Or.inr (Or.inr (Or.inr (Or.inr (Or.inr (Or.inr (Or.inr (Or.inr (Or.inr (Or.inr (Or.inr (Or.inr (Or.inr (Or.inr (Or.inr (Or.inr (Or.inr (Or.inr (Or.inr (Or.inr (Or.inr (Or.inr (Or.inr (Or.inl (e)))))))))))))))))))))))) | exact Or.inr (Or.inr (Or.inr (Or.inr (Or.inr (Or.inr (Or.inr (Or.inr (Or.inr (Or.inr (Or.inr (Or.inr (Or.inr (Or.inr (Or.inr (Or.inr (Or.inr (Or.inr (Or.inr (Or.inr (Or.inr (Or.inr (Or.inr (Or.inr (Or.inl (e))))))))))))))))))))))))) | exact Or.inr (Or.inr (Or.inr (Or.inr (Or.inr (Or.inr (Or.inr (Or.inr (Or.inr (Or.inr (Or.inr (Or.inr (Or.inr (Or.inr (Or.inr (Or.inr (Or.inr (Or.inr (Or.inr (Or.inr (Or.inr (Or.inr (Or.inr (Or.inr (Or.inr (Or.inl (e)))))))))))))))))))))))))) | exact Or.inr (Or.inr (Or.inr (Or.inr (Or.inr (Or.inr (Or.inr (Or.inr (Or.inr (Or.inr (Or.inr (Or.inr (Or.inr (Or.inr (Or.inr (Or.inr (Or.inr (Or.inr (Or.inr (Or.inr (Or.inr (Or.inr (Or.inr (Or.inr (Or.inr (Or.inr (Or.inl (e))))))))))))))))))))))))))) | exact Or.inr (Or.inr (Or.inr (Or.inr (Or.inr (Or.inr (Or.inr (Or.inr (Or.inr (Or.inr (Or.inr (Or.inr (Or.inr (Or.inr (Or.inr (Or.inr (Or.inr (Or.inr (Or.inr (Or.inr (Or.inr (Or.inr (Or.inr (Or.inr (Or.inr (Or.inr (Or.inr (Or.inl (e)))))))))))))))))))))))))))) | exact Or.inr (Or.inr (Or.inr (Or.inr (Or.inr (Or.inr (Or.inr (Or.inr (Or.inr (Or.inr (Or.inr (Or.inr (Or.inr (Or.inr (Or.inr (Or.inr (Or.inr (Or.inr (Or.inr (Or.inr (Or.inr (Or.inr (Or.inr (Or.inr (Or.inr (Or.inr (Or.inr (Or.inr (Or.inl (e))))))))))))))))))))))))))))) | exact Or.inr (Or.inr (Or.inr (Or.inr (Or.inr (Or.inr (Or.inr (Or.inr (Or.inr (Or.inr (Or.inr (Or.inr (Or.inr (Or.inr (Or.inr (Or.inr (Or.inr (Or.inr (Or.inr (Or.inr (Or.inr (Or.inr (Or.inr (Or.inr (Or.inr (Or.inr (Or.inr (Or.inr (Or.inr (Or.inl (e)))))))))))))))))))))))))))))) | exact Or.inr (Or.inr (Or.inr (Or.inr (Or.inr (Or.inr (Or.inr (Or.inr (Or.inr (Or.inr (Or.inr (Or.inr (Or.inr (Or.inr (Or.inr (Or.inr (Or.inr (Or.inr (Or.inr (Or.inr (Or.inr (Or.inr (Or.inr (Or.inr (Or.inr (Or.inr (Or.inr (Or.inr (Or.inr (Or.inr (Or.inl (e))))))))))))))))))))))))))))))) | exact Or.inr (Or.inr (Or.inr (Or.inr (Or.inr (Or.inr (Or.inr (Or.inr (Or.inr (Or.inr (Or.inr (Or.inr (Or.inr (Or.inr (Or.inr (Or.inr (Or.inr (Or.inr (Or.inr (Or.inr (Or.inr (Or.inr (Or.inr (Or.inr (Or.inr (Or.inr (Or.inr (Or.inr (Or.inr (Or.inr (Or.inr (Or.inl (e)))))))))))))))))))))))))))))))) | exact Or.inr (Or.inr (Or.inr (Or.inr (Or.inr (Or.inr (Or.inr (Or.inr (Or.inr (Or.inr (Or.inr (Or.inr (Or.inr (Or.inr (Or.inr (Or.inr (Or.inr (Or.inr (Or.inr (Or.inr (Or.inr (Or.inr (Or.inr (Or.inr (Or.inr (Or.inr (Or.inr (Or.inr (Or.inr (Or.inr (Or.inr (Or.inr (Or.inl (e))))))))))))))))))))))))))))))))) | exact Or.inr (Or.inr (Or.inr (Or.inr (Or.inr (Or.inr (Or.inr (Or.inr (Or.inr (Or.inr (Or.inr (Or.inr (Or.inr (Or.inr (Or.inr (Or.inr (Or.inr (Or.inr (Or.inr (Or.inr (Or.inr (Or.inr (Or.inr (Or.inr (Or.inr (Or.inr (Or.inr (Or.inr (Or.inr (Or.inr (Or.inr (Or.inr (Or.inr (Or.inl (e)))))))))))))))))))))))))))))))))) | exact Or.inr (Or.inr (Or.inr (Or.inr (Or.inr (Or.inr (Or.inr (Or.inr (Or.inr (Or.inr (Or.inr (Or.inr (Or.inr (Or.inr (Or.inr (Or.inr (Or.inr (Or.inr (Or.inr (Or.inr (Or.inr (Or.inr (Or.inr (Or.inr (Or.inr (Or.inr (Or.inr (Or.inr (Or.inr (Or.inr (Or.inr (Or.inr (Or.inr (Or.inr (Or.inl (e))))))))))))))))))))))))))))))))))) | exact Or.inr (Or.inr (Or.inr (Or.inr (Or.inr (Or.inr (Or.inr (Or.inr (Or.inr (Or.inr (Or.inr (Or.inr (Or.inr (Or.inr (Or.inr (Or.inr (Or.inr (Or.inr (Or.inr (Or.inr (Or.inr (Or.inr (Or.inr (Or.inr (Or.inr (Or.inr (Or.inr (Or.inr (Or.inr (Or.inr (Or.inr (Or.inr (Or.inr (Or.inr (Or.inr (Or.inl (e)))))))))))))))))))))))))))))))))))) | exact Or.inr (Or.inr (Or.inr (Or.inr (Or.inr (Or.inr (Or.inr (Or.inr (Or.inr (Or.inr (Or.inr (Or.inr (Or.inr (Or.inr (Or.inr (Or.inr (Or.inr (Or.inr (Or.inr (Or.inr (Or.inr (Or.inr (Or.inr (Or.inr (Or.inr (Or.inr (Or.inr (Or.inr (Or.inr (Or.inr (Or.inr (Or.inr (Or.inr (Or.inr (Or.inr (Or.inr (Or.inl (e))))))))))))))))))))))))))))))))))))) | exact Or.inr (Or.inr (Or.inr (Or.inr (Or.inr (Or.inr (Or.inr (Or.inr (Or.inr (Or.inr (Or.inr (Or.inr (Or.inr (Or.inr (Or.inr (Or.inr (Or.inr (Or.inr (Or.inr (Or.inr (Or.inr (Or.inr (Or.inr (Or.inr (Or.inr (Or.inr (Or.inr (Or.inr (Or.inr (Or.inr (Or.inr (Or.inr (Or.inr (Or.inr (Or.inr (Or.inr (Or.inr (Or.inl (e)))))))))))))))))))))))))))))))))))))) | exact Or.inr (Or.inr (Or.inr (Or.inr (Or.inr (Or.inr (Or.inr (Or.inr (Or.inr (Or.inr (Or.inr (Or.inr (Or.inr (Or.inr (Or.inr (Or.inr (Or.inr (Or.inr (Or.inr (Or.inr (Or.inr (Or.inr (Or.inr (Or.inr (Or.inr (Or.inr (Or.inr (Or.inr (Or.inr (Or.inr (Or.inr (Or.inr (Or.inr (Or.inr (Or.inr (Or.inr (Or.inr (Or.inr (e))))))))))))))))))))))))))))))))))))))) (fun x k hx => by simp only [wJ_mP_begin_b58] at hx; rcases hx with e | e | e | e | e | e <;> first | exact Or.inl (e) | exact Or.inr (Or.inl (e)) | exact Or.inr (Or.inr (Or.inl (e))) | exact Or.inr (Or.inr (Or.inr (Or.inl (e)))) | exact Or.inr (Or.inr (Or.inr (Or.inr (Or.inl (e))))) | exact Or.inr (Or.inr (Or.inr (Or.inr (Or.inr (e))))))
theorem fe_mP_begin_b20_lp (n : Nat) : ∀ (v0 : Nat) (v1 : Int) (v2 : Int) (h : Hp), Feo (wI_mP_begin_b20 v0 v1 v2 h) (wJ_mP_begin_b20 v0 v1 v2 h) h id (f_mP_begin_b20_lp n v0 v1 v2 h) := by
  induction n with
  | zero => intro v0 v1 v2 h; exact fe_no
  | succ n ih => intro v0 v1 v2 h; exact fe_mP_begin_b20 ih v0 v1 v2 h
theorem fe_mP_begin_b17 (v0 : Nat) (s0 : Int) (h : Hp) : Feo (wI_mP_begin_b17 v0 s0 h) (wJ_mP_begin_b17 v0 s0 h) h id (f_mP_begin_b17 v0 s0 h) := by
  unfold f_mP_begin_b17
  exact fe_j Fe.rf (fe_mP_begin_b20_lp FU _ _ _ _) (fun x k hx => by simp only [wI_mP_begin_b20] at hx; rcases hx with e | e | e | e | e | e | e | e | e | e | e | e | e | e | e | e | e | e | e | e | e | e | e | e | e | e | e | e | e | e | e | e | e | e | e | e | e | e | e <;> first | exact Or.inl (e) | exact Or.inr (Or.inl (e)) | exact Or.inr (Or.inr (Or.inl (e))) | exact Or.inr (Or.inr (Or.inr (Or.inl (e)))) | exact Or.inr (Or.inr (Or.inr (Or.inr (Or.inl (e))))) | exact Or.inr (Or.inr (Or.inr (Or.inr (Or.inr (Or.inl (e)))))) | exact Or.inr (Or.inr (Or.inr (Or.inr (Or.inr (Or.inr (Or.inl (e))))))) | exact Or.inr (Or.inr (Or.inr (Or.inr (Or.inr (Or.inr (Or.inr (Or.inl (e)))))))) | exact Or.inr (Or.inr (Or.inr (Or.inr (Or.inr (Or.inr (Or.inr (Or.inr (Or.inl (e))))))))) | exact Or.inr (Or.inr (Or.inr (Or.inr (Or.inr (Or.inr (Or.inr (Or.inr (Or.inr (Or.inl (e)))))))))) | exact Or.inr (Or.inr (Or.inr (Or.inr (Or.inr (Or.inr (Or.inr (Or.inr (Or.inr (Or.inr (Or.inl (e))))))))))) | exact Or.inr (Or.inr (Or.inr (Or.inr (Or.inr (Or.inr (Or.inr (Or.inr (Or.inr (Or.inr (Or.inr (Or.inl (e)))))))))))) | exact Or.inr (Or.inr (Or.inr (Or.inr (Or.inr (Or.inr (Or.inr (Or.inr (Or.inr (Or.inr (Or.inr (Or.inr (Or.inl (e))))))))))))) | exact Or.inr (Or.inr (Or.inr (Or.inr (Or.inr (Or.inr (Or.inr (Or.inr (Or.inr (Or.inr (Or.inr (Or.inr (Or.inr (Or.inl (e)))))))))))))) | exact Or.inr (Or.inr (Or.inr (Or.inr (Or.inr (Or.inr (Or.inr (Or.inr (Or.inr (Or.inr (Or.inr (Or.inr (Or.inr (Or.inr (Or.inl (e))))))))))))))) | exact Or.inr (Or.inr (Or.inr (Or.inr (Or.inr (Or.inr (Or.inr (Or.inr (Or.inr (Or.inr (Or.inr (Or.inr (Or.inr (Or.inr (Or.inr (Or.inl (e)))))))))))))))) | exact Or.inr (Or.inr (Or.inr (Or.inr (Or.inr (Or.inr (Or.inr (Or.inr (Or.inr (Or.inr (Or.inr (Or.inr (Or.inr (Or.inr (Or.inr (Or.inr (Or.inl (e))))))))))))))))) | exact Or.inr (Or.inr (Or.inr (Or.inr (Or.inr (Or.inr (Or.inr (Or.inr (Or.inr (Or.inr (Or.inr (Or.inr (Or.inr (Or.inr (Or.inr (Or.inr (Or.inr (Or.inl (e)))))))))))))))))) | exact Or.inr (Or.inr (Or.inr (Or.inr (Or.inr (Or.inr (Or.inr (Or.inr (Or.inr (Or.inr (Or.inr (Or.inr (Or.inr (Or.inr (Or.inr (Or.inr (Or.inr (Or.inr (Or.inl (e))))))))))))))))))) | exact Or.inr (Or.inr (Or.inr (Or.inr (Or.inr (Or.inr (Or.inr (Or.inr (Or.inr (Or.inr (Or.inr (Or.inr (Or.inr (Or.inr (Or.inr (Or.inr (Or.inr (Or.inr (Or.inr (Or.inl (e)))))))))))))))))))) | exact Or.inr (Or.inr (Or.inr (Or.inr (Or.inr (Or.inr (Or.inr (Or.inr (Or.inr (Or.inr (Or.inr (Or.inr (Or.inr (Or.inr (Or.inr (Or.inr (Or.inr (Or.inr (Or.inr (Or.inr (Or.inl (e))))))))))))))))))))) | exact Or.inr (Or.inr (Or.inr (Or.inr (Or.inr (Or.inr (Or.inr (Or.inr (Or.inr (Or.inr (Or.inr (Or.inr (Or.inr (Or.inr (Or.inr (Or.inr (Or.inr (Or.inr (Or.inr (Or.inr (Or.inr (Or.inl (e)))))))))))))))))))))) | exact Or.inr (Or.inr (Or.inr (Or.inr (Or.inr (Or.inr (Or.inr (Or.inr (Or.inr (Or.inr (Or.inr (Or.inr (Or.inr (Or.inr (Or.inr (Or.inr (Or.inr (Or.inr (Or.inr (Or.inr (Or.inr (Or.inr (Or.inl (e))))))))))))))))))))))) | exact Or.inr (Or.inr (Or.inr (Or.inr (Or.inr (Or.inr (Or.inr (Or.inr (Or.inr (Or.inr (Or.inr (Or.inr (Or.inr (Or.inr (Or.inr (Or.inr (Or.inr (Or.inr (Or.inr (Or.inr (Or.inr (Or.inr (Or.inr (Or.inl (e)))))))))))))))))))))))) | exact Or.inr (Or.inr (Or.inr (Or.inr (Or.inr (Or.inr (Or.inr (Or.inr (Or.inr (Or.inr (Or.inr (Or.inr (Or.inr (Or.inr (Or.inr (Or.inr (Or.inr (Or.inr (Or.inr (Or.inr (Or.inr (Or.inr (Or.inr (Or.inr (Or.inl (e))))))))))))))))))))))))) | exact Or.inr (Or.inr (Or.inr (Or.inr (Or.inr (Or.inr (Or.inr (Or.inr (Or.inr (Or.inr (Or.inr (Or.inr (Or.inr (Or.inr (Or.inr (Or.inr (Or.inr (Or.inr (Or.inr (Or.inr (Or.inr (Or.inr (Or.inr (Or.inr (Or.inr (Or.inl (e)))))))))))))))))))))))))) | exact Or.inr (Or.inr (Or.inr (Or.inr (Or.inr (Or.inr (Or.inr (Or.inr (Or.inr (Or.inr (Or.inr (Or.inr (Or.inr (Or.inr (Or.inr (Or.inr (Or.inr (Or.inr (Or.inr (Or.inr (Or.inr (Or.inr (Or.inr (Or.inr (Or.inr (Or.inr (Or.inl (e))))))))))))))))))))))))))) | exact Or.inr (Or.inr (Or.inr (Or.inr (Or.inr (Or.inr (Or.inr (Or.inr (Or.inr (Or.inr (Or.inr (Or.inr (Or.inr (Or.inr (Or.inr (Or.inr (Or.inr (Or.inr (Or.inr (Or.inr (Or.inr (Or.inr (Or.inr (Or.inr (Or.inr (Or.inr (Or.inr (Or.inl (e)))))))))))))))))))))))))))) | exact Or.inr (Or.inr (Or.inr (Or.inr (Or.inr (Or.inr (Or.inr (Or.inr (Or.inr (Or.inr (Or.inr (Or.inr (Or.inr (Or.inr (Or.inr (Or.inr (Or.inr (Or.inr (Or.inr (Or.inr (Or.inr (Or.inr (Or.inr (Or.inr (Or.inr (Or.inr (Or.inr (Or.inr (Or.inl (e))))))))))))))))))))))))))))) | exact Or.inr (Or.inr (Or.inr (Or.inr (Or.inr (Or.inr (Or.inr (Or.inr (Or.inr (Or.inr (Or.inr (Or.inr (Or.inr (Or.inr (Or.inr (Or.inr (Or.inr (Or.inr (Or.inr (Or.inr (Or.inr (Or.inr (Or.inr (Or.inr (Or.inr (Or.inr (Or.inr (Or.inr (Or.inr (Or.inl (e)))))))))))))))))))))))))))))) | exact Or.inr (Or.inr (Or.inr (Or.inr (Or.inr (Or.inr (Or.inr (Or.inr (Or.inr (Or.inr (Or.inr (Or.inr (Or.inr (Or.inr (Or.inr (Or.inr (Or.inr (Or.inr (Or.inr (Or.inr (Or.inr (Or.inr (Or.inr (Or.inr (Or.inr (Or.inr (Or.inr (Or.inr (Or.inr (Or.inr (Or.inl (e))))))))))))))))))))))))))))))) | exact Or.inr (Or.inr (Or.inr (Or.inr (Or.inr (Or.inr (Or.inr (Or.inr (Or.inr (Or.inr (Or.inr (Or.inr (Or.inr (Or.inr (Or.inr (Or.inr (Or.inr (Or.inr (Or.inr (Or.inr (Or.inr (Or.inr (Or.inr (Or.inr (Or.inr (Or.inr (Or.inr (Or.inr (Or.inr (Or.inr (Or.inr (Or.inl (e)))))))))))))))))))))))))))))))) | exact Or.inr (Or.inr (Or.inr (Or.inr (Or.inr (Or.inr (Or.inr (Or.inr (Or.inr (Or.inr (Or.inr (Or.inr (Or.inr (Or.inr (Or.inr (Or.inr (Or.inr (Or.inr (Or.inr (Or.inr (Or.inr (Or.inr (Or.inr (Or.inr (Or.inr (Or.inr (Or.inr (Or.inr (Or.inr (Or.inr (Or.inr (Or.inr (Or.inl (e))))))))))))))))))))))))))))))))) | exact Or.inr (Or.inr (Or.inr (Or.inr (Or.inr (Or.inr (Or.inr (Or.inr (Or.inr (Or.inr (Or.inr (Or.inr (Or.inr (Or.inr (Or.inr (Or.inr (Or.inr (Or.inr (Or.inr (Or.inr (Or.inr (Or.inr (Or.inr (Or.inr (Or.inr (Or.inr (Or.inr (Or.inr (Or.inr (Or.inr (Or.inr (Or.inr (Or.inr (Or.inl (e)))))))))))))))))))))))))))))))))) | exact Or.inr (Or.inr (Or.inr (Or.inr (Or.inr (Or.inr (Or.inr (Or.inr (Or.inr (Or.inr (Or.inr (Or.inr (Or.inr (Or.inr (Or.inr (Or.inr (Or.inr (Or.inr (Or.inr (Or.inr (Or.inr (Or.inr (Or.inr (Or.inr (Or.inr (Or.inr (Or.inr (Or.inr (Or.inr (Or.inr (Or.inr (Or.inr (Or.inr (Or.inr (Or.inl (e))))))))))))))))))))))))))))))))))) | exact Or.inr (Or.inr (Or.inr (Or.inr (Or.inr (Or.inr (Or.inr (Or.inr (Or.inr (Or.inr (Or.inr (Or.inr (Or.inr (Or.inr (Or.inr (Or.inr (Or.inr (Or.inr (Or.inr (Or.inr (Or.inr (Or.inr (Or.inr (Or.inr (Or.inr (Or.inr (Or.inr (Or.inr (Or.inr (Or.inr (Or.inr (Or.inr (Or.inr (Or.inr (Or.inr (Or.inl (e)))))))))))))))))))))))))))))))))))) | exact Or.inr (Or.inr (Or.inr (Or.inr (Or.inr (Or.inr (Or.inr (Or.inr (Or.inr (Or.inr (Or.inr (Or.inr (Or.inr (Or.inr (Or.inr (Or.inr (Or.inr (Or.inr (Or.inr (Or.inr (Or.inr (Or.inr (Or.inr (Or.inr (Or.inr (Or.inr (Or.inr (Or.inr (Or.inr (Or.inr (Or.inr (Or.inr (Or.inr (Or.inr (Or.inr (Or.inr (Or.inl (e))))))))))))))))))))))))))))))))))))) | exact Or.inr (Or.inr (Or.inr (Or.inr (Or.inr (Or.inr (Or.inr (Or.inr (Or.inr (Or.inr (Or.inr (Or.inr (Or.inr (Or.inr (Or.inr (Or.inr (Or.inr (Or.inr (Or.inr (Or.inr (Or.inr (Or.inr (Or.inr (Or.inr (Or.inr (Or.inr (Or.inr (Or.inr (Or.inr (Or.inr (Or.inr (Or.inr (Or.inr (Or.inr (Or.inr (Or.inr (Or.inr (Or.inl (e)))))))))))))))))))))))))))))))))))))) | exact Or.inr (Or.inr (Or.inr (Or.inr (Or.inr (Or.inr (Or.inr (Or.inr (Or.inr (Or.inr (Or.inr (Or.inr (Or.inr (Or.inr (Or.inr (Or.inr (Or.inr (Or.inr (Or.inr (Or.inr (Or.inr (Or.inr (Or.inr (Or.inr (Or.inr (Or.inr (Or.inr (Or.inr (Or.inr (Or.inr (Or.inr (Or.inr (Or.inr (Or.inr (Or.inr (Or.inr (Or.inr (Or.inr (e))))))))))))))))))))))))))))))))))))))) (fun x k hx => by simp only [wJ_mP_begin_b20] at hx; rcases hx with e | e | e | e | e | e <;> first | exact Or.inl (e) | exact Or.inr (Or.inl (e)) | exact Or.inr (Or.inr (Or.inl (e))) | exact Or.inr (Or.inr (Or.inr (Or.inl (e)))) | exact Or.inr (Or.inr (Or.inr (Or.inr (Or.inl (e))))) | exact Or.inr (Or.inr (Or.inr (Or.inr (Or.inr (e))))))
theorem fe_mP_begin (v0 : Nat) (h : Hp) : Feo (wI_mP_begin v0 h) (wJ_mP_begin v0 h) h id (f_mP_begin v0 h) := by
  unfold f_mP_begin
  refine fe_it fe_no ?_
  refine fe_it ?_ fe_no
  refine fe_it fe_no ?_
  refine fe_it ?_ ?_
  · exact fe_j Fe.rf (fe_mP_begin_b17 _ _ _) (fun x k hx => by simp only [wI_mP_begin_b17] at hx; rcases hx with e | e | e | e | e | e | e | e | e | e | e | e | e | e | e | e | e | e | e | e | e | e | e | e | e | e | e | e | e | e | e | e | e | e | e | e | e | e | e <;> first | exact Or.inl (e) | exact Or.inr (Or.inl (e)) | exact Or.inr (Or.inr (Or.inl (e))) | exact Or.inr (Or.inr (Or.inr (Or.inl (e)))) | exact Or.inr (Or.inr (Or.inr (Or.inr (Or.inl (e))))) | exact Or.inr (Or.inr (Or.inr (Or.inr (Or.inr (Or.inl (e)))))) | exact Or.inr (Or.inr (Or.inr (Or.inr (Or.inr (Or.inr (Or.inl (e))))))) | exact Or.inr (Or.inr (Or.inr (Or.inr (Or.inr (Or.inr (Or.inr (Or.inl (e)))))))) | exact Or.inr (Or.inr (Or.inr (Or.inr (Or.inr (Or.inr (Or.inr (Or.inr (Or.inl (e))))))))) | exact Or.inr (Or.inr (Or.inr (Or.inr (Or.inr (Or.inr (Or.inr (Or.inr (Or.inr (Or.inl (e)))))))))) | exact Or.inr (Or.inr (Or.inr (Or.inr (Or.inr (Or.inr (Or.inr (Or.inr (Or.inr (Or.inr (Or.inl (e))))))))))) | exact Or.inr (Or.inr (Or.inr (Or.inr (Or.inr (Or.inr (Or.inr (Or.inr (Or.inr (Or.inr (Or.inr (Or.inl (e)))))))))))) | exact Or.inr (Or.inr (Or.inr (Or.inr (Or.inr (Or.inr (Or.inr (Or.inr (Or.inr (Or.inr (Or.inr (Or.inr (Or.inl (e))))))))))))) | exact Or.inr (Or.inr (Or.inr (Or.inr (Or.inr (Or.inr (Or.inr (Or.inr (Or.inr (Or.inr (Or.inr (Or.inr (Or.inr (Or.inl (e)))))))))))))) | exact Or.inr (Or.inr (Or.inr (Or.inr (Or.inr (Or.inr (Or.inr (Or.inr (Or.inr (Or.inr (Or.inr (Or.inr (Or.inr (Or.inr (Or.inl (e))))))))))))))) | exact Or.inr (Or.inr (Or.inr (Or.inr (Or.inr (Or.inr (Or.inr (Or.inr (Or.inr (Or.inr (Or.inr (Or.inr (Or.inr (Or.inr (Or.inr (Or.inl (e)))))))))))))))) | exact Or.inr (Or.inr (Or.inr (Or.inr (Or.inr (Or.inr (Or.inr (Or.inr (Or.inr (Or.inr (Or.inr (Or.inr (Or.inr (Or.inr (Or.inr (Or.inr (Or.inl (e))))))))))))))))) | exact Or.inr (Or.inr (Or.inr (Or.inr (Or.inr (Or.inr (Or.inr (Or.inr (Or.inr (Or.inr (Or.inr (Or.inr (Or.inr (Or.inr (Or.inr (Or.inr (Or.inr (Or.inl (e)))))))))))))))))) | exact Or.inr (Or.inr (Or.inr (Or.inr (Or.inr (Or.inr (Or.inr (Or.inr (Or.inr (Or.inr (Or.inr (Or.inr (Or.inr (Or.inr (Or.inr (Or.inr (Or.inr (Or.inr (Or.inl (e))))))))))))))))))) | exact Or.inr (Or.inr (Or.inr (Or.inr (Or.inr (Or.inr (Or.inr (Or.inr (Or.inr (Or.inr (Or.inr (Or.inr (Or.inr (Or.inr (Or.inr (Or.inr (Or.inr (Or.inr (Or.inr (Or.inl (e)))))))))))))))))))) | exact Or.inr (Or.inr (Or.inr (Or.inr (Or.inr (Or.inr (Or.inr (Or.inr (Or.inr (Or.inr (Or.inr (Or.inr (Or.inr (Or.inr (Or.inr (Or.inr (Or.inr (Or.inr (Or.inr (Or.inr (Or.inl (e))))))))))))))))))))) | exact Or.inr (Or.inr (Or.inr (Or.inr (Or.inr (Or.inr (Or.inr (Or.inr (Or.inr (Or.inr (Or.inr (Or.inr (Or.inr (Or.inr (Or.inr (Or.inr (Or.inr (Or.inr (Or.inr (Or.inr (Or.inr (Or.inl (e)))))))))))))))))))))) | exact Or.inr (Or.inr (Or.inr (Or.inr (Or.inr (Or.inr (Or.inr (Or.inr (Or.inr (Or.inr (Or.inr (Or.inr (Or.inr (Or.inr (Or.inr (Or.inr (Or.inr (Or.inr (Or.inr (Or.inr (Or.inr (Or.inr (Or.inl (e))))))))))))))))))))))) | exact Or.inr (Or.inr (Or.inr (Or.inr (Or.inr (Or.inr (Or.inr (Or.inr (Or.inr (Or.inr (Or.inr (Or.inr (Or.inr (Or.inr (Or.inr (Or.inr (Or.inr (Or.inr (Or.inr (Or.inr (Or.inr (Or.inr (Or.inr (Or.inl (e)))))))))))))))))))))))) | exact Or.inr (Or.inr (Or.inr (Or.inr (Or.inr (Or.inr (Or.inr (Or.inr (Or.inr (Or.inr (Or.inr (Or.inr (Or.inr (Or.inr (Or.inr (Or.inr (Or.inr (Or.inr (Or.inr (Or.inr (Or.inr (Or.inr (Or.inr (Or.inr (Or.inl (e))))))))))))))))))))))))) | exact Or.inr (Or.inr (Or.inr (Or.inr (Or.inr (Or.inr (Or.inr (Or.inr (Or.inr (Or.inr (Or.inr (Or.inr (Or.inr (Or.inr (Or.inr (Or.inr (Or.inr (Or.inr (Or.inr (Or.inr (Or.inr (Or.inr (Or.inr (Or.inr (Or.inr (Or.inl (e)))))))))))))))))))))))))) | exact Or.inr (Or.inr (Or.inr (Or.inr (Or.inr (Or.inr (Or.inr (Or.inr (Or.inr (Or.inr (Or.inr (Or.inr (Or.inr (Or.inr (Or.inr (Or.inr (Or.inr (Or.inr (Or.inr (Or.inr (Or.inr (Or.inr (Or.inr (Or.inr (Or.inr (Or.inr (Or.inl (e))))))))))))))))))))))))))) | exact Or.inr (Or.inr (Or.inr (Or.inr (Or.inr (Or.inr (Or.inr (Or.inr (Or.inr (Or.inr (Or.inr (Or.inr (Or.inr (Or.inr (Or.inr (Or.inr (Or.inr (Or.inr (Or.inr (Or.inr (Or.inr (Or.inr (Or.inr (Or.inr (Or.inr (Or.inr (Or.inr (Or.inl (e)))))))))))))))))))))))))))) | exact Or.inr (Or.inr (Or.inr (Or.inr (Or.inr (Or.inr (Or.inr (Or.inr (Or.inr (Or.inr (Or.inr (Or.inr (Or.inr (Or.inr (Or.inr (Or.inr (Or.inr (Or.inr (Or.inr (Or.inr (Or.inr (Or.inr (Or.inr (Or.inr (Or.inr (Or.inr (Or.inr (Or.inr (Or.inl (e))))))))))))))))))))))))))))) | exact Or.inr (Or.inr (Or.inr (Or.inr (Or.inr (Or.inr (Or.inr (Or.inr (Or.inr (Or.inr (Or.inr (Or.inr (Or.inr (Or.inr (Or.inr (Or.inr (Or.inr (Or.inr (Or.inr (Or.inr (Or.inr (Or.inr (Or.inr (Or.inr (Or.inr (Or.inr (Or.inr (Or.inr (Or.inr (Or.inl (e)))))))))))))))))))))))))))))) | exact Or.inr (Or.inr (Or.inr (Or.inr (Or.inr (Or.inr (Or.inr (Or.inr (Or.inr (Or.inr (Or.inr (Or.inr (Or.inr (Or.inr (Or.inr (Or.inr (Or.inr (Or.inr (Or.inr (Or.inr (Or.inr (Or.inr (Or.inr (Or.inr (Or.inr (Or.inr (Or.inr (Or.inr (Or.inr (Or.inr (Or.inl (e))))))))))))))))))))))))))))))) | exact Or.inr (Or.inr (Or.inr (Or.inr (Or.inr (Or.inr (Or.inr (Or.inr (Or.inr (Or.inr (Or.inr (Or.inr (Or.inr (Or.inr (Or.inr (Or.inr (Or.inr (Or.inr (Or.inr (Or.inr (Or.inr (Or.inr (Or.inr (Or.inr (Or.inr (Or.inr (Or.inr (Or.inr (Or.inr (Or.inr (Or.inr (Or.inl (e)))))))))))))))))))))))))))))))) | exact Or.inr (Or.inr (Or.inr (Or.inr (Or.inr (Or.inr (Or.inr (Or.inr (Or.inr (Or.inr (Or.inr (Or.inr (Or.inr (Or.inr (Or.inr (Or.inr (Or.inr (Or.inr (Or.inr (Or.inr (Or.inr (Or.inr (Or.inr (Or.inr (Or.inr (Or.inr (Or.inr (Or.inr (Or.inr (Or.inr (Or.inr (Or.inr (Or.inl (e))))))))))))))))))))))))))))))))) | exact Or.inr (Or.inr (Or.inr (Or.inr (Or.inr (Or.inr (Or.inr (Or.inr (Or.inr (Or.inr (Or.inr (Or.inr (Or.inr (Or.inr (Or.inr (Or.inr (Or.inr (Or.inr (Or.inr (Or.inr (Or.inr (Or.inr (Or.inr (Or.inr (Or.inr (Or.inr (Or.inr (Or.inr (Or.inr (Or.inr (Or.inr (Or.inr (Or.inr (Or.inl (e)))))))))))))))))))))))))))))))))) | exact Or.inr (Or.inr (Or.inr (Or.inr (Or.inr (Or.inr (Or.inr (Or.inr (Or.inr (Or.inr (Or.inr (Or.inr (Or.inr (Or.inr (Or.inr (Or.inr (Or.inr (Or.inr (Or.inr (Or.inr (Or.inr (Or.inr (Or.inr (Or.inr (Or.inr (Or.inr (Or.inr (Or.inr (Or.inr (Or.inr (Or.inr (Or.inr (Or.inr (Or.inr (Or.inl (e))))))))))))))))))))))))))))))))))) | exact Or.inr (Or.inr (Or.inr (Or.inr (Or.inr (Or.inr (Or.inr (Or.inr (Or.inr (Or.inr (Or.inr (Or.inr (Or.inr (Or.inr (Or.inr (Or.inr (Or.inr (Or.inr (Or.inr (Or.inr (Or.inr (Or.inr (Or.inr (Or.inr (Or.inr (Or.inr (Or.inr (Or.inr (Or.inr (Or.inr (Or.inr (Or.inr (Or.inr (Or.inr (Or.inr (Or.inl (e)))))))))))))))))))))))))))))))))))) | exact Or.inr (Or.inr (Or.inr (Or.inr (Or.inr (Or.inr (Or.inr (Or.inr (Or.inr (Or.inr (Or.inr (Or.inr (Or.inr (Or.inr (Or.inr (Or.inr (Or.inr (Or.inr (Or.inr (Or.inr (Or.inr (Or.inr (Or.inr (Or.inr (Or.inr (Or.inr (Or.inr (Or.inr (Or.inr (Or.inr (Or.inr (Or.inr (Or.inr (Or.inr (Or.inr (Or.inr (Or.inl (e))))))))))))))))))))))))))))))))))))) | exact Or.inr (Or.inr (Or.inr (Or.inr (Or.inr (Or.inr (Or.inr (Or.inr (Or.inr (Or.inr (Or.inr (Or.inr (Or.inr (Or.inr (Or.inr (Or.inr (Or.inr (Or.inr (Or.inr (Or.inr (Or.inr (Or.inr (Or.inr (Or.inr (Or.inr (Or.inr (Or.inr (Or.inr (Or.inr (Or.inr (Or.inr (Or.inr (Or.inr (Or.inr (Or.inr (Or.inr (Or.inr (Or.inl (e)))))))))))))))))))))))))))))))))))))) | exact Or.inr (Or.inr (Or.inr (Or.inr (Or.inr (Or.inr (Or.inr (Or.inr (Or.inr (Or.inr (Or.inr (Or.inr (Or.inr (Or.inr (Or.inr (Or.inr (Or.inr (Or.inr (Or.inr (Or.inr (Or.inr (Or.inr (Or.inr (Or.inr (Or.inr (Or.inr (Or.inr (Or.inr (Or.inr (Or.inr (Or.inr (Or.inr (Or.inr (Or.inr (Or.inr (Or.inr (Or.inr (Or.inr (e))))))))))))))))))))))))))))))))))))))) (fun x k hx => by simp only [wJ_mP_begin_b17] at hx; rcases hx with e | e | e | e | e | e <;> first | exact Or.inl (e) | exact Or.inr (Or.inl (e)) | exact Or.inr (Or.inr (Or.inl (e))) | exact Or.inr (Or.inr (Or.inr (Or.inl (e)))) | exact Or.inr (Or.inr (Or.inr (Or.inr (Or.inl (e))))) | exact Or.inr (Or.inr (Or.inr (Or.inr (Or.inr (e))))))
  · exact fe_j Fe.rf (fe_mP_begin_b17 _ _ _) (fun x k hx => by simp only [wI_mP_begin_b17] at hx; rcases hx with e | e | e | e | e | e | e | e | e | e | e | e | e | e | e | e | e | e | e | e | e | e | e | e | e | e | e | e | e | e | e | e | e | e | e | e | e | e | e <;> first | exact Or.inl (e) | exact Or.inr (Or.inl (e)) | exact Or.inr (Or.inr (Or.inl (e))) | exact Or.inr (Or.inr (Or.inr (Or.inl (e)))) | exact Or.inr (Or.inr (Or.inr (Or.inr (Or.inl (e))))) | exact Or.inr (Or.inr (Or.inr (Or.inr (Or.inr (Or.inl (e)))))) | exact Or.inr (Or.inr (Or.inr (Or.inr (Or.inr (Or.inr (Or.inl (e))))))) | exact Or.inr (Or.inr (Or.inr (Or.inr (Or.inr (Or.inr (Or.inr (Or.inl (e)))))))) | exact Or.inr (Or.inr (Or.inr (Or.inr (Or.inr (Or.inr (Or.inr (Or.inr (Or.inl (e))))))))) | exact Or.inr (Or.inr (Or.inr (Or.inr (Or.inr (Or.inr (Or.inr (Or.inr (Or.inr (Or.inl (e)))))))))) | exact Or.inr (Or.inr (Or.inr (Or.inr (Or.inr (Or.inr (Or.inr (Or.inr (Or.inr (Or.inr (Or.inl (e))))))))))) | exact Or.inr (Or.inr (Or.inr (Or.inr (Or.inr (Or.inr (Or.inr (Or.inr (Or.inr (Or.inr (Or.inr (Or.inl (e)))))))))))) | exact Or.inr (Or.inr (Or.inr (Or.inr (Or.inr (Or.inr (Or.inr (Or.inr (Or.inr (Or.inr (Or.inr (Or.inr (Or.inl (e))))))))))))) | exact Or.inr (Or.inr (Or.inr (Or.inr (Or.inr (Or.inr (Or.inr (Or.inr (Or.inr (Or.inr (Or.inr (Or.inr (Or.inr (Or.inl (e)))))))))))))) | exact Or.inr (Or.inr (Or.inr (Or.inr (Or.inr (Or.inr (Or.inr (Or.inr (Or.inr (Or.inr (Or.inr (Or.inr (Or.inr (Or.inr (Or.inl (e))))))))))))))) | exact Or.inr (Or.inr (Or.inr (Or.inr (Or.inr (Or.inr (Or.inr (Or.inr (Or.inr (Or.inr (Or.inr (Or.inr (Or.inr (Or.inr (Or.inr (Or.inl (e)))))))))))))))) | exact Or.inr (Or.inr (Or.inr (Or.inr (Or.inr (Or.inr (Or.inr (Or.inr (Or.inr (Or.inr (Or.inr (Or.inr (Or.inr (Or.inr (Or.inr (Or.inr (Or.inl (e))))))))))))))))) | exact Or.inr (Or.inr (Or.inr (Or.inr (Or.inr (Or.inr (Or.inr (Or.inr (Or.inr (Or.inr (Or.inr (Or.inr (Or.inr (Or.inr (Or.inr (Or.inr (Or.inr (Or.inl (e)))))))))))))))))) | exact Or.inr (Or.inr (Or.inr (Or.inr (Or.inr (Or.inr (Or.inr (Or.inr (Or.inr (Or.inr (Or.inr (Or.inr (Or.inr (Or.inr (Or.inr (Or.inr (Or.inr (Or.inr (Or.inl (e))))))))))))))))))) | exact Or.inr (Or.inr (Or.inr (Or.inr (Or.inr (Or.inr (Or.inr (Or.inr (Or.inr (Or.inr (Or.inr (Or.inr (Or.inr (Or.inr (Or.inr (Or.inr (Or.inr (Or.inr (Or.inr (Or.inl (e)))))))))))))))))))) | exact Or.inr (Or.inr (Or.inr (Or.inr (Or.inr (Or.inr (Or.inr (Or.inr (Or.inr (Or.inr (Or.inr (Or.inr (Or.inr (Or.inr (Or.inr (Or.inr (Or.inr (Or.inr (Or.inr (Or.inr (Or.inl (e))))))))))))))))))))) | exact Or.inr (Or.inr (Or.inr (Or.inr (Or.inr (Or.inr (Or.inr (Or.inr (Or.inr (Or.inr (Or.inr (Or.inr (Or.inr (Or.inr (Or.inr (Or.inr (Or.inr (Or.inr (Or.inr (Or.inr (Or.inr (Or.inl (e)))))))))))))))))))))) | exact Or.inr (Or.inr (Or.inr (Or.inr (Or.inr (Or.inr (Or.inr (Or.inr (Or.inr (Or.inr (Or.inr (Or.inr (Or.inr (Or.inr (Or.inr (Or.inr (Or.inr (Or.inr (Or.inr (Or.inr (Or.inr (Or.inr (Or.inl (e))))))))))))))))))))))) | exact Or.inr (Or.inr (Or.inr (Or.inr (Or.inr (Or.inr (Or.inr (Or.inr (Or.inr (Or.inr (Or.inr (Or.inr (Or.inr (Or.inr (Or.inr (Or.inr (Or.inr (Or.inr (Or.inr (Or.inr (Or.inr (Or.inr (Or.inr (Or.inl (e)))))))))))))))))))))))) | exact Or.inr (Or.inr (Or.inr (Or.inr (Or.inr (Or.inr (Or.inr (Or.inr (Or.inr (Or.inr (Or.inr (Or.inr (Or.inr (Or.inr (Or.inr (Or.inr (Or.inr (Or.inr (Or.inr (Or.inr (Or.inr (Or.inr (Or.inr (Or.inr (Or.inl (e))))))))))))))))))))))))) | exact Or.inr (Or.inr (Or.inr (Or.inr (Or.inr (Or.inr (Or.inr (Or.inr (Or.inr (Or.inr (Or.inr (Or.inr (Or.inr (Or.inr (Or.inr (Or.inr (Or.inr (Or.inr (Or.inr (Or.inr (Or.inr (Or.inr (Or.inr (Or.inr (Or.inr (Or.inl (e)))))))))))))))))))))))))) | exact Or.inr (Or.inr (Or.inr (Or.inr (Or.inr (Or.inr (Or.inr (Or.inr (Or.inr (Or.inr (Or.inr (Or.inr (Or.inr (Or.inr (Or.inr (Or.inr (Or.inr (Or.inr (Or.inr (Or.inr (Or.inr (Or.inr (Or.inr (Or.inr (Or.inr (Or.inr (Or.inl (e))))))))))))))))))))))))))) | exact Or.inr (Or.inr (Or.inr (Or.inr (Or.inr (Or.inr (Or.inr (Or.inr (Or.inr (Or.inr (Or.inr (Or.inr (Or.inr (Or.inr (Or.inr (Or.inr (Or.inr (Or.inr (Or.inr (Or.inr (Or.inr (Or.inr (Or.inr (Or.inr (Or.inr (Or.inr (Or.inr (Or.inl (e)))))))))))))))))))))))))))) | exact Or.inr (Or.inr (Or.inr (Or.inr (Or.inr (Or.inr (Or.inr (Or.inr (Or.inr (Or.inr (Or.inr (Or.inr (Or.inr (Or.inr (Or.inr (Or.inr (Or.inr (Or.inr (Or.inr (Or.inr (Or.inr (Or.inr (Or.inr (Or.inr (Or.inr (Or.inr (Or.inr (Or.inr (Or.inl (e))))))))))))))))))))))))))))) | exact Or.inr (Or.inr (Or.inr (Or.inr (Or.inr (Or.inr (Or.inr (Or.inr (Or.inr (Or.inr (Or.inr (Or.inr (Or.inr (Or.inr (Or.inr (Or.inr (Or.inr (Or.inr (Or.inr (Or.inr (Or.inr (Or.inr (Or.inr (Or.inr (Or.inr (Or.inr (Or.inr (Or.inr (Or.inr (Or.inl (e)))))))))))))))))))))))))))))) | exact Or.inr (Or.inr (Or.inr (Or.inr (Or.inr (Or.inr (Or.inr (Or.inr (Or.inr (Or.inr (Or.inr (Or.inr (Or.inr (Or.inr (Or.inr (Or.inr (Or.inr (Or.inr (Or.inr (Or.inr (Or.inr (Or.inr (Or.inr (Or.inr (Or.inr (Or.inr (Or.inr (Or.inr (Or.inr (Or.inr (Or.inl (e))))))))))))))))))))))))))))))) | exact Or.inr (Or.inr (Or.inr (Or.inr (Or.inr (Or.inr (Or.inr (Or.inr (Or.inr (Or.inr (Or.inr (Or.inr (Or.inr (Or.inr (Or.inr (Or.inr (Or.inr (Or.inr (Or.inr (Or.inr (Or.inr (Or.inr (Or.inr (Or.inr (Or.inr (Or.inr (Or.inr (Or.inr (Or.inr (Or.inr (Or.inr (Or.inl (e)))))))))))))))))))))))))))))))) | exact Or.inr (Or.inr (Or.inr (Or.inr (Or.inr (Or.inr (Or.inr (Or.inr (Or.inr (Or.inr (Or.inr (Or.inr (Or.inr (Or.inr (Or.inr (Or.inr (Or.inr (Or.inr (Or.inr (Or.inr (Or.inr (Or.inr (Or.inr (Or.inr (Or.inr (Or.inr (Or.inr (Or.inr (Or.inr (Or.inr (Or.inr (Or.inr (Or.inl (e))))))))))))))))))))))))))))))))) | exact Or.inr (Or.inr (Or.inr (Or.inr (Or.inr (Or.inr (Or.inr (Or.inr (Or.inr (Or.inr (Or.inr (Or.inr (Or.inr (Or.inr (Or.inr (Or.inr (Or.inr (Or.inr (Or.inr (Or.inr (Or.inr (Or.inr (Or.inr (Or.inr (Or.inr (Or.inr (Or.inr (Or.inr (Or.inr (Or.inr (Or.inr (Or.inr (Or.inr (Or.inl (e)))))))))))))))))))))))))))))))))) | exact Or.inr (Or.inr (Or.inr (Or.inr (Or.inr (Or.inr (Or.inr (Or.inr (Or.inr (Or.inr (Or.inr (Or.inr (Or.inr (Or.inr (Or.inr (Or.inr (Or.inr (Or.inr (Or.inr (Or.inr (Or.inr (Or.inr (Or.inr (Or.inr (Or.inr (Or.inr (Or.inr (Or.inr (Or.inr (Or.inr (Or.inr (Or.inr (Or.inr (Or.inr (Or.inl (e))))))))))))))))))))))))))))))))))) | exact Or.inr (Or.inr (Or.inr (Or.inr (Or.inr (Or.inr (Or.inr (Or.inr (Or.inr (Or.inr (Or.inr (Or.inr (Or.inr (Or.inr (Or.inr (Or.inr (Or.inr (Or.inr (Or.inr (Or.inr (Or.inr (Or.inr (Or.inr (Or.inr (Or.inr (Or.inr (Or.inr (Or.inr (Or.inr (Or.inr (Or.inr (Or.inr (Or.inr (Or.inr (Or.inr (Or.inl (e)))))))))))))))))))))))))))))))))))) | exact Or.inr (Or.inr (Or.inr (Or.inr (Or.inr (Or.inr (Or.inr (Or.inr (Or.inr (Or.inr (Or.inr (Or.inr (Or.inr (Or.inr (Or.inr (Or.inr (Or.inr (Or.inr (Or.inr (Or.inr (Or.inr (Or.inr (Or.inr (Or.inr (Or.inr (Or.inr (Or.inr (Or.inr (Or.inr (Or.inr (Or.inr (Or.inr (Or.inr (Or.inr (Or.inr (Or.inr (Or.inl (e))))))))))))))))))))))))))))))))))))) | exact Or.inr (Or.inr (Or.inr (Or.inr (Or.inr (Or.inr (Or.inr (Or.inr (Or.inr (Or.inr (Or.inr (Or.inr (Or.inr (Or.inr (Or.inr (Or.inr (Or.inr (Or.inr (Or.inr (Or.inr (Or.inr (Or.inr (Or.inr (Or.inr (Or.inr (Or.inr (Or.inr (Or.inr (Or.inr (Or.inr (Or.inr (Or.inr (Or.inr (Or.inr (Or.inr (Or.inr (Or.inr (Or.inl (e)))))))))))))))))))))))))))))))))))))) | exact Or.inr (Or.inr (Or.inr (Or.inr (Or.inr (Or.inr (Or.inr (Or.inr (Or.inr (Or.inr (Or.inr (Or.inr (Or.inr (Or.inr (Or.inr (Or.inr (Or.inr (Or.inr (Or.inr (Or.inr (Or.inr (Or.inr (Or.inr (Or.inr (Or.inr (Or.inr (Or.inr (Or.inr (Or.inr (Or.inr (Or.inr (Or.inr (Or.inr (Or.inr (Or.inr (Or.inr (Or.inr (Or.inr (e))))))))))))))))))))))))))))))))))))))) (fun x k hx => by simp only [wJ_mP_begin_b17] at hx; rcases hx with e | e | e | e | e | e <;> first | exact Or.inl (e) | exact Or.inr (Or.inl (e)) | exact Or.inr (Or.inr (Or.inl (e))) | exact Or.inr (Or.inr (Or.inr (Or.inl (e)))) | exact Or.inr (Or.inr (Or.inr (Or.inr (Or.inl (e))))) | exact Or.inr (Or.inr (Or.inr (Or.inr (Or.inr (e))))))
def wI_mStreams_at (v0 : Int) (v1 : Int) (h : Hp) (x k : Nat) : Prop := False
def wJ_mStreams_at (v0 : Int) (v1 : Int) (h : Hp) (x k : Nat) : Prop := False
theorem fe_mStreams_at (v0 : Int) (v1 : Int) (h : Hp) : Feo (wI_mStreams_at v0 v1 h) (wJ_mStreams_at v0 v1 h) h Prod.snd (f_mStreams_at v0 v1 h) := by
  unfold f_mStreams_at
  exact fe_so Fe.rf
def wI_mStreams_wayOf (v0 : Int) (h : Hp) (x k : Nat) : Prop := False
def wJ_mStreams_wayOf (v0 : Int) (h : Hp) (x k : Nat) : Prop := False
theorem fe_mStreams_wayOf (v0 : Int) (h : Hp) : Feo (wI_mStreams_wayOf v0 h) (wJ_mStreams_wayOf v0 h) h Prod.snd (f_mStreams_wayOf v0 h) := by
  unfold f_mStreams_wayOf
  exact fe_so Fe.rf
def wI_mStreams_opens (v0 : Int) (v1 : Int) (h : Hp) (x k : Nat) : Prop := False
def wJ_mStreams_opens (v0 : Int) (v1 : Int) (h : Hp) (x k : Nat) : Prop := False
theorem fe_mStreams_opens (v0 : Int) (v1 : Int) (h : Hp) : Feo (wI_mStreams_opens v0 v1 h) (wJ_mStreams_opens v0 v1 h) h Prod.snd (f_mStreams_opens v0 v1 h) := by
  unfold f_mStreams_opens
  refine fe_it ?_ ?_
  · exact fe_so Fe.rf
  · exact fe_so Fe.rf
def wI_mStreams_grantOf_b37 (v0 : Nat) (s0 : Nat) (s1 : Int) (s2 : Int) (h : Hp) (x k : Nat) : Prop := False
def wJ_mStreams_grantOf_b37 (v0 : Nat) (s0 : Nat) (s1 : Int) (s2 : Int) (h : Hp) (x k : Nat) : Prop := False
def wI_mStreams_grantOf (v0 : Nat) (v1 : Int) (v2 : Int) (h : Hp) (x k : Nat) : Prop := False
def wJ_mStreams_grantOf (v0 : Nat) (v1 : Int) (v2 : Int) (h : Hp) (x k : Nat) : Prop := False
theorem fe_mStreams_grantOf_b37 (v0 : Nat) (s0 : Nat) (s1 : Int) (s2 : Int) (h : Hp) : Feo (wI_mStreams_grantOf_b37 v0 s0 s1 s2 h) (wJ_mStreams_grantOf_b37 v0 s0 s1 s2 h) h Prod.snd (f_mStreams_grantOf_b37 v0 s0 s1 s2 h) := by
  unfold f_mStreams_grantOf_b37
  refine fe_it fe_no ?_
  refine fe_it ?_ fe_no
  exact fe_so Fe.rf
theorem fe_mStreams_grantOf (v0 : Nat) (v1 : Int) (v2 : Int) (h : Hp) : Feo (wI_mStreams_grantOf v0 v1 v2 h) (wJ_mStreams_grantOf v0 v1 v2 h) h Prod.snd (f_mStreams_grantOf v0 v1 v2 h) := by
  unfold f_mStreams_grantOf
  refine fe_b2 Fe.rf (fe_mStreams_wayOf _ _) (fun x k hx => False.elim hx) (fun x k hx => False.elim hx) (fun r3 h1 F1 => ?_)
  refine fe_it ?_ ?_
  · refine fe_b2 F1 (fe_mStreams_opens _ _ _) (fun x k hx => False.elim hx) (fun x k hx => False.elim hx) (fun r6 h4 F2 => ?_)
    refine fe_it ?_ ?_
    · exact fe_j F2 (fe_mStreams_grantOf_b37 _ _ _ _ _) (fun x k hx => False.elim hx) (fun x k hx => False.elim hx)
    · exact fe_j F2 (fe_mStreams_grantOf_b37 _ _ _ _ _) (fun x k hx => False.elim hx) (fun x k hx => False.elim hx)
  · exact fe_j F1 (fe_mStreams_grantOf_b37 _ _ _ _ _) (fun x k hx => False.elim hx) (fun x k hx => False.elim hx)
def wI_mStreams_begin_b67 (v0 : Nat) (s0 : Nat) (s1 : Int) (s2 : Nat) (s3 : Int) (s4 : Int) (h : Hp) (x k : Nat) : Prop := False
def wJ_mStreams_begin_b67 (v0 : Nat) (s0 : Nat) (s1 : Int) (s2 : Nat) (s3 : Int) (s4 : Int) (h : Hp) (x k : Nat) : Prop := x = s0
def wI_mStreams_begin (v0 : Nat) (v1 : Int) (v2 : Int) (h : Hp) (x k : Nat) : Prop := x = hR h v0 12
def wJ_mStreams_begin (v0 : Nat) (v1 : Int) (v2 : Int) (h : Hp) (x k : Nat) : Prop := x = (hR h v0 13) ∨ x = hR h v0 33
theorem fe_mStreams_begin_b67 (v0 : Nat) (s0 : Nat) (s1 : Int) (s2 : Nat) (s3 : Int) (s4 : Int) (h : Hp) : Feo (wI_mStreams_begin_b67 v0 s0 s1 s2 s3 s4 h) (wJ_mStreams_begin_b67 v0 s0 s1 s2 s3 s4 h) h id (f_mStreams_begin_b67 v0 s0 s1 s2 s3 s4 h) := by
  unfold f_mStreams_begin_b67
  refine fe_it fe_no ?_
  refine fe_it ?_ fe_no
  refine fe_it fe_no ?_
  refine fe_it ?_ fe_no
  refine fe_J Fe.rf (rfl) (fun h23 F1 => ?_)
  exact fe_so F1
theorem fe_mStreams_begin (v0 : Nat) (v1 : Int) (v2 : Int) (h : Hp) : Feo (wI_mStreams_begin v0 v1 v2 h) (wJ_mStreams_begin v0 v1 v2 h) h id (f_mStreams_begin v0 v1 v2 h) := by
  unfold f_mStreams_begin
  refine fe_b2 Fe.rf (fe_mStreams_at _ _ _) (fun x k hx => False.elim hx) (fun x k hx => False.elim hx) (fun r3 h1 F1 => ?_)
  refine fe_it fe_no ?_
  refine fe_it ?_ fe_no
  refine fe_I F1 ((by first | (simp only [F1.r]; exact rfl) | simp only [F1.r])) (fun h6 F2 => ?_)
  refine fe_b2 F2 (fe_mStreams_grantOf _ _ _ _) (fun x k hx => False.elim hx) (fun x k hx => False.elim hx) (fun r9 h7 F3 => ?_)
  refine fe_it fe_no ?_
  refine fe_it ?_ fe_no
  refine fe_J F3 (Or.inr ((by first | (simp only [F1.r, F2.r, F3.r]; exact rfl) | simp only [F1.r, F2.r, F3.r]))) (fun h12 F4 => ?_)
  refine fe_b2 F4 (fe_mStreams_wayOf _ _) (fun x k hx => False.elim hx) (fun x k hx => False.elim hx) (fun r15 h13 F5 => ?_)
  refine fe_it ?_ ?_
  · refine fe_b2 F5 (fe_mStreams_opens _ _ _) (fun x k hx => False.elim hx) (fun x k hx => False.elim hx) (fun r18 h16 F6 => ?_)
    refine fe_it ?_ ?_
    · exact fe_j F6 (fe_mStreams_begin_b67 _ _ _ _ _ _ _) (fun x k hx => False.elim hx) (fun x k hx => by simp only [wJ_mStreams_begin_b67, F1.r, F2.r, F3.r, F4.r, F5.r, F6.r] at hx; have e := hx; exact Or.inl (e))
    · exact fe_j F6 (fe_mStreams_begin_b67 _ _ _ _ _ _ _) (fun x k hx => False.elim hx) (fun x k hx => by simp only [wJ_mStreams_begin_b67, F1.r, F2.r, F3.r, F4.r, F5.r, F6.r] at hx; have e := hx; exact Or.inl (e))
  · exact fe_j F5 (fe_mStreams_begin_b67 _ _ _ _ _ _ _) (fun x k hx => False.elim hx) (fun x k hx => by simp only [wJ_mStreams_begin_b67, F1.r, F2.r, F3.r, F4.r, F5.r] at hx; have e := hx; exact Or.inl (e))
def wI_mStreams_open_b53 (v0 : Nat) (v4 : Int) (h : Hp) (x k : Nat) : Prop := x = hR h v0 8
def wJ_mStreams_open_b53 (v0 : Nat) (v4 : Int) (h : Hp) (x k : Nat) : Prop := False
def wI_mStreams_open_b9 (v0 : Nat) (v1 : Int) (s0 : Int) (h : Hp) (x k : Nat) : Prop := x = hR h v0 12 ∨ x = hR h v0 4 ∨ x = hR h v0 8
def wJ_mStreams_open_b9 (v0 : Nat) (v1 : Int) (s0 : Int) (h : Hp) (x k : Nat) : Prop := x = (hR h v0 13) ∨ x = hR h v0 33
def wI_mStreams_open (v0 : Nat) (v1 : Int) (v2 : Int) (h : Hp) (x k : Nat) : Prop := x = hR h v0 12 ∨ x = hR h v0 4 ∨ x = hR h v0 8
def wJ_mStreams_open (v0 : Nat) (v1 : Int) (v2 : Int) (h : Hp) (x k : Nat) : Prop := x = (hR h v0 13) ∨ x = hR h v0 33
theorem fe_mStreams_open_b53 (v0 : Nat) (v4 : Int) (h : Hp) : Feo (wI_mStreams_open_b53 v0 v4 h) (wJ_mStreams_open_b53 v0 v4 h) h Prod.snd (f_mStreams_open_b53 v0 v4 h) := by
  unfold f_mStreams_open_b53
  refine fe_it fe_no ?_
  refine fe_it ?_ fe_no
  refine fe_I Fe.rf (rfl) (fun h20 F1 => ?_)
  exact fe_so F1
theorem fe_mStreams_open_b9 (v0 : Nat) (v1 : Int) (s0 : Int) (h : Hp) : Feo (wI_mStreams_open_b9 v0 v1 s0 h) (wJ_mStreams_open_b9 v0 v1 s0 h) h Prod.snd (f_mStreams_open_b9 v0 v1 s0 h) := by
  unfold f_mStreams_open_b9
  refine fe_v (fun y1 => ?_)
  refine fe_it fe_no ?_
  refine fe_it ?_ fe_no
  refine fe_it fe_no ?_
  refine fe_it ?_ fe_no
  refine fe_it ?_ ?_
  · exact fe_j Fe.rf (fe_mStreams_open_b53 _ _ _) (fun x k hx => by simp only [wI_mStreams_open_b53] at hx; have e := hx; exact Or.inr (Or.inr (e))) (fun x k hx => False.elim hx)
  · refine fe_it ?_ fe_no
    refine fe_it ?_ ?_
    · refine fe_it fe_no ?_
      refine fe_it ?_ fe_no
      refine fe_I Fe.rf (Or.inr (Or.inr (rfl))) (fun h9 F1 => ?_)
      refine fe_it fe_no ?_
      refine fe_it ?_ fe_no
      refine fe_v (fun y12 => ?_)
      refine fe_it ?_ fe_no
      refine fe_it ?_ fe_no
      refine fe_I F1 (Or.inr (Or.inl ((by first | (simp only [F1.r]; exact rfl) | simp only [F1.r])))) (fun h15 F2 => ?_)
      refine fe_b1 F2 (fe_mStreams_begin _ _ _ _) (fun x k hx => by simp only [wI_mStreams_begin, F1.r, F2.r] at hx; have e := hx; exact Or.inl (e)) (fun x k hx => by simp only [wJ_mStreams_begin, F1.r, F2.r] at hx; rcases hx with e | e <;> first | exact Or.inl (e) | exact Or.inr (e)) (fun h16 F3 => ?_)
      exact fe_so F3
    · exact fe_j Fe.rf (fe_mStreams_open_b53 _ _ _) (fun x k hx => by simp only [wI_mStreams_open_b53] at hx; have e := hx; exact Or.inr (Or.inr (e))) (fun x k hx => False.elim hx)
theorem fe_mStreams_open (v0 : Nat) (v1 : Int) (v2 : Int) (h : Hp) : Feo (wI_mStreams_open v0 v1 v2 h) (wJ_mStreams_open v0 v1 v2 h) h Prod.snd (f_mStreams_open v0 v1 v2 h) := by
  unfold f_mStreams_open
  refine fe_it ?_ ?_
  · exact fe_j Fe.rf (fe_mStreams_open_b9 _ _ _ _) (fun x k hx => by simp only [wI_mStreams_open_b9] at hx; rcases hx with e | e | e <;> first | exact Or.inl (e) | exact Or.inr (Or.inl (e)) | exact Or.inr (Or.inr (e))) (fun x k hx => by simp only [wJ_mStreams_open_b9] at hx; rcases hx with e | e <;> first | exact Or.inl (e) | exact Or.inr (e))
  · exact fe_j Fe.rf (fe_mStreams_open_b9 _ _ _ _) (fun x k hx => by simp only [wI_mStreams_open_b9] at hx; rcases hx with e | e | e <;> first | exact Or.inl (e) | exact Or.inr (Or.inl (e)) | exact Or.inr (Or.inr (e))) (fun x k hx => by simp only [wJ_mStreams_open_b9] at hx; rcases hx with e | e <;> first | exact Or.inl (e) | exact Or.inr (e))
def wI_mP_open (v0 : Nat) (v1 : Int) (v2 : Int) (h : Hp) (x k : Nat) : Prop := x = hR h (hR h v0 6) 12 ∨ x = hR h (hR h v0 6) 4 ∨ x = hR h (hR h v0 6) 8 ∨ (x = v0 ∧ k = 0)
def wJ_mP_open (v0 : Nat) (v1 : Int) (v2 : Int) (h : Hp) (x k : Nat) : Prop := x = (hR h (hR h v0 6) 13) ∨ x = hR h (hR h v0 6) 33
theorem fe_mP_open (v0 : Nat) (v1 : Int) (v2 : Int) (h : Hp) : Feo (wI_mP_open v0 v1 v2 h) (wJ_mP_open v0 v1 v2 h) h Prod.snd (f_mP_open v0 v1 v2 h) := by
  unfold f_mP_open
  refine fe_b2 Fe.rf (fe_mP_no _ _) (fun x k hx => False.elim hx) (fun x k hx => False.elim hx) (fun r3 h1 F1 => ?_)
  refine fe_b2 F1 (fe_mP_fails _ _ _ _) (fun x k hx => by simp only [wI_mP_fails, F1.r] at hx; have e := hx; exact Or.inr (Or.inr (Or.inr (e)))) (fun x k hx => False.elim hx) (fun r6 h4 F2 => ?_)
  refine fe_it ?_ ?_
  · refine fe_it fe_no ?_
    refine fe_b2 F2 (fe_mStreams_open _ _ _ _) (fun x k hx => by simp only [wI_mStreams_open, F1.r, F2.r] at hx; rcases hx with e | e | e <;> first | exact Or.inl (e) | exact Or.inr (Or.inl (e)) | exact Or.inr (Or.inr (Or.inl (e)))) (fun x k hx => by simp only [wJ_mStreams_open, F1.r, F2.r] at hx; rcases hx with e | e <;> first | exact Or.inl (e) | exact Or.inr (e)) (fun r10 h8 F3 => ?_)
    exact fe_so F3
  · exact fe_so F2
def wI_mStreams_isThere (v0 : Nat) (v1 : Int) (v2 : Int) (h : Hp) (x k : Nat) : Prop := False
def wJ_mStreams_isThere (v0 : Nat) (v1 : Int) (v2 : Int) (h : Hp) (x k : Nat) : Prop := False
theorem fe_mStreams_isThere (v0 : Nat) (v1 : Int) (v2 : Int) (h : Hp) : Feo (wI_mStreams_isThere v0 v1 v2 h) (wJ_mStreams_isThere v0 v1 v2 h) h Prod.snd (f_mStreams_isThere v0 v1 v2 h) := by
  unfold f_mStreams_isThere
  refine fe_it ?_ ?_
  · exact fe_so Fe.rf
  · refine fe_it ?_ ?_
    · exact fe_so Fe.rf
    · refine fe_b2 Fe.rf (fe_mStreams_at _ _ _) (fun x k hx => False.elim hx) (fun x k hx => False.elim hx) (fun r3 h1 F1 => ?_)
      refine fe_it fe_no ?_
      refine fe_it ?_ fe_no
      refine fe_it ?_ ?_
      · exact fe_so F1
      · exact fe_so F1
def wI_mStreams_sends_b15 (h : Hp) (x k : Nat) : Prop := False
def wJ_mStreams_sends_b15 (h : Hp) (x k : Nat) : Prop := False
def wI_mStreams_sends (v0 : Int) (v1 : Int) (h : Hp) (x k : Nat) : Prop := False
def wJ_mStreams_sends (v0 : Int) (v1 : Int) (h : Hp) (x k : Nat) : Prop := False
theorem fe_mStreams_sends_b15 (h : Hp) : Feo (wI_mStreams_sends_b15  h) (wJ_mStreams_sends_b15  h) h Prod.snd (f_mStreams_sends_b15  h) := by
  unfold f_mStreams_sends_b15
  exact fe_so Fe.rf
theorem fe_mStreams_sends (v0 : Int) (v1 : Int) (h : Hp) : Feo (wI_mStreams_sends v0 v1 h) (wJ_mStreams_sends v0 v1 h) h Prod.snd (f_mStreams_sends v0 v1 h) := by
  unfold f_mStreams_sends
  refine fe_b2 Fe.rf (fe_mStreams_wayOf _ _) (fun x k hx => False.elim hx) (fun x k hx => False.elim hx) (fun r3 h1 F1 => ?_)
  refine fe_it ?_ ?_
  · exact fe_j F1 (fe_mStreams_sends_b15 _) (fun x k hx => False.elim hx) (fun x k hx => False.elim hx)
  · refine fe_b2 F1 (fe_mStreams_opens _ _ _) (fun x k hx => False.elim hx) (fun x k hx => False.elim hx) (fun r6 h4 F2 => ?_)
    refine fe_it ?_ ?_
    · exact fe_so F2
    · exact fe_j F2 (fe_mStreams_sends_b15 _) (fun x k hx => False.elim hx) (fun x k hx => False.elim hx)
def wI_mStreams_hasSending (v0 : Nat) (v1 : Int) (v2 : Int) (h : Hp) (x k : Nat) : Prop := False
def wJ_mStreams_hasSending (v0 : Nat) (v1 : Int) (v2 : Int) (h : Hp) (x k : Nat) : Prop := False
theorem fe_mStreams_hasSending (v0 : Nat) (v1 : Int) (v2 : Int) (h : Hp) : Feo (wI_mStreams_hasSending v0 v1 v2 h) (wJ_mStreams_hasSending v0 v1 v2 h) h Prod.snd (f_mStreams_hasSending v0 v1 v2 h) := by
  unfold f_mStreams_hasSending
  refine fe_b2 Fe.rf (fe_mStreams_isThere _ _ _ _) (fun x k hx => False.elim hx) (fun x k hx => False.elim hx) (fun r3 h1 F1 => ?_)
  refine fe_it ?_ ?_
  · exact fe_so F1
  · refine fe_b2 F1 (fe_mStreams_sends _ _ _) (fun x k hx => False.elim hx) (fun x k hx => False.elim hx) (fun r6 h4 F2 => ?_)
    refine fe_it ?_ ?_
    · exact fe_so F2
    · exact fe_so F2
def wI_mStreams_sending (v0 : Nat) (v1 : Int) (h : Hp) (x k : Nat) : Prop := False
def wJ_mStreams_sending (v0 : Nat) (v1 : Int) (h : Hp) (x k : Nat) : Prop := False
theorem fe_mStreams_sending (v0 : Nat) (v1 : Int) (h : Hp) : Feo (wI_mStreams_sending v0 v1 h) (wJ_mStreams_sending v0 v1 h) h Prod.snd (f_mStreams_sending v0 v1 h) := by
  unfold f_mStreams_sending
  refine fe_it fe_no ?_
  refine fe_it ?_ fe_no
  refine fe_it ?_ ?_
  · refine fe_it fe_no ?_
    refine fe_it ?_ fe_no
    refine fe_it ?_ ?_
    · refine fe_it fe_no ?_
      refine fe_it ?_ fe_no
      refine fe_it ?_ ?_
      · exact fe_so Fe.rf
      · refine fe_it fe_no ?_
        refine fe_it ?_ fe_no
        refine fe_it fe_no ?_
        refine fe_it ?_ fe_no
        refine fe_it ?_ ?_
        · exact fe_so Fe.rf
        · exact fe_so Fe.rf
    · exact fe_so Fe.rf
  · refine fe_it ?_ fe_no
    exact fe_so Fe.rf
def wI_mStreams_write_b157 (v0 : Nat) (v1 : Int) (v3 : Nat) (v4 : Int) (v5 : Int) (v6 : Int) (h : Hp) (x k : Nat) : Prop := x = hR h v0 20 ∨ x = hR h v0 21 ∨ x = hR h v0 22 ∨ x = hR h v0 23 ∨ x = hR h v0 40 ∨ x = hR h v0 41 ∨ x = hR h v0 42 ∨ x = hR h v0 43
def wJ_mStreams_write_b157 (v0 : Nat) (v1 : Int) (v3 : Nat) (v4 : Int) (v5 : Int) (v6 : Int) (h : Hp) (x k : Nat) : Prop := False
def wI_mStreams_write_b128 (v0 : Nat) (v1 : Int) (v3 : Nat) (v4 : Int) (v5 : Int) (v6 : Int) (v7 : Int) (h : Hp) (x k : Nat) : Prop := x = hR h v0 20 ∨ x = hR h v0 21 ∨ x = hR h v0 22 ∨ x = hR h v0 23 ∨ x = hR h v0 40 ∨ x = hR h v0 41 ∨ x = hR h v0 42 ∨ x = hR h v0 43
def wJ_mStreams_write_b128 (v0 : Nat) (v1 : Int) (v3 : Nat) (v4 : Int) (v5 : Int) (v6 : Int) (v7 : Int) (h : Hp) (x k : Nat) : Prop := False
def wI_mStreams_write_b33 (v0 : Nat) (v1 : Int) (v3 : Nat) (v4 : Int) (v5 : Int) (v6 : Int) (h : Hp) (x k : Nat) : Prop := x = hR h v0 20 ∨ x = hR h v0 21 ∨ x = hR h v0 22 ∨ x = hR h v0 23 ∨ x = hR h v0 40 ∨ x = hR h v0 41 ∨ x = hR h v0 42 ∨ x = hR h v0 43
def wJ_mStreams_write_b33 (v0 : Nat) (v1 : Int) (v3 : Nat) (v4 : Int) (v5 : Int) (v6 : Int) (h : Hp) (x k : Nat) : Prop := False
def wI_mStreams_write (v0 : Nat) (v1 : Int) (v2 : Int) (v3 : Nat) (v4 : Int) (h : Hp) (x k : Nat) : Prop := x = hR h v0 20 ∨ x = hR h v0 21 ∨ x = hR h v0 22 ∨ x = hR h v0 23 ∨ x = hR h v0 40 ∨ x = hR h v0 41 ∨ x = hR h v0 42 ∨ x = hR h v0 43
def wJ_mStreams_write (v0 : Nat) (v1 : Int) (v2 : Int) (v3 : Nat) (v4 : Int) (h : Hp) (x k : Nat) : Prop := False
theorem fe_mStreams_write_b157 {k33 : Nat → Int → Nat → Int → Int → Int → Hp → Option (Int × Hp)} (hk33 : ∀ (v0 : Nat) (v1 : Int) (v3 : Nat) (v4 : Int) (v5 : Int) (v6 : Int) (h : Hp), Feo (wI_mStreams_write_b33 v0 v1 v3 v4 v5 v6 h) (wJ_mStreams_write_b33 v0 v1 v3 v4 v5 v6 h) h Prod.snd (k33 v0 v1 v3 v4 v5 v6 h)) (v0 : Nat) (v1 : Int) (v3 : Nat) (v4 : Int) (v5 : Int) (v6 : Int) (h : Hp) : Feo (wI_mStreams_write_b157 v0 v1 v3 v4 v5 v6 h) (wJ_mStreams_write_b157 v0 v1 v3 v4 v5 v6 h) h Prod.snd (f_mStreams_write_b157 k33 v0 v1 v3 v4 v5 v6 h) := by
  unfold f_mStreams_write_b157
  refine fe_it fe_no ?_
  refine fe_it ?_ fe_no
  refine fe_it ?_ fe_no
  refine fe_I Fe.rf (Or.inr (Or.inr (Or.inr (Or.inr (Or.inl (rfl)))))) (fun h47 F1 => ?_)
  refine fe_it fe_no ?_
  refine fe_it ?_ fe_no
  refine fe_it ?_ fe_no
  refine fe_I F1 (Or.inr (Or.inr (Or.inr (Or.inl ((by first | (simp only [F1.r]; exact rfl) | simp only [F1.r])))))) (fun h51 F2 => ?_)
  exact fe_j F2 (hk33 _ _ _ _ _ _ _) (fun x k hx => by simp only [wI_mStreams_write_b33, F1.r, F2.r] at hx; rcases hx with e | e | e | e | e | e | e | e <;> first | exact Or.inl (e) | exact Or.inr (Or.inl (e)) | exact Or.inr (Or.inr (Or.inl (e))) | exact Or.inr (Or.inr (Or.inr (Or.inl (e)))) | exact Or.inr (Or.inr (Or.inr (Or.inr (Or.inl (e))))) | exact Or.inr (Or.inr (Or.inr (Or.inr (Or.inr (Or.inl (e)))))) | exact Or.inr (Or.inr (Or.inr (Or.inr (Or.inr (Or.inr (Or.inl (e))))))) | exact Or.inr (Or.inr (Or.inr (Or.inr (Or.inr (Or.inr (Or.inr (e)))))))) (fun x k hx => False.elim hx)
theorem fe_mStreams_write_b128 {k33 : Nat → Int → Nat → Int → Int → Int → Hp → Option (Int × Hp)} (hk33 : ∀ (v0 : Nat) (v1 : Int) (v3 : Nat) (v4 : Int) (v5 : Int) (v6 : Int) (h : Hp), Feo (wI_mStreams_write_b33 v0 v1 v3 v4 v5 v6 h) (wJ_mStreams_write_b33 v0 v1 v3 v4 v5 v6 h) h Prod.snd (k33 v0 v1 v3 v4 v5 v6 h)) (v0 : Nat) (v1 : Int) (v3 : Nat) (v4 : Int) (v5 : Int) (v6 : Int) (v7 : Int) (h : Hp) : Feo (wI_mStreams_write_b128 v0 v1 v3 v4 v5 v6 v7 h) (wJ_mStreams_write_b128 v0 v1 v3 v4 v5 v6 v7 h) h Prod.snd (f_mStreams_write_b128 k33 v0 v1 v3 v4 v5 v6 v7 h) := by
  unfold f_mStreams_write_b128
  refine fe_it fe_no ?_
  refine fe_it ?_ fe_no
  refine fe_I Fe.rf (Or.inr (Or.inl (rfl))) (fun h39 F1 => ?_)
  refine fe_it fe_no ?_
  refine fe_it ?_ fe_no
  refine fe_it ?_ ?_
  · exact fe_j F1 (fe_mStreams_write_b157 hk33 _ _ _ _ _ _ _) (fun x k hx => by simp only [wI_mStreams_write_b157, F1.r] at hx; rcases hx with e | e | e | e | e | e | e | e <;> first | exact Or.inl (e) | exact Or.inr (Or.inl (e)) | exact Or.inr (Or.inr (Or.inl (e))) | exact Or.inr (Or.inr (Or.inr (Or.inl (e)))) | exact Or.inr (Or.inr (Or.inr (Or.inr (Or.inl (e))))) | exact Or.inr (Or.inr (Or.inr (Or.inr (Or.inr (Or.inl (e)))))) | exact Or.inr (Or.inr (Or.inr (Or.inr (Or.inr (Or.inr (Or.inl (e))))))) | exact Or.inr (Or.inr (Or.inr (Or.inr (Or.inr (Or.inr (Or.inr (e)))))))) (fun x k hx => False.elim hx)
  · refine fe_it ?_ fe_no
    refine fe_I F1 (Or.inr (Or.inr (Or.inl ((by first | (simp only [F1.r]; exact rfl) | simp only [F1.r]))))) (fun h43 F2 => ?_)
    exact fe_j F2 (fe_mStreams_write_b157 hk33 _ _ _ _ _ _ _) (fun x k hx => by simp only [wI_mStreams_write_b157, F1.r, F2.r] at hx; rcases hx with e | e | e | e | e | e | e | e <;> first | exact Or.inl (e) | exact Or.inr (Or.inl (e)) | exact Or.inr (Or.inr (Or.inl (e))) | exact Or.inr (Or.inr (Or.inr (Or.inl (e)))) | exact Or.inr (Or.inr (Or.inr (Or.inr (Or.inl (e))))) | exact Or.inr (Or.inr (Or.inr (Or.inr (Or.inr (Or.inl (e)))))) | exact Or.inr (Or.inr (Or.inr (Or.inr (Or.inr (Or.inr (Or.inl (e))))))) | exact Or.inr (Or.inr (Or.inr (Or.inr (Or.inr (Or.inr (Or.inr (e)))))))) (fun x k hx => False.elim hx)
theorem fe_mStreams_write_b33 {k33 : Nat → Int → Nat → Int → Int → Int → Hp → Option (Int × Hp)} (hk33 : ∀ (v0 : Nat) (v1 : Int) (v3 : Nat) (v4 : Int) (v5 : Int) (v6 : Int) (h : Hp), Feo (wI_mStreams_write_b33 v0 v1 v3 v4 v5 v6 h) (wJ_mStreams_write_b33 v0 v1 v3 v4 v5 v6 h) h Prod.snd (k33 v0 v1 v3 v4 v5 v6 h)) (v0 : Nat) (v1 : Int) (v3 : Nat) (v4 : Int) (v5 : Int) (v6 : Int) (h : Hp) : Feo (wI_mStreams_write_b33 v0 v1 v3 v4 v5 v6 h) (wJ_mStreams_write_b33 v0 v1 v3 v4 v5 v6 h) h Prod.snd (f_mStreams_write_b33 k33 v0 v1 v3 v4 v5 v6 h) := by
  unfold f_mStreams_write_b33
  refine fe_it ?_ ?_
  · exact fe_so Fe.rf
  · refine fe_it fe_no ?_
    refine fe_it ?_ fe_no
    refine fe_it ?_ ?_
    · exact fe_so Fe.rf
    · refine fe_it ?_ fe_no
      refine fe_v (fun y16 => ?_)
      refine fe_it fe_no ?_
      refine fe_it ?_ fe_no
      refine fe_it fe_no ?_
      refine fe_it ?_ fe_no
      refine fe_I Fe.rf (Or.inr (Or.inr (Or.inr (Or.inr (Or.inr (Or.inl (rfl))))))) (fun h21 F1 => ?_)
      refine fe_it fe_no ?_
      refine fe_it ?_ fe_no
      refine fe_I F1 (Or.inr (Or.inr (Or.inr (Or.inr (Or.inr (Or.inr (Or.inl ((by first | (simp only [F1.r]; exact rfl) | simp only [F1.r]))))))))) (fun h24 F2 => ?_)
      refine fe_it fe_no ?_
      refine fe_it ?_ fe_no
      refine fe_I F2 (Or.inr (Or.inr (Or.inr (Or.inr (Or.inr (Or.inr (Or.inr ((by first | (simp only [F1.r, F2.r]; exact rfl) | simp only [F1.r, F2.r]))))))))) (fun h27 F3 => ?_)
      refine fe_it fe_no ?_
      refine fe_it ?_ fe_no
      refine fe_it ?_ ?_
      · refine fe_it ?_ fe_no
        refine fe_it fe_no ?_
        refine fe_it ?_ fe_no
        refine fe_I F3 (Or.inr (Or.inr (Or.inr (Or.inr (Or.inr (Or.inr (Or.inr ((by first | (simp only [F1.r, F2.r, F3.r]; exact rfl) | simp only [F1.r, F2.r, F3.r]))))))))) (fun h33 F4 => ?_)
        exact fe_j F4 (fe_mStreams_write_b128 hk33 _ _ _ _ _ _ _ _) (fun x k hx => by simp only [wI_mStreams_write_b128, F1.r, F2.r, F3.r, F4.r] at hx; rcases hx with e | e | e | e | e | e | e | e <;> first | exact Or.inl (e) | exact Or.inr (Or.inl (e)) | exact Or.inr (Or.inr (Or.inl (e))) | exact Or.inr (Or.inr (Or.inr (Or.inl (e)))) | exact Or.inr (Or.inr (Or.inr (Or.inr (Or.inl (e))))) | exact Or.inr (Or.inr (Or.inr (Or.inr (Or.inr (Or.inl (e)))))) | exact Or.inr (Or.inr (Or.inr (Or.inr (Or.inr (Or.inr (Or.inl (e))))))) | exact Or.inr (Or.inr (Or.inr (Or.inr (Or.inr (Or.inr (Or.inr (e)))))))) (fun x k hx => False.elim hx)
      · refine fe_it fe_no ?_
        refine fe_it ?_ fe_no
        refine fe_I F3 (Or.inl ((by first | (simp only [F1.r, F2.r, F3.r]; exact rfl) | simp only [F1.r, F2.r, F3.r]))) (fun h36 F5 => ?_)
        exact fe_j F5 (fe_mStreams_write_b128 hk33 _ _ _ _ _ _ _ _) (fun x k hx => by simp only [wI_mStreams_write_b128, F1.r, F2.r, F3.r, F5.r] at hx; rcases hx with e | e | e | e | e | e | e | e <;> first | exact Or.inl (e) | exact Or.inr (Or.inl (e)) | exact Or.inr (Or.inr (Or.inl (e))) | exact Or.inr (Or.inr (Or.inr (Or.inl (e)))) | exact Or.inr (Or.inr (Or.inr (Or.inr (Or.inl (e))))) | exact Or.inr (Or.inr (Or.inr (Or.inr (Or.inr (Or.inl (e)))))) | exact Or.inr (Or.inr (Or.inr (Or.inr (Or.inr (Or.inr (Or.inl (e))))))) | exact Or.inr (Or.inr (Or.inr (Or.inr (Or.inr (Or.inr (Or.inr (e)))))))) (fun x k hx => False.elim hx)
theorem fe_mStreams_write_b33_lp (n : Nat) : ∀ (v0 : Nat) (v1 : Int) (v3 : Nat) (v4 : Int) (v5 : Int) (v6 : Int) (h : Hp), Feo (wI_mStreams_write_b33 v0 v1 v3 v4 v5 v6 h) (wJ_mStreams_write_b33 v0 v1 v3 v4 v5 v6 h) h Prod.snd (f_mStreams_write_b33_lp n v0 v1 v3 v4 v5 v6 h) := by
  induction n with
  | zero => intro v0 v1 v3 v4 v5 v6 h; exact fe_no
  | succ n ih => intro v0 v1 v3 v4 v5 v6 h; exact fe_mStreams_write_b33 ih v0 v1 v3 v4 v5 v6 h
theorem fe_mStreams_write (v0 : Nat) (v1 : Int) (v2 : Int) (v3 : Nat) (v4 : Int) (h : Hp) : Feo (wI_mStreams_write v0 v1 v2 v3 v4 h) (wJ_mStreams_write v0 v1 v2 v3 v4 h) h Prod.snd (f_mStreams_write v0 v1 v2 v3 v4 h) := by
  unfold f_mStreams_write
  refine fe_b2 Fe.rf (fe_mStreams_hasSending _ _ _ _) (fun x k hx => False.elim hx) (fun x k hx => False.elim hx) (fun r3 h1 F1 => ?_)
  refine fe_it ?_ ?_
  · exact fe_so F1
  · refine fe_b2 F1 (fe_mStreams_at _ _ _) (fun x k hx => False.elim hx) (fun x k hx => False.elim hx) (fun r6 h4 F2 => ?_)
    refine fe_b2 F2 (fe_mStreams_sending _ _ _) (fun x k hx => False.elim hx) (fun x k hx => False.elim hx) (fun r9 h7 F3 => ?_)
    refine fe_it ?_ ?_
    · refine fe_b2 F3 (fe_mStreams_at _ _ _) (fun x k hx => False.elim hx) (fun x k hx => False.elim hx) (fun r12 h10 F4 => ?_)
      exact fe_j F4 (fe_mStreams_write_b33_lp FU _ _ _ _ _ _ _) (fun x k hx => by simp only [wI_mStreams_write_b33, F1.r, F2.r, F3.r, F4.r] at hx; rcases hx with e | e | e | e | e | e | e | e <;> first | exact Or.inl (e) | exact Or.inr (Or.inl (e)) | exact Or.inr (Or.inr (Or.inl (e))) | exact Or.inr (Or.inr (Or.inr (Or.inl (e)))) | exact Or.inr (Or.inr (Or.inr (Or.inr (Or.inl (e))))) | exact Or.inr (Or.inr (Or.inr (Or.inr (Or.inr (Or.inl (e)))))) | exact Or.inr (Or.inr (Or.inr (Or.inr (Or.inr (Or.inr (Or.inl (e))))))) | exact Or.inr (Or.inr (Or.inr (Or.inr (Or.inr (Or.inr (Or.inr (e)))))))) (fun x k hx => False.elim hx)
    · exact fe_so F3
def wI_mP_write (v0 : Nat) (v1 : Int) (v2 : Int) (h : Hp) (x k : Nat) : Prop := x = hR h (hR h v0 6) 20 ∨ x = hR h (hR h v0 6) 21 ∨ x = hR h (hR h v0 6) 22 ∨ x = hR h (hR h v0 6) 23 ∨ x = hR h (hR h v0 6) 40 ∨ x = hR h (hR h v0 6) 41 ∨ x = hR h (hR h v0 6) 42 ∨ x = hR h (hR h v0 6) 43 ∨ (x = v0 ∧ k = 0) ∨ (x = v0 ∧ k = 2)
def wJ_mP_write (v0 : Nat) (v1 : Int) (v2 : Int) (h : Hp) (x k : Nat) : Prop := False
theorem fe_mP_write (v0 : Nat) (v1 : Int) (v2 : Int) (h : Hp) : Feo (wI_mP_write v0 v1 v2 h) (wJ_mP_write v0 v1 v2 h) h Prod.snd (f_mP_write v0 v1 v2 h) := by
  unfold f_mP_write
  refine fe_b2 Fe.rf (fe_mP_no _ _) (fun x k hx => False.elim hx) (fun x k hx => False.elim hx) (fun r3 h1 F1 => ?_)
  refine fe_b2 F1 (fe_mP_fails _ _ _ _) (fun x k hx => by simp only [wI_mP_fails, F1.r] at hx; have e := hx; exact Or.inr (Or.inr (Or.inr (Or.inr (Or.inr (Or.inr (Or.inr (Or.inr (Or.inl (e)))))))))) (fun x k hx => False.elim hx) (fun r6 h4 F2 => ?_)
  refine fe_it ?_ ?_
  · refine fe_it fe_no ?_
    refine fe_b2 F2 (fe_mStreams_write _ _ _ _ _ _) (fun x k hx => by simp only [wI_mStreams_write, F1.r, F2.r] at hx; rcases hx with e | e | e | e | e | e | e | e <;> first | exact Or.inl (e) | exact Or.inr (Or.inl (e)) | exact Or.inr (Or.inr (Or.inl (e))) | exact Or.inr (Or.inr (Or.inr (Or.inl (e)))) | exact Or.inr (Or.inr (Or.inr (Or.inr (Or.inl (e))))) | exact Or.inr (Or.inr (Or.inr (Or.inr (Or.inr (Or.inl (e)))))) | exact Or.inr (Or.inr (Or.inr (Or.inr (Or.inr (Or.inr (Or.inl (e))))))) | exact Or.inr (Or.inr (Or.inr (Or.inr (Or.inr (Or.inr (Or.inr (Or.inl (e))))))))) (fun x k hx => False.elim hx) (fun r10 h8 F3 => ?_)
    refine fe_I F3 (Or.inr (Or.inr (Or.inr (Or.inr (Or.inr (Or.inr (Or.inr (Or.inr (Or.inr (⟨rfl, rfl⟩)))))))))) (fun h11 F4 => ?_)
    exact fe_so F4
  · exact fe_so F2
def wI_mStreams_finish (v0 : Nat) (v1 : Int) (v2 : Int) (h : Hp) (x k : Nat) : Prop := x = hR h v0 14 ∨ x = hR h v0 15
def wJ_mStreams_finish (v0 : Nat) (v1 : Int) (v2 : Int) (h : Hp) (x k : Nat) : Prop := False
theorem fe_mStreams_finish (v0 : Nat) (v1 : Int) (v2 : Int) (h : Hp) : Feo (wI_mStreams_finish v0 v1 v2 h) (wJ_mStreams_finish v0 v1 v2 h) h Prod.snd (f_mStreams_finish v0 v1 v2 h) := by
  unfold f_mStreams_finish
  refine fe_b2 Fe.rf (fe_mStreams_hasSending _ _ _ _) (fun x k hx => False.elim hx) (fun x k hx => False.elim hx) (fun r3 h1 F1 => ?_)
  refine fe_it ?_ ?_
  · exact fe_so F1
  · refine fe_b2 F1 (fe_mStreams_at _ _ _) (fun x k hx => False.elim hx) (fun x k hx => False.elim hx) (fun r6 h4 F2 => ?_)
    refine fe_b2 F2 (fe_mStreams_sending _ _ _) (fun x k hx => False.elim hx) (fun x k hx => False.elim hx) (fun r9 h7 F3 => ?_)
    refine fe_it ?_ ?_
    · refine fe_b2 F3 (fe_mStreams_at _ _ _) (fun x k hx => False.elim hx) (fun x k hx => False.elim hx) (fun r12 h10 F4 => ?_)
      refine fe_it fe_no ?_
      refine fe_it ?_ fe_no
      refine fe_I F4 (Or.inl ((by first | (simp only [F1.r, F2.r, F3.r, F4.r]; exact rfl) | simp only [F1.r, F2.r, F3.r, F4.r]))) (fun h15 F5 => ?_)
      refine fe_b2 F5 (fe_mStreams_at _ _ _) (fun x k hx => False.elim hx) (fun x k hx => False.elim hx) (fun r18 h16 F6 => ?_)
      refine fe_it fe_no ?_
      refine fe_it ?_ fe_no
      refine fe_I F6 (Or.inr ((by first | (simp only [F1.r, F2.r, F3.r, F4.r, F5.r, F6.r]; exact rfl) | simp only [F1.r, F2.r, F3.r, F4.r, F5.r, F6.r]))) (fun h21 F7 => ?_)
      exact fe_so F7
    · exact fe_so F3
def wI_mP_finish (v0 : Nat) (v1 : Int) (v2 : Int) (h : Hp) (x k : Nat) : Prop := x = hR h (hR h v0 6) 14 ∨ x = hR h (hR h v0 6) 15 ∨ (x = v0 ∧ k = 0)
def wJ_mP_finish (v0 : Nat) (v1 : Int) (v2 : Int) (h : Hp) (x k : Nat) : Prop := False
theorem fe_mP_finish (v0 : Nat) (v1 : Int) (v2 : Int) (h : Hp) : Feo (wI_mP_finish v0 v1 v2 h) (wJ_mP_finish v0 v1 v2 h) h Prod.snd (f_mP_finish v0 v1 v2 h) := by
  unfold f_mP_finish
  refine fe_b2 Fe.rf (fe_mP_no _ _) (fun x k hx => False.elim hx) (fun x k hx => False.elim hx) (fun r3 h1 F1 => ?_)
  refine fe_b2 F1 (fe_mP_fails _ _ _ _) (fun x k hx => by simp only [wI_mP_fails, F1.r] at hx; have e := hx; exact Or.inr (Or.inr (e))) (fun x k hx => False.elim hx) (fun r6 h4 F2 => ?_)
  refine fe_it ?_ ?_
  · exact fe_so F2
  · refine fe_it fe_no ?_
    refine fe_b2 F2 (fe_mStreams_finish _ _ _ _) (fun x k hx => by simp only [wI_mStreams_finish, F1.r, F2.r] at hx; rcases hx with e | e <;> first | exact Or.inl (e) | exact Or.inr (Or.inl (e))) (fun x k hx => False.elim hx) (fun r10 h8 F3 => ?_)
    refine fe_it ?_ ?_
    · exact fe_so F3
    · exact fe_so F3
def wI_mStreams_isOpenSending (v0 : Nat) (v1 : Int) (v2 : Int) (h : Hp) (x k : Nat) : Prop := False
def wJ_mStreams_isOpenSending (v0 : Nat) (v1 : Int) (v2 : Int) (h : Hp) (x k : Nat) : Prop := False
theorem fe_mStreams_isOpenSending (v0 : Nat) (v1 : Int) (v2 : Int) (h : Hp) : Feo (wI_mStreams_isOpenSending v0 v1 v2 h) (wJ_mStreams_isOpenSending v0 v1 v2 h) h Prod.snd (f_mStreams_isOpenSending v0 v1 v2 h) := by
  unfold f_mStreams_isOpenSending
  refine fe_b2 Fe.rf (fe_mStreams_hasSending _ _ _ _) (fun x k hx => False.elim hx) (fun x k hx => False.elim hx) (fun r3 h1 F1 => ?_)
  refine fe_it ?_ ?_
  · exact fe_so F1
  · refine fe_b2 F1 (fe_mStreams_at _ _ _) (fun x k hx => False.elim hx) (fun x k hx => False.elim hx) (fun r6 h4 F2 => ?_)
    refine fe_b2 F2 (fe_mStreams_sending _ _ _) (fun x k hx => False.elim hx) (fun x k hx => False.elim hx) (fun r9 h7 F3 => ?_)
    refine fe_it ?_ ?_
    · exact fe_so F3
    · exact fe_so F3
def wI_mStreams_doReset (v0 : Nat) (v1 : Int) (v2 : Int) (v3 : Int) (h : Hp) (x k : Nat) : Prop := x = hR h v0 16 ∨ x = hR h v0 17
def wJ_mStreams_doReset (v0 : Nat) (v1 : Int) (v2 : Int) (v3 : Int) (h : Hp) (x k : Nat) : Prop := x = hR h v0 18
theorem fe_mStreams_doReset (v0 : Nat) (v1 : Int) (v2 : Int) (v3 : Int) (h : Hp) : Feo (wI_mStreams_doReset v0 v1 v2 v3 h) (wJ_mStreams_doReset v0 v1 v2 v3 h) h id (f_mStreams_doReset v0 v1 v2 v3 h) := by
  unfold f_mStreams_doReset
  refine fe_b2 Fe.rf (fe_mStreams_at _ _ _) (fun x k hx => False.elim hx) (fun x k hx => False.elim hx) (fun r3 h1 F1 => ?_)
  refine fe_it fe_no ?_
  refine fe_it ?_ fe_no
  refine fe_I F1 (Or.inl ((by first | (simp only [F1.r]; exact rfl) | simp only [F1.r]))) (fun h6 F2 => ?_)
  refine fe_it fe_no ?_
  refine fe_it ?_ fe_no
  refine fe_J F2 ((by first | (simp only [F1.r, F2.r]; exact rfl) | simp only [F1.r, F2.r])) (fun h9 F3 => ?_)
  refine fe_it fe_no ?_
  refine fe_it ?_ fe_no
  refine fe_I F3 (Or.inr ((by first | (simp only [F1.r, F2.r, F3.r]; exact rfl) | simp only [F1.r, F2.r, F3.r]))) (fun h12 F4 => ?_)
  exact fe_so F4
def wI_mStreams_reset (v0 : Nat) (v1 : Int) (v2 : Int) (v3 : Int) (h : Hp) (x k : Nat) : Prop := x = hR h v0 16 ∨ x = hR h v0 17
def wJ_mStreams_reset (v0 : Nat) (v1 : Int) (v2 : Int) (v3 : Int) (h : Hp) (x k : Nat) : Prop := x = hR h v0 18
theorem fe_mStreams_reset (v0 : Nat) (v1 : Int) (v2 : Int) (v3 : Int) (h : Hp) : Feo (wI_mStreams_reset v0 v1 v2 v3 h) (wJ_mStreams_reset v0 v1 v2 v3 h) h Prod.snd (f_mStreams_reset v0 v1 v2 v3 h) := by
  unfold f_mStreams_reset
  refine fe_b2 Fe.rf (fe_mStreams_isOpenSending _ _ _ _) (fun x k hx => False.elim hx) (fun x k hx => False.elim hx) (fun r3 h1 F1 => ?_)
  refine fe_it ?_ ?_
  · refine fe_b1 F1 (fe_mStreams_doReset _ _ _ _ _) (fun x k hx => by simp only [wI_mStreams_doReset, F1.r] at hx; rcases hx with e | e <;> first | exact Or.inl (e) | exact Or.inr (e)) (fun x k hx => by simp only [wJ_mStreams_doReset, F1.r] at hx; have e := hx; exact e) (fun h4 F2 => ?_)
    exact fe_so F2
  · exact fe_so F1
def wI_mP_reset_b17 (v0 : Nat) (v1 : Int) (v2 : Int) (v3 : Int) (s0 : Nat) (s1 : Int) (h : Hp) (x k : Nat) : Prop := x = hR h (hR h v0 6) 16 ∨ x = hR h (hR h v0 6) 17 ∨ (x = s0 ∧ k = 0)
def wJ_mP_reset_b17 (v0 : Nat) (v1 : Int) (v2 : Int) (v3 : Int) (s0 : Nat) (s1 : Int) (h : Hp) (x k : Nat) : Prop := x = hR h (hR h v0 6) 18
def wI_mP_reset_b12 (v0 : Nat) (v1 : Int) (v2 : Int) (v3 : Int) (s0 : Nat) (h : Hp) (x k : Nat) : Prop := x = hR h (hR h v0 6) 16 ∨ x = hR h (hR h v0 6) 17 ∨ (x = s0 ∧ k = 0)
def wJ_mP_reset_b12 (v0 : Nat) (v1 : Int) (v2 : Int) (v3 : Int) (s0 : Nat) (h : Hp) (x k : Nat) : Prop := x = hR h (hR h v0 6) 18
def wI_mP_reset (v0 : Nat) (v1 : Int) (v2 : Int) (v3 : Int) (h : Hp) (x k : Nat) : Prop := x = hR h (hR h v0 6) 16 ∨ x = hR h (hR h v0 6) 17 ∨ (x = v0 ∧ k = 0)
def wJ_mP_reset (v0 : Nat) (v1 : Int) (v2 : Int) (v3 : Int) (h : Hp) (x k : Nat) : Prop := x = hR h (hR h v0 6) 18
theorem fe_mP_reset_b17 (v0 : Nat) (v1 : Int) (v2 : Int) (v3 : Int) (s0 : Nat) (s1 : Int) (h : Hp) : Feo (wI_mP_reset_b17 v0 v1 v2 v3 s0 s1 h) (wJ_mP_reset_b17 v0 v1 v2 v3 s0 s1 h) h Prod.snd (f_mP_reset_b17 v0 v1 v2 v3 s0 s1 h) := by
  unfold f_mP_reset_b17
  refine fe_it fe_no ?_
  refine fe_b2 Fe.rf (fe_mP_fails _ _ _ _) (fun x k hx => by simp only [wI_mP_fails] at hx; have e := hx; exact Or.inr (Or.inr (e))) (fun x k hx => False.elim hx) (fun r7 h5 F1 => ?_)
  refine fe_it ?_ ?_
  · exact fe_so F1
  · refine fe_it fe_no ?_
    refine fe_b2 F1 (fe_mStreams_reset _ _ _ _ _) (fun x k hx => by simp only [wI_mStreams_reset, F1.r] at hx; rcases hx with e | e <;> first | exact Or.inl (e) | exact Or.inr (Or.inl (e))) (fun x k hx => by simp only [wJ_mStreams_reset, F1.r] at hx; have e := hx; exact e) (fun r11 h9 F2 => ?_)
    refine fe_it ?_ ?_
    · exact fe_so F2
    · exact fe_so F2
theorem fe_mP_reset_b12 (v0 : Nat) (v1 : Int) (v2 : Int) (v3 : Int) (s0 : Nat) (h : Hp) : Feo (wI_mP_reset_b12 v0 v1 v2 v3 s0 h) (wJ_mP_reset_b12 v0 v1 v2 v3 s0 h) h Prod.snd (f_mP_reset_b12 v0 v1 v2 v3 s0 h) := by
  unfold f_mP_reset_b12
  exact fe_j Fe.rf (fe_mP_reset_b17 _ _ _ _ _ _ _) (fun x k hx => by simp only [wI_mP_reset_b17] at hx; rcases hx with e | e | e <;> first | exact Or.inl (e) | exact Or.inr (Or.inl (e)) | exact Or.inr (Or.inr (e))) (fun x k hx => by simp only [wJ_mP_reset_b17] at hx; have e := hx; exact e)
theorem fe_mP_reset (v0 : Nat) (v1 : Int) (v2 : Int) (v3 : Int) (h : Hp) : Feo (wI_mP_reset v0 v1 v2 v3 h) (wJ_mP_reset v0 v1 v2 v3 h) h Prod.snd (f_mP_reset v0 v1 v2 v3 h) := by
  unfold f_mP_reset
  refine fe_b2 Fe.rf (fe_mP_no _ _) (fun x k hx => False.elim hx) (fun x k hx => False.elim hx) (fun r3 h1 F1 => ?_)
  refine fe_it ?_ ?_
  · exact fe_j F1 (fe_mP_reset_b12 _ _ _ _ _ _) (fun x k hx => by simp only [wI_mP_reset_b12, F1.r] at hx; rcases hx with e | e | e <;> first | exact Or.inl (e) | exact Or.inr (Or.inl (e)) | exact Or.inr (Or.inr (e))) (fun x k hx => by simp only [wJ_mP_reset_b12, F1.r] at hx; have e := hx; exact e)
  · refine fe_it ?_ ?_
    · exact fe_j F1 (fe_mP_reset_b17 _ _ _ _ _ _ _) (fun x k hx => by simp only [wI_mP_reset_b17, F1.r] at hx; rcases hx with e | e | e <;> first | exact Or.inl (e) | exact Or.inr (Or.inl (e)) | exact Or.inr (Or.inr (e))) (fun x k hx => by simp only [wJ_mP_reset_b17, F1.r] at hx; have e := hx; exact e)
    · exact fe_j F1 (fe_mP_reset_b12 _ _ _ _ _ _) (fun x k hx => by simp only [wI_mP_reset_b12, F1.r] at hx; rcases hx with e | e | e <;> first | exact Or.inl (e) | exact Or.inr (Or.inl (e)) | exact Or.inr (Or.inr (e))) (fun x k hx => by simp only [wJ_mP_reset_b12, F1.r] at hx; have e := hx; exact e)
def wI_mStreams_receives_b15 (h : Hp) (x k : Nat) : Prop := False
def wJ_mStreams_receives_b15 (h : Hp) (x k : Nat) : Prop := False
def wI_mStreams_receives (v0 : Int) (v1 : Int) (h : Hp) (x k : Nat) : Prop := False
def wJ_mStreams_receives (v0 : Int) (v1 : Int) (h : Hp) (x k : Nat) : Prop := False
theorem fe_mStreams_receives_b15 (h : Hp) : Feo (wI_mStreams_receives_b15  h) (wJ_mStreams_receives_b15  h) h Prod.snd (f_mStreams_receives_b15  h) := by
  unfold f_mStreams_receives_b15
  exact fe_so Fe.rf
theorem fe_mStreams_receives (v0 : Int) (v1 : Int) (h : Hp) : Feo (wI_mStreams_receives v0 v1 h) (wJ_mStreams_receives v0 v1 h) h Prod.snd (f_mStreams_receives v0 v1 h) := by
  unfold f_mStreams_receives
  refine fe_b2 Fe.rf (fe_mStreams_wayOf _ _) (fun x k hx => False.elim hx) (fun x k hx => False.elim hx) (fun r3 h1 F1 => ?_)
  refine fe_it ?_ ?_
  · exact fe_j F1 (fe_mStreams_receives_b15 _) (fun x k hx => False.elim hx) (fun x k hx => False.elim hx)
  · refine fe_b2 F1 (fe_mStreams_opens _ _ _) (fun x k hx => False.elim hx) (fun x k hx => False.elim hx) (fun r6 h4 F2 => ?_)
    refine fe_it ?_ ?_
    · exact fe_so F2
    · exact fe_j F2 (fe_mStreams_receives_b15 _) (fun x k hx => False.elim hx) (fun x k hx => False.elim hx)
def wI_mStreams_hasReceiving (v0 : Nat) (v1 : Int) (v2 : Int) (h : Hp) (x k : Nat) : Prop := False
def wJ_mStreams_hasReceiving (v0 : Nat) (v1 : Int) (v2 : Int) (h : Hp) (x k : Nat) : Prop := False
theorem fe_mStreams_hasReceiving (v0 : Nat) (v1 : Int) (v2 : Int) (h : Hp) : Feo (wI_mStreams_hasReceiving v0 v1 v2 h) (wJ_mStreams_hasReceiving v0 v1 v2 h) h Prod.snd (f_mStreams_hasReceiving v0 v1 v2 h) := by
  unfold f_mStreams_hasReceiving
  refine fe_b2 Fe.rf (fe_mStreams_isThere _ _ _ _) (fun x k hx => False.elim hx) (fun x k hx => False.elim hx) (fun r3 h1 F1 => ?_)
  refine fe_it ?_ ?_
  · exact fe_so F1
  · refine fe_b2 F1 (fe_mStreams_receives _ _ _) (fun x k hx => False.elim hx) (fun x k hx => False.elim hx) (fun r6 h4 F2 => ?_)
    refine fe_it ?_ ?_
    · exact fe_so F2
    · exact fe_so F2
def wI_mStreams_receiving (v0 : Nat) (v1 : Int) (h : Hp) (x k : Nat) : Prop := False
def wJ_mStreams_receiving (v0 : Nat) (v1 : Int) (h : Hp) (x k : Nat) : Prop := False
theorem fe_mStreams_receiving (v0 : Nat) (v1 : Int) (h : Hp) : Feo (wI_mStreams_receiving v0 v1 h) (wJ_mStreams_receiving v0 v1 h) h Prod.snd (f_mStreams_receiving v0 v1 h) := by
  unfold f_mStreams_receiving
  refine fe_it fe_no ?_
  refine fe_it ?_ fe_no
  refine fe_it ?_ ?_
  · refine fe_it fe_no ?_
    refine fe_it ?_ fe_no
    refine fe_it ?_ ?_
    · refine fe_it fe_no ?_
      refine fe_it ?_ fe_no
      refine fe_it ?_ fe_no
      refine fe_it ?_ ?_
      · refine fe_it fe_no ?_
        refine fe_it ?_ fe_no
        refine fe_it ?_ fe_no
        refine fe_it ?_ ?_
        · exact fe_so Fe.rf
        · exact fe_so Fe.rf
      · exact fe_so Fe.rf
    · exact fe_so Fe.rf
  · exact fe_so Fe.rf
def wI_mStreams_stop (v0 : Nat) (v1 : Int) (v2 : Int) (v3 : Int) (h : Hp) (x k : Nat) : Prop := x = hR h v0 35 ∨ x = hR h v0 36
def wJ_mStreams_stop (v0 : Nat) (v1 : Int) (v2 : Int) (v3 : Int) (h : Hp) (x k : Nat) : Prop := x = hR h v0 37
theorem fe_mStreams_stop (v0 : Nat) (v1 : Int) (v2 : Int) (v3 : Int) (h : Hp) : Feo (wI_mStreams_stop v0 v1 v2 v3 h) (wJ_mStreams_stop v0 v1 v2 v3 h) h Prod.snd (f_mStreams_stop v0 v1 v2 v3 h) := by
  unfold f_mStreams_stop
  refine fe_b2 Fe.rf (fe_mStreams_at _ _ _) (fun x k hx => False.elim hx) (fun x k hx => False.elim hx) (fun r3 h1 F1 => ?_)
  refine fe_b2 F1 (fe_mStreams_hasReceiving _ _ _ _) (fun x k hx => False.elim hx) (fun x k hx => False.elim hx) (fun r6 h4 F2 => ?_)
  refine fe_it ?_ ?_
  · exact fe_so F2
  · refine fe_b2 F2 (fe_mStreams_receiving _ _ _) (fun x k hx => False.elim hx) (fun x k hx => False.elim hx) (fun r9 h7 F3 => ?_)
    refine fe_it ?_ ?_
    · exact fe_so F3
    · refine fe_it fe_no ?_
      refine fe_it ?_ fe_no
      refine fe_it ?_ ?_
      · refine fe_it ?_ fe_no
        refine fe_I F3 (Or.inl ((by first | (simp only [F1.r, F2.r, F3.r]; exact rfl) | simp only [F1.r, F2.r, F3.r]))) (fun h13 F4 => ?_)
        refine fe_it fe_no ?_
        refine fe_it ?_ fe_no
        refine fe_I F4 (Or.inr ((by first | (simp only [F1.r, F2.r, F3.r, F4.r]; exact rfl) | simp only [F1.r, F2.r, F3.r, F4.r]))) (fun h16 F5 => ?_)
        refine fe_it fe_no ?_
        refine fe_it ?_ fe_no
        refine fe_J F5 ((by first | (simp only [F1.r, F2.r, F3.r, F4.r, F5.r]; exact rfl) | simp only [F1.r, F2.r, F3.r, F4.r, F5.r])) (fun h19 F6 => ?_)
        exact fe_so F6
      · exact fe_so F3
def wI_mP_stop_b17 (v0 : Nat) (v1 : Int) (v2 : Int) (v3 : Int) (s0 : Nat) (s1 : Int) (h : Hp) (x k : Nat) : Prop := x = hR h (hR h v0 6) 35 ∨ x = hR h (hR h v0 6) 36 ∨ (x = s0 ∧ k = 0)
def wJ_mP_stop_b17 (v0 : Nat) (v1 : Int) (v2 : Int) (v3 : Int) (s0 : Nat) (s1 : Int) (h : Hp) (x k : Nat) : Prop := x = hR h (hR h v0 6) 37
def wI_mP_stop_b12 (v0 : Nat) (v1 : Int) (v2 : Int) (v3 : Int) (s0 : Nat) (h : Hp) (x k : Nat) : Prop := x = hR h (hR h v0 6) 35 ∨ x = hR h (hR h v0 6) 36 ∨ (x = s0 ∧ k = 0)
def wJ_mP_stop_b12 (v0 : Nat) (v1 : Int) (v2 : Int) (v3 : Int) (s0 : Nat) (h : Hp) (x k : Nat) : Prop := x = hR h (hR h v0 6) 37
def wI_mP_stop (v0 : Nat) (v1 : Int) (v2 : Int) (v3 : Int) (h : Hp) (x k : Nat) : Prop := x = hR h (hR h v0 6) 35 ∨ x = hR h (hR h v0 6) 36 ∨ (x = v0 ∧ k = 0)
def wJ_mP_stop (v0 : Nat) (v1 : Int) (v2 : Int) (v3 : Int) (h : Hp) (x k : Nat) : Prop := x = hR h (hR h v0 6) 37
theorem fe_mP_stop_b17 (v0 : Nat) (v1 : Int) (v2 : Int) (v3 : Int) (s0 : Nat) (s1 : Int) (h : Hp) : Feo (wI_mP_stop_b17 v0 v1 v2 v3 s0 s1 h) (wJ_mP_stop_b17 v0 v1 v2 v3 s0 s1 h) h Prod.snd (f_mP_stop_b17 v0 v1 v2 v3 s0 s1 h) := by
  unfold f_mP_stop_b17
  refine fe_it fe_no ?_
  refine fe_b2 Fe.rf (fe_mP_fails _ _ _ _) (fun x k hx => by simp only [wI_mP_fails] at hx; have e := hx; exact Or.inr (Or.inr (e))) (fun x k hx => False.elim hx) (fun r7 h5 F1 => ?_)
  refine fe_it ?_ ?_
  · exact fe_so F1
  · refine fe_it fe_no ?_
    refine fe_b2 F1 (fe_mStreams_stop _ _ _ _ _) (fun x k hx => by simp only [wI_mStreams_stop, F1.r] at hx; rcases hx with e | e <;> first | exact Or.inl (e) | exact Or.inr (Or.inl (e))) (fun x k hx => by simp only [wJ_mStreams_stop, F1.r] at hx; have e := hx; exact e) (fun r11 h9 F2 => ?_)
    refine fe_it ?_ ?_
    · exact fe_so F2
    · exact fe_so F2
theorem fe_mP_stop_b12 (v0 : Nat) (v1 : Int) (v2 : Int) (v3 : Int) (s0 : Nat) (h : Hp) : Feo (wI_mP_stop_b12 v0 v1 v2 v3 s0 h) (wJ_mP_stop_b12 v0 v1 v2 v3 s0 h) h Prod.snd (f_mP_stop_b12 v0 v1 v2 v3 s0 h) := by
  unfold f_mP_stop_b12
  exact fe_j Fe.rf (fe_mP_stop_b17 _ _ _ _ _ _ _) (fun x k hx => by simp only [wI_mP_stop_b17] at hx; rcases hx with e | e | e <;> first | exact Or.inl (e) | exact Or.inr (Or.inl (e)) | exact Or.inr (Or.inr (e))) (fun x k hx => by simp only [wJ_mP_stop_b17] at hx; have e := hx; exact e)
theorem fe_mP_stop (v0 : Nat) (v1 : Int) (v2 : Int) (v3 : Int) (h : Hp) : Feo (wI_mP_stop v0 v1 v2 v3 h) (wJ_mP_stop v0 v1 v2 v3 h) h Prod.snd (f_mP_stop v0 v1 v2 v3 h) := by
  unfold f_mP_stop
  refine fe_b2 Fe.rf (fe_mP_no _ _) (fun x k hx => False.elim hx) (fun x k hx => False.elim hx) (fun r3 h1 F1 => ?_)
  refine fe_it ?_ ?_
  · exact fe_j F1 (fe_mP_stop_b12 _ _ _ _ _ _) (fun x k hx => by simp only [wI_mP_stop_b12, F1.r] at hx; rcases hx with e | e | e <;> first | exact Or.inl (e) | exact Or.inr (Or.inl (e)) | exact Or.inr (Or.inr (e))) (fun x k hx => by simp only [wJ_mP_stop_b12, F1.r] at hx; have e := hx; exact e)
  · refine fe_it ?_ ?_
    · exact fe_j F1 (fe_mP_stop_b17 _ _ _ _ _ _ _) (fun x k hx => by simp only [wI_mP_stop_b17, F1.r] at hx; rcases hx with e | e | e <;> first | exact Or.inl (e) | exact Or.inr (Or.inl (e)) | exact Or.inr (Or.inr (e))) (fun x k hx => by simp only [wJ_mP_stop_b17, F1.r] at hx; have e := hx; exact e)
    · exact fe_j F1 (fe_mP_stop_b12 _ _ _ _ _ _) (fun x k hx => by simp only [wI_mP_stop_b12, F1.r] at hx; rcases hx with e | e | e <;> first | exact Or.inl (e) | exact Or.inr (Or.inl (e)) | exact Or.inr (Or.inr (e))) (fun x k hx => by simp only [wJ_mP_stop_b12, F1.r] at hx; have e := hx; exact e)
def wI_mStreams_pieceAt_b7 (v0 : Nat) (v2 : Int) (v3 : Int) (h : Hp) (x k : Nat) : Prop := False
def wJ_mStreams_pieceAt_b7 (v0 : Nat) (v2 : Int) (v3 : Int) (h : Hp) (x k : Nat) : Prop := False
def wI_mStreams_pieceAt (v0 : Nat) (v1 : Int) (v2 : Int) (h : Hp) (x k : Nat) : Prop := False
def wJ_mStreams_pieceAt (v0 : Nat) (v1 : Int) (v2 : Int) (h : Hp) (x k : Nat) : Prop := False
theorem fe_mStreams_pieceAt_b7 {k7 : Nat → Int → Int → Hp → Option (Int × Hp)} (hk7 : ∀ (v0 : Nat) (v2 : Int) (v3 : Int) (h : Hp), Feo (wI_mStreams_pieceAt_b7 v0 v2 v3 h) (wJ_mStreams_pieceAt_b7 v0 v2 v3 h) h Prod.snd (k7 v0 v2 v3 h)) (v0 : Nat) (v2 : Int) (v3 : Int) (h : Hp) : Feo (wI_mStreams_pieceAt_b7 v0 v2 v3 h) (wJ_mStreams_pieceAt_b7 v0 v2 v3 h) h Prod.snd (f_mStreams_pieceAt_b7 k7 v0 v2 v3 h) := by
  unfold f_mStreams_pieceAt_b7
  refine fe_it ?_ ?_
  · exact fe_so Fe.rf
  · refine fe_it fe_no ?_
    refine fe_it ?_ fe_no
    refine fe_it ?_ ?_
    · exact fe_so Fe.rf
    · refine fe_it fe_no ?_
      refine fe_it ?_ fe_no
      refine fe_v (fun y8 => ?_)
      exact fe_j Fe.rf (hk7 _ _ _ _) (fun x k hx => False.elim hx) (fun x k hx => False.elim hx)
theorem fe_mStreams_pieceAt_b7_lp (n : Nat) : ∀ (v0 : Nat) (v2 : Int) (v3 : Int) (h : Hp), Feo (wI_mStreams_pieceAt_b7 v0 v2 v3 h) (wJ_mStreams_pieceAt_b7 v0 v2 v3 h) h Prod.snd (f_mStreams_pieceAt_b7_lp n v0 v2 v3 h) := by
  induction n with
  | zero => intro v0 v2 v3 h; exact fe_no
  | succ n ih => intro v0 v2 v3 h; exact fe_mStreams_pieceAt_b7 ih v0 v2 v3 h
theorem fe_mStreams_pieceAt (v0 : Nat) (v1 : Int) (v2 : Int) (h : Hp) : Feo (wI_mStreams_pieceAt v0 v1 v2 h) (wJ_mStreams_pieceAt v0 v1 v2 h) h Prod.snd (f_mStreams_pieceAt v0 v1 v2 h) := by
  unfold f_mStreams_pieceAt
  refine fe_it fe_no ?_
  refine fe_it ?_ fe_no
  refine fe_v (fun y3 => ?_)
  exact fe_j Fe.rf (fe_mStreams_pieceAt_b7_lp FU _ _ _ _) (fun x k hx => False.elim hx) (fun x k hx => False.elim hx)
def wI_mStreams_consumed_b54 (v0 : Nat) (v1 : Int) (v4 : Int) (s0 : Int) (s1 : Int) (h : Hp) (x k : Nat) : Prop := False
def wJ_mStreams_consumed_b54 (v0 : Nat) (v1 : Int) (v4 : Int) (s0 : Int) (s1 : Int) (h : Hp) (x k : Nat) : Prop := False
def wI_mStreams_consumed_b5 (v0 : Nat) (v1 : Int) (v2 : Int) (v4 : Int) (h : Hp) (x k : Nat) : Prop := False
def wJ_mStreams_consumed_b5 (v0 : Nat) (v1 : Int) (v2 : Int) (v4 : Int) (h : Hp) (x k : Nat) : Prop := False
def wI_mStreams_consumed (v0 : Nat) (v1 : Int) (h : Hp) (x k : Nat) : Prop := False
def wJ_mStreams_consumed (v0 : Nat) (v1 : Int) (h : Hp) (x k : Nat) : Prop := False
theorem fe_mStreams_consumed_b54 {k5 : Nat → Int → Int → Int → Hp → Option (Int × Hp)} (hk5 : ∀ (v0 : Nat) (v1 : Int) (v2 : Int) (v4 : Int) (h : Hp), Feo (wI_mStreams_consumed_b5 v0 v1 v2 v4 h) (wJ_mStreams_consumed_b5 v0 v1 v2 v4 h) h Prod.snd (k5 v0 v1 v2 v4 h)) (v0 : Nat) (v1 : Int) (v4 : Int) (s0 : Int) (s1 : Int) (h : Hp) : Feo (wI_mStreams_consumed_b54 v0 v1 v4 s0 s1 h) (wJ_mStreams_consumed_b54 v0 v1 v4 s0 s1 h) h Prod.snd (f_mStreams_consumed_b54 k5 v0 v1 v4 s0 s1 h) := by
  unfold f_mStreams_consumed_b54
  refine fe_v (fun y16 => ?_)
  exact fe_j Fe.rf (hk5 _ _ _ _ _) (fun x k hx => False.elim hx) (fun x k hx => False.elim hx)
theorem fe_mStreams_consumed_b5 {k5 : Nat → Int → Int → Int → Hp → Option (Int × Hp)} (hk5 : ∀ (v0 : Nat) (v1 : Int) (v2 : Int) (v4 : Int) (h : Hp), Feo (wI_mStreams_consumed_b5 v0 v1 v2 v4 h) (wJ_mStreams_consumed_b5 v0 v1 v2 v4 h) h Prod.snd (k5 v0 v1 v2 v4 h)) (v0 : Nat) (v1 : Int) (v2 : Int) (v4 : Int) (h : Hp) : Feo (wI_mStreams_consumed_b5 v0 v1 v2 v4 h) (wJ_mStreams_consumed_b5 v0 v1 v2 v4 h) h Prod.snd (f_mStreams_consumed_b5 k5 v0 v1 v2 v4 h) := by
  unfold f_mStreams_consumed_b5
  refine fe_it ?_ ?_
  · exact fe_so Fe.rf
  · refine fe_b2 Fe.rf (fe_mStreams_at _ _ _) (fun x k hx => False.elim hx) (fun x k hx => False.elim hx) (fun r3 h1 F1 => ?_)
    refine fe_it fe_no ?_
    refine fe_it ?_ fe_no
    refine fe_it ?_ ?_
    · refine fe_b2 F1 (fe_mStreams_at _ _ _) (fun x k hx => False.elim hx) (fun x k hx => False.elim hx) (fun r8 h6 F2 => ?_)
      refine fe_it fe_no ?_
      refine fe_it ?_ fe_no
      exact fe_j F2 (fe_mStreams_consumed_b54 hk5 _ _ _ _ _ _) (fun x k hx => False.elim hx) (fun x k hx => False.elim hx)
    · refine fe_b2 F1 (fe_mStreams_at _ _ _) (fun x k hx => False.elim hx) (fun x k hx => False.elim hx) (fun r13 h11 F3 => ?_)
      refine fe_it fe_no ?_
      refine fe_it ?_ fe_no
      exact fe_j F3 (fe_mStreams_consumed_b54 hk5 _ _ _ _ _ _) (fun x k hx => False.elim hx) (fun x k hx => False.elim hx)
theorem fe_mStreams_consumed_b5_lp (n : Nat) : ∀ (v0 : Nat) (v1 : Int) (v2 : Int) (v4 : Int) (h : Hp), Feo (wI_mStreams_consumed_b5 v0 v1 v2 v4 h) (wJ_mStreams_consumed_b5 v0 v1 v2 v4 h) h Prod.snd (f_mStreams_consumed_b5_lp n v0 v1 v2 v4 h) := by
  induction n with
  | zero => intro v0 v1 v2 v4 h; exact fe_no
  | succ n ih => intro v0 v1 v2 v4 h; exact fe_mStreams_consumed_b5 ih v0 v1 v2 v4 h
theorem fe_mStreams_consumed (v0 : Nat) (v1 : Int) (h : Hp) : Feo (wI_mStreams_consumed v0 v1 h) (wJ_mStreams_consumed v0 v1 h) h Prod.snd (f_mStreams_consumed v0 v1 h) := by
  unfold f_mStreams_consumed
  exact fe_j Fe.rf (fe_mStreams_consumed_b5_lp FU _ _ _ _ _) (fun x k hx => False.elim hx) (fun x k hx => False.elim hx)
def wI_mStreams_growData_b38 (v0 : Nat) (v1 : Int) (v2 : Int) (v4 : Int) (s0 : Int) (h : Hp) (x k : Nat) : Prop := x = hR h v0 10
def wJ_mStreams_growData_b38 (v0 : Nat) (v1 : Int) (v2 : Int) (v4 : Int) (s0 : Int) (h : Hp) (x k : Nat) : Prop := x = hR h v0 9
def wI_mStreams_growData (v0 : Nat) (v1 : Int) (h : Hp) (x k : Nat) : Prop := x = hR h v0 10
def wJ_mStreams_growData (v0 : Nat) (v1 : Int) (h : Hp) (x k : Nat) : Prop := x = hR h v0 9
theorem fe_mStreams_growData_b38 (v0 : Nat) (v1 : Int) (v2 : Int) (v4 : Int) (s0 : Int) (h : Hp) : Feo (wI_mStreams_growData_b38 v0 v1 v2 v4 s0 h) (wJ_mStreams_growData_b38 v0 v1 v2 v4 s0 h) h id (f_mStreams_growData_b38 v0 v1 v2 v4 s0 h) := by
  unfold f_mStreams_growData_b38
  refine fe_it fe_no ?_
  refine fe_it ?_ fe_no
  refine fe_it ?_ ?_
  · exact fe_so Fe.rf
  · refine fe_it ?_ fe_no
    refine fe_it ?_ ?_
    · refine fe_it ?_ fe_no
      refine fe_J Fe.rf (rfl) (fun h12 F1 => ?_)
      refine fe_it fe_no ?_
      refine fe_it ?_ fe_no
      refine fe_I F1 ((by first | (simp only [F1.r]; exact rfl) | simp only [F1.r])) (fun h15 F2 => ?_)
      exact fe_so F2
    · exact fe_so Fe.rf
theorem fe_mStreams_growData (v0 : Nat) (v1 : Int) (h : Hp) : Feo (wI_mStreams_growData v0 v1 h) (wJ_mStreams_growData v0 v1 h) h id (f_mStreams_growData v0 v1 h) := by
  unfold f_mStreams_growData
  refine fe_it fe_no ?_
  refine fe_it ?_ fe_no
  refine fe_v (fun y3 => ?_)
  refine fe_b2 Fe.rf (fe_mStreams_consumed _ _ _) (fun x k hx => False.elim hx) (fun x k hx => False.elim hx) (fun r6 h4 F1 => ?_)
  refine fe_v (fun y7 => ?_)
  refine fe_it ?_ ?_
  · exact fe_j F1 (fe_mStreams_growData_b38 _ _ _ _ _ _) (fun x k hx => by simp only [wI_mStreams_growData_b38, F1.r] at hx; have e := hx; exact e) (fun x k hx => by simp only [wJ_mStreams_growData_b38, F1.r] at hx; have e := hx; exact e)
  · exact fe_j F1 (fe_mStreams_growData_b38 _ _ _ _ _ _) (fun x k hx => by simp only [wI_mStreams_growData_b38, F1.r] at hx; have e := hx; exact e) (fun x k hx => by simp only [wJ_mStreams_growData_b38, F1.r] at hx; have e := hx; exact e)
def wI_mStreams_growStream_b43 (v0 : Nat) (v3 : Int) (v4 : Int) (v6 : Int) (s0 : Int) (h : Hp) (x k : Nat) : Prop := x = hR h v0 34
def wJ_mStreams_growStream_b43 (v0 : Nat) (v3 : Int) (v4 : Int) (v6 : Int) (s0 : Int) (h : Hp) (x k : Nat) : Prop := x = hR h v0 33
def wI_mStreams_growStream (v0 : Nat) (v1 : Int) (v2 : Int) (h : Hp) (x k : Nat) : Prop := x = hR h v0 34
def wJ_mStreams_growStream (v0 : Nat) (v1 : Int) (v2 : Int) (h : Hp) (x k : Nat) : Prop := x = hR h v0 33
theorem fe_mStreams_growStream_b43 (v0 : Nat) (v3 : Int) (v4 : Int) (v6 : Int) (s0 : Int) (h : Hp) : Feo (wI_mStreams_growStream_b43 v0 v3 v4 v6 s0 h) (wJ_mStreams_growStream_b43 v0 v3 v4 v6 s0 h) h id (f_mStreams_growStream_b43 v0 v3 v4 v6 s0 h) := by
  unfold f_mStreams_growStream_b43
  refine fe_it fe_no ?_
  refine fe_it ?_ fe_no
  refine fe_it ?_ ?_
  · exact fe_so Fe.rf
  · refine fe_it ?_ fe_no
    refine fe_it ?_ ?_
    · refine fe_it ?_ fe_no
      refine fe_J Fe.rf (rfl) (fun h14 F1 => ?_)
      refine fe_it fe_no ?_
      refine fe_it ?_ fe_no
      refine fe_I F1 ((by first | (simp only [F1.r]; exact rfl) | simp only [F1.r])) (fun h17 F2 => ?_)
      exact fe_so F2
    · exact fe_so Fe.rf
theorem fe_mStreams_growStream (v0 : Nat) (v1 : Int) (v2 : Int) (h : Hp) : Feo (wI_mStreams_growStream v0 v1 v2 h) (wJ_mStreams_growStream v0 v1 v2 h) h id (f_mStreams_growStream v0 v1 v2 h) := by
  unfold f_mStreams_growStream
  refine fe_b2 Fe.rf (fe_mStreams_at _ _ _) (fun x k hx => False.elim hx) (fun x k hx => False.elim hx) (fun r3 h1 F1 => ?_)
  refine fe_b2 F1 (fe_mStreams_grantOf _ _ _ _) (fun x k hx => False.elim hx) (fun x k hx => False.elim hx) (fun r6 h4 F2 => ?_)
  refine fe_it fe_no ?_
  refine fe_it ?_ fe_no
  refine fe_v (fun y9 => ?_)
  refine fe_it ?_ ?_
  · exact fe_j F2 (fe_mStreams_growStream_b43 _ _ _ _ _ _) (fun x k hx => by simp only [wI_mStreams_growStream_b43, F1.r, F2.r] at hx; have e := hx; exact e) (fun x k hx => by simp only [wJ_mStreams_growStream_b43, F1.r, F2.r] at hx; have e := hx; exact e)
  · exact fe_j F2 (fe_mStreams_growStream_b43 _ _ _ _ _ _) (fun x k hx => by simp only [wI_mStreams_growStream_b43, F1.r, F2.r] at hx; have e := hx; exact e) (fun x k hx => by simp only [wJ_mStreams_growStream_b43, F1.r, F2.r] at hx; have e := hx; exact e)
def wI_mStreams_looksOver_b91 (v0 : Nat) (v1 : Int) (v2 : Int) (v3 : Int) (v4 : Int) (s0 : Int) (h : Hp) (x k : Nat) : Prop := x = hR h v0 38 ∨ x = hR h v0 6 ∨ x = hR h v0 7
def wJ_mStreams_looksOver_b91 (v0 : Nat) (v1 : Int) (v2 : Int) (v3 : Int) (v4 : Int) (s0 : Int) (h : Hp) (x k : Nat) : Prop := False
def wI_mStreams_looksOver_b86 (v0 : Nat) (v1 : Int) (v2 : Int) (v3 : Int) (v4 : Int) (h : Hp) (x k : Nat) : Prop := x = hR h v0 38 ∨ x = hR h v0 6 ∨ x = hR h v0 7
def wJ_mStreams_looksOver_b86 (v0 : Nat) (v1 : Int) (v2 : Int) (v3 : Int) (v4 : Int) (h : Hp) (x k : Nat) : Prop := False
def wI_mStreams_looksOver_b57 (v0 : Nat) (v1 : Int) (v2 : Int) (v3 : Int) (s0 : Int) (h : Hp) (x k : Nat) : Prop := x = hR h v0 38 ∨ x = hR h v0 6 ∨ x = hR h v0 7
def wJ_mStreams_looksOver_b57 (v0 : Nat) (v1 : Int) (v2 : Int) (v3 : Int) (s0 : Int) (h : Hp) (x k : Nat) : Prop := False
def wI_mStreams_looksOver_b52 (v0 : Nat) (v1 : Int) (v2 : Int) (v3 : Int) (h : Hp) (x k : Nat) : Prop := x = hR h v0 38 ∨ x = hR h v0 6 ∨ x = hR h v0 7
def wJ_mStreams_looksOver_b52 (v0 : Nat) (v1 : Int) (v2 : Int) (v3 : Int) (h : Hp) (x k : Nat) : Prop := False
def wI_mStreams_looksOver (v0 : Nat) (v1 : Int) (v2 : Int) (h : Hp) (x k : Nat) : Prop := x = hR h v0 38 ∨ x = hR h v0 6 ∨ x = hR h v0 7
def wJ_mStreams_looksOver (v0 : Nat) (v1 : Int) (v2 : Int) (h : Hp) (x k : Nat) : Prop := False
theorem fe_mStreams_looksOver_b91 (v0 : Nat) (v1 : Int) (v2 : Int) (v3 : Int) (v4 : Int) (s0 : Int) (h : Hp) : Feo (wI_mStreams_looksOver_b91 v0 v1 v2 v3 v4 s0 h) (wJ_mStreams_looksOver_b91 v0 v1 v2 v3 v4 s0 h) h id (f_mStreams_looksOver_b91 v0 v1 v2 v3 v4 s0 h) := by
  unfold f_mStreams_looksOver_b91
  refine fe_it ?_ ?_
  · exact fe_so Fe.rf
  · refine fe_it ?_ ?_
    · refine fe_it fe_no ?_
      refine fe_it ?_ fe_no
      refine fe_I Fe.rf (Or.inl (rfl)) (fun h28 F1 => ?_)
      refine fe_b2 F1 (fe_mStreams_wayOf _ _) (fun x k hx => False.elim hx) (fun x k hx => False.elim hx) (fun r31 h29 F2 => ?_)
      refine fe_v (fun y32 => ?_)
      refine fe_it fe_no ?_
      refine fe_it ?_ fe_no
      refine fe_it ?_ ?_
      · refine fe_it ?_ fe_no
        refine fe_it ?_ fe_no
        refine fe_I F2 (Or.inr (Or.inl ((by first | (simp only [F1.r, F2.r]; exact rfl) | simp only [F1.r, F2.r])))) (fun h37 F3 => ?_)
        refine fe_it fe_no ?_
        refine fe_it ?_ fe_no
        refine fe_I F3 (Or.inr (Or.inr ((by first | (simp only [F1.r, F2.r, F3.r]; exact rfl) | simp only [F1.r, F2.r, F3.r])))) (fun h40 F4 => ?_)
        exact fe_so F4
      · exact fe_so F2
    · exact fe_so Fe.rf
theorem fe_mStreams_looksOver_b86 (v0 : Nat) (v1 : Int) (v2 : Int) (v3 : Int) (v4 : Int) (h : Hp) : Feo (wI_mStreams_looksOver_b86 v0 v1 v2 v3 v4 h) (wJ_mStreams_looksOver_b86 v0 v1 v2 v3 v4 h) h id (f_mStreams_looksOver_b86 v0 v1 v2 v3 v4 h) := by
  unfold f_mStreams_looksOver_b86
  exact fe_j Fe.rf (fe_mStreams_looksOver_b91 _ _ _ _ _ _ _) (fun x k hx => by simp only [wI_mStreams_looksOver_b91] at hx; rcases hx with e | e | e <;> first | exact Or.inl (e) | exact Or.inr (Or.inl (e)) | exact Or.inr (Or.inr (e))) (fun x k hx => False.elim hx)
theorem fe_mStreams_looksOver_b57 (v0 : Nat) (v1 : Int) (v2 : Int) (v3 : Int) (s0 : Int) (h : Hp) : Feo (wI_mStreams_looksOver_b57 v0 v1 v2 v3 s0 h) (wJ_mStreams_looksOver_b57 v0 v1 v2 v3 s0 h) h id (f_mStreams_looksOver_b57 v0 v1 v2 v3 s0 h) := by
  unfold f_mStreams_looksOver_b57
  refine fe_b2 Fe.rf (fe_mStreams_sends _ _ _) (fun x k hx => False.elim hx) (fun x k hx => False.elim hx) (fun r19 h17 F1 => ?_)
  refine fe_it ?_ ?_
  · exact fe_j F1 (fe_mStreams_looksOver_b86 _ _ _ _ _ _) (fun x k hx => by simp only [wI_mStreams_looksOver_b86, F1.r] at hx; rcases hx with e | e | e <;> first | exact Or.inl (e) | exact Or.inr (Or.inl (e)) | exact Or.inr (Or.inr (e))) (fun x k hx => False.elim hx)
  · refine fe_b2 F1 (fe_mStreams_sending _ _ _) (fun x k hx => False.elim hx) (fun x k hx => False.elim hx) (fun r22 h20 F2 => ?_)
    refine fe_it ?_ ?_
    · exact fe_j F2 (fe_mStreams_looksOver_b86 _ _ _ _ _ _) (fun x k hx => by simp only [wI_mStreams_looksOver_b86, F1.r, F2.r] at hx; rcases hx with e | e | e <;> first | exact Or.inl (e) | exact Or.inr (Or.inl (e)) | exact Or.inr (Or.inr (e))) (fun x k hx => False.elim hx)
    · refine fe_b2 F2 (fe_mStreams_sending _ _ _) (fun x k hx => False.elim hx) (fun x k hx => False.elim hx) (fun r25 h23 F3 => ?_)
      refine fe_it ?_ ?_
      · exact fe_j F3 (fe_mStreams_looksOver_b91 _ _ _ _ _ _ _) (fun x k hx => by simp only [wI_mStreams_looksOver_b91, F1.r, F2.r, F3.r] at hx; rcases hx with e | e | e <;> first | exact Or.inl (e) | exact Or.inr (Or.inl (e)) | exact Or.inr (Or.inr (e))) (fun x k hx => False.elim hx)
      · exact fe_j F3 (fe_mStreams_looksOver_b86 _ _ _ _ _ _) (fun x k hx => by simp only [wI_mStreams_looksOver_b86, F1.r, F2.r, F3.r] at hx; rcases hx with e | e | e <;> first | exact Or.inl (e) | exact Or.inr (Or.inl (e)) | exact Or.inr (Or.inr (e))) (fun x k hx => False.elim hx)
theorem fe_mStreams_looksOver_b52 (v0 : Nat) (v1 : Int) (v2 : Int) (v3 : Int) (h : Hp) : Feo (wI_mStreams_looksOver_b52 v0 v1 v2 v3 h) (wJ_mStreams_looksOver_b52 v0 v1 v2 v3 h) h id (f_mStreams_looksOver_b52 v0 v1 v2 v3 h) := by
  unfold f_mStreams_looksOver_b52
  exact fe_j Fe.rf (fe_mStreams_looksOver_b57 _ _ _ _ _ _) (fun x k hx => by simp only [wI_mStreams_looksOver_b57] at hx; rcases hx with e | e | e <;> first | exact Or.inl (e) | exact Or.inr (Or.inl (e)) | exact Or.inr (Or.inr (e))) (fun x k hx => False.elim hx)
theorem fe_mStreams_looksOver (v0 : Nat) (v1 : Int) (v2 : Int) (h : Hp) : Feo (wI_mStreams_looksOver v0 v1 v2 h) (wJ_mStreams_looksOver v0 v1 v2 h) h id (f_mStreams_looksOver v0 v1 v2 h) := by
  unfold f_mStreams_looksOver
  refine fe_b2 Fe.rf (fe_mStreams_at _ _ _) (fun x k hx => False.elim hx) (fun x k hx => False.elim hx) (fun r3 h1 F1 => ?_)
  refine fe_b2 F1 (fe_mStreams_opens _ _ _) (fun x k hx => False.elim hx) (fun x k hx => False.elim hx) (fun r6 h4 F2 => ?_)
  refine fe_it ?_ ?_
  · exact fe_so F2
  · refine fe_it fe_no ?_
    refine fe_it ?_ fe_no
    refine fe_it ?_ ?_
    · exact fe_so F2
    · refine fe_it fe_no ?_
      refine fe_it ?_ fe_no
      refine fe_it ?_ ?_
      · refine fe_b2 F2 (fe_mStreams_receives _ _ _) (fun x k hx => False.elim hx) (fun x k hx => False.elim hx) (fun r13 h11 F3 => ?_)
        refine fe_it ?_ ?_
        · exact fe_j F3 (fe_mStreams_looksOver_b52 _ _ _ _ _) (fun x k hx => by simp only [wI_mStreams_looksOver_b52, F1.r, F2.r, F3.r] at hx; rcases hx with e | e | e <;> first | exact Or.inl (e) | exact Or.inr (Or.inl (e)) | exact Or.inr (Or.inr (e))) (fun x k hx => False.elim hx)
        · refine fe_b2 F3 (fe_mStreams_receiving _ _ _) (fun x k hx => False.elim hx) (fun x k hx => False.elim hx) (fun r16 h14 F4 => ?_)
          refine fe_it ?_ ?_
          · exact fe_j F4 (fe_mStreams_looksOver_b57 _ _ _ _ _ _) (fun x k hx => by simp only [wI_mStreams_looksOver_b57, F1.r, F2.r, F3.r, F4.r] at hx; rcases hx with e | e | e <;> first | exact Or.inl (e) | exact Or.inr (Or.inl (e)) | exact Or.inr (Or.inr (e))) (fun x k hx => False.elim hx)
          · exact fe_j F4 (fe_mStreams_looksOver_b52 _ _ _ _ _) (fun x k hx => by simp only [wI_mStreams_looksOver_b52, F1.r, F2.r, F3.r, F4.r] at hx; rcases hx with e | e | e <;> first | exact Or.inl (e) | exact Or.inr (Or.inl (e)) | exact Or.inr (Or.inr (e))) (fun x k hx => False.elim hx)
      · exact fe_so F2
def wI_mStreams_read_b106 (v0 : Nat) (v1 : Int) (v2 : Int) (v3 : Int) (v4 : Nat) (v5 : Int) (v6 : Int) (v7 : Int) (h : Hp) (x k : Nat) : Prop := x = hR h v0 10 ∨ x = hR h v0 29 ∨ x = hR h v0 34 ∨ x = hR h v0 38 ∨ x = hR h v0 6 ∨ x = hR h v0 7 ∨ x = v4
def wJ_mStreams_read_b106 (v0 : Nat) (v1 : Int) (v2 : Int) (v3 : Int) (v4 : Nat) (v5 : Int) (v6 : Int) (v7 : Int) (h : Hp) (x k : Nat) : Prop := x = hR h v0 33 ∨ x = hR h v0 9
def wI_mStreams_read_b178 (v0 : Nat) (v1 : Int) (v2 : Int) (v6 : Int) (h : Hp) (x k : Nat) : Prop := x = hR h v0 38 ∨ x = hR h v0 6 ∨ x = hR h v0 7
def wJ_mStreams_read_b178 (v0 : Nat) (v1 : Int) (v2 : Int) (v6 : Int) (h : Hp) (x k : Nat) : Prop := False
def wI_mStreams_read_b153 (v0 : Nat) (v1 : Int) (v2 : Int) (v5 : Int) (v6 : Int) (h : Hp) (x k : Nat) : Prop := x = hR h v0 10 ∨ x = hR h v0 34 ∨ x = hR h v0 38 ∨ x = hR h v0 6 ∨ x = hR h v0 7
def wJ_mStreams_read_b153 (v0 : Nat) (v1 : Int) (v2 : Int) (v5 : Int) (v6 : Int) (h : Hp) (x k : Nat) : Prop := x = hR h v0 33 ∨ x = hR h v0 9
def wI_mStreams_read_b52 (v0 : Nat) (v1 : Int) (v2 : Int) (v3 : Int) (v4 : Nat) (v5 : Int) (v6 : Int) (v7 : Int) (h : Hp) (x k : Nat) : Prop := x = hR h v0 10 ∨ x = hR h v0 29 ∨ x = hR h v0 34 ∨ x = hR h v0 38 ∨ x = hR h v0 6 ∨ x = hR h v0 7 ∨ x = v4
def wJ_mStreams_read_b52 (v0 : Nat) (v1 : Int) (v2 : Int) (v3 : Int) (v4 : Nat) (v5 : Int) (v6 : Int) (v7 : Int) (h : Hp) (x k : Nat) : Prop := x = hR h v0 33 ∨ x = hR h v0 9
def wI_mStreams_read (v0 : Nat) (v1 : Int) (v2 : Int) (v3 : Int) (v4 : Nat) (h : Hp) (x k : Nat) : Prop := x = hR h v0 10 ∨ x = hR h v0 29 ∨ x = hR h v0 34 ∨ x = hR h v0 38 ∨ x = hR h v0 6 ∨ x = hR h v0 7 ∨ x = v4
def wJ_mStreams_read (v0 : Nat) (v1 : Int) (v2 : Int) (v3 : Int) (v4 : Nat) (h : Hp) (x k : Nat) : Prop := x = hR h v0 33 ∨ x = hR h v0 9
theorem fe_mStreams_read_b106 {k52 : Nat → Int → Int → Int → Nat → Int → Int → Int → Hp → Option (Int × Hp)} (hk52 : ∀ (v0 : Nat) (v1 : Int) (v2 : Int) (v3 : Int) (v4 : Nat) (v5 : Int) (v6 : Int) (v7 : Int) (h : Hp), Feo (wI_mStreams_read_b52 v0 v1 v2 v3 v4 v5 v6 v7 h) (wJ_mStreams_read_b52 v0 v1 v2 v3 v4 v5 v6 v7 h) h Prod.snd (k52 v0 v1 v2 v3 v4 v5 v6 v7 h)) (v0 : Nat) (v1 : Int) (v2 : Int) (v3 : Int) (v4 : Nat) (v5 : Int) (v6 : Int) (v7 : Int) (h : Hp) : Feo (wI_mStreams_read_b106 v0 v1 v2 v3 v4 v5 v6 v7 h) (wJ_mStreams_read_b106 v0 v1 v2 v3 v4 v5 v6 v7 h) h Prod.snd (f_mStreams_read_b106 k52 v0 v1 v2 v3 v4 v5 v6 v7 h) := by
  unfold f_mStreams_read_b106
  refine fe_it fe_no ?_
  refine fe_it ?_ fe_no
  refine fe_it fe_no ?_
  refine fe_it ?_ fe_no
  refine fe_it fe_no ?_
  refine fe_it ?_ fe_no
  refine fe_I Fe.rf (Or.inr (Or.inr (Or.inr (Or.inr (Or.inr (Or.inr (rfl))))))) (fun h38 F1 => ?_)
  refine fe_it fe_no ?_
  refine fe_it ?_ fe_no
  refine fe_it ?_ fe_no
  refine fe_I F1 (Or.inr (Or.inl ((by first | (simp only [F1.r]; exact rfl) | simp only [F1.r])))) (fun h42 F2 => ?_)
  exact fe_j F2 (hk52 _ _ _ _ _ _ _ _ _) (fun x k hx => by simp only [wI_mStreams_read_b52, F1.r, F2.r] at hx; rcases hx with e | e | e | e | e | e | e <;> first | exact Or.inl (e) | exact Or.inr (Or.inl (e)) | exact Or.inr (Or.inr (Or.inl (e))) | exact Or.inr (Or.inr (Or.inr (Or.inl (e)))) | exact Or.inr (Or.inr (Or.inr (Or.inr (Or.inl (e))))) | exact Or.inr (Or.inr (Or.inr (Or.inr (Or.inr (Or.inl (e)))))) | exact Or.inr (Or.inr (Or.inr (Or.inr (Or.inr (Or.inr (e))))))) (fun x k hx => by simp only [wJ_mStreams_read_b52, F1.r, F2.r] at hx; rcases hx with e | e <;> first | exact Or.inl (e) | exact Or.inr (e))
theorem fe_mStreams_read_b178 (v0 : Nat) (v1 : Int) (v2 : Int) (v6 : Int) (h : Hp) : Feo (wI_mStreams_read_b178 v0 v1 v2 v6 h) (wJ_mStreams_read_b178 v0 v1 v2 v6 h) h Prod.snd (f_mStreams_read_b178 v0 v1 v2 v6 h) := by
  unfold f_mStreams_read_b178
  refine fe_b1 Fe.rf (fe_mStreams_looksOver _ _ _ _) (fun x k hx => by simp only [wI_mStreams_looksOver] at hx; rcases hx with e | e | e <;> first | exact Or.inl (e) | exact Or.inr (Or.inl (e)) | exact Or.inr (Or.inr (e))) (fun x k hx => False.elim hx) (fun h30 F1 => ?_)
  exact fe_so F1
theorem fe_mStreams_read_b153 (v0 : Nat) (v1 : Int) (v2 : Int) (v5 : Int) (v6 : Int) (h : Hp) : Feo (wI_mStreams_read_b153 v0 v1 v2 v5 v6 h) (wJ_mStreams_read_b153 v0 v1 v2 v5 v6 h) h Prod.snd (f_mStreams_read_b153 v0 v1 v2 v5 v6 h) := by
  unfold f_mStreams_read_b153
  refine fe_it ?_ ?_
  · exact fe_j Fe.rf (fe_mStreams_read_b178 _ _ _ _ _) (fun x k hx => by simp only [wI_mStreams_read_b178] at hx; rcases hx with e | e | e <;> first | exact Or.inr (Or.inr (Or.inl (e))) | exact Or.inr (Or.inr (Or.inr (Or.inl (e)))) | exact Or.inr (Or.inr (Or.inr (Or.inr (e))))) (fun x k hx => False.elim hx)
  · refine fe_b1 Fe.rf (fe_mStreams_growData _ _ _) (fun x k hx => by simp only [wI_mStreams_growData] at hx; have e := hx; exact Or.inl (e)) (fun x k hx => by simp only [wJ_mStreams_growData] at hx; have e := hx; exact Or.inr (e)) (fun h23 F1 => ?_)
    refine fe_b2 F1 (fe_mStreams_receiving _ _ _) (fun x k hx => False.elim hx) (fun x k hx => False.elim hx) (fun r27 h25 F2 => ?_)
    refine fe_it ?_ ?_
    · exact fe_j F2 (fe_mStreams_read_b178 _ _ _ _ _) (fun x k hx => by simp only [wI_mStreams_read_b178, F1.r, F2.r] at hx; rcases hx with e | e | e <;> first | exact Or.inr (Or.inr (Or.inl (e))) | exact Or.inr (Or.inr (Or.inr (Or.inl (e)))) | exact Or.inr (Or.inr (Or.inr (Or.inr (e))))) (fun x k hx => False.elim hx)
    · refine fe_b1 F2 (fe_mStreams_growStream _ _ _ _) (fun x k hx => by simp only [wI_mStreams_growStream, F1.r, F2.r] at hx; have e := hx; exact Or.inr (Or.inl (e))) (fun x k hx => by simp only [wJ_mStreams_growStream, F1.r, F2.r] at hx; have e := hx; exact Or.inl (e)) (fun h28 F3 => ?_)
      exact fe_j F3 (fe_mStreams_read_b178 _ _ _ _ _) (fun x k hx => by simp only [wI_mStreams_read_b178, F1.r, F2.r, F3.r] at hx; rcases hx with e | e | e <;> first | exact Or.inr (Or.inr (Or.inl (e))) | exact Or.inr (Or.inr (Or.inr (Or.inl (e)))) | exact Or.inr (Or.inr (Or.inr (Or.inr (e))))) (fun x k hx => False.elim hx)
theorem fe_mStreams_read_b52 {k52 : Nat → Int → Int → Int → Nat → Int → Int → Int → Hp → Option (Int × Hp)} (hk52 : ∀ (v0 : Nat) (v1 : Int) (v2 : Int) (v3 : Int) (v4 : Nat) (v5 : Int) (v6 : Int) (v7 : Int) (h : Hp), Feo (wI_mStreams_read_b52 v0 v1 v2 v3 v4 v5 v6 v7 h) (wJ_mStreams_read_b52 v0 v1 v2 v3 v4 v5 v6 v7 h) h Prod.snd (k52 v0 v1 v2 v3 v4 v5 v6 v7 h)) (v0 : Nat) (v1 : Int) (v2 : Int) (v3 : Int) (v4 : Nat) (v5 : Int) (v6 : Int) (v7 : Int) (h : Hp) : Feo (wI_mStreams_read_b52 v0 v1 v2 v3 v4 v5 v6 v7 h) (wJ_mStreams_read_b52 v0 v1 v2 v3 v4 v5 v6 v7 h) h Prod.snd (f_mStreams_read_b52 k52 v0 v1 v2 v3 v4 v5 v6 v7 h) := by
  unfold f_mStreams_read_b52
  refine fe_it ?_ ?_
  · exact fe_j Fe.rf (fe_mStreams_read_b153 _ _ _ _ _ _) (fun x k hx => by simp only [wI_mStreams_read_b153] at hx; rcases hx with e | e | e | e | e <;> first | exact Or.inl (e) | exact Or.inr (Or.inr (Or.inl (e))) | exact Or.inr (Or.inr (Or.inr (Or.inl (e)))) | exact Or.inr (Or.inr (Or.inr (Or.inr (Or.inl (e))))) | exact Or.inr (Or.inr (Or.inr (Or.inr (Or.inr (Or.inl (e))))))) (fun x k hx => by simp only [wJ_mStreams_read_b153] at hx; rcases hx with e | e <;> first | exact Or.inl (e) | exact Or.inr (e))
  · refine fe_it fe_no ?_
    refine fe_it ?_ fe_no
    refine fe_it fe_no ?_
    refine fe_it ?_ fe_no
    refine fe_it ?_ ?_
    · exact fe_j Fe.rf (fe_mStreams_read_b153 _ _ _ _ _ _) (fun x k hx => by simp only [wI_mStreams_read_b153] at hx; rcases hx with e | e | e | e | e <;> first | exact Or.inl (e) | exact Or.inr (Or.inr (Or.inl (e))) | exact Or.inr (Or.inr (Or.inr (Or.inl (e)))) | exact Or.inr (Or.inr (Or.inr (Or.inr (Or.inl (e))))) | exact Or.inr (Or.inr (Or.inr (Or.inr (Or.inr (Or.inl (e))))))) (fun x k hx => by simp only [wJ_mStreams_read_b153] at hx; rcases hx with e | e <;> first | exact Or.inl (e) | exact Or.inr (e))
    · refine fe_it ?_ fe_no
      refine fe_it ?_ ?_
      · exact fe_j Fe.rf (fe_mStreams_read_b106 hk52 _ _ _ _ _ _ _ _ _) (fun x k hx => by simp only [wI_mStreams_read_b106] at hx; rcases hx with e | e | e | e | e | e | e <;> first | exact Or.inl (e) | exact Or.inr (Or.inl (e)) | exact Or.inr (Or.inr (Or.inl (e))) | exact Or.inr (Or.inr (Or.inr (Or.inl (e)))) | exact Or.inr (Or.inr (Or.inr (Or.inr (Or.inl (e))))) | exact Or.inr (Or.inr (Or.inr (Or.inr (Or.inr (Or.inl (e)))))) | exact Or.inr (Or.inr (Or.inr (Or.inr (Or.inr (Or.inr (e))))))) (fun x k hx => by simp only [wJ_mStreams_read_b106] at hx; rcases hx with e | e <;> first | exact Or.inl (e) | exact Or.inr (e))
      · refine fe_it ?_ fe_no
        refine fe_b2 Fe.rf (fe_mStreams_pieceAt _ _ _ _) (fun x k hx => False.elim hx) (fun x k hx => False.elim hx) (fun r22 h20 F1 => ?_)
        exact fe_j F1 (fe_mStreams_read_b106 hk52 _ _ _ _ _ _ _ _ _) (fun x k hx => by simp only [wI_mStreams_read_b106, F1.r] at hx; rcases hx with e | e | e | e | e | e | e <;> first | exact Or.inl (e) | exact Or.inr (Or.inl (e)) | exact Or.inr (Or.inr (Or.inl (e))) | exact Or.inr (Or.inr (Or.inr (Or.inl (e)))) | exact Or.inr (Or.inr (Or.inr (Or.inr (Or.inl (e))))) | exact Or.inr (Or.inr (Or.inr (Or.inr (Or.inr (Or.inl (e)))))) | exact Or.inr (Or.inr (Or.inr (Or.inr (Or.inr (Or.inr (e))))))) (fun x k hx => by simp only [wJ_mStreams_read_b106, F1.r] at hx; rcases hx with e | e <;> first | exact Or.inl (e) | exact Or.inr (e))
theorem fe_mStreams_read_b52_lp (n : Nat) : ∀ (v0 : Nat) (v1 : Int) (v2 : Int) (v3 : Int) (v4 : Nat) (v5 : Int) (v6 : Int) (v7 : Int) (h : Hp), Feo (wI_mStreams_read_b52 v0 v1 v2 v3 v4 v5 v6 v7 h) (wJ_mStreams_read_b52 v0 v1 v2 v3 v4 v5 v6 v7 h) h Prod.snd (f_mStreams_read_b52_lp n v0 v1 v2 v3 v4 v5 v6 v7 h) := by
  induction n with
  | zero => intro v0 v1 v2 v3 v4 v5 v6 v7 h; exact fe_no
  | succ n ih => intro v0 v1 v2 v3 v4 v5 v6 v7 h; exact fe_mStreams_read_b52 ih v0 v1 v2 v3 v4 v5 v6 v7 h
theorem fe_mStreams_read (v0 : Nat) (v1 : Int) (v2 : Int) (v3 : Int) (v4 : Nat) (h : Hp) : Feo (wI_mStreams_read v0 v1 v2 v3 v4 h) (wJ_mStreams_read v0 v1 v2 v3 v4 h) h Prod.snd (f_mStreams_read v0 v1 v2 v3 v4 h) := by
  unfold f_mStreams_read
  refine fe_b2 Fe.rf (fe_mStreams_hasReceiving _ _ _ _) (fun x k hx => False.elim hx) (fun x k hx => False.elim hx) (fun r3 h1 F1 => ?_)
  refine fe_it ?_ ?_
  · refine fe_b2 F1 (fe_mStreams_at _ _ _) (fun x k hx => False.elim hx) (fun x k hx => False.elim hx) (fun r6 h4 F2 => ?_)
    refine fe_it fe_no ?_
    refine fe_it ?_ fe_no
    refine fe_it ?_ ?_
    · refine fe_it fe_no ?_
      refine fe_it ?_ fe_no
      refine fe_b2 F2 (fe_mStreams_pieceAt _ _ _ _) (fun x k hx => False.elim hx) (fun x k hx => False.elim hx) (fun r13 h11 F3 => ?_)
      exact fe_j F3 (fe_mStreams_read_b52_lp FU _ _ _ _ _ _ _ _ _) (fun x k hx => by simp only [wI_mStreams_read_b52, F1.r, F2.r, F3.r] at hx; rcases hx with e | e | e | e | e | e | e <;> first | exact Or.inl (e) | exact Or.inr (Or.inl (e)) | exact Or.inr (Or.inr (Or.inl (e))) | exact Or.inr (Or.inr (Or.inr (Or.inl (e)))) | exact Or.inr (Or.inr (Or.inr (Or.inr (Or.inl (e))))) | exact Or.inr (Or.inr (Or.inr (Or.inr (Or.inr (Or.inl (e)))))) | exact Or.inr (Or.inr (Or.inr (Or.inr (Or.inr (Or.inr (e))))))) (fun x k hx => by simp only [wJ_mStreams_read_b52, F1.r, F2.r, F3.r] at hx; rcases hx with e | e <;> first | exact Or.inl (e) | exact Or.inr (e))
    · exact fe_so F2
  · exact fe_so F1
def wI_mP_read_b61 (v0 : Nat) (v4 : Int) (s0 : Nat) (s1 : Int) (h : Hp) (x k : Nat) : Prop := (x = s0 ∧ k = 4)
def wJ_mP_read_b61 (v0 : Nat) (v4 : Int) (s0 : Nat) (s1 : Int) (h : Hp) (x k : Nat) : Prop := False
def wI_mP_read_b24 (v0 : Nat) (v1 : Int) (v2 : Int) (v3 : Int) (s0 : Nat) (s1 : Int) (h : Hp) (x k : Nat) : Prop := x = (hR h v0 3) ∨ x = hR h (hR h v0 6) 10 ∨ x = hR h (hR h v0 6) 29 ∨ x = hR h (hR h v0 6) 34 ∨ x = hR h (hR h v0 6) 38 ∨ x = hR h (hR h v0 6) 6 ∨ x = hR h (hR h v0 6) 7 ∨ (x = s0 ∧ k = 0) ∨ (x = v0 ∧ k = 4)
def wJ_mP_read_b24 (v0 : Nat) (v1 : Int) (v2 : Int) (v3 : Int) (s0 : Nat) (s1 : Int) (h : Hp) (x k : Nat) : Prop := x = hR h (hR h v0 6) 33 ∨ x = hR h (hR h v0 6) 9
def wI_mP_read_b19 (v0 : Nat) (v1 : Int) (v2 : Int) (v3 : Int) (s0 : Nat) (h : Hp) (x k : Nat) : Prop := x = (hR h v0 3) ∨ x = hR h (hR h v0 6) 10 ∨ x = hR h (hR h v0 6) 29 ∨ x = hR h (hR h v0 6) 34 ∨ x = hR h (hR h v0 6) 38 ∨ x = hR h (hR h v0 6) 6 ∨ x = hR h (hR h v0 6) 7 ∨ (x = s0 ∧ k = 0) ∨ (x = v0 ∧ k = 4)
def wJ_mP_read_b19 (v0 : Nat) (v1 : Int) (v2 : Int) (v3 : Int) (s0 : Nat) (h : Hp) (x k : Nat) : Prop := x = hR h (hR h v0 6) 33 ∨ x = hR h (hR h v0 6) 9
def wI_mP_read (v0 : Nat) (v1 : Int) (v2 : Int) (v3 : Int) (h : Hp) (x k : Nat) : Prop := x = (hR h v0 3) ∨ x = hR h (hR h v0 6) 10 ∨ x = hR h (hR h v0 6) 29 ∨ x = hR h (hR h v0 6) 34 ∨ x = hR h (hR h v0 6) 38 ∨ x = hR h (hR h v0 6) 6 ∨ x = hR h (hR h v0 6) 7 ∨ (x = v0 ∧ k = 0) ∨ (x = v0 ∧ k = 4)
def wJ_mP_read (v0 : Nat) (v1 : Int) (v2 : Int) (v3 : Int) (h : Hp) (x k : Nat) : Prop := x = hR h (hR h v0 6) 33 ∨ x = hR h (hR h v0 6) 9
theorem fe_mP_read_b61 (v0 : Nat) (v4 : Int) (s0 : Nat) (s1 : Int) (h : Hp) : Feo (wI_mP_read_b61 v0 v4 s0 s1 h) (wJ_mP_read_b61 v0 v4 s0 s1 h) h Prod.snd (f_mP_read_b61 v0 v4 s0 s1 h) := by
  unfold f_mP_read_b61
  refine fe_it fe_no ?_
  refine fe_I Fe.rf (⟨rfl, rfl⟩) (fun h13 F1 => ?_)
  exact fe_so F1
theorem fe_mP_read_b24 (v0 : Nat) (v1 : Int) (v2 : Int) (v3 : Int) (s0 : Nat) (s1 : Int) (h : Hp) : Feo (wI_mP_read_b24 v0 v1 v2 v3 s0 s1 h) (wJ_mP_read_b24 v0 v1 v2 v3 s0 s1 h) h Prod.snd (f_mP_read_b24 v0 v1 v2 v3 s0 s1 h) := by
  unfold f_mP_read_b24
  refine fe_it fe_no ?_
  refine fe_b2 Fe.rf (fe_mP_fails _ _ _ _) (fun x k hx => by simp only [wI_mP_fails] at hx; have e := hx; exact Or.inr (Or.inr (Or.inr (Or.inr (Or.inr (Or.inr (Or.inr (Or.inl (e))))))))) (fun x k hx => False.elim hx) (fun r7 h5 F1 => ?_)
  refine fe_it ?_ ?_
  · refine fe_it fe_no ?_
    refine fe_b2 F1 (fe_mStreams_read _ _ _ _ _ _) (fun x k hx => by simp only [wI_mStreams_read, F1.r] at hx; rcases hx with e | e | e | e | e | e | e <;> first | exact Or.inl (e) | exact Or.inr (Or.inl (e)) | exact Or.inr (Or.inr (Or.inl (e))) | exact Or.inr (Or.inr (Or.inr (Or.inl (e)))) | exact Or.inr (Or.inr (Or.inr (Or.inr (Or.inl (e))))) | exact Or.inr (Or.inr (Or.inr (Or.inr (Or.inr (Or.inl (e)))))) | exact Or.inr (Or.inr (Or.inr (Or.inr (Or.inr (Or.inr (Or.inl (e)))))))) (fun x k hx => by simp only [wJ_mStreams_read, F1.r] at hx; rcases hx with e | e <;> first | exact Or.inl (e) | exact Or.inr (e)) (fun r11 h9 F2 => ?_)
    refine fe_it ?_ ?_
    · exact fe_j F2 (fe_mP_read_b61 _ _ _ _ _) (fun x k hx => by simp only [wI_mP_read_b61, F1.r, F2.r] at hx; have e := hx; exact Or.inr (Or.inr (Or.inr (Or.inr (Or.inr (Or.inr (Or.inr (Or.inr (e))))))))) (fun x k hx => False.elim hx)
    · exact fe_j F2 (fe_mP_read_b61 _ _ _ _ _) (fun x k hx => by simp only [wI_mP_read_b61, F1.r, F2.r] at hx; have e := hx; exact Or.inr (Or.inr (Or.inr (Or.inr (Or.inr (Or.inr (Or.inr (Or.inr (e))))))))) (fun x k hx => False.elim hx)
  · exact fe_so F1
theorem fe_mP_read_b19 (v0 : Nat) (v1 : Int) (v2 : Int) (v3 : Int) (s0 : Nat) (h : Hp) : Feo (wI_mP_read_b19 v0 v1 v2 v3 s0 h) (wJ_mP_read_b19 v0 v1 v2 v3 s0 h) h Prod.snd (f_mP_read_b19 v0 v1 v2 v3 s0 h) := by
  unfold f_mP_read_b19
  exact fe_j Fe.rf (fe_mP_read_b24 _ _ _ _ _ _ _) (fun x k hx => by simp only [wI_mP_read_b24] at hx; rcases hx with e | e | e | e | e | e | e | e | e <;> first | exact Or.inl (e) | exact Or.inr (Or.inl (e)) | exact Or.inr (Or.inr (Or.inl (e))) | exact Or.inr (Or.inr (Or.inr (Or.inl (e)))) | exact Or.inr (Or.inr (Or.inr (Or.inr (Or.inl (e))))) | exact Or.inr (Or.inr (Or.inr (Or.inr (Or.inr (Or.inl (e)))))) | exact Or.inr (Or.inr (Or.inr (Or.inr (Or.inr (Or.inr (Or.inl (e))))))) | exact Or.inr (Or.inr (Or.inr (Or.inr (Or.inr (Or.inr (Or.inr (Or.inl (e)))))))) | exact Or.inr (Or.inr (Or.inr (Or.inr (Or.inr (Or.inr (Or.inr (Or.inr (e))))))))) (fun x k hx => by simp only [wJ_mP_read_b24] at hx; rcases hx with e | e <;> first | exact Or.inl (e) | exact Or.inr (e))
theorem fe_mP_read (v0 : Nat) (v1 : Int) (v2 : Int) (v3 : Int) (h : Hp) : Feo (wI_mP_read v0 v1 v2 v3 h) (wJ_mP_read v0 v1 v2 v3 h) h Prod.snd (f_mP_read v0 v1 v2 v3 h) := by
  unfold f_mP_read
  refine fe_b2 Fe.rf (fe_mP_no _ _) (fun x k hx => False.elim hx) (fun x k hx => False.elim hx) (fun r3 h1 F1 => ?_)
  refine fe_it ?_ ?_
  · exact fe_j F1 (fe_mP_read_b19 _ _ _ _ _ _) (fun x k hx => by simp only [wI_mP_read_b19, F1.r] at hx; rcases hx with e | e | e | e | e | e | e | e | e <;> first | exact Or.inl (e) | exact Or.inr (Or.inl (e)) | exact Or.inr (Or.inr (Or.inl (e))) | exact Or.inr (Or.inr (Or.inr (Or.inl (e)))) | exact Or.inr (Or.inr (Or.inr (Or.inr (Or.inl (e))))) | exact Or.inr (Or.inr (Or.inr (Or.inr (Or.inr (Or.inl (e)))))) | exact Or.inr (Or.inr (Or.inr (Or.inr (Or.inr (Or.inr (Or.inl (e))))))) | exact Or.inr (Or.inr (Or.inr (Or.inr (Or.inr (Or.inr (Or.inr (Or.inl (e)))))))) | exact Or.inr (Or.inr (Or.inr (Or.inr (Or.inr (Or.inr (Or.inr (Or.inr (e))))))))) (fun x k hx => by simp only [wJ_mP_read_b19, F1.r] at hx; rcases hx with e | e <;> first | exact Or.inl (e) | exact Or.inr (e))
  · refine fe_it ?_ ?_
    · exact fe_j F1 (fe_mP_read_b19 _ _ _ _ _ _) (fun x k hx => by simp only [wI_mP_read_b19, F1.r] at hx; rcases hx with e | e | e | e | e | e | e | e | e <;> first | exact Or.inl (e) | exact Or.inr (Or.inl (e)) | exact Or.inr (Or.inr (Or.inl (e))) | exact Or.inr (Or.inr (Or.inr (Or.inl (e)))) | exact Or.inr (Or.inr (Or.inr (Or.inr (Or.inl (e))))) | exact Or.inr (Or.inr (Or.inr (Or.inr (Or.inr (Or.inl (e)))))) | exact Or.inr (Or.inr (Or.inr (Or.inr (Or.inr (Or.inr (Or.inl (e))))))) | exact Or.inr (Or.inr (Or.inr (Or.inr (Or.inr (Or.inr (Or.inr (Or.inl (e)))))))) | exact Or.inr (Or.inr (Or.inr (Or.inr (Or.inr (Or.inr (Or.inr (Or.inr (e))))))))) (fun x k hx => by simp only [wJ_mP_read_b19, F1.r] at hx; rcases hx with e | e <;> first | exact Or.inl (e) | exact Or.inr (e))
    · refine fe_it ?_ ?_
      · exact fe_j F1 (fe_mP_read_b24 _ _ _ _ _ _ _) (fun x k hx => by simp only [wI_mP_read_b24, F1.r] at hx; rcases hx with e | e | e | e | e | e | e | e | e <;> first | exact Or.inl (e) | exact Or.inr (Or.inl (e)) | exact Or.inr (Or.inr (Or.inl (e))) | exact Or.inr (Or.inr (Or.inr (Or.inl (e)))) | exact Or.inr (Or.inr (Or.inr (Or.inr (Or.inl (e))))) | exact Or.inr (Or.inr (Or.inr (Or.inr (Or.inr (Or.inl (e)))))) | exact Or.inr (Or.inr (Or.inr (Or.inr (Or.inr (Or.inr (Or.inl (e))))))) | exact Or.inr (Or.inr (Or.inr (Or.inr (Or.inr (Or.inr (Or.inr (Or.inl (e)))))))) | exact Or.inr (Or.inr (Or.inr (Or.inr (Or.inr (Or.inr (Or.inr (Or.inr (e))))))))) (fun x k hx => by simp only [wJ_mP_read_b24, F1.r] at hx; rcases hx with e | e <;> first | exact Or.inl (e) | exact Or.inr (e))
      · exact fe_j F1 (fe_mP_read_b19 _ _ _ _ _ _) (fun x k hx => by simp only [wI_mP_read_b19, F1.r] at hx; rcases hx with e | e | e | e | e | e | e | e | e <;> first | exact Or.inl (e) | exact Or.inr (Or.inl (e)) | exact Or.inr (Or.inr (Or.inl (e))) | exact Or.inr (Or.inr (Or.inr (Or.inl (e)))) | exact Or.inr (Or.inr (Or.inr (Or.inr (Or.inl (e))))) | exact Or.inr (Or.inr (Or.inr (Or.inr (Or.inr (Or.inl (e)))))) | exact Or.inr (Or.inr (Or.inr (Or.inr (Or.inr (Or.inr (Or.inl (e))))))) | exact Or.inr (Or.inr (Or.inr (Or.inr (Or.inr (Or.inr (Or.inr (Or.inl (e)))))))) | exact Or.inr (Or.inr (Or.inr (Or.inr (Or.inr (Or.inr (Or.inr (Or.inr (e))))))))) (fun x k hx => by simp only [wJ_mP_read_b19, F1.r] at hx; rcases hx with e | e <;> first | exact Or.inl (e) | exact Or.inr (e))
def wI_mP_outs_b32 (v0 : Nat) (v1 : Int) (v2 : Int) (v4 : Int) (h : Hp) (x k : Nat) : Prop := False
def wJ_mP_outs_b32 (v0 : Nat) (v1 : Int) (v2 : Int) (v4 : Int) (h : Hp) (x k : Nat) : Prop := False
def wI_mP_outs_b18 (v0 : Nat) (v1 : Int) (s0 : Nat) (s1 : Int) (h : Hp) (x k : Nat) : Prop := (x = s0 ∧ k = 0)
def wJ_mP_outs_b18 (v0 : Nat) (v1 : Int) (s0 : Nat) (s1 : Int) (h : Hp) (x k : Nat) : Prop := False
def wI_mP_outs_b13 (v0 : Nat) (v1 : Int) (s0 : Nat) (h : Hp) (x k : Nat) : Prop := (x = s0 ∧ k = 0)
def wJ_mP_outs_b13 (v0 : Nat) (v1 : Int) (s0 : Nat) (h : Hp) (x k : Nat) : Prop := False
def wI_mP_outs (v0 : Nat) (v1 : Int) (h : Hp) (x k : Nat) : Prop := (x = v0 ∧ k = 0)
def wJ_mP_outs (v0 : Nat) (v1 : Int) (h : Hp) (x k : Nat) : Prop := False
theorem fe_mP_outs_b32 {k32 : Nat → Int → Int → Int → Hp → Option (Int × Hp)} (hk32 : ∀ (v0 : Nat) (v1 : Int) (v2 : Int) (v4 : Int) (h : Hp), Feo (wI_mP_outs_b32 v0 v1 v2 v4 h) (wJ_mP_outs_b32 v0 v1 v2 v4 h) h Prod.snd (k32 v0 v1 v2 v4 h)) (v0 : Nat) (v1 : Int) (v2 : Int) (v4 : Int) (h : Hp) : Feo (wI_mP_outs_b32 v0 v1 v2 v4 h) (wJ_mP_outs_b32 v0 v1 v2 v4 h) h Prod.snd (f_mP_outs_b32 k32 v0 v1 v2 v4 h) := by
  unfold f_mP_outs_b32
  refine fe_it ?_ ?_
  · exact fe_so Fe.rf
  · refine fe_it ?_ ?_
    · exact fe_so Fe.rf
    · refine fe_it fe_no ?_
      refine fe_it ?_ fe_no
      refine fe_v (fun y7 => ?_)
      exact fe_j Fe.rf (hk32 _ _ _ _ _) (fun x k hx => False.elim hx) (fun x k hx => False.elim hx)
theorem fe_mP_outs_b32_lp (n : Nat) : ∀ (v0 : Nat) (v1 : Int) (v2 : Int) (v4 : Int) (h : Hp), Feo (wI_mP_outs_b32 v0 v1 v2 v4 h) (wJ_mP_outs_b32 v0 v1 v2 v4 h) h Prod.snd (f_mP_outs_b32_lp n v0 v1 v2 v4 h) := by
  induction n with
  | zero => intro v0 v1 v2 v4 h; exact fe_no
  | succ n ih => intro v0 v1 v2 v4 h; exact fe_mP_outs_b32 ih v0 v1 v2 v4 h
theorem fe_mP_outs_b18 (v0 : Nat) (v1 : Int) (s0 : Nat) (s1 : Int) (h : Hp) : Feo (wI_mP_outs_b18 v0 v1 s0 s1 h) (wJ_mP_outs_b18 v0 v1 s0 s1 h) h Prod.snd (f_mP_outs_b18 v0 v1 s0 s1 h) := by
  unfold f_mP_outs_b18
  refine fe_it fe_no ?_
  refine fe_b2 Fe.rf (fe_mP_fails _ _ _ _) (fun x k hx => by simp only [wI_mP_fails] at hx; have e := hx; exact e) (fun x k hx => False.elim hx) (fun r4 h2 F1 => ?_)
  refine fe_it ?_ ?_
  · exact fe_j F1 (fe_mP_outs_b32_lp FU _ _ _ _ _) (fun x k hx => False.elim hx) (fun x k hx => False.elim hx)
  · exact fe_so F1
theorem fe_mP_outs_b13 (v0 : Nat) (v1 : Int) (s0 : Nat) (h : Hp) : Feo (wI_mP_outs_b13 v0 v1 s0 h) (wJ_mP_outs_b13 v0 v1 s0 h) h Prod.snd (f_mP_outs_b13 v0 v1 s0 h) := by
  unfold f_mP_outs_b13
  exact fe_j Fe.rf (fe_mP_outs_b18 _ _ _ _ _) (fun x k hx => by simp only [wI_mP_outs_b18] at hx; have e := hx; exact e) (fun x k hx => False.elim hx)
theorem fe_mP_outs (v0 : Nat) (v1 : Int) (h : Hp) : Feo (wI_mP_outs v0 v1 h) (wJ_mP_outs v0 v1 h) h Prod.snd (f_mP_outs v0 v1 h) := by
  unfold f_mP_outs
  refine fe_it ?_ ?_
  · exact fe_j Fe.rf (fe_mP_outs_b13 _ _ _ _) (fun x k hx => by simp only [wI_mP_outs_b13] at hx; have e := hx; exact e) (fun x k hx => False.elim hx)
  · refine fe_it ?_ ?_
    · exact fe_j Fe.rf (fe_mP_outs_b18 _ _ _ _ _) (fun x k hx => by simp only [wI_mP_outs_b18] at hx; have e := hx; exact e) (fun x k hx => False.elim hx)
    · exact fe_j Fe.rf (fe_mP_outs_b13 _ _ _ _) (fun x k hx => by simp only [wI_mP_outs_b13] at hx; have e := hx; exact e) (fun x k hx => False.elim hx)
def wI_mSide_isAlive_b16 (v0 : Nat) (h : Hp) (x k : Nat) : Prop := False
def wJ_mSide_isAlive_b16 (v0 : Nat) (h : Hp) (x k : Nat) : Prop := False
def wI_mSide_isAlive (v0 : Nat) (h : Hp) (x k : Nat) : Prop := False
def wJ_mSide_isAlive (v0 : Nat) (h : Hp) (x k : Nat) : Prop := False
theorem fe_mSide_isAlive_b16 (v0 : Nat) (h : Hp) : Feo (wI_mSide_isAlive_b16 v0 h) (wJ_mSide_isAlive_b16 v0 h) h Prod.snd (f_mSide_isAlive_b16 v0 h) := by
  unfold f_mSide_isAlive_b16
  exact fe_so Fe.rf
theorem fe_mSide_isAlive (v0 : Nat) (h : Hp) : Feo (wI_mSide_isAlive v0 h) (wJ_mSide_isAlive v0 h) h Prod.snd (f_mSide_isAlive v0 h) := by
  unfold f_mSide_isAlive
  refine fe_it ?_ ?_
  · exact fe_j Fe.rf (fe_mSide_isAlive_b16 _ _) (fun x k hx => False.elim hx) (fun x k hx => False.elim hx)
  · refine fe_it ?_ ?_
    · exact fe_so Fe.rf
    · exact fe_j Fe.rf (fe_mSide_isAlive_b16 _ _) (fun x k hx => False.elim hx) (fun x k hx => False.elim hx)
def wI_mBook_greater (v0 : Int) (v1 : Int) (h : Hp) (x k : Nat) : Prop := False
def wJ_mBook_greater (v0 : Int) (v1 : Int) (h : Hp) (x k : Nat) : Prop := False
theorem fe_mBook_greater (v0 : Int) (v1 : Int) (h : Hp) : Feo (wI_mBook_greater v0 v1 h) (wJ_mBook_greater v0 v1 h) h Prod.snd (f_mBook_greater v0 v1 h) := by
  unfold f_mBook_greater
  refine fe_it ?_ ?_
  · exact fe_so Fe.rf
  · exact fe_so Fe.rf
def wI_mBook_patience (v0 : Nat) (v1 : Int) (h : Hp) (x k : Nat) : Prop := False
def wJ_mBook_patience (v0 : Nat) (v1 : Int) (h : Hp) (x k : Nat) : Prop := False
theorem fe_mBook_patience (v0 : Nat) (v1 : Int) (h : Hp) : Feo (wI_mBook_patience v0 v1 h) (wJ_mBook_patience v0 v1 h) h Prod.snd (f_mBook_patience v0 v1 h) := by
  unfold f_mBook_patience
  refine fe_b2 Fe.rf (fe_mBook_greater _ _ _) (fun x k hx => False.elim hx) (fun x k hx => False.elim hx) (fun r3 h1 F1 => ?_)
  refine fe_it ?_ ?_
  · exact fe_so F1
  · exact fe_so F1
def wI_mSide_end (v0 : Nat) (v1 : Int) (h : Hp) (x k : Nat) : Prop := (x = v0 ∧ k = 8) ∨ (x = v0 ∧ k = 35)
def wJ_mSide_end (v0 : Nat) (v1 : Int) (h : Hp) (x k : Nat) : Prop := False
theorem fe_mSide_end (v0 : Nat) (v1 : Int) (h : Hp) : Feo (wI_mSide_end v0 v1 h) (wJ_mSide_end v0 v1 h) h id (f_mSide_end v0 v1 h) := by
  unfold f_mSide_end
  refine fe_I Fe.rf (Or.inl (⟨rfl, rfl⟩)) (fun h1 F1 => ?_)
  refine fe_it fe_no ?_
  refine fe_b2 F1 (fe_mBook_patience _ _ _) (fun x k hx => False.elim hx) (fun x k hx => False.elim hx) (fun r5 h3 F2 => ?_)
  refine fe_I F2 (Or.inr (⟨rfl, rfl⟩)) (fun h6 F3 => ?_)
  exact fe_so F3
def wI_mSide_closes_b29 (v0 : Nat) (v1 : Int) (v2 : Int) (s0 : Nat) (s1 : Int) (h : Hp) (x k : Nat) : Prop := (x = s0 ∧ k = 9) ∨ (x = v0 ∧ k = 36) ∨ (x = v0 ∧ k = 37) ∨ (x = v0 ∧ k = 38) ∨ (x = v0 ∧ k = 39)
def wJ_mSide_closes_b29 (v0 : Nat) (v1 : Int) (v2 : Int) (s0 : Nat) (s1 : Int) (h : Hp) (x k : Nat) : Prop := False
def wI_mSide_closes (v0 : Nat) (v1 : Int) (v2 : Int) (h : Hp) (x k : Nat) : Prop := (x = v0 ∧ k = 8) ∨ (x = v0 ∧ k = 9) ∨ (x = v0 ∧ k = 35) ∨ (x = v0 ∧ k = 36) ∨ (x = v0 ∧ k = 37) ∨ (x = v0 ∧ k = 38) ∨ (x = v0 ∧ k = 39)
def wJ_mSide_closes (v0 : Nat) (v1 : Int) (v2 : Int) (h : Hp) (x k : Nat) : Prop := False
theorem fe_mSide_closes_b29 (v0 : Nat) (v1 : Int) (v2 : Int) (s0 : Nat) (s1 : Int) (h : Hp) : Feo (wI_mSide_closes_b29 v0 v1 v2 s0 s1 h) (wJ_mSide_closes_b29 v0 v1 v2 s0 s1 h) h id (f_mSide_closes_b29 v0 v1 v2 s0 s1 h) := by
  unfold f_mSide_closes_b29
  refine fe_it fe_no ?_
  refine fe_I Fe.rf (Or.inl (⟨rfl, rfl⟩)) (fun h7 F1 => ?_)
  refine fe_I F1 (Or.inr (Or.inl (⟨rfl, rfl⟩))) (fun h8 F2 => ?_)
  refine fe_I F2 (Or.inr (Or.inr (Or.inl (⟨rfl, rfl⟩)))) (fun h9 F3 => ?_)
  refine fe_I F3 (Or.inr (Or.inr (Or.inr (Or.inl (⟨rfl, rfl⟩))))) (fun h10 F4 => ?_)
  refine fe_I F4 (Or.inr (Or.inr (Or.inr (Or.inr (⟨rfl, rfl⟩))))) (fun h11 F5 => ?_)
  exact fe_so F5
theorem fe_mSide_closes (v0 : Nat) (v1 : Int) (v2 : Int) (h : Hp) : Feo (wI_mSide_closes v0 v1 v2 h) (wJ_mSide_closes v0 v1 v2 h) h id (f_mSide_closes v0 v1 v2 h) := by
  unfold f_mSide_closes
  refine fe_b2 Fe.rf (fe_mSide_isAlive _ _) (fun x k hx => False.elim hx) (fun x k hx => False.elim hx) (fun r3 h1 F1 => ?_)
  refine fe_it ?_ ?_
  · refine fe_b1 F1 (fe_mSide_end _ _ _) (fun x k hx => by simp only [wI_mSide_end, F1.r] at hx; rcases hx with e | e <;> first | exact Or.inl (e) | exact Or.inr (Or.inr (Or.inl (e)))) (fun x k hx => False.elim hx) (fun h4 F2 => ?_)
    refine fe_it ?_ ?_
    · exact fe_j F2 (fe_mSide_closes_b29 _ _ _ _ _ _) (fun x k hx => by simp only [wI_mSide_closes_b29, F1.r, F2.r] at hx; rcases hx with e | e | e | e | e <;> first | exact Or.inr (Or.inl (e)) | exact Or.inr (Or.inr (Or.inr (Or.inl (e)))) | exact Or.inr (Or.inr (Or.inr (Or.inr (Or.inl (e))))) | exact Or.inr (Or.inr (Or.inr (Or.inr (Or.inr (Or.inl (e)))))) | exact Or.inr (Or.inr (Or.inr (Or.inr (Or.inr (Or.inr (e))))))) (fun x k hx => False.elim hx)
    · exact fe_j F2 (fe_mSide_closes_b29 _ _ _ _ _ _) (fun x k hx => by simp only [wI_mSide_closes_b29, F1.r, F2.r] at hx; rcases hx with e | e | e | e | e <;> first | exact Or.inr (Or.inl (e)) | exact Or.inr (Or.inr (Or.inr (Or.inl (e)))) | exact Or.inr (Or.inr (Or.inr (Or.inr (Or.inl (e))))) | exact Or.inr (Or.inr (Or.inr (Or.inr (Or.inr (Or.inl (e)))))) | exact Or.inr (Or.inr (Or.inr (Or.inr (Or.inr (Or.inr (e))))))) (fun x k hx => False.elim hx)
  · exact fe_so F1
def wI_mP_close_b24 (v0 : Nat) (v1 : Int) (v2 : Int) (s0 : Nat) (s1 : Int) (h : Hp) (x k : Nat) : Prop := (x = (hR h (hR h v0 7) v1.toNat) ∧ k = 8) ∨ (x = (hR h (hR h v0 7) v1.toNat) ∧ k = 9) ∨ (x = (hR h (hR h v0 7) v1.toNat) ∧ k = 35) ∨ (x = (hR h (hR h v0 7) v1.toNat) ∧ k = 36) ∨ (x = (hR h (hR h v0 7) v1.toNat) ∧ k = 37) ∨ (x = (hR h (hR h v0 7) v1.toNat) ∧ k = 38) ∨ (x = (hR h (hR h v0 7) v1.toNat) ∧ k = 39) ∨ (x = s0 ∧ k = 0)
def wJ_mP_close_b24 (v0 : Nat) (v1 : Int) (v2 : Int) (s0 : Nat) (s1 : Int) (h : Hp) (x k : Nat) : Prop := False
def wI_mP_close_b19 (v0 : Nat) (v1 : Int) (v2 : Int) (s0 : Nat) (h : Hp) (x k : Nat) : Prop := (x = (hR h (hR h v0 7) v1.toNat) ∧ k = 8) ∨ (x = (hR h (hR h v0 7) v1.toNat) ∧ k = 9) ∨ (x = (hR h (hR h v0 7) v1.toNat) ∧ k = 35) ∨ (x = (hR h (hR h v0 7) v1.toNat) ∧ k = 36) ∨ (x = (hR h (hR h v0 7) v1.toNat) ∧ k = 37) ∨ (x = (hR h (hR h v0 7) v1.toNat) ∧ k = 38) ∨ (x = (hR h (hR h v0 7) v1.toNat) ∧ k = 39) ∨ (x = s0 ∧ k = 0)
def wJ_mP_close_b19 (v0 : Nat) (v1 : Int) (v2 : Int) (s0 : Nat) (h : Hp) (x k : Nat) : Prop := False
def wI_mP_close (v0 : Nat) (v1 : Int) (v2 : Int) (h : Hp) (x k : Nat) : Prop := (x = (hR h (hR h v0 7) v1.toNat) ∧ k = 8) ∨ (x = (hR h (hR h v0 7) v1.toNat) ∧ k = 9) ∨ (x = (hR h (hR h v0 7) v1.toNat) ∧ k = 35) ∨ (x = (hR h (hR h v0 7) v1.toNat) ∧ k = 36) ∨ (x = (hR h (hR h v0 7) v1.toNat) ∧ k = 37) ∨ (x = (hR h (hR h v0 7) v1.toNat) ∧ k = 38) ∨ (x = (hR h (hR h v0 7) v1.toNat) ∧ k = 39) ∨ (x = v0 ∧ k = 0)
def wJ_mP_close (v0 : Nat) (v1 : Int) (v2 : Int) (h : Hp) (x k : Nat) : Prop := False
theorem fe_mP_close_b24 (v0 : Nat) (v1 : Int) (v2 : Int) (s0 : Nat) (s1 : Int) (h : Hp) : Feo (wI_mP_close_b24 v0 v1 v2 s0 s1 h) (wJ_mP_close_b24 v0 v1 v2 s0 s1 h) h Prod.snd (f_mP_close_b24 v0 v1 v2 s0 s1 h) := by
  unfold f_mP_close_b24
  refine fe_it fe_no ?_
  refine fe_b2 Fe.rf (fe_mP_fails _ _ _ _) (fun x k hx => by simp only [wI_mP_fails] at hx; have e := hx; exact Or.inr (Or.inr (Or.inr (Or.inr (Or.inr (Or.inr (Or.inr (e)))))))) (fun x k hx => False.elim hx) (fun r7 h5 F1 => ?_)
  refine fe_it ?_ ?_
  · exact fe_so F1
  · refine fe_it fe_no ?_
    refine fe_it ?_ fe_no
    refine fe_it fe_no ?_
    refine fe_b2 F1 (fe_mSide_isAlive _ _) (fun x k hx => False.elim hx) (fun x k hx => False.elim hx) (fun r13 h11 F2 => ?_)
    refine fe_it ?_ ?_
    · refine fe_it fe_no ?_
      refine fe_it ?_ fe_no
      refine fe_it fe_no ?_
      refine fe_b1 F2 (fe_mSide_closes _ _ _ _) (fun x k hx => by simp only [wI_mSide_closes, F1.r, F2.r] at hx; rcases hx with e | e | e | e | e | e | e <;> first | exact Or.inl (e) | exact Or.inr (Or.inl (e)) | exact Or.inr (Or.inr (Or.inl (e))) | exact Or.inr (Or.inr (Or.inr (Or.inl (e)))) | exact Or.inr (Or.inr (Or.inr (Or.inr (Or.inl (e))))) | exact Or.inr (Or.inr (Or.inr (Or.inr (Or.inr (Or.inl (e)))))) | exact Or.inr (Or.inr (Or.inr (Or.inr (Or.inr (Or.inr (Or.inl (e)))))))) (fun x k hx => False.elim hx) (fun h17 F3 => ?_)
      exact fe_so F3
    · exact fe_so F2
theorem fe_mP_close_b19 (v0 : Nat) (v1 : Int) (v2 : Int) (s0 : Nat) (h : Hp) : Feo (wI_mP_close_b19 v0 v1 v2 s0 h) (wJ_mP_close_b19 v0 v1 v2 s0 h) h Prod.snd (f_mP_close_b19 v0 v1 v2 s0 h) := by
  unfold f_mP_close_b19
  exact fe_j Fe.rf (fe_mP_close_b24 _ _ _ _ _ _) (fun x k hx => by simp only [wI_mP_close_b24] at hx; rcases hx with e | e | e | e | e | e | e | e <;> first | exact Or.inl (e) | exact Or.inr (Or.inl (e)) | exact Or.inr (Or.inr (Or.inl (e))) | exact Or.inr (Or.inr (Or.inr (Or.inl (e)))) | exact Or.inr (Or.inr (Or.inr (Or.inr (Or.inl (e))))) | exact Or.inr (Or.inr (Or.inr (Or.inr (Or.inr (Or.inl (e)))))) | exact Or.inr (Or.inr (Or.inr (Or.inr (Or.inr (Or.inr (Or.inl (e))))))) | exact Or.inr (Or.inr (Or.inr (Or.inr (Or.inr (Or.inr (Or.inr (e)))))))) (fun x k hx => False.elim hx)
theorem fe_mP_close (v0 : Nat) (v1 : Int) (v2 : Int) (h : Hp) : Feo (wI_mP_close v0 v1 v2 h) (wJ_mP_close v0 v1 v2 h) h Prod.snd (f_mP_close v0 v1 v2 h) := by
  unfold f_mP_close
  refine fe_b2 Fe.rf (fe_mP_no _ _) (fun x k hx => False.elim hx) (fun x k hx => False.elim hx) (fun r3 h1 F1 => ?_)
  refine fe_it ?_ ?_
  · exact fe_j F1 (fe_mP_close_b19 _ _ _ _ _) (fun x k hx => by simp only [wI_mP_close_b19, F1.r] at hx; rcases hx with e | e | e | e | e | e | e | e <;> first | exact Or.inl (e) | exact Or.inr (Or.inl (e)) | exact Or.inr (Or.inr (Or.inl (e))) | exact Or.inr (Or.inr (Or.inr (Or.inl (e)))) | exact Or.inr (Or.inr (Or.inr (Or.inr (Or.inl (e))))) | exact Or.inr (Or.inr (Or.inr (Or.inr (Or.inr (Or.inl (e)))))) | exact Or.inr (Or.inr (Or.inr (Or.inr (Or.inr (Or.inr (Or.inl (e))))))) | exact Or.inr (Or.inr (Or.inr (Or.inr (Or.inr (Or.inr (Or.inr (e)))))))) (fun x k hx => False.elim hx)
  · refine fe_it ?_ ?_
    · exact fe_j F1 (fe_mP_close_b19 _ _ _ _ _) (fun x k hx => by simp only [wI_mP_close_b19, F1.r] at hx; rcases hx with e | e | e | e | e | e | e | e <;> first | exact Or.inl (e) | exact Or.inr (Or.inl (e)) | exact Or.inr (Or.inr (Or.inl (e))) | exact Or.inr (Or.inr (Or.inr (Or.inl (e)))) | exact Or.inr (Or.inr (Or.inr (Or.inr (Or.inl (e))))) | exact Or.inr (Or.inr (Or.inr (Or.inr (Or.inr (Or.inl (e)))))) | exact Or.inr (Or.inr (Or.inr (Or.inr (Or.inr (Or.inr (Or.inl (e))))))) | exact Or.inr (Or.inr (Or.inr (Or.inr (Or.inr (Or.inr (Or.inr (e)))))))) (fun x k hx => False.elim hx)
    · refine fe_it ?_ ?_
      · exact fe_j F1 (fe_mP_close_b24 _ _ _ _ _ _) (fun x k hx => by simp only [wI_mP_close_b24, F1.r] at hx; rcases hx with e | e | e | e | e | e | e | e <;> first | exact Or.inl (e) | exact Or.inr (Or.inl (e)) | exact Or.inr (Or.inr (Or.inl (e))) | exact Or.inr (Or.inr (Or.inr (Or.inl (e)))) | exact Or.inr (Or.inr (Or.inr (Or.inr (Or.inl (e))))) | exact Or.inr (Or.inr (Or.inr (Or.inr (Or.inr (Or.inl (e)))))) | exact Or.inr (Or.inr (Or.inr (Or.inr (Or.inr (Or.inr (Or.inl (e))))))) | exact Or.inr (Or.inr (Or.inr (Or.inr (Or.inr (Or.inr (Or.inr (e)))))))) (fun x k hx => False.elim hx)
      · exact fe_j F1 (fe_mP_close_b19 _ _ _ _ _) (fun x k hx => by simp only [wI_mP_close_b19, F1.r] at hx; rcases hx with e | e | e | e | e | e | e | e <;> first | exact Or.inl (e) | exact Or.inr (Or.inl (e)) | exact Or.inr (Or.inr (Or.inl (e))) | exact Or.inr (Or.inr (Or.inr (Or.inl (e)))) | exact Or.inr (Or.inr (Or.inr (Or.inr (Or.inl (e))))) | exact Or.inr (Or.inr (Or.inr (Or.inr (Or.inr (Or.inl (e)))))) | exact Or.inr (Or.inr (Or.inr (Or.inr (Or.inr (Or.inr (Or.inl (e))))))) | exact Or.inr (Or.inr (Or.inr (Or.inr (Or.inr (Or.inr (Or.inr (e)))))))) (fun x k hx => False.elim hx)
def wI_mP_raw_b74 (v0 : Nat) (v2 : Nat) (v3 : Int) (h : Hp) (x k : Nat) : Prop := x = hR h v2 42 ∨ (x = v0 ∧ k = 2) ∨ (x = v2 ∧ k = 43)
def wJ_mP_raw_b74 (v0 : Nat) (v2 : Nat) (v3 : Int) (h : Hp) (x k : Nat) : Prop := False
def wI_mP_raw_b57 (v0 : Nat) (v1 : Int) (s0 : Nat) (s1 : Int) (h : Hp) (x k : Nat) : Prop := (x = (hR h (hR h v0 7) v1.toNat) ∧ k = 43) ∨ x = hR h (hR h (hR h v0 7) v1.toNat) 42 ∨ (x = s0 ∧ k = 0) ∨ (x = v0 ∧ k = 2)
def wJ_mP_raw_b57 (v0 : Nat) (v1 : Int) (s0 : Nat) (s1 : Int) (h : Hp) (x k : Nat) : Prop := False
def wI_mP_raw_b31 (v0 : Nat) (v1 : Int) (s0 : Nat) (s1 : Int) (h : Hp) (x k : Nat) : Prop := (x = (hR h (hR h v0 7) v1.toNat) ∧ k = 43) ∨ x = hR h (hR h (hR h v0 7) v1.toNat) 42 ∨ (x = s0 ∧ k = 0) ∨ (x = v0 ∧ k = 0) ∨ (x = v0 ∧ k = 2)
def wJ_mP_raw_b31 (v0 : Nat) (v1 : Int) (s0 : Nat) (s1 : Int) (h : Hp) (x k : Nat) : Prop := False
def wI_mP_raw_b26 (v0 : Nat) (v1 : Int) (s0 : Nat) (h : Hp) (x k : Nat) : Prop := (x = (hR h (hR h v0 7) v1.toNat) ∧ k = 43) ∨ x = hR h (hR h (hR h v0 7) v1.toNat) 42 ∨ (x = s0 ∧ k = 0) ∨ (x = v0 ∧ k = 0) ∨ (x = v0 ∧ k = 2)
def wJ_mP_raw_b26 (v0 : Nat) (v1 : Int) (s0 : Nat) (h : Hp) (x k : Nat) : Prop := False
def wI_mP_raw (v0 : Nat) (v1 : Int) (h : Hp) (x k : Nat) : Prop := (x = (hR h (hR h v0 7) v1.toNat) ∧ k = 43) ∨ x = hR h (hR h (hR h v0 7) v1.toNat) 42 ∨ (x = v0 ∧ k = 0) ∨ (x = v0 ∧ k = 2)
def wJ_mP_raw (v0 : Nat) (v1 : Int) (h : Hp) (x k : Nat) : Prop := False
theorem fe_mP_raw_b74 {k74 : Nat → Nat → Int → Hp → Option (Hp)} (hk74 : ∀ (v0 : Nat) (v2 : Nat) (v3 : Int) (h : Hp), Feo (wI_mP_raw_b74 v0 v2 v3 h) (wJ_mP_raw_b74 v0 v2 v3 h) h id (k74 v0 v2 v3 h)) (v0 : Nat) (v2 : Nat) (v3 : Int) (h : Hp) : Feo (wI_mP_raw_b74 v0 v2 v3 h) (wJ_mP_raw_b74 v0 v2 v3 h) h id (f_mP_raw_b74 k74 v0 v2 v3 h) := by
  unfold f_mP_raw_b74
  refine fe_it ?_ ?_
  · refine fe_it fe_no ?_
    refine fe_I Fe.rf (Or.inr (Or.inr (⟨rfl, rfl⟩))) (fun h19 F1 => ?_)
    refine fe_I F1 (Or.inr (Or.inl (⟨rfl, rfl⟩))) (fun h20 F2 => ?_)
    exact fe_so F2
  · refine fe_it fe_no ?_
    refine fe_it fe_no ?_
    refine fe_it ?_ fe_no
    refine fe_it fe_no ?_
    refine fe_it ?_ fe_no
    refine fe_I Fe.rf (Or.inl (rfl)) (fun h26 F3 => ?_)
    exact fe_j F3 (hk74 _ _ _ _) (fun x k hx => by simp only [wI_mP_raw_b74, F3.r] at hx; rcases hx with e | e | e <;> first | exact Or.inl (e) | exact Or.inr (Or.inl (e)) | exact Or.inr (Or.inr (e))) (fun x k hx => False.elim hx)
theorem fe_mP_raw_b74_lp (n : Nat) : ∀ (v0 : Nat) (v2 : Nat) (v3 : Int) (h : Hp), Feo (wI_mP_raw_b74 v0 v2 v3 h) (wJ_mP_raw_b74 v0 v2 v3 h) h id (f_mP_raw_b74_lp n v0 v2 v3 h) := by
  induction n with
  | zero => intro v0 v2 v3 h; exact fe_no
  | succ n ih => intro v0 v2 v3 h; exact fe_mP_raw_b74 ih v0 v2 v3 h
theorem fe_mP_raw_b57 (v0 : Nat) (v1 : Int) (s0 : Nat) (s1 : Int) (h : Hp) : Feo (wI_mP_raw_b57 v0 v1 s0 s1 h) (wJ_mP_raw_b57 v0 v1 s0 s1 h) h id (f_mP_raw_b57 v0 v1 s0 s1 h) := by
  unfold f_mP_raw_b57
  refine fe_it fe_no ?_
  refine fe_b2 Fe.rf (fe_mP_fails _ _ _ _) (fun x k hx => by simp only [wI_mP_fails] at hx; have e := hx; exact Or.inr (Or.inr (Or.inl (e)))) (fun x k hx => False.elim hx) (fun r14 h12 F1 => ?_)
  refine fe_it ?_ ?_
  · refine fe_it fe_no ?_
    refine fe_it ?_ fe_no
    refine fe_l ?_
    exact fe_j F1 (fe_mP_raw_b74_lp FU _ _ _ _) (fun x k hx => by simp only [wI_mP_raw_b74, F1.r] at hx; rcases hx with e | e | e <;> first | exact Or.inl (e) | exact Or.inr (Or.inl (e)) | exact Or.inr (Or.inr (Or.inr (e)))) (fun x k hx => False.elim hx)
  · exact fe_so F1
theorem fe_mP_raw_b31 (v0 : Nat) (v1 : Int) (s0 : Nat) (s1 : Int) (h : Hp) : Feo (wI_mP_raw_b31 v0 v1 s0 s1 h) (wJ_mP_raw_b31 v0 v1 s0 s1 h) h id (f_mP_raw_b31 v0 v1 s0 s1 h) := by
  unfold f_mP_raw_b31
  refine fe_it fe_no ?_
  refine fe_b2 Fe.rf (fe_mP_fails _ _ _ _) (fun x k hx => by simp only [wI_mP_fails] at hx; have e := hx; exact Or.inr (Or.inr (Or.inl (e)))) (fun x k hx => False.elim hx) (fun r7 h5 F1 => ?_)
  refine fe_it ?_ ?_
  · exact fe_so F1
  · refine fe_it fe_no ?_
    refine fe_it ?_ fe_no
    refine fe_it fe_no ?_
    refine fe_it ?_ ?_
    · exact fe_j F1 (fe_mP_raw_b57 _ _ _ _ _) (fun x k hx => by simp only [wI_mP_raw_b57, F1.r] at hx; rcases hx with e | e | e | e <;> first | exact Or.inl (e) | exact Or.inr (Or.inl (e)) | exact Or.inr (Or.inr (Or.inr (Or.inl (e)))) | exact Or.inr (Or.inr (Or.inr (Or.inr (e))))) (fun x k hx => False.elim hx)
    · exact fe_j F1 (fe_mP_raw_b57 _ _ _ _ _) (fun x k hx => by simp only [wI_mP_raw_b57, F1.r] at hx; rcases hx with e | e | e | e <;> first | exact Or.inl (e) | exact Or.inr (Or.inl (e)) | exact Or.inr (Or.inr (Or.inr (Or.inl (e)))) | exact Or.inr (Or.inr (Or.inr (Or.inr (e))))) (fun x k hx => False.elim hx)
theorem fe_mP_raw_b26 (v0 : Nat) (v1 : Int) (s0 : Nat) (h : Hp) : Feo (wI_mP_raw_b26 v0 v1 s0 h) (wJ_mP_raw_b26 v0 v1 s0 h) h id (f_mP_raw_b26 v0 v1 s0 h) := by
  unfold f_mP_raw_b26
  exact fe_j Fe.rf (fe_mP_raw_b31 _ _ _ _ _) (fun x k hx => by simp only [wI_mP_raw_b31] at hx; rcases hx with e | e | e | e | e <;> first | exact Or.inl (e) | exact Or.inr (Or.inl (e)) | exact Or.inr (Or.inr (Or.inl (e))) | exact Or.inr (Or.inr (Or.inr (Or.inl (e)))) | exact Or.inr (Or.inr (Or.inr (Or.inr (e))))) (fun x k hx => False.elim hx)
theorem fe_mP_raw (v0 : Nat) (v1 : Int) (h : Hp) : Feo (wI_mP_raw v0 v1 h) (wJ_mP_raw v0 v1 h) h id (f_mP_raw v0 v1 h) := by
  unfold f_mP_raw
  refine fe_b2 Fe.rf (fe_mP_no _ _) (fun x k hx => False.elim hx) (fun x k hx => False.elim hx) (fun r3 h1 F1 => ?_)
  refine fe_it ?_ ?_
  · exact fe_j F1 (fe_mP_raw_b26 _ _ _ _) (fun x k hx => by simp only [wI_mP_raw_b26, F1.r] at hx; rcases hx with e | e | e | e | e <;> first | exact Or.inl (e) | exact Or.inr (Or.inl (e)) | exact Or.inr (Or.inr (Or.inl (e))) | exact Or.inr (Or.inr (Or.inr (e)))) (fun x k hx => False.elim hx)
  · refine fe_it ?_ ?_
    · exact fe_j F1 (fe_mP_raw_b26 _ _ _ _) (fun x k hx => by simp only [wI_mP_raw_b26, F1.r] at hx; rcases hx with e | e | e | e | e <;> first | exact Or.inl (e) | exact Or.inr (Or.inl (e)) | exact Or.inr (Or.inr (Or.inl (e))) | exact Or.inr (Or.inr (Or.inr (e)))) (fun x k hx => False.elim hx)
    · refine fe_it ?_ ?_
      · exact fe_j F1 (fe_mP_raw_b31 _ _ _ _ _) (fun x k hx => by simp only [wI_mP_raw_b31, F1.r] at hx; rcases hx with e | e | e | e | e <;> first | exact Or.inl (e) | exact Or.inr (Or.inl (e)) | exact Or.inr (Or.inr (Or.inl (e))) | exact Or.inr (Or.inr (Or.inr (e)))) (fun x k hx => False.elim hx)
      · exact fe_j F1 (fe_mP_raw_b26 _ _ _ _) (fun x k hx => by simp only [wI_mP_raw_b26, F1.r] at hx; rcases hx with e | e | e | e | e <;> first | exact Or.inl (e) | exact Or.inr (Or.inl (e)) | exact Or.inr (Or.inr (Or.inl (e))) | exact Or.inr (Or.inr (Or.inr (e)))) (fun x k hx => False.elim hx)
def wI_mP_place (v0 : Nat) (v1 : Int) (v2 : Int) (h : Hp) (x k : Nat) : Prop := False
def wJ_mP_place (v0 : Nat) (v1 : Int) (v2 : Int) (h : Hp) (x k : Nat) : Prop := False
theorem fe_mP_place (v0 : Nat) (v1 : Int) (v2 : Int) (h : Hp) : Feo (wI_mP_place v0 v1 v2 h) (wJ_mP_place v0 v1 v2 h) h Prod.snd (f_mP_place v0 v1 v2 h) := by
  unfold f_mP_place
  refine fe_it fe_no ?_
  refine fe_it ?_ fe_no
  exact fe_so Fe.rf
def wI_mP_lies_b82 (v0 : Nat) (v1 : Int) (v2 : Nat) (v3 : Int) (v5 : Int) (v6 : Int) (h : Hp) (x k : Nat) : Prop := x = hR h v0 10 ∨ x = hR h v0 11 ∨ x = hR h v0 15
def wJ_mP_lies_b82 (v0 : Nat) (v1 : Int) (v2 : Nat) (v3 : Int) (v5 : Int) (v6 : Int) (h : Hp) (x k : Nat) : Prop := False
def wI_mP_lies_b38 (v0 : Nat) (v1 : Int) (v2 : Nat) (v3 : Int) (v4 : Int) (v5 : Int) (h : Hp) (x k : Nat) : Prop := x = hR h v0 10 ∨ x = hR h v0 11 ∨ x = hR h v0 12 ∨ x = hR h v0 13 ∨ x = hR h v0 14 ∨ x = hR h v0 15
def wJ_mP_lies_b38 (v0 : Nat) (v1 : Int) (v2 : Nat) (v3 : Int) (v4 : Int) (v5 : Int) (h : Hp) (x k : Nat) : Prop := False
def wI_mP_lies (v0 : Nat) (v1 : Int) (v2 : Nat) (v3 : Int) (v4 : Int) (h : Hp) (x k : Nat) : Prop := x = hR h v0 10 ∨ x = hR h v0 11 ∨ x = hR h v0 12 ∨ x = hR h v0 13 ∨ x = hR h v0 14 ∨ x = hR h v0 15 ∨ x = hR h v0 16 ∨ x = hR h v0 17
def wJ_mP_lies (v0 : Nat) (v1 : Int) (v2 : Nat) (v3 : Int) (v4 : Int) (h : Hp) (x k : Nat) : Prop := False
theorem fe_mP_lies_b82 {k82 : Nat → Int → Nat → Int → Int → Int → Hp → Option (Hp)} (hk82 : ∀ (v0 : Nat) (v1 : Int) (v2 : Nat) (v3 : Int) (v5 : Int) (v6 : Int) (h : Hp), Feo (wI_mP_lies_b82 v0 v1 v2 v3 v5 v6 h) (wJ_mP_lies_b82 v0 v1 v2 v3 v5 v6 h) h id (k82 v0 v1 v2 v3 v5 v6 h)) (v0 : Nat) (v1 : Int) (v2 : Nat) (v3 : Int) (v5 : Int) (v6 : Int) (h : Hp) : Feo (wI_mP_lies_b82 v0 v1 v2 v3 v5 v6 h) (wJ_mP_lies_b82 v0 v1 v2 v3 v5 v6 h) h id (f_mP_lies_b82 k82 v0 v1 v2 v3 v5 v6 h) := by
  unfold f_mP_lies_b82
  refine fe_it ?_ ?_
  · refine fe_it fe_no ?_
    refine fe_it ?_ fe_no
    refine fe_it fe_no ?_
    refine fe_it ?_ fe_no
    refine fe_I Fe.rf (Or.inr (Or.inl (rfl))) (fun h26 F1 => ?_)
    refine fe_it fe_no ?_
    refine fe_it ?_ fe_no
    refine fe_it ?_ fe_no
    refine fe_I F1 (Or.inl ((by first | (simp only [F1.r]; exact rfl) | simp only [F1.r]))) (fun h30 F2 => ?_)
    exact fe_so F2
  · refine fe_it fe_no ?_
    refine fe_it ?_ fe_no
    refine fe_it fe_no ?_
    refine fe_it ?_ fe_no
    refine fe_I Fe.rf (Or.inr (Or.inr (rfl))) (fun h35 F3 => ?_)
    exact fe_j F3 (hk82 _ _ _ _ _ _ _) (fun x k hx => by simp only [wI_mP_lies_b82, F3.r] at hx; rcases hx with e | e | e <;> first | exact Or.inl (e) | exact Or.inr (Or.inl (e)) | exact Or.inr (Or.inr (e))) (fun x k hx => False.elim hx)
theorem fe_mP_lies_b82_lp (n : Nat) : ∀ (v0 : Nat) (v1 : Int) (v2 : Nat) (v3 : Int) (v5 : Int) (v6 : Int) (h : Hp), Feo (wI_mP_lies_b82 v0 v1 v2 v3 v5 v6 h) (wJ_mP_lies_b82 v0 v1 v2 v3 v5 v6 h) h id (f_mP_lies_b82_lp n v0 v1 v2 v3 v5 v6 h) := by
  induction n with
  | zero => intro v0 v1 v2 v3 v5 v6 h; exact fe_no
  | succ n ih => intro v0 v1 v2 v3 v5 v6 h; exact fe_mP_lies_b82 ih v0 v1 v2 v3 v5 v6 h
theorem fe_mP_lies_b38 {k38 : Nat → Int → Nat → Int → Int → Int → Hp → Option (Hp)} (hk38 : ∀ (v0 : Nat) (v1 : Int) (v2 : Nat) (v3 : Int) (v4 : Int) (v5 : Int) (h : Hp), Feo (wI_mP_lies_b38 v0 v1 v2 v3 v4 v5 h) (wJ_mP_lies_b38 v0 v1 v2 v3 v4 v5 h) h id (k38 v0 v1 v2 v3 v4 v5 h)) (v0 : Nat) (v1 : Int) (v2 : Nat) (v3 : Int) (v4 : Int) (v5 : Int) (h : Hp) : Feo (wI_mP_lies_b38 v0 v1 v2 v3 v4 v5 h) (wJ_mP_lies_b38 v0 v1 v2 v3 v4 v5 h) h id (f_mP_lies_b38 k38 v0 v1 v2 v3 v4 v5 h) := by
  unfold f_mP_lies_b38
  refine fe_it fe_no ?_
  refine fe_it ?_ fe_no
  refine fe_it ?_ ?_
  · refine fe_it ?_ fe_no
    refine fe_I Fe.rf (Or.inr (Or.inr (Or.inl (rfl)))) (fun h15 F1 => ?_)
    refine fe_it fe_no ?_
    refine fe_it ?_ fe_no
    refine fe_I F1 (Or.inr (Or.inr (Or.inr (Or.inl ((by first | (simp only [F1.r]; exact rfl) | simp only [F1.r])))))) (fun h18 F2 => ?_)
    refine fe_it fe_no ?_
    refine fe_it ?_ fe_no
    refine fe_I F2 (Or.inr (Or.inr (Or.inr (Or.inr (Or.inl ((by first | (simp only [F1.r, F2.r]; exact rfl) | simp only [F1.r, F2.r]))))))) (fun h21 F3 => ?_)
    exact fe_j F3 (fe_mP_lies_b82_lp FU _ _ _ _ _ _ _) (fun x k hx => by simp only [wI_mP_lies_b82, F1.r, F2.r, F3.r] at hx; rcases hx with e | e | e <;> first | exact Or.inl (e) | exact Or.inr (Or.inl (e)) | exact Or.inr (Or.inr (Or.inr (Or.inr (Or.inr (e)))))) (fun x k hx => False.elim hx)
  · exact fe_j Fe.rf (hk38 _ _ _ _ _ _ _) (fun x k hx => by simp only [wI_mP_lies_b38] at hx; rcases hx with e | e | e | e | e | e <;> first | exact Or.inl (e) | exact Or.inr (Or.inl (e)) | exact Or.inr (Or.inr (Or.inl (e))) | exact Or.inr (Or.inr (Or.inr (Or.inl (e)))) | exact Or.inr (Or.inr (Or.inr (Or.inr (Or.inl (e))))) | exact Or.inr (Or.inr (Or.inr (Or.inr (Or.inr (e)))))) (fun x k hx => False.elim hx)
theorem fe_mP_lies_b38_lp (n : Nat) : ∀ (v0 : Nat) (v1 : Int) (v2 : Nat) (v3 : Int) (v4 : Int) (v5 : Int) (h : Hp), Feo (wI_mP_lies_b38 v0 v1 v2 v3 v4 v5 h) (wJ_mP_lies_b38 v0 v1 v2 v3 v4 v5 h) h id (f_mP_lies_b38_lp n v0 v1 v2 v3 v4 v5 h) := by
  induction n with
  | zero => intro v0 v1 v2 v3 v4 v5 h; exact fe_no
  | succ n ih => intro v0 v1 v2 v3 v4 v5 h; exact fe_mP_lies_b38 ih v0 v1 v2 v3 v4 v5 h
theorem fe_mP_lies (v0 : Nat) (v1 : Int) (v2 : Nat) (v3 : Int) (v4 : Int) (h : Hp) : Feo (wI_mP_lies v0 v1 v2 v3 v4 h) (wJ_mP_lies v0 v1 v2 v3 v4 h) h id (f_mP_lies v0 v1 v2 v3 v4 h) := by
  unfold f_mP_lies
  refine fe_it fe_no ?_
  refine fe_it ?_ fe_no
  refine fe_it ?_ fe_no
  refine fe_I Fe.rf (Or.inr (Or.inr (Or.inr (Or.inr (Or.inr (Or.inr (Or.inl (rfl)))))))) (fun h4 F1 => ?_)
  refine fe_it fe_no ?_
  refine fe_it ?_ fe_no
  refine fe_it ?_ ?_
  · refine fe_v (fun y7 => ?_)
    exact fe_j F1 (fe_mP_lies_b38_lp FU _ _ _ _ _ _ _) (fun x k hx => by simp only [wI_mP_lies_b38, F1.r] at hx; rcases hx with e | e | e | e | e | e <;> first | exact Or.inl (e) | exact Or.inr (Or.inl (e)) | exact Or.inr (Or.inr (Or.inl (e))) | exact Or.inr (Or.inr (Or.inr (Or.inl (e)))) | exact Or.inr (Or.inr (Or.inr (Or.inr (Or.inl (e))))) | exact Or.inr (Or.inr (Or.inr (Or.inr (Or.inr (Or.inl (e))))))) (fun x k hx => False.elim hx)
  · refine fe_it fe_no ?_
    refine fe_it ?_ fe_no
    refine fe_it ?_ fe_no
    refine fe_I F1 (Or.inr (Or.inr (Or.inr (Or.inr (Or.inr (Or.inr (Or.inr ((by first | (simp only [F1.r]; exact rfl) | simp only [F1.r]))))))))) (fun h11 F2 => ?_)
    exact fe_so F2
def wI_mP_lift_b10 (v0 : Nat) (v3 : Int) (v4 : Int) (h : Hp) (x k : Nat) : Prop := x = hR h v0 18
def wJ_mP_lift_b10 (v0 : Nat) (v3 : Int) (v4 : Int) (h : Hp) (x k : Nat) : Prop := False
def wI_mP_lift (v0 : Nat) (v1 : Int) (v2 : Int) (h : Hp) (x k : Nat) : Prop := x = hR h v0 18
def wJ_mP_lift (v0 : Nat) (v1 : Int) (v2 : Int) (h : Hp) (x k : Nat) : Prop := False
theorem fe_mP_lift_b10 {k10 : Nat → Int → Int → Hp → Option (Hp)} (hk10 : ∀ (v0 : Nat) (v3 : Int) (v4 : Int) (h : Hp), Feo (wI_mP_lift_b10 v0 v3 v4 h) (wJ_mP_lift_b10 v0 v3 v4 h) h id (k10 v0 v3 v4 h)) (v0 : Nat) (v3 : Int) (v4 : Int) (h : Hp) : Feo (wI_mP_lift_b10 v0 v3 v4 h) (wJ_mP_lift_b10 v0 v3 v4 h) h id (f_mP_lift_b10 k10 v0 v3 v4 h) := by
  unfold f_mP_lift_b10
  refine fe_it fe_no ?_
  refine fe_it ?_ fe_no
  refine fe_it ?_ ?_
  · exact fe_so Fe.rf
  · refine fe_it fe_no ?_
    refine fe_it ?_ fe_no
    refine fe_it fe_no ?_
    refine fe_it ?_ fe_no
    refine fe_I Fe.rf (rfl) (fun h10 F1 => ?_)
    exact fe_j F1 (hk10 _ _ _ _) (fun x k hx => by simp only [wI_mP_lift_b10, F1.r] at hx; have e := hx; exact e) (fun x k hx => False.elim hx)
theorem fe_mP_lift_b10_lp (n : Nat) : ∀ (v0 : Nat) (v3 : Int) (v4 : Int) (h : Hp), Feo (wI_mP_lift_b10 v0 v3 v4 h) (wJ_mP_lift_b10 v0 v3 v4 h) h id (f_mP_lift_b10_lp n v0 v3 v4 h) := by
  induction n with
  | zero => intro v0 v3 v4 h; exact fe_no
  | succ n ih => intro v0 v3 v4 h; exact fe_mP_lift_b10 ih v0 v3 v4 h
theorem fe_mP_lift (v0 : Nat) (v1 : Int) (v2 : Int) (h : Hp) : Feo (wI_mP_lift v0 v1 v2 h) (wJ_mP_lift v0 v1 v2 h) h id (f_mP_lift v0 v1 v2 h) := by
  unfold f_mP_lift
  refine fe_b2 Fe.rf (fe_mP_place _ _ _ _) (fun x k hx => False.elim hx) (fun x k hx => False.elim hx) (fun r3 h1 F1 => ?_)
  exact fe_j F1 (fe_mP_lift_b10_lp FU _ _ _ _) (fun x k hx => by simp only [wI_mP_lift_b10, F1.r] at hx; have e := hx; exact e) (fun x k hx => False.elim hx)
def wI_mP_remove_b27 (v0 : Nat) (v1 : Int) (v3 : Int) (v4 : Int) (h : Hp) (x k : Nat) : Prop := x = hR h v0 11
def wJ_mP_remove_b27 (v0 : Nat) (v1 : Int) (v3 : Int) (v4 : Int) (h : Hp) (x k : Nat) : Prop := False
def wI_mP_remove (v0 : Nat) (v1 : Int) (v2 : Int) (h : Hp) (x k : Nat) : Prop := x = hR h v0 10 ∨ x = hR h v0 11 ∨ x = hR h v0 12
def wJ_mP_remove (v0 : Nat) (v1 : Int) (v2 : Int) (h : Hp) (x k : Nat) : Prop := False
theorem fe_mP_remove_b27 {k27 : Nat → Int → Int → Int → Hp → Option (Int × Hp)} (hk27 : ∀ (v0 : Nat) (v1 : Int) (v3 : Int) (v4 : Int) (h : Hp), Feo (wI_mP_remove_b27 v0 v1 v3 v4 h) (wJ_mP_remove_b27 v0 v1 v3 v4 h) h Prod.snd (k27 v0 v1 v3 v4 h)) (v0 : Nat) (v1 : Int) (v3 : Int) (v4 : Int) (h : Hp) : Feo (wI_mP_remove_b27 v0 v1 v3 v4 h) (wJ_mP_remove_b27 v0 v1 v3 v4 h) h Prod.snd (f_mP_remove_b27 k27 v0 v1 v3 v4 h) := by
  unfold f_mP_remove_b27
  refine fe_it fe_no ?_
  refine fe_it ?_ fe_no
  refine fe_it ?_ ?_
  · refine fe_it fe_no ?_
    refine fe_it ?_ fe_no
    exact fe_so Fe.rf
  · refine fe_it fe_no ?_
    refine fe_it ?_ fe_no
    refine fe_it ?_ fe_no
    refine fe_I Fe.rf (rfl) (fun h18 F1 => ?_)
    exact fe_j F1 (hk27 _ _ _ _ _) (fun x k hx => by simp only [wI_mP_remove_b27, F1.r] at hx; have e := hx; exact e) (fun x k hx => False.elim hx)
theorem fe_mP_remove_b27_lp (n : Nat) : ∀ (v0 : Nat) (v1 : Int) (v3 : Int) (v4 : Int) (h : Hp), Feo (wI_mP_remove_b27 v0 v1 v3 v4 h) (wJ_mP_remove_b27 v0 v1 v3 v4 h) h Prod.snd (f_mP_remove_b27_lp n v0 v1 v3 v4 h) := by
  induction n with
  | zero => intro v0 v1 v3 v4 h; exact fe_no
  | succ n ih => intro v0 v1 v3 v4 h; exact fe_mP_remove_b27 ih v0 v1 v3 v4 h
theorem fe_mP_remove (v0 : Nat) (v1 : Int) (v2 : Int) (h : Hp) : Feo (wI_mP_remove v0 v1 v2 h) (wJ_mP_remove v0 v1 v2 h) h Prod.snd (f_mP_remove v0 v1 v2 h) := by
  unfold f_mP_remove
  refine fe_b2 Fe.rf (fe_mP_place _ _ _ _) (fun x k hx => False.elim hx) (fun x k hx => False.elim hx) (fun r3 h1 F1 => ?_)
  refine fe_it fe_no ?_
  refine fe_it ?_ fe_no
  refine fe_I F1 (Or.inr (Or.inr ((by first | (simp only [F1.r]; exact rfl) | simp only [F1.r])))) (fun h6 F2 => ?_)
  refine fe_it fe_no ?_
  refine fe_it ?_ fe_no
  refine fe_it ?_ fe_no
  refine fe_I F2 (Or.inl ((by first | (simp only [F1.r, F2.r]; exact rfl) | simp only [F1.r, F2.r]))) (fun h10 F3 => ?_)
  exact fe_j F3 (fe_mP_remove_b27_lp FU _ _ _ _ _) (fun x k hx => by simp only [wI_mP_remove_b27, F1.r, F2.r, F3.r] at hx; have e := hx; exact Or.inr (Or.inl (e))) (fun x k hx => False.elim hx)
def wI_mP_isNone_b14 (v0 : Nat) (h : Hp) (x k : Nat) : Prop := False
def wJ_mP_isNone_b14 (v0 : Nat) (h : Hp) (x k : Nat) : Prop := False
def wI_mP_isNone (v0 : Nat) (v1 : Int) (v2 : Int) (h : Hp) (x k : Nat) : Prop := False
def wJ_mP_isNone (v0 : Nat) (v1 : Int) (v2 : Int) (h : Hp) (x k : Nat) : Prop := False
theorem fe_mP_isNone_b14 (v0 : Nat) (h : Hp) : Feo (wI_mP_isNone_b14 v0 h) (wJ_mP_isNone_b14 v0 h) h Prod.snd (f_mP_isNone_b14 v0 h) := by
  unfold f_mP_isNone_b14
  exact fe_so Fe.rf
theorem fe_mP_isNone (v0 : Nat) (v1 : Int) (v2 : Int) (h : Hp) : Feo (wI_mP_isNone v0 v1 v2 h) (wJ_mP_isNone v0 v1 v2 h) h Prod.snd (f_mP_isNone v0 v1 v2 h) := by
  unfold f_mP_isNone
  refine fe_it ?_ ?_
  · exact fe_j Fe.rf (fe_mP_isNone_b14 _ _) (fun x k hx => False.elim hx) (fun x k hx => False.elim hx)
  · refine fe_it fe_no ?_
    refine fe_it ?_ fe_no
    refine fe_it ?_ ?_
    · exact fe_so Fe.rf
    · exact fe_j Fe.rf (fe_mP_isNone_b14 _ _) (fun x k hx => False.elim hx) (fun x k hx => False.elim hx)
def wI_mWire_take_b20 (v0 : Nat) (h : Hp) (x k : Nat) : Prop := (x = v0 ∧ k = 3)
def wJ_mWire_take_b20 (v0 : Nat) (h : Hp) (x k : Nat) : Prop := False
def wI_mWire_take_b32 (v0 : Nat) (v1 : Int) (v2 : Int) (v4 : Int) (h : Hp) (x k : Nat) : Prop := (x = v0 ∧ k = 1)
def wJ_mWire_take_b32 (v0 : Nat) (v1 : Int) (v2 : Int) (v4 : Int) (h : Hp) (x k : Nat) : Prop := False
def wI_mWire_take (v0 : Nat) (v1 : Int) (h : Hp) (x k : Nat) : Prop := (x = v0 ∧ k = 1) ∨ (x = v0 ∧ k = 3)
def wJ_mWire_take (v0 : Nat) (v1 : Int) (h : Hp) (x k : Nat) : Prop := False
theorem fe_mWire_take_b20 (v0 : Nat) (h : Hp) : Feo (wI_mWire_take_b20 v0 h) (wJ_mWire_take_b20 v0 h) h Prod.snd (f_mWire_take_b20 v0 h) := by
  unfold f_mWire_take_b20
  refine fe_I Fe.rf (⟨rfl, rfl⟩) (fun h5 F1 => ?_)
  exact fe_so F1
theorem fe_mWire_take_b32 {k32 : Nat → Int → Int → Int → Hp → Option (Int × Hp)} (hk32 : ∀ (v0 : Nat) (v1 : Int) (v2 : Int) (v4 : Int) (h : Hp), Feo (wI_mWire_take_b32 v0 v1 v2 v4 h) (wJ_mWire_take_b32 v0 v1 v2 v4 h) h Prod.snd (k32 v0 v1 v2 v4 h)) (v0 : Nat) (v1 : Int) (v2 : Int) (v4 : Int) (h : Hp) : Feo (wI_mWire_take_b32 v0 v1 v2 v4 h) (wJ_mWire_take_b32 v0 v1 v2 v4 h) h Prod.snd (f_mWire_take_b32 k32 v0 v1 v2 v4 h) := by
  unfold f_mWire_take_b32
  refine fe_it ?_ ?_
  · exact fe_so Fe.rf
  · refine fe_it fe_no ?_
    refine fe_it ?_ fe_no
    refine fe_v (fun y3 => ?_)
    refine fe_I Fe.rf (⟨rfl, rfl⟩) (fun h4 F1 => ?_)
    exact fe_j F1 (hk32 _ _ _ _ _) (fun x k hx => by simp only [wI_mWire_take_b32, F1.r] at hx; have e := hx; exact e) (fun x k hx => False.elim hx)
theorem fe_mWire_take_b32_lp (n : Nat) : ∀ (v0 : Nat) (v1 : Int) (v2 : Int) (v4 : Int) (h : Hp), Feo (wI_mWire_take_b32 v0 v1 v2 v4 h) (wJ_mWire_take_b32 v0 v1 v2 v4 h) h Prod.snd (f_mWire_take_b32_lp n v0 v1 v2 v4 h) := by
  induction n with
  | zero => intro v0 v1 v2 v4 h; exact fe_no
  | succ n ih => intro v0 v1 v2 v4 h; exact fe_mWire_take_b32 ih v0 v1 v2 v4 h
theorem fe_mWire_take (v0 : Nat) (v1 : Int) (h : Hp) : Feo (wI_mWire_take v0 v1 h) (wJ_mWire_take v0 v1 h) h Prod.snd (f_mWire_take v0 v1 h) := by
  unfold f_mWire_take
  refine fe_it ?_ ?_
  · exact fe_j Fe.rf (fe_mWire_take_b20 _ _) (fun x k hx => by simp only [wI_mWire_take_b20] at hx; have e := hx; exact Or.inr (e)) (fun x k hx => False.elim hx)
  · refine fe_it ?_ ?_
    · exact fe_j Fe.rf (fe_mWire_take_b32_lp FU _ _ _ _ _) (fun x k hx => by simp only [wI_mWire_take_b32] at hx; have e := hx; exact Or.inl (e)) (fun x k hx => False.elim hx)
    · exact fe_j Fe.rf (fe_mWire_take_b20 _ _) (fun x k hx => by simp only [wI_mWire_take_b20] at hx; have e := hx; exact Or.inr (e)) (fun x k hx => False.elim hx)
def wI_mWire_pass_b27 (v0 : Nat) (v3 : Int) (h : Hp) (x k : Nat) : Prop := (x = v0 ∧ k = 3)
def wJ_mWire_pass_b27 (v0 : Nat) (v3 : Int) (h : Hp) (x k : Nat) : Prop := False
def wI_mWire_pass (v0 : Nat) (v1 : Int) (h : Hp) (x k : Nat) : Prop := (x = v0 ∧ k = 1) ∨ (x = v0 ∧ k = 3)
def wJ_mWire_pass (v0 : Nat) (v1 : Int) (h : Hp) (x k : Nat) : Prop := False
theorem fe_mWire_pass_b27 (v0 : Nat) (v3 : Int) (h : Hp) : Feo (wI_mWire_pass_b27 v0 v3 h) (wJ_mWire_pass_b27 v0 v3 h) h Prod.snd (f_mWire_pass_b27 v0 v3 h) := by
  unfold f_mWire_pass_b27
  refine fe_I Fe.rf (⟨rfl, rfl⟩) (fun h3 F1 => ?_)
  exact fe_so F1
theorem fe_mWire_pass (v0 : Nat) (v1 : Int) (h : Hp) : Feo (wI_mWire_pass v0 v1 h) (wJ_mWire_pass v0 v1 h) h Prod.snd (f_mWire_pass v0 v1 h) := by
  unfold f_mWire_pass
  refine fe_v (fun y1 => ?_)
  refine fe_it ?_ ?_
  · exact fe_j Fe.rf (fe_mWire_pass_b27 _ _ _) (fun x k hx => by simp only [wI_mWire_pass_b27] at hx; have e := hx; exact Or.inr (e)) (fun x k hx => False.elim hx)
  · refine fe_it ?_ ?_
    · refine fe_I Fe.rf (Or.inl (⟨rfl, rfl⟩)) (fun h2 F1 => ?_)
      exact fe_so F1
    · exact fe_j Fe.rf (fe_mWire_pass_b27 _ _ _) (fun x k hx => by simp only [wI_mWire_pass_b27] at hx; have e := hx; exact Or.inr (e)) (fun x k hx => False.elim hx)
def wI_mP_readsName (v0 : Nat) (v1 : Int) (h : Hp) (x k : Nat) : Prop := (x = (hR h v0 22) ∧ k = 1) ∨ (x = (hR h v0 22) ∧ k = 3) ∨ x = hR h v0 19
def wJ_mP_readsName (v0 : Nat) (v1 : Int) (h : Hp) (x k : Nat) : Prop := False
theorem fe_mP_readsName (v0 : Nat) (v1 : Int) (h : Hp) : Feo (wI_mP_readsName v0 v1 h) (wJ_mP_readsName v0 v1 h) h Prod.snd (f_mP_readsName v0 v1 h) := by
  unfold f_mP_readsName
  refine fe_it fe_no ?_
  refine fe_b2 Fe.rf (fe_mWire_take _ _ _) (fun x k hx => by simp only [wI_mWire_take] at hx; rcases hx with e | e <;> first | exact Or.inl (e) | exact Or.inr (Or.inl (e))) (fun x k hx => False.elim hx) (fun r4 h2 F1 => ?_)
  refine fe_v (fun y5 => ?_)
  refine fe_it fe_no ?_
  refine fe_it ?_ ?_
  · exact fe_so F1
  · refine fe_it ?_ ?_
    · refine fe_b2 F1 (fe_mWire_pass _ _ _) (fun x k hx => by simp only [wI_mWire_pass, F1.r] at hx; rcases hx with e | e <;> first | exact Or.inl (e) | exact Or.inr (Or.inl (e))) (fun x k hx => False.elim hx) (fun r9 h7 F2 => ?_)
      refine fe_it fe_no ?_
      refine fe_it ?_ fe_no
      refine fe_I F2 (Or.inr (Or.inr ((by first | (simp only [F1.r, F2.r]; exact rfl) | simp only [F1.r, F2.r])))) (fun h12 F3 => ?_)
      refine fe_it fe_no ?_
      refine fe_it ?_ fe_no
      refine fe_I F3 (Or.inr (Or.inr ((by first | (simp only [F1.r, F2.r, F3.r]; exact rfl) | simp only [F1.r, F2.r, F3.r])))) (fun h15 F4 => ?_)
      refine fe_it fe_no ?_
      refine fe_it ?_ ?_
      · exact fe_so F4
      · exact fe_so F4
    · exact fe_so F1
def wI_mWire_takeNumber_b18 (v0 : Nat) (h : Hp) (x k : Nat) : Prop := (x = v0 ∧ k = 3)
def wJ_mWire_takeNumber_b18 (v0 : Nat) (h : Hp) (x k : Nat) : Prop := False
def wI_mWire_takeNumber_b69 (v0 : Nat) (s0 : Int) (s1 : Int) (h : Hp) (x k : Nat) : Prop := False
def wJ_mWire_takeNumber_b69 (v0 : Nat) (s0 : Int) (s1 : Int) (h : Hp) (x k : Nat) : Prop := False
def wI_mWire_takeNumber (v0 : Nat) (h : Hp) (x k : Nat) : Prop := (x = v0 ∧ k = 1) ∨ (x = v0 ∧ k = 3)
def wJ_mWire_takeNumber (v0 : Nat) (h : Hp) (x k : Nat) : Prop := False
theorem fe_mWire_takeNumber_b18 (v0 : Nat) (h : Hp) : Feo (wI_mWire_takeNumber_b18 v0 h) (wJ_mWire_takeNumber_b18 v0 h) h Prod.snd (f_mWire_takeNumber_b18 v0 h) := by
  unfold f_mWire_takeNumber_b18
  refine fe_I Fe.rf (⟨rfl, rfl⟩) (fun h7 F1 => ?_)
  exact fe_so F1
theorem fe_mWire_takeNumber_b69 (v0 : Nat) (s0 : Int) (s1 : Int) (h : Hp) : Feo (wI_mWire_takeNumber_b69 v0 s0 s1 h) (wJ_mWire_takeNumber_b69 v0 s0 s1 h) h Prod.snd (f_mWire_takeNumber_b69 v0 s0 s1 h) := by
  unfold f_mWire_takeNumber_b69
  exact fe_so Fe.rf
theorem fe_mWire_takeNumber (v0 : Nat) (h : Hp) : Feo (wI_mWire_takeNumber v0 h) (wJ_mWire_takeNumber v0 h) h Prod.snd (f_mWire_takeNumber v0 h) := by
  unfold f_mWire_takeNumber
  refine fe_it ?_ ?_
  · exact fe_j Fe.rf (fe_mWire_takeNumber_b18 _ _) (fun x k hx => by simp only [wI_mWire_takeNumber_b18] at hx; have e := hx; exact Or.inr (e)) (fun x k hx => False.elim hx)
  · refine fe_it ?_ ?_
    · refine fe_it fe_no ?_
      refine fe_it ?_ fe_no
      refine fe_v (fun y3 => ?_)
      refine fe_b2 Fe.rf (fe_mWire_take _ _ _) (fun x k hx => by simp only [wI_mWire_take] at hx; rcases hx with e | e <;> first | exact Or.inl (e) | exact Or.inr (e)) (fun x k hx => False.elim hx) (fun r6 h4 F1 => ?_)
      refine fe_it ?_ ?_
      · exact fe_j F1 (fe_mWire_takeNumber_b69 _ _ _ _) (fun x k hx => False.elim hx) (fun x k hx => False.elim hx)
      · exact fe_j F1 (fe_mWire_takeNumber_b69 _ _ _ _) (fun x k hx => False.elim hx) (fun x k hx => False.elim hx)
    · exact fe_j Fe.rf (fe_mWire_takeNumber_b18 _ _) (fun x k hx => by simp only [wI_mWire_takeNumber_b18] at hx; have e := hx; exact Or.inr (e)) (fun x k hx => False.elim hx)
def wI_mP_isSame_b62 (v0 : Nat) (v2 : Int) (s0 : Int) (h : Hp) (x k : Nat) : Prop := False
def wJ_mP_isSame_b62 (v0 : Nat) (v2 : Int) (s0 : Int) (h : Hp) (x k : Nat) : Prop := False
def wI_mP_isSame_b22 (v0 : Nat) (v1 : Int) (v2 : Int) (h : Hp) (x k : Nat) : Prop := False
def wJ_mP_isSame_b22 (v0 : Nat) (v1 : Int) (v2 : Int) (h : Hp) (x k : Nat) : Prop := False
def wI_mP_isSame_b19 (v0 : Nat) (s0 : Int) (h : Hp) (x k : Nat) : Prop := False
def wJ_mP_isSame_b19 (v0 : Nat) (s0 : Int) (h : Hp) (x k : Nat) : Prop := False
def wI_mP_isSame (v0 : Nat) (h : Hp) (x k : Nat) : Prop := False
def wJ_mP_isSame (v0 : Nat) (h : Hp) (x k : Nat) : Prop := False
theorem fe_mP_isSame_b62 {k22 : Nat → Int → Int → Hp → Option (Int × Hp)} (hk22 : ∀ (v0 : Nat) (v1 : Int) (v2 : Int) (h : Hp), Feo (wI_mP_isSame_b22 v0 v1 v2 h) (wJ_mP_isSame_b22 v0 v1 v2 h) h Prod.snd (k22 v0 v1 v2 h)) (v0 : Nat) (v2 : Int) (s0 : Int) (h : Hp) : Feo (wI_mP_isSame_b62 v0 v2 s0 h) (wJ_mP_isSame_b62 v0 v2 s0 h) h Prod.snd (f_mP_isSame_b62 k22 v0 v2 s0 h) := by
  unfold f_mP_isSame_b62
  exact fe_j Fe.rf (hk22 _ _ _ _) (fun x k hx => False.elim hx) (fun x k hx => False.elim hx)
theorem fe_mP_isSame_b22 {k22 : Nat → Int → Int → Hp → Option (Int × Hp)} (hk22 : ∀ (v0 : Nat) (v1 : Int) (v2 : Int) (h : Hp), Feo (wI_mP_isSame_b22 v0 v1 v2 h) (wJ_mP_isSame_b22 v0 v1 v2 h) h Prod.snd (k22 v0 v1 v2 h)) (v0 : Nat) (v1 : Int) (v2 : Int) (h : Hp) : Feo (wI_mP_isSame_b22 v0 v1 v2 h) (wJ_mP_isSame_b22 v0 v1 v2 h) h Prod.snd (f_mP_isSame_b22 k22 v0 v1 v2 h) := by
  unfold f_mP_isSame_b22
  refine fe_it ?_ ?_
  · refine fe_it ?_ fe_no
    exact fe_so Fe.rf
  · refine fe_it ?_ ?_
    · refine fe_it ?_ fe_no
      exact fe_so Fe.rf
    · refine fe_it fe_no ?_
      refine fe_it ?_ fe_no
      refine fe_it fe_no ?_
      refine fe_it ?_ fe_no
      refine fe_it fe_no ?_
      refine fe_it ?_ fe_no
      refine fe_it ?_ ?_
      · exact fe_j Fe.rf (fe_mP_isSame_b62 hk22 _ _ _ _) (fun x k hx => False.elim hx) (fun x k hx => False.elim hx)
      · exact fe_j Fe.rf (fe_mP_isSame_b62 hk22 _ _ _ _) (fun x k hx => False.elim hx) (fun x k hx => False.elim hx)
theorem fe_mP_isSame_b22_lp (n : Nat) : ∀ (v0 : Nat) (v1 : Int) (v2 : Int) (h : Hp), Feo (wI_mP_isSame_b22 v0 v1 v2 h) (wJ_mP_isSame_b22 v0 v1 v2 h) h Prod.snd (f_mP_isSame_b22_lp n v0 v1 v2 h) := by
  induction n with
  | zero => intro v0 v1 v2 h; exact fe_no
  | succ n ih => intro v0 v1 v2 h; exact fe_mP_isSame_b22 ih v0 v1 v2 h
theorem fe_mP_isSame_b19 (v0 : Nat) (s0 : Int) (h : Hp) : Feo (wI_mP_isSame_b19 v0 s0 h) (wJ_mP_isSame_b19 v0 s0 h) h Prod.snd (f_mP_isSame_b19 v0 s0 h) := by
  unfold f_mP_isSame_b19
  exact fe_j Fe.rf (fe_mP_isSame_b22_lp FU _ _ _ _) (fun x k hx => False.elim hx) (fun x k hx => False.elim hx)
theorem fe_mP_isSame (v0 : Nat) (h : Hp) : Feo (wI_mP_isSame v0 h) (wJ_mP_isSame v0 h) h Prod.snd (f_mP_isSame v0 h) := by
  unfold f_mP_isSame
  refine fe_it fe_no ?_
  refine fe_it ?_ fe_no
  refine fe_it ?_ ?_
  · exact fe_j Fe.rf (fe_mP_isSame_b19 _ _ _) (fun x k hx => False.elim hx) (fun x k hx => False.elim hx)
  · exact fe_j Fe.rf (fe_mP_isSame_b19 _ _ _) (fun x k hx => False.elim hx) (fun x k hx => False.elim hx)
def wI_mSeals_wordOf (v0 : Nat) (v1 : Int) (h : Hp) (x k : Nat) : Prop := False
def wJ_mSeals_wordOf (v0 : Nat) (v1 : Int) (h : Hp) (x k : Nat) : Prop := False
theorem fe_mSeals_wordOf (v0 : Nat) (v1 : Int) (h : Hp) : Feo (wI_mSeals_wordOf v0 v1 h) (wJ_mSeals_wordOf v0 v1 h) h Prod.snd (f_mSeals_wordOf v0 v1 h) := by
  unfold f_mSeals_wordOf
  refine fe_it fe_no ?_
  refine fe_it ?_ fe_no
  refine fe_it ?_ fe_no
  refine fe_it ?_ fe_no
  refine fe_it ?_ fe_no
  exact fe_so Fe.rf
def wI_mSeals_left (v0 : Int) (v2 : Int) (h : Hp) (x k : Nat) : Prop := False
def wJ_mSeals_left (v0 : Int) (v2 : Int) (h : Hp) (x k : Nat) : Prop := False
theorem fe_mSeals_left (v0 : Int) (v2 : Int) (h : Hp) : Feo (wI_mSeals_left v0 v2 h) (wJ_mSeals_left v0 v2 h) h Prod.snd (f_mSeals_left v0 v2 h) := by
  unfold f_mSeals_left
  exact fe_so Fe.rf
def wI_mSeals_half (v0 : Nat) (v1 : Int) (v2 : Int) (v3 : Int) (v4 : Int) (h : Hp) (x k : Nat) : Prop := False
def wJ_mSeals_half (v0 : Nat) (v1 : Int) (v2 : Int) (v3 : Int) (v4 : Int) (h : Hp) (x k : Nat) : Prop := x = hR h v0 17
theorem fe_mSeals_half (v0 : Nat) (v1 : Int) (v2 : Int) (v3 : Int) (v4 : Int) (h : Hp) : Feo (wI_mSeals_half v0 v1 v2 v3 v4 h) (wJ_mSeals_half v0 v1 v2 v3 v4 h) h id (f_mSeals_half v0 v1 v2 v3 v4 h) := by
  unfold f_mSeals_half
  refine fe_it fe_no ?_
  refine fe_it ?_ fe_no
  refine fe_it ?_ fe_no
  refine fe_it ?_ fe_no
  refine fe_J Fe.rf (rfl) (fun h5 F1 => ?_)
  refine fe_it fe_no ?_
  refine fe_it ?_ fe_no
  refine fe_it ?_ fe_no
  refine fe_b2 F1 (fe_mSeals_left _ _ _) (fun x k hx => False.elim hx) (fun x k hx => False.elim hx) (fun r11 h9 F2 => ?_)
  refine fe_it ?_ fe_no
  refine fe_J F2 ((by first | (simp only [F1.r, F2.r]; exact rfl) | simp only [F1.r, F2.r])) (fun h13 F3 => ?_)
  exact fe_so F3
def wI_mSeals_mix (v0 : Nat) (v1 : Int) (v2 : Int) (v3 : Int) (v4 : Int) (h : Hp) (x k : Nat) : Prop := False
def wJ_mSeals_mix (v0 : Nat) (v1 : Int) (v2 : Int) (v3 : Int) (v4 : Int) (h : Hp) (x k : Nat) : Prop := x = hR h v0 17
theorem fe_mSeals_mix (v0 : Nat) (v1 : Int) (v2 : Int) (v3 : Int) (v4 : Int) (h : Hp) : Feo (wI_mSeals_mix v0 v1 v2 v3 v4 h) (wJ_mSeals_mix v0 v1 v2 v3 v4 h) h id (f_mSeals_mix v0 v1 v2 v3 v4 h) := by
  unfold f_mSeals_mix
  refine fe_b1 Fe.rf (fe_mSeals_half _ _ _ _ _ _) (fun x k hx => False.elim hx) (fun x k hx => by simp only [wJ_mSeals_half] at hx; have e := hx; exact e) (fun h1 F1 => ?_)
  refine fe_b1 F1 (fe_mSeals_half _ _ _ _ _ _) (fun x k hx => False.elim hx) (fun x k hx => by simp only [wJ_mSeals_half, F1.r] at hx; have e := hx; exact e) (fun h3 F2 => ?_)
  refine fe_b1 F2 (fe_mSeals_half _ _ _ _ _ _) (fun x k hx => False.elim hx) (fun x k hx => by simp only [wJ_mSeals_half, F1.r, F2.r] at hx; have e := hx; exact e) (fun h5 F3 => ?_)
  refine fe_b1 F3 (fe_mSeals_half _ _ _ _ _ _) (fun x k hx => False.elim hx) (fun x k hx => by simp only [wJ_mSeals_half, F1.r, F2.r, F3.r] at hx; have e := hx; exact e) (fun h7 F4 => ?_)
  exact fe_so F4
def wI_mSeals_blockOf_b213 (v0 : Nat) (v3 : Int) (h : Hp) (x k : Nat) : Prop := x = hR h v0 19
def wJ_mSeals_blockOf_b213 (v0 : Nat) (v3 : Int) (h : Hp) (x k : Nat) : Prop := False
def wI_mSeals_blockOf_b154 (v0 : Nat) (v3 : Int) (v4 : Int) (v5 : Int) (h : Hp) (x k : Nat) : Prop := x = hR h v0 19
def wJ_mSeals_blockOf_b154 (v0 : Nat) (v3 : Int) (v4 : Int) (v5 : Int) (h : Hp) (x k : Nat) : Prop := x = hR h v0 17
def wI_mSeals_blockOf_b140 (v0 : Nat) (v3 : Int) (h : Hp) (x k : Nat) : Prop := x = hR h v0 19
def wJ_mSeals_blockOf_b140 (v0 : Nat) (v3 : Int) (h : Hp) (x k : Nat) : Prop := x = hR h v0 17
def wI_mSeals_blockOf_b114 (v0 : Nat) (v3 : Int) (h : Hp) (x k : Nat) : Prop := x = hR h v0 19
def wJ_mSeals_blockOf_b114 (v0 : Nat) (v3 : Int) (h : Hp) (x k : Nat) : Prop := x = hR h v0 17
def wI_mSeals_blockOf_b82 (v0 : Nat) (v3 : Int) (h : Hp) (x k : Nat) : Prop := x = hR h v0 19
def wJ_mSeals_blockOf_b82 (v0 : Nat) (v3 : Int) (h : Hp) (x k : Nat) : Prop := x = hR h v0 17 ∨ x = hR h v0 18
def wI_mSeals_blockOf_b38 (v0 : Nat) (v1 : Int) (v3 : Int) (h : Hp) (x k : Nat) : Prop := x = hR h v0 19
def wJ_mSeals_blockOf_b38 (v0 : Nat) (v1 : Int) (v3 : Int) (h : Hp) (x k : Nat) : Prop := x = hR h v0 17 ∨ x = hR h v0 18
def wI_mSeals_blockOf (v0 : Nat) (v1 : Int) (h : Hp) (x k : Nat) : Prop := x = hR h v0 19
def wJ_mSeals_blockOf (v0 : Nat) (v1 : Int) (h : Hp) (x k : Nat) : Prop := x = hR h v0 17 ∨ x = hR h v0 18
theorem fe_mSeals_blockOf_b213 {k213 : Nat → Int → Hp → Option (Hp)} (hk213 : ∀ (v0 : Nat) (v3 : Int) (h : Hp), Feo (wI_mSeals_blockOf_b213 v0 v3 h) (wJ_mSeals_blockOf_b213 v0 v3 h) h id (k213 v0 v3 h)) (v0 : Nat) (v3 : Int) (h : Hp) : Feo (wI_mSeals_blockOf_b213 v0 v3 h) (wJ_mSeals_blockOf_b213 v0 v3 h) h id (f_mSeals_blockOf_b213 k213 v0 v3 h) := by
  unfold f_mSeals_blockOf_b213
  refine fe_it ?_ ?_
  · exact fe_so Fe.rf
  · refine fe_it fe_no ?_
    refine fe_it ?_ fe_no
    refine fe_it fe_no ?_
    refine fe_it ?_ fe_no
    refine fe_it fe_no ?_
    refine fe_it ?_ fe_no
    refine fe_I Fe.rf (rfl) (fun h42 F1 => ?_)
    exact fe_j F1 (hk213 _ _ _) (fun x k hx => by simp only [wI_mSeals_blockOf_b213, F1.r] at hx; have e := hx; exact e) (fun x k hx => False.elim hx)
theorem fe_mSeals_blockOf_b213_lp (n : Nat) : ∀ (v0 : Nat) (v3 : Int) (h : Hp), Feo (wI_mSeals_blockOf_b213 v0 v3 h) (wJ_mSeals_blockOf_b213 v0 v3 h) h id (f_mSeals_blockOf_b213_lp n v0 v3 h) := by
  induction n with
  | zero => intro v0 v3 h; exact fe_no
  | succ n ih => intro v0 v3 h; exact fe_mSeals_blockOf_b213 ih v0 v3 h
theorem fe_mSeals_blockOf_b154 {k140 : Nat → Int → Hp → Option (Hp)} (hk140 : ∀ (v0 : Nat) (v3 : Int) (h : Hp), Feo (wI_mSeals_blockOf_b140 v0 v3 h) (wJ_mSeals_blockOf_b140 v0 v3 h) h id (k140 v0 v3 h)) {k154 : Nat → Int → Int → Int → Hp → Option (Hp)} (hk154 : ∀ (v0 : Nat) (v3 : Int) (v4 : Int) (v5 : Int) (h : Hp), Feo (wI_mSeals_blockOf_b154 v0 v3 v4 v5 h) (wJ_mSeals_blockOf_b154 v0 v3 v4 v5 h) h id (k154 v0 v3 v4 v5 h)) (v0 : Nat) (v3 : Int) (v4 : Int) (v5 : Int) (h : Hp) : Feo (wI_mSeals_blockOf_b154 v0 v3 v4 v5 h) (wJ_mSeals_blockOf_b154 v0 v3 v4 v5 h) h id (f_mSeals_blockOf_b154 k140 k154 v0 v3 v4 v5 h) := by
  unfold f_mSeals_blockOf_b154
  refine fe_it ?_ ?_
  · exact fe_j Fe.rf (hk140 _ _ _) (fun x k hx => by simp only [wI_mSeals_blockOf_b140] at hx; have e := hx; exact e) (fun x k hx => by simp only [wJ_mSeals_blockOf_b140] at hx; have e := hx; exact e)
  · refine fe_b1 Fe.rf (fe_mSeals_mix _ _ _ _ _ _) (fun x k hx => False.elim hx) (fun x k hx => by simp only [wJ_mSeals_mix] at hx; have e := hx; exact e) (fun h34 F1 => ?_)
    exact fe_j F1 (hk154 _ _ _ _ _) (fun x k hx => by simp only [wI_mSeals_blockOf_b154, F1.r] at hx; have e := hx; exact e) (fun x k hx => by simp only [wJ_mSeals_blockOf_b154, F1.r] at hx; have e := hx; exact e)
theorem fe_mSeals_blockOf_b154_lp {k140 : Nat → Int → Hp → Option (Hp)} (hk140 : ∀ (v0 : Nat) (v3 : Int) (h : Hp), Feo (wI_mSeals_blockOf_b140 v0 v3 h) (wJ_mSeals_blockOf_b140 v0 v3 h) h id (k140 v0 v3 h)) (n : Nat) : ∀ (v0 : Nat) (v3 : Int) (v4 : Int) (v5 : Int) (h : Hp), Feo (wI_mSeals_blockOf_b154 v0 v3 v4 v5 h) (wJ_mSeals_blockOf_b154 v0 v3 v4 v5 h) h id (f_mSeals_blockOf_b154_lp k140 n v0 v3 v4 v5 h) := by
  induction n with
  | zero => intro v0 v3 v4 v5 h; exact fe_no
  | succ n ih => intro v0 v3 v4 v5 h; exact fe_mSeals_blockOf_b154 hk140 ih v0 v3 v4 v5 h
theorem fe_mSeals_blockOf_b140 {k140 : Nat → Int → Hp → Option (Hp)} (hk140 : ∀ (v0 : Nat) (v3 : Int) (h : Hp), Feo (wI_mSeals_blockOf_b140 v0 v3 h) (wJ_mSeals_blockOf_b140 v0 v3 h) h id (k140 v0 v3 h)) (v0 : Nat) (v3 : Int) (h : Hp) : Feo (wI_mSeals_blockOf_b140 v0 v3 h) (wJ_mSeals_blockOf_b140 v0 v3 h) h id (f_mSeals_blockOf_b140 k140 v0 v3 h) := by
  unfold f_mSeals_blockOf_b140
  refine fe_it ?_ ?_
  · exact fe_j Fe.rf (fe_mSeals_blockOf_b213_lp FU _ _ _) (fun x k hx => by simp only [wI_mSeals_blockOf_b213] at hx; have e := hx; exact e) (fun x k hx => False.elim hx)
  · refine fe_v (fun y33 => ?_)
    exact fe_j Fe.rf (fe_mSeals_blockOf_b154_lp hk140 FU _ _ _ _ _) (fun x k hx => by simp only [wI_mSeals_blockOf_b154] at hx; have e := hx; exact e) (fun x k hx => by simp only [wJ_mSeals_blockOf_b154] at hx; have e := hx; exact e)
theorem fe_mSeals_blockOf_b140_lp (n : Nat) : ∀ (v0 : Nat) (v3 : Int) (h : Hp), Feo (wI_mSeals_blockOf_b140 v0 v3 h) (wJ_mSeals_blockOf_b140 v0 v3 h) h id (f_mSeals_blockOf_b140_lp n v0 v3 h) := by
  induction n with
  | zero => intro v0 v3 h; exact fe_no
  | succ n ih => intro v0 v3 h; exact fe_mSeals_blockOf_b140 ih v0 v3 h
theorem fe_mSeals_blockOf_b114 {k114 : Nat → Int → Hp → Option (Hp)} (hk114 : ∀ (v0 : Nat) (v3 : Int) (h : Hp), Feo (wI_mSeals_blockOf_b114 v0 v3 h) (wJ_mSeals_blockOf_b114 v0 v3 h) h id (k114 v0 v3 h)) (v0 : Nat) (v3 : Int) (h : Hp) : Feo (wI_mSeals_blockOf_b114 v0 v3 h) (wJ_mSeals_blockOf_b114 v0 v3 h) h id (f_mSeals_blockOf_b114 k114 v0 v3 h) := by
  unfold f_mSeals_blockOf_b114
  refine fe_it ?_ ?_
  · exact fe_j Fe.rf (fe_mSeals_blockOf_b140_lp FU _ _ _) (fun x k hx => by simp only [wI_mSeals_blockOf_b140] at hx; have e := hx; exact e) (fun x k hx => by simp only [wJ_mSeals_blockOf_b140] at hx; have e := hx; exact e)
  · refine fe_it fe_no ?_
    refine fe_it ?_ fe_no
    refine fe_it fe_no ?_
    refine fe_it ?_ fe_no
    refine fe_J Fe.rf (rfl) (fun h32 F1 => ?_)
    exact fe_j F1 (hk114 _ _ _) (fun x k hx => by simp only [wI_mSeals_blockOf_b114, F1.r] at hx; have e := hx; exact e) (fun x k hx => by simp only [wJ_mSeals_blockOf_b114, F1.r] at hx; have e := hx; exact e)
theorem fe_mSeals_blockOf_b114_lp (n : Nat) : ∀ (v0 : Nat) (v3 : Int) (h : Hp), Feo (wI_mSeals_blockOf_b114 v0 v3 h) (wJ_mSeals_blockOf_b114 v0 v3 h) h id (f_mSeals_blockOf_b114_lp n v0 v3 h) := by
  induction n with
  | zero => intro v0 v3 h; exact fe_no
  | succ n ih => intro v0 v3 h; exact fe_mSeals_blockOf_b114 ih v0 v3 h
theorem fe_mSeals_blockOf_b82 {k82 : Nat → Int → Hp → Option (Hp)} (hk82 : ∀ (v0 : Nat) (v3 : Int) (h : Hp), Feo (wI_mSeals_blockOf_b82 v0 v3 h) (wJ_mSeals_blockOf_b82 v0 v3 h) h id (k82 v0 v3 h)) (v0 : Nat) (v3 : Int) (h : Hp) : Feo (wI_mSeals_blockOf_b82 v0 v3 h) (wJ_mSeals_blockOf_b82 v0 v3 h) h id (f_mSeals_blockOf_b82 k82 v0 v3 h) := by
  unfold f_mSeals_blockOf_b82
  refine fe_it ?_ ?_
  · exact fe_j Fe.rf (fe_mSeals_blockOf_b114_lp FU _ _ _) (fun x k hx => by simp only [wI_mSeals_blockOf_b114] at hx; have e := hx; exact e) (fun x k hx => by simp only [wJ_mSeals_blockOf_b114] at hx; have e := hx; exact Or.inl (e))
  · refine fe_b2 Fe.rf (fe_mSeals_wordOf _ _ _) (fun x k hx => False.elim hx) (fun x k hx => False.elim hx) (fun r24 h22 F1 => ?_)
    refine fe_it fe_no ?_
    refine fe_it ?_ fe_no
    refine fe_J F1 (Or.inr (rfl)) (fun h27 F2 => ?_)
    exact fe_j F2 (hk82 _ _ _) (fun x k hx => by simp only [wI_mSeals_blockOf_b82, F1.r, F2.r] at hx; have e := hx; exact e) (fun x k hx => by simp only [wJ_mSeals_blockOf_b82, F1.r, F2.r] at hx; rcases hx with e | e <;> first | exact Or.inl (e) | exact Or.inr (e))
theorem fe_mSeals_blockOf_b82_lp (n : Nat) : ∀ (v0 : Nat) (v3 : Int) (h : Hp), Feo (wI_mSeals_blockOf_b82 v0 v3 h) (wJ_mSeals_blockOf_b82 v0 v3 h) h id (f_mSeals_blockOf_b82_lp n v0 v3 h) := by
  induction n with
  | zero => intro v0 v3 h; exact fe_no
  | succ n ih => intro v0 v3 h; exact fe_mSeals_blockOf_b82 ih v0 v3 h
theorem fe_mSeals_blockOf_b38 {k38 : Nat → Int → Int → Hp → Option (Hp)} (hk38 : ∀ (v0 : Nat) (v1 : Int) (v3 : Int) (h : Hp), Feo (wI_mSeals_blockOf_b38 v0 v1 v3 h) (wJ_mSeals_blockOf_b38 v0 v1 v3 h) h id (k38 v0 v1 v3 h)) (v0 : Nat) (v1 : Int) (v3 : Int) (h : Hp) : Feo (wI_mSeals_blockOf_b38 v0 v1 v3 h) (wJ_mSeals_blockOf_b38 v0 v1 v3 h) h id (f_mSeals_blockOf_b38 k38 v0 v1 v3 h) := by
  unfold f_mSeals_blockOf_b38
  refine fe_it ?_ ?_
  · refine fe_it fe_no ?_
    refine fe_it ?_ fe_no
    refine fe_J Fe.rf (Or.inr (rfl)) (fun h15 F1 => ?_)
    exact fe_j F1 (fe_mSeals_blockOf_b82_lp FU _ _ _) (fun x k hx => by simp only [wI_mSeals_blockOf_b82, F1.r] at hx; have e := hx; exact e) (fun x k hx => by simp only [wJ_mSeals_blockOf_b82, F1.r] at hx; rcases hx with e | e <;> first | exact Or.inl (e) | exact Or.inr (e))
  · refine fe_b2 Fe.rf (fe_mSeals_wordOf _ _ _) (fun x k hx => False.elim hx) (fun x k hx => False.elim hx) (fun r18 h16 F2 => ?_)
    refine fe_it fe_no ?_
    refine fe_it ?_ fe_no
    refine fe_J F2 (Or.inr (rfl)) (fun h21 F3 => ?_)
    exact fe_j F3 (hk38 _ _ _ _) (fun x k hx => by simp only [wI_mSeals_blockOf_b38, F2.r, F3.r] at hx; have e := hx; exact e) (fun x k hx => by simp only [wJ_mSeals_blockOf_b38, F2.r, F3.r] at hx; rcases hx with e | e <;> first | exact Or.inl (e) | exact Or.inr (e))
theorem fe_mSeals_blockOf_b38_lp (n : Nat) : ∀ (v0 : Nat) (v1 : Int) (v3 : Int) (h : Hp), Feo (wI_mSeals_blockOf_b38 v0 v1 v3 h) (wJ_mSeals_blockOf_b38 v0 v1 v3 h) h id (f_mSeals_blockOf_b38_lp n v0 v1 v3 h) := by
  induction n with
  | zero => intro v0 v1 v3 h; exact fe_no
  | succ n ih => intro v0 v1 v3 h; exact fe_mSeals_blockOf_b38 ih v0 v1 v3 h
theorem fe_mSeals_blockOf (v0 : Nat) (v1 : Int) (h : Hp) : Feo (wI_mSeals_blockOf v0 v1 h) (wJ_mSeals_blockOf v0 v1 h) h id (f_mSeals_blockOf v0 v1 h) := by
  unfold f_mSeals_blockOf
  refine fe_it fe_no ?_
  refine fe_it ?_ fe_no
  refine fe_J Fe.rf (Or.inr (rfl)) (fun h3 F1 => ?_)
  refine fe_it fe_no ?_
  refine fe_it ?_ fe_no
  refine fe_J F1 (Or.inr ((by first | (simp only [F1.r]; exact rfl) | simp only [F1.r]))) (fun h6 F2 => ?_)
  refine fe_it fe_no ?_
  refine fe_it ?_ fe_no
  refine fe_J F2 (Or.inr ((by first | (simp only [F1.r, F2.r]; exact rfl) | simp only [F1.r, F2.r]))) (fun h9 F3 => ?_)
  refine fe_it fe_no ?_
  refine fe_it ?_ fe_no
  refine fe_J F3 (Or.inr ((by first | (simp only [F1.r, F2.r, F3.r]; exact rfl) | simp only [F1.r, F2.r, F3.r]))) (fun h12 F4 => ?_)
  exact fe_j F4 (fe_mSeals_blockOf_b38_lp FU _ _ _ _) (fun x k hx => by simp only [wI_mSeals_blockOf_b38, F1.r, F2.r, F3.r, F4.r] at hx; have e := hx; exact e) (fun x k hx => by simp only [wJ_mSeals_blockOf_b38, F1.r, F2.r, F3.r, F4.r] at hx; rcases hx with e | e <;> first | exact Or.inl (e) | exact Or.inr (e))
def wI_mSeals_shield_b130 (v0 : Nat) (v3 : Nat) (v4 : Int) (v5 : Int) (v7 : Int) (v8 : Int) (v9 : Int) (h : Hp) (x k : Nat) : Prop := x = v3
def wJ_mSeals_shield_b130 (v0 : Nat) (v3 : Nat) (v4 : Int) (v5 : Int) (v7 : Int) (v8 : Int) (v9 : Int) (h : Hp) (x k : Nat) : Prop := False
def wI_mSeals_shield_b121 (v0 : Nat) (v3 : Nat) (v4 : Int) (v5 : Int) (v7 : Int) (s0 : Int) (h : Hp) (x k : Nat) : Prop := x = v3
def wJ_mSeals_shield_b121 (v0 : Nat) (v3 : Nat) (v4 : Int) (v5 : Int) (v7 : Int) (s0 : Int) (h : Hp) (x k : Nat) : Prop := False
def wI_mSeals_shield_b103 (v0 : Nat) (v3 : Nat) (v4 : Int) (v5 : Int) (v6 : Int) (s0 : Int) (s1 : Int) (s2 : Int) (h : Hp) (x k : Nat) : Prop := x = v3
def wJ_mSeals_shield_b103 (v0 : Nat) (v3 : Nat) (v4 : Int) (v5 : Int) (v6 : Int) (s0 : Int) (s1 : Int) (s2 : Int) (h : Hp) (x k : Nat) : Prop := False
def wI_mSeals_shield_b35 (v0 : Nat) (v3 : Nat) (v4 : Int) (v5 : Int) (v6 : Int) (v7 : Int) (h : Hp) (x k : Nat) : Prop := x = hR h v0 16 ∨ x = hR h v0 19 ∨ x = v3
def wJ_mSeals_shield_b35 (v0 : Nat) (v3 : Nat) (v4 : Int) (v5 : Int) (v6 : Int) (v7 : Int) (h : Hp) (x k : Nat) : Prop := x = hR h v0 17 ∨ x = hR h v0 18
def wI_mSeals_shield_b3 (v0 : Nat) (v1 : Nat) (v2 : Int) (v3 : Nat) (v4 : Int) (v5 : Int) (v6 : Int) (v7 : Int) (h : Hp) (x k : Nat) : Prop := x = hR h v0 15 ∨ x = hR h v0 16 ∨ x = hR h v0 19 ∨ x = v3
def wJ_mSeals_shield_b3 (v0 : Nat) (v1 : Nat) (v2 : Int) (v3 : Nat) (v4 : Int) (v5 : Int) (v6 : Int) (v7 : Int) (h : Hp) (x k : Nat) : Prop := x = hR h v0 17 ∨ x = hR h v0 18
def wI_mSeals_shield (v0 : Nat) (v1 : Nat) (v2 : Int) (v3 : Nat) (v4 : Int) (v5 : Int) (v6 : Int) (h : Hp) (x k : Nat) : Prop := x = hR h v0 15 ∨ x = hR h v0 16 ∨ x = hR h v0 19 ∨ x = v3
def wJ_mSeals_shield (v0 : Nat) (v1 : Nat) (v2 : Int) (v3 : Nat) (v4 : Int) (v5 : Int) (v6 : Int) (h : Hp) (x k : Nat) : Prop := x = hR h v0 17 ∨ x = hR h v0 18
theorem fe_mSeals_shield_b130 {k130 : Nat → Nat → Int → Int → Int → Int → Int → Hp → Option (Int × Hp)} (hk130 : ∀ (v0 : Nat) (v3 : Nat) (v4 : Int) (v5 : Int) (v7 : Int) (v8 : Int) (v9 : Int) (h : Hp), Feo (wI_mSeals_shield_b130 v0 v3 v4 v5 v7 v8 v9 h) (wJ_mSeals_shield_b130 v0 v3 v4 v5 v7 v8 v9 h) h Prod.snd (k130 v0 v3 v4 v5 v7 v8 v9 h)) (v0 : Nat) (v3 : Nat) (v4 : Int) (v5 : Int) (v7 : Int) (v8 : Int) (v9 : Int) (h : Hp) : Feo (wI_mSeals_shield_b130 v0 v3 v4 v5 v7 v8 v9 h) (wJ_mSeals_shield_b130 v0 v3 v4 v5 v7 v8 v9 h) h Prod.snd (f_mSeals_shield_b130 k130 v0 v3 v4 v5 v7 v8 v9 h) := by
  unfold f_mSeals_shield_b130
  refine fe_it ?_ ?_
  · refine fe_it fe_no ?_
    refine fe_it ?_ fe_no
    refine fe_I Fe.rf (rfl) (fun h27 F1 => ?_)
    exact fe_so F1
  · refine fe_it fe_no ?_
    refine fe_it ?_ fe_no
    refine fe_it fe_no ?_
    refine fe_it ?_ fe_no
    refine fe_it ?_ fe_no
    refine fe_I Fe.rf (rfl) (fun h33 F2 => ?_)
    exact fe_j F2 (hk130 _ _ _ _ _ _ _ _) (fun x k hx => by simp only [wI_mSeals_shield_b130, F2.r] at hx; have e := hx; exact e) (fun x k hx => False.elim hx)
theorem fe_mSeals_shield_b130_lp (n : Nat) : ∀ (v0 : Nat) (v3 : Nat) (v4 : Int) (v5 : Int) (v7 : Int) (v8 : Int) (v9 : Int) (h : Hp), Feo (wI_mSeals_shield_b130 v0 v3 v4 v5 v7 v8 v9 h) (wJ_mSeals_shield_b130 v0 v3 v4 v5 v7 v8 v9 h) h Prod.snd (f_mSeals_shield_b130_lp n v0 v3 v4 v5 v7 v8 v9 h) := by
  induction n with
  | zero => intro v0 v3 v4 v5 v7 v8 v9 h; exact fe_no
  | succ n ih => intro v0 v3 v4 v5 v7 v8 v9 h; exact fe_mSeals_shield_b130 ih v0 v3 v4 v5 v7 v8 v9 h
theorem fe_mSeals_shield_b121 (v0 : Nat) (v3 : Nat) (v4 : Int) (v5 : Int) (v7 : Int) (s0 : Int) (h : Hp) : Feo (wI_mSeals_shield_b121 v0 v3 v4 v5 v7 s0 h) (wJ_mSeals_shield_b121 v0 v3 v4 v5 v7 s0 h) h Prod.snd (f_mSeals_shield_b121 v0 v3 v4 v5 v7 s0 h) := by
  unfold f_mSeals_shield_b121
  refine fe_v (fun y24 => ?_)
  exact fe_j Fe.rf (fe_mSeals_shield_b130_lp FU _ _ _ _ _ _ _ _) (fun x k hx => by simp only [wI_mSeals_shield_b130] at hx; have e := hx; exact e) (fun x k hx => False.elim hx)
theorem fe_mSeals_shield_b103 (v0 : Nat) (v3 : Nat) (v4 : Int) (v5 : Int) (v6 : Int) (s0 : Int) (s1 : Int) (s2 : Int) (h : Hp) : Feo (wI_mSeals_shield_b103 v0 v3 v4 v5 v6 s0 s1 s2 h) (wJ_mSeals_shield_b103 v0 v3 v4 v5 v6 s0 s1 s2 h) h Prod.snd (f_mSeals_shield_b103 v0 v3 v4 v5 v6 s0 s1 s2 h) := by
  unfold f_mSeals_shield_b103
  refine fe_v (fun y21 => ?_)
  refine fe_it ?_ ?_
  · exact fe_j Fe.rf (fe_mSeals_shield_b121 _ _ _ _ _ _ _) (fun x k hx => by simp only [wI_mSeals_shield_b121] at hx; have e := hx; exact e) (fun x k hx => False.elim hx)
  · refine fe_it fe_no ?_
    refine fe_it ?_ fe_no
    exact fe_j Fe.rf (fe_mSeals_shield_b121 _ _ _ _ _ _ _) (fun x k hx => by simp only [wI_mSeals_shield_b121] at hx; have e := hx; exact e) (fun x k hx => False.elim hx)
theorem fe_mSeals_shield_b35 {k35 : Nat → Nat → Int → Int → Int → Int → Hp → Option (Int × Hp)} (hk35 : ∀ (v0 : Nat) (v3 : Nat) (v4 : Int) (v5 : Int) (v6 : Int) (v7 : Int) (h : Hp), Feo (wI_mSeals_shield_b35 v0 v3 v4 v5 v6 v7 h) (wJ_mSeals_shield_b35 v0 v3 v4 v5 v6 v7 h) h Prod.snd (k35 v0 v3 v4 v5 v6 v7 h)) (v0 : Nat) (v3 : Nat) (v4 : Int) (v5 : Int) (v6 : Int) (v7 : Int) (h : Hp) : Feo (wI_mSeals_shield_b35 v0 v3 v4 v5 v6 v7 h) (wJ_mSeals_shield_b35 v0 v3 v4 v5 v6 v7 h) h Prod.snd (f_mSeals_shield_b35 k35 v0 v3 v4 v5 v6 v7 h) := by
  unfold f_mSeals_shield_b35
  refine fe_it ?_ ?_
  · refine fe_b2 Fe.rf (fe_mSeals_wordOf _ _ _) (fun x k hx => False.elim hx) (fun x k hx => False.elim hx) (fun r8 h6 F1 => ?_)
    refine fe_b1 F1 (fe_mSeals_blockOf _ _ _) (fun x k hx => by simp only [wI_mSeals_blockOf, F1.r] at hx; have e := hx; exact Or.inr (Or.inl (e))) (fun x k hx => by simp only [wJ_mSeals_blockOf, F1.r] at hx; rcases hx with e | e <;> first | exact Or.inl (e) | exact Or.inr (e)) (fun h9 F2 => ?_)
    refine fe_it fe_no ?_
    refine fe_it ?_ fe_no
    refine fe_it fe_no ?_
    refine fe_it ?_ fe_no
    refine fe_it ?_ fe_no
    refine fe_it ?_ ?_
    · exact fe_j F2 (fe_mSeals_shield_b103 _ _ _ _ _ _ _ _ _) (fun x k hx => by simp only [wI_mSeals_shield_b103, F1.r, F2.r] at hx; have e := hx; exact Or.inr (Or.inr (e))) (fun x k hx => False.elim hx)
    · exact fe_j F2 (fe_mSeals_shield_b103 _ _ _ _ _ _ _ _ _) (fun x k hx => by simp only [wI_mSeals_shield_b103, F1.r, F2.r] at hx; have e := hx; exact Or.inr (Or.inr (e))) (fun x k hx => False.elim hx)
  · refine fe_it fe_no ?_
    refine fe_it ?_ fe_no
    refine fe_it fe_no ?_
    refine fe_it ?_ fe_no
    refine fe_I Fe.rf (Or.inl (rfl)) (fun h20 F3 => ?_)
    exact fe_j F3 (hk35 _ _ _ _ _ _ _) (fun x k hx => by simp only [wI_mSeals_shield_b35, F3.r] at hx; rcases hx with e | e | e <;> first | exact Or.inl (e) | exact Or.inr (Or.inl (e)) | exact Or.inr (Or.inr (e))) (fun x k hx => by simp only [wJ_mSeals_shield_b35, F3.r] at hx; rcases hx with e | e <;> first | exact Or.inl (e) | exact Or.inr (e))
theorem fe_mSeals_shield_b35_lp (n : Nat) : ∀ (v0 : Nat) (v3 : Nat) (v4 : Int) (v5 : Int) (v6 : Int) (v7 : Int) (h : Hp), Feo (wI_mSeals_shield_b35 v0 v3 v4 v5 v6 v7 h) (wJ_mSeals_shield_b35 v0 v3 v4 v5 v6 v7 h) h Prod.snd (f_mSeals_shield_b35_lp n v0 v3 v4 v5 v6 v7 h) := by
  induction n with
  | zero => intro v0 v3 v4 v5 v6 v7 h; exact fe_no
  | succ n ih => intro v0 v3 v4 v5 v6 v7 h; exact fe_mSeals_shield_b35 ih v0 v3 v4 v5 v6 v7 h
theorem fe_mSeals_shield_b3 {k3 : Nat → Nat → Int → Nat → Int → Int → Int → Int → Hp → Option (Int × Hp)} (hk3 : ∀ (v0 : Nat) (v1 : Nat) (v2 : Int) (v3 : Nat) (v4 : Int) (v5 : Int) (v6 : Int) (v7 : Int) (h : Hp), Feo (wI_mSeals_shield_b3 v0 v1 v2 v3 v4 v5 v6 v7 h) (wJ_mSeals_shield_b3 v0 v1 v2 v3 v4 v5 v6 v7 h) h Prod.snd (k3 v0 v1 v2 v3 v4 v5 v6 v7 h)) (v0 : Nat) (v1 : Nat) (v2 : Int) (v3 : Nat) (v4 : Int) (v5 : Int) (v6 : Int) (v7 : Int) (h : Hp) : Feo (wI_mSeals_shield_b3 v0 v1 v2 v3 v4 v5 v6 v7 h) (wJ_mSeals_shield_b3 v0 v1 v2 v3 v4 v5 v6 v7 h) h Prod.snd (f_mSeals_shield_b3 k3 v0 v1 v2 v3 v4 v5 v6 v7 h) := by
  unfold f_mSeals_shield_b3
  refine fe_it ?_ ?_
  · exact fe_j Fe.rf (fe_mSeals_shield_b35_lp FU _ _ _ _ _ _ _) (fun x k hx => by simp only [wI_mSeals_shield_b35] at hx; rcases hx with e | e | e <;> first | exact Or.inr (Or.inl (e)) | exact Or.inr (Or.inr (Or.inl (e))) | exact Or.inr (Or.inr (Or.inr (e)))) (fun x k hx => by simp only [wJ_mSeals_shield_b35] at hx; rcases hx with e | e <;> first | exact Or.inl (e) | exact Or.inr (e))
  · refine fe_it fe_no ?_
    refine fe_it ?_ fe_no
    refine fe_it fe_no ?_
    refine fe_it ?_ fe_no
    refine fe_I Fe.rf (Or.inl (rfl)) (fun h5 F1 => ?_)
    exact fe_j F1 (hk3 _ _ _ _ _ _ _ _ _) (fun x k hx => by simp only [wI_mSeals_shield_b3, F1.r] at hx; rcases hx with e | e | e | e <;> first | exact Or.inl (e) | exact Or.inr (Or.inl (e)) | exact Or.inr (Or.inr (Or.inl (e))) | exact Or.inr (Or.inr (Or.inr (e)))) (fun x k hx => by simp only [wJ_mSeals_shield_b3, F1.r] at hx; rcases hx with e | e <;> first | exact Or.inl (e) | exact Or.inr (e))
theorem fe_mSeals_shield_b3_lp (n : Nat) : ∀ (v0 : Nat) (v1 : Nat) (v2 : Int) (v3 : Nat) (v4 : Int) (v5 : Int) (v6 : Int) (v7 : Int) (h : Hp), Feo (wI_mSeals_shield_b3 v0 v1 v2 v3 v4 v5 v6 v7 h) (wJ_mSeals_shield_b3 v0 v1 v2 v3 v4 v5 v6 v7 h) h Prod.snd (f_mSeals_shield_b3_lp n v0 v1 v2 v3 v4 v5 v6 v7 h) := by
  induction n with
  | zero => intro v0 v1 v2 v3 v4 v5 v6 v7 h; exact fe_no
  | succ n ih => intro v0 v1 v2 v3 v4 v5 v6 v7 h; exact fe_mSeals_shield_b3 ih v0 v1 v2 v3 v4 v5 v6 v7 h
theorem fe_mSeals_shield (v0 : Nat) (v1 : Nat) (v2 : Int) (v3 : Nat) (v4 : Int) (v5 : Int) (v6 : Int) (h : Hp) : Feo (wI_mSeals_shield v0 v1 v2 v3 v4 v5 v6 h) (wJ_mSeals_shield v0 v1 v2 v3 v4 v5 v6 h) h Prod.snd (f_mSeals_shield v0 v1 v2 v3 v4 v5 v6 h) := by
  unfold f_mSeals_shield
  exact fe_j Fe.rf (fe_mSeals_shield_b3_lp FU _ _ _ _ _ _ _ _ _) (fun x k hx => by simp only [wI_mSeals_shield_b3] at hx; rcases hx with e | e | e | e <;> first | exact Or.inl (e) | exact Or.inr (Or.inl (e)) | exact Or.inr (Or.inr (Or.inl (e))) | exact Or.inr (Or.inr (Or.inr (e)))) (fun x k hx => by simp only [wJ_mSeals_shield_b3] at hx; rcases hx with e | e <;> first | exact Or.inl (e) | exact Or.inr (e))
def wI_mSide_grown_b112 (v2 : Int) (v5 : Int) (v7 : Int) (v9 : Int) (v11 : Int) (v13 : Int) (h : Hp) (x k : Nat) : Prop := False
def wJ_mSide_grown_b112 (v2 : Int) (v5 : Int) (v7 : Int) (v9 : Int) (v11 : Int) (v13 : Int) (h : Hp) (x k : Nat) : Prop := False
def wI_mSide_grown_b104 (v2 : Int) (v5 : Int) (v7 : Int) (v13 : Int) (v14 : Int) (v16 : Int) (h : Hp) (x k : Nat) : Prop := False
def wJ_mSide_grown_b104 (v2 : Int) (v5 : Int) (v7 : Int) (v13 : Int) (v14 : Int) (v16 : Int) (h : Hp) (x k : Nat) : Prop := False
def wI_mSide_grown_b87 (v2 : Int) (v5 : Int) (v7 : Int) (v9 : Int) (v11 : Int) (v13 : Int) (v14 : Int) (s0 : Int) (h : Hp) (x k : Nat) : Prop := False
def wJ_mSide_grown_b87 (v2 : Int) (v5 : Int) (v7 : Int) (v9 : Int) (v11 : Int) (v13 : Int) (v14 : Int) (s0 : Int) (h : Hp) (x k : Nat) : Prop := False
def wI_mSide_grown_b25 (v2 : Int) (v5 : Int) (v7 : Int) (v9 : Int) (v11 : Int) (v13 : Int) (h : Hp) (x k : Nat) : Prop := False
def wJ_mSide_grown_b25 (v2 : Int) (v5 : Int) (v7 : Int) (v9 : Int) (v11 : Int) (v13 : Int) (h : Hp) (x k : Nat) : Prop := False
def wI_mSide_grown (v0 : Int) (v2 : Int) (v4 : Int) (h : Hp) (x k : Nat) : Prop := False
def wJ_mSide_grown (v0 : Int) (v2 : Int) (v4 : Int) (h : Hp) (x k : Nat) : Prop := False
theorem fe_mSide_grown_b112 {k25 : Int → Int → Int → Int → Int → Int → Hp → Option (Int × Hp)} (hk25 : ∀ (v2 : Int) (v5 : Int) (v7 : Int) (v9 : Int) (v11 : Int) (v13 : Int) (h : Hp), Feo (wI_mSide_grown_b25 v2 v5 v7 v9 v11 v13 h) (wJ_mSide_grown_b25 v2 v5 v7 v9 v11 v13 h) h Prod.snd (k25 v2 v5 v7 v9 v11 v13 h)) (v2 : Int) (v5 : Int) (v7 : Int) (v9 : Int) (v11 : Int) (v13 : Int) (h : Hp) : Feo (wI_mSide_grown_b112 v2 v5 v7 v9 v11 v13 h) (wJ_mSide_grown_b112 v2 v5 v7 v9 v11 v13 h) h Prod.snd (f_mSide_grown_b112 k25 v2 v5 v7 v9 v11 v13 h) := by
  unfold f_mSide_grown_b112
  exact fe_j Fe.rf (hk25 _ _ _ _ _ _ _) (fun x k hx => False.elim hx) (fun x k hx => False.elim hx)
theorem fe_mSide_grown_b104 {k25 : Int → Int → Int → Int → Int → Int → Hp → Option (Int × Hp)} (hk25 : ∀ (v2 : Int) (v5 : Int) (v7 : Int) (v9 : Int) (v11 : Int) (v13 : Int) (h : Hp), Feo (wI_mSide_grown_b25 v2 v5 v7 v9 v11 v13 h) (wJ_mSide_grown_b25 v2 v5 v7 v9 v11 v13 h) h Prod.snd (k25 v2 v5 v7 v9 v11 v13 h)) (v2 : Int) (v5 : Int) (v7 : Int) (v13 : Int) (v14 : Int) (v16 : Int) (h : Hp) : Feo (wI_mSide_grown_b104 v2 v5 v7 v13 v14 v16 h) (wJ_mSide_grown_b104 v2 v5 v7 v13 v14 v16 h) h Prod.snd (f_mSide_grown_b104 k25 v2 v5 v7 v13 v14 v16 h) := by
  unfold f_mSide_grown_b104
  exact fe_j Fe.rf (fe_mSide_grown_b112 hk25 _ _ _ _ _ _ _) (fun x k hx => False.elim hx) (fun x k hx => False.elim hx)
theorem fe_mSide_grown_b87 {k25 : Int → Int → Int → Int → Int → Int → Hp → Option (Int × Hp)} (hk25 : ∀ (v2 : Int) (v5 : Int) (v7 : Int) (v9 : Int) (v11 : Int) (v13 : Int) (h : Hp), Feo (wI_mSide_grown_b25 v2 v5 v7 v9 v11 v13 h) (wJ_mSide_grown_b25 v2 v5 v7 v9 v11 v13 h) h Prod.snd (k25 v2 v5 v7 v9 v11 v13 h)) (v2 : Int) (v5 : Int) (v7 : Int) (v9 : Int) (v11 : Int) (v13 : Int) (v14 : Int) (s0 : Int) (h : Hp) : Feo (wI_mSide_grown_b87 v2 v5 v7 v9 v11 v13 v14 s0 h) (wJ_mSide_grown_b87 v2 v5 v7 v9 v11 v13 v14 s0 h) h Prod.snd (f_mSide_grown_b87 k25 v2 v5 v7 v9 v11 v13 v14 s0 h) := by
  unfold f_mSide_grown_b87
  refine fe_it ?_ ?_
  · exact fe_j Fe.rf (fe_mSide_grown_b104 hk25 _ _ _ _ _ _ _) (fun x k hx => False.elim hx) (fun x k hx => False.elim hx)
  · refine fe_it ?_ ?_
    · exact fe_j Fe.rf (fe_mSide_grown_b112 hk25 _ _ _ _ _ _ _) (fun x k hx => False.elim hx) (fun x k hx => False.elim hx)
    · exact fe_j Fe.rf (fe_mSide_grown_b104 hk25 _ _ _ _ _ _ _) (fun x k hx => False.elim hx) (fun x k hx => False.elim hx)
theorem fe_mSide_grown_b25 {k25 : Int → Int → Int → Int → Int → Int → Hp → Option (Int × Hp)} (hk25 : ∀ (v2 : Int) (v5 : Int) (v7 : Int) (v9 : Int) (v11 : Int) (v13 : Int) (h : Hp), Feo (wI_mSide_grown_b25 v2 v5 v7 v9 v11 v13 h) (wJ_mSide_grown_b25 v2 v5 v7 v9 v11 v13 h) h Prod.snd (k25 v2 v5 v7 v9 v11 v13 h)) (v2 : Int) (v5 : Int) (v7 : Int) (v9 : Int) (v11 : Int) (v13 : Int) (h : Hp) : Feo (wI_mSide_grown_b25 v2 v5 v7 v9 v11 v13 h) (wJ_mSide_grown_b25 v2 v5 v7 v9 v11 v13 h) h Prod.snd (f_mSide_grown_b25 k25 v2 v5 v7 v9 v11 v13 h) := by
  unfold f_mSide_grown_b25
  refine fe_it ?_ ?_
  · exact fe_so Fe.rf
  · refine fe_it fe_no ?_
    refine fe_v (fun y4 => ?_)
    refine fe_it ?_ ?_
    · exact fe_j Fe.rf (fe_mSide_grown_b112 hk25 _ _ _ _ _ _ _) (fun x k hx => False.elim hx) (fun x k hx => False.elim hx)
    · refine fe_it ?_ ?_
      · refine fe_it ?_ ?_
        · exact fe_j Fe.rf (fe_mSide_grown_b87 hk25 _ _ _ _ _ _ _ _ _) (fun x k hx => False.elim hx) (fun x k hx => False.elim hx)
        · exact fe_j Fe.rf (fe_mSide_grown_b87 hk25 _ _ _ _ _ _ _ _ _) (fun x k hx => False.elim hx) (fun x k hx => False.elim hx)
      · exact fe_j Fe.rf (fe_mSide_grown_b112 hk25 _ _ _ _ _ _ _) (fun x k hx => False.elim hx) (fun x k hx => False.elim hx)
theorem fe_mSide_grown_b25_lp (n : Nat) : ∀ (v2 : Int) (v5 : Int) (v7 : Int) (v9 : Int) (v11 : Int) (v13 : Int) (h : Hp), Feo (wI_mSide_grown_b25 v2 v5 v7 v9 v11 v13 h) (wJ_mSide_grown_b25 v2 v5 v7 v9 v11 v13 h) h Prod.snd (f_mSide_grown_b25_lp n v2 v5 v7 v9 v11 v13 h) := by
  induction n with
  | zero => intro v2 v5 v7 v9 v11 v13 h; exact fe_no
  | succ n ih => intro v2 v5 v7 v9 v11 v13 h; exact fe_mSide_grown_b25 ih v2 v5 v7 v9 v11 v13 h
theorem fe_mSide_grown (v0 : Int) (v2 : Int) (v4 : Int) (h : Hp) : Feo (wI_mSide_grown v0 v2 v4 h) (wJ_mSide_grown v0 v2 v4 h) h Prod.snd (f_mSide_grown v0 v2 v4 h) := by
  unfold f_mSide_grown
  refine fe_v (fun y1 => ?_)
  refine fe_v (fun y2 => ?_)
  exact fe_j Fe.rf (fe_mSide_grown_b25_lp FU _ _ _ _ _ _ _) (fun x k hx => False.elim hx) (fun x k hx => False.elim hx)
def wI_mSeals_nonceOf_b79 (v0 : Nat) (v1 : Nat) (v2 : Int) (v3 : Int) (v5 : Int) (s0 : Nat) (s1 : Int) (s2 : Int) (s3 : Int) (h : Hp) (x k : Nat) : Prop := x = (hR h v0 16) ∨ x = s0
def wJ_mSeals_nonceOf_b79 (v0 : Nat) (v1 : Nat) (v2 : Int) (v3 : Int) (v5 : Int) (s0 : Nat) (s1 : Int) (s2 : Int) (s3 : Int) (h : Hp) (x k : Nat) : Prop := False
def wI_mSeals_nonceOf_b32 (v0 : Nat) (v1 : Nat) (v2 : Int) (v3 : Int) (v5 : Int) (h : Hp) (x k : Nat) : Prop := x = (hR h v0 16)
def wJ_mSeals_nonceOf_b32 (v0 : Nat) (v1 : Nat) (v2 : Int) (v3 : Int) (v5 : Int) (h : Hp) (x k : Nat) : Prop := False
def wI_mSeals_nonceOf_b3 (v0 : Nat) (v1 : Nat) (v2 : Int) (v3 : Int) (v5 : Int) (h : Hp) (x k : Nat) : Prop := x = (hR h v0 16) ∨ x = hR h v0 15
def wJ_mSeals_nonceOf_b3 (v0 : Nat) (v1 : Nat) (v2 : Int) (v3 : Int) (v5 : Int) (h : Hp) (x k : Nat) : Prop := False
def wI_mSeals_nonceOf (v0 : Nat) (v1 : Nat) (v2 : Int) (v3 : Int) (h : Hp) (x k : Nat) : Prop := x = (hR h v0 16) ∨ x = hR h v0 15
def wJ_mSeals_nonceOf (v0 : Nat) (v1 : Nat) (v2 : Int) (v3 : Int) (h : Hp) (x k : Nat) : Prop := False
theorem fe_mSeals_nonceOf_b79 {k32 : Nat → Nat → Int → Int → Int → Hp → Option (Hp)} (hk32 : ∀ (v0 : Nat) (v1 : Nat) (v2 : Int) (v3 : Int) (v5 : Int) (h : Hp), Feo (wI_mSeals_nonceOf_b32 v0 v1 v2 v3 v5 h) (wJ_mSeals_nonceOf_b32 v0 v1 v2 v3 v5 h) h id (k32 v0 v1 v2 v3 v5 h)) (v0 : Nat) (v1 : Nat) (v2 : Int) (v3 : Int) (v5 : Int) (s0 : Nat) (s1 : Int) (s2 : Int) (s3 : Int) (h : Hp) : Feo (wI_mSeals_nonceOf_b79 v0 v1 v2 v3 v5 s0 s1 s2 s3 h) (wJ_mSeals_nonceOf_b79 v0 v1 v2 v3 v5 s0 s1 s2 s3 h) h id (f_mSeals_nonceOf_b79 k32 v0 v1 v2 v3 v5 s0 s1 s2 s3 h) := by
  unfold f_mSeals_nonceOf_b79
  refine fe_it fe_no ?_
  refine fe_it ?_ fe_no
  refine fe_I Fe.rf (Or.inr (rfl)) (fun h10 F1 => ?_)
  exact fe_j F1 (hk32 _ _ _ _ _ _) (fun x k hx => by simp only [wI_mSeals_nonceOf_b32, F1.r] at hx; have e := hx; exact Or.inl (e)) (fun x k hx => False.elim hx)
theorem fe_mSeals_nonceOf_b32 {k32 : Nat → Nat → Int → Int → Int → Hp → Option (Hp)} (hk32 : ∀ (v0 : Nat) (v1 : Nat) (v2 : Int) (v3 : Int) (v5 : Int) (h : Hp), Feo (wI_mSeals_nonceOf_b32 v0 v1 v2 v3 v5 h) (wJ_mSeals_nonceOf_b32 v0 v1 v2 v3 v5 h) h id (k32 v0 v1 v2 v3 v5 h)) (v0 : Nat) (v1 : Nat) (v2 : Int) (v3 : Int) (v5 : Int) (h : Hp) : Feo (wI_mSeals_nonceOf_b32 v0 v1 v2 v3 v5 h) (wJ_mSeals_nonceOf_b32 v0 v1 v2 v3 v5 h) h id (f_mSeals_nonceOf_b32 k32 v0 v1 v2 v3 v5 h) := by
  unfold f_mSeals_nonceOf_b32
  refine fe_it ?_ ?_
  · exact fe_so Fe.rf
  · refine fe_it fe_no ?_
    refine fe_it ?_ fe_no
    refine fe_it ?_ ?_
    · exact fe_j Fe.rf (fe_mSeals_nonceOf_b79 hk32 _ _ _ _ _ _ _ _ _ _) (fun x k hx => by simp only [wI_mSeals_nonceOf_b79] at hx; rcases hx with e | e <;> first | exact e) (fun x k hx => False.elim hx)
    · exact fe_j Fe.rf (fe_mSeals_nonceOf_b79 hk32 _ _ _ _ _ _ _ _ _ _) (fun x k hx => by simp only [wI_mSeals_nonceOf_b79] at hx; rcases hx with e | e <;> first | exact e) (fun x k hx => False.elim hx)
theorem fe_mSeals_nonceOf_b32_lp (n : Nat) : ∀ (v0 : Nat) (v1 : Nat) (v2 : Int) (v3 : Int) (v5 : Int) (h : Hp), Feo (wI_mSeals_nonceOf_b32 v0 v1 v2 v3 v5 h) (wJ_mSeals_nonceOf_b32 v0 v1 v2 v3 v5 h) h id (f_mSeals_nonceOf_b32_lp n v0 v1 v2 v3 v5 h) := by
  induction n with
  | zero => intro v0 v1 v2 v3 v5 h; exact fe_no
  | succ n ih => intro v0 v1 v2 v3 v5 h; exact fe_mSeals_nonceOf_b32 ih v0 v1 v2 v3 v5 h
theorem fe_mSeals_nonceOf_b3 {k3 : Nat → Nat → Int → Int → Int → Hp → Option (Hp)} (hk3 : ∀ (v0 : Nat) (v1 : Nat) (v2 : Int) (v3 : Int) (v5 : Int) (h : Hp), Feo (wI_mSeals_nonceOf_b3 v0 v1 v2 v3 v5 h) (wJ_mSeals_nonceOf_b3 v0 v1 v2 v3 v5 h) h id (k3 v0 v1 v2 v3 v5 h)) (v0 : Nat) (v1 : Nat) (v2 : Int) (v3 : Int) (v5 : Int) (h : Hp) : Feo (wI_mSeals_nonceOf_b3 v0 v1 v2 v3 v5 h) (wJ_mSeals_nonceOf_b3 v0 v1 v2 v3 v5 h) h id (f_mSeals_nonceOf_b3 k3 v0 v1 v2 v3 v5 h) := by
  unfold f_mSeals_nonceOf_b3
  refine fe_it ?_ ?_
  · exact fe_j Fe.rf (fe_mSeals_nonceOf_b32_lp FU _ _ _ _ _ _) (fun x k hx => by simp only [wI_mSeals_nonceOf_b32] at hx; have e := hx; exact Or.inl (e)) (fun x k hx => False.elim hx)
  · refine fe_it fe_no ?_
    refine fe_it ?_ fe_no
    refine fe_it fe_no ?_
    refine fe_it ?_ fe_no
    refine fe_I Fe.rf (Or.inr (rfl)) (fun h5 F1 => ?_)
    exact fe_j F1 (hk3 _ _ _ _ _ _) (fun x k hx => by simp only [wI_mSeals_nonceOf_b3, F1.r] at hx; rcases hx with e | e <;> first | exact Or.inl (e) | exact Or.inr (e)) (fun x k hx => False.elim hx)
theorem fe_mSeals_nonceOf_b3_lp (n : Nat) : ∀ (v0 : Nat) (v1 : Nat) (v2 : Int) (v3 : Int) (v5 : Int) (h : Hp), Feo (wI_mSeals_nonceOf_b3 v0 v1 v2 v3 v5 h) (wJ_mSeals_nonceOf_b3 v0 v1 v2 v3 v5 h) h id (f_mSeals_nonceOf_b3_lp n v0 v1 v2 v3 v5 h) := by
  induction n with
  | zero => intro v0 v1 v2 v3 v5 h; exact fe_no
  | succ n ih => intro v0 v1 v2 v3 v5 h; exact fe_mSeals_nonceOf_b3 ih v0 v1 v2 v3 v5 h
theorem fe_mSeals_nonceOf (v0 : Nat) (v1 : Nat) (v2 : Int) (v3 : Int) (h : Hp) : Feo (wI_mSeals_nonceOf v0 v1 v2 v3 h) (wJ_mSeals_nonceOf v0 v1 v2 v3 h) h id (f_mSeals_nonceOf v0 v1 v2 v3 h) := by
  unfold f_mSeals_nonceOf
  exact fe_j Fe.rf (fe_mSeals_nonceOf_b3_lp FU _ _ _ _ _ _) (fun x k hx => by simp only [wI_mSeals_nonceOf_b3] at hx; rcases hx with e | e <;> first | exact Or.inl (e) | exact Or.inr (e)) (fun x k hx => False.elim hx)
def wI_mSeals_fill_b2 (v0 : Nat) (v2 : Int) (h : Hp) (x k : Nat) : Prop := x = hR h v0 24
def wJ_mSeals_fill_b2 (v0 : Nat) (v2 : Int) (h : Hp) (x k : Nat) : Prop := False
def wI_mSeals_fill (v0 : Nat) (v1 : Int) (h : Hp) (x k : Nat) : Prop := x = hR h v0 24
def wJ_mSeals_fill (v0 : Nat) (v1 : Int) (h : Hp) (x k : Nat) : Prop := False
theorem fe_mSeals_fill_b2 {k2 : Nat → Int → Hp → Option (Int × Hp)} (hk2 : ∀ (v0 : Nat) (v2 : Int) (h : Hp), Feo (wI_mSeals_fill_b2 v0 v2 h) (wJ_mSeals_fill_b2 v0 v2 h) h Prod.snd (k2 v0 v2 h)) (v0 : Nat) (v2 : Int) (h : Hp) : Feo (wI_mSeals_fill_b2 v0 v2 h) (wJ_mSeals_fill_b2 v0 v2 h) h Prod.snd (f_mSeals_fill_b2 k2 v0 v2 h) := by
  unfold f_mSeals_fill_b2
  refine fe_it ?_ ?_
  · exact fe_so Fe.rf
  · refine fe_it fe_no ?_
    refine fe_it ?_ fe_no
    refine fe_I Fe.rf (rfl) (fun h3 F1 => ?_)
    exact fe_j F1 (hk2 _ _ _) (fun x k hx => by simp only [wI_mSeals_fill_b2, F1.r] at hx; have e := hx; exact e) (fun x k hx => False.elim hx)
theorem fe_mSeals_fill_b2_lp (n : Nat) : ∀ (v0 : Nat) (v2 : Int) (h : Hp), Feo (wI_mSeals_fill_b2 v0 v2 h) (wJ_mSeals_fill_b2 v0 v2 h) h Prod.snd (f_mSeals_fill_b2_lp n v0 v2 h) := by
  induction n with
  | zero => intro v0 v2 h; exact fe_no
  | succ n ih => intro v0 v2 h; exact fe_mSeals_fill_b2 ih v0 v2 h
theorem fe_mSeals_fill (v0 : Nat) (v1 : Int) (h : Hp) : Feo (wI_mSeals_fill v0 v1 h) (wJ_mSeals_fill v0 v1 h) h Prod.snd (f_mSeals_fill v0 v1 h) := by
  unfold f_mSeals_fill
  exact fe_j Fe.rf (fe_mSeals_fill_b2_lp FU _ _ _) (fun x k hx => by simp only [wI_mSeals_fill_b2] at hx; have e := hx; exact e) (fun x k hx => False.elim hx)
def wI_mSeals_multiply_b51 (v0 : Nat) (v2 : Int) (v3 : Int) (s0 : Int) (s1 : Int) (h : Hp) (x k : Nat) : Prop := x = hR h v0 20 ∨ x = hR h v0 22
def wJ_mSeals_multiply_b51 (v0 : Nat) (v2 : Int) (v3 : Int) (s0 : Int) (s1 : Int) (h : Hp) (x k : Nat) : Prop := False
def wI_mSeals_multiply_b59 (v0 : Nat) (v1 : Int) (v2 : Int) (h : Hp) (x k : Nat) : Prop := x = hR h v0 20 ∨ x = hR h v0 22
def wJ_mSeals_multiply_b59 (v0 : Nat) (v1 : Int) (v2 : Int) (h : Hp) (x k : Nat) : Prop := False
def wI_mSeals_multiply_b12 (v0 : Nat) (v1 : Int) (v2 : Int) (v3 : Int) (h : Hp) (x k : Nat) : Prop := x = hR h v0 20 ∨ x = hR h v0 22
def wJ_mSeals_multiply_b12 (v0 : Nat) (v1 : Int) (v2 : Int) (v3 : Int) (h : Hp) (x k : Nat) : Prop := False
def wI_mSeals_multiply_b182 (v0 : Nat) (v1 : Int) (v2 : Int) (v3 : Int) (v4 : Int) (s0 : Int) (h : Hp) (x k : Nat) : Prop := x = hR h v0 20 ∨ x = hR h v0 22
def wJ_mSeals_multiply_b182 (v0 : Nat) (v1 : Int) (v2 : Int) (v3 : Int) (v4 : Int) (s0 : Int) (h : Hp) (x k : Nat) : Prop := False
def wI_mSeals_multiply_b147 (v0 : Nat) (v1 : Int) (v2 : Int) (v3 : Int) (s0 : Int) (h : Hp) (x k : Nat) : Prop := x = hR h v0 20 ∨ x = hR h v0 22
def wJ_mSeals_multiply_b147 (v0 : Nat) (v1 : Int) (v2 : Int) (v3 : Int) (s0 : Int) (h : Hp) (x k : Nat) : Prop := False
def wI_mSeals_multiply_b139 (v0 : Nat) (v1 : Int) (v2 : Int) (v3 : Int) (s0 : Int) (s1 : Int) (h : Hp) (x k : Nat) : Prop := x = hR h v0 20 ∨ x = hR h v0 22
def wJ_mSeals_multiply_b139 (v0 : Nat) (v1 : Int) (v2 : Int) (v3 : Int) (s0 : Int) (s1 : Int) (h : Hp) (x k : Nat) : Prop := False
def wI_mSeals_multiply_b218 (v0 : Nat) (v2 : Int) (v3 : Int) (h : Hp) (x k : Nat) : Prop := x = hR h v0 20 ∨ x = hR h v0 22
def wJ_mSeals_multiply_b218 (v0 : Nat) (v2 : Int) (v3 : Int) (h : Hp) (x k : Nat) : Prop := False
def wI_mSeals_multiply_b92 (v0 : Nat) (v1 : Int) (v2 : Int) (v3 : Int) (h : Hp) (x k : Nat) : Prop := x = hR h v0 20 ∨ x = hR h v0 22
def wJ_mSeals_multiply_b92 (v0 : Nat) (v1 : Int) (v2 : Int) (v3 : Int) (h : Hp) (x k : Nat) : Prop := False
def wI_mSeals_multiply_b83 (v0 : Nat) (v2 : Int) (h : Hp) (x k : Nat) : Prop := x = hR h v0 20 ∨ x = hR h v0 22
def wJ_mSeals_multiply_b83 (v0 : Nat) (v2 : Int) (h : Hp) (x k : Nat) : Prop := False
def wI_mSeals_multiply_b4 (v0 : Nat) (v1 : Int) (v2 : Int) (h : Hp) (x k : Nat) : Prop := x = hR h v0 20 ∨ x = hR h v0 22
def wJ_mSeals_multiply_b4 (v0 : Nat) (v1 : Int) (v2 : Int) (h : Hp) (x k : Nat) : Prop := False
def wI_mSeals_multiply (v0 : Nat) (h : Hp) (x k : Nat) : Prop := x = hR h v0 20 ∨ x = hR h v0 22
def wJ_mSeals_multiply (v0 : Nat) (h : Hp) (x k : Nat) : Prop := False
theorem fe_mSeals_multiply_b51 {k4 : Nat → Int → Int → Hp → Option (Hp)} (hk4 : ∀ (v0 : Nat) (v1 : Int) (v2 : Int) (h : Hp), Feo (wI_mSeals_multiply_b4 v0 v1 v2 h) (wJ_mSeals_multiply_b4 v0 v1 v2 h) h id (k4 v0 v1 v2 h)) {k12 : Nat → Int → Int → Int → Hp → Option (Hp)} (hk12 : ∀ (v0 : Nat) (v1 : Int) (v2 : Int) (v3 : Int) (h : Hp), Feo (wI_mSeals_multiply_b12 v0 v1 v2 v3 h) (wJ_mSeals_multiply_b12 v0 v1 v2 v3 h) h id (k12 v0 v1 v2 v3 h)) (v0 : Nat) (v2 : Int) (v3 : Int) (s0 : Int) (s1 : Int) (h : Hp) : Feo (wI_mSeals_multiply_b51 v0 v2 v3 s0 s1 h) (wJ_mSeals_multiply_b51 v0 v2 v3 s0 s1 h) h id (f_mSeals_multiply_b51 k4 k12 v0 v2 v3 s0 s1 h) := by
  unfold f_mSeals_multiply_b51
  refine fe_v (fun y26 => ?_)
  exact fe_j Fe.rf (hk12 _ _ _ _ _) (fun x k hx => by simp only [wI_mSeals_multiply_b12] at hx; rcases hx with e | e <;> first | exact Or.inl (e) | exact Or.inr (e)) (fun x k hx => False.elim hx)
theorem fe_mSeals_multiply_b59 {k4 : Nat → Int → Int → Hp → Option (Hp)} (hk4 : ∀ (v0 : Nat) (v1 : Int) (v2 : Int) (h : Hp), Feo (wI_mSeals_multiply_b4 v0 v1 v2 h) (wJ_mSeals_multiply_b4 v0 v1 v2 h) h id (k4 v0 v1 v2 h)) (v0 : Nat) (v1 : Int) (v2 : Int) (h : Hp) : Feo (wI_mSeals_multiply_b59 v0 v1 v2 h) (wJ_mSeals_multiply_b59 v0 v1 v2 h) h id (f_mSeals_multiply_b59 k4 v0 v1 v2 h) := by
  unfold f_mSeals_multiply_b59
  refine fe_it fe_no ?_
  refine fe_it ?_ fe_no
  refine fe_I Fe.rf (Or.inr (rfl)) (fun h24 F1 => ?_)
  refine fe_v (fun y25 => ?_)
  exact fe_j F1 (hk4 _ _ _ _) (fun x k hx => by simp only [wI_mSeals_multiply_b4, F1.r] at hx; rcases hx with e | e <;> first | exact Or.inl (e) | exact Or.inr (e)) (fun x k hx => False.elim hx)
theorem fe_mSeals_multiply_b12 {k4 : Nat → Int → Int → Hp → Option (Hp)} (hk4 : ∀ (v0 : Nat) (v1 : Int) (v2 : Int) (h : Hp), Feo (wI_mSeals_multiply_b4 v0 v1 v2 h) (wJ_mSeals_multiply_b4 v0 v1 v2 h) h id (k4 v0 v1 v2 h)) {k12 : Nat → Int → Int → Int → Hp → Option (Hp)} (hk12 : ∀ (v0 : Nat) (v1 : Int) (v2 : Int) (v3 : Int) (h : Hp), Feo (wI_mSeals_multiply_b12 v0 v1 v2 v3 h) (wJ_mSeals_multiply_b12 v0 v1 v2 v3 h) h id (k12 v0 v1 v2 v3 h)) (v0 : Nat) (v1 : Int) (v2 : Int) (v3 : Int) (h : Hp) : Feo (wI_mSeals_multiply_b12 v0 v1 v2 v3 h) (wJ_mSeals_multiply_b12 v0 v1 v2 v3 h) h id (f_mSeals_multiply_b12 k4 k12 v0 v1 v2 v3 h) := by
  unfold f_mSeals_multiply_b12
  refine fe_it ?_ ?_
  · exact fe_j Fe.rf (fe_mSeals_multiply_b59 hk4 _ _ _ _) (fun x k hx => by simp only [wI_mSeals_multiply_b59] at hx; rcases hx with e | e <;> first | exact Or.inl (e) | exact Or.inr (e)) (fun x k hx => False.elim hx)
  · refine fe_it ?_ ?_
    · exact fe_j Fe.rf (fe_mSeals_multiply_b59 hk4 _ _ _ _) (fun x k hx => by simp only [wI_mSeals_multiply_b59] at hx; rcases hx with e | e <;> first | exact Or.inl (e) | exact Or.inr (e)) (fun x k hx => False.elim hx)
    · refine fe_it ?_ ?_
      · exact fe_j Fe.rf (fe_mSeals_multiply_b51 hk4 hk12 _ _ _ _ _ _) (fun x k hx => by simp only [wI_mSeals_multiply_b51] at hx; rcases hx with e | e <;> first | exact Or.inl (e) | exact Or.inr (e)) (fun x k hx => False.elim hx)
      · refine fe_it fe_no ?_
        refine fe_it ?_ fe_no
        refine fe_it fe_no ?_
        refine fe_it ?_ fe_no
        exact fe_j Fe.rf (fe_mSeals_multiply_b51 hk4 hk12 _ _ _ _ _ _) (fun x k hx => by simp only [wI_mSeals_multiply_b51] at hx; rcases hx with e | e <;> first | exact Or.inl (e) | exact Or.inr (e)) (fun x k hx => False.elim hx)
theorem fe_mSeals_multiply_b12_lp {k4 : Nat → Int → Int → Hp → Option (Hp)} (hk4 : ∀ (v0 : Nat) (v1 : Int) (v2 : Int) (h : Hp), Feo (wI_mSeals_multiply_b4 v0 v1 v2 h) (wJ_mSeals_multiply_b4 v0 v1 v2 h) h id (k4 v0 v1 v2 h)) (n : Nat) : ∀ (v0 : Nat) (v1 : Int) (v2 : Int) (v3 : Int) (h : Hp), Feo (wI_mSeals_multiply_b12 v0 v1 v2 v3 h) (wJ_mSeals_multiply_b12 v0 v1 v2 v3 h) h id (f_mSeals_multiply_b12_lp k4 n v0 v1 v2 v3 h) := by
  induction n with
  | zero => intro v0 v1 v2 v3 h; exact fe_no
  | succ n ih => intro v0 v1 v2 v3 h; exact fe_mSeals_multiply_b12 hk4 ih v0 v1 v2 v3 h
theorem fe_mSeals_multiply_b182 {k83 : Nat → Int → Hp → Option (Hp)} (hk83 : ∀ (v0 : Nat) (v2 : Int) (h : Hp), Feo (wI_mSeals_multiply_b83 v0 v2 h) (wJ_mSeals_multiply_b83 v0 v2 h) h id (k83 v0 v2 h)) {k92 : Nat → Int → Int → Int → Hp → Option (Hp)} (hk92 : ∀ (v0 : Nat) (v1 : Int) (v2 : Int) (v3 : Int) (h : Hp), Feo (wI_mSeals_multiply_b92 v0 v1 v2 v3 h) (wJ_mSeals_multiply_b92 v0 v1 v2 v3 h) h id (k92 v0 v1 v2 v3 h)) (v0 : Nat) (v1 : Int) (v2 : Int) (v3 : Int) (v4 : Int) (s0 : Int) (h : Hp) : Feo (wI_mSeals_multiply_b182 v0 v1 v2 v3 v4 s0 h) (wJ_mSeals_multiply_b182 v0 v1 v2 v3 v4 s0 h) h id (f_mSeals_multiply_b182 k83 k92 v0 v1 v2 v3 v4 s0 h) := by
  unfold f_mSeals_multiply_b182
  refine fe_v (fun y8 => ?_)
  refine fe_it fe_no ?_
  refine fe_it ?_ fe_no
  refine fe_I Fe.rf (Or.inl (rfl)) (fun h11 F1 => ?_)
  refine fe_v (fun y12 => ?_)
  exact fe_j F1 (hk92 _ _ _ _ _) (fun x k hx => by simp only [wI_mSeals_multiply_b92, F1.r] at hx; rcases hx with e | e <;> first | exact Or.inl (e) | exact Or.inr (e)) (fun x k hx => False.elim hx)
theorem fe_mSeals_multiply_b147 {k83 : Nat → Int → Hp → Option (Hp)} (hk83 : ∀ (v0 : Nat) (v2 : Int) (h : Hp), Feo (wI_mSeals_multiply_b83 v0 v2 h) (wJ_mSeals_multiply_b83 v0 v2 h) h id (k83 v0 v2 h)) {k92 : Nat → Int → Int → Int → Hp → Option (Hp)} (hk92 : ∀ (v0 : Nat) (v1 : Int) (v2 : Int) (v3 : Int) (h : Hp), Feo (wI_mSeals_multiply_b92 v0 v1 v2 v3 h) (wJ_mSeals_multiply_b92 v0 v1 v2 v3 h) h id (k92 v0 v1 v2 v3 h)) (v0 : Nat) (v1 : Int) (v2 : Int) (v3 : Int) (s0 : Int) (h : Hp) : Feo (wI_mSeals_multiply_b147 v0 v1 v2 v3 s0 h) (wJ_mSeals_multiply_b147 v0 v1 v2 v3 s0 h) h id (f_mSeals_multiply_b147 k83 k92 v0 v1 v2 v3 s0 h) := by
  unfold f_mSeals_multiply_b147
  refine fe_it ?_ ?_
  · refine fe_it ?_ ?_
    · exact fe_j Fe.rf (fe_mSeals_multiply_b182 hk83 hk92 _ _ _ _ _ _ _) (fun x k hx => by simp only [wI_mSeals_multiply_b182] at hx; rcases hx with e | e <;> first | exact Or.inl (e) | exact Or.inr (e)) (fun x k hx => False.elim hx)
    · refine fe_it fe_no ?_
      refine fe_it ?_ fe_no
      exact fe_j Fe.rf (fe_mSeals_multiply_b182 hk83 hk92 _ _ _ _ _ _ _) (fun x k hx => by simp only [wI_mSeals_multiply_b182] at hx; rcases hx with e | e <;> first | exact Or.inl (e) | exact Or.inr (e)) (fun x k hx => False.elim hx)
  · refine fe_it fe_no ?_
    refine fe_it ?_ fe_no
    exact fe_j Fe.rf (fe_mSeals_multiply_b182 hk83 hk92 _ _ _ _ _ _ _) (fun x k hx => by simp only [wI_mSeals_multiply_b182] at hx; rcases hx with e | e <;> first | exact Or.inl (e) | exact Or.inr (e)) (fun x k hx => False.elim hx)
theorem fe_mSeals_multiply_b139 {k83 : Nat → Int → Hp → Option (Hp)} (hk83 : ∀ (v0 : Nat) (v2 : Int) (h : Hp), Feo (wI_mSeals_multiply_b83 v0 v2 h) (wJ_mSeals_multiply_b83 v0 v2 h) h id (k83 v0 v2 h)) {k92 : Nat → Int → Int → Int → Hp → Option (Hp)} (hk92 : ∀ (v0 : Nat) (v1 : Int) (v2 : Int) (v3 : Int) (h : Hp), Feo (wI_mSeals_multiply_b92 v0 v1 v2 v3 h) (wJ_mSeals_multiply_b92 v0 v1 v2 v3 h) h id (k92 v0 v1 v2 v3 h)) (v0 : Nat) (v1 : Int) (v2 : Int) (v3 : Int) (s0 : Int) (s1 : Int) (h : Hp) : Feo (wI_mSeals_multiply_b139 v0 v1 v2 v3 s0 s1 h) (wJ_mSeals_multiply_b139 v0 v1 v2 v3 s0 s1 h) h id (f_mSeals_multiply_b139 k83 k92 v0 v1 v2 v3 s0 s1 h) := by
  unfold f_mSeals_multiply_b139
  exact fe_j Fe.rf (fe_mSeals_multiply_b147 hk83 hk92 _ _ _ _ _ _) (fun x k hx => by simp only [wI_mSeals_multiply_b147] at hx; rcases hx with e | e <;> first | exact Or.inl (e) | exact Or.inr (e)) (fun x k hx => False.elim hx)
theorem fe_mSeals_multiply_b218 {k83 : Nat → Int → Hp → Option (Hp)} (hk83 : ∀ (v0 : Nat) (v2 : Int) (h : Hp), Feo (wI_mSeals_multiply_b83 v0 v2 h) (wJ_mSeals_multiply_b83 v0 v2 h) h id (k83 v0 v2 h)) {k218 : Nat → Int → Int → Hp → Option (Hp)} (hk218 : ∀ (v0 : Nat) (v2 : Int) (v3 : Int) (h : Hp), Feo (wI_mSeals_multiply_b218 v0 v2 v3 h) (wJ_mSeals_multiply_b218 v0 v2 v3 h) h id (k218 v0 v2 v3 h)) (v0 : Nat) (v2 : Int) (v3 : Int) (h : Hp) : Feo (wI_mSeals_multiply_b218 v0 v2 v3 h) (wJ_mSeals_multiply_b218 v0 v2 v3 h) h id (f_mSeals_multiply_b218 k83 k218 v0 v2 v3 h) := by
  unfold f_mSeals_multiply_b218
  refine fe_it ?_ ?_
  · exact fe_j Fe.rf (hk83 _ _ _) (fun x k hx => by simp only [wI_mSeals_multiply_b83] at hx; rcases hx with e | e <;> first | exact Or.inl (e) | exact Or.inr (e)) (fun x k hx => False.elim hx)
  · refine fe_it fe_no ?_
    refine fe_it ?_ fe_no
    refine fe_it fe_no ?_
    refine fe_it ?_ fe_no
    refine fe_I Fe.rf (Or.inr (rfl)) (fun h17 F1 => ?_)
    exact fe_j F1 (hk218 _ _ _ _) (fun x k hx => by simp only [wI_mSeals_multiply_b218, F1.r] at hx; rcases hx with e | e <;> first | exact Or.inl (e) | exact Or.inr (e)) (fun x k hx => False.elim hx)
theorem fe_mSeals_multiply_b218_lp {k83 : Nat → Int → Hp → Option (Hp)} (hk83 : ∀ (v0 : Nat) (v2 : Int) (h : Hp), Feo (wI_mSeals_multiply_b83 v0 v2 h) (wJ_mSeals_multiply_b83 v0 v2 h) h id (k83 v0 v2 h)) (n : Nat) : ∀ (v0 : Nat) (v2 : Int) (v3 : Int) (h : Hp), Feo (wI_mSeals_multiply_b218 v0 v2 v3 h) (wJ_mSeals_multiply_b218 v0 v2 v3 h) h id (f_mSeals_multiply_b218_lp k83 n v0 v2 v3 h) := by
  induction n with
  | zero => intro v0 v2 v3 h; exact fe_no
  | succ n ih => intro v0 v2 v3 h; exact fe_mSeals_multiply_b218 hk83 ih v0 v2 v3 h
theorem fe_mSeals_multiply_b92 {k83 : Nat → Int → Hp → Option (Hp)} (hk83 : ∀ (v0 : Nat) (v2 : Int) (h : Hp), Feo (wI_mSeals_multiply_b83 v0 v2 h) (wJ_mSeals_multiply_b83 v0 v2 h) h id (k83 v0 v2 h)) {k92 : Nat → Int → Int → Int → Hp → Option (Hp)} (hk92 : ∀ (v0 : Nat) (v1 : Int) (v2 : Int) (v3 : Int) (h : Hp), Feo (wI_mSeals_multiply_b92 v0 v1 v2 v3 h) (wJ_mSeals_multiply_b92 v0 v1 v2 v3 h) h id (k92 v0 v1 v2 v3 h)) (v0 : Nat) (v1 : Int) (v2 : Int) (v3 : Int) (h : Hp) : Feo (wI_mSeals_multiply_b92 v0 v1 v2 v3 h) (wJ_mSeals_multiply_b92 v0 v1 v2 v3 h) h id (f_mSeals_multiply_b92 k83 k92 v0 v1 v2 v3 h) := by
  unfold f_mSeals_multiply_b92
  refine fe_it ?_ ?_
  · exact fe_j Fe.rf (fe_mSeals_multiply_b218_lp hk83 FU _ _ _ _) (fun x k hx => by simp only [wI_mSeals_multiply_b218] at hx; rcases hx with e | e <;> first | exact Or.inl (e) | exact Or.inr (e)) (fun x k hx => False.elim hx)
  · refine fe_it ?_ ?_
    · exact fe_j Fe.rf (fe_mSeals_multiply_b147 hk83 hk92 _ _ _ _ _ _) (fun x k hx => by simp only [wI_mSeals_multiply_b147] at hx; rcases hx with e | e <;> first | exact Or.inl (e) | exact Or.inr (e)) (fun x k hx => False.elim hx)
    · refine fe_it fe_no ?_
      refine fe_it ?_ fe_no
      refine fe_it ?_ ?_
      · exact fe_j Fe.rf (fe_mSeals_multiply_b139 hk83 hk92 _ _ _ _ _ _ _) (fun x k hx => by simp only [wI_mSeals_multiply_b139] at hx; rcases hx with e | e <;> first | exact Or.inl (e) | exact Or.inr (e)) (fun x k hx => False.elim hx)
      · refine fe_it ?_ fe_no
        exact fe_j Fe.rf (fe_mSeals_multiply_b139 hk83 hk92 _ _ _ _ _ _ _) (fun x k hx => by simp only [wI_mSeals_multiply_b139] at hx; rcases hx with e | e <;> first | exact Or.inl (e) | exact Or.inr (e)) (fun x k hx => False.elim hx)
theorem fe_mSeals_multiply_b92_lp {k83 : Nat → Int → Hp → Option (Hp)} (hk83 : ∀ (v0 : Nat) (v2 : Int) (h : Hp), Feo (wI_mSeals_multiply_b83 v0 v2 h) (wJ_mSeals_multiply_b83 v0 v2 h) h id (k83 v0 v2 h)) (n : Nat) : ∀ (v0 : Nat) (v1 : Int) (v2 : Int) (v3 : Int) (h : Hp), Feo (wI_mSeals_multiply_b92 v0 v1 v2 v3 h) (wJ_mSeals_multiply_b92 v0 v1 v2 v3 h) h id (f_mSeals_multiply_b92_lp k83 n v0 v1 v2 v3 h) := by
  induction n with
  | zero => intro v0 v1 v2 v3 h; exact fe_no
  | succ n ih => intro v0 v1 v2 v3 h; exact fe_mSeals_multiply_b92 hk83 ih v0 v1 v2 v3 h
theorem fe_mSeals_multiply_b83 {k83 : Nat → Int → Hp → Option (Hp)} (hk83 : ∀ (v0 : Nat) (v2 : Int) (h : Hp), Feo (wI_mSeals_multiply_b83 v0 v2 h) (wJ_mSeals_multiply_b83 v0 v2 h) h id (k83 v0 v2 h)) (v0 : Nat) (v2 : Int) (h : Hp) : Feo (wI_mSeals_multiply_b83 v0 v2 h) (wJ_mSeals_multiply_b83 v0 v2 h) h id (f_mSeals_multiply_b83 k83 v0 v2 h) := by
  unfold f_mSeals_multiply_b83
  refine fe_it ?_ ?_
  · exact fe_so Fe.rf
  · exact fe_j Fe.rf (fe_mSeals_multiply_b92_lp hk83 FU _ _ _ _ _) (fun x k hx => by simp only [wI_mSeals_multiply_b92] at hx; rcases hx with e | e <;> first | exact Or.inl (e) | exact Or.inr (e)) (fun x k hx => False.elim hx)
theorem fe_mSeals_multiply_b83_lp (n : Nat) : ∀ (v0 : Nat) (v2 : Int) (h : Hp), Feo (wI_mSeals_multiply_b83 v0 v2 h) (wJ_mSeals_multiply_b83 v0 v2 h) h id (f_mSeals_multiply_b83_lp n v0 v2 h) := by
  induction n with
  | zero => intro v0 v2 h; exact fe_no
  | succ n ih => intro v0 v2 h; exact fe_mSeals_multiply_b83 ih v0 v2 h
theorem fe_mSeals_multiply_b4 {k4 : Nat → Int → Int → Hp → Option (Hp)} (hk4 : ∀ (v0 : Nat) (v1 : Int) (v2 : Int) (h : Hp), Feo (wI_mSeals_multiply_b4 v0 v1 v2 h) (wJ_mSeals_multiply_b4 v0 v1 v2 h) h id (k4 v0 v1 v2 h)) (v0 : Nat) (v1 : Int) (v2 : Int) (h : Hp) : Feo (wI_mSeals_multiply_b4 v0 v1 v2 h) (wJ_mSeals_multiply_b4 v0 v1 v2 h) h id (f_mSeals_multiply_b4 k4 v0 v1 v2 h) := by
  unfold f_mSeals_multiply_b4
  refine fe_it ?_ ?_
  · exact fe_j Fe.rf (fe_mSeals_multiply_b83_lp FU _ _ _) (fun x k hx => by simp only [wI_mSeals_multiply_b83] at hx; rcases hx with e | e <;> first | exact Or.inl (e) | exact Or.inr (e)) (fun x k hx => False.elim hx)
  · exact fe_j Fe.rf (fe_mSeals_multiply_b12_lp hk4 FU _ _ _ _ _) (fun x k hx => by simp only [wI_mSeals_multiply_b12] at hx; rcases hx with e | e <;> first | exact Or.inl (e) | exact Or.inr (e)) (fun x k hx => False.elim hx)
theorem fe_mSeals_multiply_b4_lp (n : Nat) : ∀ (v0 : Nat) (v1 : Int) (v2 : Int) (h : Hp), Feo (wI_mSeals_multiply_b4 v0 v1 v2 h) (wJ_mSeals_multiply_b4 v0 v1 v2 h) h id (f_mSeals_multiply_b4_lp n v0 v1 v2 h) := by
  induction n with
  | zero => intro v0 v1 v2 h; exact fe_no
  | succ n ih => intro v0 v1 v2 h; exact fe_mSeals_multiply_b4 ih v0 v1 v2 h
theorem fe_mSeals_multiply (v0 : Nat) (h : Hp) : Feo (wI_mSeals_multiply v0 h) (wJ_mSeals_multiply v0 h) h id (f_mSeals_multiply v0 h) := by
  unfold f_mSeals_multiply
  exact fe_j Fe.rf (fe_mSeals_multiply_b4_lp FU _ _ _ _) (fun x k hx => by simp only [wI_mSeals_multiply_b4] at hx; rcases hx with e | e <;> first | exact Or.inl (e) | exact Or.inr (e)) (fun x k hx => False.elim hx)
