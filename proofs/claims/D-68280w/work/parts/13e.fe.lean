/-! effects (gen/fe.py) -/
def wI_mStreams_takes_b209 (v0 : Nat) (s0 : Nat) (s1 : Int) (s2 : Int) (s3 : Int) (h : Hp) (x k : Nat) : Prop := False
def wJ_mStreams_takes_b209 (v0 : Nat) (s0 : Nat) (s1 : Int) (s2 : Int) (s3 : Int) (h : Hp) (x k : Nat) : Prop := x = s0
def wI_mStreams_takes_b165 (v0 : Nat) (v1 : Int) (h : Hp) (x k : Nat) : Prop := False
def wJ_mStreams_takes_b165 (v0 : Nat) (v1 : Int) (h : Hp) (x k : Nat) : Prop := x = (hR h v0 2)
def wI_mStreams_takes_b147 (v0 : Nat) (v1 : Int) (h : Hp) (x k : Nat) : Prop := False
def wJ_mStreams_takes_b147 (v0 : Nat) (v1 : Int) (h : Hp) (x k : Nat) : Prop := x = (hR h v0 2)
def wI_mStreams_takes_b109 (v0 : Nat) (v1 : Int) (h : Hp) (x k : Nat) : Prop := x = hR h v0 12 ∨ x = hR h v0 16 ∨ x = hR h v0 17 ∨ x = hR h v0 5
def wJ_mStreams_takes_b109 (v0 : Nat) (v1 : Int) (h : Hp) (x k : Nat) : Prop := x = (hR h v0 13) ∨ x = hR h v0 13 ∨ x = hR h v0 18 ∨ x = hR h v0 33
def wI_mStreams_takes (v0 : Nat) (v1 : Int) (v2 : Nat) (h : Hp) (x k : Nat) : Prop := x = hR h v0 10 ∨ x = hR h v0 12 ∨ x = hR h v0 16 ∨ x = hR h v0 17 ∨ x = hR h v0 30 ∨ x = hR h v0 31 ∨ x = hR h v0 38 ∨ x = hR h v0 39 ∨ x = hR h v0 45 ∨ x = hR h v0 46 ∨ x = hR h v0 47 ∨ x = hR h v0 49 ∨ x = hR h v0 5 ∨ x = hR h v0 6 ∨ x = hR h v0 7 ∨ (x = v0 ∧ k = 50) ∨ (x = v0 ∧ k = 54)
def wJ_mStreams_takes (v0 : Nat) (v1 : Int) (v2 : Nat) (h : Hp) (x k : Nat) : Prop := x = (hR h v0 13) ∨ x = (hR h v0 2) ∨ x = hR h v0 13 ∨ x = hR h v0 18 ∨ x = hR h v0 2 ∨ x = hR h v0 27 ∨ x = hR h v0 28 ∨ x = hR h v0 32 ∨ x = hR h v0 33 ∨ x = hR h v0 48 ∨ x = hR h v0 9 ∨ (x = v0 ∧ k = 51) ∨ (x = v0 ∧ k = 52) ∨ (x = v0 ∧ k = 53)
theorem fe_mStreams_takes_b209 (v0 : Nat) (s0 : Nat) (s1 : Int) (s2 : Int) (s3 : Int) (h : Hp) : Feo (wI_mStreams_takes_b209 v0 s0 s1 s2 s3 h) (wJ_mStreams_takes_b209 v0 s0 s1 s2 s3 h) h Prod.snd (f_mStreams_takes_b209 v0 s0 s1 s2 s3 h) := by
  unfold f_mStreams_takes_b209
  refine fe_b2 Fe.rf (fe_mStreams_greater _ _ _) (fun x k hx => False.elim hx) (fun x k hx => False.elim hx) (fun r34 h32 F1 => ?_)
  refine fe_it fe_no ?_
  refine fe_it ?_ fe_no
  refine fe_J F1 (rfl) (fun h37 F2 => ?_)
  exact fe_so F2
theorem fe_mStreams_takes_b165 (v0 : Nat) (v1 : Int) (h : Hp) : Feo (wI_mStreams_takes_b165 v0 v1 h) (wJ_mStreams_takes_b165 v0 v1 h) h Prod.snd (f_mStreams_takes_b165 v0 v1 h) := by
  unfold f_mStreams_takes_b165
  refine fe_v (fun y29 => ?_)
  refine fe_it fe_no ?_
  refine fe_it ?_ fe_no
  refine fe_it ?_ ?_
  · exact fe_j Fe.rf (fe_mStreams_takes_b209 _ _ _ _ _ _) (fun x k hx => False.elim hx) (fun x k hx => by simp only [wJ_mStreams_takes_b209] at hx; have e := hx; exact e)
  · exact fe_j Fe.rf (fe_mStreams_takes_b209 _ _ _ _ _ _) (fun x k hx => False.elim hx) (fun x k hx => by simp only [wJ_mStreams_takes_b209] at hx; have e := hx; exact e)
theorem fe_mStreams_takes_b147 (v0 : Nat) (v1 : Int) (h : Hp) : Feo (wI_mStreams_takes_b147 v0 v1 h) (wJ_mStreams_takes_b147 v0 v1 h) h Prod.snd (f_mStreams_takes_b147 v0 v1 h) := by
  unfold f_mStreams_takes_b147
  refine fe_it ?_ ?_
  · exact fe_j Fe.rf (fe_mStreams_takes_b165 _ _ _) (fun x k hx => False.elim hx) (fun x k hx => by simp only [wJ_mStreams_takes_b165] at hx; have e := hx; exact e)
  · refine fe_it ?_ ?_
    · exact fe_so Fe.rf
    · exact fe_j Fe.rf (fe_mStreams_takes_b165 _ _ _) (fun x k hx => False.elim hx) (fun x k hx => by simp only [wJ_mStreams_takes_b165] at hx; have e := hx; exact e)
theorem fe_mStreams_takes_b109 (v0 : Nat) (v1 : Int) (h : Hp) : Feo (wI_mStreams_takes_b109 v0 v1 h) (wJ_mStreams_takes_b109 v0 v1 h) h Prod.snd (f_mStreams_takes_b109 v0 v1 h) := by
  unfold f_mStreams_takes_b109
  refine fe_b2 Fe.rf (fe_mStreams_takeOther _ _ _) (fun x k hx => by simp only [wI_mStreams_takeOther] at hx; rcases hx with e | e | e | e <;> first | exact Or.inl (e) | exact Or.inr (Or.inl (e)) | exact Or.inr (Or.inr (Or.inl (e))) | exact Or.inr (Or.inr (Or.inr (e)))) (fun x k hx => by simp only [wJ_mStreams_takeOther] at hx; rcases hx with e | e | e | e <;> first | exact Or.inl (e) | exact Or.inr (Or.inl (e)) | exact Or.inr (Or.inr (Or.inl (e))) | exact Or.inr (Or.inr (Or.inr (e)))) (fun r28 h26 F1 => ?_)
  exact fe_so F1
theorem fe_mStreams_takes (v0 : Nat) (v1 : Int) (v2 : Nat) (h : Hp) : Feo (wI_mStreams_takes v0 v1 v2 h) (wJ_mStreams_takes v0 v1 v2 h) h Prod.snd (f_mStreams_takes v0 v1 v2 h) := by
  unfold f_mStreams_takes
  refine fe_it fe_no ?_
  refine fe_I Fe.rf (Or.inr (Or.inr (Or.inr (Or.inr (Or.inr (Or.inr (Or.inr (Or.inr (Or.inr (Or.inr (Or.inr (Or.inr (Or.inr (Or.inr (Or.inr (Or.inl (⟨rfl, rfl⟩))))))))))))))))) (fun h2 F1 => ?_)
  refine fe_it fe_no ?_
  refine fe_it ?_ fe_no
  refine fe_J F1 (Or.inr (Or.inr (Or.inr (Or.inr (Or.inr (Or.inr (Or.inr (Or.inr (Or.inr (Or.inr (Or.inr (Or.inl (⟨rfl, rfl⟩))))))))))))) (fun h5 F2 => ?_)
  refine fe_it fe_no ?_
  refine fe_it ?_ fe_no
  refine fe_J F2 (Or.inr (Or.inr (Or.inr (Or.inr (Or.inr (Or.inr (Or.inr (Or.inr (Or.inr (Or.inr (Or.inr (Or.inr (Or.inl (⟨rfl, rfl⟩)))))))))))))) (fun h8 F3 => ?_)
  refine fe_it fe_no ?_
  refine fe_it ?_ fe_no
  refine fe_J F3 (Or.inr (Or.inr (Or.inr (Or.inr (Or.inr (Or.inr (Or.inr (Or.inr (Or.inr (Or.inr (Or.inr (Or.inr (Or.inr (⟨rfl, rfl⟩)))))))))))))) (fun h11 F4 => ?_)
  refine fe_I F4 (Or.inr (Or.inr (Or.inr (Or.inr (Or.inr (Or.inr (Or.inr (Or.inr (Or.inr (Or.inr (Or.inr (Or.inr (Or.inr (Or.inr (Or.inr (Or.inr (⟨rfl, rfl⟩))))))))))))))))) (fun h12 F5 => ?_)
  refine fe_it ?_ ?_
  · refine fe_it ?_ ?_
    · refine fe_it ?_ ?_
      · exact fe_j F5 (fe_mStreams_takes_b109 _ _ _) (fun x k hx => by simp only [wI_mStreams_takes_b109, F1.r, F2.r, F3.r, F4.r, F5.r] at hx; rcases hx with e | e | e | e <;> first | exact Or.inr (Or.inl (e)) | exact Or.inr (Or.inr (Or.inl (e))) | exact Or.inr (Or.inr (Or.inr (Or.inl (e)))) | exact Or.inr (Or.inr (Or.inr (Or.inr (Or.inr (Or.inr (Or.inr (Or.inr (Or.inr (Or.inr (Or.inr (Or.inr (Or.inl (e)))))))))))))) (fun x k hx => by simp only [wJ_mStreams_takes_b109, F1.r, F2.r, F3.r, F4.r, F5.r] at hx; rcases hx with e | e | e | e <;> first | exact Or.inl (e) | exact Or.inr (Or.inr (Or.inl (e))) | exact Or.inr (Or.inr (Or.inr (Or.inl (e)))) | exact Or.inr (Or.inr (Or.inr (Or.inr (Or.inr (Or.inr (Or.inr (Or.inr (Or.inl (e))))))))))
      · refine fe_it ?_ ?_
        · exact fe_j F5 (fe_mStreams_takes_b109 _ _ _) (fun x k hx => by simp only [wI_mStreams_takes_b109, F1.r, F2.r, F3.r, F4.r, F5.r] at hx; rcases hx with e | e | e | e <;> first | exact Or.inr (Or.inl (e)) | exact Or.inr (Or.inr (Or.inl (e))) | exact Or.inr (Or.inr (Or.inr (Or.inl (e)))) | exact Or.inr (Or.inr (Or.inr (Or.inr (Or.inr (Or.inr (Or.inr (Or.inr (Or.inr (Or.inr (Or.inr (Or.inr (Or.inl (e)))))))))))))) (fun x k hx => by simp only [wJ_mStreams_takes_b109, F1.r, F2.r, F3.r, F4.r, F5.r] at hx; rcases hx with e | e | e | e <;> first | exact Or.inl (e) | exact Or.inr (Or.inr (Or.inl (e))) | exact Or.inr (Or.inr (Or.inr (Or.inl (e)))) | exact Or.inr (Or.inr (Or.inr (Or.inr (Or.inr (Or.inr (Or.inr (Or.inr (Or.inl (e))))))))))
        · refine fe_it ?_ ?_
          · refine fe_it ?_ ?_
            · exact fe_j F5 (fe_mStreams_takes_b147 _ _ _) (fun x k hx => False.elim hx) (fun x k hx => by simp only [wJ_mStreams_takes_b147, F1.r, F2.r, F3.r, F4.r, F5.r] at hx; have e := hx; exact Or.inr (Or.inl (e)))
            · refine fe_it fe_no ?_
              refine fe_it ?_ fe_no
              refine fe_b2 F5 (fe_mStreams_greater _ _ _) (fun x k hx => False.elim hx) (fun x k hx => False.elim hx) (fun r17 h15 F6 => ?_)
              refine fe_it ?_ fe_no
              refine fe_J F6 (Or.inr (Or.inr (Or.inr (Or.inr (Or.inl ((by first | (simp only [F1.r, F2.r, F3.r, F4.r, F5.r, F6.r]; exact rfl) | simp only [F1.r, F2.r, F3.r, F4.r, F5.r, F6.r]))))))) (fun h19 F7 => ?_)
              exact fe_j F7 (fe_mStreams_takes_b147 _ _ _) (fun x k hx => False.elim hx) (fun x k hx => by simp only [wJ_mStreams_takes_b147, F1.r, F2.r, F3.r, F4.r, F5.r, F6.r, F7.r] at hx; have e := hx; exact Or.inr (Or.inl (e)))
          · exact fe_j F5 (fe_mStreams_takes_b109 _ _ _) (fun x k hx => by simp only [wI_mStreams_takes_b109, F1.r, F2.r, F3.r, F4.r, F5.r] at hx; rcases hx with e | e | e | e <;> first | exact Or.inr (Or.inl (e)) | exact Or.inr (Or.inr (Or.inl (e))) | exact Or.inr (Or.inr (Or.inr (Or.inl (e)))) | exact Or.inr (Or.inr (Or.inr (Or.inr (Or.inr (Or.inr (Or.inr (Or.inr (Or.inr (Or.inr (Or.inr (Or.inr (Or.inl (e)))))))))))))) (fun x k hx => by simp only [wJ_mStreams_takes_b109, F1.r, F2.r, F3.r, F4.r, F5.r] at hx; rcases hx with e | e | e | e <;> first | exact Or.inl (e) | exact Or.inr (Or.inr (Or.inl (e))) | exact Or.inr (Or.inr (Or.inr (Or.inl (e)))) | exact Or.inr (Or.inr (Or.inr (Or.inr (Or.inr (Or.inr (Or.inr (Or.inr (Or.inl (e))))))))))
    · refine fe_b2 F5 (fe_mStreams_takeReset _ _ _) (fun x k hx => by simp only [wI_mStreams_takeReset, F1.r, F2.r, F3.r, F4.r, F5.r] at hx; rcases hx with e | e | e | e | e | e | e <;> first | exact Or.inl (e) | exact Or.inr (Or.inl (e)) | exact Or.inr (Or.inr (Or.inr (Or.inr (Or.inr (Or.inl (e)))))) | exact Or.inr (Or.inr (Or.inr (Or.inr (Or.inr (Or.inr (Or.inl (e))))))) | exact Or.inr (Or.inr (Or.inr (Or.inr (Or.inr (Or.inr (Or.inr (Or.inr (Or.inr (Or.inr (Or.inr (Or.inr (Or.inl (e))))))))))))) | exact Or.inr (Or.inr (Or.inr (Or.inr (Or.inr (Or.inr (Or.inr (Or.inr (Or.inr (Or.inr (Or.inr (Or.inr (Or.inr (Or.inl (e)))))))))))))) | exact Or.inr (Or.inr (Or.inr (Or.inr (Or.inr (Or.inr (Or.inr (Or.inr (Or.inr (Or.inr (Or.inr (Or.inr (Or.inr (Or.inr (Or.inl (e)))))))))))))))) (fun x k hx => by simp only [wJ_mStreams_takeReset, F1.r, F2.r, F3.r, F4.r, F5.r] at hx; rcases hx with e | e | e | e | e | e <;> first | exact Or.inl (e) | exact Or.inr (Or.inr (Or.inr (Or.inr (Or.inr (Or.inl (e)))))) | exact Or.inr (Or.inr (Or.inr (Or.inr (Or.inr (Or.inr (Or.inl (e))))))) | exact Or.inr (Or.inr (Or.inr (Or.inr (Or.inr (Or.inr (Or.inr (Or.inl (e)))))))) | exact Or.inr (Or.inr (Or.inr (Or.inr (Or.inr (Or.inr (Or.inr (Or.inr (Or.inl (e))))))))) | exact Or.inr (Or.inr (Or.inr (Or.inr (Or.inr (Or.inr (Or.inr (Or.inr (Or.inr (Or.inr (Or.inl (e)))))))))))) (fun r22 h20 F8 => ?_)
      exact fe_so F8
  · refine fe_b2 F5 (fe_mStreams_takeStream _ _ _ _ _) (fun x k hx => by simp only [wI_mStreams_takeStream, F1.r, F2.r, F3.r, F4.r, F5.r] at hx; rcases hx with e | e | e | e | e | e | e | e | e | e | e <;> first | exact Or.inr (Or.inl (e)) | exact Or.inr (Or.inr (Or.inr (Or.inr (Or.inl (e))))) | exact Or.inr (Or.inr (Or.inr (Or.inr (Or.inr (Or.inr (Or.inl (e))))))) | exact Or.inr (Or.inr (Or.inr (Or.inr (Or.inr (Or.inr (Or.inr (Or.inl (e)))))))) | exact Or.inr (Or.inr (Or.inr (Or.inr (Or.inr (Or.inr (Or.inr (Or.inr (Or.inl (e))))))))) | exact Or.inr (Or.inr (Or.inr (Or.inr (Or.inr (Or.inr (Or.inr (Or.inr (Or.inr (Or.inl (e)))))))))) | exact Or.inr (Or.inr (Or.inr (Or.inr (Or.inr (Or.inr (Or.inr (Or.inr (Or.inr (Or.inr (Or.inl (e))))))))))) | exact Or.inr (Or.inr (Or.inr (Or.inr (Or.inr (Or.inr (Or.inr (Or.inr (Or.inr (Or.inr (Or.inr (Or.inl (e)))))))))))) | exact Or.inr (Or.inr (Or.inr (Or.inr (Or.inr (Or.inr (Or.inr (Or.inr (Or.inr (Or.inr (Or.inr (Or.inr (Or.inl (e))))))))))))) | exact Or.inr (Or.inr (Or.inr (Or.inr (Or.inr (Or.inr (Or.inr (Or.inr (Or.inr (Or.inr (Or.inr (Or.inr (Or.inr (Or.inl (e)))))))))))))) | exact Or.inr (Or.inr (Or.inr (Or.inr (Or.inr (Or.inr (Or.inr (Or.inr (Or.inr (Or.inr (Or.inr (Or.inr (Or.inr (Or.inr (Or.inl (e)))))))))))))))) (fun x k hx => by simp only [wJ_mStreams_takeStream, F1.r, F2.r, F3.r, F4.r, F5.r] at hx; rcases hx with e | e | e | e | e <;> first | exact Or.inl (e) | exact Or.inr (Or.inr (Or.inr (Or.inr (Or.inr (Or.inl (e)))))) | exact Or.inr (Or.inr (Or.inr (Or.inr (Or.inr (Or.inr (Or.inl (e))))))) | exact Or.inr (Or.inr (Or.inr (Or.inr (Or.inr (Or.inr (Or.inr (Or.inr (Or.inl (e))))))))) | exact Or.inr (Or.inr (Or.inr (Or.inr (Or.inr (Or.inr (Or.inr (Or.inr (Or.inr (Or.inl (e))))))))))) (fun r25 h23 F9 => ?_)
    exact fe_so F9
def wI_mBook_takeOut_b12 (v0 : Nat) (v1 : Int) (v3 : Int) (h : Hp) (x k : Nat) : Prop := False
def wJ_mBook_takeOut_b12 (v0 : Nat) (v1 : Int) (v3 : Int) (h : Hp) (x k : Nat) : Prop := x = hR h v0 31 ∨ x = hR h v0 32
def wI_mBook_takeOut (v0 : Nat) (v1 : Int) (v2 : Int) (h : Hp) (x k : Nat) : Prop := x = hR h v0 30
def wJ_mBook_takeOut (v0 : Nat) (v1 : Int) (v2 : Int) (h : Hp) (x k : Nat) : Prop := x = hR h v0 31 ∨ x = hR h v0 32
theorem fe_mBook_takeOut_b12 {k12 : Nat → Int → Int → Hp → Option (Hp)} (hk12 : ∀ (v0 : Nat) (v1 : Int) (v3 : Int) (h : Hp), Feo (wI_mBook_takeOut_b12 v0 v1 v3 h) (wJ_mBook_takeOut_b12 v0 v1 v3 h) h id (k12 v0 v1 v3 h)) (v0 : Nat) (v1 : Int) (v3 : Int) (h : Hp) : Feo (wI_mBook_takeOut_b12 v0 v1 v3 h) (wJ_mBook_takeOut_b12 v0 v1 v3 h) h id (f_mBook_takeOut_b12 k12 v0 v1 v3 h) := by
  unfold f_mBook_takeOut_b12
  refine fe_it fe_no ?_
  refine fe_it ?_ fe_no
  refine fe_it ?_ ?_
  · exact fe_so Fe.rf
  · refine fe_it fe_no ?_
    refine fe_it ?_ fe_no
    refine fe_it ?_ fe_no
    refine fe_J Fe.rf (Or.inl (rfl)) (fun h10 F1 => ?_)
    refine fe_it fe_no ?_
    refine fe_it ?_ fe_no
    refine fe_it ?_ fe_no
    refine fe_J F1 (Or.inr ((by first | (simp only [F1.r]; exact rfl) | simp only [F1.r]))) (fun h14 F2 => ?_)
    exact fe_j F2 (hk12 _ _ _ _) (fun x k hx => False.elim hx) (fun x k hx => by simp only [wJ_mBook_takeOut_b12, F1.r, F2.r] at hx; rcases hx with e | e <;> first | exact Or.inl (e) | exact Or.inr (e))
theorem fe_mBook_takeOut_b12_lp (n : Nat) : ∀ (v0 : Nat) (v1 : Int) (v3 : Int) (h : Hp), Feo (wI_mBook_takeOut_b12 v0 v1 v3 h) (wJ_mBook_takeOut_b12 v0 v1 v3 h) h id (f_mBook_takeOut_b12_lp n v0 v1 v3 h) := by
  induction n with
  | zero => intro v0 v1 v3 h; exact fe_no
  | succ n ih => intro v0 v1 v3 h; exact fe_mBook_takeOut_b12 ih v0 v1 v3 h
theorem fe_mBook_takeOut (v0 : Nat) (v1 : Int) (v2 : Int) (h : Hp) : Feo (wI_mBook_takeOut v0 v1 v2 h) (wJ_mBook_takeOut v0 v1 v2 h) h id (f_mBook_takeOut v0 v1 v2 h) := by
  unfold f_mBook_takeOut
  refine fe_it fe_no ?_
  refine fe_it ?_ fe_no
  refine fe_it ?_ fe_no
  refine fe_I Fe.rf (rfl) (fun h4 F1 => ?_)
  exact fe_j F1 (fe_mBook_takeOut_b12_lp FU _ _ _ _) (fun x k hx => False.elim hx) (fun x k hx => by simp only [wJ_mBook_takeOut_b12, F1.r] at hx; rcases hx with e | e <;> first | exact Or.inl (e) | exact Or.inr (e))
def wI_mBook_comeIn_b207 (v0 : Nat) (v1 : Int) (h : Hp) (x k : Nat) : Prop := x = hR h v0 30
def wJ_mBook_comeIn_b207 (v0 : Nat) (v1 : Int) (h : Hp) (x k : Nat) : Prop := x = hR h v0 31 ∨ x = hR h v0 32 ∨ x = hR h v0 33
def wI_mBook_comeIn_b159 (v0 : Nat) (v1 : Int) (v2 : Int) (v4 : Int) (h : Hp) (x k : Nat) : Prop := x = hR h v0 30
def wJ_mBook_comeIn_b159 (v0 : Nat) (v1 : Int) (v2 : Int) (v4 : Int) (h : Hp) (x k : Nat) : Prop := x = hR h v0 31 ∨ x = hR h v0 32 ∨ x = hR h v0 33
def wI_mBook_comeIn_b74 (v0 : Nat) (v1 : Int) (v2 : Int) (v4 : Int) (h : Hp) (x k : Nat) : Prop := x = hR h v0 30
def wJ_mBook_comeIn_b74 (v0 : Nat) (v1 : Int) (v2 : Int) (v4 : Int) (h : Hp) (x k : Nat) : Prop := x = hR h v0 31 ∨ x = hR h v0 32 ∨ x = hR h v0 33
def wI_mBook_comeIn_b13 (v0 : Nat) (v1 : Int) (v2 : Int) (v4 : Int) (h : Hp) (x k : Nat) : Prop := x = hR h v0 30
def wJ_mBook_comeIn_b13 (v0 : Nat) (v1 : Int) (v2 : Int) (v4 : Int) (h : Hp) (x k : Nat) : Prop := x = hR h v0 31 ∨ x = hR h v0 32 ∨ x = hR h v0 33
def wI_mBook_comeIn (v0 : Nat) (v1 : Int) (v2 : Int) (h : Hp) (x k : Nat) : Prop := x = hR h v0 30
def wJ_mBook_comeIn (v0 : Nat) (v1 : Int) (v2 : Int) (h : Hp) (x k : Nat) : Prop := x = hR h v0 31 ∨ x = hR h v0 32 ∨ x = hR h v0 33
theorem fe_mBook_comeIn_b207 (v0 : Nat) (v1 : Int) (h : Hp) : Feo (wI_mBook_comeIn_b207 v0 v1 h) (wJ_mBook_comeIn_b207 v0 v1 h) h id (f_mBook_comeIn_b207 v0 v1 h) := by
  unfold f_mBook_comeIn_b207
  refine fe_it fe_no ?_
  refine fe_it ?_ fe_no
  refine fe_it ?_ ?_
  · exact fe_so Fe.rf
  · refine fe_it fe_no ?_
    refine fe_it ?_ fe_no
    refine fe_it fe_no ?_
    refine fe_it ?_ fe_no
    refine fe_J Fe.rf (Or.inr (Or.inr (rfl))) (fun h46 F1 => ?_)
    refine fe_b1 F1 (fe_mBook_takeOut _ _ _ _) (fun x k hx => by simp only [wI_mBook_takeOut, F1.r] at hx; have e := hx; exact e) (fun x k hx => by simp only [wJ_mBook_takeOut, F1.r] at hx; rcases hx with e | e <;> first | exact Or.inl (e) | exact Or.inr (Or.inl (e))) (fun h47 F2 => ?_)
    exact fe_so F2
theorem fe_mBook_comeIn_b159 (v0 : Nat) (v1 : Int) (v2 : Int) (v4 : Int) (h : Hp) : Feo (wI_mBook_comeIn_b159 v0 v1 v2 v4 h) (wJ_mBook_comeIn_b159 v0 v1 v2 v4 h) h id (f_mBook_comeIn_b159 v0 v1 v2 v4 h) := by
  unfold f_mBook_comeIn_b159
  refine fe_it ?_ ?_
  · exact fe_j Fe.rf (fe_mBook_comeIn_b207 _ _ _) (fun x k hx => by simp only [wI_mBook_comeIn_b207] at hx; have e := hx; exact e) (fun x k hx => by simp only [wJ_mBook_comeIn_b207] at hx; rcases hx with e | e | e <;> first | exact Or.inl (e) | exact Or.inr (Or.inl (e)) | exact Or.inr (Or.inr (e)))
  · refine fe_it fe_no ?_
    refine fe_it ?_ fe_no
    refine fe_it ?_ ?_
    · exact fe_j Fe.rf (fe_mBook_comeIn_b207 _ _ _) (fun x k hx => by simp only [wI_mBook_comeIn_b207] at hx; have e := hx; exact e) (fun x k hx => by simp only [wJ_mBook_comeIn_b207] at hx; rcases hx with e | e | e <;> first | exact Or.inl (e) | exact Or.inr (Or.inl (e)) | exact Or.inr (Or.inr (e)))
    · refine fe_it ?_ fe_no
      refine fe_it ?_ fe_no
      refine fe_J Fe.rf (Or.inr (Or.inl (rfl))) (fun h37 F1 => ?_)
      refine fe_b1 F1 (fe_mBook_takeOut _ _ _ _) (fun x k hx => by simp only [wI_mBook_takeOut, F1.r] at hx; have e := hx; exact e) (fun x k hx => by simp only [wJ_mBook_takeOut, F1.r] at hx; rcases hx with e | e <;> first | exact Or.inl (e) | exact Or.inr (Or.inl (e))) (fun h38 F2 => ?_)
      exact fe_j F2 (fe_mBook_comeIn_b207 _ _ _) (fun x k hx => by simp only [wI_mBook_comeIn_b207, F1.r, F2.r] at hx; have e := hx; exact e) (fun x k hx => by simp only [wJ_mBook_comeIn_b207, F1.r, F2.r] at hx; rcases hx with e | e | e <;> first | exact Or.inl (e) | exact Or.inr (Or.inl (e)) | exact Or.inr (Or.inr (e)))
theorem fe_mBook_comeIn_b74 (v0 : Nat) (v1 : Int) (v2 : Int) (v4 : Int) (h : Hp) : Feo (wI_mBook_comeIn_b74 v0 v1 v2 v4 h) (wJ_mBook_comeIn_b74 v0 v1 v2 v4 h) h id (f_mBook_comeIn_b74 v0 v1 v2 v4 h) := by
  unfold f_mBook_comeIn_b74
  refine fe_it fe_no ?_
  refine fe_it ?_ fe_no
  refine fe_J Fe.rf (Or.inl (rfl)) (fun h15 F1 => ?_)
  refine fe_it fe_no ?_
  refine fe_it ?_ fe_no
  refine fe_J F1 (Or.inr (Or.inl ((by first | (simp only [F1.r]; exact rfl) | simp only [F1.r])))) (fun h18 F2 => ?_)
  refine fe_it fe_no ?_
  refine fe_it ?_ fe_no
  refine fe_it ?_ fe_no
  refine fe_I F2 ((by first | (simp only [F1.r, F2.r]; exact rfl) | simp only [F1.r, F2.r])) (fun h22 F3 => ?_)
  refine fe_it fe_no ?_
  refine fe_it ?_ fe_no
  refine fe_it ?_ ?_
  · exact fe_j F3 (fe_mBook_comeIn_b159 _ _ _ _ _) (fun x k hx => by simp only [wI_mBook_comeIn_b159, F1.r, F2.r, F3.r] at hx; have e := hx; exact e) (fun x k hx => by simp only [wJ_mBook_comeIn_b159, F1.r, F2.r, F3.r] at hx; rcases hx with e | e | e <;> first | exact Or.inl (e) | exact Or.inr (Or.inl (e)) | exact Or.inr (Or.inr (e)))
  · refine fe_it fe_no ?_
    refine fe_it ?_ fe_no
    refine fe_it ?_ ?_
    · exact fe_j F3 (fe_mBook_comeIn_b159 _ _ _ _ _) (fun x k hx => by simp only [wI_mBook_comeIn_b159, F1.r, F2.r, F3.r] at hx; have e := hx; exact e) (fun x k hx => by simp only [wJ_mBook_comeIn_b159, F1.r, F2.r, F3.r] at hx; rcases hx with e | e | e <;> first | exact Or.inl (e) | exact Or.inr (Or.inl (e)) | exact Or.inr (Or.inr (e)))
    · refine fe_it fe_no ?_
      refine fe_it ?_ fe_no
      refine fe_it ?_ fe_no
      refine fe_J F3 (Or.inr (Or.inl ((by first | (simp only [F1.r, F2.r, F3.r]; exact rfl) | simp only [F1.r, F2.r, F3.r])))) (fun h30 F4 => ?_)
      refine fe_b1 F4 (fe_mBook_takeOut _ _ _ _) (fun x k hx => by simp only [wI_mBook_takeOut, F1.r, F2.r, F3.r, F4.r] at hx; have e := hx; exact e) (fun x k hx => by simp only [wJ_mBook_takeOut, F1.r, F2.r, F3.r, F4.r] at hx; rcases hx with e | e <;> first | exact Or.inl (e) | exact Or.inr (Or.inl (e))) (fun h31 F5 => ?_)
      exact fe_j F5 (fe_mBook_comeIn_b159 _ _ _ _ _) (fun x k hx => by simp only [wI_mBook_comeIn_b159, F1.r, F2.r, F3.r, F4.r, F5.r] at hx; have e := hx; exact e) (fun x k hx => by simp only [wJ_mBook_comeIn_b159, F1.r, F2.r, F3.r, F4.r, F5.r] at hx; rcases hx with e | e | e <;> first | exact Or.inl (e) | exact Or.inr (Or.inl (e)) | exact Or.inr (Or.inr (e)))
theorem fe_mBook_comeIn_b13 {k13 : Nat → Int → Int → Int → Hp → Option (Hp)} (hk13 : ∀ (v0 : Nat) (v1 : Int) (v2 : Int) (v4 : Int) (h : Hp), Feo (wI_mBook_comeIn_b13 v0 v1 v2 v4 h) (wJ_mBook_comeIn_b13 v0 v1 v2 v4 h) h id (k13 v0 v1 v2 v4 h)) (v0 : Nat) (v1 : Int) (v2 : Int) (v4 : Int) (h : Hp) : Feo (wI_mBook_comeIn_b13 v0 v1 v2 v4 h) (wJ_mBook_comeIn_b13 v0 v1 v2 v4 h) h id (f_mBook_comeIn_b13 k13 v0 v1 v2 v4 h) := by
  unfold f_mBook_comeIn_b13
  refine fe_it ?_ ?_
  · exact fe_j Fe.rf (fe_mBook_comeIn_b74 _ _ _ _ _) (fun x k hx => by simp only [wI_mBook_comeIn_b74] at hx; have e := hx; exact e) (fun x k hx => by simp only [wJ_mBook_comeIn_b74] at hx; rcases hx with e | e | e <;> first | exact Or.inl (e) | exact Or.inr (Or.inl (e)) | exact Or.inr (Or.inr (e)))
  · refine fe_it fe_no ?_
    refine fe_it ?_ fe_no
    refine fe_it ?_ ?_
    · exact fe_j Fe.rf (fe_mBook_comeIn_b74 _ _ _ _ _) (fun x k hx => by simp only [wI_mBook_comeIn_b74] at hx; have e := hx; exact e) (fun x k hx => by simp only [wJ_mBook_comeIn_b74] at hx; rcases hx with e | e | e <;> first | exact Or.inl (e) | exact Or.inr (Or.inl (e)) | exact Or.inr (Or.inr (e)))
    · refine fe_it ?_ fe_no
      refine fe_it ?_ fe_no
      refine fe_J Fe.rf (Or.inl (rfl)) (fun h8 F1 => ?_)
      refine fe_it fe_no ?_
      refine fe_it ?_ fe_no
      refine fe_it ?_ fe_no
      refine fe_J F1 (Or.inr (Or.inl ((by first | (simp only [F1.r]; exact rfl) | simp only [F1.r])))) (fun h12 F2 => ?_)
      exact fe_j F2 (hk13 _ _ _ _ _) (fun x k hx => by simp only [wI_mBook_comeIn_b13, F1.r, F2.r] at hx; have e := hx; exact e) (fun x k hx => by simp only [wJ_mBook_comeIn_b13, F1.r, F2.r] at hx; rcases hx with e | e | e <;> first | exact Or.inl (e) | exact Or.inr (Or.inl (e)) | exact Or.inr (Or.inr (e)))
theorem fe_mBook_comeIn_b13_lp (n : Nat) : ∀ (v0 : Nat) (v1 : Int) (v2 : Int) (v4 : Int) (h : Hp), Feo (wI_mBook_comeIn_b13 v0 v1 v2 v4 h) (wJ_mBook_comeIn_b13 v0 v1 v2 v4 h) h id (f_mBook_comeIn_b13_lp n v0 v1 v2 v4 h) := by
  induction n with
  | zero => intro v0 v1 v2 v4 h; exact fe_no
  | succ n ih => intro v0 v1 v2 v4 h; exact fe_mBook_comeIn_b13 ih v0 v1 v2 v4 h
theorem fe_mBook_comeIn (v0 : Nat) (v1 : Int) (v2 : Int) (h : Hp) : Feo (wI_mBook_comeIn v0 v1 v2 h) (wJ_mBook_comeIn v0 v1 v2 h) h id (f_mBook_comeIn v0 v1 v2 h) := by
  unfold f_mBook_comeIn
  refine fe_it fe_no ?_
  refine fe_it ?_ fe_no
  refine fe_v (fun y3 => ?_)
  exact fe_j Fe.rf (fe_mBook_comeIn_b13_lp FU _ _ _ _ _) (fun x k hx => by simp only [wI_mBook_comeIn_b13] at hx; have e := hx; exact e) (fun x k hx => by simp only [wJ_mBook_comeIn_b13] at hx; rcases hx with e | e | e <;> first | exact Or.inl (e) | exact Or.inr (Or.inl (e)) | exact Or.inr (Or.inr (e)))
def wI_mBook_came_b103 (v0 : Nat) (s0 : Nat) (s1 : Int) (s2 : Int) (h : Hp) (x k : Nat) : Prop := x = s0
def wJ_mBook_came_b103 (v0 : Nat) (s0 : Nat) (s1 : Int) (s2 : Int) (h : Hp) (x k : Nat) : Prop := False
def wI_mBook_came_b98 (v0 : Nat) (s0 : Nat) (s1 : Int) (h : Hp) (x k : Nat) : Prop := x = s0
def wJ_mBook_came_b98 (v0 : Nat) (s0 : Nat) (s1 : Int) (h : Hp) (x k : Nat) : Prop := False
def wI_mBook_came_b65 (v0 : Nat) (v1 : Int) (v2 : Int) (v5 : Int) (h : Hp) (x k : Nat) : Prop := x = (hR h v0 37) ∨ x = hR h v0 35
def wJ_mBook_came_b65 (v0 : Nat) (v1 : Int) (v2 : Int) (v5 : Int) (h : Hp) (x k : Nat) : Prop := False
def wI_mBook_came_b34 (v0 : Nat) (v1 : Int) (v2 : Int) (v4 : Int) (v5 : Int) (h : Hp) (x k : Nat) : Prop := x = (hR h v0 37) ∨ x = hR h v0 30 ∨ x = hR h v0 35 ∨ x = hR h v0 36
def wJ_mBook_came_b34 (v0 : Nat) (v1 : Int) (v2 : Int) (v4 : Int) (v5 : Int) (h : Hp) (x k : Nat) : Prop := x = hR h v0 31 ∨ x = hR h v0 32 ∨ x = hR h v0 33
def wI_mBook_came (v0 : Nat) (v1 : Int) (v2 : Int) (v4 : Int) (h : Hp) (x k : Nat) : Prop := x = (hR h v0 37) ∨ x = hR h v0 30 ∨ x = hR h v0 34 ∨ x = hR h v0 35 ∨ x = hR h v0 36
def wJ_mBook_came (v0 : Nat) (v1 : Int) (v2 : Int) (v4 : Int) (h : Hp) (x k : Nat) : Prop := x = hR h v0 31 ∨ x = hR h v0 32 ∨ x = hR h v0 33
theorem fe_mBook_came_b103 (v0 : Nat) (s0 : Nat) (s1 : Int) (s2 : Int) (h : Hp) : Feo (wI_mBook_came_b103 v0 s0 s1 s2 h) (wJ_mBook_came_b103 v0 s0 s1 s2 h) h id (f_mBook_came_b103 v0 s0 s1 s2 h) := by
  unfold f_mBook_came_b103
  refine fe_it fe_no ?_
  refine fe_it ?_ fe_no
  refine fe_it fe_no ?_
  refine fe_I Fe.rf (rfl) (fun h25 F1 => ?_)
  exact fe_so F1
theorem fe_mBook_came_b98 (v0 : Nat) (s0 : Nat) (s1 : Int) (h : Hp) : Feo (wI_mBook_came_b98 v0 s0 s1 h) (wJ_mBook_came_b98 v0 s0 s1 h) h id (f_mBook_came_b98 v0 s0 s1 h) := by
  unfold f_mBook_came_b98
  exact fe_j Fe.rf (fe_mBook_came_b103 _ _ _ _ _) (fun x k hx => by simp only [wI_mBook_came_b103] at hx; have e := hx; exact e) (fun x k hx => False.elim hx)
theorem fe_mBook_came_b65 (v0 : Nat) (v1 : Int) (v2 : Int) (v5 : Int) (h : Hp) : Feo (wI_mBook_came_b65 v0 v1 v2 v5 h) (wJ_mBook_came_b65 v0 v1 v2 v5 h) h id (f_mBook_came_b65 v0 v1 v2 v5 h) := by
  unfold f_mBook_came_b65
  refine fe_it fe_no ?_
  refine fe_it ?_ fe_no
  refine fe_it ?_ fe_no
  refine fe_I Fe.rf (Or.inr (rfl)) (fun h20 F1 => ?_)
  refine fe_it fe_no ?_
  refine fe_it ?_ fe_no
  refine fe_it ?_ ?_
  · exact fe_j F1 (fe_mBook_came_b98 _ _ _ _) (fun x k hx => by simp only [wI_mBook_came_b98, F1.r] at hx; have e := hx; exact Or.inl (e)) (fun x k hx => False.elim hx)
  · refine fe_it ?_ ?_
    · exact fe_j F1 (fe_mBook_came_b103 _ _ _ _ _) (fun x k hx => by simp only [wI_mBook_came_b103, F1.r] at hx; have e := hx; exact Or.inl (e)) (fun x k hx => False.elim hx)
    · exact fe_j F1 (fe_mBook_came_b98 _ _ _ _) (fun x k hx => by simp only [wI_mBook_came_b98, F1.r] at hx; have e := hx; exact Or.inl (e)) (fun x k hx => False.elim hx)
theorem fe_mBook_came_b34 (v0 : Nat) (v1 : Int) (v2 : Int) (v4 : Int) (v5 : Int) (h : Hp) : Feo (wI_mBook_came_b34 v0 v1 v2 v4 v5 h) (wJ_mBook_came_b34 v0 v1 v2 v4 v5 h) h id (f_mBook_came_b34 v0 v1 v2 v4 v5 h) := by
  unfold f_mBook_came_b34
  refine fe_b1 Fe.rf (fe_mBook_comeIn _ _ _ _) (fun x k hx => by simp only [wI_mBook_comeIn] at hx; have e := hx; exact Or.inr (Or.inl (e))) (fun x k hx => by simp only [wJ_mBook_comeIn] at hx; rcases hx with e | e | e <;> first | exact Or.inl (e) | exact Or.inr (Or.inl (e)) | exact Or.inr (Or.inr (e))) (fun h10 F1 => ?_)
  refine fe_it ?_ ?_
  · refine fe_it fe_no ?_
    refine fe_it ?_ fe_no
    refine fe_it ?_ ?_
    · exact fe_j F1 (fe_mBook_came_b65 _ _ _ _ _) (fun x k hx => by simp only [wI_mBook_came_b65, F1.r] at hx; rcases hx with e | e <;> first | exact Or.inl (e) | exact Or.inr (Or.inr (Or.inl (e)))) (fun x k hx => False.elim hx)
    · refine fe_it fe_no ?_
      refine fe_it ?_ fe_no
      refine fe_I F1 (Or.inr (Or.inr (Or.inr ((by first | (simp only [F1.r]; exact rfl) | simp only [F1.r]))))) (fun h16 F2 => ?_)
      exact fe_j F2 (fe_mBook_came_b65 _ _ _ _ _) (fun x k hx => by simp only [wI_mBook_came_b65, F1.r, F2.r] at hx; rcases hx with e | e <;> first | exact Or.inl (e) | exact Or.inr (Or.inr (Or.inl (e)))) (fun x k hx => False.elim hx)
  · exact fe_so F1
theorem fe_mBook_came (v0 : Nat) (v1 : Int) (v2 : Int) (v4 : Int) (h : Hp) : Feo (wI_mBook_came v0 v1 v2 v4 h) (wJ_mBook_came v0 v1 v2 v4 h) h id (f_mBook_came v0 v1 v2 v4 h) := by
  unfold f_mBook_came
  refine fe_b2 Fe.rf (fe_mBook_isOld _ _ _ _) (fun x k hx => False.elim hx) (fun x k hx => False.elim hx) (fun r3 h1 F1 => ?_)
  refine fe_it ?_ ?_
  · refine fe_b2 F1 (fe_mBook_greatest _ _ _) (fun x k hx => False.elim hx) (fun x k hx => False.elim hx) (fun r6 h4 F2 => ?_)
    refine fe_it ?_ ?_
    · exact fe_j F2 (fe_mBook_came_b34 _ _ _ _ _ _) (fun x k hx => by simp only [wI_mBook_came_b34, F1.r, F2.r] at hx; rcases hx with e | e | e | e <;> first | exact Or.inl (e) | exact Or.inr (Or.inl (e)) | exact Or.inr (Or.inr (Or.inr (Or.inl (e)))) | exact Or.inr (Or.inr (Or.inr (Or.inr (e))))) (fun x k hx => by simp only [wJ_mBook_came_b34, F1.r, F2.r] at hx; rcases hx with e | e | e <;> first | exact Or.inl (e) | exact Or.inr (Or.inl (e)) | exact Or.inr (Or.inr (e)))
    · refine fe_it fe_no ?_
      refine fe_it ?_ fe_no
      refine fe_I F2 (Or.inr (Or.inr (Or.inl ((by first | (simp only [F1.r, F2.r]; exact rfl) | simp only [F1.r, F2.r]))))) (fun h9 F3 => ?_)
      exact fe_j F3 (fe_mBook_came_b34 _ _ _ _ _ _) (fun x k hx => by simp only [wI_mBook_came_b34, F1.r, F2.r, F3.r] at hx; rcases hx with e | e | e | e <;> first | exact Or.inl (e) | exact Or.inr (Or.inl (e)) | exact Or.inr (Or.inr (Or.inr (Or.inl (e)))) | exact Or.inr (Or.inr (Or.inr (Or.inr (e))))) (fun x k hx => by simp only [wJ_mBook_came_b34, F1.r, F2.r, F3.r] at hx; rcases hx with e | e | e <;> first | exact Or.inl (e) | exact Or.inr (Or.inl (e)) | exact Or.inr (Or.inr (e)))
  · exact fe_so F1
def wI_mP_drop (v0 : Nat) (v1 : Int) (v2 : Int) (h : Hp) (x k : Nat) : Prop := x = hR h v0 10 ∨ x = hR h v0 11 ∨ x = hR h v0 12 ∨ (x = v0 ∧ k = 0)
def wJ_mP_drop (v0 : Nat) (v1 : Int) (v2 : Int) (h : Hp) (x k : Nat) : Prop := False
theorem fe_mP_drop (v0 : Nat) (v1 : Int) (v2 : Int) (h : Hp) : Feo (wI_mP_drop v0 v1 v2 h) (wJ_mP_drop v0 v1 v2 h) h Prod.snd (f_mP_drop v0 v1 v2 h) := by
  unfold f_mP_drop
  refine fe_b2 Fe.rf (fe_mP_no _ _) (fun x k hx => False.elim hx) (fun x k hx => False.elim hx) (fun r3 h1 F1 => ?_)
  refine fe_b2 F1 (fe_mP_fails _ _ _ _) (fun x k hx => by simp only [wI_mP_fails, F1.r] at hx; have e := hx; exact Or.inr (Or.inr (Or.inr (e)))) (fun x k hx => False.elim hx) (fun r6 h4 F2 => ?_)
  refine fe_it ?_ ?_
  · exact fe_so F2
  · refine fe_b2 F2 (fe_mP_isNone _ _ _ _) (fun x k hx => False.elim hx) (fun x k hx => False.elim hx) (fun r9 h7 F3 => ?_)
    refine fe_b2 F3 (fe_mP_fails _ _ _ _) (fun x k hx => by simp only [wI_mP_fails, F1.r, F2.r, F3.r] at hx; have e := hx; exact Or.inr (Or.inr (Or.inr (e)))) (fun x k hx => False.elim hx) (fun r12 h10 F4 => ?_)
    refine fe_it ?_ ?_
    · refine fe_b2 F4 (fe_mP_remove _ _ _ _) (fun x k hx => by simp only [wI_mP_remove, F1.r, F2.r, F3.r, F4.r] at hx; rcases hx with e | e | e <;> first | exact Or.inl (e) | exact Or.inr (Or.inl (e)) | exact Or.inr (Or.inr (Or.inl (e)))) (fun x k hx => False.elim hx) (fun r15 h13 F5 => ?_)
      exact fe_so F5
    · exact fe_so F4
def wI_mP_twice (v0 : Nat) (v1 : Int) (v2 : Int) (h : Hp) (x k : Nat) : Prop := x = hR h v0 10 ∨ x = hR h v0 11 ∨ x = hR h v0 12 ∨ x = hR h v0 13 ∨ x = hR h v0 14 ∨ x = hR h v0 15 ∨ x = hR h v0 16 ∨ x = hR h v0 17 ∨ x = hR h v0 18 ∨ (x = v0 ∧ k = 0)
def wJ_mP_twice (v0 : Nat) (v1 : Int) (v2 : Int) (h : Hp) (x k : Nat) : Prop := False
theorem fe_mP_twice (v0 : Nat) (v1 : Int) (v2 : Int) (h : Hp) : Feo (wI_mP_twice v0 v1 v2 h) (wJ_mP_twice v0 v1 v2 h) h Prod.snd (f_mP_twice v0 v1 v2 h) := by
  unfold f_mP_twice
  refine fe_b2 Fe.rf (fe_mP_no _ _) (fun x k hx => False.elim hx) (fun x k hx => False.elim hx) (fun r3 h1 F1 => ?_)
  refine fe_b2 F1 (fe_mP_fails _ _ _ _) (fun x k hx => by simp only [wI_mP_fails, F1.r] at hx; have e := hx; exact Or.inr (Or.inr (Or.inr (Or.inr (Or.inr (Or.inr (Or.inr (Or.inr (Or.inr (e)))))))))) (fun x k hx => False.elim hx) (fun r6 h4 F2 => ?_)
  refine fe_it ?_ ?_
  · exact fe_so F2
  · refine fe_b2 F2 (fe_mP_isNone _ _ _ _) (fun x k hx => False.elim hx) (fun x k hx => False.elim hx) (fun r9 h7 F3 => ?_)
    refine fe_b2 F3 (fe_mP_fails _ _ _ _) (fun x k hx => by simp only [wI_mP_fails, F1.r, F2.r, F3.r] at hx; have e := hx; exact Or.inr (Or.inr (Or.inr (Or.inr (Or.inr (Or.inr (Or.inr (Or.inr (Or.inr (e)))))))))) (fun x k hx => False.elim hx) (fun r12 h10 F4 => ?_)
    refine fe_it ?_ ?_
    · refine fe_b1 F4 (fe_mP_lift _ _ _ _) (fun x k hx => by simp only [wI_mP_lift, F1.r, F2.r, F3.r, F4.r] at hx; have e := hx; exact Or.inr (Or.inr (Or.inr (Or.inr (Or.inr (Or.inr (Or.inr (Or.inr (Or.inl (e)))))))))) (fun x k hx => False.elim hx) (fun h13 F5 => ?_)
      refine fe_b2 F5 (fe_mP_place _ _ _ _) (fun x k hx => False.elim hx) (fun x k hx => False.elim hx) (fun r17 h15 F6 => ?_)
      refine fe_it fe_no ?_
      refine fe_it ?_ fe_no
      refine fe_b2 F6 (fe_mP_place _ _ _ _) (fun x k hx => False.elim hx) (fun x k hx => False.elim hx) (fun r22 h20 F7 => ?_)
      refine fe_it fe_no ?_
      refine fe_it ?_ fe_no
      refine fe_b1 F7 (fe_mP_lies _ _ _ _ _ _) (fun x k hx => by simp only [wI_mP_lies, F1.r, F2.r, F3.r, F4.r, F5.r, F6.r, F7.r] at hx; rcases hx with e | e | e | e | e | e | e | e <;> first | exact Or.inl (e) | exact Or.inr (Or.inl (e)) | exact Or.inr (Or.inr (Or.inl (e))) | exact Or.inr (Or.inr (Or.inr (Or.inl (e)))) | exact Or.inr (Or.inr (Or.inr (Or.inr (Or.inl (e))))) | exact Or.inr (Or.inr (Or.inr (Or.inr (Or.inr (Or.inl (e)))))) | exact Or.inr (Or.inr (Or.inr (Or.inr (Or.inr (Or.inr (Or.inl (e))))))) | exact Or.inr (Or.inr (Or.inr (Or.inr (Or.inr (Or.inr (Or.inr (Or.inl (e))))))))) (fun x k hx => False.elim hx) (fun h25 F8 => ?_)
      refine fe_it fe_no ?_
      refine fe_it ?_ fe_no
      exact fe_so F8
    · exact fe_so F4
def wI_mP_alter_b46 (v0 : Nat) (v1 : Int) (v2 : Int) (v3 : Int) (v4 : Int) (s0 : Nat) (s1 : Int) (h : Hp) (x k : Nat) : Prop := x = hR h v0 15 ∨ (x = s0 ∧ k = 0)
def wJ_mP_alter_b46 (v0 : Nat) (v1 : Int) (v2 : Int) (v3 : Int) (v4 : Int) (s0 : Nat) (s1 : Int) (h : Hp) (x k : Nat) : Prop := False
def wI_mP_alter_b41 (v0 : Nat) (v1 : Int) (v2 : Int) (v3 : Int) (v4 : Int) (s0 : Nat) (h : Hp) (x k : Nat) : Prop := x = hR h v0 15 ∨ (x = s0 ∧ k = 0)
def wJ_mP_alter_b41 (v0 : Nat) (v1 : Int) (v2 : Int) (v3 : Int) (v4 : Int) (s0 : Nat) (h : Hp) (x k : Nat) : Prop := False
def wI_mP_alter (v0 : Nat) (v1 : Int) (v2 : Int) (v3 : Int) (v4 : Int) (h : Hp) (x k : Nat) : Prop := x = hR h v0 15 ∨ (x = v0 ∧ k = 0)
def wJ_mP_alter (v0 : Nat) (v1 : Int) (v2 : Int) (v3 : Int) (v4 : Int) (h : Hp) (x k : Nat) : Prop := False
theorem fe_mP_alter_b46 (v0 : Nat) (v1 : Int) (v2 : Int) (v3 : Int) (v4 : Int) (s0 : Nat) (s1 : Int) (h : Hp) : Feo (wI_mP_alter_b46 v0 v1 v2 v3 v4 s0 s1 h) (wJ_mP_alter_b46 v0 v1 v2 v3 v4 s0 s1 h) h Prod.snd (f_mP_alter_b46 v0 v1 v2 v3 v4 s0 s1 h) := by
  unfold f_mP_alter_b46
  refine fe_it fe_no ?_
  refine fe_b2 Fe.rf (fe_mP_fails _ _ _ _) (fun x k hx => by simp only [wI_mP_fails] at hx; have e := hx; exact Or.inr (e)) (fun x k hx => False.elim hx) (fun r18 h16 F1 => ?_)
  refine fe_it ?_ ?_
  · refine fe_b2 F1 (fe_mP_place _ _ _ _) (fun x k hx => False.elim hx) (fun x k hx => False.elim hx) (fun r21 h19 F2 => ?_)
    refine fe_v (fun y22 => ?_)
    refine fe_it fe_no ?_
    refine fe_it ?_ fe_no
    refine fe_it ?_ fe_no
    refine fe_I F2 (Or.inl ((by first | (simp only [F1.r, F2.r]; exact rfl) | simp only [F1.r, F2.r]))) (fun h26 F3 => ?_)
    refine fe_it fe_no ?_
    refine fe_it ?_ fe_no
    exact fe_so F3
  · exact fe_so F1
theorem fe_mP_alter_b41 (v0 : Nat) (v1 : Int) (v2 : Int) (v3 : Int) (v4 : Int) (s0 : Nat) (h : Hp) : Feo (wI_mP_alter_b41 v0 v1 v2 v3 v4 s0 h) (wJ_mP_alter_b41 v0 v1 v2 v3 v4 s0 h) h Prod.snd (f_mP_alter_b41 v0 v1 v2 v3 v4 s0 h) := by
  unfold f_mP_alter_b41
  exact fe_j Fe.rf (fe_mP_alter_b46 _ _ _ _ _ _ _ _) (fun x k hx => by simp only [wI_mP_alter_b46] at hx; rcases hx with e | e <;> first | exact Or.inl (e) | exact Or.inr (e)) (fun x k hx => False.elim hx)
theorem fe_mP_alter (v0 : Nat) (v1 : Int) (v2 : Int) (v3 : Int) (v4 : Int) (h : Hp) : Feo (wI_mP_alter v0 v1 v2 v3 v4 h) (wJ_mP_alter v0 v1 v2 v3 v4 h) h Prod.snd (f_mP_alter v0 v1 v2 v3 v4 h) := by
  unfold f_mP_alter
  refine fe_b2 Fe.rf (fe_mP_no _ _) (fun x k hx => False.elim hx) (fun x k hx => False.elim hx) (fun r3 h1 F1 => ?_)
  refine fe_b2 F1 (fe_mP_fails _ _ _ _) (fun x k hx => by simp only [wI_mP_fails, F1.r] at hx; have e := hx; exact Or.inr (e)) (fun x k hx => False.elim hx) (fun r6 h4 F2 => ?_)
  refine fe_it ?_ ?_
  · exact fe_so F2
  · refine fe_b2 F2 (fe_mP_isNone _ _ _ _) (fun x k hx => False.elim hx) (fun x k hx => False.elim hx) (fun r9 h7 F3 => ?_)
    refine fe_it ?_ ?_
    · exact fe_j F3 (fe_mP_alter_b41 _ _ _ _ _ _ _) (fun x k hx => by simp only [wI_mP_alter_b41, F1.r, F2.r, F3.r] at hx; rcases hx with e | e <;> first | exact Or.inl (e) | exact Or.inr (e)) (fun x k hx => False.elim hx)
    · refine fe_it ?_ ?_
      · exact fe_j F3 (fe_mP_alter_b41 _ _ _ _ _ _ _) (fun x k hx => by simp only [wI_mP_alter_b41, F1.r, F2.r, F3.r] at hx; rcases hx with e | e <;> first | exact Or.inl (e) | exact Or.inr (e)) (fun x k hx => False.elim hx)
      · refine fe_b2 F3 (fe_mP_place _ _ _ _) (fun x k hx => False.elim hx) (fun x k hx => False.elim hx) (fun r12 h10 F4 => ?_)
        refine fe_it fe_no ?_
        refine fe_it ?_ fe_no
        refine fe_it ?_ ?_
        · exact fe_j F4 (fe_mP_alter_b46 _ _ _ _ _ _ _ _) (fun x k hx => by simp only [wI_mP_alter_b46, F1.r, F2.r, F3.r, F4.r] at hx; rcases hx with e | e <;> first | exact Or.inl (e) | exact Or.inr (e)) (fun x k hx => False.elim hx)
        · exact fe_j F4 (fe_mP_alter_b41 _ _ _ _ _ _ _) (fun x k hx => by simp only [wI_mP_alter_b41, F1.r, F2.r, F3.r, F4.r] at hx; rcases hx with e | e <;> first | exact Or.inl (e) | exact Or.inr (e)) (fun x k hx => False.elim hx)
def wI_mP_flow_b17 (v0 : Nat) (v1 : Int) (s0 : Nat) (s1 : Int) (h : Hp) (x k : Nat) : Prop := (x = s0 ∧ k = 0) ∨ (x = v0 ∧ k = 9)
def wJ_mP_flow_b17 (v0 : Nat) (v1 : Int) (s0 : Nat) (s1 : Int) (h : Hp) (x k : Nat) : Prop := False
def wI_mP_flow_b12 (v0 : Nat) (v1 : Int) (s0 : Nat) (h : Hp) (x k : Nat) : Prop := (x = s0 ∧ k = 0) ∨ (x = v0 ∧ k = 9)
def wJ_mP_flow_b12 (v0 : Nat) (v1 : Int) (s0 : Nat) (h : Hp) (x k : Nat) : Prop := False
def wI_mP_flow (v0 : Nat) (v1 : Int) (h : Hp) (x k : Nat) : Prop := (x = v0 ∧ k = 0) ∨ (x = v0 ∧ k = 9)
def wJ_mP_flow (v0 : Nat) (v1 : Int) (h : Hp) (x k : Nat) : Prop := False
theorem fe_mP_flow_b17 (v0 : Nat) (v1 : Int) (s0 : Nat) (s1 : Int) (h : Hp) : Feo (wI_mP_flow_b17 v0 v1 s0 s1 h) (wJ_mP_flow_b17 v0 v1 s0 s1 h) h id (f_mP_flow_b17 v0 v1 s0 s1 h) := by
  unfold f_mP_flow_b17
  refine fe_it fe_no ?_
  refine fe_b2 Fe.rf (fe_mP_fails _ _ _ _) (fun x k hx => by simp only [wI_mP_fails] at hx; have e := hx; exact Or.inl (e)) (fun x k hx => False.elim hx) (fun r4 h2 F1 => ?_)
  refine fe_it ?_ ?_
  · refine fe_I F1 (Or.inr (⟨rfl, rfl⟩)) (fun h5 F2 => ?_)
    exact fe_so F2
  · exact fe_so F1
theorem fe_mP_flow_b12 (v0 : Nat) (v1 : Int) (s0 : Nat) (h : Hp) : Feo (wI_mP_flow_b12 v0 v1 s0 h) (wJ_mP_flow_b12 v0 v1 s0 h) h id (f_mP_flow_b12 v0 v1 s0 h) := by
  unfold f_mP_flow_b12
  exact fe_j Fe.rf (fe_mP_flow_b17 _ _ _ _ _) (fun x k hx => by simp only [wI_mP_flow_b17] at hx; rcases hx with e | e <;> first | exact Or.inl (e) | exact Or.inr (e)) (fun x k hx => False.elim hx)
theorem fe_mP_flow (v0 : Nat) (v1 : Int) (h : Hp) : Feo (wI_mP_flow v0 v1 h) (wJ_mP_flow v0 v1 h) h id (f_mP_flow v0 v1 h) := by
  unfold f_mP_flow
  refine fe_it ?_ ?_
  · exact fe_j Fe.rf (fe_mP_flow_b12 _ _ _ _) (fun x k hx => by simp only [wI_mP_flow_b12] at hx; rcases hx with e | e <;> first | exact Or.inl (e) | exact Or.inr (e)) (fun x k hx => False.elim hx)
  · refine fe_it ?_ ?_
    · exact fe_j Fe.rf (fe_mP_flow_b17 _ _ _ _ _) (fun x k hx => by simp only [wI_mP_flow_b17] at hx; rcases hx with e | e <;> first | exact Or.inl (e) | exact Or.inr (e)) (fun x k hx => False.elim hx)
    · exact fe_j Fe.rf (fe_mP_flow_b12 _ _ _ _) (fun x k hx => by simp only [wI_mP_flow_b12] at hx; rcases hx with e | e <;> first | exact Or.inl (e) | exact Or.inr (e)) (fun x k hx => False.elim hx)
def wI_mBook_oldest_b43 (v0 : Nat) (v1 : Int) (v2 : Int) (h : Hp) (x k : Nat) : Prop := False
def wJ_mBook_oldest_b43 (v0 : Nat) (v1 : Int) (v2 : Int) (h : Hp) (x k : Nat) : Prop := False
def wI_mBook_oldest_b7 (v0 : Nat) (v1 : Int) (v2 : Int) (h : Hp) (x k : Nat) : Prop := False
def wJ_mBook_oldest_b7 (v0 : Nat) (v1 : Int) (v2 : Int) (h : Hp) (x k : Nat) : Prop := False
def wI_mBook_oldest (v0 : Nat) (v1 : Int) (h : Hp) (x k : Nat) : Prop := False
def wJ_mBook_oldest (v0 : Nat) (v1 : Int) (h : Hp) (x k : Nat) : Prop := False
theorem fe_mBook_oldest_b43 {k7 : Nat → Int → Int → Hp → Option (Int × Hp)} (hk7 : ∀ (v0 : Nat) (v1 : Int) (v2 : Int) (h : Hp), Feo (wI_mBook_oldest_b7 v0 v1 v2 h) (wJ_mBook_oldest_b7 v0 v1 v2 h) h Prod.snd (k7 v0 v1 v2 h)) (v0 : Nat) (v1 : Int) (v2 : Int) (h : Hp) : Feo (wI_mBook_oldest_b43 v0 v1 v2 h) (wJ_mBook_oldest_b43 v0 v1 v2 h) h Prod.snd (f_mBook_oldest_b43 k7 v0 v1 v2 h) := by
  unfold f_mBook_oldest_b43
  exact fe_j Fe.rf (hk7 _ _ _ _) (fun x k hx => False.elim hx) (fun x k hx => False.elim hx)
theorem fe_mBook_oldest_b7 {k7 : Nat → Int → Int → Hp → Option (Int × Hp)} (hk7 : ∀ (v0 : Nat) (v1 : Int) (v2 : Int) (h : Hp), Feo (wI_mBook_oldest_b7 v0 v1 v2 h) (wJ_mBook_oldest_b7 v0 v1 v2 h) h Prod.snd (k7 v0 v1 v2 h)) (v0 : Nat) (v1 : Int) (v2 : Int) (h : Hp) : Feo (wI_mBook_oldest_b7 v0 v1 v2 h) (wJ_mBook_oldest_b7 v0 v1 v2 h) h Prod.snd (f_mBook_oldest_b7 k7 v0 v1 v2 h) := by
  unfold f_mBook_oldest_b7
  refine fe_it fe_no ?_
  refine fe_it ?_ fe_no
  refine fe_it ?_ ?_
  · exact fe_so Fe.rf
  · refine fe_b2 Fe.rf (fe_mBook_isOut _ _ _ _) (fun x k hx => False.elim hx) (fun x k hx => False.elim hx) (fun r8 h6 F1 => ?_)
    refine fe_it ?_ ?_
    · exact fe_j F1 (fe_mBook_oldest_b43 hk7 _ _ _ _) (fun x k hx => False.elim hx) (fun x k hx => False.elim hx)
    · refine fe_it fe_no ?_
      refine fe_it ?_ fe_no
      refine fe_it ?_ ?_
      · exact fe_j F1 (fe_mBook_oldest_b43 hk7 _ _ _ _) (fun x k hx => False.elim hx) (fun x k hx => False.elim hx)
      · exact fe_so F1
theorem fe_mBook_oldest_b7_lp (n : Nat) : ∀ (v0 : Nat) (v1 : Int) (v2 : Int) (h : Hp), Feo (wI_mBook_oldest_b7 v0 v1 v2 h) (wJ_mBook_oldest_b7 v0 v1 v2 h) h Prod.snd (f_mBook_oldest_b7_lp n v0 v1 v2 h) := by
  induction n with
  | zero => intro v0 v1 v2 h; exact fe_no
  | succ n ih => intro v0 v1 v2 h; exact fe_mBook_oldest_b7 ih v0 v1 v2 h
theorem fe_mBook_oldest (v0 : Nat) (v1 : Int) (h : Hp) : Feo (wI_mBook_oldest v0 v1 h) (wJ_mBook_oldest v0 v1 h) h Prod.snd (f_mBook_oldest v0 v1 h) := by
  unfold f_mBook_oldest
  refine fe_it fe_no ?_
  refine fe_it ?_ fe_no
  refine fe_v (fun y3 => ?_)
  exact fe_j Fe.rf (fe_mBook_oldest_b7_lp FU _ _ _ _) (fun x k hx => False.elim hx) (fun x k hx => False.elim hx)
def wI_mBook_firstSpace_b2 (v0 : Nat) (v1 : Int) (h : Hp) (x k : Nat) : Prop := False
def wJ_mBook_firstSpace_b2 (v0 : Nat) (v1 : Int) (h : Hp) (x k : Nat) : Prop := False
def wI_mBook_firstSpace (v0 : Nat) (h : Hp) (x k : Nat) : Prop := False
def wJ_mBook_firstSpace (v0 : Nat) (h : Hp) (x k : Nat) : Prop := False
theorem fe_mBook_firstSpace_b2 {k2 : Nat → Int → Hp → Option (Int × Hp)} (hk2 : ∀ (v0 : Nat) (v1 : Int) (h : Hp), Feo (wI_mBook_firstSpace_b2 v0 v1 h) (wJ_mBook_firstSpace_b2 v0 v1 h) h Prod.snd (k2 v0 v1 h)) (v0 : Nat) (v1 : Int) (h : Hp) : Feo (wI_mBook_firstSpace_b2 v0 v1 h) (wJ_mBook_firstSpace_b2 v0 v1 h) h Prod.snd (f_mBook_firstSpace_b2 k2 v0 v1 h) := by
  unfold f_mBook_firstSpace_b2
  refine fe_it ?_ ?_
  · exact fe_so Fe.rf
  · refine fe_it fe_no ?_
    refine fe_it ?_ fe_no
    refine fe_it ?_ ?_
    · exact fe_so Fe.rf
    · exact fe_j Fe.rf (hk2 _ _ _) (fun x k hx => False.elim hx) (fun x k hx => False.elim hx)
theorem fe_mBook_firstSpace_b2_lp (n : Nat) : ∀ (v0 : Nat) (v1 : Int) (h : Hp), Feo (wI_mBook_firstSpace_b2 v0 v1 h) (wJ_mBook_firstSpace_b2 v0 v1 h) h Prod.snd (f_mBook_firstSpace_b2_lp n v0 v1 h) := by
  induction n with
  | zero => intro v0 v1 h; exact fe_no
  | succ n ih => intro v0 v1 h; exact fe_mBook_firstSpace_b2 ih v0 v1 h
theorem fe_mBook_firstSpace (v0 : Nat) (h : Hp) : Feo (wI_mBook_firstSpace v0 h) (wJ_mBook_firstSpace v0 h) h Prod.snd (f_mBook_firstSpace v0 h) := by
  unfold f_mBook_firstSpace
  exact fe_j Fe.rf (fe_mBook_firstSpace_b2_lp FU _ _ _) (fun x k hx => False.elim hx) (fun x k hx => False.elim hx)
def wI_mBook_probeTime_b125 (v0 : Nat) (v1 : Int) (v2 : Int) (s0 : Int) (h : Hp) (x k : Nat) : Prop := False
def wJ_mBook_probeTime_b125 (v0 : Nat) (v1 : Int) (v2 : Int) (s0 : Int) (h : Hp) (x k : Nat) : Prop := False
def wI_mBook_probeTime_b60 (v0 : Nat) (v1 : Int) (v2 : Int) (v3 : Int) (h : Hp) (x k : Nat) : Prop := False
def wJ_mBook_probeTime_b60 (v0 : Nat) (v1 : Int) (v2 : Int) (v3 : Int) (h : Hp) (x k : Nat) : Prop := False
def wI_mBook_probeTime_b120 (v0 : Nat) (v1 : Int) (v2 : Int) (h : Hp) (x k : Nat) : Prop := False
def wJ_mBook_probeTime_b120 (v0 : Nat) (v1 : Int) (v2 : Int) (h : Hp) (x k : Nat) : Prop := False
def wI_mBook_probeTime_b34 (v0 : Nat) (v1 : Int) (s0 : Nat) (s1 : Int) (h : Hp) (x k : Nat) : Prop := False
def wJ_mBook_probeTime_b34 (v0 : Nat) (v1 : Int) (s0 : Nat) (s1 : Int) (h : Hp) (x k : Nat) : Prop := False
def wI_mBook_probeTime_b23 (v0 : Nat) (v1 : Int) (h : Hp) (x k : Nat) : Prop := False
def wJ_mBook_probeTime_b23 (v0 : Nat) (v1 : Int) (h : Hp) (x k : Nat) : Prop := False
def wI_mBook_probeTime (v0 : Nat) (v1 : Int) (h : Hp) (x k : Nat) : Prop := False
def wJ_mBook_probeTime (v0 : Nat) (v1 : Int) (h : Hp) (x k : Nat) : Prop := False
theorem fe_mBook_probeTime_b125 (v0 : Nat) (v1 : Int) (v2 : Int) (s0 : Int) (h : Hp) : Feo (wI_mBook_probeTime_b125 v0 v1 v2 s0 h) (wJ_mBook_probeTime_b125 v0 v1 v2 s0 h) h Prod.snd (f_mBook_probeTime_b125 v0 v1 v2 s0 h) := by
  unfold f_mBook_probeTime_b125
  refine fe_it ?_ ?_
  · exact fe_so Fe.rf
  · refine fe_it ?_ ?_
    · exact fe_so Fe.rf
    · refine fe_b2 Fe.rf (fe_mBook_firstSpace _ _) (fun x k hx => False.elim hx) (fun x k hx => False.elim hx) (fun r25 h23 F1 => ?_)
      refine fe_it ?_ ?_
      · exact fe_so F1
      · exact fe_so F1
theorem fe_mBook_probeTime_b60 {k60 : Nat → Int → Int → Int → Hp → Option (Int × Hp)} (hk60 : ∀ (v0 : Nat) (v1 : Int) (v2 : Int) (v3 : Int) (h : Hp), Feo (wI_mBook_probeTime_b60 v0 v1 v2 v3 h) (wJ_mBook_probeTime_b60 v0 v1 v2 v3 h) h Prod.snd (k60 v0 v1 v2 v3 h)) (v0 : Nat) (v1 : Int) (v2 : Int) (v3 : Int) (h : Hp) : Feo (wI_mBook_probeTime_b60 v0 v1 v2 v3 h) (wJ_mBook_probeTime_b60 v0 v1 v2 v3 h) h Prod.snd (f_mBook_probeTime_b60 k60 v0 v1 v2 v3 h) := by
  unfold f_mBook_probeTime_b60
  refine fe_it fe_no ?_
  refine fe_it ?_ fe_no
  refine fe_it ?_ ?_
  · refine fe_it fe_no ?_
    refine fe_it ?_ fe_no
    exact fe_so Fe.rf
  · exact fe_j Fe.rf (hk60 _ _ _ _ _) (fun x k hx => False.elim hx) (fun x k hx => False.elim hx)
theorem fe_mBook_probeTime_b60_lp (n : Nat) : ∀ (v0 : Nat) (v1 : Int) (v2 : Int) (v3 : Int) (h : Hp), Feo (wI_mBook_probeTime_b60 v0 v1 v2 v3 h) (wJ_mBook_probeTime_b60 v0 v1 v2 v3 h) h Prod.snd (f_mBook_probeTime_b60_lp n v0 v1 v2 v3 h) := by
  induction n with
  | zero => intro v0 v1 v2 v3 h; exact fe_no
  | succ n ih => intro v0 v1 v2 v3 h; exact fe_mBook_probeTime_b60 ih v0 v1 v2 v3 h
theorem fe_mBook_probeTime_b120 (v0 : Nat) (v1 : Int) (v2 : Int) (h : Hp) : Feo (wI_mBook_probeTime_b120 v0 v1 v2 h) (wJ_mBook_probeTime_b120 v0 v1 v2 h) h Prod.snd (f_mBook_probeTime_b120 v0 v1 v2 h) := by
  unfold f_mBook_probeTime_b120
  exact fe_j Fe.rf (fe_mBook_probeTime_b125 _ _ _ _ _) (fun x k hx => False.elim hx) (fun x k hx => False.elim hx)
theorem fe_mBook_probeTime_b34 (v0 : Nat) (v1 : Int) (s0 : Nat) (s1 : Int) (h : Hp) : Feo (wI_mBook_probeTime_b34 v0 v1 s0 s1 h) (wJ_mBook_probeTime_b34 v0 v1 s0 s1 h) h Prod.snd (f_mBook_probeTime_b34 v0 v1 s0 s1 h) := by
  unfold f_mBook_probeTime_b34
  refine fe_it fe_no ?_
  refine fe_b2 Fe.rf (fe_mBook_patience _ _ _) (fun x k hx => False.elim hx) (fun x k hx => False.elim hx) (fun r6 h4 F1 => ?_)
  refine fe_v (fun y7 => ?_)
  refine fe_b2 F1 (fe_mBook_oldest _ _ _) (fun x k hx => False.elim hx) (fun x k hx => False.elim hx) (fun r10 h8 F2 => ?_)
  refine fe_it ?_ ?_
  · refine fe_b2 F2 (fe_mBook_oldest _ _ _) (fun x k hx => False.elim hx) (fun x k hx => False.elim hx) (fun r13 h11 F3 => ?_)
    refine fe_it ?_ ?_
    · exact fe_j F3 (fe_mBook_probeTime_b120 _ _ _ _) (fun x k hx => False.elim hx) (fun x k hx => False.elim hx)
    · refine fe_b2 F3 (fe_mBook_oldest _ _ _) (fun x k hx => False.elim hx) (fun x k hx => False.elim hx) (fun r16 h14 F4 => ?_)
      refine fe_it ?_ ?_
      · exact fe_j F4 (fe_mBook_probeTime_b120 _ _ _ _) (fun x k hx => False.elim hx) (fun x k hx => False.elim hx)
      · refine fe_b2 F4 (fe_mBook_oldest _ _ _) (fun x k hx => False.elim hx) (fun x k hx => False.elim hx) (fun r19 h17 F5 => ?_)
        refine fe_it ?_ ?_
        · exact fe_j F5 (fe_mBook_probeTime_b125 _ _ _ _ _) (fun x k hx => False.elim hx) (fun x k hx => False.elim hx)
        · exact fe_j F5 (fe_mBook_probeTime_b120 _ _ _ _) (fun x k hx => False.elim hx) (fun x k hx => False.elim hx)
  · refine fe_it fe_no ?_
    refine fe_it ?_ fe_no
    refine fe_v (fun y22 => ?_)
    exact fe_j F2 (fe_mBook_probeTime_b60_lp FU _ _ _ _ _) (fun x k hx => False.elim hx) (fun x k hx => False.elim hx)
theorem fe_mBook_probeTime_b23 (v0 : Nat) (v1 : Int) (h : Hp) : Feo (wI_mBook_probeTime_b23 v0 v1 h) (wJ_mBook_probeTime_b23 v0 v1 h) h Prod.snd (f_mBook_probeTime_b23 v0 v1 h) := by
  unfold f_mBook_probeTime_b23
  refine fe_it ?_ ?_
  · exact fe_j Fe.rf (fe_mBook_probeTime_b34 _ _ _ _ _) (fun x k hx => False.elim hx) (fun x k hx => False.elim hx)
  · exact fe_j Fe.rf (fe_mBook_probeTime_b34 _ _ _ _ _) (fun x k hx => False.elim hx) (fun x k hx => False.elim hx)
theorem fe_mBook_probeTime (v0 : Nat) (v1 : Int) (h : Hp) : Feo (wI_mBook_probeTime v0 v1 h) (wJ_mBook_probeTime v0 v1 h) h Prod.snd (f_mBook_probeTime v0 v1 h) := by
  unfold f_mBook_probeTime
  refine fe_it fe_no ?_
  refine fe_it ?_ fe_no
  refine fe_it ?_ ?_
  · exact fe_so Fe.rf
  · refine fe_it ?_ ?_
    · exact fe_j Fe.rf (fe_mBook_probeTime_b23 _ _ _) (fun x k hx => False.elim hx) (fun x k hx => False.elim hx)
    · refine fe_it ?_ ?_
      · exact fe_j Fe.rf (fe_mBook_probeTime_b23 _ _ _) (fun x k hx => False.elim hx) (fun x k hx => False.elim hx)
      · exact fe_so Fe.rf
def wI_mBook_tick_b127 (v0 : Nat) (v1 : Int) (v2 : Int) (v3 : Int) (h : Hp) (x k : Nat) : Prop := (x = v0 ∧ k = 23)
def wJ_mBook_tick_b127 (v0 : Nat) (v1 : Int) (v2 : Int) (v3 : Int) (h : Hp) (x k : Nat) : Prop := False
def wI_mBook_tick_b160 (v0 : Nat) (v1 : Int) (s0 : Nat) (s1 : Int) (h : Hp) (x k : Nat) : Prop := (x = s0 ∧ k = 23)
def wJ_mBook_tick_b160 (v0 : Nat) (v1 : Int) (s0 : Nat) (s1 : Int) (h : Hp) (x k : Nat) : Prop := False
def wI_mBook_tick_b122 (v0 : Nat) (v3 : Int) (v4 : Int) (h : Hp) (x k : Nat) : Prop := (x = v0 ∧ k = 23)
def wJ_mBook_tick_b122 (v0 : Nat) (v3 : Int) (v4 : Int) (h : Hp) (x k : Nat) : Prop := False
def wI_mBook_tick_b83 (v0 : Nat) (v1 : Int) (v2 : Int) (v3 : Int) (h : Hp) (x k : Nat) : Prop := (x = v0 ∧ k = 23)
def wJ_mBook_tick_b83 (v0 : Nat) (v1 : Int) (v2 : Int) (v3 : Int) (h : Hp) (x k : Nat) : Prop := False
def wI_mBook_tick_b62 (v0 : Nat) (v1 : Int) (v2 : Int) (h : Hp) (x k : Nat) : Prop := x = (hR h v0 13) ∨ x = hR h v0 10 ∨ x = hR h v0 13 ∨ x = hR h v0 15 ∨ x = hR h v0 16 ∨ x = hR h v0 6 ∨ (x = v0 ∧ k = 23) ∨ (x = v0 ∧ k = 24) ∨ (x = v0 ∧ k = 25) ∨ (x = v0 ∧ k = 26)
def wJ_mBook_tick_b62 (v0 : Nat) (v1 : Int) (v2 : Int) (h : Hp) (x k : Nat) : Prop := False
def wI_mBook_tick_b60 (v0 : Nat) (v2 : Int) (h : Hp) (x k : Nat) : Prop := x = (hR h v0 13) ∨ x = hR h v0 10 ∨ x = hR h v0 13 ∨ x = hR h v0 15 ∨ x = hR h v0 16 ∨ x = hR h v0 6 ∨ (x = v0 ∧ k = 23) ∨ (x = v0 ∧ k = 24) ∨ (x = v0 ∧ k = 25) ∨ (x = v0 ∧ k = 26)
def wJ_mBook_tick_b60 (v0 : Nat) (v2 : Int) (h : Hp) (x k : Nat) : Prop := False
def wI_mBook_tick_b14 (v0 : Nat) (v1 : Int) (v2 : Int) (h : Hp) (x k : Nat) : Prop := x = (hR h v0 13) ∨ x = hR h v0 10 ∨ x = hR h v0 13 ∨ x = hR h v0 15 ∨ x = hR h v0 16 ∨ x = hR h v0 6 ∨ (x = v0 ∧ k = 23) ∨ (x = v0 ∧ k = 24) ∨ (x = v0 ∧ k = 25) ∨ (x = v0 ∧ k = 26)
def wJ_mBook_tick_b14 (v0 : Nat) (v1 : Int) (v2 : Int) (h : Hp) (x k : Nat) : Prop := False
def wI_mBook_tick (v0 : Nat) (h : Hp) (x k : Nat) : Prop := x = (hR h v0 13) ∨ x = hR h v0 10 ∨ x = hR h v0 13 ∨ x = hR h v0 15 ∨ x = hR h v0 16 ∨ x = hR h v0 6 ∨ (x = v0 ∧ k = 0) ∨ (x = v0 ∧ k = 23) ∨ (x = v0 ∧ k = 24) ∨ (x = v0 ∧ k = 25) ∨ (x = v0 ∧ k = 26)
def wJ_mBook_tick (v0 : Nat) (h : Hp) (x k : Nat) : Prop := False
theorem fe_mBook_tick_b127 {k83 : Nat → Int → Int → Int → Hp → Option (Int × Hp)} (hk83 : ∀ (v0 : Nat) (v1 : Int) (v2 : Int) (v3 : Int) (h : Hp), Feo (wI_mBook_tick_b83 v0 v1 v2 v3 h) (wJ_mBook_tick_b83 v0 v1 v2 v3 h) h Prod.snd (k83 v0 v1 v2 v3 h)) (v0 : Nat) (v1 : Int) (v2 : Int) (v3 : Int) (h : Hp) : Feo (wI_mBook_tick_b127 v0 v1 v2 v3 h) (wJ_mBook_tick_b127 v0 v1 v2 v3 h) h Prod.snd (f_mBook_tick_b127 k83 v0 v1 v2 v3 h) := by
  unfold f_mBook_tick_b127
  exact fe_j Fe.rf (hk83 _ _ _ _ _) (fun x k hx => by simp only [wI_mBook_tick_b83] at hx; have e := hx; exact e) (fun x k hx => False.elim hx)
theorem fe_mBook_tick_b160 (v0 : Nat) (v1 : Int) (s0 : Nat) (s1 : Int) (h : Hp) : Feo (wI_mBook_tick_b160 v0 v1 s0 s1 h) (wJ_mBook_tick_b160 v0 v1 s0 s1 h) h Prod.snd (f_mBook_tick_b160 v0 v1 s0 s1 h) := by
  unfold f_mBook_tick_b160
  refine fe_it fe_no ?_
  refine fe_I Fe.rf (⟨rfl, rfl⟩) (fun h13 F1 => ?_)
  exact fe_so F1
theorem fe_mBook_tick_b122 {k83 : Nat → Int → Int → Int → Hp → Option (Int × Hp)} (hk83 : ∀ (v0 : Nat) (v1 : Int) (v2 : Int) (v3 : Int) (h : Hp), Feo (wI_mBook_tick_b83 v0 v1 v2 v3 h) (wJ_mBook_tick_b83 v0 v1 v2 v3 h) h Prod.snd (k83 v0 v1 v2 v3 h)) (v0 : Nat) (v3 : Int) (v4 : Int) (h : Hp) : Feo (wI_mBook_tick_b122 v0 v3 v4 h) (wJ_mBook_tick_b122 v0 v3 v4 h) h Prod.snd (f_mBook_tick_b122 k83 v0 v3 v4 h) := by
  unfold f_mBook_tick_b122
  exact fe_j Fe.rf (fe_mBook_tick_b127 hk83 _ _ _ _ _) (fun x k hx => by simp only [wI_mBook_tick_b127] at hx; have e := hx; exact e) (fun x k hx => False.elim hx)
theorem fe_mBook_tick_b83 {k83 : Nat → Int → Int → Int → Hp → Option (Int × Hp)} (hk83 : ∀ (v0 : Nat) (v1 : Int) (v2 : Int) (v3 : Int) (h : Hp), Feo (wI_mBook_tick_b83 v0 v1 v2 v3 h) (wJ_mBook_tick_b83 v0 v1 v2 v3 h) h Prod.snd (k83 v0 v1 v2 v3 h)) (v0 : Nat) (v1 : Int) (v2 : Int) (v3 : Int) (h : Hp) : Feo (wI_mBook_tick_b83 v0 v1 v2 v3 h) (wJ_mBook_tick_b83 v0 v1 v2 v3 h) h Prod.snd (f_mBook_tick_b83 k83 v0 v1 v2 v3 h) := by
  unfold f_mBook_tick_b83
  refine fe_it ?_ ?_
  · refine fe_it ?_ ?_
    · refine fe_it ?_ ?_
      · exact fe_j Fe.rf (fe_mBook_tick_b160 _ _ _ _ _) (fun x k hx => by simp only [wI_mBook_tick_b160] at hx; have e := hx; exact e) (fun x k hx => False.elim hx)
      · exact fe_j Fe.rf (fe_mBook_tick_b160 _ _ _ _ _) (fun x k hx => by simp only [wI_mBook_tick_b160] at hx; have e := hx; exact e) (fun x k hx => False.elim hx)
    · exact fe_so Fe.rf
  · refine fe_b2 Fe.rf (fe_mBook_probeTime _ _ _) (fun x k hx => False.elim hx) (fun x k hx => False.elim hx) (fun r11 h9 F1 => ?_)
    refine fe_it ?_ ?_
    · exact fe_j F1 (fe_mBook_tick_b127 hk83 _ _ _ _ _) (fun x k hx => by simp only [wI_mBook_tick_b127, F1.r] at hx; have e := hx; exact e) (fun x k hx => False.elim hx)
    · refine fe_it ?_ ?_
      · exact fe_j F1 (fe_mBook_tick_b127 hk83 _ _ _ _ _) (fun x k hx => by simp only [wI_mBook_tick_b127, F1.r] at hx; have e := hx; exact e) (fun x k hx => False.elim hx)
      · refine fe_it ?_ ?_
        · exact fe_j F1 (fe_mBook_tick_b122 hk83 _ _ _ _) (fun x k hx => by simp only [wI_mBook_tick_b122, F1.r] at hx; have e := hx; exact e) (fun x k hx => False.elim hx)
        · refine fe_it ?_ ?_
          · exact fe_j F1 (fe_mBook_tick_b122 hk83 _ _ _ _) (fun x k hx => by simp only [wI_mBook_tick_b122, F1.r] at hx; have e := hx; exact e) (fun x k hx => False.elim hx)
          · exact fe_j F1 (fe_mBook_tick_b127 hk83 _ _ _ _ _) (fun x k hx => by simp only [wI_mBook_tick_b127, F1.r] at hx; have e := hx; exact e) (fun x k hx => False.elim hx)
theorem fe_mBook_tick_b83_lp (n : Nat) : ∀ (v0 : Nat) (v1 : Int) (v2 : Int) (v3 : Int) (h : Hp), Feo (wI_mBook_tick_b83 v0 v1 v2 v3 h) (wJ_mBook_tick_b83 v0 v1 v2 v3 h) h Prod.snd (f_mBook_tick_b83_lp n v0 v1 v2 v3 h) := by
  induction n with
  | zero => intro v0 v1 v2 v3 h; exact fe_no
  | succ n ih => intro v0 v1 v2 v3 h; exact fe_mBook_tick_b83 ih v0 v1 v2 v3 h
theorem fe_mBook_tick_b62 {k14 : Nat → Int → Int → Hp → Option (Int × Hp)} (hk14 : ∀ (v0 : Nat) (v1 : Int) (v2 : Int) (h : Hp), Feo (wI_mBook_tick_b14 v0 v1 v2 h) (wJ_mBook_tick_b14 v0 v1 v2 h) h Prod.snd (k14 v0 v1 v2 h)) (v0 : Nat) (v1 : Int) (v2 : Int) (h : Hp) : Feo (wI_mBook_tick_b62 v0 v1 v2 h) (wJ_mBook_tick_b62 v0 v1 v2 h) h Prod.snd (f_mBook_tick_b62 k14 v0 v1 v2 h) := by
  unfold f_mBook_tick_b62
  exact fe_j Fe.rf (hk14 _ _ _ _) (fun x k hx => by simp only [wI_mBook_tick_b14] at hx; rcases hx with e | e | e | e | e | e | e | e | e | e <;> first | exact Or.inl (e) | exact Or.inr (Or.inl (e)) | exact Or.inr (Or.inr (Or.inl (e))) | exact Or.inr (Or.inr (Or.inr (Or.inl (e)))) | exact Or.inr (Or.inr (Or.inr (Or.inr (Or.inl (e))))) | exact Or.inr (Or.inr (Or.inr (Or.inr (Or.inr (Or.inl (e)))))) | exact Or.inr (Or.inr (Or.inr (Or.inr (Or.inr (Or.inr (Or.inl (e))))))) | exact Or.inr (Or.inr (Or.inr (Or.inr (Or.inr (Or.inr (Or.inr (Or.inl (e)))))))) | exact Or.inr (Or.inr (Or.inr (Or.inr (Or.inr (Or.inr (Or.inr (Or.inr (Or.inl (e))))))))) | exact Or.inr (Or.inr (Or.inr (Or.inr (Or.inr (Or.inr (Or.inr (Or.inr (Or.inr (e)))))))))) (fun x k hx => False.elim hx)
theorem fe_mBook_tick_b60 {k14 : Nat → Int → Int → Hp → Option (Int × Hp)} (hk14 : ∀ (v0 : Nat) (v1 : Int) (v2 : Int) (h : Hp), Feo (wI_mBook_tick_b14 v0 v1 v2 h) (wJ_mBook_tick_b14 v0 v1 v2 h) h Prod.snd (k14 v0 v1 v2 h)) (v0 : Nat) (v2 : Int) (h : Hp) : Feo (wI_mBook_tick_b60 v0 v2 h) (wJ_mBook_tick_b60 v0 v2 h) h Prod.snd (f_mBook_tick_b60 k14 v0 v2 h) := by
  unfold f_mBook_tick_b60
  exact fe_j Fe.rf (fe_mBook_tick_b62 hk14 _ _ _ _) (fun x k hx => by simp only [wI_mBook_tick_b62] at hx; rcases hx with e | e | e | e | e | e | e | e | e | e <;> first | exact Or.inl (e) | exact Or.inr (Or.inl (e)) | exact Or.inr (Or.inr (Or.inl (e))) | exact Or.inr (Or.inr (Or.inr (Or.inl (e)))) | exact Or.inr (Or.inr (Or.inr (Or.inr (Or.inl (e))))) | exact Or.inr (Or.inr (Or.inr (Or.inr (Or.inr (Or.inl (e)))))) | exact Or.inr (Or.inr (Or.inr (Or.inr (Or.inr (Or.inr (Or.inl (e))))))) | exact Or.inr (Or.inr (Or.inr (Or.inr (Or.inr (Or.inr (Or.inr (Or.inl (e)))))))) | exact Or.inr (Or.inr (Or.inr (Or.inr (Or.inr (Or.inr (Or.inr (Or.inr (Or.inl (e))))))))) | exact Or.inr (Or.inr (Or.inr (Or.inr (Or.inr (Or.inr (Or.inr (Or.inr (Or.inr (e)))))))))) (fun x k hx => False.elim hx)
theorem fe_mBook_tick_b14 {k14 : Nat → Int → Int → Hp → Option (Int × Hp)} (hk14 : ∀ (v0 : Nat) (v1 : Int) (v2 : Int) (h : Hp), Feo (wI_mBook_tick_b14 v0 v1 v2 h) (wJ_mBook_tick_b14 v0 v1 v2 h) h Prod.snd (k14 v0 v1 v2 h)) (v0 : Nat) (v1 : Int) (v2 : Int) (h : Hp) : Feo (wI_mBook_tick_b14 v0 v1 v2 h) (wJ_mBook_tick_b14 v0 v1 v2 h) h Prod.snd (f_mBook_tick_b14 k14 v0 v1 v2 h) := by
  unfold f_mBook_tick_b14
  refine fe_it ?_ ?_
  · refine fe_it ?_ ?_
    · exact fe_j Fe.rf (fe_mBook_tick_b83_lp FU _ _ _ _ _) (fun x k hx => by simp only [wI_mBook_tick_b83] at hx; have e := hx; exact Or.inr (Or.inr (Or.inr (Or.inr (Or.inr (Or.inr (Or.inl (e)))))))) (fun x k hx => False.elim hx)
    · refine fe_b1 Fe.rf (fe_mBook_losses _ _ _) (fun x k hx => by simp only [wI_mBook_losses] at hx; rcases hx with e | e | e | e | e | e | e | e | e <;> first | exact Or.inl (e) | exact Or.inr (Or.inl (e)) | exact Or.inr (Or.inr (Or.inl (e))) | exact Or.inr (Or.inr (Or.inr (Or.inl (e)))) | exact Or.inr (Or.inr (Or.inr (Or.inr (Or.inl (e))))) | exact Or.inr (Or.inr (Or.inr (Or.inr (Or.inr (Or.inl (e)))))) | exact Or.inr (Or.inr (Or.inr (Or.inr (Or.inr (Or.inr (Or.inr (Or.inl (e)))))))) | exact Or.inr (Or.inr (Or.inr (Or.inr (Or.inr (Or.inr (Or.inr (Or.inr (Or.inl (e))))))))) | exact Or.inr (Or.inr (Or.inr (Or.inr (Or.inr (Or.inr (Or.inr (Or.inr (Or.inr (e)))))))))) (fun x k hx => False.elim hx) (fun h2 F1 => ?_)
      exact fe_so F1
  · refine fe_it fe_no ?_
    refine fe_it ?_ fe_no
    refine fe_it ?_ ?_
    · exact fe_j Fe.rf (fe_mBook_tick_b62 hk14 _ _ _ _) (fun x k hx => by simp only [wI_mBook_tick_b62] at hx; rcases hx with e | e | e | e | e | e | e | e | e | e <;> first | exact Or.inl (e) | exact Or.inr (Or.inl (e)) | exact Or.inr (Or.inr (Or.inl (e))) | exact Or.inr (Or.inr (Or.inr (Or.inl (e)))) | exact Or.inr (Or.inr (Or.inr (Or.inr (Or.inl (e))))) | exact Or.inr (Or.inr (Or.inr (Or.inr (Or.inr (Or.inl (e)))))) | exact Or.inr (Or.inr (Or.inr (Or.inr (Or.inr (Or.inr (Or.inl (e))))))) | exact Or.inr (Or.inr (Or.inr (Or.inr (Or.inr (Or.inr (Or.inr (Or.inl (e)))))))) | exact Or.inr (Or.inr (Or.inr (Or.inr (Or.inr (Or.inr (Or.inr (Or.inr (Or.inl (e))))))))) | exact Or.inr (Or.inr (Or.inr (Or.inr (Or.inr (Or.inr (Or.inr (Or.inr (Or.inr (e)))))))))) (fun x k hx => False.elim hx)
    · refine fe_it ?_ fe_no
      refine fe_it ?_ ?_
      · exact fe_j Fe.rf (fe_mBook_tick_b62 hk14 _ _ _ _) (fun x k hx => by simp only [wI_mBook_tick_b62] at hx; rcases hx with e | e | e | e | e | e | e | e | e | e <;> first | exact Or.inl (e) | exact Or.inr (Or.inl (e)) | exact Or.inr (Or.inr (Or.inl (e))) | exact Or.inr (Or.inr (Or.inr (Or.inl (e)))) | exact Or.inr (Or.inr (Or.inr (Or.inr (Or.inl (e))))) | exact Or.inr (Or.inr (Or.inr (Or.inr (Or.inr (Or.inl (e)))))) | exact Or.inr (Or.inr (Or.inr (Or.inr (Or.inr (Or.inr (Or.inl (e))))))) | exact Or.inr (Or.inr (Or.inr (Or.inr (Or.inr (Or.inr (Or.inr (Or.inl (e)))))))) | exact Or.inr (Or.inr (Or.inr (Or.inr (Or.inr (Or.inr (Or.inr (Or.inr (Or.inl (e))))))))) | exact Or.inr (Or.inr (Or.inr (Or.inr (Or.inr (Or.inr (Or.inr (Or.inr (Or.inr (e)))))))))) (fun x k hx => False.elim hx)
      · refine fe_it ?_ ?_
        · exact fe_j Fe.rf (fe_mBook_tick_b60 hk14 _ _ _) (fun x k hx => by simp only [wI_mBook_tick_b60] at hx; rcases hx with e | e | e | e | e | e | e | e | e | e <;> first | exact Or.inl (e) | exact Or.inr (Or.inl (e)) | exact Or.inr (Or.inr (Or.inl (e))) | exact Or.inr (Or.inr (Or.inr (Or.inl (e)))) | exact Or.inr (Or.inr (Or.inr (Or.inr (Or.inl (e))))) | exact Or.inr (Or.inr (Or.inr (Or.inr (Or.inr (Or.inl (e)))))) | exact Or.inr (Or.inr (Or.inr (Or.inr (Or.inr (Or.inr (Or.inl (e))))))) | exact Or.inr (Or.inr (Or.inr (Or.inr (Or.inr (Or.inr (Or.inr (Or.inl (e)))))))) | exact Or.inr (Or.inr (Or.inr (Or.inr (Or.inr (Or.inr (Or.inr (Or.inr (Or.inl (e))))))))) | exact Or.inr (Or.inr (Or.inr (Or.inr (Or.inr (Or.inr (Or.inr (Or.inr (Or.inr (e)))))))))) (fun x k hx => False.elim hx)
        · refine fe_it ?_ fe_no
          refine fe_it ?_ fe_no
          refine fe_it ?_ ?_
          · exact fe_j Fe.rf (fe_mBook_tick_b62 hk14 _ _ _ _) (fun x k hx => by simp only [wI_mBook_tick_b62] at hx; rcases hx with e | e | e | e | e | e | e | e | e | e <;> first | exact Or.inl (e) | exact Or.inr (Or.inl (e)) | exact Or.inr (Or.inr (Or.inl (e))) | exact Or.inr (Or.inr (Or.inr (Or.inl (e)))) | exact Or.inr (Or.inr (Or.inr (Or.inr (Or.inl (e))))) | exact Or.inr (Or.inr (Or.inr (Or.inr (Or.inr (Or.inl (e)))))) | exact Or.inr (Or.inr (Or.inr (Or.inr (Or.inr (Or.inr (Or.inl (e))))))) | exact Or.inr (Or.inr (Or.inr (Or.inr (Or.inr (Or.inr (Or.inr (Or.inl (e)))))))) | exact Or.inr (Or.inr (Or.inr (Or.inr (Or.inr (Or.inr (Or.inr (Or.inr (Or.inl (e))))))))) | exact Or.inr (Or.inr (Or.inr (Or.inr (Or.inr (Or.inr (Or.inr (Or.inr (Or.inr (e)))))))))) (fun x k hx => False.elim hx)
          · exact fe_j Fe.rf (fe_mBook_tick_b60 hk14 _ _ _) (fun x k hx => by simp only [wI_mBook_tick_b60] at hx; rcases hx with e | e | e | e | e | e | e | e | e | e <;> first | exact Or.inl (e) | exact Or.inr (Or.inl (e)) | exact Or.inr (Or.inr (Or.inl (e))) | exact Or.inr (Or.inr (Or.inr (Or.inl (e)))) | exact Or.inr (Or.inr (Or.inr (Or.inr (Or.inl (e))))) | exact Or.inr (Or.inr (Or.inr (Or.inr (Or.inr (Or.inl (e)))))) | exact Or.inr (Or.inr (Or.inr (Or.inr (Or.inr (Or.inr (Or.inl (e))))))) | exact Or.inr (Or.inr (Or.inr (Or.inr (Or.inr (Or.inr (Or.inr (Or.inl (e)))))))) | exact Or.inr (Or.inr (Or.inr (Or.inr (Or.inr (Or.inr (Or.inr (Or.inr (Or.inl (e))))))))) | exact Or.inr (Or.inr (Or.inr (Or.inr (Or.inr (Or.inr (Or.inr (Or.inr (Or.inr (e)))))))))) (fun x k hx => False.elim hx)
theorem fe_mBook_tick_b14_lp (n : Nat) : ∀ (v0 : Nat) (v1 : Int) (v2 : Int) (h : Hp), Feo (wI_mBook_tick_b14 v0 v1 v2 h) (wJ_mBook_tick_b14 v0 v1 v2 h) h Prod.snd (f_mBook_tick_b14_lp n v0 v1 v2 h) := by
  induction n with
  | zero => intro v0 v1 v2 h; exact fe_no
  | succ n ih => intro v0 v1 v2 h; exact fe_mBook_tick_b14 ih v0 v1 v2 h
theorem fe_mBook_tick (v0 : Nat) (h : Hp) : Feo (wI_mBook_tick v0 h) (wJ_mBook_tick v0 h) h Prod.snd (f_mBook_tick v0 h) := by
  unfold f_mBook_tick
  refine fe_I Fe.rf (Or.inr (Or.inr (Or.inr (Or.inr (Or.inr (Or.inr (Or.inl (⟨rfl, rfl⟩)))))))) (fun h1 F1 => ?_)
  exact fe_j F1 (fe_mBook_tick_b14_lp FU _ _ _ _) (fun x k hx => by simp only [wI_mBook_tick_b14, F1.r] at hx; rcases hx with e | e | e | e | e | e | e | e | e | e <;> first | exact Or.inl (e) | exact Or.inr (Or.inl (e)) | exact Or.inr (Or.inr (Or.inl (e))) | exact Or.inr (Or.inr (Or.inr (Or.inl (e)))) | exact Or.inr (Or.inr (Or.inr (Or.inr (Or.inl (e))))) | exact Or.inr (Or.inr (Or.inr (Or.inr (Or.inr (Or.inl (e)))))) | exact Or.inr (Or.inr (Or.inr (Or.inr (Or.inr (Or.inr (Or.inr (Or.inl (e)))))))) | exact Or.inr (Or.inr (Or.inr (Or.inr (Or.inr (Or.inr (Or.inr (Or.inr (Or.inl (e))))))))) | exact Or.inr (Or.inr (Or.inr (Or.inr (Or.inr (Or.inr (Or.inr (Or.inr (Or.inr (Or.inl (e)))))))))) | exact Or.inr (Or.inr (Or.inr (Or.inr (Or.inr (Or.inr (Or.inr (Or.inr (Or.inr (Or.inr (e))))))))))) (fun x k hx => False.elim hx)
def wI_mSide_quietLimit_b52 (v0 : Nat) (s0 : Int) (h : Hp) (x k : Nat) : Prop := False
def wJ_mSide_quietLimit_b52 (v0 : Nat) (s0 : Int) (h : Hp) (x k : Nat) : Prop := False
def wI_mSide_quietLimit_b47 (v0 : Nat) (v1 : Int) (h : Hp) (x k : Nat) : Prop := False
def wJ_mSide_quietLimit_b47 (v0 : Nat) (v1 : Int) (h : Hp) (x k : Nat) : Prop := False
def wI_mSide_quietLimit_b24 (v0 : Nat) (v1 : Int) (s0 : Int) (h : Hp) (x k : Nat) : Prop := False
def wJ_mSide_quietLimit_b24 (v0 : Nat) (v1 : Int) (s0 : Int) (h : Hp) (x k : Nat) : Prop := False
def wI_mSide_quietLimit (v0 : Nat) (h : Hp) (x k : Nat) : Prop := False
def wJ_mSide_quietLimit (v0 : Nat) (h : Hp) (x k : Nat) : Prop := False
theorem fe_mSide_quietLimit_b52 (v0 : Nat) (s0 : Int) (h : Hp) : Feo (wI_mSide_quietLimit_b52 v0 s0 h) (wJ_mSide_quietLimit_b52 v0 s0 h) h Prod.snd (f_mSide_quietLimit_b52 v0 s0 h) := by
  unfold f_mSide_quietLimit_b52
  refine fe_it fe_no ?_
  refine fe_b2 Fe.rf (fe_mBook_patience _ _ _) (fun x k hx => False.elim hx) (fun x k hx => False.elim hx) (fun r9 h7 F1 => ?_)
  refine fe_v (fun y10 => ?_)
  refine fe_it ?_ ?_
  · refine fe_it ?_ ?_
    · exact fe_so F1
    · exact fe_so F1
  · exact fe_so F1
theorem fe_mSide_quietLimit_b47 (v0 : Nat) (v1 : Int) (h : Hp) : Feo (wI_mSide_quietLimit_b47 v0 v1 h) (wJ_mSide_quietLimit_b47 v0 v1 h) h Prod.snd (f_mSide_quietLimit_b47 v0 v1 h) := by
  unfold f_mSide_quietLimit_b47
  exact fe_j Fe.rf (fe_mSide_quietLimit_b52 _ _ _) (fun x k hx => False.elim hx) (fun x k hx => False.elim hx)
theorem fe_mSide_quietLimit_b24 (v0 : Nat) (v1 : Int) (s0 : Int) (h : Hp) : Feo (wI_mSide_quietLimit_b24 v0 v1 s0 h) (wJ_mSide_quietLimit_b24 v0 v1 s0 h) h Prod.snd (f_mSide_quietLimit_b24 v0 v1 s0 h) := by
  unfold f_mSide_quietLimit_b24
  refine fe_it ?_ ?_
  · refine fe_it ?_ ?_
    · exact fe_j Fe.rf (fe_mSide_quietLimit_b47 _ _ _) (fun x k hx => False.elim hx) (fun x k hx => False.elim hx)
    · refine fe_it ?_ ?_
      · exact fe_j Fe.rf (fe_mSide_quietLimit_b52 _ _ _) (fun x k hx => False.elim hx) (fun x k hx => False.elim hx)
      · exact fe_j Fe.rf (fe_mSide_quietLimit_b47 _ _ _) (fun x k hx => False.elim hx) (fun x k hx => False.elim hx)
  · exact fe_j Fe.rf (fe_mSide_quietLimit_b52 _ _ _) (fun x k hx => False.elim hx) (fun x k hx => False.elim hx)
theorem fe_mSide_quietLimit (v0 : Nat) (h : Hp) : Feo (wI_mSide_quietLimit v0 h) (wJ_mSide_quietLimit v0 h) h Prod.snd (f_mSide_quietLimit v0 h) := by
  unfold f_mSide_quietLimit
  refine fe_it fe_no ?_
  refine fe_it ?_ fe_no
  refine fe_v (fun y3 => ?_)
  refine fe_it ?_ ?_
  · exact fe_j Fe.rf (fe_mSide_quietLimit_b24 _ _ _ _) (fun x k hx => False.elim hx) (fun x k hx => False.elim hx)
  · refine fe_it fe_no ?_
    refine fe_it ?_ fe_no
    exact fe_j Fe.rf (fe_mSide_quietLimit_b24 _ _ _ _) (fun x k hx => False.elim hx) (fun x k hx => False.elim hx)
def wI_mSide_tick_b114 (v0 : Nat) (h : Hp) (x k : Nat) : Prop := (x = v0 ∧ k = 8) ∨ (x = v0 ∧ k = 9)
def wJ_mSide_tick_b114 (v0 : Nat) (h : Hp) (x k : Nat) : Prop := False
def wI_mSide_tick_b24 (v0 : Nat) (h : Hp) (x k : Nat) : Prop := (x = v0 ∧ k = 8)
def wJ_mSide_tick_b24 (v0 : Nat) (h : Hp) (x k : Nat) : Prop := False
def wI_mSide_tick_b59 (v0 : Nat) (v2 : Int) (h : Hp) (x k : Nat) : Prop := x = (hR h (hR h v0 2) 15) ∨ x = (hR h (hR h v0 2) 25) ∨ x = (hR h (hR h v0 2) 26) ∨ x = hR h (hR h v0 2) 10 ∨ x = hR h (hR h v0 2) 16 ∨ x = hR h (hR h v0 2) 17 ∨ x = hR h (hR h v0 2) 34 ∨ x = hR h (hR h v0 2) 36 ∨ x = hR h (hR h v0 2) 38 ∨ x = hR h (hR h v0 2) 42 ∨ x = hR h (hR h v0 2) 6 ∨ x = hR h (hR h v0 2) 7 ∨ x = hR h (hR h v0 4) 17 ∨ x = hR h v0 28 ∨ (x = v0 ∧ k = 8) ∨ (x = v0 ∧ k = 9) ∨ (x = v0 ∧ k = 30) ∨ (x = v0 ∧ k = 31)
def wJ_mSide_tick_b59 (v0 : Nat) (v2 : Int) (h : Hp) (x k : Nat) : Prop := x = hR h (hR h v0 2) 19 ∨ x = hR h (hR h v0 2) 3
def wI_mSide_tick (v0 : Nat) (h : Hp) (x k : Nat) : Prop := x = (hR h (hR h v0 2) 15) ∨ x = (hR h (hR h v0 2) 25) ∨ x = (hR h (hR h v0 2) 26) ∨ x = (hR h (hR h v0 4) 13) ∨ (x = (hR h v0 4) ∧ k = 0) ∨ (x = (hR h v0 4) ∧ k = 23) ∨ (x = (hR h v0 4) ∧ k = 24) ∨ (x = (hR h v0 4) ∧ k = 25) ∨ (x = (hR h v0 4) ∧ k = 26) ∨ x = hR h (hR h v0 2) 10 ∨ x = hR h (hR h v0 2) 16 ∨ x = hR h (hR h v0 2) 17 ∨ x = hR h (hR h v0 2) 34 ∨ x = hR h (hR h v0 2) 36 ∨ x = hR h (hR h v0 2) 38 ∨ x = hR h (hR h v0 2) 42 ∨ x = hR h (hR h v0 2) 6 ∨ x = hR h (hR h v0 2) 7 ∨ x = hR h (hR h v0 4) 10 ∨ x = hR h (hR h v0 4) 13 ∨ x = hR h (hR h v0 4) 15 ∨ x = hR h (hR h v0 4) 16 ∨ x = hR h (hR h v0 4) 17 ∨ x = hR h (hR h v0 4) 6 ∨ x = hR h v0 28 ∨ x = hR h v0 34 ∨ (x = v0 ∧ k = 8) ∨ (x = v0 ∧ k = 9) ∨ (x = v0 ∧ k = 30) ∨ (x = v0 ∧ k = 31)
def wJ_mSide_tick (v0 : Nat) (h : Hp) (x k : Nat) : Prop := x = hR h (hR h v0 2) 19 ∨ x = hR h (hR h v0 2) 3
theorem fe_mSide_tick_b114 (v0 : Nat) (h : Hp) : Feo (wI_mSide_tick_b114 v0 h) (wJ_mSide_tick_b114 v0 h) h id (f_mSide_tick_b114 v0 h) := by
  unfold f_mSide_tick_b114
  refine fe_b2 Fe.rf (fe_mSide_quietLimit _ _) (fun x k hx => False.elim hx) (fun x k hx => False.elim hx) (fun r22 h20 F1 => ?_)
  refine fe_it ?_ ?_
  · exact fe_so F1
  · refine fe_it fe_no ?_
    refine fe_it ?_ ?_
    · refine fe_I F1 (Or.inl (⟨rfl, rfl⟩)) (fun h24 F2 => ?_)
      refine fe_I F2 (Or.inr (⟨rfl, rfl⟩)) (fun h25 F3 => ?_)
      exact fe_so F3
    · exact fe_so F1
theorem fe_mSide_tick_b24 (v0 : Nat) (h : Hp) : Feo (wI_mSide_tick_b24 v0 h) (wJ_mSide_tick_b24 v0 h) h id (f_mSide_tick_b24 v0 h) := by
  unfold f_mSide_tick_b24
  refine fe_it fe_no ?_
  refine fe_it ?_ ?_
  · exact fe_so Fe.rf
  · refine fe_I Fe.rf (⟨rfl, rfl⟩) (fun h27 F1 => ?_)
    exact fe_so F1
theorem fe_mSide_tick_b59 {k59 : Nat → Int → Hp → Option (Hp)} (hk59 : ∀ (v0 : Nat) (v2 : Int) (h : Hp), Feo (wI_mSide_tick_b59 v0 v2 h) (wJ_mSide_tick_b59 v0 v2 h) h id (k59 v0 v2 h)) (v0 : Nat) (v2 : Int) (h : Hp) : Feo (wI_mSide_tick_b59 v0 v2 h) (wJ_mSide_tick_b59 v0 v2 h) h id (f_mSide_tick_b59 k59 v0 v2 h) := by
  unfold f_mSide_tick_b59
  refine fe_it ?_ ?_
  · exact fe_j Fe.rf (fe_mSide_tick_b114 _ _) (fun x k hx => by simp only [wI_mSide_tick_b114] at hx; rcases hx with e | e <;> first | exact Or.inr (Or.inr (Or.inr (Or.inr (Or.inr (Or.inr (Or.inr (Or.inr (Or.inr (Or.inr (Or.inr (Or.inr (Or.inr (Or.inr (Or.inl (e))))))))))))))) | exact Or.inr (Or.inr (Or.inr (Or.inr (Or.inr (Or.inr (Or.inr (Or.inr (Or.inr (Or.inr (Or.inr (Or.inr (Or.inr (Or.inr (Or.inr (Or.inl (e))))))))))))))))) (fun x k hx => False.elim hx)
  · refine fe_b1 Fe.rf (fe_mSide_tellFound _ _ _) (fun x k hx => by simp only [wI_mSide_tellFound] at hx; rcases hx with e | e | e | e | e | e | e | e | e | e | e | e | e | e | e | e <;> first | exact Or.inl (e) | exact Or.inr (Or.inl (e)) | exact Or.inr (Or.inr (Or.inl (e))) | exact Or.inr (Or.inr (Or.inr (Or.inl (e)))) | exact Or.inr (Or.inr (Or.inr (Or.inr (Or.inl (e))))) | exact Or.inr (Or.inr (Or.inr (Or.inr (Or.inr (Or.inl (e)))))) | exact Or.inr (Or.inr (Or.inr (Or.inr (Or.inr (Or.inr (Or.inl (e))))))) | exact Or.inr (Or.inr (Or.inr (Or.inr (Or.inr (Or.inr (Or.inr (Or.inl (e)))))))) | exact Or.inr (Or.inr (Or.inr (Or.inr (Or.inr (Or.inr (Or.inr (Or.inr (Or.inl (e))))))))) | exact Or.inr (Or.inr (Or.inr (Or.inr (Or.inr (Or.inr (Or.inr (Or.inr (Or.inr (Or.inl (e)))))))))) | exact Or.inr (Or.inr (Or.inr (Or.inr (Or.inr (Or.inr (Or.inr (Or.inr (Or.inr (Or.inr (Or.inl (e))))))))))) | exact Or.inr (Or.inr (Or.inr (Or.inr (Or.inr (Or.inr (Or.inr (Or.inr (Or.inr (Or.inr (Or.inr (Or.inl (e)))))))))))) | exact Or.inr (Or.inr (Or.inr (Or.inr (Or.inr (Or.inr (Or.inr (Or.inr (Or.inr (Or.inr (Or.inr (Or.inr (Or.inl (e))))))))))))) | exact Or.inr (Or.inr (Or.inr (Or.inr (Or.inr (Or.inr (Or.inr (Or.inr (Or.inr (Or.inr (Or.inr (Or.inr (Or.inr (Or.inl (e)))))))))))))) | exact Or.inr (Or.inr (Or.inr (Or.inr (Or.inr (Or.inr (Or.inr (Or.inr (Or.inr (Or.inr (Or.inr (Or.inr (Or.inr (Or.inr (Or.inr (Or.inr (Or.inl (e))))))))))))))))) | exact Or.inr (Or.inr (Or.inr (Or.inr (Or.inr (Or.inr (Or.inr (Or.inr (Or.inr (Or.inr (Or.inr (Or.inr (Or.inr (Or.inr (Or.inr (Or.inr (Or.inr (e)))))))))))))))))) (fun x k hx => by simp only [wJ_mSide_tellFound] at hx; rcases hx with e | e <;> first | exact Or.inl (e) | exact Or.inr (e)) (fun h18 F1 => ?_)
    exact fe_j F1 (hk59 _ _ _) (fun x k hx => by simp only [wI_mSide_tick_b59, F1.r] at hx; rcases hx with e | e | e | e | e | e | e | e | e | e | e | e | e | e | e | e | e | e <;> first | exact Or.inl (e) | exact Or.inr (Or.inl (e)) | exact Or.inr (Or.inr (Or.inl (e))) | exact Or.inr (Or.inr (Or.inr (Or.inl (e)))) | exact Or.inr (Or.inr (Or.inr (Or.inr (Or.inl (e))))) | exact Or.inr (Or.inr (Or.inr (Or.inr (Or.inr (Or.inl (e)))))) | exact Or.inr (Or.inr (Or.inr (Or.inr (Or.inr (Or.inr (Or.inl (e))))))) | exact Or.inr (Or.inr (Or.inr (Or.inr (Or.inr (Or.inr (Or.inr (Or.inl (e)))))))) | exact Or.inr (Or.inr (Or.inr (Or.inr (Or.inr (Or.inr (Or.inr (Or.inr (Or.inl (e))))))))) | exact Or.inr (Or.inr (Or.inr (Or.inr (Or.inr (Or.inr (Or.inr (Or.inr (Or.inr (Or.inl (e)))))))))) | exact Or.inr (Or.inr (Or.inr (Or.inr (Or.inr (Or.inr (Or.inr (Or.inr (Or.inr (Or.inr (Or.inl (e))))))))))) | exact Or.inr (Or.inr (Or.inr (Or.inr (Or.inr (Or.inr (Or.inr (Or.inr (Or.inr (Or.inr (Or.inr (Or.inl (e)))))))))))) | exact Or.inr (Or.inr (Or.inr (Or.inr (Or.inr (Or.inr (Or.inr (Or.inr (Or.inr (Or.inr (Or.inr (Or.inr (Or.inl (e))))))))))))) | exact Or.inr (Or.inr (Or.inr (Or.inr (Or.inr (Or.inr (Or.inr (Or.inr (Or.inr (Or.inr (Or.inr (Or.inr (Or.inr (Or.inl (e)))))))))))))) | exact Or.inr (Or.inr (Or.inr (Or.inr (Or.inr (Or.inr (Or.inr (Or.inr (Or.inr (Or.inr (Or.inr (Or.inr (Or.inr (Or.inr (Or.inl (e))))))))))))))) | exact Or.inr (Or.inr (Or.inr (Or.inr (Or.inr (Or.inr (Or.inr (Or.inr (Or.inr (Or.inr (Or.inr (Or.inr (Or.inr (Or.inr (Or.inr (Or.inl (e)))))))))))))))) | exact Or.inr (Or.inr (Or.inr (Or.inr (Or.inr (Or.inr (Or.inr (Or.inr (Or.inr (Or.inr (Or.inr (Or.inr (Or.inr (Or.inr (Or.inr (Or.inr (Or.inl (e))))))))))))))))) | exact Or.inr (Or.inr (Or.inr (Or.inr (Or.inr (Or.inr (Or.inr (Or.inr (Or.inr (Or.inr (Or.inr (Or.inr (Or.inr (Or.inr (Or.inr (Or.inr (Or.inr (e)))))))))))))))))) (fun x k hx => by simp only [wJ_mSide_tick_b59, F1.r] at hx; rcases hx with e | e <;> first | exact Or.inl (e) | exact Or.inr (e))
theorem fe_mSide_tick_b59_lp (n : Nat) : ∀ (v0 : Nat) (v2 : Int) (h : Hp), Feo (wI_mSide_tick_b59 v0 v2 h) (wJ_mSide_tick_b59 v0 v2 h) h id (f_mSide_tick_b59_lp n v0 v2 h) := by
  induction n with
  | zero => intro v0 v2 h; exact fe_no
  | succ n ih => intro v0 v2 h; exact fe_mSide_tick_b59 ih v0 v2 h
theorem fe_mSide_tick (v0 : Nat) (h : Hp) : Feo (wI_mSide_tick v0 h) (wJ_mSide_tick v0 h) h id (f_mSide_tick v0 h) := by
  unfold f_mSide_tick
  refine fe_it fe_no ?_
  refine fe_b2 Fe.rf (fe_mBook_tick _ _) (fun x k hx => by simp only [wI_mBook_tick] at hx; rcases hx with e | e | e | e | e | e | e | e | e | e | e <;> first | exact Or.inr (Or.inr (Or.inr (Or.inl (e)))) | exact Or.inr (Or.inr (Or.inr (Or.inr (Or.inl (e))))) | exact Or.inr (Or.inr (Or.inr (Or.inr (Or.inr (Or.inl (e)))))) | exact Or.inr (Or.inr (Or.inr (Or.inr (Or.inr (Or.inr (Or.inl (e))))))) | exact Or.inr (Or.inr (Or.inr (Or.inr (Or.inr (Or.inr (Or.inr (Or.inl (e)))))))) | exact Or.inr (Or.inr (Or.inr (Or.inr (Or.inr (Or.inr (Or.inr (Or.inr (Or.inl (e))))))))) | exact Or.inr (Or.inr (Or.inr (Or.inr (Or.inr (Or.inr (Or.inr (Or.inr (Or.inr (Or.inr (Or.inr (Or.inr (Or.inr (Or.inr (Or.inr (Or.inr (Or.inr (Or.inr (Or.inl (e))))))))))))))))))) | exact Or.inr (Or.inr (Or.inr (Or.inr (Or.inr (Or.inr (Or.inr (Or.inr (Or.inr (Or.inr (Or.inr (Or.inr (Or.inr (Or.inr (Or.inr (Or.inr (Or.inr (Or.inr (Or.inr (Or.inl (e)))))))))))))))))))) | exact Or.inr (Or.inr (Or.inr (Or.inr (Or.inr (Or.inr (Or.inr (Or.inr (Or.inr (Or.inr (Or.inr (Or.inr (Or.inr (Or.inr (Or.inr (Or.inr (Or.inr (Or.inr (Or.inr (Or.inr (Or.inl (e))))))))))))))))))))) | exact Or.inr (Or.inr (Or.inr (Or.inr (Or.inr (Or.inr (Or.inr (Or.inr (Or.inr (Or.inr (Or.inr (Or.inr (Or.inr (Or.inr (Or.inr (Or.inr (Or.inr (Or.inr (Or.inr (Or.inr (Or.inr (Or.inl (e)))))))))))))))))))))) | exact Or.inr (Or.inr (Or.inr (Or.inr (Or.inr (Or.inr (Or.inr (Or.inr (Or.inr (Or.inr (Or.inr (Or.inr (Or.inr (Or.inr (Or.inr (Or.inr (Or.inr (Or.inr (Or.inr (Or.inr (Or.inr (Or.inr (Or.inr (Or.inl (e))))))))))))))))))))))))) (fun x k hx => False.elim hx) (fun r4 h2 F1 => ?_)
  refine fe_it ?_ ?_
  · exact fe_j F1 (fe_mSide_tick_b24 _ _) (fun x k hx => by simp only [wI_mSide_tick_b24, F1.r] at hx; have e := hx; exact Or.inr (Or.inr (Or.inr (Or.inr (Or.inr (Or.inr (Or.inr (Or.inr (Or.inr (Or.inr (Or.inr (Or.inr (Or.inr (Or.inr (Or.inr (Or.inr (Or.inr (Or.inr (Or.inr (Or.inr (Or.inr (Or.inr (Or.inr (Or.inr (Or.inr (Or.inr (Or.inl (e)))))))))))))))))))))))))))) (fun x k hx => False.elim hx)
  · refine fe_it ?_ ?_
    · refine fe_b2 F1 (fe_mSide_isAlive _ _) (fun x k hx => False.elim hx) (fun x k hx => False.elim hx) (fun r7 h5 F2 => ?_)
      refine fe_it ?_ ?_
      · refine fe_it ?_ ?_
        · refine fe_it ?_ ?_
          · exact fe_j F2 (fe_mSide_tick_b114 _ _) (fun x k hx => by simp only [wI_mSide_tick_b114, F1.r, F2.r] at hx; rcases hx with e | e <;> first | exact Or.inr (Or.inr (Or.inr (Or.inr (Or.inr (Or.inr (Or.inr (Or.inr (Or.inr (Or.inr (Or.inr (Or.inr (Or.inr (Or.inr (Or.inr (Or.inr (Or.inr (Or.inr (Or.inr (Or.inr (Or.inr (Or.inr (Or.inr (Or.inr (Or.inr (Or.inr (Or.inl (e))))))))))))))))))))))))))) | exact Or.inr (Or.inr (Or.inr (Or.inr (Or.inr (Or.inr (Or.inr (Or.inr (Or.inr (Or.inr (Or.inr (Or.inr (Or.inr (Or.inr (Or.inr (Or.inr (Or.inr (Or.inr (Or.inr (Or.inr (Or.inr (Or.inr (Or.inr (Or.inr (Or.inr (Or.inr (Or.inr (Or.inl (e))))))))))))))))))))))))))))) (fun x k hx => False.elim hx)
          · refine fe_v (fun y8 => ?_)
            refine fe_it fe_no ?_
            refine fe_it ?_ fe_no
            refine fe_I F2 (Or.inr (Or.inr (Or.inr (Or.inr (Or.inr (Or.inr (Or.inr (Or.inr (Or.inr (Or.inr (Or.inr (Or.inr (Or.inr (Or.inr (Or.inr (Or.inr (Or.inr (Or.inr (Or.inr (Or.inr (Or.inr (Or.inr (Or.inr (Or.inr (Or.inr (Or.inl ((by first | (simp only [F1.r, F2.r]; exact rfl) | simp only [F1.r, F2.r])))))))))))))))))))))))))))) (fun h11 F3 => ?_)
            refine fe_it fe_no ?_
            refine fe_b2 F3 (fe_mBook_oldest _ _ _) (fun x k hx => False.elim hx) (fun x k hx => False.elim hx) (fun r15 h13 F4 => ?_)
            refine fe_it ?_ ?_
            · exact fe_j F4 (fe_mSide_tick_b114 _ _) (fun x k hx => by simp only [wI_mSide_tick_b114, F1.r, F2.r, F3.r, F4.r] at hx; rcases hx with e | e <;> first | exact Or.inr (Or.inr (Or.inr (Or.inr (Or.inr (Or.inr (Or.inr (Or.inr (Or.inr (Or.inr (Or.inr (Or.inr (Or.inr (Or.inr (Or.inr (Or.inr (Or.inr (Or.inr (Or.inr (Or.inr (Or.inr (Or.inr (Or.inr (Or.inr (Or.inr (Or.inr (Or.inl (e))))))))))))))))))))))))))) | exact Or.inr (Or.inr (Or.inr (Or.inr (Or.inr (Or.inr (Or.inr (Or.inr (Or.inr (Or.inr (Or.inr (Or.inr (Or.inr (Or.inr (Or.inr (Or.inr (Or.inr (Or.inr (Or.inr (Or.inr (Or.inr (Or.inr (Or.inr (Or.inr (Or.inr (Or.inr (Or.inr (Or.inl (e))))))))))))))))))))))))))))) (fun x k hx => False.elim hx)
            · refine fe_b1 F4 (fe_mSide_tellPacket _ _ _ _ _) (fun x k hx => by simp only [wI_mSide_tellPacket, F1.r, F2.r, F3.r, F4.r] at hx; rcases hx with e | e | e | e | e | e | e | e | e | e | e | e | e | e | e <;> first | exact Or.inl (e) | exact Or.inr (Or.inl (e)) | exact Or.inr (Or.inr (Or.inl (e))) | exact Or.inr (Or.inr (Or.inr (Or.inr (Or.inr (Or.inr (Or.inr (Or.inr (Or.inr (Or.inl (e)))))))))) | exact Or.inr (Or.inr (Or.inr (Or.inr (Or.inr (Or.inr (Or.inr (Or.inr (Or.inr (Or.inr (Or.inl (e))))))))))) | exact Or.inr (Or.inr (Or.inr (Or.inr (Or.inr (Or.inr (Or.inr (Or.inr (Or.inr (Or.inr (Or.inr (Or.inl (e)))))))))))) | exact Or.inr (Or.inr (Or.inr (Or.inr (Or.inr (Or.inr (Or.inr (Or.inr (Or.inr (Or.inr (Or.inr (Or.inr (Or.inl (e))))))))))))) | exact Or.inr (Or.inr (Or.inr (Or.inr (Or.inr (Or.inr (Or.inr (Or.inr (Or.inr (Or.inr (Or.inr (Or.inr (Or.inr (Or.inl (e)))))))))))))) | exact Or.inr (Or.inr (Or.inr (Or.inr (Or.inr (Or.inr (Or.inr (Or.inr (Or.inr (Or.inr (Or.inr (Or.inr (Or.inr (Or.inr (Or.inl (e))))))))))))))) | exact Or.inr (Or.inr (Or.inr (Or.inr (Or.inr (Or.inr (Or.inr (Or.inr (Or.inr (Or.inr (Or.inr (Or.inr (Or.inr (Or.inr (Or.inr (Or.inl (e)))))))))))))))) | exact Or.inr (Or.inr (Or.inr (Or.inr (Or.inr (Or.inr (Or.inr (Or.inr (Or.inr (Or.inr (Or.inr (Or.inr (Or.inr (Or.inr (Or.inr (Or.inr (Or.inl (e))))))))))))))))) | exact Or.inr (Or.inr (Or.inr (Or.inr (Or.inr (Or.inr (Or.inr (Or.inr (Or.inr (Or.inr (Or.inr (Or.inr (Or.inr (Or.inr (Or.inr (Or.inr (Or.inr (Or.inl (e)))))))))))))))))) | exact Or.inr (Or.inr (Or.inr (Or.inr (Or.inr (Or.inr (Or.inr (Or.inr (Or.inr (Or.inr (Or.inr (Or.inr (Or.inr (Or.inr (Or.inr (Or.inr (Or.inr (Or.inr (Or.inr (Or.inr (Or.inr (Or.inr (Or.inr (Or.inr (Or.inl (e))))))))))))))))))))))))) | exact Or.inr (Or.inr (Or.inr (Or.inr (Or.inr (Or.inr (Or.inr (Or.inr (Or.inr (Or.inr (Or.inr (Or.inr (Or.inr (Or.inr (Or.inr (Or.inr (Or.inr (Or.inr (Or.inr (Or.inr (Or.inr (Or.inr (Or.inr (Or.inr (Or.inr (Or.inr (Or.inr (Or.inr (Or.inl (e))))))))))))))))))))))))))))) | exact Or.inr (Or.inr (Or.inr (Or.inr (Or.inr (Or.inr (Or.inr (Or.inr (Or.inr (Or.inr (Or.inr (Or.inr (Or.inr (Or.inr (Or.inr (Or.inr (Or.inr (Or.inr (Or.inr (Or.inr (Or.inr (Or.inr (Or.inr (Or.inr (Or.inr (Or.inr (Or.inr (Or.inr (Or.inr (e)))))))))))))))))))))))))))))) (fun x k hx => by simp only [wJ_mSide_tellPacket, F1.r, F2.r, F3.r, F4.r] at hx; rcases hx with e | e <;> first | exact Or.inl (e) | exact Or.inr (e)) (fun h16 F5 => ?_)
              exact fe_j F5 (fe_mSide_tick_b114 _ _) (fun x k hx => by simp only [wI_mSide_tick_b114, F1.r, F2.r, F3.r, F4.r, F5.r] at hx; rcases hx with e | e <;> first | exact Or.inr (Or.inr (Or.inr (Or.inr (Or.inr (Or.inr (Or.inr (Or.inr (Or.inr (Or.inr (Or.inr (Or.inr (Or.inr (Or.inr (Or.inr (Or.inr (Or.inr (Or.inr (Or.inr (Or.inr (Or.inr (Or.inr (Or.inr (Or.inr (Or.inr (Or.inr (Or.inl (e))))))))))))))))))))))))))) | exact Or.inr (Or.inr (Or.inr (Or.inr (Or.inr (Or.inr (Or.inr (Or.inr (Or.inr (Or.inr (Or.inr (Or.inr (Or.inr (Or.inr (Or.inr (Or.inr (Or.inr (Or.inr (Or.inr (Or.inr (Or.inr (Or.inr (Or.inr (Or.inr (Or.inr (Or.inr (Or.inr (Or.inl (e))))))))))))))))))))))))))))) (fun x k hx => False.elim hx)
        · exact fe_j F2 (fe_mSide_tick_b59_lp FU _ _ _) (fun x k hx => by simp only [wI_mSide_tick_b59, F1.r, F2.r] at hx; rcases hx with e | e | e | e | e | e | e | e | e | e | e | e | e | e | e | e | e | e <;> first | exact Or.inl (e) | exact Or.inr (Or.inl (e)) | exact Or.inr (Or.inr (Or.inl (e))) | exact Or.inr (Or.inr (Or.inr (Or.inr (Or.inr (Or.inr (Or.inr (Or.inr (Or.inr (Or.inl (e)))))))))) | exact Or.inr (Or.inr (Or.inr (Or.inr (Or.inr (Or.inr (Or.inr (Or.inr (Or.inr (Or.inr (Or.inl (e))))))))))) | exact Or.inr (Or.inr (Or.inr (Or.inr (Or.inr (Or.inr (Or.inr (Or.inr (Or.inr (Or.inr (Or.inr (Or.inl (e)))))))))))) | exact Or.inr (Or.inr (Or.inr (Or.inr (Or.inr (Or.inr (Or.inr (Or.inr (Or.inr (Or.inr (Or.inr (Or.inr (Or.inl (e))))))))))))) | exact Or.inr (Or.inr (Or.inr (Or.inr (Or.inr (Or.inr (Or.inr (Or.inr (Or.inr (Or.inr (Or.inr (Or.inr (Or.inr (Or.inl (e)))))))))))))) | exact Or.inr (Or.inr (Or.inr (Or.inr (Or.inr (Or.inr (Or.inr (Or.inr (Or.inr (Or.inr (Or.inr (Or.inr (Or.inr (Or.inr (Or.inl (e))))))))))))))) | exact Or.inr (Or.inr (Or.inr (Or.inr (Or.inr (Or.inr (Or.inr (Or.inr (Or.inr (Or.inr (Or.inr (Or.inr (Or.inr (Or.inr (Or.inr (Or.inl (e)))))))))))))))) | exact Or.inr (Or.inr (Or.inr (Or.inr (Or.inr (Or.inr (Or.inr (Or.inr (Or.inr (Or.inr (Or.inr (Or.inr (Or.inr (Or.inr (Or.inr (Or.inr (Or.inl (e))))))))))))))))) | exact Or.inr (Or.inr (Or.inr (Or.inr (Or.inr (Or.inr (Or.inr (Or.inr (Or.inr (Or.inr (Or.inr (Or.inr (Or.inr (Or.inr (Or.inr (Or.inr (Or.inr (Or.inl (e)))))))))))))))))) | exact Or.inr (Or.inr (Or.inr (Or.inr (Or.inr (Or.inr (Or.inr (Or.inr (Or.inr (Or.inr (Or.inr (Or.inr (Or.inr (Or.inr (Or.inr (Or.inr (Or.inr (Or.inr (Or.inr (Or.inr (Or.inr (Or.inr (Or.inl (e))))))))))))))))))))))) | exact Or.inr (Or.inr (Or.inr (Or.inr (Or.inr (Or.inr (Or.inr (Or.inr (Or.inr (Or.inr (Or.inr (Or.inr (Or.inr (Or.inr (Or.inr (Or.inr (Or.inr (Or.inr (Or.inr (Or.inr (Or.inr (Or.inr (Or.inr (Or.inr (Or.inl (e))))))))))))))))))))))))) | exact Or.inr (Or.inr (Or.inr (Or.inr (Or.inr (Or.inr (Or.inr (Or.inr (Or.inr (Or.inr (Or.inr (Or.inr (Or.inr (Or.inr (Or.inr (Or.inr (Or.inr (Or.inr (Or.inr (Or.inr (Or.inr (Or.inr (Or.inr (Or.inr (Or.inr (Or.inr (Or.inl (e))))))))))))))))))))))))))) | exact Or.inr (Or.inr (Or.inr (Or.inr (Or.inr (Or.inr (Or.inr (Or.inr (Or.inr (Or.inr (Or.inr (Or.inr (Or.inr (Or.inr (Or.inr (Or.inr (Or.inr (Or.inr (Or.inr (Or.inr (Or.inr (Or.inr (Or.inr (Or.inr (Or.inr (Or.inr (Or.inr (Or.inl (e)))))))))))))))))))))))))))) | exact Or.inr (Or.inr (Or.inr (Or.inr (Or.inr (Or.inr (Or.inr (Or.inr (Or.inr (Or.inr (Or.inr (Or.inr (Or.inr (Or.inr (Or.inr (Or.inr (Or.inr (Or.inr (Or.inr (Or.inr (Or.inr (Or.inr (Or.inr (Or.inr (Or.inr (Or.inr (Or.inr (Or.inr (Or.inl (e))))))))))))))))))))))))))))) | exact Or.inr (Or.inr (Or.inr (Or.inr (Or.inr (Or.inr (Or.inr (Or.inr (Or.inr (Or.inr (Or.inr (Or.inr (Or.inr (Or.inr (Or.inr (Or.inr (Or.inr (Or.inr (Or.inr (Or.inr (Or.inr (Or.inr (Or.inr (Or.inr (Or.inr (Or.inr (Or.inr (Or.inr (Or.inr (e)))))))))))))))))))))))))))))) (fun x k hx => by simp only [wJ_mSide_tick_b59, F1.r, F2.r] at hx; rcases hx with e | e <;> first | exact Or.inl (e) | exact Or.inr (e))
      · exact fe_so F2
    · exact fe_j F1 (fe_mSide_tick_b24 _ _) (fun x k hx => by simp only [wI_mSide_tick_b24, F1.r] at hx; have e := hx; exact Or.inr (Or.inr (Or.inr (Or.inr (Or.inr (Or.inr (Or.inr (Or.inr (Or.inr (Or.inr (Or.inr (Or.inr (Or.inr (Or.inr (Or.inr (Or.inr (Or.inr (Or.inr (Or.inr (Or.inr (Or.inr (Or.inr (Or.inr (Or.inr (Or.inr (Or.inr (Or.inl (e)))))))))))))))))))))))))))) (fun x k hx => False.elim hx)
def wI_mSide_isFull_b56 (v0 : Nat) (v2 : Int) (s0 : Int) (h : Hp) (x k : Nat) : Prop := False
def wJ_mSide_isFull_b56 (v0 : Nat) (v2 : Int) (s0 : Int) (h : Hp) (x k : Nat) : Prop := False
def wI_mSide_isFull_b51 (v0 : Nat) (v2 : Int) (h : Hp) (x k : Nat) : Prop := False
def wJ_mSide_isFull_b51 (v0 : Nat) (v2 : Int) (h : Hp) (x k : Nat) : Prop := False
def wI_mSide_isFull_b55 (v0 : Nat) (v2 : Int) (h : Hp) (x k : Nat) : Prop := False
def wJ_mSide_isFull_b55 (v0 : Nat) (v2 : Int) (h : Hp) (x k : Nat) : Prop := False
def wI_mSide_isFull_b4 (v0 : Nat) (v1 : Int) (v2 : Int) (h : Hp) (x k : Nat) : Prop := False
def wJ_mSide_isFull_b4 (v0 : Nat) (v1 : Int) (v2 : Int) (h : Hp) (x k : Nat) : Prop := False
def wI_mSide_isFull (v0 : Nat) (h : Hp) (x k : Nat) : Prop := False
def wJ_mSide_isFull (v0 : Nat) (h : Hp) (x k : Nat) : Prop := False
theorem fe_mSide_isFull_b56 {k4 : Nat → Int → Int → Hp → Option (Int × Hp)} (hk4 : ∀ (v0 : Nat) (v1 : Int) (v2 : Int) (h : Hp), Feo (wI_mSide_isFull_b4 v0 v1 v2 h) (wJ_mSide_isFull_b4 v0 v1 v2 h) h Prod.snd (k4 v0 v1 v2 h)) (v0 : Nat) (v2 : Int) (s0 : Int) (h : Hp) : Feo (wI_mSide_isFull_b56 v0 v2 s0 h) (wJ_mSide_isFull_b56 v0 v2 s0 h) h Prod.snd (f_mSide_isFull_b56 k4 v0 v2 s0 h) := by
  unfold f_mSide_isFull_b56
  exact fe_j Fe.rf (hk4 _ _ _ _) (fun x k hx => False.elim hx) (fun x k hx => False.elim hx)
theorem fe_mSide_isFull_b51 {k4 : Nat → Int → Int → Hp → Option (Int × Hp)} (hk4 : ∀ (v0 : Nat) (v1 : Int) (v2 : Int) (h : Hp), Feo (wI_mSide_isFull_b4 v0 v1 v2 h) (wJ_mSide_isFull_b4 v0 v1 v2 h) h Prod.snd (k4 v0 v1 v2 h)) (v0 : Nat) (v2 : Int) (h : Hp) : Feo (wI_mSide_isFull_b51 v0 v2 h) (wJ_mSide_isFull_b51 v0 v2 h) h Prod.snd (f_mSide_isFull_b51 k4 v0 v2 h) := by
  unfold f_mSide_isFull_b51
  exact fe_j Fe.rf (fe_mSide_isFull_b56 hk4 _ _ _ _) (fun x k hx => False.elim hx) (fun x k hx => False.elim hx)
theorem fe_mSide_isFull_b55 {k4 : Nat → Int → Int → Hp → Option (Int × Hp)} (hk4 : ∀ (v0 : Nat) (v1 : Int) (v2 : Int) (h : Hp), Feo (wI_mSide_isFull_b4 v0 v1 v2 h) (wJ_mSide_isFull_b4 v0 v1 v2 h) h Prod.snd (k4 v0 v1 v2 h)) (v0 : Nat) (v2 : Int) (h : Hp) : Feo (wI_mSide_isFull_b55 v0 v2 h) (wJ_mSide_isFull_b55 v0 v2 h) h Prod.snd (f_mSide_isFull_b55 k4 v0 v2 h) := by
  unfold f_mSide_isFull_b55
  exact fe_j Fe.rf (fe_mSide_isFull_b56 hk4 _ _ _ _) (fun x k hx => False.elim hx) (fun x k hx => False.elim hx)
theorem fe_mSide_isFull_b4 {k4 : Nat → Int → Int → Hp → Option (Int × Hp)} (hk4 : ∀ (v0 : Nat) (v1 : Int) (v2 : Int) (h : Hp), Feo (wI_mSide_isFull_b4 v0 v1 v2 h) (wJ_mSide_isFull_b4 v0 v1 v2 h) h Prod.snd (k4 v0 v1 v2 h)) (v0 : Nat) (v1 : Int) (v2 : Int) (h : Hp) : Feo (wI_mSide_isFull_b4 v0 v1 v2 h) (wJ_mSide_isFull_b4 v0 v1 v2 h) h Prod.snd (f_mSide_isFull_b4 k4 v0 v1 v2 h) := by
  unfold f_mSide_isFull_b4
  refine fe_it ?_ ?_
  · refine fe_it ?_ fe_no
    exact fe_so Fe.rf
  · refine fe_it ?_ ?_
    · exact fe_j Fe.rf (fe_mSide_isFull_b51 hk4 _ _ _) (fun x k hx => False.elim hx) (fun x k hx => False.elim hx)
    · refine fe_b2 Fe.rf (fe_mSide_hasGuards _ _ _) (fun x k hx => False.elim hx) (fun x k hx => False.elim hx) (fun r4 h2 F1 => ?_)
      refine fe_it ?_ ?_
      · exact fe_j F1 (fe_mSide_isFull_b55 hk4 _ _ _) (fun x k hx => False.elim hx) (fun x k hx => False.elim hx)
      · refine fe_it fe_no ?_
        refine fe_it fe_no ?_
        refine fe_it ?_ fe_no
        refine fe_it ?_ ?_
        · exact fe_j F1 (fe_mSide_isFull_b51 hk4 _ _ _) (fun x k hx => False.elim hx) (fun x k hx => False.elim hx)
        · refine fe_it fe_no ?_
          refine fe_it ?_ fe_no
          refine fe_it fe_no ?_
          refine fe_it ?_ ?_
          · exact fe_j F1 (fe_mSide_isFull_b55 hk4 _ _ _) (fun x k hx => False.elim hx) (fun x k hx => False.elim hx)
          · exact fe_j F1 (fe_mSide_isFull_b51 hk4 _ _ _) (fun x k hx => False.elim hx) (fun x k hx => False.elim hx)
theorem fe_mSide_isFull_b4_lp (n : Nat) : ∀ (v0 : Nat) (v1 : Int) (v2 : Int) (h : Hp), Feo (wI_mSide_isFull_b4 v0 v1 v2 h) (wJ_mSide_isFull_b4 v0 v1 v2 h) h Prod.snd (f_mSide_isFull_b4_lp n v0 v1 v2 h) := by
  induction n with
  | zero => intro v0 v1 v2 h; exact fe_no
  | succ n ih => intro v0 v1 v2 h; exact fe_mSide_isFull_b4 ih v0 v1 v2 h
theorem fe_mSide_isFull (v0 : Nat) (h : Hp) : Feo (wI_mSide_isFull v0 h) (wJ_mSide_isFull v0 h) h Prod.snd (f_mSide_isFull v0 h) := by
  unfold f_mSide_isFull
  exact fe_j Fe.rf (fe_mSide_isFull_b4_lp FU _ _ _ _) (fun x k hx => False.elim hx) (fun x k hx => False.elim hx)
def wI_mSide_headerOf (v0 : Int) (h : Hp) (x k : Nat) : Prop := False
def wJ_mSide_headerOf (v0 : Int) (h : Hp) (x k : Nat) : Prop := False
theorem fe_mSide_headerOf (v0 : Int) (h : Hp) : Feo (wI_mSide_headerOf v0 h) (wJ_mSide_headerOf v0 h) h Prod.snd (f_mSide_headerOf v0 h) := by
  unfold f_mSide_headerOf
  refine fe_it ?_ ?_
  · refine fe_it ?_ ?_
    · exact fe_so Fe.rf
    · exact fe_so Fe.rf
  · exact fe_so Fe.rf
def wI_mDraft_put_b5 (v0 : Nat) (v1 : Int) (v4 : Int) (h : Hp) (x k : Nat) : Prop := x = hR h v0 0 ∨ (x = v0 ∧ k = 1)
def wJ_mDraft_put_b5 (v0 : Nat) (v1 : Int) (v4 : Int) (h : Hp) (x k : Nat) : Prop := False
def wI_mDraft_put (v0 : Nat) (v1 : Int) (v3 : Int) (h : Hp) (x k : Nat) : Prop := x = hR h v0 0 ∨ (x = v0 ∧ k = 1)
def wJ_mDraft_put (v0 : Nat) (v1 : Int) (v3 : Int) (h : Hp) (x k : Nat) : Prop := False
theorem fe_mDraft_put_b5 {k5 : Nat → Int → Int → Hp → Option (Hp)} (hk5 : ∀ (v0 : Nat) (v1 : Int) (v4 : Int) (h : Hp), Feo (wI_mDraft_put_b5 v0 v1 v4 h) (wJ_mDraft_put_b5 v0 v1 v4 h) h id (k5 v0 v1 v4 h)) (v0 : Nat) (v1 : Int) (v4 : Int) (h : Hp) : Feo (wI_mDraft_put_b5 v0 v1 v4 h) (wJ_mDraft_put_b5 v0 v1 v4 h) h id (f_mDraft_put_b5 k5 v0 v1 v4 h) := by
  unfold f_mDraft_put_b5
  refine fe_it ?_ ?_
  · exact fe_so Fe.rf
  · refine fe_it fe_no ?_
    refine fe_it ?_ fe_no
    refine fe_I Fe.rf (Or.inl (rfl)) (fun h4 F1 => ?_)
    refine fe_I F1 (Or.inr (⟨rfl, rfl⟩)) (fun h5 F2 => ?_)
    exact fe_j F2 (hk5 _ _ _ _) (fun x k hx => by simp only [wI_mDraft_put_b5, F1.r, F2.r] at hx; rcases hx with e | e <;> first | exact Or.inl (e) | exact Or.inr (e)) (fun x k hx => False.elim hx)
theorem fe_mDraft_put_b5_lp (n : Nat) : ∀ (v0 : Nat) (v1 : Int) (v4 : Int) (h : Hp), Feo (wI_mDraft_put_b5 v0 v1 v4 h) (wJ_mDraft_put_b5 v0 v1 v4 h) h id (f_mDraft_put_b5_lp n v0 v1 v4 h) := by
  induction n with
  | zero => intro v0 v1 v4 h; exact fe_no
  | succ n ih => intro v0 v1 v4 h; exact fe_mDraft_put_b5 ih v0 v1 v4 h
theorem fe_mDraft_put (v0 : Nat) (v1 : Int) (v3 : Int) (h : Hp) : Feo (wI_mDraft_put v0 v1 v3 h) (wJ_mDraft_put v0 v1 v3 h) h id (f_mDraft_put v0 v1 v3 h) := by
  unfold f_mDraft_put
  refine fe_v (fun y1 => ?_)
  exact fe_j Fe.rf (fe_mDraft_put_b5_lp FU _ _ _ _) (fun x k hx => by simp only [wI_mDraft_put_b5] at hx; rcases hx with e | e <;> first | exact Or.inl (e) | exact Or.inr (e)) (fun x k hx => False.elim hx)
def wI_mDraft_sized_b32 (v0 : Nat) (v1 : Int) (v3 : Int) (s0 : Int) (h : Hp) (x k : Nat) : Prop := x = hR h v0 0 ∨ (x = v0 ∧ k = 1)
def wJ_mDraft_sized_b32 (v0 : Nat) (v1 : Int) (v3 : Int) (s0 : Int) (h : Hp) (x k : Nat) : Prop := False
def wI_mDraft_sized (v0 : Nat) (v1 : Int) (v3 : Int) (h : Hp) (x k : Nat) : Prop := x = hR h v0 0 ∨ (x = v0 ∧ k = 1)
def wJ_mDraft_sized (v0 : Nat) (v1 : Int) (v3 : Int) (h : Hp) (x k : Nat) : Prop := False
theorem fe_mDraft_sized_b32 (v0 : Nat) (v1 : Int) (v3 : Int) (s0 : Int) (h : Hp) : Feo (wI_mDraft_sized_b32 v0 v1 v3 s0 h) (wJ_mDraft_sized_b32 v0 v1 v3 s0 h) h id (f_mDraft_sized_b32 v0 v1 v3 s0 h) := by
  unfold f_mDraft_sized_b32
  refine fe_b1 Fe.rf (fe_mDraft_put _ _ _ _) (fun x k hx => by simp only [wI_mDraft_put] at hx; rcases hx with e | e <;> first | exact Or.inl (e) | exact Or.inr (e)) (fun x k hx => False.elim hx) (fun h1 F1 => ?_)
  exact fe_so F1
theorem fe_mDraft_sized (v0 : Nat) (v1 : Int) (v3 : Int) (h : Hp) : Feo (wI_mDraft_sized v0 v1 v3 h) (wJ_mDraft_sized v0 v1 v3 h) h id (f_mDraft_sized v0 v1 v3 h) := by
  unfold f_mDraft_sized
  refine fe_it ?_ ?_
  · refine fe_it ?_ ?_
    · refine fe_it ?_ ?_
      · exact fe_j Fe.rf (fe_mDraft_sized_b32 _ _ _ _ _) (fun x k hx => by simp only [wI_mDraft_sized_b32] at hx; rcases hx with e | e <;> first | exact Or.inl (e) | exact Or.inr (e)) (fun x k hx => False.elim hx)
      · exact fe_j Fe.rf (fe_mDraft_sized_b32 _ _ _ _ _) (fun x k hx => by simp only [wI_mDraft_sized_b32] at hx; rcases hx with e | e <;> first | exact Or.inl (e) | exact Or.inr (e)) (fun x k hx => False.elim hx)
    · exact fe_j Fe.rf (fe_mDraft_sized_b32 _ _ _ _ _) (fun x k hx => by simp only [wI_mDraft_sized_b32] at hx; rcases hx with e | e <;> first | exact Or.inl (e) | exact Or.inr (e)) (fun x k hx => False.elim hx)
  · exact fe_j Fe.rf (fe_mDraft_sized_b32 _ _ _ _ _) (fun x k hx => by simp only [wI_mDraft_sized_b32] at hx; rcases hx with e | e <;> first | exact Or.inl (e) | exact Or.inr (e)) (fun x k hx => False.elim hx)
def wI_mDraft_number (v0 : Nat) (v1 : Int) (h : Hp) (x k : Nat) : Prop := x = hR h v0 0 ∨ (x = v0 ∧ k = 1)
def wJ_mDraft_number (v0 : Nat) (v1 : Int) (h : Hp) (x k : Nat) : Prop := False
theorem fe_mDraft_number (v0 : Nat) (v1 : Int) (h : Hp) : Feo (wI_mDraft_number v0 v1 h) (wJ_mDraft_number v0 v1 h) h id (f_mDraft_number v0 v1 h) := by
  unfold f_mDraft_number
  refine fe_b2 Fe.rf (fe_mWire_needs _ _) (fun x k hx => False.elim hx) (fun x k hx => False.elim hx) (fun r3 h1 F1 => ?_)
  refine fe_b1 F1 (fe_mDraft_sized _ _ _ _) (fun x k hx => by simp only [wI_mDraft_sized, F1.r] at hx; rcases hx with e | e <;> first | exact Or.inl (e) | exact Or.inr (e)) (fun x k hx => False.elim hx) (fun h4 F2 => ?_)
  exact fe_so F2
def wI_mSide_laysClose_b124 (v0 : Nat) (v6 : Nat) (h : Hp) (x k : Nat) : Prop := x = hR h v6 0 ∨ (x = v0 ∧ k = 51) ∨ (x = v6 ∧ k = 1)
def wJ_mSide_laysClose_b124 (v0 : Nat) (v6 : Nat) (h : Hp) (x k : Nat) : Prop := False
def wI_mSide_laysClose_b102 (v0 : Nat) (v3 : Int) (v4 : Int) (v6 : Nat) (s0 : Nat) (s1 : Int) (h : Hp) (x k : Nat) : Prop := x = hR h s0 0 ∨ x = hR h v6 0 ∨ (x = s0 ∧ k = 1) ∨ (x = v0 ∧ k = 51) ∨ (x = v6 ∧ k = 1)
def wJ_mSide_laysClose_b102 (v0 : Nat) (v3 : Int) (v4 : Int) (v6 : Nat) (s0 : Nat) (s1 : Int) (h : Hp) (x k : Nat) : Prop := False
def wI_mSide_laysClose_b62 (v0 : Nat) (v1 : Int) (v2 : Int) (v3 : Int) (v4 : Int) (s0 : Int) (s1 : Int) (h : Hp) (x k : Nat) : Prop := (x = (hR h (hR h v0 47) v1.toNat) ∧ k = 1) ∨ x = hR h (hR h (hR h v0 47) v1.toNat) 0 ∨ (x = v0 ∧ k = 51)
def wJ_mSide_laysClose_b62 (v0 : Nat) (v1 : Int) (v2 : Int) (v3 : Int) (v4 : Int) (s0 : Int) (s1 : Int) (h : Hp) (x k : Nat) : Prop := False
def wI_mSide_laysClose_b43 (v0 : Nat) (v1 : Int) (v2 : Int) (v3 : Int) (s0 : Int) (h : Hp) (x k : Nat) : Prop := (x = (hR h (hR h v0 47) v1.toNat) ∧ k = 1) ∨ x = hR h (hR h (hR h v0 47) v1.toNat) 0 ∨ (x = v0 ∧ k = 51)
def wJ_mSide_laysClose_b43 (v0 : Nat) (v1 : Int) (v2 : Int) (v3 : Int) (s0 : Int) (h : Hp) (x k : Nat) : Prop := False
def wI_mSide_laysClose_b39 (v0 : Nat) (v1 : Int) (v2 : Int) (v3 : Int) (h : Hp) (x k : Nat) : Prop := (x = (hR h (hR h v0 47) v1.toNat) ∧ k = 1) ∨ x = hR h (hR h (hR h v0 47) v1.toNat) 0 ∨ (x = v0 ∧ k = 51)
def wJ_mSide_laysClose_b39 (v0 : Nat) (v1 : Int) (v2 : Int) (v3 : Int) (h : Hp) (x k : Nat) : Prop := False
def wI_mSide_laysClose_b19 (v0 : Nat) (v1 : Int) (v2 : Int) (s0 : Int) (h : Hp) (x k : Nat) : Prop := (x = (hR h (hR h v0 47) v1.toNat) ∧ k = 1) ∨ x = hR h (hR h (hR h v0 47) v1.toNat) 0 ∨ (x = v0 ∧ k = 51)
def wJ_mSide_laysClose_b19 (v0 : Nat) (v1 : Int) (v2 : Int) (s0 : Int) (h : Hp) (x k : Nat) : Prop := False
def wI_mSide_laysClose_b14 (v0 : Nat) (v1 : Int) (v2 : Int) (h : Hp) (x k : Nat) : Prop := (x = (hR h (hR h v0 47) v1.toNat) ∧ k = 1) ∨ x = hR h (hR h (hR h v0 47) v1.toNat) 0 ∨ (x = v0 ∧ k = 51)
def wJ_mSide_laysClose_b14 (v0 : Nat) (v1 : Int) (v2 : Int) (h : Hp) (x k : Nat) : Prop := False
def wI_mSide_laysClose (v0 : Nat) (v1 : Int) (v2 : Int) (h : Hp) (x k : Nat) : Prop := (x = (hR h (hR h v0 47) v1.toNat) ∧ k = 1) ∨ x = hR h (hR h (hR h v0 47) v1.toNat) 0 ∨ (x = v0 ∧ k = 51)
def wJ_mSide_laysClose (v0 : Nat) (v1 : Int) (v2 : Int) (h : Hp) (x k : Nat) : Prop := False
theorem fe_mSide_laysClose_b124 (v0 : Nat) (v6 : Nat) (h : Hp) : Feo (wI_mSide_laysClose_b124 v0 v6 h) (wJ_mSide_laysClose_b124 v0 v6 h) h id (f_mSide_laysClose_b124 v0 v6 h) := by
  unfold f_mSide_laysClose_b124
  refine fe_it fe_no ?_
  refine fe_b1 Fe.rf (fe_mDraft_number _ _ _) (fun x k hx => by simp only [wI_mDraft_number] at hx; rcases hx with e | e <;> first | exact Or.inl (e) | exact Or.inr (Or.inr (e))) (fun x k hx => False.elim hx) (fun h17 F1 => ?_)
  refine fe_I F1 (Or.inr (Or.inl (⟨rfl, rfl⟩))) (fun h19 F2 => ?_)
  exact fe_so F2
theorem fe_mSide_laysClose_b102 (v0 : Nat) (v3 : Int) (v4 : Int) (v6 : Nat) (s0 : Nat) (s1 : Int) (h : Hp) : Feo (wI_mSide_laysClose_b102 v0 v3 v4 v6 s0 s1 h) (wJ_mSide_laysClose_b102 v0 v3 v4 v6 s0 s1 h) h id (f_mSide_laysClose_b102 v0 v3 v4 v6 s0 s1 h) := by
  unfold f_mSide_laysClose_b102
  refine fe_it fe_no ?_
  refine fe_b1 Fe.rf (fe_mDraft_put _ _ _ _) (fun x k hx => by simp only [wI_mDraft_put] at hx; rcases hx with e | e <;> first | exact Or.inl (e) | exact Or.inr (Or.inr (Or.inl (e)))) (fun x k hx => False.elim hx) (fun h9 F1 => ?_)
  refine fe_it fe_no ?_
  refine fe_b1 F1 (fe_mDraft_number _ _ _) (fun x k hx => by simp only [wI_mDraft_number, F1.r] at hx; rcases hx with e | e <;> first | exact Or.inr (Or.inl (e)) | exact Or.inr (Or.inr (Or.inr (Or.inr (e))))) (fun x k hx => False.elim hx) (fun h12 F2 => ?_)
  refine fe_it ?_ ?_
  · exact fe_j F2 (fe_mSide_laysClose_b124 _ _ _) (fun x k hx => by simp only [wI_mSide_laysClose_b124, F1.r, F2.r] at hx; rcases hx with e | e | e <;> first | exact Or.inr (Or.inl (e)) | exact Or.inr (Or.inr (Or.inr (Or.inl (e)))) | exact Or.inr (Or.inr (Or.inr (Or.inr (e))))) (fun x k hx => False.elim hx)
  · refine fe_b1 F2 (fe_mDraft_number _ _ _) (fun x k hx => by simp only [wI_mDraft_number, F1.r, F2.r] at hx; rcases hx with e | e <;> first | exact Or.inr (Or.inl (e)) | exact Or.inr (Or.inr (Or.inr (Or.inr (e))))) (fun x k hx => False.elim hx) (fun h14 F3 => ?_)
    exact fe_j F3 (fe_mSide_laysClose_b124 _ _ _) (fun x k hx => by simp only [wI_mSide_laysClose_b124, F1.r, F2.r, F3.r] at hx; rcases hx with e | e | e <;> first | exact Or.inr (Or.inl (e)) | exact Or.inr (Or.inr (Or.inr (Or.inl (e)))) | exact Or.inr (Or.inr (Or.inr (Or.inr (e))))) (fun x k hx => False.elim hx)
theorem fe_mSide_laysClose_b62 (v0 : Nat) (v1 : Int) (v2 : Int) (v3 : Int) (v4 : Int) (s0 : Int) (s1 : Int) (h : Hp) : Feo (wI_mSide_laysClose_b62 v0 v1 v2 v3 v4 s0 s1 h) (wJ_mSide_laysClose_b62 v0 v1 v2 v3 v4 s0 s1 h) h id (f_mSide_laysClose_b62 v0 v1 v2 v3 v4 s0 s1 h) := by
  unfold f_mSide_laysClose_b62
  refine fe_v (fun y4 => ?_)
  refine fe_it ?_ ?_
  · exact fe_so Fe.rf
  · refine fe_it ?_ ?_
    · refine fe_it fe_no ?_
      refine fe_it ?_ fe_no
      refine fe_l ?_
      refine fe_it ?_ ?_
      · exact fe_j Fe.rf (fe_mSide_laysClose_b102 _ _ _ _ _ _ _) (fun x k hx => by simp only [wI_mSide_laysClose_b102] at hx; rcases hx with e | e | e | e | e <;> first | exact Or.inl (e) | exact Or.inr (Or.inl (e)) | exact Or.inr (Or.inr (e))) (fun x k hx => False.elim hx)
      · exact fe_j Fe.rf (fe_mSide_laysClose_b102 _ _ _ _ _ _ _) (fun x k hx => by simp only [wI_mSide_laysClose_b102] at hx; rcases hx with e | e | e | e | e <;> first | exact Or.inl (e) | exact Or.inr (Or.inl (e)) | exact Or.inr (Or.inr (e))) (fun x k hx => False.elim hx)
    · exact fe_so Fe.rf
theorem fe_mSide_laysClose_b43 (v0 : Nat) (v1 : Int) (v2 : Int) (v3 : Int) (s0 : Int) (h : Hp) : Feo (wI_mSide_laysClose_b43 v0 v1 v2 v3 s0 h) (wJ_mSide_laysClose_b43 v0 v1 v2 v3 s0 h) h id (f_mSide_laysClose_b43 v0 v1 v2 v3 s0 h) := by
  unfold f_mSide_laysClose_b43
  refine fe_b2 Fe.rf (fe_mWire_needs _ _) (fun x k hx => False.elim hx) (fun x k hx => False.elim hx) (fun r3 h1 F1 => ?_)
  refine fe_it ?_ ?_
  · exact fe_j F1 (fe_mSide_laysClose_b62 _ _ _ _ _ _ _ _) (fun x k hx => by simp only [wI_mSide_laysClose_b62, F1.r] at hx; rcases hx with e | e | e <;> first | exact Or.inl (e) | exact Or.inr (Or.inl (e)) | exact Or.inr (Or.inr (e))) (fun x k hx => False.elim hx)
  · exact fe_j F1 (fe_mSide_laysClose_b62 _ _ _ _ _ _ _ _) (fun x k hx => by simp only [wI_mSide_laysClose_b62, F1.r] at hx; rcases hx with e | e | e <;> first | exact Or.inl (e) | exact Or.inr (Or.inl (e)) | exact Or.inr (Or.inr (e))) (fun x k hx => False.elim hx)
theorem fe_mSide_laysClose_b39 (v0 : Nat) (v1 : Int) (v2 : Int) (v3 : Int) (h : Hp) : Feo (wI_mSide_laysClose_b39 v0 v1 v2 v3 h) (wJ_mSide_laysClose_b39 v0 v1 v2 v3 h) h id (f_mSide_laysClose_b39 v0 v1 v2 v3 h) := by
  unfold f_mSide_laysClose_b39
  exact fe_j Fe.rf (fe_mSide_laysClose_b43 _ _ _ _ _ _) (fun x k hx => by simp only [wI_mSide_laysClose_b43] at hx; rcases hx with e | e | e <;> first | exact Or.inl (e) | exact Or.inr (Or.inl (e)) | exact Or.inr (Or.inr (e))) (fun x k hx => False.elim hx)
theorem fe_mSide_laysClose_b19 (v0 : Nat) (v1 : Int) (v2 : Int) (s0 : Int) (h : Hp) : Feo (wI_mSide_laysClose_b19 v0 v1 v2 s0 h) (wJ_mSide_laysClose_b19 v0 v1 v2 s0 h) h id (f_mSide_laysClose_b19 v0 v1 v2 s0 h) := by
  unfold f_mSide_laysClose_b19
  refine fe_it ?_ ?_
  · exact fe_j Fe.rf (fe_mSide_laysClose_b39 _ _ _ _ _) (fun x k hx => by simp only [wI_mSide_laysClose_b39] at hx; rcases hx with e | e | e <;> first | exact Or.inl (e) | exact Or.inr (Or.inl (e)) | exact Or.inr (Or.inr (e))) (fun x k hx => False.elim hx)
  · refine fe_it ?_ ?_
    · exact fe_j Fe.rf (fe_mSide_laysClose_b39 _ _ _ _ _) (fun x k hx => by simp only [wI_mSide_laysClose_b39] at hx; rcases hx with e | e | e <;> first | exact Or.inl (e) | exact Or.inr (Or.inl (e)) | exact Or.inr (Or.inr (e))) (fun x k hx => False.elim hx)
    · exact fe_j Fe.rf (fe_mSide_laysClose_b43 _ _ _ _ _ _) (fun x k hx => by simp only [wI_mSide_laysClose_b43] at hx; rcases hx with e | e | e <;> first | exact Or.inl (e) | exact Or.inr (Or.inl (e)) | exact Or.inr (Or.inr (e))) (fun x k hx => False.elim hx)
theorem fe_mSide_laysClose_b14 (v0 : Nat) (v1 : Int) (v2 : Int) (h : Hp) : Feo (wI_mSide_laysClose_b14 v0 v1 v2 h) (wJ_mSide_laysClose_b14 v0 v1 v2 h) h id (f_mSide_laysClose_b14 v0 v1 v2 h) := by
  unfold f_mSide_laysClose_b14
  exact fe_j Fe.rf (fe_mSide_laysClose_b19 _ _ _ _ _) (fun x k hx => by simp only [wI_mSide_laysClose_b19] at hx; rcases hx with e | e | e <;> first | exact Or.inl (e) | exact Or.inr (Or.inl (e)) | exact Or.inr (Or.inr (e))) (fun x k hx => False.elim hx)
theorem fe_mSide_laysClose (v0 : Nat) (v1 : Int) (v2 : Int) (h : Hp) : Feo (wI_mSide_laysClose v0 v1 v2 h) (wJ_mSide_laysClose v0 v1 v2 h) h id (f_mSide_laysClose v0 v1 v2 h) := by
  unfold f_mSide_laysClose
  refine fe_it ?_ ?_
  · exact fe_j Fe.rf (fe_mSide_laysClose_b14 _ _ _ _) (fun x k hx => by simp only [wI_mSide_laysClose_b14] at hx; rcases hx with e | e | e <;> first | exact Or.inl (e) | exact Or.inr (Or.inl (e)) | exact Or.inr (Or.inr (e))) (fun x k hx => False.elim hx)
  · refine fe_it ?_ ?_
    · exact fe_j Fe.rf (fe_mSide_laysClose_b19 _ _ _ _ _) (fun x k hx => by simp only [wI_mSide_laysClose_b19] at hx; rcases hx with e | e | e <;> first | exact Or.inl (e) | exact Or.inr (Or.inl (e)) | exact Or.inr (Or.inr (e))) (fun x k hx => False.elim hx)
    · exact fe_j Fe.rf (fe_mSide_laysClose_b14 _ _ _ _) (fun x k hx => by simp only [wI_mSide_laysClose_b14] at hx; rcases hx with e | e | e <;> first | exact Or.inl (e) | exact Or.inr (Or.inl (e)) | exact Or.inr (Or.inr (e))) (fun x k hx => False.elim hx)
def wI_mDraft_bytes_b3 (v0 : Nat) (v1 : Nat) (v2 : Int) (v3 : Int) (v4 : Int) (h : Hp) (x k : Nat) : Prop := x = hR h v0 0 ∨ (x = v0 ∧ k = 1)
def wJ_mDraft_bytes_b3 (v0 : Nat) (v1 : Nat) (v2 : Int) (v3 : Int) (v4 : Int) (h : Hp) (x k : Nat) : Prop := False
def wI_mDraft_bytes (v0 : Nat) (v1 : Nat) (v2 : Int) (v3 : Int) (h : Hp) (x k : Nat) : Prop := x = hR h v0 0 ∨ (x = v0 ∧ k = 1)
def wJ_mDraft_bytes (v0 : Nat) (v1 : Nat) (v2 : Int) (v3 : Int) (h : Hp) (x k : Nat) : Prop := False
theorem fe_mDraft_bytes_b3 {k3 : Nat → Nat → Int → Int → Int → Hp → Option (Hp)} (hk3 : ∀ (v0 : Nat) (v1 : Nat) (v2 : Int) (v3 : Int) (v4 : Int) (h : Hp), Feo (wI_mDraft_bytes_b3 v0 v1 v2 v3 v4 h) (wJ_mDraft_bytes_b3 v0 v1 v2 v3 v4 h) h id (k3 v0 v1 v2 v3 v4 h)) (v0 : Nat) (v1 : Nat) (v2 : Int) (v3 : Int) (v4 : Int) (h : Hp) : Feo (wI_mDraft_bytes_b3 v0 v1 v2 v3 v4 h) (wJ_mDraft_bytes_b3 v0 v1 v2 v3 v4 h) h id (f_mDraft_bytes_b3 k3 v0 v1 v2 v3 v4 h) := by
  unfold f_mDraft_bytes_b3
  refine fe_it ?_ ?_
  · exact fe_so Fe.rf
  · refine fe_it fe_no ?_
    refine fe_it ?_ fe_no
    refine fe_b1 Fe.rf (fe_mDraft_put _ _ _ _) (fun x k hx => by simp only [wI_mDraft_put] at hx; rcases hx with e | e <;> first | exact Or.inl (e) | exact Or.inr (e)) (fun x k hx => False.elim hx) (fun h3 F1 => ?_)
    exact fe_j F1 (hk3 _ _ _ _ _ _) (fun x k hx => by simp only [wI_mDraft_bytes_b3, F1.r] at hx; rcases hx with e | e <;> first | exact Or.inl (e) | exact Or.inr (e)) (fun x k hx => False.elim hx)
theorem fe_mDraft_bytes_b3_lp (n : Nat) : ∀ (v0 : Nat) (v1 : Nat) (v2 : Int) (v3 : Int) (v4 : Int) (h : Hp), Feo (wI_mDraft_bytes_b3 v0 v1 v2 v3 v4 h) (wJ_mDraft_bytes_b3 v0 v1 v2 v3 v4 h) h id (f_mDraft_bytes_b3_lp n v0 v1 v2 v3 v4 h) := by
  induction n with
  | zero => intro v0 v1 v2 v3 v4 h; exact fe_no
  | succ n ih => intro v0 v1 v2 v3 v4 h; exact fe_mDraft_bytes_b3 ih v0 v1 v2 v3 v4 h
theorem fe_mDraft_bytes (v0 : Nat) (v1 : Nat) (v2 : Int) (v3 : Int) (h : Hp) : Feo (wI_mDraft_bytes v0 v1 v2 v3 h) (wJ_mDraft_bytes v0 v1 v2 v3 h) h id (f_mDraft_bytes v0 v1 v2 v3 h) := by
  unfold f_mDraft_bytes
  exact fe_j Fe.rf (fe_mDraft_bytes_b3_lp FU _ _ _ _ _ _) (fun x k hx => by simp only [wI_mDraft_bytes_b3] at hx; rcases hx with e | e <;> first | exact Or.inl (e) | exact Or.inr (e)) (fun x k hx => False.elim hx)
def wI_mBook_range (v0 : Nat) (v1 : Int) (v2 : Int) (v3 : Int) (h : Hp) (x k : Nat) : Prop := False
def wJ_mBook_range (v0 : Nat) (v1 : Int) (v2 : Int) (v3 : Int) (h : Hp) (x k : Nat) : Prop := False
theorem fe_mBook_range (v0 : Nat) (v1 : Int) (v2 : Int) (v3 : Int) (h : Hp) : Feo (wI_mBook_range v0 v1 v2 v3 h) (wJ_mBook_range v0 v1 v2 v3 h) h Prod.snd (f_mBook_range v0 v1 v2 v3 h) := by
  unfold f_mBook_range
  refine fe_it fe_no ?_
  refine fe_it ?_ fe_no
  refine fe_v (fun y3 => ?_)
  refine fe_it ?_ ?_
  · refine fe_it fe_no ?_
    refine fe_it ?_ fe_no
    exact fe_so Fe.rf
  · refine fe_it fe_no ?_
    refine fe_it ?_ fe_no
    exact fe_so Fe.rf
def wI_mBook_delay (v0 : Nat) (v1 : Int) (h : Hp) (x k : Nat) : Prop := False
def wJ_mBook_delay (v0 : Nat) (v1 : Int) (h : Hp) (x k : Nat) : Prop := False
theorem fe_mBook_delay (v0 : Nat) (v1 : Int) (h : Hp) : Feo (wI_mBook_delay v0 v1 h) (wJ_mBook_delay v0 v1 h) h Prod.snd (f_mBook_delay v0 v1 h) := by
  unfold f_mBook_delay
  refine fe_it fe_no ?_
  refine fe_it ?_ fe_no
  refine fe_it ?_ ?_
  · refine fe_it fe_no ?_
    refine fe_it ?_ fe_no
    exact fe_so Fe.rf
  · exact fe_so Fe.rf
def wI_mSide_ackSize_b59 (v0 : Nat) (v1 : Int) (v2 : Int) (v5 : Int) (v6 : Int) (h : Hp) (x k : Nat) : Prop := False
def wJ_mSide_ackSize_b59 (v0 : Nat) (v1 : Int) (v2 : Int) (v5 : Int) (v6 : Int) (h : Hp) (x k : Nat) : Prop := False
def wI_mSide_ackSize (v0 : Nat) (v1 : Int) (v2 : Int) (h : Hp) (x k : Nat) : Prop := False
def wJ_mSide_ackSize (v0 : Nat) (v1 : Int) (v2 : Int) (h : Hp) (x k : Nat) : Prop := False
theorem fe_mSide_ackSize_b59 {k59 : Nat → Int → Int → Int → Int → Hp → Option (Int × Hp)} (hk59 : ∀ (v0 : Nat) (v1 : Int) (v2 : Int) (v5 : Int) (v6 : Int) (h : Hp), Feo (wI_mSide_ackSize_b59 v0 v1 v2 v5 v6 h) (wJ_mSide_ackSize_b59 v0 v1 v2 v5 v6 h) h Prod.snd (k59 v0 v1 v2 v5 v6 h)) (v0 : Nat) (v1 : Int) (v2 : Int) (v5 : Int) (v6 : Int) (h : Hp) : Feo (wI_mSide_ackSize_b59 v0 v1 v2 v5 v6 h) (wJ_mSide_ackSize_b59 v0 v1 v2 v5 v6 h) h Prod.snd (f_mSide_ackSize_b59 k59 v0 v1 v2 v5 v6 h) := by
  unfold f_mSide_ackSize_b59
  refine fe_it ?_ ?_
  · exact fe_so Fe.rf
  · refine fe_it fe_no ?_
    refine fe_b2 Fe.rf (fe_mBook_range _ _ _ _ _) (fun x k hx => False.elim hx) (fun x k hx => False.elim hx) (fun r29 h27 F1 => ?_)
    refine fe_it fe_no ?_
    refine fe_b2 F1 (fe_mBook_range _ _ _ _ _) (fun x k hx => False.elim hx) (fun x k hx => False.elim hx) (fun r33 h31 F2 => ?_)
    refine fe_b2 F2 (fe_mWire_needs _ _) (fun x k hx => False.elim hx) (fun x k hx => False.elim hx) (fun r36 h34 F3 => ?_)
    refine fe_it fe_no ?_
    refine fe_b2 F3 (fe_mBook_range _ _ _ _ _) (fun x k hx => False.elim hx) (fun x k hx => False.elim hx) (fun r40 h38 F4 => ?_)
    refine fe_it fe_no ?_
    refine fe_b2 F4 (fe_mBook_range _ _ _ _ _) (fun x k hx => False.elim hx) (fun x k hx => False.elim hx) (fun r44 h42 F5 => ?_)
    refine fe_b2 F5 (fe_mWire_needs _ _) (fun x k hx => False.elim hx) (fun x k hx => False.elim hx) (fun r47 h45 F6 => ?_)
    refine fe_v (fun y48 => ?_)
    exact fe_j F6 (hk59 _ _ _ _ _ _) (fun x k hx => False.elim hx) (fun x k hx => False.elim hx)
theorem fe_mSide_ackSize_b59_lp (n : Nat) : ∀ (v0 : Nat) (v1 : Int) (v2 : Int) (v5 : Int) (v6 : Int) (h : Hp), Feo (wI_mSide_ackSize_b59 v0 v1 v2 v5 v6 h) (wJ_mSide_ackSize_b59 v0 v1 v2 v5 v6 h) h Prod.snd (f_mSide_ackSize_b59_lp n v0 v1 v2 v5 v6 h) := by
  induction n with
  | zero => intro v0 v1 v2 v5 v6 h; exact fe_no
  | succ n ih => intro v0 v1 v2 v5 v6 h; exact fe_mSide_ackSize_b59 ih v0 v1 v2 v5 v6 h
theorem fe_mSide_ackSize (v0 : Nat) (v1 : Int) (v2 : Int) (h : Hp) : Feo (wI_mSide_ackSize v0 v1 v2 h) (wJ_mSide_ackSize v0 v1 v2 h) h Prod.snd (f_mSide_ackSize v0 v1 v2 h) := by
  unfold f_mSide_ackSize
  refine fe_it fe_no ?_
  refine fe_b2 Fe.rf (fe_mBook_range _ _ _ _ _) (fun x k hx => False.elim hx) (fun x k hx => False.elim hx) (fun r4 h2 F1 => ?_)
  refine fe_b2 F1 (fe_mWire_needs _ _) (fun x k hx => False.elim hx) (fun x k hx => False.elim hx) (fun r7 h5 F2 => ?_)
  refine fe_it fe_no ?_
  refine fe_b2 F2 (fe_mBook_delay _ _ _) (fun x k hx => False.elim hx) (fun x k hx => False.elim hx) (fun r11 h9 F3 => ?_)
  refine fe_b2 F3 (fe_mWire_needs _ _) (fun x k hx => False.elim hx) (fun x k hx => False.elim hx) (fun r14 h12 F4 => ?_)
  refine fe_b2 F4 (fe_mWire_needs _ _) (fun x k hx => False.elim hx) (fun x k hx => False.elim hx) (fun r17 h15 F5 => ?_)
  refine fe_it fe_no ?_
  refine fe_b2 F5 (fe_mBook_range _ _ _ _ _) (fun x k hx => False.elim hx) (fun x k hx => False.elim hx) (fun r21 h19 F6 => ?_)
  refine fe_b2 F6 (fe_mWire_needs _ _) (fun x k hx => False.elim hx) (fun x k hx => False.elim hx) (fun r24 h22 F7 => ?_)
  refine fe_v (fun y25 => ?_)
  exact fe_j F7 (fe_mSide_ackSize_b59_lp FU _ _ _ _ _ _) (fun x k hx => False.elim hx) (fun x k hx => False.elim hx)
def wI_mSide_laysAck_b153 (v0 : Nat) (v1 : Int) (v3 : Int) (v4 : Nat) (v5 : Int) (h : Hp) (x k : Nat) : Prop := x = hR h v4 0 ∨ (x = v4 ∧ k = 1)
def wJ_mSide_laysAck_b153 (v0 : Nat) (v1 : Int) (v3 : Int) (v4 : Nat) (v5 : Int) (h : Hp) (x k : Nat) : Prop := False
def wI_mSide_laysAck_b108 (v0 : Nat) (v1 : Int) (v3 : Int) (v4 : Nat) (v5 : Int) (h : Hp) (x k : Nat) : Prop := x = hR h v4 0 ∨ (x = v4 ∧ k = 1)
def wJ_mSide_laysAck_b108 (v0 : Nat) (v1 : Int) (v3 : Int) (v4 : Nat) (v5 : Int) (h : Hp) (x k : Nat) : Prop := False
def wI_mSide_laysAck_b44 (v0 : Nat) (v1 : Int) (v3 : Int) (h : Hp) (x k : Nat) : Prop := (x = (hR h (hR h v0 47) v1.toNat) ∧ k = 1) ∨ x = hR h (hR h (hR h v0 47) v1.toNat) 0
def wJ_mSide_laysAck_b44 (v0 : Nat) (v1 : Int) (v3 : Int) (h : Hp) (x k : Nat) : Prop := False
def wI_mSide_laysAck_b24 (v0 : Nat) (v1 : Int) (v2 : Int) (v3 : Int) (h : Hp) (x k : Nat) : Prop := (x = (hR h (hR h v0 47) v1.toNat) ∧ k = 1) ∨ x = hR h (hR h (hR h v0 47) v1.toNat) 0
def wJ_mSide_laysAck_b24 (v0 : Nat) (v1 : Int) (v2 : Int) (v3 : Int) (h : Hp) (x k : Nat) : Prop := False
def wI_mSide_laysAck (v0 : Nat) (v1 : Int) (v2 : Int) (h : Hp) (x k : Nat) : Prop := (x = (hR h (hR h v0 47) v1.toNat) ∧ k = 1) ∨ x = hR h (hR h (hR h v0 47) v1.toNat) 0
def wJ_mSide_laysAck (v0 : Nat) (v1 : Int) (v2 : Int) (h : Hp) (x k : Nat) : Prop := False
theorem fe_mSide_laysAck_b153 {k108 : Nat → Int → Int → Nat → Int → Hp → Option (Int × Hp)} (hk108 : ∀ (v0 : Nat) (v1 : Int) (v3 : Int) (v4 : Nat) (v5 : Int) (h : Hp), Feo (wI_mSide_laysAck_b108 v0 v1 v3 v4 v5 h) (wJ_mSide_laysAck_b108 v0 v1 v3 v4 v5 h) h Prod.snd (k108 v0 v1 v3 v4 v5 h)) (v0 : Nat) (v1 : Int) (v3 : Int) (v4 : Nat) (v5 : Int) (h : Hp) : Feo (wI_mSide_laysAck_b153 v0 v1 v3 v4 v5 h) (wJ_mSide_laysAck_b153 v0 v1 v3 v4 v5 h) h Prod.snd (f_mSide_laysAck_b153 k108 v0 v1 v3 v4 v5 h) := by
  unfold f_mSide_laysAck_b153
  refine fe_it fe_no ?_
  refine fe_b2 Fe.rf (fe_mBook_range _ _ _ _ _) (fun x k hx => False.elim hx) (fun x k hx => False.elim hx) (fun r44 h42 F1 => ?_)
  refine fe_it fe_no ?_
  refine fe_b2 F1 (fe_mBook_range _ _ _ _ _) (fun x k hx => False.elim hx) (fun x k hx => False.elim hx) (fun r48 h46 F2 => ?_)
  refine fe_it fe_no ?_
  refine fe_b1 F2 (fe_mDraft_number _ _ _) (fun x k hx => by simp only [wI_mDraft_number, F1.r, F2.r] at hx; rcases hx with e | e <;> first | exact Or.inl (e) | exact Or.inr (e)) (fun x k hx => False.elim hx) (fun h50 F3 => ?_)
  exact fe_j F3 (hk108 _ _ _ _ _ _) (fun x k hx => by simp only [wI_mSide_laysAck_b108, F1.r, F2.r, F3.r] at hx; rcases hx with e | e <;> first | exact Or.inl (e) | exact Or.inr (e)) (fun x k hx => False.elim hx)
theorem fe_mSide_laysAck_b108 {k108 : Nat → Int → Int → Nat → Int → Hp → Option (Int × Hp)} (hk108 : ∀ (v0 : Nat) (v1 : Int) (v3 : Int) (v4 : Nat) (v5 : Int) (h : Hp), Feo (wI_mSide_laysAck_b108 v0 v1 v3 v4 v5 h) (wJ_mSide_laysAck_b108 v0 v1 v3 v4 v5 h) h Prod.snd (k108 v0 v1 v3 v4 v5 h)) (v0 : Nat) (v1 : Int) (v3 : Int) (v4 : Nat) (v5 : Int) (h : Hp) : Feo (wI_mSide_laysAck_b108 v0 v1 v3 v4 v5 h) (wJ_mSide_laysAck_b108 v0 v1 v3 v4 v5 h) h Prod.snd (f_mSide_laysAck_b108 k108 v0 v1 v3 v4 v5 h) := by
  unfold f_mSide_laysAck_b108
  refine fe_it ?_ ?_
  · exact fe_so Fe.rf
  · refine fe_it ?_ ?_
    · exact fe_j Fe.rf (fe_mSide_laysAck_b153 hk108 _ _ _ _ _ _) (fun x k hx => by simp only [wI_mSide_laysAck_b153] at hx; rcases hx with e | e <;> first | exact Or.inl (e) | exact Or.inr (e)) (fun x k hx => False.elim hx)
    · refine fe_it fe_no ?_
      refine fe_b2 Fe.rf (fe_mBook_range _ _ _ _ _) (fun x k hx => False.elim hx) (fun x k hx => False.elim hx) (fun r33 h31 F1 => ?_)
      refine fe_it fe_no ?_
      refine fe_b2 F1 (fe_mBook_range _ _ _ _ _) (fun x k hx => False.elim hx) (fun x k hx => False.elim hx) (fun r37 h35 F2 => ?_)
      refine fe_it fe_no ?_
      refine fe_b1 F2 (fe_mDraft_number _ _ _) (fun x k hx => by simp only [wI_mDraft_number, F1.r, F2.r] at hx; rcases hx with e | e <;> first | exact Or.inl (e) | exact Or.inr (e)) (fun x k hx => False.elim hx) (fun h39 F3 => ?_)
      exact fe_j F3 (fe_mSide_laysAck_b153 hk108 _ _ _ _ _ _) (fun x k hx => by simp only [wI_mSide_laysAck_b153, F1.r, F2.r, F3.r] at hx; rcases hx with e | e <;> first | exact Or.inl (e) | exact Or.inr (e)) (fun x k hx => False.elim hx)
theorem fe_mSide_laysAck_b108_lp (n : Nat) : ∀ (v0 : Nat) (v1 : Int) (v3 : Int) (v4 : Nat) (v5 : Int) (h : Hp), Feo (wI_mSide_laysAck_b108 v0 v1 v3 v4 v5 h) (wJ_mSide_laysAck_b108 v0 v1 v3 v4 v5 h) h Prod.snd (f_mSide_laysAck_b108_lp n v0 v1 v3 v4 v5 h) := by
  induction n with
  | zero => intro v0 v1 v3 v4 v5 h; exact fe_no
  | succ n ih => intro v0 v1 v3 v4 v5 h; exact fe_mSide_laysAck_b108 ih v0 v1 v3 v4 v5 h
theorem fe_mSide_laysAck_b44 (v0 : Nat) (v1 : Int) (v3 : Int) (h : Hp) : Feo (wI_mSide_laysAck_b44 v0 v1 v3 h) (wJ_mSide_laysAck_b44 v0 v1 v3 h) h Prod.snd (f_mSide_laysAck_b44 v0 v1 v3 h) := by
  unfold f_mSide_laysAck_b44
  refine fe_it ?_ ?_
  · refine fe_it fe_no ?_
    refine fe_it ?_ fe_no
    refine fe_l ?_
    refine fe_it fe_no ?_
    refine fe_b1 Fe.rf (fe_mDraft_put _ _ _ _) (fun x k hx => by simp only [wI_mDraft_put] at hx; rcases hx with e | e <;> first | exact Or.inl (e) | exact Or.inr (e)) (fun x k hx => False.elim hx) (fun h14 F1 => ?_)
    refine fe_it fe_no ?_
    refine fe_b2 F1 (fe_mBook_range _ _ _ _ _) (fun x k hx => False.elim hx) (fun x k hx => False.elim hx) (fun r19 h17 F2 => ?_)
    refine fe_b1 F2 (fe_mDraft_number _ _ _) (fun x k hx => by simp only [wI_mDraft_number, F1.r, F2.r] at hx; rcases hx with e | e <;> first | exact Or.inl (e) | exact Or.inr (e)) (fun x k hx => False.elim hx) (fun h20 F3 => ?_)
    refine fe_it fe_no ?_
    refine fe_b2 F3 (fe_mBook_delay _ _ _) (fun x k hx => False.elim hx) (fun x k hx => False.elim hx) (fun r25 h23 F4 => ?_)
    refine fe_b1 F4 (fe_mDraft_number _ _ _) (fun x k hx => by simp only [wI_mDraft_number, F1.r, F2.r, F3.r, F4.r] at hx; rcases hx with e | e <;> first | exact Or.inl (e) | exact Or.inr (e)) (fun x k hx => False.elim hx) (fun h26 F5 => ?_)
    refine fe_b1 F5 (fe_mDraft_number _ _ _) (fun x k hx => by simp only [wI_mDraft_number, F1.r, F2.r, F3.r, F4.r, F5.r] at hx; rcases hx with e | e <;> first | exact Or.inl (e) | exact Or.inr (e)) (fun x k hx => False.elim hx) (fun h28 F6 => ?_)
    exact fe_j F6 (fe_mSide_laysAck_b108_lp FU _ _ _ _ _ _) (fun x k hx => by simp only [wI_mSide_laysAck_b108, F1.r, F2.r, F3.r, F4.r, F5.r, F6.r] at hx; rcases hx with e | e <;> first | exact Or.inl (e) | exact Or.inr (e)) (fun x k hx => False.elim hx)
  · exact fe_so Fe.rf
theorem fe_mSide_laysAck_b24 {k24 : Nat → Int → Int → Int → Hp → Option (Int × Hp)} (hk24 : ∀ (v0 : Nat) (v1 : Int) (v2 : Int) (v3 : Int) (h : Hp), Feo (wI_mSide_laysAck_b24 v0 v1 v2 v3 h) (wJ_mSide_laysAck_b24 v0 v1 v2 v3 h) h Prod.snd (k24 v0 v1 v2 v3 h)) (v0 : Nat) (v1 : Int) (v2 : Int) (v3 : Int) (h : Hp) : Feo (wI_mSide_laysAck_b24 v0 v1 v2 v3 h) (wJ_mSide_laysAck_b24 v0 v1 v2 v3 h) h Prod.snd (f_mSide_laysAck_b24 k24 v0 v1 v2 v3 h) := by
  unfold f_mSide_laysAck_b24
  refine fe_it ?_ ?_
  · exact fe_j Fe.rf (fe_mSide_laysAck_b44 _ _ _ _) (fun x k hx => by simp only [wI_mSide_laysAck_b44] at hx; rcases hx with e | e <;> first | exact Or.inl (e) | exact Or.inr (e)) (fun x k hx => False.elim hx)
  · refine fe_b2 Fe.rf (fe_mSide_ackSize _ _ _ _) (fun x k hx => False.elim hx) (fun x k hx => False.elim hx) (fun r9 h7 F1 => ?_)
    refine fe_it ?_ ?_
    · exact fe_j F1 (fe_mSide_laysAck_b44 _ _ _ _) (fun x k hx => by simp only [wI_mSide_laysAck_b44, F1.r] at hx; rcases hx with e | e <;> first | exact Or.inl (e) | exact Or.inr (e)) (fun x k hx => False.elim hx)
    · exact fe_j F1 (hk24 _ _ _ _ _) (fun x k hx => by simp only [wI_mSide_laysAck_b24, F1.r] at hx; rcases hx with e | e <;> first | exact Or.inl (e) | exact Or.inr (e)) (fun x k hx => False.elim hx)
theorem fe_mSide_laysAck_b24_lp (n : Nat) : ∀ (v0 : Nat) (v1 : Int) (v2 : Int) (v3 : Int) (h : Hp), Feo (wI_mSide_laysAck_b24 v0 v1 v2 v3 h) (wJ_mSide_laysAck_b24 v0 v1 v2 v3 h) h Prod.snd (f_mSide_laysAck_b24_lp n v0 v1 v2 v3 h) := by
  induction n with
  | zero => intro v0 v1 v2 v3 h; exact fe_no
  | succ n ih => intro v0 v1 v2 v3 h; exact fe_mSide_laysAck_b24 ih v0 v1 v2 v3 h
theorem fe_mSide_laysAck (v0 : Nat) (v1 : Int) (v2 : Int) (h : Hp) : Feo (wI_mSide_laysAck v0 v1 v2 h) (wJ_mSide_laysAck v0 v1 v2 h) h Prod.snd (f_mSide_laysAck v0 v1 v2 h) := by
  unfold f_mSide_laysAck
  refine fe_it fe_no ?_
  refine fe_it fe_no ?_
  refine fe_it ?_ fe_no
  refine fe_it ?_ ?_
  · refine fe_it fe_no ?_
    refine fe_it ?_ fe_no
    refine fe_v (fun y6 => ?_)
    exact fe_j Fe.rf (fe_mSide_laysAck_b24_lp FU _ _ _ _ _) (fun x k hx => by simp only [wI_mSide_laysAck_b24] at hx; rcases hx with e | e <;> first | exact Or.inl (e) | exact Or.inr (e)) (fun x k hx => False.elim hx)
  · exact fe_so Fe.rf
def wI_mBook_flight_b67 (v0 : Nat) (v2 : Int) (v3 : Int) (s0 : Int) (s1 : Int) (h : Hp) (x k : Nat) : Prop := False
def wJ_mBook_flight_b67 (v0 : Nat) (v2 : Int) (v3 : Int) (s0 : Int) (s1 : Int) (h : Hp) (x k : Nat) : Prop := False
def wI_mBook_flight_b66 (v0 : Nat) (v2 : Int) (v3 : Int) (s0 : Int) (h : Hp) (x k : Nat) : Prop := False
def wJ_mBook_flight_b66 (v0 : Nat) (v2 : Int) (v3 : Int) (s0 : Int) (h : Hp) (x k : Nat) : Prop := False
def wI_mBook_flight_b16 (v0 : Nat) (v1 : Int) (v2 : Int) (v3 : Int) (h : Hp) (x k : Nat) : Prop := False
def wJ_mBook_flight_b16 (v0 : Nat) (v1 : Int) (v2 : Int) (v3 : Int) (h : Hp) (x k : Nat) : Prop := False
def wI_mBook_flight_b4 (v0 : Nat) (v1 : Int) (v2 : Int) (h : Hp) (x k : Nat) : Prop := False
def wJ_mBook_flight_b4 (v0 : Nat) (v1 : Int) (v2 : Int) (h : Hp) (x k : Nat) : Prop := False
def wI_mBook_flight (v0 : Nat) (h : Hp) (x k : Nat) : Prop := False
def wJ_mBook_flight (v0 : Nat) (h : Hp) (x k : Nat) : Prop := False
theorem fe_mBook_flight_b67 {k4 : Nat → Int → Int → Hp → Option (Int × Hp)} (hk4 : ∀ (v0 : Nat) (v1 : Int) (v2 : Int) (h : Hp), Feo (wI_mBook_flight_b4 v0 v1 v2 h) (wJ_mBook_flight_b4 v0 v1 v2 h) h Prod.snd (k4 v0 v1 v2 h)) {k16 : Nat → Int → Int → Int → Hp → Option (Int × Hp)} (hk16 : ∀ (v0 : Nat) (v1 : Int) (v2 : Int) (v3 : Int) (h : Hp), Feo (wI_mBook_flight_b16 v0 v1 v2 v3 h) (wJ_mBook_flight_b16 v0 v1 v2 v3 h) h Prod.snd (k16 v0 v1 v2 v3 h)) (v0 : Nat) (v2 : Int) (v3 : Int) (s0 : Int) (s1 : Int) (h : Hp) : Feo (wI_mBook_flight_b67 v0 v2 v3 s0 s1 h) (wJ_mBook_flight_b67 v0 v2 v3 s0 s1 h) h Prod.snd (f_mBook_flight_b67 k4 k16 v0 v2 v3 s0 s1 h) := by
  unfold f_mBook_flight_b67
  refine fe_v (fun y13 => ?_)
  exact fe_j Fe.rf (hk16 _ _ _ _ _) (fun x k hx => False.elim hx) (fun x k hx => False.elim hx)
theorem fe_mBook_flight_b66 {k4 : Nat → Int → Int → Hp → Option (Int × Hp)} (hk4 : ∀ (v0 : Nat) (v1 : Int) (v2 : Int) (h : Hp), Feo (wI_mBook_flight_b4 v0 v1 v2 h) (wJ_mBook_flight_b4 v0 v1 v2 h) h Prod.snd (k4 v0 v1 v2 h)) {k16 : Nat → Int → Int → Int → Hp → Option (Int × Hp)} (hk16 : ∀ (v0 : Nat) (v1 : Int) (v2 : Int) (v3 : Int) (h : Hp), Feo (wI_mBook_flight_b16 v0 v1 v2 v3 h) (wJ_mBook_flight_b16 v0 v1 v2 v3 h) h Prod.snd (k16 v0 v1 v2 v3 h)) (v0 : Nat) (v2 : Int) (v3 : Int) (s0 : Int) (h : Hp) : Feo (wI_mBook_flight_b66 v0 v2 v3 s0 h) (wJ_mBook_flight_b66 v0 v2 v3 s0 h) h Prod.snd (f_mBook_flight_b66 k4 k16 v0 v2 v3 s0 h) := by
  unfold f_mBook_flight_b66
  exact fe_j Fe.rf (fe_mBook_flight_b67 hk4 hk16 _ _ _ _ _ _) (fun x k hx => False.elim hx) (fun x k hx => False.elim hx)
theorem fe_mBook_flight_b16 {k4 : Nat → Int → Int → Hp → Option (Int × Hp)} (hk4 : ∀ (v0 : Nat) (v1 : Int) (v2 : Int) (h : Hp), Feo (wI_mBook_flight_b4 v0 v1 v2 h) (wJ_mBook_flight_b4 v0 v1 v2 h) h Prod.snd (k4 v0 v1 v2 h)) {k16 : Nat → Int → Int → Int → Hp → Option (Int × Hp)} (hk16 : ∀ (v0 : Nat) (v1 : Int) (v2 : Int) (v3 : Int) (h : Hp), Feo (wI_mBook_flight_b16 v0 v1 v2 v3 h) (wJ_mBook_flight_b16 v0 v1 v2 v3 h) h Prod.snd (k16 v0 v1 v2 v3 h)) (v0 : Nat) (v1 : Int) (v2 : Int) (v3 : Int) (h : Hp) : Feo (wI_mBook_flight_b16 v0 v1 v2 v3 h) (wJ_mBook_flight_b16 v0 v1 v2 v3 h) h Prod.snd (f_mBook_flight_b16 k4 k16 v0 v1 v2 v3 h) := by
  unfold f_mBook_flight_b16
  refine fe_it fe_no ?_
  refine fe_it ?_ fe_no
  refine fe_it ?_ ?_
  · exact fe_j Fe.rf (hk4 _ _ _ _) (fun x k hx => False.elim hx) (fun x k hx => False.elim hx)
  · refine fe_b2 Fe.rf (fe_mBook_isOut _ _ _ _) (fun x k hx => False.elim hx) (fun x k hx => False.elim hx) (fun r8 h6 F1 => ?_)
    refine fe_it ?_ ?_
    · exact fe_j F1 (fe_mBook_flight_b66 hk4 hk16 _ _ _ _ _) (fun x k hx => False.elim hx) (fun x k hx => False.elim hx)
    · refine fe_it fe_no ?_
      refine fe_it ?_ fe_no
      refine fe_it ?_ ?_
      · exact fe_j F1 (fe_mBook_flight_b66 hk4 hk16 _ _ _ _ _) (fun x k hx => False.elim hx) (fun x k hx => False.elim hx)
      · refine fe_it fe_no ?_
        refine fe_it ?_ fe_no
        exact fe_j F1 (fe_mBook_flight_b67 hk4 hk16 _ _ _ _ _ _) (fun x k hx => False.elim hx) (fun x k hx => False.elim hx)
theorem fe_mBook_flight_b16_lp {k4 : Nat → Int → Int → Hp → Option (Int × Hp)} (hk4 : ∀ (v0 : Nat) (v1 : Int) (v2 : Int) (h : Hp), Feo (wI_mBook_flight_b4 v0 v1 v2 h) (wJ_mBook_flight_b4 v0 v1 v2 h) h Prod.snd (k4 v0 v1 v2 h)) (n : Nat) : ∀ (v0 : Nat) (v1 : Int) (v2 : Int) (v3 : Int) (h : Hp), Feo (wI_mBook_flight_b16 v0 v1 v2 v3 h) (wJ_mBook_flight_b16 v0 v1 v2 v3 h) h Prod.snd (f_mBook_flight_b16_lp k4 n v0 v1 v2 v3 h) := by
  induction n with
  | zero => intro v0 v1 v2 v3 h; exact fe_no
  | succ n ih => intro v0 v1 v2 v3 h; exact fe_mBook_flight_b16 hk4 ih v0 v1 v2 v3 h
theorem fe_mBook_flight_b4 {k4 : Nat → Int → Int → Hp → Option (Int × Hp)} (hk4 : ∀ (v0 : Nat) (v1 : Int) (v2 : Int) (h : Hp), Feo (wI_mBook_flight_b4 v0 v1 v2 h) (wJ_mBook_flight_b4 v0 v1 v2 h) h Prod.snd (k4 v0 v1 v2 h)) (v0 : Nat) (v1 : Int) (v2 : Int) (h : Hp) : Feo (wI_mBook_flight_b4 v0 v1 v2 h) (wJ_mBook_flight_b4 v0 v1 v2 h) h Prod.snd (f_mBook_flight_b4 k4 v0 v1 v2 h) := by
  unfold f_mBook_flight_b4
  refine fe_it ?_ ?_
  · exact fe_so Fe.rf
  · refine fe_it fe_no ?_
    refine fe_it ?_ fe_no
    refine fe_v (fun y3 => ?_)
    exact fe_j Fe.rf (fe_mBook_flight_b16_lp hk4 FU _ _ _ _ _) (fun x k hx => False.elim hx) (fun x k hx => False.elim hx)
theorem fe_mBook_flight_b4_lp (n : Nat) : ∀ (v0 : Nat) (v1 : Int) (v2 : Int) (h : Hp), Feo (wI_mBook_flight_b4 v0 v1 v2 h) (wJ_mBook_flight_b4 v0 v1 v2 h) h Prod.snd (f_mBook_flight_b4_lp n v0 v1 v2 h) := by
  induction n with
  | zero => intro v0 v1 v2 h; exact fe_no
  | succ n ih => intro v0 v1 v2 h; exact fe_mBook_flight_b4 ih v0 v1 v2 h
theorem fe_mBook_flight (v0 : Nat) (h : Hp) : Feo (wI_mBook_flight v0 h) (wJ_mBook_flight v0 h) h Prod.snd (f_mBook_flight v0 h) := by
  unfold f_mBook_flight
  exact fe_j Fe.rf (fe_mBook_flight_b4_lp FU _ _ _ _) (fun x k hx => False.elim hx) (fun x k hx => False.elim hx)
def wI_mStreams_bytes_b38 (v0 : Nat) (s0 : Int) (s1 : Int) (h : Hp) (x k : Nat) : Prop := False
def wJ_mStreams_bytes_b38 (v0 : Nat) (s0 : Int) (s1 : Int) (h : Hp) (x k : Nat) : Prop := False
def wI_mStreams_bytes_b108 (v0 : Nat) (v1 : Int) (h : Hp) (x k : Nat) : Prop := False
def wJ_mStreams_bytes_b108 (v0 : Nat) (v1 : Int) (h : Hp) (x k : Nat) : Prop := False
def wI_mStreams_bytes_b98 (v0 : Nat) (v1 : Int) (h : Hp) (x k : Nat) : Prop := False
def wJ_mStreams_bytes_b98 (v0 : Nat) (v1 : Int) (h : Hp) (x k : Nat) : Prop := False
def wI_mStreams_bytes (v0 : Nat) (h : Hp) (x k : Nat) : Prop := False
def wJ_mStreams_bytes (v0 : Nat) (h : Hp) (x k : Nat) : Prop := False
theorem fe_mStreams_bytes_b38 (v0 : Nat) (s0 : Int) (s1 : Int) (h : Hp) : Feo (wI_mStreams_bytes_b38 v0 s0 s1 h) (wJ_mStreams_bytes_b38 v0 s0 s1 h) h Prod.snd (f_mStreams_bytes_b38 v0 s0 s1 h) := by
  unfold f_mStreams_bytes_b38
  refine fe_b2 Fe.rf (fe_mWire_needs _ _) (fun x k hx => False.elim hx) (fun x k hx => False.elim hx) (fun r20 h18 F1 => ?_)
  exact fe_so F1
theorem fe_mStreams_bytes_b108 (v0 : Nat) (v1 : Int) (h : Hp) : Feo (wI_mStreams_bytes_b108 v0 v1 h) (wJ_mStreams_bytes_b108 v0 v1 h) h Prod.snd (f_mStreams_bytes_b108 v0 v1 h) := by
  unfold f_mStreams_bytes_b108
  refine fe_it ?_ ?_
  · exact fe_so Fe.rf
  · refine fe_b2 Fe.rf (fe_mWire_needs _ _) (fun x k hx => False.elim hx) (fun x k hx => False.elim hx) (fun r17 h15 F1 => ?_)
    exact fe_so F1
theorem fe_mStreams_bytes_b98 (v0 : Nat) (v1 : Int) (h : Hp) : Feo (wI_mStreams_bytes_b98 v0 v1 h) (wJ_mStreams_bytes_b98 v0 v1 h) h Prod.snd (f_mStreams_bytes_b98 v0 v1 h) := by
  unfold f_mStreams_bytes_b98
  refine fe_b2 Fe.rf (fe_mWire_needs _ _) (fun x k hx => False.elim hx) (fun x k hx => False.elim hx) (fun r13 h11 F1 => ?_)
  refine fe_v (fun y14 => ?_)
  exact fe_j F1 (fe_mStreams_bytes_b108 _ _ _) (fun x k hx => False.elim hx) (fun x k hx => False.elim hx)
theorem fe_mStreams_bytes (v0 : Nat) (h : Hp) : Feo (wI_mStreams_bytes v0 h) (wJ_mStreams_bytes v0 h) h Prod.snd (f_mStreams_bytes v0 h) := by
  unfold f_mStreams_bytes
  refine fe_it ?_ ?_
  · refine fe_b2 Fe.rf (fe_mWire_needs _ _) (fun x k hx => False.elim hx) (fun x k hx => False.elim hx) (fun r3 h1 F1 => ?_)
    refine fe_v (fun y4 => ?_)
    refine fe_it ?_ ?_
    · exact fe_j F1 (fe_mStreams_bytes_b98 _ _ _) (fun x k hx => False.elim hx) (fun x k hx => False.elim hx)
    · refine fe_it ?_ ?_
      · exact fe_j F1 (fe_mStreams_bytes_b98 _ _ _) (fun x k hx => False.elim hx) (fun x k hx => False.elim hx)
      · refine fe_it ?_ ?_
        · exact fe_j F1 (fe_mStreams_bytes_b98 _ _ _) (fun x k hx => False.elim hx) (fun x k hx => False.elim hx)
        · refine fe_it ?_ ?_
          · exact fe_j F1 (fe_mStreams_bytes_b108 _ _ _) (fun x k hx => False.elim hx) (fun x k hx => False.elim hx)
          · exact fe_j F1 (fe_mStreams_bytes_b98 _ _ _) (fun x k hx => False.elim hx) (fun x k hx => False.elim hx)
  · refine fe_b2 Fe.rf (fe_mWire_needs _ _) (fun x k hx => False.elim hx) (fun x k hx => False.elim hx) (fun r7 h5 F2 => ?_)
    refine fe_it ?_ ?_
    · exact fe_j F2 (fe_mStreams_bytes_b38 _ _ _ _) (fun x k hx => False.elim hx) (fun x k hx => False.elim hx)
    · refine fe_b2 F2 (fe_mWire_needs _ _) (fun x k hx => False.elim hx) (fun x k hx => False.elim hx) (fun r10 h8 F3 => ?_)
      exact fe_j F3 (fe_mStreams_bytes_b38 _ _ _ _) (fun x k hx => False.elim hx) (fun x k hx => False.elim hx)
def wI_mStreams_lays (v0 : Nat) (v1 : Int) (v2 : Int) (v4 : Int) (v6 : Int) (v8 : Int) (h : Hp) (x k : Nat) : Prop := (x = v0 ∧ k = 50) ∨ (x = v0 ∧ k = 54)
def wJ_mStreams_lays (v0 : Nat) (v1 : Int) (v2 : Int) (v4 : Int) (v6 : Int) (v8 : Int) (h : Hp) (x k : Nat) : Prop := (x = v0 ∧ k = 51) ∨ (x = v0 ∧ k = 52) ∨ (x = v0 ∧ k = 53)
theorem fe_mStreams_lays (v0 : Nat) (v1 : Int) (v2 : Int) (v4 : Int) (v6 : Int) (v8 : Int) (h : Hp) : Feo (wI_mStreams_lays v0 v1 v2 v4 v6 v8 h) (wJ_mStreams_lays v0 v1 v2 v4 v6 v8 h) h Prod.snd (f_mStreams_lays v0 v1 v2 v4 v6 v8 h) := by
  unfold f_mStreams_lays
  refine fe_I Fe.rf (Or.inl (⟨rfl, rfl⟩)) (fun h1 F1 => ?_)
  refine fe_J F1 (Or.inl (⟨rfl, rfl⟩)) (fun h2 F2 => ?_)
  refine fe_J F2 (Or.inr (Or.inl (⟨rfl, rfl⟩))) (fun h3 F3 => ?_)
  refine fe_J F3 (Or.inr (Or.inr (⟨rfl, rfl⟩))) (fun h4 F4 => ?_)
  refine fe_I F4 (Or.inr (⟨rfl, rfl⟩)) (fun h5 F5 => ?_)
  refine fe_b2 F5 (fe_mStreams_bytes _ _) (fun x k hx => False.elim hx) (fun x k hx => False.elim hx) (fun r8 h6 F6 => ?_)
  refine fe_it ?_ ?_
  · exact fe_so F6
  · exact fe_so F6
def wI_mStreams_fillsResets_b73 (v0 : Nat) (v1 : Int) (v2 : Int) (v3 : Int) (h : Hp) (x k : Nat) : Prop := x = hR h v0 17 ∨ x = hR h v0 36 ∨ (x = v0 ∧ k = 50) ∨ (x = v0 ∧ k = 54)
def wJ_mStreams_fillsResets_b73 (v0 : Nat) (v1 : Int) (v2 : Int) (v3 : Int) (h : Hp) (x k : Nat) : Prop := (x = v0 ∧ k = 51) ∨ (x = v0 ∧ k = 52) ∨ (x = v0 ∧ k = 53)
def wI_mStreams_fillsResets_b144 (v0 : Nat) (v1 : Int) (v2 : Int) (v3 : Int) (h : Hp) (x k : Nat) : Prop := x = hR h v0 36 ∨ (x = v0 ∧ k = 50) ∨ (x = v0 ∧ k = 54)
def wJ_mStreams_fillsResets_b144 (v0 : Nat) (v1 : Int) (v2 : Int) (v3 : Int) (h : Hp) (x k : Nat) : Prop := (x = v0 ∧ k = 51) ∨ (x = v0 ∧ k = 52) ∨ (x = v0 ∧ k = 53)
def wI_mStreams_fillsResets_b81 (v0 : Nat) (v1 : Int) (v2 : Int) (v3 : Int) (h : Hp) (x k : Nat) : Prop := x = hR h v0 36 ∨ (x = v0 ∧ k = 50) ∨ (x = v0 ∧ k = 54)
def wJ_mStreams_fillsResets_b81 (v0 : Nat) (v1 : Int) (v2 : Int) (v3 : Int) (h : Hp) (x k : Nat) : Prop := (x = v0 ∧ k = 51) ∨ (x = v0 ∧ k = 52) ∨ (x = v0 ∧ k = 53)
def wI_mStreams_fillsResets_b2 (v0 : Nat) (v1 : Int) (v2 : Int) (v3 : Int) (h : Hp) (x k : Nat) : Prop := x = hR h v0 17 ∨ x = hR h v0 36 ∨ (x = v0 ∧ k = 50) ∨ (x = v0 ∧ k = 54)
def wJ_mStreams_fillsResets_b2 (v0 : Nat) (v1 : Int) (v2 : Int) (v3 : Int) (h : Hp) (x k : Nat) : Prop := (x = v0 ∧ k = 51) ∨ (x = v0 ∧ k = 52) ∨ (x = v0 ∧ k = 53)
def wI_mStreams_fillsResets (v0 : Nat) (v1 : Int) (v2 : Int) (h : Hp) (x k : Nat) : Prop := x = hR h v0 17 ∨ x = hR h v0 36 ∨ (x = v0 ∧ k = 50) ∨ (x = v0 ∧ k = 54)
def wJ_mStreams_fillsResets (v0 : Nat) (v1 : Int) (v2 : Int) (h : Hp) (x k : Nat) : Prop := (x = v0 ∧ k = 51) ∨ (x = v0 ∧ k = 52) ∨ (x = v0 ∧ k = 53)
theorem fe_mStreams_fillsResets_b73 {k2 : Nat → Int → Int → Int → Hp → Option (Int × Hp)} (hk2 : ∀ (v0 : Nat) (v1 : Int) (v2 : Int) (v3 : Int) (h : Hp), Feo (wI_mStreams_fillsResets_b2 v0 v1 v2 v3 h) (wJ_mStreams_fillsResets_b2 v0 v1 v2 v3 h) h Prod.snd (k2 v0 v1 v2 v3 h)) (v0 : Nat) (v1 : Int) (v2 : Int) (v3 : Int) (h : Hp) : Feo (wI_mStreams_fillsResets_b73 v0 v1 v2 v3 h) (wJ_mStreams_fillsResets_b73 v0 v1 v2 v3 h) h Prod.snd (f_mStreams_fillsResets_b73 k2 v0 v1 v2 v3 h) := by
  unfold f_mStreams_fillsResets_b73
  exact fe_j Fe.rf (hk2 _ _ _ _ _) (fun x k hx => by simp only [wI_mStreams_fillsResets_b2] at hx; rcases hx with e | e | e | e <;> first | exact Or.inl (e) | exact Or.inr (Or.inl (e)) | exact Or.inr (Or.inr (Or.inl (e))) | exact Or.inr (Or.inr (Or.inr (e)))) (fun x k hx => by simp only [wJ_mStreams_fillsResets_b2] at hx; rcases hx with e | e | e <;> first | exact Or.inl (e) | exact Or.inr (Or.inl (e)) | exact Or.inr (Or.inr (e)))
theorem fe_mStreams_fillsResets_b144 {k81 : Nat → Int → Int → Int → Hp → Option (Int × Hp)} (hk81 : ∀ (v0 : Nat) (v1 : Int) (v2 : Int) (v3 : Int) (h : Hp), Feo (wI_mStreams_fillsResets_b81 v0 v1 v2 v3 h) (wJ_mStreams_fillsResets_b81 v0 v1 v2 v3 h) h Prod.snd (k81 v0 v1 v2 v3 h)) (v0 : Nat) (v1 : Int) (v2 : Int) (v3 : Int) (h : Hp) : Feo (wI_mStreams_fillsResets_b144 v0 v1 v2 v3 h) (wJ_mStreams_fillsResets_b144 v0 v1 v2 v3 h) h Prod.snd (f_mStreams_fillsResets_b144 k81 v0 v1 v2 v3 h) := by
  unfold f_mStreams_fillsResets_b144
  exact fe_j Fe.rf (hk81 _ _ _ _ _) (fun x k hx => by simp only [wI_mStreams_fillsResets_b81] at hx; rcases hx with e | e | e <;> first | exact Or.inl (e) | exact Or.inr (Or.inl (e)) | exact Or.inr (Or.inr (e))) (fun x k hx => by simp only [wJ_mStreams_fillsResets_b81] at hx; rcases hx with e | e | e <;> first | exact Or.inl (e) | exact Or.inr (Or.inl (e)) | exact Or.inr (Or.inr (e)))
theorem fe_mStreams_fillsResets_b81 {k81 : Nat → Int → Int → Int → Hp → Option (Int × Hp)} (hk81 : ∀ (v0 : Nat) (v1 : Int) (v2 : Int) (v3 : Int) (h : Hp), Feo (wI_mStreams_fillsResets_b81 v0 v1 v2 v3 h) (wJ_mStreams_fillsResets_b81 v0 v1 v2 v3 h) h Prod.snd (k81 v0 v1 v2 v3 h)) (v0 : Nat) (v1 : Int) (v2 : Int) (v3 : Int) (h : Hp) : Feo (wI_mStreams_fillsResets_b81 v0 v1 v2 v3 h) (wJ_mStreams_fillsResets_b81 v0 v1 v2 v3 h) h Prod.snd (f_mStreams_fillsResets_b81 k81 v0 v1 v2 v3 h) := by
  unfold f_mStreams_fillsResets_b81
  refine fe_it ?_ ?_
  · exact fe_so Fe.rf
  · refine fe_b2 Fe.rf (fe_mStreams_at _ _ _) (fun x k hx => False.elim hx) (fun x k hx => False.elim hx) (fun r20 h18 F1 => ?_)
    refine fe_it fe_no ?_
    refine fe_it ?_ fe_no
    refine fe_it ?_ ?_
    · exact fe_j F1 (fe_mStreams_fillsResets_b144 hk81 _ _ _ _ _) (fun x k hx => by simp only [wI_mStreams_fillsResets_b144, F1.r] at hx; rcases hx with e | e | e <;> first | exact Or.inl (e) | exact Or.inr (Or.inl (e)) | exact Or.inr (Or.inr (e))) (fun x k hx => by simp only [wJ_mStreams_fillsResets_b144, F1.r] at hx; rcases hx with e | e | e <;> first | exact Or.inl (e) | exact Or.inr (Or.inl (e)) | exact Or.inr (Or.inr (e)))
    · refine fe_b2 F1 (fe_mStreams_receiving _ _ _) (fun x k hx => False.elim hx) (fun x k hx => False.elim hx) (fun r25 h23 F2 => ?_)
      refine fe_it ?_ ?_
      · exact fe_j F2 (fe_mStreams_fillsResets_b144 hk81 _ _ _ _ _) (fun x k hx => by simp only [wI_mStreams_fillsResets_b144, F1.r, F2.r] at hx; rcases hx with e | e | e <;> first | exact Or.inl (e) | exact Or.inr (Or.inl (e)) | exact Or.inr (Or.inr (e))) (fun x k hx => by simp only [wJ_mStreams_fillsResets_b144, F1.r, F2.r] at hx; rcases hx with e | e | e <;> first | exact Or.inl (e) | exact Or.inr (Or.inl (e)) | exact Or.inr (Or.inr (e)))
      · refine fe_it fe_no ?_
        refine fe_it ?_ fe_no
        refine fe_b2 F2 (fe_mStreams_lays _ _ _ _ _ _ _) (fun x k hx => by simp only [wI_mStreams_lays, F1.r, F2.r] at hx; rcases hx with e | e <;> first | exact Or.inr (Or.inl (e)) | exact Or.inr (Or.inr (e))) (fun x k hx => by simp only [wJ_mStreams_lays, F1.r, F2.r] at hx; rcases hx with e | e | e <;> first | exact Or.inl (e) | exact Or.inr (Or.inl (e)) | exact Or.inr (Or.inr (e))) (fun r30 h28 F3 => ?_)
        refine fe_it ?_ ?_
        · exact fe_j F3 (fe_mStreams_fillsResets_b144 hk81 _ _ _ _ _) (fun x k hx => by simp only [wI_mStreams_fillsResets_b144, F1.r, F2.r, F3.r] at hx; rcases hx with e | e | e <;> first | exact Or.inl (e) | exact Or.inr (Or.inl (e)) | exact Or.inr (Or.inr (e))) (fun x k hx => by simp only [wJ_mStreams_fillsResets_b144, F1.r, F2.r, F3.r] at hx; rcases hx with e | e | e <;> first | exact Or.inl (e) | exact Or.inr (Or.inl (e)) | exact Or.inr (Or.inr (e)))
        · refine fe_it fe_no ?_
          refine fe_it ?_ fe_no
          refine fe_I F3 (Or.inl ((by first | (simp only [F1.r, F2.r, F3.r]; exact rfl) | simp only [F1.r, F2.r, F3.r]))) (fun h33 F4 => ?_)
          exact fe_so F4
theorem fe_mStreams_fillsResets_b81_lp (n : Nat) : ∀ (v0 : Nat) (v1 : Int) (v2 : Int) (v3 : Int) (h : Hp), Feo (wI_mStreams_fillsResets_b81 v0 v1 v2 v3 h) (wJ_mStreams_fillsResets_b81 v0 v1 v2 v3 h) h Prod.snd (f_mStreams_fillsResets_b81_lp n v0 v1 v2 v3 h) := by
  induction n with
  | zero => intro v0 v1 v2 v3 h; exact fe_no
  | succ n ih => intro v0 v1 v2 v3 h; exact fe_mStreams_fillsResets_b81 ih v0 v1 v2 v3 h
theorem fe_mStreams_fillsResets_b2 {k2 : Nat → Int → Int → Int → Hp → Option (Int × Hp)} (hk2 : ∀ (v0 : Nat) (v1 : Int) (v2 : Int) (v3 : Int) (h : Hp), Feo (wI_mStreams_fillsResets_b2 v0 v1 v2 v3 h) (wJ_mStreams_fillsResets_b2 v0 v1 v2 v3 h) h Prod.snd (k2 v0 v1 v2 v3 h)) (v0 : Nat) (v1 : Int) (v2 : Int) (v3 : Int) (h : Hp) : Feo (wI_mStreams_fillsResets_b2 v0 v1 v2 v3 h) (wJ_mStreams_fillsResets_b2 v0 v1 v2 v3 h) h Prod.snd (f_mStreams_fillsResets_b2 k2 v0 v1 v2 v3 h) := by
  unfold f_mStreams_fillsResets_b2
  refine fe_it ?_ ?_
  · exact fe_j Fe.rf (fe_mStreams_fillsResets_b81_lp FU _ _ _ _ _) (fun x k hx => by simp only [wI_mStreams_fillsResets_b81] at hx; rcases hx with e | e | e <;> first | exact Or.inr (Or.inl (e)) | exact Or.inr (Or.inr (Or.inl (e))) | exact Or.inr (Or.inr (Or.inr (e)))) (fun x k hx => by simp only [wJ_mStreams_fillsResets_b81] at hx; rcases hx with e | e | e <;> first | exact Or.inl (e) | exact Or.inr (Or.inl (e)) | exact Or.inr (Or.inr (e)))
  · refine fe_b2 Fe.rf (fe_mStreams_at _ _ _) (fun x k hx => False.elim hx) (fun x k hx => False.elim hx) (fun r3 h1 F1 => ?_)
    refine fe_it fe_no ?_
    refine fe_it ?_ fe_no
    refine fe_it ?_ ?_
    · exact fe_j F1 (fe_mStreams_fillsResets_b73 hk2 _ _ _ _ _) (fun x k hx => by simp only [wI_mStreams_fillsResets_b73, F1.r] at hx; rcases hx with e | e | e | e <;> first | exact Or.inl (e) | exact Or.inr (Or.inl (e)) | exact Or.inr (Or.inr (Or.inl (e))) | exact Or.inr (Or.inr (Or.inr (e)))) (fun x k hx => by simp only [wJ_mStreams_fillsResets_b73, F1.r] at hx; rcases hx with e | e | e <;> first | exact Or.inl (e) | exact Or.inr (Or.inl (e)) | exact Or.inr (Or.inr (e)))
    · refine fe_it fe_no ?_
      refine fe_it ?_ fe_no
      refine fe_it ?_ ?_
      · exact fe_j F1 (fe_mStreams_fillsResets_b73 hk2 _ _ _ _ _) (fun x k hx => by simp only [wI_mStreams_fillsResets_b73, F1.r] at hx; rcases hx with e | e | e | e <;> first | exact Or.inl (e) | exact Or.inr (Or.inl (e)) | exact Or.inr (Or.inr (Or.inl (e))) | exact Or.inr (Or.inr (Or.inr (e)))) (fun x k hx => by simp only [wJ_mStreams_fillsResets_b73, F1.r] at hx; rcases hx with e | e | e <;> first | exact Or.inl (e) | exact Or.inr (Or.inl (e)) | exact Or.inr (Or.inr (e)))
      · refine fe_it fe_no ?_
        refine fe_it ?_ fe_no
        refine fe_it fe_no ?_
        refine fe_it ?_ fe_no
        refine fe_b2 F1 (fe_mStreams_lays _ _ _ _ _ _ _) (fun x k hx => by simp only [wI_mStreams_lays, F1.r] at hx; rcases hx with e | e <;> first | exact Or.inr (Or.inr (Or.inl (e))) | exact Or.inr (Or.inr (Or.inr (e)))) (fun x k hx => by simp only [wJ_mStreams_lays, F1.r] at hx; rcases hx with e | e | e <;> first | exact Or.inl (e) | exact Or.inr (Or.inl (e)) | exact Or.inr (Or.inr (e))) (fun r14 h12 F2 => ?_)
        refine fe_it ?_ ?_
        · exact fe_j F2 (fe_mStreams_fillsResets_b73 hk2 _ _ _ _ _) (fun x k hx => by simp only [wI_mStreams_fillsResets_b73, F1.r, F2.r] at hx; rcases hx with e | e | e | e <;> first | exact Or.inl (e) | exact Or.inr (Or.inl (e)) | exact Or.inr (Or.inr (Or.inl (e))) | exact Or.inr (Or.inr (Or.inr (e)))) (fun x k hx => by simp only [wJ_mStreams_fillsResets_b73, F1.r, F2.r] at hx; rcases hx with e | e | e <;> first | exact Or.inl (e) | exact Or.inr (Or.inl (e)) | exact Or.inr (Or.inr (e)))
        · refine fe_it fe_no ?_
          refine fe_it ?_ fe_no
          refine fe_I F2 (Or.inl ((by first | (simp only [F1.r, F2.r]; exact rfl) | simp only [F1.r, F2.r]))) (fun h17 F3 => ?_)
          exact fe_so F3
theorem fe_mStreams_fillsResets_b2_lp (n : Nat) : ∀ (v0 : Nat) (v1 : Int) (v2 : Int) (v3 : Int) (h : Hp), Feo (wI_mStreams_fillsResets_b2 v0 v1 v2 v3 h) (wJ_mStreams_fillsResets_b2 v0 v1 v2 v3 h) h Prod.snd (f_mStreams_fillsResets_b2_lp n v0 v1 v2 v3 h) := by
  induction n with
  | zero => intro v0 v1 v2 v3 h; exact fe_no
  | succ n ih => intro v0 v1 v2 v3 h; exact fe_mStreams_fillsResets_b2 ih v0 v1 v2 v3 h
theorem fe_mStreams_fillsResets (v0 : Nat) (v1 : Int) (v2 : Int) (h : Hp) : Feo (wI_mStreams_fillsResets v0 v1 v2 h) (wJ_mStreams_fillsResets v0 v1 v2 h) h Prod.snd (f_mStreams_fillsResets v0 v1 v2 h) := by
  unfold f_mStreams_fillsResets
  exact fe_j Fe.rf (fe_mStreams_fillsResets_b2_lp FU _ _ _ _ _) (fun x k hx => by simp only [wI_mStreams_fillsResets_b2] at hx; rcases hx with e | e | e | e <;> first | exact Or.inl (e) | exact Or.inr (Or.inl (e)) | exact Or.inr (Or.inr (Or.inl (e))) | exact Or.inr (Or.inr (Or.inr (e)))) (fun x k hx => by simp only [wJ_mStreams_fillsResets_b2] at hx; rcases hx with e | e | e <;> first | exact Or.inl (e) | exact Or.inr (Or.inl (e)) | exact Or.inr (Or.inr (e)))
def wI_mStreams_fillsGrants_b165 (v0 : Nat) (v1 : Int) (v2 : Int) (v3 : Int) (h : Hp) (x k : Nat) : Prop := x = hR h v0 7 ∨ (x = v0 ∧ k = 50) ∨ (x = v0 ∧ k = 54)
def wJ_mStreams_fillsGrants_b165 (v0 : Nat) (v1 : Int) (v2 : Int) (v3 : Int) (h : Hp) (x k : Nat) : Prop := (x = v0 ∧ k = 51) ∨ (x = v0 ∧ k = 52) ∨ (x = v0 ∧ k = 53)
def wI_mStreams_fillsGrants_b109 (v0 : Nat) (v1 : Int) (v2 : Int) (v3 : Int) (h : Hp) (x k : Nat) : Prop := x = hR h v0 7 ∨ (x = v0 ∧ k = 50) ∨ (x = v0 ∧ k = 54)
def wJ_mStreams_fillsGrants_b109 (v0 : Nat) (v1 : Int) (v2 : Int) (v3 : Int) (h : Hp) (x k : Nat) : Prop := (x = v0 ∧ k = 51) ∨ (x = v0 ∧ k = 52) ∨ (x = v0 ∧ k = 53)
def wI_mStreams_fillsGrants_b101 (v0 : Nat) (v1 : Int) (v2 : Int) (v3 : Int) (h : Hp) (x k : Nat) : Prop := x = hR h v0 34 ∨ x = hR h v0 7 ∨ (x = v0 ∧ k = 50) ∨ (x = v0 ∧ k = 54)
def wJ_mStreams_fillsGrants_b101 (v0 : Nat) (v1 : Int) (v2 : Int) (v3 : Int) (h : Hp) (x k : Nat) : Prop := (x = v0 ∧ k = 51) ∨ (x = v0 ∧ k = 52) ∨ (x = v0 ∧ k = 53)
def wI_mStreams_fillsGrants_b38 (v0 : Nat) (v1 : Int) (v2 : Int) (v3 : Int) (h : Hp) (x k : Nat) : Prop := x = hR h v0 34 ∨ x = hR h v0 7 ∨ (x = v0 ∧ k = 50) ∨ (x = v0 ∧ k = 54)
def wJ_mStreams_fillsGrants_b38 (v0 : Nat) (v1 : Int) (v2 : Int) (v3 : Int) (h : Hp) (x k : Nat) : Prop := (x = v0 ∧ k = 51) ∨ (x = v0 ∧ k = 52) ∨ (x = v0 ∧ k = 53)
def wI_mStreams_fillsGrants_b36 (v0 : Nat) (v1 : Int) (v2 : Int) (h : Hp) (x k : Nat) : Prop := x = hR h v0 34 ∨ x = hR h v0 7 ∨ (x = v0 ∧ k = 50) ∨ (x = v0 ∧ k = 54)
def wJ_mStreams_fillsGrants_b36 (v0 : Nat) (v1 : Int) (v2 : Int) (h : Hp) (x k : Nat) : Prop := (x = v0 ∧ k = 51) ∨ (x = v0 ∧ k = 52) ∨ (x = v0 ∧ k = 53)
def wI_mStreams_fillsGrants (v0 : Nat) (v1 : Int) (v2 : Int) (h : Hp) (x k : Nat) : Prop := x = hR h v0 10 ∨ x = hR h v0 34 ∨ x = hR h v0 7 ∨ (x = v0 ∧ k = 50) ∨ (x = v0 ∧ k = 54)
def wJ_mStreams_fillsGrants (v0 : Nat) (v1 : Int) (v2 : Int) (h : Hp) (x k : Nat) : Prop := (x = v0 ∧ k = 51) ∨ (x = v0 ∧ k = 52) ∨ (x = v0 ∧ k = 53)
theorem fe_mStreams_fillsGrants_b165 {k109 : Nat → Int → Int → Int → Hp → Option (Int × Hp)} (hk109 : ∀ (v0 : Nat) (v1 : Int) (v2 : Int) (v3 : Int) (h : Hp), Feo (wI_mStreams_fillsGrants_b109 v0 v1 v2 v3 h) (wJ_mStreams_fillsGrants_b109 v0 v1 v2 v3 h) h Prod.snd (k109 v0 v1 v2 v3 h)) (v0 : Nat) (v1 : Int) (v2 : Int) (v3 : Int) (h : Hp) : Feo (wI_mStreams_fillsGrants_b165 v0 v1 v2 v3 h) (wJ_mStreams_fillsGrants_b165 v0 v1 v2 v3 h) h Prod.snd (f_mStreams_fillsGrants_b165 k109 v0 v1 v2 v3 h) := by
  unfold f_mStreams_fillsGrants_b165
  exact fe_j Fe.rf (hk109 _ _ _ _ _) (fun x k hx => by simp only [wI_mStreams_fillsGrants_b109] at hx; rcases hx with e | e | e <;> first | exact Or.inl (e) | exact Or.inr (Or.inl (e)) | exact Or.inr (Or.inr (e))) (fun x k hx => by simp only [wJ_mStreams_fillsGrants_b109] at hx; rcases hx with e | e | e <;> first | exact Or.inl (e) | exact Or.inr (Or.inl (e)) | exact Or.inr (Or.inr (e)))
theorem fe_mStreams_fillsGrants_b109 {k109 : Nat → Int → Int → Int → Hp → Option (Int × Hp)} (hk109 : ∀ (v0 : Nat) (v1 : Int) (v2 : Int) (v3 : Int) (h : Hp), Feo (wI_mStreams_fillsGrants_b109 v0 v1 v2 v3 h) (wJ_mStreams_fillsGrants_b109 v0 v1 v2 v3 h) h Prod.snd (k109 v0 v1 v2 v3 h)) (v0 : Nat) (v1 : Int) (v2 : Int) (v3 : Int) (h : Hp) : Feo (wI_mStreams_fillsGrants_b109 v0 v1 v2 v3 h) (wJ_mStreams_fillsGrants_b109 v0 v1 v2 v3 h) h Prod.snd (f_mStreams_fillsGrants_b109 k109 v0 v1 v2 v3 h) := by
  unfold f_mStreams_fillsGrants_b109
  refine fe_it ?_ ?_
  · exact fe_so Fe.rf
  · refine fe_it fe_no ?_
    refine fe_it ?_ fe_no
    refine fe_it ?_ ?_
    · exact fe_j Fe.rf (fe_mStreams_fillsGrants_b165 hk109 _ _ _ _ _) (fun x k hx => by simp only [wI_mStreams_fillsGrants_b165] at hx; rcases hx with e | e | e <;> first | exact Or.inl (e) | exact Or.inr (Or.inl (e)) | exact Or.inr (Or.inr (e))) (fun x k hx => by simp only [wJ_mStreams_fillsGrants_b165] at hx; rcases hx with e | e | e <;> first | exact Or.inl (e) | exact Or.inr (Or.inl (e)) | exact Or.inr (Or.inr (e)))
    · refine fe_it fe_no ?_
      refine fe_it ?_ fe_no
      refine fe_b2 Fe.rf (fe_mStreams_lays _ _ _ _ _ _ _) (fun x k hx => by simp only [wI_mStreams_lays] at hx; rcases hx with e | e <;> first | exact Or.inr (Or.inl (e)) | exact Or.inr (Or.inr (e))) (fun x k hx => by simp only [wJ_mStreams_lays] at hx; rcases hx with e | e | e <;> first | exact Or.inl (e) | exact Or.inr (Or.inl (e)) | exact Or.inr (Or.inr (e))) (fun r33 h31 F1 => ?_)
      refine fe_it ?_ ?_
      · exact fe_j F1 (fe_mStreams_fillsGrants_b165 hk109 _ _ _ _ _) (fun x k hx => by simp only [wI_mStreams_fillsGrants_b165, F1.r] at hx; rcases hx with e | e | e <;> first | exact Or.inl (e) | exact Or.inr (Or.inl (e)) | exact Or.inr (Or.inr (e))) (fun x k hx => by simp only [wJ_mStreams_fillsGrants_b165, F1.r] at hx; rcases hx with e | e | e <;> first | exact Or.inl (e) | exact Or.inr (Or.inl (e)) | exact Or.inr (Or.inr (e)))
      · refine fe_it fe_no ?_
        refine fe_it ?_ fe_no
        refine fe_I F1 (Or.inl ((by first | (simp only [F1.r]; exact rfl) | simp only [F1.r]))) (fun h36 F2 => ?_)
        exact fe_so F2
theorem fe_mStreams_fillsGrants_b109_lp (n : Nat) : ∀ (v0 : Nat) (v1 : Int) (v2 : Int) (v3 : Int) (h : Hp), Feo (wI_mStreams_fillsGrants_b109 v0 v1 v2 v3 h) (wJ_mStreams_fillsGrants_b109 v0 v1 v2 v3 h) h Prod.snd (f_mStreams_fillsGrants_b109_lp n v0 v1 v2 v3 h) := by
  induction n with
  | zero => intro v0 v1 v2 v3 h; exact fe_no
  | succ n ih => intro v0 v1 v2 v3 h; exact fe_mStreams_fillsGrants_b109 ih v0 v1 v2 v3 h
theorem fe_mStreams_fillsGrants_b101 {k38 : Nat → Int → Int → Int → Hp → Option (Int × Hp)} (hk38 : ∀ (v0 : Nat) (v1 : Int) (v2 : Int) (v3 : Int) (h : Hp), Feo (wI_mStreams_fillsGrants_b38 v0 v1 v2 v3 h) (wJ_mStreams_fillsGrants_b38 v0 v1 v2 v3 h) h Prod.snd (k38 v0 v1 v2 v3 h)) (v0 : Nat) (v1 : Int) (v2 : Int) (v3 : Int) (h : Hp) : Feo (wI_mStreams_fillsGrants_b101 v0 v1 v2 v3 h) (wJ_mStreams_fillsGrants_b101 v0 v1 v2 v3 h) h Prod.snd (f_mStreams_fillsGrants_b101 k38 v0 v1 v2 v3 h) := by
  unfold f_mStreams_fillsGrants_b101
  exact fe_j Fe.rf (hk38 _ _ _ _ _) (fun x k hx => by simp only [wI_mStreams_fillsGrants_b38] at hx; rcases hx with e | e | e | e <;> first | exact Or.inl (e) | exact Or.inr (Or.inl (e)) | exact Or.inr (Or.inr (Or.inl (e))) | exact Or.inr (Or.inr (Or.inr (e)))) (fun x k hx => by simp only [wJ_mStreams_fillsGrants_b38] at hx; rcases hx with e | e | e <;> first | exact Or.inl (e) | exact Or.inr (Or.inl (e)) | exact Or.inr (Or.inr (e)))
theorem fe_mStreams_fillsGrants_b38 {k38 : Nat → Int → Int → Int → Hp → Option (Int × Hp)} (hk38 : ∀ (v0 : Nat) (v1 : Int) (v2 : Int) (v3 : Int) (h : Hp), Feo (wI_mStreams_fillsGrants_b38 v0 v1 v2 v3 h) (wJ_mStreams_fillsGrants_b38 v0 v1 v2 v3 h) h Prod.snd (k38 v0 v1 v2 v3 h)) (v0 : Nat) (v1 : Int) (v2 : Int) (v3 : Int) (h : Hp) : Feo (wI_mStreams_fillsGrants_b38 v0 v1 v2 v3 h) (wJ_mStreams_fillsGrants_b38 v0 v1 v2 v3 h) h Prod.snd (f_mStreams_fillsGrants_b38 k38 v0 v1 v2 v3 h) := by
  unfold f_mStreams_fillsGrants_b38
  refine fe_it ?_ ?_
  · exact fe_j Fe.rf (fe_mStreams_fillsGrants_b109_lp FU _ _ _ _ _) (fun x k hx => by simp only [wI_mStreams_fillsGrants_b109] at hx; rcases hx with e | e | e <;> first | exact Or.inr (Or.inl (e)) | exact Or.inr (Or.inr (Or.inl (e))) | exact Or.inr (Or.inr (Or.inr (e)))) (fun x k hx => by simp only [wJ_mStreams_fillsGrants_b109] at hx; rcases hx with e | e | e <;> first | exact Or.inl (e) | exact Or.inr (Or.inl (e)) | exact Or.inr (Or.inr (e)))
  · refine fe_b2 Fe.rf (fe_mStreams_at _ _ _) (fun x k hx => False.elim hx) (fun x k hx => False.elim hx) (fun r13 h11 F1 => ?_)
    refine fe_it fe_no ?_
    refine fe_it ?_ fe_no
    refine fe_it ?_ ?_
    · exact fe_j F1 (fe_mStreams_fillsGrants_b101 hk38 _ _ _ _ _) (fun x k hx => by simp only [wI_mStreams_fillsGrants_b101, F1.r] at hx; rcases hx with e | e | e | e <;> first | exact Or.inl (e) | exact Or.inr (Or.inl (e)) | exact Or.inr (Or.inr (Or.inl (e))) | exact Or.inr (Or.inr (Or.inr (e)))) (fun x k hx => by simp only [wJ_mStreams_fillsGrants_b101, F1.r] at hx; rcases hx with e | e | e <;> first | exact Or.inl (e) | exact Or.inr (Or.inl (e)) | exact Or.inr (Or.inr (e)))
    · refine fe_b2 F1 (fe_mStreams_receiving _ _ _) (fun x k hx => False.elim hx) (fun x k hx => False.elim hx) (fun r18 h16 F2 => ?_)
      refine fe_it ?_ ?_
      · exact fe_j F2 (fe_mStreams_fillsGrants_b101 hk38 _ _ _ _ _) (fun x k hx => by simp only [wI_mStreams_fillsGrants_b101, F1.r, F2.r] at hx; rcases hx with e | e | e | e <;> first | exact Or.inl (e) | exact Or.inr (Or.inl (e)) | exact Or.inr (Or.inr (Or.inl (e))) | exact Or.inr (Or.inr (Or.inr (e)))) (fun x k hx => by simp only [wJ_mStreams_fillsGrants_b101, F1.r, F2.r] at hx; rcases hx with e | e | e <;> first | exact Or.inl (e) | exact Or.inr (Or.inl (e)) | exact Or.inr (Or.inr (e)))
      · refine fe_it fe_no ?_
        refine fe_it ?_ fe_no
        refine fe_b2 F2 (fe_mStreams_lays _ _ _ _ _ _ _) (fun x k hx => by simp only [wI_mStreams_lays, F1.r, F2.r] at hx; rcases hx with e | e <;> first | exact Or.inr (Or.inr (Or.inl (e))) | exact Or.inr (Or.inr (Or.inr (e)))) (fun x k hx => by simp only [wJ_mStreams_lays, F1.r, F2.r] at hx; rcases hx with e | e | e <;> first | exact Or.inl (e) | exact Or.inr (Or.inl (e)) | exact Or.inr (Or.inr (e))) (fun r23 h21 F3 => ?_)
        refine fe_it ?_ ?_
        · exact fe_j F3 (fe_mStreams_fillsGrants_b101 hk38 _ _ _ _ _) (fun x k hx => by simp only [wI_mStreams_fillsGrants_b101, F1.r, F2.r, F3.r] at hx; rcases hx with e | e | e | e <;> first | exact Or.inl (e) | exact Or.inr (Or.inl (e)) | exact Or.inr (Or.inr (Or.inl (e))) | exact Or.inr (Or.inr (Or.inr (e)))) (fun x k hx => by simp only [wJ_mStreams_fillsGrants_b101, F1.r, F2.r, F3.r] at hx; rcases hx with e | e | e <;> first | exact Or.inl (e) | exact Or.inr (Or.inl (e)) | exact Or.inr (Or.inr (e)))
        · refine fe_it fe_no ?_
          refine fe_it ?_ fe_no
          refine fe_I F3 (Or.inl ((by first | (simp only [F1.r, F2.r, F3.r]; exact rfl) | simp only [F1.r, F2.r, F3.r]))) (fun h26 F4 => ?_)
          exact fe_so F4
theorem fe_mStreams_fillsGrants_b38_lp (n : Nat) : ∀ (v0 : Nat) (v1 : Int) (v2 : Int) (v3 : Int) (h : Hp), Feo (wI_mStreams_fillsGrants_b38 v0 v1 v2 v3 h) (wJ_mStreams_fillsGrants_b38 v0 v1 v2 v3 h) h Prod.snd (f_mStreams_fillsGrants_b38_lp n v0 v1 v2 v3 h) := by
  induction n with
  | zero => intro v0 v1 v2 v3 h; exact fe_no
  | succ n ih => intro v0 v1 v2 v3 h; exact fe_mStreams_fillsGrants_b38 ih v0 v1 v2 v3 h
theorem fe_mStreams_fillsGrants_b36 (v0 : Nat) (v1 : Int) (v2 : Int) (h : Hp) : Feo (wI_mStreams_fillsGrants_b36 v0 v1 v2 h) (wJ_mStreams_fillsGrants_b36 v0 v1 v2 h) h Prod.snd (f_mStreams_fillsGrants_b36 v0 v1 v2 h) := by
  unfold f_mStreams_fillsGrants_b36
  exact fe_j Fe.rf (fe_mStreams_fillsGrants_b38_lp FU _ _ _ _ _) (fun x k hx => by simp only [wI_mStreams_fillsGrants_b38] at hx; rcases hx with e | e | e | e <;> first | exact Or.inl (e) | exact Or.inr (Or.inl (e)) | exact Or.inr (Or.inr (Or.inl (e))) | exact Or.inr (Or.inr (Or.inr (e)))) (fun x k hx => by simp only [wJ_mStreams_fillsGrants_b38] at hx; rcases hx with e | e | e <;> first | exact Or.inl (e) | exact Or.inr (Or.inl (e)) | exact Or.inr (Or.inr (e)))
theorem fe_mStreams_fillsGrants (v0 : Nat) (v1 : Int) (v2 : Int) (h : Hp) : Feo (wI_mStreams_fillsGrants v0 v1 v2 h) (wJ_mStreams_fillsGrants v0 v1 v2 h) h Prod.snd (f_mStreams_fillsGrants v0 v1 v2 h) := by
  unfold f_mStreams_fillsGrants
  refine fe_it fe_no ?_
  refine fe_it ?_ fe_no
  refine fe_it ?_ ?_
  · exact fe_j Fe.rf (fe_mStreams_fillsGrants_b36 _ _ _ _) (fun x k hx => by simp only [wI_mStreams_fillsGrants_b36] at hx; rcases hx with e | e | e | e <;> first | exact Or.inr (Or.inl (e)) | exact Or.inr (Or.inr (Or.inl (e))) | exact Or.inr (Or.inr (Or.inr (Or.inl (e)))) | exact Or.inr (Or.inr (Or.inr (Or.inr (e))))) (fun x k hx => by simp only [wJ_mStreams_fillsGrants_b36] at hx; rcases hx with e | e | e <;> first | exact Or.inl (e) | exact Or.inr (Or.inl (e)) | exact Or.inr (Or.inr (e)))
  · refine fe_it fe_no ?_
    refine fe_it ?_ fe_no
    refine fe_b2 Fe.rf (fe_mStreams_lays _ _ _ _ _ _ _) (fun x k hx => by simp only [wI_mStreams_lays] at hx; rcases hx with e | e <;> first | exact Or.inr (Or.inr (Or.inr (Or.inl (e)))) | exact Or.inr (Or.inr (Or.inr (Or.inr (e))))) (fun x k hx => by simp only [wJ_mStreams_lays] at hx; rcases hx with e | e | e <;> first | exact Or.inl (e) | exact Or.inr (Or.inl (e)) | exact Or.inr (Or.inr (e))) (fun r7 h5 F1 => ?_)
    refine fe_it ?_ ?_
    · exact fe_j F1 (fe_mStreams_fillsGrants_b36 _ _ _ _) (fun x k hx => by simp only [wI_mStreams_fillsGrants_b36, F1.r] at hx; rcases hx with e | e | e | e <;> first | exact Or.inr (Or.inl (e)) | exact Or.inr (Or.inr (Or.inl (e))) | exact Or.inr (Or.inr (Or.inr (Or.inl (e)))) | exact Or.inr (Or.inr (Or.inr (Or.inr (e))))) (fun x k hx => by simp only [wJ_mStreams_fillsGrants_b36, F1.r] at hx; rcases hx with e | e | e <;> first | exact Or.inl (e) | exact Or.inr (Or.inl (e)) | exact Or.inr (Or.inr (e)))
    · refine fe_it fe_no ?_
      refine fe_it ?_ fe_no
      refine fe_I F1 (Or.inl ((by first | (simp only [F1.r]; exact rfl) | simp only [F1.r]))) (fun h10 F2 => ?_)
      exact fe_so F2
def wI_mStreams_waits (v0 : Nat) (v1 : Int) (v2 : Int) (h : Hp) (x k : Nat) : Prop := False
def wJ_mStreams_waits (v0 : Nat) (v1 : Int) (v2 : Int) (h : Hp) (x k : Nat) : Prop := False
theorem fe_mStreams_waits (v0 : Nat) (v1 : Int) (v2 : Int) (h : Hp) : Feo (wI_mStreams_waits v0 v1 v2 h) (wJ_mStreams_waits v0 v1 v2 h) h Prod.snd (f_mStreams_waits v0 v1 v2 h) := by
  unfold f_mStreams_waits
  refine fe_b2 Fe.rf (fe_mStreams_isOpenSending _ _ _ _) (fun x k hx => False.elim hx) (fun x k hx => False.elim hx) (fun r3 h1 F1 => ?_)
  refine fe_it ?_ ?_
  · exact fe_so F1
  · refine fe_b2 F1 (fe_mStreams_at _ _ _) (fun x k hx => False.elim hx) (fun x k hx => False.elim hx) (fun r6 h4 F2 => ?_)
    refine fe_it fe_no ?_
    refine fe_it ?_ fe_no
    refine fe_b2 F2 (fe_mStreams_at _ _ _) (fun x k hx => False.elim hx) (fun x k hx => False.elim hx) (fun r11 h9 F3 => ?_)
    refine fe_it fe_no ?_
    refine fe_it ?_ fe_no
    refine fe_it ?_ ?_
    · exact fe_so F3
    · exact fe_so F3
def wI_mStreams_fillsBlocked_b215 (v0 : Nat) (v1 : Int) (v2 : Int) (v4 : Int) (h : Hp) (x k : Nat) : Prop := (x = v0 ∧ k = 50) ∨ (x = v0 ∧ k = 54)
def wJ_mStreams_fillsBlocked_b215 (v0 : Nat) (v1 : Int) (v2 : Int) (v4 : Int) (h : Hp) (x k : Nat) : Prop := x = hR h v0 19 ∨ x = hR h v0 3 ∨ (x = v0 ∧ k = 51) ∨ (x = v0 ∧ k = 52) ∨ (x = v0 ∧ k = 53)
def wI_mStreams_fillsBlocked_b333 (v0 : Nat) (v1 : Int) (v2 : Int) (v4 : Int) (h : Hp) (x k : Nat) : Prop := (x = v0 ∧ k = 50) ∨ (x = v0 ∧ k = 54)
def wJ_mStreams_fillsBlocked_b333 (v0 : Nat) (v1 : Int) (v2 : Int) (v4 : Int) (h : Hp) (x k : Nat) : Prop := x = hR h v0 3 ∨ (x = v0 ∧ k = 51) ∨ (x = v0 ∧ k = 52) ∨ (x = v0 ∧ k = 53)
def wI_mStreams_fillsBlocked_b224 (v0 : Nat) (v1 : Int) (v2 : Int) (v4 : Int) (h : Hp) (x k : Nat) : Prop := (x = v0 ∧ k = 50) ∨ (x = v0 ∧ k = 54)
def wJ_mStreams_fillsBlocked_b224 (v0 : Nat) (v1 : Int) (v2 : Int) (v4 : Int) (h : Hp) (x k : Nat) : Prop := x = hR h v0 3 ∨ (x = v0 ∧ k = 51) ∨ (x = v0 ∧ k = 52) ∨ (x = v0 ∧ k = 53)
def wI_mStreams_fillsBlocked_b115 (v0 : Nat) (v1 : Int) (v2 : Int) (v4 : Int) (h : Hp) (x k : Nat) : Prop := (x = v0 ∧ k = 50) ∨ (x = v0 ∧ k = 54)
def wJ_mStreams_fillsBlocked_b115 (v0 : Nat) (v1 : Int) (v2 : Int) (v4 : Int) (h : Hp) (x k : Nat) : Prop := x = hR h v0 19 ∨ x = hR h v0 3 ∨ (x = v0 ∧ k = 51) ∨ (x = v0 ∧ k = 52) ∨ (x = v0 ∧ k = 53)
def wI_mStreams_fillsBlocked_b112 (v0 : Nat) (v1 : Int) (v2 : Int) (h : Hp) (x k : Nat) : Prop := (x = v0 ∧ k = 50) ∨ (x = v0 ∧ k = 54)
def wJ_mStreams_fillsBlocked_b112 (v0 : Nat) (v1 : Int) (v2 : Int) (h : Hp) (x k : Nat) : Prop := x = hR h v0 19 ∨ x = hR h v0 3 ∨ (x = v0 ∧ k = 51) ∨ (x = v0 ∧ k = 52) ∨ (x = v0 ∧ k = 53)
def wI_mStreams_fillsBlocked_b31 (v0 : Nat) (v1 : Int) (v2 : Int) (v3 : Int) (h : Hp) (x k : Nat) : Prop := (x = v0 ∧ k = 50) ∨ (x = v0 ∧ k = 54)
def wJ_mStreams_fillsBlocked_b31 (v0 : Nat) (v1 : Int) (v2 : Int) (v3 : Int) (h : Hp) (x k : Nat) : Prop := x = hR h v0 19 ∨ x = hR h v0 3 ∨ (x = v0 ∧ k = 51) ∨ (x = v0 ∧ k = 52) ∨ (x = v0 ∧ k = 53)
def wI_mStreams_fillsBlocked_b5 (v0 : Nat) (v1 : Int) (v2 : Int) (v3 : Int) (v4 : Int) (h : Hp) (x k : Nat) : Prop := (x = v0 ∧ k = 50) ∨ (x = v0 ∧ k = 54)
def wJ_mStreams_fillsBlocked_b5 (v0 : Nat) (v1 : Int) (v2 : Int) (v3 : Int) (v4 : Int) (h : Hp) (x k : Nat) : Prop := x = hR h v0 19 ∨ x = hR h v0 3 ∨ (x = v0 ∧ k = 51) ∨ (x = v0 ∧ k = 52) ∨ (x = v0 ∧ k = 53)
def wI_mStreams_fillsBlocked (v0 : Nat) (v1 : Int) (v2 : Int) (h : Hp) (x k : Nat) : Prop := (x = v0 ∧ k = 50) ∨ (x = v0 ∧ k = 54)
def wJ_mStreams_fillsBlocked (v0 : Nat) (v1 : Int) (v2 : Int) (h : Hp) (x k : Nat) : Prop := x = hR h v0 19 ∨ x = hR h v0 3 ∨ (x = v0 ∧ k = 51) ∨ (x = v0 ∧ k = 52) ∨ (x = v0 ∧ k = 53)
theorem fe_mStreams_fillsBlocked_b215 {k115 : Nat → Int → Int → Int → Hp → Option (Int × Hp)} (hk115 : ∀ (v0 : Nat) (v1 : Int) (v2 : Int) (v4 : Int) (h : Hp), Feo (wI_mStreams_fillsBlocked_b115 v0 v1 v2 v4 h) (wJ_mStreams_fillsBlocked_b115 v0 v1 v2 v4 h) h Prod.snd (k115 v0 v1 v2 v4 h)) (v0 : Nat) (v1 : Int) (v2 : Int) (v4 : Int) (h : Hp) : Feo (wI_mStreams_fillsBlocked_b215 v0 v1 v2 v4 h) (wJ_mStreams_fillsBlocked_b215 v0 v1 v2 v4 h) h Prod.snd (f_mStreams_fillsBlocked_b215 k115 v0 v1 v2 v4 h) := by
  unfold f_mStreams_fillsBlocked_b215
  exact fe_j Fe.rf (hk115 _ _ _ _ _) (fun x k hx => by simp only [wI_mStreams_fillsBlocked_b115] at hx; rcases hx with e | e <;> first | exact Or.inl (e) | exact Or.inr (e)) (fun x k hx => by simp only [wJ_mStreams_fillsBlocked_b115] at hx; rcases hx with e | e | e | e | e <;> first | exact Or.inl (e) | exact Or.inr (Or.inl (e)) | exact Or.inr (Or.inr (Or.inl (e))) | exact Or.inr (Or.inr (Or.inr (Or.inl (e)))) | exact Or.inr (Or.inr (Or.inr (Or.inr (e)))))
theorem fe_mStreams_fillsBlocked_b333 {k224 : Nat → Int → Int → Int → Hp → Option (Int × Hp)} (hk224 : ∀ (v0 : Nat) (v1 : Int) (v2 : Int) (v4 : Int) (h : Hp), Feo (wI_mStreams_fillsBlocked_b224 v0 v1 v2 v4 h) (wJ_mStreams_fillsBlocked_b224 v0 v1 v2 v4 h) h Prod.snd (k224 v0 v1 v2 v4 h)) (v0 : Nat) (v1 : Int) (v2 : Int) (v4 : Int) (h : Hp) : Feo (wI_mStreams_fillsBlocked_b333 v0 v1 v2 v4 h) (wJ_mStreams_fillsBlocked_b333 v0 v1 v2 v4 h) h Prod.snd (f_mStreams_fillsBlocked_b333 k224 v0 v1 v2 v4 h) := by
  unfold f_mStreams_fillsBlocked_b333
  exact fe_j Fe.rf (hk224 _ _ _ _ _) (fun x k hx => by simp only [wI_mStreams_fillsBlocked_b224] at hx; rcases hx with e | e <;> first | exact Or.inl (e) | exact Or.inr (e)) (fun x k hx => by simp only [wJ_mStreams_fillsBlocked_b224] at hx; rcases hx with e | e | e | e <;> first | exact Or.inl (e) | exact Or.inr (Or.inl (e)) | exact Or.inr (Or.inr (Or.inl (e))) | exact Or.inr (Or.inr (Or.inr (e))))
theorem fe_mStreams_fillsBlocked_b224 {k224 : Nat → Int → Int → Int → Hp → Option (Int × Hp)} (hk224 : ∀ (v0 : Nat) (v1 : Int) (v2 : Int) (v4 : Int) (h : Hp), Feo (wI_mStreams_fillsBlocked_b224 v0 v1 v2 v4 h) (wJ_mStreams_fillsBlocked_b224 v0 v1 v2 v4 h) h Prod.snd (k224 v0 v1 v2 v4 h)) (v0 : Nat) (v1 : Int) (v2 : Int) (v4 : Int) (h : Hp) : Feo (wI_mStreams_fillsBlocked_b224 v0 v1 v2 v4 h) (wJ_mStreams_fillsBlocked_b224 v0 v1 v2 v4 h) h Prod.snd (f_mStreams_fillsBlocked_b224 k224 v0 v1 v2 v4 h) := by
  unfold f_mStreams_fillsBlocked_b224
  refine fe_it ?_ ?_
  · exact fe_so Fe.rf
  · refine fe_v (fun y42 => ?_)
    refine fe_it fe_no ?_
    refine fe_it ?_ fe_no
    refine fe_it ?_ ?_
    · exact fe_j Fe.rf (fe_mStreams_fillsBlocked_b333 hk224 _ _ _ _ _) (fun x k hx => by simp only [wI_mStreams_fillsBlocked_b333] at hx; rcases hx with e | e <;> first | exact Or.inl (e) | exact Or.inr (e)) (fun x k hx => by simp only [wJ_mStreams_fillsBlocked_b333] at hx; rcases hx with e | e | e | e <;> first | exact Or.inl (e) | exact Or.inr (Or.inl (e)) | exact Or.inr (Or.inr (Or.inl (e))) | exact Or.inr (Or.inr (Or.inr (e))))
    · refine fe_it fe_no ?_
      refine fe_it ?_ fe_no
      refine fe_it fe_no ?_
      refine fe_it ?_ fe_no
      refine fe_it ?_ ?_
      · exact fe_j Fe.rf (fe_mStreams_fillsBlocked_b333 hk224 _ _ _ _ _) (fun x k hx => by simp only [wI_mStreams_fillsBlocked_b333] at hx; rcases hx with e | e <;> first | exact Or.inl (e) | exact Or.inr (e)) (fun x k hx => by simp only [wJ_mStreams_fillsBlocked_b333] at hx; rcases hx with e | e | e | e <;> first | exact Or.inl (e) | exact Or.inr (Or.inl (e)) | exact Or.inr (Or.inr (Or.inl (e))) | exact Or.inr (Or.inr (Or.inr (e))))
      · refine fe_it fe_no ?_
        refine fe_it ?_ fe_no
        refine fe_it ?_ fe_no
        refine fe_it ?_ ?_
        · exact fe_j Fe.rf (fe_mStreams_fillsBlocked_b333 hk224 _ _ _ _ _) (fun x k hx => by simp only [wI_mStreams_fillsBlocked_b333] at hx; rcases hx with e | e <;> first | exact Or.inl (e) | exact Or.inr (e)) (fun x k hx => by simp only [wJ_mStreams_fillsBlocked_b333] at hx; rcases hx with e | e | e | e <;> first | exact Or.inl (e) | exact Or.inr (Or.inl (e)) | exact Or.inr (Or.inr (Or.inl (e))) | exact Or.inr (Or.inr (Or.inr (e))))
        · refine fe_it ?_ fe_no
          refine fe_b2 Fe.rf (fe_mStreams_lays _ _ _ _ _ _ _) (fun x k hx => by simp only [wI_mStreams_lays] at hx; rcases hx with e | e <;> first | exact Or.inl (e) | exact Or.inr (e)) (fun x k hx => by simp only [wJ_mStreams_lays] at hx; rcases hx with e | e | e <;> first | exact Or.inr (Or.inl (e)) | exact Or.inr (Or.inr (Or.inl (e))) | exact Or.inr (Or.inr (Or.inr (e)))) (fun r55 h53 F1 => ?_)
          refine fe_it ?_ ?_
          · exact fe_j F1 (fe_mStreams_fillsBlocked_b333 hk224 _ _ _ _ _) (fun x k hx => by simp only [wI_mStreams_fillsBlocked_b333, F1.r] at hx; rcases hx with e | e <;> first | exact Or.inl (e) | exact Or.inr (e)) (fun x k hx => by simp only [wJ_mStreams_fillsBlocked_b333, F1.r] at hx; rcases hx with e | e | e | e <;> first | exact Or.inl (e) | exact Or.inr (Or.inl (e)) | exact Or.inr (Or.inr (Or.inl (e))) | exact Or.inr (Or.inr (Or.inr (e))))
          · refine fe_it fe_no ?_
            refine fe_it ?_ fe_no
            refine fe_it fe_no ?_
            refine fe_it ?_ fe_no
            refine fe_J F1 (Or.inl ((by first | (simp only [F1.r]; exact rfl) | simp only [F1.r]))) (fun h60 F2 => ?_)
            exact fe_so F2
theorem fe_mStreams_fillsBlocked_b224_lp (n : Nat) : ∀ (v0 : Nat) (v1 : Int) (v2 : Int) (v4 : Int) (h : Hp), Feo (wI_mStreams_fillsBlocked_b224 v0 v1 v2 v4 h) (wJ_mStreams_fillsBlocked_b224 v0 v1 v2 v4 h) h Prod.snd (f_mStreams_fillsBlocked_b224_lp n v0 v1 v2 v4 h) := by
  induction n with
  | zero => intro v0 v1 v2 v4 h; exact fe_no
  | succ n ih => intro v0 v1 v2 v4 h; exact fe_mStreams_fillsBlocked_b224 ih v0 v1 v2 v4 h
theorem fe_mStreams_fillsBlocked_b115 {k115 : Nat → Int → Int → Int → Hp → Option (Int × Hp)} (hk115 : ∀ (v0 : Nat) (v1 : Int) (v2 : Int) (v4 : Int) (h : Hp), Feo (wI_mStreams_fillsBlocked_b115 v0 v1 v2 v4 h) (wJ_mStreams_fillsBlocked_b115 v0 v1 v2 v4 h) h Prod.snd (k115 v0 v1 v2 v4 h)) (v0 : Nat) (v1 : Int) (v2 : Int) (v4 : Int) (h : Hp) : Feo (wI_mStreams_fillsBlocked_b115 v0 v1 v2 v4 h) (wJ_mStreams_fillsBlocked_b115 v0 v1 v2 v4 h) h Prod.snd (f_mStreams_fillsBlocked_b115 k115 v0 v1 v2 v4 h) := by
  unfold f_mStreams_fillsBlocked_b115
  refine fe_it ?_ ?_
  · exact fe_j Fe.rf (fe_mStreams_fillsBlocked_b224_lp FU _ _ _ _ _) (fun x k hx => by simp only [wI_mStreams_fillsBlocked_b224] at hx; rcases hx with e | e <;> first | exact Or.inl (e) | exact Or.inr (e)) (fun x k hx => by simp only [wJ_mStreams_fillsBlocked_b224] at hx; rcases hx with e | e | e | e <;> first | exact Or.inr (Or.inl (e)) | exact Or.inr (Or.inr (Or.inl (e))) | exact Or.inr (Or.inr (Or.inr (Or.inl (e)))) | exact Or.inr (Or.inr (Or.inr (Or.inr (e)))))
  · refine fe_b2 Fe.rf (fe_mStreams_at _ _ _) (fun x k hx => False.elim hx) (fun x k hx => False.elim hx) (fun r22 h20 F1 => ?_)
    refine fe_b2 F1 (fe_mStreams_waits _ _ _ _) (fun x k hx => False.elim hx) (fun x k hx => False.elim hx) (fun r25 h23 F2 => ?_)
    refine fe_it ?_ ?_
    · exact fe_j F2 (fe_mStreams_fillsBlocked_b215 hk115 _ _ _ _ _) (fun x k hx => by simp only [wI_mStreams_fillsBlocked_b215, F1.r, F2.r] at hx; rcases hx with e | e <;> first | exact Or.inl (e) | exact Or.inr (e)) (fun x k hx => by simp only [wJ_mStreams_fillsBlocked_b215, F1.r, F2.r] at hx; rcases hx with e | e | e | e | e <;> first | exact Or.inl (e) | exact Or.inr (Or.inl (e)) | exact Or.inr (Or.inr (Or.inl (e))) | exact Or.inr (Or.inr (Or.inr (Or.inl (e)))) | exact Or.inr (Or.inr (Or.inr (Or.inr (e)))))
    · refine fe_it fe_no ?_
      refine fe_it ?_ fe_no
      refine fe_it fe_no ?_
      refine fe_it ?_ fe_no
      refine fe_it ?_ ?_
      · exact fe_j F2 (fe_mStreams_fillsBlocked_b215 hk115 _ _ _ _ _) (fun x k hx => by simp only [wI_mStreams_fillsBlocked_b215, F1.r, F2.r] at hx; rcases hx with e | e <;> first | exact Or.inl (e) | exact Or.inr (e)) (fun x k hx => by simp only [wJ_mStreams_fillsBlocked_b215, F1.r, F2.r] at hx; rcases hx with e | e | e | e | e <;> first | exact Or.inl (e) | exact Or.inr (Or.inl (e)) | exact Or.inr (Or.inr (Or.inl (e))) | exact Or.inr (Or.inr (Or.inr (Or.inl (e)))) | exact Or.inr (Or.inr (Or.inr (Or.inr (e)))))
      · refine fe_it fe_no ?_
        refine fe_it ?_ fe_no
        refine fe_it ?_ fe_no
        refine fe_it ?_ ?_
        · exact fe_j F2 (fe_mStreams_fillsBlocked_b215 hk115 _ _ _ _ _) (fun x k hx => by simp only [wI_mStreams_fillsBlocked_b215, F1.r, F2.r] at hx; rcases hx with e | e <;> first | exact Or.inl (e) | exact Or.inr (e)) (fun x k hx => by simp only [wJ_mStreams_fillsBlocked_b215, F1.r, F2.r] at hx; rcases hx with e | e | e | e | e <;> first | exact Or.inl (e) | exact Or.inr (Or.inl (e)) | exact Or.inr (Or.inr (Or.inl (e))) | exact Or.inr (Or.inr (Or.inr (Or.inl (e)))) | exact Or.inr (Or.inr (Or.inr (Or.inr (e)))))
        · refine fe_it ?_ fe_no
          refine fe_b2 F2 (fe_mStreams_lays _ _ _ _ _ _ _) (fun x k hx => by simp only [wI_mStreams_lays, F1.r, F2.r] at hx; rcases hx with e | e <;> first | exact Or.inl (e) | exact Or.inr (e)) (fun x k hx => by simp only [wJ_mStreams_lays, F1.r, F2.r] at hx; rcases hx with e | e | e <;> first | exact Or.inr (Or.inr (Or.inl (e))) | exact Or.inr (Or.inr (Or.inr (Or.inl (e)))) | exact Or.inr (Or.inr (Or.inr (Or.inr (e))))) (fun r36 h34 F3 => ?_)
          refine fe_it ?_ ?_
          · exact fe_j F3 (fe_mStreams_fillsBlocked_b215 hk115 _ _ _ _ _) (fun x k hx => by simp only [wI_mStreams_fillsBlocked_b215, F1.r, F2.r, F3.r] at hx; rcases hx with e | e <;> first | exact Or.inl (e) | exact Or.inr (e)) (fun x k hx => by simp only [wJ_mStreams_fillsBlocked_b215, F1.r, F2.r, F3.r] at hx; rcases hx with e | e | e | e | e <;> first | exact Or.inl (e) | exact Or.inr (Or.inl (e)) | exact Or.inr (Or.inr (Or.inl (e))) | exact Or.inr (Or.inr (Or.inr (Or.inl (e)))) | exact Or.inr (Or.inr (Or.inr (Or.inr (e)))))
          · refine fe_it fe_no ?_
            refine fe_it ?_ fe_no
            refine fe_it fe_no ?_
            refine fe_it ?_ fe_no
            refine fe_J F3 (Or.inl ((by first | (simp only [F1.r, F2.r, F3.r]; exact rfl) | simp only [F1.r, F2.r, F3.r]))) (fun h41 F4 => ?_)
            exact fe_so F4
theorem fe_mStreams_fillsBlocked_b115_lp (n : Nat) : ∀ (v0 : Nat) (v1 : Int) (v2 : Int) (v4 : Int) (h : Hp), Feo (wI_mStreams_fillsBlocked_b115 v0 v1 v2 v4 h) (wJ_mStreams_fillsBlocked_b115 v0 v1 v2 v4 h) h Prod.snd (f_mStreams_fillsBlocked_b115_lp n v0 v1 v2 v4 h) := by
  induction n with
  | zero => intro v0 v1 v2 v4 h; exact fe_no
  | succ n ih => intro v0 v1 v2 v4 h; exact fe_mStreams_fillsBlocked_b115 ih v0 v1 v2 v4 h
theorem fe_mStreams_fillsBlocked_b112 (v0 : Nat) (v1 : Int) (v2 : Int) (h : Hp) : Feo (wI_mStreams_fillsBlocked_b112 v0 v1 v2 h) (wJ_mStreams_fillsBlocked_b112 v0 v1 v2 h) h Prod.snd (f_mStreams_fillsBlocked_b112 v0 v1 v2 h) := by
  unfold f_mStreams_fillsBlocked_b112
  exact fe_j Fe.rf (fe_mStreams_fillsBlocked_b115_lp FU _ _ _ _ _) (fun x k hx => by simp only [wI_mStreams_fillsBlocked_b115] at hx; rcases hx with e | e <;> first | exact Or.inl (e) | exact Or.inr (e)) (fun x k hx => by simp only [wJ_mStreams_fillsBlocked_b115] at hx; rcases hx with e | e | e | e | e <;> first | exact Or.inl (e) | exact Or.inr (Or.inl (e)) | exact Or.inr (Or.inr (Or.inl (e))) | exact Or.inr (Or.inr (Or.inr (Or.inl (e)))) | exact Or.inr (Or.inr (Or.inr (Or.inr (e)))))
theorem fe_mStreams_fillsBlocked_b31 (v0 : Nat) (v1 : Int) (v2 : Int) (v3 : Int) (h : Hp) : Feo (wI_mStreams_fillsBlocked_b31 v0 v1 v2 v3 h) (wJ_mStreams_fillsBlocked_b31 v0 v1 v2 v3 h) h Prod.snd (f_mStreams_fillsBlocked_b31 v0 v1 v2 v3 h) := by
  unfold f_mStreams_fillsBlocked_b31
  refine fe_it ?_ ?_
  · exact fe_j Fe.rf (fe_mStreams_fillsBlocked_b112 _ _ _ _) (fun x k hx => by simp only [wI_mStreams_fillsBlocked_b112] at hx; rcases hx with e | e <;> first | exact Or.inl (e) | exact Or.inr (e)) (fun x k hx => by simp only [wJ_mStreams_fillsBlocked_b112] at hx; rcases hx with e | e | e | e | e <;> first | exact Or.inl (e) | exact Or.inr (Or.inl (e)) | exact Or.inr (Or.inr (Or.inl (e))) | exact Or.inr (Or.inr (Or.inr (Or.inl (e)))) | exact Or.inr (Or.inr (Or.inr (Or.inr (e)))))
  · refine fe_it fe_no ?_
    refine fe_it ?_ fe_no
    refine fe_it fe_no ?_
    refine fe_it ?_ fe_no
    refine fe_it ?_ ?_
    · exact fe_j Fe.rf (fe_mStreams_fillsBlocked_b112 _ _ _ _) (fun x k hx => by simp only [wI_mStreams_fillsBlocked_b112] at hx; rcases hx with e | e <;> first | exact Or.inl (e) | exact Or.inr (e)) (fun x k hx => by simp only [wJ_mStreams_fillsBlocked_b112] at hx; rcases hx with e | e | e | e | e <;> first | exact Or.inl (e) | exact Or.inr (Or.inl (e)) | exact Or.inr (Or.inr (Or.inl (e))) | exact Or.inr (Or.inr (Or.inr (Or.inl (e)))) | exact Or.inr (Or.inr (Or.inr (Or.inr (e)))))
    · refine fe_it fe_no ?_
      refine fe_it ?_ fe_no
      refine fe_it ?_ fe_no
      refine fe_it ?_ ?_
      · exact fe_j Fe.rf (fe_mStreams_fillsBlocked_b112 _ _ _ _) (fun x k hx => by simp only [wI_mStreams_fillsBlocked_b112] at hx; rcases hx with e | e <;> first | exact Or.inl (e) | exact Or.inr (e)) (fun x k hx => by simp only [wJ_mStreams_fillsBlocked_b112] at hx; rcases hx with e | e | e | e | e <;> first | exact Or.inl (e) | exact Or.inr (Or.inl (e)) | exact Or.inr (Or.inr (Or.inl (e))) | exact Or.inr (Or.inr (Or.inr (Or.inl (e)))) | exact Or.inr (Or.inr (Or.inr (Or.inr (e)))))
      · refine fe_it ?_ fe_no
        refine fe_b2 Fe.rf (fe_mStreams_lays _ _ _ _ _ _ _) (fun x k hx => by simp only [wI_mStreams_lays] at hx; rcases hx with e | e <;> first | exact Or.inl (e) | exact Or.inr (e)) (fun x k hx => by simp only [wJ_mStreams_lays] at hx; rcases hx with e | e | e <;> first | exact Or.inr (Or.inr (Or.inl (e))) | exact Or.inr (Or.inr (Or.inr (Or.inl (e)))) | exact Or.inr (Or.inr (Or.inr (Or.inr (e))))) (fun r14 h12 F1 => ?_)
        refine fe_it ?_ ?_
        · exact fe_j F1 (fe_mStreams_fillsBlocked_b112 _ _ _ _) (fun x k hx => by simp only [wI_mStreams_fillsBlocked_b112, F1.r] at hx; rcases hx with e | e <;> first | exact Or.inl (e) | exact Or.inr (e)) (fun x k hx => by simp only [wJ_mStreams_fillsBlocked_b112, F1.r] at hx; rcases hx with e | e | e | e | e <;> first | exact Or.inl (e) | exact Or.inr (Or.inl (e)) | exact Or.inr (Or.inr (Or.inl (e))) | exact Or.inr (Or.inr (Or.inr (Or.inl (e)))) | exact Or.inr (Or.inr (Or.inr (Or.inr (e)))))
        · refine fe_it fe_no ?_
          refine fe_it ?_ fe_no
          refine fe_it fe_no ?_
          refine fe_it ?_ fe_no
          refine fe_J F1 (Or.inr (Or.inl ((by first | (simp only [F1.r]; exact rfl) | simp only [F1.r])))) (fun h19 F2 => ?_)
          exact fe_so F2
theorem fe_mStreams_fillsBlocked_b5 {k5 : Nat → Int → Int → Int → Int → Hp → Option (Int × Hp)} (hk5 : ∀ (v0 : Nat) (v1 : Int) (v2 : Int) (v3 : Int) (v4 : Int) (h : Hp), Feo (wI_mStreams_fillsBlocked_b5 v0 v1 v2 v3 v4 h) (wJ_mStreams_fillsBlocked_b5 v0 v1 v2 v3 v4 h) h Prod.snd (k5 v0 v1 v2 v3 v4 h)) (v0 : Nat) (v1 : Int) (v2 : Int) (v3 : Int) (v4 : Int) (h : Hp) : Feo (wI_mStreams_fillsBlocked_b5 v0 v1 v2 v3 v4 h) (wJ_mStreams_fillsBlocked_b5 v0 v1 v2 v3 v4 h) h Prod.snd (f_mStreams_fillsBlocked_b5 k5 v0 v1 v2 v3 v4 h) := by
  unfold f_mStreams_fillsBlocked_b5
  refine fe_it ?_ ?_
  · exact fe_j Fe.rf (fe_mStreams_fillsBlocked_b31 _ _ _ _ _) (fun x k hx => by simp only [wI_mStreams_fillsBlocked_b31] at hx; rcases hx with e | e <;> first | exact Or.inl (e) | exact Or.inr (e)) (fun x k hx => by simp only [wJ_mStreams_fillsBlocked_b31] at hx; rcases hx with e | e | e | e | e <;> first | exact Or.inl (e) | exact Or.inr (Or.inl (e)) | exact Or.inr (Or.inr (Or.inl (e))) | exact Or.inr (Or.inr (Or.inr (Or.inl (e)))) | exact Or.inr (Or.inr (Or.inr (Or.inr (e)))))
  · refine fe_it ?_ ?_
    · exact fe_j Fe.rf (fe_mStreams_fillsBlocked_b31 _ _ _ _ _) (fun x k hx => by simp only [wI_mStreams_fillsBlocked_b31] at hx; rcases hx with e | e <;> first | exact Or.inl (e) | exact Or.inr (e)) (fun x k hx => by simp only [wJ_mStreams_fillsBlocked_b31] at hx; rcases hx with e | e | e | e | e <;> first | exact Or.inl (e) | exact Or.inr (Or.inl (e)) | exact Or.inr (Or.inr (Or.inl (e))) | exact Or.inr (Or.inr (Or.inr (Or.inl (e)))) | exact Or.inr (Or.inr (Or.inr (Or.inr (e)))))
    · refine fe_b2 Fe.rf (fe_mStreams_waits _ _ _ _) (fun x k hx => False.elim hx) (fun x k hx => False.elim hx) (fun r3 h1 F1 => ?_)
      exact fe_j F1 (hk5 _ _ _ _ _ _) (fun x k hx => by simp only [wI_mStreams_fillsBlocked_b5, F1.r] at hx; rcases hx with e | e <;> first | exact Or.inl (e) | exact Or.inr (e)) (fun x k hx => by simp only [wJ_mStreams_fillsBlocked_b5, F1.r] at hx; rcases hx with e | e | e | e | e <;> first | exact Or.inl (e) | exact Or.inr (Or.inl (e)) | exact Or.inr (Or.inr (Or.inl (e))) | exact Or.inr (Or.inr (Or.inr (Or.inl (e)))) | exact Or.inr (Or.inr (Or.inr (Or.inr (e)))))
theorem fe_mStreams_fillsBlocked_b5_lp (n : Nat) : ∀ (v0 : Nat) (v1 : Int) (v2 : Int) (v3 : Int) (v4 : Int) (h : Hp), Feo (wI_mStreams_fillsBlocked_b5 v0 v1 v2 v3 v4 h) (wJ_mStreams_fillsBlocked_b5 v0 v1 v2 v3 v4 h) h Prod.snd (f_mStreams_fillsBlocked_b5_lp n v0 v1 v2 v3 v4 h) := by
  induction n with
  | zero => intro v0 v1 v2 v3 v4 h; exact fe_no
  | succ n ih => intro v0 v1 v2 v3 v4 h; exact fe_mStreams_fillsBlocked_b5 ih v0 v1 v2 v3 v4 h
theorem fe_mStreams_fillsBlocked (v0 : Nat) (v1 : Int) (v2 : Int) (h : Hp) : Feo (wI_mStreams_fillsBlocked v0 v1 v2 h) (wJ_mStreams_fillsBlocked v0 v1 v2 h) h Prod.snd (f_mStreams_fillsBlocked v0 v1 v2 h) := by
  unfold f_mStreams_fillsBlocked
  exact fe_j Fe.rf (fe_mStreams_fillsBlocked_b5_lp FU _ _ _ _ _ _) (fun x k hx => by simp only [wI_mStreams_fillsBlocked_b5] at hx; rcases hx with e | e <;> first | exact Or.inl (e) | exact Or.inr (e)) (fun x k hx => by simp only [wJ_mStreams_fillsBlocked_b5] at hx; rcases hx with e | e | e | e | e <;> first | exact Or.inl (e) | exact Or.inr (Or.inl (e)) | exact Or.inr (Or.inr (Or.inl (e))) | exact Or.inr (Or.inr (Or.inr (Or.inl (e)))) | exact Or.inr (Or.inr (Or.inr (Or.inr (e)))))
def wI_mStreams_allowed_b46 (v0 : Nat) (s0 : Int) (h : Hp) (x k : Nat) : Prop := False
def wJ_mStreams_allowed_b46 (v0 : Nat) (s0 : Int) (h : Hp) (x k : Nat) : Prop := False
def wI_mStreams_allowed (v0 : Nat) (v1 : Int) (v2 : Int) (h : Hp) (x k : Nat) : Prop := False
def wJ_mStreams_allowed (v0 : Nat) (v1 : Int) (v2 : Int) (h : Hp) (x k : Nat) : Prop := False
theorem fe_mStreams_allowed_b46 (v0 : Nat) (s0 : Int) (h : Hp) : Feo (wI_mStreams_allowed_b46 v0 s0 h) (wJ_mStreams_allowed_b46 v0 s0 h) h Prod.snd (f_mStreams_allowed_b46 v0 s0 h) := by
  unfold f_mStreams_allowed_b46
  refine fe_it ?_ ?_
  · exact fe_so Fe.rf
  · exact fe_so Fe.rf
theorem fe_mStreams_allowed (v0 : Nat) (v1 : Int) (v2 : Int) (h : Hp) : Feo (wI_mStreams_allowed v0 v1 v2 h) (wJ_mStreams_allowed v0 v1 v2 h) h Prod.snd (f_mStreams_allowed v0 v1 v2 h) := by
  unfold f_mStreams_allowed
  refine fe_it fe_no ?_
  refine fe_it ?_ fe_no
  refine fe_it fe_no ?_
  refine fe_it ?_ fe_no
  refine fe_v (fun y5 => ?_)
  refine fe_it fe_no ?_
  refine fe_it ?_ fe_no
  refine fe_it fe_no ?_
  refine fe_it ?_ fe_no
  refine fe_v (fun y10 => ?_)
  refine fe_it ?_ ?_
  · exact fe_j Fe.rf (fe_mStreams_allowed_b46 _ _ _) (fun x k hx => False.elim hx) (fun x k hx => False.elim hx)
  · exact fe_j Fe.rf (fe_mStreams_allowed_b46 _ _ _) (fun x k hx => False.elim hx) (fun x k hx => False.elim hx)
def wI_mStreams_fillsBytes_b78 (v0 : Nat) (v1 : Int) (v2 : Int) (v3 : Int) (v4 : Int) (v5 : Int) (v7 : Int) (v8 : Int) (v9 : Int) (s0 : Int) (h : Hp) (x k : Nat) : Prop := x = (hR h v0 25) ∨ x = (hR h v0 26) ∨ x = hR h v0 15 ∨ x = hR h v0 22 ∨ x = hR h v0 24 ∨ x = hR h v0 42 ∨ x = hR h v0 44 ∨ x = hR h v0 55 ∨ (x = v0 ∧ k = 54)
def wJ_mStreams_fillsBytes_b78 (v0 : Nat) (v1 : Int) (v2 : Int) (v3 : Int) (v4 : Int) (v5 : Int) (v7 : Int) (v8 : Int) (v9 : Int) (s0 : Int) (h : Hp) (x k : Nat) : Prop := (x = v0 ∧ k = 53)
def wI_mStreams_fillsBytes_b46 (v0 : Nat) (v1 : Int) (v2 : Int) (v3 : Int) (v4 : Int) (v5 : Int) (v7 : Int) (v8 : Int) (v9 : Int) (s0 : Int) (h : Hp) (x k : Nat) : Prop := x = (hR h v0 25) ∨ x = (hR h v0 26) ∨ x = hR h v0 15 ∨ x = hR h v0 22 ∨ x = hR h v0 24 ∨ x = hR h v0 42 ∨ x = hR h v0 44 ∨ x = hR h v0 55 ∨ (x = v0 ∧ k = 54)
def wJ_mStreams_fillsBytes_b46 (v0 : Nat) (v1 : Int) (v2 : Int) (v3 : Int) (v4 : Int) (v5 : Int) (v7 : Int) (v8 : Int) (v9 : Int) (s0 : Int) (h : Hp) (x k : Nat) : Prop := (x = v0 ∧ k = 53)
def wI_mStreams_fillsBytes_b45 (v0 : Nat) (v1 : Int) (v2 : Int) (v3 : Int) (v4 : Int) (v5 : Int) (v7 : Int) (v8 : Int) (v9 : Int) (h : Hp) (x k : Nat) : Prop := x = (hR h v0 25) ∨ x = (hR h v0 26) ∨ x = hR h v0 15 ∨ x = hR h v0 22 ∨ x = hR h v0 24 ∨ x = hR h v0 42 ∨ x = hR h v0 44 ∨ x = hR h v0 55 ∨ (x = v0 ∧ k = 54)
def wJ_mStreams_fillsBytes_b45 (v0 : Nat) (v1 : Int) (v2 : Int) (v3 : Int) (v4 : Int) (v5 : Int) (v7 : Int) (v8 : Int) (v9 : Int) (h : Hp) (x k : Nat) : Prop := (x = v0 ∧ k = 53)
def wI_mStreams_fillsBytes_b205 (v0 : Nat) (v2 : Int) (v9 : Int) (h : Hp) (x k : Nat) : Prop := x = hR h v0 15
def wJ_mStreams_fillsBytes_b205 (v0 : Nat) (v2 : Int) (v9 : Int) (h : Hp) (x k : Nat) : Prop := (x = v0 ∧ k = 53)
def wI_mStreams_fillsBytes_b140 (v0 : Nat) (v1 : Int) (v2 : Int) (v4 : Int) (v8 : Int) (v9 : Int) (v11 : Int) (h : Hp) (x k : Nat) : Prop := x = (hR h v0 25) ∨ x = (hR h v0 26) ∨ x = hR h v0 15 ∨ x = hR h v0 22 ∨ x = hR h v0 24 ∨ x = hR h v0 42 ∨ x = hR h v0 44
def wJ_mStreams_fillsBytes_b140 (v0 : Nat) (v1 : Int) (v2 : Int) (v4 : Int) (v8 : Int) (v9 : Int) (v11 : Int) (h : Hp) (x k : Nat) : Prop := (x = v0 ∧ k = 53)
def wI_mStreams_fillsBytes_b9 (v0 : Nat) (v1 : Int) (v2 : Int) (v3 : Int) (v4 : Int) (v5 : Int) (v7 : Int) (v8 : Int) (v9 : Int) (v10 : Int) (h : Hp) (x k : Nat) : Prop := x = (hR h v0 25) ∨ x = (hR h v0 26) ∨ x = hR h v0 15 ∨ x = hR h v0 22 ∨ x = hR h v0 24 ∨ x = hR h v0 42 ∨ x = hR h v0 44 ∨ x = hR h v0 55 ∨ (x = v0 ∧ k = 54)
def wJ_mStreams_fillsBytes_b9 (v0 : Nat) (v1 : Int) (v2 : Int) (v3 : Int) (v4 : Int) (v5 : Int) (v7 : Int) (v8 : Int) (v9 : Int) (v10 : Int) (h : Hp) (x k : Nat) : Prop := (x = v0 ∧ k = 53)
def wI_mStreams_fillsBytes (v0 : Nat) (v1 : Int) (v2 : Int) (v3 : Int) (v4 : Int) (v5 : Int) (v7 : Int) (h : Hp) (x k : Nat) : Prop := x = (hR h v0 25) ∨ x = (hR h v0 26) ∨ x = hR h v0 15 ∨ x = hR h v0 22 ∨ x = hR h v0 24 ∨ x = hR h v0 42 ∨ x = hR h v0 44 ∨ x = hR h v0 55 ∨ (x = v0 ∧ k = 54)
def wJ_mStreams_fillsBytes (v0 : Nat) (v1 : Int) (v2 : Int) (v3 : Int) (v4 : Int) (v5 : Int) (v7 : Int) (h : Hp) (x k : Nat) : Prop := (x = v0 ∧ k = 53)
theorem fe_mStreams_fillsBytes_b78 {k9 : Nat → Int → Int → Int → Int → Int → Int → Int → Int → Int → Hp → Option (Int × Hp)} (hk9 : ∀ (v0 : Nat) (v1 : Int) (v2 : Int) (v3 : Int) (v4 : Int) (v5 : Int) (v7 : Int) (v8 : Int) (v9 : Int) (v10 : Int) (h : Hp), Feo (wI_mStreams_fillsBytes_b9 v0 v1 v2 v3 v4 v5 v7 v8 v9 v10 h) (wJ_mStreams_fillsBytes_b9 v0 v1 v2 v3 v4 v5 v7 v8 v9 v10 h) h Prod.snd (k9 v0 v1 v2 v3 v4 v5 v7 v8 v9 v10 h)) (v0 : Nat) (v1 : Int) (v2 : Int) (v3 : Int) (v4 : Int) (v5 : Int) (v7 : Int) (v8 : Int) (v9 : Int) (s0 : Int) (h : Hp) : Feo (wI_mStreams_fillsBytes_b78 v0 v1 v2 v3 v4 v5 v7 v8 v9 s0 h) (wJ_mStreams_fillsBytes_b78 v0 v1 v2 v3 v4 v5 v7 v8 v9 s0 h) h Prod.snd (f_mStreams_fillsBytes_b78 k9 v0 v1 v2 v3 v4 v5 v7 v8 v9 s0 h) := by
  unfold f_mStreams_fillsBytes_b78
  refine fe_it ?_ ?_
  · refine fe_it fe_no ?_
    refine fe_it ?_ fe_no
    refine fe_it fe_no ?_
    refine fe_it ?_ fe_no
    refine fe_I Fe.rf (Or.inr (Or.inr (Or.inr (Or.inr (Or.inr (Or.inr (Or.inr (Or.inl (rfl))))))))) (fun h12 F1 => ?_)
    refine fe_it fe_no ?_
    refine fe_it ?_ fe_no
    refine fe_v (fun y15 => ?_)
    exact fe_j F1 (hk9 _ _ _ _ _ _ _ _ _ _ _) (fun x k hx => by simp only [wI_mStreams_fillsBytes_b9, F1.r] at hx; rcases hx with e | e | e | e | e | e | e | e | e <;> first | exact Or.inl (e) | exact Or.inr (Or.inl (e)) | exact Or.inr (Or.inr (Or.inl (e))) | exact Or.inr (Or.inr (Or.inr (Or.inl (e)))) | exact Or.inr (Or.inr (Or.inr (Or.inr (Or.inl (e))))) | exact Or.inr (Or.inr (Or.inr (Or.inr (Or.inr (Or.inl (e)))))) | exact Or.inr (Or.inr (Or.inr (Or.inr (Or.inr (Or.inr (Or.inl (e))))))) | exact Or.inr (Or.inr (Or.inr (Or.inr (Or.inr (Or.inr (Or.inr (Or.inl (e)))))))) | exact Or.inr (Or.inr (Or.inr (Or.inr (Or.inr (Or.inr (Or.inr (Or.inr (e))))))))) (fun x k hx => by simp only [wJ_mStreams_fillsBytes_b9, F1.r] at hx; have e := hx; exact e)
  · exact fe_j Fe.rf (hk9 _ _ _ _ _ _ _ _ _ _ _) (fun x k hx => by simp only [wI_mStreams_fillsBytes_b9] at hx; rcases hx with e | e | e | e | e | e | e | e | e <;> first | exact Or.inl (e) | exact Or.inr (Or.inl (e)) | exact Or.inr (Or.inr (Or.inl (e))) | exact Or.inr (Or.inr (Or.inr (Or.inl (e)))) | exact Or.inr (Or.inr (Or.inr (Or.inr (Or.inl (e))))) | exact Or.inr (Or.inr (Or.inr (Or.inr (Or.inr (Or.inl (e)))))) | exact Or.inr (Or.inr (Or.inr (Or.inr (Or.inr (Or.inr (Or.inl (e))))))) | exact Or.inr (Or.inr (Or.inr (Or.inr (Or.inr (Or.inr (Or.inr (Or.inl (e)))))))) | exact Or.inr (Or.inr (Or.inr (Or.inr (Or.inr (Or.inr (Or.inr (Or.inr (e))))))))) (fun x k hx => by simp only [wJ_mStreams_fillsBytes_b9] at hx; have e := hx; exact e)
theorem fe_mStreams_fillsBytes_b46 {k9 : Nat → Int → Int → Int → Int → Int → Int → Int → Int → Int → Hp → Option (Int × Hp)} (hk9 : ∀ (v0 : Nat) (v1 : Int) (v2 : Int) (v3 : Int) (v4 : Int) (v5 : Int) (v7 : Int) (v8 : Int) (v9 : Int) (v10 : Int) (h : Hp), Feo (wI_mStreams_fillsBytes_b9 v0 v1 v2 v3 v4 v5 v7 v8 v9 v10 h) (wJ_mStreams_fillsBytes_b9 v0 v1 v2 v3 v4 v5 v7 v8 v9 v10 h) h Prod.snd (k9 v0 v1 v2 v3 v4 v5 v7 v8 v9 v10 h)) (v0 : Nat) (v1 : Int) (v2 : Int) (v3 : Int) (v4 : Int) (v5 : Int) (v7 : Int) (v8 : Int) (v9 : Int) (s0 : Int) (h : Hp) : Feo (wI_mStreams_fillsBytes_b46 v0 v1 v2 v3 v4 v5 v7 v8 v9 s0 h) (wJ_mStreams_fillsBytes_b46 v0 v1 v2 v3 v4 v5 v7 v8 v9 s0 h) h Prod.snd (f_mStreams_fillsBytes_b46 k9 v0 v1 v2 v3 v4 v5 v7 v8 v9 s0 h) := by
  unfold f_mStreams_fillsBytes_b46
  refine fe_it ?_ ?_
  · refine fe_I Fe.rf (Or.inr (Or.inr (Or.inr (Or.inr (Or.inr (Or.inr (Or.inr (Or.inr (⟨rfl, rfl⟩))))))))) (fun h4 F1 => ?_)
    refine fe_b2 F1 (fe_mStreams_bytes _ _) (fun x k hx => False.elim hx) (fun x k hx => False.elim hx) (fun r7 h5 F2 => ?_)
    refine fe_it ?_ ?_
    · exact fe_j F2 (fe_mStreams_fillsBytes_b78 hk9 _ _ _ _ _ _ _ _ _ _ _) (fun x k hx => by simp only [wI_mStreams_fillsBytes_b78, F1.r, F2.r] at hx; rcases hx with e | e | e | e | e | e | e | e | e <;> first | exact Or.inl (e) | exact Or.inr (Or.inl (e)) | exact Or.inr (Or.inr (Or.inl (e))) | exact Or.inr (Or.inr (Or.inr (Or.inl (e)))) | exact Or.inr (Or.inr (Or.inr (Or.inr (Or.inl (e))))) | exact Or.inr (Or.inr (Or.inr (Or.inr (Or.inr (Or.inl (e)))))) | exact Or.inr (Or.inr (Or.inr (Or.inr (Or.inr (Or.inr (Or.inl (e))))))) | exact Or.inr (Or.inr (Or.inr (Or.inr (Or.inr (Or.inr (Or.inr (Or.inl (e)))))))) | exact Or.inr (Or.inr (Or.inr (Or.inr (Or.inr (Or.inr (Or.inr (Or.inr (e))))))))) (fun x k hx => by simp only [wJ_mStreams_fillsBytes_b78, F1.r, F2.r] at hx; have e := hx; exact e)
    · exact fe_j F2 (fe_mStreams_fillsBytes_b78 hk9 _ _ _ _ _ _ _ _ _ _ _) (fun x k hx => by simp only [wI_mStreams_fillsBytes_b78, F1.r, F2.r] at hx; rcases hx with e | e | e | e | e | e | e | e | e <;> first | exact Or.inl (e) | exact Or.inr (Or.inl (e)) | exact Or.inr (Or.inr (Or.inl (e))) | exact Or.inr (Or.inr (Or.inr (Or.inl (e)))) | exact Or.inr (Or.inr (Or.inr (Or.inr (Or.inl (e))))) | exact Or.inr (Or.inr (Or.inr (Or.inr (Or.inr (Or.inl (e)))))) | exact Or.inr (Or.inr (Or.inr (Or.inr (Or.inr (Or.inr (Or.inl (e))))))) | exact Or.inr (Or.inr (Or.inr (Or.inr (Or.inr (Or.inr (Or.inr (Or.inl (e)))))))) | exact Or.inr (Or.inr (Or.inr (Or.inr (Or.inr (Or.inr (Or.inr (Or.inr (e))))))))) (fun x k hx => by simp only [wJ_mStreams_fillsBytes_b78, F1.r, F2.r] at hx; have e := hx; exact e)
  · exact fe_j Fe.rf (hk9 _ _ _ _ _ _ _ _ _ _ _) (fun x k hx => by simp only [wI_mStreams_fillsBytes_b9] at hx; rcases hx with e | e | e | e | e | e | e | e | e <;> first | exact Or.inl (e) | exact Or.inr (Or.inl (e)) | exact Or.inr (Or.inr (Or.inl (e))) | exact Or.inr (Or.inr (Or.inr (Or.inl (e)))) | exact Or.inr (Or.inr (Or.inr (Or.inr (Or.inl (e))))) | exact Or.inr (Or.inr (Or.inr (Or.inr (Or.inr (Or.inl (e)))))) | exact Or.inr (Or.inr (Or.inr (Or.inr (Or.inr (Or.inr (Or.inl (e))))))) | exact Or.inr (Or.inr (Or.inr (Or.inr (Or.inr (Or.inr (Or.inr (Or.inl (e)))))))) | exact Or.inr (Or.inr (Or.inr (Or.inr (Or.inr (Or.inr (Or.inr (Or.inr (e))))))))) (fun x k hx => by simp only [wJ_mStreams_fillsBytes_b9] at hx; have e := hx; exact e)
theorem fe_mStreams_fillsBytes_b45 {k9 : Nat → Int → Int → Int → Int → Int → Int → Int → Int → Int → Hp → Option (Int × Hp)} (hk9 : ∀ (v0 : Nat) (v1 : Int) (v2 : Int) (v3 : Int) (v4 : Int) (v5 : Int) (v7 : Int) (v8 : Int) (v9 : Int) (v10 : Int) (h : Hp), Feo (wI_mStreams_fillsBytes_b9 v0 v1 v2 v3 v4 v5 v7 v8 v9 v10 h) (wJ_mStreams_fillsBytes_b9 v0 v1 v2 v3 v4 v5 v7 v8 v9 v10 h) h Prod.snd (k9 v0 v1 v2 v3 v4 v5 v7 v8 v9 v10 h)) (v0 : Nat) (v1 : Int) (v2 : Int) (v3 : Int) (v4 : Int) (v5 : Int) (v7 : Int) (v8 : Int) (v9 : Int) (h : Hp) : Feo (wI_mStreams_fillsBytes_b45 v0 v1 v2 v3 v4 v5 v7 v8 v9 h) (wJ_mStreams_fillsBytes_b45 v0 v1 v2 v3 v4 v5 v7 v8 v9 h) h Prod.snd (f_mStreams_fillsBytes_b45 k9 v0 v1 v2 v3 v4 v5 v7 v8 v9 h) := by
  unfold f_mStreams_fillsBytes_b45
  exact fe_j Fe.rf (fe_mStreams_fillsBytes_b46 hk9 _ _ _ _ _ _ _ _ _ _ _) (fun x k hx => by simp only [wI_mStreams_fillsBytes_b46] at hx; rcases hx with e | e | e | e | e | e | e | e | e <;> first | exact Or.inl (e) | exact Or.inr (Or.inl (e)) | exact Or.inr (Or.inr (Or.inl (e))) | exact Or.inr (Or.inr (Or.inr (Or.inl (e)))) | exact Or.inr (Or.inr (Or.inr (Or.inr (Or.inl (e))))) | exact Or.inr (Or.inr (Or.inr (Or.inr (Or.inr (Or.inl (e)))))) | exact Or.inr (Or.inr (Or.inr (Or.inr (Or.inr (Or.inr (Or.inl (e))))))) | exact Or.inr (Or.inr (Or.inr (Or.inr (Or.inr (Or.inr (Or.inr (Or.inl (e)))))))) | exact Or.inr (Or.inr (Or.inr (Or.inr (Or.inr (Or.inr (Or.inr (Or.inr (e))))))))) (fun x k hx => by simp only [wJ_mStreams_fillsBytes_b46] at hx; have e := hx; exact e)
theorem fe_mStreams_fillsBytes_b205 (v0 : Nat) (v2 : Int) (v9 : Int) (h : Hp) : Feo (wI_mStreams_fillsBytes_b205 v0 v2 v9 h) (wJ_mStreams_fillsBytes_b205 v0 v2 v9 h) h Prod.snd (f_mStreams_fillsBytes_b205 v0 v2 v9 h) := by
  unfold f_mStreams_fillsBytes_b205
  refine fe_it ?_ ?_
  · exact fe_so Fe.rf
  · refine fe_it fe_no ?_
    refine fe_it ?_ fe_no
    refine fe_it ?_ ?_
    · exact fe_so Fe.rf
    · refine fe_J Fe.rf (⟨rfl, rfl⟩) (fun h34 F1 => ?_)
      refine fe_it fe_no ?_
      refine fe_it ?_ fe_no
      refine fe_it ?_ ?_
      · exact fe_so F1
      · refine fe_it ?_ fe_no
        refine fe_I F1 ((by first | (simp only [F1.r]; exact rfl) | simp only [F1.r])) (fun h38 F2 => ?_)
        exact fe_so F2
theorem fe_mStreams_fillsBytes_b140 {k140 : Nat → Int → Int → Int → Int → Int → Int → Hp → Option (Int × Hp)} (hk140 : ∀ (v0 : Nat) (v1 : Int) (v2 : Int) (v4 : Int) (v8 : Int) (v9 : Int) (v11 : Int) (h : Hp), Feo (wI_mStreams_fillsBytes_b140 v0 v1 v2 v4 v8 v9 v11 h) (wJ_mStreams_fillsBytes_b140 v0 v1 v2 v4 v8 v9 v11 h) h Prod.snd (k140 v0 v1 v2 v4 v8 v9 v11 h)) (v0 : Nat) (v1 : Int) (v2 : Int) (v4 : Int) (v8 : Int) (v9 : Int) (v11 : Int) (h : Hp) : Feo (wI_mStreams_fillsBytes_b140 v0 v1 v2 v4 v8 v9 v11 h) (wJ_mStreams_fillsBytes_b140 v0 v1 v2 v4 v8 v9 v11 h) h Prod.snd (f_mStreams_fillsBytes_b140 k140 v0 v1 v2 v4 v8 v9 v11 h) := by
  unfold f_mStreams_fillsBytes_b140
  refine fe_it ?_ ?_
  · refine fe_it ?_ ?_
    · exact fe_j Fe.rf (fe_mStreams_fillsBytes_b205 _ _ _ _) (fun x k hx => by simp only [wI_mStreams_fillsBytes_b205] at hx; have e := hx; exact Or.inr (Or.inr (Or.inl (e)))) (fun x k hx => by simp only [wJ_mStreams_fillsBytes_b205] at hx; have e := hx; exact e)
    · refine fe_it fe_no ?_
      refine fe_it ?_ fe_no
      refine fe_it ?_ fe_no
      refine fe_I Fe.rf (Or.inr (Or.inr (Or.inr (Or.inr (Or.inl (rfl)))))) (fun h19 F1 => ?_)
      refine fe_it fe_no ?_
      refine fe_it ?_ fe_no
      refine fe_it ?_ fe_no
      refine fe_I F1 (Or.inr (Or.inr (Or.inr (Or.inr (Or.inr (Or.inr ((by first | (simp only [F1.r]; exact rfl) | simp only [F1.r])))))))) (fun h23 F2 => ?_)
      refine fe_it fe_no ?_
      refine fe_it ?_ fe_no
      refine fe_I F2 (Or.inr (Or.inr (Or.inr (Or.inl ((by first | (simp only [F1.r, F2.r]; exact rfl) | simp only [F1.r, F2.r])))))) (fun h26 F3 => ?_)
      exact fe_j F3 (fe_mStreams_fillsBytes_b205 _ _ _ _) (fun x k hx => by simp only [wI_mStreams_fillsBytes_b205, F1.r, F2.r, F3.r] at hx; have e := hx; exact Or.inr (Or.inr (Or.inl (e)))) (fun x k hx => by simp only [wJ_mStreams_fillsBytes_b205, F1.r, F2.r, F3.r] at hx; have e := hx; exact e)
  · refine fe_b1 Fe.rf (fe_mStreams_remark _ _ _ _ _) (fun x k hx => by simp only [wI_mStreams_remark] at hx; rcases hx with e | e | e <;> first | exact Or.inl (e) | exact Or.inr (Or.inl (e)) | exact Or.inr (Or.inr (Or.inr (Or.inr (Or.inr (Or.inl (e))))))) (fun x k hx => False.elim hx) (fun h27 F4 => ?_)
    refine fe_it fe_no ?_
    refine fe_it ?_ fe_no
    refine fe_v (fun y31 => ?_)
    exact fe_j F4 (hk140 _ _ _ _ _ _ _ _) (fun x k hx => by simp only [wI_mStreams_fillsBytes_b140, F4.r] at hx; rcases hx with e | e | e | e | e | e | e <;> first | exact Or.inl (e) | exact Or.inr (Or.inl (e)) | exact Or.inr (Or.inr (Or.inl (e))) | exact Or.inr (Or.inr (Or.inr (Or.inl (e)))) | exact Or.inr (Or.inr (Or.inr (Or.inr (Or.inl (e))))) | exact Or.inr (Or.inr (Or.inr (Or.inr (Or.inr (Or.inl (e)))))) | exact Or.inr (Or.inr (Or.inr (Or.inr (Or.inr (Or.inr (e))))))) (fun x k hx => by simp only [wJ_mStreams_fillsBytes_b140, F4.r] at hx; have e := hx; exact e)
theorem fe_mStreams_fillsBytes_b140_lp (n : Nat) : ∀ (v0 : Nat) (v1 : Int) (v2 : Int) (v4 : Int) (v8 : Int) (v9 : Int) (v11 : Int) (h : Hp), Feo (wI_mStreams_fillsBytes_b140 v0 v1 v2 v4 v8 v9 v11 h) (wJ_mStreams_fillsBytes_b140 v0 v1 v2 v4 v8 v9 v11 h) h Prod.snd (f_mStreams_fillsBytes_b140_lp n v0 v1 v2 v4 v8 v9 v11 h) := by
  induction n with
  | zero => intro v0 v1 v2 v4 v8 v9 v11 h; exact fe_no
  | succ n ih => intro v0 v1 v2 v4 v8 v9 v11 h; exact fe_mStreams_fillsBytes_b140 ih v0 v1 v2 v4 v8 v9 v11 h
theorem fe_mStreams_fillsBytes_b9 {k9 : Nat → Int → Int → Int → Int → Int → Int → Int → Int → Int → Hp → Option (Int × Hp)} (hk9 : ∀ (v0 : Nat) (v1 : Int) (v2 : Int) (v3 : Int) (v4 : Int) (v5 : Int) (v7 : Int) (v8 : Int) (v9 : Int) (v10 : Int) (h : Hp), Feo (wI_mStreams_fillsBytes_b9 v0 v1 v2 v3 v4 v5 v7 v8 v9 v10 h) (wJ_mStreams_fillsBytes_b9 v0 v1 v2 v3 v4 v5 v7 v8 v9 v10 h) h Prod.snd (k9 v0 v1 v2 v3 v4 v5 v7 v8 v9 v10 h)) (v0 : Nat) (v1 : Int) (v2 : Int) (v3 : Int) (v4 : Int) (v5 : Int) (v7 : Int) (v8 : Int) (v9 : Int) (v10 : Int) (h : Hp) : Feo (wI_mStreams_fillsBytes_b9 v0 v1 v2 v3 v4 v5 v7 v8 v9 v10 h) (wJ_mStreams_fillsBytes_b9 v0 v1 v2 v3 v4 v5 v7 v8 v9 v10 h) h Prod.snd (f_mStreams_fillsBytes_b9 k9 v0 v1 v2 v3 v4 v5 v7 v8 v9 v10 h) := by
  unfold f_mStreams_fillsBytes_b9
  refine fe_it ?_ ?_
  · refine fe_I Fe.rf (Or.inr (Or.inr (Or.inr (Or.inr (Or.inr (Or.inr (Or.inr (Or.inr (⟨rfl, rfl⟩))))))))) (fun h1 F1 => ?_)
    refine fe_it ?_ ?_
    · exact fe_j F1 (fe_mStreams_fillsBytes_b140_lp FU _ _ _ _ _ _ _ _) (fun x k hx => by simp only [wI_mStreams_fillsBytes_b140, F1.r] at hx; rcases hx with e | e | e | e | e | e | e <;> first | exact Or.inl (e) | exact Or.inr (Or.inl (e)) | exact Or.inr (Or.inr (Or.inl (e))) | exact Or.inr (Or.inr (Or.inr (Or.inl (e)))) | exact Or.inr (Or.inr (Or.inr (Or.inr (Or.inl (e))))) | exact Or.inr (Or.inr (Or.inr (Or.inr (Or.inr (Or.inl (e)))))) | exact Or.inr (Or.inr (Or.inr (Or.inr (Or.inr (Or.inr (Or.inl (e)))))))) (fun x k hx => by simp only [wJ_mStreams_fillsBytes_b140, F1.r] at hx; have e := hx; exact e)
    · exact fe_so F1
  · refine fe_it ?_ ?_
    · exact fe_j Fe.rf (fe_mStreams_fillsBytes_b45 hk9 _ _ _ _ _ _ _ _ _ _) (fun x k hx => by simp only [wI_mStreams_fillsBytes_b45] at hx; rcases hx with e | e | e | e | e | e | e | e | e <;> first | exact Or.inl (e) | exact Or.inr (Or.inl (e)) | exact Or.inr (Or.inr (Or.inl (e))) | exact Or.inr (Or.inr (Or.inr (Or.inl (e)))) | exact Or.inr (Or.inr (Or.inr (Or.inr (Or.inl (e))))) | exact Or.inr (Or.inr (Or.inr (Or.inr (Or.inr (Or.inl (e)))))) | exact Or.inr (Or.inr (Or.inr (Or.inr (Or.inr (Or.inr (Or.inl (e))))))) | exact Or.inr (Or.inr (Or.inr (Or.inr (Or.inr (Or.inr (Or.inr (Or.inl (e)))))))) | exact Or.inr (Or.inr (Or.inr (Or.inr (Or.inr (Or.inr (Or.inr (Or.inr (e))))))))) (fun x k hx => by simp only [wJ_mStreams_fillsBytes_b45] at hx; have e := hx; exact e)
    · refine fe_it ?_ ?_
      · exact fe_j Fe.rf (fe_mStreams_fillsBytes_b45 hk9 _ _ _ _ _ _ _ _ _ _) (fun x k hx => by simp only [wI_mStreams_fillsBytes_b45] at hx; rcases hx with e | e | e | e | e | e | e | e | e <;> first | exact Or.inl (e) | exact Or.inr (Or.inl (e)) | exact Or.inr (Or.inr (Or.inl (e))) | exact Or.inr (Or.inr (Or.inr (Or.inl (e)))) | exact Or.inr (Or.inr (Or.inr (Or.inr (Or.inl (e))))) | exact Or.inr (Or.inr (Or.inr (Or.inr (Or.inr (Or.inl (e)))))) | exact Or.inr (Or.inr (Or.inr (Or.inr (Or.inr (Or.inr (Or.inl (e))))))) | exact Or.inr (Or.inr (Or.inr (Or.inr (Or.inr (Or.inr (Or.inr (Or.inl (e)))))))) | exact Or.inr (Or.inr (Or.inr (Or.inr (Or.inr (Or.inr (Or.inr (Or.inr (e))))))))) (fun x k hx => by simp only [wJ_mStreams_fillsBytes_b45] at hx; have e := hx; exact e)
      · refine fe_it fe_no ?_
        refine fe_it ?_ fe_no
        refine fe_it ?_ ?_
        · exact fe_j Fe.rf (fe_mStreams_fillsBytes_b45 hk9 _ _ _ _ _ _ _ _ _ _) (fun x k hx => by simp only [wI_mStreams_fillsBytes_b45] at hx; rcases hx with e | e | e | e | e | e | e | e | e <;> first | exact Or.inl (e) | exact Or.inr (Or.inl (e)) | exact Or.inr (Or.inr (Or.inl (e))) | exact Or.inr (Or.inr (Or.inr (Or.inl (e)))) | exact Or.inr (Or.inr (Or.inr (Or.inr (Or.inl (e))))) | exact Or.inr (Or.inr (Or.inr (Or.inr (Or.inr (Or.inl (e)))))) | exact Or.inr (Or.inr (Or.inr (Or.inr (Or.inr (Or.inr (Or.inl (e))))))) | exact Or.inr (Or.inr (Or.inr (Or.inr (Or.inr (Or.inr (Or.inr (Or.inl (e)))))))) | exact Or.inr (Or.inr (Or.inr (Or.inr (Or.inr (Or.inr (Or.inr (Or.inr (e))))))))) (fun x k hx => by simp only [wJ_mStreams_fillsBytes_b45] at hx; have e := hx; exact e)
        · exact fe_j Fe.rf (fe_mStreams_fillsBytes_b46 hk9 _ _ _ _ _ _ _ _ _ _ _) (fun x k hx => by simp only [wI_mStreams_fillsBytes_b46] at hx; rcases hx with e | e | e | e | e | e | e | e | e <;> first | exact Or.inl (e) | exact Or.inr (Or.inl (e)) | exact Or.inr (Or.inr (Or.inl (e))) | exact Or.inr (Or.inr (Or.inr (Or.inl (e)))) | exact Or.inr (Or.inr (Or.inr (Or.inr (Or.inl (e))))) | exact Or.inr (Or.inr (Or.inr (Or.inr (Or.inr (Or.inl (e)))))) | exact Or.inr (Or.inr (Or.inr (Or.inr (Or.inr (Or.inr (Or.inl (e))))))) | exact Or.inr (Or.inr (Or.inr (Or.inr (Or.inr (Or.inr (Or.inr (Or.inl (e)))))))) | exact Or.inr (Or.inr (Or.inr (Or.inr (Or.inr (Or.inr (Or.inr (Or.inr (e))))))))) (fun x k hx => by simp only [wJ_mStreams_fillsBytes_b46] at hx; have e := hx; exact e)
theorem fe_mStreams_fillsBytes_b9_lp (n : Nat) : ∀ (v0 : Nat) (v1 : Int) (v2 : Int) (v3 : Int) (v4 : Int) (v5 : Int) (v7 : Int) (v8 : Int) (v9 : Int) (v10 : Int) (h : Hp), Feo (wI_mStreams_fillsBytes_b9 v0 v1 v2 v3 v4 v5 v7 v8 v9 v10 h) (wJ_mStreams_fillsBytes_b9 v0 v1 v2 v3 v4 v5 v7 v8 v9 v10 h) h Prod.snd (f_mStreams_fillsBytes_b9_lp n v0 v1 v2 v3 v4 v5 v7 v8 v9 v10 h) := by
  induction n with
  | zero => intro v0 v1 v2 v3 v4 v5 v7 v8 v9 v10 h; exact fe_no
  | succ n ih => intro v0 v1 v2 v3 v4 v5 v7 v8 v9 v10 h; exact fe_mStreams_fillsBytes_b9 ih v0 v1 v2 v3 v4 v5 v7 v8 v9 v10 h
theorem fe_mStreams_fillsBytes (v0 : Nat) (v1 : Int) (v2 : Int) (v3 : Int) (v4 : Int) (v5 : Int) (v7 : Int) (h : Hp) : Feo (wI_mStreams_fillsBytes v0 v1 v2 v3 v4 v5 v7 h) (wJ_mStreams_fillsBytes v0 v1 v2 v3 v4 v5 v7 h) h Prod.snd (f_mStreams_fillsBytes v0 v1 v2 v3 v4 v5 v7 h) := by
  unfold f_mStreams_fillsBytes
  exact fe_j Fe.rf (fe_mStreams_fillsBytes_b9_lp FU _ _ _ _ _ _ _ _ _ _ _) (fun x k hx => by simp only [wI_mStreams_fillsBytes_b9] at hx; rcases hx with e | e | e | e | e | e | e | e | e <;> first | exact Or.inl (e) | exact Or.inr (Or.inl (e)) | exact Or.inr (Or.inr (Or.inl (e))) | exact Or.inr (Or.inr (Or.inr (Or.inl (e)))) | exact Or.inr (Or.inr (Or.inr (Or.inr (Or.inl (e))))) | exact Or.inr (Or.inr (Or.inr (Or.inr (Or.inr (Or.inl (e)))))) | exact Or.inr (Or.inr (Or.inr (Or.inr (Or.inr (Or.inr (Or.inl (e))))))) | exact Or.inr (Or.inr (Or.inr (Or.inr (Or.inr (Or.inr (Or.inr (Or.inl (e)))))))) | exact Or.inr (Or.inr (Or.inr (Or.inr (Or.inr (Or.inr (Or.inr (Or.inr (e))))))))) (fun x k hx => by simp only [wJ_mStreams_fillsBytes_b9] at hx; have e := hx; exact e)
def wI_mStreams_fillsStream_b205 (v0 : Nat) (v1 : Int) (v2 : Int) (v3 : Int) (v4 : Int) (v5 : Int) (v6 : Int) (v7 : Int) (v8 : Int) (v10 : Int) (h : Hp) (x k : Nat) : Prop := x = (hR h v0 25) ∨ x = (hR h v0 26) ∨ x = hR h v0 15 ∨ x = hR h v0 22 ∨ x = hR h v0 24 ∨ x = hR h v0 42 ∨ x = hR h v0 44 ∨ x = hR h v0 55 ∨ (x = v0 ∧ k = 50) ∨ (x = v0 ∧ k = 54)
def wJ_mStreams_fillsStream_b205 (v0 : Nat) (v1 : Int) (v2 : Int) (v3 : Int) (v4 : Int) (v5 : Int) (v6 : Int) (v7 : Int) (v8 : Int) (v10 : Int) (h : Hp) (x k : Nat) : Prop := (x = v0 ∧ k = 51) ∨ (x = v0 ∧ k = 52) ∨ (x = v0 ∧ k = 53)
def wI_mStreams_fillsStream_b181 (v0 : Nat) (v1 : Int) (v2 : Int) (v3 : Int) (v4 : Int) (v5 : Int) (v6 : Int) (v7 : Int) (v8 : Int) (v10 : Int) (s0 : Int) (h : Hp) (x k : Nat) : Prop := x = (hR h v0 25) ∨ x = (hR h v0 26) ∨ x = hR h v0 15 ∨ x = hR h v0 22 ∨ x = hR h v0 24 ∨ x = hR h v0 42 ∨ x = hR h v0 44 ∨ x = hR h v0 55 ∨ (x = v0 ∧ k = 50) ∨ (x = v0 ∧ k = 54)
def wJ_mStreams_fillsStream_b181 (v0 : Nat) (v1 : Int) (v2 : Int) (v3 : Int) (v4 : Int) (v5 : Int) (v6 : Int) (v7 : Int) (v8 : Int) (v10 : Int) (s0 : Int) (h : Hp) (x k : Nat) : Prop := (x = v0 ∧ k = 51) ∨ (x = v0 ∧ k = 52) ∨ (x = v0 ∧ k = 53)
def wI_mStreams_fillsStream_b176 (v0 : Nat) (v1 : Int) (v2 : Int) (v3 : Int) (v4 : Int) (v5 : Int) (v6 : Int) (v7 : Int) (v8 : Int) (v10 : Int) (h : Hp) (x k : Nat) : Prop := x = (hR h v0 25) ∨ x = (hR h v0 26) ∨ x = hR h v0 15 ∨ x = hR h v0 22 ∨ x = hR h v0 24 ∨ x = hR h v0 42 ∨ x = hR h v0 44 ∨ x = hR h v0 55 ∨ (x = v0 ∧ k = 50) ∨ (x = v0 ∧ k = 54)
def wJ_mStreams_fillsStream_b176 (v0 : Nat) (v1 : Int) (v2 : Int) (v3 : Int) (v4 : Int) (v5 : Int) (v6 : Int) (v7 : Int) (v8 : Int) (v10 : Int) (h : Hp) (x k : Nat) : Prop := (x = v0 ∧ k = 51) ∨ (x = v0 ∧ k = 52) ∨ (x = v0 ∧ k = 53)
def wI_mStreams_fillsStream_b180 (v0 : Nat) (v1 : Int) (v2 : Int) (v3 : Int) (v4 : Int) (v5 : Int) (v6 : Int) (v7 : Int) (v8 : Int) (v10 : Int) (h : Hp) (x k : Nat) : Prop := x = (hR h v0 25) ∨ x = (hR h v0 26) ∨ x = hR h v0 15 ∨ x = hR h v0 22 ∨ x = hR h v0 24 ∨ x = hR h v0 42 ∨ x = hR h v0 44 ∨ x = hR h v0 55 ∨ (x = v0 ∧ k = 50) ∨ (x = v0 ∧ k = 54)
def wJ_mStreams_fillsStream_b180 (v0 : Nat) (v1 : Int) (v2 : Int) (v3 : Int) (v4 : Int) (v5 : Int) (v6 : Int) (v7 : Int) (v8 : Int) (v10 : Int) (h : Hp) (x k : Nat) : Prop := (x = v0 ∧ k = 51) ∨ (x = v0 ∧ k = 52) ∨ (x = v0 ∧ k = 53)
def wI_mStreams_fillsStream_b143 (v0 : Nat) (v1 : Int) (v2 : Int) (v3 : Int) (v4 : Int) (v5 : Int) (v6 : Int) (v7 : Int) (v8 : Int) (s0 : Int) (h : Hp) (x k : Nat) : Prop := x = (hR h v0 25) ∨ x = (hR h v0 26) ∨ x = hR h v0 15 ∨ x = hR h v0 22 ∨ x = hR h v0 24 ∨ x = hR h v0 42 ∨ x = hR h v0 44 ∨ x = hR h v0 55 ∨ (x = v0 ∧ k = 50) ∨ (x = v0 ∧ k = 54)
def wJ_mStreams_fillsStream_b143 (v0 : Nat) (v1 : Int) (v2 : Int) (v3 : Int) (v4 : Int) (v5 : Int) (v6 : Int) (v7 : Int) (v8 : Int) (s0 : Int) (h : Hp) (x k : Nat) : Prop := (x = v0 ∧ k = 51) ∨ (x = v0 ∧ k = 52) ∨ (x = v0 ∧ k = 53)
def wI_mStreams_fillsStream_b130 (v0 : Nat) (v1 : Int) (v2 : Int) (v3 : Int) (v4 : Int) (v5 : Int) (v6 : Int) (v7 : Int) (s0 : Int) (h : Hp) (x k : Nat) : Prop := x = (hR h v0 25) ∨ x = (hR h v0 26) ∨ x = hR h v0 15 ∨ x = hR h v0 22 ∨ x = hR h v0 24 ∨ x = hR h v0 42 ∨ x = hR h v0 44 ∨ x = hR h v0 55 ∨ (x = v0 ∧ k = 50) ∨ (x = v0 ∧ k = 54)
def wJ_mStreams_fillsStream_b130 (v0 : Nat) (v1 : Int) (v2 : Int) (v3 : Int) (v4 : Int) (v5 : Int) (v6 : Int) (v7 : Int) (s0 : Int) (h : Hp) (x k : Nat) : Prop := (x = v0 ∧ k = 51) ∨ (x = v0 ∧ k = 52) ∨ (x = v0 ∧ k = 53)
def wI_mStreams_fillsStream_b111 (v0 : Nat) (v1 : Int) (v2 : Int) (v3 : Int) (v4 : Int) (v5 : Int) (v6 : Int) (v7 : Int) (h : Hp) (x k : Nat) : Prop := x = (hR h v0 25) ∨ x = (hR h v0 26) ∨ x = hR h v0 15 ∨ x = hR h v0 22 ∨ x = hR h v0 24 ∨ x = hR h v0 42 ∨ x = hR h v0 44 ∨ x = hR h v0 55 ∨ (x = v0 ∧ k = 50) ∨ (x = v0 ∧ k = 54)
def wJ_mStreams_fillsStream_b111 (v0 : Nat) (v1 : Int) (v2 : Int) (v3 : Int) (v4 : Int) (v5 : Int) (v6 : Int) (v7 : Int) (h : Hp) (x k : Nat) : Prop := (x = v0 ∧ k = 51) ∨ (x = v0 ∧ k = 52) ∨ (x = v0 ∧ k = 53)
def wI_mStreams_fillsStream_b79 (v0 : Nat) (v1 : Int) (v2 : Int) (v3 : Int) (v4 : Int) (v5 : Int) (v6 : Int) (v7 : Int) (h : Hp) (x k : Nat) : Prop := x = (hR h v0 25) ∨ x = (hR h v0 26) ∨ x = hR h v0 15 ∨ x = hR h v0 22 ∨ x = hR h v0 24 ∨ x = hR h v0 42 ∨ x = hR h v0 44 ∨ x = hR h v0 55 ∨ (x = v0 ∧ k = 50) ∨ (x = v0 ∧ k = 54)
def wJ_mStreams_fillsStream_b79 (v0 : Nat) (v1 : Int) (v2 : Int) (v3 : Int) (v4 : Int) (v5 : Int) (v6 : Int) (v7 : Int) (h : Hp) (x k : Nat) : Prop := (x = v0 ∧ k = 51) ∨ (x = v0 ∧ k = 52) ∨ (x = v0 ∧ k = 53)
def wI_mStreams_fillsStream_b77 (v0 : Nat) (v1 : Int) (v2 : Int) (v3 : Int) (v4 : Int) (v5 : Int) (v6 : Int) (s0 : Int) (h : Hp) (x k : Nat) : Prop := x = (hR h v0 25) ∨ x = (hR h v0 26) ∨ x = hR h v0 15 ∨ x = hR h v0 22 ∨ x = hR h v0 24 ∨ x = hR h v0 42 ∨ x = hR h v0 44 ∨ x = hR h v0 55 ∨ (x = v0 ∧ k = 50) ∨ (x = v0 ∧ k = 54)
def wJ_mStreams_fillsStream_b77 (v0 : Nat) (v1 : Int) (v2 : Int) (v3 : Int) (v4 : Int) (v5 : Int) (v6 : Int) (s0 : Int) (h : Hp) (x k : Nat) : Prop := (x = v0 ∧ k = 51) ∨ (x = v0 ∧ k = 52) ∨ (x = v0 ∧ k = 53)
def wI_mStreams_fillsStream_b58 (v0 : Nat) (v1 : Int) (v2 : Int) (v3 : Int) (v4 : Int) (v5 : Int) (s0 : Int) (h : Hp) (x k : Nat) : Prop := x = (hR h v0 25) ∨ x = (hR h v0 26) ∨ x = hR h v0 15 ∨ x = hR h v0 22 ∨ x = hR h v0 24 ∨ x = hR h v0 42 ∨ x = hR h v0 44 ∨ x = hR h v0 55 ∨ (x = v0 ∧ k = 50) ∨ (x = v0 ∧ k = 54)
def wJ_mStreams_fillsStream_b58 (v0 : Nat) (v1 : Int) (v2 : Int) (v3 : Int) (v4 : Int) (v5 : Int) (s0 : Int) (h : Hp) (x k : Nat) : Prop := (x = v0 ∧ k = 51) ∨ (x = v0 ∧ k = 52) ∨ (x = v0 ∧ k = 53)
def wI_mStreams_fillsStream_b33 (v0 : Nat) (v1 : Int) (v2 : Int) (v3 : Int) (v4 : Int) (s0 : Int) (h : Hp) (x k : Nat) : Prop := x = (hR h v0 25) ∨ x = (hR h v0 26) ∨ x = hR h v0 15 ∨ x = hR h v0 22 ∨ x = hR h v0 24 ∨ x = hR h v0 42 ∨ x = hR h v0 44 ∨ x = hR h v0 55 ∨ (x = v0 ∧ k = 50) ∨ (x = v0 ∧ k = 54)
def wJ_mStreams_fillsStream_b33 (v0 : Nat) (v1 : Int) (v2 : Int) (v3 : Int) (v4 : Int) (s0 : Int) (h : Hp) (x k : Nat) : Prop := (x = v0 ∧ k = 51) ∨ (x = v0 ∧ k = 52) ∨ (x = v0 ∧ k = 53)
def wI_mStreams_fillsStream (v0 : Nat) (v1 : Int) (v2 : Int) (v3 : Int) (h : Hp) (x k : Nat) : Prop := x = (hR h v0 25) ∨ x = (hR h v0 26) ∨ x = hR h v0 15 ∨ x = hR h v0 22 ∨ x = hR h v0 24 ∨ x = hR h v0 42 ∨ x = hR h v0 44 ∨ x = hR h v0 55 ∨ (x = v0 ∧ k = 50) ∨ (x = v0 ∧ k = 54)
def wJ_mStreams_fillsStream (v0 : Nat) (v1 : Int) (v2 : Int) (v3 : Int) (h : Hp) (x k : Nat) : Prop := (x = v0 ∧ k = 51) ∨ (x = v0 ∧ k = 52) ∨ (x = v0 ∧ k = 53)
theorem fe_mStreams_fillsStream_b205 (v0 : Nat) (v1 : Int) (v2 : Int) (v3 : Int) (v4 : Int) (v5 : Int) (v6 : Int) (v7 : Int) (v8 : Int) (v10 : Int) (h : Hp) : Feo (wI_mStreams_fillsStream_b205 v0 v1 v2 v3 v4 v5 v6 v7 v8 v10 h) (wJ_mStreams_fillsStream_b205 v0 v1 v2 v3 v4 v5 v6 v7 v8 v10 h) h Prod.snd (f_mStreams_fillsStream_b205 v0 v1 v2 v3 v4 v5 v6 v7 v8 v10 h) := by
  unfold f_mStreams_fillsStream_b205
  refine fe_I Fe.rf (Or.inr (Or.inr (Or.inr (Or.inr (Or.inr (Or.inr (Or.inr (Or.inr (Or.inl (⟨rfl, rfl⟩)))))))))) (fun h28 F1 => ?_)
  refine fe_J F1 (Or.inl (⟨rfl, rfl⟩)) (fun h29 F2 => ?_)
  refine fe_J F2 (Or.inr (Or.inl (⟨rfl, rfl⟩))) (fun h30 F3 => ?_)
  refine fe_J F3 (Or.inr (Or.inr (⟨rfl, rfl⟩))) (fun h31 F4 => ?_)
  refine fe_I F4 (Or.inr (Or.inr (Or.inr (Or.inr (Or.inr (Or.inr (Or.inr (Or.inr (Or.inr (⟨rfl, rfl⟩)))))))))) (fun h32 F5 => ?_)
  refine fe_it ?_ ?_
  · refine fe_b2 F5 (fe_mStreams_fillsBytes _ _ _ _ _ _ _ _) (fun x k hx => by simp only [wI_mStreams_fillsBytes, F1.r, F2.r, F3.r, F4.r, F5.r] at hx; rcases hx with e | e | e | e | e | e | e | e | e <;> first | exact Or.inl (e) | exact Or.inr (Or.inl (e)) | exact Or.inr (Or.inr (Or.inl (e))) | exact Or.inr (Or.inr (Or.inr (Or.inl (e)))) | exact Or.inr (Or.inr (Or.inr (Or.inr (Or.inl (e))))) | exact Or.inr (Or.inr (Or.inr (Or.inr (Or.inr (Or.inl (e)))))) | exact Or.inr (Or.inr (Or.inr (Or.inr (Or.inr (Or.inr (Or.inl (e))))))) | exact Or.inr (Or.inr (Or.inr (Or.inr (Or.inr (Or.inr (Or.inr (Or.inl (e)))))))) | exact Or.inr (Or.inr (Or.inr (Or.inr (Or.inr (Or.inr (Or.inr (Or.inr (Or.inr (e)))))))))) (fun x k hx => by simp only [wJ_mStreams_fillsBytes, F1.r, F2.r, F3.r, F4.r, F5.r] at hx; have e := hx; exact Or.inr (Or.inr (e))) (fun r35 h33 F6 => ?_)
    refine fe_it ?_ fe_no
    exact fe_so F6
  · refine fe_J F5 (Or.inr (Or.inr (⟨rfl, rfl⟩))) (fun h37 F7 => ?_)
    refine fe_b2 F7 (fe_mStreams_bytes _ _) (fun x k hx => False.elim hx) (fun x k hx => False.elim hx) (fun r40 h38 F8 => ?_)
    refine fe_it ?_ ?_
    · refine fe_it fe_no ?_
      refine fe_it ?_ fe_no
      refine fe_I F8 (Or.inr (Or.inr (Or.inl ((by first | (simp only [F1.r, F2.r, F3.r, F4.r, F5.r, F7.r, F8.r]; exact rfl) | simp only [F1.r, F2.r, F3.r, F4.r, F5.r, F7.r, F8.r]))))) (fun h43 F9 => ?_)
      exact fe_so F9
    · exact fe_so F8
theorem fe_mStreams_fillsStream_b181 (v0 : Nat) (v1 : Int) (v2 : Int) (v3 : Int) (v4 : Int) (v5 : Int) (v6 : Int) (v7 : Int) (v8 : Int) (v10 : Int) (s0 : Int) (h : Hp) : Feo (wI_mStreams_fillsStream_b181 v0 v1 v2 v3 v4 v5 v6 v7 v8 v10 s0 h) (wJ_mStreams_fillsStream_b181 v0 v1 v2 v3 v4 v5 v6 v7 v8 v10 s0 h) h Prod.snd (f_mStreams_fillsStream_b181 v0 v1 v2 v3 v4 v5 v6 v7 v8 v10 s0 h) := by
  unfold f_mStreams_fillsStream_b181
  refine fe_it ?_ ?_
  · refine fe_it ?_ ?_
    · exact fe_j Fe.rf (fe_mStreams_fillsStream_b205 _ _ _ _ _ _ _ _ _ _ _) (fun x k hx => by simp only [wI_mStreams_fillsStream_b205] at hx; rcases hx with e | e | e | e | e | e | e | e | e | e <;> first | exact Or.inl (e) | exact Or.inr (Or.inl (e)) | exact Or.inr (Or.inr (Or.inl (e))) | exact Or.inr (Or.inr (Or.inr (Or.inl (e)))) | exact Or.inr (Or.inr (Or.inr (Or.inr (Or.inl (e))))) | exact Or.inr (Or.inr (Or.inr (Or.inr (Or.inr (Or.inl (e)))))) | exact Or.inr (Or.inr (Or.inr (Or.inr (Or.inr (Or.inr (Or.inl (e))))))) | exact Or.inr (Or.inr (Or.inr (Or.inr (Or.inr (Or.inr (Or.inr (Or.inl (e)))))))) | exact Or.inr (Or.inr (Or.inr (Or.inr (Or.inr (Or.inr (Or.inr (Or.inr (Or.inl (e))))))))) | exact Or.inr (Or.inr (Or.inr (Or.inr (Or.inr (Or.inr (Or.inr (Or.inr (Or.inr (e)))))))))) (fun x k hx => by simp only [wJ_mStreams_fillsStream_b205] at hx; rcases hx with e | e | e <;> first | exact Or.inl (e) | exact Or.inr (Or.inl (e)) | exact Or.inr (Or.inr (e)))
    · exact fe_so Fe.rf
  · refine fe_it ?_ ?_
    · exact fe_j Fe.rf (fe_mStreams_fillsStream_b205 _ _ _ _ _ _ _ _ _ _ _) (fun x k hx => by simp only [wI_mStreams_fillsStream_b205] at hx; rcases hx with e | e | e | e | e | e | e | e | e | e <;> first | exact Or.inl (e) | exact Or.inr (Or.inl (e)) | exact Or.inr (Or.inr (Or.inl (e))) | exact Or.inr (Or.inr (Or.inr (Or.inl (e)))) | exact Or.inr (Or.inr (Or.inr (Or.inr (Or.inl (e))))) | exact Or.inr (Or.inr (Or.inr (Or.inr (Or.inr (Or.inl (e)))))) | exact Or.inr (Or.inr (Or.inr (Or.inr (Or.inr (Or.inr (Or.inl (e))))))) | exact Or.inr (Or.inr (Or.inr (Or.inr (Or.inr (Or.inr (Or.inr (Or.inl (e)))))))) | exact Or.inr (Or.inr (Or.inr (Or.inr (Or.inr (Or.inr (Or.inr (Or.inr (Or.inl (e))))))))) | exact Or.inr (Or.inr (Or.inr (Or.inr (Or.inr (Or.inr (Or.inr (Or.inr (Or.inr (e)))))))))) (fun x k hx => by simp only [wJ_mStreams_fillsStream_b205] at hx; rcases hx with e | e | e <;> first | exact Or.inl (e) | exact Or.inr (Or.inl (e)) | exact Or.inr (Or.inr (e)))
    · exact fe_so Fe.rf
theorem fe_mStreams_fillsStream_b176 (v0 : Nat) (v1 : Int) (v2 : Int) (v3 : Int) (v4 : Int) (v5 : Int) (v6 : Int) (v7 : Int) (v8 : Int) (v10 : Int) (h : Hp) : Feo (wI_mStreams_fillsStream_b176 v0 v1 v2 v3 v4 v5 v6 v7 v8 v10 h) (wJ_mStreams_fillsStream_b176 v0 v1 v2 v3 v4 v5 v6 v7 v8 v10 h) h Prod.snd (f_mStreams_fillsStream_b176 v0 v1 v2 v3 v4 v5 v6 v7 v8 v10 h) := by
  unfold f_mStreams_fillsStream_b176
  exact fe_j Fe.rf (fe_mStreams_fillsStream_b181 _ _ _ _ _ _ _ _ _ _ _ _) (fun x k hx => by simp only [wI_mStreams_fillsStream_b181] at hx; rcases hx with e | e | e | e | e | e | e | e | e | e <;> first | exact Or.inl (e) | exact Or.inr (Or.inl (e)) | exact Or.inr (Or.inr (Or.inl (e))) | exact Or.inr (Or.inr (Or.inr (Or.inl (e)))) | exact Or.inr (Or.inr (Or.inr (Or.inr (Or.inl (e))))) | exact Or.inr (Or.inr (Or.inr (Or.inr (Or.inr (Or.inl (e)))))) | exact Or.inr (Or.inr (Or.inr (Or.inr (Or.inr (Or.inr (Or.inl (e))))))) | exact Or.inr (Or.inr (Or.inr (Or.inr (Or.inr (Or.inr (Or.inr (Or.inl (e)))))))) | exact Or.inr (Or.inr (Or.inr (Or.inr (Or.inr (Or.inr (Or.inr (Or.inr (Or.inl (e))))))))) | exact Or.inr (Or.inr (Or.inr (Or.inr (Or.inr (Or.inr (Or.inr (Or.inr (Or.inr (e)))))))))) (fun x k hx => by simp only [wJ_mStreams_fillsStream_b181] at hx; rcases hx with e | e | e <;> first | exact Or.inl (e) | exact Or.inr (Or.inl (e)) | exact Or.inr (Or.inr (e)))
theorem fe_mStreams_fillsStream_b180 (v0 : Nat) (v1 : Int) (v2 : Int) (v3 : Int) (v4 : Int) (v5 : Int) (v6 : Int) (v7 : Int) (v8 : Int) (v10 : Int) (h : Hp) : Feo (wI_mStreams_fillsStream_b180 v0 v1 v2 v3 v4 v5 v6 v7 v8 v10 h) (wJ_mStreams_fillsStream_b180 v0 v1 v2 v3 v4 v5 v6 v7 v8 v10 h) h Prod.snd (f_mStreams_fillsStream_b180 v0 v1 v2 v3 v4 v5 v6 v7 v8 v10 h) := by
  unfold f_mStreams_fillsStream_b180
  exact fe_j Fe.rf (fe_mStreams_fillsStream_b181 _ _ _ _ _ _ _ _ _ _ _ _) (fun x k hx => by simp only [wI_mStreams_fillsStream_b181] at hx; rcases hx with e | e | e | e | e | e | e | e | e | e <;> first | exact Or.inl (e) | exact Or.inr (Or.inl (e)) | exact Or.inr (Or.inr (Or.inl (e))) | exact Or.inr (Or.inr (Or.inr (Or.inl (e)))) | exact Or.inr (Or.inr (Or.inr (Or.inr (Or.inl (e))))) | exact Or.inr (Or.inr (Or.inr (Or.inr (Or.inr (Or.inl (e)))))) | exact Or.inr (Or.inr (Or.inr (Or.inr (Or.inr (Or.inr (Or.inl (e))))))) | exact Or.inr (Or.inr (Or.inr (Or.inr (Or.inr (Or.inr (Or.inr (Or.inl (e)))))))) | exact Or.inr (Or.inr (Or.inr (Or.inr (Or.inr (Or.inr (Or.inr (Or.inr (Or.inl (e))))))))) | exact Or.inr (Or.inr (Or.inr (Or.inr (Or.inr (Or.inr (Or.inr (Or.inr (Or.inr (e)))))))))) (fun x k hx => by simp only [wJ_mStreams_fillsStream_b181] at hx; rcases hx with e | e | e <;> first | exact Or.inl (e) | exact Or.inr (Or.inl (e)) | exact Or.inr (Or.inr (e)))
theorem fe_mStreams_fillsStream_b143 (v0 : Nat) (v1 : Int) (v2 : Int) (v3 : Int) (v4 : Int) (v5 : Int) (v6 : Int) (v7 : Int) (v8 : Int) (s0 : Int) (h : Hp) : Feo (wI_mStreams_fillsStream_b143 v0 v1 v2 v3 v4 v5 v6 v7 v8 s0 h) (wJ_mStreams_fillsStream_b143 v0 v1 v2 v3 v4 v5 v6 v7 v8 s0 h) h Prod.snd (f_mStreams_fillsStream_b143 v0 v1 v2 v3 v4 v5 v6 v7 v8 s0 h) := by
  unfold f_mStreams_fillsStream_b143
  refine fe_it fe_no ?_
  refine fe_it ?_ fe_no
  refine fe_it ?_ ?_
  · exact fe_j Fe.rf (fe_mStreams_fillsStream_b180 _ _ _ _ _ _ _ _ _ _ _) (fun x k hx => by simp only [wI_mStreams_fillsStream_b180] at hx; rcases hx with e | e | e | e | e | e | e | e | e | e <;> first | exact Or.inl (e) | exact Or.inr (Or.inl (e)) | exact Or.inr (Or.inr (Or.inl (e))) | exact Or.inr (Or.inr (Or.inr (Or.inl (e)))) | exact Or.inr (Or.inr (Or.inr (Or.inr (Or.inl (e))))) | exact Or.inr (Or.inr (Or.inr (Or.inr (Or.inr (Or.inl (e)))))) | exact Or.inr (Or.inr (Or.inr (Or.inr (Or.inr (Or.inr (Or.inl (e))))))) | exact Or.inr (Or.inr (Or.inr (Or.inr (Or.inr (Or.inr (Or.inr (Or.inl (e)))))))) | exact Or.inr (Or.inr (Or.inr (Or.inr (Or.inr (Or.inr (Or.inr (Or.inr (Or.inl (e))))))))) | exact Or.inr (Or.inr (Or.inr (Or.inr (Or.inr (Or.inr (Or.inr (Or.inr (Or.inr (e)))))))))) (fun x k hx => by simp only [wJ_mStreams_fillsStream_b180] at hx; rcases hx with e | e | e <;> first | exact Or.inl (e) | exact Or.inr (Or.inl (e)) | exact Or.inr (Or.inr (e)))
  · refine fe_it fe_no ?_
    refine fe_it ?_ fe_no
    refine fe_it ?_ ?_
    · exact fe_j Fe.rf (fe_mStreams_fillsStream_b176 _ _ _ _ _ _ _ _ _ _ _) (fun x k hx => by simp only [wI_mStreams_fillsStream_b176] at hx; rcases hx with e | e | e | e | e | e | e | e | e | e <;> first | exact Or.inl (e) | exact Or.inr (Or.inl (e)) | exact Or.inr (Or.inr (Or.inl (e))) | exact Or.inr (Or.inr (Or.inr (Or.inl (e)))) | exact Or.inr (Or.inr (Or.inr (Or.inr (Or.inl (e))))) | exact Or.inr (Or.inr (Or.inr (Or.inr (Or.inr (Or.inl (e)))))) | exact Or.inr (Or.inr (Or.inr (Or.inr (Or.inr (Or.inr (Or.inl (e))))))) | exact Or.inr (Or.inr (Or.inr (Or.inr (Or.inr (Or.inr (Or.inr (Or.inl (e)))))))) | exact Or.inr (Or.inr (Or.inr (Or.inr (Or.inr (Or.inr (Or.inr (Or.inr (Or.inl (e))))))))) | exact Or.inr (Or.inr (Or.inr (Or.inr (Or.inr (Or.inr (Or.inr (Or.inr (Or.inr (e)))))))))) (fun x k hx => by simp only [wJ_mStreams_fillsStream_b176] at hx; rcases hx with e | e | e <;> first | exact Or.inl (e) | exact Or.inr (Or.inl (e)) | exact Or.inr (Or.inr (e)))
    · refine fe_it ?_ fe_no
      refine fe_it ?_ ?_
      · exact fe_j Fe.rf (fe_mStreams_fillsStream_b180 _ _ _ _ _ _ _ _ _ _ _) (fun x k hx => by simp only [wI_mStreams_fillsStream_b180] at hx; rcases hx with e | e | e | e | e | e | e | e | e | e <;> first | exact Or.inl (e) | exact Or.inr (Or.inl (e)) | exact Or.inr (Or.inr (Or.inl (e))) | exact Or.inr (Or.inr (Or.inr (Or.inl (e)))) | exact Or.inr (Or.inr (Or.inr (Or.inr (Or.inl (e))))) | exact Or.inr (Or.inr (Or.inr (Or.inr (Or.inr (Or.inl (e)))))) | exact Or.inr (Or.inr (Or.inr (Or.inr (Or.inr (Or.inr (Or.inl (e))))))) | exact Or.inr (Or.inr (Or.inr (Or.inr (Or.inr (Or.inr (Or.inr (Or.inl (e)))))))) | exact Or.inr (Or.inr (Or.inr (Or.inr (Or.inr (Or.inr (Or.inr (Or.inr (Or.inl (e))))))))) | exact Or.inr (Or.inr (Or.inr (Or.inr (Or.inr (Or.inr (Or.inr (Or.inr (Or.inr (e)))))))))) (fun x k hx => by simp only [wJ_mStreams_fillsStream_b180] at hx; rcases hx with e | e | e <;> first | exact Or.inl (e) | exact Or.inr (Or.inl (e)) | exact Or.inr (Or.inr (e)))
      · exact fe_j Fe.rf (fe_mStreams_fillsStream_b176 _ _ _ _ _ _ _ _ _ _ _) (fun x k hx => by simp only [wI_mStreams_fillsStream_b176] at hx; rcases hx with e | e | e | e | e | e | e | e | e | e <;> first | exact Or.inl (e) | exact Or.inr (Or.inl (e)) | exact Or.inr (Or.inr (Or.inl (e))) | exact Or.inr (Or.inr (Or.inr (Or.inl (e)))) | exact Or.inr (Or.inr (Or.inr (Or.inr (Or.inl (e))))) | exact Or.inr (Or.inr (Or.inr (Or.inr (Or.inr (Or.inl (e)))))) | exact Or.inr (Or.inr (Or.inr (Or.inr (Or.inr (Or.inr (Or.inl (e))))))) | exact Or.inr (Or.inr (Or.inr (Or.inr (Or.inr (Or.inr (Or.inr (Or.inl (e)))))))) | exact Or.inr (Or.inr (Or.inr (Or.inr (Or.inr (Or.inr (Or.inr (Or.inr (Or.inl (e))))))))) | exact Or.inr (Or.inr (Or.inr (Or.inr (Or.inr (Or.inr (Or.inr (Or.inr (Or.inr (e)))))))))) (fun x k hx => by simp only [wJ_mStreams_fillsStream_b176] at hx; rcases hx with e | e | e <;> first | exact Or.inl (e) | exact Or.inr (Or.inl (e)) | exact Or.inr (Or.inr (e)))
theorem fe_mStreams_fillsStream_b130 (v0 : Nat) (v1 : Int) (v2 : Int) (v3 : Int) (v4 : Int) (v5 : Int) (v6 : Int) (v7 : Int) (s0 : Int) (h : Hp) : Feo (wI_mStreams_fillsStream_b130 v0 v1 v2 v3 v4 v5 v6 v7 s0 h) (wJ_mStreams_fillsStream_b130 v0 v1 v2 v3 v4 v5 v6 v7 s0 h) h Prod.snd (f_mStreams_fillsStream_b130 v0 v1 v2 v3 v4 v5 v6 v7 s0 h) := by
  unfold f_mStreams_fillsStream_b130
  refine fe_it ?_ ?_
  · exact fe_j Fe.rf (fe_mStreams_fillsStream_b143 _ _ _ _ _ _ _ _ _ _ _) (fun x k hx => by simp only [wI_mStreams_fillsStream_b143] at hx; rcases hx with e | e | e | e | e | e | e | e | e | e <;> first | exact Or.inl (e) | exact Or.inr (Or.inl (e)) | exact Or.inr (Or.inr (Or.inl (e))) | exact Or.inr (Or.inr (Or.inr (Or.inl (e)))) | exact Or.inr (Or.inr (Or.inr (Or.inr (Or.inl (e))))) | exact Or.inr (Or.inr (Or.inr (Or.inr (Or.inr (Or.inl (e)))))) | exact Or.inr (Or.inr (Or.inr (Or.inr (Or.inr (Or.inr (Or.inl (e))))))) | exact Or.inr (Or.inr (Or.inr (Or.inr (Or.inr (Or.inr (Or.inr (Or.inl (e)))))))) | exact Or.inr (Or.inr (Or.inr (Or.inr (Or.inr (Or.inr (Or.inr (Or.inr (Or.inl (e))))))))) | exact Or.inr (Or.inr (Or.inr (Or.inr (Or.inr (Or.inr (Or.inr (Or.inr (Or.inr (e)))))))))) (fun x k hx => by simp only [wJ_mStreams_fillsStream_b143] at hx; rcases hx with e | e | e <;> first | exact Or.inl (e) | exact Or.inr (Or.inl (e)) | exact Or.inr (Or.inr (e)))
  · exact fe_j Fe.rf (fe_mStreams_fillsStream_b143 _ _ _ _ _ _ _ _ _ _ _) (fun x k hx => by simp only [wI_mStreams_fillsStream_b143] at hx; rcases hx with e | e | e | e | e | e | e | e | e | e <;> first | exact Or.inl (e) | exact Or.inr (Or.inl (e)) | exact Or.inr (Or.inr (Or.inl (e))) | exact Or.inr (Or.inr (Or.inr (Or.inl (e)))) | exact Or.inr (Or.inr (Or.inr (Or.inr (Or.inl (e))))) | exact Or.inr (Or.inr (Or.inr (Or.inr (Or.inr (Or.inl (e)))))) | exact Or.inr (Or.inr (Or.inr (Or.inr (Or.inr (Or.inr (Or.inl (e))))))) | exact Or.inr (Or.inr (Or.inr (Or.inr (Or.inr (Or.inr (Or.inr (Or.inl (e)))))))) | exact Or.inr (Or.inr (Or.inr (Or.inr (Or.inr (Or.inr (Or.inr (Or.inr (Or.inl (e))))))))) | exact Or.inr (Or.inr (Or.inr (Or.inr (Or.inr (Or.inr (Or.inr (Or.inr (Or.inr (e)))))))))) (fun x k hx => by simp only [wJ_mStreams_fillsStream_b143] at hx; rcases hx with e | e | e <;> first | exact Or.inl (e) | exact Or.inr (Or.inl (e)) | exact Or.inr (Or.inr (e)))
theorem fe_mStreams_fillsStream_b111 (v0 : Nat) (v1 : Int) (v2 : Int) (v3 : Int) (v4 : Int) (v5 : Int) (v6 : Int) (v7 : Int) (h : Hp) : Feo (wI_mStreams_fillsStream_b111 v0 v1 v2 v3 v4 v5 v6 v7 h) (wJ_mStreams_fillsStream_b111 v0 v1 v2 v3 v4 v5 v6 v7 h) h Prod.snd (f_mStreams_fillsStream_b111 v0 v1 v2 v3 v4 v5 v6 v7 h) := by
  unfold f_mStreams_fillsStream_b111
  refine fe_it ?_ ?_
  · refine fe_b2 Fe.rf (fe_mStreams_allowed _ _ _ _) (fun x k hx => False.elim hx) (fun x k hx => False.elim hx) (fun r22 h20 F1 => ?_)
    exact fe_j F1 (fe_mStreams_fillsStream_b130 _ _ _ _ _ _ _ _ _ _) (fun x k hx => by simp only [wI_mStreams_fillsStream_b130, F1.r] at hx; rcases hx with e | e | e | e | e | e | e | e | e | e <;> first | exact Or.inl (e) | exact Or.inr (Or.inl (e)) | exact Or.inr (Or.inr (Or.inl (e))) | exact Or.inr (Or.inr (Or.inr (Or.inl (e)))) | exact Or.inr (Or.inr (Or.inr (Or.inr (Or.inl (e))))) | exact Or.inr (Or.inr (Or.inr (Or.inr (Or.inr (Or.inl (e)))))) | exact Or.inr (Or.inr (Or.inr (Or.inr (Or.inr (Or.inr (Or.inl (e))))))) | exact Or.inr (Or.inr (Or.inr (Or.inr (Or.inr (Or.inr (Or.inr (Or.inl (e)))))))) | exact Or.inr (Or.inr (Or.inr (Or.inr (Or.inr (Or.inr (Or.inr (Or.inr (Or.inl (e))))))))) | exact Or.inr (Or.inr (Or.inr (Or.inr (Or.inr (Or.inr (Or.inr (Or.inr (Or.inr (e)))))))))) (fun x k hx => by simp only [wJ_mStreams_fillsStream_b130, F1.r] at hx; rcases hx with e | e | e <;> first | exact Or.inl (e) | exact Or.inr (Or.inl (e)) | exact Or.inr (Or.inr (e)))
  · exact fe_j Fe.rf (fe_mStreams_fillsStream_b130 _ _ _ _ _ _ _ _ _ _) (fun x k hx => by simp only [wI_mStreams_fillsStream_b130] at hx; rcases hx with e | e | e | e | e | e | e | e | e | e <;> first | exact Or.inl (e) | exact Or.inr (Or.inl (e)) | exact Or.inr (Or.inr (Or.inl (e))) | exact Or.inr (Or.inr (Or.inr (Or.inl (e)))) | exact Or.inr (Or.inr (Or.inr (Or.inr (Or.inl (e))))) | exact Or.inr (Or.inr (Or.inr (Or.inr (Or.inr (Or.inl (e)))))) | exact Or.inr (Or.inr (Or.inr (Or.inr (Or.inr (Or.inr (Or.inl (e))))))) | exact Or.inr (Or.inr (Or.inr (Or.inr (Or.inr (Or.inr (Or.inr (Or.inl (e)))))))) | exact Or.inr (Or.inr (Or.inr (Or.inr (Or.inr (Or.inr (Or.inr (Or.inr (Or.inl (e))))))))) | exact Or.inr (Or.inr (Or.inr (Or.inr (Or.inr (Or.inr (Or.inr (Or.inr (Or.inr (e)))))))))) (fun x k hx => by simp only [wJ_mStreams_fillsStream_b130] at hx; rcases hx with e | e | e <;> first | exact Or.inl (e) | exact Or.inr (Or.inl (e)) | exact Or.inr (Or.inr (e)))
theorem fe_mStreams_fillsStream_b79 {k79 : Nat → Int → Int → Int → Int → Int → Int → Int → Hp → Option (Int × Hp)} (hk79 : ∀ (v0 : Nat) (v1 : Int) (v2 : Int) (v3 : Int) (v4 : Int) (v5 : Int) (v6 : Int) (v7 : Int) (h : Hp), Feo (wI_mStreams_fillsStream_b79 v0 v1 v2 v3 v4 v5 v6 v7 h) (wJ_mStreams_fillsStream_b79 v0 v1 v2 v3 v4 v5 v6 v7 h) h Prod.snd (k79 v0 v1 v2 v3 v4 v5 v6 v7 h)) (v0 : Nat) (v1 : Int) (v2 : Int) (v3 : Int) (v4 : Int) (v5 : Int) (v6 : Int) (v7 : Int) (h : Hp) : Feo (wI_mStreams_fillsStream_b79 v0 v1 v2 v3 v4 v5 v6 v7 h) (wJ_mStreams_fillsStream_b79 v0 v1 v2 v3 v4 v5 v6 v7 h) h Prod.snd (f_mStreams_fillsStream_b79 k79 v0 v1 v2 v3 v4 v5 v6 v7 h) := by
  unfold f_mStreams_fillsStream_b79
  refine fe_it ?_ ?_
  · exact fe_j Fe.rf (fe_mStreams_fillsStream_b111 _ _ _ _ _ _ _ _ _) (fun x k hx => by simp only [wI_mStreams_fillsStream_b111] at hx; rcases hx with e | e | e | e | e | e | e | e | e | e <;> first | exact Or.inl (e) | exact Or.inr (Or.inl (e)) | exact Or.inr (Or.inr (Or.inl (e))) | exact Or.inr (Or.inr (Or.inr (Or.inl (e)))) | exact Or.inr (Or.inr (Or.inr (Or.inr (Or.inl (e))))) | exact Or.inr (Or.inr (Or.inr (Or.inr (Or.inr (Or.inl (e)))))) | exact Or.inr (Or.inr (Or.inr (Or.inr (Or.inr (Or.inr (Or.inl (e))))))) | exact Or.inr (Or.inr (Or.inr (Or.inr (Or.inr (Or.inr (Or.inr (Or.inl (e)))))))) | exact Or.inr (Or.inr (Or.inr (Or.inr (Or.inr (Or.inr (Or.inr (Or.inr (Or.inl (e))))))))) | exact Or.inr (Or.inr (Or.inr (Or.inr (Or.inr (Or.inr (Or.inr (Or.inr (Or.inr (e)))))))))) (fun x k hx => by simp only [wJ_mStreams_fillsStream_b111] at hx; rcases hx with e | e | e <;> first | exact Or.inl (e) | exact Or.inr (Or.inl (e)) | exact Or.inr (Or.inr (e)))
  · refine fe_it fe_no ?_
    refine fe_it ?_ fe_no
    refine fe_it ?_ ?_
    · exact fe_j Fe.rf (fe_mStreams_fillsStream_b111 _ _ _ _ _ _ _ _ _) (fun x k hx => by simp only [wI_mStreams_fillsStream_b111] at hx; rcases hx with e | e | e | e | e | e | e | e | e | e <;> first | exact Or.inl (e) | exact Or.inr (Or.inl (e)) | exact Or.inr (Or.inr (Or.inl (e))) | exact Or.inr (Or.inr (Or.inr (Or.inl (e)))) | exact Or.inr (Or.inr (Or.inr (Or.inr (Or.inl (e))))) | exact Or.inr (Or.inr (Or.inr (Or.inr (Or.inr (Or.inl (e)))))) | exact Or.inr (Or.inr (Or.inr (Or.inr (Or.inr (Or.inr (Or.inl (e))))))) | exact Or.inr (Or.inr (Or.inr (Or.inr (Or.inr (Or.inr (Or.inr (Or.inl (e)))))))) | exact Or.inr (Or.inr (Or.inr (Or.inr (Or.inr (Or.inr (Or.inr (Or.inr (Or.inl (e))))))))) | exact Or.inr (Or.inr (Or.inr (Or.inr (Or.inr (Or.inr (Or.inr (Or.inr (Or.inr (e)))))))))) (fun x k hx => by simp only [wJ_mStreams_fillsStream_b111] at hx; rcases hx with e | e | e <;> first | exact Or.inl (e) | exact Or.inr (Or.inl (e)) | exact Or.inr (Or.inr (e)))
    · refine fe_it fe_no ?_
      refine fe_it ?_ fe_no
      refine fe_v (fun y19 => ?_)
      exact fe_j Fe.rf (hk79 _ _ _ _ _ _ _ _ _) (fun x k hx => by simp only [wI_mStreams_fillsStream_b79] at hx; rcases hx with e | e | e | e | e | e | e | e | e | e <;> first | exact Or.inl (e) | exact Or.inr (Or.inl (e)) | exact Or.inr (Or.inr (Or.inl (e))) | exact Or.inr (Or.inr (Or.inr (Or.inl (e)))) | exact Or.inr (Or.inr (Or.inr (Or.inr (Or.inl (e))))) | exact Or.inr (Or.inr (Or.inr (Or.inr (Or.inr (Or.inl (e)))))) | exact Or.inr (Or.inr (Or.inr (Or.inr (Or.inr (Or.inr (Or.inl (e))))))) | exact Or.inr (Or.inr (Or.inr (Or.inr (Or.inr (Or.inr (Or.inr (Or.inl (e)))))))) | exact Or.inr (Or.inr (Or.inr (Or.inr (Or.inr (Or.inr (Or.inr (Or.inr (Or.inl (e))))))))) | exact Or.inr (Or.inr (Or.inr (Or.inr (Or.inr (Or.inr (Or.inr (Or.inr (Or.inr (e)))))))))) (fun x k hx => by simp only [wJ_mStreams_fillsStream_b79] at hx; rcases hx with e | e | e <;> first | exact Or.inl (e) | exact Or.inr (Or.inl (e)) | exact Or.inr (Or.inr (e)))
theorem fe_mStreams_fillsStream_b79_lp (n : Nat) : ∀ (v0 : Nat) (v1 : Int) (v2 : Int) (v3 : Int) (v4 : Int) (v5 : Int) (v6 : Int) (v7 : Int) (h : Hp), Feo (wI_mStreams_fillsStream_b79 v0 v1 v2 v3 v4 v5 v6 v7 h) (wJ_mStreams_fillsStream_b79 v0 v1 v2 v3 v4 v5 v6 v7 h) h Prod.snd (f_mStreams_fillsStream_b79_lp n v0 v1 v2 v3 v4 v5 v6 v7 h) := by
  induction n with
  | zero => intro v0 v1 v2 v3 v4 v5 v6 v7 h; exact fe_no
  | succ n ih => intro v0 v1 v2 v3 v4 v5 v6 v7 h; exact fe_mStreams_fillsStream_b79 ih v0 v1 v2 v3 v4 v5 v6 v7 h
theorem fe_mStreams_fillsStream_b77 (v0 : Nat) (v1 : Int) (v2 : Int) (v3 : Int) (v4 : Int) (v5 : Int) (v6 : Int) (s0 : Int) (h : Hp) : Feo (wI_mStreams_fillsStream_b77 v0 v1 v2 v3 v4 v5 v6 s0 h) (wJ_mStreams_fillsStream_b77 v0 v1 v2 v3 v4 v5 v6 s0 h) h Prod.snd (f_mStreams_fillsStream_b77 v0 v1 v2 v3 v4 v5 v6 s0 h) := by
  unfold f_mStreams_fillsStream_b77
  exact fe_j Fe.rf (fe_mStreams_fillsStream_b79_lp FU _ _ _ _ _ _ _ _ _) (fun x k hx => by simp only [wI_mStreams_fillsStream_b79] at hx; rcases hx with e | e | e | e | e | e | e | e | e | e <;> first | exact Or.inl (e) | exact Or.inr (Or.inl (e)) | exact Or.inr (Or.inr (Or.inl (e))) | exact Or.inr (Or.inr (Or.inr (Or.inl (e)))) | exact Or.inr (Or.inr (Or.inr (Or.inr (Or.inl (e))))) | exact Or.inr (Or.inr (Or.inr (Or.inr (Or.inr (Or.inl (e)))))) | exact Or.inr (Or.inr (Or.inr (Or.inr (Or.inr (Or.inr (Or.inl (e))))))) | exact Or.inr (Or.inr (Or.inr (Or.inr (Or.inr (Or.inr (Or.inr (Or.inl (e)))))))) | exact Or.inr (Or.inr (Or.inr (Or.inr (Or.inr (Or.inr (Or.inr (Or.inr (Or.inl (e))))))))) | exact Or.inr (Or.inr (Or.inr (Or.inr (Or.inr (Or.inr (Or.inr (Or.inr (Or.inr (e)))))))))) (fun x k hx => by simp only [wJ_mStreams_fillsStream_b79] at hx; rcases hx with e | e | e <;> first | exact Or.inl (e) | exact Or.inr (Or.inl (e)) | exact Or.inr (Or.inr (e)))
theorem fe_mStreams_fillsStream_b58 (v0 : Nat) (v1 : Int) (v2 : Int) (v3 : Int) (v4 : Int) (v5 : Int) (s0 : Int) (h : Hp) : Feo (wI_mStreams_fillsStream_b58 v0 v1 v2 v3 v4 v5 s0 h) (wJ_mStreams_fillsStream_b58 v0 v1 v2 v3 v4 v5 s0 h) h Prod.snd (f_mStreams_fillsStream_b58 v0 v1 v2 v3 v4 v5 s0 h) := by
  unfold f_mStreams_fillsStream_b58
  refine fe_it ?_ ?_
  · refine fe_it fe_no ?_
    refine fe_it ?_ fe_no
    exact fe_j Fe.rf (fe_mStreams_fillsStream_b77 _ _ _ _ _ _ _ _ _) (fun x k hx => by simp only [wI_mStreams_fillsStream_b77] at hx; rcases hx with e | e | e | e | e | e | e | e | e | e <;> first | exact Or.inl (e) | exact Or.inr (Or.inl (e)) | exact Or.inr (Or.inr (Or.inl (e))) | exact Or.inr (Or.inr (Or.inr (Or.inl (e)))) | exact Or.inr (Or.inr (Or.inr (Or.inr (Or.inl (e))))) | exact Or.inr (Or.inr (Or.inr (Or.inr (Or.inr (Or.inl (e)))))) | exact Or.inr (Or.inr (Or.inr (Or.inr (Or.inr (Or.inr (Or.inl (e))))))) | exact Or.inr (Or.inr (Or.inr (Or.inr (Or.inr (Or.inr (Or.inr (Or.inl (e)))))))) | exact Or.inr (Or.inr (Or.inr (Or.inr (Or.inr (Or.inr (Or.inr (Or.inr (Or.inl (e))))))))) | exact Or.inr (Or.inr (Or.inr (Or.inr (Or.inr (Or.inr (Or.inr (Or.inr (Or.inr (e)))))))))) (fun x k hx => by simp only [wJ_mStreams_fillsStream_b77] at hx; rcases hx with e | e | e <;> first | exact Or.inl (e) | exact Or.inr (Or.inl (e)) | exact Or.inr (Or.inr (e)))
  · exact fe_j Fe.rf (fe_mStreams_fillsStream_b77 _ _ _ _ _ _ _ _ _) (fun x k hx => by simp only [wI_mStreams_fillsStream_b77] at hx; rcases hx with e | e | e | e | e | e | e | e | e | e <;> first | exact Or.inl (e) | exact Or.inr (Or.inl (e)) | exact Or.inr (Or.inr (Or.inl (e))) | exact Or.inr (Or.inr (Or.inr (Or.inl (e)))) | exact Or.inr (Or.inr (Or.inr (Or.inr (Or.inl (e))))) | exact Or.inr (Or.inr (Or.inr (Or.inr (Or.inr (Or.inl (e)))))) | exact Or.inr (Or.inr (Or.inr (Or.inr (Or.inr (Or.inr (Or.inl (e))))))) | exact Or.inr (Or.inr (Or.inr (Or.inr (Or.inr (Or.inr (Or.inr (Or.inl (e)))))))) | exact Or.inr (Or.inr (Or.inr (Or.inr (Or.inr (Or.inr (Or.inr (Or.inr (Or.inl (e))))))))) | exact Or.inr (Or.inr (Or.inr (Or.inr (Or.inr (Or.inr (Or.inr (Or.inr (Or.inr (e)))))))))) (fun x k hx => by simp only [wJ_mStreams_fillsStream_b77] at hx; rcases hx with e | e | e <;> first | exact Or.inl (e) | exact Or.inr (Or.inl (e)) | exact Or.inr (Or.inr (e)))
theorem fe_mStreams_fillsStream_b33 (v0 : Nat) (v1 : Int) (v2 : Int) (v3 : Int) (v4 : Int) (s0 : Int) (h : Hp) : Feo (wI_mStreams_fillsStream_b33 v0 v1 v2 v3 v4 s0 h) (wJ_mStreams_fillsStream_b33 v0 v1 v2 v3 v4 s0 h) h Prod.snd (f_mStreams_fillsStream_b33 v0 v1 v2 v3 v4 s0 h) := by
  unfold f_mStreams_fillsStream_b33
  refine fe_it ?_ ?_
  · refine fe_it fe_no ?_
    refine fe_it ?_ fe_no
    exact fe_j Fe.rf (fe_mStreams_fillsStream_b58 _ _ _ _ _ _ _ _) (fun x k hx => by simp only [wI_mStreams_fillsStream_b58] at hx; rcases hx with e | e | e | e | e | e | e | e | e | e <;> first | exact Or.inl (e) | exact Or.inr (Or.inl (e)) | exact Or.inr (Or.inr (Or.inl (e))) | exact Or.inr (Or.inr (Or.inr (Or.inl (e)))) | exact Or.inr (Or.inr (Or.inr (Or.inr (Or.inl (e))))) | exact Or.inr (Or.inr (Or.inr (Or.inr (Or.inr (Or.inl (e)))))) | exact Or.inr (Or.inr (Or.inr (Or.inr (Or.inr (Or.inr (Or.inl (e))))))) | exact Or.inr (Or.inr (Or.inr (Or.inr (Or.inr (Or.inr (Or.inr (Or.inl (e)))))))) | exact Or.inr (Or.inr (Or.inr (Or.inr (Or.inr (Or.inr (Or.inr (Or.inr (Or.inl (e))))))))) | exact Or.inr (Or.inr (Or.inr (Or.inr (Or.inr (Or.inr (Or.inr (Or.inr (Or.inr (e)))))))))) (fun x k hx => by simp only [wJ_mStreams_fillsStream_b58] at hx; rcases hx with e | e | e <;> first | exact Or.inl (e) | exact Or.inr (Or.inl (e)) | exact Or.inr (Or.inr (e)))
  · refine fe_it fe_no ?_
    refine fe_it ?_ fe_no
    exact fe_j Fe.rf (fe_mStreams_fillsStream_b58 _ _ _ _ _ _ _ _) (fun x k hx => by simp only [wI_mStreams_fillsStream_b58] at hx; rcases hx with e | e | e | e | e | e | e | e | e | e <;> first | exact Or.inl (e) | exact Or.inr (Or.inl (e)) | exact Or.inr (Or.inr (Or.inl (e))) | exact Or.inr (Or.inr (Or.inr (Or.inl (e)))) | exact Or.inr (Or.inr (Or.inr (Or.inr (Or.inl (e))))) | exact Or.inr (Or.inr (Or.inr (Or.inr (Or.inr (Or.inl (e)))))) | exact Or.inr (Or.inr (Or.inr (Or.inr (Or.inr (Or.inr (Or.inl (e))))))) | exact Or.inr (Or.inr (Or.inr (Or.inr (Or.inr (Or.inr (Or.inr (Or.inl (e)))))))) | exact Or.inr (Or.inr (Or.inr (Or.inr (Or.inr (Or.inr (Or.inr (Or.inr (Or.inl (e))))))))) | exact Or.inr (Or.inr (Or.inr (Or.inr (Or.inr (Or.inr (Or.inr (Or.inr (Or.inr (e)))))))))) (fun x k hx => by simp only [wJ_mStreams_fillsStream_b58] at hx; rcases hx with e | e | e <;> first | exact Or.inl (e) | exact Or.inr (Or.inl (e)) | exact Or.inr (Or.inr (e)))
theorem fe_mStreams_fillsStream (v0 : Nat) (v1 : Int) (v2 : Int) (v3 : Int) (h : Hp) : Feo (wI_mStreams_fillsStream v0 v1 v2 v3 h) (wJ_mStreams_fillsStream v0 v1 v2 v3 h) h Prod.snd (f_mStreams_fillsStream v0 v1 v2 v3 h) := by
  unfold f_mStreams_fillsStream
  refine fe_b2 Fe.rf (fe_mStreams_isOpenSending _ _ _ _) (fun x k hx => False.elim hx) (fun x k hx => False.elim hx) (fun r3 h1 F1 => ?_)
  refine fe_it ?_ ?_
  · refine fe_b2 F1 (fe_mStreams_at _ _ _) (fun x k hx => False.elim hx) (fun x k hx => False.elim hx) (fun r6 h4 F2 => ?_)
    refine fe_it fe_no ?_
    refine fe_it ?_ fe_no
    refine fe_it ?_ ?_
    · exact fe_j F2 (fe_mStreams_fillsStream_b33 _ _ _ _ _ _ _) (fun x k hx => by simp only [wI_mStreams_fillsStream_b33, F1.r, F2.r] at hx; rcases hx with e | e | e | e | e | e | e | e | e | e <;> first | exact Or.inl (e) | exact Or.inr (Or.inl (e)) | exact Or.inr (Or.inr (Or.inl (e))) | exact Or.inr (Or.inr (Or.inr (Or.inl (e)))) | exact Or.inr (Or.inr (Or.inr (Or.inr (Or.inl (e))))) | exact Or.inr (Or.inr (Or.inr (Or.inr (Or.inr (Or.inl (e)))))) | exact Or.inr (Or.inr (Or.inr (Or.inr (Or.inr (Or.inr (Or.inl (e))))))) | exact Or.inr (Or.inr (Or.inr (Or.inr (Or.inr (Or.inr (Or.inr (Or.inl (e)))))))) | exact Or.inr (Or.inr (Or.inr (Or.inr (Or.inr (Or.inr (Or.inr (Or.inr (Or.inl (e))))))))) | exact Or.inr (Or.inr (Or.inr (Or.inr (Or.inr (Or.inr (Or.inr (Or.inr (Or.inr (e)))))))))) (fun x k hx => by simp only [wJ_mStreams_fillsStream_b33, F1.r, F2.r] at hx; rcases hx with e | e | e <;> first | exact Or.inl (e) | exact Or.inr (Or.inl (e)) | exact Or.inr (Or.inr (e)))
    · exact fe_j F2 (fe_mStreams_fillsStream_b33 _ _ _ _ _ _ _) (fun x k hx => by simp only [wI_mStreams_fillsStream_b33, F1.r, F2.r] at hx; rcases hx with e | e | e | e | e | e | e | e | e | e <;> first | exact Or.inl (e) | exact Or.inr (Or.inl (e)) | exact Or.inr (Or.inr (Or.inl (e))) | exact Or.inr (Or.inr (Or.inr (Or.inl (e)))) | exact Or.inr (Or.inr (Or.inr (Or.inr (Or.inl (e))))) | exact Or.inr (Or.inr (Or.inr (Or.inr (Or.inr (Or.inl (e)))))) | exact Or.inr (Or.inr (Or.inr (Or.inr (Or.inr (Or.inr (Or.inl (e))))))) | exact Or.inr (Or.inr (Or.inr (Or.inr (Or.inr (Or.inr (Or.inr (Or.inl (e)))))))) | exact Or.inr (Or.inr (Or.inr (Or.inr (Or.inr (Or.inr (Or.inr (Or.inr (Or.inl (e))))))))) | exact Or.inr (Or.inr (Or.inr (Or.inr (Or.inr (Or.inr (Or.inr (Or.inr (Or.inr (e)))))))))) (fun x k hx => by simp only [wJ_mStreams_fillsStream_b33, F1.r, F2.r] at hx; rcases hx with e | e | e <;> first | exact Or.inl (e) | exact Or.inr (Or.inl (e)) | exact Or.inr (Or.inr (e)))
  · exact fe_so F1
def wI_mStreams_fills_b31 (v0 : Nat) (v1 : Int) (v2 : Int) (v3 : Int) (h : Hp) (x k : Nat) : Prop := x = (hR h v0 25) ∨ x = (hR h v0 26) ∨ x = hR h v0 11 ∨ x = hR h v0 15 ∨ x = hR h v0 22 ∨ x = hR h v0 24 ∨ x = hR h v0 42 ∨ x = hR h v0 44 ∨ x = hR h v0 55 ∨ (x = v0 ∧ k = 50) ∨ (x = v0 ∧ k = 54)
def wJ_mStreams_fills_b31 (v0 : Nat) (v1 : Int) (v2 : Int) (v3 : Int) (h : Hp) (x k : Nat) : Prop := (x = v0 ∧ k = 51) ∨ (x = v0 ∧ k = 52) ∨ (x = v0 ∧ k = 53)
def wI_mStreams_fills (v0 : Nat) (v1 : Int) (v2 : Int) (h : Hp) (x k : Nat) : Prop := x = (hR h v0 25) ∨ x = (hR h v0 26) ∨ x = hR h v0 10 ∨ x = hR h v0 11 ∨ x = hR h v0 15 ∨ x = hR h v0 17 ∨ x = hR h v0 22 ∨ x = hR h v0 24 ∨ x = hR h v0 34 ∨ x = hR h v0 36 ∨ x = hR h v0 42 ∨ x = hR h v0 44 ∨ x = hR h v0 55 ∨ x = hR h v0 7 ∨ (x = v0 ∧ k = 50) ∨ (x = v0 ∧ k = 54)
def wJ_mStreams_fills (v0 : Nat) (v1 : Int) (v2 : Int) (h : Hp) (x k : Nat) : Prop := x = hR h v0 19 ∨ x = hR h v0 3 ∨ (x = v0 ∧ k = 51) ∨ (x = v0 ∧ k = 52) ∨ (x = v0 ∧ k = 53)
theorem fe_mStreams_fills_b31 {k31 : Nat → Int → Int → Int → Hp → Option (Int × Hp)} (hk31 : ∀ (v0 : Nat) (v1 : Int) (v2 : Int) (v3 : Int) (h : Hp), Feo (wI_mStreams_fills_b31 v0 v1 v2 v3 h) (wJ_mStreams_fills_b31 v0 v1 v2 v3 h) h Prod.snd (k31 v0 v1 v2 v3 h)) (v0 : Nat) (v1 : Int) (v2 : Int) (v3 : Int) (h : Hp) : Feo (wI_mStreams_fills_b31 v0 v1 v2 v3 h) (wJ_mStreams_fills_b31 v0 v1 v2 v3 h) h Prod.snd (f_mStreams_fills_b31 k31 v0 v1 v2 v3 h) := by
  unfold f_mStreams_fills_b31
  refine fe_it ?_ ?_
  · exact fe_so Fe.rf
  · refine fe_it fe_no ?_
    refine fe_it ?_ fe_no
    refine fe_v (fun y12 => ?_)
    refine fe_b2 Fe.rf (fe_mStreams_fillsStream _ _ _ _ _) (fun x k hx => by simp only [wI_mStreams_fillsStream] at hx; rcases hx with e | e | e | e | e | e | e | e | e | e <;> first | exact Or.inl (e) | exact Or.inr (Or.inl (e)) | exact Or.inr (Or.inr (Or.inr (Or.inl (e)))) | exact Or.inr (Or.inr (Or.inr (Or.inr (Or.inl (e))))) | exact Or.inr (Or.inr (Or.inr (Or.inr (Or.inr (Or.inl (e)))))) | exact Or.inr (Or.inr (Or.inr (Or.inr (Or.inr (Or.inr (Or.inl (e))))))) | exact Or.inr (Or.inr (Or.inr (Or.inr (Or.inr (Or.inr (Or.inr (Or.inl (e)))))))) | exact Or.inr (Or.inr (Or.inr (Or.inr (Or.inr (Or.inr (Or.inr (Or.inr (Or.inl (e))))))))) | exact Or.inr (Or.inr (Or.inr (Or.inr (Or.inr (Or.inr (Or.inr (Or.inr (Or.inr (Or.inl (e)))))))))) | exact Or.inr (Or.inr (Or.inr (Or.inr (Or.inr (Or.inr (Or.inr (Or.inr (Or.inr (Or.inr (e))))))))))) (fun x k hx => by simp only [wJ_mStreams_fillsStream] at hx; rcases hx with e | e | e <;> first | exact Or.inl (e) | exact Or.inr (Or.inl (e)) | exact Or.inr (Or.inr (e))) (fun r15 h13 F1 => ?_)
    refine fe_it ?_ ?_
    · exact fe_j F1 (hk31 _ _ _ _ _) (fun x k hx => by simp only [wI_mStreams_fills_b31, F1.r] at hx; rcases hx with e | e | e | e | e | e | e | e | e | e | e <;> first | exact Or.inl (e) | exact Or.inr (Or.inl (e)) | exact Or.inr (Or.inr (Or.inl (e))) | exact Or.inr (Or.inr (Or.inr (Or.inl (e)))) | exact Or.inr (Or.inr (Or.inr (Or.inr (Or.inl (e))))) | exact Or.inr (Or.inr (Or.inr (Or.inr (Or.inr (Or.inl (e)))))) | exact Or.inr (Or.inr (Or.inr (Or.inr (Or.inr (Or.inr (Or.inl (e))))))) | exact Or.inr (Or.inr (Or.inr (Or.inr (Or.inr (Or.inr (Or.inr (Or.inl (e)))))))) | exact Or.inr (Or.inr (Or.inr (Or.inr (Or.inr (Or.inr (Or.inr (Or.inr (Or.inl (e))))))))) | exact Or.inr (Or.inr (Or.inr (Or.inr (Or.inr (Or.inr (Or.inr (Or.inr (Or.inr (Or.inl (e)))))))))) | exact Or.inr (Or.inr (Or.inr (Or.inr (Or.inr (Or.inr (Or.inr (Or.inr (Or.inr (Or.inr (e))))))))))) (fun x k hx => by simp only [wJ_mStreams_fills_b31, F1.r] at hx; rcases hx with e | e | e <;> first | exact Or.inl (e) | exact Or.inr (Or.inl (e)) | exact Or.inr (Or.inr (e)))
    · refine fe_it fe_no ?_
      refine fe_it ?_ fe_no
      refine fe_I F1 (Or.inr (Or.inr (Or.inl ((by first | (simp only [F1.r]; exact rfl) | simp only [F1.r]))))) (fun h18 F2 => ?_)
      exact fe_so F2
theorem fe_mStreams_fills_b31_lp (n : Nat) : ∀ (v0 : Nat) (v1 : Int) (v2 : Int) (v3 : Int) (h : Hp), Feo (wI_mStreams_fills_b31 v0 v1 v2 v3 h) (wJ_mStreams_fills_b31 v0 v1 v2 v3 h) h Prod.snd (f_mStreams_fills_b31_lp n v0 v1 v2 v3 h) := by
  induction n with
  | zero => intro v0 v1 v2 v3 h; exact fe_no
  | succ n ih => intro v0 v1 v2 v3 h; exact fe_mStreams_fills_b31 ih v0 v1 v2 v3 h
theorem fe_mStreams_fills (v0 : Nat) (v1 : Int) (v2 : Int) (h : Hp) : Feo (wI_mStreams_fills v0 v1 v2 h) (wJ_mStreams_fills v0 v1 v2 h) h Prod.snd (f_mStreams_fills v0 v1 v2 h) := by
  unfold f_mStreams_fills
  refine fe_b2 Fe.rf (fe_mStreams_fillsResets _ _ _ _) (fun x k hx => by simp only [wI_mStreams_fillsResets] at hx; rcases hx with e | e | e | e <;> first | exact Or.inr (Or.inr (Or.inr (Or.inr (Or.inr (Or.inl (e)))))) | exact Or.inr (Or.inr (Or.inr (Or.inr (Or.inr (Or.inr (Or.inr (Or.inr (Or.inr (Or.inl (e)))))))))) | exact Or.inr (Or.inr (Or.inr (Or.inr (Or.inr (Or.inr (Or.inr (Or.inr (Or.inr (Or.inr (Or.inr (Or.inr (Or.inr (Or.inr (Or.inl (e))))))))))))))) | exact Or.inr (Or.inr (Or.inr (Or.inr (Or.inr (Or.inr (Or.inr (Or.inr (Or.inr (Or.inr (Or.inr (Or.inr (Or.inr (Or.inr (Or.inr (e)))))))))))))))) (fun x k hx => by simp only [wJ_mStreams_fillsResets] at hx; rcases hx with e | e | e <;> first | exact Or.inr (Or.inr (Or.inl (e))) | exact Or.inr (Or.inr (Or.inr (Or.inl (e)))) | exact Or.inr (Or.inr (Or.inr (Or.inr (e))))) (fun r3 h1 F1 => ?_)
  refine fe_it ?_ ?_
  · exact fe_so F1
  · refine fe_b2 F1 (fe_mStreams_fillsGrants _ _ _ _) (fun x k hx => by simp only [wI_mStreams_fillsGrants, F1.r] at hx; rcases hx with e | e | e | e | e <;> first | exact Or.inr (Or.inr (Or.inl (e))) | exact Or.inr (Or.inr (Or.inr (Or.inr (Or.inr (Or.inr (Or.inr (Or.inr (Or.inl (e))))))))) | exact Or.inr (Or.inr (Or.inr (Or.inr (Or.inr (Or.inr (Or.inr (Or.inr (Or.inr (Or.inr (Or.inr (Or.inr (Or.inr (Or.inl (e)))))))))))))) | exact Or.inr (Or.inr (Or.inr (Or.inr (Or.inr (Or.inr (Or.inr (Or.inr (Or.inr (Or.inr (Or.inr (Or.inr (Or.inr (Or.inr (Or.inl (e))))))))))))))) | exact Or.inr (Or.inr (Or.inr (Or.inr (Or.inr (Or.inr (Or.inr (Or.inr (Or.inr (Or.inr (Or.inr (Or.inr (Or.inr (Or.inr (Or.inr (e)))))))))))))))) (fun x k hx => by simp only [wJ_mStreams_fillsGrants, F1.r] at hx; rcases hx with e | e | e <;> first | exact Or.inr (Or.inr (Or.inl (e))) | exact Or.inr (Or.inr (Or.inr (Or.inl (e)))) | exact Or.inr (Or.inr (Or.inr (Or.inr (e))))) (fun r6 h4 F2 => ?_)
    refine fe_it ?_ ?_
    · exact fe_so F2
    · refine fe_b2 F2 (fe_mStreams_fillsBlocked _ _ _ _) (fun x k hx => by simp only [wI_mStreams_fillsBlocked, F1.r, F2.r] at hx; rcases hx with e | e <;> first | exact Or.inr (Or.inr (Or.inr (Or.inr (Or.inr (Or.inr (Or.inr (Or.inr (Or.inr (Or.inr (Or.inr (Or.inr (Or.inr (Or.inr (Or.inl (e))))))))))))))) | exact Or.inr (Or.inr (Or.inr (Or.inr (Or.inr (Or.inr (Or.inr (Or.inr (Or.inr (Or.inr (Or.inr (Or.inr (Or.inr (Or.inr (Or.inr (e)))))))))))))))) (fun x k hx => by simp only [wJ_mStreams_fillsBlocked, F1.r, F2.r] at hx; rcases hx with e | e | e | e | e <;> first | exact Or.inl (e) | exact Or.inr (Or.inl (e)) | exact Or.inr (Or.inr (Or.inl (e))) | exact Or.inr (Or.inr (Or.inr (Or.inl (e)))) | exact Or.inr (Or.inr (Or.inr (Or.inr (e))))) (fun r9 h7 F3 => ?_)
      refine fe_it ?_ ?_
      · exact fe_j F3 (fe_mStreams_fills_b31_lp FU _ _ _ _ _) (fun x k hx => by simp only [wI_mStreams_fills_b31, F1.r, F2.r, F3.r] at hx; rcases hx with e | e | e | e | e | e | e | e | e | e | e <;> first | exact Or.inl (e) | exact Or.inr (Or.inl (e)) | exact Or.inr (Or.inr (Or.inr (Or.inl (e)))) | exact Or.inr (Or.inr (Or.inr (Or.inr (Or.inl (e))))) | exact Or.inr (Or.inr (Or.inr (Or.inr (Or.inr (Or.inr (Or.inl (e))))))) | exact Or.inr (Or.inr (Or.inr (Or.inr (Or.inr (Or.inr (Or.inr (Or.inl (e)))))))) | exact Or.inr (Or.inr (Or.inr (Or.inr (Or.inr (Or.inr (Or.inr (Or.inr (Or.inr (Or.inr (Or.inl (e))))))))))) | exact Or.inr (Or.inr (Or.inr (Or.inr (Or.inr (Or.inr (Or.inr (Or.inr (Or.inr (Or.inr (Or.inr (Or.inl (e)))))))))))) | exact Or.inr (Or.inr (Or.inr (Or.inr (Or.inr (Or.inr (Or.inr (Or.inr (Or.inr (Or.inr (Or.inr (Or.inr (Or.inl (e))))))))))))) | exact Or.inr (Or.inr (Or.inr (Or.inr (Or.inr (Or.inr (Or.inr (Or.inr (Or.inr (Or.inr (Or.inr (Or.inr (Or.inr (Or.inr (Or.inl (e))))))))))))))) | exact Or.inr (Or.inr (Or.inr (Or.inr (Or.inr (Or.inr (Or.inr (Or.inr (Or.inr (Or.inr (Or.inr (Or.inr (Or.inr (Or.inr (Or.inr (e)))))))))))))))) (fun x k hx => by simp only [wJ_mStreams_fills_b31, F1.r, F2.r, F3.r] at hx; rcases hx with e | e | e <;> first | exact Or.inr (Or.inr (Or.inl (e))) | exact Or.inr (Or.inr (Or.inr (Or.inl (e)))) | exact Or.inr (Or.inr (Or.inr (Or.inr (e)))))
      · exact fe_so F3
def wI_mStreams_writeTo_b69 (v0 : Nat) (v1 : Nat) (h : Hp) (x k : Nat) : Prop := x = hR h v1 0 ∨ (x = v1 ∧ k = 1)
def wJ_mStreams_writeTo_b69 (v0 : Nat) (v1 : Nat) (h : Hp) (x k : Nat) : Prop := False
def wI_mStreams_writeTo_b142 (v0 : Nat) (v1 : Nat) (h : Hp) (x k : Nat) : Prop := x = hR h v1 0 ∨ (x = v1 ∧ k = 1)
def wJ_mStreams_writeTo_b142 (v0 : Nat) (v1 : Nat) (h : Hp) (x k : Nat) : Prop := False
def wI_mStreams_writeTo_b103 (v0 : Nat) (v1 : Nat) (s0 : Nat) (s1 : Int) (s2 : Int) (h : Hp) (x k : Nat) : Prop := x = hR h s0 0 ∨ x = hR h v1 0 ∨ (x = s0 ∧ k = 1) ∨ (x = v1 ∧ k = 1)
def wJ_mStreams_writeTo_b103 (v0 : Nat) (v1 : Nat) (s0 : Nat) (s1 : Int) (s2 : Int) (h : Hp) (x k : Nat) : Prop := False
def wI_mStreams_writeTo_b61 (v0 : Nat) (v1 : Nat) (h : Hp) (x k : Nat) : Prop := x = hR h v1 0 ∨ (x = v1 ∧ k = 1)
def wJ_mStreams_writeTo_b61 (v0 : Nat) (v1 : Nat) (h : Hp) (x k : Nat) : Prop := False
def wI_mStreams_writeTo (v0 : Nat) (v1 : Nat) (h : Hp) (x k : Nat) : Prop := x = hR h v1 0 ∨ (x = v1 ∧ k = 1)
def wJ_mStreams_writeTo (v0 : Nat) (v1 : Nat) (h : Hp) (x k : Nat) : Prop := False
theorem fe_mStreams_writeTo_b69 (v0 : Nat) (v1 : Nat) (h : Hp) : Feo (wI_mStreams_writeTo_b69 v0 v1 h) (wJ_mStreams_writeTo_b69 v0 v1 h) h id (f_mStreams_writeTo_b69 v0 v1 h) := by
  unfold f_mStreams_writeTo_b69
  refine fe_it ?_ ?_
  · exact fe_so Fe.rf
  · refine fe_it fe_no ?_
    refine fe_b1 Fe.rf (fe_mDraft_number _ _ _) (fun x k hx => by simp only [wI_mDraft_number] at hx; rcases hx with e | e <;> first | exact Or.inl (e) | exact Or.inr (e)) (fun x k hx => False.elim hx) (fun h10 F1 => ?_)
    exact fe_so F1
theorem fe_mStreams_writeTo_b142 (v0 : Nat) (v1 : Nat) (h : Hp) : Feo (wI_mStreams_writeTo_b142 v0 v1 h) (wJ_mStreams_writeTo_b142 v0 v1 h) h id (f_mStreams_writeTo_b142 v0 v1 h) := by
  unfold f_mStreams_writeTo_b142
  refine fe_it fe_no ?_
  refine fe_b1 Fe.rf (fe_mDraft_number _ _ _) (fun x k hx => by simp only [wI_mDraft_number] at hx; rcases hx with e | e <;> first | exact Or.inl (e) | exact Or.inr (e)) (fun x k hx => False.elim hx) (fun h21 F1 => ?_)
  refine fe_b1 F1 (fe_mDraft_bytes _ _ _ _ _) (fun x k hx => by simp only [wI_mDraft_bytes, F1.r] at hx; rcases hx with e | e <;> first | exact Or.inl (e) | exact Or.inr (e)) (fun x k hx => False.elim hx) (fun h23 F2 => ?_)
  exact fe_so F2
theorem fe_mStreams_writeTo_b103 (v0 : Nat) (v1 : Nat) (s0 : Nat) (s1 : Int) (s2 : Int) (h : Hp) : Feo (wI_mStreams_writeTo_b103 v0 v1 s0 s1 s2 h) (wJ_mStreams_writeTo_b103 v0 v1 s0 s1 s2 h) h id (f_mStreams_writeTo_b103 v0 v1 s0 s1 s2 h) := by
  unfold f_mStreams_writeTo_b103
  refine fe_it fe_no ?_
  refine fe_b1 Fe.rf (fe_mDraft_put _ _ _ _) (fun x k hx => by simp only [wI_mDraft_put] at hx; rcases hx with e | e <;> first | exact Or.inl (e) | exact Or.inr (Or.inr (Or.inl (e)))) (fun x k hx => False.elim hx) (fun h13 F1 => ?_)
  refine fe_it fe_no ?_
  refine fe_b1 F1 (fe_mDraft_number _ _ _) (fun x k hx => by simp only [wI_mDraft_number, F1.r] at hx; rcases hx with e | e <;> first | exact Or.inr (Or.inl (e)) | exact Or.inr (Or.inr (Or.inr (e)))) (fun x k hx => False.elim hx) (fun h16 F2 => ?_)
  refine fe_it ?_ ?_
  · exact fe_j F2 (fe_mStreams_writeTo_b142 _ _ _) (fun x k hx => by simp only [wI_mStreams_writeTo_b142, F1.r, F2.r] at hx; rcases hx with e | e <;> first | exact Or.inr (Or.inl (e)) | exact Or.inr (Or.inr (Or.inr (e)))) (fun x k hx => False.elim hx)
  · refine fe_b1 F2 (fe_mDraft_number _ _ _) (fun x k hx => by simp only [wI_mDraft_number, F1.r, F2.r] at hx; rcases hx with e | e <;> first | exact Or.inr (Or.inl (e)) | exact Or.inr (Or.inr (Or.inr (e)))) (fun x k hx => False.elim hx) (fun h18 F3 => ?_)
    exact fe_j F3 (fe_mStreams_writeTo_b142 _ _ _) (fun x k hx => by simp only [wI_mStreams_writeTo_b142, F1.r, F2.r, F3.r] at hx; rcases hx with e | e <;> first | exact Or.inr (Or.inl (e)) | exact Or.inr (Or.inr (Or.inr (e)))) (fun x k hx => False.elim hx)
theorem fe_mStreams_writeTo_b61 (v0 : Nat) (v1 : Nat) (h : Hp) : Feo (wI_mStreams_writeTo_b61 v0 v1 h) (wJ_mStreams_writeTo_b61 v0 v1 h) h id (f_mStreams_writeTo_b61 v0 v1 h) := by
  unfold f_mStreams_writeTo_b61
  refine fe_it fe_no ?_
  refine fe_b1 Fe.rf (fe_mDraft_number _ _ _) (fun x k hx => by simp only [wI_mDraft_number] at hx; rcases hx with e | e <;> first | exact Or.inl (e) | exact Or.inr (e)) (fun x k hx => False.elim hx) (fun h7 F1 => ?_)
  exact fe_j F1 (fe_mStreams_writeTo_b69 _ _ _) (fun x k hx => by simp only [wI_mStreams_writeTo_b69, F1.r] at hx; rcases hx with e | e <;> first | exact Or.inl (e) | exact Or.inr (e)) (fun x k hx => False.elim hx)
theorem fe_mStreams_writeTo (v0 : Nat) (v1 : Nat) (h : Hp) : Feo (wI_mStreams_writeTo v0 v1 h) (wJ_mStreams_writeTo v0 v1 h) h id (f_mStreams_writeTo v0 v1 h) := by
  unfold f_mStreams_writeTo
  refine fe_it ?_ ?_
  · refine fe_it ?_ ?_
    · exact fe_j Fe.rf (fe_mStreams_writeTo_b103 _ _ _ _ _ _) (fun x k hx => by simp only [wI_mStreams_writeTo_b103] at hx; rcases hx with e | e | e | e <;> first | exact Or.inl (e) | exact Or.inr (e)) (fun x k hx => False.elim hx)
    · exact fe_j Fe.rf (fe_mStreams_writeTo_b103 _ _ _ _ _ _) (fun x k hx => by simp only [wI_mStreams_writeTo_b103] at hx; rcases hx with e | e | e | e <;> first | exact Or.inl (e) | exact Or.inr (e)) (fun x k hx => False.elim hx)
  · refine fe_it fe_no ?_
    refine fe_b1 Fe.rf (fe_mDraft_put _ _ _ _) (fun x k hx => by simp only [wI_mDraft_put] at hx; rcases hx with e | e <;> first | exact Or.inl (e) | exact Or.inr (e)) (fun x k hx => False.elim hx) (fun h2 F1 => ?_)
    refine fe_b1 F1 (fe_mDraft_number _ _ _) (fun x k hx => by simp only [wI_mDraft_number, F1.r] at hx; rcases hx with e | e <;> first | exact Or.inl (e) | exact Or.inr (e)) (fun x k hx => False.elim hx) (fun h4 F2 => ?_)
    refine fe_it ?_ ?_
    · exact fe_j F2 (fe_mStreams_writeTo_b61 _ _ _) (fun x k hx => by simp only [wI_mStreams_writeTo_b61, F1.r, F2.r] at hx; rcases hx with e | e <;> first | exact Or.inl (e) | exact Or.inr (e)) (fun x k hx => False.elim hx)
    · refine fe_it ?_ ?_
      · exact fe_j F2 (fe_mStreams_writeTo_b61 _ _ _) (fun x k hx => by simp only [wI_mStreams_writeTo_b61, F1.r, F2.r] at hx; rcases hx with e | e <;> first | exact Or.inl (e) | exact Or.inr (e)) (fun x k hx => False.elim hx)
      · refine fe_it ?_ ?_
        · exact fe_j F2 (fe_mStreams_writeTo_b61 _ _ _) (fun x k hx => by simp only [wI_mStreams_writeTo_b61, F1.r, F2.r] at hx; rcases hx with e | e <;> first | exact Or.inl (e) | exact Or.inr (e)) (fun x k hx => False.elim hx)
        · refine fe_it ?_ ?_
          · exact fe_j F2 (fe_mStreams_writeTo_b69 _ _ _) (fun x k hx => by simp only [wI_mStreams_writeTo_b69, F1.r, F2.r] at hx; rcases hx with e | e <;> first | exact Or.inl (e) | exact Or.inr (e)) (fun x k hx => False.elim hx)
          · exact fe_j F2 (fe_mStreams_writeTo_b61 _ _ _) (fun x k hx => by simp only [wI_mStreams_writeTo_b61, F1.r, F2.r] at hx; rcases hx with e | e <;> first | exact Or.inl (e) | exact Or.inr (e)) (fun x k hx => False.elim hx)
def wI_mBook_due_b51 (v0 : Nat) (h : Hp) (x k : Nat) : Prop := False
def wJ_mBook_due_b51 (v0 : Nat) (h : Hp) (x k : Nat) : Prop := False
def wI_mBook_due (v0 : Nat) (v1 : Int) (h : Hp) (x k : Nat) : Prop := False
def wJ_mBook_due (v0 : Nat) (v1 : Int) (h : Hp) (x k : Nat) : Prop := False
theorem fe_mBook_due_b51 (v0 : Nat) (h : Hp) : Feo (wI_mBook_due_b51 v0 h) (wJ_mBook_due_b51 v0 h) h Prod.snd (f_mBook_due_b51 v0 h) := by
  unfold f_mBook_due_b51
  exact fe_so Fe.rf
theorem fe_mBook_due (v0 : Nat) (v1 : Int) (h : Hp) : Feo (wI_mBook_due v0 v1 h) (wJ_mBook_due v0 v1 h) h Prod.snd (f_mBook_due v0 v1 h) := by
  unfold f_mBook_due
  refine fe_it fe_no ?_
  refine fe_it ?_ fe_no
  refine fe_it ?_ ?_
  · refine fe_it ?_ ?_
    · exact fe_j Fe.rf (fe_mBook_due_b51 _ _) (fun x k hx => False.elim hx) (fun x k hx => False.elim hx)
    · refine fe_it ?_ fe_no
      refine fe_it ?_ ?_
      · exact fe_j Fe.rf (fe_mBook_due_b51 _ _) (fun x k hx => False.elim hx) (fun x k hx => False.elim hx)
      · refine fe_it fe_no ?_
        refine fe_it ?_ fe_no
        refine fe_it ?_ ?_
        · exact fe_j Fe.rf (fe_mBook_due_b51 _ _) (fun x k hx => False.elim hx) (fun x k hx => False.elim hx)
        · refine fe_it fe_no ?_
          refine fe_it ?_ fe_no
          refine fe_it ?_ ?_
          · exact fe_so Fe.rf
          · exact fe_j Fe.rf (fe_mBook_due_b51 _ _) (fun x k hx => False.elim hx) (fun x k hx => False.elim hx)
  · exact fe_so Fe.rf
def wI_mSide_cut (v0 : Nat) (v1 : Int) (h : Hp) (x k : Nat) : Prop := False
def wJ_mSide_cut (v0 : Nat) (v1 : Int) (h : Hp) (x k : Nat) : Prop := False
theorem fe_mSide_cut (v0 : Nat) (v1 : Int) (h : Hp) : Feo (wI_mSide_cut v0 v1 h) (wJ_mSide_cut v0 v1 h) h Prod.snd (f_mSide_cut v0 v1 h) := by
  unfold f_mSide_cut
  refine fe_it fe_no ?_
  refine fe_it fe_no ?_
  refine fe_it ?_ fe_no
  refine fe_it fe_no ?_
  refine fe_it ?_ fe_no
  refine fe_v (fun y6 => ?_)
  refine fe_it ?_ ?_
  · refine fe_it ?_ ?_
    · exact fe_so Fe.rf
    · exact fe_so Fe.rf
  · exact fe_so Fe.rf
def wI_mSide_pad (v0 : Nat) (v1 : Int) (h : Hp) (x k : Nat) : Prop := (x = (hR h (hR h v0 47) v1.toNat) ∧ k = 1) ∨ x = hR h (hR h (hR h v0 47) v1.toNat) 0 ∨ x = hR h v0 49
def wJ_mSide_pad (v0 : Nat) (v1 : Int) (h : Hp) (x k : Nat) : Prop := False
theorem fe_mSide_pad (v0 : Nat) (v1 : Int) (h : Hp) : Feo (wI_mSide_pad v0 v1 h) (wJ_mSide_pad v0 v1 h) h id (f_mSide_pad v0 v1 h) := by
  unfold f_mSide_pad
  refine fe_it fe_no ?_
  refine fe_it ?_ fe_no
  refine fe_it fe_no ?_
  refine fe_b1 Fe.rf (fe_mDraft_put _ _ _ _) (fun x k hx => by simp only [wI_mDraft_put] at hx; rcases hx with e | e <;> first | exact Or.inl (e) | exact Or.inr (Or.inl (e))) (fun x k hx => False.elim hx) (fun h4 F1 => ?_)
  refine fe_it fe_no ?_
  refine fe_it ?_ fe_no
  refine fe_I F1 (Or.inr (Or.inr ((by first | (simp only [F1.r]; exact rfl) | simp only [F1.r])))) (fun h8 F2 => ?_)
  exact fe_so F2
def wI_mSide_sizeOf (v0 : Nat) (v1 : Int) (h : Hp) (x k : Nat) : Prop := False
def wJ_mSide_sizeOf (v0 : Nat) (v1 : Int) (h : Hp) (x k : Nat) : Prop := False
theorem fe_mSide_sizeOf (v0 : Nat) (v1 : Int) (h : Hp) : Feo (wI_mSide_sizeOf v0 v1 h) (wJ_mSide_sizeOf v0 v1 h) h Prod.snd (f_mSide_sizeOf v0 v1 h) := by
  unfold f_mSide_sizeOf
  refine fe_b2 Fe.rf (fe_mSide_headerOf _ _) (fun x k hx => False.elim hx) (fun x k hx => False.elim hx) (fun r3 h1 F1 => ?_)
  refine fe_b2 F1 (fe_mSide_cut _ _ _) (fun x k hx => False.elim hx) (fun x k hx => False.elim hx) (fun r6 h4 F2 => ?_)
  refine fe_it fe_no ?_
  refine fe_it ?_ fe_no
  refine fe_it fe_no ?_
  exact fe_so F2
def wI_mSeals_seal_b35 (v0 : Nat) (v5 : Nat) (v8 : Int) (v9 : Int) (h : Hp) (x k : Nat) : Prop := x = v5
def wJ_mSeals_seal_b35 (v0 : Nat) (v5 : Nat) (v8 : Int) (v9 : Int) (h : Hp) (x k : Nat) : Prop := False
def wI_mSeals_seal (v0 : Nat) (v1 : Nat) (v2 : Int) (v3 : Int) (v5 : Nat) (v6 : Int) (v7 : Int) (v8 : Int) (h : Hp) (x k : Nat) : Prop := x = (hR h v0 16) ∨ x = (hR h v0 24) ∨ x = hR h v0 15 ∨ x = hR h v0 19 ∨ x = hR h v0 20 ∨ x = hR h v0 21 ∨ x = hR h v0 22 ∨ x = hR h v0 23 ∨ x = hR h v0 24 ∨ x = v5
def wJ_mSeals_seal (v0 : Nat) (v1 : Nat) (v2 : Int) (v3 : Int) (v5 : Nat) (v6 : Int) (v7 : Int) (v8 : Int) (h : Hp) (x k : Nat) : Prop := x = hR h v0 17 ∨ x = hR h v0 18
theorem fe_mSeals_seal_b35 {k35 : Nat → Nat → Int → Int → Hp → Option (Hp)} (hk35 : ∀ (v0 : Nat) (v5 : Nat) (v8 : Int) (v9 : Int) (h : Hp), Feo (wI_mSeals_seal_b35 v0 v5 v8 v9 h) (wJ_mSeals_seal_b35 v0 v5 v8 v9 h) h id (k35 v0 v5 v8 v9 h)) (v0 : Nat) (v5 : Nat) (v8 : Int) (v9 : Int) (h : Hp) : Feo (wI_mSeals_seal_b35 v0 v5 v8 v9 h) (wJ_mSeals_seal_b35 v0 v5 v8 v9 h) h id (f_mSeals_seal_b35 k35 v0 v5 v8 v9 h) := by
  unfold f_mSeals_seal_b35
  refine fe_it ?_ ?_
  · exact fe_so Fe.rf
  · refine fe_it fe_no ?_
    refine fe_it ?_ fe_no
    refine fe_it fe_no ?_
    refine fe_it ?_ fe_no
    refine fe_I Fe.rf (rfl) (fun h11 F1 => ?_)
    exact fe_j F1 (hk35 _ _ _ _ _) (fun x k hx => by simp only [wI_mSeals_seal_b35, F1.r] at hx; have e := hx; exact e) (fun x k hx => False.elim hx)
theorem fe_mSeals_seal_b35_lp (n : Nat) : ∀ (v0 : Nat) (v5 : Nat) (v8 : Int) (v9 : Int) (h : Hp), Feo (wI_mSeals_seal_b35 v0 v5 v8 v9 h) (wJ_mSeals_seal_b35 v0 v5 v8 v9 h) h id (f_mSeals_seal_b35_lp n v0 v5 v8 v9 h) := by
  induction n with
  | zero => intro v0 v5 v8 v9 h; exact fe_no
  | succ n ih => intro v0 v5 v8 v9 h; exact fe_mSeals_seal_b35 ih v0 v5 v8 v9 h
theorem fe_mSeals_seal (v0 : Nat) (v1 : Nat) (v2 : Int) (v3 : Int) (v5 : Nat) (v6 : Int) (v7 : Int) (v8 : Int) (h : Hp) : Feo (wI_mSeals_seal v0 v1 v2 v3 v5 v6 v7 v8 h) (wJ_mSeals_seal v0 v1 v2 v3 v5 v6 v7 v8 h) h id (f_mSeals_seal v0 v1 v2 v3 v5 v6 v7 v8 h) := by
  unfold f_mSeals_seal
  refine fe_b1 Fe.rf (fe_mSeals_nonceOf _ _ _ _ _) (fun x k hx => by simp only [wI_mSeals_nonceOf] at hx; rcases hx with e | e <;> first | exact Or.inl (e) | exact Or.inr (Or.inr (Or.inl (e)))) (fun x k hx => False.elim hx) (fun h1 F1 => ?_)
  refine fe_b1 F1 (fe_mSeals_change _ _ _ _ _) (fun x k hx => by simp only [wI_mSeals_change, F1.r] at hx; rcases hx with e | e <;> first | exact Or.inr (Or.inr (Or.inr (Or.inl (e)))) | exact Or.inr (Or.inr (Or.inr (Or.inr (Or.inr (Or.inr (Or.inr (Or.inr (Or.inr (e)))))))))) (fun x k hx => by simp only [wJ_mSeals_change, F1.r] at hx; rcases hx with e | e <;> first | exact Or.inl (e) | exact Or.inr (e)) (fun h3 F2 => ?_)
  refine fe_b1 F2 (fe_mSeals_tagOf _ _ _ _ _ _) (fun x k hx => by simp only [wI_mSeals_tagOf, F1.r, F2.r] at hx; rcases hx with e | e | e | e | e | e | e <;> first | exact Or.inr (Or.inl (e)) | exact Or.inr (Or.inr (Or.inr (Or.inl (e)))) | exact Or.inr (Or.inr (Or.inr (Or.inr (Or.inl (e))))) | exact Or.inr (Or.inr (Or.inr (Or.inr (Or.inr (Or.inl (e)))))) | exact Or.inr (Or.inr (Or.inr (Or.inr (Or.inr (Or.inr (Or.inl (e))))))) | exact Or.inr (Or.inr (Or.inr (Or.inr (Or.inr (Or.inr (Or.inr (Or.inl (e)))))))) | exact Or.inr (Or.inr (Or.inr (Or.inr (Or.inr (Or.inr (Or.inr (Or.inr (Or.inl (e)))))))))) (fun x k hx => by simp only [wJ_mSeals_tagOf, F1.r, F2.r] at hx; rcases hx with e | e <;> first | exact Or.inl (e) | exact Or.inr (e)) (fun h5 F3 => ?_)
  exact fe_j F3 (fe_mSeals_seal_b35_lp FU _ _ _ _ _) (fun x k hx => by simp only [wI_mSeals_seal_b35, F1.r, F2.r, F3.r] at hx; have e := hx; exact Or.inr (Or.inr (Or.inr (Or.inr (Or.inr (Or.inr (Or.inr (Or.inr (Or.inr (e)))))))))) (fun x k hx => False.elim hx)
def wI_mBook_send_b106 (v0 : Nat) (v5 : Int) (s0 : Nat) (s1 : Int) (s2 : Int) (h : Hp) (x k : Nat) : Prop := x = s0
def wJ_mBook_send_b106 (v0 : Nat) (v5 : Int) (s0 : Nat) (s1 : Int) (s2 : Int) (h : Hp) (x k : Nat) : Prop := False
def wI_mBook_send (v0 : Nat) (v1 : Int) (v2 : Int) (v3 : Int) (v4 : Int) (h : Hp) (x k : Nat) : Prop := x = (hR h v0 9) ∨ x = hR h v0 3 ∨ x = hR h v0 4 ∨ x = hR h v0 5 ∨ x = hR h v0 6 ∨ x = hR h v0 7 ∨ x = hR h v0 8 ∨ (x = v0 ∧ k = 14)
def wJ_mBook_send (v0 : Nat) (v1 : Int) (v2 : Int) (v3 : Int) (v4 : Int) (h : Hp) (x k : Nat) : Prop := False
theorem fe_mBook_send_b106 (v0 : Nat) (v5 : Int) (s0 : Nat) (s1 : Int) (s2 : Int) (h : Hp) : Feo (wI_mBook_send_b106 v0 v5 s0 s1 s2 h) (wJ_mBook_send_b106 v0 v5 s0 s1 s2 h) h Prod.snd (f_mBook_send_b106 v0 v5 s0 s1 s2 h) := by
  unfold f_mBook_send_b106
  refine fe_it fe_no ?_
  refine fe_it ?_ fe_no
  refine fe_it fe_no ?_
  refine fe_I Fe.rf (rfl) (fun h32 F1 => ?_)
  exact fe_so F1
theorem fe_mBook_send (v0 : Nat) (v1 : Int) (v2 : Int) (v3 : Int) (v4 : Int) (h : Hp) : Feo (wI_mBook_send v0 v1 v2 v3 v4 h) (wJ_mBook_send v0 v1 v2 v3 v4 h) h Prod.snd (f_mBook_send v0 v1 v2 v3 v4 h) := by
  unfold f_mBook_send
  refine fe_it fe_no ?_
  refine fe_it ?_ fe_no
  refine fe_v (fun y3 => ?_)
  refine fe_v (fun y4 => ?_)
  refine fe_it fe_no ?_
  refine fe_it ?_ fe_no
  refine fe_I Fe.rf (Or.inr (Or.inr (Or.inl (rfl)))) (fun h7 F1 => ?_)
  refine fe_it fe_no ?_
  refine fe_it ?_ fe_no
  refine fe_I F1 (Or.inr (Or.inr (Or.inr (Or.inl ((by first | (simp only [F1.r]; exact rfl) | simp only [F1.r])))))) (fun h10 F2 => ?_)
  refine fe_it fe_no ?_
  refine fe_it ?_ fe_no
  refine fe_I F2 (Or.inr (Or.inr (Or.inr (Or.inr (Or.inl ((by first | (simp only [F1.r, F2.r]; exact rfl) | simp only [F1.r, F2.r]))))))) (fun h13 F3 => ?_)
  refine fe_it fe_no ?_
  refine fe_it ?_ fe_no
  refine fe_it fe_no ?_
  refine fe_I F3 (Or.inr (Or.inr (Or.inr (Or.inr (Or.inr (Or.inl ((by first | (simp only [F1.r, F2.r, F3.r]; exact rfl) | simp only [F1.r, F2.r, F3.r])))))))) (fun h16 F4 => ?_)
  refine fe_it fe_no ?_
  refine fe_it ?_ fe_no
  refine fe_it fe_no ?_
  refine fe_I F4 (Or.inr (Or.inr (Or.inr (Or.inr (Or.inr (Or.inr (Or.inl ((by first | (simp only [F1.r, F2.r, F3.r, F4.r]; exact rfl) | simp only [F1.r, F2.r, F3.r, F4.r]))))))))) (fun h20 F5 => ?_)
  refine fe_it fe_no ?_
  refine fe_it ?_ fe_no
  refine fe_it ?_ fe_no
  refine fe_I F5 (Or.inr (Or.inl ((by first | (simp only [F1.r, F2.r, F3.r, F4.r, F5.r]; exact rfl) | simp only [F1.r, F2.r, F3.r, F4.r, F5.r])))) (fun h25 F6 => ?_)
  refine fe_I F6 (Or.inr (Or.inr (Or.inr (Or.inr (Or.inr (Or.inr (Or.inr (⟨rfl, rfl⟩)))))))) (fun h26 F7 => ?_)
  refine fe_b2 F7 (fe_mBook_flight _ _) (fun x k hx => False.elim hx) (fun x k hx => False.elim hx) (fun r29 h27 F8 => ?_)
  refine fe_it ?_ ?_
  · exact fe_j F8 (fe_mBook_send_b106 _ _ _ _ _ _) (fun x k hx => by simp only [wI_mBook_send_b106, F1.r, F2.r, F3.r, F4.r, F5.r, F6.r, F7.r, F8.r] at hx; have e := hx; exact Or.inl (e)) (fun x k hx => False.elim hx)
  · exact fe_j F8 (fe_mBook_send_b106 _ _ _ _ _ _) (fun x k hx => by simp only [wI_mBook_send_b106, F1.r, F2.r, F3.r, F4.r, F5.r, F6.r, F7.r, F8.r] at hx; have e := hx; exact Or.inl (e)) (fun x k hx => False.elim hx)
def wI_mBook_written (v0 : Nat) (v1 : Int) (h : Hp) (x k : Nat) : Prop := x = hR h v0 35 ∨ x = hR h v0 37
def wJ_mBook_written (v0 : Nat) (v1 : Int) (h : Hp) (x k : Nat) : Prop := False
theorem fe_mBook_written (v0 : Nat) (v1 : Int) (h : Hp) : Feo (wI_mBook_written v0 v1 h) (wJ_mBook_written v0 v1 h) h id (f_mBook_written v0 v1 h) := by
  unfold f_mBook_written
  refine fe_it fe_no ?_
  refine fe_it ?_ fe_no
  refine fe_I Fe.rf (Or.inl (rfl)) (fun h3 F1 => ?_)
  refine fe_it fe_no ?_
  refine fe_it ?_ fe_no
  refine fe_I F1 (Or.inr ((by first | (simp only [F1.r]; exact rfl) | simp only [F1.r]))) (fun h6 F2 => ?_)
  exact fe_so F2
def wI_mSide_sendsPacket_b415 (v0 : Nat) (h : Hp) (x k : Nat) : Prop := (x = v0 ∧ k = 41)
def wJ_mSide_sendsPacket_b415 (v0 : Nat) (h : Hp) (x k : Nat) : Prop := False
def wI_mSide_sendsPacket_b397 (v0 : Nat) (h : Hp) (x k : Nat) : Prop := (x = v0 ∧ k = 40) ∨ (x = v0 ∧ k = 41)
def wJ_mSide_sendsPacket_b397 (v0 : Nat) (h : Hp) (x k : Nat) : Prop := False
def wI_mSide_sendsPacket_b368 (v0 : Nat) (v1 : Int) (h : Hp) (x k : Nat) : Prop := x = hR h v0 34 ∨ (x = v0 ∧ k = 40) ∨ (x = v0 ∧ k = 41)
def wJ_mSide_sendsPacket_b368 (v0 : Nat) (v1 : Int) (h : Hp) (x k : Nat) : Prop := False
def wI_mSide_sendsPacket_b347 (v0 : Nat) (v1 : Int) (s0 : Nat) (s1 : Int) (s2 : Int) (s3 : Int) (s4 : Int) (h : Hp) (x k : Nat) : Prop := x = (hR h s0 9) ∨ x = hR h (hR h v0 4) 35 ∨ x = hR h (hR h v0 4) 37 ∨ x = hR h s0 3 ∨ x = hR h s0 4 ∨ x = hR h s0 5 ∨ x = hR h s0 6 ∨ x = hR h s0 7 ∨ x = hR h s0 8 ∨ x = hR h v0 34 ∨ (x = s0 ∧ k = 14) ∨ (x = v0 ∧ k = 40) ∨ (x = v0 ∧ k = 41)
def wJ_mSide_sendsPacket_b347 (v0 : Nat) (v1 : Int) (s0 : Nat) (s1 : Int) (s2 : Int) (s3 : Int) (s4 : Int) (h : Hp) (x k : Nat) : Prop := False
def wI_mSide_sendsPacket_b342 (v0 : Nat) (v1 : Int) (s0 : Nat) (s1 : Int) (s2 : Int) (s3 : Int) (h : Hp) (x k : Nat) : Prop := x = (hR h s0 9) ∨ x = hR h (hR h v0 4) 35 ∨ x = hR h (hR h v0 4) 37 ∨ x = hR h s0 3 ∨ x = hR h s0 4 ∨ x = hR h s0 5 ∨ x = hR h s0 6 ∨ x = hR h s0 7 ∨ x = hR h s0 8 ∨ x = hR h v0 34 ∨ (x = s0 ∧ k = 14) ∨ (x = v0 ∧ k = 40) ∨ (x = v0 ∧ k = 41)
def wJ_mSide_sendsPacket_b342 (v0 : Nat) (v1 : Int) (s0 : Nat) (s1 : Int) (s2 : Int) (s3 : Int) (h : Hp) (x k : Nat) : Prop := False
def wI_mSide_sendsPacket_b177 (v0 : Nat) (v1 : Int) (v2 : Int) (v3 : Int) (v4 : Int) (v5 : Nat) (h : Hp) (x k : Nat) : Prop := x = (hR h (hR h v0 1) 16) ∨ x = (hR h (hR h v0 1) 24) ∨ x = (hR h (hR h v0 4) 9) ∨ x = (hR h (hR h v0 52) 0) ∨ (x = (hR h v0 4) ∧ k = 14) ∨ (x = (hR h v0 52) ∧ k = 1) ∨ x = hR h (hR h v0 1) 15 ∨ x = hR h (hR h v0 1) 16 ∨ x = hR h (hR h v0 1) 19 ∨ x = hR h (hR h v0 1) 20 ∨ x = hR h (hR h v0 1) 21 ∨ x = hR h (hR h v0 1) 22 ∨ x = hR h (hR h v0 1) 23 ∨ x = hR h (hR h v0 1) 24 ∨ x = hR h (hR h v0 4) 3 ∨ x = hR h (hR h v0 4) 35 ∨ x = hR h (hR h v0 4) 37 ∨ x = hR h (hR h v0 4) 4 ∨ x = hR h (hR h v0 4) 5 ∨ x = hR h (hR h v0 4) 6 ∨ x = hR h (hR h v0 4) 7 ∨ x = hR h (hR h v0 4) 8 ∨ x = hR h (hR h v0 52) 0 ∨ x = hR h v0 34 ∨ (x = hR h v0 52 ∧ k = 1) ∨ (x = v0 ∧ k = 40) ∨ (x = v0 ∧ k = 41)
def wJ_mSide_sendsPacket_b177 (v0 : Nat) (v1 : Int) (v2 : Int) (v3 : Int) (v4 : Int) (v5 : Nat) (h : Hp) (x k : Nat) : Prop := x = hR h (hR h v0 1) 17 ∨ x = hR h (hR h v0 1) 18
def wI_mSide_sendsPacket_b158 (v0 : Nat) (v1 : Int) (v2 : Int) (v3 : Int) (v4 : Int) (v5 : Nat) (h : Hp) (x k : Nat) : Prop := x = (hR h (hR h v0 1) 16) ∨ x = (hR h (hR h v0 1) 24) ∨ x = (hR h (hR h v0 4) 9) ∨ x = (hR h (hR h v0 52) 0) ∨ (x = (hR h v0 4) ∧ k = 14) ∨ (x = (hR h v0 52) ∧ k = 1) ∨ x = hR h (hR h v0 1) 15 ∨ x = hR h (hR h v0 1) 16 ∨ x = hR h (hR h v0 1) 19 ∨ x = hR h (hR h v0 1) 20 ∨ x = hR h (hR h v0 1) 21 ∨ x = hR h (hR h v0 1) 22 ∨ x = hR h (hR h v0 1) 23 ∨ x = hR h (hR h v0 1) 24 ∨ x = hR h (hR h v0 4) 3 ∨ x = hR h (hR h v0 4) 35 ∨ x = hR h (hR h v0 4) 37 ∨ x = hR h (hR h v0 4) 4 ∨ x = hR h (hR h v0 4) 5 ∨ x = hR h (hR h v0 4) 6 ∨ x = hR h (hR h v0 4) 7 ∨ x = hR h (hR h v0 4) 8 ∨ x = hR h (hR h v0 52) 0 ∨ x = hR h v0 34 ∨ (x = hR h v0 52 ∧ k = 1) ∨ (x = v0 ∧ k = 40) ∨ (x = v0 ∧ k = 41)
def wJ_mSide_sendsPacket_b158 (v0 : Nat) (v1 : Int) (v2 : Int) (v3 : Int) (v4 : Int) (v5 : Nat) (h : Hp) (x k : Nat) : Prop := x = hR h (hR h v0 1) 17 ∨ x = hR h (hR h v0 1) 18
def wI_mSide_sendsPacket_b96 (v0 : Nat) (v1 : Int) (v2 : Int) (v3 : Int) (v4 : Int) (v5 : Nat) (h : Hp) (x k : Nat) : Prop := x = (hR h (hR h v0 1) 16) ∨ x = (hR h (hR h v0 1) 24) ∨ x = (hR h (hR h v0 4) 9) ∨ x = (hR h (hR h v0 52) 0) ∨ (x = (hR h v0 4) ∧ k = 14) ∨ (x = (hR h v0 52) ∧ k = 1) ∨ x = hR h (hR h v0 1) 15 ∨ x = hR h (hR h v0 1) 16 ∨ x = hR h (hR h v0 1) 19 ∨ x = hR h (hR h v0 1) 20 ∨ x = hR h (hR h v0 1) 21 ∨ x = hR h (hR h v0 1) 22 ∨ x = hR h (hR h v0 1) 23 ∨ x = hR h (hR h v0 1) 24 ∨ x = hR h (hR h v0 4) 3 ∨ x = hR h (hR h v0 4) 35 ∨ x = hR h (hR h v0 4) 37 ∨ x = hR h (hR h v0 4) 4 ∨ x = hR h (hR h v0 4) 5 ∨ x = hR h (hR h v0 4) 6 ∨ x = hR h (hR h v0 4) 7 ∨ x = hR h (hR h v0 4) 8 ∨ x = hR h (hR h v0 52) 0 ∨ x = hR h v0 34 ∨ (x = hR h v0 52 ∧ k = 1) ∨ (x = v0 ∧ k = 40) ∨ (x = v0 ∧ k = 41)
def wJ_mSide_sendsPacket_b96 (v0 : Nat) (v1 : Int) (v2 : Int) (v3 : Int) (v4 : Int) (v5 : Nat) (h : Hp) (x k : Nat) : Prop := x = hR h (hR h v0 1) 17 ∨ x = hR h (hR h v0 1) 18
def wI_mSide_sendsPacket_b65 (v0 : Nat) (v1 : Int) (v2 : Int) (v3 : Int) (v4 : Int) (v5 : Nat) (s0 : Nat) (s1 : Int) (h : Hp) (x k : Nat) : Prop := x = (hR h (hR h v0 1) 16) ∨ x = (hR h (hR h v0 1) 24) ∨ x = (hR h (hR h v0 4) 9) ∨ x = (hR h (hR h v0 52) 0) ∨ (x = (hR h v0 4) ∧ k = 14) ∨ (x = (hR h v0 52) ∧ k = 1) ∨ x = hR h (hR h v0 1) 15 ∨ x = hR h (hR h v0 1) 16 ∨ x = hR h (hR h v0 1) 19 ∨ x = hR h (hR h v0 1) 20 ∨ x = hR h (hR h v0 1) 21 ∨ x = hR h (hR h v0 1) 22 ∨ x = hR h (hR h v0 1) 23 ∨ x = hR h (hR h v0 1) 24 ∨ x = hR h (hR h v0 4) 3 ∨ x = hR h (hR h v0 4) 35 ∨ x = hR h (hR h v0 4) 37 ∨ x = hR h (hR h v0 4) 4 ∨ x = hR h (hR h v0 4) 5 ∨ x = hR h (hR h v0 4) 6 ∨ x = hR h (hR h v0 4) 7 ∨ x = hR h (hR h v0 4) 8 ∨ x = hR h (hR h v0 52) 0 ∨ x = hR h s0 0 ∨ x = hR h v0 34 ∨ (x = hR h v0 52 ∧ k = 1) ∨ (x = s0 ∧ k = 1) ∨ (x = v0 ∧ k = 40) ∨ (x = v0 ∧ k = 41)
def wJ_mSide_sendsPacket_b65 (v0 : Nat) (v1 : Int) (v2 : Int) (v3 : Int) (v4 : Int) (v5 : Nat) (s0 : Nat) (s1 : Int) (h : Hp) (x k : Nat) : Prop := x = hR h (hR h v0 1) 17 ∨ x = hR h (hR h v0 1) 18
def wI_mSide_sendsPacket (v0 : Nat) (v1 : Int) (h : Hp) (x k : Nat) : Prop := x = (hR h (hR h v0 1) 16) ∨ x = (hR h (hR h v0 1) 24) ∨ x = (hR h (hR h v0 4) 9) ∨ x = (hR h (hR h v0 52) 0) ∨ (x = (hR h v0 4) ∧ k = 14) ∨ (x = (hR h v0 52) ∧ k = 1) ∨ x = hR h (hR h v0 1) 15 ∨ x = hR h (hR h v0 1) 16 ∨ x = hR h (hR h v0 1) 19 ∨ x = hR h (hR h v0 1) 20 ∨ x = hR h (hR h v0 1) 21 ∨ x = hR h (hR h v0 1) 22 ∨ x = hR h (hR h v0 1) 23 ∨ x = hR h (hR h v0 1) 24 ∨ x = hR h (hR h v0 4) 3 ∨ x = hR h (hR h v0 4) 35 ∨ x = hR h (hR h v0 4) 37 ∨ x = hR h (hR h v0 4) 4 ∨ x = hR h (hR h v0 4) 5 ∨ x = hR h (hR h v0 4) 6 ∨ x = hR h (hR h v0 4) 7 ∨ x = hR h (hR h v0 4) 8 ∨ x = hR h (hR h v0 52) 0 ∨ x = hR h v0 34 ∨ (x = hR h v0 52 ∧ k = 1) ∨ (x = v0 ∧ k = 40) ∨ (x = v0 ∧ k = 41)
def wJ_mSide_sendsPacket (v0 : Nat) (v1 : Int) (h : Hp) (x k : Nat) : Prop := x = hR h (hR h v0 1) 17 ∨ x = hR h (hR h v0 1) 18
theorem fe_mSide_sendsPacket_b415 (v0 : Nat) (h : Hp) : Feo (wI_mSide_sendsPacket_b415 v0 h) (wJ_mSide_sendsPacket_b415 v0 h) h id (f_mSide_sendsPacket_b415 v0 h) := by
  unfold f_mSide_sendsPacket_b415
  refine fe_I Fe.rf (⟨rfl, rfl⟩) (fun h79 F1 => ?_)
  exact fe_so F1
theorem fe_mSide_sendsPacket_b397 (v0 : Nat) (h : Hp) : Feo (wI_mSide_sendsPacket_b397 v0 h) (wJ_mSide_sendsPacket_b397 v0 h) h id (f_mSide_sendsPacket_b397 v0 h) := by
  unfold f_mSide_sendsPacket_b397
  refine fe_it ?_ ?_
  · exact fe_j Fe.rf (fe_mSide_sendsPacket_b415 _ _) (fun x k hx => by simp only [wI_mSide_sendsPacket_b415] at hx; have e := hx; exact Or.inr (e)) (fun x k hx => False.elim hx)
  · refine fe_it fe_no ?_
    refine fe_I Fe.rf (Or.inl (⟨rfl, rfl⟩)) (fun h78 F1 => ?_)
    exact fe_j F1 (fe_mSide_sendsPacket_b415 _ _) (fun x k hx => by simp only [wI_mSide_sendsPacket_b415, F1.r] at hx; have e := hx; exact Or.inr (e)) (fun x k hx => False.elim hx)
theorem fe_mSide_sendsPacket_b368 (v0 : Nat) (v1 : Int) (h : Hp) : Feo (wI_mSide_sendsPacket_b368 v0 v1 h) (wJ_mSide_sendsPacket_b368 v0 v1 h) h id (f_mSide_sendsPacket_b368 v0 v1 h) := by
  unfold f_mSide_sendsPacket_b368
  refine fe_it fe_no ?_
  refine fe_it ?_ fe_no
  refine fe_it ?_ ?_
  · refine fe_it fe_no ?_
    refine fe_it ?_ fe_no
    refine fe_it ?_ ?_
    · exact fe_j Fe.rf (fe_mSide_sendsPacket_b397 _ _) (fun x k hx => by simp only [wI_mSide_sendsPacket_b397] at hx; rcases hx with e | e <;> first | exact Or.inr (Or.inl (e)) | exact Or.inr (Or.inr (e))) (fun x k hx => False.elim hx)
    · refine fe_it ?_ fe_no
      refine fe_it ?_ fe_no
      refine fe_I Fe.rf (Or.inl (rfl)) (fun h76 F1 => ?_)
      exact fe_j F1 (fe_mSide_sendsPacket_b397 _ _) (fun x k hx => by simp only [wI_mSide_sendsPacket_b397, F1.r] at hx; rcases hx with e | e <;> first | exact Or.inr (Or.inl (e)) | exact Or.inr (Or.inr (e))) (fun x k hx => False.elim hx)
  · exact fe_so Fe.rf
theorem fe_mSide_sendsPacket_b347 (v0 : Nat) (v1 : Int) (s0 : Nat) (s1 : Int) (s2 : Int) (s3 : Int) (s4 : Int) (h : Hp) : Feo (wI_mSide_sendsPacket_b347 v0 v1 s0 s1 s2 s3 s4 h) (wJ_mSide_sendsPacket_b347 v0 v1 s0 s1 s2 s3 s4 h) h id (f_mSide_sendsPacket_b347 v0 v1 s0 s1 s2 s3 s4 h) := by
  unfold f_mSide_sendsPacket_b347
  refine fe_it fe_no ?_
  refine fe_b2 Fe.rf (fe_mBook_send _ _ _ _ _ _) (fun x k hx => by simp only [wI_mBook_send] at hx; rcases hx with e | e | e | e | e | e | e | e <;> first | exact Or.inl (e) | exact Or.inr (Or.inr (Or.inr (Or.inl (e)))) | exact Or.inr (Or.inr (Or.inr (Or.inr (Or.inl (e))))) | exact Or.inr (Or.inr (Or.inr (Or.inr (Or.inr (Or.inl (e)))))) | exact Or.inr (Or.inr (Or.inr (Or.inr (Or.inr (Or.inr (Or.inl (e))))))) | exact Or.inr (Or.inr (Or.inr (Or.inr (Or.inr (Or.inr (Or.inr (Or.inl (e)))))))) | exact Or.inr (Or.inr (Or.inr (Or.inr (Or.inr (Or.inr (Or.inr (Or.inr (Or.inl (e))))))))) | exact Or.inr (Or.inr (Or.inr (Or.inr (Or.inr (Or.inr (Or.inr (Or.inr (Or.inr (Or.inr (Or.inl (e)))))))))))) (fun x k hx => False.elim hx) (fun r64 h62 F1 => ?_)
  refine fe_it fe_no ?_
  refine fe_it ?_ fe_no
  refine fe_it ?_ ?_
  · exact fe_j F1 (fe_mSide_sendsPacket_b368 _ _ _) (fun x k hx => by simp only [wI_mSide_sendsPacket_b368, F1.r] at hx; rcases hx with e | e | e <;> first | exact Or.inr (Or.inr (Or.inr (Or.inr (Or.inr (Or.inr (Or.inr (Or.inr (Or.inr (Or.inl (e)))))))))) | exact Or.inr (Or.inr (Or.inr (Or.inr (Or.inr (Or.inr (Or.inr (Or.inr (Or.inr (Or.inr (Or.inr (Or.inl (e)))))))))))) | exact Or.inr (Or.inr (Or.inr (Or.inr (Or.inr (Or.inr (Or.inr (Or.inr (Or.inr (Or.inr (Or.inr (Or.inr (e))))))))))))) (fun x k hx => False.elim hx)
  · refine fe_it fe_no ?_
    refine fe_b1 F1 (fe_mBook_written _ _ _) (fun x k hx => by simp only [wI_mBook_written, F1.r] at hx; rcases hx with e | e <;> first | exact Or.inr (Or.inl (e)) | exact Or.inr (Or.inr (Or.inl (e)))) (fun x k hx => False.elim hx) (fun h68 F2 => ?_)
    exact fe_j F2 (fe_mSide_sendsPacket_b368 _ _ _) (fun x k hx => by simp only [wI_mSide_sendsPacket_b368, F1.r, F2.r] at hx; rcases hx with e | e | e <;> first | exact Or.inr (Or.inr (Or.inr (Or.inr (Or.inr (Or.inr (Or.inr (Or.inr (Or.inr (Or.inl (e)))))))))) | exact Or.inr (Or.inr (Or.inr (Or.inr (Or.inr (Or.inr (Or.inr (Or.inr (Or.inr (Or.inr (Or.inr (Or.inl (e)))))))))))) | exact Or.inr (Or.inr (Or.inr (Or.inr (Or.inr (Or.inr (Or.inr (Or.inr (Or.inr (Or.inr (Or.inr (Or.inr (e))))))))))))) (fun x k hx => False.elim hx)
theorem fe_mSide_sendsPacket_b342 (v0 : Nat) (v1 : Int) (s0 : Nat) (s1 : Int) (s2 : Int) (s3 : Int) (h : Hp) : Feo (wI_mSide_sendsPacket_b342 v0 v1 s0 s1 s2 s3 h) (wJ_mSide_sendsPacket_b342 v0 v1 s0 s1 s2 s3 h) h id (f_mSide_sendsPacket_b342 v0 v1 s0 s1 s2 s3 h) := by
  unfold f_mSide_sendsPacket_b342
  exact fe_j Fe.rf (fe_mSide_sendsPacket_b347 _ _ _ _ _ _ _ _) (fun x k hx => by simp only [wI_mSide_sendsPacket_b347] at hx; rcases hx with e | e | e | e | e | e | e | e | e | e | e | e | e <;> first | exact Or.inl (e) | exact Or.inr (Or.inl (e)) | exact Or.inr (Or.inr (Or.inl (e))) | exact Or.inr (Or.inr (Or.inr (Or.inl (e)))) | exact Or.inr (Or.inr (Or.inr (Or.inr (Or.inl (e))))) | exact Or.inr (Or.inr (Or.inr (Or.inr (Or.inr (Or.inl (e)))))) | exact Or.inr (Or.inr (Or.inr (Or.inr (Or.inr (Or.inr (Or.inl (e))))))) | exact Or.inr (Or.inr (Or.inr (Or.inr (Or.inr (Or.inr (Or.inr (Or.inl (e)))))))) | exact Or.inr (Or.inr (Or.inr (Or.inr (Or.inr (Or.inr (Or.inr (Or.inr (Or.inl (e))))))))) | exact Or.inr (Or.inr (Or.inr (Or.inr (Or.inr (Or.inr (Or.inr (Or.inr (Or.inr (Or.inl (e)))))))))) | exact Or.inr (Or.inr (Or.inr (Or.inr (Or.inr (Or.inr (Or.inr (Or.inr (Or.inr (Or.inr (Or.inl (e))))))))))) | exact Or.inr (Or.inr (Or.inr (Or.inr (Or.inr (Or.inr (Or.inr (Or.inr (Or.inr (Or.inr (Or.inr (Or.inl (e)))))))))))) | exact Or.inr (Or.inr (Or.inr (Or.inr (Or.inr (Or.inr (Or.inr (Or.inr (Or.inr (Or.inr (Or.inr (Or.inr (e))))))))))))) (fun x k hx => False.elim hx)
theorem fe_mSide_sendsPacket_b177 (v0 : Nat) (v1 : Int) (v2 : Int) (v3 : Int) (v4 : Int) (v5 : Nat) (h : Hp) : Feo (wI_mSide_sendsPacket_b177 v0 v1 v2 v3 v4 v5 h) (wJ_mSide_sendsPacket_b177 v0 v1 v2 v3 v4 v5 h) h id (f_mSide_sendsPacket_b177 v0 v1 v2 v3 v4 v5 h) := by
  unfold f_mSide_sendsPacket_b177
  refine fe_it fe_no ?_
  refine fe_v (fun y36 => ?_)
  refine fe_b1 Fe.rf (fe_mDraft_put _ _ _ _) (fun x k hx => by simp only [wI_mDraft_put] at hx; rcases hx with e | e <;> first | exact Or.inr (Or.inr (Or.inr (Or.inr (Or.inr (Or.inl (e)))))) | exact Or.inr (Or.inr (Or.inr (Or.inr (Or.inr (Or.inr (Or.inr (Or.inr (Or.inr (Or.inr (Or.inr (Or.inr (Or.inr (Or.inr (Or.inr (Or.inr (Or.inr (Or.inr (Or.inr (Or.inr (Or.inr (Or.inr (Or.inl (e)))))))))))))))))))))))) (fun x k hx => False.elim hx) (fun h37 F1 => ?_)
  refine fe_it fe_no ?_
  refine fe_v (fun y40 => ?_)
  refine fe_it fe_no ?_
  refine fe_b1 F1 (fe_mDraft_bytes _ _ _ _ _) (fun x k hx => by simp only [wI_mDraft_bytes, F1.r] at hx; rcases hx with e | e <;> first | exact Or.inr (Or.inr (Or.inr (Or.inr (Or.inr (Or.inl (e)))))) | exact Or.inr (Or.inr (Or.inr (Or.inr (Or.inr (Or.inr (Or.inr (Or.inr (Or.inr (Or.inr (Or.inr (Or.inr (Or.inr (Or.inr (Or.inr (Or.inr (Or.inr (Or.inr (Or.inr (Or.inr (Or.inr (Or.inr (Or.inl (e)))))))))))))))))))))))) (fun x k hx => False.elim hx) (fun h42 F2 => ?_)
  refine fe_it fe_no ?_
  refine fe_it fe_no ?_
  refine fe_b1 F2 (fe_mSeals_seal _ _ _ _ _ _ _ _ _) (fun x k hx => by simp only [wI_mSeals_seal, F1.r, F2.r] at hx; rcases hx with e | e | e | e | e | e | e | e | e | e <;> first | exact Or.inl (e) | exact Or.inr (Or.inl (e)) | exact Or.inr (Or.inr (Or.inr (Or.inl (e)))) | exact Or.inr (Or.inr (Or.inr (Or.inr (Or.inr (Or.inr (Or.inl (e))))))) | exact Or.inr (Or.inr (Or.inr (Or.inr (Or.inr (Or.inr (Or.inr (Or.inr (Or.inl (e))))))))) | exact Or.inr (Or.inr (Or.inr (Or.inr (Or.inr (Or.inr (Or.inr (Or.inr (Or.inr (Or.inl (e)))))))))) | exact Or.inr (Or.inr (Or.inr (Or.inr (Or.inr (Or.inr (Or.inr (Or.inr (Or.inr (Or.inr (Or.inl (e))))))))))) | exact Or.inr (Or.inr (Or.inr (Or.inr (Or.inr (Or.inr (Or.inr (Or.inr (Or.inr (Or.inr (Or.inr (Or.inl (e)))))))))))) | exact Or.inr (Or.inr (Or.inr (Or.inr (Or.inr (Or.inr (Or.inr (Or.inr (Or.inr (Or.inr (Or.inr (Or.inr (Or.inl (e))))))))))))) | exact Or.inr (Or.inr (Or.inr (Or.inr (Or.inr (Or.inr (Or.inr (Or.inr (Or.inr (Or.inr (Or.inr (Or.inr (Or.inr (Or.inl (e))))))))))))))) (fun x k hx => by simp only [wJ_mSeals_seal, F1.r, F2.r] at hx; rcases hx with e | e <;> first | exact Or.inl (e) | exact Or.inr (e)) (fun h46 F3 => ?_)
  refine fe_it fe_no ?_
  refine fe_I F3 (Or.inr (Or.inr (Or.inr (Or.inr (Or.inr (Or.inr (Or.inr (Or.inr (Or.inr (Or.inr (Or.inr (Or.inr (Or.inr (Or.inr (Or.inr (Or.inr (Or.inr (Or.inr (Or.inr (Or.inr (Or.inr (Or.inr (Or.inr (Or.inr (Or.inl (⟨(by first | (simp only [F1.r, F2.r, F3.r]; exact rfl) | simp only [F1.r, F2.r, F3.r]), rfl⟩)))))))))))))))))))))))))) (fun h49 F4 => ?_)
  refine fe_it fe_no ?_
  refine fe_it fe_no ?_
  refine fe_b2 F4 (fe_mSeals_shield _ _ _ _ _ _ _ _) (fun x k hx => by simp only [wI_mSeals_shield, F1.r, F2.r, F3.r, F4.r] at hx; rcases hx with e | e | e | e <;> first | exact Or.inr (Or.inr (Or.inr (Or.inl (e)))) | exact Or.inr (Or.inr (Or.inr (Or.inr (Or.inr (Or.inr (Or.inl (e))))))) | exact Or.inr (Or.inr (Or.inr (Or.inr (Or.inr (Or.inr (Or.inr (Or.inl (e)))))))) | exact Or.inr (Or.inr (Or.inr (Or.inr (Or.inr (Or.inr (Or.inr (Or.inr (Or.inl (e)))))))))) (fun x k hx => by simp only [wJ_mSeals_shield, F1.r, F2.r, F3.r, F4.r] at hx; rcases hx with e | e <;> first | exact Or.inl (e) | exact Or.inr (e)) (fun r54 h52 F5 => ?_)
  refine fe_it fe_no ?_
  refine fe_it fe_no ?_
  refine fe_it ?_ fe_no
  refine fe_it ?_ fe_no
  refine fe_it ?_ ?_
  · exact fe_j F5 (fe_mSide_sendsPacket_b342 _ _ _ _ _ _ _) (fun x k hx => by simp only [wI_mSide_sendsPacket_b342, F1.r, F2.r, F3.r, F4.r, F5.r] at hx; rcases hx with e | e | e | e | e | e | e | e | e | e | e | e | e <;> first | exact Or.inr (Or.inr (Or.inl (e))) | exact Or.inr (Or.inr (Or.inr (Or.inr (Or.inl (e))))) | exact Or.inr (Or.inr (Or.inr (Or.inr (Or.inr (Or.inr (Or.inr (Or.inr (Or.inr (Or.inr (Or.inr (Or.inr (Or.inr (Or.inr (Or.inl (e))))))))))))))) | exact Or.inr (Or.inr (Or.inr (Or.inr (Or.inr (Or.inr (Or.inr (Or.inr (Or.inr (Or.inr (Or.inr (Or.inr (Or.inr (Or.inr (Or.inr (Or.inl (e)))))))))))))))) | exact Or.inr (Or.inr (Or.inr (Or.inr (Or.inr (Or.inr (Or.inr (Or.inr (Or.inr (Or.inr (Or.inr (Or.inr (Or.inr (Or.inr (Or.inr (Or.inr (Or.inl (e))))))))))))))))) | exact Or.inr (Or.inr (Or.inr (Or.inr (Or.inr (Or.inr (Or.inr (Or.inr (Or.inr (Or.inr (Or.inr (Or.inr (Or.inr (Or.inr (Or.inr (Or.inr (Or.inr (Or.inl (e)))))))))))))))))) | exact Or.inr (Or.inr (Or.inr (Or.inr (Or.inr (Or.inr (Or.inr (Or.inr (Or.inr (Or.inr (Or.inr (Or.inr (Or.inr (Or.inr (Or.inr (Or.inr (Or.inr (Or.inr (Or.inl (e))))))))))))))))))) | exact Or.inr (Or.inr (Or.inr (Or.inr (Or.inr (Or.inr (Or.inr (Or.inr (Or.inr (Or.inr (Or.inr (Or.inr (Or.inr (Or.inr (Or.inr (Or.inr (Or.inr (Or.inr (Or.inr (Or.inl (e)))))))))))))))))))) | exact Or.inr (Or.inr (Or.inr (Or.inr (Or.inr (Or.inr (Or.inr (Or.inr (Or.inr (Or.inr (Or.inr (Or.inr (Or.inr (Or.inr (Or.inr (Or.inr (Or.inr (Or.inr (Or.inr (Or.inr (Or.inl (e))))))))))))))))))))) | exact Or.inr (Or.inr (Or.inr (Or.inr (Or.inr (Or.inr (Or.inr (Or.inr (Or.inr (Or.inr (Or.inr (Or.inr (Or.inr (Or.inr (Or.inr (Or.inr (Or.inr (Or.inr (Or.inr (Or.inr (Or.inr (Or.inl (e)))))))))))))))))))))) | exact Or.inr (Or.inr (Or.inr (Or.inr (Or.inr (Or.inr (Or.inr (Or.inr (Or.inr (Or.inr (Or.inr (Or.inr (Or.inr (Or.inr (Or.inr (Or.inr (Or.inr (Or.inr (Or.inr (Or.inr (Or.inr (Or.inr (Or.inr (Or.inl (e)))))))))))))))))))))))) | exact Or.inr (Or.inr (Or.inr (Or.inr (Or.inr (Or.inr (Or.inr (Or.inr (Or.inr (Or.inr (Or.inr (Or.inr (Or.inr (Or.inr (Or.inr (Or.inr (Or.inr (Or.inr (Or.inr (Or.inr (Or.inr (Or.inr (Or.inr (Or.inr (Or.inr (Or.inl (e)))))))))))))))))))))))))) | exact Or.inr (Or.inr (Or.inr (Or.inr (Or.inr (Or.inr (Or.inr (Or.inr (Or.inr (Or.inr (Or.inr (Or.inr (Or.inr (Or.inr (Or.inr (Or.inr (Or.inr (Or.inr (Or.inr (Or.inr (Or.inr (Or.inr (Or.inr (Or.inr (Or.inr (Or.inr (e))))))))))))))))))))))))))) (fun x k hx => False.elim hx)
  · refine fe_it fe_no ?_
    refine fe_it ?_ fe_no
    refine fe_it ?_ ?_
    · exact fe_j F5 (fe_mSide_sendsPacket_b347 _ _ _ _ _ _ _ _) (fun x k hx => by simp only [wI_mSide_sendsPacket_b347, F1.r, F2.r, F3.r, F4.r, F5.r] at hx; rcases hx with e | e | e | e | e | e | e | e | e | e | e | e | e <;> first | exact Or.inr (Or.inr (Or.inl (e))) | exact Or.inr (Or.inr (Or.inr (Or.inr (Or.inl (e))))) | exact Or.inr (Or.inr (Or.inr (Or.inr (Or.inr (Or.inr (Or.inr (Or.inr (Or.inr (Or.inr (Or.inr (Or.inr (Or.inr (Or.inr (Or.inl (e))))))))))))))) | exact Or.inr (Or.inr (Or.inr (Or.inr (Or.inr (Or.inr (Or.inr (Or.inr (Or.inr (Or.inr (Or.inr (Or.inr (Or.inr (Or.inr (Or.inr (Or.inl (e)))))))))))))))) | exact Or.inr (Or.inr (Or.inr (Or.inr (Or.inr (Or.inr (Or.inr (Or.inr (Or.inr (Or.inr (Or.inr (Or.inr (Or.inr (Or.inr (Or.inr (Or.inr (Or.inl (e))))))))))))))))) | exact Or.inr (Or.inr (Or.inr (Or.inr (Or.inr (Or.inr (Or.inr (Or.inr (Or.inr (Or.inr (Or.inr (Or.inr (Or.inr (Or.inr (Or.inr (Or.inr (Or.inr (Or.inl (e)))))))))))))))))) | exact Or.inr (Or.inr (Or.inr (Or.inr (Or.inr (Or.inr (Or.inr (Or.inr (Or.inr (Or.inr (Or.inr (Or.inr (Or.inr (Or.inr (Or.inr (Or.inr (Or.inr (Or.inr (Or.inl (e))))))))))))))))))) | exact Or.inr (Or.inr (Or.inr (Or.inr (Or.inr (Or.inr (Or.inr (Or.inr (Or.inr (Or.inr (Or.inr (Or.inr (Or.inr (Or.inr (Or.inr (Or.inr (Or.inr (Or.inr (Or.inr (Or.inl (e)))))))))))))))))))) | exact Or.inr (Or.inr (Or.inr (Or.inr (Or.inr (Or.inr (Or.inr (Or.inr (Or.inr (Or.inr (Or.inr (Or.inr (Or.inr (Or.inr (Or.inr (Or.inr (Or.inr (Or.inr (Or.inr (Or.inr (Or.inl (e))))))))))))))))))))) | exact Or.inr (Or.inr (Or.inr (Or.inr (Or.inr (Or.inr (Or.inr (Or.inr (Or.inr (Or.inr (Or.inr (Or.inr (Or.inr (Or.inr (Or.inr (Or.inr (Or.inr (Or.inr (Or.inr (Or.inr (Or.inr (Or.inl (e)))))))))))))))))))))) | exact Or.inr (Or.inr (Or.inr (Or.inr (Or.inr (Or.inr (Or.inr (Or.inr (Or.inr (Or.inr (Or.inr (Or.inr (Or.inr (Or.inr (Or.inr (Or.inr (Or.inr (Or.inr (Or.inr (Or.inr (Or.inr (Or.inr (Or.inr (Or.inl (e)))))))))))))))))))))))) | exact Or.inr (Or.inr (Or.inr (Or.inr (Or.inr (Or.inr (Or.inr (Or.inr (Or.inr (Or.inr (Or.inr (Or.inr (Or.inr (Or.inr (Or.inr (Or.inr (Or.inr (Or.inr (Or.inr (Or.inr (Or.inr (Or.inr (Or.inr (Or.inr (Or.inr (Or.inl (e)))))))))))))))))))))))))) | exact Or.inr (Or.inr (Or.inr (Or.inr (Or.inr (Or.inr (Or.inr (Or.inr (Or.inr (Or.inr (Or.inr (Or.inr (Or.inr (Or.inr (Or.inr (Or.inr (Or.inr (Or.inr (Or.inr (Or.inr (Or.inr (Or.inr (Or.inr (Or.inr (Or.inr (Or.inr (e))))))))))))))))))))))))))) (fun x k hx => False.elim hx)
    · exact fe_j F5 (fe_mSide_sendsPacket_b342 _ _ _ _ _ _ _) (fun x k hx => by simp only [wI_mSide_sendsPacket_b342, F1.r, F2.r, F3.r, F4.r, F5.r] at hx; rcases hx with e | e | e | e | e | e | e | e | e | e | e | e | e <;> first | exact Or.inr (Or.inr (Or.inl (e))) | exact Or.inr (Or.inr (Or.inr (Or.inr (Or.inl (e))))) | exact Or.inr (Or.inr (Or.inr (Or.inr (Or.inr (Or.inr (Or.inr (Or.inr (Or.inr (Or.inr (Or.inr (Or.inr (Or.inr (Or.inr (Or.inl (e))))))))))))))) | exact Or.inr (Or.inr (Or.inr (Or.inr (Or.inr (Or.inr (Or.inr (Or.inr (Or.inr (Or.inr (Or.inr (Or.inr (Or.inr (Or.inr (Or.inr (Or.inl (e)))))))))))))))) | exact Or.inr (Or.inr (Or.inr (Or.inr (Or.inr (Or.inr (Or.inr (Or.inr (Or.inr (Or.inr (Or.inr (Or.inr (Or.inr (Or.inr (Or.inr (Or.inr (Or.inl (e))))))))))))))))) | exact Or.inr (Or.inr (Or.inr (Or.inr (Or.inr (Or.inr (Or.inr (Or.inr (Or.inr (Or.inr (Or.inr (Or.inr (Or.inr (Or.inr (Or.inr (Or.inr (Or.inr (Or.inl (e)))))))))))))))))) | exact Or.inr (Or.inr (Or.inr (Or.inr (Or.inr (Or.inr (Or.inr (Or.inr (Or.inr (Or.inr (Or.inr (Or.inr (Or.inr (Or.inr (Or.inr (Or.inr (Or.inr (Or.inr (Or.inl (e))))))))))))))))))) | exact Or.inr (Or.inr (Or.inr (Or.inr (Or.inr (Or.inr (Or.inr (Or.inr (Or.inr (Or.inr (Or.inr (Or.inr (Or.inr (Or.inr (Or.inr (Or.inr (Or.inr (Or.inr (Or.inr (Or.inl (e)))))))))))))))))))) | exact Or.inr (Or.inr (Or.inr (Or.inr (Or.inr (Or.inr (Or.inr (Or.inr (Or.inr (Or.inr (Or.inr (Or.inr (Or.inr (Or.inr (Or.inr (Or.inr (Or.inr (Or.inr (Or.inr (Or.inr (Or.inl (e))))))))))))))))))))) | exact Or.inr (Or.inr (Or.inr (Or.inr (Or.inr (Or.inr (Or.inr (Or.inr (Or.inr (Or.inr (Or.inr (Or.inr (Or.inr (Or.inr (Or.inr (Or.inr (Or.inr (Or.inr (Or.inr (Or.inr (Or.inr (Or.inl (e)))))))))))))))))))))) | exact Or.inr (Or.inr (Or.inr (Or.inr (Or.inr (Or.inr (Or.inr (Or.inr (Or.inr (Or.inr (Or.inr (Or.inr (Or.inr (Or.inr (Or.inr (Or.inr (Or.inr (Or.inr (Or.inr (Or.inr (Or.inr (Or.inr (Or.inr (Or.inl (e)))))))))))))))))))))))) | exact Or.inr (Or.inr (Or.inr (Or.inr (Or.inr (Or.inr (Or.inr (Or.inr (Or.inr (Or.inr (Or.inr (Or.inr (Or.inr (Or.inr (Or.inr (Or.inr (Or.inr (Or.inr (Or.inr (Or.inr (Or.inr (Or.inr (Or.inr (Or.inr (Or.inr (Or.inl (e)))))))))))))))))))))))))) | exact Or.inr (Or.inr (Or.inr (Or.inr (Or.inr (Or.inr (Or.inr (Or.inr (Or.inr (Or.inr (Or.inr (Or.inr (Or.inr (Or.inr (Or.inr (Or.inr (Or.inr (Or.inr (Or.inr (Or.inr (Or.inr (Or.inr (Or.inr (Or.inr (Or.inr (Or.inr (e))))))))))))))))))))))))))) (fun x k hx => False.elim hx)
theorem fe_mSide_sendsPacket_b158 (v0 : Nat) (v1 : Int) (v2 : Int) (v3 : Int) (v4 : Int) (v5 : Nat) (h : Hp) : Feo (wI_mSide_sendsPacket_b158 v0 v1 v2 v3 v4 v5 h) (wJ_mSide_sendsPacket_b158 v0 v1 v2 v3 v4 v5 h) h id (f_mSide_sendsPacket_b158 v0 v1 v2 v3 v4 v5 h) := by
  unfold f_mSide_sendsPacket_b158
  refine fe_it fe_no ?_
  refine fe_it fe_no ?_
  refine fe_b1 Fe.rf (fe_mDraft_sized _ _ _ _) (fun x k hx => by simp only [wI_mDraft_sized] at hx; rcases hx with e | e <;> first | exact Or.inr (Or.inr (Or.inr (Or.inr (Or.inr (Or.inl (e)))))) | exact Or.inr (Or.inr (Or.inr (Or.inr (Or.inr (Or.inr (Or.inr (Or.inr (Or.inr (Or.inr (Or.inr (Or.inr (Or.inr (Or.inr (Or.inr (Or.inr (Or.inr (Or.inr (Or.inr (Or.inr (Or.inr (Or.inr (Or.inl (e)))))))))))))))))))))))) (fun x k hx => False.elim hx) (fun h82 F1 => ?_)
  exact fe_j F1 (fe_mSide_sendsPacket_b177 _ _ _ _ _ _ _) (fun x k hx => by simp only [wI_mSide_sendsPacket_b177, F1.r] at hx; rcases hx with e | e | e | e | e | e | e | e | e | e | e | e | e | e | e | e | e | e | e | e | e | e | e | e | e | e | e <;> first | exact Or.inl (e) | exact Or.inr (Or.inl (e)) | exact Or.inr (Or.inr (Or.inl (e))) | exact Or.inr (Or.inr (Or.inr (Or.inl (e)))) | exact Or.inr (Or.inr (Or.inr (Or.inr (Or.inl (e))))) | exact Or.inr (Or.inr (Or.inr (Or.inr (Or.inr (Or.inl (e)))))) | exact Or.inr (Or.inr (Or.inr (Or.inr (Or.inr (Or.inr (Or.inl (e))))))) | exact Or.inr (Or.inr (Or.inr (Or.inr (Or.inr (Or.inr (Or.inr (Or.inl (e)))))))) | exact Or.inr (Or.inr (Or.inr (Or.inr (Or.inr (Or.inr (Or.inr (Or.inr (Or.inl (e))))))))) | exact Or.inr (Or.inr (Or.inr (Or.inr (Or.inr (Or.inr (Or.inr (Or.inr (Or.inr (Or.inl (e)))))))))) | exact Or.inr (Or.inr (Or.inr (Or.inr (Or.inr (Or.inr (Or.inr (Or.inr (Or.inr (Or.inr (Or.inl (e))))))))))) | exact Or.inr (Or.inr (Or.inr (Or.inr (Or.inr (Or.inr (Or.inr (Or.inr (Or.inr (Or.inr (Or.inr (Or.inl (e)))))))))))) | exact Or.inr (Or.inr (Or.inr (Or.inr (Or.inr (Or.inr (Or.inr (Or.inr (Or.inr (Or.inr (Or.inr (Or.inr (Or.inl (e))))))))))))) | exact Or.inr (Or.inr (Or.inr (Or.inr (Or.inr (Or.inr (Or.inr (Or.inr (Or.inr (Or.inr (Or.inr (Or.inr (Or.inr (Or.inl (e)))))))))))))) | exact Or.inr (Or.inr (Or.inr (Or.inr (Or.inr (Or.inr (Or.inr (Or.inr (Or.inr (Or.inr (Or.inr (Or.inr (Or.inr (Or.inr (Or.inl (e))))))))))))))) | exact Or.inr (Or.inr (Or.inr (Or.inr (Or.inr (Or.inr (Or.inr (Or.inr (Or.inr (Or.inr (Or.inr (Or.inr (Or.inr (Or.inr (Or.inr (Or.inl (e)))))))))))))))) | exact Or.inr (Or.inr (Or.inr (Or.inr (Or.inr (Or.inr (Or.inr (Or.inr (Or.inr (Or.inr (Or.inr (Or.inr (Or.inr (Or.inr (Or.inr (Or.inr (Or.inl (e))))))))))))))))) | exact Or.inr (Or.inr (Or.inr (Or.inr (Or.inr (Or.inr (Or.inr (Or.inr (Or.inr (Or.inr (Or.inr (Or.inr (Or.inr (Or.inr (Or.inr (Or.inr (Or.inr (Or.inl (e)))))))))))))))))) | exact Or.inr (Or.inr (Or.inr (Or.inr (Or.inr (Or.inr (Or.inr (Or.inr (Or.inr (Or.inr (Or.inr (Or.inr (Or.inr (Or.inr (Or.inr (Or.inr (Or.inr (Or.inr (Or.inl (e))))))))))))))))))) | exact Or.inr (Or.inr (Or.inr (Or.inr (Or.inr (Or.inr (Or.inr (Or.inr (Or.inr (Or.inr (Or.inr (Or.inr (Or.inr (Or.inr (Or.inr (Or.inr (Or.inr (Or.inr (Or.inr (Or.inl (e)))))))))))))))))))) | exact Or.inr (Or.inr (Or.inr (Or.inr (Or.inr (Or.inr (Or.inr (Or.inr (Or.inr (Or.inr (Or.inr (Or.inr (Or.inr (Or.inr (Or.inr (Or.inr (Or.inr (Or.inr (Or.inr (Or.inr (Or.inl (e))))))))))))))))))))) | exact Or.inr (Or.inr (Or.inr (Or.inr (Or.inr (Or.inr (Or.inr (Or.inr (Or.inr (Or.inr (Or.inr (Or.inr (Or.inr (Or.inr (Or.inr (Or.inr (Or.inr (Or.inr (Or.inr (Or.inr (Or.inr (Or.inl (e)))))))))))))))))))))) | exact Or.inr (Or.inr (Or.inr (Or.inr (Or.inr (Or.inr (Or.inr (Or.inr (Or.inr (Or.inr (Or.inr (Or.inr (Or.inr (Or.inr (Or.inr (Or.inr (Or.inr (Or.inr (Or.inr (Or.inr (Or.inr (Or.inr (Or.inl (e))))))))))))))))))))))) | exact Or.inr (Or.inr (Or.inr (Or.inr (Or.inr (Or.inr (Or.inr (Or.inr (Or.inr (Or.inr (Or.inr (Or.inr (Or.inr (Or.inr (Or.inr (Or.inr (Or.inr (Or.inr (Or.inr (Or.inr (Or.inr (Or.inr (Or.inr (Or.inl (e)))))))))))))))))))))))) | exact Or.inr (Or.inr (Or.inr (Or.inr (Or.inr (Or.inr (Or.inr (Or.inr (Or.inr (Or.inr (Or.inr (Or.inr (Or.inr (Or.inr (Or.inr (Or.inr (Or.inr (Or.inr (Or.inr (Or.inr (Or.inr (Or.inr (Or.inr (Or.inr (Or.inl (e))))))))))))))))))))))))) | exact Or.inr (Or.inr (Or.inr (Or.inr (Or.inr (Or.inr (Or.inr (Or.inr (Or.inr (Or.inr (Or.inr (Or.inr (Or.inr (Or.inr (Or.inr (Or.inr (Or.inr (Or.inr (Or.inr (Or.inr (Or.inr (Or.inr (Or.inr (Or.inr (Or.inr (Or.inl (e)))))))))))))))))))))))))) | exact Or.inr (Or.inr (Or.inr (Or.inr (Or.inr (Or.inr (Or.inr (Or.inr (Or.inr (Or.inr (Or.inr (Or.inr (Or.inr (Or.inr (Or.inr (Or.inr (Or.inr (Or.inr (Or.inr (Or.inr (Or.inr (Or.inr (Or.inr (Or.inr (Or.inr (Or.inr (e))))))))))))))))))))))))))) (fun x k hx => by simp only [wJ_mSide_sendsPacket_b177, F1.r] at hx; rcases hx with e | e <;> first | exact Or.inl (e) | exact Or.inr (e))
theorem fe_mSide_sendsPacket_b96 (v0 : Nat) (v1 : Int) (v2 : Int) (v3 : Int) (v4 : Int) (v5 : Nat) (h : Hp) : Feo (wI_mSide_sendsPacket_b96 v0 v1 v2 v3 v4 v5 h) (wJ_mSide_sendsPacket_b96 v0 v1 v2 v3 v4 v5 h) h id (f_mSide_sendsPacket_b96 v0 v1 v2 v3 v4 v5 h) := by
  unfold f_mSide_sendsPacket_b96
  refine fe_it fe_no ?_
  refine fe_b1 Fe.rf (fe_mDraft_bytes _ _ _ _ _) (fun x k hx => by simp only [wI_mDraft_bytes] at hx; rcases hx with e | e <;> first | exact Or.inr (Or.inr (Or.inr (Or.inr (Or.inr (Or.inl (e)))))) | exact Or.inr (Or.inr (Or.inr (Or.inr (Or.inr (Or.inr (Or.inr (Or.inr (Or.inr (Or.inr (Or.inr (Or.inr (Or.inr (Or.inr (Or.inr (Or.inr (Or.inr (Or.inr (Or.inr (Or.inr (Or.inr (Or.inr (Or.inl (e)))))))))))))))))))))))) (fun x k hx => False.elim hx) (fun h23 F1 => ?_)
  refine fe_it ?_ ?_
  · exact fe_j F1 (fe_mSide_sendsPacket_b177 _ _ _ _ _ _ _) (fun x k hx => by simp only [wI_mSide_sendsPacket_b177, F1.r] at hx; rcases hx with e | e | e | e | e | e | e | e | e | e | e | e | e | e | e | e | e | e | e | e | e | e | e | e | e | e | e <;> first | exact Or.inl (e) | exact Or.inr (Or.inl (e)) | exact Or.inr (Or.inr (Or.inl (e))) | exact Or.inr (Or.inr (Or.inr (Or.inl (e)))) | exact Or.inr (Or.inr (Or.inr (Or.inr (Or.inl (e))))) | exact Or.inr (Or.inr (Or.inr (Or.inr (Or.inr (Or.inl (e)))))) | exact Or.inr (Or.inr (Or.inr (Or.inr (Or.inr (Or.inr (Or.inl (e))))))) | exact Or.inr (Or.inr (Or.inr (Or.inr (Or.inr (Or.inr (Or.inr (Or.inl (e)))))))) | exact Or.inr (Or.inr (Or.inr (Or.inr (Or.inr (Or.inr (Or.inr (Or.inr (Or.inl (e))))))))) | exact Or.inr (Or.inr (Or.inr (Or.inr (Or.inr (Or.inr (Or.inr (Or.inr (Or.inr (Or.inl (e)))))))))) | exact Or.inr (Or.inr (Or.inr (Or.inr (Or.inr (Or.inr (Or.inr (Or.inr (Or.inr (Or.inr (Or.inl (e))))))))))) | exact Or.inr (Or.inr (Or.inr (Or.inr (Or.inr (Or.inr (Or.inr (Or.inr (Or.inr (Or.inr (Or.inr (Or.inl (e)))))))))))) | exact Or.inr (Or.inr (Or.inr (Or.inr (Or.inr (Or.inr (Or.inr (Or.inr (Or.inr (Or.inr (Or.inr (Or.inr (Or.inl (e))))))))))))) | exact Or.inr (Or.inr (Or.inr (Or.inr (Or.inr (Or.inr (Or.inr (Or.inr (Or.inr (Or.inr (Or.inr (Or.inr (Or.inr (Or.inl (e)))))))))))))) | exact Or.inr (Or.inr (Or.inr (Or.inr (Or.inr (Or.inr (Or.inr (Or.inr (Or.inr (Or.inr (Or.inr (Or.inr (Or.inr (Or.inr (Or.inl (e))))))))))))))) | exact Or.inr (Or.inr (Or.inr (Or.inr (Or.inr (Or.inr (Or.inr (Or.inr (Or.inr (Or.inr (Or.inr (Or.inr (Or.inr (Or.inr (Or.inr (Or.inl (e)))))))))))))))) | exact Or.inr (Or.inr (Or.inr (Or.inr (Or.inr (Or.inr (Or.inr (Or.inr (Or.inr (Or.inr (Or.inr (Or.inr (Or.inr (Or.inr (Or.inr (Or.inr (Or.inl (e))))))))))))))))) | exact Or.inr (Or.inr (Or.inr (Or.inr (Or.inr (Or.inr (Or.inr (Or.inr (Or.inr (Or.inr (Or.inr (Or.inr (Or.inr (Or.inr (Or.inr (Or.inr (Or.inr (Or.inl (e)))))))))))))))))) | exact Or.inr (Or.inr (Or.inr (Or.inr (Or.inr (Or.inr (Or.inr (Or.inr (Or.inr (Or.inr (Or.inr (Or.inr (Or.inr (Or.inr (Or.inr (Or.inr (Or.inr (Or.inr (Or.inl (e))))))))))))))))))) | exact Or.inr (Or.inr (Or.inr (Or.inr (Or.inr (Or.inr (Or.inr (Or.inr (Or.inr (Or.inr (Or.inr (Or.inr (Or.inr (Or.inr (Or.inr (Or.inr (Or.inr (Or.inr (Or.inr (Or.inl (e)))))))))))))))))))) | exact Or.inr (Or.inr (Or.inr (Or.inr (Or.inr (Or.inr (Or.inr (Or.inr (Or.inr (Or.inr (Or.inr (Or.inr (Or.inr (Or.inr (Or.inr (Or.inr (Or.inr (Or.inr (Or.inr (Or.inr (Or.inl (e))))))))))))))))))))) | exact Or.inr (Or.inr (Or.inr (Or.inr (Or.inr (Or.inr (Or.inr (Or.inr (Or.inr (Or.inr (Or.inr (Or.inr (Or.inr (Or.inr (Or.inr (Or.inr (Or.inr (Or.inr (Or.inr (Or.inr (Or.inr (Or.inl (e)))))))))))))))))))))) | exact Or.inr (Or.inr (Or.inr (Or.inr (Or.inr (Or.inr (Or.inr (Or.inr (Or.inr (Or.inr (Or.inr (Or.inr (Or.inr (Or.inr (Or.inr (Or.inr (Or.inr (Or.inr (Or.inr (Or.inr (Or.inr (Or.inr (Or.inl (e))))))))))))))))))))))) | exact Or.inr (Or.inr (Or.inr (Or.inr (Or.inr (Or.inr (Or.inr (Or.inr (Or.inr (Or.inr (Or.inr (Or.inr (Or.inr (Or.inr (Or.inr (Or.inr (Or.inr (Or.inr (Or.inr (Or.inr (Or.inr (Or.inr (Or.inr (Or.inl (e)))))))))))))))))))))))) | exact Or.inr (Or.inr (Or.inr (Or.inr (Or.inr (Or.inr (Or.inr (Or.inr (Or.inr (Or.inr (Or.inr (Or.inr (Or.inr (Or.inr (Or.inr (Or.inr (Or.inr (Or.inr (Or.inr (Or.inr (Or.inr (Or.inr (Or.inr (Or.inr (Or.inl (e))))))))))))))))))))))))) | exact Or.inr (Or.inr (Or.inr (Or.inr (Or.inr (Or.inr (Or.inr (Or.inr (Or.inr (Or.inr (Or.inr (Or.inr (Or.inr (Or.inr (Or.inr (Or.inr (Or.inr (Or.inr (Or.inr (Or.inr (Or.inr (Or.inr (Or.inr (Or.inr (Or.inr (Or.inl (e)))))))))))))))))))))))))) | exact Or.inr (Or.inr (Or.inr (Or.inr (Or.inr (Or.inr (Or.inr (Or.inr (Or.inr (Or.inr (Or.inr (Or.inr (Or.inr (Or.inr (Or.inr (Or.inr (Or.inr (Or.inr (Or.inr (Or.inr (Or.inr (Or.inr (Or.inr (Or.inr (Or.inr (Or.inr (e))))))))))))))))))))))))))) (fun x k hx => by simp only [wJ_mSide_sendsPacket_b177, F1.r] at hx; rcases hx with e | e <;> first | exact Or.inl (e) | exact Or.inr (e))
  · refine fe_it fe_no ?_
    refine fe_b1 F1 (fe_mDraft_put _ _ _ _) (fun x k hx => by simp only [wI_mDraft_put, F1.r] at hx; rcases hx with e | e <;> first | exact Or.inr (Or.inr (Or.inr (Or.inr (Or.inr (Or.inl (e)))))) | exact Or.inr (Or.inr (Or.inr (Or.inr (Or.inr (Or.inr (Or.inr (Or.inr (Or.inr (Or.inr (Or.inr (Or.inr (Or.inr (Or.inr (Or.inr (Or.inr (Or.inr (Or.inr (Or.inr (Or.inr (Or.inr (Or.inr (Or.inl (e)))))))))))))))))))))))) (fun x k hx => False.elim hx) (fun h26 F2 => ?_)
    refine fe_it fe_no ?_
    refine fe_it fe_no ?_
    refine fe_b1 F2 (fe_mDraft_bytes _ _ _ _ _) (fun x k hx => by simp only [wI_mDraft_bytes, F1.r, F2.r] at hx; rcases hx with e | e <;> first | exact Or.inr (Or.inr (Or.inr (Or.inr (Or.inr (Or.inl (e)))))) | exact Or.inr (Or.inr (Or.inr (Or.inr (Or.inr (Or.inr (Or.inr (Or.inr (Or.inr (Or.inr (Or.inr (Or.inr (Or.inr (Or.inr (Or.inr (Or.inr (Or.inr (Or.inr (Or.inr (Or.inr (Or.inr (Or.inr (Or.inl (e)))))))))))))))))))))))) (fun x k hx => False.elim hx) (fun h30 F3 => ?_)
    refine fe_it ?_ ?_
    · exact fe_j F3 (fe_mSide_sendsPacket_b158 _ _ _ _ _ _ _) (fun x k hx => by simp only [wI_mSide_sendsPacket_b158, F1.r, F2.r, F3.r] at hx; rcases hx with e | e | e | e | e | e | e | e | e | e | e | e | e | e | e | e | e | e | e | e | e | e | e | e | e | e | e <;> first | exact Or.inl (e) | exact Or.inr (Or.inl (e)) | exact Or.inr (Or.inr (Or.inl (e))) | exact Or.inr (Or.inr (Or.inr (Or.inl (e)))) | exact Or.inr (Or.inr (Or.inr (Or.inr (Or.inl (e))))) | exact Or.inr (Or.inr (Or.inr (Or.inr (Or.inr (Or.inl (e)))))) | exact Or.inr (Or.inr (Or.inr (Or.inr (Or.inr (Or.inr (Or.inl (e))))))) | exact Or.inr (Or.inr (Or.inr (Or.inr (Or.inr (Or.inr (Or.inr (Or.inl (e)))))))) | exact Or.inr (Or.inr (Or.inr (Or.inr (Or.inr (Or.inr (Or.inr (Or.inr (Or.inl (e))))))))) | exact Or.inr (Or.inr (Or.inr (Or.inr (Or.inr (Or.inr (Or.inr (Or.inr (Or.inr (Or.inl (e)))))))))) | exact Or.inr (Or.inr (Or.inr (Or.inr (Or.inr (Or.inr (Or.inr (Or.inr (Or.inr (Or.inr (Or.inl (e))))))))))) | exact Or.inr (Or.inr (Or.inr (Or.inr (Or.inr (Or.inr (Or.inr (Or.inr (Or.inr (Or.inr (Or.inr (Or.inl (e)))))))))))) | exact Or.inr (Or.inr (Or.inr (Or.inr (Or.inr (Or.inr (Or.inr (Or.inr (Or.inr (Or.inr (Or.inr (Or.inr (Or.inl (e))))))))))))) | exact Or.inr (Or.inr (Or.inr (Or.inr (Or.inr (Or.inr (Or.inr (Or.inr (Or.inr (Or.inr (Or.inr (Or.inr (Or.inr (Or.inl (e)))))))))))))) | exact Or.inr (Or.inr (Or.inr (Or.inr (Or.inr (Or.inr (Or.inr (Or.inr (Or.inr (Or.inr (Or.inr (Or.inr (Or.inr (Or.inr (Or.inl (e))))))))))))))) | exact Or.inr (Or.inr (Or.inr (Or.inr (Or.inr (Or.inr (Or.inr (Or.inr (Or.inr (Or.inr (Or.inr (Or.inr (Or.inr (Or.inr (Or.inr (Or.inl (e)))))))))))))))) | exact Or.inr (Or.inr (Or.inr (Or.inr (Or.inr (Or.inr (Or.inr (Or.inr (Or.inr (Or.inr (Or.inr (Or.inr (Or.inr (Or.inr (Or.inr (Or.inr (Or.inl (e))))))))))))))))) | exact Or.inr (Or.inr (Or.inr (Or.inr (Or.inr (Or.inr (Or.inr (Or.inr (Or.inr (Or.inr (Or.inr (Or.inr (Or.inr (Or.inr (Or.inr (Or.inr (Or.inr (Or.inl (e)))))))))))))))))) | exact Or.inr (Or.inr (Or.inr (Or.inr (Or.inr (Or.inr (Or.inr (Or.inr (Or.inr (Or.inr (Or.inr (Or.inr (Or.inr (Or.inr (Or.inr (Or.inr (Or.inr (Or.inr (Or.inl (e))))))))))))))))))) | exact Or.inr (Or.inr (Or.inr (Or.inr (Or.inr (Or.inr (Or.inr (Or.inr (Or.inr (Or.inr (Or.inr (Or.inr (Or.inr (Or.inr (Or.inr (Or.inr (Or.inr (Or.inr (Or.inr (Or.inl (e)))))))))))))))))))) | exact Or.inr (Or.inr (Or.inr (Or.inr (Or.inr (Or.inr (Or.inr (Or.inr (Or.inr (Or.inr (Or.inr (Or.inr (Or.inr (Or.inr (Or.inr (Or.inr (Or.inr (Or.inr (Or.inr (Or.inr (Or.inl (e))))))))))))))))))))) | exact Or.inr (Or.inr (Or.inr (Or.inr (Or.inr (Or.inr (Or.inr (Or.inr (Or.inr (Or.inr (Or.inr (Or.inr (Or.inr (Or.inr (Or.inr (Or.inr (Or.inr (Or.inr (Or.inr (Or.inr (Or.inr (Or.inl (e)))))))))))))))))))))) | exact Or.inr (Or.inr (Or.inr (Or.inr (Or.inr (Or.inr (Or.inr (Or.inr (Or.inr (Or.inr (Or.inr (Or.inr (Or.inr (Or.inr (Or.inr (Or.inr (Or.inr (Or.inr (Or.inr (Or.inr (Or.inr (Or.inr (Or.inl (e))))))))))))))))))))))) | exact Or.inr (Or.inr (Or.inr (Or.inr (Or.inr (Or.inr (Or.inr (Or.inr (Or.inr (Or.inr (Or.inr (Or.inr (Or.inr (Or.inr (Or.inr (Or.inr (Or.inr (Or.inr (Or.inr (Or.inr (Or.inr (Or.inr (Or.inr (Or.inl (e)))))))))))))))))))))))) | exact Or.inr (Or.inr (Or.inr (Or.inr (Or.inr (Or.inr (Or.inr (Or.inr (Or.inr (Or.inr (Or.inr (Or.inr (Or.inr (Or.inr (Or.inr (Or.inr (Or.inr (Or.inr (Or.inr (Or.inr (Or.inr (Or.inr (Or.inr (Or.inr (Or.inl (e))))))))))))))))))))))))) | exact Or.inr (Or.inr (Or.inr (Or.inr (Or.inr (Or.inr (Or.inr (Or.inr (Or.inr (Or.inr (Or.inr (Or.inr (Or.inr (Or.inr (Or.inr (Or.inr (Or.inr (Or.inr (Or.inr (Or.inr (Or.inr (Or.inr (Or.inr (Or.inr (Or.inr (Or.inl (e)))))))))))))))))))))))))) | exact Or.inr (Or.inr (Or.inr (Or.inr (Or.inr (Or.inr (Or.inr (Or.inr (Or.inr (Or.inr (Or.inr (Or.inr (Or.inr (Or.inr (Or.inr (Or.inr (Or.inr (Or.inr (Or.inr (Or.inr (Or.inr (Or.inr (Or.inr (Or.inr (Or.inr (Or.inr (e))))))))))))))))))))))))))) (fun x k hx => by simp only [wJ_mSide_sendsPacket_b158, F1.r, F2.r, F3.r] at hx; rcases hx with e | e <;> first | exact Or.inl (e) | exact Or.inr (e))
    · refine fe_it fe_no ?_
      refine fe_b1 F3 (fe_mDraft_put _ _ _ _) (fun x k hx => by simp only [wI_mDraft_put, F1.r, F2.r, F3.r] at hx; rcases hx with e | e <;> first | exact Or.inr (Or.inr (Or.inr (Or.inr (Or.inr (Or.inl (e)))))) | exact Or.inr (Or.inr (Or.inr (Or.inr (Or.inr (Or.inr (Or.inr (Or.inr (Or.inr (Or.inr (Or.inr (Or.inr (Or.inr (Or.inr (Or.inr (Or.inr (Or.inr (Or.inr (Or.inr (Or.inr (Or.inr (Or.inr (Or.inl (e)))))))))))))))))))))))) (fun x k hx => False.elim hx) (fun h33 F4 => ?_)
      exact fe_j F4 (fe_mSide_sendsPacket_b158 _ _ _ _ _ _ _) (fun x k hx => by simp only [wI_mSide_sendsPacket_b158, F1.r, F2.r, F3.r, F4.r] at hx; rcases hx with e | e | e | e | e | e | e | e | e | e | e | e | e | e | e | e | e | e | e | e | e | e | e | e | e | e | e <;> first | exact Or.inl (e) | exact Or.inr (Or.inl (e)) | exact Or.inr (Or.inr (Or.inl (e))) | exact Or.inr (Or.inr (Or.inr (Or.inl (e)))) | exact Or.inr (Or.inr (Or.inr (Or.inr (Or.inl (e))))) | exact Or.inr (Or.inr (Or.inr (Or.inr (Or.inr (Or.inl (e)))))) | exact Or.inr (Or.inr (Or.inr (Or.inr (Or.inr (Or.inr (Or.inl (e))))))) | exact Or.inr (Or.inr (Or.inr (Or.inr (Or.inr (Or.inr (Or.inr (Or.inl (e)))))))) | exact Or.inr (Or.inr (Or.inr (Or.inr (Or.inr (Or.inr (Or.inr (Or.inr (Or.inl (e))))))))) | exact Or.inr (Or.inr (Or.inr (Or.inr (Or.inr (Or.inr (Or.inr (Or.inr (Or.inr (Or.inl (e)))))))))) | exact Or.inr (Or.inr (Or.inr (Or.inr (Or.inr (Or.inr (Or.inr (Or.inr (Or.inr (Or.inr (Or.inl (e))))))))))) | exact Or.inr (Or.inr (Or.inr (Or.inr (Or.inr (Or.inr (Or.inr (Or.inr (Or.inr (Or.inr (Or.inr (Or.inl (e)))))))))))) | exact Or.inr (Or.inr (Or.inr (Or.inr (Or.inr (Or.inr (Or.inr (Or.inr (Or.inr (Or.inr (Or.inr (Or.inr (Or.inl (e))))))))))))) | exact Or.inr (Or.inr (Or.inr (Or.inr (Or.inr (Or.inr (Or.inr (Or.inr (Or.inr (Or.inr (Or.inr (Or.inr (Or.inr (Or.inl (e)))))))))))))) | exact Or.inr (Or.inr (Or.inr (Or.inr (Or.inr (Or.inr (Or.inr (Or.inr (Or.inr (Or.inr (Or.inr (Or.inr (Or.inr (Or.inr (Or.inl (e))))))))))))))) | exact Or.inr (Or.inr (Or.inr (Or.inr (Or.inr (Or.inr (Or.inr (Or.inr (Or.inr (Or.inr (Or.inr (Or.inr (Or.inr (Or.inr (Or.inr (Or.inl (e)))))))))))))))) | exact Or.inr (Or.inr (Or.inr (Or.inr (Or.inr (Or.inr (Or.inr (Or.inr (Or.inr (Or.inr (Or.inr (Or.inr (Or.inr (Or.inr (Or.inr (Or.inr (Or.inl (e))))))))))))))))) | exact Or.inr (Or.inr (Or.inr (Or.inr (Or.inr (Or.inr (Or.inr (Or.inr (Or.inr (Or.inr (Or.inr (Or.inr (Or.inr (Or.inr (Or.inr (Or.inr (Or.inr (Or.inl (e)))))))))))))))))) | exact Or.inr (Or.inr (Or.inr (Or.inr (Or.inr (Or.inr (Or.inr (Or.inr (Or.inr (Or.inr (Or.inr (Or.inr (Or.inr (Or.inr (Or.inr (Or.inr (Or.inr (Or.inr (Or.inl (e))))))))))))))))))) | exact Or.inr (Or.inr (Or.inr (Or.inr (Or.inr (Or.inr (Or.inr (Or.inr (Or.inr (Or.inr (Or.inr (Or.inr (Or.inr (Or.inr (Or.inr (Or.inr (Or.inr (Or.inr (Or.inr (Or.inl (e)))))))))))))))))))) | exact Or.inr (Or.inr (Or.inr (Or.inr (Or.inr (Or.inr (Or.inr (Or.inr (Or.inr (Or.inr (Or.inr (Or.inr (Or.inr (Or.inr (Or.inr (Or.inr (Or.inr (Or.inr (Or.inr (Or.inr (Or.inl (e))))))))))))))))))))) | exact Or.inr (Or.inr (Or.inr (Or.inr (Or.inr (Or.inr (Or.inr (Or.inr (Or.inr (Or.inr (Or.inr (Or.inr (Or.inr (Or.inr (Or.inr (Or.inr (Or.inr (Or.inr (Or.inr (Or.inr (Or.inr (Or.inl (e)))))))))))))))))))))) | exact Or.inr (Or.inr (Or.inr (Or.inr (Or.inr (Or.inr (Or.inr (Or.inr (Or.inr (Or.inr (Or.inr (Or.inr (Or.inr (Or.inr (Or.inr (Or.inr (Or.inr (Or.inr (Or.inr (Or.inr (Or.inr (Or.inr (Or.inl (e))))))))))))))))))))))) | exact Or.inr (Or.inr (Or.inr (Or.inr (Or.inr (Or.inr (Or.inr (Or.inr (Or.inr (Or.inr (Or.inr (Or.inr (Or.inr (Or.inr (Or.inr (Or.inr (Or.inr (Or.inr (Or.inr (Or.inr (Or.inr (Or.inr (Or.inr (Or.inl (e)))))))))))))))))))))))) | exact Or.inr (Or.inr (Or.inr (Or.inr (Or.inr (Or.inr (Or.inr (Or.inr (Or.inr (Or.inr (Or.inr (Or.inr (Or.inr (Or.inr (Or.inr (Or.inr (Or.inr (Or.inr (Or.inr (Or.inr (Or.inr (Or.inr (Or.inr (Or.inr (Or.inl (e))))))))))))))))))))))))) | exact Or.inr (Or.inr (Or.inr (Or.inr (Or.inr (Or.inr (Or.inr (Or.inr (Or.inr (Or.inr (Or.inr (Or.inr (Or.inr (Or.inr (Or.inr (Or.inr (Or.inr (Or.inr (Or.inr (Or.inr (Or.inr (Or.inr (Or.inr (Or.inr (Or.inr (Or.inl (e)))))))))))))))))))))))))) | exact Or.inr (Or.inr (Or.inr (Or.inr (Or.inr (Or.inr (Or.inr (Or.inr (Or.inr (Or.inr (Or.inr (Or.inr (Or.inr (Or.inr (Or.inr (Or.inr (Or.inr (Or.inr (Or.inr (Or.inr (Or.inr (Or.inr (Or.inr (Or.inr (Or.inr (Or.inr (e))))))))))))))))))))))))))) (fun x k hx => by simp only [wJ_mSide_sendsPacket_b158, F1.r, F2.r, F3.r, F4.r] at hx; rcases hx with e | e <;> first | exact Or.inl (e) | exact Or.inr (e))
theorem fe_mSide_sendsPacket_b65 (v0 : Nat) (v1 : Int) (v2 : Int) (v3 : Int) (v4 : Int) (v5 : Nat) (s0 : Nat) (s1 : Int) (h : Hp) : Feo (wI_mSide_sendsPacket_b65 v0 v1 v2 v3 v4 v5 s0 s1 h) (wJ_mSide_sendsPacket_b65 v0 v1 v2 v3 v4 v5 s0 s1 h) h id (f_mSide_sendsPacket_b65 v0 v1 v2 v3 v4 v5 s0 s1 h) := by
  unfold f_mSide_sendsPacket_b65
  refine fe_it fe_no ?_
  refine fe_b1 Fe.rf (fe_mDraft_put _ _ _ _) (fun x k hx => by simp only [wI_mDraft_put] at hx; rcases hx with e | e <;> first | exact Or.inr (Or.inr (Or.inr (Or.inr (Or.inr (Or.inr (Or.inr (Or.inr (Or.inr (Or.inr (Or.inr (Or.inr (Or.inr (Or.inr (Or.inr (Or.inr (Or.inr (Or.inr (Or.inr (Or.inr (Or.inr (Or.inr (Or.inr (Or.inl (e)))))))))))))))))))))))) | exact Or.inr (Or.inr (Or.inr (Or.inr (Or.inr (Or.inr (Or.inr (Or.inr (Or.inr (Or.inr (Or.inr (Or.inr (Or.inr (Or.inr (Or.inr (Or.inr (Or.inr (Or.inr (Or.inr (Or.inr (Or.inr (Or.inr (Or.inr (Or.inr (Or.inr (Or.inr (Or.inl (e)))))))))))))))))))))))))))) (fun x k hx => False.elim hx) (fun h14 F1 => ?_)
  refine fe_it ?_ ?_
  · exact fe_j F1 (fe_mSide_sendsPacket_b96 _ _ _ _ _ _ _) (fun x k hx => by simp only [wI_mSide_sendsPacket_b96, F1.r] at hx; rcases hx with e | e | e | e | e | e | e | e | e | e | e | e | e | e | e | e | e | e | e | e | e | e | e | e | e | e | e <;> first | exact Or.inl (e) | exact Or.inr (Or.inl (e)) | exact Or.inr (Or.inr (Or.inl (e))) | exact Or.inr (Or.inr (Or.inr (Or.inl (e)))) | exact Or.inr (Or.inr (Or.inr (Or.inr (Or.inl (e))))) | exact Or.inr (Or.inr (Or.inr (Or.inr (Or.inr (Or.inl (e)))))) | exact Or.inr (Or.inr (Or.inr (Or.inr (Or.inr (Or.inr (Or.inl (e))))))) | exact Or.inr (Or.inr (Or.inr (Or.inr (Or.inr (Or.inr (Or.inr (Or.inl (e)))))))) | exact Or.inr (Or.inr (Or.inr (Or.inr (Or.inr (Or.inr (Or.inr (Or.inr (Or.inl (e))))))))) | exact Or.inr (Or.inr (Or.inr (Or.inr (Or.inr (Or.inr (Or.inr (Or.inr (Or.inr (Or.inl (e)))))))))) | exact Or.inr (Or.inr (Or.inr (Or.inr (Or.inr (Or.inr (Or.inr (Or.inr (Or.inr (Or.inr (Or.inl (e))))))))))) | exact Or.inr (Or.inr (Or.inr (Or.inr (Or.inr (Or.inr (Or.inr (Or.inr (Or.inr (Or.inr (Or.inr (Or.inl (e)))))))))))) | exact Or.inr (Or.inr (Or.inr (Or.inr (Or.inr (Or.inr (Or.inr (Or.inr (Or.inr (Or.inr (Or.inr (Or.inr (Or.inl (e))))))))))))) | exact Or.inr (Or.inr (Or.inr (Or.inr (Or.inr (Or.inr (Or.inr (Or.inr (Or.inr (Or.inr (Or.inr (Or.inr (Or.inr (Or.inl (e)))))))))))))) | exact Or.inr (Or.inr (Or.inr (Or.inr (Or.inr (Or.inr (Or.inr (Or.inr (Or.inr (Or.inr (Or.inr (Or.inr (Or.inr (Or.inr (Or.inl (e))))))))))))))) | exact Or.inr (Or.inr (Or.inr (Or.inr (Or.inr (Or.inr (Or.inr (Or.inr (Or.inr (Or.inr (Or.inr (Or.inr (Or.inr (Or.inr (Or.inr (Or.inl (e)))))))))))))))) | exact Or.inr (Or.inr (Or.inr (Or.inr (Or.inr (Or.inr (Or.inr (Or.inr (Or.inr (Or.inr (Or.inr (Or.inr (Or.inr (Or.inr (Or.inr (Or.inr (Or.inl (e))))))))))))))))) | exact Or.inr (Or.inr (Or.inr (Or.inr (Or.inr (Or.inr (Or.inr (Or.inr (Or.inr (Or.inr (Or.inr (Or.inr (Or.inr (Or.inr (Or.inr (Or.inr (Or.inr (Or.inl (e)))))))))))))))))) | exact Or.inr (Or.inr (Or.inr (Or.inr (Or.inr (Or.inr (Or.inr (Or.inr (Or.inr (Or.inr (Or.inr (Or.inr (Or.inr (Or.inr (Or.inr (Or.inr (Or.inr (Or.inr (Or.inl (e))))))))))))))))))) | exact Or.inr (Or.inr (Or.inr (Or.inr (Or.inr (Or.inr (Or.inr (Or.inr (Or.inr (Or.inr (Or.inr (Or.inr (Or.inr (Or.inr (Or.inr (Or.inr (Or.inr (Or.inr (Or.inr (Or.inl (e)))))))))))))))))))) | exact Or.inr (Or.inr (Or.inr (Or.inr (Or.inr (Or.inr (Or.inr (Or.inr (Or.inr (Or.inr (Or.inr (Or.inr (Or.inr (Or.inr (Or.inr (Or.inr (Or.inr (Or.inr (Or.inr (Or.inr (Or.inl (e))))))))))))))))))))) | exact Or.inr (Or.inr (Or.inr (Or.inr (Or.inr (Or.inr (Or.inr (Or.inr (Or.inr (Or.inr (Or.inr (Or.inr (Or.inr (Or.inr (Or.inr (Or.inr (Or.inr (Or.inr (Or.inr (Or.inr (Or.inr (Or.inl (e)))))))))))))))))))))) | exact Or.inr (Or.inr (Or.inr (Or.inr (Or.inr (Or.inr (Or.inr (Or.inr (Or.inr (Or.inr (Or.inr (Or.inr (Or.inr (Or.inr (Or.inr (Or.inr (Or.inr (Or.inr (Or.inr (Or.inr (Or.inr (Or.inr (Or.inl (e))))))))))))))))))))))) | exact Or.inr (Or.inr (Or.inr (Or.inr (Or.inr (Or.inr (Or.inr (Or.inr (Or.inr (Or.inr (Or.inr (Or.inr (Or.inr (Or.inr (Or.inr (Or.inr (Or.inr (Or.inr (Or.inr (Or.inr (Or.inr (Or.inr (Or.inr (Or.inr (Or.inl (e))))))))))))))))))))))))) | exact Or.inr (Or.inr (Or.inr (Or.inr (Or.inr (Or.inr (Or.inr (Or.inr (Or.inr (Or.inr (Or.inr (Or.inr (Or.inr (Or.inr (Or.inr (Or.inr (Or.inr (Or.inr (Or.inr (Or.inr (Or.inr (Or.inr (Or.inr (Or.inr (Or.inr (Or.inl (e)))))))))))))))))))))))))) | exact Or.inr (Or.inr (Or.inr (Or.inr (Or.inr (Or.inr (Or.inr (Or.inr (Or.inr (Or.inr (Or.inr (Or.inr (Or.inr (Or.inr (Or.inr (Or.inr (Or.inr (Or.inr (Or.inr (Or.inr (Or.inr (Or.inr (Or.inr (Or.inr (Or.inr (Or.inr (Or.inr (Or.inl (e)))))))))))))))))))))))))))) | exact Or.inr (Or.inr (Or.inr (Or.inr (Or.inr (Or.inr (Or.inr (Or.inr (Or.inr (Or.inr (Or.inr (Or.inr (Or.inr (Or.inr (Or.inr (Or.inr (Or.inr (Or.inr (Or.inr (Or.inr (Or.inr (Or.inr (Or.inr (Or.inr (Or.inr (Or.inr (Or.inr (Or.inr (e))))))))))))))))))))))))))))) (fun x k hx => by simp only [wJ_mSide_sendsPacket_b96, F1.r] at hx; rcases hx with e | e <;> first | exact Or.inl (e) | exact Or.inr (e))
  · refine fe_it fe_no ?_
    refine fe_b1 F1 (fe_mDraft_put _ _ _ _) (fun x k hx => by simp only [wI_mDraft_put, F1.r] at hx; rcases hx with e | e <;> first | exact Or.inr (Or.inr (Or.inr (Or.inr (Or.inr (Or.inl (e)))))) | exact Or.inr (Or.inr (Or.inr (Or.inr (Or.inr (Or.inr (Or.inr (Or.inr (Or.inr (Or.inr (Or.inr (Or.inr (Or.inr (Or.inr (Or.inr (Or.inr (Or.inr (Or.inr (Or.inr (Or.inr (Or.inr (Or.inr (Or.inl (e)))))))))))))))))))))))) (fun x k hx => False.elim hx) (fun h17 F2 => ?_)
    refine fe_it fe_no ?_
    refine fe_b1 F2 (fe_mDraft_put _ _ _ _) (fun x k hx => by simp only [wI_mDraft_put, F1.r, F2.r] at hx; rcases hx with e | e <;> first | exact Or.inr (Or.inr (Or.inr (Or.inr (Or.inr (Or.inl (e)))))) | exact Or.inr (Or.inr (Or.inr (Or.inr (Or.inr (Or.inr (Or.inr (Or.inr (Or.inr (Or.inr (Or.inr (Or.inr (Or.inr (Or.inr (Or.inr (Or.inr (Or.inr (Or.inr (Or.inr (Or.inr (Or.inr (Or.inr (Or.inl (e)))))))))))))))))))))))) (fun x k hx => False.elim hx) (fun h20 F3 => ?_)
    exact fe_j F3 (fe_mSide_sendsPacket_b96 _ _ _ _ _ _ _) (fun x k hx => by simp only [wI_mSide_sendsPacket_b96, F1.r, F2.r, F3.r] at hx; rcases hx with e | e | e | e | e | e | e | e | e | e | e | e | e | e | e | e | e | e | e | e | e | e | e | e | e | e | e <;> first | exact Or.inl (e) | exact Or.inr (Or.inl (e)) | exact Or.inr (Or.inr (Or.inl (e))) | exact Or.inr (Or.inr (Or.inr (Or.inl (e)))) | exact Or.inr (Or.inr (Or.inr (Or.inr (Or.inl (e))))) | exact Or.inr (Or.inr (Or.inr (Or.inr (Or.inr (Or.inl (e)))))) | exact Or.inr (Or.inr (Or.inr (Or.inr (Or.inr (Or.inr (Or.inl (e))))))) | exact Or.inr (Or.inr (Or.inr (Or.inr (Or.inr (Or.inr (Or.inr (Or.inl (e)))))))) | exact Or.inr (Or.inr (Or.inr (Or.inr (Or.inr (Or.inr (Or.inr (Or.inr (Or.inl (e))))))))) | exact Or.inr (Or.inr (Or.inr (Or.inr (Or.inr (Or.inr (Or.inr (Or.inr (Or.inr (Or.inl (e)))))))))) | exact Or.inr (Or.inr (Or.inr (Or.inr (Or.inr (Or.inr (Or.inr (Or.inr (Or.inr (Or.inr (Or.inl (e))))))))))) | exact Or.inr (Or.inr (Or.inr (Or.inr (Or.inr (Or.inr (Or.inr (Or.inr (Or.inr (Or.inr (Or.inr (Or.inl (e)))))))))))) | exact Or.inr (Or.inr (Or.inr (Or.inr (Or.inr (Or.inr (Or.inr (Or.inr (Or.inr (Or.inr (Or.inr (Or.inr (Or.inl (e))))))))))))) | exact Or.inr (Or.inr (Or.inr (Or.inr (Or.inr (Or.inr (Or.inr (Or.inr (Or.inr (Or.inr (Or.inr (Or.inr (Or.inr (Or.inl (e)))))))))))))) | exact Or.inr (Or.inr (Or.inr (Or.inr (Or.inr (Or.inr (Or.inr (Or.inr (Or.inr (Or.inr (Or.inr (Or.inr (Or.inr (Or.inr (Or.inl (e))))))))))))))) | exact Or.inr (Or.inr (Or.inr (Or.inr (Or.inr (Or.inr (Or.inr (Or.inr (Or.inr (Or.inr (Or.inr (Or.inr (Or.inr (Or.inr (Or.inr (Or.inl (e)))))))))))))))) | exact Or.inr (Or.inr (Or.inr (Or.inr (Or.inr (Or.inr (Or.inr (Or.inr (Or.inr (Or.inr (Or.inr (Or.inr (Or.inr (Or.inr (Or.inr (Or.inr (Or.inl (e))))))))))))))))) | exact Or.inr (Or.inr (Or.inr (Or.inr (Or.inr (Or.inr (Or.inr (Or.inr (Or.inr (Or.inr (Or.inr (Or.inr (Or.inr (Or.inr (Or.inr (Or.inr (Or.inr (Or.inl (e)))))))))))))))))) | exact Or.inr (Or.inr (Or.inr (Or.inr (Or.inr (Or.inr (Or.inr (Or.inr (Or.inr (Or.inr (Or.inr (Or.inr (Or.inr (Or.inr (Or.inr (Or.inr (Or.inr (Or.inr (Or.inl (e))))))))))))))))))) | exact Or.inr (Or.inr (Or.inr (Or.inr (Or.inr (Or.inr (Or.inr (Or.inr (Or.inr (Or.inr (Or.inr (Or.inr (Or.inr (Or.inr (Or.inr (Or.inr (Or.inr (Or.inr (Or.inr (Or.inl (e)))))))))))))))))))) | exact Or.inr (Or.inr (Or.inr (Or.inr (Or.inr (Or.inr (Or.inr (Or.inr (Or.inr (Or.inr (Or.inr (Or.inr (Or.inr (Or.inr (Or.inr (Or.inr (Or.inr (Or.inr (Or.inr (Or.inr (Or.inl (e))))))))))))))))))))) | exact Or.inr (Or.inr (Or.inr (Or.inr (Or.inr (Or.inr (Or.inr (Or.inr (Or.inr (Or.inr (Or.inr (Or.inr (Or.inr (Or.inr (Or.inr (Or.inr (Or.inr (Or.inr (Or.inr (Or.inr (Or.inr (Or.inl (e)))))))))))))))))))))) | exact Or.inr (Or.inr (Or.inr (Or.inr (Or.inr (Or.inr (Or.inr (Or.inr (Or.inr (Or.inr (Or.inr (Or.inr (Or.inr (Or.inr (Or.inr (Or.inr (Or.inr (Or.inr (Or.inr (Or.inr (Or.inr (Or.inr (Or.inl (e))))))))))))))))))))))) | exact Or.inr (Or.inr (Or.inr (Or.inr (Or.inr (Or.inr (Or.inr (Or.inr (Or.inr (Or.inr (Or.inr (Or.inr (Or.inr (Or.inr (Or.inr (Or.inr (Or.inr (Or.inr (Or.inr (Or.inr (Or.inr (Or.inr (Or.inr (Or.inr (Or.inl (e))))))))))))))))))))))))) | exact Or.inr (Or.inr (Or.inr (Or.inr (Or.inr (Or.inr (Or.inr (Or.inr (Or.inr (Or.inr (Or.inr (Or.inr (Or.inr (Or.inr (Or.inr (Or.inr (Or.inr (Or.inr (Or.inr (Or.inr (Or.inr (Or.inr (Or.inr (Or.inr (Or.inr (Or.inl (e)))))))))))))))))))))))))) | exact Or.inr (Or.inr (Or.inr (Or.inr (Or.inr (Or.inr (Or.inr (Or.inr (Or.inr (Or.inr (Or.inr (Or.inr (Or.inr (Or.inr (Or.inr (Or.inr (Or.inr (Or.inr (Or.inr (Or.inr (Or.inr (Or.inr (Or.inr (Or.inr (Or.inr (Or.inr (Or.inr (Or.inl (e)))))))))))))))))))))))))))) | exact Or.inr (Or.inr (Or.inr (Or.inr (Or.inr (Or.inr (Or.inr (Or.inr (Or.inr (Or.inr (Or.inr (Or.inr (Or.inr (Or.inr (Or.inr (Or.inr (Or.inr (Or.inr (Or.inr (Or.inr (Or.inr (Or.inr (Or.inr (Or.inr (Or.inr (Or.inr (Or.inr (Or.inr (e))))))))))))))))))))))))))))) (fun x k hx => by simp only [wJ_mSide_sendsPacket_b96, F1.r, F2.r, F3.r] at hx; rcases hx with e | e <;> first | exact Or.inl (e) | exact Or.inr (e))
theorem fe_mSide_sendsPacket (v0 : Nat) (v1 : Int) (h : Hp) : Feo (wI_mSide_sendsPacket v0 v1 h) (wJ_mSide_sendsPacket v0 v1 h) h id (f_mSide_sendsPacket v0 v1 h) := by
  unfold f_mSide_sendsPacket
  refine fe_it fe_no ?_
  refine fe_v (fun y2 => ?_)
  refine fe_b2 Fe.rf (fe_mSide_cut _ _ _) (fun x k hx => False.elim hx) (fun x k hx => False.elim hx) (fun r5 h3 F1 => ?_)
  refine fe_it fe_no ?_
  refine fe_it fe_no ?_
  refine fe_it ?_ fe_no
  refine fe_v (fun y9 => ?_)
  refine fe_it fe_no ?_
  refine fe_it ?_ fe_no
  refine fe_l ?_
  refine fe_it ?_ ?_
  · exact fe_j F1 (fe_mSide_sendsPacket_b65 _ _ _ _ _ _ _ _ _) (fun x k hx => by simp only [wI_mSide_sendsPacket_b65, F1.r] at hx; rcases hx with e | e | e | e | e | e | e | e | e | e | e | e | e | e | e | e | e | e | e | e | e | e | e | e | e | e | e | e | e <;> first | exact Or.inl (e) | exact Or.inr (Or.inl (e)) | exact Or.inr (Or.inr (Or.inl (e))) | exact Or.inr (Or.inr (Or.inr (Or.inl (e)))) | exact Or.inr (Or.inr (Or.inr (Or.inr (Or.inl (e))))) | exact Or.inr (Or.inr (Or.inr (Or.inr (Or.inr (Or.inl (e)))))) | exact Or.inr (Or.inr (Or.inr (Or.inr (Or.inr (Or.inr (Or.inl (e))))))) | exact Or.inr (Or.inr (Or.inr (Or.inr (Or.inr (Or.inr (Or.inr (Or.inl (e)))))))) | exact Or.inr (Or.inr (Or.inr (Or.inr (Or.inr (Or.inr (Or.inr (Or.inr (Or.inl (e))))))))) | exact Or.inr (Or.inr (Or.inr (Or.inr (Or.inr (Or.inr (Or.inr (Or.inr (Or.inr (Or.inl (e)))))))))) | exact Or.inr (Or.inr (Or.inr (Or.inr (Or.inr (Or.inr (Or.inr (Or.inr (Or.inr (Or.inr (Or.inl (e))))))))))) | exact Or.inr (Or.inr (Or.inr (Or.inr (Or.inr (Or.inr (Or.inr (Or.inr (Or.inr (Or.inr (Or.inr (Or.inl (e)))))))))))) | exact Or.inr (Or.inr (Or.inr (Or.inr (Or.inr (Or.inr (Or.inr (Or.inr (Or.inr (Or.inr (Or.inr (Or.inr (Or.inl (e))))))))))))) | exact Or.inr (Or.inr (Or.inr (Or.inr (Or.inr (Or.inr (Or.inr (Or.inr (Or.inr (Or.inr (Or.inr (Or.inr (Or.inr (Or.inl (e)))))))))))))) | exact Or.inr (Or.inr (Or.inr (Or.inr (Or.inr (Or.inr (Or.inr (Or.inr (Or.inr (Or.inr (Or.inr (Or.inr (Or.inr (Or.inr (Or.inl (e))))))))))))))) | exact Or.inr (Or.inr (Or.inr (Or.inr (Or.inr (Or.inr (Or.inr (Or.inr (Or.inr (Or.inr (Or.inr (Or.inr (Or.inr (Or.inr (Or.inr (Or.inl (e)))))))))))))))) | exact Or.inr (Or.inr (Or.inr (Or.inr (Or.inr (Or.inr (Or.inr (Or.inr (Or.inr (Or.inr (Or.inr (Or.inr (Or.inr (Or.inr (Or.inr (Or.inr (Or.inl (e))))))))))))))))) | exact Or.inr (Or.inr (Or.inr (Or.inr (Or.inr (Or.inr (Or.inr (Or.inr (Or.inr (Or.inr (Or.inr (Or.inr (Or.inr (Or.inr (Or.inr (Or.inr (Or.inr (Or.inl (e)))))))))))))))))) | exact Or.inr (Or.inr (Or.inr (Or.inr (Or.inr (Or.inr (Or.inr (Or.inr (Or.inr (Or.inr (Or.inr (Or.inr (Or.inr (Or.inr (Or.inr (Or.inr (Or.inr (Or.inr (Or.inl (e))))))))))))))))))) | exact Or.inr (Or.inr (Or.inr (Or.inr (Or.inr (Or.inr (Or.inr (Or.inr (Or.inr (Or.inr (Or.inr (Or.inr (Or.inr (Or.inr (Or.inr (Or.inr (Or.inr (Or.inr (Or.inr (Or.inl (e)))))))))))))))))))) | exact Or.inr (Or.inr (Or.inr (Or.inr (Or.inr (Or.inr (Or.inr (Or.inr (Or.inr (Or.inr (Or.inr (Or.inr (Or.inr (Or.inr (Or.inr (Or.inr (Or.inr (Or.inr (Or.inr (Or.inr (Or.inl (e))))))))))))))))))))) | exact Or.inr (Or.inr (Or.inr (Or.inr (Or.inr (Or.inr (Or.inr (Or.inr (Or.inr (Or.inr (Or.inr (Or.inr (Or.inr (Or.inr (Or.inr (Or.inr (Or.inr (Or.inr (Or.inr (Or.inr (Or.inr (Or.inl (e)))))))))))))))))))))) | exact Or.inr (Or.inr (Or.inr (Or.inr (Or.inr (Or.inr (Or.inr (Or.inr (Or.inr (Or.inr (Or.inr (Or.inr (Or.inr (Or.inr (Or.inr (Or.inr (Or.inr (Or.inr (Or.inr (Or.inr (Or.inr (Or.inr (Or.inl (e))))))))))))))))))))))) | exact Or.inr (Or.inr (Or.inr (Or.inr (Or.inr (Or.inr (Or.inr (Or.inr (Or.inr (Or.inr (Or.inr (Or.inr (Or.inr (Or.inr (Or.inr (Or.inr (Or.inr (Or.inr (Or.inr (Or.inr (Or.inr (Or.inr (Or.inr (Or.inl (e)))))))))))))))))))))))) | exact Or.inr (Or.inr (Or.inr (Or.inr (Or.inr (Or.inr (Or.inr (Or.inr (Or.inr (Or.inr (Or.inr (Or.inr (Or.inr (Or.inr (Or.inr (Or.inr (Or.inr (Or.inr (Or.inr (Or.inr (Or.inr (Or.inr (Or.inr (Or.inr (Or.inl (e))))))))))))))))))))))))) | exact Or.inr (Or.inr (Or.inr (Or.inr (Or.inr (Or.inr (Or.inr (Or.inr (Or.inr (Or.inr (Or.inr (Or.inr (Or.inr (Or.inr (Or.inr (Or.inr (Or.inr (Or.inr (Or.inr (Or.inr (Or.inr (Or.inr (Or.inr (Or.inr (Or.inr (Or.inl (e)))))))))))))))))))))))))) | exact Or.inr (Or.inr (Or.inr (Or.inr (Or.inr (Or.inr (Or.inr (Or.inr (Or.inr (Or.inr (Or.inr (Or.inr (Or.inr (Or.inr (Or.inr (Or.inr (Or.inr (Or.inr (Or.inr (Or.inr (Or.inr (Or.inr (Or.inr (Or.inr (Or.inr (Or.inr (e))))))))))))))))))))))))))) (fun x k hx => by simp only [wJ_mSide_sendsPacket_b65, F1.r] at hx; rcases hx with e | e <;> first | exact Or.inl (e) | exact Or.inr (e))
  · exact fe_j F1 (fe_mSide_sendsPacket_b65 _ _ _ _ _ _ _ _ _) (fun x k hx => by simp only [wI_mSide_sendsPacket_b65, F1.r] at hx; rcases hx with e | e | e | e | e | e | e | e | e | e | e | e | e | e | e | e | e | e | e | e | e | e | e | e | e | e | e | e | e <;> first | exact Or.inl (e) | exact Or.inr (Or.inl (e)) | exact Or.inr (Or.inr (Or.inl (e))) | exact Or.inr (Or.inr (Or.inr (Or.inl (e)))) | exact Or.inr (Or.inr (Or.inr (Or.inr (Or.inl (e))))) | exact Or.inr (Or.inr (Or.inr (Or.inr (Or.inr (Or.inl (e)))))) | exact Or.inr (Or.inr (Or.inr (Or.inr (Or.inr (Or.inr (Or.inl (e))))))) | exact Or.inr (Or.inr (Or.inr (Or.inr (Or.inr (Or.inr (Or.inr (Or.inl (e)))))))) | exact Or.inr (Or.inr (Or.inr (Or.inr (Or.inr (Or.inr (Or.inr (Or.inr (Or.inl (e))))))))) | exact Or.inr (Or.inr (Or.inr (Or.inr (Or.inr (Or.inr (Or.inr (Or.inr (Or.inr (Or.inl (e)))))))))) | exact Or.inr (Or.inr (Or.inr (Or.inr (Or.inr (Or.inr (Or.inr (Or.inr (Or.inr (Or.inr (Or.inl (e))))))))))) | exact Or.inr (Or.inr (Or.inr (Or.inr (Or.inr (Or.inr (Or.inr (Or.inr (Or.inr (Or.inr (Or.inr (Or.inl (e)))))))))))) | exact Or.inr (Or.inr (Or.inr (Or.inr (Or.inr (Or.inr (Or.inr (Or.inr (Or.inr (Or.inr (Or.inr (Or.inr (Or.inl (e))))))))))))) | exact Or.inr (Or.inr (Or.inr (Or.inr (Or.inr (Or.inr (Or.inr (Or.inr (Or.inr (Or.inr (Or.inr (Or.inr (Or.inr (Or.inl (e)))))))))))))) | exact Or.inr (Or.inr (Or.inr (Or.inr (Or.inr (Or.inr (Or.inr (Or.inr (Or.inr (Or.inr (Or.inr (Or.inr (Or.inr (Or.inr (Or.inl (e))))))))))))))) | exact Or.inr (Or.inr (Or.inr (Or.inr (Or.inr (Or.inr (Or.inr (Or.inr (Or.inr (Or.inr (Or.inr (Or.inr (Or.inr (Or.inr (Or.inr (Or.inl (e)))))))))))))))) | exact Or.inr (Or.inr (Or.inr (Or.inr (Or.inr (Or.inr (Or.inr (Or.inr (Or.inr (Or.inr (Or.inr (Or.inr (Or.inr (Or.inr (Or.inr (Or.inr (Or.inl (e))))))))))))))))) | exact Or.inr (Or.inr (Or.inr (Or.inr (Or.inr (Or.inr (Or.inr (Or.inr (Or.inr (Or.inr (Or.inr (Or.inr (Or.inr (Or.inr (Or.inr (Or.inr (Or.inr (Or.inl (e)))))))))))))))))) | exact Or.inr (Or.inr (Or.inr (Or.inr (Or.inr (Or.inr (Or.inr (Or.inr (Or.inr (Or.inr (Or.inr (Or.inr (Or.inr (Or.inr (Or.inr (Or.inr (Or.inr (Or.inr (Or.inl (e))))))))))))))))))) | exact Or.inr (Or.inr (Or.inr (Or.inr (Or.inr (Or.inr (Or.inr (Or.inr (Or.inr (Or.inr (Or.inr (Or.inr (Or.inr (Or.inr (Or.inr (Or.inr (Or.inr (Or.inr (Or.inr (Or.inl (e)))))))))))))))))))) | exact Or.inr (Or.inr (Or.inr (Or.inr (Or.inr (Or.inr (Or.inr (Or.inr (Or.inr (Or.inr (Or.inr (Or.inr (Or.inr (Or.inr (Or.inr (Or.inr (Or.inr (Or.inr (Or.inr (Or.inr (Or.inl (e))))))))))))))))))))) | exact Or.inr (Or.inr (Or.inr (Or.inr (Or.inr (Or.inr (Or.inr (Or.inr (Or.inr (Or.inr (Or.inr (Or.inr (Or.inr (Or.inr (Or.inr (Or.inr (Or.inr (Or.inr (Or.inr (Or.inr (Or.inr (Or.inl (e)))))))))))))))))))))) | exact Or.inr (Or.inr (Or.inr (Or.inr (Or.inr (Or.inr (Or.inr (Or.inr (Or.inr (Or.inr (Or.inr (Or.inr (Or.inr (Or.inr (Or.inr (Or.inr (Or.inr (Or.inr (Or.inr (Or.inr (Or.inr (Or.inr (Or.inl (e))))))))))))))))))))))) | exact Or.inr (Or.inr (Or.inr (Or.inr (Or.inr (Or.inr (Or.inr (Or.inr (Or.inr (Or.inr (Or.inr (Or.inr (Or.inr (Or.inr (Or.inr (Or.inr (Or.inr (Or.inr (Or.inr (Or.inr (Or.inr (Or.inr (Or.inr (Or.inl (e)))))))))))))))))))))))) | exact Or.inr (Or.inr (Or.inr (Or.inr (Or.inr (Or.inr (Or.inr (Or.inr (Or.inr (Or.inr (Or.inr (Or.inr (Or.inr (Or.inr (Or.inr (Or.inr (Or.inr (Or.inr (Or.inr (Or.inr (Or.inr (Or.inr (Or.inr (Or.inr (Or.inl (e))))))))))))))))))))))))) | exact Or.inr (Or.inr (Or.inr (Or.inr (Or.inr (Or.inr (Or.inr (Or.inr (Or.inr (Or.inr (Or.inr (Or.inr (Or.inr (Or.inr (Or.inr (Or.inr (Or.inr (Or.inr (Or.inr (Or.inr (Or.inr (Or.inr (Or.inr (Or.inr (Or.inr (Or.inl (e)))))))))))))))))))))))))) | exact Or.inr (Or.inr (Or.inr (Or.inr (Or.inr (Or.inr (Or.inr (Or.inr (Or.inr (Or.inr (Or.inr (Or.inr (Or.inr (Or.inr (Or.inr (Or.inr (Or.inr (Or.inr (Or.inr (Or.inr (Or.inr (Or.inr (Or.inr (Or.inr (Or.inr (Or.inr (e))))))))))))))))))))))))))) (fun x k hx => by simp only [wJ_mSide_sendsPacket_b65, F1.r] at hx; rcases hx with e | e <;> first | exact Or.inl (e) | exact Or.inr (e))
def wI_mP_line_b22 (v0 : Nat) (v1 : Int) (v2 : Int) (s0 : Nat) (s1 : Int) (h : Hp) (x k : Nat) : Prop := (x = s0 ∧ k = 0)
def wJ_mP_line_b22 (v0 : Nat) (v1 : Int) (v2 : Int) (s0 : Nat) (s1 : Int) (h : Hp) (x k : Nat) : Prop := False
def wI_mP_line_b17 (v0 : Nat) (v1 : Int) (v2 : Int) (s0 : Nat) (h : Hp) (x k : Nat) : Prop := (x = s0 ∧ k = 0)
def wJ_mP_line_b17 (v0 : Nat) (v1 : Int) (v2 : Int) (s0 : Nat) (h : Hp) (x k : Nat) : Prop := False
def wI_mP_line (v0 : Nat) (v1 : Int) (v2 : Int) (h : Hp) (x k : Nat) : Prop := (x = v0 ∧ k = 0)
def wJ_mP_line (v0 : Nat) (v1 : Int) (v2 : Int) (h : Hp) (x k : Nat) : Prop := False
theorem fe_mP_line_b22 (v0 : Nat) (v1 : Int) (v2 : Int) (s0 : Nat) (s1 : Int) (h : Hp) : Feo (wI_mP_line_b22 v0 v1 v2 s0 s1 h) (wJ_mP_line_b22 v0 v1 v2 s0 s1 h) h Prod.snd (f_mP_line_b22 v0 v1 v2 s0 s1 h) := by
  unfold f_mP_line_b22
  refine fe_it fe_no ?_
  refine fe_b2 Fe.rf (fe_mP_fails _ _ _ _) (fun x k hx => by simp only [wI_mP_fails] at hx; have e := hx; exact e) (fun x k hx => False.elim hx) (fun r7 h5 F1 => ?_)
  refine fe_it ?_ ?_
  · refine fe_it ?_ ?_
    · refine fe_it ?_ ?_
      · refine fe_it fe_no ?_
        refine fe_it ?_ fe_no
        exact fe_so F1
      · refine fe_it fe_no ?_
        refine fe_it ?_ fe_no
        exact fe_so F1
    · refine fe_it fe_no ?_
      refine fe_it ?_ fe_no
      exact fe_so F1
  · exact fe_so F1
theorem fe_mP_line_b17 (v0 : Nat) (v1 : Int) (v2 : Int) (s0 : Nat) (h : Hp) : Feo (wI_mP_line_b17 v0 v1 v2 s0 h) (wJ_mP_line_b17 v0 v1 v2 s0 h) h Prod.snd (f_mP_line_b17 v0 v1 v2 s0 h) := by
  unfold f_mP_line_b17
  exact fe_j Fe.rf (fe_mP_line_b22 _ _ _ _ _ _) (fun x k hx => by simp only [wI_mP_line_b22] at hx; have e := hx; exact e) (fun x k hx => False.elim hx)
theorem fe_mP_line (v0 : Nat) (v1 : Int) (v2 : Int) (h : Hp) : Feo (wI_mP_line v0 v1 v2 h) (wJ_mP_line v0 v1 v2 h) h Prod.snd (f_mP_line v0 v1 v2 h) := by
  unfold f_mP_line
  refine fe_b2 Fe.rf (fe_mP_no _ _) (fun x k hx => False.elim hx) (fun x k hx => False.elim hx) (fun r3 h1 F1 => ?_)
  refine fe_it ?_ ?_
  · exact fe_j F1 (fe_mP_line_b17 _ _ _ _ _) (fun x k hx => by simp only [wI_mP_line_b17, F1.r] at hx; have e := hx; exact e) (fun x k hx => False.elim hx)
  · refine fe_it ?_ ?_
    · exact fe_j F1 (fe_mP_line_b17 _ _ _ _ _) (fun x k hx => by simp only [wI_mP_line_b17, F1.r] at hx; have e := hx; exact e) (fun x k hx => False.elim hx)
    · refine fe_it ?_ ?_
      · exact fe_j F1 (fe_mP_line_b22 _ _ _ _ _ _) (fun x k hx => by simp only [wI_mP_line_b22, F1.r] at hx; have e := hx; exact e) (fun x k hx => False.elim hx)
      · exact fe_j F1 (fe_mP_line_b17 _ _ _ _ _) (fun x k hx => by simp only [wI_mP_line_b17, F1.r] at hx; have e := hx; exact e) (fun x k hx => False.elim hx)
def wI_mP_at_b48 (v0 : Nat) (v1 : Int) (v2 : Int) (v3 : Int) (s0 : Nat) (s1 : Int) (h : Hp) (x k : Nat) : Prop := (x = s0 ∧ k = 0)
def wJ_mP_at_b48 (v0 : Nat) (v1 : Int) (v2 : Int) (v3 : Int) (s0 : Nat) (s1 : Int) (h : Hp) (x k : Nat) : Prop := False
def wI_mP_at_b43 (v0 : Nat) (v1 : Int) (v2 : Int) (v3 : Int) (s0 : Nat) (h : Hp) (x k : Nat) : Prop := (x = s0 ∧ k = 0)
def wJ_mP_at_b43 (v0 : Nat) (v1 : Int) (v2 : Int) (v3 : Int) (s0 : Nat) (h : Hp) (x k : Nat) : Prop := False
def wI_mP_at (v0 : Nat) (v1 : Int) (v2 : Int) (v3 : Int) (h : Hp) (x k : Nat) : Prop := (x = v0 ∧ k = 0)
def wJ_mP_at (v0 : Nat) (v1 : Int) (v2 : Int) (v3 : Int) (h : Hp) (x k : Nat) : Prop := False
theorem fe_mP_at_b48 (v0 : Nat) (v1 : Int) (v2 : Int) (v3 : Int) (s0 : Nat) (s1 : Int) (h : Hp) : Feo (wI_mP_at_b48 v0 v1 v2 v3 s0 s1 h) (wJ_mP_at_b48 v0 v1 v2 v3 s0 s1 h) h Prod.snd (f_mP_at_b48 v0 v1 v2 v3 s0 s1 h) := by
  unfold f_mP_at_b48
  refine fe_it fe_no ?_
  refine fe_b2 Fe.rf (fe_mP_fails _ _ _ _) (fun x k hx => by simp only [wI_mP_fails] at hx; have e := hx; exact e) (fun x k hx => False.elim hx) (fun r18 h16 F1 => ?_)
  refine fe_it ?_ ?_
  · refine fe_b2 F1 (fe_mP_place _ _ _ _) (fun x k hx => False.elim hx) (fun x k hx => False.elim hx) (fun r21 h19 F2 => ?_)
    refine fe_it ?_ ?_
    · refine fe_it ?_ ?_
      · refine fe_it fe_no ?_
        refine fe_it ?_ fe_no
        exact fe_so F2
      · refine fe_it fe_no ?_
        refine fe_it ?_ fe_no
        exact fe_so F2
    · refine fe_it fe_no ?_
      refine fe_it ?_ fe_no
      exact fe_so F2
  · exact fe_so F1
theorem fe_mP_at_b43 (v0 : Nat) (v1 : Int) (v2 : Int) (v3 : Int) (s0 : Nat) (h : Hp) : Feo (wI_mP_at_b43 v0 v1 v2 v3 s0 h) (wJ_mP_at_b43 v0 v1 v2 v3 s0 h) h Prod.snd (f_mP_at_b43 v0 v1 v2 v3 s0 h) := by
  unfold f_mP_at_b43
  exact fe_j Fe.rf (fe_mP_at_b48 _ _ _ _ _ _ _) (fun x k hx => by simp only [wI_mP_at_b48] at hx; have e := hx; exact e) (fun x k hx => False.elim hx)
theorem fe_mP_at (v0 : Nat) (v1 : Int) (v2 : Int) (v3 : Int) (h : Hp) : Feo (wI_mP_at v0 v1 v2 v3 h) (wJ_mP_at v0 v1 v2 v3 h) h Prod.snd (f_mP_at v0 v1 v2 v3 h) := by
  unfold f_mP_at
  refine fe_b2 Fe.rf (fe_mP_no _ _) (fun x k hx => False.elim hx) (fun x k hx => False.elim hx) (fun r3 h1 F1 => ?_)
  refine fe_b2 F1 (fe_mP_fails _ _ _ _) (fun x k hx => by simp only [wI_mP_fails, F1.r] at hx; have e := hx; exact e) (fun x k hx => False.elim hx) (fun r6 h4 F2 => ?_)
  refine fe_it ?_ ?_
  · exact fe_so F2
  · refine fe_b2 F2 (fe_mP_isNone _ _ _ _) (fun x k hx => False.elim hx) (fun x k hx => False.elim hx) (fun r9 h7 F3 => ?_)
    refine fe_it ?_ ?_
    · exact fe_j F3 (fe_mP_at_b43 _ _ _ _ _ _) (fun x k hx => by simp only [wI_mP_at_b43, F1.r, F2.r, F3.r] at hx; have e := hx; exact e) (fun x k hx => False.elim hx)
    · refine fe_it ?_ ?_
      · exact fe_j F3 (fe_mP_at_b43 _ _ _ _ _ _) (fun x k hx => by simp only [wI_mP_at_b43, F1.r, F2.r, F3.r] at hx; have e := hx; exact e) (fun x k hx => False.elim hx)
      · refine fe_b2 F3 (fe_mP_place _ _ _ _) (fun x k hx => False.elim hx) (fun x k hx => False.elim hx) (fun r12 h10 F4 => ?_)
        refine fe_it fe_no ?_
        refine fe_it ?_ fe_no
        refine fe_it ?_ ?_
        · exact fe_j F4 (fe_mP_at_b48 _ _ _ _ _ _ _) (fun x k hx => by simp only [wI_mP_at_b48, F1.r, F2.r, F3.r, F4.r] at hx; have e := hx; exact e) (fun x k hx => False.elim hx)
        · exact fe_j F4 (fe_mP_at_b43 _ _ _ _ _ _) (fun x k hx => by simp only [wI_mP_at_b43, F1.r, F2.r, F3.r, F4.r] at hx; have e := hx; exact e) (fun x k hx => False.elim hx)
def wI_mP_look_b23 (v0 : Nat) (v1 : Int) (v2 : Int) (s0 : Nat) (s1 : Int) (h : Hp) (x k : Nat) : Prop := (x = s0 ∧ k = 0)
def wJ_mP_look_b23 (v0 : Nat) (v1 : Int) (v2 : Int) (s0 : Nat) (s1 : Int) (h : Hp) (x k : Nat) : Prop := False
def wI_mP_look_b18 (v0 : Nat) (v1 : Int) (v2 : Int) (s0 : Nat) (h : Hp) (x k : Nat) : Prop := (x = s0 ∧ k = 0)
def wJ_mP_look_b18 (v0 : Nat) (v1 : Int) (v2 : Int) (s0 : Nat) (h : Hp) (x k : Nat) : Prop := False
def wI_mP_look (v0 : Nat) (v1 : Int) (v2 : Int) (h : Hp) (x k : Nat) : Prop := (x = v0 ∧ k = 0)
def wJ_mP_look (v0 : Nat) (v1 : Int) (v2 : Int) (h : Hp) (x k : Nat) : Prop := False
theorem fe_mP_look_b23 (v0 : Nat) (v1 : Int) (v2 : Int) (s0 : Nat) (s1 : Int) (h : Hp) : Feo (wI_mP_look_b23 v0 v1 v2 s0 s1 h) (wJ_mP_look_b23 v0 v1 v2 s0 s1 h) h Prod.snd (f_mP_look_b23 v0 v1 v2 s0 s1 h) := by
  unfold f_mP_look_b23
  refine fe_it fe_no ?_
  refine fe_b2 Fe.rf (fe_mP_fails _ _ _ _) (fun x k hx => by simp only [wI_mP_fails] at hx; have e := hx; exact e) (fun x k hx => False.elim hx) (fun r7 h5 F1 => ?_)
  refine fe_it ?_ ?_
  · refine fe_it fe_no ?_
    refine fe_it ?_ fe_no
    refine fe_l ?_
    refine fe_it ?_ ?_
    · refine fe_it fe_no ?_
      exact fe_so F1
    · refine fe_it ?_ ?_
      · refine fe_it fe_no ?_
        exact fe_so F1
      · refine fe_it ?_ ?_
        · refine fe_it fe_no ?_
          refine fe_it fe_no ?_
          refine fe_it ?_ ?_
          · exact fe_so F1
          · exact fe_so F1
        · refine fe_it ?_ ?_
          · refine fe_it fe_no ?_
            refine fe_it ?_ ?_
            · exact fe_so F1
            · exact fe_so F1
          · refine fe_it ?_ ?_
            · refine fe_it fe_no ?_
              refine fe_it fe_no ?_
              exact fe_so F1
            · refine fe_it ?_ ?_
              · refine fe_it fe_no ?_
                refine fe_it fe_no ?_
                exact fe_so F1
              · refine fe_it ?_ ?_
                · refine fe_it fe_no ?_
                  exact fe_so F1
                · refine fe_it ?_ ?_
                  · refine fe_it fe_no ?_
                    exact fe_so F1
                  · refine fe_it ?_ ?_
                    · refine fe_it fe_no ?_
                      refine fe_it fe_no ?_
                      refine fe_it ?_ fe_no
                      refine fe_it ?_ fe_no
                      refine fe_it ?_ fe_no
                      exact fe_so F1
                    · refine fe_it fe_no ?_
                      refine fe_it fe_no ?_
                      refine fe_it ?_ fe_no
                      refine fe_it fe_no ?_
                      refine fe_it ?_ fe_no
                      refine fe_it fe_no ?_
                      refine fe_it ?_ fe_no
                      refine fe_it fe_no ?_
                      exact fe_so F1
  · exact fe_so F1
theorem fe_mP_look_b18 (v0 : Nat) (v1 : Int) (v2 : Int) (s0 : Nat) (h : Hp) : Feo (wI_mP_look_b18 v0 v1 v2 s0 h) (wJ_mP_look_b18 v0 v1 v2 s0 h) h Prod.snd (f_mP_look_b18 v0 v1 v2 s0 h) := by
  unfold f_mP_look_b18
  exact fe_j Fe.rf (fe_mP_look_b23 _ _ _ _ _ _) (fun x k hx => by simp only [wI_mP_look_b23] at hx; have e := hx; exact e) (fun x k hx => False.elim hx)
theorem fe_mP_look (v0 : Nat) (v1 : Int) (v2 : Int) (h : Hp) : Feo (wI_mP_look v0 v1 v2 h) (wJ_mP_look v0 v1 v2 h) h Prod.snd (f_mP_look v0 v1 v2 h) := by
  unfold f_mP_look
  refine fe_b2 Fe.rf (fe_mP_no _ _) (fun x k hx => False.elim hx) (fun x k hx => False.elim hx) (fun r3 h1 F1 => ?_)
  refine fe_it ?_ ?_
  · exact fe_j F1 (fe_mP_look_b18 _ _ _ _ _) (fun x k hx => by simp only [wI_mP_look_b18, F1.r] at hx; have e := hx; exact e) (fun x k hx => False.elim hx)
  · refine fe_it ?_ ?_
    · exact fe_j F1 (fe_mP_look_b18 _ _ _ _ _) (fun x k hx => by simp only [wI_mP_look_b18, F1.r] at hx; have e := hx; exact e) (fun x k hx => False.elim hx)
    · refine fe_it ?_ ?_
      · exact fe_j F1 (fe_mP_look_b23 _ _ _ _ _ _) (fun x k hx => by simp only [wI_mP_look_b23, F1.r] at hx; have e := hx; exact e) (fun x k hx => False.elim hx)
      · exact fe_j F1 (fe_mP_look_b18 _ _ _ _ _) (fun x k hx => by simp only [wI_mP_look_b18, F1.r] at hx; have e := hx; exact e) (fun x k hx => False.elim hx)
def wI_mBook_look (v0 : Nat) (v1 : Int) (h : Hp) (x k : Nat) : Prop := False
def wJ_mBook_look (v0 : Nat) (v1 : Int) (h : Hp) (x k : Nat) : Prop := False
theorem fe_mBook_look (v0 : Nat) (v1 : Int) (h : Hp) : Feo (wI_mBook_look v0 v1 h) (wJ_mBook_look v0 v1 h) h Prod.snd (f_mBook_look v0 v1 h) := by
  unfold f_mBook_look
  refine fe_it ?_ ?_
  · exact fe_so Fe.rf
  · refine fe_it ?_ ?_
    · refine fe_b2 Fe.rf (fe_mBook_flight _ _) (fun x k hx => False.elim hx) (fun x k hx => False.elim hx) (fun r7 h5 F1 => ?_)
      exact fe_so F1
    · refine fe_it ?_ ?_
      · exact fe_so Fe.rf
      · refine fe_it ?_ ?_
        · exact fe_so Fe.rf
        · refine fe_it ?_ ?_
          · exact fe_so Fe.rf
          · refine fe_it ?_ ?_
            · exact fe_so Fe.rf
            · refine fe_it ?_ ?_
              · exact fe_so Fe.rf
              · refine fe_it ?_ ?_
                · exact fe_so Fe.rf
                · refine fe_it ?_ ?_
                  · exact fe_so Fe.rf
                  · refine fe_it ?_ ?_
                    · exact fe_so Fe.rf
                    · refine fe_b2 Fe.rf (fe_mBook_limit _ _) (fun x k hx => False.elim hx) (fun x k hx => False.elim hx) (fun r26 h24 F2 => ?_)
                      exact fe_so F2
def wI_mP_book_b23 (v0 : Nat) (v1 : Int) (v2 : Int) (s0 : Nat) (s1 : Int) (h : Hp) (x k : Nat) : Prop := (x = s0 ∧ k = 0)
def wJ_mP_book_b23 (v0 : Nat) (v1 : Int) (v2 : Int) (s0 : Nat) (s1 : Int) (h : Hp) (x k : Nat) : Prop := False
def wI_mP_book_b18 (v0 : Nat) (v1 : Int) (v2 : Int) (s0 : Nat) (h : Hp) (x k : Nat) : Prop := (x = s0 ∧ k = 0)
def wJ_mP_book_b18 (v0 : Nat) (v1 : Int) (v2 : Int) (s0 : Nat) (h : Hp) (x k : Nat) : Prop := False
def wI_mP_book (v0 : Nat) (v1 : Int) (v2 : Int) (h : Hp) (x k : Nat) : Prop := (x = v0 ∧ k = 0)
def wJ_mP_book (v0 : Nat) (v1 : Int) (v2 : Int) (h : Hp) (x k : Nat) : Prop := False
theorem fe_mP_book_b23 (v0 : Nat) (v1 : Int) (v2 : Int) (s0 : Nat) (s1 : Int) (h : Hp) : Feo (wI_mP_book_b23 v0 v1 v2 s0 s1 h) (wJ_mP_book_b23 v0 v1 v2 s0 s1 h) h Prod.snd (f_mP_book_b23 v0 v1 v2 s0 s1 h) := by
  unfold f_mP_book_b23
  refine fe_it fe_no ?_
  refine fe_b2 Fe.rf (fe_mP_fails _ _ _ _) (fun x k hx => by simp only [wI_mP_fails] at hx; have e := hx; exact e) (fun x k hx => False.elim hx) (fun r7 h5 F1 => ?_)
  refine fe_it ?_ ?_
  · refine fe_it fe_no ?_
    refine fe_it ?_ fe_no
    refine fe_it fe_no ?_
    refine fe_it fe_no ?_
    refine fe_b2 F1 (fe_mBook_look _ _ _) (fun x k hx => False.elim hx) (fun x k hx => False.elim hx) (fun r14 h12 F2 => ?_)
    exact fe_so F2
  · exact fe_so F1
theorem fe_mP_book_b18 (v0 : Nat) (v1 : Int) (v2 : Int) (s0 : Nat) (h : Hp) : Feo (wI_mP_book_b18 v0 v1 v2 s0 h) (wJ_mP_book_b18 v0 v1 v2 s0 h) h Prod.snd (f_mP_book_b18 v0 v1 v2 s0 h) := by
  unfold f_mP_book_b18
  exact fe_j Fe.rf (fe_mP_book_b23 _ _ _ _ _ _) (fun x k hx => by simp only [wI_mP_book_b23] at hx; have e := hx; exact e) (fun x k hx => False.elim hx)
theorem fe_mP_book (v0 : Nat) (v1 : Int) (v2 : Int) (h : Hp) : Feo (wI_mP_book v0 v1 v2 h) (wJ_mP_book v0 v1 v2 h) h Prod.snd (f_mP_book v0 v1 v2 h) := by
  unfold f_mP_book
  refine fe_b2 Fe.rf (fe_mP_no _ _) (fun x k hx => False.elim hx) (fun x k hx => False.elim hx) (fun r3 h1 F1 => ?_)
  refine fe_it ?_ ?_
  · exact fe_j F1 (fe_mP_book_b18 _ _ _ _ _) (fun x k hx => by simp only [wI_mP_book_b18, F1.r] at hx; have e := hx; exact e) (fun x k hx => False.elim hx)
  · refine fe_it ?_ ?_
    · exact fe_j F1 (fe_mP_book_b18 _ _ _ _ _) (fun x k hx => by simp only [wI_mP_book_b18, F1.r] at hx; have e := hx; exact e) (fun x k hx => False.elim hx)
    · refine fe_it ?_ ?_
      · exact fe_j F1 (fe_mP_book_b23 _ _ _ _ _ _) (fun x k hx => by simp only [wI_mP_book_b23, F1.r] at hx; have e := hx; exact e) (fun x k hx => False.elim hx)
      · exact fe_j F1 (fe_mP_book_b18 _ _ _ _ _) (fun x k hx => by simp only [wI_mP_book_b18, F1.r] at hx; have e := hx; exact e) (fun x k hx => False.elim hx)
def wI_mBook_outs_b57 (v0 : Nat) (v1 : Int) (v2 : Int) (v4 : Int) (s0 : Int) (s1 : Int) (h : Hp) (x k : Nat) : Prop := False
def wJ_mBook_outs_b57 (v0 : Nat) (v1 : Int) (v2 : Int) (v4 : Int) (s0 : Int) (s1 : Int) (h : Hp) (x k : Nat) : Prop := False
def wI_mBook_outs_b56 (v0 : Nat) (v1 : Int) (v2 : Int) (v4 : Int) (s0 : Int) (h : Hp) (x k : Nat) : Prop := False
def wJ_mBook_outs_b56 (v0 : Nat) (v1 : Int) (v2 : Int) (v4 : Int) (s0 : Int) (h : Hp) (x k : Nat) : Prop := False
def wI_mBook_outs_b52 (v0 : Nat) (v1 : Int) (v2 : Int) (v4 : Int) (s0 : Int) (h : Hp) (x k : Nat) : Prop := False
def wJ_mBook_outs_b52 (v0 : Nat) (v1 : Int) (v2 : Int) (v4 : Int) (s0 : Int) (h : Hp) (x k : Nat) : Prop := False
def wI_mBook_outs_b10 (v0 : Nat) (v1 : Int) (v2 : Int) (v3 : Int) (v4 : Int) (h : Hp) (x k : Nat) : Prop := False
def wJ_mBook_outs_b10 (v0 : Nat) (v1 : Int) (v2 : Int) (v3 : Int) (v4 : Int) (h : Hp) (x k : Nat) : Prop := False
def wI_mBook_outs (v0 : Nat) (v1 : Int) (v2 : Int) (h : Hp) (x k : Nat) : Prop := False
def wJ_mBook_outs (v0 : Nat) (v1 : Int) (v2 : Int) (h : Hp) (x k : Nat) : Prop := False
theorem fe_mBook_outs_b57 {k10 : Nat → Int → Int → Int → Int → Hp → Option (Int × Hp)} (hk10 : ∀ (v0 : Nat) (v1 : Int) (v2 : Int) (v3 : Int) (v4 : Int) (h : Hp), Feo (wI_mBook_outs_b10 v0 v1 v2 v3 v4 h) (wJ_mBook_outs_b10 v0 v1 v2 v3 v4 h) h Prod.snd (k10 v0 v1 v2 v3 v4 h)) (v0 : Nat) (v1 : Int) (v2 : Int) (v4 : Int) (s0 : Int) (s1 : Int) (h : Hp) : Feo (wI_mBook_outs_b57 v0 v1 v2 v4 s0 s1 h) (wJ_mBook_outs_b57 v0 v1 v2 v4 s0 s1 h) h Prod.snd (f_mBook_outs_b57 k10 v0 v1 v2 v4 s0 s1 h) := by
  unfold f_mBook_outs_b57
  refine fe_v (fun y11 => ?_)
  exact fe_j Fe.rf (hk10 _ _ _ _ _ _) (fun x k hx => False.elim hx) (fun x k hx => False.elim hx)
theorem fe_mBook_outs_b56 {k10 : Nat → Int → Int → Int → Int → Hp → Option (Int × Hp)} (hk10 : ∀ (v0 : Nat) (v1 : Int) (v2 : Int) (v3 : Int) (v4 : Int) (h : Hp), Feo (wI_mBook_outs_b10 v0 v1 v2 v3 v4 h) (wJ_mBook_outs_b10 v0 v1 v2 v3 v4 h) h Prod.snd (k10 v0 v1 v2 v3 v4 h)) (v0 : Nat) (v1 : Int) (v2 : Int) (v4 : Int) (s0 : Int) (h : Hp) : Feo (wI_mBook_outs_b56 v0 v1 v2 v4 s0 h) (wJ_mBook_outs_b56 v0 v1 v2 v4 s0 h) h Prod.snd (f_mBook_outs_b56 k10 v0 v1 v2 v4 s0 h) := by
  unfold f_mBook_outs_b56
  exact fe_j Fe.rf (fe_mBook_outs_b57 hk10 _ _ _ _ _ _ _) (fun x k hx => False.elim hx) (fun x k hx => False.elim hx)
theorem fe_mBook_outs_b52 {k10 : Nat → Int → Int → Int → Int → Hp → Option (Int × Hp)} (hk10 : ∀ (v0 : Nat) (v1 : Int) (v2 : Int) (v3 : Int) (v4 : Int) (h : Hp), Feo (wI_mBook_outs_b10 v0 v1 v2 v3 v4 h) (wJ_mBook_outs_b10 v0 v1 v2 v3 v4 h) h Prod.snd (k10 v0 v1 v2 v3 v4 h)) (v0 : Nat) (v1 : Int) (v2 : Int) (v4 : Int) (s0 : Int) (h : Hp) : Feo (wI_mBook_outs_b52 v0 v1 v2 v4 s0 h) (wJ_mBook_outs_b52 v0 v1 v2 v4 s0 h) h Prod.snd (f_mBook_outs_b52 k10 v0 v1 v2 v4 s0 h) := by
  unfold f_mBook_outs_b52
  exact fe_j Fe.rf (fe_mBook_outs_b57 hk10 _ _ _ _ _ _ _) (fun x k hx => False.elim hx) (fun x k hx => False.elim hx)
theorem fe_mBook_outs_b10 {k10 : Nat → Int → Int → Int → Int → Hp → Option (Int × Hp)} (hk10 : ∀ (v0 : Nat) (v1 : Int) (v2 : Int) (v3 : Int) (v4 : Int) (h : Hp), Feo (wI_mBook_outs_b10 v0 v1 v2 v3 v4 h) (wJ_mBook_outs_b10 v0 v1 v2 v3 v4 h) h Prod.snd (k10 v0 v1 v2 v3 v4 h)) (v0 : Nat) (v1 : Int) (v2 : Int) (v3 : Int) (v4 : Int) (h : Hp) : Feo (wI_mBook_outs_b10 v0 v1 v2 v3 v4 h) (wJ_mBook_outs_b10 v0 v1 v2 v3 v4 h) h Prod.snd (f_mBook_outs_b10 k10 v0 v1 v2 v3 v4 h) := by
  unfold f_mBook_outs_b10
  refine fe_it fe_no ?_
  refine fe_it ?_ fe_no
  refine fe_it ?_ ?_
  · exact fe_so Fe.rf
  · refine fe_b2 Fe.rf (fe_mBook_isOut _ _ _ _) (fun x k hx => False.elim hx) (fun x k hx => False.elim hx) (fun r8 h6 F1 => ?_)
    refine fe_it ?_ ?_
    · exact fe_j F1 (fe_mBook_outs_b56 hk10 _ _ _ _ _ _) (fun x k hx => False.elim hx) (fun x k hx => False.elim hx)
    · refine fe_it ?_ ?_
      · exact fe_j F1 (fe_mBook_outs_b52 hk10 _ _ _ _ _ _) (fun x k hx => False.elim hx) (fun x k hx => False.elim hx)
      · refine fe_it fe_no ?_
        refine fe_it ?_ fe_no
        refine fe_it ?_ ?_
        · exact fe_j F1 (fe_mBook_outs_b56 hk10 _ _ _ _ _ _) (fun x k hx => False.elim hx) (fun x k hx => False.elim hx)
        · exact fe_j F1 (fe_mBook_outs_b52 hk10 _ _ _ _ _ _) (fun x k hx => False.elim hx) (fun x k hx => False.elim hx)
theorem fe_mBook_outs_b10_lp (n : Nat) : ∀ (v0 : Nat) (v1 : Int) (v2 : Int) (v3 : Int) (v4 : Int) (h : Hp), Feo (wI_mBook_outs_b10 v0 v1 v2 v3 v4 h) (wJ_mBook_outs_b10 v0 v1 v2 v3 v4 h) h Prod.snd (f_mBook_outs_b10_lp n v0 v1 v2 v3 v4 h) := by
  induction n with
  | zero => intro v0 v1 v2 v3 v4 h; exact fe_no
  | succ n ih => intro v0 v1 v2 v3 v4 h; exact fe_mBook_outs_b10 ih v0 v1 v2 v3 v4 h
theorem fe_mBook_outs (v0 : Nat) (v1 : Int) (v2 : Int) (h : Hp) : Feo (wI_mBook_outs v0 v1 v2 h) (wJ_mBook_outs v0 v1 v2 h) h Prod.snd (f_mBook_outs v0 v1 v2 h) := by
  unfold f_mBook_outs
  refine fe_it fe_no ?_
  refine fe_it ?_ fe_no
  refine fe_v (fun y3 => ?_)
  exact fe_j Fe.rf (fe_mBook_outs_b10_lp FU _ _ _ _ _ _) (fun x k hx => False.elim hx) (fun x k hx => False.elim hx)
def wI_mBook_space_b137 (v0 : Nat) (s0 : Nat) (s1 : Int) (h : Hp) (x k : Nat) : Prop := False
def wJ_mBook_space_b137 (v0 : Nat) (s0 : Nat) (s1 : Int) (h : Hp) (x k : Nat) : Prop := False
def wI_mBook_space_b136 (v0 : Nat) (s0 : Nat) (h : Hp) (x k : Nat) : Prop := False
def wJ_mBook_space_b136 (v0 : Nat) (s0 : Nat) (h : Hp) (x k : Nat) : Prop := False
def wI_mBook_space (v0 : Nat) (v1 : Int) (v2 : Int) (h : Hp) (x k : Nat) : Prop := False
def wJ_mBook_space (v0 : Nat) (v1 : Int) (v2 : Int) (h : Hp) (x k : Nat) : Prop := False
theorem fe_mBook_space_b137 (v0 : Nat) (s0 : Nat) (s1 : Int) (h : Hp) : Feo (wI_mBook_space_b137 v0 s0 s1 h) (wJ_mBook_space_b137 v0 s0 s1 h) h Prod.snd (f_mBook_space_b137 v0 s0 s1 h) := by
  unfold f_mBook_space_b137
  refine fe_it fe_no ?_
  refine fe_b2 Fe.rf (fe_mBook_patience _ _ _) (fun x k hx => False.elim hx) (fun x k hx => False.elim hx) (fun r47 h45 F1 => ?_)
  exact fe_so F1
theorem fe_mBook_space_b136 (v0 : Nat) (s0 : Nat) (h : Hp) : Feo (wI_mBook_space_b136 v0 s0 h) (wJ_mBook_space_b136 v0 s0 h) h Prod.snd (f_mBook_space_b136 v0 s0 h) := by
  unfold f_mBook_space_b136
  exact fe_j Fe.rf (fe_mBook_space_b137 _ _ _ _) (fun x k hx => False.elim hx) (fun x k hx => False.elim hx)
theorem fe_mBook_space (v0 : Nat) (v1 : Int) (v2 : Int) (h : Hp) : Feo (wI_mBook_space v0 v1 v2 h) (wJ_mBook_space v0 v1 v2 h) h Prod.snd (f_mBook_space v0 v1 v2 h) := by
  unfold f_mBook_space
  refine fe_it ?_ ?_
  · refine fe_it fe_no ?_
    refine fe_it ?_ fe_no
    exact fe_so Fe.rf
  · refine fe_it ?_ ?_
    · refine fe_it fe_no ?_
      refine fe_it ?_ fe_no
      exact fe_so Fe.rf
    · refine fe_it ?_ ?_
      · refine fe_it fe_no ?_
        refine fe_it ?_ fe_no
        exact fe_so Fe.rf
      · refine fe_it ?_ ?_
        · refine fe_b2 Fe.rf (fe_mBook_probeTime _ _ _) (fun x k hx => False.elim hx) (fun x k hx => False.elim hx) (fun r17 h15 F1 => ?_)
          exact fe_so F1
        · refine fe_it ?_ ?_
          · refine fe_b2 Fe.rf (fe_mBook_outs _ _ _ _) (fun x k hx => False.elim hx) (fun x k hx => False.elim hx) (fun r22 h20 F2 => ?_)
            exact fe_so F2
          · refine fe_it ?_ ?_
            · refine fe_b2 Fe.rf (fe_mBook_outs _ _ _ _) (fun x k hx => False.elim hx) (fun x k hx => False.elim hx) (fun r27 h25 F3 => ?_)
              exact fe_so F3
            · refine fe_it ?_ ?_
              · refine fe_it fe_no ?_
                refine fe_it ?_ fe_no
                exact fe_so Fe.rf
              · refine fe_it ?_ ?_
                · refine fe_it fe_no ?_
                  refine fe_it ?_ fe_no
                  exact fe_so Fe.rf
                · refine fe_it ?_ ?_
                  · refine fe_it ?_ ?_
                    · exact fe_j Fe.rf (fe_mBook_space_b136 _ _ _) (fun x k hx => False.elim hx) (fun x k hx => False.elim hx)
                    · refine fe_it ?_ ?_
                      · exact fe_j Fe.rf (fe_mBook_space_b136 _ _ _) (fun x k hx => False.elim hx) (fun x k hx => False.elim hx)
                      · exact fe_j Fe.rf (fe_mBook_space_b137 _ _ _ _) (fun x k hx => False.elim hx) (fun x k hx => False.elim hx)
                  · refine fe_it ?_ ?_
                    · refine fe_it fe_no ?_
                      refine fe_it ?_ fe_no
                      refine fe_it ?_ ?_
                      · exact fe_so Fe.rf
                      · exact fe_so Fe.rf
                    · refine fe_it fe_no ?_
                      refine fe_it ?_ fe_no
                      exact fe_so Fe.rf
def wI_mP_space_b32 (v0 : Nat) (v1 : Int) (v2 : Int) (v3 : Int) (s0 : Nat) (s1 : Int) (h : Hp) (x k : Nat) : Prop := (x = s0 ∧ k = 0)
def wJ_mP_space_b32 (v0 : Nat) (v1 : Int) (v2 : Int) (v3 : Int) (s0 : Nat) (s1 : Int) (h : Hp) (x k : Nat) : Prop := False
def wI_mP_space_b27 (v0 : Nat) (v1 : Int) (v2 : Int) (v3 : Int) (s0 : Nat) (h : Hp) (x k : Nat) : Prop := (x = s0 ∧ k = 0)
def wJ_mP_space_b27 (v0 : Nat) (v1 : Int) (v2 : Int) (v3 : Int) (s0 : Nat) (h : Hp) (x k : Nat) : Prop := False
def wI_mP_space (v0 : Nat) (v1 : Int) (v2 : Int) (v3 : Int) (h : Hp) (x k : Nat) : Prop := (x = v0 ∧ k = 0)
def wJ_mP_space (v0 : Nat) (v1 : Int) (v2 : Int) (v3 : Int) (h : Hp) (x k : Nat) : Prop := False
theorem fe_mP_space_b32 (v0 : Nat) (v1 : Int) (v2 : Int) (v3 : Int) (s0 : Nat) (s1 : Int) (h : Hp) : Feo (wI_mP_space_b32 v0 v1 v2 v3 s0 s1 h) (wJ_mP_space_b32 v0 v1 v2 v3 s0 s1 h) h Prod.snd (f_mP_space_b32 v0 v1 v2 v3 s0 s1 h) := by
  unfold f_mP_space_b32
  refine fe_it fe_no ?_
  refine fe_b2 Fe.rf (fe_mP_fails _ _ _ _) (fun x k hx => by simp only [wI_mP_fails] at hx; have e := hx; exact e) (fun x k hx => False.elim hx) (fun r7 h5 F1 => ?_)
  refine fe_it ?_ ?_
  · refine fe_it ?_ ?_
    · refine fe_it fe_no ?_
      refine fe_it ?_ fe_no
      refine fe_it fe_no ?_
      refine fe_it fe_no ?_
      refine fe_b2 F1 (fe_mBook_space _ _ _ _) (fun x k hx => False.elim hx) (fun x k hx => False.elim hx) (fun r14 h12 F2 => ?_)
      exact fe_so F2
    · refine fe_it fe_no ?_
      refine fe_it ?_ fe_no
      refine fe_it fe_no ?_
      refine fe_b2 F1 (fe_mSide_hasGuards _ _ _) (fun x k hx => False.elim hx) (fun x k hx => False.elim hx) (fun r20 h18 F3 => ?_)
      refine fe_it ?_ ?_
      · exact fe_so F3
      · exact fe_so F3
  · exact fe_so F1
theorem fe_mP_space_b27 (v0 : Nat) (v1 : Int) (v2 : Int) (v3 : Int) (s0 : Nat) (h : Hp) : Feo (wI_mP_space_b27 v0 v1 v2 v3 s0 h) (wJ_mP_space_b27 v0 v1 v2 v3 s0 h) h Prod.snd (f_mP_space_b27 v0 v1 v2 v3 s0 h) := by
  unfold f_mP_space_b27
  exact fe_j Fe.rf (fe_mP_space_b32 _ _ _ _ _ _ _) (fun x k hx => by simp only [wI_mP_space_b32] at hx; have e := hx; exact e) (fun x k hx => False.elim hx)
theorem fe_mP_space (v0 : Nat) (v1 : Int) (v2 : Int) (v3 : Int) (h : Hp) : Feo (wI_mP_space v0 v1 v2 v3 h) (wJ_mP_space v0 v1 v2 v3 h) h Prod.snd (f_mP_space v0 v1 v2 v3 h) := by
  unfold f_mP_space
  refine fe_b2 Fe.rf (fe_mP_no _ _) (fun x k hx => False.elim hx) (fun x k hx => False.elim hx) (fun r3 h1 F1 => ?_)
  refine fe_it ?_ ?_
  · exact fe_j F1 (fe_mP_space_b27 _ _ _ _ _ _) (fun x k hx => by simp only [wI_mP_space_b27, F1.r] at hx; have e := hx; exact e) (fun x k hx => False.elim hx)
  · refine fe_it ?_ ?_
    · exact fe_j F1 (fe_mP_space_b27 _ _ _ _ _ _) (fun x k hx => by simp only [wI_mP_space_b27, F1.r] at hx; have e := hx; exact e) (fun x k hx => False.elim hx)
    · refine fe_it ?_ ?_
      · exact fe_j F1 (fe_mP_space_b27 _ _ _ _ _ _) (fun x k hx => by simp only [wI_mP_space_b27, F1.r] at hx; have e := hx; exact e) (fun x k hx => False.elim hx)
      · refine fe_it ?_ ?_
        · exact fe_j F1 (fe_mP_space_b27 _ _ _ _ _ _) (fun x k hx => by simp only [wI_mP_space_b27, F1.r] at hx; have e := hx; exact e) (fun x k hx => False.elim hx)
        · refine fe_it ?_ ?_
          · exact fe_j F1 (fe_mP_space_b32 _ _ _ _ _ _ _) (fun x k hx => by simp only [wI_mP_space_b32, F1.r] at hx; have e := hx; exact e) (fun x k hx => False.elim hx)
          · exact fe_j F1 (fe_mP_space_b27 _ _ _ _ _ _) (fun x k hx => by simp only [wI_mP_space_b27, F1.r] at hx; have e := hx; exact e) (fun x k hx => False.elim hx)
def wI_mStreams_look_III_b31 (v0 : Nat) (v1 : Int) (v2 : Int) (v3 : Int) (h : Hp) (x k : Nat) : Prop := False
def wJ_mStreams_look_III_b31 (v0 : Nat) (v1 : Int) (v2 : Int) (v3 : Int) (h : Hp) (x k : Nat) : Prop := False
def wI_mStreams_look_III_b27 (v0 : Nat) (h : Hp) (x k : Nat) : Prop := False
def wJ_mStreams_look_III_b27 (v0 : Nat) (h : Hp) (x k : Nat) : Prop := False
def wI_mStreams_look_III (v0 : Nat) (v1 : Int) (v2 : Int) (v3 : Int) (h : Hp) (x k : Nat) : Prop := False
def wJ_mStreams_look_III (v0 : Nat) (v1 : Int) (v2 : Int) (v3 : Int) (h : Hp) (x k : Nat) : Prop := False
theorem fe_mStreams_look_III_b31 (v0 : Nat) (v1 : Int) (v2 : Int) (v3 : Int) (h : Hp) : Feo (wI_mStreams_look_III_b31 v0 v1 v2 v3 h) (wJ_mStreams_look_III_b31 v0 v1 v2 v3 h) h Prod.snd (f_mStreams_look_III_b31 v0 v1 v2 v3 h) := by
  unfold f_mStreams_look_III_b31
  refine fe_b2 Fe.rf (fe_mStreams_at _ _ _) (fun x k hx => False.elim hx) (fun x k hx => False.elim hx) (fun r9 h7 F1 => ?_)
  refine fe_it ?_ ?_
  · refine fe_b2 F1 (fe_mStreams_sending _ _ _) (fun x k hx => False.elim hx) (fun x k hx => False.elim hx) (fun r14 h12 F2 => ?_)
    exact fe_so F2
  · refine fe_it ?_ ?_
    · refine fe_it fe_no ?_
      refine fe_it ?_ fe_no
      exact fe_so F1
    · refine fe_it ?_ ?_
      · refine fe_it fe_no ?_
        refine fe_it ?_ fe_no
        exact fe_so F1
      · refine fe_it ?_ ?_
        · refine fe_it fe_no ?_
          refine fe_it ?_ fe_no
          exact fe_so F1
        · refine fe_it ?_ ?_
          · refine fe_it fe_no ?_
            refine fe_it ?_ fe_no
            refine fe_it ?_ ?_
            · exact fe_so F1
            · refine fe_it fe_no ?_
              refine fe_it ?_ fe_no
              exact fe_so F1
          · refine fe_it ?_ ?_
            · refine fe_it fe_no ?_
              refine fe_it ?_ fe_no
              exact fe_so F1
            · refine fe_it ?_ ?_
              · refine fe_it fe_no ?_
                refine fe_it ?_ fe_no
                exact fe_so F1
              · refine fe_it ?_ ?_
                · refine fe_it fe_no ?_
                  refine fe_it ?_ fe_no
                  refine fe_it ?_ ?_
                  · refine fe_it fe_no ?_
                    refine fe_it ?_ fe_no
                    exact fe_so F1
                  · exact fe_so F1
                · refine fe_it ?_ ?_
                  · refine fe_b2 F1 (fe_mStreams_receiving _ _ _) (fun x k hx => False.elim hx) (fun x k hx => False.elim hx) (fun r51 h49 F3 => ?_)
                    exact fe_so F3
                  · refine fe_it ?_ ?_
                    · refine fe_it fe_no ?_
                      refine fe_it ?_ fe_no
                      exact fe_so F1
                    · refine fe_it ?_ ?_
                      · refine fe_it fe_no ?_
                        refine fe_it ?_ fe_no
                        exact fe_so F1
                      · refine fe_it ?_ ?_
                        · refine fe_it fe_no ?_
                          refine fe_it ?_ fe_no
                          exact fe_so F1
                        · refine fe_it ?_ ?_
                          · refine fe_it fe_no ?_
                            refine fe_it ?_ fe_no
                            exact fe_so F1
                          · refine fe_it ?_ ?_
                            · refine fe_it fe_no ?_
                              refine fe_it ?_ fe_no
                              exact fe_so F1
                            · refine fe_it fe_no ?_
                              refine fe_it ?_ fe_no
                              refine fe_it ?_ ?_
                              · exact fe_so F1
                              · refine fe_it fe_no ?_
                                refine fe_it ?_ fe_no
                                exact fe_so F1
theorem fe_mStreams_look_III_b27 (v0 : Nat) (h : Hp) : Feo (wI_mStreams_look_III_b27 v0 h) (wJ_mStreams_look_III_b27 v0 h) h Prod.snd (f_mStreams_look_III_b27 v0 h) := by
  unfold f_mStreams_look_III_b27
  exact fe_so Fe.rf
theorem fe_mStreams_look_III (v0 : Nat) (v1 : Int) (v2 : Int) (v3 : Int) (h : Hp) : Feo (wI_mStreams_look_III v0 v1 v2 v3 h) (wJ_mStreams_look_III v0 v1 v2 v3 h) h Prod.snd (f_mStreams_look_III v0 v1 v2 v3 h) := by
  unfold f_mStreams_look_III
  refine fe_it ?_ ?_
  · refine fe_b2 Fe.rf (fe_mStreams_hasReceiving _ _ _ _) (fun x k hx => False.elim hx) (fun x k hx => False.elim hx) (fun r3 h1 F1 => ?_)
    refine fe_it ?_ ?_
    · exact fe_j F1 (fe_mStreams_look_III_b31 _ _ _ _ _) (fun x k hx => False.elim hx) (fun x k hx => False.elim hx)
    · exact fe_j F1 (fe_mStreams_look_III_b27 _ _) (fun x k hx => False.elim hx) (fun x k hx => False.elim hx)
  · refine fe_b2 Fe.rf (fe_mStreams_hasSending _ _ _ _) (fun x k hx => False.elim hx) (fun x k hx => False.elim hx) (fun r6 h4 F2 => ?_)
    refine fe_it ?_ ?_
    · exact fe_j F2 (fe_mStreams_look_III_b31 _ _ _ _ _) (fun x k hx => False.elim hx) (fun x k hx => False.elim hx)
    · exact fe_j F2 (fe_mStreams_look_III_b27 _ _) (fun x k hx => False.elim hx) (fun x k hx => False.elim hx)
def wI_mP_stream_b23 (v0 : Nat) (v1 : Int) (v2 : Int) (v3 : Int) (s0 : Nat) (s1 : Int) (h : Hp) (x k : Nat) : Prop := (x = s0 ∧ k = 0)
def wJ_mP_stream_b23 (v0 : Nat) (v1 : Int) (v2 : Int) (v3 : Int) (s0 : Nat) (s1 : Int) (h : Hp) (x k : Nat) : Prop := False
def wI_mP_stream_b18 (v0 : Nat) (v1 : Int) (v2 : Int) (v3 : Int) (s0 : Nat) (h : Hp) (x k : Nat) : Prop := (x = s0 ∧ k = 0)
def wJ_mP_stream_b18 (v0 : Nat) (v1 : Int) (v2 : Int) (v3 : Int) (s0 : Nat) (h : Hp) (x k : Nat) : Prop := False
def wI_mP_stream (v0 : Nat) (v1 : Int) (v2 : Int) (v3 : Int) (h : Hp) (x k : Nat) : Prop := (x = v0 ∧ k = 0)
def wJ_mP_stream (v0 : Nat) (v1 : Int) (v2 : Int) (v3 : Int) (h : Hp) (x k : Nat) : Prop := False
theorem fe_mP_stream_b23 (v0 : Nat) (v1 : Int) (v2 : Int) (v3 : Int) (s0 : Nat) (s1 : Int) (h : Hp) : Feo (wI_mP_stream_b23 v0 v1 v2 v3 s0 s1 h) (wJ_mP_stream_b23 v0 v1 v2 v3 s0 s1 h) h Prod.snd (f_mP_stream_b23 v0 v1 v2 v3 s0 s1 h) := by
  unfold f_mP_stream_b23
  refine fe_it fe_no ?_
  refine fe_b2 Fe.rf (fe_mP_fails _ _ _ _) (fun x k hx => by simp only [wI_mP_fails] at hx; have e := hx; exact e) (fun x k hx => False.elim hx) (fun r7 h5 F1 => ?_)
  refine fe_it ?_ ?_
  · refine fe_it fe_no ?_
    refine fe_b2 F1 (fe_mStreams_look_III _ _ _ _ _) (fun x k hx => False.elim hx) (fun x k hx => False.elim hx) (fun r11 h9 F2 => ?_)
    exact fe_so F2
  · exact fe_so F1
theorem fe_mP_stream_b18 (v0 : Nat) (v1 : Int) (v2 : Int) (v3 : Int) (s0 : Nat) (h : Hp) : Feo (wI_mP_stream_b18 v0 v1 v2 v3 s0 h) (wJ_mP_stream_b18 v0 v1 v2 v3 s0 h) h Prod.snd (f_mP_stream_b18 v0 v1 v2 v3 s0 h) := by
  unfold f_mP_stream_b18
  exact fe_j Fe.rf (fe_mP_stream_b23 _ _ _ _ _ _ _) (fun x k hx => by simp only [wI_mP_stream_b23] at hx; have e := hx; exact e) (fun x k hx => False.elim hx)
theorem fe_mP_stream (v0 : Nat) (v1 : Int) (v2 : Int) (v3 : Int) (h : Hp) : Feo (wI_mP_stream v0 v1 v2 v3 h) (wJ_mP_stream v0 v1 v2 v3 h) h Prod.snd (f_mP_stream v0 v1 v2 v3 h) := by
  unfold f_mP_stream
  refine fe_b2 Fe.rf (fe_mP_no _ _) (fun x k hx => False.elim hx) (fun x k hx => False.elim hx) (fun r3 h1 F1 => ?_)
  refine fe_it ?_ ?_
  · exact fe_j F1 (fe_mP_stream_b18 _ _ _ _ _ _) (fun x k hx => by simp only [wI_mP_stream_b18, F1.r] at hx; have e := hx; exact e) (fun x k hx => False.elim hx)
  · refine fe_it ?_ ?_
    · exact fe_j F1 (fe_mP_stream_b18 _ _ _ _ _ _) (fun x k hx => by simp only [wI_mP_stream_b18, F1.r] at hx; have e := hx; exact e) (fun x k hx => False.elim hx)
    · refine fe_it ?_ ?_
      · exact fe_j F1 (fe_mP_stream_b23 _ _ _ _ _ _ _) (fun x k hx => by simp only [wI_mP_stream_b23, F1.r] at hx; have e := hx; exact e) (fun x k hx => False.elim hx)
      · exact fe_j F1 (fe_mP_stream_b18 _ _ _ _ _ _) (fun x k hx => by simp only [wI_mP_stream_b18, F1.r] at hx; have e := hx; exact e) (fun x k hx => False.elim hx)
def wI_mStreams_look_II_b118 (v0 : Nat) (v1 : Int) (v2 : Int) (h : Hp) (x k : Nat) : Prop := False
def wJ_mStreams_look_II_b118 (v0 : Nat) (v1 : Int) (v2 : Int) (h : Hp) (x k : Nat) : Prop := False
def wI_mStreams_look_II_b132 (v0 : Nat) (v1 : Int) (v2 : Int) (h : Hp) (x k : Nat) : Prop := False
def wJ_mStreams_look_II_b132 (v0 : Nat) (v1 : Int) (v2 : Int) (h : Hp) (x k : Nat) : Prop := False
def wI_mStreams_look_II_b104 (v0 : Nat) (v1 : Int) (v2 : Int) (h : Hp) (x k : Nat) : Prop := False
def wJ_mStreams_look_II_b104 (v0 : Nat) (v1 : Int) (v2 : Int) (h : Hp) (x k : Nat) : Prop := False
def wI_mStreams_look_II_b147 (v0 : Nat) (v1 : Int) (v2 : Int) (h : Hp) (x k : Nat) : Prop := False
def wJ_mStreams_look_II_b147 (v0 : Nat) (v1 : Int) (v2 : Int) (h : Hp) (x k : Nat) : Prop := False
def wI_mStreams_look_II (v0 : Nat) (v1 : Int) (v2 : Int) (h : Hp) (x k : Nat) : Prop := False
def wJ_mStreams_look_II (v0 : Nat) (v1 : Int) (v2 : Int) (h : Hp) (x k : Nat) : Prop := False
theorem fe_mStreams_look_II_b118 (v0 : Nat) (v1 : Int) (v2 : Int) (h : Hp) : Feo (wI_mStreams_look_II_b118 v0 v1 v2 h) (wJ_mStreams_look_II_b118 v0 v1 v2 h) h Prod.snd (f_mStreams_look_II_b118 v0 v1 v2 h) := by
  unfold f_mStreams_look_II_b118
  refine fe_it fe_no ?_
  refine fe_it ?_ fe_no
  exact fe_so Fe.rf
theorem fe_mStreams_look_II_b132 (v0 : Nat) (v1 : Int) (v2 : Int) (h : Hp) : Feo (wI_mStreams_look_II_b132 v0 v1 v2 h) (wJ_mStreams_look_II_b132 v0 v1 v2 h) h Prod.snd (f_mStreams_look_II_b132 v0 v1 v2 h) := by
  unfold f_mStreams_look_II_b132
  refine fe_it fe_no ?_
  refine fe_it ?_ fe_no
  exact fe_so Fe.rf
theorem fe_mStreams_look_II_b104 (v0 : Nat) (v1 : Int) (v2 : Int) (h : Hp) : Feo (wI_mStreams_look_II_b104 v0 v1 v2 h) (wJ_mStreams_look_II_b104 v0 v1 v2 h) h Prod.snd (f_mStreams_look_II_b104 v0 v1 v2 h) := by
  unfold f_mStreams_look_II_b104
  refine fe_it fe_no ?_
  refine fe_it ?_ fe_no
  exact fe_so Fe.rf
theorem fe_mStreams_look_II_b147 (v0 : Nat) (v1 : Int) (v2 : Int) (h : Hp) : Feo (wI_mStreams_look_II_b147 v0 v1 v2 h) (wJ_mStreams_look_II_b147 v0 v1 v2 h) h Prod.snd (f_mStreams_look_II_b147 v0 v1 v2 h) := by
  unfold f_mStreams_look_II_b147
  refine fe_it fe_no ?_
  refine fe_it ?_ fe_no
  exact fe_so Fe.rf
theorem fe_mStreams_look_II (v0 : Nat) (v1 : Int) (v2 : Int) (h : Hp) : Feo (wI_mStreams_look_II v0 v1 v2 h) (wJ_mStreams_look_II v0 v1 v2 h) h Prod.snd (f_mStreams_look_II v0 v1 v2 h) := by
  unfold f_mStreams_look_II
  refine fe_it ?_ ?_
  · refine fe_it fe_no ?_
    refine fe_it ?_ fe_no
    exact fe_so Fe.rf
  · refine fe_it ?_ ?_
    · refine fe_it fe_no ?_
      refine fe_it ?_ fe_no
      exact fe_so Fe.rf
    · refine fe_it ?_ ?_
      · refine fe_b2 Fe.rf (fe_mStreams_received _ _ _) (fun x k hx => False.elim hx) (fun x k hx => False.elim hx) (fun r13 h11 F1 => ?_)
        exact fe_so F1
      · refine fe_it ?_ ?_
        · refine fe_b2 Fe.rf (fe_mStreams_consumed _ _ _) (fun x k hx => False.elim hx) (fun x k hx => False.elim hx) (fun r18 h16 F2 => ?_)
          exact fe_so F2
        · refine fe_it ?_ ?_
          · refine fe_it fe_no ?_
            refine fe_it ?_ fe_no
            exact fe_so Fe.rf
          · refine fe_it ?_ ?_
            · exact fe_j Fe.rf (fe_mStreams_look_II_b104 _ _ _ _) (fun x k hx => False.elim hx) (fun x k hx => False.elim hx)
            · refine fe_it ?_ ?_
              · exact fe_j Fe.rf (fe_mStreams_look_II_b104 _ _ _ _) (fun x k hx => False.elim hx) (fun x k hx => False.elim hx)
              · refine fe_it ?_ ?_
                · exact fe_j Fe.rf (fe_mStreams_look_II_b118 _ _ _ _) (fun x k hx => False.elim hx) (fun x k hx => False.elim hx)
                · refine fe_it ?_ ?_
                  · exact fe_j Fe.rf (fe_mStreams_look_II_b118 _ _ _ _) (fun x k hx => False.elim hx) (fun x k hx => False.elim hx)
                  · refine fe_it ?_ ?_
                    · exact fe_j Fe.rf (fe_mStreams_look_II_b132 _ _ _ _) (fun x k hx => False.elim hx) (fun x k hx => False.elim hx)
                    · refine fe_it ?_ ?_
                      · exact fe_j Fe.rf (fe_mStreams_look_II_b132 _ _ _ _) (fun x k hx => False.elim hx) (fun x k hx => False.elim hx)
                      · refine fe_it ?_ ?_
                        · exact fe_j Fe.rf (fe_mStreams_look_II_b147 _ _ _ _) (fun x k hx => False.elim hx) (fun x k hx => False.elim hx)
                        · refine fe_it ?_ ?_
                          · exact fe_j Fe.rf (fe_mStreams_look_II_b147 _ _ _ _) (fun x k hx => False.elim hx) (fun x k hx => False.elim hx)
                          · refine fe_it fe_no ?_
                            refine fe_it ?_ fe_no
                            exact fe_so Fe.rf
def wI_mP_streams_b23 (v0 : Nat) (v1 : Int) (v2 : Int) (s0 : Nat) (s1 : Int) (h : Hp) (x k : Nat) : Prop := (x = s0 ∧ k = 0)
def wJ_mP_streams_b23 (v0 : Nat) (v1 : Int) (v2 : Int) (s0 : Nat) (s1 : Int) (h : Hp) (x k : Nat) : Prop := False
def wI_mP_streams_b18 (v0 : Nat) (v1 : Int) (v2 : Int) (s0 : Nat) (h : Hp) (x k : Nat) : Prop := (x = s0 ∧ k = 0)
def wJ_mP_streams_b18 (v0 : Nat) (v1 : Int) (v2 : Int) (s0 : Nat) (h : Hp) (x k : Nat) : Prop := False
def wI_mP_streams (v0 : Nat) (v1 : Int) (v2 : Int) (h : Hp) (x k : Nat) : Prop := (x = v0 ∧ k = 0)
def wJ_mP_streams (v0 : Nat) (v1 : Int) (v2 : Int) (h : Hp) (x k : Nat) : Prop := False
theorem fe_mP_streams_b23 (v0 : Nat) (v1 : Int) (v2 : Int) (s0 : Nat) (s1 : Int) (h : Hp) : Feo (wI_mP_streams_b23 v0 v1 v2 s0 s1 h) (wJ_mP_streams_b23 v0 v1 v2 s0 s1 h) h Prod.snd (f_mP_streams_b23 v0 v1 v2 s0 s1 h) := by
  unfold f_mP_streams_b23
  refine fe_it fe_no ?_
  refine fe_b2 Fe.rf (fe_mP_fails _ _ _ _) (fun x k hx => by simp only [wI_mP_fails] at hx; have e := hx; exact e) (fun x k hx => False.elim hx) (fun r7 h5 F1 => ?_)
  refine fe_it ?_ ?_
  · refine fe_it fe_no ?_
    refine fe_b2 F1 (fe_mStreams_look_II _ _ _ _) (fun x k hx => False.elim hx) (fun x k hx => False.elim hx) (fun r11 h9 F2 => ?_)
    exact fe_so F2
  · exact fe_so F1
theorem fe_mP_streams_b18 (v0 : Nat) (v1 : Int) (v2 : Int) (s0 : Nat) (h : Hp) : Feo (wI_mP_streams_b18 v0 v1 v2 s0 h) (wJ_mP_streams_b18 v0 v1 v2 s0 h) h Prod.snd (f_mP_streams_b18 v0 v1 v2 s0 h) := by
  unfold f_mP_streams_b18
  exact fe_j Fe.rf (fe_mP_streams_b23 _ _ _ _ _ _) (fun x k hx => by simp only [wI_mP_streams_b23] at hx; have e := hx; exact e) (fun x k hx => False.elim hx)
theorem fe_mP_streams (v0 : Nat) (v1 : Int) (v2 : Int) (h : Hp) : Feo (wI_mP_streams v0 v1 v2 h) (wJ_mP_streams v0 v1 v2 h) h Prod.snd (f_mP_streams v0 v1 v2 h) := by
  unfold f_mP_streams
  refine fe_b2 Fe.rf (fe_mP_no _ _) (fun x k hx => False.elim hx) (fun x k hx => False.elim hx) (fun r3 h1 F1 => ?_)
  refine fe_it ?_ ?_
  · exact fe_j F1 (fe_mP_streams_b18 _ _ _ _ _) (fun x k hx => by simp only [wI_mP_streams_b18, F1.r] at hx; have e := hx; exact e) (fun x k hx => False.elim hx)
  · refine fe_it ?_ ?_
    · exact fe_j F1 (fe_mP_streams_b18 _ _ _ _ _) (fun x k hx => by simp only [wI_mP_streams_b18, F1.r] at hx; have e := hx; exact e) (fun x k hx => False.elim hx)
    · refine fe_it ?_ ?_
      · exact fe_j F1 (fe_mP_streams_b23 _ _ _ _ _ _) (fun x k hx => by simp only [wI_mP_streams_b23, F1.r] at hx; have e := hx; exact e) (fun x k hx => False.elim hx)
      · exact fe_j F1 (fe_mP_streams_b18 _ _ _ _ _) (fun x k hx => by simp only [wI_mP_streams_b18, F1.r] at hx; have e := hx; exact e) (fun x k hx => False.elim hx)
