/-! effects (gen/fe.py) -/
def wI_cFrame_streams_b77 (v0 : Nat) (h : Hp) (x k : Nat) : Prop := False
def wJ_cFrame_streams_b77 (v0 : Nat) (h : Hp) (x k : Nat) : Prop := False
def wI_cFrame_streams_b40 (v0 : Nat) (v1 : Nat) (h : Hp) (x k : Nat) : Prop := (x = v0 ∧ k = 8) ∨ (x = v0 ∧ k = 9) ∨ (x = v1 ∧ k = 1) ∨ (x = v1 ∧ k = 3)
def wJ_cFrame_streams_b40 (v0 : Nat) (v1 : Nat) (h : Hp) (x k : Nat) : Prop := False
def wI_cFrame_streams (v0 : Nat) (v1 : Nat) (v2 : Int) (h : Hp) (x k : Nat) : Prop := (x = v0 ∧ k = 8) ∨ (x = v0 ∧ k = 9) ∨ (x = v1 ∧ k = 1) ∨ (x = v1 ∧ k = 3)
def wJ_cFrame_streams (v0 : Nat) (v1 : Nat) (v2 : Int) (h : Hp) (x k : Nat) : Prop := (x = v0 ∧ k = 2) ∨ (x = v0 ∧ k = 3) ∨ (x = v0 ∧ k = 4) ∨ (x = v0 ∧ k = 5)
theorem fe_cFrame_streams_b77 (v0 : Nat) (h : Hp) : Feo (wI_cFrame_streams_b77 v0 h) (wJ_cFrame_streams_b77 v0 h) h Prod.snd (f_cFrame_streams_b77 v0 h) := by
  unfold f_cFrame_streams_b77
  refine fe_b2 Fe.rf (fe_cFrame_allowed _ _) (fun x k hx => False.elim hx) (fun x k hx => False.elim hx) (fun r25 h23 F1 => ?_)
  refine fe_it ?_ fe_no
  exact fe_so F1
theorem fe_cFrame_streams_b40 (v0 : Nat) (v1 : Nat) (h : Hp) : Feo (wI_cFrame_streams_b40 v0 v1 h) (wJ_cFrame_streams_b40 v0 v1 h) h Prod.snd (f_cFrame_streams_b40 v0 v1 h) := by
  unfold f_cFrame_streams_b40
  refine fe_it ?_ ?_
  · refine fe_it fe_no ?_
    refine fe_b2 Fe.rf (fe_cBytes_left _ _) (fun x k hx => False.elim hx) (fun x k hx => False.elim hx) (fun r15 h13 F1 => ?_)
    refine fe_I F1 (Or.inr (Or.inl (⟨rfl, rfl⟩))) (fun h16 F2 => ?_)
    refine fe_b2 F2 (fe_cBytes_pass _ _ _) (fun x k hx => by simp only [wI_cBytes_pass, F1.r, F2.r] at hx; rcases hx with e | e <;> first | exact Or.inr (Or.inr (Or.inl (e))) | exact Or.inr (Or.inr (Or.inr (e)))) (fun x k hx => False.elim hx) (fun r19 h17 F3 => ?_)
    refine fe_I F3 (Or.inl (⟨rfl, rfl⟩)) (fun h20 F4 => ?_)
    exact fe_j F4 (fe_cFrame_streams_b77 _ _) (fun x k hx => False.elim hx) (fun x k hx => False.elim hx)
  · refine fe_b1 Fe.rf (fe_cFrame_slice _ _ _) (fun x k hx => by simp only [wI_cFrame_slice] at hx; rcases hx with e | e | e | e <;> first | exact Or.inl (e) | exact Or.inr (Or.inl (e)) | exact Or.inr (Or.inr (Or.inl (e))) | exact Or.inr (Or.inr (Or.inr (e)))) (fun x k hx => False.elim hx) (fun h21 F5 => ?_)
    exact fe_j F5 (fe_cFrame_streams_b77 _ _) (fun x k hx => False.elim hx) (fun x k hx => False.elim hx)
theorem fe_cFrame_streams (v0 : Nat) (v1 : Nat) (v2 : Int) (h : Hp) : Feo (wI_cFrame_streams v0 v1 v2 h) (wJ_cFrame_streams v0 v1 v2 h) h Prod.snd (f_cFrame_streams v0 v1 v2 h) := by
  unfold f_cFrame_streams
  refine fe_J Fe.rf (Or.inr (Or.inr (Or.inl (⟨rfl, rfl⟩)))) (fun h1 F1 => ?_)
  refine fe_J F1 (Or.inr (Or.inr (Or.inr (⟨rfl, rfl⟩)))) (fun h2 F2 => ?_)
  refine fe_it fe_no ?_
  refine fe_b2 F2 (fe_cBytes_number _ _) (fun x k hx => by simp only [wI_cBytes_number, F1.r, F2.r] at hx; rcases hx with e | e <;> first | exact Or.inr (Or.inr (Or.inl (e))) | exact Or.inr (Or.inr (Or.inr (e)))) (fun x k hx => False.elim hx) (fun r6 h4 F3 => ?_)
  refine fe_J F3 (Or.inl (⟨rfl, rfl⟩)) (fun h7 F4 => ?_)
  refine fe_it ?_ ?_
  · exact fe_j F4 (fe_cFrame_streams_b40 _ _ _) (fun x k hx => by simp only [wI_cFrame_streams_b40, F1.r, F2.r, F3.r, F4.r] at hx; rcases hx with e | e | e | e <;> first | exact Or.inl (e) | exact Or.inr (Or.inl (e)) | exact Or.inr (Or.inr (Or.inl (e))) | exact Or.inr (Or.inr (Or.inr (e)))) (fun x k hx => False.elim hx)
  · refine fe_b2 F4 (fe_cBytes_number _ _) (fun x k hx => by simp only [wI_cBytes_number, F1.r, F2.r, F3.r, F4.r] at hx; rcases hx with e | e <;> first | exact Or.inr (Or.inr (Or.inl (e))) | exact Or.inr (Or.inr (Or.inr (e)))) (fun x k hx => False.elim hx) (fun r10 h8 F5 => ?_)
    refine fe_J F5 (Or.inr (Or.inl (⟨rfl, rfl⟩))) (fun h11 F6 => ?_)
    exact fe_j F6 (fe_cFrame_streams_b40 _ _ _) (fun x k hx => by simp only [wI_cFrame_streams_b40, F1.r, F2.r, F3.r, F4.r, F5.r, F6.r] at hx; rcases hx with e | e | e | e <;> first | exact Or.inl (e) | exact Or.inr (Or.inl (e)) | exact Or.inr (Or.inr (Or.inl (e))) | exact Or.inr (Or.inr (Or.inr (e)))) (fun x k hx => False.elim hx)
def wI_cFrame_names (v0 : Nat) (v1 : Nat) (h : Hp) (x k : Nat) : Prop := (x = v0 ∧ k = 8) ∨ (x = v0 ∧ k = 9) ∨ (x = v0 ∧ k = 10) ∨ (x = v1 ∧ k = 1) ∨ (x = v1 ∧ k = 3)
def wJ_cFrame_names (v0 : Nat) (v1 : Nat) (h : Hp) (x k : Nat) : Prop := (x = v0 ∧ k = 2) ∨ (x = v0 ∧ k = 3)
theorem fe_cFrame_names (v0 : Nat) (v1 : Nat) (h : Hp) : Feo (wI_cFrame_names v0 v1 h) (wJ_cFrame_names v0 v1 h) h Prod.snd (f_cFrame_names v0 v1 h) := by
  unfold f_cFrame_names
  refine fe_it fe_no ?_
  refine fe_b2 Fe.rf (fe_cBytes_number _ _) (fun x k hx => by simp only [wI_cBytes_number] at hx; rcases hx with e | e <;> first | exact Or.inr (Or.inr (Or.inr (Or.inl (e)))) | exact Or.inr (Or.inr (Or.inr (Or.inr (e))))) (fun x k hx => False.elim hx) (fun r4 h2 F1 => ?_)
  refine fe_J F1 (Or.inl (⟨rfl, rfl⟩)) (fun h5 F2 => ?_)
  refine fe_b2 F2 (fe_cBytes_number _ _) (fun x k hx => by simp only [wI_cBytes_number, F1.r, F2.r] at hx; rcases hx with e | e <;> first | exact Or.inr (Or.inr (Or.inr (Or.inl (e)))) | exact Or.inr (Or.inr (Or.inr (Or.inr (e))))) (fun x k hx => False.elim hx) (fun r8 h6 F3 => ?_)
  refine fe_J F3 (Or.inr (⟨rfl, rfl⟩)) (fun h9 F4 => ?_)
  refine fe_b2 F4 (fe_cBytes_one _ _) (fun x k hx => by simp only [wI_cBytes_one, F1.r, F2.r, F3.r, F4.r] at hx; rcases hx with e | e <;> first | exact Or.inr (Or.inr (Or.inr (Or.inl (e)))) | exact Or.inr (Or.inr (Or.inr (Or.inr (e))))) (fun x k hx => False.elim hx) (fun r12 h10 F5 => ?_)
  refine fe_I F5 (Or.inr (Or.inl (⟨rfl, rfl⟩))) (fun h13 F6 => ?_)
  refine fe_b2 F6 (fe_cBytes_pass _ _ _) (fun x k hx => by simp only [wI_cBytes_pass, F1.r, F2.r, F3.r, F4.r, F5.r, F6.r] at hx; rcases hx with e | e <;> first | exact Or.inr (Or.inr (Or.inr (Or.inl (e)))) | exact Or.inr (Or.inr (Or.inr (Or.inr (e))))) (fun x k hx => False.elim hx) (fun r16 h14 F7 => ?_)
  refine fe_I F7 (Or.inl (⟨rfl, rfl⟩)) (fun h17 F8 => ?_)
  refine fe_b2 F8 (fe_cBytes_pass _ _ _) (fun x k hx => by simp only [wI_cBytes_pass, F1.r, F2.r, F3.r, F4.r, F5.r, F6.r, F7.r, F8.r] at hx; rcases hx with e | e <;> first | exact Or.inr (Or.inr (Or.inr (Or.inl (e)))) | exact Or.inr (Or.inr (Or.inr (Or.inr (e))))) (fun x k hx => False.elim hx) (fun r20 h18 F9 => ?_)
  refine fe_I F9 (Or.inr (Or.inr (Or.inl (⟨rfl, rfl⟩)))) (fun h21 F10 => ?_)
  refine fe_b2 F10 (fe_cFrame_allowed _ _) (fun x k hx => False.elim hx) (fun x k hx => False.elim hx) (fun r24 h22 F11 => ?_)
  refine fe_it ?_ fe_no
  exact fe_so F11
def wI_cFrame_carries_b54 (v0 : Nat) (h : Hp) (x k : Nat) : Prop := False
def wJ_cFrame_carries_b54 (v0 : Nat) (h : Hp) (x k : Nat) : Prop := False
def wI_cFrame_carries (v0 : Nat) (h : Hp) (x k : Nat) : Prop := False
def wJ_cFrame_carries (v0 : Nat) (h : Hp) (x k : Nat) : Prop := False
theorem fe_cFrame_carries_b54 (v0 : Nat) (h : Hp) : Feo (wI_cFrame_carries_b54 v0 h) (wJ_cFrame_carries_b54 v0 h) h Prod.snd (f_cFrame_carries_b54 v0 h) := by
  unfold f_cFrame_carries_b54
  exact fe_so Fe.rf
theorem fe_cFrame_carries (v0 : Nat) (h : Hp) : Feo (wI_cFrame_carries v0 h) (wJ_cFrame_carries v0 h) h Prod.snd (f_cFrame_carries v0 h) := by
  unfold f_cFrame_carries
  refine fe_it ?_ ?_
  · exact fe_j Fe.rf (fe_cFrame_carries_b54 _ _) (fun x k hx => False.elim hx) (fun x k hx => False.elim hx)
  · refine fe_it ?_ ?_
    · exact fe_j Fe.rf (fe_cFrame_carries_b54 _ _) (fun x k hx => False.elim hx) (fun x k hx => False.elim hx)
    · refine fe_it ?_ ?_
      · exact fe_j Fe.rf (fe_cFrame_carries_b54 _ _) (fun x k hx => False.elim hx) (fun x k hx => False.elim hx)
      · refine fe_it ?_ ?_
        · exact fe_j Fe.rf (fe_cFrame_carries_b54 _ _) (fun x k hx => False.elim hx) (fun x k hx => False.elim hx)
        · refine fe_it ?_ ?_
          · exact fe_so Fe.rf
          · refine fe_it ?_ ?_
            · exact fe_so Fe.rf
            · exact fe_j Fe.rf (fe_cFrame_carries_b54 _ _) (fun x k hx => False.elim hx) (fun x k hx => False.elim hx)
def wI_cBook_isSent (v0 : Nat) (v1 : Int) (h : Hp) (x k : Nat) : Prop := False
def wJ_cBook_isSent (v0 : Nat) (v1 : Int) (h : Hp) (x k : Nat) : Prop := False
theorem fe_cBook_isSent (v0 : Nat) (v1 : Int) (h : Hp) : Feo (wI_cBook_isSent v0 v1 h) (wJ_cBook_isSent v0 v1 h) h Prod.snd (f_cBook_isSent v0 v1 h) := by
  unfold f_cBook_isSent
  refine fe_it fe_no ?_
  refine fe_it ?_ fe_no
  refine fe_it fe_no ?_
  refine fe_it ?_ fe_no
  refine fe_it fe_no ?_
  refine fe_it ?_ ?_
  · exact fe_so Fe.rf
  · exact fe_so Fe.rf
def wI_cSpace_state (v0 : Nat) (v1 : Int) (h : Hp) (x k : Nat) : Prop := False
def wJ_cSpace_state (v0 : Nat) (v1 : Int) (h : Hp) (x k : Nat) : Prop := False
theorem fe_cSpace_state (v0 : Nat) (v1 : Int) (h : Hp) : Feo (wI_cSpace_state v0 v1 h) (wJ_cSpace_state v0 v1 h) h Prod.snd (f_cSpace_state v0 v1 h) := by
  unfold f_cSpace_state
  refine fe_it ?_ ?_
  · refine fe_it fe_no ?_
    refine fe_it ?_ fe_no
    exact fe_so Fe.rf
  · exact fe_so Fe.rf
def wI_cTrip_sample_b73 (v0 : Nat) (s0 : Int) (h : Hp) (x k : Nat) : Prop := (x = v0 ∧ k = 0) ∨ (x = v0 ∧ k = 1)
def wJ_cTrip_sample_b73 (v0 : Nat) (s0 : Int) (h : Hp) (x k : Nat) : Prop := False
def wI_cTrip_sample_b25 (v0 : Nat) (v1 : Int) (v2 : Int) (v3 : Int) (s0 : Nat) (s1 : Int) (h : Hp) (x k : Nat) : Prop := (x = s0 ∧ k = 3) ∨ (x = v0 ∧ k = 0) ∨ (x = v0 ∧ k = 1) ∨ (x = v0 ∧ k = 4)
def wJ_cTrip_sample_b25 (v0 : Nat) (v1 : Int) (v2 : Int) (v3 : Int) (s0 : Nat) (s1 : Int) (h : Hp) (x k : Nat) : Prop := False
def wI_cTrip_sample (v0 : Nat) (v1 : Int) (v2 : Int) (v3 : Int) (h : Hp) (x k : Nat) : Prop := (x = v0 ∧ k = 0) ∨ (x = v0 ∧ k = 1) ∨ (x = v0 ∧ k = 2) ∨ (x = v0 ∧ k = 3) ∨ (x = v0 ∧ k = 4)
def wJ_cTrip_sample (v0 : Nat) (v1 : Int) (v2 : Int) (v3 : Int) (h : Hp) (x k : Nat) : Prop := False
theorem fe_cTrip_sample_b73 (v0 : Nat) (s0 : Int) (h : Hp) : Feo (wI_cTrip_sample_b73 v0 s0 h) (wJ_cTrip_sample_b73 v0 s0 h) h id (f_cTrip_sample_b73 v0 s0 h) := by
  unfold f_cTrip_sample_b73
  refine fe_I Fe.rf (Or.inr (⟨rfl, rfl⟩)) (fun h7 F1 => ?_)
  refine fe_I F1 (Or.inl (⟨rfl, rfl⟩)) (fun h8 F2 => ?_)
  exact fe_so F2
theorem fe_cTrip_sample_b25 (v0 : Nat) (v1 : Int) (v2 : Int) (v3 : Int) (s0 : Nat) (s1 : Int) (h : Hp) : Feo (wI_cTrip_sample_b25 v0 v1 v2 v3 s0 s1 h) (wJ_cTrip_sample_b25 v0 v1 v2 v3 s0 s1 h) h id (f_cTrip_sample_b25 v0 v1 v2 v3 s0 s1 h) := by
  unfold f_cTrip_sample_b25
  refine fe_it fe_no ?_
  refine fe_I Fe.rf (Or.inl (⟨rfl, rfl⟩)) (fun h3 F1 => ?_)
  refine fe_it ?_ ?_
  · refine fe_it ?_ ?_
    · exact fe_j F1 (fe_cTrip_sample_b73 _ _ _) (fun x k hx => by simp only [wI_cTrip_sample_b73, F1.r] at hx; rcases hx with e | e <;> first | exact Or.inr (Or.inl (e)) | exact Or.inr (Or.inr (Or.inl (e)))) (fun x k hx => False.elim hx)
    · exact fe_j F1 (fe_cTrip_sample_b73 _ _ _) (fun x k hx => by simp only [wI_cTrip_sample_b73, F1.r] at hx; rcases hx with e | e <;> first | exact Or.inr (Or.inl (e)) | exact Or.inr (Or.inr (Or.inl (e)))) (fun x k hx => False.elim hx)
  · refine fe_I F1 (Or.inr (Or.inr (Or.inr (⟨rfl, rfl⟩)))) (fun h4 F2 => ?_)
    refine fe_I F2 (Or.inr (Or.inl (⟨rfl, rfl⟩))) (fun h5 F3 => ?_)
    refine fe_I F3 (Or.inr (Or.inr (Or.inl (⟨rfl, rfl⟩)))) (fun h6 F4 => ?_)
    exact fe_so F4
theorem fe_cTrip_sample (v0 : Nat) (v1 : Int) (v2 : Int) (v3 : Int) (h : Hp) : Feo (wI_cTrip_sample v0 v1 v2 v3 h) (wJ_cTrip_sample v0 v1 v2 v3 h) h id (f_cTrip_sample v0 v1 v2 v3 h) := by
  unfold f_cTrip_sample
  refine fe_I Fe.rf (Or.inr (Or.inr (Or.inl (⟨rfl, rfl⟩)))) (fun h1 F1 => ?_)
  refine fe_it ?_ ?_
  · exact fe_j F1 (fe_cTrip_sample_b25 _ _ _ _ _ _ _) (fun x k hx => by simp only [wI_cTrip_sample_b25, F1.r] at hx; rcases hx with e | e | e | e <;> first | exact Or.inl (e) | exact Or.inr (Or.inl (e)) | exact Or.inr (Or.inr (Or.inr (Or.inl (e)))) | exact Or.inr (Or.inr (Or.inr (Or.inr (e))))) (fun x k hx => False.elim hx)
  · exact fe_j F1 (fe_cTrip_sample_b25 _ _ _ _ _ _ _) (fun x k hx => by simp only [wI_cTrip_sample_b25, F1.r] at hx; rcases hx with e | e | e | e <;> first | exact Or.inl (e) | exact Or.inr (Or.inl (e)) | exact Or.inr (Or.inr (Or.inr (Or.inl (e)))) | exact Or.inr (Or.inr (Or.inr (Or.inr (e))))) (fun x k hx => False.elim hx)
def wI_cSpace_settle_b85 (v0 : Nat) (v1 : Int) (h : Hp) (x k : Nat) : Prop := False
def wJ_cSpace_settle_b85 (v0 : Nat) (v1 : Int) (h : Hp) (x k : Nat) : Prop := False
def wI_cSpace_settle_b47 (v0 : Nat) (v1 : Int) (h : Hp) (x k : Nat) : Prop := (x = v0 ∧ k = 9)
def wJ_cSpace_settle_b47 (v0 : Nat) (v1 : Int) (h : Hp) (x k : Nat) : Prop := False
def wI_cSpace_settle (v0 : Nat) (v1 : Int) (v2 : Int) (h : Hp) (x k : Nat) : Prop := x = hR h v0 2 ∨ (x = v0 ∧ k = 4) ∨ (x = v0 ∧ k = 5) ∨ (x = v0 ∧ k = 9)
def wJ_cSpace_settle (v0 : Nat) (v1 : Int) (v2 : Int) (h : Hp) (x k : Nat) : Prop := False
theorem fe_cSpace_settle_b85 (v0 : Nat) (v1 : Int) (h : Hp) : Feo (wI_cSpace_settle_b85 v0 v1 h) (wJ_cSpace_settle_b85 v0 v1 h) h Prod.snd (f_cSpace_settle_b85 v0 v1 h) := by
  unfold f_cSpace_settle_b85
  refine fe_b2 Fe.rf (fe_cSpace_is _ _ _ _) (fun x k hx => False.elim hx) (fun x k hx => False.elim hx) (fun r15 h13 F1 => ?_)
  refine fe_it ?_ ?_
  · exact fe_so F1
  · refine fe_it fe_no ?_
    refine fe_it ?_ fe_no
    exact fe_so F1
theorem fe_cSpace_settle_b47 {k47 : Nat → Int → Hp → Option (Int × Hp)} (hk47 : ∀ (v0 : Nat) (v1 : Int) (h : Hp), Feo (wI_cSpace_settle_b47 v0 v1 h) (wJ_cSpace_settle_b47 v0 v1 h) h Prod.snd (k47 v0 v1 h)) (v0 : Nat) (v1 : Int) (h : Hp) : Feo (wI_cSpace_settle_b47 v0 v1 h) (wJ_cSpace_settle_b47 v0 v1 h) h Prod.snd (f_cSpace_settle_b47 k47 v0 v1 h) := by
  unfold f_cSpace_settle_b47
  refine fe_it ?_ ?_
  · exact fe_j Fe.rf (fe_cSpace_settle_b85 _ _ _) (fun x k hx => False.elim hx) (fun x k hx => False.elim hx)
  · refine fe_it fe_no ?_
    refine fe_it ?_ fe_no
    refine fe_it ?_ ?_
    · exact fe_j Fe.rf (fe_cSpace_settle_b85 _ _ _) (fun x k hx => False.elim hx) (fun x k hx => False.elim hx)
    · refine fe_I Fe.rf (⟨rfl, rfl⟩) (fun h12 F1 => ?_)
      exact fe_j F1 (hk47 _ _ _) (fun x k hx => by simp only [wI_cSpace_settle_b47, F1.r] at hx; have e := hx; exact e) (fun x k hx => False.elim hx)
theorem fe_cSpace_settle_b47_lp (n : Nat) : ∀ (v0 : Nat) (v1 : Int) (h : Hp), Feo (wI_cSpace_settle_b47 v0 v1 h) (wJ_cSpace_settle_b47 v0 v1 h) h Prod.snd (f_cSpace_settle_b47_lp n v0 v1 h) := by
  induction n with
  | zero => intro v0 v1 h; exact fe_no
  | succ n ih => intro v0 v1 h; exact fe_cSpace_settle_b47 ih v0 v1 h
theorem fe_cSpace_settle (v0 : Nat) (v1 : Int) (v2 : Int) (h : Hp) : Feo (wI_cSpace_settle v0 v1 v2 h) (wJ_cSpace_settle v0 v1 v2 h) h Prod.snd (f_cSpace_settle v0 v1 v2 h) := by
  unfold f_cSpace_settle
  refine fe_it fe_no ?_
  refine fe_it ?_ fe_no
  refine fe_it ?_ fe_no
  refine fe_I Fe.rf (Or.inl (rfl)) (fun h4 F1 => ?_)
  refine fe_I F1 (Or.inr (Or.inl (⟨rfl, rfl⟩))) (fun h5 F2 => ?_)
  refine fe_b2 F2 (fe_cSpace_is _ _ _ _) (fun x k hx => False.elim hx) (fun x k hx => False.elim hx) (fun r8 h6 F3 => ?_)
  refine fe_it ?_ ?_
  · exact fe_j F3 (fe_cSpace_settle_b47_lp FU _ _ _) (fun x k hx => by simp only [wI_cSpace_settle_b47, F1.r, F2.r, F3.r] at hx; have e := hx; exact Or.inr (Or.inr (Or.inr (e)))) (fun x k hx => False.elim hx)
  · refine fe_I F3 (Or.inr (Or.inr (Or.inl (⟨rfl, rfl⟩)))) (fun h9 F4 => ?_)
    exact fe_j F4 (fe_cSpace_settle_b47_lp FU _ _ _) (fun x k hx => by simp only [wI_cSpace_settle_b47, F1.r, F2.r, F3.r, F4.r] at hx; have e := hx; exact Or.inr (Or.inr (Or.inr (e)))) (fun x k hx => False.elim hx)
def wI_cWindow_grow_b50 (v0 : Nat) (s0 : Nat) (s1 : Int) (s2 : Int) (h : Hp) (x k : Nat) : Prop := (x = s0 ∧ k = 0)
def wJ_cWindow_grow_b50 (v0 : Nat) (s0 : Nat) (s1 : Int) (s2 : Int) (h : Hp) (x k : Nat) : Prop := False
def wI_cWindow_grow_b36 (v0 : Nat) (v2 : Int) (s0 : Nat) (s1 : Int) (h : Hp) (x k : Nat) : Prop := (x = s0 ∧ k = 0)
def wJ_cWindow_grow_b36 (v0 : Nat) (v2 : Int) (s0 : Nat) (s1 : Int) (h : Hp) (x k : Nat) : Prop := False
def wI_cWindow_grow (v0 : Nat) (v1 : Int) (v2 : Int) (v3 : Int) (h : Hp) (x k : Nat) : Prop := (x = v0 ∧ k = 0)
def wJ_cWindow_grow (v0 : Nat) (v1 : Int) (v2 : Int) (v3 : Int) (h : Hp) (x k : Nat) : Prop := False
theorem fe_cWindow_grow_b50 (v0 : Nat) (s0 : Nat) (s1 : Int) (s2 : Int) (h : Hp) : Feo (wI_cWindow_grow_b50 v0 s0 s1 s2 h) (wJ_cWindow_grow_b50 v0 s0 s1 s2 h) h id (f_cWindow_grow_b50 v0 s0 s1 s2 h) := by
  unfold f_cWindow_grow_b50
  refine fe_it fe_no ?_
  refine fe_I Fe.rf (⟨rfl, rfl⟩) (fun h3 F1 => ?_)
  exact fe_so F1
theorem fe_cWindow_grow_b36 (v0 : Nat) (v2 : Int) (s0 : Nat) (s1 : Int) (h : Hp) : Feo (wI_cWindow_grow_b36 v0 v2 s0 s1 h) (wJ_cWindow_grow_b36 v0 v2 s0 s1 h) h id (f_cWindow_grow_b36 v0 v2 s0 s1 h) := by
  unfold f_cWindow_grow_b36
  exact fe_j Fe.rf (fe_cWindow_grow_b50 _ _ _ _ _) (fun x k hx => by simp only [wI_cWindow_grow_b50] at hx; have e := hx; exact e) (fun x k hx => False.elim hx)
theorem fe_cWindow_grow (v0 : Nat) (v1 : Int) (v2 : Int) (v3 : Int) (h : Hp) : Feo (wI_cWindow_grow v0 v1 v2 v3 h) (wJ_cWindow_grow v0 v1 v2 v3 h) h id (f_cWindow_grow v0 v1 v2 v3 h) := by
  unfold f_cWindow_grow
  refine fe_it ?_ ?_
  · exact fe_so Fe.rf
  · refine fe_it ?_ ?_
    · refine fe_it ?_ ?_
      · exact fe_j Fe.rf (fe_cWindow_grow_b36 _ _ _ _ _) (fun x k hx => by simp only [wI_cWindow_grow_b36] at hx; have e := hx; exact e) (fun x k hx => False.elim hx)
      · refine fe_it ?_ ?_
        · refine fe_it fe_no ?_
          exact fe_j Fe.rf (fe_cWindow_grow_b50 _ _ _ _ _) (fun x k hx => by simp only [wI_cWindow_grow_b50] at hx; have e := hx; exact e) (fun x k hx => False.elim hx)
        · exact fe_j Fe.rf (fe_cWindow_grow_b36 _ _ _ _ _) (fun x k hx => by simp only [wI_cWindow_grow_b36] at hx; have e := hx; exact e) (fun x k hx => False.elim hx)
    · exact fe_so Fe.rf
def wI_cTrip_limit (v0 : Nat) (h : Hp) (x k : Nat) : Prop := False
def wJ_cTrip_limit (v0 : Nat) (h : Hp) (x k : Nat) : Prop := False
theorem fe_cTrip_limit (v0 : Nat) (h : Hp) : Feo (wI_cTrip_limit v0 h) (wJ_cTrip_limit v0 h) h Prod.snd (f_cTrip_limit v0 h) := by
  unfold f_cTrip_limit
  exact fe_so Fe.rf
def wI_cWindow_shrink (v0 : Nat) (v1 : Int) (v2 : Int) (h : Hp) (x k : Nat) : Prop := (x = v0 ∧ k = 0) ∨ (x = v0 ∧ k = 1) ∨ (x = v0 ∧ k = 2)
def wJ_cWindow_shrink (v0 : Nat) (v1 : Int) (v2 : Int) (h : Hp) (x k : Nat) : Prop := False
theorem fe_cWindow_shrink (v0 : Nat) (v1 : Int) (v2 : Int) (h : Hp) : Feo (wI_cWindow_shrink v0 v1 v2 h) (wJ_cWindow_shrink v0 v1 v2 h) h id (f_cWindow_shrink v0 v1 v2 h) := by
  unfold f_cWindow_shrink
  refine fe_it ?_ ?_
  · refine fe_I Fe.rf (Or.inr (Or.inr (⟨rfl, rfl⟩))) (fun h1 F1 => ?_)
    refine fe_I F1 (Or.inr (Or.inl (⟨rfl, rfl⟩))) (fun h2 F2 => ?_)
    refine fe_I F2 (Or.inl (⟨rfl, rfl⟩)) (fun h3 F3 => ?_)
    exact fe_so F3
  · exact fe_so Fe.rf
def wI_cBook_persists_b60 (v0 : Nat) (v1 : Nat) (v3 : Int) (v5 : Int) (s0 : Int) (h : Hp) (x k : Nat) : Prop := False
def wJ_cBook_persists_b60 (v0 : Nat) (v1 : Nat) (v3 : Int) (v5 : Int) (s0 : Int) (h : Hp) (x k : Nat) : Prop := False
def wI_cBook_persists_b59 (v0 : Nat) (v1 : Nat) (v3 : Int) (v5 : Int) (h : Hp) (x k : Nat) : Prop := False
def wJ_cBook_persists_b59 (v0 : Nat) (v1 : Nat) (v3 : Int) (v5 : Int) (h : Hp) (x k : Nat) : Prop := False
def wI_cBook_persists_b34 (v0 : Nat) (v1 : Nat) (v3 : Int) (v4 : Int) (v5 : Int) (h : Hp) (x k : Nat) : Prop := False
def wJ_cBook_persists_b34 (v0 : Nat) (v1 : Nat) (v3 : Int) (v4 : Int) (v5 : Int) (h : Hp) (x k : Nat) : Prop := False
def wI_cBook_persists (v0 : Nat) (v1 : Nat) (v2 : Int) (v3 : Int) (h : Hp) (x k : Nat) : Prop := False
def wJ_cBook_persists (v0 : Nat) (v1 : Nat) (v2 : Int) (v3 : Int) (h : Hp) (x k : Nat) : Prop := False
theorem fe_cBook_persists_b60 {k34 : Nat → Nat → Int → Int → Int → Hp → Option (Int × Hp)} (hk34 : ∀ (v0 : Nat) (v1 : Nat) (v3 : Int) (v4 : Int) (v5 : Int) (h : Hp), Feo (wI_cBook_persists_b34 v0 v1 v3 v4 v5 h) (wJ_cBook_persists_b34 v0 v1 v3 v4 v5 h) h Prod.snd (k34 v0 v1 v3 v4 v5 h)) (v0 : Nat) (v1 : Nat) (v3 : Int) (v5 : Int) (s0 : Int) (h : Hp) : Feo (wI_cBook_persists_b60 v0 v1 v3 v5 s0 h) (wJ_cBook_persists_b60 v0 v1 v3 v5 s0 h) h Prod.snd (f_cBook_persists_b60 k34 v0 v1 v3 v5 s0 h) := by
  unfold f_cBook_persists_b60
  exact fe_j Fe.rf (hk34 _ _ _ _ _ _) (fun x k hx => False.elim hx) (fun x k hx => False.elim hx)
theorem fe_cBook_persists_b59 {k34 : Nat → Nat → Int → Int → Int → Hp → Option (Int × Hp)} (hk34 : ∀ (v0 : Nat) (v1 : Nat) (v3 : Int) (v4 : Int) (v5 : Int) (h : Hp), Feo (wI_cBook_persists_b34 v0 v1 v3 v4 v5 h) (wJ_cBook_persists_b34 v0 v1 v3 v4 v5 h) h Prod.snd (k34 v0 v1 v3 v4 v5 h)) (v0 : Nat) (v1 : Nat) (v3 : Int) (v5 : Int) (h : Hp) : Feo (wI_cBook_persists_b59 v0 v1 v3 v5 h) (wJ_cBook_persists_b59 v0 v1 v3 v5 h) h Prod.snd (f_cBook_persists_b59 k34 v0 v1 v3 v5 h) := by
  unfold f_cBook_persists_b59
  exact fe_j Fe.rf (fe_cBook_persists_b60 hk34 _ _ _ _ _ _) (fun x k hx => False.elim hx) (fun x k hx => False.elim hx)
theorem fe_cBook_persists_b34 {k34 : Nat → Nat → Int → Int → Int → Hp → Option (Int × Hp)} (hk34 : ∀ (v0 : Nat) (v1 : Nat) (v3 : Int) (v4 : Int) (v5 : Int) (h : Hp), Feo (wI_cBook_persists_b34 v0 v1 v3 v4 v5 h) (wJ_cBook_persists_b34 v0 v1 v3 v4 v5 h) h Prod.snd (k34 v0 v1 v3 v4 v5 h)) (v0 : Nat) (v1 : Nat) (v3 : Int) (v4 : Int) (v5 : Int) (h : Hp) : Feo (wI_cBook_persists_b34 v0 v1 v3 v4 v5 h) (wJ_cBook_persists_b34 v0 v1 v3 v4 v5 h) h Prod.snd (f_cBook_persists_b34 k34 v0 v1 v3 v4 v5 h) := by
  unfold f_cBook_persists_b34
  refine fe_it ?_ ?_
  · refine fe_it ?_ fe_no
    exact fe_so Fe.rf
  · refine fe_it ?_ ?_
    · exact fe_j Fe.rf (fe_cBook_persists_b59 hk34 _ _ _ _ _) (fun x k hx => False.elim hx) (fun x k hx => False.elim hx)
    · refine fe_it fe_no ?_
      refine fe_b2 Fe.rf (fe_cSpace_state _ _ _) (fun x k hx => False.elim hx) (fun x k hx => False.elim hx) (fun r13 h11 F1 => ?_)
      refine fe_it ?_ ?_
      · exact fe_j F1 (fe_cBook_persists_b59 hk34 _ _ _ _ _) (fun x k hx => False.elim hx) (fun x k hx => False.elim hx)
      · exact fe_j F1 (fe_cBook_persists_b60 hk34 _ _ _ _ _ _) (fun x k hx => False.elim hx) (fun x k hx => False.elim hx)
theorem fe_cBook_persists_b34_lp (n : Nat) : ∀ (v0 : Nat) (v1 : Nat) (v3 : Int) (v4 : Int) (v5 : Int) (h : Hp), Feo (wI_cBook_persists_b34 v0 v1 v3 v4 v5 h) (wJ_cBook_persists_b34 v0 v1 v3 v4 v5 h) h Prod.snd (f_cBook_persists_b34_lp n v0 v1 v3 v4 v5 h) := by
  induction n with
  | zero => intro v0 v1 v3 v4 v5 h; exact fe_no
  | succ n ih => intro v0 v1 v3 v4 v5 h; exact fe_cBook_persists_b34 ih v0 v1 v3 v4 v5 h
theorem fe_cBook_persists (v0 : Nat) (v1 : Nat) (v2 : Int) (v3 : Int) (h : Hp) : Feo (wI_cBook_persists v0 v1 v2 v3 h) (wJ_cBook_persists v0 v1 v2 v3 h) h Prod.snd (f_cBook_persists v0 v1 v2 v3 h) := by
  unfold f_cBook_persists
  refine fe_it fe_no ?_
  refine fe_it fe_no ?_
  refine fe_it ?_ fe_no
  refine fe_it ?_ fe_no
  refine fe_it fe_no ?_
  refine fe_b2 Fe.rf (fe_cTrip_patience _ _ _) (fun x k hx => False.elim hx) (fun x k hx => False.elim hx) (fun r8 h6 F1 => ?_)
  refine fe_it ?_ ?_
  · exact fe_j F1 (fe_cBook_persists_b34_lp FU _ _ _ _ _ _) (fun x k hx => False.elim hx) (fun x k hx => False.elim hx)
  · exact fe_so F1
def wI_cWindow_collapse (v0 : Nat) (h : Hp) (x k : Nat) : Prop := (x = v0 ∧ k = 0) ∨ (x = v0 ∧ k = 2)
def wJ_cWindow_collapse (v0 : Nat) (h : Hp) (x k : Nat) : Prop := False
theorem fe_cWindow_collapse (v0 : Nat) (h : Hp) : Feo (wI_cWindow_collapse v0 h) (wJ_cWindow_collapse v0 h) h id (f_cWindow_collapse v0 h) := by
  unfold f_cWindow_collapse
  refine fe_I Fe.rf (Or.inl (⟨rfl, rfl⟩)) (fun h1 F1 => ?_)
  refine fe_I F1 (Or.inr (⟨rfl, rfl⟩)) (fun h2 F2 => ?_)
  exact fe_so F2
def wI_cQueue_next (v0 : Nat) (h : Hp) (x k : Nat) : Prop := (x = v0 ∧ k = 1)
def wJ_cQueue_next (v0 : Nat) (h : Hp) (x k : Nat) : Prop := False
theorem fe_cQueue_next (v0 : Nat) (h : Hp) : Feo (wI_cQueue_next v0 h) (wJ_cQueue_next v0 h) h Prod.snd (f_cQueue_next v0 h) := by
  unfold f_cQueue_next
  refine fe_it ?_ ?_
  · refine fe_I Fe.rf (⟨rfl, rfl⟩) (fun h1 F1 => ?_)
    refine fe_it fe_no ?_
    refine fe_it ?_ fe_no
    exact fe_so F1
  · exact fe_so Fe.rf
def wI_cCargo_end (v0 : Nat) (v1 : Int) (h : Hp) (x k : Nat) : Prop := False
def wJ_cCargo_end (v0 : Nat) (v1 : Int) (h : Hp) (x k : Nat) : Prop := False
theorem fe_cCargo_end (v0 : Nat) (v1 : Int) (h : Hp) : Feo (wI_cCargo_end v0 v1 h) (wJ_cCargo_end v0 v1 h) h Prod.snd (f_cCargo_end v0 v1 h) := by
  unfold f_cCargo_end
  refine fe_it ?_ ?_
  · exact fe_so Fe.rf
  · refine fe_it fe_no ?_
    refine fe_it ?_ fe_no
    exact fe_so Fe.rf
def wI_cCrypto_gone_b43 (v0 : Nat) (v1 : Int) (v3 : Int) (v4 : Int) (v5 : Int) (h : Hp) (x k : Nat) : Prop := x = (hR h v0 0)
def wJ_cCrypto_gone_b43 (v0 : Nat) (v1 : Int) (v3 : Int) (v4 : Int) (v5 : Int) (h : Hp) (x k : Nat) : Prop := False
def wI_cCrypto_gone_b42 (v0 : Nat) (v1 : Int) (v3 : Int) (v4 : Int) (v5 : Int) (s0 : Nat) (s1 : Int) (s2 : Int) (h : Hp) (x k : Nat) : Prop := x = (hR h v0 0) ∨ x = s0
def wJ_cCrypto_gone_b42 (v0 : Nat) (v1 : Int) (v3 : Int) (v4 : Int) (v5 : Int) (s0 : Nat) (s1 : Int) (s2 : Int) (h : Hp) (x k : Nat) : Prop := False
def wI_cCrypto_gone_b4 (v0 : Nat) (v1 : Int) (v3 : Int) (v4 : Int) (v5 : Int) (h : Hp) (x k : Nat) : Prop := x = (hR h v0 0)
def wJ_cCrypto_gone_b4 (v0 : Nat) (v1 : Int) (v3 : Int) (v4 : Int) (v5 : Int) (h : Hp) (x k : Nat) : Prop := False
def wI_cCrypto_gone (v0 : Nat) (v1 : Int) (v3 : Int) (v4 : Int) (h : Hp) (x k : Nat) : Prop := x = (hR h v0 0)
def wJ_cCrypto_gone (v0 : Nat) (v1 : Int) (v3 : Int) (v4 : Int) (h : Hp) (x k : Nat) : Prop := False
theorem fe_cCrypto_gone_b43 {k4 : Nat → Int → Int → Int → Int → Hp → Option (Hp)} (hk4 : ∀ (v0 : Nat) (v1 : Int) (v3 : Int) (v4 : Int) (v5 : Int) (h : Hp), Feo (wI_cCrypto_gone_b4 v0 v1 v3 v4 v5 h) (wJ_cCrypto_gone_b4 v0 v1 v3 v4 v5 h) h id (k4 v0 v1 v3 v4 v5 h)) (v0 : Nat) (v1 : Int) (v3 : Int) (v4 : Int) (v5 : Int) (h : Hp) : Feo (wI_cCrypto_gone_b43 v0 v1 v3 v4 v5 h) (wJ_cCrypto_gone_b43 v0 v1 v3 v4 v5 h) h id (f_cCrypto_gone_b43 k4 v0 v1 v3 v4 v5 h) := by
  unfold f_cCrypto_gone_b43
  exact fe_j Fe.rf (hk4 _ _ _ _ _ _) (fun x k hx => by simp only [wI_cCrypto_gone_b4] at hx; have e := hx; exact e) (fun x k hx => False.elim hx)
theorem fe_cCrypto_gone_b42 {k4 : Nat → Int → Int → Int → Int → Hp → Option (Hp)} (hk4 : ∀ (v0 : Nat) (v1 : Int) (v3 : Int) (v4 : Int) (v5 : Int) (h : Hp), Feo (wI_cCrypto_gone_b4 v0 v1 v3 v4 v5 h) (wJ_cCrypto_gone_b4 v0 v1 v3 v4 v5 h) h id (k4 v0 v1 v3 v4 v5 h)) (v0 : Nat) (v1 : Int) (v3 : Int) (v4 : Int) (v5 : Int) (s0 : Nat) (s1 : Int) (s2 : Int) (h : Hp) : Feo (wI_cCrypto_gone_b42 v0 v1 v3 v4 v5 s0 s1 s2 h) (wJ_cCrypto_gone_b42 v0 v1 v3 v4 v5 s0 s1 s2 h) h id (f_cCrypto_gone_b42 k4 v0 v1 v3 v4 v5 s0 s1 s2 h) := by
  unfold f_cCrypto_gone_b42
  refine fe_it fe_no ?_
  refine fe_it ?_ fe_no
  refine fe_I Fe.rf (Or.inr (rfl)) (fun h6 F1 => ?_)
  exact fe_j F1 (fe_cCrypto_gone_b43 hk4 _ _ _ _ _ _) (fun x k hx => by simp only [wI_cCrypto_gone_b43, F1.r] at hx; have e := hx; exact Or.inl (e)) (fun x k hx => False.elim hx)
theorem fe_cCrypto_gone_b4 {k4 : Nat → Int → Int → Int → Int → Hp → Option (Hp)} (hk4 : ∀ (v0 : Nat) (v1 : Int) (v3 : Int) (v4 : Int) (v5 : Int) (h : Hp), Feo (wI_cCrypto_gone_b4 v0 v1 v3 v4 v5 h) (wJ_cCrypto_gone_b4 v0 v1 v3 v4 v5 h) h id (k4 v0 v1 v3 v4 v5 h)) (v0 : Nat) (v1 : Int) (v3 : Int) (v4 : Int) (v5 : Int) (h : Hp) : Feo (wI_cCrypto_gone_b4 v0 v1 v3 v4 v5 h) (wJ_cCrypto_gone_b4 v0 v1 v3 v4 v5 h) h id (f_cCrypto_gone_b4 k4 v0 v1 v3 v4 v5 h) := by
  unfold f_cCrypto_gone_b4
  refine fe_it ?_ ?_
  · exact fe_so Fe.rf
  · refine fe_it fe_no ?_
    refine fe_it ?_ fe_no
    refine fe_it ?_ ?_
    · exact fe_j Fe.rf (fe_cCrypto_gone_b43 hk4 _ _ _ _ _ _) (fun x k hx => by simp only [wI_cCrypto_gone_b43] at hx; have e := hx; exact e) (fun x k hx => False.elim hx)
    · refine fe_it ?_ ?_
      · exact fe_j Fe.rf (fe_cCrypto_gone_b42 hk4 _ _ _ _ _ _ _ _ _) (fun x k hx => by simp only [wI_cCrypto_gone_b42] at hx; rcases hx with e | e <;> first | exact e) (fun x k hx => False.elim hx)
      · exact fe_j Fe.rf (fe_cCrypto_gone_b42 hk4 _ _ _ _ _ _ _ _ _) (fun x k hx => by simp only [wI_cCrypto_gone_b42] at hx; rcases hx with e | e <;> first | exact e) (fun x k hx => False.elim hx)
theorem fe_cCrypto_gone_b4_lp (n : Nat) : ∀ (v0 : Nat) (v1 : Int) (v3 : Int) (v4 : Int) (v5 : Int) (h : Hp), Feo (wI_cCrypto_gone_b4 v0 v1 v3 v4 v5 h) (wJ_cCrypto_gone_b4 v0 v1 v3 v4 v5 h) h id (f_cCrypto_gone_b4_lp n v0 v1 v3 v4 v5 h) := by
  induction n with
  | zero => intro v0 v1 v3 v4 v5 h; exact fe_no
  | succ n ih => intro v0 v1 v3 v4 v5 h; exact fe_cCrypto_gone_b4 ih v0 v1 v3 v4 v5 h
theorem fe_cCrypto_gone (v0 : Nat) (v1 : Int) (v3 : Int) (v4 : Int) (h : Hp) : Feo (wI_cCrypto_gone v0 v1 v3 v4 h) (wJ_cCrypto_gone v0 v1 v3 v4 h) h id (f_cCrypto_gone v0 v1 v3 v4 h) := by
  unfold f_cCrypto_gone
  refine fe_v (fun y1 => ?_)
  exact fe_j Fe.rf (fe_cCrypto_gone_b4_lp FU _ _ _ _ _ _) (fun x k hx => by simp only [wI_cCrypto_gone_b4] at hx; have e := hx; exact e) (fun x k hx => False.elim hx)
def wI_cSpans_release (v0 : Nat) (v1 : Int) (h : Hp) (x k : Nat) : Prop := x = hR h v0 2 ∨ (x = v0 ∧ k = 4)
def wJ_cSpans_release (v0 : Nat) (v1 : Int) (h : Hp) (x k : Nat) : Prop := False
theorem fe_cSpans_release (v0 : Nat) (v1 : Int) (h : Hp) : Feo (wI_cSpans_release v0 v1 h) (wJ_cSpans_release v0 v1 h) h id (f_cSpans_release v0 v1 h) := by
  unfold f_cSpans_release
  refine fe_it fe_no ?_
  refine fe_it ?_ fe_no
  refine fe_I Fe.rf (Or.inl (rfl)) (fun h3 F1 => ?_)
  refine fe_I F1 (Or.inr (⟨rfl, rfl⟩)) (fun h4 F2 => ?_)
  exact fe_so F2
def wI_cSpans_count_b4 (v0 : Nat) (v2 : Int) (v3 : Int) (h : Hp) (x k : Nat) : Prop := False
def wJ_cSpans_count_b4 (v0 : Nat) (v2 : Int) (v3 : Int) (h : Hp) (x k : Nat) : Prop := False
def wI_cSpans_count (v0 : Nat) (v1 : Int) (h : Hp) (x k : Nat) : Prop := False
def wJ_cSpans_count (v0 : Nat) (v1 : Int) (h : Hp) (x k : Nat) : Prop := False
theorem fe_cSpans_count_b4 {k4 : Nat → Int → Int → Hp → Option (Int × Hp)} (hk4 : ∀ (v0 : Nat) (v2 : Int) (v3 : Int) (h : Hp), Feo (wI_cSpans_count_b4 v0 v2 v3 h) (wJ_cSpans_count_b4 v0 v2 v3 h) h Prod.snd (k4 v0 v2 v3 h)) (v0 : Nat) (v2 : Int) (v3 : Int) (h : Hp) : Feo (wI_cSpans_count_b4 v0 v2 v3 h) (wJ_cSpans_count_b4 v0 v2 v3 h) h Prod.snd (f_cSpans_count_b4 k4 v0 v2 v3 h) := by
  unfold f_cSpans_count_b4
  refine fe_it ?_ ?_
  · exact fe_so Fe.rf
  · refine fe_it fe_no ?_
    refine fe_it ?_ fe_no
    refine fe_it fe_no ?_
    refine fe_it ?_ fe_no
    refine fe_v (fun y5 => ?_)
    refine fe_it fe_no ?_
    refine fe_it ?_ fe_no
    refine fe_v (fun y8 => ?_)
    exact fe_j Fe.rf (hk4 _ _ _ _) (fun x k hx => False.elim hx) (fun x k hx => False.elim hx)
theorem fe_cSpans_count_b4_lp (n : Nat) : ∀ (v0 : Nat) (v2 : Int) (v3 : Int) (h : Hp), Feo (wI_cSpans_count_b4 v0 v2 v3 h) (wJ_cSpans_count_b4 v0 v2 v3 h) h Prod.snd (f_cSpans_count_b4_lp n v0 v2 v3 h) := by
  induction n with
  | zero => intro v0 v2 v3 h; exact fe_no
  | succ n ih => intro v0 v2 v3 h; exact fe_cSpans_count_b4 ih v0 v2 v3 h
theorem fe_cSpans_count (v0 : Nat) (v1 : Int) (h : Hp) : Feo (wI_cSpans_count v0 v1 h) (wJ_cSpans_count v0 v1 h) h Prod.snd (f_cSpans_count v0 v1 h) := by
  unfold f_cSpans_count
  exact fe_j Fe.rf (fe_cSpans_count_b4_lp FU _ _ _ _) (fun x k hx => False.elim hx) (fun x k hx => False.elim hx)
def wI_cCrypto_take_b21 (v0 : Nat) (v1 : Nat) (v2 : Int) (h : Hp) (x k : Nat) : Prop := x = hR h v0 2 ∨ x = hR h v0 3
def wJ_cCrypto_take_b21 (v0 : Nat) (v1 : Nat) (v2 : Int) (h : Hp) (x k : Nat) : Prop := False
def wI_cCrypto_take (v0 : Nat) (v1 : Nat) (h : Hp) (x k : Nat) : Prop := x = hR h v0 2 ∨ x = hR h v0 3
def wJ_cCrypto_take (v0 : Nat) (v1 : Nat) (h : Hp) (x k : Nat) : Prop := False
theorem fe_cCrypto_take_b21 {k21 : Nat → Nat → Int → Hp → Option (Int × Hp)} (hk21 : ∀ (v0 : Nat) (v1 : Nat) (v2 : Int) (h : Hp), Feo (wI_cCrypto_take_b21 v0 v1 v2 h) (wJ_cCrypto_take_b21 v0 v1 v2 h) h Prod.snd (k21 v0 v1 v2 h)) (v0 : Nat) (v1 : Nat) (v2 : Int) (h : Hp) : Feo (wI_cCrypto_take_b21 v0 v1 v2 h) (wJ_cCrypto_take_b21 v0 v1 v2 h) h Prod.snd (f_cCrypto_take_b21 k21 v0 v1 v2 h) := by
  unfold f_cCrypto_take_b21
  refine fe_it fe_no ?_
  refine fe_it ?_ ?_
  · exact fe_so Fe.rf
  · refine fe_it fe_no ?_
    refine fe_it ?_ fe_no
    refine fe_it fe_no ?_
    refine fe_it ?_ fe_no
    refine fe_I Fe.rf (Or.inl (rfl)) (fun h7 F1 => ?_)
    refine fe_it fe_no ?_
    refine fe_it ?_ fe_no
    refine fe_I F1 (Or.inr ((by first | (simp only [F1.r]; exact rfl) | simp only [F1.r]))) (fun h10 F2 => ?_)
    exact fe_j F2 (hk21 _ _ _ _) (fun x k hx => by simp only [wI_cCrypto_take_b21, F1.r, F2.r] at hx; rcases hx with e | e <;> first | exact Or.inl (e) | exact Or.inr (e)) (fun x k hx => False.elim hx)
theorem fe_cCrypto_take_b21_lp (n : Nat) : ∀ (v0 : Nat) (v1 : Nat) (v2 : Int) (h : Hp), Feo (wI_cCrypto_take_b21 v0 v1 v2 h) (wJ_cCrypto_take_b21 v0 v1 v2 h) h Prod.snd (f_cCrypto_take_b21_lp n v0 v1 v2 h) := by
  induction n with
  | zero => intro v0 v1 v2 h; exact fe_no
  | succ n ih => intro v0 v1 v2 h; exact fe_cCrypto_take_b21 ih v0 v1 v2 h
theorem fe_cCrypto_take (v0 : Nat) (v1 : Nat) (h : Hp) : Feo (wI_cCrypto_take v0 v1 h) (wJ_cCrypto_take v0 v1 h) h Prod.snd (f_cCrypto_take v0 v1 h) := by
  unfold f_cCrypto_take
  refine fe_it fe_no ?_
  refine fe_it ?_ ?_
  · exact fe_j Fe.rf (fe_cCrypto_take_b21_lp FU _ _ _ _) (fun x k hx => by simp only [wI_cCrypto_take_b21] at hx; rcases hx with e | e <;> first | exact Or.inl (e) | exact Or.inr (e)) (fun x k hx => False.elim hx)
  · exact fe_so Fe.rf
def wI_cCrypto_more_b27 (v0 : Nat) (v1 : Int) (h : Hp) (x k : Nat) : Prop := False
def wJ_cCrypto_more_b27 (v0 : Nat) (v1 : Int) (h : Hp) (x k : Nat) : Prop := False
def wI_cCrypto_more_b5 (v0 : Nat) (v1 : Int) (h : Hp) (x k : Nat) : Prop := False
def wJ_cCrypto_more_b5 (v0 : Nat) (v1 : Int) (h : Hp) (x k : Nat) : Prop := False
def wI_cCrypto_more (v0 : Nat) (h : Hp) (x k : Nat) : Prop := False
def wJ_cCrypto_more (v0 : Nat) (h : Hp) (x k : Nat) : Prop := False
theorem fe_cCrypto_more_b27 (v0 : Nat) (v1 : Int) (h : Hp) : Feo (wI_cCrypto_more_b27 v0 v1 h) (wJ_cCrypto_more_b27 v0 v1 h) h Prod.snd (f_cCrypto_more_b27 v0 v1 h) := by
  unfold f_cCrypto_more_b27
  exact fe_so Fe.rf
theorem fe_cCrypto_more_b5 {k5 : Nat → Int → Hp → Option (Int × Hp)} (hk5 : ∀ (v0 : Nat) (v1 : Int) (h : Hp), Feo (wI_cCrypto_more_b5 v0 v1 h) (wJ_cCrypto_more_b5 v0 v1 h) h Prod.snd (k5 v0 v1 h)) (v0 : Nat) (v1 : Int) (h : Hp) : Feo (wI_cCrypto_more_b5 v0 v1 h) (wJ_cCrypto_more_b5 v0 v1 h) h Prod.snd (f_cCrypto_more_b5 k5 v0 v1 h) := by
  unfold f_cCrypto_more_b5
  refine fe_it ?_ ?_
  · exact fe_j Fe.rf (fe_cCrypto_more_b27 _ _ _) (fun x k hx => False.elim hx) (fun x k hx => False.elim hx)
  · refine fe_it fe_no ?_
    refine fe_it ?_ fe_no
    refine fe_it ?_ ?_
    · exact fe_j Fe.rf (fe_cCrypto_more_b27 _ _ _) (fun x k hx => False.elim hx) (fun x k hx => False.elim hx)
    · exact fe_j Fe.rf (hk5 _ _ _) (fun x k hx => False.elim hx) (fun x k hx => False.elim hx)
theorem fe_cCrypto_more_b5_lp (n : Nat) : ∀ (v0 : Nat) (v1 : Int) (h : Hp), Feo (wI_cCrypto_more_b5 v0 v1 h) (wJ_cCrypto_more_b5 v0 v1 h) h Prod.snd (f_cCrypto_more_b5_lp n v0 v1 h) := by
  induction n with
  | zero => intro v0 v1 h; exact fe_no
  | succ n ih => intro v0 v1 h; exact fe_cCrypto_more_b5 ih v0 v1 h
theorem fe_cCrypto_more (v0 : Nat) (h : Hp) : Feo (wI_cCrypto_more v0 h) (wJ_cCrypto_more v0 h) h Prod.snd (f_cCrypto_more v0 h) := by
  unfold f_cCrypto_more
  refine fe_v (fun y1 => ?_)
  exact fe_j Fe.rf (fe_cCrypto_more_b5_lp FU _ _ _) (fun x k hx => False.elim hx) (fun x k hx => False.elim hx)
def wI_cGreeting_levelOf (v0 : Int) (h : Hp) (x k : Nat) : Prop := False
def wJ_cGreeting_levelOf (v0 : Int) (h : Hp) (x k : Nat) : Prop := False
theorem fe_cGreeting_levelOf (v0 : Int) (h : Hp) : Feo (wI_cGreeting_levelOf v0 h) (wJ_cGreeting_levelOf v0 h) h Prod.snd (f_cGreeting_levelOf v0 h) := by
  unfold f_cGreeting_levelOf
  refine fe_it ?_ ?_
  · exact fe_so Fe.rf
  · exact fe_so Fe.rf
def wI_cRow_clear (v0 : Nat) (h : Hp) (x k : Nat) : Prop := (x = v0 ∧ k = 1)
def wJ_cRow_clear (v0 : Nat) (h : Hp) (x k : Nat) : Prop := False
theorem fe_cRow_clear (v0 : Nat) (h : Hp) : Feo (wI_cRow_clear v0 h) (wJ_cRow_clear v0 h) h id (f_cRow_clear v0 h) := by
  unfold f_cRow_clear
  refine fe_I Fe.rf (⟨rfl, rfl⟩) (fun h1 F1 => ?_)
  exact fe_so F1
def wI_cGreeting_fails (v0 : Nat) (v1 : Int) (h : Hp) (x k : Nat) : Prop := (x = (hR h (hR h v0 9) 0) ∧ k = 1) ∨ (x = (hR h (hR h v0 9) 1) ∧ k = 1) ∨ (x = v0 ∧ k = 19) ∨ (x = v0 ∧ k = 20)
def wJ_cGreeting_fails (v0 : Nat) (v1 : Int) (h : Hp) (x k : Nat) : Prop := False
theorem fe_cGreeting_fails (v0 : Nat) (v1 : Int) (h : Hp) : Feo (wI_cGreeting_fails v0 v1 h) (wJ_cGreeting_fails v0 v1 h) h Prod.snd (f_cGreeting_fails v0 v1 h) := by
  unfold f_cGreeting_fails
  refine fe_I Fe.rf (Or.inr (Or.inr (Or.inl (⟨rfl, rfl⟩)))) (fun h1 F1 => ?_)
  refine fe_I F1 (Or.inr (Or.inr (Or.inr (⟨rfl, rfl⟩)))) (fun h2 F2 => ?_)
  refine fe_it fe_no ?_
  refine fe_it ?_ fe_no
  refine fe_it fe_no ?_
  refine fe_b1 F2 (fe_cRow_clear _ _) (fun x k hx => by simp only [wI_cRow_clear, F1.r, F2.r] at hx; have e := hx; exact Or.inl (e)) (fun x k hx => False.elim hx) (fun h6 F3 => ?_)
  refine fe_it fe_no ?_
  refine fe_it ?_ fe_no
  refine fe_it fe_no ?_
  refine fe_b1 F3 (fe_cRow_clear _ _) (fun x k hx => by simp only [wI_cRow_clear, F1.r, F2.r, F3.r] at hx; have e := hx; exact Or.inr (Or.inl (e))) (fun x k hx => False.elim hx) (fun h11 F4 => ?_)
  exact fe_so F4
def wI_cGreeting_fits (v0 : Int) (v1 : Int) (h : Hp) (x k : Nat) : Prop := False
def wJ_cGreeting_fits (v0 : Int) (v1 : Int) (h : Hp) (x k : Nat) : Prop := False
theorem fe_cGreeting_fits (v0 : Int) (v1 : Int) (h : Hp) : Feo (wI_cGreeting_fits v0 v1 h) (wJ_cGreeting_fits v0 v1 h) h Prod.snd (f_cGreeting_fits v0 v1 h) := by
  unfold f_cGreeting_fits
  refine fe_it ?_ ?_
  · refine fe_it ?_ ?_
    · refine fe_it ?_ ?_
      · exact fe_so Fe.rf
      · exact fe_so Fe.rf
    · refine fe_it ?_ ?_
      · exact fe_so Fe.rf
      · exact fe_so Fe.rf
  · refine fe_it ?_ ?_
    · exact fe_so Fe.rf
    · refine fe_it ?_ ?_
      · exact fe_so Fe.rf
      · exact fe_so Fe.rf
def wI_cGreeting_keep (v0 : Nat) (v1 : Nat) (v2 : Int) (v3 : Int) (h : Hp) (x k : Nat) : Prop := x = hR h v0 17 ∨ (x = v0 ∧ k = 18)
def wJ_cGreeting_keep (v0 : Nat) (v1 : Nat) (v2 : Int) (v3 : Int) (h : Hp) (x k : Nat) : Prop := False
theorem fe_cGreeting_keep (v0 : Nat) (v1 : Nat) (v2 : Int) (v3 : Int) (h : Hp) : Feo (wI_cGreeting_keep v0 v1 v2 v3 h) (wJ_cGreeting_keep v0 v1 v2 v3 h) h id (f_cGreeting_keep v0 v1 v2 v3 h) := by
  unfold f_cGreeting_keep
  refine fe_it fe_no ?_
  refine fe_it fe_no ?_
  refine fe_it fe_no ?_
  refine fe_it ?_ fe_no
  refine fe_cI Fe.rf (fun y => Or.inl (rfl)) (fun h5 F1 => ?_)
  refine fe_I F1 (Or.inr (⟨rfl, rfl⟩)) (fun h6 F2 => ?_)
  exact fe_so F2
def wI_cGreeting_digest (v0 : Nat) (h : Hp) (x k : Nat) : Prop := x = (hR h v0 14) ∨ (x = (hR h v0 5) ∧ k = 3) ∨ x = hR h (hR h v0 5) 0 ∨ x = hR h (hR h v0 5) 1 ∨ x = hR h (hR h v0 5) 2
def wJ_cGreeting_digest (v0 : Nat) (h : Hp) (x k : Nat) : Prop := (x = (hR h v0 5) ∧ k = 4)
theorem fe_cGreeting_digest (v0 : Nat) (h : Hp) : Feo (wI_cGreeting_digest v0 h) (wJ_cGreeting_digest v0 h) h id (f_cGreeting_digest v0 h) := by
  unfold f_cGreeting_digest
  refine fe_it fe_no ?_
  refine fe_b1 Fe.rf (fe_cHash_begin _ _) (fun x k hx => by simp only [wI_cHash_begin] at hx; rcases hx with e | e <;> first | exact Or.inr (Or.inl (e)) | exact Or.inr (Or.inr (Or.inl (e)))) (fun x k hx => by simp only [wJ_cHash_begin] at hx; have e := hx; exact e) (fun h2 F1 => ?_)
  refine fe_it fe_no ?_
  refine fe_it fe_no ?_
  refine fe_b1 F1 (fe_cHash_add _ _ _ _ _) (fun x k hx => by simp only [wI_cHash_add, F1.r] at hx; rcases hx with e | e | e | e <;> first | exact Or.inr (Or.inl (e)) | exact Or.inr (Or.inr (Or.inl (e))) | exact Or.inr (Or.inr (Or.inr (Or.inl (e)))) | exact Or.inr (Or.inr (Or.inr (Or.inr (e))))) (fun x k hx => by simp only [wJ_cHash_add, F1.r] at hx; have e := hx; exact e) (fun h6 F2 => ?_)
  refine fe_it fe_no ?_
  refine fe_b1 F2 (fe_cHash_end _ _ _ _) (fun x k hx => by simp only [wI_cHash_end, F1.r, F2.r] at hx; rcases hx with e | e | e | e | e <;> first | exact Or.inl (e) | exact Or.inr (Or.inl (e)) | exact Or.inr (Or.inr (Or.inl (e))) | exact Or.inr (Or.inr (Or.inr (Or.inl (e)))) | exact Or.inr (Or.inr (Or.inr (Or.inr (e))))) (fun x k hx => False.elim hx) (fun h9 F3 => ?_)
  exact fe_so F3
def wI_cGreeting_prove (v0 : Nat) (v1 : Int) (h : Hp) (x k : Nat) : Prop := (x = (hR h (hR h (hR h v0 6) 0) 0) ∧ k = 3) ∨ (x = (hR h (hR h (hR h v0 6) 0) 1) ∧ k = 3) ∨ x = (hR h (hR h (hR h v0 6) 0) 2) ∨ x = (hR h (hR h (hR h v0 6) 0) 3) ∨ x = (hR h (hR h v0 6) 1) ∨ x = (hR h v0 14) ∨ x = (hR h v0 15) ∨ (x = (hR h v0 5) ∧ k = 3) ∨ x = hR h (hR h (hR h (hR h v0 6) 0) 0) 0 ∨ x = hR h (hR h (hR h (hR h v0 6) 0) 0) 1 ∨ x = hR h (hR h (hR h (hR h v0 6) 0) 0) 2 ∨ x = hR h (hR h (hR h (hR h v0 6) 0) 1) 0 ∨ x = hR h (hR h (hR h (hR h v0 6) 0) 1) 1 ∨ x = hR h (hR h (hR h (hR h v0 6) 0) 1) 2 ∨ x = hR h (hR h (hR h v0 6) 0) 2 ∨ x = hR h (hR h v0 5) 0 ∨ x = hR h (hR h v0 5) 1 ∨ x = hR h (hR h v0 5) 2 ∨ x = hR h (hR h v0 6) 2 ∨ x = hR h (hR h v0 6) 3
def wJ_cGreeting_prove (v0 : Nat) (v1 : Int) (h : Hp) (x k : Nat) : Prop := (x = (hR h (hR h (hR h v0 6) 0) 0) ∧ k = 4) ∨ (x = (hR h (hR h (hR h v0 6) 0) 1) ∧ k = 4) ∨ (x = (hR h v0 5) ∧ k = 4)
theorem fe_cGreeting_prove (v0 : Nat) (v1 : Int) (h : Hp) : Feo (wI_cGreeting_prove v0 v1 h) (wJ_cGreeting_prove v0 v1 h) h id (f_cGreeting_prove v0 v1 h) := by
  unfold f_cGreeting_prove
  refine fe_b1 Fe.rf (fe_cGreeting_digest _ _) (fun x k hx => by simp only [wI_cGreeting_digest] at hx; rcases hx with e | e | e | e | e <;> first | exact Or.inr (Or.inr (Or.inr (Or.inr (Or.inr (Or.inl (e)))))) | exact Or.inr (Or.inr (Or.inr (Or.inr (Or.inr (Or.inr (Or.inr (Or.inl (e)))))))) | exact Or.inr (Or.inr (Or.inr (Or.inr (Or.inr (Or.inr (Or.inr (Or.inr (Or.inr (Or.inr (Or.inr (Or.inr (Or.inr (Or.inr (Or.inr (Or.inl (e)))))))))))))))) | exact Or.inr (Or.inr (Or.inr (Or.inr (Or.inr (Or.inr (Or.inr (Or.inr (Or.inr (Or.inr (Or.inr (Or.inr (Or.inr (Or.inr (Or.inr (Or.inr (Or.inl (e))))))))))))))))) | exact Or.inr (Or.inr (Or.inr (Or.inr (Or.inr (Or.inr (Or.inr (Or.inr (Or.inr (Or.inr (Or.inr (Or.inr (Or.inr (Or.inr (Or.inr (Or.inr (Or.inr (Or.inl (e))))))))))))))))))) (fun x k hx => by simp only [wJ_cGreeting_digest] at hx; have e := hx; exact Or.inr (Or.inr (e))) (fun h1 F1 => ?_)
  refine fe_it fe_no ?_
  refine fe_it ?_ fe_no
  refine fe_it fe_no ?_
  refine fe_b1 F1 (fe_cStretch_label _ _ _ _ _ _ _ _ _) (fun x k hx => by simp only [wI_cStretch_label, F1.r] at hx; rcases hx with e | e | e | e | e | e | e | e | e | e | e | e | e | e | e <;> first | exact Or.inl (e) | exact Or.inr (Or.inl (e)) | exact Or.inr (Or.inr (Or.inl (e))) | exact Or.inr (Or.inr (Or.inr (Or.inl (e)))) | exact Or.inr (Or.inr (Or.inr (Or.inr (Or.inl (e))))) | exact Or.inr (Or.inr (Or.inr (Or.inr (Or.inr (Or.inr (Or.inl (e))))))) | exact Or.inr (Or.inr (Or.inr (Or.inr (Or.inr (Or.inr (Or.inr (Or.inr (Or.inl (e))))))))) | exact Or.inr (Or.inr (Or.inr (Or.inr (Or.inr (Or.inr (Or.inr (Or.inr (Or.inr (Or.inl (e)))))))))) | exact Or.inr (Or.inr (Or.inr (Or.inr (Or.inr (Or.inr (Or.inr (Or.inr (Or.inr (Or.inr (Or.inl (e))))))))))) | exact Or.inr (Or.inr (Or.inr (Or.inr (Or.inr (Or.inr (Or.inr (Or.inr (Or.inr (Or.inr (Or.inr (Or.inl (e)))))))))))) | exact Or.inr (Or.inr (Or.inr (Or.inr (Or.inr (Or.inr (Or.inr (Or.inr (Or.inr (Or.inr (Or.inr (Or.inr (Or.inl (e))))))))))))) | exact Or.inr (Or.inr (Or.inr (Or.inr (Or.inr (Or.inr (Or.inr (Or.inr (Or.inr (Or.inr (Or.inr (Or.inr (Or.inr (Or.inl (e)))))))))))))) | exact Or.inr (Or.inr (Or.inr (Or.inr (Or.inr (Or.inr (Or.inr (Or.inr (Or.inr (Or.inr (Or.inr (Or.inr (Or.inr (Or.inr (Or.inl (e))))))))))))))) | exact Or.inr (Or.inr (Or.inr (Or.inr (Or.inr (Or.inr (Or.inr (Or.inr (Or.inr (Or.inr (Or.inr (Or.inr (Or.inr (Or.inr (Or.inr (Or.inr (Or.inr (Or.inr (Or.inl (e))))))))))))))))))) | exact Or.inr (Or.inr (Or.inr (Or.inr (Or.inr (Or.inr (Or.inr (Or.inr (Or.inr (Or.inr (Or.inr (Or.inr (Or.inr (Or.inr (Or.inr (Or.inr (Or.inr (Or.inr (Or.inr (e)))))))))))))))))))) (fun x k hx => by simp only [wJ_cStretch_label, F1.r] at hx; rcases hx with e | e <;> first | exact Or.inl (e) | exact Or.inr (Or.inl (e))) (fun h6 F2 => ?_)
  refine fe_b1 F2 (fe_cGreeting_mac _ _ _ _ _ _ _ _) (fun x k hx => by simp only [wI_cGreeting_mac, F1.r, F2.r] at hx; rcases hx with e | e | e | e | e | e | e | e | e | e | e | e <;> first | exact Or.inl (e) | exact Or.inr (Or.inl (e)) | exact Or.inr (Or.inr (Or.inl (e))) | exact Or.inr (Or.inr (Or.inr (Or.inl (e)))) | exact Or.inr (Or.inr (Or.inr (Or.inr (Or.inr (Or.inr (Or.inl (e))))))) | exact Or.inr (Or.inr (Or.inr (Or.inr (Or.inr (Or.inr (Or.inr (Or.inr (Or.inl (e))))))))) | exact Or.inr (Or.inr (Or.inr (Or.inr (Or.inr (Or.inr (Or.inr (Or.inr (Or.inr (Or.inl (e)))))))))) | exact Or.inr (Or.inr (Or.inr (Or.inr (Or.inr (Or.inr (Or.inr (Or.inr (Or.inr (Or.inr (Or.inl (e))))))))))) | exact Or.inr (Or.inr (Or.inr (Or.inr (Or.inr (Or.inr (Or.inr (Or.inr (Or.inr (Or.inr (Or.inr (Or.inl (e)))))))))))) | exact Or.inr (Or.inr (Or.inr (Or.inr (Or.inr (Or.inr (Or.inr (Or.inr (Or.inr (Or.inr (Or.inr (Or.inr (Or.inl (e))))))))))))) | exact Or.inr (Or.inr (Or.inr (Or.inr (Or.inr (Or.inr (Or.inr (Or.inr (Or.inr (Or.inr (Or.inr (Or.inr (Or.inr (Or.inl (e)))))))))))))) | exact Or.inr (Or.inr (Or.inr (Or.inr (Or.inr (Or.inr (Or.inr (Or.inr (Or.inr (Or.inr (Or.inr (Or.inr (Or.inr (Or.inr (Or.inl (e)))))))))))))))) (fun x k hx => by simp only [wJ_cGreeting_mac, F1.r, F2.r] at hx; rcases hx with e | e <;> first | exact Or.inl (e) | exact Or.inr (Or.inl (e))) (fun h8 F3 => ?_)
  exact fe_so F3
def wI_cParameters_isAnswer_b21 (h : Hp) (x k : Nat) : Prop := False
def wJ_cParameters_isAnswer_b21 (h : Hp) (x k : Nat) : Prop := False
def wI_cParameters_isAnswer (v0 : Int) (h : Hp) (x k : Nat) : Prop := False
def wJ_cParameters_isAnswer (v0 : Int) (h : Hp) (x k : Nat) : Prop := False
theorem fe_cParameters_isAnswer_b21 (h : Hp) : Feo (wI_cParameters_isAnswer_b21  h) (wJ_cParameters_isAnswer_b21  h) h Prod.snd (f_cParameters_isAnswer_b21  h) := by
  unfold f_cParameters_isAnswer_b21
  exact fe_so Fe.rf
theorem fe_cParameters_isAnswer (v0 : Int) (h : Hp) : Feo (wI_cParameters_isAnswer v0 h) (wJ_cParameters_isAnswer v0 h) h Prod.snd (f_cParameters_isAnswer v0 h) := by
  unfold f_cParameters_isAnswer
  refine fe_it ?_ ?_
  · exact fe_j Fe.rf (fe_cParameters_isAnswer_b21 _) (fun x k hx => False.elim hx) (fun x k hx => False.elim hx)
  · refine fe_it ?_ ?_
    · exact fe_j Fe.rf (fe_cParameters_isAnswer_b21 _) (fun x k hx => False.elim hx) (fun x k hx => False.elim hx)
    · refine fe_it ?_ ?_
      · exact fe_j Fe.rf (fe_cParameters_isAnswer_b21 _) (fun x k hx => False.elim hx) (fun x k hx => False.elim hx)
      · refine fe_it ?_ ?_
        · exact fe_so Fe.rf
        · exact fe_j Fe.rf (fe_cParameters_isAnswer_b21 _) (fun x k hx => False.elim hx) (fun x k hx => False.elim hx)
def wI_cParameters_fits_b78 (v1 : Int) (h : Hp) (x k : Nat) : Prop := False
def wJ_cParameters_fits_b78 (v1 : Int) (h : Hp) (x k : Nat) : Prop := False
def wI_cParameters_fits (v0 : Int) (v1 : Int) (h : Hp) (x k : Nat) : Prop := False
def wJ_cParameters_fits (v0 : Int) (v1 : Int) (h : Hp) (x k : Nat) : Prop := False
theorem fe_cParameters_fits_b78 (v1 : Int) (h : Hp) : Feo (wI_cParameters_fits_b78 v1 h) (wJ_cParameters_fits_b78 v1 h) h Prod.snd (f_cParameters_fits_b78 v1 h) := by
  unfold f_cParameters_fits_b78
  refine fe_it ?_ ?_
  · exact fe_so Fe.rf
  · exact fe_so Fe.rf
theorem fe_cParameters_fits (v0 : Int) (v1 : Int) (h : Hp) : Feo (wI_cParameters_fits v0 v1 h) (wJ_cParameters_fits v0 v1 h) h Prod.snd (f_cParameters_fits v0 v1 h) := by
  unfold f_cParameters_fits
  refine fe_it ?_ ?_
  · refine fe_it ?_ ?_
    · exact fe_so Fe.rf
    · exact fe_so Fe.rf
  · refine fe_it ?_ ?_
    · exact fe_so Fe.rf
    · refine fe_it ?_ ?_
      · exact fe_so Fe.rf
      · refine fe_it ?_ ?_
        · exact fe_so Fe.rf
        · refine fe_it ?_ ?_
          · exact fe_so Fe.rf
          · refine fe_it ?_ ?_
            · exact fe_j Fe.rf (fe_cParameters_fits_b78 _ _) (fun x k hx => False.elim hx) (fun x k hx => False.elim hx)
            · refine fe_it ?_ ?_
              · exact fe_j Fe.rf (fe_cParameters_fits_b78 _ _) (fun x k hx => False.elim hx) (fun x k hx => False.elim hx)
              · refine fe_it ?_ ?_
                · refine fe_it ?_ ?_
                  · exact fe_so Fe.rf
                  · exact fe_so Fe.rf
                · refine fe_it ?_ ?_
                  · refine fe_it ?_ ?_
                    · exact fe_so Fe.rf
                    · exact fe_so Fe.rf
                  · refine fe_it ?_ ?_
                    · exact fe_so Fe.rf
                    · refine fe_it ?_ ?_
                      · exact fe_so Fe.rf
                      · refine fe_it ?_ ?_
                        · refine fe_it ?_ ?_
                          · exact fe_so Fe.rf
                          · exact fe_so Fe.rf
                        · exact fe_so Fe.rf
def wI_cParameters_one_b240 (v0 : Nat) (v1 : Nat) (v5 : Int) (v6 : Int) (h : Hp) (x k : Nat) : Prop := (x = v1 ∧ k = 1)
def wJ_cParameters_one_b240 (v0 : Nat) (v1 : Nat) (v5 : Int) (v6 : Int) (h : Hp) (x k : Nat) : Prop := False
def wI_cParameters_one_b121 (v0 : Nat) (v1 : Nat) (v3 : Int) (v5 : Int) (s0 : Int) (h : Hp) (x k : Nat) : Prop := (x = v1 ∧ k = 1) ∨ (x = v1 ∧ k = 3)
def wJ_cParameters_one_b121 (v0 : Nat) (v1 : Nat) (v3 : Int) (v5 : Int) (s0 : Int) (h : Hp) (x k : Nat) : Prop := False
def wI_cParameters_one_b154 (v0 : Nat) (v1 : Nat) (v3 : Int) (v5 : Int) (s0 : Int) (h : Hp) (x k : Nat) : Prop := (x = v1 ∧ k = 1) ∨ (x = v1 ∧ k = 3)
def wJ_cParameters_one_b154 (v0 : Nat) (v1 : Nat) (v3 : Int) (v5 : Int) (s0 : Int) (h : Hp) (x k : Nat) : Prop := False
def wI_cParameters_one_b106 (v0 : Nat) (v1 : Nat) (v3 : Int) (v5 : Int) (h : Hp) (x k : Nat) : Prop := (x = v1 ∧ k = 1) ∨ (x = v1 ∧ k = 3)
def wJ_cParameters_one_b106 (v0 : Nat) (v1 : Nat) (v3 : Int) (v5 : Int) (h : Hp) (x k : Nat) : Prop := False
def wI_cParameters_one_b238 (v0 : Nat) (v1 : Nat) (v5 : Int) (s0 : Int) (h : Hp) (x k : Nat) : Prop := (x = v1 ∧ k = 1)
def wJ_cParameters_one_b238 (v0 : Nat) (v1 : Nat) (v5 : Int) (s0 : Int) (h : Hp) (x k : Nat) : Prop := False
def wI_cParameters_one_b237 (v0 : Nat) (v1 : Nat) (v5 : Int) (h : Hp) (x k : Nat) : Prop := (x = v1 ∧ k = 1)
def wJ_cParameters_one_b237 (v0 : Nat) (v1 : Nat) (v5 : Int) (h : Hp) (x k : Nat) : Prop := False
def wI_cParameters_one_b214 (v0 : Nat) (v1 : Nat) (v2 : Int) (v5 : Int) (v6 : Int) (s0 : Nat) (s1 : Int) (s2 : Int) (h : Hp) (x k : Nat) : Prop := (x = v1 ∧ k = 1)
def wJ_cParameters_one_b214 (v0 : Nat) (v1 : Nat) (v2 : Int) (v5 : Int) (v6 : Int) (s0 : Nat) (s1 : Int) (s2 : Int) (h : Hp) (x k : Nat) : Prop := x = s0
def wI_cParameters_one_b194 (v0 : Nat) (v1 : Nat) (v2 : Int) (v5 : Int) (s0 : Int) (h : Hp) (x k : Nat) : Prop := (x = v1 ∧ k = 1) ∨ (x = v1 ∧ k = 3)
def wJ_cParameters_one_b194 (v0 : Nat) (v1 : Nat) (v2 : Int) (v5 : Int) (s0 : Int) (h : Hp) (x k : Nat) : Prop := x = (hR h v0 0)
def wI_cParameters_one_b193 (v0 : Nat) (v1 : Nat) (v2 : Int) (v5 : Int) (h : Hp) (x k : Nat) : Prop := (x = v1 ∧ k = 1) ∨ (x = v1 ∧ k = 3)
def wJ_cParameters_one_b193 (v0 : Nat) (v1 : Nat) (v2 : Int) (v5 : Int) (h : Hp) (x k : Nat) : Prop := x = (hR h v0 0)
def wI_cParameters_one_b25 (v0 : Nat) (v1 : Nat) (v2 : Int) (v3 : Int) (h : Hp) (x k : Nat) : Prop := x = hR h v0 1 ∨ x = hR h v0 2 ∨ (x = v1 ∧ k = 1) ∨ (x = v1 ∧ k = 3)
def wJ_cParameters_one_b25 (v0 : Nat) (v1 : Nat) (v2 : Int) (v3 : Int) (h : Hp) (x k : Nat) : Prop := x = (hR h v0 0) ∨ x = hR h v0 0
def wI_cParameters_one (v0 : Nat) (v1 : Nat) (v2 : Int) (v3 : Int) (v4 : Int) (h : Hp) (x k : Nat) : Prop := x = hR h v0 1 ∨ x = hR h v0 2 ∨ (x = v1 ∧ k = 1) ∨ (x = v1 ∧ k = 3)
def wJ_cParameters_one (v0 : Nat) (v1 : Nat) (v2 : Int) (v3 : Int) (v4 : Int) (h : Hp) (x k : Nat) : Prop := x = (hR h v0 0) ∨ x = hR h v0 0
theorem fe_cParameters_one_b240 (v0 : Nat) (v1 : Nat) (v5 : Int) (v6 : Int) (h : Hp) : Feo (wI_cParameters_one_b240 v0 v1 v5 v6 h) (wJ_cParameters_one_b240 v0 v1 v5 v6 h) h Prod.snd (f_cParameters_one_b240 v0 v1 v5 v6 h) := by
  unfold f_cParameters_one_b240
  refine fe_it fe_no ?_
  refine fe_I Fe.rf (⟨rfl, rfl⟩) (fun h38 F1 => ?_)
  refine fe_it ?_ ?_
  · exact fe_so F1
  · exact fe_so F1
theorem fe_cParameters_one_b121 (v0 : Nat) (v1 : Nat) (v3 : Int) (v5 : Int) (s0 : Int) (h : Hp) : Feo (wI_cParameters_one_b121 v0 v1 v3 v5 s0 h) (wJ_cParameters_one_b121 v0 v1 v3 v5 s0 h) h Prod.snd (f_cParameters_one_b121 v0 v1 v3 v5 s0 h) := by
  unfold f_cParameters_one_b121
  refine fe_it fe_no ?_
  refine fe_b2 Fe.rf (fe_cBytes_pass _ _ _) (fun x k hx => by simp only [wI_cBytes_pass] at hx; rcases hx with e | e <;> first | exact Or.inl (e) | exact Or.inr (e)) (fun x k hx => False.elim hx) (fun r42 h40 F1 => ?_)
  exact fe_j F1 (fe_cParameters_one_b240 _ _ _ _ _) (fun x k hx => by simp only [wI_cParameters_one_b240, F1.r] at hx; have e := hx; exact Or.inl (e)) (fun x k hx => False.elim hx)
theorem fe_cParameters_one_b154 (v0 : Nat) (v1 : Nat) (v3 : Int) (v5 : Int) (s0 : Int) (h : Hp) : Feo (wI_cParameters_one_b154 v0 v1 v3 v5 s0 h) (wJ_cParameters_one_b154 v0 v1 v3 v5 s0 h) h Prod.snd (f_cParameters_one_b154 v0 v1 v3 v5 s0 h) := by
  unfold f_cParameters_one_b154
  refine fe_it fe_no ?_
  refine fe_b2 Fe.rf (fe_cBytes_pass _ _ _) (fun x k hx => by simp only [wI_cBytes_pass] at hx; rcases hx with e | e <;> first | exact Or.inl (e) | exact Or.inr (e)) (fun x k hx => False.elim hx) (fun r46 h44 F1 => ?_)
  exact fe_j F1 (fe_cParameters_one_b240 _ _ _ _ _) (fun x k hx => by simp only [wI_cParameters_one_b240, F1.r] at hx; have e := hx; exact Or.inl (e)) (fun x k hx => False.elim hx)
theorem fe_cParameters_one_b106 (v0 : Nat) (v1 : Nat) (v3 : Int) (v5 : Int) (h : Hp) : Feo (wI_cParameters_one_b106 v0 v1 v3 v5 h) (wJ_cParameters_one_b106 v0 v1 v3 v5 h) h Prod.snd (f_cParameters_one_b106 v0 v1 v3 v5 h) := by
  unfold f_cParameters_one_b106
  exact fe_j Fe.rf (fe_cParameters_one_b121 _ _ _ _ _ _) (fun x k hx => by simp only [wI_cParameters_one_b121] at hx; rcases hx with e | e <;> first | exact Or.inl (e) | exact Or.inr (e)) (fun x k hx => False.elim hx)
theorem fe_cParameters_one_b238 (v0 : Nat) (v1 : Nat) (v5 : Int) (s0 : Int) (h : Hp) : Feo (wI_cParameters_one_b238 v0 v1 v5 s0 h) (wJ_cParameters_one_b238 v0 v1 v5 s0 h) h Prod.snd (f_cParameters_one_b238 v0 v1 v5 s0 h) := by
  unfold f_cParameters_one_b238
  exact fe_j Fe.rf (fe_cParameters_one_b240 _ _ _ _ _) (fun x k hx => by simp only [wI_cParameters_one_b240] at hx; have e := hx; exact e) (fun x k hx => False.elim hx)
theorem fe_cParameters_one_b237 (v0 : Nat) (v1 : Nat) (v5 : Int) (h : Hp) : Feo (wI_cParameters_one_b237 v0 v1 v5 h) (wJ_cParameters_one_b237 v0 v1 v5 h) h Prod.snd (f_cParameters_one_b237 v0 v1 v5 h) := by
  unfold f_cParameters_one_b237
  exact fe_j Fe.rf (fe_cParameters_one_b238 _ _ _ _ _) (fun x k hx => by simp only [wI_cParameters_one_b238] at hx; have e := hx; exact e) (fun x k hx => False.elim hx)
theorem fe_cParameters_one_b214 (v0 : Nat) (v1 : Nat) (v2 : Int) (v5 : Int) (v6 : Int) (s0 : Nat) (s1 : Int) (s2 : Int) (h : Hp) : Feo (wI_cParameters_one_b214 v0 v1 v2 v5 v6 s0 s1 s2 h) (wJ_cParameters_one_b214 v0 v1 v2 v5 v6 s0 s1 s2 h) h Prod.snd (f_cParameters_one_b214 v0 v1 v2 v5 v6 s0 s1 s2 h) := by
  unfold f_cParameters_one_b214
  refine fe_it fe_no ?_
  refine fe_it ?_ fe_no
  refine fe_J Fe.rf (rfl) (fun h31 F1 => ?_)
  refine fe_it ?_ ?_
  · exact fe_j F1 (fe_cParameters_one_b237 _ _ _ _) (fun x k hx => by simp only [wI_cParameters_one_b237, F1.r] at hx; have e := hx; exact e) (fun x k hx => False.elim hx)
  · refine fe_it fe_no ?_
    refine fe_it ?_ fe_no
    refine fe_b2 F1 (fe_cParameters_fits _ _ _) (fun x k hx => False.elim hx) (fun x k hx => False.elim hx) (fun r36 h34 F2 => ?_)
    refine fe_it ?_ ?_
    · exact fe_j F2 (fe_cParameters_one_b237 _ _ _ _) (fun x k hx => by simp only [wI_cParameters_one_b237, F1.r, F2.r] at hx; have e := hx; exact e) (fun x k hx => False.elim hx)
    · exact fe_j F2 (fe_cParameters_one_b238 _ _ _ _ _) (fun x k hx => by simp only [wI_cParameters_one_b238, F1.r, F2.r] at hx; have e := hx; exact e) (fun x k hx => False.elim hx)
theorem fe_cParameters_one_b194 (v0 : Nat) (v1 : Nat) (v2 : Int) (v5 : Int) (s0 : Int) (h : Hp) : Feo (wI_cParameters_one_b194 v0 v1 v2 v5 s0 h) (wJ_cParameters_one_b194 v0 v1 v2 v5 s0 h) h Prod.snd (f_cParameters_one_b194 v0 v1 v2 v5 s0 h) := by
  unfold f_cParameters_one_b194
  refine fe_it ?_ ?_
  · exact fe_j Fe.rf (fe_cParameters_one_b214 _ _ _ _ _ _ _ _ _) (fun x k hx => by simp only [wI_cParameters_one_b214] at hx; have e := hx; exact Or.inl (e)) (fun x k hx => by simp only [wJ_cParameters_one_b214] at hx; have e := hx; exact e)
  · refine fe_it fe_no ?_
    refine fe_b2 Fe.rf (fe_cBytes_number _ _) (fun x k hx => by simp only [wI_cBytes_number] at hx; rcases hx with e | e <;> first | exact Or.inl (e) | exact Or.inr (e)) (fun x k hx => False.elim hx) (fun r28 h26 F1 => ?_)
    exact fe_j F1 (fe_cParameters_one_b214 _ _ _ _ _ _ _ _ _) (fun x k hx => by simp only [wI_cParameters_one_b214, F1.r] at hx; have e := hx; exact Or.inl (e)) (fun x k hx => by simp only [wJ_cParameters_one_b214, F1.r] at hx; have e := hx; exact e)
theorem fe_cParameters_one_b193 (v0 : Nat) (v1 : Nat) (v2 : Int) (v5 : Int) (h : Hp) : Feo (wI_cParameters_one_b193 v0 v1 v2 v5 h) (wJ_cParameters_one_b193 v0 v1 v2 v5 h) h Prod.snd (f_cParameters_one_b193 v0 v1 v2 v5 h) := by
  unfold f_cParameters_one_b193
  exact fe_j Fe.rf (fe_cParameters_one_b194 _ _ _ _ _ _) (fun x k hx => by simp only [wI_cParameters_one_b194] at hx; rcases hx with e | e <;> first | exact Or.inl (e) | exact Or.inr (e)) (fun x k hx => by simp only [wJ_cParameters_one_b194] at hx; have e := hx; exact e)
theorem fe_cParameters_one_b25 (v0 : Nat) (v1 : Nat) (v2 : Int) (v3 : Int) (h : Hp) : Feo (wI_cParameters_one_b25 v0 v1 v2 v3 h) (wJ_cParameters_one_b25 v0 v1 v2 v3 h) h Prod.snd (f_cParameters_one_b25 v0 v1 v2 v3 h) := by
  unfold f_cParameters_one_b25
  refine fe_it fe_no ?_
  refine fe_it ?_ fe_no
  refine fe_I Fe.rf (Or.inl (rfl)) (fun h8 F1 => ?_)
  refine fe_it fe_no ?_
  refine fe_it fe_no ?_
  refine fe_it ?_ fe_no
  refine fe_I F1 (Or.inr (Or.inl ((by first | (simp only [F1.r]; exact rfl) | simp only [F1.r])))) (fun h12 F2 => ?_)
  refine fe_v (fun y13 => ?_)
  refine fe_b2 F2 (fe_cParameters_isBytes _ _) (fun x k hx => False.elim hx) (fun x k hx => False.elim hx) (fun r16 h14 F3 => ?_)
  refine fe_it ?_ ?_
  · refine fe_it ?_ ?_
    · refine fe_it ?_ ?_
      · exact fe_j F3 (fe_cParameters_one_b193 _ _ _ _ _) (fun x k hx => by simp only [wI_cParameters_one_b193, F1.r, F2.r, F3.r] at hx; rcases hx with e | e <;> first | exact Or.inr (Or.inr (Or.inl (e))) | exact Or.inr (Or.inr (Or.inr (e)))) (fun x k hx => by simp only [wJ_cParameters_one_b193, F1.r, F2.r, F3.r] at hx; have e := hx; exact Or.inl (e))
      · refine fe_it fe_no ?_
        refine fe_it ?_ fe_no
        refine fe_it ?_ ?_
        · exact fe_j F3 (fe_cParameters_one_b193 _ _ _ _ _) (fun x k hx => by simp only [wI_cParameters_one_b193, F1.r, F2.r, F3.r] at hx; rcases hx with e | e <;> first | exact Or.inr (Or.inr (Or.inl (e))) | exact Or.inr (Or.inr (Or.inr (e)))) (fun x k hx => by simp only [wJ_cParameters_one_b193, F1.r, F2.r, F3.r] at hx; have e := hx; exact Or.inl (e))
        · exact fe_j F3 (fe_cParameters_one_b194 _ _ _ _ _ _) (fun x k hx => by simp only [wI_cParameters_one_b194, F1.r, F2.r, F3.r] at hx; rcases hx with e | e <;> first | exact Or.inr (Or.inr (Or.inl (e))) | exact Or.inr (Or.inr (Or.inr (e)))) (fun x k hx => by simp only [wJ_cParameters_one_b194, F1.r, F2.r, F3.r] at hx; have e := hx; exact Or.inl (e))
    · refine fe_it fe_no ?_
      refine fe_it ?_ fe_no
      refine fe_J F3 (Or.inr ((by first | (simp only [F1.r, F2.r, F3.r]; exact rfl) | simp only [F1.r, F2.r, F3.r]))) (fun h21 F4 => ?_)
      refine fe_it ?_ ?_
      · exact fe_j F4 (fe_cParameters_one_b154 _ _ _ _ _ _) (fun x k hx => by simp only [wI_cParameters_one_b154, F1.r, F2.r, F3.r, F4.r] at hx; rcases hx with e | e <;> first | exact Or.inr (Or.inr (Or.inl (e))) | exact Or.inr (Or.inr (Or.inr (e)))) (fun x k hx => False.elim hx)
      · exact fe_j F4 (fe_cParameters_one_b154 _ _ _ _ _ _) (fun x k hx => by simp only [wI_cParameters_one_b154, F1.r, F2.r, F3.r, F4.r] at hx; rcases hx with e | e <;> first | exact Or.inr (Or.inr (Or.inl (e))) | exact Or.inr (Or.inr (Or.inr (e)))) (fun x k hx => False.elim hx)
  · refine fe_it fe_no ?_
    refine fe_it ?_ fe_no
    refine fe_J F3 (Or.inr ((by first | (simp only [F1.r, F2.r, F3.r]; exact rfl) | simp only [F1.r, F2.r, F3.r]))) (fun h24 F5 => ?_)
    refine fe_it ?_ ?_
    · refine fe_it ?_ ?_
      · refine fe_it ?_ ?_
        · exact fe_j F5 (fe_cParameters_one_b121 _ _ _ _ _ _) (fun x k hx => by simp only [wI_cParameters_one_b121, F1.r, F2.r, F3.r, F5.r] at hx; rcases hx with e | e <;> first | exact Or.inr (Or.inr (Or.inl (e))) | exact Or.inr (Or.inr (Or.inr (e)))) (fun x k hx => False.elim hx)
        · exact fe_j F5 (fe_cParameters_one_b121 _ _ _ _ _ _) (fun x k hx => by simp only [wI_cParameters_one_b121, F1.r, F2.r, F3.r, F5.r] at hx; rcases hx with e | e <;> first | exact Or.inr (Or.inr (Or.inl (e))) | exact Or.inr (Or.inr (Or.inr (e)))) (fun x k hx => False.elim hx)
      · refine fe_it ?_ ?_
        · exact fe_j F5 (fe_cParameters_one_b106 _ _ _ _ _) (fun x k hx => by simp only [wI_cParameters_one_b106, F1.r, F2.r, F3.r, F5.r] at hx; rcases hx with e | e <;> first | exact Or.inr (Or.inr (Or.inl (e))) | exact Or.inr (Or.inr (Or.inr (e)))) (fun x k hx => False.elim hx)
        · refine fe_it ?_ ?_
          · exact fe_j F5 (fe_cParameters_one_b106 _ _ _ _ _) (fun x k hx => by simp only [wI_cParameters_one_b106, F1.r, F2.r, F3.r, F5.r] at hx; rcases hx with e | e <;> first | exact Or.inr (Or.inr (Or.inl (e))) | exact Or.inr (Or.inr (Or.inr (e)))) (fun x k hx => False.elim hx)
          · exact fe_j F5 (fe_cParameters_one_b121 _ _ _ _ _ _) (fun x k hx => by simp only [wI_cParameters_one_b121, F1.r, F2.r, F3.r, F5.r] at hx; rcases hx with e | e <;> first | exact Or.inr (Or.inr (Or.inl (e))) | exact Or.inr (Or.inr (Or.inr (e)))) (fun x k hx => False.elim hx)
    · refine fe_it ?_ ?_
      · exact fe_j F5 (fe_cParameters_one_b121 _ _ _ _ _ _) (fun x k hx => by simp only [wI_cParameters_one_b121, F1.r, F2.r, F3.r, F5.r] at hx; rcases hx with e | e <;> first | exact Or.inr (Or.inr (Or.inl (e))) | exact Or.inr (Or.inr (Or.inr (e)))) (fun x k hx => False.elim hx)
      · exact fe_j F5 (fe_cParameters_one_b121 _ _ _ _ _ _) (fun x k hx => by simp only [wI_cParameters_one_b121, F1.r, F2.r, F3.r, F5.r] at hx; rcases hx with e | e <;> first | exact Or.inr (Or.inr (Or.inl (e))) | exact Or.inr (Or.inr (Or.inr (e)))) (fun x k hx => False.elim hx)
theorem fe_cParameters_one (v0 : Nat) (v1 : Nat) (v2 : Int) (v3 : Int) (v4 : Int) (h : Hp) : Feo (wI_cParameters_one v0 v1 v2 v3 v4 h) (wJ_cParameters_one v0 v1 v2 v3 v4 h) h Prod.snd (f_cParameters_one v0 v1 v2 v3 v4 h) := by
  unfold f_cParameters_one
  refine fe_it fe_no ?_
  refine fe_it ?_ fe_no
  refine fe_it ?_ ?_
  · refine fe_b2 Fe.rf (fe_cParameters_isAnswer _ _) (fun x k hx => False.elim hx) (fun x k hx => False.elim hx) (fun r5 h3 F1 => ?_)
    refine fe_it ?_ ?_
    · exact fe_j F1 (fe_cParameters_one_b25 _ _ _ _ _) (fun x k hx => by simp only [wI_cParameters_one_b25, F1.r] at hx; rcases hx with e | e | e | e <;> first | exact Or.inl (e) | exact Or.inr (Or.inl (e)) | exact Or.inr (Or.inr (Or.inl (e))) | exact Or.inr (Or.inr (Or.inr (e)))) (fun x k hx => by simp only [wJ_cParameters_one_b25, F1.r] at hx; rcases hx with e | e <;> first | exact Or.inl (e) | exact Or.inr (e))
    · refine fe_it ?_ ?_
      · exact fe_j F1 (fe_cParameters_one_b25 _ _ _ _ _) (fun x k hx => by simp only [wI_cParameters_one_b25, F1.r] at hx; rcases hx with e | e | e | e <;> first | exact Or.inl (e) | exact Or.inr (Or.inl (e)) | exact Or.inr (Or.inr (Or.inl (e))) | exact Or.inr (Or.inr (Or.inr (e)))) (fun x k hx => by simp only [wJ_cParameters_one_b25, F1.r] at hx; rcases hx with e | e <;> first | exact Or.inl (e) | exact Or.inr (e))
      · exact fe_so F1
  · exact fe_so Fe.rf
def wI_cParameters_read_b130 (v0 : Nat) (v1 : Nat) (v2 : Int) (v3 : Int) (h : Hp) (x k : Nat) : Prop := x = hR h v0 1 ∨ x = hR h v0 2 ∨ (x = v0 ∧ k = 3) ∨ (x = v0 ∧ k = 4) ∨ (x = v1 ∧ k = 1) ∨ (x = v1 ∧ k = 3)
def wJ_cParameters_read_b130 (v0 : Nat) (v1 : Nat) (v2 : Int) (v3 : Int) (h : Hp) (x k : Nat) : Prop := x = (hR h v0 0) ∨ x = hR h v0 0
def wI_cParameters_read_b89 (v0 : Nat) (v1 : Nat) (v2 : Int) (v3 : Int) (v4 : Int) (v5 : Int) (v7 : Int) (s0 : Nat) (s1 : Int) (h : Hp) (x k : Nat) : Prop := x = hR h v0 1 ∨ x = hR h v0 2 ∨ (x = s0 ∧ k = 3) ∨ (x = v0 ∧ k = 3) ∨ (x = v0 ∧ k = 4) ∨ (x = v1 ∧ k = 1) ∨ (x = v1 ∧ k = 3)
def wJ_cParameters_read_b89 (v0 : Nat) (v1 : Nat) (v2 : Int) (v3 : Int) (v4 : Int) (v5 : Int) (v7 : Int) (s0 : Nat) (s1 : Int) (h : Hp) (x k : Nat) : Prop := x = (hR h v0 0) ∨ x = hR h v0 0
def wI_cParameters_read_b60 (v0 : Nat) (v1 : Nat) (v2 : Int) (v3 : Int) (v4 : Int) (v5 : Int) (v7 : Int) (s0 : Nat) (h : Hp) (x k : Nat) : Prop := x = hR h v0 1 ∨ x = hR h v0 2 ∨ (x = s0 ∧ k = 3) ∨ (x = v0 ∧ k = 3) ∨ (x = v0 ∧ k = 4) ∨ (x = v1 ∧ k = 1) ∨ (x = v1 ∧ k = 3)
def wJ_cParameters_read_b60 (v0 : Nat) (v1 : Nat) (v2 : Int) (v3 : Int) (v4 : Int) (v5 : Int) (v7 : Int) (s0 : Nat) (h : Hp) (x k : Nat) : Prop := x = (hR h v0 0) ∨ x = hR h v0 0
def wI_cParameters_read_b16 (v0 : Nat) (v1 : Nat) (v2 : Int) (v3 : Int) (h : Hp) (x k : Nat) : Prop := x = hR h v0 1 ∨ x = hR h v0 2 ∨ (x = v0 ∧ k = 3) ∨ (x = v0 ∧ k = 4) ∨ (x = v1 ∧ k = 1) ∨ (x = v1 ∧ k = 3)
def wJ_cParameters_read_b16 (v0 : Nat) (v1 : Nat) (v2 : Int) (v3 : Int) (h : Hp) (x k : Nat) : Prop := x = (hR h v0 0) ∨ x = hR h v0 0
def wI_cParameters_read (v0 : Nat) (v1 : Nat) (v2 : Int) (h : Hp) (x k : Nat) : Prop := x = hR h v0 1 ∨ x = hR h v0 2 ∨ (x = v0 ∧ k = 3) ∨ (x = v0 ∧ k = 4) ∨ (x = v1 ∧ k = 1) ∨ (x = v1 ∧ k = 3)
def wJ_cParameters_read (v0 : Nat) (v1 : Nat) (v2 : Int) (h : Hp) (x k : Nat) : Prop := x = (hR h v0 0) ∨ x = hR h v0 0
theorem fe_cParameters_read_b130 {k16 : Nat → Nat → Int → Int → Hp → Option (Int × Hp)} (hk16 : ∀ (v0 : Nat) (v1 : Nat) (v2 : Int) (v3 : Int) (h : Hp), Feo (wI_cParameters_read_b16 v0 v1 v2 v3 h) (wJ_cParameters_read_b16 v0 v1 v2 v3 h) h Prod.snd (k16 v0 v1 v2 v3 h)) (v0 : Nat) (v1 : Nat) (v2 : Int) (v3 : Int) (h : Hp) : Feo (wI_cParameters_read_b130 v0 v1 v2 v3 h) (wJ_cParameters_read_b130 v0 v1 v2 v3 h) h Prod.snd (f_cParameters_read_b130 k16 v0 v1 v2 v3 h) := by
  unfold f_cParameters_read_b130
  exact fe_j Fe.rf (hk16 _ _ _ _ _) (fun x k hx => by simp only [wI_cParameters_read_b16] at hx; rcases hx with e | e | e | e | e | e <;> first | exact Or.inl (e) | exact Or.inr (Or.inl (e)) | exact Or.inr (Or.inr (Or.inl (e))) | exact Or.inr (Or.inr (Or.inr (Or.inl (e)))) | exact Or.inr (Or.inr (Or.inr (Or.inr (Or.inl (e))))) | exact Or.inr (Or.inr (Or.inr (Or.inr (Or.inr (e)))))) (fun x k hx => by simp only [wJ_cParameters_read_b16] at hx; rcases hx with e | e <;> first | exact Or.inl (e) | exact Or.inr (e))
theorem fe_cParameters_read_b89 {k16 : Nat → Nat → Int → Int → Hp → Option (Int × Hp)} (hk16 : ∀ (v0 : Nat) (v1 : Nat) (v2 : Int) (v3 : Int) (h : Hp), Feo (wI_cParameters_read_b16 v0 v1 v2 v3 h) (wJ_cParameters_read_b16 v0 v1 v2 v3 h) h Prod.snd (k16 v0 v1 v2 v3 h)) (v0 : Nat) (v1 : Nat) (v2 : Int) (v3 : Int) (v4 : Int) (v5 : Int) (v7 : Int) (s0 : Nat) (s1 : Int) (h : Hp) : Feo (wI_cParameters_read_b89 v0 v1 v2 v3 v4 v5 v7 s0 s1 h) (wJ_cParameters_read_b89 v0 v1 v2 v3 v4 v5 v7 s0 s1 h) h Prod.snd (f_cParameters_read_b89 k16 v0 v1 v2 v3 v4 v5 v7 s0 s1 h) := by
  unfold f_cParameters_read_b89
  refine fe_it fe_no ?_
  refine fe_I Fe.rf (Or.inr (Or.inr (Or.inl (⟨rfl, rfl⟩)))) (fun h23 F1 => ?_)
  refine fe_it ?_ ?_
  · refine fe_it ?_ ?_
    · refine fe_it fe_no ?_
      refine fe_b2 F1 (fe_cBytes_pass _ _ _) (fun x k hx => by simp only [wI_cBytes_pass, F1.r] at hx; rcases hx with e | e <;> first | exact Or.inr (Or.inr (Or.inr (Or.inr (Or.inr (Or.inl (e)))))) | exact Or.inr (Or.inr (Or.inr (Or.inr (Or.inr (Or.inr (e))))))) (fun x k hx => False.elim hx) (fun r27 h25 F2 => ?_)
      exact fe_j F2 (fe_cParameters_read_b130 hk16 _ _ _ _ _) (fun x k hx => by simp only [wI_cParameters_read_b130, F1.r, F2.r] at hx; rcases hx with e | e | e | e | e | e <;> first | exact Or.inl (e) | exact Or.inr (Or.inl (e)) | exact Or.inr (Or.inr (Or.inr (Or.inl (e)))) | exact Or.inr (Or.inr (Or.inr (Or.inr (Or.inl (e))))) | exact Or.inr (Or.inr (Or.inr (Or.inr (Or.inr (Or.inl (e)))))) | exact Or.inr (Or.inr (Or.inr (Or.inr (Or.inr (Or.inr (e))))))) (fun x k hx => by simp only [wJ_cParameters_read_b130, F1.r, F2.r] at hx; rcases hx with e | e <;> first | exact Or.inl (e) | exact Or.inr (e))
    · exact fe_j F1 (fe_cParameters_read_b130 hk16 _ _ _ _ _) (fun x k hx => by simp only [wI_cParameters_read_b130, F1.r] at hx; rcases hx with e | e | e | e | e | e <;> first | exact Or.inl (e) | exact Or.inr (Or.inl (e)) | exact Or.inr (Or.inr (Or.inr (Or.inl (e)))) | exact Or.inr (Or.inr (Or.inr (Or.inr (Or.inl (e))))) | exact Or.inr (Or.inr (Or.inr (Or.inr (Or.inr (Or.inl (e)))))) | exact Or.inr (Or.inr (Or.inr (Or.inr (Or.inr (Or.inr (e))))))) (fun x k hx => by simp only [wJ_cParameters_read_b130, F1.r] at hx; rcases hx with e | e <;> first | exact Or.inl (e) | exact Or.inr (e))
  · refine fe_I F1 (Or.inr (Or.inr (Or.inr (Or.inr (Or.inl (⟨rfl, rfl⟩)))))) (fun h28 F3 => ?_)
    exact fe_so F3
theorem fe_cParameters_read_b60 {k16 : Nat → Nat → Int → Int → Hp → Option (Int × Hp)} (hk16 : ∀ (v0 : Nat) (v1 : Nat) (v2 : Int) (v3 : Int) (h : Hp), Feo (wI_cParameters_read_b16 v0 v1 v2 v3 h) (wJ_cParameters_read_b16 v0 v1 v2 v3 h) h Prod.snd (k16 v0 v1 v2 v3 h)) (v0 : Nat) (v1 : Nat) (v2 : Int) (v3 : Int) (v4 : Int) (v5 : Int) (v7 : Int) (s0 : Nat) (h : Hp) : Feo (wI_cParameters_read_b60 v0 v1 v2 v3 v4 v5 v7 s0 h) (wJ_cParameters_read_b60 v0 v1 v2 v3 v4 v5 v7 s0 h) h Prod.snd (f_cParameters_read_b60 k16 v0 v1 v2 v3 v4 v5 v7 s0 h) := by
  unfold f_cParameters_read_b60
  exact fe_j Fe.rf (fe_cParameters_read_b89 hk16 _ _ _ _ _ _ _ _ _ _) (fun x k hx => by simp only [wI_cParameters_read_b89] at hx; rcases hx with e | e | e | e | e | e | e <;> first | exact Or.inl (e) | exact Or.inr (Or.inl (e)) | exact Or.inr (Or.inr (Or.inl (e))) | exact Or.inr (Or.inr (Or.inr (Or.inl (e)))) | exact Or.inr (Or.inr (Or.inr (Or.inr (Or.inl (e))))) | exact Or.inr (Or.inr (Or.inr (Or.inr (Or.inr (Or.inl (e)))))) | exact Or.inr (Or.inr (Or.inr (Or.inr (Or.inr (Or.inr (e))))))) (fun x k hx => by simp only [wJ_cParameters_read_b89] at hx; rcases hx with e | e <;> first | exact Or.inl (e) | exact Or.inr (e))
theorem fe_cParameters_read_b16 {k16 : Nat → Nat → Int → Int → Hp → Option (Int × Hp)} (hk16 : ∀ (v0 : Nat) (v1 : Nat) (v2 : Int) (v3 : Int) (h : Hp), Feo (wI_cParameters_read_b16 v0 v1 v2 v3 h) (wJ_cParameters_read_b16 v0 v1 v2 v3 h) h Prod.snd (k16 v0 v1 v2 v3 h)) (v0 : Nat) (v1 : Nat) (v2 : Int) (v3 : Int) (h : Hp) : Feo (wI_cParameters_read_b16 v0 v1 v2 v3 h) (wJ_cParameters_read_b16 v0 v1 v2 v3 h) h Prod.snd (f_cParameters_read_b16 k16 v0 v1 v2 v3 h) := by
  unfold f_cParameters_read_b16
  refine fe_it fe_no ?_
  refine fe_b2 Fe.rf (fe_cBytes_left _ _) (fun x k hx => False.elim hx) (fun x k hx => False.elim hx) (fun r8 h6 F1 => ?_)
  refine fe_it ?_ ?_
  · exact fe_so F1
  · refine fe_v (fun y9 => ?_)
    refine fe_b2 F1 (fe_cBytes_number _ _) (fun x k hx => by simp only [wI_cBytes_number, F1.r] at hx; rcases hx with e | e <;> first | exact Or.inr (Or.inr (Or.inr (Or.inr (Or.inl (e))))) | exact Or.inr (Or.inr (Or.inr (Or.inr (Or.inr (e)))))) (fun x k hx => False.elim hx) (fun r12 h10 F2 => ?_)
    refine fe_b2 F2 (fe_cBytes_number _ _) (fun x k hx => by simp only [wI_cBytes_number, F1.r, F2.r] at hx; rcases hx with e | e <;> first | exact Or.inr (Or.inr (Or.inr (Or.inr (Or.inl (e))))) | exact Or.inr (Or.inr (Or.inr (Or.inr (Or.inr (e)))))) (fun x k hx => False.elim hx) (fun r15 h13 F3 => ?_)
    refine fe_it ?_ ?_
    · exact fe_j F3 (fe_cParameters_read_b60 hk16 _ _ _ _ _ _ _ _ _) (fun x k hx => by simp only [wI_cParameters_read_b60, F1.r, F2.r, F3.r] at hx; rcases hx with e | e | e | e | e | e | e <;> first | exact Or.inl (e) | exact Or.inr (Or.inl (e)) | exact Or.inr (Or.inr (Or.inl (e))) | exact Or.inr (Or.inr (Or.inr (Or.inl (e)))) | exact Or.inr (Or.inr (Or.inr (Or.inr (Or.inl (e))))) | exact Or.inr (Or.inr (Or.inr (Or.inr (Or.inr (e)))))) (fun x k hx => by simp only [wJ_cParameters_read_b60, F1.r, F2.r, F3.r] at hx; rcases hx with e | e <;> first | exact Or.inl (e) | exact Or.inr (e))
    · refine fe_b2 F3 (fe_cBytes_left _ _) (fun x k hx => False.elim hx) (fun x k hx => False.elim hx) (fun r18 h16 F4 => ?_)
      refine fe_it ?_ ?_
      · refine fe_it ?_ ?_
        · exact fe_j F4 (fe_cParameters_read_b89 hk16 _ _ _ _ _ _ _ _ _ _) (fun x k hx => by simp only [wI_cParameters_read_b89, F1.r, F2.r, F3.r, F4.r] at hx; rcases hx with e | e | e | e | e | e | e <;> first | exact Or.inl (e) | exact Or.inr (Or.inl (e)) | exact Or.inr (Or.inr (Or.inl (e))) | exact Or.inr (Or.inr (Or.inr (Or.inl (e)))) | exact Or.inr (Or.inr (Or.inr (Or.inr (Or.inl (e))))) | exact Or.inr (Or.inr (Or.inr (Or.inr (Or.inr (e)))))) (fun x k hx => by simp only [wJ_cParameters_read_b89, F1.r, F2.r, F3.r, F4.r] at hx; rcases hx with e | e <;> first | exact Or.inl (e) | exact Or.inr (e))
        · refine fe_b2 F4 (fe_cParameters_one _ _ _ _ _ _) (fun x k hx => by simp only [wI_cParameters_one, F1.r, F2.r, F3.r, F4.r] at hx; rcases hx with e | e | e | e <;> first | exact Or.inl (e) | exact Or.inr (Or.inl (e)) | exact Or.inr (Or.inr (Or.inr (Or.inr (Or.inl (e))))) | exact Or.inr (Or.inr (Or.inr (Or.inr (Or.inr (e)))))) (fun x k hx => by simp only [wJ_cParameters_one, F1.r, F2.r, F3.r, F4.r] at hx; rcases hx with e | e <;> first | exact Or.inl (e) | exact Or.inr (e)) (fun r21 h19 F5 => ?_)
          exact fe_j F5 (fe_cParameters_read_b89 hk16 _ _ _ _ _ _ _ _ _ _) (fun x k hx => by simp only [wI_cParameters_read_b89, F1.r, F2.r, F3.r, F4.r, F5.r] at hx; rcases hx with e | e | e | e | e | e | e <;> first | exact Or.inl (e) | exact Or.inr (Or.inl (e)) | exact Or.inr (Or.inr (Or.inl (e))) | exact Or.inr (Or.inr (Or.inr (Or.inl (e)))) | exact Or.inr (Or.inr (Or.inr (Or.inr (Or.inl (e))))) | exact Or.inr (Or.inr (Or.inr (Or.inr (Or.inr (e)))))) (fun x k hx => by simp only [wJ_cParameters_read_b89, F1.r, F2.r, F3.r, F4.r, F5.r] at hx; rcases hx with e | e <;> first | exact Or.inl (e) | exact Or.inr (e))
      · exact fe_j F4 (fe_cParameters_read_b60 hk16 _ _ _ _ _ _ _ _ _) (fun x k hx => by simp only [wI_cParameters_read_b60, F1.r, F2.r, F3.r, F4.r] at hx; rcases hx with e | e | e | e | e | e | e <;> first | exact Or.inl (e) | exact Or.inr (Or.inl (e)) | exact Or.inr (Or.inr (Or.inl (e))) | exact Or.inr (Or.inr (Or.inr (Or.inl (e)))) | exact Or.inr (Or.inr (Or.inr (Or.inr (Or.inl (e))))) | exact Or.inr (Or.inr (Or.inr (Or.inr (Or.inr (e)))))) (fun x k hx => by simp only [wJ_cParameters_read_b60, F1.r, F2.r, F3.r, F4.r] at hx; rcases hx with e | e <;> first | exact Or.inl (e) | exact Or.inr (e))
theorem fe_cParameters_read_b16_lp (n : Nat) : ∀ (v0 : Nat) (v1 : Nat) (v2 : Int) (v3 : Int) (h : Hp), Feo (wI_cParameters_read_b16 v0 v1 v2 v3 h) (wJ_cParameters_read_b16 v0 v1 v2 v3 h) h Prod.snd (f_cParameters_read_b16_lp n v0 v1 v2 v3 h) := by
  induction n with
  | zero => intro v0 v1 v2 v3 h; exact fe_no
  | succ n ih => intro v0 v1 v2 v3 h; exact fe_cParameters_read_b16 ih v0 v1 v2 v3 h
theorem fe_cParameters_read (v0 : Nat) (v1 : Nat) (v2 : Int) (h : Hp) : Feo (wI_cParameters_read v0 v1 v2 h) (wJ_cParameters_read v0 v1 v2 h) h Prod.snd (f_cParameters_read v0 v1 v2 h) := by
  unfold f_cParameters_read
  refine fe_b1 Fe.rf (fe_cParameters_forget _ _) (fun x k hx => by simp only [wI_cParameters_forget] at hx; rcases hx with e | e <;> first | exact Or.inl (e) | exact Or.inr (Or.inl (e))) (fun x k hx => by simp only [wJ_cParameters_forget] at hx; rcases hx with e | e <;> first | exact Or.inl (e) | exact Or.inr (e)) (fun h1 F1 => ?_)
  refine fe_I F1 (Or.inr (Or.inr (Or.inl (⟨rfl, rfl⟩)))) (fun h3 F2 => ?_)
  refine fe_I F2 (Or.inr (Or.inr (Or.inr (Or.inl (⟨rfl, rfl⟩))))) (fun h4 F3 => ?_)
  exact fe_j F3 (fe_cParameters_read_b16_lp FU _ _ _ _ _) (fun x k hx => by simp only [wI_cParameters_read_b16, F1.r, F2.r, F3.r] at hx; rcases hx with e | e | e | e | e | e <;> first | exact Or.inl (e) | exact Or.inr (Or.inl (e)) | exact Or.inr (Or.inr (Or.inl (e))) | exact Or.inr (Or.inr (Or.inr (Or.inl (e)))) | exact Or.inr (Or.inr (Or.inr (Or.inr (Or.inl (e))))) | exact Or.inr (Or.inr (Or.inr (Or.inr (Or.inr (e)))))) (fun x k hx => by simp only [wJ_cParameters_read_b16, F1.r, F2.r, F3.r] at hx; rcases hx with e | e <;> first | exact Or.inl (e) | exact Or.inr (e))
def wI_cSide_isName_b76 (v0 : Nat) (v1 : Int) (v2 : Int) (v4 : Int) (s0 : Int) (h : Hp) (x k : Nat) : Prop := False
def wJ_cSide_isName_b76 (v0 : Nat) (v1 : Int) (v2 : Int) (v4 : Int) (s0 : Int) (h : Hp) (x k : Nat) : Prop := False
def wI_cSide_isName_b25 (v0 : Nat) (v1 : Int) (v2 : Int) (v3 : Int) (v4 : Int) (h : Hp) (x k : Nat) : Prop := False
def wJ_cSide_isName_b25 (v0 : Nat) (v1 : Int) (v2 : Int) (v3 : Int) (v4 : Int) (h : Hp) (x k : Nat) : Prop := False
def wI_cSide_isName_b21 (v0 : Nat) (v1 : Int) (v2 : Int) (s0 : Int) (h : Hp) (x k : Nat) : Prop := False
def wJ_cSide_isName_b21 (v0 : Nat) (v1 : Int) (v2 : Int) (s0 : Int) (h : Hp) (x k : Nat) : Prop := False
def wI_cSide_isName (v0 : Nat) (v1 : Int) (v2 : Int) (h : Hp) (x k : Nat) : Prop := False
def wJ_cSide_isName (v0 : Nat) (v1 : Int) (v2 : Int) (h : Hp) (x k : Nat) : Prop := False
theorem fe_cSide_isName_b76 {k25 : Nat → Int → Int → Int → Int → Hp → Option (Int × Hp)} (hk25 : ∀ (v0 : Nat) (v1 : Int) (v2 : Int) (v3 : Int) (v4 : Int) (h : Hp), Feo (wI_cSide_isName_b25 v0 v1 v2 v3 v4 h) (wJ_cSide_isName_b25 v0 v1 v2 v3 v4 h) h Prod.snd (k25 v0 v1 v2 v3 v4 h)) (v0 : Nat) (v1 : Int) (v2 : Int) (v4 : Int) (s0 : Int) (h : Hp) : Feo (wI_cSide_isName_b76 v0 v1 v2 v4 s0 h) (wJ_cSide_isName_b76 v0 v1 v2 v4 s0 h) h Prod.snd (f_cSide_isName_b76 k25 v0 v1 v2 v4 s0 h) := by
  unfold f_cSide_isName_b76
  exact fe_j Fe.rf (hk25 _ _ _ _ _ _) (fun x k hx => False.elim hx) (fun x k hx => False.elim hx)
theorem fe_cSide_isName_b25 {k25 : Nat → Int → Int → Int → Int → Hp → Option (Int × Hp)} (hk25 : ∀ (v0 : Nat) (v1 : Int) (v2 : Int) (v3 : Int) (v4 : Int) (h : Hp), Feo (wI_cSide_isName_b25 v0 v1 v2 v3 v4 h) (wJ_cSide_isName_b25 v0 v1 v2 v3 v4 h) h Prod.snd (k25 v0 v1 v2 v3 v4 h)) (v0 : Nat) (v1 : Int) (v2 : Int) (v3 : Int) (v4 : Int) (h : Hp) : Feo (wI_cSide_isName_b25 v0 v1 v2 v3 v4 h) (wJ_cSide_isName_b25 v0 v1 v2 v3 v4 h) h Prod.snd (f_cSide_isName_b25 k25 v0 v1 v2 v3 v4 h) := by
  unfold f_cSide_isName_b25
  refine fe_it ?_ ?_
  · refine fe_it ?_ fe_no
    exact fe_so Fe.rf
  · refine fe_it ?_ ?_
    · refine fe_it ?_ fe_no
      exact fe_so Fe.rf
    · refine fe_it fe_no ?_
      refine fe_it fe_no ?_
      refine fe_it fe_no ?_
      refine fe_it ?_ fe_no
      refine fe_it fe_no ?_
      refine fe_it ?_ fe_no
      refine fe_it fe_no ?_
      refine fe_it ?_ fe_no
      refine fe_it ?_ ?_
      · exact fe_j Fe.rf (fe_cSide_isName_b76 hk25 _ _ _ _ _ _) (fun x k hx => False.elim hx) (fun x k hx => False.elim hx)
      · exact fe_j Fe.rf (fe_cSide_isName_b76 hk25 _ _ _ _ _ _) (fun x k hx => False.elim hx) (fun x k hx => False.elim hx)
theorem fe_cSide_isName_b25_lp (n : Nat) : ∀ (v0 : Nat) (v1 : Int) (v2 : Int) (v3 : Int) (v4 : Int) (h : Hp), Feo (wI_cSide_isName_b25 v0 v1 v2 v3 v4 h) (wJ_cSide_isName_b25 v0 v1 v2 v3 v4 h) h Prod.snd (f_cSide_isName_b25_lp n v0 v1 v2 v3 v4 h) := by
  induction n with
  | zero => intro v0 v1 v2 v3 v4 h; exact fe_no
  | succ n ih => intro v0 v1 v2 v3 v4 h; exact fe_cSide_isName_b25 ih v0 v1 v2 v3 v4 h
theorem fe_cSide_isName_b21 (v0 : Nat) (v1 : Int) (v2 : Int) (s0 : Int) (h : Hp) : Feo (wI_cSide_isName_b21 v0 v1 v2 s0 h) (wJ_cSide_isName_b21 v0 v1 v2 s0 h) h Prod.snd (f_cSide_isName_b21 v0 v1 v2 s0 h) := by
  unfold f_cSide_isName_b21
  exact fe_j Fe.rf (fe_cSide_isName_b25_lp FU _ _ _ _ _ _) (fun x k hx => False.elim hx) (fun x k hx => False.elim hx)
theorem fe_cSide_isName (v0 : Nat) (v1 : Int) (v2 : Int) (h : Hp) : Feo (wI_cSide_isName v0 v1 v2 h) (wJ_cSide_isName v0 v1 v2 h) h Prod.snd (f_cSide_isName v0 v1 v2 h) := by
  unfold f_cSide_isName
  refine fe_it fe_no ?_
  refine fe_it fe_no ?_
  refine fe_it ?_ fe_no
  refine fe_it ?_ ?_
  · exact fe_j Fe.rf (fe_cSide_isName_b21 _ _ _ _ _) (fun x k hx => False.elim hx) (fun x k hx => False.elim hx)
  · exact fe_j Fe.rf (fe_cSide_isName_b21 _ _ _ _ _) (fun x k hx => False.elim hx) (fun x k hx => False.elim hx)
def wI_cHall_limits (v0 : Nat) (v1 : Int) (v3 : Int) (v5 : Int) (v7 : Int) (v9 : Int) (v11 : Int) (h : Hp) (x k : Nat) : Prop := False
def wJ_cHall_limits (v0 : Nat) (v1 : Int) (v3 : Int) (v5 : Int) (v7 : Int) (v9 : Int) (v11 : Int) (h : Hp) (x k : Nat) : Prop := (x = hR h (hR h v0 3) 0 ∧ k = 3) ∨ (x = hR h (hR h v0 3) 1 ∧ k = 3) ∨ x = hR h v0 5 ∨ (x = v0 ∧ k = 9)
theorem fe_cHall_limits (v0 : Nat) (v1 : Int) (v3 : Int) (v5 : Int) (v7 : Int) (v9 : Int) (v11 : Int) (h : Hp) : Feo (wI_cHall_limits v0 v1 v3 v5 v7 v9 v11 h) (wJ_cHall_limits v0 v1 v3 v5 v7 v9 v11 h) h id (f_cHall_limits v0 v1 v3 v5 v7 v9 v11 h) := by
  unfold f_cHall_limits
  refine fe_it fe_no ?_
  refine fe_it ?_ fe_no
  refine fe_J Fe.rf (Or.inr (Or.inr (Or.inl (rfl)))) (fun h3 F1 => ?_)
  refine fe_it fe_no ?_
  refine fe_it ?_ fe_no
  refine fe_J F1 (Or.inr (Or.inr (Or.inl ((by first | (simp only [F1.r]; exact rfl) | simp only [F1.r]))))) (fun h6 F2 => ?_)
  refine fe_it fe_no ?_
  refine fe_it ?_ fe_no
  refine fe_J F2 (Or.inr (Or.inr (Or.inl ((by first | (simp only [F1.r, F2.r]; exact rfl) | simp only [F1.r, F2.r]))))) (fun h9 F3 => ?_)
  refine fe_J F3 (Or.inr (Or.inr (Or.inr (⟨rfl, rfl⟩)))) (fun h10 F4 => ?_)
  refine fe_it fe_no ?_
  refine fe_it ?_ fe_no
  refine fe_it fe_no ?_
  refine fe_J F4 (Or.inl (⟨(by first | (simp only [F1.r, F2.r, F3.r, F4.r]; exact rfl) | simp only [F1.r, F2.r, F3.r, F4.r]), rfl⟩)) (fun h14 F5 => ?_)
  refine fe_it fe_no ?_
  refine fe_it ?_ fe_no
  refine fe_it fe_no ?_
  refine fe_J F5 (Or.inr (Or.inl (⟨(by first | (simp only [F1.r, F2.r, F3.r, F4.r, F5.r]; exact rfl) | simp only [F1.r, F2.r, F3.r, F4.r, F5.r]), rfl⟩))) (fun h18 F6 => ?_)
  exact fe_so F6
def wI_cSide_confirm (v0 : Nat) (h : Hp) (x k : Nat) : Prop := (x = (hR h (hR h (hR h (hR h v0 9) 0) 1) 11) ∧ k = 1) ∨ (x = (hR h (hR h (hR h (hR h v0 9) 0) 1) 11) ∧ k = 2) ∨ (x = (hR h (hR h (hR h (hR h v0 9) 0) 1) 12) ∧ k = 1) ∨ (x = (hR h (hR h (hR h (hR h v0 9) 0) 1) 12) ∧ k = 2) ∨ (x = (hR h (hR h (hR h (hR h v0 9) 0) 1) 13) ∧ k = 2) ∨ (x = (hR h (hR h (hR h v0 9) 0) 1) ∧ k = 4) ∨ (x = (hR h (hR h (hR h v0 9) 0) 1) ∧ k = 5) ∨ (x = (hR h (hR h (hR h v0 9) 0) 1) ∧ k = 8) ∨ (x = (hR h (hR h (hR h v0 9) 0) 1) ∧ k = 10) ∨ (x = (hR h (hR h (hR h v0 9) 0) 1) ∧ k = 14) ∨ (x = (hR h (hR h (hR h v0 9) 0) 1) ∧ k = 17) ∨ (x = (hR h v0 9) ∧ k = 4) ∨ (x = hR h (hR h v0 9) 2 ∧ k = 3) ∨ x = hR h v0 32 ∨ x = hR h v0 6 ∨ (x = hR h v0 9 ∧ k = 6) ∨ (x = hR h v0 9 ∧ k = 7)
def wJ_cSide_confirm (v0 : Nat) (h : Hp) (x k : Nat) : Prop := (x = (hR h (hR h (hR h (hR h v0 9) 0) 1) 13) ∧ k = 3)
theorem fe_cSide_confirm (v0 : Nat) (h : Hp) : Feo (wI_cSide_confirm v0 h) (wJ_cSide_confirm v0 h) h id (f_cSide_confirm v0 h) := by
  unfold f_cSide_confirm
  refine fe_it fe_no ?_
  refine fe_I Fe.rf (Or.inr (Or.inr (Or.inr (Or.inr (Or.inr (Or.inr (Or.inr (Or.inr (Or.inr (Or.inr (Or.inr (Or.inr (Or.inr (Or.inr (Or.inr (Or.inl (⟨rfl, rfl⟩))))))))))))))))) (fun h2 F1 => ?_)
  refine fe_it fe_no ?_
  refine fe_I F1 (Or.inr (Or.inr (Or.inr (Or.inr (Or.inr (Or.inr (Or.inr (Or.inr (Or.inr (Or.inr (Or.inr (Or.inr (Or.inr (Or.inr (Or.inr (Or.inr (⟨(by first | (simp only [F1.r]; exact rfl) | simp only [F1.r]), rfl⟩))))))))))))))))) (fun h4 F2 => ?_)
  refine fe_b1 F2 (fe_cSide_discard _ _ _) (fun x k hx => by simp only [wI_cSide_discard, F1.r, F2.r] at hx; rcases hx with e | e | e | e | e | e | e | e | e | e | e | e | e | e | e <;> first | exact Or.inl (e) | exact Or.inr (Or.inl (e)) | exact Or.inr (Or.inr (Or.inl (e))) | exact Or.inr (Or.inr (Or.inr (Or.inl (e)))) | exact Or.inr (Or.inr (Or.inr (Or.inr (Or.inl (e))))) | exact Or.inr (Or.inr (Or.inr (Or.inr (Or.inr (Or.inl (e)))))) | exact Or.inr (Or.inr (Or.inr (Or.inr (Or.inr (Or.inr (Or.inl (e))))))) | exact Or.inr (Or.inr (Or.inr (Or.inr (Or.inr (Or.inr (Or.inr (Or.inl (e)))))))) | exact Or.inr (Or.inr (Or.inr (Or.inr (Or.inr (Or.inr (Or.inr (Or.inr (Or.inl (e))))))))) | exact Or.inr (Or.inr (Or.inr (Or.inr (Or.inr (Or.inr (Or.inr (Or.inr (Or.inr (Or.inl (e)))))))))) | exact Or.inr (Or.inr (Or.inr (Or.inr (Or.inr (Or.inr (Or.inr (Or.inr (Or.inr (Or.inr (Or.inl (e))))))))))) | exact Or.inr (Or.inr (Or.inr (Or.inr (Or.inr (Or.inr (Or.inr (Or.inr (Or.inr (Or.inr (Or.inr (Or.inl (e)))))))))))) | exact Or.inr (Or.inr (Or.inr (Or.inr (Or.inr (Or.inr (Or.inr (Or.inr (Or.inr (Or.inr (Or.inr (Or.inr (Or.inl (e))))))))))))) | exact Or.inr (Or.inr (Or.inr (Or.inr (Or.inr (Or.inr (Or.inr (Or.inr (Or.inr (Or.inr (Or.inr (Or.inr (Or.inr (Or.inl (e)))))))))))))) | exact Or.inr (Or.inr (Or.inr (Or.inr (Or.inr (Or.inr (Or.inr (Or.inr (Or.inr (Or.inr (Or.inr (Or.inr (Or.inr (Or.inr (Or.inl (e)))))))))))))))) (fun x k hx => by simp only [wJ_cSide_discard, F1.r, F2.r] at hx; have e := hx; exact e) (fun h5 F3 => ?_)
  exact fe_so F3
def wI_cSide_drains_b24 (v0 : Nat) (v1 : Nat) (s0 : Nat) (s1 : Int) (h : Hp) (x k : Nat) : Prop := (x = s0 ∧ k = 2) ∨ (x = v0 ∧ k = 22)
def wJ_cSide_drains_b24 (v0 : Nat) (v1 : Nat) (s0 : Nat) (s1 : Int) (h : Hp) (x k : Nat) : Prop := False
def wI_cSide_drains (v0 : Nat) (v1 : Nat) (h : Hp) (x k : Nat) : Prop := (x = v0 ∧ k = 1) ∨ (x = v0 ∧ k = 2) ∨ (x = v0 ∧ k = 22)
def wJ_cSide_drains (v0 : Nat) (v1 : Nat) (h : Hp) (x k : Nat) : Prop := False
theorem fe_cSide_drains_b24 (v0 : Nat) (v1 : Nat) (s0 : Nat) (s1 : Int) (h : Hp) : Feo (wI_cSide_drains_b24 v0 v1 s0 s1 h) (wJ_cSide_drains_b24 v0 v1 s0 s1 h) h id (f_cSide_drains_b24 v0 v1 s0 s1 h) := by
  unfold f_cSide_drains_b24
  refine fe_it fe_no ?_
  refine fe_it fe_no ?_
  refine fe_I Fe.rf (Or.inl (⟨rfl, rfl⟩)) (fun h5 F1 => ?_)
  refine fe_it fe_no ?_
  refine fe_b2 F1 (fe_cSide_patience _ _) (fun x k hx => False.elim hx) (fun x k hx => False.elim hx) (fun r9 h7 F2 => ?_)
  refine fe_I F2 (Or.inr (⟨rfl, rfl⟩)) (fun h10 F3 => ?_)
  exact fe_so F3
theorem fe_cSide_drains (v0 : Nat) (v1 : Nat) (h : Hp) : Feo (wI_cSide_drains v0 v1 h) (wJ_cSide_drains v0 v1 h) h id (f_cSide_drains v0 v1 h) := by
  unfold f_cSide_drains
  refine fe_I Fe.rf (Or.inl (⟨rfl, rfl⟩)) (fun h1 F1 => ?_)
  refine fe_it fe_no ?_
  refine fe_it ?_ ?_
  · exact fe_j F1 (fe_cSide_drains_b24 _ _ _ _ _) (fun x k hx => by simp only [wI_cSide_drains_b24, F1.r] at hx; rcases hx with e | e <;> first | exact Or.inr (Or.inl (e)) | exact Or.inr (Or.inr (e))) (fun x k hx => False.elim hx)
  · exact fe_j F1 (fe_cSide_drains_b24 _ _ _ _ _) (fun x k hx => by simp only [wI_cSide_drains_b24, F1.r] at hx; rcases hx with e | e <;> first | exact Or.inr (Or.inl (e)) | exact Or.inr (Or.inr (e))) (fun x k hx => False.elim hx)
def wI_cHall_allowed_b70 (v0 : Nat) (h : Hp) (x k : Nat) : Prop := False
def wJ_cHall_allowed_b70 (v0 : Nat) (h : Hp) (x k : Nat) : Prop := False
def wI_cHall_allowed_b58 (v0 : Nat) (v1 : Int) (v4 : Int) (s0 : Int) (h : Hp) (x k : Nat) : Prop := False
def wJ_cHall_allowed_b58 (v0 : Nat) (v1 : Int) (v4 : Int) (s0 : Int) (h : Hp) (x k : Nat) : Prop := False
def wI_cHall_allowed_b53 (v0 : Nat) (v1 : Int) (v4 : Int) (h : Hp) (x k : Nat) : Prop := False
def wJ_cHall_allowed_b53 (v0 : Nat) (v1 : Int) (v4 : Int) (h : Hp) (x k : Nat) : Prop := False
def wI_cHall_allowed_b35 (v0 : Nat) (v1 : Int) (v3 : Int) (s0 : Int) (h : Hp) (x k : Nat) : Prop := False
def wJ_cHall_allowed_b35 (v0 : Nat) (v1 : Int) (v3 : Int) (s0 : Int) (h : Hp) (x k : Nat) : Prop := False
def wI_cHall_allowed (v0 : Nat) (v1 : Int) (v3 : Int) (h : Hp) (x k : Nat) : Prop := False
def wJ_cHall_allowed (v0 : Nat) (v1 : Int) (v3 : Int) (h : Hp) (x k : Nat) : Prop := False
theorem fe_cHall_allowed_b70 (v0 : Nat) (h : Hp) : Feo (wI_cHall_allowed_b70 v0 h) (wJ_cHall_allowed_b70 v0 h) h Prod.snd (f_cHall_allowed_b70 v0 h) := by
  unfold f_cHall_allowed_b70
  exact fe_so Fe.rf
theorem fe_cHall_allowed_b58 (v0 : Nat) (v1 : Int) (v4 : Int) (s0 : Int) (h : Hp) : Feo (wI_cHall_allowed_b58 v0 v1 v4 s0 h) (wJ_cHall_allowed_b58 v0 v1 v4 s0 h) h Prod.snd (f_cHall_allowed_b58 v0 v1 v4 s0 h) := by
  unfold f_cHall_allowed_b58
  refine fe_it ?_ ?_
  · exact fe_j Fe.rf (fe_cHall_allowed_b70 _ _) (fun x k hx => False.elim hx) (fun x k hx => False.elim hx)
  · refine fe_it ?_ ?_
    · refine fe_b2 Fe.rf (fe_cHall_isOwn _ _ _) (fun x k hx => False.elim hx) (fun x k hx => False.elim hx) (fun r16 h14 F1 => ?_)
      refine fe_it ?_ ?_
      · exact fe_so F1
      · refine fe_b2 F1 (fe_cHall_way _ _ _) (fun x k hx => False.elim hx) (fun x k hx => False.elim hx) (fun r19 h17 F2 => ?_)
        refine fe_it fe_no ?_
        refine fe_it ?_ ?_
        · exact fe_so F2
        · exact fe_so F2
    · exact fe_j Fe.rf (fe_cHall_allowed_b70 _ _) (fun x k hx => False.elim hx) (fun x k hx => False.elim hx)
theorem fe_cHall_allowed_b53 (v0 : Nat) (v1 : Int) (v4 : Int) (h : Hp) : Feo (wI_cHall_allowed_b53 v0 v1 v4 h) (wJ_cHall_allowed_b53 v0 v1 v4 h) h Prod.snd (f_cHall_allowed_b53 v0 v1 v4 h) := by
  unfold f_cHall_allowed_b53
  exact fe_j Fe.rf (fe_cHall_allowed_b58 _ _ _ _ _) (fun x k hx => False.elim hx) (fun x k hx => False.elim hx)
theorem fe_cHall_allowed_b35 (v0 : Nat) (v1 : Int) (v3 : Int) (s0 : Int) (h : Hp) : Feo (wI_cHall_allowed_b35 v0 v1 v3 s0 h) (wJ_cHall_allowed_b35 v0 v1 v3 s0 h) h Prod.snd (f_cHall_allowed_b35 v0 v1 v3 s0 h) := by
  unfold f_cHall_allowed_b35
  refine fe_b2 Fe.rf (fe_cHall_isOneWay _ _) (fun x k hx => False.elim hx) (fun x k hx => False.elim hx) (fun r10 h8 F1 => ?_)
  refine fe_it ?_ ?_
  · exact fe_j F1 (fe_cHall_allowed_b53 _ _ _ _) (fun x k hx => False.elim hx) (fun x k hx => False.elim hx)
  · refine fe_b2 F1 (fe_cHall_isOwn _ _ _) (fun x k hx => False.elim hx) (fun x k hx => False.elim hx) (fun r13 h11 F2 => ?_)
    refine fe_it ?_ ?_
    · exact fe_j F2 (fe_cHall_allowed_b58 _ _ _ _ _) (fun x k hx => False.elim hx) (fun x k hx => False.elim hx)
    · exact fe_j F2 (fe_cHall_allowed_b53 _ _ _ _) (fun x k hx => False.elim hx) (fun x k hx => False.elim hx)
theorem fe_cHall_allowed (v0 : Nat) (v1 : Int) (v3 : Int) (h : Hp) : Feo (wI_cHall_allowed v0 v1 v3 h) (wJ_cHall_allowed v0 v1 v3 h) h Prod.snd (f_cHall_allowed v0 v1 v3 h) := by
  unfold f_cHall_allowed
  refine fe_b2 Fe.rf (fe_cHall_isOwn _ _ _) (fun x k hx => False.elim hx) (fun x k hx => False.elim hx) (fun r3 h1 F1 => ?_)
  refine fe_it ?_ ?_
  · exact fe_j F1 (fe_cHall_allowed_b35 _ _ _ _ _) (fun x k hx => False.elim hx) (fun x k hx => False.elim hx)
  · refine fe_b2 F1 (fe_cHall_way _ _ _) (fun x k hx => False.elim hx) (fun x k hx => False.elim hx) (fun r6 h4 F2 => ?_)
    refine fe_it fe_no ?_
    refine fe_it ?_ ?_
    · exact fe_j F2 (fe_cHall_allowed_b35 _ _ _ _ _) (fun x k hx => False.elim hx) (fun x k hx => False.elim hx)
    · exact fe_j F2 (fe_cHall_allowed_b35 _ _ _ _ _) (fun x k hx => False.elim hx) (fun x k hx => False.elim hx)
def wI_cHall_fits_b141 (v0 : Nat) (h : Hp) (x k : Nat) : Prop := False
def wJ_cHall_fits_b141 (v0 : Nat) (h : Hp) (x k : Nat) : Prop := False
def wI_cHall_fits_b107 (v0 : Nat) (v2 : Int) (v6 : Int) (s0 : Int) (h : Hp) (x k : Nat) : Prop := False
def wJ_cHall_fits_b107 (v0 : Nat) (v2 : Int) (v6 : Int) (s0 : Int) (h : Hp) (x k : Nat) : Prop := False
def wI_cHall_fits_b82 (v0 : Nat) (v1 : Int) (v2 : Int) (v5 : Nat) (v6 : Int) (h : Hp) (x k : Nat) : Prop := False
def wJ_cHall_fits_b82 (v0 : Nat) (v1 : Int) (v2 : Int) (v5 : Nat) (v6 : Int) (h : Hp) (x k : Nat) : Prop := False
def wI_cHall_fits_b66 (v0 : Nat) (v1 : Int) (v2 : Int) (v4 : Int) (v5 : Nat) (v6 : Int) (h : Hp) (x k : Nat) : Prop := False
def wJ_cHall_fits_b66 (v0 : Nat) (v1 : Int) (v2 : Int) (v4 : Int) (v5 : Nat) (v6 : Int) (h : Hp) (x k : Nat) : Prop := False
def wI_cHall_fits_b38 (v0 : Nat) (v1 : Int) (v2 : Int) (v4 : Int) (v5 : Nat) (v6 : Int) (s0 : Int) (h : Hp) (x k : Nat) : Prop := False
def wJ_cHall_fits_b38 (v0 : Nat) (v1 : Int) (v2 : Int) (v4 : Int) (v5 : Nat) (v6 : Int) (s0 : Int) (h : Hp) (x k : Nat) : Prop := False
def wI_cHall_fits_b22 (v0 : Nat) (v1 : Int) (v2 : Int) (v4 : Int) (v5 : Nat) (s0 : Int) (h : Hp) (x k : Nat) : Prop := False
def wJ_cHall_fits_b22 (v0 : Nat) (v1 : Int) (v2 : Int) (v4 : Int) (v5 : Nat) (s0 : Int) (h : Hp) (x k : Nat) : Prop := False
def wI_cHall_fits (v0 : Nat) (v1 : Int) (v2 : Int) (v4 : Int) (h : Hp) (x k : Nat) : Prop := False
def wJ_cHall_fits (v0 : Nat) (v1 : Int) (v2 : Int) (v4 : Int) (h : Hp) (x k : Nat) : Prop := False
theorem fe_cHall_fits_b141 (v0 : Nat) (h : Hp) : Feo (wI_cHall_fits_b141 v0 h) (wJ_cHall_fits_b141 v0 h) h Prod.snd (f_cHall_fits_b141 v0 h) := by
  unfold f_cHall_fits_b141
  exact fe_so Fe.rf
theorem fe_cHall_fits_b107 (v0 : Nat) (v2 : Int) (v6 : Int) (s0 : Int) (h : Hp) : Feo (wI_cHall_fits_b107 v0 v2 v6 s0 h) (wJ_cHall_fits_b107 v0 v2 v6 s0 h) h Prod.snd (f_cHall_fits_b107 v0 v2 v6 s0 h) := by
  unfold f_cHall_fits_b107
  refine fe_it ?_ ?_
  · exact fe_j Fe.rf (fe_cHall_fits_b141 _ _) (fun x k hx => False.elim hx) (fun x k hx => False.elim hx)
  · refine fe_it ?_ ?_
    · exact fe_so Fe.rf
    · exact fe_j Fe.rf (fe_cHall_fits_b141 _ _) (fun x k hx => False.elim hx) (fun x k hx => False.elim hx)
theorem fe_cHall_fits_b82 (v0 : Nat) (v1 : Int) (v2 : Int) (v5 : Nat) (v6 : Int) (h : Hp) : Feo (wI_cHall_fits_b82 v0 v1 v2 v5 v6 h) (wJ_cHall_fits_b82 v0 v1 v2 v5 v6 h) h Prod.snd (f_cHall_fits_b82 v0 v1 v2 v5 v6 h) := by
  unfold f_cHall_fits_b82
  refine fe_it ?_ ?_
  · refine fe_it fe_no ?_
    exact fe_j Fe.rf (fe_cHall_fits_b107 _ _ _ _ _) (fun x k hx => False.elim hx) (fun x k hx => False.elim hx)
  · refine fe_b2 Fe.rf (fe_cHall_rule _ _ _ _) (fun x k hx => False.elim hx) (fun x k hx => False.elim hx) (fun r9 h7 F1 => ?_)
    refine fe_it fe_no ?_
    refine fe_it ?_ fe_no
    exact fe_j F1 (fe_cHall_fits_b107 _ _ _ _ _) (fun x k hx => False.elim hx) (fun x k hx => False.elim hx)
theorem fe_cHall_fits_b66 (v0 : Nat) (v1 : Int) (v2 : Int) (v4 : Int) (v5 : Nat) (v6 : Int) (h : Hp) : Feo (wI_cHall_fits_b66 v0 v1 v2 v4 v5 v6 h) (wJ_cHall_fits_b66 v0 v1 v2 v4 v5 v6 h) h Prod.snd (f_cHall_fits_b66 v0 v1 v2 v4 v5 v6 h) := by
  unfold f_cHall_fits_b66
  refine fe_it ?_ ?_
  · exact fe_j Fe.rf (fe_cHall_fits_b82 _ _ _ _ _ _) (fun x k hx => False.elim hx) (fun x k hx => False.elim hx)
  · refine fe_it ?_ ?_
    · exact fe_j Fe.rf (fe_cHall_fits_b82 _ _ _ _ _ _) (fun x k hx => False.elim hx) (fun x k hx => False.elim hx)
    · exact fe_so Fe.rf
theorem fe_cHall_fits_b38 (v0 : Nat) (v1 : Int) (v2 : Int) (v4 : Int) (v5 : Nat) (v6 : Int) (s0 : Int) (h : Hp) : Feo (wI_cHall_fits_b38 v0 v1 v2 v4 v5 v6 s0 h) (wJ_cHall_fits_b38 v0 v1 v2 v4 v5 v6 s0 h) h Prod.snd (f_cHall_fits_b38 v0 v1 v2 v4 v5 v6 s0 h) := by
  unfold f_cHall_fits_b38
  refine fe_it ?_ ?_
  · exact fe_j Fe.rf (fe_cHall_fits_b66 _ _ _ _ _ _ _) (fun x k hx => False.elim hx) (fun x k hx => False.elim hx)
  · refine fe_it ?_ ?_
    · exact fe_so Fe.rf
    · refine fe_it ?_ ?_
      · exact fe_j Fe.rf (fe_cHall_fits_b66 _ _ _ _ _ _ _) (fun x k hx => False.elim hx) (fun x k hx => False.elim hx)
      · refine fe_it ?_ ?_
        · exact fe_so Fe.rf
        · exact fe_j Fe.rf (fe_cHall_fits_b66 _ _ _ _ _ _ _) (fun x k hx => False.elim hx) (fun x k hx => False.elim hx)
theorem fe_cHall_fits_b22 (v0 : Nat) (v1 : Int) (v2 : Int) (v4 : Int) (v5 : Nat) (s0 : Int) (h : Hp) : Feo (wI_cHall_fits_b22 v0 v1 v2 v4 v5 s0 h) (wJ_cHall_fits_b22 v0 v1 v2 v4 v5 s0 h) h Prod.snd (f_cHall_fits_b22 v0 v1 v2 v4 v5 s0 h) := by
  unfold f_cHall_fits_b22
  refine fe_it ?_ ?_
  · refine fe_it fe_no ?_
    exact fe_j Fe.rf (fe_cHall_fits_b38 _ _ _ _ _ _ _ _) (fun x k hx => False.elim hx) (fun x k hx => False.elim hx)
  · exact fe_j Fe.rf (fe_cHall_fits_b38 _ _ _ _ _ _ _ _) (fun x k hx => False.elim hx) (fun x k hx => False.elim hx)
theorem fe_cHall_fits (v0 : Nat) (v1 : Int) (v2 : Int) (v4 : Int) (h : Hp) : Feo (wI_cHall_fits v0 v1 v2 v4 h) (wJ_cHall_fits v0 v1 v2 v4 h) h Prod.snd (f_cHall_fits v0 v1 v2 v4 h) := by
  unfold f_cHall_fits
  refine fe_it fe_no ?_
  refine fe_it ?_ fe_no
  refine fe_l ?_
  refine fe_it ?_ ?_
  · refine fe_it fe_no ?_
    exact fe_j Fe.rf (fe_cHall_fits_b22 _ _ _ _ _ _ _) (fun x k hx => False.elim hx) (fun x k hx => False.elim hx)
  · exact fe_j Fe.rf (fe_cHall_fits_b22 _ _ _ _ _ _ _) (fun x k hx => False.elim hx) (fun x k hx => False.elim hx)
def wI_cHall_reach (v0 : Nat) (v1 : Nat) (v2 : Int) (h : Hp) (x k : Nat) : Prop := (x = v0 ∧ k = 12) ∨ (x = v1 ∧ k = 4)
def wJ_cHall_reach (v0 : Nat) (v1 : Nat) (v2 : Int) (h : Hp) (x k : Nat) : Prop := False
theorem fe_cHall_reach (v0 : Nat) (v1 : Nat) (v2 : Int) (h : Hp) : Feo (wI_cHall_reach v0 v1 v2 h) (wJ_cHall_reach v0 v1 v2 h) h id (f_cHall_reach v0 v1 v2 h) := by
  unfold f_cHall_reach
  refine fe_it fe_no ?_
  refine fe_I Fe.rf (Or.inl (⟨rfl, rfl⟩)) (fun h2 F1 => ?_)
  refine fe_I F1 (Or.inr (⟨rfl, rfl⟩)) (fun h3 F2 => ?_)
  exact fe_so F2
def wI_cBlocks_clear_b0 (v0 : Nat) (v1 : Nat) (h : Hp) (x k : Nat) : Prop := x = hR h v0 3 ∨ (x = v0 ∧ k = 5) ∨ (x = v1 ∧ k = 7)
def wJ_cBlocks_clear_b0 (v0 : Nat) (v1 : Nat) (h : Hp) (x k : Nat) : Prop := False
def wI_cBlocks_clear (v0 : Nat) (v1 : Nat) (h : Hp) (x k : Nat) : Prop := x = hR h v0 3 ∨ (x = v0 ∧ k = 5) ∨ (x = v1 ∧ k = 7)
def wJ_cBlocks_clear (v0 : Nat) (v1 : Nat) (h : Hp) (x k : Nat) : Prop := False
theorem fe_cBlocks_clear_b0 {k0 : Nat → Nat → Hp → Option (Hp)} (hk0 : ∀ (v0 : Nat) (v1 : Nat) (h : Hp), Feo (wI_cBlocks_clear_b0 v0 v1 h) (wJ_cBlocks_clear_b0 v0 v1 h) h id (k0 v0 v1 h)) (v0 : Nat) (v1 : Nat) (h : Hp) : Feo (wI_cBlocks_clear_b0 v0 v1 h) (wJ_cBlocks_clear_b0 v0 v1 h) h id (f_cBlocks_clear_b0 k0 v0 v1 h) := by
  unfold f_cBlocks_clear_b0
  refine fe_it fe_no ?_
  refine fe_it ?_ ?_
  · exact fe_so Fe.rf
  · refine fe_b1 Fe.rf (fe_cBlocks_drop _ _ _) (fun x k hx => by simp only [wI_cBlocks_drop] at hx; rcases hx with e | e | e <;> first | exact Or.inl (e) | exact Or.inr (Or.inl (e)) | exact Or.inr (Or.inr (e))) (fun x k hx => False.elim hx) (fun h2 F1 => ?_)
    exact fe_j F1 (hk0 _ _ _) (fun x k hx => by simp only [wI_cBlocks_clear_b0, F1.r] at hx; rcases hx with e | e | e <;> first | exact Or.inl (e) | exact Or.inr (Or.inl (e)) | exact Or.inr (Or.inr (e))) (fun x k hx => False.elim hx)
theorem fe_cBlocks_clear_b0_lp (n : Nat) : ∀ (v0 : Nat) (v1 : Nat) (h : Hp), Feo (wI_cBlocks_clear_b0 v0 v1 h) (wJ_cBlocks_clear_b0 v0 v1 h) h id (f_cBlocks_clear_b0_lp n v0 v1 h) := by
  induction n with
  | zero => intro v0 v1 h; exact fe_no
  | succ n ih => intro v0 v1 h; exact fe_cBlocks_clear_b0 ih v0 v1 h
theorem fe_cBlocks_clear (v0 : Nat) (v1 : Nat) (h : Hp) : Feo (wI_cBlocks_clear v0 v1 h) (wJ_cBlocks_clear v0 v1 h) h id (f_cBlocks_clear v0 v1 h) := by
  unfold f_cBlocks_clear
  exact fe_j Fe.rf (fe_cBlocks_clear_b0_lp FU _ _ _) (fun x k hx => by simp only [wI_cBlocks_clear_b0] at hx; rcases hx with e | e | e <;> first | exact Or.inl (e) | exact Or.inr (Or.inl (e)) | exact Or.inr (Or.inr (e))) (fun x k hx => False.elim hx)
def wI_cHall_isReset (v0 : Nat) (v1 : Nat) (v2 : Int) (v4 : Int) (h : Hp) (x k : Nat) : Prop := (x = (hR h v0 8) ∧ k = 5) ∨ x = hR h (hR h v0 8) 3 ∨ (x = v0 ∧ k = 12) ∨ (x = v0 ∧ k = 13) ∨ (x = v0 ∧ k = 14) ∨ (x = v0 ∧ k = 16) ∨ (x = v1 ∧ k = 1) ∨ (x = v1 ∧ k = 4) ∨ (x = v1 ∧ k = 5) ∨ (x = v1 ∧ k = 7)
def wJ_cHall_isReset (v0 : Nat) (v1 : Nat) (v2 : Int) (v4 : Int) (h : Hp) (x k : Nat) : Prop := (x = v1 ∧ k = 8)
theorem fe_cHall_isReset (v0 : Nat) (v1 : Nat) (v2 : Int) (v4 : Int) (h : Hp) : Feo (wI_cHall_isReset v0 v1 v2 v4 h) (wJ_cHall_isReset v0 v1 v2 v4 h) h id (f_cHall_isReset v0 v1 v2 v4 h) := by
  unfold f_cHall_isReset
  refine fe_b1 Fe.rf (fe_cHall_reach _ _ _ _) (fun x k hx => by simp only [wI_cHall_reach] at hx; rcases hx with e | e <;> first | exact Or.inr (Or.inr (Or.inl (e))) | exact Or.inr (Or.inr (Or.inr (Or.inr (Or.inr (Or.inr (Or.inr (Or.inl (e))))))))) (fun x k hx => False.elim hx) (fun h1 F1 => ?_)
  refine fe_it fe_no ?_
  refine fe_b2 F1 (fe_cReceiving_isLive _ _) (fun x k hx => False.elim hx) (fun x k hx => False.elim hx) (fun r6 h4 F2 => ?_)
  refine fe_it ?_ ?_
  · refine fe_I F2 (Or.inr (Or.inr (Or.inr (Or.inr (Or.inr (Or.inr (Or.inl (⟨rfl, rfl⟩)))))))) (fun h7 F3 => ?_)
    refine fe_J F3 (⟨rfl, rfl⟩) (fun h8 F4 => ?_)
    refine fe_I F4 (Or.inr (Or.inr (Or.inr (Or.inr (Or.inr (Or.inr (Or.inr (Or.inr (Or.inl (⟨rfl, rfl⟩)))))))))) (fun h9 F5 => ?_)
    refine fe_I F5 (Or.inr (Or.inr (Or.inr (Or.inl (⟨rfl, rfl⟩))))) (fun h10 F6 => ?_)
    refine fe_it fe_no ?_
    refine fe_b1 F6 (fe_cBlocks_clear _ _ _) (fun x k hx => by simp only [wI_cBlocks_clear, F1.r, F2.r, F3.r, F4.r, F5.r, F6.r] at hx; rcases hx with e | e | e <;> first | exact Or.inl (e) | exact Or.inr (Or.inl (e)) | exact Or.inr (Or.inr (Or.inr (Or.inr (Or.inr (Or.inr (Or.inr (Or.inr (Or.inr (e)))))))))) (fun x k hx => False.elim hx) (fun h12 F7 => ?_)
    refine fe_b1 F7 (fe_cHall_grow_ _ _) (fun x k hx => by simp only [wI_cHall_grow_, F1.r, F2.r, F3.r, F4.r, F5.r, F6.r, F7.r] at hx; rcases hx with e | e <;> first | exact Or.inr (Or.inr (Or.inr (Or.inr (Or.inl (e))))) | exact Or.inr (Or.inr (Or.inr (Or.inr (Or.inr (Or.inl (e))))))) (fun x k hx => False.elim hx) (fun h14 F8 => ?_)
    exact fe_so F8
  · exact fe_so F2
def wI_cRanges_remove_b12 (v0 : Nat) (v2 : Int) (h : Hp) (x k : Nat) : Prop := False
def wJ_cRanges_remove_b12 (v0 : Nat) (v2 : Int) (h : Hp) (x k : Nat) : Prop := x = hR h v0 0 ∨ x = hR h v0 1
def wI_cRanges_remove (v0 : Nat) (v1 : Int) (h : Hp) (x k : Nat) : Prop := (x = v0 ∧ k = 2)
def wJ_cRanges_remove (v0 : Nat) (v1 : Int) (h : Hp) (x k : Nat) : Prop := x = hR h v0 0 ∨ x = hR h v0 1
theorem fe_cRanges_remove_b12 {k12 : Nat → Int → Hp → Option (Hp)} (hk12 : ∀ (v0 : Nat) (v2 : Int) (h : Hp), Feo (wI_cRanges_remove_b12 v0 v2 h) (wJ_cRanges_remove_b12 v0 v2 h) h id (k12 v0 v2 h)) (v0 : Nat) (v2 : Int) (h : Hp) : Feo (wI_cRanges_remove_b12 v0 v2 h) (wJ_cRanges_remove_b12 v0 v2 h) h id (f_cRanges_remove_b12 k12 v0 v2 h) := by
  unfold f_cRanges_remove_b12
  refine fe_it ?_ ?_
  · exact fe_so Fe.rf
  · refine fe_it fe_no ?_
    refine fe_it ?_ fe_no
    refine fe_it ?_ fe_no
    refine fe_J Fe.rf (Or.inl (rfl)) (fun h5 F1 => ?_)
    refine fe_it fe_no ?_
    refine fe_it ?_ fe_no
    refine fe_it ?_ fe_no
    refine fe_J F1 (Or.inr ((by first | (simp only [F1.r]; exact rfl) | simp only [F1.r]))) (fun h9 F2 => ?_)
    exact fe_j F2 (hk12 _ _ _) (fun x k hx => False.elim hx) (fun x k hx => by simp only [wJ_cRanges_remove_b12, F1.r, F2.r] at hx; rcases hx with e | e <;> first | exact Or.inl (e) | exact Or.inr (e))
theorem fe_cRanges_remove_b12_lp (n : Nat) : ∀ (v0 : Nat) (v2 : Int) (h : Hp), Feo (wI_cRanges_remove_b12 v0 v2 h) (wJ_cRanges_remove_b12 v0 v2 h) h id (f_cRanges_remove_b12_lp n v0 v2 h) := by
  induction n with
  | zero => intro v0 v2 h; exact fe_no
  | succ n ih => intro v0 v2 h; exact fe_cRanges_remove_b12 ih v0 v2 h
theorem fe_cRanges_remove (v0 : Nat) (v1 : Int) (h : Hp) : Feo (wI_cRanges_remove v0 v1 h) (wJ_cRanges_remove v0 v1 h) h id (f_cRanges_remove v0 v1 h) := by
  unfold f_cRanges_remove
  refine fe_I Fe.rf (⟨rfl, rfl⟩) (fun h1 F1 => ?_)
  exact fe_j F1 (fe_cRanges_remove_b12_lp FU _ _ _) (fun x k hx => False.elim hx) (fun x k hx => by simp only [wJ_cRanges_remove_b12, F1.r] at hx; rcases hx with e | e <;> first | exact Or.inl (e) | exact Or.inr (e))
def wI_cRanges_insert_b6 (v0 : Nat) (v1 : Int) (v2 : Int) (v4 : Int) (h : Hp) (x k : Nat) : Prop := (x = v0 ∧ k = 2)
def wJ_cRanges_insert_b6 (v0 : Nat) (v1 : Int) (v2 : Int) (v4 : Int) (h : Hp) (x k : Nat) : Prop := x = hR h v0 0 ∨ x = hR h v0 1
def wI_cRanges_insert (v0 : Nat) (v1 : Int) (v2 : Int) (h : Hp) (x k : Nat) : Prop := (x = v0 ∧ k = 2)
def wJ_cRanges_insert (v0 : Nat) (v1 : Int) (v2 : Int) (h : Hp) (x k : Nat) : Prop := x = hR h v0 0 ∨ x = hR h v0 1
theorem fe_cRanges_insert_b6 {k6 : Nat → Int → Int → Int → Hp → Option (Hp)} (hk6 : ∀ (v0 : Nat) (v1 : Int) (v2 : Int) (v4 : Int) (h : Hp), Feo (wI_cRanges_insert_b6 v0 v1 v2 v4 h) (wJ_cRanges_insert_b6 v0 v1 v2 v4 h) h id (k6 v0 v1 v2 v4 h)) (v0 : Nat) (v1 : Int) (v2 : Int) (v4 : Int) (h : Hp) : Feo (wI_cRanges_insert_b6 v0 v1 v2 v4 h) (wJ_cRanges_insert_b6 v0 v1 v2 v4 h) h id (f_cRanges_insert_b6 k6 v0 v1 v2 v4 h) := by
  unfold f_cRanges_insert_b6
  refine fe_it ?_ ?_
  · refine fe_it fe_no ?_
    refine fe_it ?_ fe_no
    refine fe_J Fe.rf (Or.inl (rfl)) (fun h4 F1 => ?_)
    refine fe_it fe_no ?_
    refine fe_it ?_ fe_no
    refine fe_J F1 (Or.inr ((by first | (simp only [F1.r]; exact rfl) | simp only [F1.r]))) (fun h7 F2 => ?_)
    refine fe_I F2 (⟨rfl, rfl⟩) (fun h8 F3 => ?_)
    exact fe_so F3
  · refine fe_it fe_no ?_
    refine fe_it ?_ fe_no
    refine fe_it ?_ fe_no
    refine fe_J Fe.rf (Or.inl (rfl)) (fun h12 F4 => ?_)
    refine fe_it fe_no ?_
    refine fe_it ?_ fe_no
    refine fe_it ?_ fe_no
    refine fe_J F4 (Or.inr ((by first | (simp only [F4.r]; exact rfl) | simp only [F4.r]))) (fun h16 F5 => ?_)
    exact fe_j F5 (hk6 _ _ _ _ _) (fun x k hx => by simp only [wI_cRanges_insert_b6, F4.r, F5.r] at hx; have e := hx; exact e) (fun x k hx => by simp only [wJ_cRanges_insert_b6, F4.r, F5.r] at hx; rcases hx with e | e <;> first | exact Or.inl (e) | exact Or.inr (e))
theorem fe_cRanges_insert_b6_lp (n : Nat) : ∀ (v0 : Nat) (v1 : Int) (v2 : Int) (v4 : Int) (h : Hp), Feo (wI_cRanges_insert_b6 v0 v1 v2 v4 h) (wJ_cRanges_insert_b6 v0 v1 v2 v4 h) h id (f_cRanges_insert_b6_lp n v0 v1 v2 v4 h) := by
  induction n with
  | zero => intro v0 v1 v2 v4 h; exact fe_no
  | succ n ih => intro v0 v1 v2 v4 h; exact fe_cRanges_insert_b6 ih v0 v1 v2 v4 h
theorem fe_cRanges_insert (v0 : Nat) (v1 : Int) (v2 : Int) (h : Hp) : Feo (wI_cRanges_insert v0 v1 v2 h) (wJ_cRanges_insert v0 v1 v2 h) h id (f_cRanges_insert v0 v1 v2 h) := by
  unfold f_cRanges_insert
  refine fe_v (fun y1 => ?_)
  exact fe_j Fe.rf (fe_cRanges_insert_b6_lp FU _ _ _ _ _) (fun x k hx => by simp only [wI_cRanges_insert_b6] at hx; have e := hx; exact e) (fun x k hx => by simp only [wJ_cRanges_insert_b6] at hx; rcases hx with e | e <;> first | exact Or.inl (e) | exact Or.inr (e))
def wI_cRanges_add_b92 (v0 : Nat) (v1 : Int) (v3 : Int) (v4 : Int) (v5 : Int) (h : Hp) (x k : Nat) : Prop := (x = v0 ∧ k = 2)
def wJ_cRanges_add_b92 (v0 : Nat) (v1 : Int) (v3 : Int) (v4 : Int) (v5 : Int) (h : Hp) (x k : Nat) : Prop := x = hR h v0 0 ∨ x = hR h v0 1 ∨ (x = v0 ∧ k = 3)
def wI_cRanges_add_b58 (v0 : Nat) (v1 : Int) (v3 : Int) (v4 : Int) (s0 : Int) (h : Hp) (x k : Nat) : Prop := (x = v0 ∧ k = 2)
def wJ_cRanges_add_b58 (v0 : Nat) (v1 : Int) (v3 : Int) (v4 : Int) (s0 : Int) (h : Hp) (x k : Nat) : Prop := x = hR h v0 0 ∨ x = hR h v0 1 ∨ (x = v0 ∧ k = 3)
def wI_cRanges_add_b57 (v0 : Nat) (v1 : Int) (v3 : Int) (v4 : Int) (h : Hp) (x k : Nat) : Prop := (x = v0 ∧ k = 2)
def wJ_cRanges_add_b57 (v0 : Nat) (v1 : Int) (v3 : Int) (v4 : Int) (h : Hp) (x k : Nat) : Prop := x = hR h v0 0 ∨ x = hR h v0 1 ∨ (x = v0 ∧ k = 3)
def wI_cRanges_add_b30 (v0 : Nat) (v1 : Int) (v3 : Int) (s0 : Int) (h : Hp) (x k : Nat) : Prop := (x = v0 ∧ k = 2)
def wJ_cRanges_add_b30 (v0 : Nat) (v1 : Int) (v3 : Int) (s0 : Int) (h : Hp) (x k : Nat) : Prop := x = hR h v0 0 ∨ x = hR h v0 1 ∨ (x = v0 ∧ k = 3)
def wI_cRanges_add_b29 (v0 : Nat) (v1 : Int) (v3 : Int) (h : Hp) (x k : Nat) : Prop := (x = v0 ∧ k = 2)
def wJ_cRanges_add_b29 (v0 : Nat) (v1 : Int) (v3 : Int) (h : Hp) (x k : Nat) : Prop := x = hR h v0 0 ∨ x = hR h v0 1 ∨ (x = v0 ∧ k = 3)
def wI_cRanges_add (v0 : Nat) (v1 : Int) (h : Hp) (x k : Nat) : Prop := (x = v0 ∧ k = 2)
def wJ_cRanges_add (v0 : Nat) (v1 : Int) (h : Hp) (x k : Nat) : Prop := x = hR h v0 0 ∨ x = hR h v0 1 ∨ (x = v0 ∧ k = 3)
theorem fe_cRanges_add_b92 (v0 : Nat) (v1 : Int) (v3 : Int) (v4 : Int) (v5 : Int) (h : Hp) : Feo (wI_cRanges_add_b92 v0 v1 v3 v4 v5 h) (wJ_cRanges_add_b92 v0 v1 v3 v4 v5 h) h id (f_cRanges_add_b92 v0 v1 v3 v4 v5 h) := by
  unfold f_cRanges_add_b92
  refine fe_it ?_ ?_
  · refine fe_it ?_ ?_
    · refine fe_b1 Fe.rf (fe_cRanges_insert _ _ _ _) (fun x k hx => by simp only [wI_cRanges_insert] at hx; have e := hx; exact e) (fun x k hx => by simp only [wJ_cRanges_insert] at hx; rcases hx with e | e <;> first | exact Or.inl (e) | exact Or.inr (Or.inl (e))) (fun h14 F1 => ?_)
      refine fe_it ?_ ?_
      · exact fe_so F1
      · refine fe_I F1 (⟨rfl, rfl⟩) (fun h16 F2 => ?_)
        refine fe_it fe_no ?_
        refine fe_it ?_ fe_no
        refine fe_J F2 (Or.inr (Or.inr (⟨rfl, rfl⟩))) (fun h19 F3 => ?_)
        exact fe_so F3
    · refine fe_it fe_no ?_
      refine fe_it ?_ fe_no
      refine fe_J Fe.rf (Or.inr (Or.inl (rfl))) (fun h22 F4 => ?_)
      exact fe_so F4
  · refine fe_it fe_no ?_
    refine fe_it ?_ fe_no
    refine fe_J Fe.rf (Or.inl (rfl)) (fun h25 F5 => ?_)
    exact fe_so F5
theorem fe_cRanges_add_b58 (v0 : Nat) (v1 : Int) (v3 : Int) (v4 : Int) (s0 : Int) (h : Hp) : Feo (wI_cRanges_add_b58 v0 v1 v3 v4 s0 h) (wJ_cRanges_add_b58 v0 v1 v3 v4 s0 h) h id (f_cRanges_add_b58 v0 v1 v3 v4 s0 h) := by
  unfold f_cRanges_add_b58
  refine fe_it ?_ ?_
  · exact fe_j Fe.rf (fe_cRanges_add_b92 _ _ _ _ _ _) (fun x k hx => by simp only [wI_cRanges_add_b92] at hx; have e := hx; exact e) (fun x k hx => by simp only [wJ_cRanges_add_b92] at hx; rcases hx with e | e | e <;> first | exact Or.inl (e) | exact Or.inr (Or.inl (e)) | exact Or.inr (Or.inr (e)))
  · refine fe_it ?_ ?_
    · exact fe_j Fe.rf (fe_cRanges_add_b92 _ _ _ _ _ _) (fun x k hx => by simp only [wI_cRanges_add_b92] at hx; have e := hx; exact e) (fun x k hx => by simp only [wJ_cRanges_add_b92] at hx; rcases hx with e | e | e <;> first | exact Or.inl (e) | exact Or.inr (Or.inl (e)) | exact Or.inr (Or.inr (e)))
    · refine fe_it fe_no ?_
      refine fe_it ?_ fe_no
      refine fe_it ?_ fe_no
      refine fe_J Fe.rf (Or.inl (rfl)) (fun h11 F1 => ?_)
      refine fe_b1 F1 (fe_cRanges_remove _ _ _) (fun x k hx => by simp only [wI_cRanges_remove, F1.r] at hx; have e := hx; exact e) (fun x k hx => by simp only [wJ_cRanges_remove, F1.r] at hx; rcases hx with e | e <;> first | exact Or.inl (e) | exact Or.inr (Or.inl (e))) (fun h12 F2 => ?_)
      exact fe_so F2
theorem fe_cRanges_add_b57 (v0 : Nat) (v1 : Int) (v3 : Int) (v4 : Int) (h : Hp) : Feo (wI_cRanges_add_b57 v0 v1 v3 v4 h) (wJ_cRanges_add_b57 v0 v1 v3 v4 h) h id (f_cRanges_add_b57 v0 v1 v3 v4 h) := by
  unfold f_cRanges_add_b57
  exact fe_j Fe.rf (fe_cRanges_add_b58 _ _ _ _ _ _) (fun x k hx => by simp only [wI_cRanges_add_b58] at hx; have e := hx; exact e) (fun x k hx => by simp only [wJ_cRanges_add_b58] at hx; rcases hx with e | e | e <;> first | exact Or.inl (e) | exact Or.inr (Or.inl (e)) | exact Or.inr (Or.inr (e)))
theorem fe_cRanges_add_b30 (v0 : Nat) (v1 : Int) (v3 : Int) (s0 : Int) (h : Hp) : Feo (wI_cRanges_add_b30 v0 v1 v3 s0 h) (wJ_cRanges_add_b30 v0 v1 v3 s0 h) h id (f_cRanges_add_b30 v0 v1 v3 s0 h) := by
  unfold f_cRanges_add_b30
  refine fe_it ?_ ?_
  · exact fe_j Fe.rf (fe_cRanges_add_b57 _ _ _ _ _) (fun x k hx => by simp only [wI_cRanges_add_b57] at hx; have e := hx; exact e) (fun x k hx => by simp only [wJ_cRanges_add_b57] at hx; rcases hx with e | e | e <;> first | exact Or.inl (e) | exact Or.inr (Or.inl (e)) | exact Or.inr (Or.inr (e)))
  · refine fe_it fe_no ?_
    refine fe_it ?_ fe_no
    refine fe_it ?_ ?_
    · exact fe_j Fe.rf (fe_cRanges_add_b57 _ _ _ _ _) (fun x k hx => by simp only [wI_cRanges_add_b57] at hx; have e := hx; exact e) (fun x k hx => by simp only [wJ_cRanges_add_b57] at hx; rcases hx with e | e | e <;> first | exact Or.inl (e) | exact Or.inr (Or.inl (e)) | exact Or.inr (Or.inr (e)))
    · exact fe_j Fe.rf (fe_cRanges_add_b58 _ _ _ _ _ _) (fun x k hx => by simp only [wI_cRanges_add_b58] at hx; have e := hx; exact e) (fun x k hx => by simp only [wJ_cRanges_add_b58] at hx; rcases hx with e | e | e <;> first | exact Or.inl (e) | exact Or.inr (Or.inl (e)) | exact Or.inr (Or.inr (e)))
theorem fe_cRanges_add_b29 (v0 : Nat) (v1 : Int) (v3 : Int) (h : Hp) : Feo (wI_cRanges_add_b29 v0 v1 v3 h) (wJ_cRanges_add_b29 v0 v1 v3 h) h id (f_cRanges_add_b29 v0 v1 v3 h) := by
  unfold f_cRanges_add_b29
  exact fe_j Fe.rf (fe_cRanges_add_b30 _ _ _ _ _) (fun x k hx => by simp only [wI_cRanges_add_b30] at hx; have e := hx; exact e) (fun x k hx => by simp only [wJ_cRanges_add_b30] at hx; rcases hx with e | e | e <;> first | exact Or.inl (e) | exact Or.inr (Or.inl (e)) | exact Or.inr (Or.inr (e)))
theorem fe_cRanges_add (v0 : Nat) (v1 : Int) (h : Hp) : Feo (wI_cRanges_add v0 v1 h) (wJ_cRanges_add v0 v1 h) h id (f_cRanges_add v0 v1 h) := by
  unfold f_cRanges_add
  refine fe_b2 Fe.rf (fe_cRanges_place _ _ _) (fun x k hx => False.elim hx) (fun x k hx => False.elim hx) (fun r3 h1 F1 => ?_)
  refine fe_it ?_ ?_
  · exact fe_j F1 (fe_cRanges_add_b29 _ _ _ _) (fun x k hx => by simp only [wI_cRanges_add_b29, F1.r] at hx; have e := hx; exact e) (fun x k hx => by simp only [wJ_cRanges_add_b29, F1.r] at hx; rcases hx with e | e | e <;> first | exact Or.inl (e) | exact Or.inr (Or.inl (e)) | exact Or.inr (Or.inr (e)))
  · refine fe_it fe_no ?_
    refine fe_it ?_ fe_no
    refine fe_it ?_ ?_
    · exact fe_j F1 (fe_cRanges_add_b29 _ _ _ _) (fun x k hx => by simp only [wI_cRanges_add_b29, F1.r] at hx; have e := hx; exact e) (fun x k hx => by simp only [wJ_cRanges_add_b29, F1.r] at hx; rcases hx with e | e | e <;> first | exact Or.inl (e) | exact Or.inr (Or.inl (e)) | exact Or.inr (Or.inr (e)))
    · exact fe_j F1 (fe_cRanges_add_b30 _ _ _ _ _) (fun x k hx => by simp only [wI_cRanges_add_b30, F1.r] at hx; have e := hx; exact e) (fun x k hx => by simp only [wJ_cRanges_add_b30, F1.r] at hx; rcases hx with e | e | e <;> first | exact Or.inl (e) | exact Or.inr (Or.inl (e)) | exact Or.inr (Or.inr (e)))
def wI_cSpace_takes_b102 (v0 : Nat) (v2 : Int) (h : Hp) (x k : Nat) : Prop := (x = (hR h v0 13) ∧ k = 2)
def wJ_cSpace_takes_b102 (v0 : Nat) (v2 : Int) (h : Hp) (x k : Nat) : Prop := (x = (hR h v0 13) ∧ k = 3) ∨ x = hR h (hR h v0 13) 0 ∨ x = hR h (hR h v0 13) 1
def wI_cSpace_takes_b92 (v0 : Nat) (v2 : Int) (h : Hp) (x k : Nat) : Prop := (x = (hR h v0 13) ∧ k = 2) ∨ (x = v0 ∧ k = 14)
def wJ_cSpace_takes_b92 (v0 : Nat) (v2 : Int) (h : Hp) (x k : Nat) : Prop := (x = (hR h v0 13) ∧ k = 3) ∨ x = hR h (hR h v0 13) 0 ∨ x = hR h (hR h v0 13) 1
def wI_cSpace_takes_b77 (v0 : Nat) (v1 : Int) (v2 : Int) (s0 : Nat) (s1 : Int) (h : Hp) (x k : Nat) : Prop := (x = (hR h v0 13) ∧ k = 2) ∨ (x = s0 ∧ k = 17) ∨ (x = v0 ∧ k = 14) ∨ (x = v0 ∧ k = 15)
def wJ_cSpace_takes_b77 (v0 : Nat) (v1 : Int) (v2 : Int) (s0 : Nat) (s1 : Int) (h : Hp) (x k : Nat) : Prop := (x = (hR h v0 13) ∧ k = 3) ∨ x = hR h (hR h v0 13) 0 ∨ x = hR h (hR h v0 13) 1
def wI_cSpace_takes_b72 (v0 : Nat) (v1 : Int) (v2 : Int) (s0 : Nat) (h : Hp) (x k : Nat) : Prop := (x = (hR h v0 13) ∧ k = 2) ∨ (x = s0 ∧ k = 17) ∨ (x = v0 ∧ k = 14) ∨ (x = v0 ∧ k = 15)
def wJ_cSpace_takes_b72 (v0 : Nat) (v1 : Int) (v2 : Int) (s0 : Nat) (h : Hp) (x k : Nat) : Prop := (x = (hR h v0 13) ∧ k = 3) ∨ x = hR h (hR h v0 13) 0 ∨ x = hR h (hR h v0 13) 1
def wI_cSpace_takes_b52 (v0 : Nat) (v1 : Int) (v2 : Int) (v4 : Int) (v5 : Int) (h : Hp) (x k : Nat) : Prop := (x = (hR h v0 13) ∧ k = 2) ∨ (x = v0 ∧ k = 14) ∨ (x = v0 ∧ k = 15) ∨ (x = v0 ∧ k = 17)
def wJ_cSpace_takes_b52 (v0 : Nat) (v1 : Int) (v2 : Int) (v4 : Int) (v5 : Int) (h : Hp) (x k : Nat) : Prop := (x = (hR h v0 13) ∧ k = 3) ∨ x = hR h (hR h v0 13) 0 ∨ x = hR h (hR h v0 13) 1
def wI_cSpace_takes_b38 (v0 : Nat) (v1 : Int) (v2 : Int) (v4 : Int) (s0 : Int) (h : Hp) (x k : Nat) : Prop := (x = (hR h v0 13) ∧ k = 2) ∨ (x = v0 ∧ k = 14) ∨ (x = v0 ∧ k = 15) ∨ (x = v0 ∧ k = 16) ∨ (x = v0 ∧ k = 17)
def wJ_cSpace_takes_b38 (v0 : Nat) (v1 : Int) (v2 : Int) (v4 : Int) (s0 : Int) (h : Hp) (x k : Nat) : Prop := (x = (hR h v0 13) ∧ k = 3) ∨ x = hR h (hR h v0 13) 0 ∨ x = hR h (hR h v0 13) 1
def wI_cSpace_takes (v0 : Nat) (v1 : Int) (v2 : Int) (v4 : Int) (h : Hp) (x k : Nat) : Prop := (x = (hR h v0 13) ∧ k = 2) ∨ (x = v0 ∧ k = 14) ∨ (x = v0 ∧ k = 15) ∨ (x = v0 ∧ k = 16) ∨ (x = v0 ∧ k = 17)
def wJ_cSpace_takes (v0 : Nat) (v1 : Int) (v2 : Int) (v4 : Int) (h : Hp) (x k : Nat) : Prop := (x = (hR h v0 13) ∧ k = 3) ∨ x = hR h (hR h v0 13) 0 ∨ x = hR h (hR h v0 13) 1
theorem fe_cSpace_takes_b102 (v0 : Nat) (v2 : Int) (h : Hp) : Feo (wI_cSpace_takes_b102 v0 v2 h) (wJ_cSpace_takes_b102 v0 v2 h) h Prod.snd (f_cSpace_takes_b102 v0 v2 h) := by
  unfold f_cSpace_takes_b102
  refine fe_it fe_no ?_
  refine fe_b1 Fe.rf (fe_cRanges_add _ _ _) (fun x k hx => by simp only [wI_cRanges_add] at hx; have e := hx; exact e) (fun x k hx => by simp only [wJ_cRanges_add] at hx; rcases hx with e | e | e <;> first | exact Or.inl (e) | exact Or.inr (Or.inl (e)) | exact Or.inr (Or.inr (e))) (fun h10 F1 => ?_)
  exact fe_so F1
theorem fe_cSpace_takes_b92 (v0 : Nat) (v2 : Int) (h : Hp) : Feo (wI_cSpace_takes_b92 v0 v2 h) (wJ_cSpace_takes_b92 v0 v2 h) h Prod.snd (f_cSpace_takes_b92 v0 v2 h) := by
  unfold f_cSpace_takes_b92
  refine fe_I Fe.rf (Or.inr (⟨rfl, rfl⟩)) (fun h16 F1 => ?_)
  exact fe_j F1 (fe_cSpace_takes_b102 _ _ _) (fun x k hx => by simp only [wI_cSpace_takes_b102, F1.r] at hx; have e := hx; exact Or.inl (e)) (fun x k hx => by simp only [wJ_cSpace_takes_b102, F1.r] at hx; rcases hx with e | e | e <;> first | exact Or.inl (e) | exact Or.inr (Or.inl (e)) | exact Or.inr (Or.inr (e)))
theorem fe_cSpace_takes_b77 (v0 : Nat) (v1 : Int) (v2 : Int) (s0 : Nat) (s1 : Int) (h : Hp) : Feo (wI_cSpace_takes_b77 v0 v1 v2 s0 s1 h) (wJ_cSpace_takes_b77 v0 v1 v2 s0 s1 h) h Prod.snd (f_cSpace_takes_b77 v0 v1 v2 s0 s1 h) := by
  unfold f_cSpace_takes_b77
  refine fe_it fe_no ?_
  refine fe_it fe_no ?_
  refine fe_I Fe.rf (Or.inr (Or.inl (⟨rfl, rfl⟩))) (fun h13 F1 => ?_)
  refine fe_it ?_ ?_
  · exact fe_j F1 (fe_cSpace_takes_b92 _ _ _) (fun x k hx => by simp only [wI_cSpace_takes_b92, F1.r] at hx; rcases hx with e | e <;> first | exact Or.inl (e) | exact Or.inr (Or.inr (Or.inl (e)))) (fun x k hx => by simp only [wJ_cSpace_takes_b92, F1.r] at hx; rcases hx with e | e | e <;> first | exact Or.inl (e) | exact Or.inr (Or.inl (e)) | exact Or.inr (Or.inr (e)))
  · refine fe_I F1 (Or.inr (Or.inr (Or.inr (⟨rfl, rfl⟩)))) (fun h15 F2 => ?_)
    exact fe_j F2 (fe_cSpace_takes_b92 _ _ _) (fun x k hx => by simp only [wI_cSpace_takes_b92, F1.r, F2.r] at hx; rcases hx with e | e <;> first | exact Or.inl (e) | exact Or.inr (Or.inr (Or.inl (e)))) (fun x k hx => by simp only [wJ_cSpace_takes_b92, F1.r, F2.r] at hx; rcases hx with e | e | e <;> first | exact Or.inl (e) | exact Or.inr (Or.inl (e)) | exact Or.inr (Or.inr (e)))
theorem fe_cSpace_takes_b72 (v0 : Nat) (v1 : Int) (v2 : Int) (s0 : Nat) (h : Hp) : Feo (wI_cSpace_takes_b72 v0 v1 v2 s0 h) (wJ_cSpace_takes_b72 v0 v1 v2 s0 h) h Prod.snd (f_cSpace_takes_b72 v0 v1 v2 s0 h) := by
  unfold f_cSpace_takes_b72
  exact fe_j Fe.rf (fe_cSpace_takes_b77 _ _ _ _ _ _) (fun x k hx => by simp only [wI_cSpace_takes_b77] at hx; rcases hx with e | e | e | e <;> first | exact Or.inl (e) | exact Or.inr (Or.inl (e)) | exact Or.inr (Or.inr (Or.inl (e))) | exact Or.inr (Or.inr (Or.inr (e)))) (fun x k hx => by simp only [wJ_cSpace_takes_b77] at hx; rcases hx with e | e | e <;> first | exact Or.inl (e) | exact Or.inr (Or.inl (e)) | exact Or.inr (Or.inr (e)))
theorem fe_cSpace_takes_b52 (v0 : Nat) (v1 : Int) (v2 : Int) (v4 : Int) (v5 : Int) (h : Hp) : Feo (wI_cSpace_takes_b52 v0 v1 v2 v4 v5 h) (wJ_cSpace_takes_b52 v0 v1 v2 v4 v5 h) h Prod.snd (f_cSpace_takes_b52 v0 v1 v2 v4 v5 h) := by
  unfold f_cSpace_takes_b52
  refine fe_it ?_ ?_
  · exact fe_j Fe.rf (fe_cSpace_takes_b102 _ _ _) (fun x k hx => by simp only [wI_cSpace_takes_b102] at hx; have e := hx; exact Or.inl (e)) (fun x k hx => by simp only [wJ_cSpace_takes_b102] at hx; rcases hx with e | e | e <;> first | exact Or.inl (e) | exact Or.inr (Or.inl (e)) | exact Or.inr (Or.inr (e)))
  · refine fe_it ?_ ?_
    · exact fe_j Fe.rf (fe_cSpace_takes_b72 _ _ _ _ _) (fun x k hx => by simp only [wI_cSpace_takes_b72] at hx; rcases hx with e | e | e | e <;> first | exact Or.inl (e) | exact Or.inr (Or.inl (e)) | exact Or.inr (Or.inr (Or.inl (e))) | exact Or.inr (Or.inr (Or.inr (e)))) (fun x k hx => by simp only [wJ_cSpace_takes_b72] at hx; rcases hx with e | e | e <;> first | exact Or.inl (e) | exact Or.inr (Or.inl (e)) | exact Or.inr (Or.inr (e)))
    · refine fe_it ?_ ?_
      · exact fe_j Fe.rf (fe_cSpace_takes_b77 _ _ _ _ _ _) (fun x k hx => by simp only [wI_cSpace_takes_b77] at hx; rcases hx with e | e | e | e <;> first | exact Or.inl (e) | exact Or.inr (Or.inl (e)) | exact Or.inr (Or.inr (Or.inl (e))) | exact Or.inr (Or.inr (Or.inr (e)))) (fun x k hx => by simp only [wJ_cSpace_takes_b77] at hx; rcases hx with e | e | e <;> first | exact Or.inl (e) | exact Or.inr (Or.inl (e)) | exact Or.inr (Or.inr (e)))
      · exact fe_j Fe.rf (fe_cSpace_takes_b72 _ _ _ _ _) (fun x k hx => by simp only [wI_cSpace_takes_b72] at hx; rcases hx with e | e | e | e <;> first | exact Or.inl (e) | exact Or.inr (Or.inl (e)) | exact Or.inr (Or.inr (Or.inl (e))) | exact Or.inr (Or.inr (Or.inr (e)))) (fun x k hx => by simp only [wJ_cSpace_takes_b72] at hx; rcases hx with e | e | e <;> first | exact Or.inl (e) | exact Or.inr (Or.inl (e)) | exact Or.inr (Or.inr (e)))
theorem fe_cSpace_takes_b38 (v0 : Nat) (v1 : Int) (v2 : Int) (v4 : Int) (s0 : Int) (h : Hp) : Feo (wI_cSpace_takes_b38 v0 v1 v2 v4 s0 h) (wJ_cSpace_takes_b38 v0 v1 v2 v4 s0 h) h Prod.snd (f_cSpace_takes_b38 v0 v1 v2 v4 s0 h) := by
  unfold f_cSpace_takes_b38
  refine fe_it ?_ ?_
  · exact fe_j Fe.rf (fe_cSpace_takes_b52 _ _ _ _ _ _) (fun x k hx => by simp only [wI_cSpace_takes_b52] at hx; rcases hx with e | e | e | e <;> first | exact Or.inl (e) | exact Or.inr (Or.inl (e)) | exact Or.inr (Or.inr (Or.inl (e))) | exact Or.inr (Or.inr (Or.inr (Or.inr (e))))) (fun x k hx => by simp only [wJ_cSpace_takes_b52] at hx; rcases hx with e | e | e <;> first | exact Or.inl (e) | exact Or.inr (Or.inl (e)) | exact Or.inr (Or.inr (e)))
  · refine fe_I Fe.rf (Or.inr (Or.inr (Or.inr (Or.inl (⟨rfl, rfl⟩))))) (fun h8 F1 => ?_)
    exact fe_j F1 (fe_cSpace_takes_b52 _ _ _ _ _ _) (fun x k hx => by simp only [wI_cSpace_takes_b52, F1.r] at hx; rcases hx with e | e | e | e <;> first | exact Or.inl (e) | exact Or.inr (Or.inl (e)) | exact Or.inr (Or.inr (Or.inl (e))) | exact Or.inr (Or.inr (Or.inr (Or.inr (e))))) (fun x k hx => by simp only [wJ_cSpace_takes_b52, F1.r] at hx; rcases hx with e | e | e <;> first | exact Or.inl (e) | exact Or.inr (Or.inl (e)) | exact Or.inr (Or.inr (e)))
theorem fe_cSpace_takes (v0 : Nat) (v1 : Int) (v2 : Int) (v4 : Int) (h : Hp) : Feo (wI_cSpace_takes v0 v1 v2 v4 h) (wJ_cSpace_takes v0 v1 v2 v4 h) h Prod.snd (f_cSpace_takes v0 v1 v2 v4 h) := by
  unfold f_cSpace_takes
  refine fe_it fe_no ?_
  refine fe_b2 Fe.rf (fe_cRanges_has _ _ _) (fun x k hx => False.elim hx) (fun x k hx => False.elim hx) (fun r4 h2 F1 => ?_)
  refine fe_it ?_ ?_
  · refine fe_it fe_no ?_
    refine fe_it ?_ ?_
    · refine fe_it fe_no ?_
      refine fe_it ?_ fe_no
      exact fe_j F1 (fe_cSpace_takes_b38 _ _ _ _ _ _) (fun x k hx => by simp only [wI_cSpace_takes_b38, F1.r] at hx; rcases hx with e | e | e | e | e <;> first | exact Or.inl (e) | exact Or.inr (Or.inl (e)) | exact Or.inr (Or.inr (Or.inl (e))) | exact Or.inr (Or.inr (Or.inr (Or.inl (e)))) | exact Or.inr (Or.inr (Or.inr (Or.inr (e))))) (fun x k hx => by simp only [wJ_cSpace_takes_b38, F1.r] at hx; rcases hx with e | e | e <;> first | exact Or.inl (e) | exact Or.inr (Or.inl (e)) | exact Or.inr (Or.inr (e)))
    · exact fe_j F1 (fe_cSpace_takes_b38 _ _ _ _ _ _) (fun x k hx => by simp only [wI_cSpace_takes_b38, F1.r] at hx; rcases hx with e | e | e | e | e <;> first | exact Or.inl (e) | exact Or.inr (Or.inl (e)) | exact Or.inr (Or.inr (Or.inl (e))) | exact Or.inr (Or.inr (Or.inr (Or.inl (e)))) | exact Or.inr (Or.inr (Or.inr (Or.inr (e))))) (fun x k hx => by simp only [wJ_cSpace_takes_b38, F1.r] at hx; rcases hx with e | e | e <;> first | exact Or.inl (e) | exact Or.inr (Or.inl (e)) | exact Or.inr (Or.inr (e)))
  · exact fe_so F1
def wI_cBook_patience_b21 (v0 : Nat) (s0 : Nat) (s1 : Int) (h : Hp) (x k : Nat) : Prop := False
def wJ_cBook_patience_b21 (v0 : Nat) (s0 : Nat) (s1 : Int) (h : Hp) (x k : Nat) : Prop := False
def wI_cBook_patience_b20 (v0 : Nat) (s0 : Nat) (h : Hp) (x k : Nat) : Prop := False
def wJ_cBook_patience_b20 (v0 : Nat) (s0 : Nat) (h : Hp) (x k : Nat) : Prop := False
def wI_cBook_patience (v0 : Nat) (v1 : Int) (h : Hp) (x k : Nat) : Prop := False
def wJ_cBook_patience (v0 : Nat) (v1 : Int) (h : Hp) (x k : Nat) : Prop := False
theorem fe_cBook_patience_b21 (v0 : Nat) (s0 : Nat) (s1 : Int) (h : Hp) : Feo (wI_cBook_patience_b21 v0 s0 s1 h) (wJ_cBook_patience_b21 v0 s0 s1 h) h Prod.snd (f_cBook_patience_b21 v0 s0 s1 h) := by
  unfold f_cBook_patience_b21
  refine fe_it fe_no ?_
  refine fe_b2 Fe.rf (fe_cTrip_patience _ _ _) (fun x k hx => False.elim hx) (fun x k hx => False.elim hx) (fun r4 h2 F1 => ?_)
  exact fe_so F1
theorem fe_cBook_patience_b20 (v0 : Nat) (s0 : Nat) (h : Hp) : Feo (wI_cBook_patience_b20 v0 s0 h) (wJ_cBook_patience_b20 v0 s0 h) h Prod.snd (f_cBook_patience_b20 v0 s0 h) := by
  unfold f_cBook_patience_b20
  exact fe_j Fe.rf (fe_cBook_patience_b21 _ _ _ _) (fun x k hx => False.elim hx) (fun x k hx => False.elim hx)
theorem fe_cBook_patience (v0 : Nat) (v1 : Int) (h : Hp) : Feo (wI_cBook_patience v0 v1 h) (wJ_cBook_patience v0 v1 h) h Prod.snd (f_cBook_patience v0 v1 h) := by
  unfold f_cBook_patience
  refine fe_it ?_ ?_
  · exact fe_j Fe.rf (fe_cBook_patience_b20 _ _ _) (fun x k hx => False.elim hx) (fun x k hx => False.elim hx)
  · refine fe_it ?_ ?_
    · exact fe_j Fe.rf (fe_cBook_patience_b20 _ _ _) (fun x k hx => False.elim hx) (fun x k hx => False.elim hx)
    · exact fe_j Fe.rf (fe_cBook_patience_b21 _ _ _ _) (fun x k hx => False.elim hx) (fun x k hx => False.elim hx)
def wI_cBook_firstSpace_b2 (v0 : Nat) (v1 : Int) (h : Hp) (x k : Nat) : Prop := False
def wJ_cBook_firstSpace_b2 (v0 : Nat) (v1 : Int) (h : Hp) (x k : Nat) : Prop := False
def wI_cBook_firstSpace (v0 : Nat) (h : Hp) (x k : Nat) : Prop := False
def wJ_cBook_firstSpace (v0 : Nat) (h : Hp) (x k : Nat) : Prop := False
theorem fe_cBook_firstSpace_b2 {k2 : Nat → Int → Hp → Option (Int × Hp)} (hk2 : ∀ (v0 : Nat) (v1 : Int) (h : Hp), Feo (wI_cBook_firstSpace_b2 v0 v1 h) (wJ_cBook_firstSpace_b2 v0 v1 h) h Prod.snd (k2 v0 v1 h)) (v0 : Nat) (v1 : Int) (h : Hp) : Feo (wI_cBook_firstSpace_b2 v0 v1 h) (wJ_cBook_firstSpace_b2 v0 v1 h) h Prod.snd (f_cBook_firstSpace_b2 k2 v0 v1 h) := by
  unfold f_cBook_firstSpace_b2
  refine fe_it ?_ ?_
  · exact fe_so Fe.rf
  · refine fe_it fe_no ?_
    refine fe_it ?_ fe_no
    refine fe_it fe_no ?_
    refine fe_it ?_ ?_
    · exact fe_so Fe.rf
    · exact fe_j Fe.rf (hk2 _ _ _) (fun x k hx => False.elim hx) (fun x k hx => False.elim hx)
theorem fe_cBook_firstSpace_b2_lp (n : Nat) : ∀ (v0 : Nat) (v1 : Int) (h : Hp), Feo (wI_cBook_firstSpace_b2 v0 v1 h) (wJ_cBook_firstSpace_b2 v0 v1 h) h Prod.snd (f_cBook_firstSpace_b2_lp n v0 v1 h) := by
  induction n with
  | zero => intro v0 v1 h; exact fe_no
  | succ n ih => intro v0 v1 h; exact fe_cBook_firstSpace_b2 ih v0 v1 h
theorem fe_cBook_firstSpace (v0 : Nat) (h : Hp) : Feo (wI_cBook_firstSpace v0 h) (wJ_cBook_firstSpace v0 h) h Prod.snd (f_cBook_firstSpace v0 h) := by
  unfold f_cBook_firstSpace
  exact fe_j Fe.rf (fe_cBook_firstSpace_b2_lp FU _ _ _) (fun x k hx => False.elim hx) (fun x k hx => False.elim hx)
def wI_cBook_isQuiet_b42 (v0 : Nat) (v2 : Nat) (v3 : Int) (v4 : Int) (s0 : Int) (h : Hp) (x k : Nat) : Prop := False
def wJ_cBook_isQuiet_b42 (v0 : Nat) (v2 : Nat) (v3 : Int) (v4 : Int) (s0 : Int) (h : Hp) (x k : Nat) : Prop := False
def wI_cBook_isQuiet_b41 (v0 : Nat) (v2 : Nat) (v3 : Int) (v4 : Int) (h : Hp) (x k : Nat) : Prop := False
def wJ_cBook_isQuiet_b41 (v0 : Nat) (v2 : Nat) (v3 : Int) (v4 : Int) (h : Hp) (x k : Nat) : Prop := False
def wI_cBook_isQuiet_b13 (v0 : Nat) (v1 : Int) (v2 : Nat) (v3 : Int) (v4 : Int) (h : Hp) (x k : Nat) : Prop := False
def wJ_cBook_isQuiet_b13 (v0 : Nat) (v1 : Int) (v2 : Nat) (v3 : Int) (v4 : Int) (h : Hp) (x k : Nat) : Prop := False
def wI_cBook_isQuiet (v0 : Nat) (h : Hp) (x k : Nat) : Prop := False
def wJ_cBook_isQuiet (v0 : Nat) (h : Hp) (x k : Nat) : Prop := False
theorem fe_cBook_isQuiet_b42 {k13 : Nat → Int → Nat → Int → Int → Hp → Option (Int × Hp)} (hk13 : ∀ (v0 : Nat) (v1 : Int) (v2 : Nat) (v3 : Int) (v4 : Int) (h : Hp), Feo (wI_cBook_isQuiet_b13 v0 v1 v2 v3 v4 h) (wJ_cBook_isQuiet_b13 v0 v1 v2 v3 v4 h) h Prod.snd (k13 v0 v1 v2 v3 v4 h)) (v0 : Nat) (v2 : Nat) (v3 : Int) (v4 : Int) (s0 : Int) (h : Hp) : Feo (wI_cBook_isQuiet_b42 v0 v2 v3 v4 s0 h) (wJ_cBook_isQuiet_b42 v0 v2 v3 v4 s0 h) h Prod.snd (f_cBook_isQuiet_b42 k13 v0 v2 v3 v4 s0 h) := by
  unfold f_cBook_isQuiet_b42
  exact fe_j Fe.rf (hk13 _ _ _ _ _ _) (fun x k hx => False.elim hx) (fun x k hx => False.elim hx)
theorem fe_cBook_isQuiet_b41 {k13 : Nat → Int → Nat → Int → Int → Hp → Option (Int × Hp)} (hk13 : ∀ (v0 : Nat) (v1 : Int) (v2 : Nat) (v3 : Int) (v4 : Int) (h : Hp), Feo (wI_cBook_isQuiet_b13 v0 v1 v2 v3 v4 h) (wJ_cBook_isQuiet_b13 v0 v1 v2 v3 v4 h) h Prod.snd (k13 v0 v1 v2 v3 v4 h)) (v0 : Nat) (v2 : Nat) (v3 : Int) (v4 : Int) (h : Hp) : Feo (wI_cBook_isQuiet_b41 v0 v2 v3 v4 h) (wJ_cBook_isQuiet_b41 v0 v2 v3 v4 h) h Prod.snd (f_cBook_isQuiet_b41 k13 v0 v2 v3 v4 h) := by
  unfold f_cBook_isQuiet_b41
  exact fe_j Fe.rf (fe_cBook_isQuiet_b42 hk13 _ _ _ _ _ _) (fun x k hx => False.elim hx) (fun x k hx => False.elim hx)
theorem fe_cBook_isQuiet_b13 {k13 : Nat → Int → Nat → Int → Int → Hp → Option (Int × Hp)} (hk13 : ∀ (v0 : Nat) (v1 : Int) (v2 : Nat) (v3 : Int) (v4 : Int) (h : Hp), Feo (wI_cBook_isQuiet_b13 v0 v1 v2 v3 v4 h) (wJ_cBook_isQuiet_b13 v0 v1 v2 v3 v4 h) h Prod.snd (k13 v0 v1 v2 v3 v4 h)) (v0 : Nat) (v1 : Int) (v2 : Nat) (v3 : Int) (v4 : Int) (h : Hp) : Feo (wI_cBook_isQuiet_b13 v0 v1 v2 v3 v4 h) (wJ_cBook_isQuiet_b13 v0 v1 v2 v3 v4 h) h Prod.snd (f_cBook_isQuiet_b13 k13 v0 v1 v2 v3 v4 h) := by
  unfold f_cBook_isQuiet_b13
  refine fe_it ?_ ?_
  · refine fe_it ?_ fe_no
    exact fe_so Fe.rf
  · refine fe_it fe_no ?_
    refine fe_it ?_ fe_no
    refine fe_l ?_
    refine fe_it ?_ ?_
    · exact fe_j Fe.rf (fe_cBook_isQuiet_b41 hk13 _ _ _ _ _) (fun x k hx => False.elim hx) (fun x k hx => False.elim hx)
    · refine fe_it fe_no ?_
      refine fe_it ?_ ?_
      · exact fe_j Fe.rf (fe_cBook_isQuiet_b41 hk13 _ _ _ _ _) (fun x k hx => False.elim hx) (fun x k hx => False.elim hx)
      · exact fe_j Fe.rf (fe_cBook_isQuiet_b42 hk13 _ _ _ _ _ _) (fun x k hx => False.elim hx) (fun x k hx => False.elim hx)
theorem fe_cBook_isQuiet_b13_lp (n : Nat) : ∀ (v0 : Nat) (v1 : Int) (v2 : Nat) (v3 : Int) (v4 : Int) (h : Hp), Feo (wI_cBook_isQuiet_b13 v0 v1 v2 v3 v4 h) (wJ_cBook_isQuiet_b13 v0 v1 v2 v3 v4 h) h Prod.snd (f_cBook_isQuiet_b13_lp n v0 v1 v2 v3 v4 h) := by
  induction n with
  | zero => intro v0 v1 v2 v3 v4 h; exact fe_no
  | succ n ih => intro v0 v1 v2 v3 v4 h; exact fe_cBook_isQuiet_b13 ih v0 v1 v2 v3 v4 h
theorem fe_cBook_isQuiet (v0 : Nat) (h : Hp) : Feo (wI_cBook_isQuiet v0 h) (wJ_cBook_isQuiet v0 h) h Prod.snd (f_cBook_isQuiet v0 h) := by
  unfold f_cBook_isQuiet
  refine fe_l ?_
  refine fe_it fe_no ?_
  refine fe_v (fun y3 => ?_)
  exact fe_j Fe.rf (fe_cBook_isQuiet_b13_lp FU _ _ _ _ _ _) (fun x k hx => False.elim hx) (fun x k hx => False.elim hx)
def wI_cBook_probeTime_b28 (v0 : Nat) (v1 : Int) (v2 : Nat) (h : Hp) (x k : Nat) : Prop := False
def wJ_cBook_probeTime_b28 (v0 : Nat) (v1 : Int) (v2 : Nat) (h : Hp) (x k : Nat) : Prop := False
def wI_cBook_probeTime (v0 : Nat) (v1 : Int) (h : Hp) (x k : Nat) : Prop := False
def wJ_cBook_probeTime (v0 : Nat) (v1 : Int) (h : Hp) (x k : Nat) : Prop := False
theorem fe_cBook_probeTime_b28 (v0 : Nat) (v1 : Int) (v2 : Nat) (h : Hp) : Feo (wI_cBook_probeTime_b28 v0 v1 v2 h) (wJ_cBook_probeTime_b28 v0 v1 v2 h) h Prod.snd (f_cBook_probeTime_b28 v0 v1 v2 h) := by
  unfold f_cBook_probeTime_b28
  refine fe_b2 Fe.rf (fe_cBook_patience _ _ _) (fun x k hx => False.elim hx) (fun x k hx => False.elim hx) (fun r7 h5 F1 => ?_)
  refine fe_v (fun y8 => ?_)
  refine fe_it fe_no ?_
  refine fe_it ?_ ?_
  · refine fe_it ?_ ?_
    · exact fe_so F1
    · refine fe_b2 F1 (fe_cBook_firstSpace _ _) (fun x k hx => False.elim hx) (fun x k hx => False.elim hx) (fun r12 h10 F2 => ?_)
      refine fe_it ?_ ?_
      · exact fe_so F2
      · refine fe_b2 F2 (fe_cBook_isQuiet _ _) (fun x k hx => False.elim hx) (fun x k hx => False.elim hx) (fun r15 h13 F3 => ?_)
        refine fe_it ?_ ?_
        · exact fe_so F3
        · exact fe_so F3
  · exact fe_so F1
theorem fe_cBook_probeTime (v0 : Nat) (v1 : Int) (h : Hp) : Feo (wI_cBook_probeTime v0 v1 h) (wJ_cBook_probeTime v0 v1 h) h Prod.snd (f_cBook_probeTime v0 v1 h) := by
  unfold f_cBook_probeTime
  refine fe_it fe_no ?_
  refine fe_it ?_ fe_no
  refine fe_l ?_
  refine fe_it fe_no ?_
  refine fe_it ?_ ?_
  · exact fe_so Fe.rf
  · refine fe_it ?_ ?_
    · exact fe_j Fe.rf (fe_cBook_probeTime_b28 _ _ _ _) (fun x k hx => False.elim hx) (fun x k hx => False.elim hx)
    · refine fe_it ?_ ?_
      · exact fe_j Fe.rf (fe_cBook_probeTime_b28 _ _ _ _) (fun x k hx => False.elim hx) (fun x k hx => False.elim hx)
      · exact fe_so Fe.rf
def wI_cBook_earliest_b71 (v0 : Nat) (v1 : Int) (v2 : Int) (v3 : Int) (v4 : Int) (h : Hp) (x k : Nat) : Prop := False
def wJ_cBook_earliest_b71 (v0 : Nat) (v1 : Int) (v2 : Int) (v3 : Int) (v4 : Int) (h : Hp) (x k : Nat) : Prop := False
def wI_cBook_earliest_b65 (v0 : Nat) (v1 : Int) (v4 : Int) (v5 : Int) (h : Hp) (x k : Nat) : Prop := False
def wJ_cBook_earliest_b65 (v0 : Nat) (v1 : Int) (v4 : Int) (v5 : Int) (h : Hp) (x k : Nat) : Prop := False
def wI_cBook_earliest_b36 (v0 : Nat) (v1 : Int) (v2 : Int) (v3 : Int) (v4 : Int) (s0 : Int) (h : Hp) (x k : Nat) : Prop := False
def wJ_cBook_earliest_b36 (v0 : Nat) (v1 : Int) (v2 : Int) (v3 : Int) (v4 : Int) (s0 : Int) (h : Hp) (x k : Nat) : Prop := False
def wI_cBook_earliest_b7 (v0 : Nat) (v1 : Int) (v2 : Int) (v3 : Int) (v4 : Int) (h : Hp) (x k : Nat) : Prop := False
def wJ_cBook_earliest_b7 (v0 : Nat) (v1 : Int) (v2 : Int) (v3 : Int) (v4 : Int) (h : Hp) (x k : Nat) : Prop := False
def wI_cBook_earliest (v0 : Nat) (v1 : Int) (h : Hp) (x k : Nat) : Prop := False
def wJ_cBook_earliest (v0 : Nat) (v1 : Int) (h : Hp) (x k : Nat) : Prop := False
theorem fe_cBook_earliest_b71 {k7 : Nat → Int → Int → Int → Int → Hp → Option (Int × Hp)} (hk7 : ∀ (v0 : Nat) (v1 : Int) (v2 : Int) (v3 : Int) (v4 : Int) (h : Hp), Feo (wI_cBook_earliest_b7 v0 v1 v2 v3 v4 h) (wJ_cBook_earliest_b7 v0 v1 v2 v3 v4 h) h Prod.snd (k7 v0 v1 v2 v3 v4 h)) (v0 : Nat) (v1 : Int) (v2 : Int) (v3 : Int) (v4 : Int) (h : Hp) : Feo (wI_cBook_earliest_b71 v0 v1 v2 v3 v4 h) (wJ_cBook_earliest_b71 v0 v1 v2 v3 v4 h) h Prod.snd (f_cBook_earliest_b71 k7 v0 v1 v2 v3 v4 h) := by
  unfold f_cBook_earliest_b71
  exact fe_j Fe.rf (hk7 _ _ _ _ _ _) (fun x k hx => False.elim hx) (fun x k hx => False.elim hx)
theorem fe_cBook_earliest_b65 {k7 : Nat → Int → Int → Int → Int → Hp → Option (Int × Hp)} (hk7 : ∀ (v0 : Nat) (v1 : Int) (v2 : Int) (v3 : Int) (v4 : Int) (h : Hp), Feo (wI_cBook_earliest_b7 v0 v1 v2 v3 v4 h) (wJ_cBook_earliest_b7 v0 v1 v2 v3 v4 h) h Prod.snd (k7 v0 v1 v2 v3 v4 h)) (v0 : Nat) (v1 : Int) (v4 : Int) (v5 : Int) (h : Hp) : Feo (wI_cBook_earliest_b65 v0 v1 v4 v5 h) (wJ_cBook_earliest_b65 v0 v1 v4 v5 h) h Prod.snd (f_cBook_earliest_b65 k7 v0 v1 v4 v5 h) := by
  unfold f_cBook_earliest_b65
  exact fe_j Fe.rf (fe_cBook_earliest_b71 hk7 _ _ _ _ _ _) (fun x k hx => False.elim hx) (fun x k hx => False.elim hx)
theorem fe_cBook_earliest_b36 {k7 : Nat → Int → Int → Int → Int → Hp → Option (Int × Hp)} (hk7 : ∀ (v0 : Nat) (v1 : Int) (v2 : Int) (v3 : Int) (v4 : Int) (h : Hp), Feo (wI_cBook_earliest_b7 v0 v1 v2 v3 v4 h) (wJ_cBook_earliest_b7 v0 v1 v2 v3 v4 h) h Prod.snd (k7 v0 v1 v2 v3 v4 h)) (v0 : Nat) (v1 : Int) (v2 : Int) (v3 : Int) (v4 : Int) (s0 : Int) (h : Hp) : Feo (wI_cBook_earliest_b36 v0 v1 v2 v3 v4 s0 h) (wJ_cBook_earliest_b36 v0 v1 v2 v3 v4 s0 h) h Prod.snd (f_cBook_earliest_b36 k7 v0 v1 v2 v3 v4 s0 h) := by
  unfold f_cBook_earliest_b36
  refine fe_it ?_ ?_
  · exact fe_j Fe.rf (fe_cBook_earliest_b71 hk7 _ _ _ _ _ _) (fun x k hx => False.elim hx) (fun x k hx => False.elim hx)
  · refine fe_it ?_ ?_
    · exact fe_j Fe.rf (fe_cBook_earliest_b71 hk7 _ _ _ _ _ _) (fun x k hx => False.elim hx) (fun x k hx => False.elim hx)
    · refine fe_it ?_ ?_
      · exact fe_j Fe.rf (fe_cBook_earliest_b65 hk7 _ _ _ _ _) (fun x k hx => False.elim hx) (fun x k hx => False.elim hx)
      · refine fe_it ?_ ?_
        · exact fe_j Fe.rf (fe_cBook_earliest_b65 hk7 _ _ _ _ _) (fun x k hx => False.elim hx) (fun x k hx => False.elim hx)
        · exact fe_j Fe.rf (fe_cBook_earliest_b71 hk7 _ _ _ _ _ _) (fun x k hx => False.elim hx) (fun x k hx => False.elim hx)
theorem fe_cBook_earliest_b7 {k7 : Nat → Int → Int → Int → Int → Hp → Option (Int × Hp)} (hk7 : ∀ (v0 : Nat) (v1 : Int) (v2 : Int) (v3 : Int) (v4 : Int) (h : Hp), Feo (wI_cBook_earliest_b7 v0 v1 v2 v3 v4 h) (wJ_cBook_earliest_b7 v0 v1 v2 v3 v4 h) h Prod.snd (k7 v0 v1 v2 v3 v4 h)) (v0 : Nat) (v1 : Int) (v2 : Int) (v3 : Int) (v4 : Int) (h : Hp) : Feo (wI_cBook_earliest_b7 v0 v1 v2 v3 v4 h) (wJ_cBook_earliest_b7 v0 v1 v2 v3 v4 h) h Prod.snd (f_cBook_earliest_b7 k7 v0 v1 v2 v3 v4 h) := by
  unfold f_cBook_earliest_b7
  refine fe_it ?_ ?_
  · exact fe_so Fe.rf
  · refine fe_it ?_ ?_
    · refine fe_b2 Fe.rf (fe_cBook_probeTime _ _ _) (fun x k hx => False.elim hx) (fun x k hx => False.elim hx) (fun r3 h1 F1 => ?_)
      exact fe_j F1 (fe_cBook_earliest_b36 hk7 _ _ _ _ _ _ _) (fun x k hx => False.elim hx) (fun x k hx => False.elim hx)
    · refine fe_it fe_no ?_
      refine fe_it ?_ fe_no
      refine fe_it fe_no ?_
      exact fe_j Fe.rf (fe_cBook_earliest_b36 hk7 _ _ _ _ _ _ _) (fun x k hx => False.elim hx) (fun x k hx => False.elim hx)
theorem fe_cBook_earliest_b7_lp (n : Nat) : ∀ (v0 : Nat) (v1 : Int) (v2 : Int) (v3 : Int) (v4 : Int) (h : Hp), Feo (wI_cBook_earliest_b7 v0 v1 v2 v3 v4 h) (wJ_cBook_earliest_b7 v0 v1 v2 v3 v4 h) h Prod.snd (f_cBook_earliest_b7_lp n v0 v1 v2 v3 v4 h) := by
  induction n with
  | zero => intro v0 v1 v2 v3 v4 h; exact fe_no
  | succ n ih => intro v0 v1 v2 v3 v4 h; exact fe_cBook_earliest_b7 ih v0 v1 v2 v3 v4 h
theorem fe_cBook_earliest (v0 : Nat) (v1 : Int) (h : Hp) : Feo (wI_cBook_earliest v0 v1 h) (wJ_cBook_earliest v0 v1 h) h Prod.snd (f_cBook_earliest v0 v1 h) := by
  unfold f_cBook_earliest
  exact fe_j Fe.rf (fe_cBook_earliest_b7_lp FU _ _ _ _ _ _) (fun x k hx => False.elim hx) (fun x k hx => False.elim hx)
def wI_cSide_end_b21 (v0 : Nat) (s0 : Nat) (s1 : Int) (h : Hp) (x k : Nat) : Prop := (x = s0 ∧ k = 2)
def wJ_cSide_end_b21 (v0 : Nat) (s0 : Nat) (s1 : Int) (h : Hp) (x k : Nat) : Prop := False
def wI_cSide_end (v0 : Nat) (v1 : Int) (h : Hp) (x k : Nat) : Prop := (x = v0 ∧ k = 1) ∨ (x = v0 ∧ k = 2)
def wJ_cSide_end (v0 : Nat) (v1 : Int) (h : Hp) (x k : Nat) : Prop := False
theorem fe_cSide_end_b21 (v0 : Nat) (s0 : Nat) (s1 : Int) (h : Hp) : Feo (wI_cSide_end_b21 v0 s0 s1 h) (wJ_cSide_end_b21 v0 s0 s1 h) h id (f_cSide_end_b21 v0 s0 s1 h) := by
  unfold f_cSide_end_b21
  refine fe_it fe_no ?_
  refine fe_I Fe.rf (⟨rfl, rfl⟩) (fun h3 F1 => ?_)
  exact fe_so F1
theorem fe_cSide_end (v0 : Nat) (v1 : Int) (h : Hp) : Feo (wI_cSide_end v0 v1 h) (wJ_cSide_end v0 v1 h) h id (f_cSide_end v0 v1 h) := by
  unfold f_cSide_end
  refine fe_I Fe.rf (Or.inl (⟨rfl, rfl⟩)) (fun h1 F1 => ?_)
  refine fe_it ?_ ?_
  · exact fe_j F1 (fe_cSide_end_b21 _ _ _ _) (fun x k hx => by simp only [wI_cSide_end_b21, F1.r] at hx; have e := hx; exact Or.inr (e)) (fun x k hx => False.elim hx)
  · exact fe_j F1 (fe_cSide_end_b21 _ _ _ _) (fun x k hx => by simp only [wI_cSide_end_b21, F1.r] at hx; have e := hx; exact Or.inr (e)) (fun x k hx => False.elim hx)
def wI_cSide_quietLimit_b54 (v0 : Nat) (s0 : Int) (h : Hp) (x k : Nat) : Prop := False
def wJ_cSide_quietLimit_b54 (v0 : Nat) (s0 : Int) (h : Hp) (x k : Nat) : Prop := False
def wI_cSide_quietLimit_b28 (v0 : Nat) (v1 : Int) (s0 : Int) (h : Hp) (x k : Nat) : Prop := False
def wJ_cSide_quietLimit_b28 (v0 : Nat) (v1 : Int) (s0 : Int) (h : Hp) (x k : Nat) : Prop := False
def wI_cSide_quietLimit (v0 : Nat) (h : Hp) (x k : Nat) : Prop := False
def wJ_cSide_quietLimit (v0 : Nat) (h : Hp) (x k : Nat) : Prop := False
theorem fe_cSide_quietLimit_b54 (v0 : Nat) (s0 : Int) (h : Hp) : Feo (wI_cSide_quietLimit_b54 v0 s0 h) (wJ_cSide_quietLimit_b54 v0 s0 h) h Prod.snd (f_cSide_quietLimit_b54 v0 s0 h) := by
  unfold f_cSide_quietLimit_b54
  refine fe_it ?_ ?_
  · refine fe_b2 Fe.rf (fe_cSide_patience _ _) (fun x k hx => False.elim hx) (fun x k hx => False.elim hx) (fun r9 h7 F1 => ?_)
    exact fe_so F1
  · exact fe_so Fe.rf
theorem fe_cSide_quietLimit_b28 (v0 : Nat) (v1 : Int) (s0 : Int) (h : Hp) : Feo (wI_cSide_quietLimit_b28 v0 v1 s0 h) (wJ_cSide_quietLimit_b28 v0 v1 s0 h) h Prod.snd (f_cSide_quietLimit_b28 v0 v1 s0 h) := by
  unfold f_cSide_quietLimit_b28
  refine fe_it ?_ ?_
  · refine fe_it ?_ ?_
    · exact fe_j Fe.rf (fe_cSide_quietLimit_b54 _ _ _) (fun x k hx => False.elim hx) (fun x k hx => False.elim hx)
    · exact fe_j Fe.rf (fe_cSide_quietLimit_b54 _ _ _) (fun x k hx => False.elim hx) (fun x k hx => False.elim hx)
  · exact fe_j Fe.rf (fe_cSide_quietLimit_b54 _ _ _) (fun x k hx => False.elim hx) (fun x k hx => False.elim hx)
theorem fe_cSide_quietLimit (v0 : Nat) (h : Hp) : Feo (wI_cSide_quietLimit v0 h) (wJ_cSide_quietLimit v0 h) h Prod.snd (f_cSide_quietLimit v0 h) := by
  unfold f_cSide_quietLimit
  refine fe_it fe_no ?_
  refine fe_it ?_ fe_no
  refine fe_v (fun y3 => ?_)
  refine fe_it ?_ ?_
  · exact fe_j Fe.rf (fe_cSide_quietLimit_b28 _ _ _ _) (fun x k hx => False.elim hx) (fun x k hx => False.elim hx)
  · refine fe_it fe_no ?_
    refine fe_it fe_no ?_
    refine fe_it ?_ fe_no
    exact fe_j Fe.rf (fe_cSide_quietLimit_b28 _ _ _ _) (fun x k hx => False.elim hx) (fun x k hx => False.elim hx)
def wI_cSide_isWorn_b60 (v0 : Nat) (v2 : Int) (s0 : Int) (h : Hp) (x k : Nat) : Prop := False
def wJ_cSide_isWorn_b60 (v0 : Nat) (v2 : Int) (s0 : Int) (h : Hp) (x k : Nat) : Prop := False
def wI_cSide_isWorn_b55 (v0 : Nat) (v2 : Int) (h : Hp) (x k : Nat) : Prop := False
def wJ_cSide_isWorn_b55 (v0 : Nat) (v2 : Int) (h : Hp) (x k : Nat) : Prop := False
def wI_cSide_isWorn_b59 (v0 : Nat) (v2 : Int) (h : Hp) (x k : Nat) : Prop := False
def wJ_cSide_isWorn_b59 (v0 : Nat) (v2 : Int) (h : Hp) (x k : Nat) : Prop := False
def wI_cSide_isWorn_b4 (v0 : Nat) (v1 : Int) (v2 : Int) (h : Hp) (x k : Nat) : Prop := False
def wJ_cSide_isWorn_b4 (v0 : Nat) (v1 : Int) (v2 : Int) (h : Hp) (x k : Nat) : Prop := False
def wI_cSide_isWorn (v0 : Nat) (h : Hp) (x k : Nat) : Prop := False
def wJ_cSide_isWorn (v0 : Nat) (h : Hp) (x k : Nat) : Prop := False
theorem fe_cSide_isWorn_b60 {k4 : Nat → Int → Int → Hp → Option (Int × Hp)} (hk4 : ∀ (v0 : Nat) (v1 : Int) (v2 : Int) (h : Hp), Feo (wI_cSide_isWorn_b4 v0 v1 v2 h) (wJ_cSide_isWorn_b4 v0 v1 v2 h) h Prod.snd (k4 v0 v1 v2 h)) (v0 : Nat) (v2 : Int) (s0 : Int) (h : Hp) : Feo (wI_cSide_isWorn_b60 v0 v2 s0 h) (wJ_cSide_isWorn_b60 v0 v2 s0 h) h Prod.snd (f_cSide_isWorn_b60 k4 v0 v2 s0 h) := by
  unfold f_cSide_isWorn_b60
  exact fe_j Fe.rf (hk4 _ _ _ _) (fun x k hx => False.elim hx) (fun x k hx => False.elim hx)
theorem fe_cSide_isWorn_b55 {k4 : Nat → Int → Int → Hp → Option (Int × Hp)} (hk4 : ∀ (v0 : Nat) (v1 : Int) (v2 : Int) (h : Hp), Feo (wI_cSide_isWorn_b4 v0 v1 v2 h) (wJ_cSide_isWorn_b4 v0 v1 v2 h) h Prod.snd (k4 v0 v1 v2 h)) (v0 : Nat) (v2 : Int) (h : Hp) : Feo (wI_cSide_isWorn_b55 v0 v2 h) (wJ_cSide_isWorn_b55 v0 v2 h) h Prod.snd (f_cSide_isWorn_b55 k4 v0 v2 h) := by
  unfold f_cSide_isWorn_b55
  exact fe_j Fe.rf (fe_cSide_isWorn_b60 hk4 _ _ _ _) (fun x k hx => False.elim hx) (fun x k hx => False.elim hx)
theorem fe_cSide_isWorn_b59 {k4 : Nat → Int → Int → Hp → Option (Int × Hp)} (hk4 : ∀ (v0 : Nat) (v1 : Int) (v2 : Int) (h : Hp), Feo (wI_cSide_isWorn_b4 v0 v1 v2 h) (wJ_cSide_isWorn_b4 v0 v1 v2 h) h Prod.snd (k4 v0 v1 v2 h)) (v0 : Nat) (v2 : Int) (h : Hp) : Feo (wI_cSide_isWorn_b59 v0 v2 h) (wJ_cSide_isWorn_b59 v0 v2 h) h Prod.snd (f_cSide_isWorn_b59 k4 v0 v2 h) := by
  unfold f_cSide_isWorn_b59
  exact fe_j Fe.rf (fe_cSide_isWorn_b60 hk4 _ _ _ _) (fun x k hx => False.elim hx) (fun x k hx => False.elim hx)
theorem fe_cSide_isWorn_b4 {k4 : Nat → Int → Int → Hp → Option (Int × Hp)} (hk4 : ∀ (v0 : Nat) (v1 : Int) (v2 : Int) (h : Hp), Feo (wI_cSide_isWorn_b4 v0 v1 v2 h) (wJ_cSide_isWorn_b4 v0 v1 v2 h) h Prod.snd (k4 v0 v1 v2 h)) (v0 : Nat) (v1 : Int) (v2 : Int) (h : Hp) : Feo (wI_cSide_isWorn_b4 v0 v1 v2 h) (wJ_cSide_isWorn_b4 v0 v1 v2 h) h Prod.snd (f_cSide_isWorn_b4 k4 v0 v1 v2 h) := by
  unfold f_cSide_isWorn_b4
  refine fe_it ?_ ?_
  · refine fe_it ?_ fe_no
    exact fe_so Fe.rf
  · refine fe_it ?_ ?_
    · exact fe_j Fe.rf (fe_cSide_isWorn_b55 hk4 _ _ _) (fun x k hx => False.elim hx) (fun x k hx => False.elim hx)
    · refine fe_it fe_no ?_
      refine fe_it ?_ fe_no
      refine fe_it ?_ ?_
      · exact fe_j Fe.rf (fe_cSide_isWorn_b59 hk4 _ _ _) (fun x k hx => False.elim hx) (fun x k hx => False.elim hx)
      · refine fe_it fe_no ?_
        refine fe_it fe_no ?_
        refine fe_it ?_ fe_no
        refine fe_it fe_no ?_
        refine fe_it ?_ ?_
        · exact fe_j Fe.rf (fe_cSide_isWorn_b55 hk4 _ _ _) (fun x k hx => False.elim hx) (fun x k hx => False.elim hx)
        · refine fe_it fe_no ?_
          refine fe_it ?_ fe_no
          refine fe_it fe_no ?_
          refine fe_it ?_ ?_
          · exact fe_j Fe.rf (fe_cSide_isWorn_b59 hk4 _ _ _) (fun x k hx => False.elim hx) (fun x k hx => False.elim hx)
          · exact fe_j Fe.rf (fe_cSide_isWorn_b55 hk4 _ _ _) (fun x k hx => False.elim hx) (fun x k hx => False.elim hx)
theorem fe_cSide_isWorn_b4_lp (n : Nat) : ∀ (v0 : Nat) (v1 : Int) (v2 : Int) (h : Hp), Feo (wI_cSide_isWorn_b4 v0 v1 v2 h) (wJ_cSide_isWorn_b4 v0 v1 v2 h) h Prod.snd (f_cSide_isWorn_b4_lp n v0 v1 v2 h) := by
  induction n with
  | zero => intro v0 v1 v2 h; exact fe_no
  | succ n ih => intro v0 v1 v2 h; exact fe_cSide_isWorn_b4 ih v0 v1 v2 h
theorem fe_cSide_isWorn (v0 : Nat) (h : Hp) : Feo (wI_cSide_isWorn v0 h) (wJ_cSide_isWorn v0 h) h Prod.snd (f_cSide_isWorn v0 h) := by
  unfold f_cSide_isWorn
  exact fe_j Fe.rf (fe_cSide_isWorn_b4_lp FU _ _ _ _) (fun x k hx => False.elim hx) (fun x k hx => False.elim hx)
def wI_cSide_headSize (v0 : Int) (h : Hp) (x k : Nat) : Prop := False
def wJ_cSide_headSize (v0 : Int) (h : Hp) (x k : Nat) : Prop := False
theorem fe_cSide_headSize (v0 : Int) (h : Hp) : Feo (wI_cSide_headSize v0 h) (wJ_cSide_headSize v0 h) h Prod.snd (f_cSide_headSize v0 h) := by
  unfold f_cSide_headSize
  refine fe_it ?_ ?_
  · refine fe_it ?_ ?_
    · exact fe_so Fe.rf
    · exact fe_so Fe.rf
  · exact fe_so Fe.rf
def wI_cBytes_put (v0 : Nat) (v1 : Int) (h : Hp) (x k : Nat) : Prop := x = hR h v0 0 ∨ (x = v0 ∧ k = 1) ∨ (x = v0 ∧ k = 3)
def wJ_cBytes_put (v0 : Nat) (v1 : Int) (h : Hp) (x k : Nat) : Prop := False
theorem fe_cBytes_put (v0 : Nat) (v1 : Int) (h : Hp) : Feo (wI_cBytes_put v0 v1 h) (wJ_cBytes_put v0 v1 h) h id (f_cBytes_put v0 v1 h) := by
  unfold f_cBytes_put
  refine fe_b2 Fe.rf (fe_cBytes_step _ _ _) (fun x k hx => by simp only [wI_cBytes_step] at hx; have e := hx; exact Or.inr (Or.inr (e))) (fun x k hx => False.elim hx) (fun r3 h1 F1 => ?_)
  refine fe_it ?_ ?_
  · exact fe_so F1
  · refine fe_I F1 (Or.inr (Or.inl (⟨rfl, rfl⟩))) (fun h4 F2 => ?_)
    refine fe_it fe_no ?_
    refine fe_it ?_ fe_no
    refine fe_I F2 (Or.inl ((by first | (simp only [F1.r, F2.r]; exact rfl) | simp only [F1.r, F2.r]))) (fun h7 F3 => ?_)
    exact fe_so F3
def wI_cFrame_writeRanges_b104 (v0 : Nat) (v1 : Nat) (v2 : Int) (h : Hp) (x k : Nat) : Prop := x = hR h v1 0 ∨ (x = v1 ∧ k = 1) ∨ (x = v1 ∧ k = 3)
def wJ_cFrame_writeRanges_b104 (v0 : Nat) (v1 : Nat) (v2 : Int) (h : Hp) (x k : Nat) : Prop := False
def wI_cFrame_writeRanges_b48 (v0 : Nat) (v1 : Nat) (v2 : Int) (h : Hp) (x k : Nat) : Prop := x = hR h v1 0 ∨ (x = v1 ∧ k = 1) ∨ (x = v1 ∧ k = 3)
def wJ_cFrame_writeRanges_b48 (v0 : Nat) (v1 : Nat) (v2 : Int) (h : Hp) (x k : Nat) : Prop := False
def wI_cFrame_writeRanges (v0 : Nat) (v1 : Nat) (h : Hp) (x k : Nat) : Prop := x = hR h v1 0 ∨ (x = v1 ∧ k = 1) ∨ (x = v1 ∧ k = 3)
def wJ_cFrame_writeRanges (v0 : Nat) (v1 : Nat) (h : Hp) (x k : Nat) : Prop := False
theorem fe_cFrame_writeRanges_b104 {k104 : Nat → Nat → Int → Hp → Option (Hp)} (hk104 : ∀ (v0 : Nat) (v1 : Nat) (v2 : Int) (h : Hp), Feo (wI_cFrame_writeRanges_b104 v0 v1 v2 h) (wJ_cFrame_writeRanges_b104 v0 v1 v2 h) h id (k104 v0 v1 v2 h)) (v0 : Nat) (v1 : Nat) (v2 : Int) (h : Hp) : Feo (wI_cFrame_writeRanges_b104 v0 v1 v2 h) (wJ_cFrame_writeRanges_b104 v0 v1 v2 h) h id (f_cFrame_writeRanges_b104 k104 v0 v1 v2 h) := by
  unfold f_cFrame_writeRanges_b104
  refine fe_it ?_ ?_
  · exact fe_so Fe.rf
  · refine fe_it ?_ ?_
    · exact fe_so Fe.rf
    · refine fe_it fe_no ?_
      refine fe_it ?_ fe_no
      refine fe_it fe_no ?_
      refine fe_b1 Fe.rf (fe_cBytes_putNumber _ _ _) (fun x k hx => by simp only [wI_cBytes_putNumber] at hx; rcases hx with e | e | e <;> first | exact Or.inl (e) | exact Or.inr (Or.inl (e)) | exact Or.inr (Or.inr (e))) (fun x k hx => False.elim hx) (fun h32 F1 => ?_)
      exact fe_j F1 (hk104 _ _ _ _) (fun x k hx => by simp only [wI_cFrame_writeRanges_b104, F1.r] at hx; rcases hx with e | e | e <;> first | exact Or.inl (e) | exact Or.inr (Or.inl (e)) | exact Or.inr (Or.inr (e))) (fun x k hx => False.elim hx)
theorem fe_cFrame_writeRanges_b104_lp (n : Nat) : ∀ (v0 : Nat) (v1 : Nat) (v2 : Int) (h : Hp), Feo (wI_cFrame_writeRanges_b104 v0 v1 v2 h) (wJ_cFrame_writeRanges_b104 v0 v1 v2 h) h id (f_cFrame_writeRanges_b104_lp n v0 v1 v2 h) := by
  induction n with
  | zero => intro v0 v1 v2 h; exact fe_no
  | succ n ih => intro v0 v1 v2 h; exact fe_cFrame_writeRanges_b104 ih v0 v1 v2 h
theorem fe_cFrame_writeRanges_b48 {k48 : Nat → Nat → Int → Hp → Option (Hp)} (hk48 : ∀ (v0 : Nat) (v1 : Nat) (v2 : Int) (h : Hp), Feo (wI_cFrame_writeRanges_b48 v0 v1 v2 h) (wJ_cFrame_writeRanges_b48 v0 v1 v2 h) h id (k48 v0 v1 v2 h)) (v0 : Nat) (v1 : Nat) (v2 : Int) (h : Hp) : Feo (wI_cFrame_writeRanges_b48 v0 v1 v2 h) (wJ_cFrame_writeRanges_b48 v0 v1 v2 h) h id (f_cFrame_writeRanges_b48 k48 v0 v1 v2 h) := by
  unfold f_cFrame_writeRanges_b48
  refine fe_it ?_ ?_
  · exact fe_j Fe.rf (fe_cFrame_writeRanges_b104_lp FU _ _ _ _) (fun x k hx => by simp only [wI_cFrame_writeRanges_b104] at hx; rcases hx with e | e | e <;> first | exact Or.inl (e) | exact Or.inr (Or.inl (e)) | exact Or.inr (Or.inr (e))) (fun x k hx => False.elim hx)
  · refine fe_it fe_no ?_
    refine fe_it ?_ fe_no
    refine fe_it fe_no ?_
    refine fe_it ?_ fe_no
    refine fe_it fe_no ?_
    refine fe_b1 Fe.rf (fe_cBytes_putNumber _ _ _) (fun x k hx => by simp only [wI_cBytes_putNumber] at hx; rcases hx with e | e | e <;> first | exact Or.inl (e) | exact Or.inr (Or.inl (e)) | exact Or.inr (Or.inr (e))) (fun x k hx => False.elim hx) (fun h21 F1 => ?_)
    refine fe_it fe_no ?_
    refine fe_it ?_ fe_no
    refine fe_it fe_no ?_
    refine fe_it ?_ fe_no
    refine fe_b1 F1 (fe_cBytes_putNumber _ _ _) (fun x k hx => by simp only [wI_cBytes_putNumber, F1.r] at hx; rcases hx with e | e | e <;> first | exact Or.inl (e) | exact Or.inr (Or.inl (e)) | exact Or.inr (Or.inr (e))) (fun x k hx => False.elim hx) (fun h27 F2 => ?_)
    exact fe_j F2 (hk48 _ _ _ _) (fun x k hx => by simp only [wI_cFrame_writeRanges_b48, F1.r, F2.r] at hx; rcases hx with e | e | e <;> first | exact Or.inl (e) | exact Or.inr (Or.inl (e)) | exact Or.inr (Or.inr (e))) (fun x k hx => False.elim hx)
theorem fe_cFrame_writeRanges_b48_lp (n : Nat) : ∀ (v0 : Nat) (v1 : Nat) (v2 : Int) (h : Hp), Feo (wI_cFrame_writeRanges_b48 v0 v1 v2 h) (wJ_cFrame_writeRanges_b48 v0 v1 v2 h) h id (f_cFrame_writeRanges_b48_lp n v0 v1 v2 h) := by
  induction n with
  | zero => intro v0 v1 v2 h; exact fe_no
  | succ n ih => intro v0 v1 v2 h; exact fe_cFrame_writeRanges_b48 ih v0 v1 v2 h
theorem fe_cFrame_writeRanges (v0 : Nat) (v1 : Nat) (h : Hp) : Feo (wI_cFrame_writeRanges v0 v1 h) (wJ_cFrame_writeRanges v0 v1 h) h id (f_cFrame_writeRanges v0 v1 h) := by
  unfold f_cFrame_writeRanges
  refine fe_it fe_no ?_
  refine fe_it ?_ fe_no
  refine fe_it fe_no ?_
  refine fe_b1 Fe.rf (fe_cBytes_putNumber _ _ _) (fun x k hx => by simp only [wI_cBytes_putNumber] at hx; rcases hx with e | e | e <;> first | exact Or.inl (e) | exact Or.inr (Or.inl (e)) | exact Or.inr (Or.inr (e))) (fun x k hx => False.elim hx) (fun h4 F1 => ?_)
  refine fe_b1 F1 (fe_cBytes_putNumber _ _ _) (fun x k hx => by simp only [wI_cBytes_putNumber, F1.r] at hx; rcases hx with e | e | e <;> first | exact Or.inl (e) | exact Or.inr (Or.inl (e)) | exact Or.inr (Or.inr (e))) (fun x k hx => False.elim hx) (fun h6 F2 => ?_)
  refine fe_b1 F2 (fe_cBytes_putNumber _ _ _) (fun x k hx => by simp only [wI_cBytes_putNumber, F1.r, F2.r] at hx; rcases hx with e | e | e <;> first | exact Or.inl (e) | exact Or.inr (Or.inl (e)) | exact Or.inr (Or.inr (e))) (fun x k hx => False.elim hx) (fun h8 F3 => ?_)
  refine fe_it fe_no ?_
  refine fe_it ?_ fe_no
  refine fe_it fe_no ?_
  refine fe_it ?_ fe_no
  refine fe_b1 F3 (fe_cBytes_putNumber _ _ _) (fun x k hx => by simp only [wI_cBytes_putNumber, F1.r, F2.r, F3.r] at hx; rcases hx with e | e | e <;> first | exact Or.inl (e) | exact Or.inr (Or.inl (e)) | exact Or.inr (Or.inr (e))) (fun x k hx => False.elim hx) (fun h14 F4 => ?_)
  exact fe_j F4 (fe_cFrame_writeRanges_b48_lp FU _ _ _ _) (fun x k hx => by simp only [wI_cFrame_writeRanges_b48, F1.r, F2.r, F3.r, F4.r] at hx; rcases hx with e | e | e <;> first | exact Or.inl (e) | exact Or.inr (Or.inl (e)) | exact Or.inr (Or.inr (e))) (fun x k hx => False.elim hx)
def wI_cFrame_write_b312 (v0 : Nat) (v1 : Nat) (h : Hp) (x k : Nat) : Prop := x = hR h v1 0 ∨ (x = v1 ∧ k = 1) ∨ (x = v1 ∧ k = 3)
def wJ_cFrame_write_b312 (v0 : Nat) (v1 : Nat) (h : Hp) (x k : Nat) : Prop := False
def wI_cFrame_write_b303 (v0 : Nat) (v1 : Nat) (h : Hp) (x k : Nat) : Prop := x = hR h v1 0 ∨ (x = v1 ∧ k = 1) ∨ (x = v1 ∧ k = 3)
def wJ_cFrame_write_b303 (v0 : Nat) (v1 : Nat) (h : Hp) (x k : Nat) : Prop := False
def wI_cFrame_write_b257 (v0 : Nat) (v1 : Nat) (h : Hp) (x k : Nat) : Prop := x = hR h v1 0 ∨ (x = v1 ∧ k = 1) ∨ (x = v1 ∧ k = 3)
def wJ_cFrame_write_b257 (v0 : Nat) (v1 : Nat) (h : Hp) (x k : Nat) : Prop := False
def wI_cFrame_write_b241 (v0 : Nat) (v1 : Nat) (h : Hp) (x k : Nat) : Prop := x = hR h v1 0 ∨ (x = v1 ∧ k = 1) ∨ (x = v1 ∧ k = 3)
def wJ_cFrame_write_b241 (v0 : Nat) (v1 : Nat) (h : Hp) (x k : Nat) : Prop := False
def wI_cFrame_write_b233 (v0 : Nat) (v1 : Nat) (h : Hp) (x k : Nat) : Prop := x = hR h v1 0 ∨ (x = v1 ∧ k = 1) ∨ (x = v1 ∧ k = 3)
def wJ_cFrame_write_b233 (v0 : Nat) (v1 : Nat) (h : Hp) (x k : Nat) : Prop := False
def wI_cFrame_write_b197 (v0 : Nat) (v1 : Nat) (h : Hp) (x k : Nat) : Prop := x = hR h v1 0 ∨ (x = v1 ∧ k = 1) ∨ (x = v1 ∧ k = 3)
def wJ_cFrame_write_b197 (v0 : Nat) (v1 : Nat) (h : Hp) (x k : Nat) : Prop := False
def wI_cFrame_write_b170 (v0 : Nat) (v1 : Nat) (h : Hp) (x k : Nat) : Prop := x = hR h v1 0 ∨ (x = v1 ∧ k = 1) ∨ (x = v1 ∧ k = 3)
def wJ_cFrame_write_b170 (v0 : Nat) (v1 : Nat) (h : Hp) (x k : Nat) : Prop := False
def wI_cFrame_write_b133 (v0 : Nat) (v1 : Nat) (h : Hp) (x k : Nat) : Prop := x = hR h v1 0 ∨ (x = v1 ∧ k = 1) ∨ (x = v1 ∧ k = 3)
def wJ_cFrame_write_b133 (v0 : Nat) (v1 : Nat) (h : Hp) (x k : Nat) : Prop := False
def wI_cFrame_write_b80 (v0 : Nat) (v1 : Nat) (s0 : Nat) (s1 : Int) (h : Hp) (x k : Nat) : Prop := x = hR h s0 0 ∨ x = hR h v1 0 ∨ (x = s0 ∧ k = 1) ∨ (x = s0 ∧ k = 3) ∨ (x = v1 ∧ k = 1) ∨ (x = v1 ∧ k = 3)
def wJ_cFrame_write_b80 (v0 : Nat) (v1 : Nat) (s0 : Nat) (s1 : Int) (h : Hp) (x k : Nat) : Prop := False
def wI_cFrame_write_b9 (v0 : Nat) (v1 : Nat) (v2 : Int) (h : Hp) (x k : Nat) : Prop := x = hR h v1 0 ∨ (x = v1 ∧ k = 1) ∨ (x = v1 ∧ k = 3)
def wJ_cFrame_write_b9 (v0 : Nat) (v1 : Nat) (v2 : Int) (h : Hp) (x k : Nat) : Prop := False
def wI_cFrame_write_b57 (v0 : Nat) (v1 : Nat) (s0 : Nat) (s1 : Int) (s2 : Int) (h : Hp) (x k : Nat) : Prop := x = hR h s0 0 ∨ x = hR h v1 0 ∨ (x = s0 ∧ k = 1) ∨ (x = s0 ∧ k = 3) ∨ (x = v1 ∧ k = 1) ∨ (x = v1 ∧ k = 3)
def wJ_cFrame_write_b57 (v0 : Nat) (v1 : Nat) (s0 : Nat) (s1 : Int) (s2 : Int) (h : Hp) (x k : Nat) : Prop := False
def wI_cFrame_write (v0 : Nat) (v1 : Nat) (h : Hp) (x k : Nat) : Prop := x = hR h v1 0 ∨ (x = v1 ∧ k = 1) ∨ (x = v1 ∧ k = 3)
def wJ_cFrame_write (v0 : Nat) (v1 : Nat) (h : Hp) (x k : Nat) : Prop := False
theorem fe_cFrame_write_b312 (v0 : Nat) (v1 : Nat) (h : Hp) : Feo (wI_cFrame_write_b312 v0 v1 h) (wJ_cFrame_write_b312 v0 v1 h) h id (f_cFrame_write_b312 v0 v1 h) := by
  unfold f_cFrame_write_b312
  refine fe_it fe_no ?_
  refine fe_b1 Fe.rf (fe_cBytes_putRow _ _ _ _ _) (fun x k hx => by simp only [wI_cBytes_putRow] at hx; rcases hx with e | e | e <;> first | exact Or.inl (e) | exact Or.inr (Or.inl (e)) | exact Or.inr (Or.inr (e))) (fun x k hx => False.elim hx) (fun h28 F1 => ?_)
  refine fe_it ?_ ?_
  · exact fe_so F1
  · refine fe_b1 F1 (fe_cBytes_putRow _ _ _ _ _) (fun x k hx => by simp only [wI_cBytes_putRow, F1.r] at hx; rcases hx with e | e | e <;> first | exact Or.inl (e) | exact Or.inr (Or.inl (e)) | exact Or.inr (Or.inr (e))) (fun x k hx => False.elim hx) (fun h30 F2 => ?_)
    exact fe_so F2
theorem fe_cFrame_write_b303 (v0 : Nat) (v1 : Nat) (h : Hp) : Feo (wI_cFrame_write_b303 v0 v1 h) (wJ_cFrame_write_b303 v0 v1 h) h id (f_cFrame_write_b303 v0 v1 h) := by
  unfold f_cFrame_write_b303
  refine fe_it fe_no ?_
  refine fe_b1 Fe.rf (fe_cBytes_putNumber _ _ _) (fun x k hx => by simp only [wI_cBytes_putNumber] at hx; rcases hx with e | e | e <;> first | exact Or.inl (e) | exact Or.inr (Or.inl (e)) | exact Or.inr (Or.inr (e))) (fun x k hx => False.elim hx) (fun h25 F1 => ?_)
  exact fe_j F1 (fe_cFrame_write_b312 _ _ _) (fun x k hx => by simp only [wI_cFrame_write_b312, F1.r] at hx; rcases hx with e | e | e <;> first | exact Or.inl (e) | exact Or.inr (Or.inl (e)) | exact Or.inr (Or.inr (e))) (fun x k hx => False.elim hx)
theorem fe_cFrame_write_b257 (v0 : Nat) (v1 : Nat) (h : Hp) : Feo (wI_cFrame_write_b257 v0 v1 h) (wJ_cFrame_write_b257 v0 v1 h) h id (f_cFrame_write_b257 v0 v1 h) := by
  unfold f_cFrame_write_b257
  refine fe_b2 Fe.rf (fe_cFrame_carries _ _) (fun x k hx => False.elim hx) (fun x k hx => False.elim hx) (fun r20 h18 F1 => ?_)
  refine fe_it ?_ ?_
  · refine fe_it ?_ ?_
    · refine fe_it ?_ ?_
      · exact fe_j F1 (fe_cFrame_write_b303 _ _ _) (fun x k hx => by simp only [wI_cFrame_write_b303, F1.r] at hx; rcases hx with e | e | e <;> first | exact Or.inl (e) | exact Or.inr (Or.inl (e)) | exact Or.inr (Or.inr (e))) (fun x k hx => False.elim hx)
      · refine fe_it ?_ ?_
        · exact fe_j F1 (fe_cFrame_write_b312 _ _ _) (fun x k hx => by simp only [wI_cFrame_write_b312, F1.r] at hx; rcases hx with e | e | e <;> first | exact Or.inl (e) | exact Or.inr (Or.inl (e)) | exact Or.inr (Or.inr (e))) (fun x k hx => False.elim hx)
        · exact fe_j F1 (fe_cFrame_write_b303 _ _ _) (fun x k hx => by simp only [wI_cFrame_write_b303, F1.r] at hx; rcases hx with e | e | e <;> first | exact Or.inl (e) | exact Or.inr (Or.inl (e)) | exact Or.inr (Or.inr (e))) (fun x k hx => False.elim hx)
    · refine fe_it fe_no ?_
      refine fe_b1 F1 (fe_cBytes_put _ _ _) (fun x k hx => by simp only [wI_cBytes_put, F1.r] at hx; rcases hx with e | e | e <;> first | exact Or.inl (e) | exact Or.inr (Or.inl (e)) | exact Or.inr (Or.inr (e))) (fun x k hx => False.elim hx) (fun h22 F2 => ?_)
      exact fe_j F2 (fe_cFrame_write_b312 _ _ _) (fun x k hx => by simp only [wI_cFrame_write_b312, F1.r, F2.r] at hx; rcases hx with e | e | e <;> first | exact Or.inl (e) | exact Or.inr (Or.inl (e)) | exact Or.inr (Or.inr (e))) (fun x k hx => False.elim hx)
  · exact fe_so F1
theorem fe_cFrame_write_b241 (v0 : Nat) (v1 : Nat) (h : Hp) : Feo (wI_cFrame_write_b241 v0 v1 h) (wJ_cFrame_write_b241 v0 v1 h) h id (f_cFrame_write_b241 v0 v1 h) := by
  unfold f_cFrame_write_b241
  refine fe_it ?_ ?_
  · exact fe_j Fe.rf (fe_cFrame_write_b257 _ _ _) (fun x k hx => by simp only [wI_cFrame_write_b257] at hx; rcases hx with e | e | e <;> first | exact Or.inl (e) | exact Or.inr (Or.inl (e)) | exact Or.inr (Or.inr (e))) (fun x k hx => False.elim hx)
  · refine fe_it fe_no ?_
    refine fe_b1 Fe.rf (fe_cBytes_putNumber _ _ _) (fun x k hx => by simp only [wI_cBytes_putNumber] at hx; rcases hx with e | e | e <;> first | exact Or.inl (e) | exact Or.inr (Or.inl (e)) | exact Or.inr (Or.inr (e))) (fun x k hx => False.elim hx) (fun h16 F1 => ?_)
    exact fe_j F1 (fe_cFrame_write_b257 _ _ _) (fun x k hx => by simp only [wI_cFrame_write_b257, F1.r] at hx; rcases hx with e | e | e <;> first | exact Or.inl (e) | exact Or.inr (Or.inl (e)) | exact Or.inr (Or.inr (e))) (fun x k hx => False.elim hx)
theorem fe_cFrame_write_b233 (v0 : Nat) (v1 : Nat) (h : Hp) : Feo (wI_cFrame_write_b233 v0 v1 h) (wJ_cFrame_write_b233 v0 v1 h) h id (f_cFrame_write_b233 v0 v1 h) := by
  unfold f_cFrame_write_b233
  refine fe_it fe_no ?_
  refine fe_b1 Fe.rf (fe_cBytes_putNumber _ _ _) (fun x k hx => by simp only [wI_cBytes_putNumber] at hx; rcases hx with e | e | e <;> first | exact Or.inl (e) | exact Or.inr (Or.inl (e)) | exact Or.inr (Or.inr (e))) (fun x k hx => False.elim hx) (fun h13 F1 => ?_)
  exact fe_j F1 (fe_cFrame_write_b241 _ _ _) (fun x k hx => by simp only [wI_cFrame_write_b241, F1.r] at hx; rcases hx with e | e | e <;> first | exact Or.inl (e) | exact Or.inr (Or.inl (e)) | exact Or.inr (Or.inr (e))) (fun x k hx => False.elim hx)
theorem fe_cFrame_write_b197 (v0 : Nat) (v1 : Nat) (h : Hp) : Feo (wI_cFrame_write_b197 v0 v1 h) (wJ_cFrame_write_b197 v0 v1 h) h id (f_cFrame_write_b197 v0 v1 h) := by
  unfold f_cFrame_write_b197
  refine fe_it ?_ ?_
  · exact fe_j Fe.rf (fe_cFrame_write_b233 _ _ _) (fun x k hx => by simp only [wI_cFrame_write_b233] at hx; rcases hx with e | e | e <;> first | exact Or.inl (e) | exact Or.inr (Or.inl (e)) | exact Or.inr (Or.inr (e))) (fun x k hx => False.elim hx)
  · refine fe_it ?_ ?_
    · exact fe_j Fe.rf (fe_cFrame_write_b233 _ _ _) (fun x k hx => by simp only [wI_cFrame_write_b233] at hx; rcases hx with e | e | e <;> first | exact Or.inl (e) | exact Or.inr (Or.inl (e)) | exact Or.inr (Or.inr (e))) (fun x k hx => False.elim hx)
    · refine fe_it ?_ ?_
      · exact fe_j Fe.rf (fe_cFrame_write_b233 _ _ _) (fun x k hx => by simp only [wI_cFrame_write_b233] at hx; rcases hx with e | e | e <;> first | exact Or.inl (e) | exact Or.inr (Or.inl (e)) | exact Or.inr (Or.inr (e))) (fun x k hx => False.elim hx)
      · refine fe_it ?_ ?_
        · exact fe_j Fe.rf (fe_cFrame_write_b241 _ _ _) (fun x k hx => by simp only [wI_cFrame_write_b241] at hx; rcases hx with e | e | e <;> first | exact Or.inl (e) | exact Or.inr (Or.inl (e)) | exact Or.inr (Or.inr (e))) (fun x k hx => False.elim hx)
        · exact fe_j Fe.rf (fe_cFrame_write_b233 _ _ _) (fun x k hx => by simp only [wI_cFrame_write_b233] at hx; rcases hx with e | e | e <;> first | exact Or.inl (e) | exact Or.inr (Or.inl (e)) | exact Or.inr (Or.inr (e))) (fun x k hx => False.elim hx)
theorem fe_cFrame_write_b170 (v0 : Nat) (v1 : Nat) (h : Hp) : Feo (wI_cFrame_write_b170 v0 v1 h) (wJ_cFrame_write_b170 v0 v1 h) h id (f_cFrame_write_b170 v0 v1 h) := by
  unfold f_cFrame_write_b170
  refine fe_it ?_ ?_
  · exact fe_j Fe.rf (fe_cFrame_write_b233 _ _ _) (fun x k hx => by simp only [wI_cFrame_write_b233] at hx; rcases hx with e | e | e <;> first | exact Or.inl (e) | exact Or.inr (Or.inl (e)) | exact Or.inr (Or.inr (e))) (fun x k hx => False.elim hx)
  · refine fe_it ?_ ?_
    · exact fe_j Fe.rf (fe_cFrame_write_b197 _ _ _) (fun x k hx => by simp only [wI_cFrame_write_b197] at hx; rcases hx with e | e | e <;> first | exact Or.inl (e) | exact Or.inr (Or.inl (e)) | exact Or.inr (Or.inr (e))) (fun x k hx => False.elim hx)
    · refine fe_it ?_ ?_
      · exact fe_j Fe.rf (fe_cFrame_write_b233 _ _ _) (fun x k hx => by simp only [wI_cFrame_write_b233] at hx; rcases hx with e | e | e <;> first | exact Or.inl (e) | exact Or.inr (Or.inl (e)) | exact Or.inr (Or.inr (e))) (fun x k hx => False.elim hx)
      · exact fe_j Fe.rf (fe_cFrame_write_b197 _ _ _) (fun x k hx => by simp only [wI_cFrame_write_b197] at hx; rcases hx with e | e | e <;> first | exact Or.inl (e) | exact Or.inr (Or.inl (e)) | exact Or.inr (Or.inr (e))) (fun x k hx => False.elim hx)
theorem fe_cFrame_write_b133 (v0 : Nat) (v1 : Nat) (h : Hp) : Feo (wI_cFrame_write_b133 v0 v1 h) (wJ_cFrame_write_b133 v0 v1 h) h id (f_cFrame_write_b133 v0 v1 h) := by
  unfold f_cFrame_write_b133
  refine fe_it fe_no ?_
  refine fe_b1 Fe.rf (fe_cBytes_putMany _ _ _ _) (fun x k hx => by simp only [wI_cBytes_putMany] at hx; rcases hx with e | e | e <;> first | exact Or.inl (e) | exact Or.inr (Or.inl (e)) | exact Or.inr (Or.inr (e))) (fun x k hx => False.elim hx) (fun h10 F1 => ?_)
  exact fe_so F1
theorem fe_cFrame_write_b80 (v0 : Nat) (v1 : Nat) (s0 : Nat) (s1 : Int) (h : Hp) : Feo (wI_cFrame_write_b80 v0 v1 s0 s1 h) (wJ_cFrame_write_b80 v0 v1 s0 s1 h) h id (f_cFrame_write_b80 v0 v1 s0 s1 h) := by
  unfold f_cFrame_write_b80
  refine fe_it fe_no ?_
  refine fe_b1 Fe.rf (fe_cBytes_put _ _ _) (fun x k hx => by simp only [wI_cBytes_put] at hx; rcases hx with e | e | e <;> first | exact Or.inl (e) | exact Or.inr (Or.inr (Or.inl (e))) | exact Or.inr (Or.inr (Or.inr (Or.inl (e))))) (fun x k hx => False.elim hx) (fun h2 F1 => ?_)
  refine fe_it ?_ ?_
  · exact fe_so F1
  · refine fe_it ?_ ?_
    · refine fe_it ?_ ?_
      · refine fe_it ?_ ?_
        · exact fe_j F1 (fe_cFrame_write_b133 _ _ _) (fun x k hx => by simp only [wI_cFrame_write_b133, F1.r] at hx; rcases hx with e | e | e <;> first | exact Or.inr (Or.inl (e)) | exact Or.inr (Or.inr (Or.inr (Or.inr (Or.inl (e))))) | exact Or.inr (Or.inr (Or.inr (Or.inr (Or.inr (e)))))) (fun x k hx => False.elim hx)
        · refine fe_it ?_ ?_
          · refine fe_it ?_ ?_
            · exact fe_j F1 (fe_cFrame_write_b170 _ _ _) (fun x k hx => by simp only [wI_cFrame_write_b170, F1.r] at hx; rcases hx with e | e | e <;> first | exact Or.inr (Or.inl (e)) | exact Or.inr (Or.inr (Or.inr (Or.inr (Or.inl (e))))) | exact Or.inr (Or.inr (Or.inr (Or.inr (Or.inr (e)))))) (fun x k hx => False.elim hx)
            · refine fe_it ?_ ?_
              · exact fe_j F1 (fe_cFrame_write_b170 _ _ _) (fun x k hx => by simp only [wI_cFrame_write_b170, F1.r] at hx; rcases hx with e | e | e <;> first | exact Or.inr (Or.inl (e)) | exact Or.inr (Or.inr (Or.inr (Or.inr (Or.inl (e))))) | exact Or.inr (Or.inr (Or.inr (Or.inr (Or.inr (e)))))) (fun x k hx => False.elim hx)
              · refine fe_it fe_no ?_
                refine fe_b1 F1 (fe_cBytes_putNumber _ _ _) (fun x k hx => by simp only [wI_cBytes_putNumber, F1.r] at hx; rcases hx with e | e | e <;> first | exact Or.inr (Or.inl (e)) | exact Or.inr (Or.inr (Or.inr (Or.inr (Or.inl (e))))) | exact Or.inr (Or.inr (Or.inr (Or.inr (Or.inr (e)))))) (fun x k hx => False.elim hx) (fun h5 F2 => ?_)
                exact fe_j F2 (fe_cFrame_write_b170 _ _ _) (fun x k hx => by simp only [wI_cFrame_write_b170, F1.r, F2.r] at hx; rcases hx with e | e | e <;> first | exact Or.inr (Or.inl (e)) | exact Or.inr (Or.inr (Or.inr (Or.inr (Or.inl (e))))) | exact Or.inr (Or.inr (Or.inr (Or.inr (Or.inr (e)))))) (fun x k hx => False.elim hx)
          · exact fe_j F1 (fe_cFrame_write_b133 _ _ _) (fun x k hx => by simp only [wI_cFrame_write_b133, F1.r] at hx; rcases hx with e | e | e <;> first | exact Or.inr (Or.inl (e)) | exact Or.inr (Or.inr (Or.inr (Or.inr (Or.inl (e))))) | exact Or.inr (Or.inr (Or.inr (Or.inr (Or.inr (e)))))) (fun x k hx => False.elim hx)
      · refine fe_b1 F1 (fe_cFrame_writeRanges _ _ _) (fun x k hx => by simp only [wI_cFrame_writeRanges, F1.r] at hx; rcases hx with e | e | e <;> first | exact Or.inr (Or.inl (e)) | exact Or.inr (Or.inr (Or.inr (Or.inr (Or.inl (e))))) | exact Or.inr (Or.inr (Or.inr (Or.inr (Or.inr (e)))))) (fun x k hx => False.elim hx) (fun h7 F3 => ?_)
        exact fe_so F3
    · exact fe_so F1
theorem fe_cFrame_write_b9 {k9 : Nat → Nat → Int → Hp → Option (Hp)} (hk9 : ∀ (v0 : Nat) (v1 : Nat) (v2 : Int) (h : Hp), Feo (wI_cFrame_write_b9 v0 v1 v2 h) (wJ_cFrame_write_b9 v0 v1 v2 h) h id (k9 v0 v1 v2 h)) (v0 : Nat) (v1 : Nat) (v2 : Int) (h : Hp) : Feo (wI_cFrame_write_b9 v0 v1 v2 h) (wJ_cFrame_write_b9 v0 v1 v2 h) h id (f_cFrame_write_b9 k9 v0 v1 v2 h) := by
  unfold f_cFrame_write_b9
  refine fe_it ?_ ?_
  · exact fe_so Fe.rf
  · refine fe_it fe_no ?_
    refine fe_b1 Fe.rf (fe_cBytes_put _ _ _) (fun x k hx => by simp only [wI_cBytes_put] at hx; rcases hx with e | e | e <;> first | exact Or.inl (e) | exact Or.inr (Or.inl (e)) | exact Or.inr (Or.inr (e))) (fun x k hx => False.elim hx) (fun h33 F1 => ?_)
    exact fe_j F1 (hk9 _ _ _ _) (fun x k hx => by simp only [wI_cFrame_write_b9, F1.r] at hx; rcases hx with e | e | e <;> first | exact Or.inl (e) | exact Or.inr (Or.inl (e)) | exact Or.inr (Or.inr (e))) (fun x k hx => False.elim hx)
theorem fe_cFrame_write_b9_lp (n : Nat) : ∀ (v0 : Nat) (v1 : Nat) (v2 : Int) (h : Hp), Feo (wI_cFrame_write_b9 v0 v1 v2 h) (wJ_cFrame_write_b9 v0 v1 v2 h) h id (f_cFrame_write_b9_lp n v0 v1 v2 h) := by
  induction n with
  | zero => intro v0 v1 v2 h; exact fe_no
  | succ n ih => intro v0 v1 v2 h; exact fe_cFrame_write_b9 ih v0 v1 v2 h
theorem fe_cFrame_write_b57 (v0 : Nat) (v1 : Nat) (s0 : Nat) (s1 : Int) (s2 : Int) (h : Hp) : Feo (wI_cFrame_write_b57 v0 v1 s0 s1 s2 h) (wJ_cFrame_write_b57 v0 v1 s0 s1 s2 h) h id (f_cFrame_write_b57 v0 v1 s0 s1 s2 h) := by
  unfold f_cFrame_write_b57
  exact fe_j Fe.rf (fe_cFrame_write_b80 _ _ _ _ _) (fun x k hx => by simp only [wI_cFrame_write_b80] at hx; rcases hx with e | e | e | e | e | e <;> first | exact Or.inl (e) | exact Or.inr (Or.inl (e)) | exact Or.inr (Or.inr (Or.inl (e))) | exact Or.inr (Or.inr (Or.inr (Or.inl (e)))) | exact Or.inr (Or.inr (Or.inr (Or.inr (Or.inl (e))))) | exact Or.inr (Or.inr (Or.inr (Or.inr (Or.inr (e)))))) (fun x k hx => False.elim hx)
theorem fe_cFrame_write (v0 : Nat) (v1 : Nat) (h : Hp) : Feo (wI_cFrame_write v0 v1 h) (wJ_cFrame_write v0 v1 h) h id (f_cFrame_write v0 v1 h) := by
  unfold f_cFrame_write
  refine fe_it ?_ ?_
  · refine fe_it ?_ ?_
    · exact fe_j Fe.rf (fe_cFrame_write_b80 _ _ _ _ _) (fun x k hx => by simp only [wI_cFrame_write_b80] at hx; rcases hx with e | e | e | e | e | e <;> first | exact Or.inl (e) | exact Or.inr (Or.inl (e)) | exact Or.inr (Or.inr (e))) (fun x k hx => False.elim hx)
    · refine fe_it ?_ ?_
      · exact fe_j Fe.rf (fe_cFrame_write_b57 _ _ _ _ _ _) (fun x k hx => by simp only [wI_cFrame_write_b57] at hx; rcases hx with e | e | e | e | e | e <;> first | exact Or.inl (e) | exact Or.inr (Or.inl (e)) | exact Or.inr (Or.inr (e))) (fun x k hx => False.elim hx)
      · exact fe_j Fe.rf (fe_cFrame_write_b57 _ _ _ _ _ _) (fun x k hx => by simp only [wI_cFrame_write_b57] at hx; rcases hx with e | e | e | e | e | e <;> first | exact Or.inl (e) | exact Or.inr (Or.inl (e)) | exact Or.inr (Or.inr (e))) (fun x k hx => False.elim hx)
  · exact fe_j Fe.rf (fe_cFrame_write_b9_lp FU _ _ _ _) (fun x k hx => by simp only [wI_cFrame_write_b9] at hx; rcases hx with e | e | e <;> first | exact Or.inl (e) | exact Or.inr (Or.inl (e)) | exact Or.inr (Or.inr (e))) (fun x k hx => False.elim hx)
def wI_cBook_due_b50 (v0 : Nat) (h : Hp) (x k : Nat) : Prop := False
def wJ_cBook_due_b50 (v0 : Nat) (h : Hp) (x k : Nat) : Prop := False
def wI_cBook_due (v0 : Nat) (v1 : Int) (h : Hp) (x k : Nat) : Prop := False
def wJ_cBook_due (v0 : Nat) (v1 : Int) (h : Hp) (x k : Nat) : Prop := False
theorem fe_cBook_due_b50 (v0 : Nat) (h : Hp) : Feo (wI_cBook_due_b50 v0 h) (wJ_cBook_due_b50 v0 h) h Prod.snd (f_cBook_due_b50 v0 h) := by
  unfold f_cBook_due_b50
  exact fe_so Fe.rf
theorem fe_cBook_due (v0 : Nat) (v1 : Int) (h : Hp) : Feo (wI_cBook_due v0 v1 h) (wJ_cBook_due v0 v1 h) h Prod.snd (f_cBook_due v0 v1 h) := by
  unfold f_cBook_due
  refine fe_it fe_no ?_
  refine fe_it ?_ fe_no
  refine fe_l ?_
  refine fe_it fe_no ?_
  refine fe_it ?_ ?_
  · refine fe_it ?_ ?_
    · exact fe_j Fe.rf (fe_cBook_due_b50 _ _) (fun x k hx => False.elim hx) (fun x k hx => False.elim hx)
    · refine fe_it ?_ ?_
      · exact fe_j Fe.rf (fe_cBook_due_b50 _ _) (fun x k hx => False.elim hx) (fun x k hx => False.elim hx)
      · refine fe_it ?_ ?_
        · exact fe_j Fe.rf (fe_cBook_due_b50 _ _) (fun x k hx => False.elim hx) (fun x k hx => False.elim hx)
        · refine fe_it ?_ ?_
          · exact fe_so Fe.rf
          · exact fe_j Fe.rf (fe_cBook_due_b50 _ _) (fun x k hx => False.elim hx) (fun x k hx => False.elim hx)
  · exact fe_so Fe.rf
def wI_cBook_delay (v0 : Nat) (v1 : Int) (h : Hp) (x k : Nat) : Prop := False
def wJ_cBook_delay (v0 : Nat) (v1 : Int) (h : Hp) (x k : Nat) : Prop := False
theorem fe_cBook_delay (v0 : Nat) (v1 : Int) (h : Hp) : Feo (wI_cBook_delay v0 v1 h) (wJ_cBook_delay v0 v1 h) h Prod.snd (f_cBook_delay v0 v1 h) := by
  unfold f_cBook_delay
  refine fe_it fe_no ?_
  refine fe_it ?_ fe_no
  refine fe_it fe_no ?_
  refine fe_it fe_no ?_
  refine fe_it ?_ ?_
  · refine fe_it ?_ fe_no
    exact fe_so Fe.rf
  · exact fe_so Fe.rf
def wI_cCrypto_next_b2 (v0 : Nat) (v1 : Int) (v2 : Int) (h : Hp) (x k : Nat) : Prop := False
def wJ_cCrypto_next_b2 (v0 : Nat) (v1 : Int) (v2 : Int) (h : Hp) (x k : Nat) : Prop := False
def wI_cCrypto_next (v0 : Nat) (v1 : Int) (h : Hp) (x k : Nat) : Prop := False
def wJ_cCrypto_next (v0 : Nat) (v1 : Int) (h : Hp) (x k : Nat) : Prop := False
theorem fe_cCrypto_next_b2 {k2 : Nat → Int → Int → Hp → Option (Int × Hp)} (hk2 : ∀ (v0 : Nat) (v1 : Int) (v2 : Int) (h : Hp), Feo (wI_cCrypto_next_b2 v0 v1 v2 h) (wJ_cCrypto_next_b2 v0 v1 v2 h) h Prod.snd (k2 v0 v1 v2 h)) (v0 : Nat) (v1 : Int) (v2 : Int) (h : Hp) : Feo (wI_cCrypto_next_b2 v0 v1 v2 h) (wJ_cCrypto_next_b2 v0 v1 v2 h) h Prod.snd (f_cCrypto_next_b2 k2 v0 v1 v2 h) := by
  unfold f_cCrypto_next_b2
  refine fe_it ?_ ?_
  · refine fe_it ?_ ?_
    · exact fe_so Fe.rf
    · exact fe_so Fe.rf
  · refine fe_it fe_no ?_
    refine fe_it ?_ fe_no
    refine fe_it ?_ ?_
    · exact fe_j Fe.rf (hk2 _ _ _ _) (fun x k hx => False.elim hx) (fun x k hx => False.elim hx)
    · exact fe_so Fe.rf
theorem fe_cCrypto_next_b2_lp (n : Nat) : ∀ (v0 : Nat) (v1 : Int) (v2 : Int) (h : Hp), Feo (wI_cCrypto_next_b2 v0 v1 v2 h) (wJ_cCrypto_next_b2 v0 v1 v2 h) h Prod.snd (f_cCrypto_next_b2_lp n v0 v1 v2 h) := by
  induction n with
  | zero => intro v0 v1 v2 h; exact fe_no
  | succ n ih => intro v0 v1 v2 h; exact fe_cCrypto_next_b2 ih v0 v1 v2 h
theorem fe_cCrypto_next (v0 : Nat) (v1 : Int) (h : Hp) : Feo (wI_cCrypto_next v0 v1 h) (wJ_cCrypto_next v0 v1 h) h Prod.snd (f_cCrypto_next v0 v1 h) := by
  unfold f_cCrypto_next
  exact fe_j Fe.rf (fe_cCrypto_next_b2_lp FU _ _ _ _) (fun x k hx => False.elim hx) (fun x k hx => False.elim hx)
def wI_cHall_frame_b70 (v0 : Nat) (v1 : Int) (v2 : Int) (v4 : Int) (v6 : Int) (v8 : Int) (s0 : Int) (s1 : Int) (h : Hp) (x k : Nat) : Prop := (x = v0 ∧ k = 17) ∨ (x = v0 ∧ k = 18)
def wJ_cHall_frame_b70 (v0 : Nat) (v1 : Int) (v2 : Int) (v4 : Int) (v6 : Int) (v8 : Int) (s0 : Int) (s1 : Int) (h : Hp) (x k : Nat) : Prop := (x = v0 ∧ k = 19) ∨ (x = v0 ∧ k = 20) ∨ (x = v0 ∧ k = 21)
def wI_cHall_frame_b54 (v0 : Nat) (v1 : Int) (v2 : Int) (v4 : Int) (v6 : Int) (v8 : Int) (v9 : Int) (s0 : Int) (s1 : Int) (h : Hp) (x k : Nat) : Prop := (x = v0 ∧ k = 17) ∨ (x = v0 ∧ k = 18)
def wJ_cHall_frame_b54 (v0 : Nat) (v1 : Int) (v2 : Int) (v4 : Int) (v6 : Int) (v8 : Int) (v9 : Int) (s0 : Int) (s1 : Int) (h : Hp) (x k : Nat) : Prop := (x = v0 ∧ k = 19) ∨ (x = v0 ∧ k = 20) ∨ (x = v0 ∧ k = 21)
def wI_cHall_frame_b31 (v0 : Nat) (v1 : Int) (v2 : Int) (v4 : Int) (v6 : Int) (v8 : Int) (s0 : Int) (h : Hp) (x k : Nat) : Prop := (x = v0 ∧ k = 17) ∨ (x = v0 ∧ k = 18)
def wJ_cHall_frame_b31 (v0 : Nat) (v1 : Int) (v2 : Int) (v4 : Int) (v6 : Int) (v8 : Int) (s0 : Int) (h : Hp) (x k : Nat) : Prop := (x = v0 ∧ k = 19) ∨ (x = v0 ∧ k = 20) ∨ (x = v0 ∧ k = 21)
def wI_cHall_frame_b26 (v0 : Nat) (v1 : Int) (v2 : Int) (v4 : Int) (v6 : Int) (v8 : Int) (h : Hp) (x k : Nat) : Prop := (x = v0 ∧ k = 17) ∨ (x = v0 ∧ k = 18)
def wJ_cHall_frame_b26 (v0 : Nat) (v1 : Int) (v2 : Int) (v4 : Int) (v6 : Int) (v8 : Int) (h : Hp) (x k : Nat) : Prop := (x = v0 ∧ k = 19) ∨ (x = v0 ∧ k = 20) ∨ (x = v0 ∧ k = 21)
def wI_cHall_frame (v0 : Nat) (v1 : Int) (v2 : Int) (v4 : Int) (v6 : Int) (v8 : Int) (h : Hp) (x k : Nat) : Prop := (x = v0 ∧ k = 17) ∨ (x = v0 ∧ k = 18)
def wJ_cHall_frame (v0 : Nat) (v1 : Int) (v2 : Int) (v4 : Int) (v6 : Int) (v8 : Int) (h : Hp) (x k : Nat) : Prop := (x = v0 ∧ k = 19) ∨ (x = v0 ∧ k = 20) ∨ (x = v0 ∧ k = 21)
theorem fe_cHall_frame_b70 (v0 : Nat) (v1 : Int) (v2 : Int) (v4 : Int) (v6 : Int) (v8 : Int) (s0 : Int) (s1 : Int) (h : Hp) : Feo (wI_cHall_frame_b70 v0 v1 v2 v4 v6 v8 s0 s1 h) (wJ_cHall_frame_b70 v0 v1 v2 v4 v6 v8 s0 s1 h) h Prod.snd (f_cHall_frame_b70 v0 v1 v2 v4 v6 v8 s0 s1 h) := by
  unfold f_cHall_frame_b70
  refine fe_v (fun y10 => ?_)
  refine fe_it ?_ ?_
  · refine fe_I Fe.rf (Or.inl (⟨rfl, rfl⟩)) (fun h11 F1 => ?_)
    refine fe_J F1 (Or.inl (⟨rfl, rfl⟩)) (fun h12 F2 => ?_)
    refine fe_J F2 (Or.inr (Or.inl (⟨rfl, rfl⟩))) (fun h13 F3 => ?_)
    refine fe_J F3 (Or.inr (Or.inr (⟨rfl, rfl⟩))) (fun h14 F4 => ?_)
    refine fe_I F4 (Or.inr (⟨rfl, rfl⟩)) (fun h15 F5 => ?_)
    exact fe_so F5
  · exact fe_so Fe.rf
theorem fe_cHall_frame_b54 (v0 : Nat) (v1 : Int) (v2 : Int) (v4 : Int) (v6 : Int) (v8 : Int) (v9 : Int) (s0 : Int) (s1 : Int) (h : Hp) : Feo (wI_cHall_frame_b54 v0 v1 v2 v4 v6 v8 v9 s0 s1 h) (wJ_cHall_frame_b54 v0 v1 v2 v4 v6 v8 v9 s0 s1 h) h Prod.snd (f_cHall_frame_b54 v0 v1 v2 v4 v6 v8 v9 s0 s1 h) := by
  unfold f_cHall_frame_b54
  refine fe_it ?_ ?_
  · exact fe_j Fe.rf (fe_cHall_frame_b70 _ _ _ _ _ _ _ _ _) (fun x k hx => by simp only [wI_cHall_frame_b70] at hx; rcases hx with e | e <;> first | exact Or.inl (e) | exact Or.inr (e)) (fun x k hx => by simp only [wJ_cHall_frame_b70] at hx; rcases hx with e | e | e <;> first | exact Or.inl (e) | exact Or.inr (Or.inl (e)) | exact Or.inr (Or.inr (e)))
  · refine fe_b2 Fe.rf (fe_cP_sizeOf _ _) (fun x k hx => False.elim hx) (fun x k hx => False.elim hx) (fun r9 h7 F1 => ?_)
    exact fe_j F1 (fe_cHall_frame_b70 _ _ _ _ _ _ _ _ _) (fun x k hx => by simp only [wI_cHall_frame_b70, F1.r] at hx; rcases hx with e | e <;> first | exact Or.inl (e) | exact Or.inr (e)) (fun x k hx => by simp only [wJ_cHall_frame_b70, F1.r] at hx; rcases hx with e | e | e <;> first | exact Or.inl (e) | exact Or.inr (Or.inl (e)) | exact Or.inr (Or.inr (e)))
theorem fe_cHall_frame_b31 (v0 : Nat) (v1 : Int) (v2 : Int) (v4 : Int) (v6 : Int) (v8 : Int) (s0 : Int) (h : Hp) : Feo (wI_cHall_frame_b31 v0 v1 v2 v4 v6 v8 s0 h) (wJ_cHall_frame_b31 v0 v1 v2 v4 v6 v8 s0 h) h Prod.snd (f_cHall_frame_b31 v0 v1 v2 v4 v6 v8 s0 h) := by
  unfold f_cHall_frame_b31
  refine fe_b2 Fe.rf (fe_cP_sizeOf _ _) (fun x k hx => False.elim hx) (fun x k hx => False.elim hx) (fun r3 h1 F1 => ?_)
  refine fe_it ?_ ?_
  · exact fe_j F1 (fe_cHall_frame_b54 _ _ _ _ _ _ _ _ _ _) (fun x k hx => by simp only [wI_cHall_frame_b54, F1.r] at hx; rcases hx with e | e <;> first | exact Or.inl (e) | exact Or.inr (e)) (fun x k hx => by simp only [wJ_cHall_frame_b54, F1.r] at hx; rcases hx with e | e | e <;> first | exact Or.inl (e) | exact Or.inr (Or.inl (e)) | exact Or.inr (Or.inr (e)))
  · refine fe_b2 F1 (fe_cP_sizeOf _ _) (fun x k hx => False.elim hx) (fun x k hx => False.elim hx) (fun r6 h4 F2 => ?_)
    exact fe_j F2 (fe_cHall_frame_b54 _ _ _ _ _ _ _ _ _ _) (fun x k hx => by simp only [wI_cHall_frame_b54, F1.r, F2.r] at hx; rcases hx with e | e <;> first | exact Or.inl (e) | exact Or.inr (e)) (fun x k hx => by simp only [wJ_cHall_frame_b54, F1.r, F2.r] at hx; rcases hx with e | e | e <;> first | exact Or.inl (e) | exact Or.inr (Or.inl (e)) | exact Or.inr (Or.inr (e)))
theorem fe_cHall_frame_b26 (v0 : Nat) (v1 : Int) (v2 : Int) (v4 : Int) (v6 : Int) (v8 : Int) (h : Hp) : Feo (wI_cHall_frame_b26 v0 v1 v2 v4 v6 v8 h) (wJ_cHall_frame_b26 v0 v1 v2 v4 v6 v8 h) h Prod.snd (f_cHall_frame_b26 v0 v1 v2 v4 v6 v8 h) := by
  unfold f_cHall_frame_b26
  exact fe_j Fe.rf (fe_cHall_frame_b31 _ _ _ _ _ _ _ _) (fun x k hx => by simp only [wI_cHall_frame_b31] at hx; rcases hx with e | e <;> first | exact Or.inl (e) | exact Or.inr (e)) (fun x k hx => by simp only [wJ_cHall_frame_b31] at hx; rcases hx with e | e | e <;> first | exact Or.inl (e) | exact Or.inr (Or.inl (e)) | exact Or.inr (Or.inr (e)))
theorem fe_cHall_frame (v0 : Nat) (v1 : Int) (v2 : Int) (v4 : Int) (v6 : Int) (v8 : Int) (h : Hp) : Feo (wI_cHall_frame v0 v1 v2 v4 v6 v8 h) (wJ_cHall_frame v0 v1 v2 v4 v6 v8 h) h Prod.snd (f_cHall_frame v0 v1 v2 v4 v6 v8 h) := by
  unfold f_cHall_frame
  refine fe_it ?_ ?_
  · refine fe_it ?_ ?_
    · exact fe_j Fe.rf (fe_cHall_frame_b26 _ _ _ _ _ _ _) (fun x k hx => by simp only [wI_cHall_frame_b26] at hx; rcases hx with e | e <;> first | exact Or.inl (e) | exact Or.inr (e)) (fun x k hx => by simp only [wJ_cHall_frame_b26] at hx; rcases hx with e | e | e <;> first | exact Or.inl (e) | exact Or.inr (Or.inl (e)) | exact Or.inr (Or.inr (e)))
    · refine fe_it ?_ ?_
      · exact fe_j Fe.rf (fe_cHall_frame_b26 _ _ _ _ _ _ _) (fun x k hx => by simp only [wI_cHall_frame_b26] at hx; rcases hx with e | e <;> first | exact Or.inl (e) | exact Or.inr (e)) (fun x k hx => by simp only [wJ_cHall_frame_b26] at hx; rcases hx with e | e | e <;> first | exact Or.inl (e) | exact Or.inr (Or.inl (e)) | exact Or.inr (Or.inr (e)))
      · refine fe_it ?_ ?_
        · exact fe_j Fe.rf (fe_cHall_frame_b31 _ _ _ _ _ _ _ _) (fun x k hx => by simp only [wI_cHall_frame_b31] at hx; rcases hx with e | e <;> first | exact Or.inl (e) | exact Or.inr (e)) (fun x k hx => by simp only [wJ_cHall_frame_b31] at hx; rcases hx with e | e | e <;> first | exact Or.inl (e) | exact Or.inr (Or.inl (e)) | exact Or.inr (Or.inr (e)))
        · exact fe_j Fe.rf (fe_cHall_frame_b26 _ _ _ _ _ _ _) (fun x k hx => by simp only [wI_cHall_frame_b26] at hx; rcases hx with e | e <;> first | exact Or.inl (e) | exact Or.inr (e)) (fun x k hx => by simp only [wJ_cHall_frame_b26] at hx; rcases hx with e | e | e <;> first | exact Or.inl (e) | exact Or.inr (Or.inl (e)) | exact Or.inr (Or.inr (e)))
  · exact fe_j Fe.rf (fe_cHall_frame_b31 _ _ _ _ _ _ _ _) (fun x k hx => by simp only [wI_cHall_frame_b31] at hx; rcases hx with e | e <;> first | exact Or.inl (e) | exact Or.inr (e)) (fun x k hx => by simp only [wJ_cHall_frame_b31] at hx; rcases hx with e | e | e <;> first | exact Or.inl (e) | exact Or.inr (Or.inl (e)) | exact Or.inr (Or.inr (e)))
def wI_cHall_waits (v0 : Nat) (h : Hp) (x k : Nat) : Prop := False
def wJ_cHall_waits (v0 : Nat) (h : Hp) (x k : Nat) : Prop := False
theorem fe_cHall_waits (v0 : Nat) (h : Hp) : Feo (wI_cHall_waits v0 h) (wJ_cHall_waits v0 h) h Prod.snd (f_cHall_waits v0 h) := by
  unfold f_cHall_waits
  refine fe_it ?_ ?_
  · exact fe_so Fe.rf
  · refine fe_it fe_no ?_
    refine fe_b2 Fe.rf (fe_cSending_isLive _ _) (fun x k hx => False.elim hx) (fun x k hx => False.elim hx) (fun r4 h2 F1 => ?_)
    refine fe_it ?_ ?_
    · exact fe_so F1
    · refine fe_it ?_ ?_
      · exact fe_so F1
      · exact fe_so F1
def wI_cStore_copy_b92 (v0 : Nat) (v2 : Int) (v3 : Nat) (v4 : Int) (v5 : Int) (v6 : Int) (v7 : Int) (h : Hp) (x k : Nat) : Prop := x = v3
def wJ_cStore_copy_b92 (v0 : Nat) (v2 : Int) (v3 : Nat) (v4 : Int) (v5 : Int) (v6 : Int) (v7 : Int) (h : Hp) (x k : Nat) : Prop := False
def wI_cStore_copy_b12 (v0 : Nat) (v2 : Int) (v3 : Nat) (v4 : Int) (v5 : Int) (v6 : Int) (v7 : Int) (h : Hp) (x k : Nat) : Prop := x = v3
def wJ_cStore_copy_b12 (v0 : Nat) (v2 : Int) (v3 : Nat) (v4 : Int) (v5 : Int) (v6 : Int) (v7 : Int) (h : Hp) (x k : Nat) : Prop := False
def wI_cStore_copy (v0 : Nat) (v1 : Nat) (v2 : Int) (v3 : Nat) (v4 : Int) (h : Hp) (x k : Nat) : Prop := x = v3
def wJ_cStore_copy (v0 : Nat) (v1 : Nat) (v2 : Int) (v3 : Nat) (v4 : Int) (h : Hp) (x k : Nat) : Prop := False
theorem fe_cStore_copy_b92 {k12 : Nat → Int → Nat → Int → Int → Int → Int → Hp → Option (Hp)} (hk12 : ∀ (v0 : Nat) (v2 : Int) (v3 : Nat) (v4 : Int) (v5 : Int) (v6 : Int) (v7 : Int) (h : Hp), Feo (wI_cStore_copy_b12 v0 v2 v3 v4 v5 v6 v7 h) (wJ_cStore_copy_b12 v0 v2 v3 v4 v5 v6 v7 h) h id (k12 v0 v2 v3 v4 v5 v6 v7 h)) (v0 : Nat) (v2 : Int) (v3 : Nat) (v4 : Int) (v5 : Int) (v6 : Int) (v7 : Int) (h : Hp) : Feo (wI_cStore_copy_b92 v0 v2 v3 v4 v5 v6 v7 h) (wJ_cStore_copy_b92 v0 v2 v3 v4 v5 v6 v7 h) h id (f_cStore_copy_b92 k12 v0 v2 v3 v4 v5 v6 v7 h) := by
  unfold f_cStore_copy_b92
  refine fe_it fe_no ?_
  refine fe_it ?_ fe_no
  refine fe_v (fun y16 => ?_)
  refine fe_it fe_no ?_
  refine fe_it ?_ fe_no
  refine fe_v (fun y19 => ?_)
  exact fe_j Fe.rf (hk12 _ _ _ _ _ _ _ _) (fun x k hx => by simp only [wI_cStore_copy_b12] at hx; have e := hx; exact e) (fun x k hx => False.elim hx)
theorem fe_cStore_copy_b12 {k12 : Nat → Int → Nat → Int → Int → Int → Int → Hp → Option (Hp)} (hk12 : ∀ (v0 : Nat) (v2 : Int) (v3 : Nat) (v4 : Int) (v5 : Int) (v6 : Int) (v7 : Int) (h : Hp), Feo (wI_cStore_copy_b12 v0 v2 v3 v4 v5 v6 v7 h) (wJ_cStore_copy_b12 v0 v2 v3 v4 v5 v6 v7 h) h id (k12 v0 v2 v3 v4 v5 v6 v7 h)) (v0 : Nat) (v2 : Int) (v3 : Nat) (v4 : Int) (v5 : Int) (v6 : Int) (v7 : Int) (h : Hp) : Feo (wI_cStore_copy_b12 v0 v2 v3 v4 v5 v6 v7 h) (wJ_cStore_copy_b12 v0 v2 v3 v4 v5 v6 v7 h) h id (f_cStore_copy_b12 k12 v0 v2 v3 v4 v5 v6 v7 h) := by
  unfold f_cStore_copy_b12
  refine fe_it ?_ ?_
  · exact fe_so Fe.rf
  · refine fe_it ?_ ?_
    · exact fe_so Fe.rf
    · refine fe_v (fun y3 => ?_)
      refine fe_it fe_no ?_
      refine fe_it ?_ fe_no
      refine fe_v (fun y6 => ?_)
      refine fe_it ?_ ?_
      · exact fe_j Fe.rf (fe_cStore_copy_b92 hk12 _ _ _ _ _ _ _ _) (fun x k hx => by simp only [wI_cStore_copy_b92] at hx; have e := hx; exact e) (fun x k hx => False.elim hx)
      · refine fe_it fe_no ?_
        refine fe_it ?_ fe_no
        refine fe_it fe_no ?_
        refine fe_it fe_no ?_
        refine fe_it ?_ fe_no
        refine fe_cI Fe.rf (fun y => rfl) (fun h12 F1 => ?_)
        refine fe_v (fun y13 => ?_)
        exact fe_j F1 (fe_cStore_copy_b92 hk12 _ _ _ _ _ _ _ _) (fun x k hx => by simp only [wI_cStore_copy_b92, F1.r] at hx; have e := hx; exact e) (fun x k hx => False.elim hx)
theorem fe_cStore_copy_b12_lp (n : Nat) : ∀ (v0 : Nat) (v2 : Int) (v3 : Nat) (v4 : Int) (v5 : Int) (v6 : Int) (v7 : Int) (h : Hp), Feo (wI_cStore_copy_b12 v0 v2 v3 v4 v5 v6 v7 h) (wJ_cStore_copy_b12 v0 v2 v3 v4 v5 v6 v7 h) h id (f_cStore_copy_b12_lp n v0 v2 v3 v4 v5 v6 v7 h) := by
  induction n with
  | zero => intro v0 v2 v3 v4 v5 v6 v7 h; exact fe_no
  | succ n ih => intro v0 v2 v3 v4 v5 v6 v7 h; exact fe_cStore_copy_b12 ih v0 v2 v3 v4 v5 v6 v7 h
theorem fe_cStore_copy (v0 : Nat) (v1 : Nat) (v2 : Int) (v3 : Nat) (v4 : Int) (h : Hp) : Feo (wI_cStore_copy v0 v1 v2 v3 v4 h) (wJ_cStore_copy v0 v1 v2 v3 v4 h) h id (f_cStore_copy v0 v1 v2 v3 v4 h) := by
  unfold f_cStore_copy
  refine fe_it fe_no ?_
  refine fe_v (fun y2 => ?_)
  exact fe_j Fe.rf (fe_cStore_copy_b12_lp FU _ _ _ _ _ _ _ _) (fun x k hx => by simp only [wI_cStore_copy_b12] at hx; have e := hx; exact e) (fun x k hx => False.elim hx)
def wI_cBook_written (v0 : Nat) (v1 : Int) (h : Hp) (x k : Nat) : Prop := (x = hR h (hR h v0 0) v1.toNat ∧ k = 14) ∨ (x = hR h (hR h v0 0) v1.toNat ∧ k = 17)
def wJ_cBook_written (v0 : Nat) (v1 : Int) (h : Hp) (x k : Nat) : Prop := False
theorem fe_cBook_written (v0 : Nat) (v1 : Int) (h : Hp) : Feo (wI_cBook_written v0 v1 h) (wJ_cBook_written v0 v1 h) h Prod.snd (f_cBook_written v0 v1 h) := by
  unfold f_cBook_written
  refine fe_it fe_no ?_
  refine fe_it ?_ fe_no
  refine fe_it fe_no ?_
  refine fe_I Fe.rf (Or.inl (⟨rfl, rfl⟩)) (fun h4 F1 => ?_)
  refine fe_it fe_no ?_
  refine fe_it ?_ fe_no
  refine fe_it fe_no ?_
  refine fe_I F1 (Or.inr (⟨(by first | (simp only [F1.r]; exact rfl) | simp only [F1.r]), rfl⟩)) (fun h8 F2 => ?_)
  refine fe_b2 F2 (fe_cBook_delay _ _ _) (fun x k hx => False.elim hx) (fun x k hx => False.elim hx) (fun r11 h9 F3 => ?_)
  exact fe_so F3
def wI_cCounting_bytesOf (v0 : Int) (v2 : Int) (h : Hp) (x k : Nat) : Prop := False
def wJ_cCounting_bytesOf (v0 : Int) (v2 : Int) (h : Hp) (x k : Nat) : Prop := False
theorem fe_cCounting_bytesOf (v0 : Int) (v2 : Int) (h : Hp) : Feo (wI_cCounting_bytesOf v0 v2 h) (wJ_cCounting_bytesOf v0 v2 h) h Prod.snd (f_cCounting_bytesOf v0 v2 h) := by
  unfold f_cCounting_bytesOf
  refine fe_v (fun y1 => ?_)
  refine fe_it ?_ ?_
  · refine fe_it ?_ ?_
    · refine fe_it ?_ ?_
      · refine fe_it ?_ ?_
        · exact fe_so Fe.rf
        · exact fe_so Fe.rf
      · exact fe_so Fe.rf
    · exact fe_so Fe.rf
  · exact fe_so Fe.rf
def wI_cSide_bytesOf (v0 : Nat) (v1 : Int) (h : Hp) (x k : Nat) : Prop := False
def wJ_cSide_bytesOf (v0 : Nat) (v1 : Int) (h : Hp) (x k : Nat) : Prop := False
theorem fe_cSide_bytesOf (v0 : Nat) (v1 : Int) (h : Hp) : Feo (wI_cSide_bytesOf v0 v1 h) (wJ_cSide_bytesOf v0 v1 h) h Prod.snd (f_cSide_bytesOf v0 v1 h) := by
  unfold f_cSide_bytesOf
  refine fe_it fe_no ?_
  refine fe_it fe_no ?_
  refine fe_it ?_ fe_no
  refine fe_l ?_
  refine fe_it fe_no ?_
  refine fe_b2 Fe.rf (fe_cCounting_bytesOf _ _ _) (fun x k hx => False.elim hx) (fun x k hx => False.elim hx) (fun r8 h6 F1 => ?_)
  exact fe_so F1
def wI_cSide_pad_b2 (v0 : Nat) (v1 : Int) (v2 : Int) (v3 : Int) (h : Hp) (x k : Nat) : Prop := x = hR h (hR h v0 42) v1.toNat ∨ x = hR h v0 43 ∨ x = hR h v0 45
def wJ_cSide_pad_b2 (v0 : Nat) (v1 : Int) (v2 : Int) (v3 : Int) (h : Hp) (x k : Nat) : Prop := False
def wI_cSide_pad (v0 : Nat) (v1 : Int) (v2 : Int) (h : Hp) (x k : Nat) : Prop := x = hR h (hR h v0 42) v1.toNat ∨ x = hR h v0 43 ∨ x = hR h v0 45
def wJ_cSide_pad (v0 : Nat) (v1 : Int) (v2 : Int) (h : Hp) (x k : Nat) : Prop := False
theorem fe_cSide_pad_b2 {k2 : Nat → Int → Int → Int → Hp → Option (Hp)} (hk2 : ∀ (v0 : Nat) (v1 : Int) (v2 : Int) (v3 : Int) (h : Hp), Feo (wI_cSide_pad_b2 v0 v1 v2 v3 h) (wJ_cSide_pad_b2 v0 v1 v2 v3 h) h id (k2 v0 v1 v2 v3 h)) (v0 : Nat) (v1 : Int) (v2 : Int) (v3 : Int) (h : Hp) : Feo (wI_cSide_pad_b2 v0 v1 v2 v3 h) (wJ_cSide_pad_b2 v0 v1 v2 v3 h) h id (f_cSide_pad_b2 k2 v0 v1 v2 v3 h) := by
  unfold f_cSide_pad_b2
  refine fe_it ?_ ?_
  · refine fe_it fe_no ?_
    refine fe_it ?_ fe_no
    refine fe_I Fe.rf (Or.inr (Or.inr (rfl))) (fun h3 F1 => ?_)
    exact fe_so F1
  · refine fe_it fe_no ?_
    refine fe_it ?_ fe_no
    refine fe_it fe_no ?_
    refine fe_it ?_ fe_no
    refine fe_it ?_ fe_no
    refine fe_I Fe.rf (Or.inr (Or.inl (rfl))) (fun h9 F2 => ?_)
    refine fe_it fe_no ?_
    refine fe_it ?_ fe_no
    refine fe_I F2 (Or.inl (rfl)) (fun h12 F3 => ?_)
    exact fe_j F3 (hk2 _ _ _ _ _) (fun x k hx => by simp only [wI_cSide_pad_b2, F2.r, F3.r] at hx; rcases hx with e | e | e <;> first | exact Or.inl (e) | exact Or.inr (Or.inl (e)) | exact Or.inr (Or.inr (e))) (fun x k hx => False.elim hx)
theorem fe_cSide_pad_b2_lp (n : Nat) : ∀ (v0 : Nat) (v1 : Int) (v2 : Int) (v3 : Int) (h : Hp), Feo (wI_cSide_pad_b2 v0 v1 v2 v3 h) (wJ_cSide_pad_b2 v0 v1 v2 v3 h) h id (f_cSide_pad_b2_lp n v0 v1 v2 v3 h) := by
  induction n with
  | zero => intro v0 v1 v2 v3 h; exact fe_no
  | succ n ih => intro v0 v1 v2 v3 h; exact fe_cSide_pad_b2 ih v0 v1 v2 v3 h
theorem fe_cSide_pad (v0 : Nat) (v1 : Int) (v2 : Int) (h : Hp) : Feo (wI_cSide_pad v0 v1 v2 h) (wJ_cSide_pad v0 v1 v2 h) h id (f_cSide_pad v0 v1 v2 h) := by
  unfold f_cSide_pad
  exact fe_j Fe.rf (fe_cSide_pad_b2_lp FU _ _ _ _ _) (fun x k hx => by simp only [wI_cSide_pad_b2] at hx; rcases hx with e | e | e <;> first | exact Or.inl (e) | exact Or.inr (Or.inl (e)) | exact Or.inr (Or.inr (e))) (fun x k hx => False.elim hx)
def wI_cHeader_write_b93 (v0 : Nat) (v7 : Int) (h : Hp) (x k : Nat) : Prop := x = hR h v0 0 ∨ (x = v0 ∧ k = 1) ∨ (x = v0 ∧ k = 3)
def wJ_cHeader_write_b93 (v0 : Nat) (v7 : Int) (h : Hp) (x k : Nat) : Prop := False
def wI_cHeader_write (v0 : Nat) (v1 : Int) (v2 : Int) (v3 : Nat) (v4 : Int) (v5 : Int) (v6 : Int) (v7 : Int) (h : Hp) (x k : Nat) : Prop := x = hR h v0 0 ∨ (x = v0 ∧ k = 1) ∨ (x = v0 ∧ k = 3)
def wJ_cHeader_write (v0 : Nat) (v1 : Int) (v2 : Int) (v3 : Nat) (v4 : Int) (v5 : Int) (v6 : Int) (v7 : Int) (h : Hp) (x k : Nat) : Prop := False
theorem fe_cHeader_write_b93 (v0 : Nat) (v7 : Int) (h : Hp) : Feo (wI_cHeader_write_b93 v0 v7 h) (wJ_cHeader_write_b93 v0 v7 h) h id (f_cHeader_write_b93 v0 v7 h) := by
  unfold f_cHeader_write_b93
  refine fe_it fe_no ?_
  refine fe_b1 Fe.rf (fe_cBytes_putSized _ _ _ _) (fun x k hx => by simp only [wI_cBytes_putSized] at hx; rcases hx with e | e | e <;> first | exact Or.inl (e) | exact Or.inr (Or.inl (e)) | exact Or.inr (Or.inr (e))) (fun x k hx => False.elim hx) (fun h24 F1 => ?_)
  exact fe_so F1
theorem fe_cHeader_write (v0 : Nat) (v1 : Int) (v2 : Int) (v3 : Nat) (v4 : Int) (v5 : Int) (v6 : Int) (v7 : Int) (h : Hp) : Feo (wI_cHeader_write v0 v1 v2 v3 v4 v5 v6 v7 h) (wJ_cHeader_write v0 v1 v2 v3 v4 v5 v6 v7 h) h id (f_cHeader_write v0 v1 v2 v3 v4 v5 v6 v7 h) := by
  unfold f_cHeader_write
  refine fe_it ?_ ?_
  · refine fe_it fe_no ?_
    refine fe_b1 Fe.rf (fe_cBytes_put _ _ _) (fun x k hx => by simp only [wI_cBytes_put] at hx; rcases hx with e | e | e <;> first | exact Or.inl (e) | exact Or.inr (Or.inl (e)) | exact Or.inr (Or.inr (e))) (fun x k hx => False.elim hx) (fun h2 F1 => ?_)
    refine fe_b1 F1 (fe_cBytes_putMany _ _ _ _) (fun x k hx => by simp only [wI_cBytes_putMany, F1.r] at hx; rcases hx with e | e | e <;> first | exact Or.inl (e) | exact Or.inr (Or.inl (e)) | exact Or.inr (Or.inr (e))) (fun x k hx => False.elim hx) (fun h4 F2 => ?_)
    refine fe_b1 F2 (fe_cBytes_put _ _ _) (fun x k hx => by simp only [wI_cBytes_put, F1.r, F2.r] at hx; rcases hx with e | e | e <;> first | exact Or.inl (e) | exact Or.inr (Or.inl (e)) | exact Or.inr (Or.inr (e))) (fun x k hx => False.elim hx) (fun h6 F3 => ?_)
    refine fe_b1 F3 (fe_cBytes_putRow _ _ _ _ _) (fun x k hx => by simp only [wI_cBytes_putRow, F1.r, F2.r, F3.r] at hx; rcases hx with e | e | e <;> first | exact Or.inl (e) | exact Or.inr (Or.inl (e)) | exact Or.inr (Or.inr (e))) (fun x k hx => False.elim hx) (fun h8 F4 => ?_)
    refine fe_b1 F4 (fe_cBytes_put _ _ _) (fun x k hx => by simp only [wI_cBytes_put, F1.r, F2.r, F3.r, F4.r] at hx; rcases hx with e | e | e <;> first | exact Or.inl (e) | exact Or.inr (Or.inl (e)) | exact Or.inr (Or.inr (e))) (fun x k hx => False.elim hx) (fun h10 F5 => ?_)
    refine fe_b1 F5 (fe_cBytes_putRow _ _ _ _ _) (fun x k hx => by simp only [wI_cBytes_putRow, F1.r, F2.r, F3.r, F4.r, F5.r] at hx; rcases hx with e | e | e <;> first | exact Or.inl (e) | exact Or.inr (Or.inl (e)) | exact Or.inr (Or.inr (e))) (fun x k hx => False.elim hx) (fun h12 F6 => ?_)
    refine fe_it ?_ ?_
    · exact fe_j F6 (fe_cHeader_write_b93 _ _ _) (fun x k hx => by simp only [wI_cHeader_write_b93, F1.r, F2.r, F3.r, F4.r, F5.r, F6.r] at hx; rcases hx with e | e | e <;> first | exact Or.inl (e) | exact Or.inr (Or.inl (e)) | exact Or.inr (Or.inr (e))) (fun x k hx => False.elim hx)
    · refine fe_b1 F6 (fe_cBytes_putNumber _ _ _) (fun x k hx => by simp only [wI_cBytes_putNumber, F1.r, F2.r, F3.r, F4.r, F5.r, F6.r] at hx; rcases hx with e | e | e <;> first | exact Or.inl (e) | exact Or.inr (Or.inl (e)) | exact Or.inr (Or.inr (e))) (fun x k hx => False.elim hx) (fun h14 F7 => ?_)
      refine fe_b1 F7 (fe_cBytes_putRow _ _ _ _ _) (fun x k hx => by simp only [wI_cBytes_putRow, F1.r, F2.r, F3.r, F4.r, F5.r, F6.r, F7.r] at hx; rcases hx with e | e | e <;> first | exact Or.inl (e) | exact Or.inr (Or.inl (e)) | exact Or.inr (Or.inr (e))) (fun x k hx => False.elim hx) (fun h16 F8 => ?_)
      exact fe_j F8 (fe_cHeader_write_b93 _ _ _) (fun x k hx => by simp only [wI_cHeader_write_b93, F1.r, F2.r, F3.r, F4.r, F5.r, F6.r, F7.r, F8.r] at hx; rcases hx with e | e | e <;> first | exact Or.inl (e) | exact Or.inr (Or.inl (e)) | exact Or.inr (Or.inr (e))) (fun x k hx => False.elim hx)
  · refine fe_it fe_no ?_
    refine fe_b1 Fe.rf (fe_cBytes_put _ _ _) (fun x k hx => by simp only [wI_cBytes_put] at hx; rcases hx with e | e | e <;> first | exact Or.inl (e) | exact Or.inr (Or.inl (e)) | exact Or.inr (Or.inr (e))) (fun x k hx => False.elim hx) (fun h19 F9 => ?_)
    refine fe_b1 F9 (fe_cBytes_putRow _ _ _ _ _) (fun x k hx => by simp only [wI_cBytes_putRow, F9.r] at hx; rcases hx with e | e | e <;> first | exact Or.inl (e) | exact Or.inr (Or.inl (e)) | exact Or.inr (Or.inr (e))) (fun x k hx => False.elim hx) (fun h21 F10 => ?_)
    exact fe_so F10
def wI_cGuard_seal (v0 : Nat) (v1 : Nat) (v2 : Int) (v4 : Nat) (v5 : Int) (v6 : Int) (v7 : Int) (h : Hp) (x k : Nat) : Prop := x = (hR h (hR h v1 2) 3) ∨ (x = (hR h v1 2) ∧ k = 4) ∨ x = (hR h v1 4) ∨ x = (hR h v1 5) ∨ x = (hR h v1 6) ∨ x = hR h (hR h v1 1) 0 ∨ x = hR h (hR h v1 1) 1 ∨ x = hR h (hR h v1 1) 2 ∨ x = hR h (hR h v1 2) 3 ∨ x = v4
def wJ_cGuard_seal (v0 : Nat) (v1 : Nat) (v2 : Int) (v4 : Nat) (v5 : Int) (v6 : Int) (v7 : Int) (h : Hp) (x k : Nat) : Prop := x = (hR h (hR h v1 2) 1) ∨ x = (hR h (hR h v1 2) 2) ∨ (x = (hR h v1 2) ∧ k = 5) ∨ (x = (hR h v1 2) ∧ k = 6) ∨ x = hR h (hR h v1 2) 0 ∨ x = hR h (hR h v1 2) 2
theorem fe_cGuard_seal (v0 : Nat) (v1 : Nat) (v2 : Int) (v4 : Nat) (v5 : Int) (v6 : Int) (v7 : Int) (h : Hp) : Feo (wI_cGuard_seal v0 v1 v2 v4 v5 v6 v7 h) (wJ_cGuard_seal v0 v1 v2 v4 v5 v6 v7 h) h Prod.snd (f_cGuard_seal v0 v1 v2 v4 v5 v6 v7 h) := by
  unfold f_cGuard_seal
  refine fe_b1 Fe.rf (fe_cGuard_begin _ _ _ _ _) (fun x k hx => by simp only [wI_cGuard_begin] at hx; rcases hx with e | e <;> first | exact Or.inr (Or.inr (Or.inl (e))) | exact Or.inr (Or.inr (Or.inr (Or.inr (Or.inr (Or.inl (e))))))) (fun x k hx => False.elim hx) (fun h1 F1 => ?_)
  refine fe_it fe_no ?_
  refine fe_it fe_no ?_
  refine fe_b1 F1 (fe_cKeystream_cover _ _ _ _ _) (fun x k hx => by simp only [wI_cKeystream_cover, F1.r] at hx; rcases hx with e | e | e | e <;> first | exact Or.inr (Or.inr (Or.inr (Or.inr (Or.inr (Or.inl (e)))))) | exact Or.inr (Or.inr (Or.inr (Or.inr (Or.inr (Or.inr (Or.inl (e))))))) | exact Or.inr (Or.inr (Or.inr (Or.inr (Or.inr (Or.inr (Or.inr (Or.inl (e)))))))) | exact Or.inr (Or.inr (Or.inr (Or.inr (Or.inr (Or.inr (Or.inr (Or.inr (Or.inr (e)))))))))) (fun x k hx => False.elim hx) (fun h5 F2 => ?_)
  refine fe_b1 F2 (fe_cGuard_reckon _ _ _ _ _ _ _ _) (fun x k hx => by simp only [wI_cGuard_reckon, F1.r, F2.r] at hx; rcases hx with e | e | e | e | e | e | e | e | e <;> first | exact Or.inl (e) | exact Or.inr (Or.inl (e)) | exact Or.inr (Or.inr (Or.inl (e))) | exact Or.inr (Or.inr (Or.inr (Or.inl (e)))) | exact Or.inr (Or.inr (Or.inr (Or.inr (Or.inl (e))))) | exact Or.inr (Or.inr (Or.inr (Or.inr (Or.inr (Or.inl (e)))))) | exact Or.inr (Or.inr (Or.inr (Or.inr (Or.inr (Or.inr (Or.inl (e))))))) | exact Or.inr (Or.inr (Or.inr (Or.inr (Or.inr (Or.inr (Or.inr (Or.inl (e)))))))) | exact Or.inr (Or.inr (Or.inr (Or.inr (Or.inr (Or.inr (Or.inr (Or.inr (Or.inl (e)))))))))) (fun x k hx => by simp only [wJ_cGuard_reckon, F1.r, F2.r] at hx; rcases hx with e | e | e | e | e | e <;> first | exact Or.inl (e) | exact Or.inr (Or.inl (e)) | exact Or.inr (Or.inr (Or.inl (e))) | exact Or.inr (Or.inr (Or.inr (Or.inl (e)))) | exact Or.inr (Or.inr (Or.inr (Or.inr (Or.inl (e))))) | exact Or.inr (Or.inr (Or.inr (Or.inr (Or.inr (e)))))) (fun h7 F3 => ?_)
  refine fe_it fe_no ?_
  refine fe_it fe_no ?_
  refine fe_it ?_ fe_no
  refine fe_cI F3 (fun y => Or.inr (Or.inr (Or.inr (Or.inr (Or.inr (Or.inr (Or.inr (Or.inr (Or.inr (rfl)))))))))) (fun h12 F4 => ?_)
  exact fe_so F4
def wI_cBook_look (v0 : Nat) (v1 : Int) (h : Hp) (x k : Nat) : Prop := False
def wJ_cBook_look (v0 : Nat) (v1 : Int) (h : Hp) (x k : Nat) : Prop := False
theorem fe_cBook_look (v0 : Nat) (v1 : Int) (h : Hp) : Feo (wI_cBook_look v0 v1 h) (wJ_cBook_look v0 v1 h) h Prod.snd (f_cBook_look v0 v1 h) := by
  unfold f_cBook_look
  refine fe_it ?_ ?_
  · exact fe_so Fe.rf
  · refine fe_it ?_ ?_
    · refine fe_it fe_no ?_
      exact fe_so Fe.rf
    · refine fe_it ?_ ?_
      · refine fe_it fe_no ?_
        exact fe_so Fe.rf
      · refine fe_it ?_ ?_
        · refine fe_it fe_no ?_
          exact fe_so Fe.rf
        · refine fe_it ?_ ?_
          · refine fe_it fe_no ?_
            exact fe_so Fe.rf
          · refine fe_it ?_ ?_
            · refine fe_it fe_no ?_
              exact fe_so Fe.rf
            · refine fe_it ?_ ?_
              · refine fe_it fe_no ?_
                exact fe_so Fe.rf
              · refine fe_it ?_ ?_
                · refine fe_it fe_no ?_
                  exact fe_so Fe.rf
                · refine fe_it ?_ ?_
                  · refine fe_it fe_no ?_
                    exact fe_so Fe.rf
                  · refine fe_it ?_ ?_
                    · exact fe_so Fe.rf
                    · refine fe_it ?_ ?_
                      · refine fe_it fe_no ?_
                        refine fe_b2 Fe.rf (fe_cTrip_limit _ _) (fun x k hx => False.elim hx) (fun x k hx => False.elim hx) (fun r34 h32 F1 => ?_)
                        exact fe_so F1
                      · refine fe_it fe_no ?_
                        exact fe_so Fe.rf
def wI_cBook_space (v0 : Nat) (v1 : Int) (v2 : Int) (h : Hp) (x k : Nat) : Prop := False
def wJ_cBook_space (v0 : Nat) (v1 : Int) (v2 : Int) (h : Hp) (x k : Nat) : Prop := False
theorem fe_cBook_space (v0 : Nat) (v1 : Int) (v2 : Int) (h : Hp) : Feo (wI_cBook_space v0 v1 v2 h) (wJ_cBook_space v0 v1 v2 h) h Prod.snd (f_cBook_space v0 v1 v2 h) := by
  unfold f_cBook_space
  refine fe_it fe_no ?_
  refine fe_it ?_ fe_no
  refine fe_l ?_
  refine fe_it ?_ ?_
  · refine fe_it fe_no ?_
    exact fe_so Fe.rf
  · refine fe_it ?_ ?_
    · refine fe_it fe_no ?_
      exact fe_so Fe.rf
    · refine fe_it ?_ ?_
      · refine fe_it fe_no ?_
        exact fe_so Fe.rf
      · refine fe_it ?_ ?_
        · refine fe_b2 Fe.rf (fe_cBook_probeTime _ _ _) (fun x k hx => False.elim hx) (fun x k hx => False.elim hx) (fun r17 h15 F1 => ?_)
          exact fe_so F1
        · refine fe_it ?_ ?_
          · refine fe_it fe_no ?_
            exact fe_so Fe.rf
          · refine fe_it ?_ ?_
            · refine fe_it fe_no ?_
              exact fe_so Fe.rf
            · refine fe_it ?_ ?_
              · refine fe_it fe_no ?_
                refine fe_it fe_no ?_
                exact fe_so Fe.rf
              · refine fe_it ?_ ?_
                · refine fe_it fe_no ?_
                  exact fe_so Fe.rf
                · refine fe_it ?_ ?_
                  · refine fe_b2 Fe.rf (fe_cBook_patience _ _ _) (fun x k hx => False.elim hx) (fun x k hx => False.elim hx) (fun r35 h33 F2 => ?_)
                    exact fe_so F2
                  · refine fe_it ?_ ?_
                    · refine fe_it fe_no ?_
                      refine fe_it ?_ ?_
                      · exact fe_so Fe.rf
                      · exact fe_so Fe.rf
                    · refine fe_it fe_no ?_
                      refine fe_it fe_no ?_
                      exact fe_so Fe.rf
def wI_cHall_look_II_b31 (v0 : Nat) (h : Hp) (x k : Nat) : Prop := False
def wJ_cHall_look_II_b31 (v0 : Nat) (h : Hp) (x k : Nat) : Prop := False
def wI_cHall_look_II_b35 (v0 : Nat) (v2 : Int) (v3 : Nat) (v4 : Nat) (h : Hp) (x k : Nat) : Prop := False
def wJ_cHall_look_II_b35 (v0 : Nat) (v2 : Int) (v3 : Nat) (v4 : Nat) (h : Hp) (x k : Nat) : Prop := False
def wI_cHall_look_II (v0 : Nat) (v1 : Int) (v2 : Int) (h : Hp) (x k : Nat) : Prop := False
def wJ_cHall_look_II (v0 : Nat) (v1 : Int) (v2 : Int) (h : Hp) (x k : Nat) : Prop := False
theorem fe_cHall_look_II_b31 (v0 : Nat) (h : Hp) : Feo (wI_cHall_look_II_b31 v0 h) (wJ_cHall_look_II_b31 v0 h) h Prod.snd (f_cHall_look_II_b31 v0 h) := by
  unfold f_cHall_look_II_b31
  exact fe_so Fe.rf
theorem fe_cHall_look_II_b35 (v0 : Nat) (v2 : Int) (v3 : Nat) (v4 : Nat) (h : Hp) : Feo (wI_cHall_look_II_b35 v0 v2 v3 v4 h) (wJ_cHall_look_II_b35 v0 v2 v3 v4 h) h Prod.snd (f_cHall_look_II_b35 v0 v2 v3 v4 h) := by
  unfold f_cHall_look_II_b35
  refine fe_it ?_ ?_
  · refine fe_it fe_no ?_
    exact fe_so Fe.rf
  · refine fe_it ?_ ?_
    · refine fe_it fe_no ?_
      exact fe_so Fe.rf
    · refine fe_it ?_ ?_
      · refine fe_it fe_no ?_
        exact fe_so Fe.rf
      · refine fe_it ?_ ?_
        · refine fe_it fe_no ?_
          exact fe_so Fe.rf
        · refine fe_it ?_ ?_
          · refine fe_it fe_no ?_
            exact fe_so Fe.rf
          · refine fe_it ?_ ?_
            · refine fe_it fe_no ?_
              refine fe_it fe_no ?_
              refine fe_b2 Fe.rf (fe_cSpans_count _ _ _) (fun x k hx => False.elim hx) (fun x k hx => False.elim hx) (fun r28 h26 F1 => ?_)
              exact fe_so F1
            · refine fe_it ?_ ?_
              · refine fe_it fe_no ?_
                refine fe_it fe_no ?_
                refine fe_b2 Fe.rf (fe_cSpans_count _ _ _) (fun x k hx => False.elim hx) (fun x k hx => False.elim hx) (fun r35 h33 F2 => ?_)
                exact fe_so F2
              · refine fe_it ?_ ?_
                · refine fe_it fe_no ?_
                  exact fe_so Fe.rf
                · refine fe_it ?_ ?_
                  · refine fe_it fe_no ?_
                    exact fe_so Fe.rf
                  · refine fe_it ?_ ?_
                    · refine fe_it fe_no ?_
                      exact fe_so Fe.rf
                    · refine fe_it ?_ ?_
                      · refine fe_it fe_no ?_
                        exact fe_so Fe.rf
                      · refine fe_it ?_ ?_
                        · refine fe_it fe_no ?_
                          exact fe_so Fe.rf
                        · refine fe_it ?_ ?_
                          · refine fe_it fe_no ?_
                            exact fe_so Fe.rf
                          · refine fe_it ?_ ?_
                            · refine fe_it fe_no ?_
                              exact fe_so Fe.rf
                            · refine fe_it fe_no ?_
                              exact fe_so Fe.rf
theorem fe_cHall_look_II (v0 : Nat) (v1 : Int) (v2 : Int) (h : Hp) : Feo (wI_cHall_look_II v0 v1 v2 h) (wJ_cHall_look_II v0 v1 v2 h) h Prod.snd (f_cHall_look_II v0 v1 v2 h) := by
  unfold f_cHall_look_II
  refine fe_b2 Fe.rf (fe_cHall_sending _ _ _) (fun x k hx => False.elim hx) (fun x k hx => False.elim hx) (fun r3 h1 F1 => ?_)
  refine fe_b2 F1 (fe_cHall_receiving _ _ _) (fun x k hx => False.elim hx) (fun x k hx => False.elim hx) (fun r6 h4 F2 => ?_)
  refine fe_it ?_ ?_
  · refine fe_it ?_ ?_
    · exact fe_j F2 (fe_cHall_look_II_b35 _ _ _ _ _) (fun x k hx => False.elim hx) (fun x k hx => False.elim hx)
    · exact fe_j F2 (fe_cHall_look_II_b31 _ _) (fun x k hx => False.elim hx) (fun x k hx => False.elim hx)
  · refine fe_it ?_ ?_
    · exact fe_j F2 (fe_cHall_look_II_b35 _ _ _ _ _) (fun x k hx => False.elim hx) (fun x k hx => False.elim hx)
    · exact fe_j F2 (fe_cHall_look_II_b31 _ _) (fun x k hx => False.elim hx) (fun x k hx => False.elim hx)
def wI_cHall_look_I_b110 (v0 : Nat) (v1 : Int) (h : Hp) (x k : Nat) : Prop := False
def wJ_cHall_look_I_b110 (v0 : Nat) (v1 : Int) (h : Hp) (x k : Nat) : Prop := False
def wI_cHall_look_I (v0 : Nat) (v1 : Int) (h : Hp) (x k : Nat) : Prop := False
def wJ_cHall_look_I (v0 : Nat) (v1 : Int) (h : Hp) (x k : Nat) : Prop := False
theorem fe_cHall_look_I_b110 (v0 : Nat) (v1 : Int) (h : Hp) : Feo (wI_cHall_look_I_b110 v0 v1 h) (wJ_cHall_look_I_b110 v0 v1 h) h Prod.snd (f_cHall_look_I_b110 v0 v1 h) := by
  unfold f_cHall_look_I_b110
  refine fe_it fe_no ?_
  refine fe_it ?_ fe_no
  refine fe_l ?_
  refine fe_it ?_ ?_
  · refine fe_it ?_ ?_
    · refine fe_it ?_ ?_
      · refine fe_it fe_no ?_
        exact fe_so Fe.rf
      · refine fe_it fe_no ?_
        exact fe_so Fe.rf
    · refine fe_it fe_no ?_
      exact fe_so Fe.rf
  · refine fe_it fe_no ?_
    exact fe_so Fe.rf
theorem fe_cHall_look_I (v0 : Nat) (v1 : Int) (h : Hp) : Feo (wI_cHall_look_I v0 v1 h) (wJ_cHall_look_I v0 v1 h) h Prod.snd (f_cHall_look_I v0 v1 h) := by
  unfold f_cHall_look_I
  refine fe_it ?_ ?_
  · exact fe_so Fe.rf
  · refine fe_it ?_ ?_
    · exact fe_so Fe.rf
    · refine fe_it ?_ ?_
      · exact fe_so Fe.rf
      · refine fe_it ?_ ?_
        · exact fe_so Fe.rf
        · refine fe_it ?_ ?_
          · exact fe_so Fe.rf
          · refine fe_it ?_ ?_
            · exact fe_j Fe.rf (fe_cHall_look_I_b110 _ _ _) (fun x k hx => False.elim hx) (fun x k hx => False.elim hx)
            · refine fe_it ?_ ?_
              · exact fe_j Fe.rf (fe_cHall_look_I_b110 _ _ _) (fun x k hx => False.elim hx) (fun x k hx => False.elim hx)
              · refine fe_it ?_ ?_
                · exact fe_j Fe.rf (fe_cHall_look_I_b110 _ _ _) (fun x k hx => False.elim hx) (fun x k hx => False.elim hx)
                · refine fe_it ?_ ?_
                  · exact fe_j Fe.rf (fe_cHall_look_I_b110 _ _ _) (fun x k hx => False.elim hx) (fun x k hx => False.elim hx)
                  · refine fe_it ?_ ?_
                    · exact fe_j Fe.rf (fe_cHall_look_I_b110 _ _ _) (fun x k hx => False.elim hx) (fun x k hx => False.elim hx)
                    · refine fe_it ?_ ?_
                      · exact fe_j Fe.rf (fe_cHall_look_I_b110 _ _ _) (fun x k hx => False.elim hx) (fun x k hx => False.elim hx)
                      · refine fe_it ?_ ?_
                        · exact fe_j Fe.rf (fe_cHall_look_I_b110 _ _ _) (fun x k hx => False.elim hx) (fun x k hx => False.elim hx)
                        · refine fe_it ?_ ?_
                          · exact fe_j Fe.rf (fe_cHall_look_I_b110 _ _ _) (fun x k hx => False.elim hx) (fun x k hx => False.elim hx)
                          · refine fe_it ?_ ?_
                            · refine fe_it fe_no ?_
                              exact fe_so Fe.rf
                            · exact fe_j Fe.rf (fe_cHall_look_I_b110 _ _ _) (fun x k hx => False.elim hx) (fun x k hx => False.elim hx)
def wI_mSeals_nextPrime_b35 (v1 : Int) (v3 : Int) (s0 : Int) (h : Hp) (x k : Nat) : Prop := False
def wJ_mSeals_nextPrime_b35 (v1 : Int) (v3 : Int) (s0 : Int) (h : Hp) (x k : Nat) : Prop := False
def wI_mSeals_nextPrime_b34 (v1 : Int) (v3 : Int) (h : Hp) (x k : Nat) : Prop := False
def wJ_mSeals_nextPrime_b34 (v1 : Int) (v3 : Int) (h : Hp) (x k : Nat) : Prop := False
def wI_mSeals_nextPrime_b15 (v1 : Int) (v2 : Int) (v3 : Int) (h : Hp) (x k : Nat) : Prop := False
def wJ_mSeals_nextPrime_b15 (v1 : Int) (v2 : Int) (v3 : Int) (h : Hp) (x k : Nat) : Prop := False
def wI_mSeals_nextPrime_b4 (v1 : Int) (v2 : Int) (h : Hp) (x k : Nat) : Prop := False
def wJ_mSeals_nextPrime_b4 (v1 : Int) (v2 : Int) (h : Hp) (x k : Nat) : Prop := False
def wI_mSeals_nextPrime (v0 : Int) (h : Hp) (x k : Nat) : Prop := False
def wJ_mSeals_nextPrime (v0 : Int) (h : Hp) (x k : Nat) : Prop := False
theorem fe_mSeals_nextPrime_b35 {k4 : Int → Int → Hp → Option (Int × Hp)} (hk4 : ∀ (v1 : Int) (v2 : Int) (h : Hp), Feo (wI_mSeals_nextPrime_b4 v1 v2 h) (wJ_mSeals_nextPrime_b4 v1 v2 h) h Prod.snd (k4 v1 v2 h)) {k15 : Int → Int → Int → Hp → Option (Int × Hp)} (hk15 : ∀ (v1 : Int) (v2 : Int) (v3 : Int) (h : Hp), Feo (wI_mSeals_nextPrime_b15 v1 v2 v3 h) (wJ_mSeals_nextPrime_b15 v1 v2 v3 h) h Prod.snd (k15 v1 v2 v3 h)) (v1 : Int) (v3 : Int) (s0 : Int) (h : Hp) : Feo (wI_mSeals_nextPrime_b35 v1 v3 s0 h) (wJ_mSeals_nextPrime_b35 v1 v3 s0 h) h Prod.snd (f_mSeals_nextPrime_b35 k4 k15 v1 v3 s0 h) := by
  unfold f_mSeals_nextPrime_b35
  exact fe_j Fe.rf (hk15 _ _ _ _) (fun x k hx => False.elim hx) (fun x k hx => False.elim hx)
theorem fe_mSeals_nextPrime_b34 {k4 : Int → Int → Hp → Option (Int × Hp)} (hk4 : ∀ (v1 : Int) (v2 : Int) (h : Hp), Feo (wI_mSeals_nextPrime_b4 v1 v2 h) (wJ_mSeals_nextPrime_b4 v1 v2 h) h Prod.snd (k4 v1 v2 h)) {k15 : Int → Int → Int → Hp → Option (Int × Hp)} (hk15 : ∀ (v1 : Int) (v2 : Int) (v3 : Int) (h : Hp), Feo (wI_mSeals_nextPrime_b15 v1 v2 v3 h) (wJ_mSeals_nextPrime_b15 v1 v2 v3 h) h Prod.snd (k15 v1 v2 v3 h)) (v1 : Int) (v3 : Int) (h : Hp) : Feo (wI_mSeals_nextPrime_b34 v1 v3 h) (wJ_mSeals_nextPrime_b34 v1 v3 h) h Prod.snd (f_mSeals_nextPrime_b34 k4 k15 v1 v3 h) := by
  unfold f_mSeals_nextPrime_b34
  exact fe_j Fe.rf (fe_mSeals_nextPrime_b35 hk4 hk15 _ _ _ _) (fun x k hx => False.elim hx) (fun x k hx => False.elim hx)
theorem fe_mSeals_nextPrime_b15 {k4 : Int → Int → Hp → Option (Int × Hp)} (hk4 : ∀ (v1 : Int) (v2 : Int) (h : Hp), Feo (wI_mSeals_nextPrime_b4 v1 v2 h) (wJ_mSeals_nextPrime_b4 v1 v2 h) h Prod.snd (k4 v1 v2 h)) {k15 : Int → Int → Int → Hp → Option (Int × Hp)} (hk15 : ∀ (v1 : Int) (v2 : Int) (v3 : Int) (h : Hp), Feo (wI_mSeals_nextPrime_b15 v1 v2 v3 h) (wJ_mSeals_nextPrime_b15 v1 v2 v3 h) h Prod.snd (k15 v1 v2 v3 h)) (v1 : Int) (v2 : Int) (v3 : Int) (h : Hp) : Feo (wI_mSeals_nextPrime_b15 v1 v2 v3 h) (wJ_mSeals_nextPrime_b15 v1 v2 v3 h) h Prod.snd (f_mSeals_nextPrime_b15 k4 k15 v1 v2 v3 h) := by
  unfold f_mSeals_nextPrime_b15
  refine fe_it ?_ ?_
  · exact fe_j Fe.rf (hk4 _ _ _) (fun x k hx => False.elim hx) (fun x k hx => False.elim hx)
  · refine fe_it ?_ ?_
    · exact fe_j Fe.rf (fe_mSeals_nextPrime_b34 hk4 hk15 _ _ _) (fun x k hx => False.elim hx) (fun x k hx => False.elim hx)
    · refine fe_it fe_no ?_
      refine fe_it ?_ ?_
      · exact fe_j Fe.rf (fe_mSeals_nextPrime_b34 hk4 hk15 _ _ _) (fun x k hx => False.elim hx) (fun x k hx => False.elim hx)
      · exact fe_j Fe.rf (fe_mSeals_nextPrime_b35 hk4 hk15 _ _ _ _) (fun x k hx => False.elim hx) (fun x k hx => False.elim hx)
theorem fe_mSeals_nextPrime_b15_lp {k4 : Int → Int → Hp → Option (Int × Hp)} (hk4 : ∀ (v1 : Int) (v2 : Int) (h : Hp), Feo (wI_mSeals_nextPrime_b4 v1 v2 h) (wJ_mSeals_nextPrime_b4 v1 v2 h) h Prod.snd (k4 v1 v2 h)) (n : Nat) : ∀ (v1 : Int) (v2 : Int) (v3 : Int) (h : Hp), Feo (wI_mSeals_nextPrime_b15 v1 v2 v3 h) (wJ_mSeals_nextPrime_b15 v1 v2 v3 h) h Prod.snd (f_mSeals_nextPrime_b15_lp k4 n v1 v2 v3 h) := by
  induction n with
  | zero => intro v1 v2 v3 h; exact fe_no
  | succ n ih => intro v1 v2 v3 h; exact fe_mSeals_nextPrime_b15 hk4 ih v1 v2 v3 h
theorem fe_mSeals_nextPrime_b4 {k4 : Int → Int → Hp → Option (Int × Hp)} (hk4 : ∀ (v1 : Int) (v2 : Int) (h : Hp), Feo (wI_mSeals_nextPrime_b4 v1 v2 h) (wJ_mSeals_nextPrime_b4 v1 v2 h) h Prod.snd (k4 v1 v2 h)) (v1 : Int) (v2 : Int) (h : Hp) : Feo (wI_mSeals_nextPrime_b4 v1 v2 h) (wJ_mSeals_nextPrime_b4 v1 v2 h) h Prod.snd (f_mSeals_nextPrime_b4 k4 v1 v2 h) := by
  unfold f_mSeals_nextPrime_b4
  refine fe_it ?_ ?_
  · exact fe_so Fe.rf
  · exact fe_j Fe.rf (fe_mSeals_nextPrime_b15_lp hk4 FU _ _ _ _) (fun x k hx => False.elim hx) (fun x k hx => False.elim hx)
theorem fe_mSeals_nextPrime_b4_lp (n : Nat) : ∀ (v1 : Int) (v2 : Int) (h : Hp), Feo (wI_mSeals_nextPrime_b4 v1 v2 h) (wJ_mSeals_nextPrime_b4 v1 v2 h) h Prod.snd (f_mSeals_nextPrime_b4_lp n v1 v2 h) := by
  induction n with
  | zero => intro v1 v2 h; exact fe_no
  | succ n ih => intro v1 v2 h; exact fe_mSeals_nextPrime_b4 ih v1 v2 h
theorem fe_mSeals_nextPrime (v0 : Int) (h : Hp) : Feo (wI_mSeals_nextPrime v0 h) (wJ_mSeals_nextPrime v0 h) h Prod.snd (f_mSeals_nextPrime v0 h) := by
  unfold f_mSeals_nextPrime
  exact fe_j Fe.rf (fe_mSeals_nextPrime_b4_lp FU _ _ _) (fun x k hx => False.elim hx) (fun x k hx => False.elim hx)
def wI_mSeals_times_b52 (v0 : Nat) (v1 : Int) (v2 : Int) (h : Hp) (x k : Nat) : Prop := x = hR h v0 3
def wJ_mSeals_times_b52 (v0 : Nat) (v1 : Int) (v2 : Int) (h : Hp) (x k : Nat) : Prop := x = hR h v0 5
def wI_mSeals_times_b12 (v0 : Nat) (v1 : Int) (v2 : Int) (v4 : Int) (h : Hp) (x k : Nat) : Prop := x = hR h v0 3
def wJ_mSeals_times_b12 (v0 : Nat) (v1 : Int) (v2 : Int) (v4 : Int) (h : Hp) (x k : Nat) : Prop := x = hR h v0 5
def wI_mSeals_times_b69 (v0 : Nat) (v1 : Int) (v3 : Int) (h : Hp) (x k : Nat) : Prop := x = hR h v0 3
def wJ_mSeals_times_b69 (v0 : Nat) (v1 : Int) (v3 : Int) (h : Hp) (x k : Nat) : Prop := False
def wI_mSeals_times_b3 (v0 : Nat) (v1 : Int) (h : Hp) (x k : Nat) : Prop := x = hR h v0 3
def wJ_mSeals_times_b3 (v0 : Nat) (v1 : Int) (h : Hp) (x k : Nat) : Prop := x = hR h v0 5
def wI_mSeals_times (v0 : Nat) (h : Hp) (x k : Nat) : Prop := x = hR h v0 3
def wJ_mSeals_times (v0 : Nat) (h : Hp) (x k : Nat) : Prop := x = hR h v0 5
theorem fe_mSeals_times_b52 {k3 : Nat → Int → Hp → Option (Hp)} (hk3 : ∀ (v0 : Nat) (v1 : Int) (h : Hp), Feo (wI_mSeals_times_b3 v0 v1 h) (wJ_mSeals_times_b3 v0 v1 h) h id (k3 v0 v1 h)) (v0 : Nat) (v1 : Int) (v2 : Int) (h : Hp) : Feo (wI_mSeals_times_b52 v0 v1 v2 h) (wJ_mSeals_times_b52 v0 v1 v2 h) h id (f_mSeals_times_b52 k3 v0 v1 v2 h) := by
  unfold f_mSeals_times_b52
  refine fe_it fe_no ?_
  refine fe_it ?_ fe_no
  refine fe_J Fe.rf (rfl) (fun h15 F1 => ?_)
  exact fe_j F1 (hk3 _ _ _) (fun x k hx => by simp only [wI_mSeals_times_b3, F1.r] at hx; have e := hx; exact e) (fun x k hx => by simp only [wJ_mSeals_times_b3, F1.r] at hx; have e := hx; exact e)
theorem fe_mSeals_times_b12 {k3 : Nat → Int → Hp → Option (Hp)} (hk3 : ∀ (v0 : Nat) (v1 : Int) (h : Hp), Feo (wI_mSeals_times_b3 v0 v1 h) (wJ_mSeals_times_b3 v0 v1 h) h id (k3 v0 v1 h)) {k12 : Nat → Int → Int → Int → Hp → Option (Hp)} (hk12 : ∀ (v0 : Nat) (v1 : Int) (v2 : Int) (v4 : Int) (h : Hp), Feo (wI_mSeals_times_b12 v0 v1 v2 v4 h) (wJ_mSeals_times_b12 v0 v1 v2 v4 h) h id (k12 v0 v1 v2 v4 h)) (v0 : Nat) (v1 : Int) (v2 : Int) (v4 : Int) (h : Hp) : Feo (wI_mSeals_times_b12 v0 v1 v2 v4 h) (wJ_mSeals_times_b12 v0 v1 v2 v4 h) h id (f_mSeals_times_b12 k3 k12 v0 v1 v2 v4 h) := by
  unfold f_mSeals_times_b12
  refine fe_it ?_ ?_
  · exact fe_j Fe.rf (fe_mSeals_times_b52 hk3 _ _ _ _) (fun x k hx => by simp only [wI_mSeals_times_b52] at hx; have e := hx; exact e) (fun x k hx => by simp only [wJ_mSeals_times_b52] at hx; have e := hx; exact e)
  · refine fe_it ?_ ?_
    · exact fe_j Fe.rf (fe_mSeals_times_b52 hk3 _ _ _ _) (fun x k hx => by simp only [wI_mSeals_times_b52] at hx; have e := hx; exact e) (fun x k hx => by simp only [wJ_mSeals_times_b52] at hx; have e := hx; exact e)
    · refine fe_it fe_no ?_
      refine fe_it ?_ fe_no
      refine fe_it fe_no ?_
      refine fe_it ?_ fe_no
      refine fe_v (fun y12 => ?_)
      exact fe_j Fe.rf (hk12 _ _ _ _ _) (fun x k hx => by simp only [wI_mSeals_times_b12] at hx; have e := hx; exact e) (fun x k hx => by simp only [wJ_mSeals_times_b12] at hx; have e := hx; exact e)
theorem fe_mSeals_times_b12_lp {k3 : Nat → Int → Hp → Option (Hp)} (hk3 : ∀ (v0 : Nat) (v1 : Int) (h : Hp), Feo (wI_mSeals_times_b3 v0 v1 h) (wJ_mSeals_times_b3 v0 v1 h) h id (k3 v0 v1 h)) (n : Nat) : ∀ (v0 : Nat) (v1 : Int) (v2 : Int) (v4 : Int) (h : Hp), Feo (wI_mSeals_times_b12 v0 v1 v2 v4 h) (wJ_mSeals_times_b12 v0 v1 v2 v4 h) h id (f_mSeals_times_b12_lp k3 n v0 v1 v2 v4 h) := by
  induction n with
  | zero => intro v0 v1 v2 v4 h; exact fe_no
  | succ n ih => intro v0 v1 v2 v4 h; exact fe_mSeals_times_b12 hk3 ih v0 v1 v2 v4 h
theorem fe_mSeals_times_b69 {k69 : Nat → Int → Int → Hp → Option (Hp)} (hk69 : ∀ (v0 : Nat) (v1 : Int) (v3 : Int) (h : Hp), Feo (wI_mSeals_times_b69 v0 v1 v3 h) (wJ_mSeals_times_b69 v0 v1 v3 h) h id (k69 v0 v1 v3 h)) (v0 : Nat) (v1 : Int) (v3 : Int) (h : Hp) : Feo (wI_mSeals_times_b69 v0 v1 v3 h) (wJ_mSeals_times_b69 v0 v1 v3 h) h id (f_mSeals_times_b69 k69 v0 v1 v3 h) := by
  unfold f_mSeals_times_b69
  refine fe_it ?_ ?_
  · exact fe_so Fe.rf
  · refine fe_it fe_no ?_
    refine fe_it ?_ fe_no
    refine fe_v (fun y3 => ?_)
    refine fe_it fe_no ?_
    refine fe_it ?_ fe_no
    refine fe_I Fe.rf (rfl) (fun h6 F1 => ?_)
    refine fe_v (fun y7 => ?_)
    exact fe_j F1 (hk69 _ _ _ _) (fun x k hx => by simp only [wI_mSeals_times_b69, F1.r] at hx; have e := hx; exact e) (fun x k hx => False.elim hx)
theorem fe_mSeals_times_b69_lp (n : Nat) : ∀ (v0 : Nat) (v1 : Int) (v3 : Int) (h : Hp), Feo (wI_mSeals_times_b69 v0 v1 v3 h) (wJ_mSeals_times_b69 v0 v1 v3 h) h id (f_mSeals_times_b69_lp n v0 v1 v3 h) := by
  induction n with
  | zero => intro v0 v1 v3 h; exact fe_no
  | succ n ih => intro v0 v1 v3 h; exact fe_mSeals_times_b69 ih v0 v1 v3 h
theorem fe_mSeals_times_b3 {k3 : Nat → Int → Hp → Option (Hp)} (hk3 : ∀ (v0 : Nat) (v1 : Int) (h : Hp), Feo (wI_mSeals_times_b3 v0 v1 h) (wJ_mSeals_times_b3 v0 v1 h) h id (k3 v0 v1 h)) (v0 : Nat) (v1 : Int) (h : Hp) : Feo (wI_mSeals_times_b3 v0 v1 h) (wJ_mSeals_times_b3 v0 v1 h) h id (f_mSeals_times_b3 k3 v0 v1 h) := by
  unfold f_mSeals_times_b3
  refine fe_it ?_ ?_
  · exact fe_j Fe.rf (fe_mSeals_times_b69_lp FU _ _ _ _) (fun x k hx => by simp only [wI_mSeals_times_b69] at hx; have e := hx; exact e) (fun x k hx => False.elim hx)
  · exact fe_j Fe.rf (fe_mSeals_times_b12_lp hk3 FU _ _ _ _ _) (fun x k hx => by simp only [wI_mSeals_times_b12] at hx; have e := hx; exact e) (fun x k hx => by simp only [wJ_mSeals_times_b12] at hx; have e := hx; exact e)
theorem fe_mSeals_times_b3_lp (n : Nat) : ∀ (v0 : Nat) (v1 : Int) (h : Hp), Feo (wI_mSeals_times_b3 v0 v1 h) (wJ_mSeals_times_b3 v0 v1 h) h id (f_mSeals_times_b3_lp n v0 v1 h) := by
  induction n with
  | zero => intro v0 v1 h; exact fe_no
  | succ n ih => intro v0 v1 h; exact fe_mSeals_times_b3 ih v0 v1 h
theorem fe_mSeals_times (v0 : Nat) (h : Hp) : Feo (wI_mSeals_times v0 h) (wJ_mSeals_times v0 h) h id (f_mSeals_times v0 h) := by
  unfold f_mSeals_times
  exact fe_j Fe.rf (fe_mSeals_times_b3_lp FU _ _ _) (fun x k hx => by simp only [wI_mSeals_times_b3] at hx; have e := hx; exact e) (fun x k hx => by simp only [wJ_mSeals_times_b3] at hx; have e := hx; exact e)
def wI_mSeals_isAbove_b108 (v0 : Nat) (v3 : Int) (v4 : Int) (v5 : Int) (s0 : Int) (h : Hp) (x k : Nat) : Prop := False
def wJ_mSeals_isAbove_b108 (v0 : Nat) (v3 : Int) (v4 : Int) (v5 : Int) (s0 : Int) (h : Hp) (x k : Nat) : Prop := False
def wI_mSeals_isAbove_b89 (v0 : Nat) (v3 : Int) (v4 : Int) (v5 : Int) (h : Hp) (x k : Nat) : Prop := False
def wJ_mSeals_isAbove_b89 (v0 : Nat) (v3 : Int) (v4 : Int) (v5 : Int) (h : Hp) (x k : Nat) : Prop := False
def wI_mSeals_isAbove_b68 (v0 : Nat) (v3 : Int) (v4 : Int) (v5 : Int) (h : Hp) (x k : Nat) : Prop := x = hR h v0 3
def wJ_mSeals_isAbove_b68 (v0 : Nat) (v3 : Int) (v4 : Int) (v5 : Int) (h : Hp) (x k : Nat) : Prop := x = hR h v0 5
def wI_mSeals_isAbove_b34 (v0 : Nat) (v1 : Int) (v3 : Int) (v4 : Int) (v5 : Int) (h : Hp) (x k : Nat) : Prop := x = hR h v0 2 ∨ x = hR h v0 3
def wJ_mSeals_isAbove_b34 (v0 : Nat) (v1 : Int) (v3 : Int) (v4 : Int) (v5 : Int) (h : Hp) (x k : Nat) : Prop := x = hR h v0 5
def wI_mSeals_isAbove_b3 (v0 : Nat) (v1 : Int) (v3 : Int) (v4 : Int) (v5 : Int) (h : Hp) (x k : Nat) : Prop := x = hR h v0 2 ∨ x = hR h v0 3
def wJ_mSeals_isAbove_b3 (v0 : Nat) (v1 : Int) (v3 : Int) (v4 : Int) (v5 : Int) (h : Hp) (x k : Nat) : Prop := x = hR h v0 5
def wI_mSeals_isAbove (v0 : Nat) (v1 : Int) (v3 : Int) (v4 : Int) (h : Hp) (x k : Nat) : Prop := x = hR h v0 2 ∨ x = hR h v0 3
def wJ_mSeals_isAbove (v0 : Nat) (v1 : Int) (v3 : Int) (v4 : Int) (h : Hp) (x k : Nat) : Prop := x = hR h v0 5
theorem fe_mSeals_isAbove_b108 {k89 : Nat → Int → Int → Int → Hp → Option (Int × Hp)} (hk89 : ∀ (v0 : Nat) (v3 : Int) (v4 : Int) (v5 : Int) (h : Hp), Feo (wI_mSeals_isAbove_b89 v0 v3 v4 v5 h) (wJ_mSeals_isAbove_b89 v0 v3 v4 v5 h) h Prod.snd (k89 v0 v3 v4 v5 h)) (v0 : Nat) (v3 : Int) (v4 : Int) (v5 : Int) (s0 : Int) (h : Hp) : Feo (wI_mSeals_isAbove_b108 v0 v3 v4 v5 s0 h) (wJ_mSeals_isAbove_b108 v0 v3 v4 v5 s0 h) h Prod.snd (f_mSeals_isAbove_b108 k89 v0 v3 v4 v5 s0 h) := by
  unfold f_mSeals_isAbove_b108
  refine fe_it fe_no ?_
  refine fe_it ?_ fe_no
  refine fe_it ?_ ?_
  · exact fe_j Fe.rf (hk89 _ _ _ _ _) (fun x k hx => False.elim hx) (fun x k hx => False.elim hx)
  · refine fe_it ?_ fe_no
    refine fe_it ?_ ?_
    · exact fe_so Fe.rf
    · exact fe_so Fe.rf
theorem fe_mSeals_isAbove_b89 {k89 : Nat → Int → Int → Int → Hp → Option (Int × Hp)} (hk89 : ∀ (v0 : Nat) (v3 : Int) (v4 : Int) (v5 : Int) (h : Hp), Feo (wI_mSeals_isAbove_b89 v0 v3 v4 v5 h) (wJ_mSeals_isAbove_b89 v0 v3 v4 v5 h) h Prod.snd (k89 v0 v3 v4 v5 h)) (v0 : Nat) (v3 : Int) (v4 : Int) (v5 : Int) (h : Hp) : Feo (wI_mSeals_isAbove_b89 v0 v3 v4 v5 h) (wJ_mSeals_isAbove_b89 v0 v3 v4 v5 h) h Prod.snd (f_mSeals_isAbove_b89 k89 v0 v3 v4 v5 h) := by
  unfold f_mSeals_isAbove_b89
  refine fe_it ?_ ?_
  · exact fe_so Fe.rf
  · refine fe_it ?_ ?_
    · exact fe_j Fe.rf (fe_mSeals_isAbove_b108 hk89 _ _ _ _ _ _) (fun x k hx => False.elim hx) (fun x k hx => False.elim hx)
    · exact fe_j Fe.rf (fe_mSeals_isAbove_b108 hk89 _ _ _ _ _ _) (fun x k hx => False.elim hx) (fun x k hx => False.elim hx)
theorem fe_mSeals_isAbove_b89_lp (n : Nat) : ∀ (v0 : Nat) (v3 : Int) (v4 : Int) (v5 : Int) (h : Hp), Feo (wI_mSeals_isAbove_b89 v0 v3 v4 v5 h) (wJ_mSeals_isAbove_b89 v0 v3 v4 v5 h) h Prod.snd (f_mSeals_isAbove_b89_lp n v0 v3 v4 v5 h) := by
  induction n with
  | zero => intro v0 v3 v4 v5 h; exact fe_no
  | succ n ih => intro v0 v3 v4 v5 h; exact fe_mSeals_isAbove_b89 ih v0 v3 v4 v5 h
theorem fe_mSeals_isAbove_b68 {k68 : Nat → Int → Int → Int → Hp → Option (Int × Hp)} (hk68 : ∀ (v0 : Nat) (v3 : Int) (v4 : Int) (v5 : Int) (h : Hp), Feo (wI_mSeals_isAbove_b68 v0 v3 v4 v5 h) (wJ_mSeals_isAbove_b68 v0 v3 v4 v5 h) h Prod.snd (k68 v0 v3 v4 v5 h)) (v0 : Nat) (v3 : Int) (v4 : Int) (v5 : Int) (h : Hp) : Feo (wI_mSeals_isAbove_b68 v0 v3 v4 v5 h) (wJ_mSeals_isAbove_b68 v0 v3 v4 v5 h) h Prod.snd (f_mSeals_isAbove_b68 k68 v0 v3 v4 v5 h) := by
  unfold f_mSeals_isAbove_b68
  refine fe_it ?_ ?_
  · exact fe_j Fe.rf (fe_mSeals_isAbove_b89_lp FU _ _ _ _ _) (fun x k hx => False.elim hx) (fun x k hx => False.elim hx)
  · refine fe_b1 Fe.rf (fe_mSeals_times _ _) (fun x k hx => by simp only [wI_mSeals_times] at hx; have e := hx; exact e) (fun x k hx => by simp only [wJ_mSeals_times] at hx; have e := hx; exact e) (fun h10 F1 => ?_)
    exact fe_j F1 (hk68 _ _ _ _ _) (fun x k hx => by simp only [wI_mSeals_isAbove_b68, F1.r] at hx; have e := hx; exact e) (fun x k hx => by simp only [wJ_mSeals_isAbove_b68, F1.r] at hx; have e := hx; exact e)
theorem fe_mSeals_isAbove_b68_lp (n : Nat) : ∀ (v0 : Nat) (v3 : Int) (v4 : Int) (v5 : Int) (h : Hp), Feo (wI_mSeals_isAbove_b68 v0 v3 v4 v5 h) (wJ_mSeals_isAbove_b68 v0 v3 v4 v5 h) h Prod.snd (f_mSeals_isAbove_b68_lp n v0 v3 v4 v5 h) := by
  induction n with
  | zero => intro v0 v3 v4 v5 h; exact fe_no
  | succ n ih => intro v0 v3 v4 v5 h; exact fe_mSeals_isAbove_b68 ih v0 v3 v4 v5 h
theorem fe_mSeals_isAbove_b34 {k34 : Nat → Int → Int → Int → Int → Hp → Option (Int × Hp)} (hk34 : ∀ (v0 : Nat) (v1 : Int) (v3 : Int) (v4 : Int) (v5 : Int) (h : Hp), Feo (wI_mSeals_isAbove_b34 v0 v1 v3 v4 v5 h) (wJ_mSeals_isAbove_b34 v0 v1 v3 v4 v5 h) h Prod.snd (k34 v0 v1 v3 v4 v5 h)) (v0 : Nat) (v1 : Int) (v3 : Int) (v4 : Int) (v5 : Int) (h : Hp) : Feo (wI_mSeals_isAbove_b34 v0 v1 v3 v4 v5 h) (wJ_mSeals_isAbove_b34 v0 v1 v3 v4 v5 h) h Prod.snd (f_mSeals_isAbove_b34 k34 v0 v1 v3 v4 v5 h) := by
  unfold f_mSeals_isAbove_b34
  refine fe_it ?_ ?_
  · exact fe_j Fe.rf (fe_mSeals_isAbove_b68_lp FU _ _ _ _ _) (fun x k hx => by simp only [wI_mSeals_isAbove_b68] at hx; have e := hx; exact Or.inr (e)) (fun x k hx => by simp only [wJ_mSeals_isAbove_b68] at hx; have e := hx; exact e)
  · refine fe_it fe_no ?_
    refine fe_it ?_ fe_no
    refine fe_I Fe.rf (Or.inl (rfl)) (fun h9 F1 => ?_)
    exact fe_j F1 (hk34 _ _ _ _ _ _) (fun x k hx => by simp only [wI_mSeals_isAbove_b34, F1.r] at hx; rcases hx with e | e <;> first | exact Or.inl (e) | exact Or.inr (e)) (fun x k hx => by simp only [wJ_mSeals_isAbove_b34, F1.r] at hx; have e := hx; exact e)
theorem fe_mSeals_isAbove_b34_lp (n : Nat) : ∀ (v0 : Nat) (v1 : Int) (v3 : Int) (v4 : Int) (v5 : Int) (h : Hp), Feo (wI_mSeals_isAbove_b34 v0 v1 v3 v4 v5 h) (wJ_mSeals_isAbove_b34 v0 v1 v3 v4 v5 h) h Prod.snd (f_mSeals_isAbove_b34_lp n v0 v1 v3 v4 v5 h) := by
  induction n with
  | zero => intro v0 v1 v3 v4 v5 h; exact fe_no
  | succ n ih => intro v0 v1 v3 v4 v5 h; exact fe_mSeals_isAbove_b34 ih v0 v1 v3 v4 v5 h
theorem fe_mSeals_isAbove_b3 {k3 : Nat → Int → Int → Int → Int → Hp → Option (Int × Hp)} (hk3 : ∀ (v0 : Nat) (v1 : Int) (v3 : Int) (v4 : Int) (v5 : Int) (h : Hp), Feo (wI_mSeals_isAbove_b3 v0 v1 v3 v4 v5 h) (wJ_mSeals_isAbove_b3 v0 v1 v3 v4 v5 h) h Prod.snd (k3 v0 v1 v3 v4 v5 h)) (v0 : Nat) (v1 : Int) (v3 : Int) (v4 : Int) (v5 : Int) (h : Hp) : Feo (wI_mSeals_isAbove_b3 v0 v1 v3 v4 v5 h) (wJ_mSeals_isAbove_b3 v0 v1 v3 v4 v5 h) h Prod.snd (f_mSeals_isAbove_b3 k3 v0 v1 v3 v4 v5 h) := by
  unfold f_mSeals_isAbove_b3
  refine fe_it ?_ ?_
  · refine fe_it fe_no ?_
    refine fe_it ?_ fe_no
    refine fe_I Fe.rf (Or.inr (rfl)) (fun h3 F1 => ?_)
    exact fe_j F1 (fe_mSeals_isAbove_b34_lp FU _ _ _ _ _ _) (fun x k hx => by simp only [wI_mSeals_isAbove_b34, F1.r] at hx; rcases hx with e | e <;> first | exact Or.inl (e) | exact Or.inr (e)) (fun x k hx => by simp only [wJ_mSeals_isAbove_b34, F1.r] at hx; have e := hx; exact e)
  · refine fe_it fe_no ?_
    refine fe_it ?_ fe_no
    refine fe_I Fe.rf (Or.inr (rfl)) (fun h6 F2 => ?_)
    exact fe_j F2 (hk3 _ _ _ _ _ _) (fun x k hx => by simp only [wI_mSeals_isAbove_b3, F2.r] at hx; rcases hx with e | e <;> first | exact Or.inl (e) | exact Or.inr (e)) (fun x k hx => by simp only [wJ_mSeals_isAbove_b3, F2.r] at hx; have e := hx; exact e)
theorem fe_mSeals_isAbove_b3_lp (n : Nat) : ∀ (v0 : Nat) (v1 : Int) (v3 : Int) (v4 : Int) (v5 : Int) (h : Hp), Feo (wI_mSeals_isAbove_b3 v0 v1 v3 v4 v5 h) (wJ_mSeals_isAbove_b3 v0 v1 v3 v4 v5 h) h Prod.snd (f_mSeals_isAbove_b3_lp n v0 v1 v3 v4 v5 h) := by
  induction n with
  | zero => intro v0 v1 v3 v4 v5 h; exact fe_no
  | succ n ih => intro v0 v1 v3 v4 v5 h; exact fe_mSeals_isAbove_b3 ih v0 v1 v3 v4 v5 h
theorem fe_mSeals_isAbove (v0 : Nat) (v1 : Int) (v3 : Int) (v4 : Int) (h : Hp) : Feo (wI_mSeals_isAbove v0 v1 v3 v4 h) (wJ_mSeals_isAbove v0 v1 v3 v4 h) h Prod.snd (f_mSeals_isAbove v0 v1 v3 v4 h) := by
  unfold f_mSeals_isAbove
  exact fe_j Fe.rf (fe_mSeals_isAbove_b3_lp FU _ _ _ _ _ _) (fun x k hx => by simp only [wI_mSeals_isAbove_b3] at hx; rcases hx with e | e <;> first | exact Or.inl (e) | exact Or.inr (e)) (fun x k hx => by simp only [wJ_mSeals_isAbove_b3] at hx; have e := hx; exact e)
def wI_mSeals_rootOf_b35 (v0 : Nat) (v1 : Int) (v2 : Int) (v3 : Int) (v5 : Int) (h : Hp) (x k : Nat) : Prop := x = hR h v0 2 ∨ x = hR h v0 3
def wJ_mSeals_rootOf_b35 (v0 : Nat) (v1 : Int) (v2 : Int) (v3 : Int) (v5 : Int) (h : Hp) (x k : Nat) : Prop := x = hR h v0 5
def wI_mSeals_rootOf_b6 (v0 : Nat) (v1 : Int) (v2 : Int) (v3 : Int) (v5 : Int) (h : Hp) (x k : Nat) : Prop := x = hR h v0 2 ∨ x = hR h v0 3
def wJ_mSeals_rootOf_b6 (v0 : Nat) (v1 : Int) (v2 : Int) (v3 : Int) (v5 : Int) (h : Hp) (x k : Nat) : Prop := x = hR h v0 5
def wI_mSeals_rootOf (v0 : Nat) (v1 : Int) (v2 : Int) (h : Hp) (x k : Nat) : Prop := x = hR h v0 2 ∨ x = hR h v0 3
def wJ_mSeals_rootOf (v0 : Nat) (v1 : Int) (v2 : Int) (h : Hp) (x k : Nat) : Prop := x = hR h v0 5
theorem fe_mSeals_rootOf_b35 {k6 : Nat → Int → Int → Int → Int → Hp → Option (Int × Hp)} (hk6 : ∀ (v0 : Nat) (v1 : Int) (v2 : Int) (v3 : Int) (v5 : Int) (h : Hp), Feo (wI_mSeals_rootOf_b6 v0 v1 v2 v3 v5 h) (wJ_mSeals_rootOf_b6 v0 v1 v2 v3 v5 h) h Prod.snd (k6 v0 v1 v2 v3 v5 h)) (v0 : Nat) (v1 : Int) (v2 : Int) (v3 : Int) (v5 : Int) (h : Hp) : Feo (wI_mSeals_rootOf_b35 v0 v1 v2 v3 v5 h) (wJ_mSeals_rootOf_b35 v0 v1 v2 v3 v5 h) h Prod.snd (f_mSeals_rootOf_b35 k6 v0 v1 v2 v3 v5 h) := by
  unfold f_mSeals_rootOf_b35
  exact fe_j Fe.rf (hk6 _ _ _ _ _ _) (fun x k hx => by simp only [wI_mSeals_rootOf_b6] at hx; rcases hx with e | e <;> first | exact Or.inl (e) | exact Or.inr (e)) (fun x k hx => by simp only [wJ_mSeals_rootOf_b6] at hx; have e := hx; exact e)
theorem fe_mSeals_rootOf_b6 {k6 : Nat → Int → Int → Int → Int → Hp → Option (Int × Hp)} (hk6 : ∀ (v0 : Nat) (v1 : Int) (v2 : Int) (v3 : Int) (v5 : Int) (h : Hp), Feo (wI_mSeals_rootOf_b6 v0 v1 v2 v3 v5 h) (wJ_mSeals_rootOf_b6 v0 v1 v2 v3 v5 h) h Prod.snd (k6 v0 v1 v2 v3 v5 h)) (v0 : Nat) (v1 : Int) (v2 : Int) (v3 : Int) (v5 : Int) (h : Hp) : Feo (wI_mSeals_rootOf_b6 v0 v1 v2 v3 v5 h) (wJ_mSeals_rootOf_b6 v0 v1 v2 v3 v5 h) h Prod.snd (f_mSeals_rootOf_b6 k6 v0 v1 v2 v3 v5 h) := by
  unfold f_mSeals_rootOf_b6
  refine fe_it ?_ ?_
  · exact fe_so Fe.rf
  · refine fe_v (fun y1 => ?_)
    refine fe_b2 Fe.rf (fe_mSeals_isAbove _ _ _ _ _) (fun x k hx => by simp only [wI_mSeals_isAbove] at hx; rcases hx with e | e <;> first | exact Or.inl (e) | exact Or.inr (e)) (fun x k hx => by simp only [wJ_mSeals_isAbove] at hx; have e := hx; exact e) (fun r4 h2 F1 => ?_)
    refine fe_it ?_ ?_
    · exact fe_j F1 (fe_mSeals_rootOf_b35 hk6 _ _ _ _ _ _) (fun x k hx => by simp only [wI_mSeals_rootOf_b35, F1.r] at hx; rcases hx with e | e <;> first | exact Or.inl (e) | exact Or.inr (e)) (fun x k hx => by simp only [wJ_mSeals_rootOf_b35, F1.r] at hx; have e := hx; exact e)
    · refine fe_v (fun y5 => ?_)
      exact fe_j F1 (fe_mSeals_rootOf_b35 hk6 _ _ _ _ _ _) (fun x k hx => by simp only [wI_mSeals_rootOf_b35, F1.r] at hx; rcases hx with e | e <;> first | exact Or.inl (e) | exact Or.inr (e)) (fun x k hx => by simp only [wJ_mSeals_rootOf_b35, F1.r] at hx; have e := hx; exact e)
theorem fe_mSeals_rootOf_b6_lp (n : Nat) : ∀ (v0 : Nat) (v1 : Int) (v2 : Int) (v3 : Int) (v5 : Int) (h : Hp), Feo (wI_mSeals_rootOf_b6 v0 v1 v2 v3 v5 h) (wJ_mSeals_rootOf_b6 v0 v1 v2 v3 v5 h) h Prod.snd (f_mSeals_rootOf_b6_lp n v0 v1 v2 v3 v5 h) := by
  induction n with
  | zero => intro v0 v1 v2 v3 v5 h; exact fe_no
  | succ n ih => intro v0 v1 v2 v3 v5 h; exact fe_mSeals_rootOf_b6 ih v0 v1 v2 v3 v5 h
theorem fe_mSeals_rootOf (v0 : Nat) (v1 : Int) (v2 : Int) (h : Hp) : Feo (wI_mSeals_rootOf v0 v1 v2 h) (wJ_mSeals_rootOf v0 v1 v2 h) h Prod.snd (f_mSeals_rootOf v0 v1 v2 h) := by
  unfold f_mSeals_rootOf
  exact fe_j Fe.rf (fe_mSeals_rootOf_b6_lp FU _ _ _ _ _ _) (fun x k hx => by simp only [wI_mSeals_rootOf_b6] at hx; rcases hx with e | e <;> first | exact Or.inl (e) | exact Or.inr (e)) (fun x k hx => by simp only [wJ_mSeals_rootOf_b6] at hx; have e := hx; exact e)
def wI_mStreams_setGrant_b24 (v0 : Nat) (v1 : Int) (v2 : Int) (v3 : Int) (h : Hp) (x k : Nat) : Prop := x = hR h v0 6
def wJ_mStreams_setGrant_b24 (v0 : Nat) (v1 : Int) (v2 : Int) (v3 : Int) (h : Hp) (x k : Nat) : Prop := False
def wI_mStreams_setGrant (v0 : Nat) (v1 : Int) (v2 : Int) (v3 : Int) (h : Hp) (x k : Nat) : Prop := x = hR h v0 6
def wJ_mStreams_setGrant (v0 : Nat) (v1 : Int) (v2 : Int) (v3 : Int) (h : Hp) (x k : Nat) : Prop := x = hR h v0 0 ∨ x = hR h v0 9
theorem fe_mStreams_setGrant_b24 (v0 : Nat) (v1 : Int) (v2 : Int) (v3 : Int) (h : Hp) : Feo (wI_mStreams_setGrant_b24 v0 v1 v2 v3 h) (wJ_mStreams_setGrant_b24 v0 v1 v2 v3 h) h id (f_mStreams_setGrant_b24 v0 v1 v2 v3 h) := by
  unfold f_mStreams_setGrant_b24
  refine fe_it ?_ ?_
  · exact fe_so Fe.rf
  · refine fe_it fe_no ?_
    refine fe_it ?_ fe_no
    refine fe_I Fe.rf (rfl) (fun h9 F1 => ?_)
    exact fe_so F1
theorem fe_mStreams_setGrant (v0 : Nat) (v1 : Int) (v2 : Int) (v3 : Int) (h : Hp) : Feo (wI_mStreams_setGrant v0 v1 v2 v3 h) (wJ_mStreams_setGrant v0 v1 v2 v3 h) h id (f_mStreams_setGrant v0 v1 v2 v3 h) := by
  unfold f_mStreams_setGrant
  refine fe_it fe_no ?_
  refine fe_it ?_ fe_no
  refine fe_J Fe.rf (Or.inl (rfl)) (fun h3 F1 => ?_)
  refine fe_it ?_ ?_
  · exact fe_j F1 (fe_mStreams_setGrant_b24 _ _ _ _ _) (fun x k hx => by simp only [wI_mStreams_setGrant_b24, F1.r] at hx; have e := hx; exact e) (fun x k hx => False.elim hx)
  · refine fe_it fe_no ?_
    refine fe_it ?_ fe_no
    refine fe_J F1 (Or.inr ((by first | (simp only [F1.r]; exact rfl) | simp only [F1.r]))) (fun h6 F2 => ?_)
    exact fe_j F2 (fe_mStreams_setGrant_b24 _ _ _ _ _) (fun x k hx => by simp only [wI_mStreams_setGrant_b24, F1.r, F2.r] at hx; have e := hx; exact e) (fun x k hx => False.elim hx)
def wI_mP_set (v0 : Nat) (v1 : Int) (v2 : Int) (v3 : Int) (h : Hp) (x k : Nat) : Prop := x = hR h (hR h v0 6) 6
def wJ_mP_set (v0 : Nat) (v1 : Int) (v2 : Int) (v3 : Int) (h : Hp) (x k : Nat) : Prop := x = hR h (hR h (hR h v0 7) v1.toNat) 5 ∨ x = hR h (hR h v0 6) 0 ∨ x = hR h (hR h v0 6) 9
theorem fe_mP_set (v0 : Nat) (v1 : Int) (v2 : Int) (v3 : Int) (h : Hp) : Feo (wI_mP_set v0 v1 v2 v3 h) (wJ_mP_set v0 v1 v2 v3 h) h id (f_mP_set v0 v1 v2 v3 h) := by
  unfold f_mP_set
  refine fe_it fe_no ?_
  refine fe_it ?_ fe_no
  refine fe_it fe_no ?_
  refine fe_it fe_no ?_
  refine fe_it ?_ fe_no
  refine fe_J Fe.rf (Or.inl (rfl)) (fun h6 F1 => ?_)
  refine fe_it ?_ ?_
  · exact fe_so F1
  · refine fe_it fe_no ?_
    refine fe_b1 F1 (fe_mStreams_setGrant _ _ _ _ _) (fun x k hx => by simp only [wI_mStreams_setGrant, F1.r] at hx; have e := hx; exact e) (fun x k hx => by simp only [wJ_mStreams_setGrant, F1.r] at hx; rcases hx with e | e <;> first | exact Or.inr (Or.inl (e)) | exact Or.inr (Or.inr (e))) (fun h8 F2 => ?_)
    exact fe_so F2
def wI_mP_thrown (v0 : Nat) (h : Hp) (x k : Nat) : Prop := False
def wJ_mP_thrown (v0 : Nat) (h : Hp) (x k : Nat) : Prop := False
theorem fe_mP_thrown (v0 : Nat) (h : Hp) : Feo (wI_mP_thrown v0 h) (wJ_mP_thrown v0 h) h Prod.snd (f_mP_thrown v0 h) := by
  unfold f_mP_thrown
  exact fe_so Fe.rf
def wI_mP_fails_b10 (v0 : Nat) (v1 : Int) (s0 : Nat) (s1 : Int) (h : Hp) (x k : Nat) : Prop := (x = s0 ∧ k = 0)
def wJ_mP_fails_b10 (v0 : Nat) (v1 : Int) (s0 : Nat) (s1 : Int) (h : Hp) (x k : Nat) : Prop := False
def wI_mP_fails (v0 : Nat) (v1 : Int) (v2 : Int) (h : Hp) (x k : Nat) : Prop := (x = v0 ∧ k = 0)
def wJ_mP_fails (v0 : Nat) (v1 : Int) (v2 : Int) (h : Hp) (x k : Nat) : Prop := False
theorem fe_mP_fails_b10 (v0 : Nat) (v1 : Int) (s0 : Nat) (s1 : Int) (h : Hp) : Feo (wI_mP_fails_b10 v0 v1 s0 s1 h) (wJ_mP_fails_b10 v0 v1 s0 s1 h) h Prod.snd (f_mP_fails_b10 v0 v1 s0 s1 h) := by
  unfold f_mP_fails_b10
  refine fe_it fe_no ?_
  refine fe_I Fe.rf (⟨rfl, rfl⟩) (fun h2 F1 => ?_)
  refine fe_it ?_ fe_no
  exact fe_so F1
theorem fe_mP_fails (v0 : Nat) (v1 : Int) (v2 : Int) (h : Hp) : Feo (wI_mP_fails v0 v1 v2 h) (wJ_mP_fails v0 v1 v2 h) h Prod.snd (f_mP_fails v0 v1 v2 h) := by
  unfold f_mP_fails
  refine fe_it ?_ ?_
  · exact fe_j Fe.rf (fe_mP_fails_b10 _ _ _ _ _) (fun x k hx => by simp only [wI_mP_fails_b10] at hx; have e := hx; exact e) (fun x k hx => False.elim hx)
  · exact fe_j Fe.rf (fe_mP_fails_b10 _ _ _ _ _) (fun x k hx => by simp only [wI_mP_fails_b10] at hx; have e := hx; exact e) (fun x k hx => False.elim hx)
def wI_mP_no_b9 (h : Hp) (x k : Nat) : Prop := False
def wJ_mP_no_b9 (h : Hp) (x k : Nat) : Prop := False
def wI_mP_no (v0 : Int) (h : Hp) (x k : Nat) : Prop := False
def wJ_mP_no (v0 : Int) (h : Hp) (x k : Nat) : Prop := False
theorem fe_mP_no_b9 (h : Hp) : Feo (wI_mP_no_b9  h) (wJ_mP_no_b9  h) h Prod.snd (f_mP_no_b9  h) := by
  unfold f_mP_no_b9
  exact fe_so Fe.rf
theorem fe_mP_no (v0 : Int) (h : Hp) : Feo (wI_mP_no v0 h) (wJ_mP_no v0 h) h Prod.snd (f_mP_no v0 h) := by
  unfold f_mP_no
  refine fe_it ?_ ?_
  · exact fe_j Fe.rf (fe_mP_no_b9 _) (fun x k hx => False.elim hx) (fun x k hx => False.elim hx)
  · refine fe_it ?_ ?_
    · exact fe_so Fe.rf
    · exact fe_j Fe.rf (fe_mP_no_b9 _) (fun x k hx => False.elim hx) (fun x k hx => False.elim hx)
def wI_mP_feed_b83 (v0 : Nat) (v1 : Int) (v2 : Int) (v3 : Int) (v4 : Int) (v5 : Int) (v6 : Int) (s0 : Int) (h : Hp) (x k : Nat) : Prop := x = hR h v0 1 ∨ (x = v0 ∧ k = 2)
def wJ_mP_feed_b83 (v0 : Nat) (v1 : Int) (v2 : Int) (v3 : Int) (v4 : Int) (v5 : Int) (v6 : Int) (s0 : Int) (h : Hp) (x k : Nat) : Prop := False
def wI_mP_feed_b30 (v0 : Nat) (v1 : Int) (v2 : Int) (v3 : Int) (v4 : Int) (v5 : Int) (v6 : Int) (h : Hp) (x k : Nat) : Prop := x = hR h v0 1 ∨ (x = v0 ∧ k = 2)
def wJ_mP_feed_b30 (v0 : Nat) (v1 : Int) (v2 : Int) (v3 : Int) (v4 : Int) (v5 : Int) (v6 : Int) (h : Hp) (x k : Nat) : Prop := False
def wI_mP_feed_b18 (v0 : Nat) (v1 : Int) (v2 : Int) (v3 : Int) (v4 : Int) (v5 : Int) (s0 : Nat) (s1 : Int) (h : Hp) (x k : Nat) : Prop := x = hR h v0 1 ∨ (x = s0 ∧ k = 0) ∨ (x = v0 ∧ k = 2)
def wJ_mP_feed_b18 (v0 : Nat) (v1 : Int) (v2 : Int) (v3 : Int) (v4 : Int) (v5 : Int) (s0 : Nat) (s1 : Int) (h : Hp) (x k : Nat) : Prop := False
def wI_mP_feed (v0 : Nat) (v1 : Int) (v2 : Int) (v3 : Int) (v4 : Int) (v5 : Int) (h : Hp) (x k : Nat) : Prop := x = hR h v0 1 ∨ (x = v0 ∧ k = 0) ∨ (x = v0 ∧ k = 2)
def wJ_mP_feed (v0 : Nat) (v1 : Int) (v2 : Int) (v3 : Int) (v4 : Int) (v5 : Int) (h : Hp) (x k : Nat) : Prop := False
theorem fe_mP_feed_b83 {k30 : Nat → Int → Int → Int → Int → Int → Int → Hp → Option (Int × Hp)} (hk30 : ∀ (v0 : Nat) (v1 : Int) (v2 : Int) (v3 : Int) (v4 : Int) (v5 : Int) (v6 : Int) (h : Hp), Feo (wI_mP_feed_b30 v0 v1 v2 v3 v4 v5 v6 h) (wJ_mP_feed_b30 v0 v1 v2 v3 v4 v5 v6 h) h Prod.snd (k30 v0 v1 v2 v3 v4 v5 v6 h)) (v0 : Nat) (v1 : Int) (v2 : Int) (v3 : Int) (v4 : Int) (v5 : Int) (v6 : Int) (s0 : Int) (h : Hp) : Feo (wI_mP_feed_b83 v0 v1 v2 v3 v4 v5 v6 s0 h) (wJ_mP_feed_b83 v0 v1 v2 v3 v4 v5 v6 s0 h) h Prod.snd (f_mP_feed_b83 k30 v0 v1 v2 v3 v4 v5 v6 s0 h) := by
  unfold f_mP_feed_b83
  refine fe_it fe_no ?_
  refine fe_it ?_ fe_no
  refine fe_I Fe.rf (Or.inl (rfl)) (fun h7 F1 => ?_)
  refine fe_I F1 (Or.inr (⟨rfl, rfl⟩)) (fun h8 F2 => ?_)
  exact fe_j F2 (hk30 _ _ _ _ _ _ _ _) (fun x k hx => by simp only [wI_mP_feed_b30, F1.r, F2.r] at hx; rcases hx with e | e <;> first | exact Or.inl (e) | exact Or.inr (e)) (fun x k hx => False.elim hx)
theorem fe_mP_feed_b30 {k30 : Nat → Int → Int → Int → Int → Int → Int → Hp → Option (Int × Hp)} (hk30 : ∀ (v0 : Nat) (v1 : Int) (v2 : Int) (v3 : Int) (v4 : Int) (v5 : Int) (v6 : Int) (h : Hp), Feo (wI_mP_feed_b30 v0 v1 v2 v3 v4 v5 v6 h) (wJ_mP_feed_b30 v0 v1 v2 v3 v4 v5 v6 h) h Prod.snd (k30 v0 v1 v2 v3 v4 v5 v6 h)) (v0 : Nat) (v1 : Int) (v2 : Int) (v3 : Int) (v4 : Int) (v5 : Int) (v6 : Int) (h : Hp) : Feo (wI_mP_feed_b30 v0 v1 v2 v3 v4 v5 v6 h) (wJ_mP_feed_b30 v0 v1 v2 v3 v4 v5 v6 h) h Prod.snd (f_mP_feed_b30 k30 v0 v1 v2 v3 v4 v5 v6 h) := by
  unfold f_mP_feed_b30
  refine fe_it ?_ ?_
  · exact fe_so Fe.rf
  · refine fe_it ?_ ?_
    · refine fe_it ?_ ?_
      · refine fe_it ?_ ?_
        · refine fe_it ?_ ?_
          · exact fe_j Fe.rf (fe_mP_feed_b83 hk30 _ _ _ _ _ _ _ _ _) (fun x k hx => by simp only [wI_mP_feed_b83] at hx; rcases hx with e | e <;> first | exact Or.inl (e) | exact Or.inr (e)) (fun x k hx => False.elim hx)
          · exact fe_j Fe.rf (fe_mP_feed_b83 hk30 _ _ _ _ _ _ _ _ _) (fun x k hx => by simp only [wI_mP_feed_b83] at hx; rcases hx with e | e <;> first | exact Or.inl (e) | exact Or.inr (e)) (fun x k hx => False.elim hx)
        · exact fe_j Fe.rf (fe_mP_feed_b83 hk30 _ _ _ _ _ _ _ _ _) (fun x k hx => by simp only [wI_mP_feed_b83] at hx; rcases hx with e | e <;> first | exact Or.inl (e) | exact Or.inr (e)) (fun x k hx => False.elim hx)
      · exact fe_j Fe.rf (fe_mP_feed_b83 hk30 _ _ _ _ _ _ _ _ _) (fun x k hx => by simp only [wI_mP_feed_b83] at hx; rcases hx with e | e <;> first | exact Or.inl (e) | exact Or.inr (e)) (fun x k hx => False.elim hx)
    · exact fe_j Fe.rf (fe_mP_feed_b83 hk30 _ _ _ _ _ _ _ _ _) (fun x k hx => by simp only [wI_mP_feed_b83] at hx; rcases hx with e | e <;> first | exact Or.inl (e) | exact Or.inr (e)) (fun x k hx => False.elim hx)
theorem fe_mP_feed_b30_lp (n : Nat) : ∀ (v0 : Nat) (v1 : Int) (v2 : Int) (v3 : Int) (v4 : Int) (v5 : Int) (v6 : Int) (h : Hp), Feo (wI_mP_feed_b30 v0 v1 v2 v3 v4 v5 v6 h) (wJ_mP_feed_b30 v0 v1 v2 v3 v4 v5 v6 h) h Prod.snd (f_mP_feed_b30_lp n v0 v1 v2 v3 v4 v5 v6 h) := by
  induction n with
  | zero => intro v0 v1 v2 v3 v4 v5 v6 h; exact fe_no
  | succ n ih => intro v0 v1 v2 v3 v4 v5 v6 h; exact fe_mP_feed_b30 ih v0 v1 v2 v3 v4 v5 v6 h
theorem fe_mP_feed_b18 (v0 : Nat) (v1 : Int) (v2 : Int) (v3 : Int) (v4 : Int) (v5 : Int) (s0 : Nat) (s1 : Int) (h : Hp) : Feo (wI_mP_feed_b18 v0 v1 v2 v3 v4 v5 s0 s1 h) (wJ_mP_feed_b18 v0 v1 v2 v3 v4 v5 s0 s1 h) h Prod.snd (f_mP_feed_b18 v0 v1 v2 v3 v4 v5 s0 s1 h) := by
  unfold f_mP_feed_b18
  refine fe_it fe_no ?_
  refine fe_b2 Fe.rf (fe_mP_fails _ _ _ _) (fun x k hx => by simp only [wI_mP_fails] at hx; have e := hx; exact Or.inr (Or.inl (e))) (fun x k hx => False.elim hx) (fun r4 h2 F1 => ?_)
  refine fe_it ?_ ?_
  · exact fe_j F1 (fe_mP_feed_b30_lp FU _ _ _ _ _ _ _ _) (fun x k hx => by simp only [wI_mP_feed_b30, F1.r] at hx; rcases hx with e | e <;> first | exact Or.inl (e) | exact Or.inr (Or.inr (e))) (fun x k hx => False.elim hx)
  · exact fe_so F1
theorem fe_mP_feed (v0 : Nat) (v1 : Int) (v2 : Int) (v3 : Int) (v4 : Int) (v5 : Int) (h : Hp) : Feo (wI_mP_feed v0 v1 v2 v3 v4 v5 h) (wJ_mP_feed v0 v1 v2 v3 v4 v5 h) h Prod.snd (f_mP_feed v0 v1 v2 v3 v4 v5 h) := by
  unfold f_mP_feed
  refine fe_it ?_ ?_
  · exact fe_j Fe.rf (fe_mP_feed_b18 _ _ _ _ _ _ _ _ _) (fun x k hx => by simp only [wI_mP_feed_b18] at hx; rcases hx with e | e | e <;> first | exact Or.inl (e) | exact Or.inr (Or.inl (e)) | exact Or.inr (Or.inr (e))) (fun x k hx => False.elim hx)
  · exact fe_j Fe.rf (fe_mP_feed_b18 _ _ _ _ _ _ _ _ _) (fun x k hx => by simp only [wI_mP_feed_b18] at hx; rcases hx with e | e | e <;> first | exact Or.inl (e) | exact Or.inr (Or.inl (e)) | exact Or.inr (Or.inr (e))) (fun x k hx => False.elim hx)
def wI_mP_end_b18 (v0 : Nat) (v1 : Int) (s0 : Nat) (s1 : Int) (h : Hp) (x k : Nat) : Prop := (x = s0 ∧ k = 0) ∨ (x = v0 ∧ k = 2)
def wJ_mP_end_b18 (v0 : Nat) (v1 : Int) (s0 : Nat) (s1 : Int) (h : Hp) (x k : Nat) : Prop := False
def wI_mP_end_b13 (v0 : Nat) (v1 : Int) (s0 : Nat) (h : Hp) (x k : Nat) : Prop := (x = s0 ∧ k = 0) ∨ (x = v0 ∧ k = 2)
def wJ_mP_end_b13 (v0 : Nat) (v1 : Int) (s0 : Nat) (h : Hp) (x k : Nat) : Prop := False
def wI_mP_end (v0 : Nat) (v1 : Int) (h : Hp) (x k : Nat) : Prop := (x = v0 ∧ k = 0) ∨ (x = v0 ∧ k = 2)
def wJ_mP_end (v0 : Nat) (v1 : Int) (h : Hp) (x k : Nat) : Prop := False
theorem fe_mP_end_b18 (v0 : Nat) (v1 : Int) (s0 : Nat) (s1 : Int) (h : Hp) : Feo (wI_mP_end_b18 v0 v1 s0 s1 h) (wJ_mP_end_b18 v0 v1 s0 s1 h) h Prod.snd (f_mP_end_b18 v0 v1 s0 s1 h) := by
  unfold f_mP_end_b18
  refine fe_it fe_no ?_
  refine fe_b2 Fe.rf (fe_mP_fails _ _ _ _) (fun x k hx => by simp only [wI_mP_fails] at hx; have e := hx; exact Or.inl (e)) (fun x k hx => False.elim hx) (fun r4 h2 F1 => ?_)
  refine fe_it ?_ ?_
  · refine fe_v (fun y5 => ?_)
    refine fe_I F1 (Or.inr (⟨rfl, rfl⟩)) (fun h6 F2 => ?_)
    exact fe_so F2
  · exact fe_so F1
theorem fe_mP_end_b13 (v0 : Nat) (v1 : Int) (s0 : Nat) (h : Hp) : Feo (wI_mP_end_b13 v0 v1 s0 h) (wJ_mP_end_b13 v0 v1 s0 h) h Prod.snd (f_mP_end_b13 v0 v1 s0 h) := by
  unfold f_mP_end_b13
  exact fe_j Fe.rf (fe_mP_end_b18 _ _ _ _ _) (fun x k hx => by simp only [wI_mP_end_b18] at hx; rcases hx with e | e <;> first | exact Or.inl (e) | exact Or.inr (e)) (fun x k hx => False.elim hx)
theorem fe_mP_end (v0 : Nat) (v1 : Int) (h : Hp) : Feo (wI_mP_end v0 v1 h) (wJ_mP_end v0 v1 h) h Prod.snd (f_mP_end v0 v1 h) := by
  unfold f_mP_end
  refine fe_it ?_ ?_
  · exact fe_j Fe.rf (fe_mP_end_b13 _ _ _ _) (fun x k hx => by simp only [wI_mP_end_b13] at hx; rcases hx with e | e <;> first | exact Or.inl (e) | exact Or.inr (e)) (fun x k hx => False.elim hx)
  · refine fe_it ?_ ?_
    · exact fe_j Fe.rf (fe_mP_end_b18 _ _ _ _ _) (fun x k hx => by simp only [wI_mP_end_b18] at hx; rcases hx with e | e <;> first | exact Or.inl (e) | exact Or.inr (e)) (fun x k hx => False.elim hx)
    · exact fe_j Fe.rf (fe_mP_end_b13 _ _ _ _) (fun x k hx => by simp only [wI_mP_end_b13] at hx; rcases hx with e | e <;> first | exact Or.inl (e) | exact Or.inr (e)) (fun x k hx => False.elim hx)
def wI_mP_key_b57 (v0 : Nat) (v1 : Int) (v2 : Int) (h : Hp) (x k : Nat) : Prop := x = hR h (hR h (hR h (hR h v0 7) v1.toNat) 3) 2 ∨ (x = hR h (hR h v0 7) v1.toNat ∧ k = 6) ∨ (x = v0 ∧ k = 2)
def wJ_mP_key_b57 (v0 : Nat) (v1 : Int) (v2 : Int) (h : Hp) (x k : Nat) : Prop := False
def wI_mP_key_b47 (v0 : Nat) (v1 : Int) (s0 : Nat) (s1 : Int) (h : Hp) (x k : Nat) : Prop := x = hR h (hR h (hR h (hR h v0 7) v1.toNat) 3) 2 ∨ (x = hR h (hR h v0 7) v1.toNat ∧ k = 6) ∨ (x = s0 ∧ k = 0) ∨ (x = v0 ∧ k = 2)
def wJ_mP_key_b47 (v0 : Nat) (v1 : Int) (s0 : Nat) (s1 : Int) (h : Hp) (x k : Nat) : Prop := False
def wI_mP_key_b22 (v0 : Nat) (v1 : Int) (s0 : Nat) (s1 : Int) (h : Hp) (x k : Nat) : Prop := x = hR h (hR h (hR h (hR h v0 7) v1.toNat) 3) 2 ∨ (x = hR h (hR h v0 7) v1.toNat ∧ k = 6) ∨ (x = s0 ∧ k = 0) ∨ (x = v0 ∧ k = 0) ∨ (x = v0 ∧ k = 2)
def wJ_mP_key_b22 (v0 : Nat) (v1 : Int) (s0 : Nat) (s1 : Int) (h : Hp) (x k : Nat) : Prop := False
def wI_mP_key_b17 (v0 : Nat) (v1 : Int) (s0 : Nat) (h : Hp) (x k : Nat) : Prop := x = hR h (hR h (hR h (hR h v0 7) v1.toNat) 3) 2 ∨ (x = hR h (hR h v0 7) v1.toNat ∧ k = 6) ∨ (x = s0 ∧ k = 0) ∨ (x = v0 ∧ k = 0) ∨ (x = v0 ∧ k = 2)
def wJ_mP_key_b17 (v0 : Nat) (v1 : Int) (s0 : Nat) (h : Hp) (x k : Nat) : Prop := False
def wI_mP_key (v0 : Nat) (v1 : Int) (h : Hp) (x k : Nat) : Prop := x = hR h (hR h (hR h (hR h v0 7) v1.toNat) 3) 2 ∨ (x = hR h (hR h v0 7) v1.toNat ∧ k = 6) ∨ (x = v0 ∧ k = 0) ∨ (x = v0 ∧ k = 2)
def wJ_mP_key (v0 : Nat) (v1 : Int) (h : Hp) (x k : Nat) : Prop := False
theorem fe_mP_key_b57 {k57 : Nat → Int → Int → Hp → Option (Hp)} (hk57 : ∀ (v0 : Nat) (v1 : Int) (v2 : Int) (h : Hp), Feo (wI_mP_key_b57 v0 v1 v2 h) (wJ_mP_key_b57 v0 v1 v2 h) h id (k57 v0 v1 v2 h)) (v0 : Nat) (v1 : Int) (v2 : Int) (h : Hp) : Feo (wI_mP_key_b57 v0 v1 v2 h) (wJ_mP_key_b57 v0 v1 v2 h) h id (f_mP_key_b57 k57 v0 v1 v2 h) := by
  unfold f_mP_key_b57
  refine fe_it ?_ ?_
  · refine fe_it fe_no ?_
    refine fe_it ?_ fe_no
    refine fe_it fe_no ?_
    refine fe_I Fe.rf (Or.inr (Or.inl (⟨rfl, rfl⟩))) (fun h18 F1 => ?_)
    refine fe_I F1 (Or.inr (Or.inr (⟨rfl, rfl⟩))) (fun h19 F2 => ?_)
    exact fe_so F2
  · refine fe_it fe_no ?_
    refine fe_it ?_ fe_no
    refine fe_it fe_no ?_
    refine fe_it fe_no ?_
    refine fe_it fe_no ?_
    refine fe_it ?_ fe_no
    refine fe_it fe_no ?_
    refine fe_it ?_ fe_no
    refine fe_I Fe.rf (Or.inl (rfl)) (fun h28 F3 => ?_)
    exact fe_j F3 (hk57 _ _ _ _) (fun x k hx => by simp only [wI_mP_key_b57, F3.r] at hx; rcases hx with e | e | e <;> first | exact Or.inl (e) | exact Or.inr (Or.inl (e)) | exact Or.inr (Or.inr (e))) (fun x k hx => False.elim hx)
theorem fe_mP_key_b57_lp (n : Nat) : ∀ (v0 : Nat) (v1 : Int) (v2 : Int) (h : Hp), Feo (wI_mP_key_b57 v0 v1 v2 h) (wJ_mP_key_b57 v0 v1 v2 h) h id (f_mP_key_b57_lp n v0 v1 v2 h) := by
  induction n with
  | zero => intro v0 v1 v2 h; exact fe_no
  | succ n ih => intro v0 v1 v2 h; exact fe_mP_key_b57 ih v0 v1 v2 h
theorem fe_mP_key_b47 (v0 : Nat) (v1 : Int) (s0 : Nat) (s1 : Int) (h : Hp) : Feo (wI_mP_key_b47 v0 v1 s0 s1 h) (wJ_mP_key_b47 v0 v1 s0 s1 h) h id (f_mP_key_b47 v0 v1 s0 s1 h) := by
  unfold f_mP_key_b47
  refine fe_it fe_no ?_
  refine fe_b2 Fe.rf (fe_mP_fails _ _ _ _) (fun x k hx => by simp only [wI_mP_fails] at hx; have e := hx; exact Or.inr (Or.inr (Or.inl (e)))) (fun x k hx => False.elim hx) (fun r14 h12 F1 => ?_)
  refine fe_it ?_ ?_
  · exact fe_j F1 (fe_mP_key_b57_lp FU _ _ _ _) (fun x k hx => by simp only [wI_mP_key_b57, F1.r] at hx; rcases hx with e | e | e <;> first | exact Or.inl (e) | exact Or.inr (Or.inl (e)) | exact Or.inr (Or.inr (Or.inr (e)))) (fun x k hx => False.elim hx)
  · exact fe_so F1
theorem fe_mP_key_b22 (v0 : Nat) (v1 : Int) (s0 : Nat) (s1 : Int) (h : Hp) : Feo (wI_mP_key_b22 v0 v1 s0 s1 h) (wJ_mP_key_b22 v0 v1 s0 s1 h) h id (f_mP_key_b22 v0 v1 s0 s1 h) := by
  unfold f_mP_key_b22
  refine fe_it fe_no ?_
  refine fe_b2 Fe.rf (fe_mP_fails _ _ _ _) (fun x k hx => by simp only [wI_mP_fails] at hx; have e := hx; exact Or.inr (Or.inr (Or.inl (e)))) (fun x k hx => False.elim hx) (fun r7 h5 F1 => ?_)
  refine fe_it ?_ ?_
  · exact fe_so F1
  · refine fe_it fe_no ?_
    refine fe_it ?_ fe_no
    refine fe_it fe_no ?_
    refine fe_it ?_ ?_
    · exact fe_j F1 (fe_mP_key_b47 _ _ _ _ _) (fun x k hx => by simp only [wI_mP_key_b47, F1.r] at hx; rcases hx with e | e | e | e <;> first | exact Or.inl (e) | exact Or.inr (Or.inl (e)) | exact Or.inr (Or.inr (Or.inr (Or.inl (e)))) | exact Or.inr (Or.inr (Or.inr (Or.inr (e))))) (fun x k hx => False.elim hx)
    · exact fe_j F1 (fe_mP_key_b47 _ _ _ _ _) (fun x k hx => by simp only [wI_mP_key_b47, F1.r] at hx; rcases hx with e | e | e | e <;> first | exact Or.inl (e) | exact Or.inr (Or.inl (e)) | exact Or.inr (Or.inr (Or.inr (Or.inl (e)))) | exact Or.inr (Or.inr (Or.inr (Or.inr (e))))) (fun x k hx => False.elim hx)
theorem fe_mP_key_b17 (v0 : Nat) (v1 : Int) (s0 : Nat) (h : Hp) : Feo (wI_mP_key_b17 v0 v1 s0 h) (wJ_mP_key_b17 v0 v1 s0 h) h id (f_mP_key_b17 v0 v1 s0 h) := by
  unfold f_mP_key_b17
  exact fe_j Fe.rf (fe_mP_key_b22 _ _ _ _ _) (fun x k hx => by simp only [wI_mP_key_b22] at hx; rcases hx with e | e | e | e | e <;> first | exact Or.inl (e) | exact Or.inr (Or.inl (e)) | exact Or.inr (Or.inr (Or.inl (e))) | exact Or.inr (Or.inr (Or.inr (Or.inl (e)))) | exact Or.inr (Or.inr (Or.inr (Or.inr (e))))) (fun x k hx => False.elim hx)
theorem fe_mP_key (v0 : Nat) (v1 : Int) (h : Hp) : Feo (wI_mP_key v0 v1 h) (wJ_mP_key v0 v1 h) h id (f_mP_key v0 v1 h) := by
  unfold f_mP_key
  refine fe_b2 Fe.rf (fe_mP_no _ _) (fun x k hx => False.elim hx) (fun x k hx => False.elim hx) (fun r3 h1 F1 => ?_)
  refine fe_it ?_ ?_
  · exact fe_j F1 (fe_mP_key_b17 _ _ _ _) (fun x k hx => by simp only [wI_mP_key_b17, F1.r] at hx; rcases hx with e | e | e | e | e <;> first | exact Or.inl (e) | exact Or.inr (Or.inl (e)) | exact Or.inr (Or.inr (Or.inl (e))) | exact Or.inr (Or.inr (Or.inr (e)))) (fun x k hx => False.elim hx)
  · refine fe_it ?_ ?_
    · exact fe_j F1 (fe_mP_key_b22 _ _ _ _ _) (fun x k hx => by simp only [wI_mP_key_b22, F1.r] at hx; rcases hx with e | e | e | e | e <;> first | exact Or.inl (e) | exact Or.inr (Or.inl (e)) | exact Or.inr (Or.inr (Or.inl (e))) | exact Or.inr (Or.inr (Or.inr (e)))) (fun x k hx => False.elim hx)
    · exact fe_j F1 (fe_mP_key_b17 _ _ _ _) (fun x k hx => by simp only [wI_mP_key_b17, F1.r] at hx; rcases hx with e | e | e | e | e <;> first | exact Or.inl (e) | exact Or.inr (Or.inl (e)) | exact Or.inr (Or.inr (Or.inl (e))) | exact Or.inr (Or.inr (Or.inr (e)))) (fun x k hx => False.elim hx)
def wI_mP_random_b57 (v0 : Nat) (v1 : Int) (v2 : Int) (h : Hp) (x k : Nat) : Prop := x = hR h (hR h (hR h (hR h v0 7) v1.toNat) 3) 3 ∨ (x = hR h (hR h v0 7) v1.toNat ∧ k = 7) ∨ (x = v0 ∧ k = 2)
def wJ_mP_random_b57 (v0 : Nat) (v1 : Int) (v2 : Int) (h : Hp) (x k : Nat) : Prop := False
def wI_mP_random_b47 (v0 : Nat) (v1 : Int) (s0 : Nat) (s1 : Int) (h : Hp) (x k : Nat) : Prop := x = hR h (hR h (hR h (hR h v0 7) v1.toNat) 3) 3 ∨ (x = hR h (hR h v0 7) v1.toNat ∧ k = 7) ∨ (x = s0 ∧ k = 0) ∨ (x = v0 ∧ k = 2)
def wJ_mP_random_b47 (v0 : Nat) (v1 : Int) (s0 : Nat) (s1 : Int) (h : Hp) (x k : Nat) : Prop := False
def wI_mP_random_b22 (v0 : Nat) (v1 : Int) (s0 : Nat) (s1 : Int) (h : Hp) (x k : Nat) : Prop := x = hR h (hR h (hR h (hR h v0 7) v1.toNat) 3) 3 ∨ (x = hR h (hR h v0 7) v1.toNat ∧ k = 7) ∨ (x = s0 ∧ k = 0) ∨ (x = v0 ∧ k = 0) ∨ (x = v0 ∧ k = 2)
def wJ_mP_random_b22 (v0 : Nat) (v1 : Int) (s0 : Nat) (s1 : Int) (h : Hp) (x k : Nat) : Prop := False
def wI_mP_random_b17 (v0 : Nat) (v1 : Int) (s0 : Nat) (h : Hp) (x k : Nat) : Prop := x = hR h (hR h (hR h (hR h v0 7) v1.toNat) 3) 3 ∨ (x = hR h (hR h v0 7) v1.toNat ∧ k = 7) ∨ (x = s0 ∧ k = 0) ∨ (x = v0 ∧ k = 0) ∨ (x = v0 ∧ k = 2)
def wJ_mP_random_b17 (v0 : Nat) (v1 : Int) (s0 : Nat) (h : Hp) (x k : Nat) : Prop := False
def wI_mP_random (v0 : Nat) (v1 : Int) (h : Hp) (x k : Nat) : Prop := x = hR h (hR h (hR h (hR h v0 7) v1.toNat) 3) 3 ∨ (x = hR h (hR h v0 7) v1.toNat ∧ k = 7) ∨ (x = v0 ∧ k = 0) ∨ (x = v0 ∧ k = 2)
def wJ_mP_random (v0 : Nat) (v1 : Int) (h : Hp) (x k : Nat) : Prop := False
theorem fe_mP_random_b57 {k57 : Nat → Int → Int → Hp → Option (Hp)} (hk57 : ∀ (v0 : Nat) (v1 : Int) (v2 : Int) (h : Hp), Feo (wI_mP_random_b57 v0 v1 v2 h) (wJ_mP_random_b57 v0 v1 v2 h) h id (k57 v0 v1 v2 h)) (v0 : Nat) (v1 : Int) (v2 : Int) (h : Hp) : Feo (wI_mP_random_b57 v0 v1 v2 h) (wJ_mP_random_b57 v0 v1 v2 h) h id (f_mP_random_b57 k57 v0 v1 v2 h) := by
  unfold f_mP_random_b57
  refine fe_it ?_ ?_
  · refine fe_it fe_no ?_
    refine fe_it ?_ fe_no
    refine fe_it fe_no ?_
    refine fe_I Fe.rf (Or.inr (Or.inl (⟨rfl, rfl⟩))) (fun h18 F1 => ?_)
    refine fe_I F1 (Or.inr (Or.inr (⟨rfl, rfl⟩))) (fun h19 F2 => ?_)
    exact fe_so F2
  · refine fe_it fe_no ?_
    refine fe_it ?_ fe_no
    refine fe_it fe_no ?_
    refine fe_it fe_no ?_
    refine fe_it fe_no ?_
    refine fe_it ?_ fe_no
    refine fe_it fe_no ?_
    refine fe_it ?_ fe_no
    refine fe_I Fe.rf (Or.inl (rfl)) (fun h28 F3 => ?_)
    exact fe_j F3 (hk57 _ _ _ _) (fun x k hx => by simp only [wI_mP_random_b57, F3.r] at hx; rcases hx with e | e | e <;> first | exact Or.inl (e) | exact Or.inr (Or.inl (e)) | exact Or.inr (Or.inr (e))) (fun x k hx => False.elim hx)
theorem fe_mP_random_b57_lp (n : Nat) : ∀ (v0 : Nat) (v1 : Int) (v2 : Int) (h : Hp), Feo (wI_mP_random_b57 v0 v1 v2 h) (wJ_mP_random_b57 v0 v1 v2 h) h id (f_mP_random_b57_lp n v0 v1 v2 h) := by
  induction n with
  | zero => intro v0 v1 v2 h; exact fe_no
  | succ n ih => intro v0 v1 v2 h; exact fe_mP_random_b57 ih v0 v1 v2 h
theorem fe_mP_random_b47 (v0 : Nat) (v1 : Int) (s0 : Nat) (s1 : Int) (h : Hp) : Feo (wI_mP_random_b47 v0 v1 s0 s1 h) (wJ_mP_random_b47 v0 v1 s0 s1 h) h id (f_mP_random_b47 v0 v1 s0 s1 h) := by
  unfold f_mP_random_b47
  refine fe_it fe_no ?_
  refine fe_b2 Fe.rf (fe_mP_fails _ _ _ _) (fun x k hx => by simp only [wI_mP_fails] at hx; have e := hx; exact Or.inr (Or.inr (Or.inl (e)))) (fun x k hx => False.elim hx) (fun r14 h12 F1 => ?_)
  refine fe_it ?_ ?_
  · exact fe_j F1 (fe_mP_random_b57_lp FU _ _ _ _) (fun x k hx => by simp only [wI_mP_random_b57, F1.r] at hx; rcases hx with e | e | e <;> first | exact Or.inl (e) | exact Or.inr (Or.inl (e)) | exact Or.inr (Or.inr (Or.inr (e)))) (fun x k hx => False.elim hx)
  · exact fe_so F1
theorem fe_mP_random_b22 (v0 : Nat) (v1 : Int) (s0 : Nat) (s1 : Int) (h : Hp) : Feo (wI_mP_random_b22 v0 v1 s0 s1 h) (wJ_mP_random_b22 v0 v1 s0 s1 h) h id (f_mP_random_b22 v0 v1 s0 s1 h) := by
  unfold f_mP_random_b22
  refine fe_it fe_no ?_
  refine fe_b2 Fe.rf (fe_mP_fails _ _ _ _) (fun x k hx => by simp only [wI_mP_fails] at hx; have e := hx; exact Or.inr (Or.inr (Or.inl (e)))) (fun x k hx => False.elim hx) (fun r7 h5 F1 => ?_)
  refine fe_it ?_ ?_
  · exact fe_so F1
  · refine fe_it fe_no ?_
    refine fe_it ?_ fe_no
    refine fe_it fe_no ?_
    refine fe_it ?_ ?_
    · exact fe_j F1 (fe_mP_random_b47 _ _ _ _ _) (fun x k hx => by simp only [wI_mP_random_b47, F1.r] at hx; rcases hx with e | e | e | e <;> first | exact Or.inl (e) | exact Or.inr (Or.inl (e)) | exact Or.inr (Or.inr (Or.inr (Or.inl (e)))) | exact Or.inr (Or.inr (Or.inr (Or.inr (e))))) (fun x k hx => False.elim hx)
    · exact fe_j F1 (fe_mP_random_b47 _ _ _ _ _) (fun x k hx => by simp only [wI_mP_random_b47, F1.r] at hx; rcases hx with e | e | e | e <;> first | exact Or.inl (e) | exact Or.inr (Or.inl (e)) | exact Or.inr (Or.inr (Or.inr (Or.inl (e)))) | exact Or.inr (Or.inr (Or.inr (Or.inr (e))))) (fun x k hx => False.elim hx)
theorem fe_mP_random_b17 (v0 : Nat) (v1 : Int) (s0 : Nat) (h : Hp) : Feo (wI_mP_random_b17 v0 v1 s0 h) (wJ_mP_random_b17 v0 v1 s0 h) h id (f_mP_random_b17 v0 v1 s0 h) := by
  unfold f_mP_random_b17
  exact fe_j Fe.rf (fe_mP_random_b22 _ _ _ _ _) (fun x k hx => by simp only [wI_mP_random_b22] at hx; rcases hx with e | e | e | e | e <;> first | exact Or.inl (e) | exact Or.inr (Or.inl (e)) | exact Or.inr (Or.inr (Or.inl (e))) | exact Or.inr (Or.inr (Or.inr (Or.inl (e)))) | exact Or.inr (Or.inr (Or.inr (Or.inr (e))))) (fun x k hx => False.elim hx)
theorem fe_mP_random (v0 : Nat) (v1 : Int) (h : Hp) : Feo (wI_mP_random v0 v1 h) (wJ_mP_random v0 v1 h) h id (f_mP_random v0 v1 h) := by
  unfold f_mP_random
  refine fe_b2 Fe.rf (fe_mP_no _ _) (fun x k hx => False.elim hx) (fun x k hx => False.elim hx) (fun r3 h1 F1 => ?_)
  refine fe_it ?_ ?_
  · exact fe_j F1 (fe_mP_random_b17 _ _ _ _) (fun x k hx => by simp only [wI_mP_random_b17, F1.r] at hx; rcases hx with e | e | e | e | e <;> first | exact Or.inl (e) | exact Or.inr (Or.inl (e)) | exact Or.inr (Or.inr (Or.inl (e))) | exact Or.inr (Or.inr (Or.inr (e)))) (fun x k hx => False.elim hx)
  · refine fe_it ?_ ?_
    · exact fe_j F1 (fe_mP_random_b22 _ _ _ _ _) (fun x k hx => by simp only [wI_mP_random_b22, F1.r] at hx; rcases hx with e | e | e | e | e <;> first | exact Or.inl (e) | exact Or.inr (Or.inl (e)) | exact Or.inr (Or.inr (Or.inl (e))) | exact Or.inr (Or.inr (Or.inr (e)))) (fun x k hx => False.elim hx)
    · exact fe_j F1 (fe_mP_random_b17 _ _ _ _) (fun x k hx => by simp only [wI_mP_random_b17, F1.r] at hx; rcases hx with e | e | e | e | e <;> first | exact Or.inl (e) | exact Or.inr (Or.inl (e)) | exact Or.inr (Or.inr (Or.inl (e))) | exact Or.inr (Or.inr (Or.inr (e)))) (fun x k hx => False.elim hx)
