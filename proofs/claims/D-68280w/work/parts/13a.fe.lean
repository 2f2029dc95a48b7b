/-! effects (gen/fe.py) -/
def wI_cP_word (v0 : Nat) (v1 : Int) (h : Hp) (x k : Nat) : Prop := False
def wJ_cP_word (v0 : Nat) (v1 : Int) (h : Hp) (x k : Nat) : Prop := False
theorem fe_cP_word (v0 : Nat) (v1 : Int) (h : Hp) : Feo (wI_cP_word v0 v1 h) (wJ_cP_word v0 v1 h) h Prod.snd (f_cP_word v0 v1 h) := by
  unfold f_cP_word
  refine fe_it fe_no ?_
  refine fe_it ?_ fe_no
  refine fe_it ?_ fe_no
  refine fe_it ?_ fe_no
  refine fe_it ?_ fe_no
  exact fe_so Fe.rf
def wI_cP_sizeOf (v0 : Int) (h : Hp) (x k : Nat) : Prop := False
def wJ_cP_sizeOf (v0 : Int) (h : Hp) (x k : Nat) : Prop := False
theorem fe_cP_sizeOf (v0 : Int) (h : Hp) : Feo (wI_cP_sizeOf v0 h) (wJ_cP_sizeOf v0 h) h Prod.snd (f_cP_sizeOf v0 h) := by
  unfold f_cP_sizeOf
  refine fe_it ?_ ?_
  · refine fe_it ?_ ?_
    · refine fe_it ?_ ?_
      · exact fe_so Fe.rf
      · exact fe_so Fe.rf
    · exact fe_so Fe.rf
  · exact fe_so Fe.rf
def wI_cTrip_init (v0 : Nat) (h : Hp) (x k : Nat) : Prop := (x = v0 ∧ k = 0) ∨ (x = v0 ∧ k = 1) ∨ (x = v0 ∧ k = 3) ∨ (x = v0 ∧ k = 4)
def wJ_cTrip_init (v0 : Nat) (h : Hp) (x k : Nat) : Prop := False
theorem fe_cTrip_init (v0 : Nat) (h : Hp) : Feo (wI_cTrip_init v0 h) (wJ_cTrip_init v0 h) h id (f_cTrip_init v0 h) := by
  unfold f_cTrip_init
  refine fe_I Fe.rf (Or.inl (⟨rfl, rfl⟩)) (fun h1 F1 => ?_)
  refine fe_I F1 (Or.inr (Or.inl (⟨rfl, rfl⟩))) (fun h2 F2 => ?_)
  refine fe_I F2 (Or.inr (Or.inr (Or.inl (⟨rfl, rfl⟩)))) (fun h3 F3 => ?_)
  refine fe_I F3 (Or.inr (Or.inr (Or.inr (⟨rfl, rfl⟩)))) (fun h4 F4 => ?_)
  exact fe_so F4
def wI_cWindow_init (v0 : Nat) (h : Hp) (x k : Nat) : Prop := (x = v0 ∧ k = 0) ∨ (x = v0 ∧ k = 1) ∨ (x = v0 ∧ k = 2)
def wJ_cWindow_init (v0 : Nat) (h : Hp) (x k : Nat) : Prop := False
theorem fe_cWindow_init (v0 : Nat) (h : Hp) : Feo (wI_cWindow_init v0 h) (wJ_cWindow_init v0 h) h id (f_cWindow_init v0 h) := by
  unfold f_cWindow_init
  refine fe_I Fe.rf (Or.inl (⟨rfl, rfl⟩)) (fun h1 F1 => ?_)
  refine fe_I F1 (Or.inr (Or.inl (⟨rfl, rfl⟩))) (fun h2 F2 => ?_)
  refine fe_I F2 (Or.inr (Or.inr (⟨rfl, rfl⟩))) (fun h3 F3 => ?_)
  exact fe_so F3
def wI_cParameters_isBytes_b21 (h : Hp) (x k : Nat) : Prop := False
def wJ_cParameters_isBytes_b21 (h : Hp) (x k : Nat) : Prop := False
def wI_cParameters_isBytes (v0 : Int) (h : Hp) (x k : Nat) : Prop := False
def wJ_cParameters_isBytes (v0 : Int) (h : Hp) (x k : Nat) : Prop := False
theorem fe_cParameters_isBytes_b21 (h : Hp) : Feo (wI_cParameters_isBytes_b21  h) (wJ_cParameters_isBytes_b21  h) h Prod.snd (f_cParameters_isBytes_b21  h) := by
  unfold f_cParameters_isBytes_b21
  exact fe_so Fe.rf
theorem fe_cParameters_isBytes (v0 : Int) (h : Hp) : Feo (wI_cParameters_isBytes v0 h) (wJ_cParameters_isBytes v0 h) h Prod.snd (f_cParameters_isBytes v0 h) := by
  unfold f_cParameters_isBytes
  refine fe_it ?_ ?_
  · exact fe_j Fe.rf (fe_cParameters_isBytes_b21 _) (fun x k hx => False.elim hx) (fun x k hx => False.elim hx)
  · refine fe_it ?_ ?_
    · exact fe_j Fe.rf (fe_cParameters_isBytes_b21 _) (fun x k hx => False.elim hx) (fun x k hx => False.elim hx)
    · refine fe_it ?_ ?_
      · exact fe_j Fe.rf (fe_cParameters_isBytes_b21 _) (fun x k hx => False.elim hx) (fun x k hx => False.elim hx)
      · refine fe_it ?_ ?_
        · exact fe_so Fe.rf
        · exact fe_j Fe.rf (fe_cParameters_isBytes_b21 _) (fun x k hx => False.elim hx) (fun x k hx => False.elim hx)
def wI_cParameters_forget_b34 (v0 : Nat) (v1 : Int) (s0 : Nat) (s1 : Int) (s2 : Int) (h : Hp) (x k : Nat) : Prop := x = hR h v0 1 ∨ x = hR h v0 2
def wJ_cParameters_forget_b34 (v0 : Nat) (v1 : Int) (s0 : Nat) (s1 : Int) (s2 : Int) (h : Hp) (x k : Nat) : Prop := x = (hR h v0 0) ∨ x = hR h v0 0 ∨ x = s0
def wI_cParameters_forget_b2 (v0 : Nat) (v1 : Int) (h : Hp) (x k : Nat) : Prop := x = hR h v0 1 ∨ x = hR h v0 2
def wJ_cParameters_forget_b2 (v0 : Nat) (v1 : Int) (h : Hp) (x k : Nat) : Prop := x = (hR h v0 0) ∨ x = hR h v0 0
def wI_cParameters_forget (v0 : Nat) (h : Hp) (x k : Nat) : Prop := x = hR h v0 1 ∨ x = hR h v0 2
def wJ_cParameters_forget (v0 : Nat) (h : Hp) (x k : Nat) : Prop := x = (hR h v0 0) ∨ x = hR h v0 0
theorem fe_cParameters_forget_b34 {k2 : Nat → Int → Hp → Option (Hp)} (hk2 : ∀ (v0 : Nat) (v1 : Int) (h : Hp), Feo (wI_cParameters_forget_b2 v0 v1 h) (wJ_cParameters_forget_b2 v0 v1 h) h id (k2 v0 v1 h)) (v0 : Nat) (v1 : Int) (s0 : Nat) (s1 : Int) (s2 : Int) (h : Hp) : Feo (wI_cParameters_forget_b34 v0 v1 s0 s1 s2 h) (wJ_cParameters_forget_b34 v0 v1 s0 s1 s2 h) h id (f_cParameters_forget_b34 k2 v0 v1 s0 s1 s2 h) := by
  unfold f_cParameters_forget_b34
  refine fe_it fe_no ?_
  refine fe_it ?_ fe_no
  refine fe_J Fe.rf (Or.inr (Or.inr (rfl))) (fun h21 F1 => ?_)
  refine fe_it fe_no ?_
  refine fe_it ?_ fe_no
  refine fe_I F1 (Or.inr ((by first | (simp only [F1.r]; exact rfl) | simp only [F1.r]))) (fun h24 F2 => ?_)
  exact fe_j F2 (hk2 _ _ _) (fun x k hx => by simp only [wI_cParameters_forget_b2, F1.r, F2.r] at hx; rcases hx with e | e <;> first | exact Or.inl (e) | exact Or.inr (e)) (fun x k hx => by simp only [wJ_cParameters_forget_b2, F1.r, F2.r] at hx; rcases hx with e | e <;> first | exact Or.inl (e) | exact Or.inr (Or.inl (e)))
theorem fe_cParameters_forget_b2 {k2 : Nat → Int → Hp → Option (Hp)} (hk2 : ∀ (v0 : Nat) (v1 : Int) (h : Hp), Feo (wI_cParameters_forget_b2 v0 v1 h) (wJ_cParameters_forget_b2 v0 v1 h) h id (k2 v0 v1 h)) (v0 : Nat) (v1 : Int) (h : Hp) : Feo (wI_cParameters_forget_b2 v0 v1 h) (wJ_cParameters_forget_b2 v0 v1 h) h id (f_cParameters_forget_b2 k2 v0 v1 h) := by
  unfold f_cParameters_forget_b2
  refine fe_it ?_ ?_
  · refine fe_it fe_no ?_
    refine fe_it ?_ fe_no
    refine fe_J Fe.rf (Or.inr (rfl)) (fun h3 F1 => ?_)
    refine fe_it fe_no ?_
    refine fe_it ?_ fe_no
    refine fe_J F1 (Or.inr ((by first | (simp only [F1.r]; exact rfl) | simp only [F1.r]))) (fun h6 F2 => ?_)
    refine fe_it fe_no ?_
    refine fe_it ?_ fe_no
    refine fe_J F2 (Or.inr ((by first | (simp only [F1.r, F2.r]; exact rfl) | simp only [F1.r, F2.r]))) (fun h9 F3 => ?_)
    refine fe_it fe_no ?_
    refine fe_it ?_ fe_no
    refine fe_J F3 (Or.inr ((by first | (simp only [F1.r, F2.r, F3.r]; exact rfl) | simp only [F1.r, F2.r, F3.r]))) (fun h12 F4 => ?_)
    exact fe_so F4
  · refine fe_it fe_no ?_
    refine fe_it ?_ fe_no
    refine fe_I Fe.rf (Or.inl (rfl)) (fun h15 F5 => ?_)
    refine fe_b2 F5 (fe_cParameters_isBytes _ _) (fun x k hx => False.elim hx) (fun x k hx => False.elim hx) (fun r18 h16 F6 => ?_)
    refine fe_it ?_ ?_
    · exact fe_j F6 (fe_cParameters_forget_b34 hk2 _ _ _ _ _ _) (fun x k hx => by simp only [wI_cParameters_forget_b34, F5.r, F6.r] at hx; rcases hx with e | e <;> first | exact Or.inl (e) | exact Or.inr (e)) (fun x k hx => by simp only [wJ_cParameters_forget_b34, F5.r, F6.r] at hx; rcases hx with e | e | e <;> first | exact Or.inl (e) | exact Or.inr (e))
    · exact fe_j F6 (fe_cParameters_forget_b34 hk2 _ _ _ _ _ _) (fun x k hx => by simp only [wI_cParameters_forget_b34, F5.r, F6.r] at hx; rcases hx with e | e <;> first | exact Or.inl (e) | exact Or.inr (e)) (fun x k hx => by simp only [wJ_cParameters_forget_b34, F5.r, F6.r] at hx; rcases hx with e | e | e <;> first | exact Or.inl (e) | exact Or.inr (e))
theorem fe_cParameters_forget_b2_lp (n : Nat) : ∀ (v0 : Nat) (v1 : Int) (h : Hp), Feo (wI_cParameters_forget_b2 v0 v1 h) (wJ_cParameters_forget_b2 v0 v1 h) h id (f_cParameters_forget_b2_lp n v0 v1 h) := by
  induction n with
  | zero => intro v0 v1 h; exact fe_no
  | succ n ih => intro v0 v1 h; exact fe_cParameters_forget_b2 ih v0 v1 h
theorem fe_cParameters_forget (v0 : Nat) (h : Hp) : Feo (wI_cParameters_forget v0 h) (wJ_cParameters_forget v0 h) h id (f_cParameters_forget v0 h) := by
  unfold f_cParameters_forget
  exact fe_j Fe.rf (fe_cParameters_forget_b2_lp FU _ _ _) (fun x k hx => by simp only [wI_cParameters_forget_b2] at hx; rcases hx with e | e <;> first | exact Or.inl (e) | exact Or.inr (e)) (fun x k hx => by simp only [wJ_cParameters_forget_b2] at hx; rcases hx with e | e <;> first | exact Or.inl (e) | exact Or.inr (e))
def wI_cBytes_init (v0 : Nat) (h : Hp) (x k : Nat) : Prop := False
def wJ_cBytes_init (v0 : Nat) (h : Hp) (x k : Nat) : Prop := False
theorem fe_cBytes_init (v0 : Nat) (h : Hp) : Feo (wI_cBytes_init v0 h) (wJ_cBytes_init v0 h) h id (f_cBytes_init v0 h) := by
  unfold f_cBytes_init
  exact fe_so Fe.rf
def wI_cHeader_init (v0 : Nat) (h : Hp) (x k : Nat) : Prop := False
def wJ_cHeader_init (v0 : Nat) (h : Hp) (x k : Nat) : Prop := False
theorem fe_cHeader_init (v0 : Nat) (h : Hp) : Feo (wI_cHeader_init v0 h) (wJ_cHeader_init v0 h) h id (f_cHeader_init v0 h) := by
  unfold f_cHeader_init
  exact fe_so Fe.rf
def wI_cWay_init (v0 : Nat) (h : Hp) (x k : Nat) : Prop := False
def wJ_cWay_init (v0 : Nat) (h : Hp) (x k : Nat) : Prop := (x = v0 ∧ k = 4) ∨ (x = v0 ∧ k = 5)
theorem fe_cWay_init (v0 : Nat) (h : Hp) : Feo (wI_cWay_init v0 h) (wJ_cWay_init v0 h) h id (f_cWay_init v0 h) := by
  unfold f_cWay_init
  refine fe_J Fe.rf (Or.inl (⟨rfl, rfl⟩)) (fun h1 F1 => ?_)
  refine fe_J F1 (Or.inr (⟨rfl, rfl⟩)) (fun h2 F2 => ?_)
  exact fe_so F2
def wI_cHall_grants (v0 : Nat) (v1 : Int) (v2 : Int) (v3 : Int) (v4 : Int) (v5 : Int) (v6 : Int) (h : Hp) (x k : Nat) : Prop := (x = hR h (hR h v0 3) 0 ∧ k = 2) ∨ (x = hR h (hR h v0 3) 1 ∧ k = 2) ∨ x = hR h v0 4 ∨ (x = v0 ∧ k = 14)
def wJ_cHall_grants (v0 : Nat) (v1 : Int) (v2 : Int) (v3 : Int) (v4 : Int) (v5 : Int) (v6 : Int) (h : Hp) (x k : Nat) : Prop := False
theorem fe_cHall_grants (v0 : Nat) (v1 : Int) (v2 : Int) (v3 : Int) (v4 : Int) (v5 : Int) (v6 : Int) (h : Hp) : Feo (wI_cHall_grants v0 v1 v2 v3 v4 v5 v6 h) (wJ_cHall_grants v0 v1 v2 v3 v4 v5 v6 h) h id (f_cHall_grants v0 v1 v2 v3 v4 v5 v6 h) := by
  unfold f_cHall_grants
  refine fe_it fe_no ?_
  refine fe_it ?_ fe_no
  refine fe_I Fe.rf (Or.inr (Or.inr (Or.inl (rfl)))) (fun h3 F1 => ?_)
  refine fe_it fe_no ?_
  refine fe_it ?_ fe_no
  refine fe_I F1 (Or.inr (Or.inr (Or.inl ((by first | (simp only [F1.r]; exact rfl) | simp only [F1.r]))))) (fun h6 F2 => ?_)
  refine fe_it fe_no ?_
  refine fe_it ?_ fe_no
  refine fe_I F2 (Or.inr (Or.inr (Or.inl ((by first | (simp only [F1.r, F2.r]; exact rfl) | simp only [F1.r, F2.r]))))) (fun h9 F3 => ?_)
  refine fe_it fe_no ?_
  refine fe_it ?_ fe_no
  refine fe_I F3 (Or.inr (Or.inr (Or.inl ((by first | (simp only [F1.r, F2.r, F3.r]; exact rfl) | simp only [F1.r, F2.r, F3.r]))))) (fun h12 F4 => ?_)
  refine fe_it fe_no ?_
  refine fe_it ?_ fe_no
  refine fe_I F4 (Or.inr (Or.inr (Or.inl ((by first | (simp only [F1.r, F2.r, F3.r, F4.r]; exact rfl) | simp only [F1.r, F2.r, F3.r, F4.r]))))) (fun h15 F5 => ?_)
  refine fe_it fe_no ?_
  refine fe_it ?_ fe_no
  refine fe_I F5 (Or.inr (Or.inr (Or.inl ((by first | (simp only [F1.r, F2.r, F3.r, F4.r, F5.r]; exact rfl) | simp only [F1.r, F2.r, F3.r, F4.r, F5.r]))))) (fun h18 F6 => ?_)
  refine fe_I F6 (Or.inr (Or.inr (Or.inr (⟨rfl, rfl⟩)))) (fun h19 F7 => ?_)
  refine fe_it fe_no ?_
  refine fe_it ?_ fe_no
  refine fe_it fe_no ?_
  refine fe_I F7 (Or.inl (⟨(by first | (simp only [F1.r, F2.r, F3.r, F4.r, F5.r, F6.r, F7.r]; exact rfl) | simp only [F1.r, F2.r, F3.r, F4.r, F5.r, F6.r, F7.r]), rfl⟩)) (fun h23 F8 => ?_)
  refine fe_it fe_no ?_
  refine fe_it ?_ fe_no
  refine fe_it fe_no ?_
  refine fe_I F8 (Or.inr (Or.inl (⟨(by first | (simp only [F1.r, F2.r, F3.r, F4.r, F5.r, F6.r, F7.r, F8.r]; exact rfl) | simp only [F1.r, F2.r, F3.r, F4.r, F5.r, F6.r, F7.r, F8.r]), rfl⟩))) (fun h27 F9 => ?_)
  exact fe_so F9
def wI_cSide_grants (v0 : Nat) (h : Hp) (x k : Nat) : Prop := (x = (hR h v0 11) ∧ k = 14) ∨ (x = hR h (hR h (hR h v0 11) 3) 0 ∧ k = 2) ∨ (x = hR h (hR h (hR h v0 11) 3) 1 ∧ k = 2) ∨ x = hR h (hR h v0 11) 4
def wJ_cSide_grants (v0 : Nat) (h : Hp) (x k : Nat) : Prop := False
theorem fe_cSide_grants (v0 : Nat) (h : Hp) : Feo (wI_cSide_grants v0 h) (wJ_cSide_grants v0 h) h id (f_cSide_grants v0 h) := by
  unfold f_cSide_grants
  refine fe_it fe_no ?_
  refine fe_it ?_ fe_no
  refine fe_it ?_ fe_no
  refine fe_it ?_ fe_no
  refine fe_it ?_ fe_no
  refine fe_it ?_ fe_no
  refine fe_it ?_ fe_no
  refine fe_it fe_no ?_
  refine fe_b1 Fe.rf (fe_cHall_grants _ _ _ _ _ _ _ _) (fun x k hx => by simp only [wI_cHall_grants] at hx; rcases hx with e | e | e | e <;> first | exact Or.inl (e) | exact Or.inr (Or.inl (e)) | exact Or.inr (Or.inr (Or.inl (e))) | exact Or.inr (Or.inr (Or.inr (e)))) (fun x k hx => False.elim hx) (fun h9 F1 => ?_)
  exact fe_so F1
def wI_cP_in (v0 : Int) (v2 : Int) (v4 : Int) (h : Hp) (x k : Nat) : Prop := False
def wJ_cP_in (v0 : Int) (v2 : Int) (v4 : Int) (h : Hp) (x k : Nat) : Prop := False
theorem fe_cP_in (v0 : Int) (v2 : Int) (v4 : Int) (h : Hp) : Feo (wI_cP_in v0 v2 v4 h) (wJ_cP_in v0 v2 v4 h) h Prod.snd (f_cP_in v0 v2 v4 h) := by
  unfold f_cP_in
  refine fe_it ?_ ?_
  · exact fe_so Fe.rf
  · refine fe_it ?_ ?_
    · exact fe_so Fe.rf
    · exact fe_so Fe.rf
def wI_cP_used (v0 : Nat) (h : Hp) (x k : Nat) : Prop := (x = v0 ∧ k = 2)
def wJ_cP_used (v0 : Nat) (h : Hp) (x k : Nat) : Prop := False
theorem fe_cP_used (v0 : Nat) (h : Hp) : Feo (wI_cP_used v0 h) (wJ_cP_used v0 h) h Prod.snd (f_cP_used v0 h) := by
  unfold f_cP_used
  refine fe_v (fun y1 => ?_)
  refine fe_I Fe.rf (⟨rfl, rfl⟩) (fun h2 F1 => ?_)
  exact fe_so F1
def wI_cHash_begin (v0 : Nat) (h : Hp) (x k : Nat) : Prop := x = hR h v0 0 ∨ (x = v0 ∧ k = 3)
def wJ_cHash_begin (v0 : Nat) (h : Hp) (x k : Nat) : Prop := (x = v0 ∧ k = 4)
theorem fe_cHash_begin (v0 : Nat) (h : Hp) : Feo (wI_cHash_begin v0 h) (wJ_cHash_begin v0 h) h id (f_cHash_begin v0 h) := by
  unfold f_cHash_begin
  refine fe_it fe_no ?_
  refine fe_it fe_no ?_
  refine fe_it ?_ fe_no
  refine fe_cI Fe.rf (fun y => Or.inl (rfl)) (fun h4 F1 => ?_)
  refine fe_I F1 (Or.inr (⟨rfl, rfl⟩)) (fun h5 F2 => ?_)
  refine fe_J F2 (⟨rfl, rfl⟩) (fun h6 F3 => ?_)
  exact fe_so F3
def wI_jInteger_rotateRight (v0 : Int) (v1 : Int) (h : Hp) (x k : Nat) : Prop := False
def wJ_jInteger_rotateRight (v0 : Int) (v1 : Int) (h : Hp) (x k : Nat) : Prop := False
theorem fe_jInteger_rotateRight (v0 : Int) (v1 : Int) (h : Hp) : Feo (wI_jInteger_rotateRight v0 v1 h) (wJ_jInteger_rotateRight v0 v1 h) h Prod.snd (f_jInteger_rotateRight v0 v1 h) := by
  unfold f_jInteger_rotateRight
  exact fe_so Fe.rf
def wI_cHash_spread_b89 (v0 : Nat) (v1 : Int) (h : Hp) (x k : Nat) : Prop := x = hR h v0 1
def wJ_cHash_spread_b89 (v0 : Nat) (v1 : Int) (h : Hp) (x k : Nat) : Prop := False
def wI_cHash_spread_b2 (v0 : Nat) (v1 : Int) (h : Hp) (x k : Nat) : Prop := x = hR h v0 1
def wJ_cHash_spread_b2 (v0 : Nat) (v1 : Int) (h : Hp) (x k : Nat) : Prop := False
def wI_cHash_spread (v0 : Nat) (h : Hp) (x k : Nat) : Prop := x = hR h v0 1
def wJ_cHash_spread (v0 : Nat) (h : Hp) (x k : Nat) : Prop := False
theorem fe_cHash_spread_b89 {k89 : Nat → Int → Hp → Option (Hp)} (hk89 : ∀ (v0 : Nat) (v1 : Int) (h : Hp), Feo (wI_cHash_spread_b89 v0 v1 h) (wJ_cHash_spread_b89 v0 v1 h) h id (k89 v0 v1 h)) (v0 : Nat) (v1 : Int) (h : Hp) : Feo (wI_cHash_spread_b89 v0 v1 h) (wJ_cHash_spread_b89 v0 v1 h) h id (f_cHash_spread_b89 k89 v0 v1 h) := by
  unfold f_cHash_spread_b89
  refine fe_it ?_ ?_
  · exact fe_so Fe.rf
  · refine fe_it fe_no ?_
    refine fe_it ?_ fe_no
    refine fe_v (fun y11 => ?_)
    refine fe_it ?_ fe_no
    refine fe_v (fun y13 => ?_)
    refine fe_b2 Fe.rf (fe_jInteger_rotateRight _ _ _) (fun x k hx => False.elim hx) (fun x k hx => False.elim hx) (fun r16 h14 F1 => ?_)
    refine fe_b2 F1 (fe_jInteger_rotateRight _ _ _) (fun x k hx => False.elim hx) (fun x k hx => False.elim hx) (fun r19 h17 F2 => ?_)
    refine fe_v (fun y20 => ?_)
    refine fe_b2 F2 (fe_jInteger_rotateRight _ _ _) (fun x k hx => False.elim hx) (fun x k hx => False.elim hx) (fun r23 h21 F3 => ?_)
    refine fe_b2 F3 (fe_jInteger_rotateRight _ _ _) (fun x k hx => False.elim hx) (fun x k hx => False.elim hx) (fun r26 h24 F4 => ?_)
    refine fe_v (fun y27 => ?_)
    refine fe_it fe_no ?_
    refine fe_it ?_ fe_no
    refine fe_it ?_ fe_no
    refine fe_it ?_ fe_no
    refine fe_I F4 ((by first | (simp only [F1.r, F2.r, F3.r, F4.r]; exact rfl) | simp only [F1.r, F2.r, F3.r, F4.r])) (fun h32 F5 => ?_)
    exact fe_j F5 (hk89 _ _ _) (fun x k hx => by simp only [wI_cHash_spread_b89, F1.r, F2.r, F3.r, F4.r, F5.r] at hx; have e := hx; exact e) (fun x k hx => False.elim hx)
theorem fe_cHash_spread_b89_lp (n : Nat) : ∀ (v0 : Nat) (v1 : Int) (h : Hp), Feo (wI_cHash_spread_b89 v0 v1 h) (wJ_cHash_spread_b89 v0 v1 h) h id (f_cHash_spread_b89_lp n v0 v1 h) := by
  induction n with
  | zero => intro v0 v1 h; exact fe_no
  | succ n ih => intro v0 v1 h; exact fe_cHash_spread_b89 ih v0 v1 h
theorem fe_cHash_spread_b2 {k2 : Nat → Int → Hp → Option (Hp)} (hk2 : ∀ (v0 : Nat) (v1 : Int) (h : Hp), Feo (wI_cHash_spread_b2 v0 v1 h) (wJ_cHash_spread_b2 v0 v1 h) h id (k2 v0 v1 h)) (v0 : Nat) (v1 : Int) (h : Hp) : Feo (wI_cHash_spread_b2 v0 v1 h) (wJ_cHash_spread_b2 v0 v1 h) h id (f_cHash_spread_b2 k2 v0 v1 h) := by
  unfold f_cHash_spread_b2
  refine fe_it ?_ ?_
  · exact fe_j Fe.rf (fe_cHash_spread_b89_lp FU _ _ _) (fun x k hx => by simp only [wI_cHash_spread_b89] at hx; have e := hx; exact e) (fun x k hx => False.elim hx)
  · refine fe_it fe_no ?_
    refine fe_it ?_ fe_no
    refine fe_it ?_ fe_no
    refine fe_it ?_ fe_no
    refine fe_it ?_ fe_no
    refine fe_it fe_no ?_
    refine fe_it ?_ fe_no
    refine fe_I Fe.rf (rfl) (fun h8 F1 => ?_)
    exact fe_j F1 (hk2 _ _ _) (fun x k hx => by simp only [wI_cHash_spread_b2, F1.r] at hx; have e := hx; exact e) (fun x k hx => False.elim hx)
theorem fe_cHash_spread_b2_lp (n : Nat) : ∀ (v0 : Nat) (v1 : Int) (h : Hp), Feo (wI_cHash_spread_b2 v0 v1 h) (wJ_cHash_spread_b2 v0 v1 h) h id (f_cHash_spread_b2_lp n v0 v1 h) := by
  induction n with
  | zero => intro v0 v1 h; exact fe_no
  | succ n ih => intro v0 v1 h; exact fe_cHash_spread_b2 ih v0 v1 h
theorem fe_cHash_spread (v0 : Nat) (h : Hp) : Feo (wI_cHash_spread v0 h) (wJ_cHash_spread v0 h) h id (f_cHash_spread v0 h) := by
  unfold f_cHash_spread
  exact fe_j Fe.rf (fe_cHash_spread_b2_lp FU _ _ _) (fun x k hx => by simp only [wI_cHash_spread_b2] at hx; have e := hx; exact e) (fun x k hx => False.elim hx)
def wI_cHash_work_b70 (v0 : Nat) (v1 : Int) (v2 : Int) (v3 : Int) (v4 : Int) (v5 : Int) (v6 : Int) (v7 : Int) (v8 : Int) (v9 : Int) (h : Hp) (x k : Nat) : Prop := x = hR h v0 0
def wJ_cHash_work_b70 (v0 : Nat) (v1 : Int) (v2 : Int) (v3 : Int) (v4 : Int) (v5 : Int) (v6 : Int) (v7 : Int) (v8 : Int) (v9 : Int) (h : Hp) (x k : Nat) : Prop := False
def wI_cHash_work (v0 : Nat) (h : Hp) (x k : Nat) : Prop := x = hR h v0 0 ∨ x = hR h v0 1
def wJ_cHash_work (v0 : Nat) (h : Hp) (x k : Nat) : Prop := False
theorem fe_cHash_work_b70 {k70 : Nat → Int → Int → Int → Int → Int → Int → Int → Int → Int → Hp → Option (Hp)} (hk70 : ∀ (v0 : Nat) (v1 : Int) (v2 : Int) (v3 : Int) (v4 : Int) (v5 : Int) (v6 : Int) (v7 : Int) (v8 : Int) (v9 : Int) (h : Hp), Feo (wI_cHash_work_b70 v0 v1 v2 v3 v4 v5 v6 v7 v8 v9 h) (wJ_cHash_work_b70 v0 v1 v2 v3 v4 v5 v6 v7 v8 v9 h) h id (k70 v0 v1 v2 v3 v4 v5 v6 v7 v8 v9 h)) (v0 : Nat) (v1 : Int) (v2 : Int) (v3 : Int) (v4 : Int) (v5 : Int) (v6 : Int) (v7 : Int) (v8 : Int) (v9 : Int) (h : Hp) : Feo (wI_cHash_work_b70 v0 v1 v2 v3 v4 v5 v6 v7 v8 v9 h) (wJ_cHash_work_b70 v0 v1 v2 v3 v4 v5 v6 v7 v8 v9 h) h id (f_cHash_work_b70 k70 v0 v1 v2 v3 v4 v5 v6 v7 v8 v9 h) := by
  unfold f_cHash_work_b70
  refine fe_it ?_ ?_
  · refine fe_it fe_no ?_
    refine fe_it ?_ fe_no
    refine fe_it ?_ fe_no
    refine fe_I Fe.rf (rfl) (fun h23 F1 => ?_)
    refine fe_it fe_no ?_
    refine fe_it ?_ fe_no
    refine fe_it ?_ fe_no
    refine fe_I F1 ((by first | (simp only [F1.r]; exact rfl) | simp only [F1.r])) (fun h27 F2 => ?_)
    refine fe_it fe_no ?_
    refine fe_it ?_ fe_no
    refine fe_it ?_ fe_no
    refine fe_I F2 ((by first | (simp only [F1.r, F2.r]; exact rfl) | simp only [F1.r, F2.r])) (fun h31 F3 => ?_)
    refine fe_it fe_no ?_
    refine fe_it ?_ fe_no
    refine fe_it ?_ fe_no
    refine fe_I F3 ((by first | (simp only [F1.r, F2.r, F3.r]; exact rfl) | simp only [F1.r, F2.r, F3.r])) (fun h35 F4 => ?_)
    refine fe_it fe_no ?_
    refine fe_it ?_ fe_no
    refine fe_it ?_ fe_no
    refine fe_I F4 ((by first | (simp only [F1.r, F2.r, F3.r, F4.r]; exact rfl) | simp only [F1.r, F2.r, F3.r, F4.r])) (fun h39 F5 => ?_)
    refine fe_it fe_no ?_
    refine fe_it ?_ fe_no
    refine fe_it ?_ fe_no
    refine fe_I F5 ((by first | (simp only [F1.r, F2.r, F3.r, F4.r, F5.r]; exact rfl) | simp only [F1.r, F2.r, F3.r, F4.r, F5.r])) (fun h43 F6 => ?_)
    refine fe_it fe_no ?_
    refine fe_it ?_ fe_no
    refine fe_it ?_ fe_no
    refine fe_I F6 ((by first | (simp only [F1.r, F2.r, F3.r, F4.r, F5.r, F6.r]; exact rfl) | simp only [F1.r, F2.r, F3.r, F4.r, F5.r, F6.r])) (fun h47 F7 => ?_)
    refine fe_it fe_no ?_
    refine fe_it ?_ fe_no
    refine fe_it ?_ fe_no
    refine fe_I F7 ((by first | (simp only [F1.r, F2.r, F3.r, F4.r, F5.r, F6.r, F7.r]; exact rfl) | simp only [F1.r, F2.r, F3.r, F4.r, F5.r, F6.r, F7.r])) (fun h51 F8 => ?_)
    exact fe_so F8
  · refine fe_b2 Fe.rf (fe_jInteger_rotateRight _ _ _) (fun x k hx => False.elim hx) (fun x k hx => False.elim hx) (fun r54 h52 F9 => ?_)
    refine fe_b2 F9 (fe_jInteger_rotateRight _ _ _) (fun x k hx => False.elim hx) (fun x k hx => False.elim hx) (fun r57 h55 F10 => ?_)
    refine fe_b2 F10 (fe_jInteger_rotateRight _ _ _) (fun x k hx => False.elim hx) (fun x k hx => False.elim hx) (fun r60 h58 F11 => ?_)
    refine fe_it fe_no ?_
    refine fe_it ?_ fe_no
    refine fe_it fe_no ?_
    refine fe_it ?_ fe_no
    refine fe_v (fun y65 => ?_)
    refine fe_b2 F11 (fe_jInteger_rotateRight _ _ _) (fun x k hx => False.elim hx) (fun x k hx => False.elim hx) (fun r68 h66 F12 => ?_)
    refine fe_b2 F12 (fe_jInteger_rotateRight _ _ _) (fun x k hx => False.elim hx) (fun x k hx => False.elim hx) (fun r71 h69 F13 => ?_)
    refine fe_b2 F13 (fe_jInteger_rotateRight _ _ _) (fun x k hx => False.elim hx) (fun x k hx => False.elim hx) (fun r74 h72 F14 => ?_)
    refine fe_v (fun y75 => ?_)
    refine fe_v (fun y76 => ?_)
    refine fe_v (fun y77 => ?_)
    exact fe_j F14 (hk70 _ _ _ _ _ _ _ _ _ _ _) (fun x k hx => by simp only [wI_cHash_work_b70, F9.r, F10.r, F11.r, F12.r, F13.r, F14.r] at hx; have e := hx; exact e) (fun x k hx => False.elim hx)
theorem fe_cHash_work_b70_lp (n : Nat) : ∀ (v0 : Nat) (v1 : Int) (v2 : Int) (v3 : Int) (v4 : Int) (v5 : Int) (v6 : Int) (v7 : Int) (v8 : Int) (v9 : Int) (h : Hp), Feo (wI_cHash_work_b70 v0 v1 v2 v3 v4 v5 v6 v7 v8 v9 h) (wJ_cHash_work_b70 v0 v1 v2 v3 v4 v5 v6 v7 v8 v9 h) h id (f_cHash_work_b70_lp n v0 v1 v2 v3 v4 v5 v6 v7 v8 v9 h) := by
  induction n with
  | zero => intro v0 v1 v2 v3 v4 v5 v6 v7 v8 v9 h; exact fe_no
  | succ n ih => intro v0 v1 v2 v3 v4 v5 v6 v7 v8 v9 h; exact fe_cHash_work_b70 ih v0 v1 v2 v3 v4 v5 v6 v7 v8 v9 h
theorem fe_cHash_work (v0 : Nat) (h : Hp) : Feo (wI_cHash_work v0 h) (wJ_cHash_work v0 h) h id (f_cHash_work v0 h) := by
  unfold f_cHash_work
  refine fe_b1 Fe.rf (fe_cHash_spread _ _) (fun x k hx => by simp only [wI_cHash_spread] at hx; have e := hx; exact Or.inr (e)) (fun x k hx => False.elim hx) (fun h1 F1 => ?_)
  refine fe_it fe_no ?_
  refine fe_it ?_ fe_no
  refine fe_v (fun y5 => ?_)
  refine fe_it ?_ fe_no
  refine fe_v (fun y7 => ?_)
  refine fe_it ?_ fe_no
  refine fe_v (fun y9 => ?_)
  refine fe_it ?_ fe_no
  refine fe_v (fun y11 => ?_)
  refine fe_it ?_ fe_no
  refine fe_v (fun y13 => ?_)
  refine fe_it ?_ fe_no
  refine fe_v (fun y15 => ?_)
  refine fe_it ?_ fe_no
  refine fe_v (fun y17 => ?_)
  refine fe_it ?_ fe_no
  refine fe_v (fun y19 => ?_)
  exact fe_j F1 (fe_cHash_work_b70_lp FU _ _ _ _ _ _ _ _ _ _ _) (fun x k hx => by simp only [wI_cHash_work_b70, F1.r] at hx; have e := hx; exact Or.inl (e)) (fun x k hx => False.elim hx)
def wI_cHash_addByte (v0 : Nat) (v1 : Int) (h : Hp) (x k : Nat) : Prop := x = hR h v0 0 ∨ x = hR h v0 1 ∨ x = hR h v0 2 ∨ (x = v0 ∧ k = 3)
def wJ_cHash_addByte (v0 : Nat) (v1 : Int) (h : Hp) (x k : Nat) : Prop := False
theorem fe_cHash_addByte (v0 : Nat) (v1 : Int) (h : Hp) : Feo (wI_cHash_addByte v0 v1 h) (wJ_cHash_addByte v0 v1 h) h id (f_cHash_addByte v0 v1 h) := by
  unfold f_cHash_addByte
  refine fe_it fe_no ?_
  refine fe_it ?_ fe_no
  refine fe_I Fe.rf (Or.inr (Or.inr (Or.inl (rfl)))) (fun h3 F1 => ?_)
  refine fe_I F1 (Or.inr (Or.inr (Or.inr (⟨rfl, rfl⟩)))) (fun h4 F2 => ?_)
  refine fe_it ?_ ?_
  · exact fe_so F2
  · refine fe_b1 F2 (fe_cHash_work _ _) (fun x k hx => by simp only [wI_cHash_work, F1.r, F2.r] at hx; rcases hx with e | e <;> first | exact Or.inl (e) | exact Or.inr (Or.inl (e))) (fun x k hx => False.elim hx) (fun h5 F3 => ?_)
    refine fe_I F3 (Or.inr (Or.inr (Or.inr (⟨rfl, rfl⟩)))) (fun h7 F4 => ?_)
    exact fe_so F4
def wI_cHash_add_b3 (v0 : Nat) (v1 : Nat) (v2 : Int) (v3 : Int) (v4 : Int) (h : Hp) (x k : Nat) : Prop := x = hR h v0 0 ∨ x = hR h v0 1 ∨ x = hR h v0 2 ∨ (x = v0 ∧ k = 3)
def wJ_cHash_add_b3 (v0 : Nat) (v1 : Nat) (v2 : Int) (v3 : Int) (v4 : Int) (h : Hp) (x k : Nat) : Prop := (x = v0 ∧ k = 4)
def wI_cHash_add (v0 : Nat) (v1 : Nat) (v2 : Int) (v3 : Int) (h : Hp) (x k : Nat) : Prop := x = hR h v0 0 ∨ x = hR h v0 1 ∨ x = hR h v0 2 ∨ (x = v0 ∧ k = 3)
def wJ_cHash_add (v0 : Nat) (v1 : Nat) (v2 : Int) (v3 : Int) (h : Hp) (x k : Nat) : Prop := (x = v0 ∧ k = 4)
theorem fe_cHash_add_b3 {k3 : Nat → Nat → Int → Int → Int → Hp → Option (Hp)} (hk3 : ∀ (v0 : Nat) (v1 : Nat) (v2 : Int) (v3 : Int) (v4 : Int) (h : Hp), Feo (wI_cHash_add_b3 v0 v1 v2 v3 v4 h) (wJ_cHash_add_b3 v0 v1 v2 v3 v4 h) h id (k3 v0 v1 v2 v3 v4 h)) (v0 : Nat) (v1 : Nat) (v2 : Int) (v3 : Int) (v4 : Int) (h : Hp) : Feo (wI_cHash_add_b3 v0 v1 v2 v3 v4 h) (wJ_cHash_add_b3 v0 v1 v2 v3 v4 h) h id (f_cHash_add_b3 k3 v0 v1 v2 v3 v4 h) := by
  unfold f_cHash_add_b3
  refine fe_it ?_ ?_
  · refine fe_J Fe.rf (⟨rfl, rfl⟩) (fun h1 F1 => ?_)
    exact fe_so F1
  · refine fe_it fe_no ?_
    refine fe_it ?_ fe_no
    refine fe_b1 Fe.rf (fe_cHash_addByte _ _ _) (fun x k hx => by simp only [wI_cHash_addByte] at hx; rcases hx with e | e | e | e <;> first | exact Or.inl (e) | exact Or.inr (Or.inl (e)) | exact Or.inr (Or.inr (Or.inl (e))) | exact Or.inr (Or.inr (Or.inr (e)))) (fun x k hx => False.elim hx) (fun h4 F2 => ?_)
    exact fe_j F2 (hk3 _ _ _ _ _ _) (fun x k hx => by simp only [wI_cHash_add_b3, F2.r] at hx; rcases hx with e | e | e | e <;> first | exact Or.inl (e) | exact Or.inr (Or.inl (e)) | exact Or.inr (Or.inr (Or.inl (e))) | exact Or.inr (Or.inr (Or.inr (e)))) (fun x k hx => by simp only [wJ_cHash_add_b3, F2.r] at hx; have e := hx; exact e)
theorem fe_cHash_add_b3_lp (n : Nat) : ∀ (v0 : Nat) (v1 : Nat) (v2 : Int) (v3 : Int) (v4 : Int) (h : Hp), Feo (wI_cHash_add_b3 v0 v1 v2 v3 v4 h) (wJ_cHash_add_b3 v0 v1 v2 v3 v4 h) h id (f_cHash_add_b3_lp n v0 v1 v2 v3 v4 h) := by
  induction n with
  | zero => intro v0 v1 v2 v3 v4 h; exact fe_no
  | succ n ih => intro v0 v1 v2 v3 v4 h; exact fe_cHash_add_b3 ih v0 v1 v2 v3 v4 h
theorem fe_cHash_add (v0 : Nat) (v1 : Nat) (v2 : Int) (v3 : Int) (h : Hp) : Feo (wI_cHash_add v0 v1 v2 v3 h) (wJ_cHash_add v0 v1 v2 v3 h) h id (f_cHash_add v0 v1 v2 v3 h) := by
  unfold f_cHash_add
  exact fe_j Fe.rf (fe_cHash_add_b3_lp FU _ _ _ _ _ _) (fun x k hx => by simp only [wI_cHash_add_b3] at hx; rcases hx with e | e | e | e <;> first | exact Or.inl (e) | exact Or.inr (Or.inl (e)) | exact Or.inr (Or.inr (Or.inl (e))) | exact Or.inr (Or.inr (Or.inr (e)))) (fun x k hx => by simp only [wJ_cHash_add_b3] at hx; have e := hx; exact e)
def wI_cHash_end_b57 (v0 : Nat) (v1 : Nat) (v2 : Int) (v3 : Int) (h : Hp) (x k : Nat) : Prop := x = v1
def wJ_cHash_end_b57 (v0 : Nat) (v1 : Nat) (v2 : Int) (v3 : Int) (h : Hp) (x k : Nat) : Prop := False
def wI_cHash_end_b27 (v0 : Nat) (v1 : Nat) (v2 : Int) (v3 : Int) (h : Hp) (x k : Nat) : Prop := x = hR h v0 0 ∨ x = hR h v0 1 ∨ x = hR h v0 2 ∨ (x = v0 ∧ k = 3) ∨ x = v1
def wJ_cHash_end_b27 (v0 : Nat) (v1 : Nat) (v2 : Int) (v3 : Int) (h : Hp) (x k : Nat) : Prop := False
def wI_cHash_end_b7 (v0 : Nat) (v1 : Nat) (v2 : Int) (h : Hp) (x k : Nat) : Prop := x = hR h v0 0 ∨ x = hR h v0 1 ∨ x = hR h v0 2 ∨ (x = v0 ∧ k = 3) ∨ x = v1
def wJ_cHash_end_b7 (v0 : Nat) (v1 : Nat) (v2 : Int) (h : Hp) (x k : Nat) : Prop := False
def wI_cHash_end (v0 : Nat) (v1 : Nat) (v2 : Int) (h : Hp) (x k : Nat) : Prop := x = hR h v0 0 ∨ x = hR h v0 1 ∨ x = hR h v0 2 ∨ (x = v0 ∧ k = 3) ∨ x = v1
def wJ_cHash_end (v0 : Nat) (v1 : Nat) (v2 : Int) (h : Hp) (x k : Nat) : Prop := False
theorem fe_cHash_end_b57 {k57 : Nat → Nat → Int → Int → Hp → Option (Hp)} (hk57 : ∀ (v0 : Nat) (v1 : Nat) (v2 : Int) (v3 : Int) (h : Hp), Feo (wI_cHash_end_b57 v0 v1 v2 v3 h) (wJ_cHash_end_b57 v0 v1 v2 v3 h) h id (k57 v0 v1 v2 v3 h)) (v0 : Nat) (v1 : Nat) (v2 : Int) (v3 : Int) (h : Hp) : Feo (wI_cHash_end_b57 v0 v1 v2 v3 h) (wJ_cHash_end_b57 v0 v1 v2 v3 h) h id (f_cHash_end_b57 k57 v0 v1 v2 v3 h) := by
  unfold f_cHash_end_b57
  refine fe_it ?_ ?_
  · exact fe_so Fe.rf
  · refine fe_it fe_no ?_
    refine fe_it ?_ fe_no
    refine fe_it fe_no ?_
    refine fe_it ?_ fe_no
    refine fe_I Fe.rf (rfl) (fun h11 F1 => ?_)
    exact fe_j F1 (hk57 _ _ _ _ _) (fun x k hx => by simp only [wI_cHash_end_b57, F1.r] at hx; have e := hx; exact e) (fun x k hx => False.elim hx)
theorem fe_cHash_end_b57_lp (n : Nat) : ∀ (v0 : Nat) (v1 : Nat) (v2 : Int) (v3 : Int) (h : Hp), Feo (wI_cHash_end_b57 v0 v1 v2 v3 h) (wJ_cHash_end_b57 v0 v1 v2 v3 h) h id (f_cHash_end_b57_lp n v0 v1 v2 v3 h) := by
  induction n with
  | zero => intro v0 v1 v2 v3 h; exact fe_no
  | succ n ih => intro v0 v1 v2 v3 h; exact fe_cHash_end_b57 ih v0 v1 v2 v3 h
theorem fe_cHash_end_b27 {k27 : Nat → Nat → Int → Int → Hp → Option (Hp)} (hk27 : ∀ (v0 : Nat) (v1 : Nat) (v2 : Int) (v3 : Int) (h : Hp), Feo (wI_cHash_end_b27 v0 v1 v2 v3 h) (wJ_cHash_end_b27 v0 v1 v2 v3 h) h id (k27 v0 v1 v2 v3 h)) (v0 : Nat) (v1 : Nat) (v2 : Int) (v3 : Int) (h : Hp) : Feo (wI_cHash_end_b27 v0 v1 v2 v3 h) (wJ_cHash_end_b27 v0 v1 v2 v3 h) h id (f_cHash_end_b27 k27 v0 v1 v2 v3 h) := by
  unfold f_cHash_end_b27
  refine fe_it ?_ ?_
  · exact fe_j Fe.rf (fe_cHash_end_b57_lp FU _ _ _ _ _) (fun x k hx => by simp only [wI_cHash_end_b57] at hx; have e := hx; exact Or.inr (Or.inr (Or.inr (Or.inr (e))))) (fun x k hx => False.elim hx)
  · refine fe_b1 Fe.rf (fe_cHash_addByte _ _ _) (fun x k hx => by simp only [wI_cHash_addByte] at hx; rcases hx with e | e | e | e <;> first | exact Or.inl (e) | exact Or.inr (Or.inl (e)) | exact Or.inr (Or.inr (Or.inl (e))) | exact Or.inr (Or.inr (Or.inr (Or.inl (e))))) (fun x k hx => False.elim hx) (fun h5 F1 => ?_)
    exact fe_j F1 (hk27 _ _ _ _ _) (fun x k hx => by simp only [wI_cHash_end_b27, F1.r] at hx; rcases hx with e | e | e | e | e <;> first | exact Or.inl (e) | exact Or.inr (Or.inl (e)) | exact Or.inr (Or.inr (Or.inl (e))) | exact Or.inr (Or.inr (Or.inr (Or.inl (e)))) | exact Or.inr (Or.inr (Or.inr (Or.inr (e))))) (fun x k hx => False.elim hx)
theorem fe_cHash_end_b27_lp (n : Nat) : ∀ (v0 : Nat) (v1 : Nat) (v2 : Int) (v3 : Int) (h : Hp), Feo (wI_cHash_end_b27 v0 v1 v2 v3 h) (wJ_cHash_end_b27 v0 v1 v2 v3 h) h id (f_cHash_end_b27_lp n v0 v1 v2 v3 h) := by
  induction n with
  | zero => intro v0 v1 v2 v3 h; exact fe_no
  | succ n ih => intro v0 v1 v2 v3 h; exact fe_cHash_end_b27 ih v0 v1 v2 v3 h
theorem fe_cHash_end_b7 {k7 : Nat → Nat → Int → Hp → Option (Hp)} (hk7 : ∀ (v0 : Nat) (v1 : Nat) (v2 : Int) (h : Hp), Feo (wI_cHash_end_b7 v0 v1 v2 h) (wJ_cHash_end_b7 v0 v1 v2 h) h id (k7 v0 v1 v2 h)) (v0 : Nat) (v1 : Nat) (v2 : Int) (h : Hp) : Feo (wI_cHash_end_b7 v0 v1 v2 h) (wJ_cHash_end_b7 v0 v1 v2 h) h id (f_cHash_end_b7 k7 v0 v1 v2 h) := by
  unfold f_cHash_end_b7
  refine fe_it ?_ ?_
  · exact fe_j Fe.rf (fe_cHash_end_b27_lp FU _ _ _ _ _) (fun x k hx => by simp only [wI_cHash_end_b27] at hx; rcases hx with e | e | e | e | e <;> first | exact Or.inl (e) | exact Or.inr (Or.inl (e)) | exact Or.inr (Or.inr (Or.inl (e))) | exact Or.inr (Or.inr (Or.inr (Or.inl (e)))) | exact Or.inr (Or.inr (Or.inr (Or.inr (e))))) (fun x k hx => False.elim hx)
  · refine fe_b1 Fe.rf (fe_cHash_addByte _ _ _) (fun x k hx => by simp only [wI_cHash_addByte] at hx; rcases hx with e | e | e | e <;> first | exact Or.inl (e) | exact Or.inr (Or.inl (e)) | exact Or.inr (Or.inr (Or.inl (e))) | exact Or.inr (Or.inr (Or.inr (Or.inl (e))))) (fun x k hx => False.elim hx) (fun h3 F1 => ?_)
    exact fe_j F1 (hk7 _ _ _ _) (fun x k hx => by simp only [wI_cHash_end_b7, F1.r] at hx; rcases hx with e | e | e | e | e <;> first | exact Or.inl (e) | exact Or.inr (Or.inl (e)) | exact Or.inr (Or.inr (Or.inl (e))) | exact Or.inr (Or.inr (Or.inr (Or.inl (e)))) | exact Or.inr (Or.inr (Or.inr (Or.inr (e))))) (fun x k hx => False.elim hx)
theorem fe_cHash_end_b7_lp (n : Nat) : ∀ (v0 : Nat) (v1 : Nat) (v2 : Int) (h : Hp), Feo (wI_cHash_end_b7 v0 v1 v2 h) (wJ_cHash_end_b7 v0 v1 v2 h) h id (f_cHash_end_b7_lp n v0 v1 v2 h) := by
  induction n with
  | zero => intro v0 v1 v2 h; exact fe_no
  | succ n ih => intro v0 v1 v2 h; exact fe_cHash_end_b7 ih v0 v1 v2 h
theorem fe_cHash_end (v0 : Nat) (v1 : Nat) (v2 : Int) (h : Hp) : Feo (wI_cHash_end v0 v1 v2 h) (wJ_cHash_end v0 v1 v2 h) h id (f_cHash_end v0 v1 v2 h) := by
  unfold f_cHash_end
  refine fe_b1 Fe.rf (fe_cHash_addByte _ _ _) (fun x k hx => by simp only [wI_cHash_addByte] at hx; rcases hx with e | e | e | e <;> first | exact Or.inl (e) | exact Or.inr (Or.inl (e)) | exact Or.inr (Or.inr (Or.inl (e))) | exact Or.inr (Or.inr (Or.inr (Or.inl (e))))) (fun x k hx => False.elim hx) (fun h1 F1 => ?_)
  exact fe_j F1 (fe_cHash_end_b7_lp FU _ _ _ _) (fun x k hx => by simp only [wI_cHash_end_b7, F1.r] at hx; rcases hx with e | e | e | e | e <;> first | exact Or.inl (e) | exact Or.inr (Or.inl (e)) | exact Or.inr (Or.inr (Or.inl (e))) | exact Or.inr (Or.inr (Or.inr (Or.inl (e)))) | exact Or.inr (Or.inr (Or.inr (Or.inr (e))))) (fun x k hx => False.elim hx)
def wI_cMac_turn_b2 (v0 : Nat) (v1 : Int) (v2 : Int) (h : Hp) (x k : Nat) : Prop := x = hR h v0 2
def wJ_cMac_turn_b2 (v0 : Nat) (v1 : Int) (v2 : Int) (h : Hp) (x k : Nat) : Prop := False
def wI_cMac_turn (v0 : Nat) (v1 : Int) (h : Hp) (x k : Nat) : Prop := x = hR h v0 2
def wJ_cMac_turn (v0 : Nat) (v1 : Int) (h : Hp) (x k : Nat) : Prop := False
theorem fe_cMac_turn_b2 {k2 : Nat → Int → Int → Hp → Option (Hp)} (hk2 : ∀ (v0 : Nat) (v1 : Int) (v2 : Int) (h : Hp), Feo (wI_cMac_turn_b2 v0 v1 v2 h) (wJ_cMac_turn_b2 v0 v1 v2 h) h id (k2 v0 v1 v2 h)) (v0 : Nat) (v1 : Int) (v2 : Int) (h : Hp) : Feo (wI_cMac_turn_b2 v0 v1 v2 h) (wJ_cMac_turn_b2 v0 v1 v2 h) h id (f_cMac_turn_b2 k2 v0 v1 v2 h) := by
  unfold f_cMac_turn_b2
  refine fe_it ?_ ?_
  · exact fe_so Fe.rf
  · refine fe_it fe_no ?_
    refine fe_it ?_ fe_no
    refine fe_it ?_ fe_no
    refine fe_I Fe.rf (rfl) (fun h4 F1 => ?_)
    exact fe_j F1 (hk2 _ _ _ _) (fun x k hx => by simp only [wI_cMac_turn_b2, F1.r] at hx; have e := hx; exact e) (fun x k hx => False.elim hx)
theorem fe_cMac_turn_b2_lp (n : Nat) : ∀ (v0 : Nat) (v1 : Int) (v2 : Int) (h : Hp), Feo (wI_cMac_turn_b2 v0 v1 v2 h) (wJ_cMac_turn_b2 v0 v1 v2 h) h id (f_cMac_turn_b2_lp n v0 v1 v2 h) := by
  induction n with
  | zero => intro v0 v1 v2 h; exact fe_no
  | succ n ih => intro v0 v1 v2 h; exact fe_cMac_turn_b2 ih v0 v1 v2 h
theorem fe_cMac_turn (v0 : Nat) (v1 : Int) (h : Hp) : Feo (wI_cMac_turn v0 v1 h) (wJ_cMac_turn v0 v1 h) h id (f_cMac_turn v0 v1 h) := by
  unfold f_cMac_turn
  exact fe_j Fe.rf (fe_cMac_turn_b2_lp FU _ _ _ _) (fun x k hx => by simp only [wI_cMac_turn_b2] at hx; have e := hx; exact e) (fun x k hx => False.elim hx)
def wI_cMac_begin_b73 (v0 : Nat) (h : Hp) (x k : Nat) : Prop := (x = (hR h v0 0) ∧ k = 3) ∨ (x = (hR h v0 1) ∧ k = 3) ∨ x = hR h (hR h v0 0) 0 ∨ x = hR h (hR h v0 0) 1 ∨ x = hR h (hR h v0 0) 2 ∨ x = hR h (hR h v0 1) 0 ∨ x = hR h (hR h v0 1) 1 ∨ x = hR h (hR h v0 1) 2 ∨ x = hR h v0 2
def wJ_cMac_begin_b73 (v0 : Nat) (h : Hp) (x k : Nat) : Prop := (x = (hR h v0 0) ∧ k = 4) ∨ (x = (hR h v0 1) ∧ k = 4)
def wI_cMac_begin_b31 (v0 : Nat) (v1 : Nat) (v2 : Int) (v3 : Int) (s0 : Nat) (s1 : Int) (s2 : Int) (h : Hp) (x k : Nat) : Prop := (x = (hR h v0 0) ∧ k = 3) ∨ (x = (hR h v0 1) ∧ k = 3) ∨ x = (hR h v0 2) ∨ x = hR h (hR h v0 0) 0 ∨ x = hR h (hR h v0 0) 1 ∨ x = hR h (hR h v0 0) 2 ∨ x = hR h (hR h v0 1) 0 ∨ x = hR h (hR h v0 1) 1 ∨ x = hR h (hR h v0 1) 2 ∨ x = hR h v0 2 ∨ x = s0
def wJ_cMac_begin_b31 (v0 : Nat) (v1 : Nat) (v2 : Int) (v3 : Int) (s0 : Nat) (s1 : Int) (s2 : Int) (h : Hp) (x k : Nat) : Prop := (x = (hR h v0 0) ∧ k = 4) ∨ (x = (hR h v0 1) ∧ k = 4)
def wI_cMac_begin_b30 (v0 : Nat) (v1 : Nat) (v2 : Int) (v3 : Int) (s0 : Nat) (s1 : Int) (h : Hp) (x k : Nat) : Prop := (x = (hR h v0 0) ∧ k = 3) ∨ (x = (hR h v0 1) ∧ k = 3) ∨ x = (hR h v0 2) ∨ x = hR h (hR h v0 0) 0 ∨ x = hR h (hR h v0 0) 1 ∨ x = hR h (hR h v0 0) 2 ∨ x = hR h (hR h v0 1) 0 ∨ x = hR h (hR h v0 1) 1 ∨ x = hR h (hR h v0 1) 2 ∨ x = hR h v0 2 ∨ x = s0
def wJ_cMac_begin_b30 (v0 : Nat) (v1 : Nat) (v2 : Int) (v3 : Int) (s0 : Nat) (s1 : Int) (h : Hp) (x k : Nat) : Prop := (x = (hR h v0 0) ∧ k = 4) ∨ (x = (hR h v0 1) ∧ k = 4)
def wI_cMac_begin_b2 (v0 : Nat) (v1 : Nat) (v2 : Int) (v3 : Int) (h : Hp) (x k : Nat) : Prop := (x = (hR h v0 0) ∧ k = 3) ∨ (x = (hR h v0 1) ∧ k = 3) ∨ x = (hR h v0 2) ∨ x = hR h (hR h v0 0) 0 ∨ x = hR h (hR h v0 0) 1 ∨ x = hR h (hR h v0 0) 2 ∨ x = hR h (hR h v0 1) 0 ∨ x = hR h (hR h v0 1) 1 ∨ x = hR h (hR h v0 1) 2 ∨ x = hR h v0 2
def wJ_cMac_begin_b2 (v0 : Nat) (v1 : Nat) (v2 : Int) (v3 : Int) (h : Hp) (x k : Nat) : Prop := (x = (hR h v0 0) ∧ k = 4) ∨ (x = (hR h v0 1) ∧ k = 4)
def wI_cMac_begin (v0 : Nat) (v1 : Nat) (v2 : Int) (h : Hp) (x k : Nat) : Prop := (x = (hR h v0 0) ∧ k = 3) ∨ (x = (hR h v0 1) ∧ k = 3) ∨ x = (hR h v0 2) ∨ x = hR h (hR h v0 0) 0 ∨ x = hR h (hR h v0 0) 1 ∨ x = hR h (hR h v0 0) 2 ∨ x = hR h (hR h v0 1) 0 ∨ x = hR h (hR h v0 1) 1 ∨ x = hR h (hR h v0 1) 2 ∨ x = hR h v0 2
def wJ_cMac_begin (v0 : Nat) (v1 : Nat) (v2 : Int) (h : Hp) (x k : Nat) : Prop := (x = (hR h v0 0) ∧ k = 4) ∨ (x = (hR h v0 1) ∧ k = 4)
theorem fe_cMac_begin_b73 (v0 : Nat) (h : Hp) : Feo (wI_cMac_begin_b73 v0 h) (wJ_cMac_begin_b73 v0 h) h id (f_cMac_begin_b73 v0 h) := by
  unfold f_cMac_begin_b73
  refine fe_b1 Fe.rf (fe_cMac_turn _ _ _) (fun x k hx => by simp only [wI_cMac_turn] at hx; have e := hx; exact Or.inr (Or.inr (Or.inr (Or.inr (Or.inr (Or.inr (Or.inr (Or.inr (e))))))))) (fun x k hx => False.elim hx) (fun h15 F1 => ?_)
  refine fe_it fe_no ?_
  refine fe_b1 F1 (fe_cHash_begin _ _) (fun x k hx => by simp only [wI_cHash_begin, F1.r] at hx; rcases hx with e | e <;> first | exact Or.inl (e) | exact Or.inr (Or.inr (Or.inl (e)))) (fun x k hx => by simp only [wJ_cHash_begin, F1.r] at hx; have e := hx; exact Or.inl (e)) (fun h18 F2 => ?_)
  refine fe_it fe_no ?_
  refine fe_b1 F2 (fe_cHash_add _ _ _ _ _) (fun x k hx => by simp only [wI_cHash_add, F1.r, F2.r] at hx; rcases hx with e | e | e | e <;> first | exact Or.inl (e) | exact Or.inr (Or.inr (Or.inl (e))) | exact Or.inr (Or.inr (Or.inr (Or.inl (e)))) | exact Or.inr (Or.inr (Or.inr (Or.inr (Or.inl (e)))))) (fun x k hx => by simp only [wJ_cHash_add, F1.r, F2.r] at hx; have e := hx; exact Or.inl (e)) (fun h21 F3 => ?_)
  refine fe_b1 F3 (fe_cMac_turn _ _ _) (fun x k hx => by simp only [wI_cMac_turn, F1.r, F2.r, F3.r] at hx; have e := hx; exact Or.inr (Or.inr (Or.inr (Or.inr (Or.inr (Or.inr (Or.inr (Or.inr (e))))))))) (fun x k hx => False.elim hx) (fun h23 F4 => ?_)
  refine fe_it fe_no ?_
  refine fe_b1 F4 (fe_cHash_begin _ _) (fun x k hx => by simp only [wI_cHash_begin, F1.r, F2.r, F3.r, F4.r] at hx; rcases hx with e | e <;> first | exact Or.inr (Or.inl (e)) | exact Or.inr (Or.inr (Or.inr (Or.inr (Or.inr (Or.inl (e))))))) (fun x k hx => by simp only [wJ_cHash_begin, F1.r, F2.r, F3.r, F4.r] at hx; have e := hx; exact Or.inr (e)) (fun h26 F5 => ?_)
  refine fe_it fe_no ?_
  refine fe_b1 F5 (fe_cHash_add _ _ _ _ _) (fun x k hx => by simp only [wI_cHash_add, F1.r, F2.r, F3.r, F4.r, F5.r] at hx; rcases hx with e | e | e | e <;> first | exact Or.inr (Or.inl (e)) | exact Or.inr (Or.inr (Or.inr (Or.inr (Or.inr (Or.inl (e)))))) | exact Or.inr (Or.inr (Or.inr (Or.inr (Or.inr (Or.inr (Or.inl (e))))))) | exact Or.inr (Or.inr (Or.inr (Or.inr (Or.inr (Or.inr (Or.inr (Or.inl (e))))))))) (fun x k hx => by simp only [wJ_cHash_add, F1.r, F2.r, F3.r, F4.r, F5.r] at hx; have e := hx; exact Or.inr (e)) (fun h29 F6 => ?_)
  exact fe_so F6
theorem fe_cMac_begin_b31 {k2 : Nat → Nat → Int → Int → Hp → Option (Hp)} (hk2 : ∀ (v0 : Nat) (v1 : Nat) (v2 : Int) (v3 : Int) (h : Hp), Feo (wI_cMac_begin_b2 v0 v1 v2 v3 h) (wJ_cMac_begin_b2 v0 v1 v2 v3 h) h id (k2 v0 v1 v2 v3 h)) (v0 : Nat) (v1 : Nat) (v2 : Int) (v3 : Int) (s0 : Nat) (s1 : Int) (s2 : Int) (h : Hp) : Feo (wI_cMac_begin_b31 v0 v1 v2 v3 s0 s1 s2 h) (wJ_cMac_begin_b31 v0 v1 v2 v3 s0 s1 s2 h) h id (f_cMac_begin_b31 k2 v0 v1 v2 v3 s0 s1 s2 h) := by
  unfold f_cMac_begin_b31
  refine fe_it fe_no ?_
  refine fe_it ?_ fe_no
  refine fe_I Fe.rf (Or.inr (Or.inr (Or.inr (Or.inr (Or.inr (Or.inr (Or.inr (Or.inr (Or.inr (Or.inr (rfl))))))))))) (fun h14 F1 => ?_)
  exact fe_j F1 (hk2 _ _ _ _ _) (fun x k hx => by simp only [wI_cMac_begin_b2, F1.r] at hx; rcases hx with e | e | e | e | e | e | e | e | e | e <;> first | exact Or.inl (e) | exact Or.inr (Or.inl (e)) | exact Or.inr (Or.inr (Or.inl (e))) | exact Or.inr (Or.inr (Or.inr (Or.inl (e)))) | exact Or.inr (Or.inr (Or.inr (Or.inr (Or.inl (e))))) | exact Or.inr (Or.inr (Or.inr (Or.inr (Or.inr (Or.inl (e)))))) | exact Or.inr (Or.inr (Or.inr (Or.inr (Or.inr (Or.inr (Or.inl (e))))))) | exact Or.inr (Or.inr (Or.inr (Or.inr (Or.inr (Or.inr (Or.inr (Or.inl (e)))))))) | exact Or.inr (Or.inr (Or.inr (Or.inr (Or.inr (Or.inr (Or.inr (Or.inr (Or.inl (e))))))))) | exact Or.inr (Or.inr (Or.inr (Or.inr (Or.inr (Or.inr (Or.inr (Or.inr (Or.inr (Or.inl (e))))))))))) (fun x k hx => by simp only [wJ_cMac_begin_b2, F1.r] at hx; rcases hx with e | e <;> first | exact Or.inl (e) | exact Or.inr (e))
theorem fe_cMac_begin_b30 {k2 : Nat → Nat → Int → Int → Hp → Option (Hp)} (hk2 : ∀ (v0 : Nat) (v1 : Nat) (v2 : Int) (v3 : Int) (h : Hp), Feo (wI_cMac_begin_b2 v0 v1 v2 v3 h) (wJ_cMac_begin_b2 v0 v1 v2 v3 h) h id (k2 v0 v1 v2 v3 h)) (v0 : Nat) (v1 : Nat) (v2 : Int) (v3 : Int) (s0 : Nat) (s1 : Int) (h : Hp) : Feo (wI_cMac_begin_b30 v0 v1 v2 v3 s0 s1 h) (wJ_cMac_begin_b30 v0 v1 v2 v3 s0 s1 h) h id (f_cMac_begin_b30 k2 v0 v1 v2 v3 s0 s1 h) := by
  unfold f_cMac_begin_b30
  exact fe_j Fe.rf (fe_cMac_begin_b31 hk2 _ _ _ _ _ _ _ _) (fun x k hx => by simp only [wI_cMac_begin_b31] at hx; rcases hx with e | e | e | e | e | e | e | e | e | e | e <;> first | exact Or.inl (e) | exact Or.inr (Or.inl (e)) | exact Or.inr (Or.inr (Or.inl (e))) | exact Or.inr (Or.inr (Or.inr (Or.inl (e)))) | exact Or.inr (Or.inr (Or.inr (Or.inr (Or.inl (e))))) | exact Or.inr (Or.inr (Or.inr (Or.inr (Or.inr (Or.inl (e)))))) | exact Or.inr (Or.inr (Or.inr (Or.inr (Or.inr (Or.inr (Or.inl (e))))))) | exact Or.inr (Or.inr (Or.inr (Or.inr (Or.inr (Or.inr (Or.inr (Or.inl (e)))))))) | exact Or.inr (Or.inr (Or.inr (Or.inr (Or.inr (Or.inr (Or.inr (Or.inr (Or.inl (e))))))))) | exact Or.inr (Or.inr (Or.inr (Or.inr (Or.inr (Or.inr (Or.inr (Or.inr (Or.inr (Or.inl (e)))))))))) | exact Or.inr (Or.inr (Or.inr (Or.inr (Or.inr (Or.inr (Or.inr (Or.inr (Or.inr (Or.inr (e))))))))))) (fun x k hx => by simp only [wJ_cMac_begin_b31] at hx; rcases hx with e | e <;> first | exact Or.inl (e) | exact Or.inr (e))
theorem fe_cMac_begin_b2 {k2 : Nat → Nat → Int → Int → Hp → Option (Hp)} (hk2 : ∀ (v0 : Nat) (v1 : Nat) (v2 : Int) (v3 : Int) (h : Hp), Feo (wI_cMac_begin_b2 v0 v1 v2 v3 h) (wJ_cMac_begin_b2 v0 v1 v2 v3 h) h id (k2 v0 v1 v2 v3 h)) (v0 : Nat) (v1 : Nat) (v2 : Int) (v3 : Int) (h : Hp) : Feo (wI_cMac_begin_b2 v0 v1 v2 v3 h) (wJ_cMac_begin_b2 v0 v1 v2 v3 h) h id (f_cMac_begin_b2 k2 v0 v1 v2 v3 h) := by
  unfold f_cMac_begin_b2
  refine fe_it ?_ ?_
  · refine fe_it ?_ ?_
    · exact fe_j Fe.rf (fe_cMac_begin_b73 _ _) (fun x k hx => by simp only [wI_cMac_begin_b73] at hx; rcases hx with e | e | e | e | e | e | e | e | e <;> first | exact Or.inl (e) | exact Or.inr (Or.inl (e)) | exact Or.inr (Or.inr (Or.inr (Or.inl (e)))) | exact Or.inr (Or.inr (Or.inr (Or.inr (Or.inl (e))))) | exact Or.inr (Or.inr (Or.inr (Or.inr (Or.inr (Or.inl (e)))))) | exact Or.inr (Or.inr (Or.inr (Or.inr (Or.inr (Or.inr (Or.inl (e))))))) | exact Or.inr (Or.inr (Or.inr (Or.inr (Or.inr (Or.inr (Or.inr (Or.inl (e)))))))) | exact Or.inr (Or.inr (Or.inr (Or.inr (Or.inr (Or.inr (Or.inr (Or.inr (Or.inl (e))))))))) | exact Or.inr (Or.inr (Or.inr (Or.inr (Or.inr (Or.inr (Or.inr (Or.inr (Or.inr (e)))))))))) (fun x k hx => by simp only [wJ_cMac_begin_b73] at hx; rcases hx with e | e <;> first | exact Or.inl (e) | exact Or.inr (e))
    · refine fe_it fe_no ?_
      refine fe_b1 Fe.rf (fe_cHash_begin _ _) (fun x k hx => by simp only [wI_cHash_begin] at hx; rcases hx with e | e <;> first | exact Or.inl (e) | exact Or.inr (Or.inr (Or.inr (Or.inl (e))))) (fun x k hx => by simp only [wJ_cHash_begin] at hx; have e := hx; exact Or.inl (e)) (fun h2 F1 => ?_)
      refine fe_it fe_no ?_
      refine fe_b1 F1 (fe_cHash_add _ _ _ _ _) (fun x k hx => by simp only [wI_cHash_add, F1.r] at hx; rcases hx with e | e | e | e <;> first | exact Or.inl (e) | exact Or.inr (Or.inr (Or.inr (Or.inl (e)))) | exact Or.inr (Or.inr (Or.inr (Or.inr (Or.inl (e))))) | exact Or.inr (Or.inr (Or.inr (Or.inr (Or.inr (Or.inl (e))))))) (fun x k hx => by simp only [wJ_cHash_add, F1.r] at hx; have e := hx; exact Or.inl (e)) (fun h5 F2 => ?_)
      refine fe_it fe_no ?_
      refine fe_b1 F2 (fe_cHash_end _ _ _ _) (fun x k hx => by simp only [wI_cHash_end, F1.r, F2.r] at hx; rcases hx with e | e | e | e | e <;> first | exact Or.inl (e) | exact Or.inr (Or.inr (Or.inl (e))) | exact Or.inr (Or.inr (Or.inr (Or.inl (e)))) | exact Or.inr (Or.inr (Or.inr (Or.inr (Or.inl (e))))) | exact Or.inr (Or.inr (Or.inr (Or.inr (Or.inr (Or.inl (e))))))) (fun x k hx => False.elim hx) (fun h8 F3 => ?_)
      exact fe_j F3 (fe_cMac_begin_b73 _ _) (fun x k hx => by simp only [wI_cMac_begin_b73, F1.r, F2.r, F3.r] at hx; rcases hx with e | e | e | e | e | e | e | e | e <;> first | exact Or.inl (e) | exact Or.inr (Or.inl (e)) | exact Or.inr (Or.inr (Or.inr (Or.inl (e)))) | exact Or.inr (Or.inr (Or.inr (Or.inr (Or.inl (e))))) | exact Or.inr (Or.inr (Or.inr (Or.inr (Or.inr (Or.inl (e)))))) | exact Or.inr (Or.inr (Or.inr (Or.inr (Or.inr (Or.inr (Or.inl (e))))))) | exact Or.inr (Or.inr (Or.inr (Or.inr (Or.inr (Or.inr (Or.inr (Or.inl (e)))))))) | exact Or.inr (Or.inr (Or.inr (Or.inr (Or.inr (Or.inr (Or.inr (Or.inr (Or.inl (e))))))))) | exact Or.inr (Or.inr (Or.inr (Or.inr (Or.inr (Or.inr (Or.inr (Or.inr (Or.inr (e)))))))))) (fun x k hx => by simp only [wJ_cMac_begin_b73, F1.r, F2.r, F3.r] at hx; rcases hx with e | e <;> first | exact Or.inl (e) | exact Or.inr (e))
  · refine fe_it ?_ ?_
    · exact fe_j Fe.rf (fe_cMac_begin_b30 hk2 _ _ _ _ _ _ _) (fun x k hx => by simp only [wI_cMac_begin_b30] at hx; rcases hx with e | e | e | e | e | e | e | e | e | e | e <;> first | exact Or.inl (e) | exact Or.inr (Or.inl (e)) | exact Or.inr (Or.inr (Or.inl (e))) | exact Or.inr (Or.inr (Or.inr (Or.inl (e)))) | exact Or.inr (Or.inr (Or.inr (Or.inr (Or.inl (e))))) | exact Or.inr (Or.inr (Or.inr (Or.inr (Or.inr (Or.inl (e)))))) | exact Or.inr (Or.inr (Or.inr (Or.inr (Or.inr (Or.inr (Or.inl (e))))))) | exact Or.inr (Or.inr (Or.inr (Or.inr (Or.inr (Or.inr (Or.inr (Or.inl (e)))))))) | exact Or.inr (Or.inr (Or.inr (Or.inr (Or.inr (Or.inr (Or.inr (Or.inr (Or.inl (e))))))))) | exact Or.inr (Or.inr (Or.inr (Or.inr (Or.inr (Or.inr (Or.inr (Or.inr (Or.inr (e)))))))))) (fun x k hx => by simp only [wJ_cMac_begin_b30] at hx; rcases hx with e | e <;> first | exact Or.inl (e) | exact Or.inr (e))
    · refine fe_it ?_ ?_
      · exact fe_j Fe.rf (fe_cMac_begin_b30 hk2 _ _ _ _ _ _ _) (fun x k hx => by simp only [wI_cMac_begin_b30] at hx; rcases hx with e | e | e | e | e | e | e | e | e | e | e <;> first | exact Or.inl (e) | exact Or.inr (Or.inl (e)) | exact Or.inr (Or.inr (Or.inl (e))) | exact Or.inr (Or.inr (Or.inr (Or.inl (e)))) | exact Or.inr (Or.inr (Or.inr (Or.inr (Or.inl (e))))) | exact Or.inr (Or.inr (Or.inr (Or.inr (Or.inr (Or.inl (e)))))) | exact Or.inr (Or.inr (Or.inr (Or.inr (Or.inr (Or.inr (Or.inl (e))))))) | exact Or.inr (Or.inr (Or.inr (Or.inr (Or.inr (Or.inr (Or.inr (Or.inl (e)))))))) | exact Or.inr (Or.inr (Or.inr (Or.inr (Or.inr (Or.inr (Or.inr (Or.inr (Or.inl (e))))))))) | exact Or.inr (Or.inr (Or.inr (Or.inr (Or.inr (Or.inr (Or.inr (Or.inr (Or.inr (e)))))))))) (fun x k hx => by simp only [wJ_cMac_begin_b30] at hx; rcases hx with e | e <;> first | exact Or.inl (e) | exact Or.inr (e))
      · refine fe_it fe_no ?_
        refine fe_it ?_ fe_no
        exact fe_j Fe.rf (fe_cMac_begin_b31 hk2 _ _ _ _ _ _ _ _) (fun x k hx => by simp only [wI_cMac_begin_b31] at hx; rcases hx with e | e | e | e | e | e | e | e | e | e | e <;> first | exact Or.inl (e) | exact Or.inr (Or.inl (e)) | exact Or.inr (Or.inr (Or.inl (e))) | exact Or.inr (Or.inr (Or.inr (Or.inl (e)))) | exact Or.inr (Or.inr (Or.inr (Or.inr (Or.inl (e))))) | exact Or.inr (Or.inr (Or.inr (Or.inr (Or.inr (Or.inl (e)))))) | exact Or.inr (Or.inr (Or.inr (Or.inr (Or.inr (Or.inr (Or.inl (e))))))) | exact Or.inr (Or.inr (Or.inr (Or.inr (Or.inr (Or.inr (Or.inr (Or.inl (e)))))))) | exact Or.inr (Or.inr (Or.inr (Or.inr (Or.inr (Or.inr (Or.inr (Or.inr (Or.inl (e))))))))) | exact Or.inr (Or.inr (Or.inr (Or.inr (Or.inr (Or.inr (Or.inr (Or.inr (Or.inr (e)))))))))) (fun x k hx => by simp only [wJ_cMac_begin_b31] at hx; rcases hx with e | e <;> first | exact Or.inl (e) | exact Or.inr (e))
theorem fe_cMac_begin_b2_lp (n : Nat) : ∀ (v0 : Nat) (v1 : Nat) (v2 : Int) (v3 : Int) (h : Hp), Feo (wI_cMac_begin_b2 v0 v1 v2 v3 h) (wJ_cMac_begin_b2 v0 v1 v2 v3 h) h id (f_cMac_begin_b2_lp n v0 v1 v2 v3 h) := by
  induction n with
  | zero => intro v0 v1 v2 v3 h; exact fe_no
  | succ n ih => intro v0 v1 v2 v3 h; exact fe_cMac_begin_b2 ih v0 v1 v2 v3 h
theorem fe_cMac_begin (v0 : Nat) (v1 : Nat) (v2 : Int) (h : Hp) : Feo (wI_cMac_begin v0 v1 v2 h) (wJ_cMac_begin v0 v1 v2 h) h id (f_cMac_begin v0 v1 v2 h) := by
  unfold f_cMac_begin
  exact fe_j Fe.rf (fe_cMac_begin_b2_lp FU _ _ _ _ _) (fun x k hx => by simp only [wI_cMac_begin_b2] at hx; rcases hx with e | e | e | e | e | e | e | e | e | e <;> first | exact Or.inl (e) | exact Or.inr (Or.inl (e)) | exact Or.inr (Or.inr (Or.inl (e))) | exact Or.inr (Or.inr (Or.inr (Or.inl (e)))) | exact Or.inr (Or.inr (Or.inr (Or.inr (Or.inl (e))))) | exact Or.inr (Or.inr (Or.inr (Or.inr (Or.inr (Or.inl (e)))))) | exact Or.inr (Or.inr (Or.inr (Or.inr (Or.inr (Or.inr (Or.inl (e))))))) | exact Or.inr (Or.inr (Or.inr (Or.inr (Or.inr (Or.inr (Or.inr (Or.inl (e)))))))) | exact Or.inr (Or.inr (Or.inr (Or.inr (Or.inr (Or.inr (Or.inr (Or.inr (Or.inl (e))))))))) | exact Or.inr (Or.inr (Or.inr (Or.inr (Or.inr (Or.inr (Or.inr (Or.inr (Or.inr (e)))))))))) (fun x k hx => by simp only [wJ_cMac_begin_b2] at hx; rcases hx with e | e <;> first | exact Or.inl (e) | exact Or.inr (e))
def wI_cMac_add (v0 : Nat) (v1 : Nat) (v2 : Int) (v3 : Int) (h : Hp) (x k : Nat) : Prop := (x = (hR h v0 0) ∧ k = 3) ∨ x = hR h (hR h v0 0) 0 ∨ x = hR h (hR h v0 0) 1 ∨ x = hR h (hR h v0 0) 2
def wJ_cMac_add (v0 : Nat) (v1 : Nat) (v2 : Int) (v3 : Int) (h : Hp) (x k : Nat) : Prop := (x = (hR h v0 0) ∧ k = 4)
theorem fe_cMac_add (v0 : Nat) (v1 : Nat) (v2 : Int) (v3 : Int) (h : Hp) : Feo (wI_cMac_add v0 v1 v2 v3 h) (wJ_cMac_add v0 v1 v2 v3 h) h id (f_cMac_add v0 v1 v2 v3 h) := by
  unfold f_cMac_add
  refine fe_it fe_no ?_
  refine fe_b1 Fe.rf (fe_cHash_add _ _ _ _ _) (fun x k hx => by simp only [wI_cHash_add] at hx; rcases hx with e | e | e | e <;> first | exact Or.inl (e) | exact Or.inr (Or.inl (e)) | exact Or.inr (Or.inr (Or.inl (e))) | exact Or.inr (Or.inr (Or.inr (e)))) (fun x k hx => by simp only [wJ_cHash_add] at hx; have e := hx; exact e) (fun h2 F1 => ?_)
  exact fe_so F1
def wI_cMac_end (v0 : Nat) (v1 : Nat) (v2 : Int) (h : Hp) (x k : Nat) : Prop := (x = (hR h v0 0) ∧ k = 3) ∨ (x = (hR h v0 1) ∧ k = 3) ∨ x = (hR h v0 3) ∨ x = hR h (hR h v0 0) 0 ∨ x = hR h (hR h v0 0) 1 ∨ x = hR h (hR h v0 0) 2 ∨ x = hR h (hR h v0 1) 0 ∨ x = hR h (hR h v0 1) 1 ∨ x = hR h (hR h v0 1) 2 ∨ x = v1
def wJ_cMac_end (v0 : Nat) (v1 : Nat) (v2 : Int) (h : Hp) (x k : Nat) : Prop := (x = (hR h v0 1) ∧ k = 4)
theorem fe_cMac_end (v0 : Nat) (v1 : Nat) (v2 : Int) (h : Hp) : Feo (wI_cMac_end v0 v1 v2 h) (wJ_cMac_end v0 v1 v2 h) h id (f_cMac_end v0 v1 v2 h) := by
  unfold f_cMac_end
  refine fe_it fe_no ?_
  refine fe_b1 Fe.rf (fe_cHash_end _ _ _ _) (fun x k hx => by simp only [wI_cHash_end] at hx; rcases hx with e | e | e | e | e <;> first | exact Or.inl (e) | exact Or.inr (Or.inr (Or.inl (e))) | exact Or.inr (Or.inr (Or.inr (Or.inl (e)))) | exact Or.inr (Or.inr (Or.inr (Or.inr (Or.inl (e))))) | exact Or.inr (Or.inr (Or.inr (Or.inr (Or.inr (Or.inl (e))))))) (fun x k hx => False.elim hx) (fun h2 F1 => ?_)
  refine fe_it fe_no ?_
  refine fe_b1 F1 (fe_cHash_add _ _ _ _ _) (fun x k hx => by simp only [wI_cHash_add, F1.r] at hx; rcases hx with e | e | e | e <;> first | exact Or.inr (Or.inl (e)) | exact Or.inr (Or.inr (Or.inr (Or.inr (Or.inr (Or.inr (Or.inl (e))))))) | exact Or.inr (Or.inr (Or.inr (Or.inr (Or.inr (Or.inr (Or.inr (Or.inl (e)))))))) | exact Or.inr (Or.inr (Or.inr (Or.inr (Or.inr (Or.inr (Or.inr (Or.inr (Or.inl (e)))))))))) (fun x k hx => by simp only [wJ_cHash_add, F1.r] at hx; have e := hx; exact e) (fun h5 F2 => ?_)
  refine fe_it fe_no ?_
  refine fe_b1 F2 (fe_cHash_end _ _ _ _) (fun x k hx => by simp only [wI_cHash_end, F1.r, F2.r] at hx; rcases hx with e | e | e | e | e <;> first | exact Or.inr (Or.inl (e)) | exact Or.inr (Or.inr (Or.inr (Or.inr (Or.inr (Or.inr (Or.inl (e))))))) | exact Or.inr (Or.inr (Or.inr (Or.inr (Or.inr (Or.inr (Or.inr (Or.inl (e)))))))) | exact Or.inr (Or.inr (Or.inr (Or.inr (Or.inr (Or.inr (Or.inr (Or.inr (Or.inl (e))))))))) | exact Or.inr (Or.inr (Or.inr (Or.inr (Or.inr (Or.inr (Or.inr (Or.inr (Or.inr (e)))))))))) (fun x k hx => False.elim hx) (fun h8 F3 => ?_)
  exact fe_so F3
def wI_cGreeting_mac (v0 : Nat) (v1 : Nat) (v2 : Int) (v3 : Nat) (v4 : Int) (v5 : Int) (v6 : Nat) (h : Hp) (x k : Nat) : Prop := (x = (hR h (hR h (hR h v0 6) 0) 0) ∧ k = 3) ∨ (x = (hR h (hR h (hR h v0 6) 0) 1) ∧ k = 3) ∨ x = (hR h (hR h (hR h v0 6) 0) 2) ∨ x = (hR h (hR h (hR h v0 6) 0) 3) ∨ x = hR h (hR h (hR h (hR h v0 6) 0) 0) 0 ∨ x = hR h (hR h (hR h (hR h v0 6) 0) 0) 1 ∨ x = hR h (hR h (hR h (hR h v0 6) 0) 0) 2 ∨ x = hR h (hR h (hR h (hR h v0 6) 0) 1) 0 ∨ x = hR h (hR h (hR h (hR h v0 6) 0) 1) 1 ∨ x = hR h (hR h (hR h (hR h v0 6) 0) 1) 2 ∨ x = hR h (hR h (hR h v0 6) 0) 2 ∨ x = v6
def wJ_cGreeting_mac (v0 : Nat) (v1 : Nat) (v2 : Int) (v3 : Nat) (v4 : Int) (v5 : Int) (v6 : Nat) (h : Hp) (x k : Nat) : Prop := (x = (hR h (hR h (hR h v0 6) 0) 0) ∧ k = 4) ∨ (x = (hR h (hR h (hR h v0 6) 0) 1) ∧ k = 4)
theorem fe_cGreeting_mac (v0 : Nat) (v1 : Nat) (v2 : Int) (v3 : Nat) (v4 : Int) (v5 : Int) (v6 : Nat) (h : Hp) : Feo (wI_cGreeting_mac v0 v1 v2 v3 v4 v5 v6 h) (wJ_cGreeting_mac v0 v1 v2 v3 v4 v5 v6 h) h id (f_cGreeting_mac v0 v1 v2 v3 v4 v5 v6 h) := by
  unfold f_cGreeting_mac
  refine fe_it fe_no ?_
  refine fe_it fe_no ?_
  refine fe_b1 Fe.rf (fe_cMac_begin _ _ _ _) (fun x k hx => by simp only [wI_cMac_begin] at hx; rcases hx with e | e | e | e | e | e | e | e | e | e <;> first | exact Or.inl (e) | exact Or.inr (Or.inl (e)) | exact Or.inr (Or.inr (Or.inl (e))) | exact Or.inr (Or.inr (Or.inr (Or.inr (Or.inl (e))))) | exact Or.inr (Or.inr (Or.inr (Or.inr (Or.inr (Or.inl (e)))))) | exact Or.inr (Or.inr (Or.inr (Or.inr (Or.inr (Or.inr (Or.inl (e))))))) | exact Or.inr (Or.inr (Or.inr (Or.inr (Or.inr (Or.inr (Or.inr (Or.inl (e)))))))) | exact Or.inr (Or.inr (Or.inr (Or.inr (Or.inr (Or.inr (Or.inr (Or.inr (Or.inl (e))))))))) | exact Or.inr (Or.inr (Or.inr (Or.inr (Or.inr (Or.inr (Or.inr (Or.inr (Or.inr (Or.inl (e)))))))))) | exact Or.inr (Or.inr (Or.inr (Or.inr (Or.inr (Or.inr (Or.inr (Or.inr (Or.inr (Or.inr (Or.inl (e)))))))))))) (fun x k hx => by simp only [wJ_cMac_begin] at hx; rcases hx with e | e <;> first | exact Or.inl (e) | exact Or.inr (e)) (fun h3 F1 => ?_)
  refine fe_it fe_no ?_
  refine fe_it fe_no ?_
  refine fe_b1 F1 (fe_cMac_add _ _ _ _ _) (fun x k hx => by simp only [wI_cMac_add, F1.r] at hx; rcases hx with e | e | e | e <;> first | exact Or.inl (e) | exact Or.inr (Or.inr (Or.inr (Or.inr (Or.inl (e))))) | exact Or.inr (Or.inr (Or.inr (Or.inr (Or.inr (Or.inl (e)))))) | exact Or.inr (Or.inr (Or.inr (Or.inr (Or.inr (Or.inr (Or.inl (e)))))))) (fun x k hx => by simp only [wJ_cMac_add, F1.r] at hx; have e := hx; exact Or.inl (e)) (fun h7 F2 => ?_)
  refine fe_it fe_no ?_
  refine fe_it fe_no ?_
  refine fe_b1 F2 (fe_cMac_end _ _ _ _) (fun x k hx => by simp only [wI_cMac_end, F1.r, F2.r] at hx; rcases hx with e | e | e | e | e | e | e | e | e | e <;> first | exact Or.inl (e) | exact Or.inr (Or.inl (e)) | exact Or.inr (Or.inr (Or.inr (Or.inl (e)))) | exact Or.inr (Or.inr (Or.inr (Or.inr (Or.inl (e))))) | exact Or.inr (Or.inr (Or.inr (Or.inr (Or.inr (Or.inl (e)))))) | exact Or.inr (Or.inr (Or.inr (Or.inr (Or.inr (Or.inr (Or.inl (e))))))) | exact Or.inr (Or.inr (Or.inr (Or.inr (Or.inr (Or.inr (Or.inr (Or.inl (e)))))))) | exact Or.inr (Or.inr (Or.inr (Or.inr (Or.inr (Or.inr (Or.inr (Or.inr (Or.inl (e))))))))) | exact Or.inr (Or.inr (Or.inr (Or.inr (Or.inr (Or.inr (Or.inr (Or.inr (Or.inr (Or.inl (e)))))))))) | exact Or.inr (Or.inr (Or.inr (Or.inr (Or.inr (Or.inr (Or.inr (Or.inr (Or.inr (Or.inr (Or.inr (e)))))))))))) (fun x k hx => by simp only [wJ_cMac_end, F1.r, F2.r] at hx; have e := hx; exact Or.inr (e)) (fun h11 F3 => ?_)
  exact fe_so F3
def wI_jString_coder (v0 : Nat) (h : Hp) (x k : Nat) : Prop := False
def wJ_jString_coder (v0 : Nat) (h : Hp) (x k : Nat) : Prop := False
theorem fe_jString_coder (v0 : Nat) (h : Hp) : Feo (wI_jString_coder v0 h) (wJ_jString_coder v0 h) h Prod.snd (f_jString_coder v0 h) := by
  unfold f_jString_coder
  refine fe_it ?_ ?_
  · refine fe_it ?_ fe_no
    exact fe_so Fe.rf
  · refine fe_it ?_ fe_no
    exact fe_so Fe.rf
def wI_jString_length (v0 : Nat) (h : Hp) (x k : Nat) : Prop := False
def wJ_jString_length (v0 : Nat) (h : Hp) (x k : Nat) : Prop := False
theorem fe_jString_length (v0 : Nat) (h : Hp) : Feo (wI_jString_length v0 h) (wJ_jString_length v0 h) h Prod.snd (f_jString_length v0 h) := by
  unfold f_jString_length
  refine fe_it fe_no ?_
  refine fe_b2 Fe.rf (fe_jString_coder _ _) (fun x k hx => False.elim hx) (fun x k hx => False.elim hx) (fun r4 h2 F1 => ?_)
  exact fe_so F1
def wI_jString_isLatin1 (v0 : Nat) (h : Hp) (x k : Nat) : Prop := False
def wJ_jString_isLatin1 (v0 : Nat) (h : Hp) (x k : Nat) : Prop := False
theorem fe_jString_isLatin1 (v0 : Nat) (h : Hp) : Feo (wI_jString_isLatin1 v0 h) (wJ_jString_isLatin1 v0 h) h Prod.snd (f_jString_isLatin1 v0 h) := by
  unfold f_jString_isLatin1
  refine fe_it ?_ ?_
  · exact fe_so Fe.rf
  · refine fe_it ?_ ?_
    · exact fe_so Fe.rf
    · exact fe_so Fe.rf
def wI_jPreconditions_checkIndex_b9 (v0 : Int) (v1 : Int) (v2 : Nat) (h : Hp) (x k : Nat) : Prop := False
def wJ_jPreconditions_checkIndex_b9 (v0 : Int) (v1 : Int) (v2 : Nat) (h : Hp) (x k : Nat) : Prop := False
def wI_jPreconditions_checkIndex (v0 : Int) (v1 : Int) (v2 : Nat) (h : Hp) (x k : Nat) : Prop := False
def wJ_jPreconditions_checkIndex (v0 : Int) (v1 : Int) (v2 : Nat) (h : Hp) (x k : Nat) : Prop := False
theorem fe_jPreconditions_checkIndex_b9 (v0 : Int) (v1 : Int) (v2 : Nat) (h : Hp) : Feo (wI_jPreconditions_checkIndex_b9 v0 v1 v2 h) (wJ_jPreconditions_checkIndex_b9 v0 v1 v2 h) h Prod.snd (f_jPreconditions_checkIndex_b9 v0 v1 v2 h) := by
  unfold f_jPreconditions_checkIndex_b9
  exact fe_no
theorem fe_jPreconditions_checkIndex (v0 : Int) (v1 : Int) (v2 : Nat) (h : Hp) : Feo (wI_jPreconditions_checkIndex v0 v1 v2 h) (wJ_jPreconditions_checkIndex v0 v1 v2 h) h Prod.snd (f_jPreconditions_checkIndex v0 v1 v2 h) := by
  unfold f_jPreconditions_checkIndex
  refine fe_it ?_ ?_
  · exact fe_j Fe.rf (fe_jPreconditions_checkIndex_b9 _ _ _ _) (fun x k hx => False.elim hx) (fun x k hx => False.elim hx)
  · refine fe_it ?_ ?_
    · exact fe_so Fe.rf
    · exact fe_j Fe.rf (fe_jPreconditions_checkIndex_b9 _ _ _ _) (fun x k hx => False.elim hx) (fun x k hx => False.elim hx)
def wI_jString_checkIndex (v0 : Int) (v1 : Int) (h : Hp) (x k : Nat) : Prop := False
def wJ_jString_checkIndex (v0 : Int) (v1 : Int) (h : Hp) (x k : Nat) : Prop := False
theorem fe_jString_checkIndex (v0 : Int) (v1 : Int) (h : Hp) : Feo (wI_jString_checkIndex v0 v1 h) (wJ_jString_checkIndex v0 v1 h) h id (f_jString_checkIndex v0 v1 h) := by
  unfold f_jString_checkIndex
  refine fe_b2 Fe.rf (fe_jPreconditions_checkIndex _ _ _ _) (fun x k hx => False.elim hx) (fun x k hx => False.elim hx) (fun r3 h1 F1 => ?_)
  exact fe_so F1
def wI_jStringLatin1_charAt (v0 : Nat) (v1 : Int) (h : Hp) (x k : Nat) : Prop := False
def wJ_jStringLatin1_charAt (v0 : Nat) (v1 : Int) (h : Hp) (x k : Nat) : Prop := False
theorem fe_jStringLatin1_charAt (v0 : Nat) (v1 : Int) (h : Hp) : Feo (wI_jStringLatin1_charAt v0 v1 h) (wJ_jStringLatin1_charAt v0 v1 h) h Prod.snd (f_jStringLatin1_charAt v0 v1 h) := by
  unfold f_jStringLatin1_charAt
  refine fe_it fe_no ?_
  refine fe_b1 Fe.rf (fe_jString_checkIndex _ _ _) (fun x k hx => False.elim hx) (fun x k hx => False.elim hx) (fun h2 F1 => ?_)
  refine fe_it ?_ fe_no
  refine fe_it ?_ fe_no
  exact fe_so F1
def wI_jString_charAt (v0 : Nat) (v1 : Int) (h : Hp) (x k : Nat) : Prop := False
def wJ_jString_charAt (v0 : Nat) (v1 : Int) (h : Hp) (x k : Nat) : Prop := False
theorem fe_jString_charAt (v0 : Nat) (v1 : Int) (h : Hp) : Feo (wI_jString_charAt v0 v1 h) (wJ_jString_charAt v0 v1 h) h Prod.snd (f_jString_charAt v0 v1 h) := by
  unfold f_jString_charAt
  refine fe_b2 Fe.rf (fe_jString_isLatin1 _ _) (fun x k hx => False.elim hx) (fun x k hx => False.elim hx) (fun r3 h1 F1 => ?_)
  refine fe_it ?_ ?_
  · exact fe_no
  · refine fe_b2 F1 (fe_jStringLatin1_charAt _ _ _) (fun x k hx => False.elim hx) (fun x k hx => False.elim hx) (fun r6 h4 F2 => ?_)
    refine fe_it ?_ fe_no
    exact fe_so F2
def wI_cStretch_stretch_b42 (v0 : Nat) (v1 : Nat) (v2 : Int) (v3 : Nat) (v4 : Int) (v5 : Nat) (v6 : Int) (v7 : Int) (v8 : Int) (h : Hp) (x k : Nat) : Prop := (x = (hR h (hR h v0 0) 0) ∧ k = 3) ∨ (x = (hR h (hR h v0 0) 1) ∧ k = 3) ∨ x = (hR h (hR h v0 0) 2) ∨ x = (hR h (hR h v0 0) 3) ∨ x = (hR h v0 1) ∨ x = hR h (hR h (hR h v0 0) 0) 0 ∨ x = hR h (hR h (hR h v0 0) 0) 1 ∨ x = hR h (hR h (hR h v0 0) 0) 2 ∨ x = hR h (hR h (hR h v0 0) 1) 0 ∨ x = hR h (hR h (hR h v0 0) 1) 1 ∨ x = hR h (hR h (hR h v0 0) 1) 2 ∨ x = hR h (hR h v0 0) 2 ∨ x = hR h v0 3 ∨ x = v5
def wJ_cStretch_stretch_b42 (v0 : Nat) (v1 : Nat) (v2 : Int) (v3 : Nat) (v4 : Int) (v5 : Nat) (v6 : Int) (v7 : Int) (v8 : Int) (h : Hp) (x k : Nat) : Prop := (x = (hR h (hR h v0 0) 0) ∧ k = 4) ∨ (x = (hR h (hR h v0 0) 1) ∧ k = 4)
def wI_cStretch_stretch_b6 (v0 : Nat) (v1 : Nat) (v2 : Int) (v3 : Nat) (v4 : Int) (v5 : Nat) (v6 : Int) (v7 : Int) (v8 : Int) (h : Hp) (x k : Nat) : Prop := (x = (hR h (hR h v0 0) 0) ∧ k = 3) ∨ (x = (hR h (hR h v0 0) 1) ∧ k = 3) ∨ x = (hR h (hR h v0 0) 2) ∨ x = (hR h (hR h v0 0) 3) ∨ x = (hR h v0 1) ∨ x = hR h (hR h (hR h v0 0) 0) 0 ∨ x = hR h (hR h (hR h v0 0) 0) 1 ∨ x = hR h (hR h (hR h v0 0) 0) 2 ∨ x = hR h (hR h (hR h v0 0) 1) 0 ∨ x = hR h (hR h (hR h v0 0) 1) 1 ∨ x = hR h (hR h (hR h v0 0) 1) 2 ∨ x = hR h (hR h v0 0) 2 ∨ x = hR h v0 3 ∨ x = v5
def wJ_cStretch_stretch_b6 (v0 : Nat) (v1 : Nat) (v2 : Int) (v3 : Nat) (v4 : Int) (v5 : Nat) (v6 : Int) (v7 : Int) (v8 : Int) (h : Hp) (x k : Nat) : Prop := (x = (hR h (hR h v0 0) 0) ∧ k = 4) ∨ (x = (hR h (hR h v0 0) 1) ∧ k = 4)
def wI_cStretch_stretch (v0 : Nat) (v1 : Nat) (v2 : Int) (v3 : Nat) (v4 : Int) (v5 : Nat) (v6 : Int) (h : Hp) (x k : Nat) : Prop := (x = (hR h (hR h v0 0) 0) ∧ k = 3) ∨ (x = (hR h (hR h v0 0) 1) ∧ k = 3) ∨ x = (hR h (hR h v0 0) 2) ∨ x = (hR h (hR h v0 0) 3) ∨ x = (hR h v0 1) ∨ x = hR h (hR h (hR h v0 0) 0) 0 ∨ x = hR h (hR h (hR h v0 0) 0) 1 ∨ x = hR h (hR h (hR h v0 0) 0) 2 ∨ x = hR h (hR h (hR h v0 0) 1) 0 ∨ x = hR h (hR h (hR h v0 0) 1) 1 ∨ x = hR h (hR h (hR h v0 0) 1) 2 ∨ x = hR h (hR h v0 0) 2 ∨ x = hR h v0 3 ∨ x = v5
def wJ_cStretch_stretch (v0 : Nat) (v1 : Nat) (v2 : Int) (v3 : Nat) (v4 : Int) (v5 : Nat) (v6 : Int) (h : Hp) (x k : Nat) : Prop := (x = (hR h (hR h v0 0) 0) ∧ k = 4) ∨ (x = (hR h (hR h v0 0) 1) ∧ k = 4)
theorem fe_cStretch_stretch_b42 {k6 : Nat → Nat → Int → Nat → Int → Nat → Int → Int → Int → Hp → Option (Hp)} (hk6 : ∀ (v0 : Nat) (v1 : Nat) (v2 : Int) (v3 : Nat) (v4 : Int) (v5 : Nat) (v6 : Int) (v7 : Int) (v8 : Int) (h : Hp), Feo (wI_cStretch_stretch_b6 v0 v1 v2 v3 v4 v5 v6 v7 v8 h) (wJ_cStretch_stretch_b6 v0 v1 v2 v3 v4 v5 v6 v7 v8 h) h id (k6 v0 v1 v2 v3 v4 v5 v6 v7 v8 h)) (v0 : Nat) (v1 : Nat) (v2 : Int) (v3 : Nat) (v4 : Int) (v5 : Nat) (v6 : Int) (v7 : Int) (v8 : Int) (h : Hp) : Feo (wI_cStretch_stretch_b42 v0 v1 v2 v3 v4 v5 v6 v7 v8 h) (wJ_cStretch_stretch_b42 v0 v1 v2 v3 v4 v5 v6 v7 v8 h) h id (f_cStretch_stretch_b42 k6 v0 v1 v2 v3 v4 v5 v6 v7 v8 h) := by
  unfold f_cStretch_stretch_b42
  refine fe_it fe_no ?_
  refine fe_b1 Fe.rf (fe_cMac_add _ _ _ _ _) (fun x k hx => by simp only [wI_cMac_add] at hx; rcases hx with e | e | e | e <;> first | exact Or.inl (e) | exact Or.inr (Or.inr (Or.inr (Or.inr (Or.inr (Or.inl (e)))))) | exact Or.inr (Or.inr (Or.inr (Or.inr (Or.inr (Or.inr (Or.inl (e))))))) | exact Or.inr (Or.inr (Or.inr (Or.inr (Or.inr (Or.inr (Or.inr (Or.inl (e))))))))) (fun x k hx => by simp only [wJ_cMac_add] at hx; have e := hx; exact Or.inl (e)) (fun h8 F1 => ?_)
  refine fe_it fe_no ?_
  refine fe_it ?_ fe_no
  refine fe_I F1 (Or.inr (Or.inr (Or.inr (Or.inr (Or.inr (Or.inr (Or.inr (Or.inr (Or.inr (Or.inr (Or.inr (Or.inr (Or.inl ((by first | (simp only [F1.r]; exact rfl) | simp only [F1.r]))))))))))))))) (fun h12 F2 => ?_)
  refine fe_it fe_no ?_
  refine fe_b1 F2 (fe_cMac_add _ _ _ _ _) (fun x k hx => by simp only [wI_cMac_add, F1.r, F2.r] at hx; rcases hx with e | e | e | e <;> first | exact Or.inl (e) | exact Or.inr (Or.inr (Or.inr (Or.inr (Or.inr (Or.inl (e)))))) | exact Or.inr (Or.inr (Or.inr (Or.inr (Or.inr (Or.inr (Or.inl (e))))))) | exact Or.inr (Or.inr (Or.inr (Or.inr (Or.inr (Or.inr (Or.inr (Or.inl (e))))))))) (fun x k hx => by simp only [wJ_cMac_add, F1.r, F2.r] at hx; have e := hx; exact Or.inl (e)) (fun h14 F3 => ?_)
  refine fe_it fe_no ?_
  refine fe_b1 F3 (fe_cMac_end _ _ _ _) (fun x k hx => by simp only [wI_cMac_end, F1.r, F2.r, F3.r] at hx; rcases hx with e | e | e | e | e | e | e | e | e | e <;> first | exact Or.inl (e) | exact Or.inr (Or.inl (e)) | exact Or.inr (Or.inr (Or.inr (Or.inl (e)))) | exact Or.inr (Or.inr (Or.inr (Or.inr (Or.inl (e))))) | exact Or.inr (Or.inr (Or.inr (Or.inr (Or.inr (Or.inl (e)))))) | exact Or.inr (Or.inr (Or.inr (Or.inr (Or.inr (Or.inr (Or.inl (e))))))) | exact Or.inr (Or.inr (Or.inr (Or.inr (Or.inr (Or.inr (Or.inr (Or.inl (e)))))))) | exact Or.inr (Or.inr (Or.inr (Or.inr (Or.inr (Or.inr (Or.inr (Or.inr (Or.inl (e))))))))) | exact Or.inr (Or.inr (Or.inr (Or.inr (Or.inr (Or.inr (Or.inr (Or.inr (Or.inr (Or.inl (e)))))))))) | exact Or.inr (Or.inr (Or.inr (Or.inr (Or.inr (Or.inr (Or.inr (Or.inr (Or.inr (Or.inr (Or.inl (e)))))))))))) (fun x k hx => by simp only [wJ_cMac_end, F1.r, F2.r, F3.r] at hx; have e := hx; exact Or.inr (e)) (fun h17 F4 => ?_)
  refine fe_v (fun y19 => ?_)
  refine fe_it fe_no ?_
  refine fe_it fe_no ?_
  refine fe_it ?_ fe_no
  refine fe_cI F4 (fun y => Or.inr (Or.inr (Or.inr (Or.inr (Or.inr (Or.inr (Or.inr (Or.inr (Or.inr (Or.inr (Or.inr (Or.inr (Or.inr (rfl)))))))))))))) (fun h23 F5 => ?_)
  refine fe_v (fun y24 => ?_)
  exact fe_j F5 (hk6 _ _ _ _ _ _ _ _ _ _) (fun x k hx => by simp only [wI_cStretch_stretch_b6, F1.r, F2.r, F3.r, F4.r, F5.r] at hx; rcases hx with e | e | e | e | e | e | e | e | e | e | e | e | e | e <;> first | exact Or.inl (e) | exact Or.inr (Or.inl (e)) | exact Or.inr (Or.inr (Or.inl (e))) | exact Or.inr (Or.inr (Or.inr (Or.inl (e)))) | exact Or.inr (Or.inr (Or.inr (Or.inr (Or.inl (e))))) | exact Or.inr (Or.inr (Or.inr (Or.inr (Or.inr (Or.inl (e)))))) | exact Or.inr (Or.inr (Or.inr (Or.inr (Or.inr (Or.inr (Or.inl (e))))))) | exact Or.inr (Or.inr (Or.inr (Or.inr (Or.inr (Or.inr (Or.inr (Or.inl (e)))))))) | exact Or.inr (Or.inr (Or.inr (Or.inr (Or.inr (Or.inr (Or.inr (Or.inr (Or.inl (e))))))))) | exact Or.inr (Or.inr (Or.inr (Or.inr (Or.inr (Or.inr (Or.inr (Or.inr (Or.inr (Or.inl (e)))))))))) | exact Or.inr (Or.inr (Or.inr (Or.inr (Or.inr (Or.inr (Or.inr (Or.inr (Or.inr (Or.inr (Or.inl (e))))))))))) | exact Or.inr (Or.inr (Or.inr (Or.inr (Or.inr (Or.inr (Or.inr (Or.inr (Or.inr (Or.inr (Or.inr (Or.inl (e)))))))))))) | exact Or.inr (Or.inr (Or.inr (Or.inr (Or.inr (Or.inr (Or.inr (Or.inr (Or.inr (Or.inr (Or.inr (Or.inr (Or.inl (e))))))))))))) | exact Or.inr (Or.inr (Or.inr (Or.inr (Or.inr (Or.inr (Or.inr (Or.inr (Or.inr (Or.inr (Or.inr (Or.inr (Or.inr (e)))))))))))))) (fun x k hx => by simp only [wJ_cStretch_stretch_b6, F1.r, F2.r, F3.r, F4.r, F5.r] at hx; rcases hx with e | e <;> first | exact Or.inl (e) | exact Or.inr (e))
theorem fe_cStretch_stretch_b6 {k6 : Nat → Nat → Int → Nat → Int → Nat → Int → Int → Int → Hp → Option (Hp)} (hk6 : ∀ (v0 : Nat) (v1 : Nat) (v2 : Int) (v3 : Nat) (v4 : Int) (v5 : Nat) (v6 : Int) (v7 : Int) (v8 : Int) (h : Hp), Feo (wI_cStretch_stretch_b6 v0 v1 v2 v3 v4 v5 v6 v7 v8 h) (wJ_cStretch_stretch_b6 v0 v1 v2 v3 v4 v5 v6 v7 v8 h) h id (k6 v0 v1 v2 v3 v4 v5 v6 v7 v8 h)) (v0 : Nat) (v1 : Nat) (v2 : Int) (v3 : Nat) (v4 : Int) (v5 : Nat) (v6 : Int) (v7 : Int) (v8 : Int) (h : Hp) : Feo (wI_cStretch_stretch_b6 v0 v1 v2 v3 v4 v5 v6 v7 v8 h) (wJ_cStretch_stretch_b6 v0 v1 v2 v3 v4 v5 v6 v7 v8 h) h id (f_cStretch_stretch_b6 k6 v0 v1 v2 v3 v4 v5 v6 v7 v8 h) := by
  unfold f_cStretch_stretch_b6
  refine fe_it ?_ ?_
  · exact fe_so Fe.rf
  · refine fe_it fe_no ?_
    refine fe_b1 Fe.rf (fe_cMac_begin _ _ _ _) (fun x k hx => by simp only [wI_cMac_begin] at hx; rcases hx with e | e | e | e | e | e | e | e | e | e <;> first | exact Or.inl (e) | exact Or.inr (Or.inl (e)) | exact Or.inr (Or.inr (Or.inl (e))) | exact Or.inr (Or.inr (Or.inr (Or.inr (Or.inr (Or.inl (e)))))) | exact Or.inr (Or.inr (Or.inr (Or.inr (Or.inr (Or.inr (Or.inl (e))))))) | exact Or.inr (Or.inr (Or.inr (Or.inr (Or.inr (Or.inr (Or.inr (Or.inl (e)))))))) | exact Or.inr (Or.inr (Or.inr (Or.inr (Or.inr (Or.inr (Or.inr (Or.inr (Or.inl (e))))))))) | exact Or.inr (Or.inr (Or.inr (Or.inr (Or.inr (Or.inr (Or.inr (Or.inr (Or.inr (Or.inl (e)))))))))) | exact Or.inr (Or.inr (Or.inr (Or.inr (Or.inr (Or.inr (Or.inr (Or.inr (Or.inr (Or.inr (Or.inl (e))))))))))) | exact Or.inr (Or.inr (Or.inr (Or.inr (Or.inr (Or.inr (Or.inr (Or.inr (Or.inr (Or.inr (Or.inr (Or.inl (e))))))))))))) (fun x k hx => by simp only [wJ_cMac_begin] at hx; rcases hx with e | e <;> first | exact Or.inl (e) | exact Or.inr (e)) (fun h2 F1 => ?_)
    refine fe_it ?_ ?_
    · exact fe_j F1 (fe_cStretch_stretch_b42 hk6 _ _ _ _ _ _ _ _ _ _) (fun x k hx => by simp only [wI_cStretch_stretch_b42, F1.r] at hx; rcases hx with e | e | e | e | e | e | e | e | e | e | e | e | e | e <;> first | exact Or.inl (e) | exact Or.inr (Or.inl (e)) | exact Or.inr (Or.inr (Or.inl (e))) | exact Or.inr (Or.inr (Or.inr (Or.inl (e)))) | exact Or.inr (Or.inr (Or.inr (Or.inr (Or.inl (e))))) | exact Or.inr (Or.inr (Or.inr (Or.inr (Or.inr (Or.inl (e)))))) | exact Or.inr (Or.inr (Or.inr (Or.inr (Or.inr (Or.inr (Or.inl (e))))))) | exact Or.inr (Or.inr (Or.inr (Or.inr (Or.inr (Or.inr (Or.inr (Or.inl (e)))))))) | exact Or.inr (Or.inr (Or.inr (Or.inr (Or.inr (Or.inr (Or.inr (Or.inr (Or.inl (e))))))))) | exact Or.inr (Or.inr (Or.inr (Or.inr (Or.inr (Or.inr (Or.inr (Or.inr (Or.inr (Or.inl (e)))))))))) | exact Or.inr (Or.inr (Or.inr (Or.inr (Or.inr (Or.inr (Or.inr (Or.inr (Or.inr (Or.inr (Or.inl (e))))))))))) | exact Or.inr (Or.inr (Or.inr (Or.inr (Or.inr (Or.inr (Or.inr (Or.inr (Or.inr (Or.inr (Or.inr (Or.inl (e)))))))))))) | exact Or.inr (Or.inr (Or.inr (Or.inr (Or.inr (Or.inr (Or.inr (Or.inr (Or.inr (Or.inr (Or.inr (Or.inr (Or.inl (e))))))))))))) | exact Or.inr (Or.inr (Or.inr (Or.inr (Or.inr (Or.inr (Or.inr (Or.inr (Or.inr (Or.inr (Or.inr (Or.inr (Or.inr (e)))))))))))))) (fun x k hx => by simp only [wJ_cStretch_stretch_b42, F1.r] at hx; rcases hx with e | e <;> first | exact Or.inl (e) | exact Or.inr (e))
    · refine fe_it fe_no ?_
      refine fe_b1 F1 (fe_cMac_add _ _ _ _ _) (fun x k hx => by simp only [wI_cMac_add, F1.r] at hx; rcases hx with e | e | e | e <;> first | exact Or.inl (e) | exact Or.inr (Or.inr (Or.inr (Or.inr (Or.inr (Or.inl (e)))))) | exact Or.inr (Or.inr (Or.inr (Or.inr (Or.inr (Or.inr (Or.inl (e))))))) | exact Or.inr (Or.inr (Or.inr (Or.inr (Or.inr (Or.inr (Or.inr (Or.inl (e))))))))) (fun x k hx => by simp only [wJ_cMac_add, F1.r] at hx; have e := hx; exact Or.inl (e)) (fun h5 F2 => ?_)
      exact fe_j F2 (fe_cStretch_stretch_b42 hk6 _ _ _ _ _ _ _ _ _ _) (fun x k hx => by simp only [wI_cStretch_stretch_b42, F1.r, F2.r] at hx; rcases hx with e | e | e | e | e | e | e | e | e | e | e | e | e | e <;> first | exact Or.inl (e) | exact Or.inr (Or.inl (e)) | exact Or.inr (Or.inr (Or.inl (e))) | exact Or.inr (Or.inr (Or.inr (Or.inl (e)))) | exact Or.inr (Or.inr (Or.inr (Or.inr (Or.inl (e))))) | exact Or.inr (Or.inr (Or.inr (Or.inr (Or.inr (Or.inl (e)))))) | exact Or.inr (Or.inr (Or.inr (Or.inr (Or.inr (Or.inr (Or.inl (e))))))) | exact Or.inr (Or.inr (Or.inr (Or.inr (Or.inr (Or.inr (Or.inr (Or.inl (e)))))))) | exact Or.inr (Or.inr (Or.inr (Or.inr (Or.inr (Or.inr (Or.inr (Or.inr (Or.inl (e))))))))) | exact Or.inr (Or.inr (Or.inr (Or.inr (Or.inr (Or.inr (Or.inr (Or.inr (Or.inr (Or.inl (e)))))))))) | exact Or.inr (Or.inr (Or.inr (Or.inr (Or.inr (Or.inr (Or.inr (Or.inr (Or.inr (Or.inr (Or.inl (e))))))))))) | exact Or.inr (Or.inr (Or.inr (Or.inr (Or.inr (Or.inr (Or.inr (Or.inr (Or.inr (Or.inr (Or.inr (Or.inl (e)))))))))))) | exact Or.inr (Or.inr (Or.inr (Or.inr (Or.inr (Or.inr (Or.inr (Or.inr (Or.inr (Or.inr (Or.inr (Or.inr (Or.inl (e))))))))))))) | exact Or.inr (Or.inr (Or.inr (Or.inr (Or.inr (Or.inr (Or.inr (Or.inr (Or.inr (Or.inr (Or.inr (Or.inr (Or.inr (e)))))))))))))) (fun x k hx => by simp only [wJ_cStretch_stretch_b42, F1.r, F2.r] at hx; rcases hx with e | e <;> first | exact Or.inl (e) | exact Or.inr (e))
theorem fe_cStretch_stretch_b6_lp (n : Nat) : ∀ (v0 : Nat) (v1 : Nat) (v2 : Int) (v3 : Nat) (v4 : Int) (v5 : Nat) (v6 : Int) (v7 : Int) (v8 : Int) (h : Hp), Feo (wI_cStretch_stretch_b6 v0 v1 v2 v3 v4 v5 v6 v7 v8 h) (wJ_cStretch_stretch_b6 v0 v1 v2 v3 v4 v5 v6 v7 v8 h) h id (f_cStretch_stretch_b6_lp n v0 v1 v2 v3 v4 v5 v6 v7 v8 h) := by
  induction n with
  | zero => intro v0 v1 v2 v3 v4 v5 v6 v7 v8 h; exact fe_no
  | succ n ih => intro v0 v1 v2 v3 v4 v5 v6 v7 v8 h; exact fe_cStretch_stretch_b6 ih v0 v1 v2 v3 v4 v5 v6 v7 v8 h
theorem fe_cStretch_stretch (v0 : Nat) (v1 : Nat) (v2 : Int) (v3 : Nat) (v4 : Int) (v5 : Nat) (v6 : Int) (h : Hp) : Feo (wI_cStretch_stretch v0 v1 v2 v3 v4 v5 v6 h) (wJ_cStretch_stretch v0 v1 v2 v3 v4 v5 v6 h) h id (f_cStretch_stretch v0 v1 v2 v3 v4 v5 v6 h) := by
  unfold f_cStretch_stretch
  exact fe_j Fe.rf (fe_cStretch_stretch_b6_lp FU _ _ _ _ _ _ _ _ _ _) (fun x k hx => by simp only [wI_cStretch_stretch_b6] at hx; rcases hx with e | e | e | e | e | e | e | e | e | e | e | e | e | e <;> first | exact Or.inl (e) | exact Or.inr (Or.inl (e)) | exact Or.inr (Or.inr (Or.inl (e))) | exact Or.inr (Or.inr (Or.inr (Or.inl (e)))) | exact Or.inr (Or.inr (Or.inr (Or.inr (Or.inl (e))))) | exact Or.inr (Or.inr (Or.inr (Or.inr (Or.inr (Or.inl (e)))))) | exact Or.inr (Or.inr (Or.inr (Or.inr (Or.inr (Or.inr (Or.inl (e))))))) | exact Or.inr (Or.inr (Or.inr (Or.inr (Or.inr (Or.inr (Or.inr (Or.inl (e)))))))) | exact Or.inr (Or.inr (Or.inr (Or.inr (Or.inr (Or.inr (Or.inr (Or.inr (Or.inl (e))))))))) | exact Or.inr (Or.inr (Or.inr (Or.inr (Or.inr (Or.inr (Or.inr (Or.inr (Or.inr (Or.inl (e)))))))))) | exact Or.inr (Or.inr (Or.inr (Or.inr (Or.inr (Or.inr (Or.inr (Or.inr (Or.inr (Or.inr (Or.inl (e))))))))))) | exact Or.inr (Or.inr (Or.inr (Or.inr (Or.inr (Or.inr (Or.inr (Or.inr (Or.inr (Or.inr (Or.inr (Or.inl (e)))))))))))) | exact Or.inr (Or.inr (Or.inr (Or.inr (Or.inr (Or.inr (Or.inr (Or.inr (Or.inr (Or.inr (Or.inr (Or.inr (Or.inl (e))))))))))))) | exact Or.inr (Or.inr (Or.inr (Or.inr (Or.inr (Or.inr (Or.inr (Or.inr (Or.inr (Or.inr (Or.inr (Or.inr (Or.inr (e)))))))))))))) (fun x k hx => by simp only [wJ_cStretch_stretch_b6] at hx; rcases hx with e | e <;> first | exact Or.inl (e) | exact Or.inr (e))
def wI_cStretch_label_b42 (v0 : Nat) (v1 : Nat) (v2 : Int) (v3 : Nat) (v4 : Nat) (v5 : Int) (v6 : Nat) (v7 : Int) (v8 : Int) (v9 : Int) (h : Hp) (x k : Nat) : Prop := (x = (hR h (hR h v0 0) 0) ∧ k = 3) ∨ (x = (hR h (hR h v0 0) 1) ∧ k = 3) ∨ x = (hR h (hR h v0 0) 2) ∨ x = (hR h (hR h v0 0) 3) ∨ x = (hR h v0 1) ∨ x = hR h (hR h (hR h v0 0) 0) 0 ∨ x = hR h (hR h (hR h v0 0) 0) 1 ∨ x = hR h (hR h (hR h v0 0) 0) 2 ∨ x = hR h (hR h (hR h v0 0) 1) 0 ∨ x = hR h (hR h (hR h v0 0) 1) 1 ∨ x = hR h (hR h (hR h v0 0) 1) 2 ∨ x = hR h (hR h v0 0) 2 ∨ x = hR h v0 2 ∨ x = hR h v0 3 ∨ x = v6
def wJ_cStretch_label_b42 (v0 : Nat) (v1 : Nat) (v2 : Int) (v3 : Nat) (v4 : Nat) (v5 : Int) (v6 : Nat) (v7 : Int) (v8 : Int) (v9 : Int) (h : Hp) (x k : Nat) : Prop := (x = (hR h (hR h v0 0) 0) ∧ k = 4) ∨ (x = (hR h (hR h v0 0) 1) ∧ k = 4)
def wI_cStretch_label (v0 : Nat) (v1 : Nat) (v2 : Int) (v3 : Nat) (v4 : Nat) (v5 : Int) (v6 : Nat) (v7 : Int) (h : Hp) (x k : Nat) : Prop := (x = (hR h (hR h v0 0) 0) ∧ k = 3) ∨ (x = (hR h (hR h v0 0) 1) ∧ k = 3) ∨ x = (hR h (hR h v0 0) 2) ∨ x = (hR h (hR h v0 0) 3) ∨ x = (hR h v0 1) ∨ x = hR h (hR h (hR h v0 0) 0) 0 ∨ x = hR h (hR h (hR h v0 0) 0) 1 ∨ x = hR h (hR h (hR h v0 0) 0) 2 ∨ x = hR h (hR h (hR h v0 0) 1) 0 ∨ x = hR h (hR h (hR h v0 0) 1) 1 ∨ x = hR h (hR h (hR h v0 0) 1) 2 ∨ x = hR h (hR h v0 0) 2 ∨ x = hR h v0 2 ∨ x = hR h v0 3 ∨ x = v6
def wJ_cStretch_label (v0 : Nat) (v1 : Nat) (v2 : Int) (v3 : Nat) (v4 : Nat) (v5 : Int) (v6 : Nat) (v7 : Int) (h : Hp) (x k : Nat) : Prop := (x = (hR h (hR h v0 0) 0) ∧ k = 4) ∨ (x = (hR h (hR h v0 0) 1) ∧ k = 4)
theorem fe_cStretch_label_b42 {k42 : Nat → Nat → Int → Nat → Nat → Int → Nat → Int → Int → Int → Hp → Option (Hp)} (hk42 : ∀ (v0 : Nat) (v1 : Nat) (v2 : Int) (v3 : Nat) (v4 : Nat) (v5 : Int) (v6 : Nat) (v7 : Int) (v8 : Int) (v9 : Int) (h : Hp), Feo (wI_cStretch_label_b42 v0 v1 v2 v3 v4 v5 v6 v7 v8 v9 h) (wJ_cStretch_label_b42 v0 v1 v2 v3 v4 v5 v6 v7 v8 v9 h) h id (k42 v0 v1 v2 v3 v4 v5 v6 v7 v8 v9 h)) (v0 : Nat) (v1 : Nat) (v2 : Int) (v3 : Nat) (v4 : Nat) (v5 : Int) (v6 : Nat) (v7 : Int) (v8 : Int) (v9 : Int) (h : Hp) : Feo (wI_cStretch_label_b42 v0 v1 v2 v3 v4 v5 v6 v7 v8 v9 h) (wJ_cStretch_label_b42 v0 v1 v2 v3 v4 v5 v6 v7 v8 v9 h) h id (f_cStretch_label_b42 k42 v0 v1 v2 v3 v4 v5 v6 v7 v8 v9 h) := by
  unfold f_cStretch_label_b42
  refine fe_it ?_ ?_
  · refine fe_it fe_no ?_
    refine fe_it ?_ fe_no
    refine fe_I Fe.rf (Or.inr (Or.inr (Or.inr (Or.inr (Or.inr (Or.inr (Or.inr (Or.inr (Or.inr (Or.inr (Or.inr (Or.inr (Or.inl (rfl)))))))))))))) (fun h17 F1 => ?_)
    refine fe_it fe_no ?_
    refine fe_it fe_no ?_
    refine fe_it ?_ fe_no
    refine fe_cI F1 (fun y => Or.inr (Or.inr (Or.inr (Or.inr (Or.inr (Or.inr (Or.inr (Or.inr (Or.inr (Or.inr (Or.inr (Or.inr (Or.inl ((by first | (simp only [F1.r]; exact rfl) | simp only [F1.r]))))))))))))))) (fun h21 F2 => ?_)
    refine fe_b1 F2 (fe_cStretch_stretch _ _ _ _ _ _ _ _) (fun x k hx => by simp only [wI_cStretch_stretch, F1.r, F2.r] at hx; rcases hx with e | e | e | e | e | e | e | e | e | e | e | e | e | e <;> first | exact Or.inl (e) | exact Or.inr (Or.inl (e)) | exact Or.inr (Or.inr (Or.inl (e))) | exact Or.inr (Or.inr (Or.inr (Or.inl (e)))) | exact Or.inr (Or.inr (Or.inr (Or.inr (Or.inl (e))))) | exact Or.inr (Or.inr (Or.inr (Or.inr (Or.inr (Or.inl (e)))))) | exact Or.inr (Or.inr (Or.inr (Or.inr (Or.inr (Or.inr (Or.inl (e))))))) | exact Or.inr (Or.inr (Or.inr (Or.inr (Or.inr (Or.inr (Or.inr (Or.inl (e)))))))) | exact Or.inr (Or.inr (Or.inr (Or.inr (Or.inr (Or.inr (Or.inr (Or.inr (Or.inl (e))))))))) | exact Or.inr (Or.inr (Or.inr (Or.inr (Or.inr (Or.inr (Or.inr (Or.inr (Or.inr (Or.inl (e)))))))))) | exact Or.inr (Or.inr (Or.inr (Or.inr (Or.inr (Or.inr (Or.inr (Or.inr (Or.inr (Or.inr (Or.inl (e))))))))))) | exact Or.inr (Or.inr (Or.inr (Or.inr (Or.inr (Or.inr (Or.inr (Or.inr (Or.inr (Or.inr (Or.inr (Or.inl (e)))))))))))) | exact Or.inr (Or.inr (Or.inr (Or.inr (Or.inr (Or.inr (Or.inr (Or.inr (Or.inr (Or.inr (Or.inr (Or.inr (Or.inr (Or.inl (e)))))))))))))) | exact Or.inr (Or.inr (Or.inr (Or.inr (Or.inr (Or.inr (Or.inr (Or.inr (Or.inr (Or.inr (Or.inr (Or.inr (Or.inr (Or.inr (e))))))))))))))) (fun x k hx => by simp only [wJ_cStretch_stretch, F1.r, F2.r] at hx; rcases hx with e | e <;> first | exact Or.inl (e) | exact Or.inr (e)) (fun h22 F3 => ?_)
    exact fe_so F3
  · refine fe_it fe_no ?_
    refine fe_it fe_no ?_
    refine fe_b2 Fe.rf (fe_jString_charAt _ _ _) (fun x k hx => False.elim hx) (fun x k hx => False.elim hx) (fun r28 h26 F4 => ?_)
    refine fe_it fe_no ?_
    refine fe_it ?_ fe_no
    refine fe_I F4 (Or.inr (Or.inr (Or.inr (Or.inr (Or.inr (Or.inr (Or.inr (Or.inr (Or.inr (Or.inr (Or.inr (Or.inr (Or.inl (rfl)))))))))))))) (fun h31 F5 => ?_)
    exact fe_j F5 (hk42 _ _ _ _ _ _ _ _ _ _ _) (fun x k hx => by simp only [wI_cStretch_label_b42, F4.r, F5.r] at hx; rcases hx with e | e | e | e | e | e | e | e | e | e | e | e | e | e | e <;> first | exact Or.inl (e) | exact Or.inr (Or.inl (e)) | exact Or.inr (Or.inr (Or.inl (e))) | exact Or.inr (Or.inr (Or.inr (Or.inl (e)))) | exact Or.inr (Or.inr (Or.inr (Or.inr (Or.inl (e))))) | exact Or.inr (Or.inr (Or.inr (Or.inr (Or.inr (Or.inl (e)))))) | exact Or.inr (Or.inr (Or.inr (Or.inr (Or.inr (Or.inr (Or.inl (e))))))) | exact Or.inr (Or.inr (Or.inr (Or.inr (Or.inr (Or.inr (Or.inr (Or.inl (e)))))))) | exact Or.inr (Or.inr (Or.inr (Or.inr (Or.inr (Or.inr (Or.inr (Or.inr (Or.inl (e))))))))) | exact Or.inr (Or.inr (Or.inr (Or.inr (Or.inr (Or.inr (Or.inr (Or.inr (Or.inr (Or.inl (e)))))))))) | exact Or.inr (Or.inr (Or.inr (Or.inr (Or.inr (Or.inr (Or.inr (Or.inr (Or.inr (Or.inr (Or.inl (e))))))))))) | exact Or.inr (Or.inr (Or.inr (Or.inr (Or.inr (Or.inr (Or.inr (Or.inr (Or.inr (Or.inr (Or.inr (Or.inl (e)))))))))))) | exact Or.inr (Or.inr (Or.inr (Or.inr (Or.inr (Or.inr (Or.inr (Or.inr (Or.inr (Or.inr (Or.inr (Or.inr (Or.inl (e))))))))))))) | exact Or.inr (Or.inr (Or.inr (Or.inr (Or.inr (Or.inr (Or.inr (Or.inr (Or.inr (Or.inr (Or.inr (Or.inr (Or.inr (Or.inl (e)))))))))))))) | exact Or.inr (Or.inr (Or.inr (Or.inr (Or.inr (Or.inr (Or.inr (Or.inr (Or.inr (Or.inr (Or.inr (Or.inr (Or.inr (Or.inr (e))))))))))))))) (fun x k hx => by simp only [wJ_cStretch_label_b42, F4.r, F5.r] at hx; rcases hx with e | e <;> first | exact Or.inl (e) | exact Or.inr (e))
theorem fe_cStretch_label_b42_lp (n : Nat) : ∀ (v0 : Nat) (v1 : Nat) (v2 : Int) (v3 : Nat) (v4 : Nat) (v5 : Int) (v6 : Nat) (v7 : Int) (v8 : Int) (v9 : Int) (h : Hp), Feo (wI_cStretch_label_b42 v0 v1 v2 v3 v4 v5 v6 v7 v8 v9 h) (wJ_cStretch_label_b42 v0 v1 v2 v3 v4 v5 v6 v7 v8 v9 h) h id (f_cStretch_label_b42_lp n v0 v1 v2 v3 v4 v5 v6 v7 v8 v9 h) := by
  induction n with
  | zero => intro v0 v1 v2 v3 v4 v5 v6 v7 v8 v9 h; exact fe_no
  | succ n ih => intro v0 v1 v2 v3 v4 v5 v6 v7 v8 v9 h; exact fe_cStretch_label_b42 ih v0 v1 v2 v3 v4 v5 v6 v7 v8 v9 h
theorem fe_cStretch_label (v0 : Nat) (v1 : Nat) (v2 : Int) (v3 : Nat) (v4 : Nat) (v5 : Int) (v6 : Nat) (v7 : Int) (h : Hp) : Feo (wI_cStretch_label v0 v1 v2 v3 v4 v5 v6 v7 h) (wJ_cStretch_label v0 v1 v2 v3 v4 v5 v6 v7 h) h id (f_cStretch_label v0 v1 v2 v3 v4 v5 v6 v7 h) := by
  unfold f_cStretch_label
  refine fe_it fe_no ?_
  refine fe_it fe_no ?_
  refine fe_b2 Fe.rf (fe_jString_length _ _) (fun x k hx => False.elim hx) (fun x k hx => False.elim hx) (fun r5 h3 F1 => ?_)
  refine fe_it fe_no ?_
  refine fe_it ?_ fe_no
  refine fe_I F1 (Or.inr (Or.inr (Or.inr (Or.inr (Or.inr (Or.inr (Or.inr (Or.inr (Or.inr (Or.inr (Or.inr (Or.inr (Or.inl ((by first | (simp only [F1.r]; exact rfl) | simp only [F1.r]))))))))))))))) (fun h8 F2 => ?_)
  refine fe_it fe_no ?_
  refine fe_it ?_ fe_no
  refine fe_I F2 (Or.inr (Or.inr (Or.inr (Or.inr (Or.inr (Or.inr (Or.inr (Or.inr (Or.inr (Or.inr (Or.inr (Or.inr (Or.inl ((by first | (simp only [F1.r, F2.r]; exact rfl) | simp only [F1.r, F2.r]))))))))))))))) (fun h11 F3 => ?_)
  refine fe_it fe_no ?_
  refine fe_it ?_ fe_no
  refine fe_I F3 (Or.inr (Or.inr (Or.inr (Or.inr (Or.inr (Or.inr (Or.inr (Or.inr (Or.inr (Or.inr (Or.inr (Or.inr (Or.inl ((by first | (simp only [F1.r, F2.r, F3.r]; exact rfl) | simp only [F1.r, F2.r, F3.r]))))))))))))))) (fun h14 F4 => ?_)
  exact fe_j F4 (fe_cStretch_label_b42_lp FU _ _ _ _ _ _ _ _ _ _ _) (fun x k hx => by simp only [wI_cStretch_label_b42, F1.r, F2.r, F3.r, F4.r] at hx; rcases hx with e | e | e | e | e | e | e | e | e | e | e | e | e | e | e <;> first | exact Or.inl (e) | exact Or.inr (Or.inl (e)) | exact Or.inr (Or.inr (Or.inl (e))) | exact Or.inr (Or.inr (Or.inr (Or.inl (e)))) | exact Or.inr (Or.inr (Or.inr (Or.inr (Or.inl (e))))) | exact Or.inr (Or.inr (Or.inr (Or.inr (Or.inr (Or.inl (e)))))) | exact Or.inr (Or.inr (Or.inr (Or.inr (Or.inr (Or.inr (Or.inl (e))))))) | exact Or.inr (Or.inr (Or.inr (Or.inr (Or.inr (Or.inr (Or.inr (Or.inl (e)))))))) | exact Or.inr (Or.inr (Or.inr (Or.inr (Or.inr (Or.inr (Or.inr (Or.inr (Or.inl (e))))))))) | exact Or.inr (Or.inr (Or.inr (Or.inr (Or.inr (Or.inr (Or.inr (Or.inr (Or.inr (Or.inl (e)))))))))) | exact Or.inr (Or.inr (Or.inr (Or.inr (Or.inr (Or.inr (Or.inr (Or.inr (Or.inr (Or.inr (Or.inl (e))))))))))) | exact Or.inr (Or.inr (Or.inr (Or.inr (Or.inr (Or.inr (Or.inr (Or.inr (Or.inr (Or.inr (Or.inr (Or.inl (e)))))))))))) | exact Or.inr (Or.inr (Or.inr (Or.inr (Or.inr (Or.inr (Or.inr (Or.inr (Or.inr (Or.inr (Or.inr (Or.inr (Or.inl (e))))))))))))) | exact Or.inr (Or.inr (Or.inr (Or.inr (Or.inr (Or.inr (Or.inr (Or.inr (Or.inr (Or.inr (Or.inr (Or.inr (Or.inr (Or.inl (e)))))))))))))) | exact Or.inr (Or.inr (Or.inr (Or.inr (Or.inr (Or.inr (Or.inr (Or.inr (Or.inr (Or.inr (Or.inr (Or.inr (Or.inr (Or.inr (e))))))))))))))) (fun x k hx => by simp only [wJ_cStretch_label_b42, F1.r, F2.r, F3.r, F4.r] at hx; rcases hx with e | e <;> first | exact Or.inl (e) | exact Or.inr (e))
def wI_cGuard_makeKeys (v0 : Nat) (v1 : Nat) (h : Hp) (x k : Nat) : Prop := (x = (hR h (hR h (hR h v1 0) 0) 0) ∧ k = 3) ∨ (x = (hR h (hR h (hR h v1 0) 0) 1) ∧ k = 3) ∨ x = (hR h (hR h (hR h v1 0) 0) 2) ∨ x = (hR h (hR h (hR h v1 0) 0) 3) ∨ x = (hR h (hR h v1 0) 1) ∨ x = (hR h v0 1) ∨ x = (hR h v0 2) ∨ x = hR h (hR h (hR h (hR h v1 0) 0) 0) 0 ∨ x = hR h (hR h (hR h (hR h v1 0) 0) 0) 1 ∨ x = hR h (hR h (hR h (hR h v1 0) 0) 0) 2 ∨ x = hR h (hR h (hR h (hR h v1 0) 0) 1) 0 ∨ x = hR h (hR h (hR h (hR h v1 0) 0) 1) 1 ∨ x = hR h (hR h (hR h (hR h v1 0) 0) 1) 2 ∨ x = hR h (hR h (hR h v1 0) 0) 2 ∨ x = hR h (hR h v1 0) 2 ∨ x = hR h (hR h v1 0) 3
def wJ_cGuard_makeKeys (v0 : Nat) (v1 : Nat) (h : Hp) (x k : Nat) : Prop := (x = (hR h (hR h (hR h v1 0) 0) 0) ∧ k = 4) ∨ (x = (hR h (hR h (hR h v1 0) 0) 1) ∧ k = 4)
theorem fe_cGuard_makeKeys (v0 : Nat) (v1 : Nat) (h : Hp) : Feo (wI_cGuard_makeKeys v0 v1 h) (wJ_cGuard_makeKeys v0 v1 h) h id (f_cGuard_makeKeys v0 v1 h) := by
  unfold f_cGuard_makeKeys
  refine fe_it fe_no ?_
  refine fe_it fe_no ?_
  refine fe_b1 Fe.rf (fe_cStretch_label _ _ _ _ _ _ _ _ _) (fun x k hx => by simp only [wI_cStretch_label] at hx; rcases hx with e | e | e | e | e | e | e | e | e | e | e | e | e | e | e <;> first | exact Or.inl (e) | exact Or.inr (Or.inl (e)) | exact Or.inr (Or.inr (Or.inl (e))) | exact Or.inr (Or.inr (Or.inr (Or.inl (e)))) | exact Or.inr (Or.inr (Or.inr (Or.inr (Or.inl (e))))) | exact Or.inr (Or.inr (Or.inr (Or.inr (Or.inr (Or.inl (e)))))) | exact Or.inr (Or.inr (Or.inr (Or.inr (Or.inr (Or.inr (Or.inr (Or.inl (e)))))))) | exact Or.inr (Or.inr (Or.inr (Or.inr (Or.inr (Or.inr (Or.inr (Or.inr (Or.inl (e))))))))) | exact Or.inr (Or.inr (Or.inr (Or.inr (Or.inr (Or.inr (Or.inr (Or.inr (Or.inr (Or.inl (e)))))))))) | exact Or.inr (Or.inr (Or.inr (Or.inr (Or.inr (Or.inr (Or.inr (Or.inr (Or.inr (Or.inr (Or.inl (e))))))))))) | exact Or.inr (Or.inr (Or.inr (Or.inr (Or.inr (Or.inr (Or.inr (Or.inr (Or.inr (Or.inr (Or.inr (Or.inl (e)))))))))))) | exact Or.inr (Or.inr (Or.inr (Or.inr (Or.inr (Or.inr (Or.inr (Or.inr (Or.inr (Or.inr (Or.inr (Or.inr (Or.inl (e))))))))))))) | exact Or.inr (Or.inr (Or.inr (Or.inr (Or.inr (Or.inr (Or.inr (Or.inr (Or.inr (Or.inr (Or.inr (Or.inr (Or.inr (Or.inl (e)))))))))))))) | exact Or.inr (Or.inr (Or.inr (Or.inr (Or.inr (Or.inr (Or.inr (Or.inr (Or.inr (Or.inr (Or.inr (Or.inr (Or.inr (Or.inr (Or.inl (e))))))))))))))) | exact Or.inr (Or.inr (Or.inr (Or.inr (Or.inr (Or.inr (Or.inr (Or.inr (Or.inr (Or.inr (Or.inr (Or.inr (Or.inr (Or.inr (Or.inr (e)))))))))))))))) (fun x k hx => by simp only [wJ_cStretch_label] at hx; rcases hx with e | e <;> first | exact Or.inl (e) | exact Or.inr (e)) (fun h3 F1 => ?_)
  refine fe_it fe_no ?_
  refine fe_b1 F1 (fe_cStretch_label _ _ _ _ _ _ _ _ _) (fun x k hx => by simp only [wI_cStretch_label, F1.r] at hx; rcases hx with e | e | e | e | e | e | e | e | e | e | e | e | e | e | e <;> first | exact Or.inl (e) | exact Or.inr (Or.inl (e)) | exact Or.inr (Or.inr (Or.inl (e))) | exact Or.inr (Or.inr (Or.inr (Or.inl (e)))) | exact Or.inr (Or.inr (Or.inr (Or.inr (Or.inl (e))))) | exact Or.inr (Or.inr (Or.inr (Or.inr (Or.inr (Or.inr (Or.inl (e))))))) | exact Or.inr (Or.inr (Or.inr (Or.inr (Or.inr (Or.inr (Or.inr (Or.inl (e)))))))) | exact Or.inr (Or.inr (Or.inr (Or.inr (Or.inr (Or.inr (Or.inr (Or.inr (Or.inl (e))))))))) | exact Or.inr (Or.inr (Or.inr (Or.inr (Or.inr (Or.inr (Or.inr (Or.inr (Or.inr (Or.inl (e)))))))))) | exact Or.inr (Or.inr (Or.inr (Or.inr (Or.inr (Or.inr (Or.inr (Or.inr (Or.inr (Or.inr (Or.inl (e))))))))))) | exact Or.inr (Or.inr (Or.inr (Or.inr (Or.inr (Or.inr (Or.inr (Or.inr (Or.inr (Or.inr (Or.inr (Or.inl (e)))))))))))) | exact Or.inr (Or.inr (Or.inr (Or.inr (Or.inr (Or.inr (Or.inr (Or.inr (Or.inr (Or.inr (Or.inr (Or.inr (Or.inl (e))))))))))))) | exact Or.inr (Or.inr (Or.inr (Or.inr (Or.inr (Or.inr (Or.inr (Or.inr (Or.inr (Or.inr (Or.inr (Or.inr (Or.inr (Or.inl (e)))))))))))))) | exact Or.inr (Or.inr (Or.inr (Or.inr (Or.inr (Or.inr (Or.inr (Or.inr (Or.inr (Or.inr (Or.inr (Or.inr (Or.inr (Or.inr (Or.inl (e))))))))))))))) | exact Or.inr (Or.inr (Or.inr (Or.inr (Or.inr (Or.inr (Or.inr (Or.inr (Or.inr (Or.inr (Or.inr (Or.inr (Or.inr (Or.inr (Or.inr (e)))))))))))))))) (fun x k hx => by simp only [wJ_cStretch_label, F1.r] at hx; rcases hx with e | e <;> first | exact Or.inl (e) | exact Or.inr (e)) (fun h6 F2 => ?_)
  exact fe_so F2
def wI_cGuard_arm (v0 : Nat) (v1 : Nat) (v2 : Nat) (h : Hp) (x k : Nat) : Prop := (x = (hR h (hR h (hR h v2 0) 0) 0) ∧ k = 3) ∨ (x = (hR h (hR h (hR h v2 0) 0) 1) ∧ k = 3) ∨ x = (hR h (hR h (hR h v2 0) 0) 2) ∨ x = (hR h (hR h (hR h v2 0) 0) 3) ∨ x = (hR h (hR h v2 0) 1) ∨ x = (hR h v0 1) ∨ x = (hR h v0 2) ∨ x = (hR h v0 3) ∨ x = hR h (hR h (hR h (hR h v2 0) 0) 0) 0 ∨ x = hR h (hR h (hR h (hR h v2 0) 0) 0) 1 ∨ x = hR h (hR h (hR h (hR h v2 0) 0) 0) 2 ∨ x = hR h (hR h (hR h (hR h v2 0) 0) 1) 0 ∨ x = hR h (hR h (hR h (hR h v2 0) 0) 1) 1 ∨ x = hR h (hR h (hR h (hR h v2 0) 0) 1) 2 ∨ x = hR h (hR h (hR h v2 0) 0) 2 ∨ x = hR h (hR h v2 0) 2 ∨ x = hR h (hR h v2 0) 3 ∨ x = hR h v0 0 ∨ (x = v0 ∧ k = 4) ∨ (x = v0 ∧ k = 5)
def wJ_cGuard_arm (v0 : Nat) (v1 : Nat) (v2 : Nat) (h : Hp) (x k : Nat) : Prop := (x = (hR h (hR h (hR h v2 0) 0) 0) ∧ k = 4) ∨ (x = (hR h (hR h (hR h v2 0) 0) 1) ∧ k = 4)
theorem fe_cGuard_arm (v0 : Nat) (v1 : Nat) (v2 : Nat) (h : Hp) : Feo (wI_cGuard_arm v0 v1 v2 h) (wJ_cGuard_arm v0 v1 v2 h) h id (f_cGuard_arm v0 v1 v2 h) := by
  unfold f_cGuard_arm
  refine fe_it fe_no ?_
  refine fe_it fe_no ?_
  refine fe_it ?_ fe_no
  refine fe_cI Fe.rf (fun y => Or.inr (Or.inr (Or.inr (Or.inr (Or.inr (Or.inr (Or.inr (Or.inr (Or.inr (Or.inr (Or.inr (Or.inr (Or.inr (Or.inr (Or.inr (Or.inr (Or.inr (Or.inl (rfl))))))))))))))))))) (fun h4 F1 => ?_)
  refine fe_b1 F1 (fe_cGuard_makeKeys _ _ _) (fun x k hx => by simp only [wI_cGuard_makeKeys, F1.r] at hx; rcases hx with e | e | e | e | e | e | e | e | e | e | e | e | e | e | e | e <;> first | exact Or.inl (e) | exact Or.inr (Or.inl (e)) | exact Or.inr (Or.inr (Or.inl (e))) | exact Or.inr (Or.inr (Or.inr (Or.inl (e)))) | exact Or.inr (Or.inr (Or.inr (Or.inr (Or.inl (e))))) | exact Or.inr (Or.inr (Or.inr (Or.inr (Or.inr (Or.inl (e)))))) | exact Or.inr (Or.inr (Or.inr (Or.inr (Or.inr (Or.inr (Or.inl (e))))))) | exact Or.inr (Or.inr (Or.inr (Or.inr (Or.inr (Or.inr (Or.inr (Or.inr (Or.inl (e))))))))) | exact Or.inr (Or.inr (Or.inr (Or.inr (Or.inr (Or.inr (Or.inr (Or.inr (Or.inr (Or.inl (e)))))))))) | exact Or.inr (Or.inr (Or.inr (Or.inr (Or.inr (Or.inr (Or.inr (Or.inr (Or.inr (Or.inr (Or.inl (e))))))))))) | exact Or.inr (Or.inr (Or.inr (Or.inr (Or.inr (Or.inr (Or.inr (Or.inr (Or.inr (Or.inr (Or.inr (Or.inl (e)))))))))))) | exact Or.inr (Or.inr (Or.inr (Or.inr (Or.inr (Or.inr (Or.inr (Or.inr (Or.inr (Or.inr (Or.inr (Or.inr (Or.inl (e))))))))))))) | exact Or.inr (Or.inr (Or.inr (Or.inr (Or.inr (Or.inr (Or.inr (Or.inr (Or.inr (Or.inr (Or.inr (Or.inr (Or.inr (Or.inl (e)))))))))))))) | exact Or.inr (Or.inr (Or.inr (Or.inr (Or.inr (Or.inr (Or.inr (Or.inr (Or.inr (Or.inr (Or.inr (Or.inr (Or.inr (Or.inr (Or.inl (e))))))))))))))) | exact Or.inr (Or.inr (Or.inr (Or.inr (Or.inr (Or.inr (Or.inr (Or.inr (Or.inr (Or.inr (Or.inr (Or.inr (Or.inr (Or.inr (Or.inr (Or.inl (e)))))))))))))))) | exact Or.inr (Or.inr (Or.inr (Or.inr (Or.inr (Or.inr (Or.inr (Or.inr (Or.inr (Or.inr (Or.inr (Or.inr (Or.inr (Or.inr (Or.inr (Or.inr (Or.inl (e)))))))))))))))))) (fun x k hx => by simp only [wJ_cGuard_makeKeys, F1.r] at hx; rcases hx with e | e <;> first | exact Or.inl (e) | exact Or.inr (e)) (fun h5 F2 => ?_)
  refine fe_it fe_no ?_
  refine fe_it fe_no ?_
  refine fe_b1 F2 (fe_cStretch_label _ _ _ _ _ _ _ _ _) (fun x k hx => by simp only [wI_cStretch_label, F1.r, F2.r] at hx; rcases hx with e | e | e | e | e | e | e | e | e | e | e | e | e | e | e <;> first | exact Or.inl (e) | exact Or.inr (Or.inl (e)) | exact Or.inr (Or.inr (Or.inl (e))) | exact Or.inr (Or.inr (Or.inr (Or.inl (e)))) | exact Or.inr (Or.inr (Or.inr (Or.inr (Or.inl (e))))) | exact Or.inr (Or.inr (Or.inr (Or.inr (Or.inr (Or.inr (Or.inr (Or.inl (e)))))))) | exact Or.inr (Or.inr (Or.inr (Or.inr (Or.inr (Or.inr (Or.inr (Or.inr (Or.inl (e))))))))) | exact Or.inr (Or.inr (Or.inr (Or.inr (Or.inr (Or.inr (Or.inr (Or.inr (Or.inr (Or.inl (e)))))))))) | exact Or.inr (Or.inr (Or.inr (Or.inr (Or.inr (Or.inr (Or.inr (Or.inr (Or.inr (Or.inr (Or.inl (e))))))))))) | exact Or.inr (Or.inr (Or.inr (Or.inr (Or.inr (Or.inr (Or.inr (Or.inr (Or.inr (Or.inr (Or.inr (Or.inl (e)))))))))))) | exact Or.inr (Or.inr (Or.inr (Or.inr (Or.inr (Or.inr (Or.inr (Or.inr (Or.inr (Or.inr (Or.inr (Or.inr (Or.inl (e))))))))))))) | exact Or.inr (Or.inr (Or.inr (Or.inr (Or.inr (Or.inr (Or.inr (Or.inr (Or.inr (Or.inr (Or.inr (Or.inr (Or.inr (Or.inl (e)))))))))))))) | exact Or.inr (Or.inr (Or.inr (Or.inr (Or.inr (Or.inr (Or.inr (Or.inr (Or.inr (Or.inr (Or.inr (Or.inr (Or.inr (Or.inr (Or.inl (e))))))))))))))) | exact Or.inr (Or.inr (Or.inr (Or.inr (Or.inr (Or.inr (Or.inr (Or.inr (Or.inr (Or.inr (Or.inr (Or.inr (Or.inr (Or.inr (Or.inr (Or.inl (e)))))))))))))))) | exact Or.inr (Or.inr (Or.inr (Or.inr (Or.inr (Or.inr (Or.inr (Or.inr (Or.inr (Or.inr (Or.inr (Or.inr (Or.inr (Or.inr (Or.inr (Or.inr (Or.inl (e)))))))))))))))))) (fun x k hx => by simp only [wJ_cStretch_label, F1.r, F2.r] at hx; rcases hx with e | e <;> first | exact Or.inl (e) | exact Or.inr (e)) (fun h9 F3 => ?_)
  refine fe_I F3 (Or.inr (Or.inr (Or.inr (Or.inr (Or.inr (Or.inr (Or.inr (Or.inr (Or.inr (Or.inr (Or.inr (Or.inr (Or.inr (Or.inr (Or.inr (Or.inr (Or.inr (Or.inr (Or.inl (⟨rfl, rfl⟩)))))))))))))))))))) (fun h11 F4 => ?_)
  refine fe_I F4 (Or.inr (Or.inr (Or.inr (Or.inr (Or.inr (Or.inr (Or.inr (Or.inr (Or.inr (Or.inr (Or.inr (Or.inr (Or.inr (Or.inr (Or.inr (Or.inr (Or.inr (Or.inr (Or.inr (⟨rfl, rfl⟩)))))))))))))))))))) (fun h12 F5 => ?_)
  exact fe_so F5
def wI_cSide_arm (v0 : Nat) (v1 : Int) (h : Hp) (x k : Nat) : Prop := (x = (hR h (hR h (hR h (hR h v0 3) 0) 0) 0) ∧ k = 3) ∨ (x = (hR h (hR h (hR h (hR h v0 3) 0) 0) 1) ∧ k = 3) ∨ x = (hR h (hR h (hR h (hR h v0 3) 0) 0) 2) ∨ x = (hR h (hR h (hR h (hR h v0 3) 0) 0) 3) ∨ x = (hR h (hR h (hR h v0 3) 0) 1) ∨ x = (hR h (hR h (hR h v0 4) v1.toNat) 1) ∨ x = (hR h (hR h (hR h v0 4) v1.toNat) 2) ∨ x = (hR h (hR h (hR h v0 4) v1.toNat) 3) ∨ x = (hR h (hR h (hR h v0 5) v1.toNat) 1) ∨ x = (hR h (hR h (hR h v0 5) v1.toNat) 2) ∨ x = (hR h (hR h (hR h v0 5) v1.toNat) 3) ∨ (x = (hR h (hR h v0 4) v1.toNat) ∧ k = 4) ∨ (x = (hR h (hR h v0 4) v1.toNat) ∧ k = 5) ∨ (x = (hR h (hR h v0 5) v1.toNat) ∧ k = 4) ∨ (x = (hR h (hR h v0 5) v1.toNat) ∧ k = 5) ∨ x = hR h (hR h (hR h (hR h (hR h v0 3) 0) 0) 0) 0 ∨ x = hR h (hR h (hR h (hR h (hR h v0 3) 0) 0) 0) 1 ∨ x = hR h (hR h (hR h (hR h (hR h v0 3) 0) 0) 0) 2 ∨ x = hR h (hR h (hR h (hR h (hR h v0 3) 0) 0) 1) 0 ∨ x = hR h (hR h (hR h (hR h (hR h v0 3) 0) 0) 1) 1 ∨ x = hR h (hR h (hR h (hR h (hR h v0 3) 0) 0) 1) 2 ∨ x = hR h (hR h (hR h (hR h v0 3) 0) 0) 2 ∨ x = hR h (hR h (hR h v0 3) 0) 2 ∨ x = hR h (hR h (hR h v0 3) 0) 3 ∨ x = hR h (hR h (hR h v0 4) v1.toNat) 0 ∨ x = hR h (hR h (hR h v0 5) v1.toNat) 0 ∨ x = hR h v0 6
def wJ_cSide_arm (v0 : Nat) (v1 : Int) (h : Hp) (x k : Nat) : Prop := (x = (hR h (hR h (hR h (hR h v0 3) 0) 0) 0) ∧ k = 4) ∨ (x = (hR h (hR h (hR h (hR h v0 3) 0) 0) 1) ∧ k = 4)
theorem fe_cSide_arm (v0 : Nat) (v1 : Int) (h : Hp) : Feo (wI_cSide_arm v0 v1 h) (wJ_cSide_arm v0 v1 h) h id (f_cSide_arm v0 v1 h) := by
  unfold f_cSide_arm
  refine fe_it fe_no ?_
  refine fe_it ?_ fe_no
  refine fe_it fe_no ?_
  refine fe_it fe_no ?_
  refine fe_it ?_ fe_no
  refine fe_it fe_no ?_
  refine fe_b1 Fe.rf (fe_cGuard_arm _ _ _ _) (fun x k hx => by simp only [wI_cGuard_arm] at hx; rcases hx with e | e | e | e | e | e | e | e | e | e | e | e | e | e | e | e | e | e | e | e <;> first | exact Or.inl (e) | exact Or.inr (Or.inl (e)) | exact Or.inr (Or.inr (Or.inl (e))) | exact Or.inr (Or.inr (Or.inr (Or.inl (e)))) | exact Or.inr (Or.inr (Or.inr (Or.inr (Or.inl (e))))) | exact Or.inr (Or.inr (Or.inr (Or.inr (Or.inr (Or.inl (e)))))) | exact Or.inr (Or.inr (Or.inr (Or.inr (Or.inr (Or.inr (Or.inl (e))))))) | exact Or.inr (Or.inr (Or.inr (Or.inr (Or.inr (Or.inr (Or.inr (Or.inl (e)))))))) | exact Or.inr (Or.inr (Or.inr (Or.inr (Or.inr (Or.inr (Or.inr (Or.inr (Or.inr (Or.inr (Or.inr (Or.inl (e)))))))))))) | exact Or.inr (Or.inr (Or.inr (Or.inr (Or.inr (Or.inr (Or.inr (Or.inr (Or.inr (Or.inr (Or.inr (Or.inr (Or.inl (e))))))))))))) | exact Or.inr (Or.inr (Or.inr (Or.inr (Or.inr (Or.inr (Or.inr (Or.inr (Or.inr (Or.inr (Or.inr (Or.inr (Or.inr (Or.inr (Or.inr (Or.inl (e)))))))))))))))) | exact Or.inr (Or.inr (Or.inr (Or.inr (Or.inr (Or.inr (Or.inr (Or.inr (Or.inr (Or.inr (Or.inr (Or.inr (Or.inr (Or.inr (Or.inr (Or.inr (Or.inl (e))))))))))))))))) | exact Or.inr (Or.inr (Or.inr (Or.inr (Or.inr (Or.inr (Or.inr (Or.inr (Or.inr (Or.inr (Or.inr (Or.inr (Or.inr (Or.inr (Or.inr (Or.inr (Or.inr (Or.inl (e)))))))))))))))))) | exact Or.inr (Or.inr (Or.inr (Or.inr (Or.inr (Or.inr (Or.inr (Or.inr (Or.inr (Or.inr (Or.inr (Or.inr (Or.inr (Or.inr (Or.inr (Or.inr (Or.inr (Or.inr (Or.inl (e))))))))))))))))))) | exact Or.inr (Or.inr (Or.inr (Or.inr (Or.inr (Or.inr (Or.inr (Or.inr (Or.inr (Or.inr (Or.inr (Or.inr (Or.inr (Or.inr (Or.inr (Or.inr (Or.inr (Or.inr (Or.inr (Or.inl (e)))))))))))))))))))) | exact Or.inr (Or.inr (Or.inr (Or.inr (Or.inr (Or.inr (Or.inr (Or.inr (Or.inr (Or.inr (Or.inr (Or.inr (Or.inr (Or.inr (Or.inr (Or.inr (Or.inr (Or.inr (Or.inr (Or.inr (Or.inl (e))))))))))))))))))))) | exact Or.inr (Or.inr (Or.inr (Or.inr (Or.inr (Or.inr (Or.inr (Or.inr (Or.inr (Or.inr (Or.inr (Or.inr (Or.inr (Or.inr (Or.inr (Or.inr (Or.inr (Or.inr (Or.inr (Or.inr (Or.inr (Or.inl (e)))))))))))))))))))))) | exact Or.inr (Or.inr (Or.inr (Or.inr (Or.inr (Or.inr (Or.inr (Or.inr (Or.inr (Or.inr (Or.inr (Or.inr (Or.inr (Or.inr (Or.inr (Or.inr (Or.inr (Or.inr (Or.inr (Or.inr (Or.inr (Or.inr (Or.inl (e))))))))))))))))))))))) | exact Or.inr (Or.inr (Or.inr (Or.inr (Or.inr (Or.inr (Or.inr (Or.inr (Or.inr (Or.inr (Or.inr (Or.inr (Or.inr (Or.inr (Or.inr (Or.inr (Or.inr (Or.inr (Or.inr (Or.inr (Or.inr (Or.inr (Or.inr (Or.inl (e)))))))))))))))))))))))) | exact Or.inr (Or.inr (Or.inr (Or.inr (Or.inr (Or.inr (Or.inr (Or.inr (Or.inr (Or.inr (Or.inr (Or.inr (Or.inr (Or.inr (Or.inr (Or.inr (Or.inr (Or.inr (Or.inr (Or.inr (Or.inr (Or.inr (Or.inr (Or.inr (Or.inl (e)))))))))))))))))))))))))) (fun x k hx => by simp only [wJ_cGuard_arm] at hx; rcases hx with e | e <;> first | exact Or.inl (e) | exact Or.inr (e)) (fun h7 F1 => ?_)
  refine fe_it fe_no ?_
  refine fe_it ?_ fe_no
  refine fe_it fe_no ?_
  refine fe_it fe_no ?_
  refine fe_it ?_ fe_no
  refine fe_it fe_no ?_
  refine fe_b1 F1 (fe_cGuard_arm _ _ _ _) (fun x k hx => by simp only [wI_cGuard_arm, F1.r] at hx; rcases hx with e | e | e | e | e | e | e | e | e | e | e | e | e | e | e | e | e | e | e | e <;> first | exact Or.inl (e) | exact Or.inr (Or.inl (e)) | exact Or.inr (Or.inr (Or.inl (e))) | exact Or.inr (Or.inr (Or.inr (Or.inl (e)))) | exact Or.inr (Or.inr (Or.inr (Or.inr (Or.inl (e))))) | exact Or.inr (Or.inr (Or.inr (Or.inr (Or.inr (Or.inr (Or.inr (Or.inr (Or.inl (e))))))))) | exact Or.inr (Or.inr (Or.inr (Or.inr (Or.inr (Or.inr (Or.inr (Or.inr (Or.inr (Or.inl (e)))))))))) | exact Or.inr (Or.inr (Or.inr (Or.inr (Or.inr (Or.inr (Or.inr (Or.inr (Or.inr (Or.inr (Or.inl (e))))))))))) | exact Or.inr (Or.inr (Or.inr (Or.inr (Or.inr (Or.inr (Or.inr (Or.inr (Or.inr (Or.inr (Or.inr (Or.inr (Or.inr (Or.inl (e)))))))))))))) | exact Or.inr (Or.inr (Or.inr (Or.inr (Or.inr (Or.inr (Or.inr (Or.inr (Or.inr (Or.inr (Or.inr (Or.inr (Or.inr (Or.inr (Or.inl (e))))))))))))))) | exact Or.inr (Or.inr (Or.inr (Or.inr (Or.inr (Or.inr (Or.inr (Or.inr (Or.inr (Or.inr (Or.inr (Or.inr (Or.inr (Or.inr (Or.inr (Or.inl (e)))))))))))))))) | exact Or.inr (Or.inr (Or.inr (Or.inr (Or.inr (Or.inr (Or.inr (Or.inr (Or.inr (Or.inr (Or.inr (Or.inr (Or.inr (Or.inr (Or.inr (Or.inr (Or.inl (e))))))))))))))))) | exact Or.inr (Or.inr (Or.inr (Or.inr (Or.inr (Or.inr (Or.inr (Or.inr (Or.inr (Or.inr (Or.inr (Or.inr (Or.inr (Or.inr (Or.inr (Or.inr (Or.inr (Or.inl (e)))))))))))))))))) | exact Or.inr (Or.inr (Or.inr (Or.inr (Or.inr (Or.inr (Or.inr (Or.inr (Or.inr (Or.inr (Or.inr (Or.inr (Or.inr (Or.inr (Or.inr (Or.inr (Or.inr (Or.inr (Or.inl (e))))))))))))))))))) | exact Or.inr (Or.inr (Or.inr (Or.inr (Or.inr (Or.inr (Or.inr (Or.inr (Or.inr (Or.inr (Or.inr (Or.inr (Or.inr (Or.inr (Or.inr (Or.inr (Or.inr (Or.inr (Or.inr (Or.inl (e)))))))))))))))))))) | exact Or.inr (Or.inr (Or.inr (Or.inr (Or.inr (Or.inr (Or.inr (Or.inr (Or.inr (Or.inr (Or.inr (Or.inr (Or.inr (Or.inr (Or.inr (Or.inr (Or.inr (Or.inr (Or.inr (Or.inr (Or.inl (e))))))))))))))))))))) | exact Or.inr (Or.inr (Or.inr (Or.inr (Or.inr (Or.inr (Or.inr (Or.inr (Or.inr (Or.inr (Or.inr (Or.inr (Or.inr (Or.inr (Or.inr (Or.inr (Or.inr (Or.inr (Or.inr (Or.inr (Or.inr (Or.inl (e)))))))))))))))))))))) | exact Or.inr (Or.inr (Or.inr (Or.inr (Or.inr (Or.inr (Or.inr (Or.inr (Or.inr (Or.inr (Or.inr (Or.inr (Or.inr (Or.inr (Or.inr (Or.inr (Or.inr (Or.inr (Or.inr (Or.inr (Or.inr (Or.inr (Or.inl (e))))))))))))))))))))))) | exact Or.inr (Or.inr (Or.inr (Or.inr (Or.inr (Or.inr (Or.inr (Or.inr (Or.inr (Or.inr (Or.inr (Or.inr (Or.inr (Or.inr (Or.inr (Or.inr (Or.inr (Or.inr (Or.inr (Or.inr (Or.inr (Or.inr (Or.inr (Or.inl (e)))))))))))))))))))))))) | exact Or.inr (Or.inr (Or.inr (Or.inr (Or.inr (Or.inr (Or.inr (Or.inr (Or.inr (Or.inr (Or.inr (Or.inr (Or.inr (Or.inr (Or.inr (Or.inr (Or.inr (Or.inr (Or.inr (Or.inr (Or.inr (Or.inr (Or.inr (Or.inr (Or.inr (Or.inl (e))))))))))))))))))))))))))) (fun x k hx => by simp only [wJ_cGuard_arm, F1.r] at hx; rcases hx with e | e <;> first | exact Or.inl (e) | exact Or.inr (e)) (fun h15 F2 => ?_)
  refine fe_it fe_no ?_
  refine fe_it ?_ fe_no
  refine fe_I F2 (Or.inr (Or.inr (Or.inr (Or.inr (Or.inr (Or.inr (Or.inr (Or.inr (Or.inr (Or.inr (Or.inr (Or.inr (Or.inr (Or.inr (Or.inr (Or.inr (Or.inr (Or.inr (Or.inr (Or.inr (Or.inr (Or.inr (Or.inr (Or.inr (Or.inr (Or.inr ((by first | (simp only [F1.r, F2.r]; exact rfl) | simp only [F1.r, F2.r])))))))))))))))))))))))))))) (fun h19 F3 => ?_)
  exact fe_so F3
def wI_cBytes_sizeOf (v0 : Int) (h : Hp) (x k : Nat) : Prop := False
def wJ_cBytes_sizeOf (v0 : Int) (h : Hp) (x k : Nat) : Prop := False
theorem fe_cBytes_sizeOf (v0 : Int) (h : Hp) : Feo (wI_cBytes_sizeOf v0 h) (wJ_cBytes_sizeOf v0 h) h Prod.snd (f_cBytes_sizeOf v0 h) := by
  unfold f_cBytes_sizeOf
  refine fe_it ?_ ?_
  · refine fe_it ?_ ?_
    · refine fe_it ?_ ?_
      · exact fe_so Fe.rf
      · exact fe_so Fe.rf
    · exact fe_so Fe.rf
  · exact fe_so Fe.rf
def wI_cBytes_step_b30 (v0 : Nat) (s0 : Nat) (s1 : Int) (h : Hp) (x k : Nat) : Prop := (x = s0 ∧ k = 3)
def wJ_cBytes_step_b30 (v0 : Nat) (s0 : Nat) (s1 : Int) (h : Hp) (x k : Nat) : Prop := False
def wI_cBytes_step_b25 (v0 : Nat) (s0 : Nat) (h : Hp) (x k : Nat) : Prop := (x = s0 ∧ k = 3)
def wJ_cBytes_step_b25 (v0 : Nat) (s0 : Nat) (h : Hp) (x k : Nat) : Prop := False
def wI_cBytes_step (v0 : Nat) (v1 : Int) (h : Hp) (x k : Nat) : Prop := (x = v0 ∧ k = 3)
def wJ_cBytes_step (v0 : Nat) (v1 : Int) (h : Hp) (x k : Nat) : Prop := False
theorem fe_cBytes_step_b30 (v0 : Nat) (s0 : Nat) (s1 : Int) (h : Hp) : Feo (wI_cBytes_step_b30 v0 s0 s1 h) (wJ_cBytes_step_b30 v0 s0 s1 h) h Prod.snd (f_cBytes_step_b30 v0 s0 s1 h) := by
  unfold f_cBytes_step_b30
  refine fe_it fe_no ?_
  refine fe_it fe_no ?_
  refine fe_I Fe.rf (⟨rfl, rfl⟩) (fun h2 F1 => ?_)
  refine fe_it ?_ ?_
  · exact fe_so F1
  · exact fe_so F1
theorem fe_cBytes_step_b25 (v0 : Nat) (s0 : Nat) (h : Hp) : Feo (wI_cBytes_step_b25 v0 s0 h) (wJ_cBytes_step_b25 v0 s0 h) h Prod.snd (f_cBytes_step_b25 v0 s0 h) := by
  unfold f_cBytes_step_b25
  exact fe_j Fe.rf (fe_cBytes_step_b30 _ _ _ _) (fun x k hx => by simp only [wI_cBytes_step_b30] at hx; have e := hx; exact e) (fun x k hx => False.elim hx)
theorem fe_cBytes_step (v0 : Nat) (v1 : Int) (h : Hp) : Feo (wI_cBytes_step v0 v1 h) (wJ_cBytes_step v0 v1 h) h Prod.snd (f_cBytes_step v0 v1 h) := by
  unfold f_cBytes_step
  refine fe_it ?_ ?_
  · exact fe_j Fe.rf (fe_cBytes_step_b25 _ _ _) (fun x k hx => by simp only [wI_cBytes_step_b25] at hx; have e := hx; exact e) (fun x k hx => False.elim hx)
  · refine fe_it ?_ ?_
    · exact fe_j Fe.rf (fe_cBytes_step_b25 _ _ _) (fun x k hx => by simp only [wI_cBytes_step_b25] at hx; have e := hx; exact e) (fun x k hx => False.elim hx)
    · refine fe_it ?_ ?_
      · exact fe_j Fe.rf (fe_cBytes_step_b30 _ _ _ _) (fun x k hx => by simp only [wI_cBytes_step_b30] at hx; have e := hx; exact e) (fun x k hx => False.elim hx)
      · exact fe_j Fe.rf (fe_cBytes_step_b25 _ _ _) (fun x k hx => by simp only [wI_cBytes_step_b25] at hx; have e := hx; exact e) (fun x k hx => False.elim hx)
def wI_cBytes_putMany_b13 (v0 : Nat) (v1 : Int) (v4 : Int) (h : Hp) (x k : Nat) : Prop := x = hR h v0 0 ∨ (x = v0 ∧ k = 1)
def wJ_cBytes_putMany_b13 (v0 : Nat) (v1 : Int) (v4 : Int) (h : Hp) (x k : Nat) : Prop := False
def wI_cBytes_putMany (v0 : Nat) (v1 : Int) (v3 : Int) (h : Hp) (x k : Nat) : Prop := x = hR h v0 0 ∨ (x = v0 ∧ k = 1) ∨ (x = v0 ∧ k = 3)
def wJ_cBytes_putMany (v0 : Nat) (v1 : Int) (v3 : Int) (h : Hp) (x k : Nat) : Prop := False
theorem fe_cBytes_putMany_b13 {k13 : Nat → Int → Int → Hp → Option (Hp)} (hk13 : ∀ (v0 : Nat) (v1 : Int) (v4 : Int) (h : Hp), Feo (wI_cBytes_putMany_b13 v0 v1 v4 h) (wJ_cBytes_putMany_b13 v0 v1 v4 h) h id (k13 v0 v1 v4 h)) (v0 : Nat) (v1 : Int) (v4 : Int) (h : Hp) : Feo (wI_cBytes_putMany_b13 v0 v1 v4 h) (wJ_cBytes_putMany_b13 v0 v1 v4 h) h id (f_cBytes_putMany_b13 k13 v0 v1 v4 h) := by
  unfold f_cBytes_putMany_b13
  refine fe_it ?_ ?_
  · exact fe_so Fe.rf
  · refine fe_I Fe.rf (Or.inr (⟨rfl, rfl⟩)) (fun h5 F1 => ?_)
    refine fe_it fe_no ?_
    refine fe_it ?_ fe_no
    refine fe_I F1 (Or.inl (rfl)) (fun h8 F2 => ?_)
    exact fe_j F2 (hk13 _ _ _ _) (fun x k hx => by simp only [wI_cBytes_putMany_b13, F1.r, F2.r] at hx; rcases hx with e | e <;> first | exact Or.inl (e) | exact Or.inr (e)) (fun x k hx => False.elim hx)
theorem fe_cBytes_putMany_b13_lp (n : Nat) : ∀ (v0 : Nat) (v1 : Int) (v4 : Int) (h : Hp), Feo (wI_cBytes_putMany_b13 v0 v1 v4 h) (wJ_cBytes_putMany_b13 v0 v1 v4 h) h id (f_cBytes_putMany_b13_lp n v0 v1 v4 h) := by
  induction n with
  | zero => intro v0 v1 v4 h; exact fe_no
  | succ n ih => intro v0 v1 v4 h; exact fe_cBytes_putMany_b13 ih v0 v1 v4 h
theorem fe_cBytes_putMany (v0 : Nat) (v1 : Int) (v3 : Int) (h : Hp) : Feo (wI_cBytes_putMany v0 v1 v3 h) (wJ_cBytes_putMany v0 v1 v3 h) h id (f_cBytes_putMany v0 v1 v3 h) := by
  unfold f_cBytes_putMany
  refine fe_b2 Fe.rf (fe_cBytes_step _ _ _) (fun x k hx => by simp only [wI_cBytes_step] at hx; have e := hx; exact Or.inr (Or.inr (e))) (fun x k hx => False.elim hx) (fun r3 h1 F1 => ?_)
  refine fe_it ?_ ?_
  · exact fe_so F1
  · refine fe_v (fun y4 => ?_)
    exact fe_j F1 (fe_cBytes_putMany_b13_lp FU _ _ _ _) (fun x k hx => by simp only [wI_cBytes_putMany_b13, F1.r] at hx; rcases hx with e | e <;> first | exact Or.inl (e) | exact Or.inr (Or.inl (e))) (fun x k hx => False.elim hx)
def wI_cBytes_putSized_b28 (v0 : Nat) (v1 : Int) (v3 : Int) (s0 : Int) (h : Hp) (x k : Nat) : Prop := x = hR h v0 0 ∨ (x = v0 ∧ k = 1) ∨ (x = v0 ∧ k = 3)
def wJ_cBytes_putSized_b28 (v0 : Nat) (v1 : Int) (v3 : Int) (s0 : Int) (h : Hp) (x k : Nat) : Prop := False
def wI_cBytes_putSized (v0 : Nat) (v1 : Int) (v3 : Int) (h : Hp) (x k : Nat) : Prop := x = hR h v0 0 ∨ (x = v0 ∧ k = 1) ∨ (x = v0 ∧ k = 3)
def wJ_cBytes_putSized (v0 : Nat) (v1 : Int) (v3 : Int) (h : Hp) (x k : Nat) : Prop := False
theorem fe_cBytes_putSized_b28 (v0 : Nat) (v1 : Int) (v3 : Int) (s0 : Int) (h : Hp) : Feo (wI_cBytes_putSized_b28 v0 v1 v3 s0 h) (wJ_cBytes_putSized_b28 v0 v1 v3 s0 h) h id (f_cBytes_putSized_b28 v0 v1 v3 s0 h) := by
  unfold f_cBytes_putSized_b28
  refine fe_b1 Fe.rf (fe_cBytes_putMany _ _ _ _) (fun x k hx => by simp only [wI_cBytes_putMany] at hx; rcases hx with e | e | e <;> first | exact Or.inl (e) | exact Or.inr (Or.inl (e)) | exact Or.inr (Or.inr (e))) (fun x k hx => False.elim hx) (fun h1 F1 => ?_)
  exact fe_so F1
theorem fe_cBytes_putSized (v0 : Nat) (v1 : Int) (v3 : Int) (h : Hp) : Feo (wI_cBytes_putSized v0 v1 v3 h) (wJ_cBytes_putSized v0 v1 v3 h) h id (f_cBytes_putSized v0 v1 v3 h) := by
  unfold f_cBytes_putSized
  refine fe_it ?_ ?_
  · refine fe_it ?_ ?_
    · refine fe_it ?_ ?_
      · exact fe_j Fe.rf (fe_cBytes_putSized_b28 _ _ _ _ _) (fun x k hx => by simp only [wI_cBytes_putSized_b28] at hx; rcases hx with e | e | e <;> first | exact Or.inl (e) | exact Or.inr (Or.inl (e)) | exact Or.inr (Or.inr (e))) (fun x k hx => False.elim hx)
      · exact fe_j Fe.rf (fe_cBytes_putSized_b28 _ _ _ _ _) (fun x k hx => by simp only [wI_cBytes_putSized_b28] at hx; rcases hx with e | e | e <;> first | exact Or.inl (e) | exact Or.inr (Or.inl (e)) | exact Or.inr (Or.inr (e))) (fun x k hx => False.elim hx)
    · exact fe_j Fe.rf (fe_cBytes_putSized_b28 _ _ _ _ _) (fun x k hx => by simp only [wI_cBytes_putSized_b28] at hx; rcases hx with e | e | e <;> first | exact Or.inl (e) | exact Or.inr (Or.inl (e)) | exact Or.inr (Or.inr (e))) (fun x k hx => False.elim hx)
  · exact fe_j Fe.rf (fe_cBytes_putSized_b28 _ _ _ _ _) (fun x k hx => by simp only [wI_cBytes_putSized_b28] at hx; rcases hx with e | e | e <;> first | exact Or.inl (e) | exact Or.inr (Or.inl (e)) | exact Or.inr (Or.inr (e))) (fun x k hx => False.elim hx)
def wI_cBytes_putNumber (v0 : Nat) (v1 : Int) (h : Hp) (x k : Nat) : Prop := x = hR h v0 0 ∨ (x = v0 ∧ k = 1) ∨ (x = v0 ∧ k = 3)
def wJ_cBytes_putNumber (v0 : Nat) (v1 : Int) (h : Hp) (x k : Nat) : Prop := False
theorem fe_cBytes_putNumber (v0 : Nat) (v1 : Int) (h : Hp) : Feo (wI_cBytes_putNumber v0 v1 h) (wJ_cBytes_putNumber v0 v1 h) h id (f_cBytes_putNumber v0 v1 h) := by
  unfold f_cBytes_putNumber
  refine fe_b2 Fe.rf (fe_cBytes_sizeOf _ _) (fun x k hx => False.elim hx) (fun x k hx => False.elim hx) (fun r3 h1 F1 => ?_)
  refine fe_b1 F1 (fe_cBytes_putSized _ _ _ _) (fun x k hx => by simp only [wI_cBytes_putSized, F1.r] at hx; rcases hx with e | e | e <;> first | exact Or.inl (e) | exact Or.inr (Or.inl (e)) | exact Or.inr (Or.inr (e))) (fun x k hx => False.elim hx) (fun h4 F2 => ?_)
  exact fe_so F2
def wI_cBytes_putRow_b11 (v0 : Nat) (v1 : Nat) (v2 : Int) (v3 : Int) (v4 : Int) (h : Hp) (x k : Nat) : Prop := x = hR h v0 0 ∨ (x = v0 ∧ k = 1)
def wJ_cBytes_putRow_b11 (v0 : Nat) (v1 : Nat) (v2 : Int) (v3 : Int) (v4 : Int) (h : Hp) (x k : Nat) : Prop := False
def wI_cBytes_putRow (v0 : Nat) (v1 : Nat) (v2 : Int) (v3 : Int) (h : Hp) (x k : Nat) : Prop := x = hR h v0 0 ∨ (x = v0 ∧ k = 1) ∨ (x = v0 ∧ k = 3)
def wJ_cBytes_putRow (v0 : Nat) (v1 : Nat) (v2 : Int) (v3 : Int) (h : Hp) (x k : Nat) : Prop := False
theorem fe_cBytes_putRow_b11 {k11 : Nat → Nat → Int → Int → Int → Hp → Option (Hp)} (hk11 : ∀ (v0 : Nat) (v1 : Nat) (v2 : Int) (v3 : Int) (v4 : Int) (h : Hp), Feo (wI_cBytes_putRow_b11 v0 v1 v2 v3 v4 h) (wJ_cBytes_putRow_b11 v0 v1 v2 v3 v4 h) h id (k11 v0 v1 v2 v3 v4 h)) (v0 : Nat) (v1 : Nat) (v2 : Int) (v3 : Int) (v4 : Int) (h : Hp) : Feo (wI_cBytes_putRow_b11 v0 v1 v2 v3 v4 h) (wJ_cBytes_putRow_b11 v0 v1 v2 v3 v4 h) h id (f_cBytes_putRow_b11 k11 v0 v1 v2 v3 v4 h) := by
  unfold f_cBytes_putRow_b11
  refine fe_it ?_ ?_
  · exact fe_so Fe.rf
  · refine fe_I Fe.rf (Or.inr (⟨rfl, rfl⟩)) (fun h4 F1 => ?_)
    refine fe_it fe_no ?_
    refine fe_it ?_ fe_no
    refine fe_it fe_no ?_
    refine fe_it ?_ fe_no
    refine fe_I F1 (Or.inl (rfl)) (fun h9 F2 => ?_)
    exact fe_j F2 (hk11 _ _ _ _ _ _) (fun x k hx => by simp only [wI_cBytes_putRow_b11, F1.r, F2.r] at hx; rcases hx with e | e <;> first | exact Or.inl (e) | exact Or.inr (e)) (fun x k hx => False.elim hx)
theorem fe_cBytes_putRow_b11_lp (n : Nat) : ∀ (v0 : Nat) (v1 : Nat) (v2 : Int) (v3 : Int) (v4 : Int) (h : Hp), Feo (wI_cBytes_putRow_b11 v0 v1 v2 v3 v4 h) (wJ_cBytes_putRow_b11 v0 v1 v2 v3 v4 h) h id (f_cBytes_putRow_b11_lp n v0 v1 v2 v3 v4 h) := by
  induction n with
  | zero => intro v0 v1 v2 v3 v4 h; exact fe_no
  | succ n ih => intro v0 v1 v2 v3 v4 h; exact fe_cBytes_putRow_b11 ih v0 v1 v2 v3 v4 h
theorem fe_cBytes_putRow (v0 : Nat) (v1 : Nat) (v2 : Int) (v3 : Int) (h : Hp) : Feo (wI_cBytes_putRow v0 v1 v2 v3 h) (wJ_cBytes_putRow v0 v1 v2 v3 h) h id (f_cBytes_putRow v0 v1 v2 v3 h) := by
  unfold f_cBytes_putRow
  refine fe_b2 Fe.rf (fe_cBytes_step _ _ _) (fun x k hx => by simp only [wI_cBytes_step] at hx; have e := hx; exact Or.inr (Or.inr (e))) (fun x k hx => False.elim hx) (fun r3 h1 F1 => ?_)
  refine fe_it ?_ ?_
  · exact fe_so F1
  · exact fe_j F1 (fe_cBytes_putRow_b11_lp FU _ _ _ _ _ _) (fun x k hx => by simp only [wI_cBytes_putRow_b11, F1.r] at hx; rcases hx with e | e <;> first | exact Or.inl (e) | exact Or.inr (Or.inl (e))) (fun x k hx => False.elim hx)
def wI_cSide_put_II (v0 : Nat) (v1 : Int) (v2 : Int) (h : Hp) (x k : Nat) : Prop := (x = (hR h v0 36) ∧ k = 1) ∨ (x = (hR h v0 36) ∧ k = 3) ∨ x = hR h (hR h v0 36) 0
def wJ_cSide_put_II (v0 : Nat) (v1 : Int) (v2 : Int) (h : Hp) (x k : Nat) : Prop := False
theorem fe_cSide_put_II (v0 : Nat) (v1 : Int) (v2 : Int) (h : Hp) : Feo (wI_cSide_put_II v0 v1 v2 h) (wJ_cSide_put_II v0 v1 v2 h) h id (f_cSide_put_II v0 v1 v2 h) := by
  unfold f_cSide_put_II
  refine fe_it fe_no ?_
  refine fe_b1 Fe.rf (fe_cBytes_putNumber _ _ _) (fun x k hx => by simp only [wI_cBytes_putNumber] at hx; rcases hx with e | e | e <;> first | exact Or.inl (e) | exact Or.inr (Or.inl (e)) | exact Or.inr (Or.inr (e))) (fun x k hx => False.elim hx) (fun h2 F1 => ?_)
  refine fe_it fe_no ?_
  refine fe_b1 F1 (fe_cBytes_putNumber _ _ _) (fun x k hx => by simp only [wI_cBytes_putNumber, F1.r] at hx; rcases hx with e | e | e <;> first | exact Or.inl (e) | exact Or.inr (Or.inl (e)) | exact Or.inr (Or.inr (e))) (fun x k hx => False.elim hx) (fun h5 F2 => ?_)
  refine fe_it fe_no ?_
  refine fe_b1 F2 (fe_cBytes_putRow _ _ _ _ _) (fun x k hx => by simp only [wI_cBytes_putRow, F1.r, F2.r] at hx; rcases hx with e | e | e <;> first | exact Or.inl (e) | exact Or.inr (Or.inl (e)) | exact Or.inr (Or.inr (e))) (fun x k hx => False.elim hx) (fun h8 F3 => ?_)
  exact fe_so F3
def wI_cRow_put (v0 : Nat) (v1 : Int) (h : Hp) (x k : Nat) : Prop := x = hR h v0 0 ∨ (x = v0 ∧ k = 1)
def wJ_cRow_put (v0 : Nat) (v1 : Int) (h : Hp) (x k : Nat) : Prop := False
theorem fe_cRow_put (v0 : Nat) (v1 : Int) (h : Hp) : Feo (wI_cRow_put v0 v1 h) (wJ_cRow_put v0 v1 h) h id (f_cRow_put v0 v1 h) := by
  unfold f_cRow_put
  refine fe_I Fe.rf (Or.inr (⟨rfl, rfl⟩)) (fun h1 F1 => ?_)
  refine fe_it fe_no ?_
  refine fe_it ?_ fe_no
  refine fe_I F1 (Or.inl (rfl)) (fun h4 F2 => ?_)
  exact fe_so F2
def wI_cRow_add (v0 : Nat) (v1 : Nat) (v2 : Int) (v3 : Int) (h : Hp) (x k : Nat) : Prop := x = hR h v0 0 ∨ (x = v0 ∧ k = 1)
def wJ_cRow_add (v0 : Nat) (v1 : Nat) (v2 : Int) (v3 : Int) (h : Hp) (x k : Nat) : Prop := False
theorem fe_cRow_add (v0 : Nat) (v1 : Nat) (v2 : Int) (v3 : Int) (h : Hp) : Feo (wI_cRow_add v0 v1 v2 v3 h) (wJ_cRow_add v0 v1 v2 v3 h) h id (f_cRow_add v0 v1 v2 v3 h) := by
  unfold f_cRow_add
  refine fe_it fe_no ?_
  refine fe_it fe_no ?_
  refine fe_it ?_ fe_no
  refine fe_cI Fe.rf (fun y => Or.inl (rfl)) (fun h4 F1 => ?_)
  refine fe_I F1 (Or.inr (⟨rfl, rfl⟩)) (fun h5 F2 => ?_)
  exact fe_so F2
def wI_cGreeting_sends (v0 : Nat) (v1 : Int) (v2 : Int) (v3 : Nat) (v4 : Int) (v5 : Nat) (v6 : Int) (h : Hp) (x k : Nat) : Prop := (x = (hR h (hR h v0 8) v1.toNat) ∧ k = 1) ∨ (x = (hR h v0 7) ∧ k = 1) ∨ x = hR h (hR h (hR h v0 8) v1.toNat) 0 ∨ x = hR h (hR h v0 7) 0
def wJ_cGreeting_sends (v0 : Nat) (v1 : Int) (v2 : Int) (v3 : Nat) (v4 : Int) (v5 : Nat) (v6 : Int) (h : Hp) (x k : Nat) : Prop := False
theorem fe_cGreeting_sends (v0 : Nat) (v1 : Int) (v2 : Int) (v3 : Nat) (v4 : Int) (v5 : Nat) (v6 : Int) (h : Hp) : Feo (wI_cGreeting_sends v0 v1 v2 v3 v4 v5 v6 h) (wJ_cGreeting_sends v0 v1 v2 v3 v4 v5 v6 h) h id (f_cGreeting_sends v0 v1 v2 v3 v4 v5 v6 h) := by
  unfold f_cGreeting_sends
  refine fe_it fe_no ?_
  refine fe_it ?_ fe_no
  refine fe_l ?_
  refine fe_it fe_no ?_
  refine fe_v (fun y5 => ?_)
  refine fe_b1 Fe.rf (fe_cRow_put _ _ _) (fun x k hx => by simp only [wI_cRow_put] at hx; rcases hx with e | e <;> first | exact Or.inl (e) | exact Or.inr (Or.inr (Or.inl (e)))) (fun x k hx => False.elim hx) (fun h6 F1 => ?_)
  refine fe_b1 F1 (fe_cRow_put _ _ _) (fun x k hx => by simp only [wI_cRow_put, F1.r] at hx; rcases hx with e | e <;> first | exact Or.inl (e) | exact Or.inr (Or.inr (Or.inl (e)))) (fun x k hx => False.elim hx) (fun h8 F2 => ?_)
  refine fe_b1 F2 (fe_cRow_put _ _ _) (fun x k hx => by simp only [wI_cRow_put, F1.r, F2.r] at hx; rcases hx with e | e <;> first | exact Or.inl (e) | exact Or.inr (Or.inr (Or.inl (e)))) (fun x k hx => False.elim hx) (fun h10 F3 => ?_)
  refine fe_b1 F3 (fe_cRow_put _ _ _) (fun x k hx => by simp only [wI_cRow_put, F1.r, F2.r, F3.r] at hx; rcases hx with e | e <;> first | exact Or.inl (e) | exact Or.inr (Or.inr (Or.inl (e)))) (fun x k hx => False.elim hx) (fun h12 F4 => ?_)
  refine fe_b1 F4 (fe_cRow_add _ _ _ _ _) (fun x k hx => by simp only [wI_cRow_add, F1.r, F2.r, F3.r, F4.r] at hx; rcases hx with e | e <;> first | exact Or.inl (e) | exact Or.inr (Or.inr (Or.inl (e)))) (fun x k hx => False.elim hx) (fun h14 F5 => ?_)
  refine fe_b1 F5 (fe_cRow_add _ _ _ _ _) (fun x k hx => by simp only [wI_cRow_add, F1.r, F2.r, F3.r, F4.r, F5.r] at hx; rcases hx with e | e <;> first | exact Or.inl (e) | exact Or.inr (Or.inr (Or.inl (e)))) (fun x k hx => False.elim hx) (fun h16 F6 => ?_)
  refine fe_it fe_no ?_
  refine fe_b1 F6 (fe_cRow_add _ _ _ _ _) (fun x k hx => by simp only [wI_cRow_add, F1.r, F2.r, F3.r, F4.r, F5.r, F6.r] at hx; rcases hx with e | e <;> first | exact Or.inr (Or.inl (e)) | exact Or.inr (Or.inr (Or.inr (e)))) (fun x k hx => False.elim hx) (fun h19 F7 => ?_)
  exact fe_so F7
def wI_cGreeting_begin_b18 (v0 : Nat) (s0 : Nat) (s1 : Int) (h : Hp) (x k : Nat) : Prop := (x = (hR h (hR h v0 8) 0) ∧ k = 1) ∨ (x = (hR h v0 7) ∧ k = 1) ∨ x = hR h (hR h (hR h v0 8) 0) 0 ∨ x = hR h (hR h v0 7) 0 ∨ (x = s0 ∧ k = 20)
def wJ_cGreeting_begin_b18 (v0 : Nat) (s0 : Nat) (s1 : Int) (h : Hp) (x k : Nat) : Prop := False
def wI_cGreeting_begin (v0 : Nat) (h : Hp) (x k : Nat) : Prop := (x = (hR h (hR h v0 8) 0) ∧ k = 1) ∨ (x = (hR h v0 7) ∧ k = 1) ∨ x = hR h (hR h (hR h v0 8) 0) 0 ∨ x = hR h (hR h v0 7) 0 ∨ (x = v0 ∧ k = 20) ∨ (x = v0 ∧ k = 21)
def wJ_cGreeting_begin (v0 : Nat) (h : Hp) (x k : Nat) : Prop := False
theorem fe_cGreeting_begin_b18 (v0 : Nat) (s0 : Nat) (s1 : Int) (h : Hp) : Feo (wI_cGreeting_begin_b18 v0 s0 s1 h) (wJ_cGreeting_begin_b18 v0 s0 s1 h) h id (f_cGreeting_begin_b18 v0 s0 s1 h) := by
  unfold f_cGreeting_begin_b18
  refine fe_it fe_no ?_
  refine fe_I Fe.rf (Or.inr (Or.inr (Or.inr (Or.inr (⟨rfl, rfl⟩))))) (fun h3 F1 => ?_)
  refine fe_it ?_ ?_
  · exact fe_so F1
  · refine fe_b1 F1 (fe_cGreeting_sends _ _ _ _ _ _ _ _) (fun x k hx => by simp only [wI_cGreeting_sends, F1.r] at hx; rcases hx with e | e | e | e <;> first | exact Or.inl (e) | exact Or.inr (Or.inl (e)) | exact Or.inr (Or.inr (Or.inl (e))) | exact Or.inr (Or.inr (Or.inr (Or.inl (e))))) (fun x k hx => False.elim hx) (fun h4 F2 => ?_)
    exact fe_so F2
theorem fe_cGreeting_begin (v0 : Nat) (h : Hp) : Feo (wI_cGreeting_begin v0 h) (wJ_cGreeting_begin v0 h) h id (f_cGreeting_begin v0 h) := by
  unfold f_cGreeting_begin
  refine fe_I Fe.rf (Or.inr (Or.inr (Or.inr (Or.inr (Or.inr (⟨rfl, rfl⟩)))))) (fun h1 F1 => ?_)
  refine fe_it ?_ ?_
  · exact fe_j F1 (fe_cGreeting_begin_b18 _ _ _ _) (fun x k hx => by simp only [wI_cGreeting_begin_b18, F1.r] at hx; rcases hx with e | e | e | e | e <;> first | exact Or.inl (e) | exact Or.inr (Or.inl (e)) | exact Or.inr (Or.inr (Or.inl (e))) | exact Or.inr (Or.inr (Or.inr (Or.inl (e)))) | exact Or.inr (Or.inr (Or.inr (Or.inr (Or.inl (e)))))) (fun x k hx => False.elim hx)
  · exact fe_j F1 (fe_cGreeting_begin_b18 _ _ _ _) (fun x k hx => by simp only [wI_cGreeting_begin_b18, F1.r] at hx; rcases hx with e | e | e | e | e <;> first | exact Or.inl (e) | exact Or.inr (Or.inl (e)) | exact Or.inr (Or.inr (Or.inl (e))) | exact Or.inr (Or.inr (Or.inr (Or.inl (e)))) | exact Or.inr (Or.inr (Or.inr (Or.inr (Or.inl (e)))))) (fun x k hx => False.elim hx)
def wI_cHall_isOneWay (v0 : Int) (h : Hp) (x k : Nat) : Prop := False
def wJ_cHall_isOneWay (v0 : Int) (h : Hp) (x k : Nat) : Prop := False
theorem fe_cHall_isOneWay (v0 : Int) (h : Hp) : Feo (wI_cHall_isOneWay v0 h) (wJ_cHall_isOneWay v0 h) h Prod.snd (f_cHall_isOneWay v0 h) := by
  unfold f_cHall_isOneWay
  refine fe_it ?_ ?_
  · exact fe_so Fe.rf
  · exact fe_so Fe.rf
def wI_cHall_isOwn (v0 : Nat) (v1 : Int) (h : Hp) (x k : Nat) : Prop := False
def wJ_cHall_isOwn (v0 : Nat) (v1 : Int) (h : Hp) (x k : Nat) : Prop := False
theorem fe_cHall_isOwn (v0 : Nat) (v1 : Int) (h : Hp) : Feo (wI_cHall_isOwn v0 v1 h) (wJ_cHall_isOwn v0 v1 h) h Prod.snd (f_cHall_isOwn v0 v1 h) := by
  unfold f_cHall_isOwn
  refine fe_it ?_ ?_
  · exact fe_so Fe.rf
  · exact fe_so Fe.rf
def wI_cHall_rule (v0 : Nat) (v1 : Int) (v3 : Int) (h : Hp) (x k : Nat) : Prop := False
def wJ_cHall_rule (v0 : Nat) (v1 : Int) (v3 : Int) (h : Hp) (x k : Nat) : Prop := False
theorem fe_cHall_rule (v0 : Nat) (v1 : Int) (v3 : Int) (h : Hp) : Feo (wI_cHall_rule v0 v1 v3 h) (wJ_cHall_rule v0 v1 v3 h) h Prod.snd (f_cHall_rule v0 v1 v3 h) := by
  unfold f_cHall_rule
  refine fe_b2 Fe.rf (fe_cHall_isOneWay _ _) (fun x k hx => False.elim hx) (fun x k hx => False.elim hx) (fun r3 h1 F1 => ?_)
  refine fe_it ?_ ?_
  · refine fe_b2 F1 (fe_cHall_isOwn _ _ _) (fun x k hx => False.elim hx) (fun x k hx => False.elim hx) (fun r6 h4 F2 => ?_)
    refine fe_it ?_ ?_
    · exact fe_so F2
    · exact fe_so F2
  · exact fe_so F1
def wI_cSending_init (v0 : Nat) (v1 : Int) (h : Hp) (x k : Nat) : Prop := (x = v0 ∧ k = 4) ∨ (x = v0 ∧ k = 5) ∨ (x = v0 ∧ k = 6) ∨ (x = v0 ∧ k = 7)
def wJ_cSending_init (v0 : Nat) (v1 : Int) (h : Hp) (x k : Nat) : Prop := (x = v0 ∧ k = 8) ∨ (x = v0 ∧ k = 10)
theorem fe_cSending_init (v0 : Nat) (v1 : Int) (h : Hp) : Feo (wI_cSending_init v0 v1 h) (wJ_cSending_init v0 v1 h) h id (f_cSending_init v0 v1 h) := by
  unfold f_cSending_init
  refine fe_I Fe.rf (Or.inl (⟨rfl, rfl⟩)) (fun h1 F1 => ?_)
  refine fe_I F1 (Or.inr (Or.inl (⟨rfl, rfl⟩))) (fun h2 F2 => ?_)
  refine fe_I F2 (Or.inr (Or.inr (Or.inl (⟨rfl, rfl⟩)))) (fun h3 F3 => ?_)
  refine fe_I F3 (Or.inr (Or.inr (Or.inr (⟨rfl, rfl⟩)))) (fun h4 F4 => ?_)
  refine fe_J F4 (Or.inr (⟨rfl, rfl⟩)) (fun h5 F5 => ?_)
  refine fe_J F5 (Or.inl (⟨rfl, rfl⟩)) (fun h6 F6 => ?_)
  exact fe_so F6
def wI_cReceiving_init (v0 : Nat) (v1 : Int) (h : Hp) (x k : Nat) : Prop := (x = v0 ∧ k = 0) ∨ (x = v0 ∧ k = 5) ∨ (x = v0 ∧ k = 6) ∨ (x = v0 ∧ k = 7)
def wJ_cReceiving_init (v0 : Nat) (v1 : Int) (h : Hp) (x k : Nat) : Prop := False
theorem fe_cReceiving_init (v0 : Nat) (v1 : Int) (h : Hp) : Feo (wI_cReceiving_init v0 v1 h) (wJ_cReceiving_init v0 v1 h) h id (f_cReceiving_init v0 v1 h) := by
  unfold f_cReceiving_init
  refine fe_I Fe.rf (Or.inr (Or.inl (⟨rfl, rfl⟩))) (fun h1 F1 => ?_)
  refine fe_I F1 (Or.inr (Or.inr (Or.inr (⟨rfl, rfl⟩)))) (fun h2 F2 => ?_)
  refine fe_I F2 (Or.inl (⟨rfl, rfl⟩)) (fun h3 F3 => ?_)
  refine fe_I F3 (Or.inr (Or.inr (Or.inl (⟨rfl, rfl⟩)))) (fun h4 F4 => ?_)
  exact fe_so F4
def wI_cHall_sending_b11 (v0 : Nat) (h : Hp) (x k : Nat) : Prop := False
def wJ_cHall_sending_b11 (v0 : Nat) (h : Hp) (x k : Nat) : Prop := False
def wI_cHall_sending (v0 : Nat) (v1 : Int) (h : Hp) (x k : Nat) : Prop := False
def wJ_cHall_sending (v0 : Nat) (v1 : Int) (h : Hp) (x k : Nat) : Prop := False
theorem fe_cHall_sending_b11 (v0 : Nat) (h : Hp) : Feo (wI_cHall_sending_b11 v0 h) (wJ_cHall_sending_b11 v0 h) h Prod.snd (f_cHall_sending_b11 v0 h) := by
  unfold f_cHall_sending_b11
  exact fe_so Fe.rf
theorem fe_cHall_sending (v0 : Nat) (v1 : Int) (h : Hp) : Feo (wI_cHall_sending v0 v1 h) (wJ_cHall_sending v0 v1 h) h Prod.snd (f_cHall_sending v0 v1 h) := by
  unfold f_cHall_sending
  refine fe_it ?_ ?_
  · exact fe_j Fe.rf (fe_cHall_sending_b11 _ _) (fun x k hx => False.elim hx) (fun x k hx => False.elim hx)
  · refine fe_it ?_ ?_
    · refine fe_it fe_no ?_
      refine fe_it ?_ fe_no
      exact fe_so Fe.rf
    · exact fe_j Fe.rf (fe_cHall_sending_b11 _ _) (fun x k hx => False.elim hx) (fun x k hx => False.elim hx)
def wI_cSending_isLive_b15 (v0 : Nat) (h : Hp) (x k : Nat) : Prop := False
def wJ_cSending_isLive_b15 (v0 : Nat) (h : Hp) (x k : Nat) : Prop := False
def wI_cSending_isLive (v0 : Nat) (h : Hp) (x k : Nat) : Prop := False
def wJ_cSending_isLive (v0 : Nat) (h : Hp) (x k : Nat) : Prop := False
theorem fe_cSending_isLive_b15 (v0 : Nat) (h : Hp) : Feo (wI_cSending_isLive_b15 v0 h) (wJ_cSending_isLive_b15 v0 h) h Prod.snd (f_cSending_isLive_b15 v0 h) := by
  unfold f_cSending_isLive_b15
  exact fe_so Fe.rf
theorem fe_cSending_isLive (v0 : Nat) (h : Hp) : Feo (wI_cSending_isLive v0 h) (wJ_cSending_isLive v0 h) h Prod.snd (f_cSending_isLive v0 h) := by
  unfold f_cSending_isLive
  refine fe_it ?_ ?_
  · exact fe_j Fe.rf (fe_cSending_isLive_b15 _ _) (fun x k hx => False.elim hx) (fun x k hx => False.elim hx)
  · refine fe_it ?_ ?_
    · exact fe_so Fe.rf
    · exact fe_j Fe.rf (fe_cSending_isLive_b15 _ _) (fun x k hx => False.elim hx) (fun x k hx => False.elim hx)
def wI_cSending_reset (v0 : Nat) (v1 : Int) (h : Hp) (x k : Nat) : Prop := (x = v0 ∧ k = 0) ∨ (x = v0 ∧ k = 11)
def wJ_cSending_reset (v0 : Nat) (v1 : Int) (h : Hp) (x k : Nat) : Prop := (x = v0 ∧ k = 9)
theorem fe_cSending_reset (v0 : Nat) (v1 : Int) (h : Hp) : Feo (wI_cSending_reset v0 v1 h) (wJ_cSending_reset v0 v1 h) h id (f_cSending_reset v0 v1 h) := by
  unfold f_cSending_reset
  refine fe_I Fe.rf (Or.inl (⟨rfl, rfl⟩)) (fun h1 F1 => ?_)
  refine fe_J F1 (⟨rfl, rfl⟩) (fun h2 F2 => ?_)
  refine fe_I F2 (Or.inr (⟨rfl, rfl⟩)) (fun h3 F3 => ?_)
  exact fe_so F3
def wI_cHall_receiving_b11 (v0 : Nat) (h : Hp) (x k : Nat) : Prop := False
def wJ_cHall_receiving_b11 (v0 : Nat) (h : Hp) (x k : Nat) : Prop := False
def wI_cHall_receiving (v0 : Nat) (v1 : Int) (h : Hp) (x k : Nat) : Prop := False
def wJ_cHall_receiving (v0 : Nat) (v1 : Int) (h : Hp) (x k : Nat) : Prop := False
theorem fe_cHall_receiving_b11 (v0 : Nat) (h : Hp) : Feo (wI_cHall_receiving_b11 v0 h) (wJ_cHall_receiving_b11 v0 h) h Prod.snd (f_cHall_receiving_b11 v0 h) := by
  unfold f_cHall_receiving_b11
  exact fe_so Fe.rf
theorem fe_cHall_receiving (v0 : Nat) (v1 : Int) (h : Hp) : Feo (wI_cHall_receiving v0 v1 h) (wJ_cHall_receiving v0 v1 h) h Prod.snd (f_cHall_receiving v0 v1 h) := by
  unfold f_cHall_receiving
  refine fe_it ?_ ?_
  · exact fe_j Fe.rf (fe_cHall_receiving_b11 _ _) (fun x k hx => False.elim hx) (fun x k hx => False.elim hx)
  · refine fe_it ?_ ?_
    · refine fe_it fe_no ?_
      refine fe_it ?_ fe_no
      exact fe_so Fe.rf
    · exact fe_j Fe.rf (fe_cHall_receiving_b11 _ _) (fun x k hx => False.elim hx) (fun x k hx => False.elim hx)
def wI_cReceiving_isLive_b15 (v0 : Nat) (h : Hp) (x k : Nat) : Prop := False
def wJ_cReceiving_isLive_b15 (v0 : Nat) (h : Hp) (x k : Nat) : Prop := False
def wI_cReceiving_isLive (v0 : Nat) (h : Hp) (x k : Nat) : Prop := False
def wJ_cReceiving_isLive (v0 : Nat) (h : Hp) (x k : Nat) : Prop := False
theorem fe_cReceiving_isLive_b15 (v0 : Nat) (h : Hp) : Feo (wI_cReceiving_isLive_b15 v0 h) (wJ_cReceiving_isLive_b15 v0 h) h Prod.snd (f_cReceiving_isLive_b15 v0 h) := by
  unfold f_cReceiving_isLive_b15
  exact fe_so Fe.rf
theorem fe_cReceiving_isLive (v0 : Nat) (h : Hp) : Feo (wI_cReceiving_isLive v0 h) (wJ_cReceiving_isLive v0 h) h Prod.snd (f_cReceiving_isLive v0 h) := by
  unfold f_cReceiving_isLive
  refine fe_it ?_ ?_
  · exact fe_j Fe.rf (fe_cReceiving_isLive_b15 _ _) (fun x k hx => False.elim hx) (fun x k hx => False.elim hx)
  · refine fe_it ?_ ?_
    · exact fe_so Fe.rf
    · exact fe_j Fe.rf (fe_cReceiving_isLive_b15 _ _) (fun x k hx => False.elim hx) (fun x k hx => False.elim hx)
def wI_cBlocks_drop (v0 : Nat) (v1 : Nat) (h : Hp) (x k : Nat) : Prop := x = hR h v0 3 ∨ (x = v0 ∧ k = 5) ∨ (x = v1 ∧ k = 7)
def wJ_cBlocks_drop (v0 : Nat) (v1 : Nat) (h : Hp) (x k : Nat) : Prop := False
theorem fe_cBlocks_drop (v0 : Nat) (v1 : Nat) (h : Hp) : Feo (wI_cBlocks_drop v0 v1 h) (wJ_cBlocks_drop v0 v1 h) h id (f_cBlocks_drop v0 v1 h) := by
  unfold f_cBlocks_drop
  refine fe_it fe_no ?_
  refine fe_v (fun y2 => ?_)
  refine fe_it fe_no ?_
  refine fe_it ?_ fe_no
  refine fe_I Fe.rf (Or.inr (Or.inr (⟨rfl, rfl⟩))) (fun h5 F1 => ?_)
  refine fe_it fe_no ?_
  refine fe_it ?_ fe_no
  refine fe_I F1 (Or.inl ((by first | (simp only [F1.r]; exact rfl) | simp only [F1.r]))) (fun h8 F2 => ?_)
  refine fe_I F2 (Or.inr (Or.inl (⟨rfl, rfl⟩))) (fun h9 F3 => ?_)
  exact fe_so F3
def wI_cBlocks_take_b61 (v0 : Nat) (v1 : Nat) (v2 : Nat) (v3 : Int) (v4 : Int) (v5 : Int) (h : Hp) (x k : Nat) : Prop := x = hR h v0 3 ∨ (x = v0 ∧ k = 5) ∨ (x = v1 ∧ k = 2) ∨ (x = v1 ∧ k = 7) ∨ x = v2
def wJ_cBlocks_take_b61 (v0 : Nat) (v1 : Nat) (v2 : Nat) (v3 : Int) (v4 : Int) (v5 : Int) (h : Hp) (x k : Nat) : Prop := False
def wI_cBlocks_take_b3 (v0 : Nat) (v1 : Nat) (v2 : Nat) (v3 : Int) (v4 : Int) (v5 : Int) (h : Hp) (x k : Nat) : Prop := x = hR h v0 3 ∨ (x = v0 ∧ k = 5) ∨ (x = v1 ∧ k = 2) ∨ (x = v1 ∧ k = 7) ∨ x = v2
def wJ_cBlocks_take_b3 (v0 : Nat) (v1 : Nat) (v2 : Nat) (v3 : Int) (v4 : Int) (v5 : Int) (h : Hp) (x k : Nat) : Prop := False
def wI_cBlocks_take (v0 : Nat) (v1 : Nat) (v2 : Nat) (v3 : Int) (v4 : Int) (h : Hp) (x k : Nat) : Prop := x = hR h v0 3 ∨ (x = v0 ∧ k = 5) ∨ (x = v1 ∧ k = 2) ∨ (x = v1 ∧ k = 7) ∨ x = v2
def wJ_cBlocks_take (v0 : Nat) (v1 : Nat) (v2 : Nat) (v3 : Int) (v4 : Int) (h : Hp) (x k : Nat) : Prop := False
theorem fe_cBlocks_take_b61 {k3 : Nat → Nat → Nat → Int → Int → Int → Hp → Option (Hp)} (hk3 : ∀ (v0 : Nat) (v1 : Nat) (v2 : Nat) (v3 : Int) (v4 : Int) (v5 : Int) (h : Hp), Feo (wI_cBlocks_take_b3 v0 v1 v2 v3 v4 v5 h) (wJ_cBlocks_take_b3 v0 v1 v2 v3 v4 v5 h) h id (k3 v0 v1 v2 v3 v4 v5 h)) (v0 : Nat) (v1 : Nat) (v2 : Nat) (v3 : Int) (v4 : Int) (v5 : Int) (h : Hp) : Feo (wI_cBlocks_take_b61 v0 v1 v2 v3 v4 v5 h) (wJ_cBlocks_take_b61 v0 v1 v2 v3 v4 v5 h) h id (f_cBlocks_take_b61 k3 v0 v1 v2 v3 v4 v5 h) := by
  unfold f_cBlocks_take_b61
  exact fe_j Fe.rf (hk3 _ _ _ _ _ _ _) (fun x k hx => by simp only [wI_cBlocks_take_b3] at hx; rcases hx with e | e | e | e | e <;> first | exact Or.inl (e) | exact Or.inr (Or.inl (e)) | exact Or.inr (Or.inr (Or.inl (e))) | exact Or.inr (Or.inr (Or.inr (Or.inl (e)))) | exact Or.inr (Or.inr (Or.inr (Or.inr (e))))) (fun x k hx => False.elim hx)
theorem fe_cBlocks_take_b3 {k3 : Nat → Nat → Nat → Int → Int → Int → Hp → Option (Hp)} (hk3 : ∀ (v0 : Nat) (v1 : Nat) (v2 : Nat) (v3 : Int) (v4 : Int) (v5 : Int) (h : Hp), Feo (wI_cBlocks_take_b3 v0 v1 v2 v3 v4 v5 h) (wJ_cBlocks_take_b3 v0 v1 v2 v3 v4 v5 h) h id (k3 v0 v1 v2 v3 v4 v5 h)) (v0 : Nat) (v1 : Nat) (v2 : Nat) (v3 : Int) (v4 : Int) (v5 : Int) (h : Hp) : Feo (wI_cBlocks_take_b3 v0 v1 v2 v3 v4 v5 h) (wJ_cBlocks_take_b3 v0 v1 v2 v3 v4 v5 h) h id (f_cBlocks_take_b3 k3 v0 v1 v2 v3 v4 v5 h) := by
  unfold f_cBlocks_take_b3
  refine fe_it ?_ ?_
  · exact fe_so Fe.rf
  · refine fe_it fe_no ?_
    refine fe_it fe_no ?_
    refine fe_it ?_ fe_no
    refine fe_it fe_no ?_
    refine fe_it ?_ fe_no
    refine fe_I Fe.rf (Or.inr (Or.inr (Or.inr (Or.inr (rfl))))) (fun h6 F1 => ?_)
    refine fe_I F1 (Or.inr (Or.inr (Or.inl (⟨rfl, rfl⟩)))) (fun h7 F2 => ?_)
    refine fe_it ?_ ?_
    · exact fe_j F2 (fe_cBlocks_take_b61 hk3 _ _ _ _ _ _ _) (fun x k hx => by simp only [wI_cBlocks_take_b61, F1.r, F2.r] at hx; rcases hx with e | e | e | e | e <;> first | exact Or.inl (e) | exact Or.inr (Or.inl (e)) | exact Or.inr (Or.inr (Or.inl (e))) | exact Or.inr (Or.inr (Or.inr (Or.inl (e)))) | exact Or.inr (Or.inr (Or.inr (Or.inr (e))))) (fun x k hx => False.elim hx)
    · refine fe_b1 F2 (fe_cBlocks_drop _ _ _) (fun x k hx => by simp only [wI_cBlocks_drop, F1.r, F2.r] at hx; rcases hx with e | e | e <;> first | exact Or.inl (e) | exact Or.inr (Or.inl (e)) | exact Or.inr (Or.inr (Or.inr (Or.inl (e))))) (fun x k hx => False.elim hx) (fun h8 F3 => ?_)
      exact fe_j F3 (fe_cBlocks_take_b61 hk3 _ _ _ _ _ _ _) (fun x k hx => by simp only [wI_cBlocks_take_b61, F1.r, F2.r, F3.r] at hx; rcases hx with e | e | e | e | e <;> first | exact Or.inl (e) | exact Or.inr (Or.inl (e)) | exact Or.inr (Or.inr (Or.inl (e))) | exact Or.inr (Or.inr (Or.inr (Or.inl (e)))) | exact Or.inr (Or.inr (Or.inr (Or.inr (e))))) (fun x k hx => False.elim hx)
theorem fe_cBlocks_take_b3_lp (n : Nat) : ∀ (v0 : Nat) (v1 : Nat) (v2 : Nat) (v3 : Int) (v4 : Int) (v5 : Int) (h : Hp), Feo (wI_cBlocks_take_b3 v0 v1 v2 v3 v4 v5 h) (wJ_cBlocks_take_b3 v0 v1 v2 v3 v4 v5 h) h id (f_cBlocks_take_b3_lp n v0 v1 v2 v3 v4 v5 h) := by
  induction n with
  | zero => intro v0 v1 v2 v3 v4 v5 h; exact fe_no
  | succ n ih => intro v0 v1 v2 v3 v4 v5 h; exact fe_cBlocks_take_b3 ih v0 v1 v2 v3 v4 v5 h
theorem fe_cBlocks_take (v0 : Nat) (v1 : Nat) (v2 : Nat) (v3 : Int) (v4 : Int) (h : Hp) : Feo (wI_cBlocks_take v0 v1 v2 v3 v4 h) (wJ_cBlocks_take v0 v1 v2 v3 v4 h) h id (f_cBlocks_take v0 v1 v2 v3 v4 h) := by
  unfold f_cBlocks_take
  exact fe_j Fe.rf (fe_cBlocks_take_b3_lp FU _ _ _ _ _ _ _) (fun x k hx => by simp only [wI_cBlocks_take_b3] at hx; rcases hx with e | e | e | e | e <;> first | exact Or.inl (e) | exact Or.inr (Or.inl (e)) | exact Or.inr (Or.inr (Or.inl (e))) | exact Or.inr (Or.inr (Or.inr (Or.inl (e)))) | exact Or.inr (Or.inr (Or.inr (Or.inr (e))))) (fun x k hx => False.elim hx)
def wI_cHall_grow_ (v0 : Nat) (h : Hp) (x k : Nat) : Prop := (x = v0 ∧ k = 14) ∨ (x = v0 ∧ k = 16)
def wJ_cHall_grow_ (v0 : Nat) (h : Hp) (x k : Nat) : Prop := False
theorem fe_cHall_grow_ (v0 : Nat) (h : Hp) : Feo (wI_cHall_grow_ v0 h) (wJ_cHall_grow_ v0 h) h id (f_cHall_grow_ v0 h) := by
  unfold f_cHall_grow_
  refine fe_it fe_no ?_
  refine fe_it ?_ fe_no
  refine fe_v (fun y3 => ?_)
  refine fe_it ?_ fe_no
  refine fe_it ?_ fe_no
  refine fe_it ?_ ?_
  · exact fe_so Fe.rf
  · refine fe_it ?_ ?_
    · refine fe_I Fe.rf (Or.inl (⟨rfl, rfl⟩)) (fun h6 F1 => ?_)
      refine fe_I F1 (Or.inr (⟨rfl, rfl⟩)) (fun h7 F2 => ?_)
      exact fe_so F2
    · exact fe_so Fe.rf
def wI_cHall_grow_Receiving (v0 : Nat) (v1 : Nat) (h : Hp) (x k : Nat) : Prop := (x = v1 ∧ k = 6) ∨ (x = v1 ∧ k = 10)
def wJ_cHall_grow_Receiving (v0 : Nat) (v1 : Nat) (h : Hp) (x k : Nat) : Prop := False
theorem fe_cHall_grow_Receiving (v0 : Nat) (v1 : Nat) (h : Hp) : Feo (wI_cHall_grow_Receiving v0 v1 h) (wJ_cHall_grow_Receiving v0 v1 h) h id (f_cHall_grow_Receiving v0 v1 h) := by
  unfold f_cHall_grow_Receiving
  refine fe_it fe_no ?_
  refine fe_v (fun y2 => ?_)
  refine fe_it ?_ ?_
  · exact fe_so Fe.rf
  · refine fe_it ?_ ?_
    · refine fe_I Fe.rf (Or.inl (⟨rfl, rfl⟩)) (fun h3 F1 => ?_)
      refine fe_I F1 (Or.inr (⟨rfl, rfl⟩)) (fun h4 F2 => ?_)
      exact fe_so F2
    · exact fe_so Fe.rf
def wI_cSending_isOver_b16 (v0 : Nat) (h : Hp) (x k : Nat) : Prop := False
def wJ_cSending_isOver_b16 (v0 : Nat) (h : Hp) (x k : Nat) : Prop := False
def wI_cSending_isOver (v0 : Nat) (h : Hp) (x k : Nat) : Prop := False
def wJ_cSending_isOver (v0 : Nat) (h : Hp) (x k : Nat) : Prop := False
theorem fe_cSending_isOver_b16 (v0 : Nat) (h : Hp) : Feo (wI_cSending_isOver_b16 v0 h) (wJ_cSending_isOver_b16 v0 h) h Prod.snd (f_cSending_isOver_b16 v0 h) := by
  unfold f_cSending_isOver_b16
  exact fe_so Fe.rf
theorem fe_cSending_isOver (v0 : Nat) (h : Hp) : Feo (wI_cSending_isOver v0 h) (wJ_cSending_isOver v0 h) h Prod.snd (f_cSending_isOver v0 h) := by
  unfold f_cSending_isOver
  refine fe_it ?_ ?_
  · exact fe_j Fe.rf (fe_cSending_isOver_b16 _ _) (fun x k hx => False.elim hx) (fun x k hx => False.elim hx)
  · refine fe_it ?_ ?_
    · exact fe_so Fe.rf
    · exact fe_j Fe.rf (fe_cSending_isOver_b16 _ _) (fun x k hx => False.elim hx) (fun x k hx => False.elim hx)
def wI_cReceiving_isOver_b16 (v0 : Nat) (h : Hp) (x k : Nat) : Prop := False
def wJ_cReceiving_isOver_b16 (v0 : Nat) (h : Hp) (x k : Nat) : Prop := False
def wI_cReceiving_isOver (v0 : Nat) (h : Hp) (x k : Nat) : Prop := False
def wJ_cReceiving_isOver (v0 : Nat) (h : Hp) (x k : Nat) : Prop := False
theorem fe_cReceiving_isOver_b16 (v0 : Nat) (h : Hp) : Feo (wI_cReceiving_isOver_b16 v0 h) (wJ_cReceiving_isOver_b16 v0 h) h Prod.snd (f_cReceiving_isOver_b16 v0 h) := by
  unfold f_cReceiving_isOver_b16
  exact fe_so Fe.rf
theorem fe_cReceiving_isOver (v0 : Nat) (h : Hp) : Feo (wI_cReceiving_isOver v0 h) (wJ_cReceiving_isOver v0 h) h Prod.snd (f_cReceiving_isOver v0 h) := by
  unfold f_cReceiving_isOver
  refine fe_it ?_ ?_
  · exact fe_j Fe.rf (fe_cReceiving_isOver_b16 _ _) (fun x k hx => False.elim hx) (fun x k hx => False.elim hx)
  · refine fe_it ?_ ?_
    · exact fe_so Fe.rf
    · exact fe_j Fe.rf (fe_cReceiving_isOver_b16 _ _) (fun x k hx => False.elim hx) (fun x k hx => False.elim hx)
def wI_cHall_isOver_b42 (v0 : Nat) (h : Hp) (x k : Nat) : Prop := False
def wJ_cHall_isOver_b42 (v0 : Nat) (h : Hp) (x k : Nat) : Prop := False
def wI_cHall_isOver_b21 (v0 : Nat) (v1 : Int) (h : Hp) (x k : Nat) : Prop := False
def wJ_cHall_isOver_b21 (v0 : Nat) (v1 : Int) (h : Hp) (x k : Nat) : Prop := False
def wI_cHall_isOver (v0 : Nat) (v1 : Int) (h : Hp) (x k : Nat) : Prop := False
def wJ_cHall_isOver (v0 : Nat) (v1 : Int) (h : Hp) (x k : Nat) : Prop := False
theorem fe_cHall_isOver_b42 (v0 : Nat) (h : Hp) : Feo (wI_cHall_isOver_b42 v0 h) (wJ_cHall_isOver_b42 v0 h) h Prod.snd (f_cHall_isOver_b42 v0 h) := by
  unfold f_cHall_isOver_b42
  exact fe_so Fe.rf
theorem fe_cHall_isOver_b21 (v0 : Nat) (v1 : Int) (h : Hp) : Feo (wI_cHall_isOver_b21 v0 v1 h) (wJ_cHall_isOver_b21 v0 v1 h) h Prod.snd (f_cHall_isOver_b21 v0 v1 h) := by
  unfold f_cHall_isOver_b21
  refine fe_it fe_no ?_
  refine fe_it ?_ fe_no
  refine fe_it ?_ ?_
  · exact fe_j Fe.rf (fe_cHall_isOver_b42 _ _) (fun x k hx => False.elim hx) (fun x k hx => False.elim hx)
  · refine fe_it ?_ fe_no
    refine fe_it fe_no ?_
    refine fe_b2 Fe.rf (fe_cReceiving_isOver _ _) (fun x k hx => False.elim hx) (fun x k hx => False.elim hx) (fun r14 h12 F1 => ?_)
    refine fe_it ?_ ?_
    · exact fe_so F1
    · exact fe_j F1 (fe_cHall_isOver_b42 _ _) (fun x k hx => False.elim hx) (fun x k hx => False.elim hx)
theorem fe_cHall_isOver (v0 : Nat) (v1 : Int) (h : Hp) : Feo (wI_cHall_isOver v0 v1 h) (wJ_cHall_isOver v0 v1 h) h Prod.snd (f_cHall_isOver v0 v1 h) := by
  unfold f_cHall_isOver
  refine fe_it fe_no ?_
  refine fe_it ?_ fe_no
  refine fe_it ?_ ?_
  · exact fe_j Fe.rf (fe_cHall_isOver_b21 _ _ _) (fun x k hx => False.elim hx) (fun x k hx => False.elim hx)
  · refine fe_it ?_ fe_no
    refine fe_it fe_no ?_
    refine fe_b2 Fe.rf (fe_cSending_isOver _ _) (fun x k hx => False.elim hx) (fun x k hx => False.elim hx) (fun r7 h5 F1 => ?_)
    refine fe_it ?_ ?_
    · exact fe_so F1
    · exact fe_j F1 (fe_cHall_isOver_b21 _ _ _) (fun x k hx => False.elim hx) (fun x k hx => False.elim hx)
def wI_cReceiving_settle_b43 (v0 : Nat) (h : Hp) (x k : Nat) : Prop := (x = v0 ∧ k = 1)
def wJ_cReceiving_settle_b43 (v0 : Nat) (h : Hp) (x k : Nat) : Prop := False
def wI_cReceiving_settle_b19 (v0 : Nat) (h : Hp) (x k : Nat) : Prop := (x = v0 ∧ k = 1)
def wJ_cReceiving_settle_b19 (v0 : Nat) (h : Hp) (x k : Nat) : Prop := False
def wI_cReceiving_settle (v0 : Nat) (h : Hp) (x k : Nat) : Prop := (x = v0 ∧ k = 1)
def wJ_cReceiving_settle (v0 : Nat) (h : Hp) (x k : Nat) : Prop := False
theorem fe_cReceiving_settle_b43 (v0 : Nat) (h : Hp) : Feo (wI_cReceiving_settle_b43 v0 h) (wJ_cReceiving_settle_b43 v0 h) h id (f_cReceiving_settle_b43 v0 h) := by
  unfold f_cReceiving_settle_b43
  refine fe_it ?_ ?_
  · exact fe_so Fe.rf
  · refine fe_it ?_ ?_
    · exact fe_so Fe.rf
    · refine fe_I Fe.rf (⟨rfl, rfl⟩) (fun h3 F1 => ?_)
      exact fe_so F1
theorem fe_cReceiving_settle_b19 (v0 : Nat) (h : Hp) : Feo (wI_cReceiving_settle_b19 v0 h) (wJ_cReceiving_settle_b19 v0 h) h id (f_cReceiving_settle_b19 v0 h) := by
  unfold f_cReceiving_settle_b19
  refine fe_it ?_ ?_
  · exact fe_j Fe.rf (fe_cReceiving_settle_b43 _ _) (fun x k hx => by simp only [wI_cReceiving_settle_b43] at hx; have e := hx; exact e) (fun x k hx => False.elim hx)
  · refine fe_it ?_ ?_
    · exact fe_j Fe.rf (fe_cReceiving_settle_b43 _ _) (fun x k hx => by simp only [wI_cReceiving_settle_b43] at hx; have e := hx; exact e) (fun x k hx => False.elim hx)
    · refine fe_I Fe.rf (⟨rfl, rfl⟩) (fun h2 F1 => ?_)
      exact fe_j F1 (fe_cReceiving_settle_b43 _ _) (fun x k hx => by simp only [wI_cReceiving_settle_b43, F1.r] at hx; have e := hx; exact e) (fun x k hx => False.elim hx)
theorem fe_cReceiving_settle (v0 : Nat) (h : Hp) : Feo (wI_cReceiving_settle v0 h) (wJ_cReceiving_settle v0 h) h id (f_cReceiving_settle v0 h) := by
  unfold f_cReceiving_settle
  refine fe_it ?_ ?_
  · exact fe_j Fe.rf (fe_cReceiving_settle_b19 _ _) (fun x k hx => by simp only [wI_cReceiving_settle_b19] at hx; have e := hx; exact e) (fun x k hx => False.elim hx)
  · refine fe_it ?_ ?_
    · exact fe_j Fe.rf (fe_cReceiving_settle_b19 _ _) (fun x k hx => by simp only [wI_cReceiving_settle_b19] at hx; have e := hx; exact e) (fun x k hx => False.elim hx)
    · refine fe_I Fe.rf (⟨rfl, rfl⟩) (fun h1 F1 => ?_)
      exact fe_j F1 (fe_cReceiving_settle_b19 _ _) (fun x k hx => by simp only [wI_cReceiving_settle_b19, F1.r] at hx; have e := hx; exact e) (fun x k hx => False.elim hx)
def wI_cHall_way_b16 (v0 : Nat) (s0 : Nat) (s1 : Int) (h : Hp) (x k : Nat) : Prop := False
def wJ_cHall_way_b16 (v0 : Nat) (s0 : Nat) (s1 : Int) (h : Hp) (x k : Nat) : Prop := False
def wI_cHall_way (v0 : Nat) (v1 : Int) (h : Hp) (x k : Nat) : Prop := False
def wJ_cHall_way (v0 : Nat) (v1 : Int) (h : Hp) (x k : Nat) : Prop := False
theorem fe_cHall_way_b16 (v0 : Nat) (s0 : Nat) (s1 : Int) (h : Hp) : Feo (wI_cHall_way_b16 v0 s0 s1 h) (wJ_cHall_way_b16 v0 s0 s1 h) h Prod.snd (f_cHall_way_b16 v0 s0 s1 h) := by
  unfold f_cHall_way_b16
  refine fe_it fe_no ?_
  refine fe_it ?_ fe_no
  exact fe_so Fe.rf
theorem fe_cHall_way (v0 : Nat) (v1 : Int) (h : Hp) : Feo (wI_cHall_way v0 v1 h) (wJ_cHall_way v0 v1 h) h Prod.snd (f_cHall_way v0 v1 h) := by
  unfold f_cHall_way
  refine fe_b2 Fe.rf (fe_cHall_isOneWay _ _) (fun x k hx => False.elim hx) (fun x k hx => False.elim hx) (fun r3 h1 F1 => ?_)
  refine fe_it ?_ ?_
  · exact fe_j F1 (fe_cHall_way_b16 _ _ _ _) (fun x k hx => False.elim hx) (fun x k hx => False.elim hx)
  · exact fe_j F1 (fe_cHall_way_b16 _ _ _ _) (fun x k hx => False.elim hx) (fun x k hx => False.elim hx)
def wI_cSide_isLive_b16 (v0 : Nat) (h : Hp) (x k : Nat) : Prop := False
def wJ_cSide_isLive_b16 (v0 : Nat) (h : Hp) (x k : Nat) : Prop := False
def wI_cSide_isLive (v0 : Nat) (h : Hp) (x k : Nat) : Prop := False
def wJ_cSide_isLive (v0 : Nat) (h : Hp) (x k : Nat) : Prop := False
theorem fe_cSide_isLive_b16 (v0 : Nat) (h : Hp) : Feo (wI_cSide_isLive_b16 v0 h) (wJ_cSide_isLive_b16 v0 h) h Prod.snd (f_cSide_isLive_b16 v0 h) := by
  unfold f_cSide_isLive_b16
  exact fe_so Fe.rf
theorem fe_cSide_isLive (v0 : Nat) (h : Hp) : Feo (wI_cSide_isLive v0 h) (wJ_cSide_isLive v0 h) h Prod.snd (f_cSide_isLive v0 h) := by
  unfold f_cSide_isLive
  refine fe_it ?_ ?_
  · exact fe_j Fe.rf (fe_cSide_isLive_b16 _ _) (fun x k hx => False.elim hx) (fun x k hx => False.elim hx)
  · refine fe_it ?_ ?_
    · exact fe_so Fe.rf
    · exact fe_j Fe.rf (fe_cSide_isLive_b16 _ _) (fun x k hx => False.elim hx) (fun x k hx => False.elim hx)
def wI_cTrip_patience (v0 : Nat) (v1 : Int) (h : Hp) (x k : Nat) : Prop := False
def wJ_cTrip_patience (v0 : Nat) (v1 : Int) (h : Hp) (x k : Nat) : Prop := False
theorem fe_cTrip_patience (v0 : Nat) (v1 : Int) (h : Hp) : Feo (wI_cTrip_patience v0 v1 h) (wJ_cTrip_patience v0 v1 h) h Prod.snd (f_cTrip_patience v0 v1 h) := by
  unfold f_cTrip_patience
  refine fe_it ?_ ?_
  · exact fe_so Fe.rf
  · exact fe_so Fe.rf
def wI_cSide_patience (v0 : Nat) (h : Hp) (x k : Nat) : Prop := False
def wJ_cSide_patience (v0 : Nat) (h : Hp) (x k : Nat) : Prop := False
theorem fe_cSide_patience (v0 : Nat) (h : Hp) : Feo (wI_cSide_patience v0 h) (wJ_cSide_patience v0 h) h Prod.snd (f_cSide_patience v0 h) := by
  unfold f_cSide_patience
  refine fe_it fe_no ?_
  refine fe_it fe_no ?_
  refine fe_b2 Fe.rf (fe_cTrip_patience _ _ _) (fun x k hx => False.elim hx) (fun x k hx => False.elim hx) (fun r5 h3 F1 => ?_)
  exact fe_so F1
def wI_cSide_close (v0 : Nat) (v1 : Int) (v2 : Int) (v3 : Int) (h : Hp) (x k : Nat) : Prop := (x = v0 ∧ k = 1) ∨ (x = v0 ∧ k = 2) ∨ (x = v0 ∧ k = 18) ∨ (x = v0 ∧ k = 22) ∨ (x = v0 ∧ k = 23) ∨ (x = v0 ∧ k = 24)
def wJ_cSide_close (v0 : Nat) (v1 : Int) (v2 : Int) (v3 : Int) (h : Hp) (x k : Nat) : Prop := False
theorem fe_cSide_close (v0 : Nat) (v1 : Int) (v2 : Int) (v3 : Int) (h : Hp) : Feo (wI_cSide_close v0 v1 v2 v3 h) (wJ_cSide_close v0 v1 v2 v3 h) h id (f_cSide_close v0 v1 v2 v3 h) := by
  unfold f_cSide_close
  refine fe_b2 Fe.rf (fe_cSide_isLive _ _) (fun x k hx => False.elim hx) (fun x k hx => False.elim hx) (fun r3 h1 F1 => ?_)
  refine fe_it ?_ ?_
  · refine fe_I F1 (Or.inl (⟨rfl, rfl⟩)) (fun h4 F2 => ?_)
    refine fe_I F2 (Or.inr (Or.inl (⟨rfl, rfl⟩))) (fun h5 F3 => ?_)
    refine fe_I F3 (Or.inr (Or.inr (Or.inr (Or.inr (Or.inr (⟨rfl, rfl⟩)))))) (fun h6 F4 => ?_)
    refine fe_I F4 (Or.inr (Or.inr (Or.inr (Or.inr (Or.inl (⟨rfl, rfl⟩)))))) (fun h7 F5 => ?_)
    refine fe_I F5 (Or.inr (Or.inr (Or.inl (⟨rfl, rfl⟩)))) (fun h8 F6 => ?_)
    refine fe_it fe_no ?_
    refine fe_b2 F6 (fe_cSide_patience _ _) (fun x k hx => False.elim hx) (fun x k hx => False.elim hx) (fun r12 h10 F7 => ?_)
    refine fe_I F7 (Or.inr (Or.inr (Or.inr (Or.inl (⟨rfl, rfl⟩))))) (fun h13 F8 => ?_)
    exact fe_so F8
  · exact fe_so F1
def wI_cBytes_one (v0 : Nat) (h : Hp) (x k : Nat) : Prop := (x = v0 ∧ k = 1) ∨ (x = v0 ∧ k = 3)
def wJ_cBytes_one (v0 : Nat) (h : Hp) (x k : Nat) : Prop := False
theorem fe_cBytes_one (v0 : Nat) (h : Hp) : Feo (wI_cBytes_one v0 h) (wJ_cBytes_one v0 h) h Prod.snd (f_cBytes_one v0 h) := by
  unfold f_cBytes_one
  refine fe_b2 Fe.rf (fe_cBytes_step _ _ _) (fun x k hx => by simp only [wI_cBytes_step] at hx; have e := hx; exact Or.inr (e)) (fun x k hx => False.elim hx) (fun r3 h1 F1 => ?_)
  refine fe_it ?_ ?_
  · exact fe_so F1
  · refine fe_I F1 (Or.inl (⟨rfl, rfl⟩)) (fun h4 F2 => ?_)
    refine fe_it fe_no ?_
    refine fe_it ?_ fe_no
    exact fe_so F2
def wI_cHeader_fails (v0 : Nat) (v1 : Int) (h : Hp) (x k : Nat) : Prop := (x = v0 ∧ k = 2)
def wJ_cHeader_fails (v0 : Nat) (v1 : Int) (h : Hp) (x k : Nat) : Prop := False
theorem fe_cHeader_fails (v0 : Nat) (v1 : Int) (h : Hp) : Feo (wI_cHeader_fails v0 v1 h) (wJ_cHeader_fails v0 v1 h) h Prod.snd (f_cHeader_fails v0 v1 h) := by
  unfold f_cHeader_fails
  refine fe_I Fe.rf (⟨rfl, rfl⟩) (fun h1 F1 => ?_)
  exact fe_so F1
def wI_cBytes_pass (v0 : Nat) (v1 : Int) (h : Hp) (x k : Nat) : Prop := (x = v0 ∧ k = 1) ∨ (x = v0 ∧ k = 3)
def wJ_cBytes_pass (v0 : Nat) (v1 : Int) (h : Hp) (x k : Nat) : Prop := False
theorem fe_cBytes_pass (v0 : Nat) (v1 : Int) (h : Hp) : Feo (wI_cBytes_pass v0 v1 h) (wJ_cBytes_pass v0 v1 h) h Prod.snd (f_cBytes_pass v0 v1 h) := by
  unfold f_cBytes_pass
  refine fe_v (fun y1 => ?_)
  refine fe_b2 Fe.rf (fe_cBytes_step _ _ _) (fun x k hx => by simp only [wI_cBytes_step] at hx; have e := hx; exact Or.inr (e)) (fun x k hx => False.elim hx) (fun r4 h2 F1 => ?_)
  refine fe_it ?_ ?_
  · exact fe_so F1
  · refine fe_I F1 (Or.inl (⟨rfl, rfl⟩)) (fun h5 F2 => ?_)
    exact fe_so F2
def wI_cBytes_left (v0 : Nat) (h : Hp) (x k : Nat) : Prop := False
def wJ_cBytes_left (v0 : Nat) (h : Hp) (x k : Nat) : Prop := False
theorem fe_cBytes_left (v0 : Nat) (h : Hp) : Feo (wI_cBytes_left v0 h) (wJ_cBytes_left v0 h) h Prod.snd (f_cBytes_left v0 h) := by
  unfold f_cBytes_left
  refine fe_it ?_ ?_
  · exact fe_so Fe.rf
  · exact fe_so Fe.rf
def wI_cHeader_readShort_b59 (v0 : Nat) (h : Hp) (x k : Nat) : Prop := (x = v0 ∧ k = 2)
def wJ_cHeader_readShort_b59 (v0 : Nat) (h : Hp) (x k : Nat) : Prop := False
def wI_cHeader_readShort (v0 : Nat) (v1 : Nat) (v2 : Int) (v3 : Int) (h : Hp) (x k : Nat) : Prop := (x = v0 ∧ k = 0) ∨ (x = v0 ∧ k = 1) ∨ (x = v0 ∧ k = 2) ∨ (x = v0 ∧ k = 4) ∨ (x = v0 ∧ k = 5) ∨ (x = v0 ∧ k = 7) ∨ (x = v0 ∧ k = 8) ∨ (x = v1 ∧ k = 1) ∨ (x = v1 ∧ k = 3)
def wJ_cHeader_readShort (v0 : Nat) (v1 : Nat) (v2 : Int) (v3 : Int) (h : Hp) (x k : Nat) : Prop := False
theorem fe_cHeader_readShort_b59 (v0 : Nat) (h : Hp) : Feo (wI_cHeader_readShort_b59 v0 h) (wJ_cHeader_readShort_b59 v0 h) h Prod.snd (f_cHeader_readShort_b59 v0 h) := by
  unfold f_cHeader_readShort_b59
  refine fe_b2 Fe.rf (fe_cHeader_fails _ _ _) (fun x k hx => by simp only [wI_cHeader_fails] at hx; have e := hx; exact e) (fun x k hx => False.elim hx) (fun r16 h14 F1 => ?_)
  exact fe_so F1
theorem fe_cHeader_readShort (v0 : Nat) (v1 : Nat) (v2 : Int) (v3 : Int) (h : Hp) : Feo (wI_cHeader_readShort v0 v1 v2 v3 h) (wJ_cHeader_readShort v0 v1 v2 v3 h) h Prod.snd (f_cHeader_readShort v0 v1 v2 v3 h) := by
  unfold f_cHeader_readShort
  refine fe_I Fe.rf (Or.inl (⟨rfl, rfl⟩)) (fun h1 F1 => ?_)
  refine fe_I F1 (Or.inr (Or.inl (⟨rfl, rfl⟩))) (fun h2 F2 => ?_)
  refine fe_I F2 (Or.inr (Or.inr (Or.inr (Or.inr (Or.inr (Or.inr (Or.inl (⟨rfl, rfl⟩)))))))) (fun h3 F3 => ?_)
  refine fe_it fe_no ?_
  refine fe_b2 F3 (fe_cBytes_pass _ _ _) (fun x k hx => by simp only [wI_cBytes_pass, F1.r, F2.r, F3.r] at hx; rcases hx with e | e <;> first | exact Or.inr (Or.inr (Or.inr (Or.inr (Or.inr (Or.inr (Or.inr (Or.inl (e)))))))) | exact Or.inr (Or.inr (Or.inr (Or.inr (Or.inr (Or.inr (Or.inr (Or.inr (e))))))))) (fun x k hx => False.elim hx) (fun r7 h5 F4 => ?_)
  refine fe_I F4 (Or.inr (Or.inr (Or.inr (Or.inr (Or.inr (Or.inl (⟨rfl, rfl⟩))))))) (fun h8 F5 => ?_)
  refine fe_I F5 (Or.inr (Or.inr (Or.inr (Or.inl (⟨rfl, rfl⟩))))) (fun h9 F6 => ?_)
  refine fe_I F6 (Or.inr (Or.inr (Or.inr (Or.inr (Or.inl (⟨rfl, rfl⟩)))))) (fun h10 F7 => ?_)
  refine fe_it ?_ ?_
  · exact fe_j F7 (fe_cHeader_readShort_b59 _ _) (fun x k hx => by simp only [wI_cHeader_readShort_b59, F1.r, F2.r, F3.r, F4.r, F5.r, F6.r, F7.r] at hx; have e := hx; exact Or.inr (Or.inr (Or.inl (e)))) (fun x k hx => False.elim hx)
  · refine fe_b2 F7 (fe_cBytes_left _ _) (fun x k hx => False.elim hx) (fun x k hx => False.elim hx) (fun r13 h11 F8 => ?_)
    refine fe_it ?_ ?_
    · exact fe_so F8
    · exact fe_j F8 (fe_cHeader_readShort_b59 _ _) (fun x k hx => by simp only [wI_cHeader_readShort_b59, F1.r, F2.r, F3.r, F4.r, F5.r, F6.r, F7.r, F8.r] at hx; have e := hx; exact Or.inr (Or.inr (Or.inl (e)))) (fun x k hx => False.elim hx)
def wI_cBytes_many_b13 (v0 : Nat) (v1 : Int) (v2 : Int) (v4 : Int) (h : Hp) (x k : Nat) : Prop := (x = v0 ∧ k = 1)
def wJ_cBytes_many_b13 (v0 : Nat) (v1 : Int) (v2 : Int) (v4 : Int) (h : Hp) (x k : Nat) : Prop := False
def wI_cBytes_many (v0 : Nat) (v1 : Int) (h : Hp) (x k : Nat) : Prop := (x = v0 ∧ k = 1) ∨ (x = v0 ∧ k = 3)
def wJ_cBytes_many (v0 : Nat) (v1 : Int) (h : Hp) (x k : Nat) : Prop := False
theorem fe_cBytes_many_b13 {k13 : Nat → Int → Int → Int → Hp → Option (Int × Hp)} (hk13 : ∀ (v0 : Nat) (v1 : Int) (v2 : Int) (v4 : Int) (h : Hp), Feo (wI_cBytes_many_b13 v0 v1 v2 v4 h) (wJ_cBytes_many_b13 v0 v1 v2 v4 h) h Prod.snd (k13 v0 v1 v2 v4 h)) (v0 : Nat) (v1 : Int) (v2 : Int) (v4 : Int) (h : Hp) : Feo (wI_cBytes_many_b13 v0 v1 v2 v4 h) (wJ_cBytes_many_b13 v0 v1 v2 v4 h) h Prod.snd (f_cBytes_many_b13 k13 v0 v1 v2 v4 h) := by
  unfold f_cBytes_many_b13
  refine fe_it ?_ ?_
  · exact fe_so Fe.rf
  · refine fe_I Fe.rf (⟨rfl, rfl⟩) (fun h4 F1 => ?_)
    refine fe_it fe_no ?_
    refine fe_it ?_ fe_no
    refine fe_v (fun y7 => ?_)
    exact fe_j F1 (hk13 _ _ _ _ _) (fun x k hx => by simp only [wI_cBytes_many_b13, F1.r] at hx; have e := hx; exact e) (fun x k hx => False.elim hx)
theorem fe_cBytes_many_b13_lp (n : Nat) : ∀ (v0 : Nat) (v1 : Int) (v2 : Int) (v4 : Int) (h : Hp), Feo (wI_cBytes_many_b13 v0 v1 v2 v4 h) (wJ_cBytes_many_b13 v0 v1 v2 v4 h) h Prod.snd (f_cBytes_many_b13_lp n v0 v1 v2 v4 h) := by
  induction n with
  | zero => intro v0 v1 v2 v4 h; exact fe_no
  | succ n ih => intro v0 v1 v2 v4 h; exact fe_cBytes_many_b13 ih v0 v1 v2 v4 h
theorem fe_cBytes_many (v0 : Nat) (v1 : Int) (h : Hp) : Feo (wI_cBytes_many v0 v1 h) (wJ_cBytes_many v0 v1 h) h Prod.snd (f_cBytes_many v0 v1 h) := by
  unfold f_cBytes_many
  refine fe_b2 Fe.rf (fe_cBytes_step _ _ _) (fun x k hx => by simp only [wI_cBytes_step] at hx; have e := hx; exact Or.inr (e)) (fun x k hx => False.elim hx) (fun r3 h1 F1 => ?_)
  refine fe_it ?_ ?_
  · exact fe_so F1
  · exact fe_j F1 (fe_cBytes_many_b13_lp FU _ _ _ _ _) (fun x k hx => by simp only [wI_cBytes_many_b13, F1.r] at hx; have e := hx; exact Or.inl (e)) (fun x k hx => False.elim hx)
def wI_cBytes_number (v0 : Nat) (h : Hp) (x k : Nat) : Prop := (x = v0 ∧ k = 1) ∨ (x = v0 ∧ k = 3)
def wJ_cBytes_number (v0 : Nat) (h : Hp) (x k : Nat) : Prop := False
theorem fe_cBytes_number (v0 : Nat) (h : Hp) : Feo (wI_cBytes_number v0 h) (wJ_cBytes_number v0 h) h Prod.snd (f_cBytes_number v0 h) := by
  unfold f_cBytes_number
  refine fe_b2 Fe.rf (fe_cBytes_step _ _ _) (fun x k hx => by simp only [wI_cBytes_step] at hx; have e := hx; exact Or.inr (e)) (fun x k hx => False.elim hx) (fun r3 h1 F1 => ?_)
  refine fe_it ?_ ?_
  · refine fe_it fe_no ?_
    refine fe_it ?_ fe_no
    refine fe_v (fun y6 => ?_)
    refine fe_b2 F1 (fe_cBytes_many _ _ _) (fun x k hx => by simp only [wI_cBytes_many, F1.r] at hx; rcases hx with e | e <;> first | exact Or.inl (e) | exact Or.inr (e)) (fun x k hx => False.elim hx) (fun r9 h7 F2 => ?_)
    refine fe_it ?_ ?_
    · exact fe_so F2
    · exact fe_so F2
  · exact fe_so F1
def wI_cHeader_readRest_b94 (v0 : Nat) (h : Hp) (x k : Nat) : Prop := (x = v0 ∧ k = 2)
def wJ_cHeader_readRest_b94 (v0 : Nat) (h : Hp) (x k : Nat) : Prop := False
def wI_cHeader_readRest_b56 (v0 : Nat) (v1 : Nat) (h : Hp) (x k : Nat) : Prop := (x = v0 ∧ k = 2) ∨ (x = v0 ∧ k = 4) ∨ (x = v0 ∧ k = 5) ∨ (x = v1 ∧ k = 1) ∨ (x = v1 ∧ k = 3)
def wJ_cHeader_readRest_b56 (v0 : Nat) (v1 : Nat) (h : Hp) (x k : Nat) : Prop := False
def wI_cHeader_readRest_b41 (v0 : Nat) (v1 : Nat) (s0 : Nat) (s1 : Int) (h : Hp) (x k : Nat) : Prop := (x = s0 ∧ k = 12) ∨ (x = v0 ∧ k = 2) ∨ (x = v0 ∧ k = 4) ∨ (x = v0 ∧ k = 5) ∨ (x = v0 ∧ k = 11) ∨ (x = v1 ∧ k = 1) ∨ (x = v1 ∧ k = 3)
def wJ_cHeader_readRest_b41 (v0 : Nat) (v1 : Nat) (s0 : Nat) (s1 : Int) (h : Hp) (x k : Nat) : Prop := False
def wI_cHeader_readRest_b27 (v0 : Nat) (v1 : Nat) (v2 : Int) (h : Hp) (x k : Nat) : Prop := (x = v0 ∧ k = 2) ∨ (x = v0 ∧ k = 4) ∨ (x = v0 ∧ k = 5) ∨ (x = v0 ∧ k = 11) ∨ (x = v0 ∧ k = 12) ∨ (x = v1 ∧ k = 1) ∨ (x = v1 ∧ k = 3)
def wJ_cHeader_readRest_b27 (v0 : Nat) (v1 : Nat) (v2 : Int) (h : Hp) (x k : Nat) : Prop := False
def wI_cHeader_readRest (v0 : Nat) (v1 : Nat) (h : Hp) (x k : Nat) : Prop := (x = v0 ∧ k = 2) ∨ (x = v0 ∧ k = 4) ∨ (x = v0 ∧ k = 5) ∨ (x = v0 ∧ k = 11) ∨ (x = v0 ∧ k = 12) ∨ (x = v1 ∧ k = 1) ∨ (x = v1 ∧ k = 3)
def wJ_cHeader_readRest (v0 : Nat) (v1 : Nat) (h : Hp) (x k : Nat) : Prop := False
theorem fe_cHeader_readRest_b94 (v0 : Nat) (h : Hp) : Feo (wI_cHeader_readRest_b94 v0 h) (wJ_cHeader_readRest_b94 v0 h) h Prod.snd (f_cHeader_readRest_b94 v0 h) := by
  unfold f_cHeader_readRest_b94
  refine fe_b2 Fe.rf (fe_cHeader_fails _ _ _) (fun x k hx => by simp only [wI_cHeader_fails] at hx; have e := hx; exact e) (fun x k hx => False.elim hx) (fun r28 h26 F1 => ?_)
  exact fe_so F1
theorem fe_cHeader_readRest_b56 (v0 : Nat) (v1 : Nat) (h : Hp) : Feo (wI_cHeader_readRest_b56 v0 v1 h) (wJ_cHeader_readRest_b56 v0 v1 h) h Prod.snd (f_cHeader_readRest_b56 v0 v1 h) := by
  unfold f_cHeader_readRest_b56
  refine fe_it fe_no ?_
  refine fe_b2 Fe.rf (fe_cBytes_number _ _) (fun x k hx => by simp only [wI_cBytes_number] at hx; rcases hx with e | e <;> first | exact Or.inr (Or.inr (Or.inr (Or.inl (e)))) | exact Or.inr (Or.inr (Or.inr (Or.inr (e))))) (fun x k hx => False.elim hx) (fun r20 h18 F1 => ?_)
  refine fe_I F1 (Or.inr (Or.inl (⟨rfl, rfl⟩))) (fun h21 F2 => ?_)
  refine fe_it ?_ ?_
  · exact fe_j F2 (fe_cHeader_readRest_b94 _ _) (fun x k hx => by simp only [wI_cHeader_readRest_b94, F1.r, F2.r] at hx; have e := hx; exact Or.inl (e)) (fun x k hx => False.elim hx)
  · refine fe_it ?_ ?_
    · exact fe_j F2 (fe_cHeader_readRest_b94 _ _) (fun x k hx => by simp only [wI_cHeader_readRest_b94, F1.r, F2.r] at hx; have e := hx; exact Or.inl (e)) (fun x k hx => False.elim hx)
    · refine fe_b2 F2 (fe_cBytes_left _ _) (fun x k hx => False.elim hx) (fun x k hx => False.elim hx) (fun r24 h22 F3 => ?_)
      refine fe_it ?_ ?_
      · refine fe_I F3 (Or.inr (Or.inr (Or.inl (⟨rfl, rfl⟩)))) (fun h25 F4 => ?_)
        exact fe_so F4
      · exact fe_j F3 (fe_cHeader_readRest_b94 _ _) (fun x k hx => by simp only [wI_cHeader_readRest_b94, F1.r, F2.r, F3.r] at hx; have e := hx; exact Or.inl (e)) (fun x k hx => False.elim hx)
theorem fe_cHeader_readRest_b41 (v0 : Nat) (v1 : Nat) (s0 : Nat) (s1 : Int) (h : Hp) : Feo (wI_cHeader_readRest_b41 v0 v1 s0 s1 h) (wJ_cHeader_readRest_b41 v0 v1 s0 s1 h) h Prod.snd (f_cHeader_readRest_b41 v0 v1 s0 s1 h) := by
  unfold f_cHeader_readRest_b41
  refine fe_it fe_no ?_
  refine fe_I Fe.rf (Or.inl (⟨rfl, rfl⟩)) (fun h11 F1 => ?_)
  refine fe_it fe_no ?_
  refine fe_b2 F1 (fe_cBytes_pass _ _ _) (fun x k hx => by simp only [wI_cBytes_pass, F1.r] at hx; rcases hx with e | e <;> first | exact Or.inr (Or.inr (Or.inr (Or.inr (Or.inr (Or.inl (e)))))) | exact Or.inr (Or.inr (Or.inr (Or.inr (Or.inr (Or.inr (e))))))) (fun x k hx => False.elim hx) (fun r15 h13 F2 => ?_)
  refine fe_I F2 (Or.inr (Or.inr (Or.inr (Or.inr (Or.inl (⟨rfl, rfl⟩)))))) (fun h16 F3 => ?_)
  exact fe_j F3 (fe_cHeader_readRest_b56 _ _ _) (fun x k hx => by simp only [wI_cHeader_readRest_b56, F1.r, F2.r, F3.r] at hx; rcases hx with e | e | e | e | e <;> first | exact Or.inr (Or.inl (e)) | exact Or.inr (Or.inr (Or.inl (e))) | exact Or.inr (Or.inr (Or.inr (Or.inl (e)))) | exact Or.inr (Or.inr (Or.inr (Or.inr (Or.inr (Or.inl (e)))))) | exact Or.inr (Or.inr (Or.inr (Or.inr (Or.inr (Or.inr (e))))))) (fun x k hx => False.elim hx)
theorem fe_cHeader_readRest_b27 (v0 : Nat) (v1 : Nat) (v2 : Int) (h : Hp) : Feo (wI_cHeader_readRest_b27 v0 v1 v2 h) (wJ_cHeader_readRest_b27 v0 v1 v2 h) h Prod.snd (f_cHeader_readRest_b27 v0 v1 v2 h) := by
  unfold f_cHeader_readRest_b27
  refine fe_it fe_no ?_
  refine fe_it ?_ ?_
  · exact fe_j Fe.rf (fe_cHeader_readRest_b41 _ _ _ _ _) (fun x k hx => by simp only [wI_cHeader_readRest_b41] at hx; rcases hx with e | e | e | e | e | e | e <;> first | exact Or.inl (e) | exact Or.inr (Or.inl (e)) | exact Or.inr (Or.inr (Or.inl (e))) | exact Or.inr (Or.inr (Or.inr (Or.inl (e)))) | exact Or.inr (Or.inr (Or.inr (Or.inr (Or.inl (e))))) | exact Or.inr (Or.inr (Or.inr (Or.inr (Or.inr (Or.inl (e)))))) | exact Or.inr (Or.inr (Or.inr (Or.inr (Or.inr (Or.inr (e))))))) (fun x k hx => False.elim hx)
  · exact fe_j Fe.rf (fe_cHeader_readRest_b41 _ _ _ _ _) (fun x k hx => by simp only [wI_cHeader_readRest_b41] at hx; rcases hx with e | e | e | e | e | e | e <;> first | exact Or.inl (e) | exact Or.inr (Or.inl (e)) | exact Or.inr (Or.inr (Or.inl (e))) | exact Or.inr (Or.inr (Or.inr (Or.inl (e)))) | exact Or.inr (Or.inr (Or.inr (Or.inr (Or.inl (e))))) | exact Or.inr (Or.inr (Or.inr (Or.inr (Or.inr (Or.inl (e)))))) | exact Or.inr (Or.inr (Or.inr (Or.inr (Or.inr (Or.inr (e))))))) (fun x k hx => False.elim hx)
theorem fe_cHeader_readRest (v0 : Nat) (v1 : Nat) (h : Hp) : Feo (wI_cHeader_readRest v0 v1 h) (wJ_cHeader_readRest v0 v1 h) h Prod.snd (f_cHeader_readRest v0 v1 h) := by
  unfold f_cHeader_readRest
  refine fe_it ?_ ?_
  · exact fe_j Fe.rf (fe_cHeader_readRest_b56 _ _ _) (fun x k hx => by simp only [wI_cHeader_readRest_b56] at hx; rcases hx with e | e | e | e | e <;> first | exact Or.inl (e) | exact Or.inr (Or.inl (e)) | exact Or.inr (Or.inr (Or.inl (e))) | exact Or.inr (Or.inr (Or.inr (Or.inr (Or.inr (Or.inl (e)))))) | exact Or.inr (Or.inr (Or.inr (Or.inr (Or.inr (Or.inr (e))))))) (fun x k hx => False.elim hx)
  · refine fe_it fe_no ?_
    refine fe_b2 Fe.rf (fe_cBytes_number _ _) (fun x k hx => by simp only [wI_cBytes_number] at hx; rcases hx with e | e <;> first | exact Or.inr (Or.inr (Or.inr (Or.inr (Or.inr (Or.inl (e)))))) | exact Or.inr (Or.inr (Or.inr (Or.inr (Or.inr (Or.inr (e))))))) (fun x k hx => False.elim hx) (fun r4 h2 F1 => ?_)
    refine fe_b2 F1 (fe_cBytes_left _ _) (fun x k hx => False.elim hx) (fun x k hx => False.elim hx) (fun r7 h5 F2 => ?_)
    refine fe_it ?_ ?_
    · exact fe_j F2 (fe_cHeader_readRest_b27 _ _ _ _) (fun x k hx => by simp only [wI_cHeader_readRest_b27, F1.r, F2.r] at hx; rcases hx with e | e | e | e | e | e | e <;> first | exact Or.inl (e) | exact Or.inr (Or.inl (e)) | exact Or.inr (Or.inr (Or.inl (e))) | exact Or.inr (Or.inr (Or.inr (Or.inl (e)))) | exact Or.inr (Or.inr (Or.inr (Or.inr (Or.inl (e))))) | exact Or.inr (Or.inr (Or.inr (Or.inr (Or.inr (Or.inl (e)))))) | exact Or.inr (Or.inr (Or.inr (Or.inr (Or.inr (Or.inr (e))))))) (fun x k hx => False.elim hx)
    · refine fe_I F2 (Or.inr (Or.inr (Or.inr (Or.inr (Or.inr (Or.inr (⟨rfl, rfl⟩))))))) (fun h8 F3 => ?_)
      exact fe_j F3 (fe_cHeader_readRest_b27 _ _ _ _) (fun x k hx => by simp only [wI_cHeader_readRest_b27, F1.r, F2.r, F3.r] at hx; rcases hx with e | e | e | e | e | e | e <;> first | exact Or.inl (e) | exact Or.inr (Or.inl (e)) | exact Or.inr (Or.inr (Or.inl (e))) | exact Or.inr (Or.inr (Or.inr (Or.inl (e)))) | exact Or.inr (Or.inr (Or.inr (Or.inr (Or.inl (e))))) | exact Or.inr (Or.inr (Or.inr (Or.inr (Or.inr (Or.inl (e)))))) | exact Or.inr (Or.inr (Or.inr (Or.inr (Or.inr (Or.inr (e))))))) (fun x k hx => False.elim hx)
def wI_cHeader_readLong_b165 (v0 : Nat) (v1 : Nat) (h : Hp) (x k : Nat) : Prop := (x = v0 ∧ k = 2) ∨ (x = v0 ∧ k = 4) ∨ (x = v0 ∧ k = 5) ∨ (x = v0 ∧ k = 11) ∨ (x = v0 ∧ k = 12) ∨ (x = v1 ∧ k = 1) ∨ (x = v1 ∧ k = 3)
def wJ_cHeader_readLong_b165 (v0 : Nat) (v1 : Nat) (h : Hp) (x k : Nat) : Prop := False
def wI_cHeader_readLong (v0 : Nat) (v1 : Nat) (v2 : Int) (h : Hp) (x k : Nat) : Prop := (x = v0 ∧ k = 0) ∨ (x = v0 ∧ k = 1) ∨ (x = v0 ∧ k = 2) ∨ (x = v0 ∧ k = 4) ∨ (x = v0 ∧ k = 5) ∨ (x = v0 ∧ k = 7) ∨ (x = v0 ∧ k = 8) ∨ (x = v0 ∧ k = 9) ∨ (x = v0 ∧ k = 10) ∨ (x = v0 ∧ k = 11) ∨ (x = v0 ∧ k = 12) ∨ (x = v1 ∧ k = 1) ∨ (x = v1 ∧ k = 3)
def wJ_cHeader_readLong (v0 : Nat) (v1 : Nat) (v2 : Int) (h : Hp) (x k : Nat) : Prop := (x = v0 ∧ k = 6)
theorem fe_cHeader_readLong_b165 (v0 : Nat) (v1 : Nat) (h : Hp) : Feo (wI_cHeader_readLong_b165 v0 v1 h) (wJ_cHeader_readLong_b165 v0 v1 h) h Prod.snd (f_cHeader_readLong_b165 v0 v1 h) := by
  unfold f_cHeader_readLong_b165
  refine fe_b2 Fe.rf (fe_cHeader_readRest _ _ _) (fun x k hx => by simp only [wI_cHeader_readRest] at hx; rcases hx with e | e | e | e | e | e | e <;> first | exact Or.inl (e) | exact Or.inr (Or.inl (e)) | exact Or.inr (Or.inr (Or.inl (e))) | exact Or.inr (Or.inr (Or.inr (Or.inl (e)))) | exact Or.inr (Or.inr (Or.inr (Or.inr (Or.inl (e))))) | exact Or.inr (Or.inr (Or.inr (Or.inr (Or.inr (Or.inl (e)))))) | exact Or.inr (Or.inr (Or.inr (Or.inr (Or.inr (Or.inr (e))))))) (fun x k hx => False.elim hx) (fun r47 h45 F1 => ?_)
  exact fe_so F1
theorem fe_cHeader_readLong (v0 : Nat) (v1 : Nat) (v2 : Int) (h : Hp) : Feo (wI_cHeader_readLong v0 v1 v2 h) (wJ_cHeader_readLong v0 v1 v2 h) h Prod.snd (f_cHeader_readLong v0 v1 v2 h) := by
  unfold f_cHeader_readLong
  refine fe_I Fe.rf (Or.inl (⟨rfl, rfl⟩)) (fun h1 F1 => ?_)
  refine fe_I F1 (Or.inr (Or.inl (⟨rfl, rfl⟩))) (fun h2 F2 => ?_)
  refine fe_it fe_no ?_
  refine fe_b2 F2 (fe_cBytes_many _ _ _) (fun x k hx => by simp only [wI_cBytes_many, F1.r, F2.r] at hx; rcases hx with e | e <;> first | exact Or.inr (Or.inr (Or.inr (Or.inr (Or.inr (Or.inr (Or.inr (Or.inr (Or.inr (Or.inr (Or.inr (Or.inl (e)))))))))))) | exact Or.inr (Or.inr (Or.inr (Or.inr (Or.inr (Or.inr (Or.inr (Or.inr (Or.inr (Or.inr (Or.inr (Or.inr (e))))))))))))) (fun x k hx => False.elim hx) (fun r6 h4 F3 => ?_)
  refine fe_J F3 (⟨rfl, rfl⟩) (fun h7 F4 => ?_)
  refine fe_b2 F4 (fe_cBytes_one _ _) (fun x k hx => by simp only [wI_cBytes_one, F1.r, F2.r, F3.r, F4.r] at hx; rcases hx with e | e <;> first | exact Or.inr (Or.inr (Or.inr (Or.inr (Or.inr (Or.inr (Or.inr (Or.inr (Or.inr (Or.inr (Or.inr (Or.inl (e)))))))))))) | exact Or.inr (Or.inr (Or.inr (Or.inr (Or.inr (Or.inr (Or.inr (Or.inr (Or.inr (Or.inr (Or.inr (Or.inr (e))))))))))))) (fun x k hx => False.elim hx) (fun r10 h8 F5 => ?_)
  refine fe_I F5 (Or.inr (Or.inr (Or.inr (Or.inr (Or.inr (Or.inr (Or.inl (⟨rfl, rfl⟩)))))))) (fun h11 F6 => ?_)
  refine fe_it ?_ ?_
  · refine fe_it ?_ ?_
    · refine fe_it ?_ ?_
      · refine fe_b2 F6 (fe_cBytes_pass _ _ _) (fun x k hx => by simp only [wI_cBytes_pass, F1.r, F2.r, F3.r, F4.r, F5.r, F6.r] at hx; rcases hx with e | e <;> first | exact Or.inr (Or.inr (Or.inr (Or.inr (Or.inr (Or.inr (Or.inr (Or.inr (Or.inr (Or.inr (Or.inr (Or.inl (e)))))))))))) | exact Or.inr (Or.inr (Or.inr (Or.inr (Or.inr (Or.inr (Or.inr (Or.inr (Or.inr (Or.inr (Or.inr (Or.inr (e))))))))))))) (fun x k hx => False.elim hx) (fun r14 h12 F7 => ?_)
        refine fe_I F7 (Or.inr (Or.inr (Or.inr (Or.inr (Or.inr (Or.inl (⟨rfl, rfl⟩))))))) (fun h15 F8 => ?_)
        refine fe_b2 F8 (fe_cBytes_one _ _) (fun x k hx => by simp only [wI_cBytes_one, F1.r, F2.r, F3.r, F4.r, F5.r, F6.r, F7.r, F8.r] at hx; rcases hx with e | e <;> first | exact Or.inr (Or.inr (Or.inr (Or.inr (Or.inr (Or.inr (Or.inr (Or.inr (Or.inr (Or.inr (Or.inr (Or.inl (e)))))))))))) | exact Or.inr (Or.inr (Or.inr (Or.inr (Or.inr (Or.inr (Or.inr (Or.inr (Or.inr (Or.inr (Or.inr (Or.inr (e))))))))))))) (fun x k hx => False.elim hx) (fun r18 h16 F9 => ?_)
        refine fe_I F9 (Or.inr (Or.inr (Or.inr (Or.inr (Or.inr (Or.inr (Or.inr (Or.inr (Or.inl (⟨rfl, rfl⟩)))))))))) (fun h19 F10 => ?_)
        refine fe_it ?_ ?_
        · refine fe_it ?_ ?_
          · refine fe_b2 F10 (fe_cBytes_pass _ _ _) (fun x k hx => by simp only [wI_cBytes_pass, F1.r, F2.r, F3.r, F4.r, F5.r, F6.r, F7.r, F8.r, F9.r, F10.r] at hx; rcases hx with e | e <;> first | exact Or.inr (Or.inr (Or.inr (Or.inr (Or.inr (Or.inr (Or.inr (Or.inr (Or.inr (Or.inr (Or.inr (Or.inl (e)))))))))))) | exact Or.inr (Or.inr (Or.inr (Or.inr (Or.inr (Or.inr (Or.inr (Or.inr (Or.inr (Or.inr (Or.inr (Or.inr (e))))))))))))) (fun x k hx => False.elim hx) (fun r22 h20 F11 => ?_)
            refine fe_I F11 (Or.inr (Or.inr (Or.inr (Or.inr (Or.inr (Or.inr (Or.inr (Or.inl (⟨rfl, rfl⟩))))))))) (fun h23 F12 => ?_)
            refine fe_it ?_ ?_
            · refine fe_it ?_ ?_
              · exact fe_j F12 (fe_cHeader_readLong_b165 _ _ _) (fun x k hx => by simp only [wI_cHeader_readLong_b165, F1.r, F2.r, F3.r, F4.r, F5.r, F6.r, F7.r, F8.r, F9.r, F10.r, F11.r, F12.r] at hx; rcases hx with e | e | e | e | e | e | e <;> first | exact Or.inr (Or.inr (Or.inl (e))) | exact Or.inr (Or.inr (Or.inr (Or.inl (e)))) | exact Or.inr (Or.inr (Or.inr (Or.inr (Or.inl (e))))) | exact Or.inr (Or.inr (Or.inr (Or.inr (Or.inr (Or.inr (Or.inr (Or.inr (Or.inr (Or.inl (e)))))))))) | exact Or.inr (Or.inr (Or.inr (Or.inr (Or.inr (Or.inr (Or.inr (Or.inr (Or.inr (Or.inr (Or.inl (e))))))))))) | exact Or.inr (Or.inr (Or.inr (Or.inr (Or.inr (Or.inr (Or.inr (Or.inr (Or.inr (Or.inr (Or.inr (Or.inl (e)))))))))))) | exact Or.inr (Or.inr (Or.inr (Or.inr (Or.inr (Or.inr (Or.inr (Or.inr (Or.inr (Or.inr (Or.inr (Or.inr (e))))))))))))) (fun x k hx => False.elim hx)
              · refine fe_it ?_ ?_
                · refine fe_b2 F12 (fe_cHeader_fails _ _ _) (fun x k hx => by simp only [wI_cHeader_fails, F1.r, F2.r, F3.r, F4.r, F5.r, F6.r, F7.r, F8.r, F9.r, F10.r, F11.r, F12.r] at hx; have e := hx; exact Or.inr (Or.inr (Or.inl (e)))) (fun x k hx => False.elim hx) (fun r26 h24 F13 => ?_)
                  exact fe_so F13
                · exact fe_j F12 (fe_cHeader_readLong_b165 _ _ _) (fun x k hx => by simp only [wI_cHeader_readLong_b165, F1.r, F2.r, F3.r, F4.r, F5.r, F6.r, F7.r, F8.r, F9.r, F10.r, F11.r, F12.r] at hx; rcases hx with e | e | e | e | e | e | e <;> first | exact Or.inr (Or.inr (Or.inl (e))) | exact Or.inr (Or.inr (Or.inr (Or.inl (e)))) | exact Or.inr (Or.inr (Or.inr (Or.inr (Or.inl (e))))) | exact Or.inr (Or.inr (Or.inr (Or.inr (Or.inr (Or.inr (Or.inr (Or.inr (Or.inr (Or.inl (e)))))))))) | exact Or.inr (Or.inr (Or.inr (Or.inr (Or.inr (Or.inr (Or.inr (Or.inr (Or.inr (Or.inr (Or.inl (e))))))))))) | exact Or.inr (Or.inr (Or.inr (Or.inr (Or.inr (Or.inr (Or.inr (Or.inr (Or.inr (Or.inr (Or.inr (Or.inl (e)))))))))))) | exact Or.inr (Or.inr (Or.inr (Or.inr (Or.inr (Or.inr (Or.inr (Or.inr (Or.inr (Or.inr (Or.inr (Or.inr (e))))))))))))) (fun x k hx => False.elim hx)
            · refine fe_b2 F12 (fe_cHeader_fails _ _ _) (fun x k hx => by simp only [wI_cHeader_fails, F1.r, F2.r, F3.r, F4.r, F5.r, F6.r, F7.r, F8.r, F9.r, F10.r, F11.r, F12.r] at hx; have e := hx; exact Or.inr (Or.inr (Or.inl (e)))) (fun x k hx => False.elim hx) (fun r29 h27 F14 => ?_)
              exact fe_so F14
          · refine fe_b2 F10 (fe_cHeader_fails _ _ _) (fun x k hx => by simp only [wI_cHeader_fails, F1.r, F2.r, F3.r, F4.r, F5.r, F6.r, F7.r, F8.r, F9.r, F10.r] at hx; have e := hx; exact Or.inr (Or.inr (Or.inl (e)))) (fun x k hx => False.elim hx) (fun r32 h30 F15 => ?_)
            exact fe_so F15
        · refine fe_b2 F10 (fe_cHeader_fails _ _ _) (fun x k hx => by simp only [wI_cHeader_fails, F1.r, F2.r, F3.r, F4.r, F5.r, F6.r, F7.r, F8.r, F9.r, F10.r] at hx; have e := hx; exact Or.inr (Or.inr (Or.inl (e)))) (fun x k hx => False.elim hx) (fun r35 h33 F16 => ?_)
          exact fe_so F16
      · refine fe_b2 F6 (fe_cHeader_fails _ _ _) (fun x k hx => by simp only [wI_cHeader_fails, F1.r, F2.r, F3.r, F4.r, F5.r, F6.r] at hx; have e := hx; exact Or.inr (Or.inr (Or.inl (e)))) (fun x k hx => False.elim hx) (fun r38 h36 F17 => ?_)
        exact fe_so F17
    · refine fe_b2 F6 (fe_cHeader_fails _ _ _) (fun x k hx => by simp only [wI_cHeader_fails, F1.r, F2.r, F3.r, F4.r, F5.r, F6.r] at hx; have e := hx; exact Or.inr (Or.inr (Or.inl (e)))) (fun x k hx => False.elim hx) (fun r41 h39 F18 => ?_)
      exact fe_so F18
  · refine fe_b2 F6 (fe_cHeader_fails _ _ _) (fun x k hx => by simp only [wI_cHeader_fails, F1.r, F2.r, F3.r, F4.r, F5.r, F6.r] at hx; have e := hx; exact Or.inr (Or.inr (Or.inl (e)))) (fun x k hx => False.elim hx) (fun r44 h42 F19 => ?_)
    exact fe_so F19
def wI_cHeader_read (v0 : Nat) (v1 : Nat) (v2 : Int) (h : Hp) (x k : Nat) : Prop := (x = v0 ∧ k = 0) ∨ (x = v0 ∧ k = 1) ∨ (x = v0 ∧ k = 2) ∨ (x = v0 ∧ k = 3) ∨ (x = v0 ∧ k = 4) ∨ (x = v0 ∧ k = 5) ∨ (x = v0 ∧ k = 7) ∨ (x = v0 ∧ k = 8) ∨ (x = v0 ∧ k = 9) ∨ (x = v0 ∧ k = 10) ∨ (x = v0 ∧ k = 11) ∨ (x = v0 ∧ k = 12) ∨ (x = v1 ∧ k = 1) ∨ (x = v1 ∧ k = 3)
def wJ_cHeader_read (v0 : Nat) (v1 : Nat) (v2 : Int) (h : Hp) (x k : Nat) : Prop := (x = v0 ∧ k = 6)
theorem fe_cHeader_read (v0 : Nat) (v1 : Nat) (v2 : Int) (h : Hp) : Feo (wI_cHeader_read v0 v1 v2 h) (wJ_cHeader_read v0 v1 v2 h) h Prod.snd (f_cHeader_read v0 v1 v2 h) := by
  unfold f_cHeader_read
  refine fe_I Fe.rf (Or.inr (Or.inr (Or.inl (⟨rfl, rfl⟩)))) (fun h1 F1 => ?_)
  refine fe_J F1 (⟨rfl, rfl⟩) (fun h2 F2 => ?_)
  refine fe_I F2 (Or.inr (Or.inr (Or.inr (Or.inr (Or.inr (Or.inr (Or.inr (Or.inr (Or.inl (⟨rfl, rfl⟩)))))))))) (fun h3 F3 => ?_)
  refine fe_I F3 (Or.inr (Or.inr (Or.inr (Or.inr (Or.inr (Or.inr (Or.inr (Or.inr (Or.inr (Or.inl (⟨rfl, rfl⟩))))))))))) (fun h4 F4 => ?_)
  refine fe_I F4 (Or.inr (Or.inr (Or.inr (Or.inr (Or.inr (Or.inr (Or.inr (Or.inr (Or.inr (Or.inr (Or.inl (⟨rfl, rfl⟩)))))))))))) (fun h5 F5 => ?_)
  refine fe_I F5 (Or.inr (Or.inr (Or.inr (Or.inr (Or.inr (Or.inr (Or.inr (Or.inr (Or.inr (Or.inr (Or.inr (Or.inl (⟨rfl, rfl⟩))))))))))))) (fun h6 F6 => ?_)
  refine fe_it fe_no ?_
  refine fe_I F6 (Or.inr (Or.inr (Or.inr (Or.inl (⟨rfl, rfl⟩))))) (fun h8 F7 => ?_)
  refine fe_b2 F7 (fe_cBytes_one _ _) (fun x k hx => by simp only [wI_cBytes_one, F1.r, F2.r, F3.r, F4.r, F5.r, F6.r, F7.r] at hx; rcases hx with e | e <;> first | exact Or.inr (Or.inr (Or.inr (Or.inr (Or.inr (Or.inr (Or.inr (Or.inr (Or.inr (Or.inr (Or.inr (Or.inr (Or.inl (e))))))))))))) | exact Or.inr (Or.inr (Or.inr (Or.inr (Or.inr (Or.inr (Or.inr (Or.inr (Or.inr (Or.inr (Or.inr (Or.inr (Or.inr (e)))))))))))))) (fun x k hx => False.elim hx) (fun r11 h9 F8 => ?_)
  refine fe_it ?_ ?_
  · refine fe_it ?_ ?_
    · refine fe_it ?_ ?_
      · refine fe_b2 F8 (fe_cHeader_readLong _ _ _ _) (fun x k hx => by simp only [wI_cHeader_readLong, F1.r, F2.r, F3.r, F4.r, F5.r, F6.r, F7.r, F8.r] at hx; rcases hx with e | e | e | e | e | e | e | e | e | e | e | e | e <;> first | exact Or.inl (e) | exact Or.inr (Or.inl (e)) | exact Or.inr (Or.inr (Or.inl (e))) | exact Or.inr (Or.inr (Or.inr (Or.inr (Or.inl (e))))) | exact Or.inr (Or.inr (Or.inr (Or.inr (Or.inr (Or.inl (e)))))) | exact Or.inr (Or.inr (Or.inr (Or.inr (Or.inr (Or.inr (Or.inl (e))))))) | exact Or.inr (Or.inr (Or.inr (Or.inr (Or.inr (Or.inr (Or.inr (Or.inl (e)))))))) | exact Or.inr (Or.inr (Or.inr (Or.inr (Or.inr (Or.inr (Or.inr (Or.inr (Or.inl (e))))))))) | exact Or.inr (Or.inr (Or.inr (Or.inr (Or.inr (Or.inr (Or.inr (Or.inr (Or.inr (Or.inl (e)))))))))) | exact Or.inr (Or.inr (Or.inr (Or.inr (Or.inr (Or.inr (Or.inr (Or.inr (Or.inr (Or.inr (Or.inl (e))))))))))) | exact Or.inr (Or.inr (Or.inr (Or.inr (Or.inr (Or.inr (Or.inr (Or.inr (Or.inr (Or.inr (Or.inr (Or.inl (e)))))))))))) | exact Or.inr (Or.inr (Or.inr (Or.inr (Or.inr (Or.inr (Or.inr (Or.inr (Or.inr (Or.inr (Or.inr (Or.inr (Or.inl (e))))))))))))) | exact Or.inr (Or.inr (Or.inr (Or.inr (Or.inr (Or.inr (Or.inr (Or.inr (Or.inr (Or.inr (Or.inr (Or.inr (Or.inr (e)))))))))))))) (fun x k hx => by simp only [wJ_cHeader_readLong, F1.r, F2.r, F3.r, F4.r, F5.r, F6.r, F7.r, F8.r] at hx; have e := hx; exact e) (fun r14 h12 F9 => ?_)
        exact fe_so F9
      · refine fe_b2 F8 (fe_cHeader_readShort _ _ _ _ _) (fun x k hx => by simp only [wI_cHeader_readShort, F1.r, F2.r, F3.r, F4.r, F5.r, F6.r, F7.r, F8.r] at hx; rcases hx with e | e | e | e | e | e | e | e | e <;> first | exact Or.inl (e) | exact Or.inr (Or.inl (e)) | exact Or.inr (Or.inr (Or.inl (e))) | exact Or.inr (Or.inr (Or.inr (Or.inr (Or.inl (e))))) | exact Or.inr (Or.inr (Or.inr (Or.inr (Or.inr (Or.inl (e)))))) | exact Or.inr (Or.inr (Or.inr (Or.inr (Or.inr (Or.inr (Or.inl (e))))))) | exact Or.inr (Or.inr (Or.inr (Or.inr (Or.inr (Or.inr (Or.inr (Or.inl (e)))))))) | exact Or.inr (Or.inr (Or.inr (Or.inr (Or.inr (Or.inr (Or.inr (Or.inr (Or.inr (Or.inr (Or.inr (Or.inr (Or.inl (e))))))))))))) | exact Or.inr (Or.inr (Or.inr (Or.inr (Or.inr (Or.inr (Or.inr (Or.inr (Or.inr (Or.inr (Or.inr (Or.inr (Or.inr (e)))))))))))))) (fun x k hx => False.elim hx) (fun r17 h15 F10 => ?_)
        exact fe_so F10
    · refine fe_b2 F8 (fe_cHeader_fails _ _ _) (fun x k hx => by simp only [wI_cHeader_fails, F1.r, F2.r, F3.r, F4.r, F5.r, F6.r, F7.r, F8.r] at hx; have e := hx; exact Or.inr (Or.inr (Or.inl (e)))) (fun x k hx => False.elim hx) (fun r20 h18 F11 => ?_)
      exact fe_so F11
  · refine fe_b2 F8 (fe_cHeader_fails _ _ _) (fun x k hx => by simp only [wI_cHeader_fails, F1.r, F2.r, F3.r, F4.r, F5.r, F6.r, F7.r, F8.r] at hx; have e := hx; exact Or.inr (Or.inr (Or.inl (e)))) (fun x k hx => False.elim hx) (fun r23 h21 F12 => ?_)
    exact fe_so F12
def wI_cSide_sameTo_b63 (v0 : Nat) (v1 : Nat) (v3 : Int) (s0 : Int) (h : Hp) (x k : Nat) : Prop := False
def wJ_cSide_sameTo_b63 (v0 : Nat) (v1 : Nat) (v3 : Int) (s0 : Int) (h : Hp) (x k : Nat) : Prop := False
def wI_cSide_sameTo_b22 (v0 : Nat) (v1 : Nat) (v2 : Int) (v3 : Int) (h : Hp) (x k : Nat) : Prop := False
def wJ_cSide_sameTo_b22 (v0 : Nat) (v1 : Nat) (v2 : Int) (v3 : Int) (h : Hp) (x k : Nat) : Prop := False
def wI_cSide_sameTo_b19 (v0 : Nat) (v1 : Nat) (s0 : Int) (h : Hp) (x k : Nat) : Prop := False
def wJ_cSide_sameTo_b19 (v0 : Nat) (v1 : Nat) (s0 : Int) (h : Hp) (x k : Nat) : Prop := False
def wI_cSide_sameTo (v0 : Nat) (v1 : Nat) (h : Hp) (x k : Nat) : Prop := False
def wJ_cSide_sameTo (v0 : Nat) (v1 : Nat) (h : Hp) (x k : Nat) : Prop := False
theorem fe_cSide_sameTo_b63 {k22 : Nat → Nat → Int → Int → Hp → Option (Int × Hp)} (hk22 : ∀ (v0 : Nat) (v1 : Nat) (v2 : Int) (v3 : Int) (h : Hp), Feo (wI_cSide_sameTo_b22 v0 v1 v2 v3 h) (wJ_cSide_sameTo_b22 v0 v1 v2 v3 h) h Prod.snd (k22 v0 v1 v2 v3 h)) (v0 : Nat) (v1 : Nat) (v3 : Int) (s0 : Int) (h : Hp) : Feo (wI_cSide_sameTo_b63 v0 v1 v3 s0 h) (wJ_cSide_sameTo_b63 v0 v1 v3 s0 h) h Prod.snd (f_cSide_sameTo_b63 k22 v0 v1 v3 s0 h) := by
  unfold f_cSide_sameTo_b63
  exact fe_j Fe.rf (hk22 _ _ _ _ _) (fun x k hx => False.elim hx) (fun x k hx => False.elim hx)
theorem fe_cSide_sameTo_b22 {k22 : Nat → Nat → Int → Int → Hp → Option (Int × Hp)} (hk22 : ∀ (v0 : Nat) (v1 : Nat) (v2 : Int) (v3 : Int) (h : Hp), Feo (wI_cSide_sameTo_b22 v0 v1 v2 v3 h) (wJ_cSide_sameTo_b22 v0 v1 v2 v3 h) h Prod.snd (k22 v0 v1 v2 v3 h)) (v0 : Nat) (v1 : Nat) (v2 : Int) (v3 : Int) (h : Hp) : Feo (wI_cSide_sameTo_b22 v0 v1 v2 v3 h) (wJ_cSide_sameTo_b22 v0 v1 v2 v3 h) h Prod.snd (f_cSide_sameTo_b22 k22 v0 v1 v2 v3 h) := by
  unfold f_cSide_sameTo_b22
  refine fe_it ?_ ?_
  · refine fe_it ?_ fe_no
    exact fe_so Fe.rf
  · refine fe_it ?_ ?_
    · refine fe_it ?_ fe_no
      exact fe_so Fe.rf
    · refine fe_it fe_no ?_
      refine fe_it fe_no ?_
      refine fe_it ?_ fe_no
      refine fe_it fe_no ?_
      refine fe_it ?_ fe_no
      refine fe_it ?_ ?_
      · exact fe_j Fe.rf (fe_cSide_sameTo_b63 hk22 _ _ _ _ _) (fun x k hx => False.elim hx) (fun x k hx => False.elim hx)
      · exact fe_j Fe.rf (fe_cSide_sameTo_b63 hk22 _ _ _ _ _) (fun x k hx => False.elim hx) (fun x k hx => False.elim hx)
theorem fe_cSide_sameTo_b22_lp (n : Nat) : ∀ (v0 : Nat) (v1 : Nat) (v2 : Int) (v3 : Int) (h : Hp), Feo (wI_cSide_sameTo_b22 v0 v1 v2 v3 h) (wJ_cSide_sameTo_b22 v0 v1 v2 v3 h) h Prod.snd (f_cSide_sameTo_b22_lp n v0 v1 v2 v3 h) := by
  induction n with
  | zero => intro v0 v1 v2 v3 h; exact fe_no
  | succ n ih => intro v0 v1 v2 v3 h; exact fe_cSide_sameTo_b22 ih v0 v1 v2 v3 h
theorem fe_cSide_sameTo_b19 (v0 : Nat) (v1 : Nat) (s0 : Int) (h : Hp) : Feo (wI_cSide_sameTo_b19 v0 v1 s0 h) (wJ_cSide_sameTo_b19 v0 v1 s0 h) h Prod.snd (f_cSide_sameTo_b19 v0 v1 s0 h) := by
  unfold f_cSide_sameTo_b19
  exact fe_j Fe.rf (fe_cSide_sameTo_b22_lp FU _ _ _ _ _) (fun x k hx => False.elim hx) (fun x k hx => False.elim hx)
theorem fe_cSide_sameTo (v0 : Nat) (v1 : Nat) (h : Hp) : Feo (wI_cSide_sameTo v0 v1 h) (wJ_cSide_sameTo v0 v1 h) h Prod.snd (f_cSide_sameTo v0 v1 h) := by
  unfold f_cSide_sameTo
  refine fe_it fe_no ?_
  refine fe_it ?_ ?_
  · exact fe_j Fe.rf (fe_cSide_sameTo_b19 _ _ _ _) (fun x k hx => False.elim hx) (fun x k hx => False.elim hx)
  · exact fe_j Fe.rf (fe_cSide_sameTo_b19 _ _ _ _) (fun x k hx => False.elim hx) (fun x k hx => False.elim hx)
def wI_cSide_isTo_b64 (v0 : Nat) (v1 : Nat) (v2 : Int) (v4 : Int) (s0 : Int) (h : Hp) (x k : Nat) : Prop := False
def wJ_cSide_isTo_b64 (v0 : Nat) (v1 : Nat) (v2 : Int) (v4 : Int) (s0 : Int) (h : Hp) (x k : Nat) : Prop := False
def wI_cSide_isTo_b21 (v0 : Nat) (v1 : Nat) (v2 : Int) (v3 : Int) (v4 : Int) (h : Hp) (x k : Nat) : Prop := False
def wJ_cSide_isTo_b21 (v0 : Nat) (v1 : Nat) (v2 : Int) (v3 : Int) (v4 : Int) (h : Hp) (x k : Nat) : Prop := False
def wI_cSide_isTo_b17 (v0 : Nat) (v1 : Nat) (v2 : Int) (s0 : Int) (h : Hp) (x k : Nat) : Prop := False
def wJ_cSide_isTo_b17 (v0 : Nat) (v1 : Nat) (v2 : Int) (s0 : Int) (h : Hp) (x k : Nat) : Prop := False
def wI_cSide_isTo (v0 : Nat) (v1 : Nat) (v2 : Int) (h : Hp) (x k : Nat) : Prop := False
def wJ_cSide_isTo (v0 : Nat) (v1 : Nat) (v2 : Int) (h : Hp) (x k : Nat) : Prop := False
theorem fe_cSide_isTo_b64 {k21 : Nat → Nat → Int → Int → Int → Hp → Option (Int × Hp)} (hk21 : ∀ (v0 : Nat) (v1 : Nat) (v2 : Int) (v3 : Int) (v4 : Int) (h : Hp), Feo (wI_cSide_isTo_b21 v0 v1 v2 v3 v4 h) (wJ_cSide_isTo_b21 v0 v1 v2 v3 v4 h) h Prod.snd (k21 v0 v1 v2 v3 v4 h)) (v0 : Nat) (v1 : Nat) (v2 : Int) (v4 : Int) (s0 : Int) (h : Hp) : Feo (wI_cSide_isTo_b64 v0 v1 v2 v4 s0 h) (wJ_cSide_isTo_b64 v0 v1 v2 v4 s0 h) h Prod.snd (f_cSide_isTo_b64 k21 v0 v1 v2 v4 s0 h) := by
  unfold f_cSide_isTo_b64
  exact fe_j Fe.rf (hk21 _ _ _ _ _ _) (fun x k hx => False.elim hx) (fun x k hx => False.elim hx)
theorem fe_cSide_isTo_b21 {k21 : Nat → Nat → Int → Int → Int → Hp → Option (Int × Hp)} (hk21 : ∀ (v0 : Nat) (v1 : Nat) (v2 : Int) (v3 : Int) (v4 : Int) (h : Hp), Feo (wI_cSide_isTo_b21 v0 v1 v2 v3 v4 h) (wJ_cSide_isTo_b21 v0 v1 v2 v3 v4 h) h Prod.snd (k21 v0 v1 v2 v3 v4 h)) (v0 : Nat) (v1 : Nat) (v2 : Int) (v3 : Int) (v4 : Int) (h : Hp) : Feo (wI_cSide_isTo_b21 v0 v1 v2 v3 v4 h) (wJ_cSide_isTo_b21 v0 v1 v2 v3 v4 h) h Prod.snd (f_cSide_isTo_b21 k21 v0 v1 v2 v3 v4 h) := by
  unfold f_cSide_isTo_b21
  refine fe_it ?_ ?_
  · refine fe_it ?_ fe_no
    exact fe_so Fe.rf
  · refine fe_it ?_ ?_
    · refine fe_it ?_ fe_no
      exact fe_so Fe.rf
    · refine fe_it fe_no ?_
      refine fe_it fe_no ?_
      refine fe_it ?_ fe_no
      refine fe_it fe_no ?_
      refine fe_it ?_ fe_no
      refine fe_it ?_ ?_
      · exact fe_j Fe.rf (fe_cSide_isTo_b64 hk21 _ _ _ _ _ _) (fun x k hx => False.elim hx) (fun x k hx => False.elim hx)
      · exact fe_j Fe.rf (fe_cSide_isTo_b64 hk21 _ _ _ _ _ _) (fun x k hx => False.elim hx) (fun x k hx => False.elim hx)
theorem fe_cSide_isTo_b21_lp (n : Nat) : ∀ (v0 : Nat) (v1 : Nat) (v2 : Int) (v3 : Int) (v4 : Int) (h : Hp), Feo (wI_cSide_isTo_b21 v0 v1 v2 v3 v4 h) (wJ_cSide_isTo_b21 v0 v1 v2 v3 v4 h) h Prod.snd (f_cSide_isTo_b21_lp n v0 v1 v2 v3 v4 h) := by
  induction n with
  | zero => intro v0 v1 v2 v3 v4 h; exact fe_no
  | succ n ih => intro v0 v1 v2 v3 v4 h; exact fe_cSide_isTo_b21 ih v0 v1 v2 v3 v4 h
theorem fe_cSide_isTo_b17 (v0 : Nat) (v1 : Nat) (v2 : Int) (s0 : Int) (h : Hp) : Feo (wI_cSide_isTo_b17 v0 v1 v2 s0 h) (wJ_cSide_isTo_b17 v0 v1 v2 s0 h) h Prod.snd (f_cSide_isTo_b17 v0 v1 v2 s0 h) := by
  unfold f_cSide_isTo_b17
  exact fe_j Fe.rf (fe_cSide_isTo_b21_lp FU _ _ _ _ _ _) (fun x k hx => False.elim hx) (fun x k hx => False.elim hx)
theorem fe_cSide_isTo (v0 : Nat) (v1 : Nat) (v2 : Int) (h : Hp) : Feo (wI_cSide_isTo v0 v1 v2 h) (wJ_cSide_isTo v0 v1 v2 h) h Prod.snd (f_cSide_isTo v0 v1 v2 h) := by
  unfold f_cSide_isTo
  refine fe_it fe_no ?_
  refine fe_it ?_ ?_
  · exact fe_j Fe.rf (fe_cSide_isTo_b17 _ _ _ _ _) (fun x k hx => False.elim hx) (fun x k hx => False.elim hx)
  · exact fe_j Fe.rf (fe_cSide_isTo_b17 _ _ _ _ _) (fun x k hx => False.elim hx) (fun x k hx => False.elim hx)
def wI_cKeystream_begin_b77 (v0 : Nat) (v2 : Nat) (v3 : Int) (v5 : Int) (h : Hp) (x k : Nat) : Prop := x = hR h v0 0
def wJ_cKeystream_begin_b77 (v0 : Nat) (v2 : Nat) (v3 : Int) (v5 : Int) (h : Hp) (x k : Nat) : Prop := False
def wI_cKeystream_begin_b35 (v0 : Nat) (v1 : Nat) (v2 : Nat) (v3 : Int) (v4 : Int) (v5 : Int) (h : Hp) (x k : Nat) : Prop := x = hR h v0 0
def wJ_cKeystream_begin_b35 (v0 : Nat) (v1 : Nat) (v2 : Nat) (v3 : Int) (v4 : Int) (v5 : Int) (h : Hp) (x k : Nat) : Prop := False
def wI_cKeystream_begin (v0 : Nat) (v1 : Nat) (v2 : Nat) (v3 : Int) (v4 : Int) (h : Hp) (x k : Nat) : Prop := x = hR h v0 0
def wJ_cKeystream_begin (v0 : Nat) (v1 : Nat) (v2 : Nat) (v3 : Int) (v4 : Int) (h : Hp) (x k : Nat) : Prop := False
theorem fe_cKeystream_begin_b77 {k77 : Nat → Nat → Int → Int → Hp → Option (Hp)} (hk77 : ∀ (v0 : Nat) (v2 : Nat) (v3 : Int) (v5 : Int) (h : Hp), Feo (wI_cKeystream_begin_b77 v0 v2 v3 v5 h) (wJ_cKeystream_begin_b77 v0 v2 v3 v5 h) h id (k77 v0 v2 v3 v5 h)) (v0 : Nat) (v2 : Nat) (v3 : Int) (v5 : Int) (h : Hp) : Feo (wI_cKeystream_begin_b77 v0 v2 v3 v5 h) (wJ_cKeystream_begin_b77 v0 v2 v3 v5 h) h id (f_cKeystream_begin_b77 k77 v0 v2 v3 v5 h) := by
  unfold f_cKeystream_begin_b77
  refine fe_it ?_ ?_
  · exact fe_so Fe.rf
  · refine fe_b2 Fe.rf (fe_cP_word _ _ _) (fun x k hx => False.elim hx) (fun x k hx => False.elim hx) (fun r24 h22 F1 => ?_)
    refine fe_it fe_no ?_
    refine fe_it ?_ fe_no
    refine fe_I F1 (rfl) (fun h27 F2 => ?_)
    exact fe_j F2 (hk77 _ _ _ _ _) (fun x k hx => by simp only [wI_cKeystream_begin_b77, F1.r, F2.r] at hx; have e := hx; exact e) (fun x k hx => False.elim hx)
theorem fe_cKeystream_begin_b77_lp (n : Nat) : ∀ (v0 : Nat) (v2 : Nat) (v3 : Int) (v5 : Int) (h : Hp), Feo (wI_cKeystream_begin_b77 v0 v2 v3 v5 h) (wJ_cKeystream_begin_b77 v0 v2 v3 v5 h) h id (f_cKeystream_begin_b77_lp n v0 v2 v3 v5 h) := by
  induction n with
  | zero => intro v0 v2 v3 v5 h; exact fe_no
  | succ n ih => intro v0 v2 v3 v5 h; exact fe_cKeystream_begin_b77 ih v0 v2 v3 v5 h
theorem fe_cKeystream_begin_b35 {k35 : Nat → Nat → Nat → Int → Int → Int → Hp → Option (Hp)} (hk35 : ∀ (v0 : Nat) (v1 : Nat) (v2 : Nat) (v3 : Int) (v4 : Int) (v5 : Int) (h : Hp), Feo (wI_cKeystream_begin_b35 v0 v1 v2 v3 v4 v5 h) (wJ_cKeystream_begin_b35 v0 v1 v2 v3 v4 v5 h) h id (k35 v0 v1 v2 v3 v4 v5 h)) (v0 : Nat) (v1 : Nat) (v2 : Nat) (v3 : Int) (v4 : Int) (v5 : Int) (h : Hp) : Feo (wI_cKeystream_begin_b35 v0 v1 v2 v3 v4 v5 h) (wJ_cKeystream_begin_b35 v0 v1 v2 v3 v4 v5 h) h id (f_cKeystream_begin_b35 k35 v0 v1 v2 v3 v4 v5 h) := by
  unfold f_cKeystream_begin_b35
  refine fe_it ?_ ?_
  · refine fe_it fe_no ?_
    refine fe_it ?_ fe_no
    refine fe_I Fe.rf (rfl) (fun h15 F1 => ?_)
    exact fe_j F1 (fe_cKeystream_begin_b77_lp FU _ _ _ _ _) (fun x k hx => by simp only [wI_cKeystream_begin_b77, F1.r] at hx; have e := hx; exact e) (fun x k hx => False.elim hx)
  · refine fe_b2 Fe.rf (fe_cP_word _ _ _) (fun x k hx => False.elim hx) (fun x k hx => False.elim hx) (fun r18 h16 F2 => ?_)
    refine fe_it fe_no ?_
    refine fe_it ?_ fe_no
    refine fe_I F2 (rfl) (fun h21 F3 => ?_)
    exact fe_j F3 (hk35 _ _ _ _ _ _ _) (fun x k hx => by simp only [wI_cKeystream_begin_b35, F2.r, F3.r] at hx; have e := hx; exact e) (fun x k hx => False.elim hx)
theorem fe_cKeystream_begin_b35_lp (n : Nat) : ∀ (v0 : Nat) (v1 : Nat) (v2 : Nat) (v3 : Int) (v4 : Int) (v5 : Int) (h : Hp), Feo (wI_cKeystream_begin_b35 v0 v1 v2 v3 v4 v5 h) (wJ_cKeystream_begin_b35 v0 v1 v2 v3 v4 v5 h) h id (f_cKeystream_begin_b35_lp n v0 v1 v2 v3 v4 v5 h) := by
  induction n with
  | zero => intro v0 v1 v2 v3 v4 v5 h; exact fe_no
  | succ n ih => intro v0 v1 v2 v3 v4 v5 h; exact fe_cKeystream_begin_b35 ih v0 v1 v2 v3 v4 v5 h
theorem fe_cKeystream_begin (v0 : Nat) (v1 : Nat) (v2 : Nat) (v3 : Int) (v4 : Int) (h : Hp) : Feo (wI_cKeystream_begin v0 v1 v2 v3 v4 h) (wJ_cKeystream_begin v0 v1 v2 v3 v4 h) h id (f_cKeystream_begin v0 v1 v2 v3 v4 h) := by
  unfold f_cKeystream_begin
  refine fe_it fe_no ?_
  refine fe_it ?_ fe_no
  refine fe_I Fe.rf (rfl) (fun h3 F1 => ?_)
  refine fe_it fe_no ?_
  refine fe_it ?_ fe_no
  refine fe_I F1 ((by first | (simp only [F1.r]; exact rfl) | simp only [F1.r])) (fun h6 F2 => ?_)
  refine fe_it fe_no ?_
  refine fe_it ?_ fe_no
  refine fe_I F2 ((by first | (simp only [F1.r, F2.r]; exact rfl) | simp only [F1.r, F2.r])) (fun h9 F3 => ?_)
  refine fe_it fe_no ?_
  refine fe_it ?_ fe_no
  refine fe_I F3 ((by first | (simp only [F1.r, F2.r, F3.r]; exact rfl) | simp only [F1.r, F2.r, F3.r])) (fun h12 F4 => ?_)
  exact fe_j F4 (fe_cKeystream_begin_b35_lp FU _ _ _ _ _ _ _) (fun x k hx => by simp only [wI_cKeystream_begin_b35, F1.r, F2.r, F3.r, F4.r] at hx; have e := hx; exact e) (fun x k hx => False.elim hx)
def wI_jInteger_rotateLeft (v0 : Int) (v1 : Int) (h : Hp) (x k : Nat) : Prop := False
def wJ_jInteger_rotateLeft (v0 : Int) (v1 : Int) (h : Hp) (x k : Nat) : Prop := False
theorem fe_jInteger_rotateLeft (v0 : Int) (v1 : Int) (h : Hp) : Feo (wI_jInteger_rotateLeft v0 v1 h) (wJ_jInteger_rotateLeft v0 v1 h) h Prod.snd (f_jInteger_rotateLeft v0 v1 h) := by
  unfold f_jInteger_rotateLeft
  exact fe_so Fe.rf
def wI_cKeystream_mix (v0 : Nat) (v1 : Int) (v2 : Int) (v3 : Int) (v4 : Int) (h : Hp) (x k : Nat) : Prop := x = hR h v0 1
def wJ_cKeystream_mix (v0 : Nat) (v1 : Int) (v2 : Int) (v3 : Int) (v4 : Int) (h : Hp) (x k : Nat) : Prop := False
theorem fe_cKeystream_mix (v0 : Nat) (v1 : Int) (v2 : Int) (v3 : Int) (v4 : Int) (h : Hp) : Feo (wI_cKeystream_mix v0 v1 v2 v3 v4 h) (wJ_cKeystream_mix v0 v1 v2 v3 v4 h) h id (f_cKeystream_mix v0 v1 v2 v3 v4 h) := by
  unfold f_cKeystream_mix
  refine fe_it fe_no ?_
  refine fe_it ?_ fe_no
  refine fe_it ?_ fe_no
  refine fe_it ?_ fe_no
  refine fe_I Fe.rf (rfl) (fun h5 F1 => ?_)
  refine fe_it fe_no ?_
  refine fe_it ?_ fe_no
  refine fe_it ?_ fe_no
  refine fe_b2 F1 (fe_jInteger_rotateLeft _ _ _) (fun x k hx => False.elim hx) (fun x k hx => False.elim hx) (fun r11 h9 F2 => ?_)
  refine fe_it ?_ fe_no
  refine fe_I F2 ((by first | (simp only [F1.r, F2.r]; exact rfl) | simp only [F1.r, F2.r])) (fun h13 F3 => ?_)
  refine fe_it fe_no ?_
  refine fe_it ?_ fe_no
  refine fe_it ?_ fe_no
  refine fe_it ?_ fe_no
  refine fe_I F3 ((by first | (simp only [F1.r, F2.r, F3.r]; exact rfl) | simp only [F1.r, F2.r, F3.r])) (fun h18 F4 => ?_)
  refine fe_it fe_no ?_
  refine fe_it ?_ fe_no
  refine fe_it ?_ fe_no
  refine fe_b2 F4 (fe_jInteger_rotateLeft _ _ _) (fun x k hx => False.elim hx) (fun x k hx => False.elim hx) (fun r24 h22 F5 => ?_)
  refine fe_it ?_ fe_no
  refine fe_I F5 ((by first | (simp only [F1.r, F2.r, F3.r, F4.r, F5.r]; exact rfl) | simp only [F1.r, F2.r, F3.r, F4.r, F5.r])) (fun h26 F6 => ?_)
  refine fe_it fe_no ?_
  refine fe_it ?_ fe_no
  refine fe_it ?_ fe_no
  refine fe_it ?_ fe_no
  refine fe_I F6 ((by first | (simp only [F1.r, F2.r, F3.r, F4.r, F5.r, F6.r]; exact rfl) | simp only [F1.r, F2.r, F3.r, F4.r, F5.r, F6.r])) (fun h31 F7 => ?_)
  refine fe_it fe_no ?_
  refine fe_it ?_ fe_no
  refine fe_it ?_ fe_no
  refine fe_b2 F7 (fe_jInteger_rotateLeft _ _ _) (fun x k hx => False.elim hx) (fun x k hx => False.elim hx) (fun r37 h35 F8 => ?_)
  refine fe_it ?_ fe_no
  refine fe_I F8 ((by first | (simp only [F1.r, F2.r, F3.r, F4.r, F5.r, F6.r, F7.r, F8.r]; exact rfl) | simp only [F1.r, F2.r, F3.r, F4.r, F5.r, F6.r, F7.r, F8.r])) (fun h39 F9 => ?_)
  refine fe_it fe_no ?_
  refine fe_it ?_ fe_no
  refine fe_it ?_ fe_no
  refine fe_it ?_ fe_no
  refine fe_I F9 ((by first | (simp only [F1.r, F2.r, F3.r, F4.r, F5.r, F6.r, F7.r, F8.r, F9.r]; exact rfl) | simp only [F1.r, F2.r, F3.r, F4.r, F5.r, F6.r, F7.r, F8.r, F9.r])) (fun h44 F10 => ?_)
  refine fe_it fe_no ?_
  refine fe_it ?_ fe_no
  refine fe_it ?_ fe_no
  refine fe_b2 F10 (fe_jInteger_rotateLeft _ _ _) (fun x k hx => False.elim hx) (fun x k hx => False.elim hx) (fun r50 h48 F11 => ?_)
  refine fe_it ?_ fe_no
  refine fe_I F11 ((by first | (simp only [F1.r, F2.r, F3.r, F4.r, F5.r, F6.r, F7.r, F8.r, F9.r, F10.r, F11.r]; exact rfl) | simp only [F1.r, F2.r, F3.r, F4.r, F5.r, F6.r, F7.r, F8.r, F9.r, F10.r, F11.r])) (fun h52 F12 => ?_)
  exact fe_so F12
def wI_cKeystream_next_b101 (v0 : Nat) (v1 : Int) (h : Hp) (x k : Nat) : Prop := x = hR h v0 0 ∨ x = hR h v0 2
def wJ_cKeystream_next_b101 (v0 : Nat) (v1 : Int) (h : Hp) (x k : Nat) : Prop := False
def wI_cKeystream_next_b54 (v0 : Nat) (v1 : Int) (v2 : Int) (h : Hp) (x k : Nat) : Prop := x = hR h v0 0 ∨ x = hR h v0 1 ∨ x = hR h v0 2
def wJ_cKeystream_next_b54 (v0 : Nat) (v1 : Int) (v2 : Int) (h : Hp) (x k : Nat) : Prop := False
def wI_cKeystream_next_b25 (v0 : Nat) (v1 : Int) (v2 : Int) (h : Hp) (x k : Nat) : Prop := x = hR h v0 0 ∨ x = hR h v0 1 ∨ x = hR h v0 2
def wJ_cKeystream_next_b25 (v0 : Nat) (v1 : Int) (v2 : Int) (h : Hp) (x k : Nat) : Prop := False
def wI_cKeystream_next_b17 (v0 : Nat) (v1 : Int) (h : Hp) (x k : Nat) : Prop := x = hR h v0 0 ∨ x = hR h v0 1 ∨ x = hR h v0 2
def wJ_cKeystream_next_b17 (v0 : Nat) (v1 : Int) (h : Hp) (x k : Nat) : Prop := False
def wI_cKeystream_next (v0 : Nat) (h : Hp) (x k : Nat) : Prop := x = hR h v0 0 ∨ x = hR h v0 1 ∨ x = hR h v0 2
def wJ_cKeystream_next (v0 : Nat) (h : Hp) (x k : Nat) : Prop := False
theorem fe_cKeystream_next_b101 {k101 : Nat → Int → Hp → Option (Hp)} (hk101 : ∀ (v0 : Nat) (v1 : Int) (h : Hp), Feo (wI_cKeystream_next_b101 v0 v1 h) (wJ_cKeystream_next_b101 v0 v1 h) h id (k101 v0 v1 h)) (v0 : Nat) (v1 : Int) (h : Hp) : Feo (wI_cKeystream_next_b101 v0 v1 h) (wJ_cKeystream_next_b101 v0 v1 h) h id (f_cKeystream_next_b101 k101 v0 v1 h) := by
  unfold f_cKeystream_next_b101
  refine fe_it ?_ ?_
  · refine fe_it fe_no ?_
    refine fe_it ?_ fe_no
    refine fe_it ?_ fe_no
    refine fe_I Fe.rf (Or.inl (rfl)) (fun h12 F1 => ?_)
    exact fe_so F1
  · refine fe_it fe_no ?_
    refine fe_it ?_ fe_no
    refine fe_it fe_no ?_
    refine fe_it ?_ fe_no
    refine fe_it fe_no ?_
    refine fe_it ?_ fe_no
    refine fe_I Fe.rf (Or.inr (rfl)) (fun h19 F2 => ?_)
    exact fe_j F2 (hk101 _ _ _) (fun x k hx => by simp only [wI_cKeystream_next_b101, F2.r] at hx; rcases hx with e | e <;> first | exact Or.inl (e) | exact Or.inr (e)) (fun x k hx => False.elim hx)
theorem fe_cKeystream_next_b101_lp (n : Nat) : ∀ (v0 : Nat) (v1 : Int) (h : Hp), Feo (wI_cKeystream_next_b101 v0 v1 h) (wJ_cKeystream_next_b101 v0 v1 h) h id (f_cKeystream_next_b101_lp n v0 v1 h) := by
  induction n with
  | zero => intro v0 v1 h; exact fe_no
  | succ n ih => intro v0 v1 h; exact fe_cKeystream_next_b101 ih v0 v1 h
theorem fe_cKeystream_next_b54 {k17 : Nat → Int → Hp → Option (Hp)} (hk17 : ∀ (v0 : Nat) (v1 : Int) (h : Hp), Feo (wI_cKeystream_next_b17 v0 v1 h) (wJ_cKeystream_next_b17 v0 v1 h) h id (k17 v0 v1 h)) {k54 : Nat → Int → Int → Hp → Option (Hp)} (hk54 : ∀ (v0 : Nat) (v1 : Int) (v2 : Int) (h : Hp), Feo (wI_cKeystream_next_b54 v0 v1 v2 h) (wJ_cKeystream_next_b54 v0 v1 v2 h) h id (k54 v0 v1 v2 h)) (v0 : Nat) (v1 : Int) (v2 : Int) (h : Hp) : Feo (wI_cKeystream_next_b54 v0 v1 v2 h) (wJ_cKeystream_next_b54 v0 v1 v2 h) h id (f_cKeystream_next_b54 k17 k54 v0 v1 v2 h) := by
  unfold f_cKeystream_next_b54
  refine fe_it ?_ ?_
  · exact fe_j Fe.rf (hk17 _ _ _) (fun x k hx => by simp only [wI_cKeystream_next_b17] at hx; rcases hx with e | e | e <;> first | exact Or.inl (e) | exact Or.inr (Or.inl (e)) | exact Or.inr (Or.inr (e))) (fun x k hx => False.elim hx)
  · refine fe_b1 Fe.rf (fe_cKeystream_mix _ _ _ _ _ _) (fun x k hx => by simp only [wI_cKeystream_mix] at hx; have e := hx; exact Or.inr (Or.inl (e))) (fun x k hx => False.elim hx) (fun h7 F1 => ?_)
    exact fe_j F1 (hk54 _ _ _ _) (fun x k hx => by simp only [wI_cKeystream_next_b54, F1.r] at hx; rcases hx with e | e | e <;> first | exact Or.inl (e) | exact Or.inr (Or.inl (e)) | exact Or.inr (Or.inr (e))) (fun x k hx => False.elim hx)
theorem fe_cKeystream_next_b54_lp {k17 : Nat → Int → Hp → Option (Hp)} (hk17 : ∀ (v0 : Nat) (v1 : Int) (h : Hp), Feo (wI_cKeystream_next_b17 v0 v1 h) (wJ_cKeystream_next_b17 v0 v1 h) h id (k17 v0 v1 h)) (n : Nat) : ∀ (v0 : Nat) (v1 : Int) (v2 : Int) (h : Hp), Feo (wI_cKeystream_next_b54 v0 v1 v2 h) (wJ_cKeystream_next_b54 v0 v1 v2 h) h id (f_cKeystream_next_b54_lp k17 n v0 v1 v2 h) := by
  induction n with
  | zero => intro v0 v1 v2 h; exact fe_no
  | succ n ih => intro v0 v1 v2 h; exact fe_cKeystream_next_b54 hk17 ih v0 v1 v2 h
theorem fe_cKeystream_next_b25 {k17 : Nat → Int → Hp → Option (Hp)} (hk17 : ∀ (v0 : Nat) (v1 : Int) (h : Hp), Feo (wI_cKeystream_next_b17 v0 v1 h) (wJ_cKeystream_next_b17 v0 v1 h) h id (k17 v0 v1 h)) {k25 : Nat → Int → Int → Hp → Option (Hp)} (hk25 : ∀ (v0 : Nat) (v1 : Int) (v2 : Int) (h : Hp), Feo (wI_cKeystream_next_b25 v0 v1 v2 h) (wJ_cKeystream_next_b25 v0 v1 v2 h) h id (k25 v0 v1 v2 h)) (v0 : Nat) (v1 : Int) (v2 : Int) (h : Hp) : Feo (wI_cKeystream_next_b25 v0 v1 v2 h) (wJ_cKeystream_next_b25 v0 v1 v2 h) h id (f_cKeystream_next_b25 k17 k25 v0 v1 v2 h) := by
  unfold f_cKeystream_next_b25
  refine fe_it ?_ ?_
  · exact fe_j Fe.rf (fe_cKeystream_next_b54_lp hk17 FU _ _ _ _) (fun x k hx => by simp only [wI_cKeystream_next_b54] at hx; rcases hx with e | e | e <;> first | exact Or.inl (e) | exact Or.inr (Or.inl (e)) | exact Or.inr (Or.inr (e))) (fun x k hx => False.elim hx)
  · refine fe_b1 Fe.rf (fe_cKeystream_mix _ _ _ _ _ _) (fun x k hx => by simp only [wI_cKeystream_mix] at hx; have e := hx; exact Or.inr (Or.inl (e))) (fun x k hx => False.elim hx) (fun h5 F1 => ?_)
    exact fe_j F1 (hk25 _ _ _ _) (fun x k hx => by simp only [wI_cKeystream_next_b25, F1.r] at hx; rcases hx with e | e | e <;> first | exact Or.inl (e) | exact Or.inr (Or.inl (e)) | exact Or.inr (Or.inr (e))) (fun x k hx => False.elim hx)
theorem fe_cKeystream_next_b25_lp {k17 : Nat → Int → Hp → Option (Hp)} (hk17 : ∀ (v0 : Nat) (v1 : Int) (h : Hp), Feo (wI_cKeystream_next_b17 v0 v1 h) (wJ_cKeystream_next_b17 v0 v1 h) h id (k17 v0 v1 h)) (n : Nat) : ∀ (v0 : Nat) (v1 : Int) (v2 : Int) (h : Hp), Feo (wI_cKeystream_next_b25 v0 v1 v2 h) (wJ_cKeystream_next_b25 v0 v1 v2 h) h id (f_cKeystream_next_b25_lp k17 n v0 v1 v2 h) := by
  induction n with
  | zero => intro v0 v1 v2 h; exact fe_no
  | succ n ih => intro v0 v1 v2 h; exact fe_cKeystream_next_b25 hk17 ih v0 v1 v2 h
theorem fe_cKeystream_next_b17 {k17 : Nat → Int → Hp → Option (Hp)} (hk17 : ∀ (v0 : Nat) (v1 : Int) (h : Hp), Feo (wI_cKeystream_next_b17 v0 v1 h) (wJ_cKeystream_next_b17 v0 v1 h) h id (k17 v0 v1 h)) (v0 : Nat) (v1 : Int) (h : Hp) : Feo (wI_cKeystream_next_b17 v0 v1 h) (wJ_cKeystream_next_b17 v0 v1 h) h id (f_cKeystream_next_b17 k17 v0 v1 h) := by
  unfold f_cKeystream_next_b17
  refine fe_it ?_ ?_
  · exact fe_j Fe.rf (fe_cKeystream_next_b101_lp FU _ _ _) (fun x k hx => by simp only [wI_cKeystream_next_b101] at hx; rcases hx with e | e <;> first | exact Or.inl (e) | exact Or.inr (Or.inr (e))) (fun x k hx => False.elim hx)
  · exact fe_j Fe.rf (fe_cKeystream_next_b25_lp hk17 FU _ _ _ _) (fun x k hx => by simp only [wI_cKeystream_next_b25] at hx; rcases hx with e | e | e <;> first | exact Or.inl (e) | exact Or.inr (Or.inl (e)) | exact Or.inr (Or.inr (e))) (fun x k hx => False.elim hx)
theorem fe_cKeystream_next_b17_lp (n : Nat) : ∀ (v0 : Nat) (v1 : Int) (h : Hp), Feo (wI_cKeystream_next_b17 v0 v1 h) (wJ_cKeystream_next_b17 v0 v1 h) h id (f_cKeystream_next_b17_lp n v0 v1 h) := by
  induction n with
  | zero => intro v0 v1 h; exact fe_no
  | succ n ih => intro v0 v1 h; exact fe_cKeystream_next_b17 ih v0 v1 h
theorem fe_cKeystream_next (v0 : Nat) (h : Hp) : Feo (wI_cKeystream_next v0 h) (wJ_cKeystream_next v0 h) h id (f_cKeystream_next v0 h) := by
  unfold f_cKeystream_next
  refine fe_it fe_no ?_
  refine fe_it fe_no ?_
  refine fe_it ?_ fe_no
  refine fe_cI Fe.rf (fun y => Or.inr (Or.inl (rfl))) (fun h4 F1 => ?_)
  exact fe_j F1 (fe_cKeystream_next_b17_lp FU _ _ _) (fun x k hx => by simp only [wI_cKeystream_next_b17, F1.r] at hx; rcases hx with e | e | e <;> first | exact Or.inl (e) | exact Or.inr (Or.inl (e)) | exact Or.inr (Or.inr (e))) (fun x k hx => False.elim hx)
def wI_cGuard_shield_b98 (v0 : Nat) (v2 : Nat) (v3 : Int) (v4 : Int) (v7 : Nat) (v8 : Int) (v9 : Int) (h : Hp) (x k : Nat) : Prop := x = v2
def wJ_cGuard_shield_b98 (v0 : Nat) (v2 : Nat) (v3 : Int) (v4 : Int) (v7 : Nat) (v8 : Int) (v9 : Int) (h : Hp) (x k : Nat) : Prop := False
def wI_cGuard_shield_b95 (v0 : Nat) (v2 : Nat) (v3 : Int) (v4 : Int) (v7 : Nat) (v8 : Int) (h : Hp) (x k : Nat) : Prop := x = v2
def wJ_cGuard_shield_b95 (v0 : Nat) (v2 : Nat) (v3 : Int) (v4 : Int) (v7 : Nat) (v8 : Int) (h : Hp) (x k : Nat) : Prop := False
def wI_cGuard_shield_b76 (v0 : Nat) (v2 : Nat) (v3 : Int) (v4 : Int) (v5 : Int) (v7 : Nat) (v8 : Int) (s0 : Nat) (s1 : Int) (s2 : Int) (s3 : Int) (s4 : Int) (h : Hp) (x k : Nat) : Prop := x = s0 ∨ x = v2
def wJ_cGuard_shield_b76 (v0 : Nat) (v2 : Nat) (v3 : Int) (v4 : Int) (v5 : Int) (v7 : Nat) (v8 : Int) (s0 : Nat) (s1 : Int) (s2 : Int) (s3 : Int) (s4 : Int) (h : Hp) (x k : Nat) : Prop := False
def wI_cGuard_shield (v0 : Nat) (v1 : Nat) (v2 : Nat) (v3 : Int) (v4 : Int) (v5 : Int) (h : Hp) (x k : Nat) : Prop := x = hR h (hR h v1 1) 0 ∨ x = hR h (hR h v1 1) 1 ∨ x = hR h (hR h v1 1) 2 ∨ x = v2
def wJ_cGuard_shield (v0 : Nat) (v1 : Nat) (v2 : Nat) (v3 : Int) (v4 : Int) (v5 : Int) (h : Hp) (x k : Nat) : Prop := False
theorem fe_cGuard_shield_b98 {k98 : Nat → Nat → Int → Int → Nat → Int → Int → Hp → Option (Int × Hp)} (hk98 : ∀ (v0 : Nat) (v2 : Nat) (v3 : Int) (v4 : Int) (v7 : Nat) (v8 : Int) (v9 : Int) (h : Hp), Feo (wI_cGuard_shield_b98 v0 v2 v3 v4 v7 v8 v9 h) (wJ_cGuard_shield_b98 v0 v2 v3 v4 v7 v8 v9 h) h Prod.snd (k98 v0 v2 v3 v4 v7 v8 v9 h)) (v0 : Nat) (v2 : Nat) (v3 : Int) (v4 : Int) (v7 : Nat) (v8 : Int) (v9 : Int) (h : Hp) : Feo (wI_cGuard_shield_b98 v0 v2 v3 v4 v7 v8 v9 h) (wJ_cGuard_shield_b98 v0 v2 v3 v4 v7 v8 v9 h) h Prod.snd (f_cGuard_shield_b98 k98 v0 v2 v3 v4 v7 v8 v9 h) := by
  unfold f_cGuard_shield_b98
  refine fe_it ?_ ?_
  · exact fe_so Fe.rf
  · refine fe_it fe_no ?_
    refine fe_it ?_ fe_no
    refine fe_it fe_no ?_
    refine fe_it ?_ fe_no
    refine fe_it ?_ fe_no
    refine fe_I Fe.rf (rfl) (fun h32 F1 => ?_)
    exact fe_j F1 (hk98 _ _ _ _ _ _ _ _) (fun x k hx => by simp only [wI_cGuard_shield_b98, F1.r] at hx; have e := hx; exact e) (fun x k hx => False.elim hx)
theorem fe_cGuard_shield_b98_lp (n : Nat) : ∀ (v0 : Nat) (v2 : Nat) (v3 : Int) (v4 : Int) (v7 : Nat) (v8 : Int) (v9 : Int) (h : Hp), Feo (wI_cGuard_shield_b98 v0 v2 v3 v4 v7 v8 v9 h) (wJ_cGuard_shield_b98 v0 v2 v3 v4 v7 v8 v9 h) h Prod.snd (f_cGuard_shield_b98_lp n v0 v2 v3 v4 v7 v8 v9 h) := by
  induction n with
  | zero => intro v0 v2 v3 v4 v7 v8 v9 h; exact fe_no
  | succ n ih => intro v0 v2 v3 v4 v7 v8 v9 h; exact fe_cGuard_shield_b98 ih v0 v2 v3 v4 v7 v8 v9 h
theorem fe_cGuard_shield_b95 (v0 : Nat) (v2 : Nat) (v3 : Int) (v4 : Int) (v7 : Nat) (v8 : Int) (h : Hp) : Feo (wI_cGuard_shield_b95 v0 v2 v3 v4 v7 v8 h) (wJ_cGuard_shield_b95 v0 v2 v3 v4 v7 v8 h) h Prod.snd (f_cGuard_shield_b95 v0 v2 v3 v4 v7 v8 h) := by
  unfold f_cGuard_shield_b95
  exact fe_j Fe.rf (fe_cGuard_shield_b98_lp FU _ _ _ _ _ _ _ _) (fun x k hx => by simp only [wI_cGuard_shield_b98] at hx; have e := hx; exact e) (fun x k hx => False.elim hx)
theorem fe_cGuard_shield_b76 (v0 : Nat) (v2 : Nat) (v3 : Int) (v4 : Int) (v5 : Int) (v7 : Nat) (v8 : Int) (s0 : Nat) (s1 : Int) (s2 : Int) (s3 : Int) (s4 : Int) (h : Hp) : Feo (wI_cGuard_shield_b76 v0 v2 v3 v4 v5 v7 v8 s0 s1 s2 s3 s4 h) (wJ_cGuard_shield_b76 v0 v2 v3 v4 v5 v7 v8 s0 s1 s2 s3 s4 h) h Prod.snd (f_cGuard_shield_b76 v0 v2 v3 v4 v5 v7 v8 s0 s1 s2 s3 s4 h) := by
  unfold f_cGuard_shield_b76
  refine fe_it fe_no ?_
  refine fe_it ?_ fe_no
  refine fe_I Fe.rf (Or.inl (rfl)) (fun h23 F1 => ?_)
  refine fe_it ?_ ?_
  · exact fe_j F1 (fe_cGuard_shield_b95 _ _ _ _ _ _ _) (fun x k hx => by simp only [wI_cGuard_shield_b95, F1.r] at hx; have e := hx; exact Or.inr (e)) (fun x k hx => False.elim hx)
  · refine fe_it fe_no ?_
    refine fe_it ?_ fe_no
    refine fe_v (fun y26 => ?_)
    exact fe_j F1 (fe_cGuard_shield_b95 _ _ _ _ _ _ _) (fun x k hx => by simp only [wI_cGuard_shield_b95, F1.r] at hx; have e := hx; exact Or.inr (e)) (fun x k hx => False.elim hx)
theorem fe_cGuard_shield (v0 : Nat) (v1 : Nat) (v2 : Nat) (v3 : Int) (v4 : Int) (v5 : Int) (h : Hp) : Feo (wI_cGuard_shield v0 v1 v2 v3 v4 v5 h) (wJ_cGuard_shield v0 v1 v2 v3 v4 v5 h) h Prod.snd (f_cGuard_shield v0 v1 v2 v3 v4 v5 h) := by
  unfold f_cGuard_shield
  refine fe_v (fun y1 => ?_)
  refine fe_it fe_no ?_
  refine fe_b2 Fe.rf (fe_cP_word _ _ _) (fun x k hx => False.elim hx) (fun x k hx => False.elim hx) (fun r5 h3 F1 => ?_)
  refine fe_it fe_no ?_
  refine fe_b1 F1 (fe_cKeystream_begin _ _ _ _ _ _) (fun x k hx => by simp only [wI_cKeystream_begin, F1.r] at hx; have e := hx; exact Or.inl (e)) (fun x k hx => False.elim hx) (fun h7 F2 => ?_)
  refine fe_it fe_no ?_
  refine fe_b1 F2 (fe_cKeystream_next _ _) (fun x k hx => by simp only [wI_cKeystream_next, F1.r, F2.r] at hx; rcases hx with e | e | e <;> first | exact Or.inl (e) | exact Or.inr (Or.inl (e)) | exact Or.inr (Or.inr (Or.inl (e)))) (fun x k hx => False.elim hx) (fun h10 F3 => ?_)
  refine fe_it fe_no ?_
  refine fe_l ?_
  refine fe_it fe_no ?_
  refine fe_it ?_ fe_no
  refine fe_v (fun y16 => ?_)
  refine fe_it ?_ fe_no
  refine fe_it fe_no ?_
  refine fe_it ?_ fe_no
  refine fe_it ?_ fe_no
  refine fe_it ?_ ?_
  · exact fe_j F3 (fe_cGuard_shield_b76 _ _ _ _ _ _ _ _ _ _ _ _ _) (fun x k hx => by simp only [wI_cGuard_shield_b76, F1.r, F2.r, F3.r] at hx; rcases hx with e | e <;> first | exact Or.inr (Or.inr (Or.inr (e)))) (fun x k hx => False.elim hx)
  · exact fe_j F3 (fe_cGuard_shield_b76 _ _ _ _ _ _ _ _ _ _ _ _ _) (fun x k hx => by simp only [wI_cGuard_shield_b76, F1.r, F2.r, F3.r] at hx; rcases hx with e | e <;> first | exact Or.inr (Or.inr (Or.inr (e)))) (fun x k hx => False.elim hx)
def wI_cCounting_grow_b91 (v5 : Int) (v11 : Int) (h : Hp) (x k : Nat) : Prop := False
def wJ_cCounting_grow_b91 (v5 : Int) (v11 : Int) (h : Hp) (x k : Nat) : Prop := False
def wI_cCounting_grow_b65 (v5 : Int) (v7 : Int) (v9 : Int) (v11 : Int) (h : Hp) (x k : Nat) : Prop := False
def wJ_cCounting_grow_b65 (v5 : Int) (v7 : Int) (v9 : Int) (v11 : Int) (h : Hp) (x k : Nat) : Prop := False
def wI_cCounting_grow (v0 : Int) (v2 : Int) (v4 : Int) (h : Hp) (x k : Nat) : Prop := False
def wJ_cCounting_grow (v0 : Int) (v2 : Int) (v4 : Int) (h : Hp) (x k : Nat) : Prop := False
theorem fe_cCounting_grow_b91 (v5 : Int) (v11 : Int) (h : Hp) : Feo (wI_cCounting_grow_b91 v5 v11 h) (wJ_cCounting_grow_b91 v5 v11 h) h Prod.snd (f_cCounting_grow_b91 v5 v11 h) := by
  unfold f_cCounting_grow_b91
  refine fe_it ?_ ?_
  · exact fe_so Fe.rf
  · exact fe_so Fe.rf
theorem fe_cCounting_grow_b65 (v5 : Int) (v7 : Int) (v9 : Int) (v11 : Int) (h : Hp) : Feo (wI_cCounting_grow_b65 v5 v7 v9 v11 h) (wJ_cCounting_grow_b65 v5 v7 v9 v11 h) h Prod.snd (f_cCounting_grow_b65 v5 v7 v9 v11 h) := by
  unfold f_cCounting_grow_b65
  refine fe_it ?_ ?_
  · exact fe_j Fe.rf (fe_cCounting_grow_b91 _ _ _) (fun x k hx => False.elim hx) (fun x k hx => False.elim hx)
  · refine fe_it ?_ ?_
    · exact fe_j Fe.rf (fe_cCounting_grow_b91 _ _ _) (fun x k hx => False.elim hx) (fun x k hx => False.elim hx)
    · refine fe_v (fun y6 => ?_)
      exact fe_j Fe.rf (fe_cCounting_grow_b91 _ _ _) (fun x k hx => False.elim hx) (fun x k hx => False.elim hx)
theorem fe_cCounting_grow (v0 : Int) (v2 : Int) (v4 : Int) (h : Hp) : Feo (wI_cCounting_grow v0 v2 v4 h) (wJ_cCounting_grow v0 v2 v4 h) h Prod.snd (f_cCounting_grow v0 v2 v4 h) := by
  unfold f_cCounting_grow
  refine fe_v (fun y1 => ?_)
  refine fe_v (fun y2 => ?_)
  refine fe_v (fun y3 => ?_)
  refine fe_v (fun y4 => ?_)
  refine fe_it ?_ ?_
  · exact fe_j Fe.rf (fe_cCounting_grow_b65 _ _ _ _ _) (fun x k hx => False.elim hx) (fun x k hx => False.elim hx)
  · refine fe_it ?_ ?_
    · exact fe_j Fe.rf (fe_cCounting_grow_b65 _ _ _ _ _) (fun x k hx => False.elim hx) (fun x k hx => False.elim hx)
    · refine fe_v (fun y5 => ?_)
      exact fe_j Fe.rf (fe_cCounting_grow_b91 _ _ _) (fun x k hx => False.elim hx) (fun x k hx => False.elim hx)
def wI_cRanges_place_b2 (v0 : Nat) (v1 : Int) (v3 : Int) (h : Hp) (x k : Nat) : Prop := False
def wJ_cRanges_place_b2 (v0 : Nat) (v1 : Int) (v3 : Int) (h : Hp) (x k : Nat) : Prop := False
def wI_cRanges_place (v0 : Nat) (v1 : Int) (h : Hp) (x k : Nat) : Prop := False
def wJ_cRanges_place (v0 : Nat) (v1 : Int) (h : Hp) (x k : Nat) : Prop := False
theorem fe_cRanges_place_b2 {k2 : Nat → Int → Int → Hp → Option (Int × Hp)} (hk2 : ∀ (v0 : Nat) (v1 : Int) (v3 : Int) (h : Hp), Feo (wI_cRanges_place_b2 v0 v1 v3 h) (wJ_cRanges_place_b2 v0 v1 v3 h) h Prod.snd (k2 v0 v1 v3 h)) (v0 : Nat) (v1 : Int) (v3 : Int) (h : Hp) : Feo (wI_cRanges_place_b2 v0 v1 v3 h) (wJ_cRanges_place_b2 v0 v1 v3 h) h Prod.snd (f_cRanges_place_b2 k2 v0 v1 v3 h) := by
  unfold f_cRanges_place_b2
  refine fe_it ?_ ?_
  · exact fe_so Fe.rf
  · refine fe_it fe_no ?_
    refine fe_it ?_ fe_no
    refine fe_it ?_ ?_
    · exact fe_so Fe.rf
    · exact fe_j Fe.rf (hk2 _ _ _ _) (fun x k hx => False.elim hx) (fun x k hx => False.elim hx)
theorem fe_cRanges_place_b2_lp (n : Nat) : ∀ (v0 : Nat) (v1 : Int) (v3 : Int) (h : Hp), Feo (wI_cRanges_place_b2 v0 v1 v3 h) (wJ_cRanges_place_b2 v0 v1 v3 h) h Prod.snd (f_cRanges_place_b2_lp n v0 v1 v3 h) := by
  induction n with
  | zero => intro v0 v1 v3 h; exact fe_no
  | succ n ih => intro v0 v1 v3 h; exact fe_cRanges_place_b2 ih v0 v1 v3 h
theorem fe_cRanges_place (v0 : Nat) (v1 : Int) (h : Hp) : Feo (wI_cRanges_place v0 v1 h) (wJ_cRanges_place v0 v1 h) h Prod.snd (f_cRanges_place v0 v1 h) := by
  unfold f_cRanges_place
  exact fe_j Fe.rf (fe_cRanges_place_b2_lp FU _ _ _ _) (fun x k hx => False.elim hx) (fun x k hx => False.elim hx)
def wI_cRanges_has_b34 (v0 : Nat) (h : Hp) (x k : Nat) : Prop := False
def wJ_cRanges_has_b34 (v0 : Nat) (h : Hp) (x k : Nat) : Prop := False
def wI_cRanges_has (v0 : Nat) (v1 : Int) (h : Hp) (x k : Nat) : Prop := False
def wJ_cRanges_has (v0 : Nat) (v1 : Int) (h : Hp) (x k : Nat) : Prop := False
theorem fe_cRanges_has_b34 (v0 : Nat) (h : Hp) : Feo (wI_cRanges_has_b34 v0 h) (wJ_cRanges_has_b34 v0 h) h Prod.snd (f_cRanges_has_b34 v0 h) := by
  unfold f_cRanges_has_b34
  exact fe_so Fe.rf
theorem fe_cRanges_has (v0 : Nat) (v1 : Int) (h : Hp) : Feo (wI_cRanges_has v0 v1 h) (wJ_cRanges_has v0 v1 h) h Prod.snd (f_cRanges_has v0 v1 h) := by
  unfold f_cRanges_has
  refine fe_b2 Fe.rf (fe_cRanges_place _ _ _) (fun x k hx => False.elim hx) (fun x k hx => False.elim hx) (fun r3 h1 F1 => ?_)
  refine fe_it ?_ ?_
  · exact fe_j F1 (fe_cRanges_has_b34 _ _) (fun x k hx => False.elim hx) (fun x k hx => False.elim hx)
  · refine fe_it ?_ ?_
    · exact fe_so F1
    · refine fe_it fe_no ?_
      refine fe_it ?_ fe_no
      refine fe_it ?_ ?_
      · exact fe_so F1
      · exact fe_j F1 (fe_cRanges_has_b34 _ _) (fun x k hx => False.elim hx) (fun x k hx => False.elim hx)
def wI_cGuard_begin_b44 (v0 : Nat) (v1 : Nat) (v2 : Int) (v4 : Int) (v5 : Int) (s0 : Nat) (s1 : Int) (s2 : Int) (s3 : Int) (h : Hp) (x k : Nat) : Prop := x = (hR h v1 4) ∨ x = hR h (hR h v1 1) 0 ∨ x = s0
def wJ_cGuard_begin_b44 (v0 : Nat) (v1 : Nat) (v2 : Int) (v4 : Int) (v5 : Int) (s0 : Nat) (s1 : Int) (s2 : Int) (s3 : Int) (h : Hp) (x k : Nat) : Prop := False
def wI_cGuard_begin_b3 (v0 : Nat) (v1 : Nat) (v2 : Int) (v4 : Int) (v5 : Int) (h : Hp) (x k : Nat) : Prop := x = (hR h v1 4) ∨ x = hR h (hR h v1 1) 0
def wJ_cGuard_begin_b3 (v0 : Nat) (v1 : Nat) (v2 : Int) (v4 : Int) (v5 : Int) (h : Hp) (x k : Nat) : Prop := False
def wI_cGuard_begin (v0 : Nat) (v1 : Nat) (v2 : Int) (v4 : Int) (h : Hp) (x k : Nat) : Prop := x = (hR h v1 4) ∨ x = hR h (hR h v1 1) 0
def wJ_cGuard_begin (v0 : Nat) (v1 : Nat) (v2 : Int) (v4 : Int) (h : Hp) (x k : Nat) : Prop := False
theorem fe_cGuard_begin_b44 {k3 : Nat → Nat → Int → Int → Int → Hp → Option (Hp)} (hk3 : ∀ (v0 : Nat) (v1 : Nat) (v2 : Int) (v4 : Int) (v5 : Int) (h : Hp), Feo (wI_cGuard_begin_b3 v0 v1 v2 v4 v5 h) (wJ_cGuard_begin_b3 v0 v1 v2 v4 v5 h) h id (k3 v0 v1 v2 v4 v5 h)) (v0 : Nat) (v1 : Nat) (v2 : Int) (v4 : Int) (v5 : Int) (s0 : Nat) (s1 : Int) (s2 : Int) (s3 : Int) (h : Hp) : Feo (wI_cGuard_begin_b44 v0 v1 v2 v4 v5 s0 s1 s2 s3 h) (wJ_cGuard_begin_b44 v0 v1 v2 v4 v5 s0 s1 s2 s3 h) h id (f_cGuard_begin_b44 k3 v0 v1 v2 v4 v5 s0 s1 s2 s3 h) := by
  unfold f_cGuard_begin_b44
  refine fe_it fe_no ?_
  refine fe_it ?_ fe_no
  refine fe_I Fe.rf (Or.inr (Or.inr (rfl))) (fun h10 F1 => ?_)
  exact fe_j F1 (hk3 _ _ _ _ _ _) (fun x k hx => by simp only [wI_cGuard_begin_b3, F1.r] at hx; rcases hx with e | e <;> first | exact Or.inl (e) | exact Or.inr (Or.inl (e))) (fun x k hx => False.elim hx)
theorem fe_cGuard_begin_b3 {k3 : Nat → Nat → Int → Int → Int → Hp → Option (Hp)} (hk3 : ∀ (v0 : Nat) (v1 : Nat) (v2 : Int) (v4 : Int) (v5 : Int) (h : Hp), Feo (wI_cGuard_begin_b3 v0 v1 v2 v4 v5 h) (wJ_cGuard_begin_b3 v0 v1 v2 v4 v5 h) h id (k3 v0 v1 v2 v4 v5 h)) (v0 : Nat) (v1 : Nat) (v2 : Int) (v4 : Int) (v5 : Int) (h : Hp) : Feo (wI_cGuard_begin_b3 v0 v1 v2 v4 v5 h) (wJ_cGuard_begin_b3 v0 v1 v2 v4 v5 h) h id (f_cGuard_begin_b3 k3 v0 v1 v2 v4 v5 h) := by
  unfold f_cGuard_begin_b3
  refine fe_it ?_ ?_
  · refine fe_it fe_no ?_
    refine fe_it fe_no ?_
    refine fe_b1 Fe.rf (fe_cKeystream_begin _ _ _ _ _ _) (fun x k hx => by simp only [wI_cKeystream_begin] at hx; have e := hx; exact Or.inr (e)) (fun x k hx => False.elim hx) (fun h3 F1 => ?_)
    exact fe_so F1
  · refine fe_it fe_no ?_
    refine fe_it fe_no ?_
    refine fe_it ?_ fe_no
    refine fe_it ?_ ?_
    · exact fe_j Fe.rf (fe_cGuard_begin_b44 hk3 _ _ _ _ _ _ _ _ _ _) (fun x k hx => by simp only [wI_cGuard_begin_b44] at hx; rcases hx with e | e | e <;> first | exact Or.inl (e) | exact Or.inr (e)) (fun x k hx => False.elim hx)
    · exact fe_j Fe.rf (fe_cGuard_begin_b44 hk3 _ _ _ _ _ _ _ _ _ _) (fun x k hx => by simp only [wI_cGuard_begin_b44] at hx; rcases hx with e | e | e <;> first | exact Or.inl (e) | exact Or.inr (e)) (fun x k hx => False.elim hx)
theorem fe_cGuard_begin_b3_lp (n : Nat) : ∀ (v0 : Nat) (v1 : Nat) (v2 : Int) (v4 : Int) (v5 : Int) (h : Hp), Feo (wI_cGuard_begin_b3 v0 v1 v2 v4 v5 h) (wJ_cGuard_begin_b3 v0 v1 v2 v4 v5 h) h id (f_cGuard_begin_b3_lp n v0 v1 v2 v4 v5 h) := by
  induction n with
  | zero => intro v0 v1 v2 v4 v5 h; exact fe_no
  | succ n ih => intro v0 v1 v2 v4 v5 h; exact fe_cGuard_begin_b3 ih v0 v1 v2 v4 v5 h
theorem fe_cGuard_begin (v0 : Nat) (v1 : Nat) (v2 : Int) (v4 : Int) (h : Hp) : Feo (wI_cGuard_begin v0 v1 v2 v4 h) (wJ_cGuard_begin v0 v1 v2 v4 h) h id (f_cGuard_begin v0 v1 v2 v4 h) := by
  unfold f_cGuard_begin
  exact fe_j Fe.rf (fe_cGuard_begin_b3_lp FU _ _ _ _ _ _) (fun x k hx => by simp only [wI_cGuard_begin_b3] at hx; rcases hx with e | e <;> first | exact Or.inl (e) | exact Or.inr (e)) (fun x k hx => False.elim hx)
def wI_cTally_eight (v0 : Nat) (v1 : Int) (h : Hp) (x k : Nat) : Prop := False
def wJ_cTally_eight (v0 : Nat) (v1 : Int) (h : Hp) (x k : Nat) : Prop := False
theorem fe_cTally_eight (v0 : Nat) (v1 : Int) (h : Hp) : Feo (wI_cTally_eight v0 v1 h) (wJ_cTally_eight v0 v1 h) h Prod.snd (f_cTally_eight v0 v1 h) := by
  unfold f_cTally_eight
  refine fe_b2 Fe.rf (fe_cP_word _ _ _) (fun x k hx => False.elim hx) (fun x k hx => False.elim hx) (fun r3 h1 F1 => ?_)
  refine fe_b2 F1 (fe_cP_word _ _ _) (fun x k hx => False.elim hx) (fun x k hx => False.elim hx) (fun r6 h4 F2 => ?_)
  exact fe_so F2
def wI_cTally_split (v0 : Int) (v2 : Int) (v4 : Nat) (h : Hp) (x k : Nat) : Prop := False
def wJ_cTally_split (v0 : Int) (v2 : Int) (v4 : Nat) (h : Hp) (x k : Nat) : Prop := x = v4
theorem fe_cTally_split (v0 : Int) (v2 : Int) (v4 : Nat) (h : Hp) : Feo (wI_cTally_split v0 v2 v4 h) (wJ_cTally_split v0 v2 v4 h) h id (f_cTally_split v0 v2 v4 h) := by
  unfold f_cTally_split
  refine fe_it fe_no ?_
  refine fe_it ?_ fe_no
  refine fe_J Fe.rf (rfl) (fun h3 F1 => ?_)
  refine fe_it ?_ fe_no
  refine fe_J F1 (rfl) (fun h5 F2 => ?_)
  refine fe_it ?_ fe_no
  refine fe_J F2 (rfl) (fun h7 F3 => ?_)
  refine fe_it ?_ fe_no
  refine fe_J F3 (rfl) (fun h9 F4 => ?_)
  refine fe_it ?_ fe_no
  refine fe_J F4 (rfl) (fun h11 F5 => ?_)
  exact fe_so F5
def wI_cTally_begin_b35 (v0 : Nat) (v1 : Nat) (v6 : Int) (h : Hp) (x k : Nat) : Prop := (x = v0 ∧ k = 4)
def wJ_cTally_begin_b35 (v0 : Nat) (v1 : Nat) (v6 : Int) (h : Hp) (x k : Nat) : Prop := x = hR h v0 0 ∨ (x = v0 ∧ k = 5) ∨ (x = v0 ∧ k = 6)
def wI_cTally_begin (v0 : Nat) (v1 : Nat) (h : Hp) (x k : Nat) : Prop := (x = v0 ∧ k = 4)
def wJ_cTally_begin (v0 : Nat) (v1 : Nat) (h : Hp) (x k : Nat) : Prop := x = (hR h v0 1) ∨ x = hR h v0 0 ∨ (x = v0 ∧ k = 5) ∨ (x = v0 ∧ k = 6)
theorem fe_cTally_begin_b35 {k35 : Nat → Nat → Int → Hp → Option (Hp)} (hk35 : ∀ (v0 : Nat) (v1 : Nat) (v6 : Int) (h : Hp), Feo (wI_cTally_begin_b35 v0 v1 v6 h) (wJ_cTally_begin_b35 v0 v1 v6 h) h id (k35 v0 v1 v6 h)) (v0 : Nat) (v1 : Nat) (v6 : Int) (h : Hp) : Feo (wI_cTally_begin_b35 v0 v1 v6 h) (wJ_cTally_begin_b35 v0 v1 v6 h) h id (f_cTally_begin_b35 k35 v0 v1 v6 h) := by
  unfold f_cTally_begin_b35
  refine fe_it ?_ ?_
  · refine fe_b2 Fe.rf (fe_cTally_eight _ _ _) (fun x k hx => False.elim hx) (fun x k hx => False.elim hx) (fun r13 h11 F1 => ?_)
    refine fe_J F1 (Or.inr (Or.inl (⟨rfl, rfl⟩))) (fun h14 F2 => ?_)
    refine fe_b2 F2 (fe_cTally_eight _ _ _) (fun x k hx => False.elim hx) (fun x k hx => False.elim hx) (fun r17 h15 F3 => ?_)
    refine fe_J F3 (Or.inr (Or.inr (⟨rfl, rfl⟩))) (fun h18 F4 => ?_)
    refine fe_I F4 (⟨rfl, rfl⟩) (fun h19 F5 => ?_)
    exact fe_so F5
  · refine fe_it fe_no ?_
    refine fe_it ?_ fe_no
    refine fe_J Fe.rf (Or.inl (rfl)) (fun h22 F6 => ?_)
    exact fe_j F6 (hk35 _ _ _ _) (fun x k hx => by simp only [wI_cTally_begin_b35, F6.r] at hx; have e := hx; exact e) (fun x k hx => by simp only [wJ_cTally_begin_b35, F6.r] at hx; rcases hx with e | e | e <;> first | exact Or.inl (e) | exact Or.inr (Or.inl (e)) | exact Or.inr (Or.inr (e)))
theorem fe_cTally_begin_b35_lp (n : Nat) : ∀ (v0 : Nat) (v1 : Nat) (v6 : Int) (h : Hp), Feo (wI_cTally_begin_b35 v0 v1 v6 h) (wJ_cTally_begin_b35 v0 v1 v6 h) h id (f_cTally_begin_b35_lp n v0 v1 v6 h) := by
  induction n with
  | zero => intro v0 v1 v6 h; exact fe_no
  | succ n ih => intro v0 v1 v6 h; exact fe_cTally_begin_b35 ih v0 v1 v6 h
theorem fe_cTally_begin (v0 : Nat) (v1 : Nat) (h : Hp) : Feo (wI_cTally_begin v0 v1 h) (wJ_cTally_begin v0 v1 h) h id (f_cTally_begin v0 v1 h) := by
  unfold f_cTally_begin
  refine fe_b2 Fe.rf (fe_cTally_eight _ _ _) (fun x k hx => False.elim hx) (fun x k hx => False.elim hx) (fun r3 h1 F1 => ?_)
  refine fe_v (fun y4 => ?_)
  refine fe_b2 F1 (fe_cTally_eight _ _ _) (fun x k hx => False.elim hx) (fun x k hx => False.elim hx) (fun r7 h5 F2 => ?_)
  refine fe_v (fun y8 => ?_)
  refine fe_b1 F2 (fe_cTally_split _ _ _ _) (fun x k hx => False.elim hx) (fun x k hx => by simp only [wJ_cTally_split, F1.r, F2.r] at hx; have e := hx; exact Or.inl (e)) (fun h9 F3 => ?_)
  exact fe_j F3 (fe_cTally_begin_b35_lp FU _ _ _ _) (fun x k hx => by simp only [wI_cTally_begin_b35, F1.r, F2.r, F3.r] at hx; have e := hx; exact e) (fun x k hx => by simp only [wJ_cTally_begin_b35, F1.r, F2.r, F3.r] at hx; rcases hx with e | e | e <;> first | exact Or.inr (Or.inl (e)) | exact Or.inr (Or.inr (Or.inl (e))) | exact Or.inr (Or.inr (Or.inr (e))))
def wI_cTally_carry_b2 (v0 : Nat) (v1 : Int) (h : Hp) (x k : Nat) : Prop := False
def wJ_cTally_carry_b2 (v0 : Nat) (v1 : Int) (h : Hp) (x k : Nat) : Prop := x = hR h v0 0
def wI_cTally_carry (v0 : Nat) (h : Hp) (x k : Nat) : Prop := False
def wJ_cTally_carry (v0 : Nat) (h : Hp) (x k : Nat) : Prop := x = hR h v0 0
theorem fe_cTally_carry_b2 {k2 : Nat → Int → Hp → Option (Hp)} (hk2 : ∀ (v0 : Nat) (v1 : Int) (h : Hp), Feo (wI_cTally_carry_b2 v0 v1 h) (wJ_cTally_carry_b2 v0 v1 h) h id (k2 v0 v1 h)) (v0 : Nat) (v1 : Int) (h : Hp) : Feo (wI_cTally_carry_b2 v0 v1 h) (wJ_cTally_carry_b2 v0 v1 h) h id (f_cTally_carry_b2 k2 v0 v1 h) := by
  unfold f_cTally_carry_b2
  refine fe_it ?_ ?_
  · refine fe_it fe_no ?_
    refine fe_it ?_ fe_no
    refine fe_it ?_ fe_no
    refine fe_it ?_ fe_no
    refine fe_J Fe.rf (rfl) (fun h5 F1 => ?_)
    refine fe_it fe_no ?_
    refine fe_it ?_ fe_no
    refine fe_it ?_ fe_no
    refine fe_J F1 ((by first | (simp only [F1.r]; exact rfl) | simp only [F1.r])) (fun h9 F2 => ?_)
    exact fe_so F2
  · refine fe_it fe_no ?_
    refine fe_it ?_ fe_no
    refine fe_it ?_ fe_no
    refine fe_it ?_ fe_no
    refine fe_J Fe.rf (rfl) (fun h14 F3 => ?_)
    refine fe_it fe_no ?_
    refine fe_it ?_ fe_no
    refine fe_it ?_ fe_no
    refine fe_J F3 ((by first | (simp only [F3.r]; exact rfl) | simp only [F3.r])) (fun h18 F4 => ?_)
    exact fe_j F4 (hk2 _ _ _) (fun x k hx => False.elim hx) (fun x k hx => by simp only [wJ_cTally_carry_b2, F3.r, F4.r] at hx; have e := hx; exact e)
theorem fe_cTally_carry_b2_lp (n : Nat) : ∀ (v0 : Nat) (v1 : Int) (h : Hp), Feo (wI_cTally_carry_b2 v0 v1 h) (wJ_cTally_carry_b2 v0 v1 h) h id (f_cTally_carry_b2_lp n v0 v1 h) := by
  induction n with
  | zero => intro v0 v1 h; exact fe_no
  | succ n ih => intro v0 v1 h; exact fe_cTally_carry_b2 ih v0 v1 h
theorem fe_cTally_carry (v0 : Nat) (h : Hp) : Feo (wI_cTally_carry v0 h) (wJ_cTally_carry v0 h) h id (f_cTally_carry v0 h) := by
  unfold f_cTally_carry
  exact fe_j Fe.rf (fe_cTally_carry_b2_lp FU _ _ _) (fun x k hx => False.elim hx) (fun x k hx => by simp only [wJ_cTally_carry_b2] at hx; have e := hx; exact e)
def wI_cTally_take_b132 (v0 : Nat) (v3 : Int) (v4 : Int) (s0 : Nat) (s1 : Int) (s2 : Int) (s3 : Int) (s4 : Int) (h : Hp) (x k : Nat) : Prop := (x = v0 ∧ k = 4)
def wJ_cTally_take_b132 (v0 : Nat) (v3 : Int) (v4 : Int) (s0 : Nat) (s1 : Int) (s2 : Int) (s3 : Int) (s4 : Int) (h : Hp) (x k : Nat) : Prop := x = (hR h v0 2) ∨ x = hR h v0 0 ∨ x = hR h v0 2 ∨ x = s0
def wI_cTally_take_b79 (v0 : Nat) (v3 : Int) (v4 : Int) (h : Hp) (x k : Nat) : Prop := (x = v0 ∧ k = 4)
def wJ_cTally_take_b79 (v0 : Nat) (v3 : Int) (v4 : Int) (h : Hp) (x k : Nat) : Prop := x = (hR h v0 2) ∨ x = hR h v0 0 ∨ x = hR h v0 2
def wI_cTally_take_b64 (v0 : Nat) (v3 : Int) (h : Hp) (x k : Nat) : Prop := (x = v0 ∧ k = 4)
def wJ_cTally_take_b64 (v0 : Nat) (v3 : Int) (h : Hp) (x k : Nat) : Prop := x = (hR h v0 2) ∨ x = hR h v0 0 ∨ x = hR h v0 2
def wI_cTally_take_b26 (v0 : Nat) (v1 : Int) (v3 : Int) (h : Hp) (x k : Nat) : Prop := (x = v0 ∧ k = 4)
def wJ_cTally_take_b26 (v0 : Nat) (v1 : Int) (v3 : Int) (h : Hp) (x k : Nat) : Prop := x = (hR h v0 2) ∨ x = hR h v0 0 ∨ x = hR h v0 2
def wI_cTally_take (v0 : Nat) (v1 : Int) (h : Hp) (x k : Nat) : Prop := (x = v0 ∧ k = 4)
def wJ_cTally_take (v0 : Nat) (v1 : Int) (h : Hp) (x k : Nat) : Prop := x = (hR h v0 2) ∨ x = hR h v0 0 ∨ x = hR h v0 2
theorem fe_cTally_take_b132 {k64 : Nat → Int → Hp → Option (Hp)} (hk64 : ∀ (v0 : Nat) (v3 : Int) (h : Hp), Feo (wI_cTally_take_b64 v0 v3 h) (wJ_cTally_take_b64 v0 v3 h) h id (k64 v0 v3 h)) {k79 : Nat → Int → Int → Hp → Option (Hp)} (hk79 : ∀ (v0 : Nat) (v3 : Int) (v4 : Int) (h : Hp), Feo (wI_cTally_take_b79 v0 v3 v4 h) (wJ_cTally_take_b79 v0 v3 v4 h) h id (k79 v0 v3 v4 h)) (v0 : Nat) (v3 : Int) (v4 : Int) (s0 : Nat) (s1 : Int) (s2 : Int) (s3 : Int) (s4 : Int) (h : Hp) : Feo (wI_cTally_take_b132 v0 v3 v4 s0 s1 s2 s3 s4 h) (wJ_cTally_take_b132 v0 v3 v4 s0 s1 s2 s3 s4 h) h id (f_cTally_take_b132 k64 k79 v0 v3 v4 s0 s1 s2 s3 s4 h) := by
  unfold f_cTally_take_b132
  refine fe_it fe_no ?_
  refine fe_it ?_ fe_no
  refine fe_J Fe.rf (Or.inr (Or.inr (Or.inr (rfl)))) (fun h41 F1 => ?_)
  exact fe_j F1 (hk79 _ _ _ _) (fun x k hx => by simp only [wI_cTally_take_b79, F1.r] at hx; have e := hx; exact e) (fun x k hx => by simp only [wJ_cTally_take_b79, F1.r] at hx; rcases hx with e | e | e <;> first | exact Or.inl (e) | exact Or.inr (Or.inl (e)) | exact Or.inr (Or.inr (Or.inl (e))))
theorem fe_cTally_take_b79 {k64 : Nat → Int → Hp → Option (Hp)} (hk64 : ∀ (v0 : Nat) (v3 : Int) (h : Hp), Feo (wI_cTally_take_b64 v0 v3 h) (wJ_cTally_take_b64 v0 v3 h) h id (k64 v0 v3 h)) {k79 : Nat → Int → Int → Hp → Option (Hp)} (hk79 : ∀ (v0 : Nat) (v3 : Int) (v4 : Int) (h : Hp), Feo (wI_cTally_take_b79 v0 v3 v4 h) (wJ_cTally_take_b79 v0 v3 v4 h) h id (k79 v0 v3 v4 h)) (v0 : Nat) (v3 : Int) (v4 : Int) (h : Hp) : Feo (wI_cTally_take_b79 v0 v3 v4 h) (wJ_cTally_take_b79 v0 v3 v4 h) h id (f_cTally_take_b79 k64 k79 v0 v3 v4 h) := by
  unfold f_cTally_take_b79
  refine fe_it ?_ ?_
  · exact fe_j Fe.rf (hk64 _ _ _) (fun x k hx => by simp only [wI_cTally_take_b64] at hx; have e := hx; exact e) (fun x k hx => by simp only [wJ_cTally_take_b64] at hx; rcases hx with e | e | e <;> first | exact Or.inl (e) | exact Or.inr (Or.inl (e)) | exact Or.inr (Or.inr (e)))
  · refine fe_it fe_no ?_
    refine fe_it ?_ fe_no
    refine fe_it fe_no ?_
    refine fe_it ?_ fe_no
    refine fe_it ?_ ?_
    · refine fe_it fe_no ?_
      refine fe_it ?_ fe_no
      exact fe_j Fe.rf (fe_cTally_take_b132 hk64 hk79 _ _ _ _ _ _ _ _ _) (fun x k hx => by simp only [wI_cTally_take_b132] at hx; have e := hx; exact e) (fun x k hx => by simp only [wJ_cTally_take_b132] at hx; rcases hx with e | e | e | e <;> first | exact Or.inl (e) | exact Or.inr (Or.inl (e)) | exact Or.inr (Or.inr (e)))
    · refine fe_it fe_no ?_
      refine fe_it ?_ fe_no
      exact fe_j Fe.rf (fe_cTally_take_b132 hk64 hk79 _ _ _ _ _ _ _ _ _) (fun x k hx => by simp only [wI_cTally_take_b132] at hx; have e := hx; exact e) (fun x k hx => by simp only [wJ_cTally_take_b132] at hx; rcases hx with e | e | e | e <;> first | exact Or.inl (e) | exact Or.inr (Or.inl (e)) | exact Or.inr (Or.inr (e)))
theorem fe_cTally_take_b79_lp {k64 : Nat → Int → Hp → Option (Hp)} (hk64 : ∀ (v0 : Nat) (v3 : Int) (h : Hp), Feo (wI_cTally_take_b64 v0 v3 h) (wJ_cTally_take_b64 v0 v3 h) h id (k64 v0 v3 h)) (n : Nat) : ∀ (v0 : Nat) (v3 : Int) (v4 : Int) (h : Hp), Feo (wI_cTally_take_b79 v0 v3 v4 h) (wJ_cTally_take_b79 v0 v3 v4 h) h id (f_cTally_take_b79_lp k64 n v0 v3 v4 h) := by
  induction n with
  | zero => intro v0 v3 v4 h; exact fe_no
  | succ n ih => intro v0 v3 v4 h; exact fe_cTally_take_b79 hk64 ih v0 v3 v4 h
theorem fe_cTally_take_b64 {k64 : Nat → Int → Hp → Option (Hp)} (hk64 : ∀ (v0 : Nat) (v3 : Int) (h : Hp), Feo (wI_cTally_take_b64 v0 v3 h) (wJ_cTally_take_b64 v0 v3 h) h id (k64 v0 v3 h)) (v0 : Nat) (v3 : Int) (h : Hp) : Feo (wI_cTally_take_b64 v0 v3 h) (wJ_cTally_take_b64 v0 v3 h) h id (f_cTally_take_b64 k64 v0 v3 h) := by
  unfold f_cTally_take_b64
  refine fe_it ?_ ?_
  · refine fe_it fe_no ?_
    refine fe_it fe_no ?_
    refine fe_it ?_ fe_no
    refine fe_cJ Fe.rf (fun y => Or.inr (Or.inl (rfl))) (fun h22 F1 => ?_)
    refine fe_b1 F1 (fe_cTally_carry _ _) (fun x k hx => False.elim hx) (fun x k hx => by simp only [wJ_cTally_carry, F1.r] at hx; have e := hx; exact Or.inr (Or.inl (e))) (fun h23 F2 => ?_)
    refine fe_b1 F2 (fe_cTally_carry _ _) (fun x k hx => False.elim hx) (fun x k hx => by simp only [wJ_cTally_carry, F1.r, F2.r] at hx; have e := hx; exact Or.inr (Or.inl (e))) (fun h25 F3 => ?_)
    refine fe_I F3 (⟨rfl, rfl⟩) (fun h27 F4 => ?_)
    exact fe_so F4
  · refine fe_it fe_no ?_
    refine fe_it ?_ fe_no
    refine fe_J Fe.rf (Or.inr (Or.inr (rfl))) (fun h30 F5 => ?_)
    exact fe_j F5 (fe_cTally_take_b79_lp hk64 FU _ _ _ _) (fun x k hx => by simp only [wI_cTally_take_b79, F5.r] at hx; have e := hx; exact e) (fun x k hx => by simp only [wJ_cTally_take_b79, F5.r] at hx; rcases hx with e | e | e <;> first | exact Or.inl (e) | exact Or.inr (Or.inl (e)) | exact Or.inr (Or.inr (e)))
theorem fe_cTally_take_b64_lp (n : Nat) : ∀ (v0 : Nat) (v3 : Int) (h : Hp), Feo (wI_cTally_take_b64 v0 v3 h) (wJ_cTally_take_b64 v0 v3 h) h id (f_cTally_take_b64_lp n v0 v3 h) := by
  induction n with
  | zero => intro v0 v3 h; exact fe_no
  | succ n ih => intro v0 v3 h; exact fe_cTally_take_b64 ih v0 v3 h
theorem fe_cTally_take_b26 {k26 : Nat → Int → Int → Hp → Option (Hp)} (hk26 : ∀ (v0 : Nat) (v1 : Int) (v3 : Int) (h : Hp), Feo (wI_cTally_take_b26 v0 v1 v3 h) (wJ_cTally_take_b26 v0 v1 v3 h) h id (k26 v0 v1 v3 h)) (v0 : Nat) (v1 : Int) (v3 : Int) (h : Hp) : Feo (wI_cTally_take_b26 v0 v1 v3 h) (wJ_cTally_take_b26 v0 v1 v3 h) h id (f_cTally_take_b26 k26 v0 v1 v3 h) := by
  unfold f_cTally_take_b26
  refine fe_it ?_ ?_
  · refine fe_it fe_no ?_
    refine fe_it ?_ fe_no
    refine fe_it ?_ fe_no
    refine fe_J Fe.rf (Or.inr (Or.inl (rfl))) (fun h12 F1 => ?_)
    exact fe_j F1 (fe_cTally_take_b64_lp FU _ _ _) (fun x k hx => by simp only [wI_cTally_take_b64, F1.r] at hx; have e := hx; exact e) (fun x k hx => by simp only [wJ_cTally_take_b64, F1.r] at hx; rcases hx with e | e | e <;> first | exact Or.inl (e) | exact Or.inr (Or.inl (e)) | exact Or.inr (Or.inr (e)))
  · refine fe_it fe_no ?_
    refine fe_it ?_ fe_no
    refine fe_it fe_no ?_
    refine fe_it ?_ fe_no
    refine fe_it ?_ fe_no
    refine fe_J Fe.rf (Or.inr (Or.inl (rfl))) (fun h18 F2 => ?_)
    exact fe_j F2 (hk26 _ _ _ _) (fun x k hx => by simp only [wI_cTally_take_b26, F2.r] at hx; have e := hx; exact e) (fun x k hx => by simp only [wJ_cTally_take_b26, F2.r] at hx; rcases hx with e | e | e <;> first | exact Or.inl (e) | exact Or.inr (Or.inl (e)) | exact Or.inr (Or.inr (e)))
theorem fe_cTally_take_b26_lp (n : Nat) : ∀ (v0 : Nat) (v1 : Int) (v3 : Int) (h : Hp), Feo (wI_cTally_take_b26 v0 v1 v3 h) (wJ_cTally_take_b26 v0 v1 v3 h) h id (f_cTally_take_b26_lp n v0 v1 v3 h) := by
  induction n with
  | zero => intro v0 v1 v3 h; exact fe_no
  | succ n ih => intro v0 v1 v3 h; exact fe_cTally_take_b26 ih v0 v1 v3 h
theorem fe_cTally_take (v0 : Nat) (v1 : Int) (h : Hp) : Feo (wI_cTally_take v0 v1 h) (wJ_cTally_take v0 v1 h) h id (f_cTally_take v0 v1 h) := by
  unfold f_cTally_take
  refine fe_b2 Fe.rf (fe_cTally_eight _ _ _) (fun x k hx => False.elim hx) (fun x k hx => False.elim hx) (fun r3 h1 F1 => ?_)
  refine fe_b2 F1 (fe_cTally_eight _ _ _) (fun x k hx => False.elim hx) (fun x k hx => False.elim hx) (fun r6 h4 F2 => ?_)
  refine fe_b1 F2 (fe_cTally_split _ _ _ _) (fun x k hx => False.elim hx) (fun x k hx => by simp only [wJ_cTally_split, F1.r, F2.r] at hx; have e := hx; exact Or.inl (e)) (fun h7 F3 => ?_)
  exact fe_j F3 (fe_cTally_take_b26_lp FU _ _ _ _) (fun x k hx => by simp only [wI_cTally_take_b26, F1.r, F2.r, F3.r] at hx; have e := hx; exact e) (fun x k hx => by simp only [wJ_cTally_take_b26, F1.r, F2.r, F3.r] at hx; rcases hx with e | e | e <;> first | exact Or.inl (e) | exact Or.inr (Or.inl (e)) | exact Or.inr (Or.inr (e)))
def wI_cTally_add_b50 (v0 : Nat) (v1 : Nat) (v2 : Int) (v3 : Int) (v4 : Int) (h : Hp) (x k : Nat) : Prop := x = hR h v0 3 ∨ (x = v0 ∧ k = 4)
def wJ_cTally_add_b50 (v0 : Nat) (v1 : Nat) (v2 : Int) (v3 : Int) (v4 : Int) (h : Hp) (x k : Nat) : Prop := x = (hR h v0 2) ∨ x = hR h v0 0 ∨ x = hR h v0 2
def wI_cTally_add_b3 (v0 : Nat) (v1 : Nat) (v2 : Int) (v3 : Int) (v4 : Int) (h : Hp) (x k : Nat) : Prop := x = hR h v0 3 ∨ (x = v0 ∧ k = 4)
def wJ_cTally_add_b3 (v0 : Nat) (v1 : Nat) (v2 : Int) (v3 : Int) (v4 : Int) (h : Hp) (x k : Nat) : Prop := x = (hR h v0 2) ∨ x = hR h v0 0 ∨ x = hR h v0 2
def wI_cTally_add (v0 : Nat) (v1 : Nat) (v2 : Int) (v3 : Int) (h : Hp) (x k : Nat) : Prop := x = hR h v0 3 ∨ (x = v0 ∧ k = 4)
def wJ_cTally_add (v0 : Nat) (v1 : Nat) (v2 : Int) (v3 : Int) (h : Hp) (x k : Nat) : Prop := x = (hR h v0 2) ∨ x = hR h v0 0 ∨ x = hR h v0 2
theorem fe_cTally_add_b50 {k3 : Nat → Nat → Int → Int → Int → Hp → Option (Hp)} (hk3 : ∀ (v0 : Nat) (v1 : Nat) (v2 : Int) (v3 : Int) (v4 : Int) (h : Hp), Feo (wI_cTally_add_b3 v0 v1 v2 v3 v4 h) (wJ_cTally_add_b3 v0 v1 v2 v3 v4 h) h id (k3 v0 v1 v2 v3 v4 h)) (v0 : Nat) (v1 : Nat) (v2 : Int) (v3 : Int) (v4 : Int) (h : Hp) : Feo (wI_cTally_add_b50 v0 v1 v2 v3 v4 h) (wJ_cTally_add_b50 v0 v1 v2 v3 v4 h) h id (f_cTally_add_b50 k3 v0 v1 v2 v3 v4 h) := by
  unfold f_cTally_add_b50
  exact fe_j Fe.rf (hk3 _ _ _ _ _ _) (fun x k hx => by simp only [wI_cTally_add_b3] at hx; rcases hx with e | e <;> first | exact Or.inl (e) | exact Or.inr (e)) (fun x k hx => by simp only [wJ_cTally_add_b3] at hx; rcases hx with e | e | e <;> first | exact Or.inl (e) | exact Or.inr (Or.inl (e)) | exact Or.inr (Or.inr (e)))
theorem fe_cTally_add_b3 {k3 : Nat → Nat → Int → Int → Int → Hp → Option (Hp)} (hk3 : ∀ (v0 : Nat) (v1 : Nat) (v2 : Int) (v3 : Int) (v4 : Int) (h : Hp), Feo (wI_cTally_add_b3 v0 v1 v2 v3 v4 h) (wJ_cTally_add_b3 v0 v1 v2 v3 v4 h) h id (k3 v0 v1 v2 v3 v4 h)) (v0 : Nat) (v1 : Nat) (v2 : Int) (v3 : Int) (v4 : Int) (h : Hp) : Feo (wI_cTally_add_b3 v0 v1 v2 v3 v4 h) (wJ_cTally_add_b3 v0 v1 v2 v3 v4 h) h id (f_cTally_add_b3 k3 v0 v1 v2 v3 v4 h) := by
  unfold f_cTally_add_b3
  refine fe_it ?_ ?_
  · exact fe_so Fe.rf
  · refine fe_it fe_no ?_
    refine fe_it ?_ fe_no
    refine fe_it fe_no ?_
    refine fe_it ?_ fe_no
    refine fe_I Fe.rf (Or.inl (rfl)) (fun h5 F1 => ?_)
    refine fe_I F1 (Or.inr (⟨rfl, rfl⟩)) (fun h6 F2 => ?_)
    refine fe_it ?_ ?_
    · exact fe_j F2 (fe_cTally_add_b50 hk3 _ _ _ _ _ _) (fun x k hx => by simp only [wI_cTally_add_b50, F1.r, F2.r] at hx; rcases hx with e | e <;> first | exact Or.inl (e) | exact Or.inr (e)) (fun x k hx => by simp only [wJ_cTally_add_b50, F1.r, F2.r] at hx; rcases hx with e | e | e <;> first | exact Or.inl (e) | exact Or.inr (Or.inl (e)) | exact Or.inr (Or.inr (e)))
    · refine fe_b1 F2 (fe_cTally_take _ _ _) (fun x k hx => by simp only [wI_cTally_take, F1.r, F2.r] at hx; have e := hx; exact Or.inr (e)) (fun x k hx => by simp only [wJ_cTally_take, F1.r, F2.r] at hx; rcases hx with e | e | e <;> first | exact Or.inl (e) | exact Or.inr (Or.inl (e)) | exact Or.inr (Or.inr (e))) (fun h7 F3 => ?_)
      exact fe_j F3 (fe_cTally_add_b50 hk3 _ _ _ _ _ _) (fun x k hx => by simp only [wI_cTally_add_b50, F1.r, F2.r, F3.r] at hx; rcases hx with e | e <;> first | exact Or.inl (e) | exact Or.inr (e)) (fun x k hx => by simp only [wJ_cTally_add_b50, F1.r, F2.r, F3.r] at hx; rcases hx with e | e | e <;> first | exact Or.inl (e) | exact Or.inr (Or.inl (e)) | exact Or.inr (Or.inr (e)))
theorem fe_cTally_add_b3_lp (n : Nat) : ∀ (v0 : Nat) (v1 : Nat) (v2 : Int) (v3 : Int) (v4 : Int) (h : Hp), Feo (wI_cTally_add_b3 v0 v1 v2 v3 v4 h) (wJ_cTally_add_b3 v0 v1 v2 v3 v4 h) h id (f_cTally_add_b3_lp n v0 v1 v2 v3 v4 h) := by
  induction n with
  | zero => intro v0 v1 v2 v3 v4 h; exact fe_no
  | succ n ih => intro v0 v1 v2 v3 v4 h; exact fe_cTally_add_b3 ih v0 v1 v2 v3 v4 h
theorem fe_cTally_add (v0 : Nat) (v1 : Nat) (v2 : Int) (v3 : Int) (h : Hp) : Feo (wI_cTally_add v0 v1 v2 v3 h) (wJ_cTally_add v0 v1 v2 v3 h) h id (f_cTally_add v0 v1 v2 v3 h) := by
  unfold f_cTally_add
  exact fe_j Fe.rf (fe_cTally_add_b3_lp FU _ _ _ _ _ _) (fun x k hx => by simp only [wI_cTally_add_b3] at hx; rcases hx with e | e <;> first | exact Or.inl (e) | exact Or.inr (e)) (fun x k hx => by simp only [wJ_cTally_add_b3] at hx; rcases hx with e | e | e <;> first | exact Or.inl (e) | exact Or.inr (Or.inl (e)) | exact Or.inr (Or.inr (e)))
def wI_cTally_finish_b37 (v0 : Nat) (v1 : Int) (v2 : Int) (v4 : Int) (s0 : Nat) (s1 : Int) (s2 : Int) (h : Hp) (x k : Nat) : Prop := x = (hR h v0 3) ∨ x = s0 ∨ (x = v0 ∧ k = 4)
def wJ_cTally_finish_b37 (v0 : Nat) (v1 : Int) (v2 : Int) (v4 : Int) (s0 : Nat) (s1 : Int) (s2 : Int) (h : Hp) (x k : Nat) : Prop := x = (hR h v0 2) ∨ x = hR h v0 0 ∨ x = hR h v0 2
def wI_cTally_finish_b6 (v0 : Nat) (v1 : Int) (v2 : Int) (v4 : Int) (h : Hp) (x k : Nat) : Prop := x = (hR h v0 3) ∨ (x = v0 ∧ k = 4)
def wJ_cTally_finish_b6 (v0 : Nat) (v1 : Int) (v2 : Int) (v4 : Int) (h : Hp) (x k : Nat) : Prop := x = (hR h v0 2) ∨ x = hR h v0 0 ∨ x = hR h v0 2
def wI_cTally_finish (v0 : Nat) (v1 : Int) (v2 : Int) (h : Hp) (x k : Nat) : Prop := x = (hR h v0 3) ∨ (x = v0 ∧ k = 4)
def wJ_cTally_finish (v0 : Nat) (v1 : Int) (v2 : Int) (h : Hp) (x k : Nat) : Prop := x = (hR h v0 2) ∨ x = hR h v0 0 ∨ x = hR h v0 2
theorem fe_cTally_finish_b37 {k6 : Nat → Int → Int → Int → Hp → Option (Hp)} (hk6 : ∀ (v0 : Nat) (v1 : Int) (v2 : Int) (v4 : Int) (h : Hp), Feo (wI_cTally_finish_b6 v0 v1 v2 v4 h) (wJ_cTally_finish_b6 v0 v1 v2 v4 h) h id (k6 v0 v1 v2 v4 h)) (v0 : Nat) (v1 : Int) (v2 : Int) (v4 : Int) (s0 : Nat) (s1 : Int) (s2 : Int) (h : Hp) : Feo (wI_cTally_finish_b37 v0 v1 v2 v4 s0 s1 s2 h) (wJ_cTally_finish_b37 v0 v1 v2 v4 s0 s1 s2 h) h id (f_cTally_finish_b37 k6 v0 v1 v2 v4 s0 s1 s2 h) := by
  unfold f_cTally_finish_b37
  refine fe_it fe_no ?_
  refine fe_it ?_ fe_no
  refine fe_I Fe.rf (Or.inr (Or.inl (rfl))) (fun h6 F1 => ?_)
  refine fe_I F1 (Or.inr (Or.inr (⟨rfl, rfl⟩))) (fun h7 F2 => ?_)
  exact fe_j F2 (hk6 _ _ _ _ _) (fun x k hx => by simp only [wI_cTally_finish_b6, F1.r, F2.r] at hx; rcases hx with e | e <;> first | exact Or.inl (e) | exact Or.inr (Or.inr (e))) (fun x k hx => by simp only [wJ_cTally_finish_b6, F1.r, F2.r] at hx; rcases hx with e | e | e <;> first | exact Or.inl (e) | exact Or.inr (Or.inl (e)) | exact Or.inr (Or.inr (e)))
theorem fe_cTally_finish_b6 {k6 : Nat → Int → Int → Int → Hp → Option (Hp)} (hk6 : ∀ (v0 : Nat) (v1 : Int) (v2 : Int) (v4 : Int) (h : Hp), Feo (wI_cTally_finish_b6 v0 v1 v2 v4 h) (wJ_cTally_finish_b6 v0 v1 v2 v4 h) h id (k6 v0 v1 v2 v4 h)) (v0 : Nat) (v1 : Int) (v2 : Int) (v4 : Int) (h : Hp) : Feo (wI_cTally_finish_b6 v0 v1 v2 v4 h) (wJ_cTally_finish_b6 v0 v1 v2 v4 h) h id (f_cTally_finish_b6 k6 v0 v1 v2 v4 h) := by
  unfold f_cTally_finish_b6
  refine fe_it ?_ ?_
  · refine fe_b1 Fe.rf (fe_cTally_take _ _ _) (fun x k hx => by simp only [wI_cTally_take] at hx; have e := hx; exact Or.inr (e)) (fun x k hx => by simp only [wJ_cTally_take] at hx; rcases hx with e | e | e <;> first | exact Or.inl (e) | exact Or.inr (Or.inl (e)) | exact Or.inr (Or.inr (e))) (fun h2 F1 => ?_)
    exact fe_so F1
  · refine fe_it ?_ ?_
    · exact fe_j Fe.rf (fe_cTally_finish_b37 hk6 _ _ _ _ _ _ _ _) (fun x k hx => by simp only [wI_cTally_finish_b37] at hx; rcases hx with e | e | e <;> first | exact Or.inl (e) | exact Or.inr (e)) (fun x k hx => by simp only [wJ_cTally_finish_b37] at hx; rcases hx with e | e | e <;> first | exact Or.inl (e) | exact Or.inr (Or.inl (e)) | exact Or.inr (Or.inr (e)))
    · exact fe_j Fe.rf (fe_cTally_finish_b37 hk6 _ _ _ _ _ _ _ _) (fun x k hx => by simp only [wI_cTally_finish_b37] at hx; rcases hx with e | e | e <;> first | exact Or.inl (e) | exact Or.inr (e)) (fun x k hx => by simp only [wJ_cTally_finish_b37] at hx; rcases hx with e | e | e <;> first | exact Or.inl (e) | exact Or.inr (Or.inl (e)) | exact Or.inr (Or.inr (e)))
theorem fe_cTally_finish_b6_lp (n : Nat) : ∀ (v0 : Nat) (v1 : Int) (v2 : Int) (v4 : Int) (h : Hp), Feo (wI_cTally_finish_b6 v0 v1 v2 v4 h) (wJ_cTally_finish_b6 v0 v1 v2 v4 h) h id (f_cTally_finish_b6_lp n v0 v1 v2 v4 h) := by
  induction n with
  | zero => intro v0 v1 v2 v4 h; exact fe_no
  | succ n ih => intro v0 v1 v2 v4 h; exact fe_cTally_finish_b6 ih v0 v1 v2 v4 h
theorem fe_cTally_finish (v0 : Nat) (v1 : Int) (v2 : Int) (h : Hp) : Feo (wI_cTally_finish v0 v1 v2 h) (wJ_cTally_finish v0 v1 v2 h) h id (f_cTally_finish v0 v1 v2 h) := by
  unfold f_cTally_finish
  refine fe_v (fun y1 => ?_)
  exact fe_j Fe.rf (fe_cTally_finish_b6_lp FU _ _ _ _ _) (fun x k hx => by simp only [wI_cTally_finish_b6] at hx; rcases hx with e | e <;> first | exact Or.inl (e) | exact Or.inr (e)) (fun x k hx => by simp only [wJ_cTally_finish_b6] at hx; rcases hx with e | e | e <;> first | exact Or.inl (e) | exact Or.inr (Or.inl (e)) | exact Or.inr (Or.inr (e)))
def wI_cTally_fill (v0 : Nat) (h : Hp) (x k : Nat) : Prop := x = (hR h v0 3) ∨ (x = v0 ∧ k = 4)
def wJ_cTally_fill (v0 : Nat) (h : Hp) (x k : Nat) : Prop := x = (hR h v0 2) ∨ x = hR h v0 0 ∨ x = hR h v0 2
theorem fe_cTally_fill (v0 : Nat) (h : Hp) : Feo (wI_cTally_fill v0 h) (wJ_cTally_fill v0 h) h id (f_cTally_fill v0 h) := by
  unfold f_cTally_fill
  refine fe_it ?_ ?_
  · exact fe_so Fe.rf
  · refine fe_b1 Fe.rf (fe_cTally_finish _ _ _ _) (fun x k hx => by simp only [wI_cTally_finish] at hx; rcases hx with e | e <;> first | exact Or.inl (e) | exact Or.inr (e)) (fun x k hx => by simp only [wJ_cTally_finish] at hx; rcases hx with e | e | e <;> first | exact Or.inl (e) | exact Or.inr (Or.inl (e)) | exact Or.inr (Or.inr (e))) (fun h1 F1 => ?_)
    exact fe_so F1
def wI_cTally_isWhole_b48 (v0 : Nat) (v2 : Int) (s0 : Int) (h : Hp) (x k : Nat) : Prop := False
def wJ_cTally_isWhole_b48 (v0 : Nat) (v2 : Int) (s0 : Int) (h : Hp) (x k : Nat) : Prop := False
def wI_cTally_isWhole_b47 (v0 : Nat) (v2 : Int) (h : Hp) (x k : Nat) : Prop := False
def wJ_cTally_isWhole_b47 (v0 : Nat) (v2 : Int) (h : Hp) (x k : Nat) : Prop := False
def wI_cTally_isWhole_b21 (v0 : Nat) (v1 : Int) (v2 : Int) (h : Hp) (x k : Nat) : Prop := False
def wJ_cTally_isWhole_b21 (v0 : Nat) (v1 : Int) (v2 : Int) (h : Hp) (x k : Nat) : Prop := False
def wI_cTally_isWhole_b18 (v0 : Nat) (s0 : Int) (h : Hp) (x k : Nat) : Prop := False
def wJ_cTally_isWhole_b18 (v0 : Nat) (s0 : Int) (h : Hp) (x k : Nat) : Prop := False
def wI_cTally_isWhole (v0 : Nat) (h : Hp) (x k : Nat) : Prop := False
def wJ_cTally_isWhole (v0 : Nat) (h : Hp) (x k : Nat) : Prop := False
theorem fe_cTally_isWhole_b48 {k21 : Nat → Int → Int → Hp → Option (Int × Hp)} (hk21 : ∀ (v0 : Nat) (v1 : Int) (v2 : Int) (h : Hp), Feo (wI_cTally_isWhole_b21 v0 v1 v2 h) (wJ_cTally_isWhole_b21 v0 v1 v2 h) h Prod.snd (k21 v0 v1 v2 h)) (v0 : Nat) (v2 : Int) (s0 : Int) (h : Hp) : Feo (wI_cTally_isWhole_b48 v0 v2 s0 h) (wJ_cTally_isWhole_b48 v0 v2 s0 h) h Prod.snd (f_cTally_isWhole_b48 k21 v0 v2 s0 h) := by
  unfold f_cTally_isWhole_b48
  exact fe_j Fe.rf (hk21 _ _ _ _) (fun x k hx => False.elim hx) (fun x k hx => False.elim hx)
theorem fe_cTally_isWhole_b47 {k21 : Nat → Int → Int → Hp → Option (Int × Hp)} (hk21 : ∀ (v0 : Nat) (v1 : Int) (v2 : Int) (h : Hp), Feo (wI_cTally_isWhole_b21 v0 v1 v2 h) (wJ_cTally_isWhole_b21 v0 v1 v2 h) h Prod.snd (k21 v0 v1 v2 h)) (v0 : Nat) (v2 : Int) (h : Hp) : Feo (wI_cTally_isWhole_b47 v0 v2 h) (wJ_cTally_isWhole_b47 v0 v2 h) h Prod.snd (f_cTally_isWhole_b47 k21 v0 v2 h) := by
  unfold f_cTally_isWhole_b47
  exact fe_j Fe.rf (fe_cTally_isWhole_b48 hk21 _ _ _ _) (fun x k hx => False.elim hx) (fun x k hx => False.elim hx)
theorem fe_cTally_isWhole_b21 {k21 : Nat → Int → Int → Hp → Option (Int × Hp)} (hk21 : ∀ (v0 : Nat) (v1 : Int) (v2 : Int) (h : Hp), Feo (wI_cTally_isWhole_b21 v0 v1 v2 h) (wJ_cTally_isWhole_b21 v0 v1 v2 h) h Prod.snd (k21 v0 v1 v2 h)) (v0 : Nat) (v1 : Int) (v2 : Int) (h : Hp) : Feo (wI_cTally_isWhole_b21 v0 v1 v2 h) (wJ_cTally_isWhole_b21 v0 v1 v2 h) h Prod.snd (f_cTally_isWhole_b21 k21 v0 v1 v2 h) := by
  unfold f_cTally_isWhole_b21
  refine fe_it ?_ ?_
  · refine fe_it ?_ fe_no
    exact fe_so Fe.rf
  · refine fe_it ?_ ?_
    · exact fe_j Fe.rf (fe_cTally_isWhole_b47 hk21 _ _ _) (fun x k hx => False.elim hx) (fun x k hx => False.elim hx)
    · refine fe_it fe_no ?_
      refine fe_it ?_ fe_no
      refine fe_it ?_ ?_
      · exact fe_j Fe.rf (fe_cTally_isWhole_b47 hk21 _ _ _) (fun x k hx => False.elim hx) (fun x k hx => False.elim hx)
      · exact fe_j Fe.rf (fe_cTally_isWhole_b48 hk21 _ _ _ _) (fun x k hx => False.elim hx) (fun x k hx => False.elim hx)
theorem fe_cTally_isWhole_b21_lp (n : Nat) : ∀ (v0 : Nat) (v1 : Int) (v2 : Int) (h : Hp), Feo (wI_cTally_isWhole_b21 v0 v1 v2 h) (wJ_cTally_isWhole_b21 v0 v1 v2 h) h Prod.snd (f_cTally_isWhole_b21_lp n v0 v1 v2 h) := by
  induction n with
  | zero => intro v0 v1 v2 h; exact fe_no
  | succ n ih => intro v0 v1 v2 h; exact fe_cTally_isWhole_b21 ih v0 v1 v2 h
theorem fe_cTally_isWhole_b18 (v0 : Nat) (s0 : Int) (h : Hp) : Feo (wI_cTally_isWhole_b18 v0 s0 h) (wJ_cTally_isWhole_b18 v0 s0 h) h Prod.snd (f_cTally_isWhole_b18 v0 s0 h) := by
  unfold f_cTally_isWhole_b18
  exact fe_j Fe.rf (fe_cTally_isWhole_b21_lp FU _ _ _ _) (fun x k hx => False.elim hx) (fun x k hx => False.elim hx)
theorem fe_cTally_isWhole (v0 : Nat) (h : Hp) : Feo (wI_cTally_isWhole v0 h) (wJ_cTally_isWhole v0 h) h Prod.snd (f_cTally_isWhole v0 h) := by
  unfold f_cTally_isWhole
  refine fe_it fe_no ?_
  refine fe_it ?_ fe_no
  refine fe_it ?_ ?_
  · exact fe_j Fe.rf (fe_cTally_isWhole_b18 _ _ _) (fun x k hx => False.elim hx) (fun x k hx => False.elim hx)
  · exact fe_j Fe.rf (fe_cTally_isWhole_b18 _ _ _) (fun x k hx => False.elim hx) (fun x k hx => False.elim hx)
def wI_jLong_compare (v0 : Int) (v2 : Int) (h : Hp) (x k : Nat) : Prop := False
def wJ_jLong_compare (v0 : Int) (v2 : Int) (h : Hp) (x k : Nat) : Prop := False
theorem fe_jLong_compare (v0 : Int) (v2 : Int) (h : Hp) : Feo (wI_jLong_compare v0 v2 h) (wJ_jLong_compare v0 v2 h) h Prod.snd (f_jLong_compare v0 v2 h) := by
  unfold f_jLong_compare
  refine fe_it ?_ ?_
  · refine fe_it ?_ ?_
    · exact fe_so Fe.rf
    · exact fe_so Fe.rf
  · exact fe_so Fe.rf
def wI_jLong_compareUnsigned (v0 : Int) (v2 : Int) (h : Hp) (x k : Nat) : Prop := False
def wJ_jLong_compareUnsigned (v0 : Int) (v2 : Int) (h : Hp) (x k : Nat) : Prop := False
theorem fe_jLong_compareUnsigned (v0 : Int) (v2 : Int) (h : Hp) : Feo (wI_jLong_compareUnsigned v0 v2 h) (wJ_jLong_compareUnsigned v0 v2 h) h Prod.snd (f_jLong_compareUnsigned v0 v2 h) := by
  unfold f_jLong_compareUnsigned
  refine fe_b2 Fe.rf (fe_jLong_compare _ _ _) (fun x k hx => False.elim hx) (fun x k hx => False.elim hx) (fun r3 h1 F1 => ?_)
  exact fe_so F1
def wI_cTally_end_b153 (v0 : Nat) (v1 : Nat) (v2 : Int) (v5 : Int) (v7 : Int) (v9 : Int) (h : Hp) (x k : Nat) : Prop := x = v1
def wJ_cTally_end_b153 (v0 : Nat) (v1 : Nat) (v2 : Int) (v5 : Int) (v7 : Int) (v9 : Int) (h : Hp) (x k : Nat) : Prop := False
def wI_cTally_end_b146 (v0 : Nat) (v1 : Nat) (v2 : Int) (v7 : Int) (s0 : Int) (s1 : Int) (s2 : Int) (h : Hp) (x k : Nat) : Prop := x = v1
def wJ_cTally_end_b146 (v0 : Nat) (v1 : Nat) (v2 : Int) (v7 : Int) (s0 : Int) (s1 : Int) (s2 : Int) (h : Hp) (x k : Nat) : Prop := False
def wI_cTally_end_b60 (v0 : Nat) (v1 : Nat) (v2 : Int) (h : Hp) (x k : Nat) : Prop := x = v1
def wJ_cTally_end_b60 (v0 : Nat) (v1 : Nat) (v2 : Int) (h : Hp) (x k : Nat) : Prop := False
def wI_cTally_end_b42 (v0 : Nat) (v1 : Nat) (v2 : Int) (v3 : Int) (h : Hp) (x k : Nat) : Prop := x = v1
def wJ_cTally_end_b42 (v0 : Nat) (v1 : Nat) (v2 : Int) (v3 : Int) (h : Hp) (x k : Nat) : Prop := x = hR h v0 0
def wI_cTally_end_b13 (v0 : Nat) (v1 : Nat) (v2 : Int) (h : Hp) (x k : Nat) : Prop := x = v1
def wJ_cTally_end_b13 (v0 : Nat) (v1 : Nat) (v2 : Int) (h : Hp) (x k : Nat) : Prop := x = hR h v0 0
def wI_cTally_end (v0 : Nat) (v1 : Nat) (v2 : Int) (h : Hp) (x k : Nat) : Prop := x = (hR h v0 3) ∨ (x = v0 ∧ k = 4) ∨ x = v1
def wJ_cTally_end (v0 : Nat) (v1 : Nat) (v2 : Int) (h : Hp) (x k : Nat) : Prop := x = (hR h v0 2) ∨ x = hR h v0 0 ∨ x = hR h v0 2
theorem fe_cTally_end_b153 {k153 : Nat → Nat → Int → Int → Int → Int → Hp → Option (Hp)} (hk153 : ∀ (v0 : Nat) (v1 : Nat) (v2 : Int) (v5 : Int) (v7 : Int) (v9 : Int) (h : Hp), Feo (wI_cTally_end_b153 v0 v1 v2 v5 v7 v9 h) (wJ_cTally_end_b153 v0 v1 v2 v5 v7 v9 h) h id (k153 v0 v1 v2 v5 v7 v9 h)) (v0 : Nat) (v1 : Nat) (v2 : Int) (v5 : Int) (v7 : Int) (v9 : Int) (h : Hp) : Feo (wI_cTally_end_b153 v0 v1 v2 v5 v7 v9 h) (wJ_cTally_end_b153 v0 v1 v2 v5 v7 v9 h) h id (f_cTally_end_b153 k153 v0 v1 v2 v5 v7 v9 h) := by
  unfold f_cTally_end_b153
  refine fe_it ?_ ?_
  · exact fe_so Fe.rf
  · refine fe_it fe_no ?_
    refine fe_it ?_ fe_no
    refine fe_I Fe.rf (rfl) (fun h30 F1 => ?_)
    refine fe_it ?_ fe_no
    refine fe_I F1 (rfl) (fun h32 F2 => ?_)
    exact fe_j F2 (hk153 _ _ _ _ _ _ _) (fun x k hx => by simp only [wI_cTally_end_b153, F1.r, F2.r] at hx; have e := hx; exact e) (fun x k hx => False.elim hx)
theorem fe_cTally_end_b153_lp (n : Nat) : ∀ (v0 : Nat) (v1 : Nat) (v2 : Int) (v5 : Int) (v7 : Int) (v9 : Int) (h : Hp), Feo (wI_cTally_end_b153 v0 v1 v2 v5 v7 v9 h) (wJ_cTally_end_b153 v0 v1 v2 v5 v7 v9 h) h id (f_cTally_end_b153_lp n v0 v1 v2 v5 v7 v9 h) := by
  induction n with
  | zero => intro v0 v1 v2 v5 v7 v9 h; exact fe_no
  | succ n ih => intro v0 v1 v2 v5 v7 v9 h; exact fe_cTally_end_b153 ih v0 v1 v2 v5 v7 v9 h
theorem fe_cTally_end_b146 (v0 : Nat) (v1 : Nat) (v2 : Int) (v7 : Int) (s0 : Int) (s1 : Int) (s2 : Int) (h : Hp) : Feo (wI_cTally_end_b146 v0 v1 v2 v7 s0 s1 s2 h) (wJ_cTally_end_b146 v0 v1 v2 v7 s0 s1 s2 h) h id (f_cTally_end_b146 v0 v1 v2 v7 s0 s1 s2 h) := by
  unfold f_cTally_end_b146
  refine fe_v (fun y27 => ?_)
  exact fe_j Fe.rf (fe_cTally_end_b153_lp FU _ _ _ _ _ _ _) (fun x k hx => by simp only [wI_cTally_end_b153] at hx; have e := hx; exact e) (fun x k hx => False.elim hx)
theorem fe_cTally_end_b60 (v0 : Nat) (v1 : Nat) (v2 : Int) (h : Hp) : Feo (wI_cTally_end_b60 v0 v1 v2 h) (wJ_cTally_end_b60 v0 v1 v2 h) h id (f_cTally_end_b60 v0 v1 v2 h) := by
  unfold f_cTally_end_b60
  refine fe_it fe_no ?_
  refine fe_it ?_ fe_no
  refine fe_it ?_ fe_no
  refine fe_it ?_ fe_no
  refine fe_v (fun y18 => ?_)
  refine fe_it ?_ fe_no
  refine fe_it ?_ fe_no
  refine fe_it ?_ fe_no
  refine fe_v (fun y22 => ?_)
  refine fe_v (fun y23 => ?_)
  refine fe_b2 Fe.rf (fe_jLong_compareUnsigned _ _ _) (fun x k hx => False.elim hx) (fun x k hx => False.elim hx) (fun r26 h24 F1 => ?_)
  refine fe_it ?_ ?_
  · exact fe_j F1 (fe_cTally_end_b146 _ _ _ _ _ _ _ _) (fun x k hx => by simp only [wI_cTally_end_b146, F1.r] at hx; have e := hx; exact e) (fun x k hx => False.elim hx)
  · exact fe_j F1 (fe_cTally_end_b146 _ _ _ _ _ _ _ _) (fun x k hx => by simp only [wI_cTally_end_b146, F1.r] at hx; have e := hx; exact e) (fun x k hx => False.elim hx)
theorem fe_cTally_end_b42 {k42 : Nat → Nat → Int → Int → Hp → Option (Hp)} (hk42 : ∀ (v0 : Nat) (v1 : Nat) (v2 : Int) (v3 : Int) (h : Hp), Feo (wI_cTally_end_b42 v0 v1 v2 v3 h) (wJ_cTally_end_b42 v0 v1 v2 v3 h) h id (k42 v0 v1 v2 v3 h)) (v0 : Nat) (v1 : Nat) (v2 : Int) (v3 : Int) (h : Hp) : Feo (wI_cTally_end_b42 v0 v1 v2 v3 h) (wJ_cTally_end_b42 v0 v1 v2 v3 h) h id (f_cTally_end_b42 k42 v0 v1 v2 v3 h) := by
  unfold f_cTally_end_b42
  refine fe_it ?_ ?_
  · exact fe_j Fe.rf (fe_cTally_end_b60 _ _ _ _) (fun x k hx => by simp only [wI_cTally_end_b60] at hx; have e := hx; exact e) (fun x k hx => False.elim hx)
  · refine fe_it fe_no ?_
    refine fe_it ?_ fe_no
    refine fe_J Fe.rf (rfl) (fun h35 F1 => ?_)
    exact fe_j F1 (hk42 _ _ _ _ _) (fun x k hx => by simp only [wI_cTally_end_b42, F1.r] at hx; have e := hx; exact e) (fun x k hx => by simp only [wJ_cTally_end_b42, F1.r] at hx; have e := hx; exact e)
theorem fe_cTally_end_b42_lp (n : Nat) : ∀ (v0 : Nat) (v1 : Nat) (v2 : Int) (v3 : Int) (h : Hp), Feo (wI_cTally_end_b42 v0 v1 v2 v3 h) (wJ_cTally_end_b42 v0 v1 v2 v3 h) h id (f_cTally_end_b42_lp n v0 v1 v2 v3 h) := by
  induction n with
  | zero => intro v0 v1 v2 v3 h; exact fe_no
  | succ n ih => intro v0 v1 v2 v3 h; exact fe_cTally_end_b42 ih v0 v1 v2 v3 h
theorem fe_cTally_end_b13 (v0 : Nat) (v1 : Nat) (v2 : Int) (h : Hp) : Feo (wI_cTally_end_b13 v0 v1 v2 h) (wJ_cTally_end_b13 v0 v1 v2 h) h id (f_cTally_end_b13 v0 v1 v2 h) := by
  unfold f_cTally_end_b13
  refine fe_b1 Fe.rf (fe_cTally_carry _ _) (fun x k hx => False.elim hx) (fun x k hx => by simp only [wJ_cTally_carry] at hx; have e := hx; exact e) (fun h3 F1 => ?_)
  refine fe_b1 F1 (fe_cTally_carry _ _) (fun x k hx => False.elim hx) (fun x k hx => by simp only [wJ_cTally_carry, F1.r] at hx; have e := hx; exact e) (fun h5 F2 => ?_)
  refine fe_b2 F2 (fe_cTally_isWhole _ _) (fun x k hx => False.elim hx) (fun x k hx => False.elim hx) (fun r9 h7 F3 => ?_)
  refine fe_it ?_ ?_
  · exact fe_j F3 (fe_cTally_end_b60 _ _ _ _) (fun x k hx => by simp only [wI_cTally_end_b60, F1.r, F2.r, F3.r] at hx; have e := hx; exact e) (fun x k hx => False.elim hx)
  · refine fe_it fe_no ?_
    refine fe_it ?_ fe_no
    refine fe_it ?_ fe_no
    refine fe_J F3 ((by first | (simp only [F1.r, F2.r, F3.r]; exact rfl) | simp only [F1.r, F2.r, F3.r])) (fun h13 F4 => ?_)
    exact fe_j F4 (fe_cTally_end_b42_lp FU _ _ _ _ _) (fun x k hx => by simp only [wI_cTally_end_b42, F1.r, F2.r, F3.r, F4.r] at hx; have e := hx; exact e) (fun x k hx => by simp only [wJ_cTally_end_b42, F1.r, F2.r, F3.r, F4.r] at hx; have e := hx; exact e)
theorem fe_cTally_end (v0 : Nat) (v1 : Nat) (v2 : Int) (h : Hp) : Feo (wI_cTally_end v0 v1 v2 h) (wJ_cTally_end v0 v1 v2 h) h id (f_cTally_end v0 v1 v2 h) := by
  unfold f_cTally_end
  refine fe_it ?_ ?_
  · exact fe_j Fe.rf (fe_cTally_end_b13 _ _ _ _) (fun x k hx => by simp only [wI_cTally_end_b13] at hx; have e := hx; exact Or.inr (Or.inr (e))) (fun x k hx => by simp only [wJ_cTally_end_b13] at hx; have e := hx; exact Or.inr (Or.inl (e)))
  · refine fe_b1 Fe.rf (fe_cTally_finish _ _ _ _) (fun x k hx => by simp only [wI_cTally_finish] at hx; rcases hx with e | e <;> first | exact Or.inl (e) | exact Or.inr (Or.inl (e))) (fun x k hx => by simp only [wJ_cTally_finish] at hx; rcases hx with e | e | e <;> first | exact Or.inl (e) | exact Or.inr (Or.inl (e)) | exact Or.inr (Or.inr (e))) (fun h1 F1 => ?_)
    exact fe_j F1 (fe_cTally_end_b13 _ _ _ _) (fun x k hx => by simp only [wI_cTally_end_b13, F1.r] at hx; have e := hx; exact Or.inr (Or.inr (e))) (fun x k hx => by simp only [wJ_cTally_end_b13, F1.r] at hx; have e := hx; exact Or.inr (Or.inl (e)))
def wI_cGuard_reckon_b129 (v0 : Nat) (v1 : Nat) (v6 : Int) (v7 : Int) (v8 : Int) (s0 : Nat) (s1 : Int) (s2 : Int) (h : Hp) (x k : Nat) : Prop := x = (hR h (hR h v1 2) 3) ∨ (x = (hR h v1 2) ∧ k = 4) ∨ x = (hR h v1 5) ∨ x = (hR h v1 6) ∨ x = hR h (hR h v1 2) 3 ∨ x = s0
def wJ_cGuard_reckon_b129 (v0 : Nat) (v1 : Nat) (v6 : Int) (v7 : Int) (v8 : Int) (s0 : Nat) (s1 : Int) (s2 : Int) (h : Hp) (x k : Nat) : Prop := x = (hR h (hR h v1 2) 2) ∨ x = hR h (hR h v1 2) 0 ∨ x = hR h (hR h v1 2) 2
def wI_cGuard_reckon_b120 (v0 : Nat) (v1 : Nat) (v6 : Int) (v7 : Int) (v8 : Int) (s0 : Nat) (s1 : Int) (s2 : Int) (h : Hp) (x k : Nat) : Prop := x = (hR h (hR h v1 2) 3) ∨ (x = (hR h v1 2) ∧ k = 4) ∨ x = (hR h v1 5) ∨ x = (hR h v1 6) ∨ x = hR h (hR h v1 2) 3 ∨ x = s0
def wJ_cGuard_reckon_b120 (v0 : Nat) (v1 : Nat) (v6 : Int) (v7 : Int) (v8 : Int) (s0 : Nat) (s1 : Int) (s2 : Int) (h : Hp) (x k : Nat) : Prop := x = (hR h (hR h v1 2) 2) ∨ x = hR h (hR h v1 2) 0 ∨ x = hR h (hR h v1 2) 2
def wI_cGuard_reckon_b77 (v0 : Nat) (v1 : Nat) (v6 : Int) (v7 : Int) (v8 : Int) (h : Hp) (x k : Nat) : Prop := x = (hR h (hR h v1 2) 3) ∨ (x = (hR h v1 2) ∧ k = 4) ∨ x = (hR h v1 5) ∨ x = (hR h v1 6) ∨ x = hR h (hR h v1 2) 3
def wJ_cGuard_reckon_b77 (v0 : Nat) (v1 : Nat) (v6 : Int) (v7 : Int) (v8 : Int) (h : Hp) (x k : Nat) : Prop := x = (hR h (hR h v1 2) 2) ∨ x = hR h (hR h v1 2) 0 ∨ x = hR h (hR h v1 2) 2
def wI_cGuard_reckon (v0 : Nat) (v1 : Nat) (v2 : Int) (v4 : Nat) (v5 : Int) (v6 : Int) (v7 : Int) (h : Hp) (x k : Nat) : Prop := x = (hR h (hR h v1 2) 3) ∨ (x = (hR h v1 2) ∧ k = 4) ∨ x = (hR h v1 4) ∨ x = (hR h v1 5) ∨ x = (hR h v1 6) ∨ x = hR h (hR h v1 1) 0 ∨ x = hR h (hR h v1 1) 1 ∨ x = hR h (hR h v1 1) 2 ∨ x = hR h (hR h v1 2) 3
def wJ_cGuard_reckon (v0 : Nat) (v1 : Nat) (v2 : Int) (v4 : Nat) (v5 : Int) (v6 : Int) (v7 : Int) (h : Hp) (x k : Nat) : Prop := x = (hR h (hR h v1 2) 1) ∨ x = (hR h (hR h v1 2) 2) ∨ (x = (hR h v1 2) ∧ k = 5) ∨ (x = (hR h v1 2) ∧ k = 6) ∨ x = hR h (hR h v1 2) 0 ∨ x = hR h (hR h v1 2) 2
theorem fe_cGuard_reckon_b129 {k77 : Nat → Nat → Int → Int → Int → Hp → Option (Hp)} (hk77 : ∀ (v0 : Nat) (v1 : Nat) (v6 : Int) (v7 : Int) (v8 : Int) (h : Hp), Feo (wI_cGuard_reckon_b77 v0 v1 v6 v7 v8 h) (wJ_cGuard_reckon_b77 v0 v1 v6 v7 v8 h) h id (k77 v0 v1 v6 v7 v8 h)) (v0 : Nat) (v1 : Nat) (v6 : Int) (v7 : Int) (v8 : Int) (s0 : Nat) (s1 : Int) (s2 : Int) (h : Hp) : Feo (wI_cGuard_reckon_b129 v0 v1 v6 v7 v8 s0 s1 s2 h) (wJ_cGuard_reckon_b129 v0 v1 v6 v7 v8 s0 s1 s2 h) h id (f_cGuard_reckon_b129 k77 v0 v1 v6 v7 v8 s0 s1 s2 h) := by
  unfold f_cGuard_reckon_b129
  refine fe_it fe_no ?_
  refine fe_it ?_ fe_no
  refine fe_I Fe.rf (Or.inr (Or.inr (Or.inr (Or.inr (Or.inr (rfl)))))) (fun h33 F1 => ?_)
  exact fe_j F1 (hk77 _ _ _ _ _ _) (fun x k hx => by simp only [wI_cGuard_reckon_b77, F1.r] at hx; rcases hx with e | e | e | e | e <;> first | exact Or.inl (e) | exact Or.inr (Or.inl (e)) | exact Or.inr (Or.inr (Or.inl (e))) | exact Or.inr (Or.inr (Or.inr (Or.inl (e)))) | exact Or.inr (Or.inr (Or.inr (Or.inr (Or.inl (e)))))) (fun x k hx => by simp only [wJ_cGuard_reckon_b77, F1.r] at hx; rcases hx with e | e | e <;> first | exact Or.inl (e) | exact Or.inr (Or.inl (e)) | exact Or.inr (Or.inr (e)))
theorem fe_cGuard_reckon_b120 {k77 : Nat → Nat → Int → Int → Int → Hp → Option (Hp)} (hk77 : ∀ (v0 : Nat) (v1 : Nat) (v6 : Int) (v7 : Int) (v8 : Int) (h : Hp), Feo (wI_cGuard_reckon_b77 v0 v1 v6 v7 v8 h) (wJ_cGuard_reckon_b77 v0 v1 v6 v7 v8 h) h id (k77 v0 v1 v6 v7 v8 h)) (v0 : Nat) (v1 : Nat) (v6 : Int) (v7 : Int) (v8 : Int) (s0 : Nat) (s1 : Int) (s2 : Int) (h : Hp) : Feo (wI_cGuard_reckon_b120 v0 v1 v6 v7 v8 s0 s1 s2 h) (wJ_cGuard_reckon_b120 v0 v1 v6 v7 v8 s0 s1 s2 h) h id (f_cGuard_reckon_b120 k77 v0 v1 v6 v7 v8 s0 s1 s2 h) := by
  unfold f_cGuard_reckon_b120
  exact fe_j Fe.rf (fe_cGuard_reckon_b129 hk77 _ _ _ _ _ _ _ _ _) (fun x k hx => by simp only [wI_cGuard_reckon_b129] at hx; rcases hx with e | e | e | e | e | e <;> first | exact Or.inl (e) | exact Or.inr (Or.inl (e)) | exact Or.inr (Or.inr (Or.inl (e))) | exact Or.inr (Or.inr (Or.inr (Or.inl (e)))) | exact Or.inr (Or.inr (Or.inr (Or.inr (Or.inl (e))))) | exact Or.inr (Or.inr (Or.inr (Or.inr (Or.inr (e)))))) (fun x k hx => by simp only [wJ_cGuard_reckon_b129] at hx; rcases hx with e | e | e <;> first | exact Or.inl (e) | exact Or.inr (Or.inl (e)) | exact Or.inr (Or.inr (e)))
theorem fe_cGuard_reckon_b77 {k77 : Nat → Nat → Int → Int → Int → Hp → Option (Hp)} (hk77 : ∀ (v0 : Nat) (v1 : Nat) (v6 : Int) (v7 : Int) (v8 : Int) (h : Hp), Feo (wI_cGuard_reckon_b77 v0 v1 v6 v7 v8 h) (wJ_cGuard_reckon_b77 v0 v1 v6 v7 v8 h) h id (k77 v0 v1 v6 v7 v8 h)) (v0 : Nat) (v1 : Nat) (v6 : Int) (v7 : Int) (v8 : Int) (h : Hp) : Feo (wI_cGuard_reckon_b77 v0 v1 v6 v7 v8 h) (wJ_cGuard_reckon_b77 v0 v1 v6 v7 v8 h) h id (f_cGuard_reckon_b77 k77 v0 v1 v6 v7 v8 h) := by
  unfold f_cGuard_reckon_b77
  refine fe_it ?_ ?_
  · refine fe_it fe_no ?_
    refine fe_it fe_no ?_
    refine fe_b1 Fe.rf (fe_cTally_add _ _ _ _ _) (fun x k hx => by simp only [wI_cTally_add] at hx; rcases hx with e | e <;> first | exact Or.inr (Or.inl (e)) | exact Or.inr (Or.inr (Or.inr (Or.inr (e))))) (fun x k hx => by simp only [wJ_cTally_add] at hx; rcases hx with e | e | e <;> first | exact Or.inl (e) | exact Or.inr (Or.inl (e)) | exact Or.inr (Or.inr (e))) (fun h25 F1 => ?_)
    refine fe_it fe_no ?_
    refine fe_b1 F1 (fe_cTally_end _ _ _ _) (fun x k hx => by simp only [wI_cTally_end, F1.r] at hx; rcases hx with e | e | e <;> first | exact Or.inl (e) | exact Or.inr (Or.inl (e)) | exact Or.inr (Or.inr (Or.inr (Or.inl (e))))) (fun x k hx => by simp only [wJ_cTally_end, F1.r] at hx; rcases hx with e | e | e <;> first | exact Or.inl (e) | exact Or.inr (Or.inl (e)) | exact Or.inr (Or.inr (e))) (fun h28 F2 => ?_)
    exact fe_so F2
  · refine fe_it fe_no ?_
    refine fe_it ?_ ?_
    · refine fe_it ?_ ?_
      · exact fe_j Fe.rf (fe_cGuard_reckon_b120 hk77 _ _ _ _ _ _ _ _ _) (fun x k hx => by simp only [wI_cGuard_reckon_b120] at hx; rcases hx with e | e | e | e | e | e <;> first | exact Or.inl (e) | exact Or.inr (Or.inl (e)) | exact Or.inr (Or.inr (Or.inl (e))) | exact Or.inr (Or.inr (Or.inr (Or.inl (e)))) | exact Or.inr (Or.inr (Or.inr (Or.inr (e))))) (fun x k hx => by simp only [wJ_cGuard_reckon_b120] at hx; rcases hx with e | e | e <;> first | exact Or.inl (e) | exact Or.inr (Or.inl (e)) | exact Or.inr (Or.inr (e)))
      · exact fe_j Fe.rf (fe_cGuard_reckon_b120 hk77 _ _ _ _ _ _ _ _ _) (fun x k hx => by simp only [wI_cGuard_reckon_b120] at hx; rcases hx with e | e | e | e | e | e <;> first | exact Or.inl (e) | exact Or.inr (Or.inl (e)) | exact Or.inr (Or.inr (Or.inl (e))) | exact Or.inr (Or.inr (Or.inr (Or.inl (e)))) | exact Or.inr (Or.inr (Or.inr (Or.inr (e))))) (fun x k hx => by simp only [wJ_cGuard_reckon_b120] at hx; rcases hx with e | e | e <;> first | exact Or.inl (e) | exact Or.inr (Or.inl (e)) | exact Or.inr (Or.inr (e)))
    · exact fe_j Fe.rf (fe_cGuard_reckon_b129 hk77 _ _ _ _ _ _ _ _ _) (fun x k hx => by simp only [wI_cGuard_reckon_b129] at hx; rcases hx with e | e | e | e | e | e <;> first | exact Or.inl (e) | exact Or.inr (Or.inl (e)) | exact Or.inr (Or.inr (Or.inl (e))) | exact Or.inr (Or.inr (Or.inr (Or.inl (e)))) | exact Or.inr (Or.inr (Or.inr (Or.inr (e))))) (fun x k hx => by simp only [wJ_cGuard_reckon_b129] at hx; rcases hx with e | e | e <;> first | exact Or.inl (e) | exact Or.inr (Or.inl (e)) | exact Or.inr (Or.inr (e)))
theorem fe_cGuard_reckon_b77_lp (n : Nat) : ∀ (v0 : Nat) (v1 : Nat) (v6 : Int) (v7 : Int) (v8 : Int) (h : Hp), Feo (wI_cGuard_reckon_b77 v0 v1 v6 v7 v8 h) (wJ_cGuard_reckon_b77 v0 v1 v6 v7 v8 h) h id (f_cGuard_reckon_b77_lp n v0 v1 v6 v7 v8 h) := by
  induction n with
  | zero => intro v0 v1 v6 v7 v8 h; exact fe_no
  | succ n ih => intro v0 v1 v6 v7 v8 h; exact fe_cGuard_reckon_b77 ih v0 v1 v6 v7 v8 h
theorem fe_cGuard_reckon (v0 : Nat) (v1 : Nat) (v2 : Int) (v4 : Nat) (v5 : Int) (v6 : Int) (v7 : Int) (h : Hp) : Feo (wI_cGuard_reckon v0 v1 v2 v4 v5 v6 v7 h) (wJ_cGuard_reckon v0 v1 v2 v4 v5 v6 v7 h) h id (f_cGuard_reckon v0 v1 v2 v4 v5 v6 v7 h) := by
  unfold f_cGuard_reckon
  refine fe_b1 Fe.rf (fe_cGuard_begin _ _ _ _ _) (fun x k hx => by simp only [wI_cGuard_begin] at hx; rcases hx with e | e <;> first | exact Or.inr (Or.inr (Or.inl (e))) | exact Or.inr (Or.inr (Or.inr (Or.inr (Or.inr (Or.inl (e))))))) (fun x k hx => False.elim hx) (fun h1 F1 => ?_)
  refine fe_it fe_no ?_
  refine fe_it fe_no ?_
  refine fe_b1 F1 (fe_cKeystream_next _ _) (fun x k hx => by simp only [wI_cKeystream_next, F1.r] at hx; rcases hx with e | e | e <;> first | exact Or.inr (Or.inr (Or.inr (Or.inr (Or.inr (Or.inl (e)))))) | exact Or.inr (Or.inr (Or.inr (Or.inr (Or.inr (Or.inr (Or.inl (e))))))) | exact Or.inr (Or.inr (Or.inr (Or.inr (Or.inr (Or.inr (Or.inr (Or.inl (e))))))))) (fun x k hx => False.elim hx) (fun h5 F2 => ?_)
  refine fe_it fe_no ?_
  refine fe_it fe_no ?_
  refine fe_b1 F2 (fe_cTally_begin _ _ _) (fun x k hx => by simp only [wI_cTally_begin, F1.r, F2.r] at hx; have e := hx; exact Or.inr (Or.inl (e))) (fun x k hx => by simp only [wJ_cTally_begin, F1.r, F2.r] at hx; rcases hx with e | e | e | e <;> first | exact Or.inl (e) | exact Or.inr (Or.inr (Or.inl (e))) | exact Or.inr (Or.inr (Or.inr (Or.inl (e)))) | exact Or.inr (Or.inr (Or.inr (Or.inr (Or.inl (e)))))) (fun h9 F3 => ?_)
  refine fe_it fe_no ?_
  refine fe_b1 F3 (fe_cTally_add _ _ _ _ _) (fun x k hx => by simp only [wI_cTally_add, F1.r, F2.r, F3.r] at hx; rcases hx with e | e <;> first | exact Or.inr (Or.inl (e)) | exact Or.inr (Or.inr (Or.inr (Or.inr (Or.inr (Or.inr (Or.inr (Or.inr (e))))))))) (fun x k hx => by simp only [wJ_cTally_add, F1.r, F2.r, F3.r] at hx; rcases hx with e | e | e <;> first | exact Or.inr (Or.inl (e)) | exact Or.inr (Or.inr (Or.inr (Or.inr (Or.inl (e))))) | exact Or.inr (Or.inr (Or.inr (Or.inr (Or.inr (e)))))) (fun h12 F4 => ?_)
  refine fe_it fe_no ?_
  refine fe_b1 F4 (fe_cTally_fill _ _) (fun x k hx => by simp only [wI_cTally_fill, F1.r, F2.r, F3.r, F4.r] at hx; rcases hx with e | e <;> first | exact Or.inl (e) | exact Or.inr (Or.inl (e))) (fun x k hx => by simp only [wJ_cTally_fill, F1.r, F2.r, F3.r, F4.r] at hx; rcases hx with e | e | e <;> first | exact Or.inr (Or.inl (e)) | exact Or.inr (Or.inr (Or.inr (Or.inr (Or.inl (e))))) | exact Or.inr (Or.inr (Or.inr (Or.inr (Or.inr (e)))))) (fun h15 F5 => ?_)
  refine fe_it fe_no ?_
  refine fe_b1 F5 (fe_cTally_add _ _ _ _ _) (fun x k hx => by simp only [wI_cTally_add, F1.r, F2.r, F3.r, F4.r, F5.r] at hx; rcases hx with e | e <;> first | exact Or.inr (Or.inl (e)) | exact Or.inr (Or.inr (Or.inr (Or.inr (Or.inr (Or.inr (Or.inr (Or.inr (e))))))))) (fun x k hx => by simp only [wJ_cTally_add, F1.r, F2.r, F3.r, F4.r, F5.r] at hx; rcases hx with e | e | e <;> first | exact Or.inr (Or.inl (e)) | exact Or.inr (Or.inr (Or.inr (Or.inr (Or.inl (e))))) | exact Or.inr (Or.inr (Or.inr (Or.inr (Or.inr (e)))))) (fun h18 F6 => ?_)
  refine fe_it fe_no ?_
  refine fe_b1 F6 (fe_cTally_fill _ _) (fun x k hx => by simp only [wI_cTally_fill, F1.r, F2.r, F3.r, F4.r, F5.r, F6.r] at hx; rcases hx with e | e <;> first | exact Or.inl (e) | exact Or.inr (Or.inl (e))) (fun x k hx => by simp only [wJ_cTally_fill, F1.r, F2.r, F3.r, F4.r, F5.r, F6.r] at hx; rcases hx with e | e | e <;> first | exact Or.inr (Or.inl (e)) | exact Or.inr (Or.inr (Or.inr (Or.inr (Or.inl (e))))) | exact Or.inr (Or.inr (Or.inr (Or.inr (Or.inr (e)))))) (fun h21 F7 => ?_)
  exact fe_j F7 (fe_cGuard_reckon_b77_lp FU _ _ _ _ _ _) (fun x k hx => by simp only [wI_cGuard_reckon_b77, F1.r, F2.r, F3.r, F4.r, F5.r, F6.r, F7.r] at hx; rcases hx with e | e | e | e | e <;> first | exact Or.inl (e) | exact Or.inr (Or.inl (e)) | exact Or.inr (Or.inr (Or.inr (Or.inl (e)))) | exact Or.inr (Or.inr (Or.inr (Or.inr (Or.inl (e))))) | exact Or.inr (Or.inr (Or.inr (Or.inr (Or.inr (Or.inr (Or.inr (Or.inr (e))))))))) (fun x k hx => by simp only [wJ_cGuard_reckon_b77, F1.r, F2.r, F3.r, F4.r, F5.r, F6.r, F7.r] at hx; rcases hx with e | e | e <;> first | exact Or.inr (Or.inl (e)) | exact Or.inr (Or.inr (Or.inr (Or.inr (Or.inl (e))))) | exact Or.inr (Or.inr (Or.inr (Or.inr (Or.inr (e))))))
def wI_cKeystream_cover_b21 (v0 : Nat) (v1 : Nat) (v2 : Int) (v3 : Int) (v4 : Int) (h : Hp) (x k : Nat) : Prop := x = hR h v0 0 ∨ x = hR h v0 1 ∨ x = hR h v0 2 ∨ x = v1
def wJ_cKeystream_cover_b21 (v0 : Nat) (v1 : Nat) (v2 : Int) (v3 : Int) (v4 : Int) (h : Hp) (x k : Nat) : Prop := False
def wI_cKeystream_cover_b3 (v0 : Nat) (v1 : Nat) (v2 : Int) (v3 : Int) (v4 : Int) (h : Hp) (x k : Nat) : Prop := x = hR h v0 0 ∨ x = hR h v0 1 ∨ x = hR h v0 2 ∨ x = v1
def wJ_cKeystream_cover_b3 (v0 : Nat) (v1 : Nat) (v2 : Int) (v3 : Int) (v4 : Int) (h : Hp) (x k : Nat) : Prop := False
def wI_cKeystream_cover (v0 : Nat) (v1 : Nat) (v2 : Int) (v3 : Int) (h : Hp) (x k : Nat) : Prop := x = hR h v0 0 ∨ x = hR h v0 1 ∨ x = hR h v0 2 ∨ x = v1
def wJ_cKeystream_cover (v0 : Nat) (v1 : Nat) (v2 : Int) (v3 : Int) (h : Hp) (x k : Nat) : Prop := False
theorem fe_cKeystream_cover_b21 {k3 : Nat → Nat → Int → Int → Int → Hp → Option (Hp)} (hk3 : ∀ (v0 : Nat) (v1 : Nat) (v2 : Int) (v3 : Int) (v4 : Int) (h : Hp), Feo (wI_cKeystream_cover_b3 v0 v1 v2 v3 v4 h) (wJ_cKeystream_cover_b3 v0 v1 v2 v3 v4 h) h id (k3 v0 v1 v2 v3 v4 h)) (v0 : Nat) (v1 : Nat) (v2 : Int) (v3 : Int) (v4 : Int) (h : Hp) : Feo (wI_cKeystream_cover_b21 v0 v1 v2 v3 v4 h) (wJ_cKeystream_cover_b21 v0 v1 v2 v3 v4 h) h id (f_cKeystream_cover_b21 k3 v0 v1 v2 v3 v4 h) := by
  unfold f_cKeystream_cover_b21
  refine fe_it fe_no ?_
  refine fe_it ?_ fe_no
  refine fe_it fe_no ?_
  refine fe_it ?_ fe_no
  refine fe_it ?_ fe_no
  refine fe_I Fe.rf (Or.inr (Or.inr (Or.inr (rfl)))) (fun h8 F1 => ?_)
  exact fe_j F1 (hk3 _ _ _ _ _ _) (fun x k hx => by simp only [wI_cKeystream_cover_b3, F1.r] at hx; rcases hx with e | e | e | e <;> first | exact Or.inl (e) | exact Or.inr (Or.inl (e)) | exact Or.inr (Or.inr (Or.inl (e))) | exact Or.inr (Or.inr (Or.inr (e)))) (fun x k hx => False.elim hx)
theorem fe_cKeystream_cover_b3 {k3 : Nat → Nat → Int → Int → Int → Hp → Option (Hp)} (hk3 : ∀ (v0 : Nat) (v1 : Nat) (v2 : Int) (v3 : Int) (v4 : Int) (h : Hp), Feo (wI_cKeystream_cover_b3 v0 v1 v2 v3 v4 h) (wJ_cKeystream_cover_b3 v0 v1 v2 v3 v4 h) h id (k3 v0 v1 v2 v3 v4 h)) (v0 : Nat) (v1 : Nat) (v2 : Int) (v3 : Int) (v4 : Int) (h : Hp) : Feo (wI_cKeystream_cover_b3 v0 v1 v2 v3 v4 h) (wJ_cKeystream_cover_b3 v0 v1 v2 v3 v4 h) h id (f_cKeystream_cover_b3 k3 v0 v1 v2 v3 v4 h) := by
  unfold f_cKeystream_cover_b3
  refine fe_it ?_ ?_
  · exact fe_so Fe.rf
  · refine fe_it ?_ ?_
    · exact fe_j Fe.rf (fe_cKeystream_cover_b21 hk3 _ _ _ _ _ _) (fun x k hx => by simp only [wI_cKeystream_cover_b21] at hx; rcases hx with e | e | e | e <;> first | exact Or.inl (e) | exact Or.inr (Or.inl (e)) | exact Or.inr (Or.inr (Or.inl (e))) | exact Or.inr (Or.inr (Or.inr (e)))) (fun x k hx => False.elim hx)
    · refine fe_b1 Fe.rf (fe_cKeystream_next _ _) (fun x k hx => by simp only [wI_cKeystream_next] at hx; rcases hx with e | e | e <;> first | exact Or.inl (e) | exact Or.inr (Or.inl (e)) | exact Or.inr (Or.inr (Or.inl (e)))) (fun x k hx => False.elim hx) (fun h1 F1 => ?_)
      exact fe_j F1 (fe_cKeystream_cover_b21 hk3 _ _ _ _ _ _) (fun x k hx => by simp only [wI_cKeystream_cover_b21, F1.r] at hx; rcases hx with e | e | e | e <;> first | exact Or.inl (e) | exact Or.inr (Or.inl (e)) | exact Or.inr (Or.inr (Or.inl (e))) | exact Or.inr (Or.inr (Or.inr (e)))) (fun x k hx => False.elim hx)
theorem fe_cKeystream_cover_b3_lp (n : Nat) : ∀ (v0 : Nat) (v1 : Nat) (v2 : Int) (v3 : Int) (v4 : Int) (h : Hp), Feo (wI_cKeystream_cover_b3 v0 v1 v2 v3 v4 h) (wJ_cKeystream_cover_b3 v0 v1 v2 v3 v4 h) h id (f_cKeystream_cover_b3_lp n v0 v1 v2 v3 v4 h) := by
  induction n with
  | zero => intro v0 v1 v2 v3 v4 h; exact fe_no
  | succ n ih => intro v0 v1 v2 v3 v4 h; exact fe_cKeystream_cover_b3 ih v0 v1 v2 v3 v4 h
theorem fe_cKeystream_cover (v0 : Nat) (v1 : Nat) (v2 : Int) (v3 : Int) (h : Hp) : Feo (wI_cKeystream_cover v0 v1 v2 v3 h) (wJ_cKeystream_cover v0 v1 v2 v3 h) h id (f_cKeystream_cover v0 v1 v2 v3 h) := by
  unfold f_cKeystream_cover
  exact fe_j Fe.rf (fe_cKeystream_cover_b3_lp FU _ _ _ _ _ _) (fun x k hx => by simp only [wI_cKeystream_cover_b3] at hx; rcases hx with e | e | e | e <;> first | exact Or.inl (e) | exact Or.inr (Or.inl (e)) | exact Or.inr (Or.inr (Or.inl (e))) | exact Or.inr (Or.inr (Or.inr (e)))) (fun x k hx => False.elim hx)
def wI_cGuard_open_b27 (v0 : Nat) (v1 : Nat) (v2 : Int) (v4 : Nat) (v5 : Int) (v6 : Int) (v8 : Int) (v9 : Int) (v10 : Int) (h : Hp) (x k : Nat) : Prop := x = (hR h v1 4) ∨ x = hR h (hR h v1 1) 0 ∨ x = hR h (hR h v1 1) 1 ∨ x = hR h (hR h v1 1) 2 ∨ x = v4
def wJ_cGuard_open_b27 (v0 : Nat) (v1 : Nat) (v2 : Int) (v4 : Nat) (v5 : Int) (v6 : Int) (v8 : Int) (v9 : Int) (v10 : Int) (h : Hp) (x k : Nat) : Prop := False
def wI_cGuard_open (v0 : Nat) (v1 : Nat) (v2 : Int) (v4 : Nat) (v5 : Int) (v6 : Int) (v7 : Int) (h : Hp) (x k : Nat) : Prop := x = (hR h (hR h v1 2) 3) ∨ (x = (hR h v1 2) ∧ k = 4) ∨ x = (hR h v1 4) ∨ x = (hR h v1 5) ∨ x = (hR h v1 6) ∨ x = hR h (hR h v1 1) 0 ∨ x = hR h (hR h v1 1) 1 ∨ x = hR h (hR h v1 1) 2 ∨ x = hR h (hR h v1 2) 3 ∨ x = v4
def wJ_cGuard_open (v0 : Nat) (v1 : Nat) (v2 : Int) (v4 : Nat) (v5 : Int) (v6 : Int) (v7 : Int) (h : Hp) (x k : Nat) : Prop := x = (hR h (hR h v1 2) 1) ∨ x = (hR h (hR h v1 2) 2) ∨ (x = (hR h v1 2) ∧ k = 5) ∨ (x = (hR h v1 2) ∧ k = 6) ∨ x = hR h (hR h v1 2) 0 ∨ x = hR h (hR h v1 2) 2
theorem fe_cGuard_open_b27 {k27 : Nat → Nat → Int → Nat → Int → Int → Int → Int → Int → Hp → Option (Int × Hp)} (hk27 : ∀ (v0 : Nat) (v1 : Nat) (v2 : Int) (v4 : Nat) (v5 : Int) (v6 : Int) (v8 : Int) (v9 : Int) (v10 : Int) (h : Hp), Feo (wI_cGuard_open_b27 v0 v1 v2 v4 v5 v6 v8 v9 v10 h) (wJ_cGuard_open_b27 v0 v1 v2 v4 v5 v6 v8 v9 v10 h) h Prod.snd (k27 v0 v1 v2 v4 v5 v6 v8 v9 v10 h)) (v0 : Nat) (v1 : Nat) (v2 : Int) (v4 : Nat) (v5 : Int) (v6 : Int) (v8 : Int) (v9 : Int) (v10 : Int) (h : Hp) : Feo (wI_cGuard_open_b27 v0 v1 v2 v4 v5 v6 v8 v9 v10 h) (wJ_cGuard_open_b27 v0 v1 v2 v4 v5 v6 v8 v9 v10 h) h Prod.snd (f_cGuard_open_b27 k27 v0 v1 v2 v4 v5 v6 v8 v9 v10 h) := by
  unfold f_cGuard_open_b27
  refine fe_it ?_ ?_
  · refine fe_it ?_ ?_
    · refine fe_b1 Fe.rf (fe_cGuard_begin _ _ _ _ _) (fun x k hx => by simp only [wI_cGuard_begin] at hx; rcases hx with e | e <;> first | exact Or.inl (e) | exact Or.inr (Or.inl (e))) (fun x k hx => False.elim hx) (fun h4 F1 => ?_)
      refine fe_it fe_no ?_
      refine fe_it fe_no ?_
      refine fe_b1 F1 (fe_cKeystream_cover _ _ _ _ _) (fun x k hx => by simp only [wI_cKeystream_cover, F1.r] at hx; rcases hx with e | e | e | e <;> first | exact Or.inr (Or.inl (e)) | exact Or.inr (Or.inr (Or.inl (e))) | exact Or.inr (Or.inr (Or.inr (Or.inl (e)))) | exact Or.inr (Or.inr (Or.inr (Or.inr (e))))) (fun x k hx => False.elim hx) (fun h8 F2 => ?_)
      exact fe_so F2
    · exact fe_so Fe.rf
  · refine fe_it fe_no ?_
    refine fe_it fe_no ?_
    refine fe_it ?_ fe_no
    refine fe_it fe_no ?_
    refine fe_it ?_ fe_no
    refine fe_v (fun y15 => ?_)
    exact fe_j Fe.rf (hk27 _ _ _ _ _ _ _ _ _ _) (fun x k hx => by simp only [wI_cGuard_open_b27] at hx; rcases hx with e | e | e | e | e <;> first | exact Or.inl (e) | exact Or.inr (Or.inl (e)) | exact Or.inr (Or.inr (Or.inl (e))) | exact Or.inr (Or.inr (Or.inr (Or.inl (e)))) | exact Or.inr (Or.inr (Or.inr (Or.inr (e))))) (fun x k hx => False.elim hx)
theorem fe_cGuard_open_b27_lp (n : Nat) : ∀ (v0 : Nat) (v1 : Nat) (v2 : Int) (v4 : Nat) (v5 : Int) (v6 : Int) (v8 : Int) (v9 : Int) (v10 : Int) (h : Hp), Feo (wI_cGuard_open_b27 v0 v1 v2 v4 v5 v6 v8 v9 v10 h) (wJ_cGuard_open_b27 v0 v1 v2 v4 v5 v6 v8 v9 v10 h) h Prod.snd (f_cGuard_open_b27_lp n v0 v1 v2 v4 v5 v6 v8 v9 v10 h) := by
  induction n with
  | zero => intro v0 v1 v2 v4 v5 v6 v8 v9 v10 h; exact fe_no
  | succ n ih => intro v0 v1 v2 v4 v5 v6 v8 v9 v10 h; exact fe_cGuard_open_b27 ih v0 v1 v2 v4 v5 v6 v8 v9 v10 h
theorem fe_cGuard_open (v0 : Nat) (v1 : Nat) (v2 : Int) (v4 : Nat) (v5 : Int) (v6 : Int) (v7 : Int) (h : Hp) : Feo (wI_cGuard_open v0 v1 v2 v4 v5 v6 v7 h) (wJ_cGuard_open v0 v1 v2 v4 v5 v6 v7 h) h Prod.snd (f_cGuard_open v0 v1 v2 v4 v5 v6 v7 h) := by
  unfold f_cGuard_open
  refine fe_v (fun y1 => ?_)
  refine fe_b1 Fe.rf (fe_cGuard_reckon _ _ _ _ _ _ _ _) (fun x k hx => by simp only [wI_cGuard_reckon] at hx; rcases hx with e | e | e | e | e | e | e | e | e <;> first | exact Or.inl (e) | exact Or.inr (Or.inl (e)) | exact Or.inr (Or.inr (Or.inl (e))) | exact Or.inr (Or.inr (Or.inr (Or.inl (e)))) | exact Or.inr (Or.inr (Or.inr (Or.inr (Or.inl (e))))) | exact Or.inr (Or.inr (Or.inr (Or.inr (Or.inr (Or.inl (e)))))) | exact Or.inr (Or.inr (Or.inr (Or.inr (Or.inr (Or.inr (Or.inl (e))))))) | exact Or.inr (Or.inr (Or.inr (Or.inr (Or.inr (Or.inr (Or.inr (Or.inl (e)))))))) | exact Or.inr (Or.inr (Or.inr (Or.inr (Or.inr (Or.inr (Or.inr (Or.inr (Or.inl (e)))))))))) (fun x k hx => by simp only [wJ_cGuard_reckon] at hx; rcases hx with e | e | e | e | e | e <;> first | exact Or.inl (e) | exact Or.inr (Or.inl (e)) | exact Or.inr (Or.inr (Or.inl (e))) | exact Or.inr (Or.inr (Or.inr (Or.inl (e)))) | exact Or.inr (Or.inr (Or.inr (Or.inr (Or.inl (e))))) | exact Or.inr (Or.inr (Or.inr (Or.inr (Or.inr (e)))))) (fun h2 F1 => ?_)
  exact fe_j F1 (fe_cGuard_open_b27_lp FU _ _ _ _ _ _ _ _ _ _) (fun x k hx => by simp only [wI_cGuard_open_b27, F1.r] at hx; rcases hx with e | e | e | e | e <;> first | exact Or.inr (Or.inr (Or.inl (e))) | exact Or.inr (Or.inr (Or.inr (Or.inr (Or.inr (Or.inl (e)))))) | exact Or.inr (Or.inr (Or.inr (Or.inr (Or.inr (Or.inr (Or.inl (e))))))) | exact Or.inr (Or.inr (Or.inr (Or.inr (Or.inr (Or.inr (Or.inr (Or.inl (e)))))))) | exact Or.inr (Or.inr (Or.inr (Or.inr (Or.inr (Or.inr (Or.inr (Or.inr (Or.inr (e)))))))))) (fun x k hx => False.elim hx)
def wI_cSide_forget (v0 : Nat) (h : Hp) (x k : Nat) : Prop := x = hR h (hR h v0 7) 11 ∨ x = hR h v0 6
def wJ_cSide_forget (v0 : Nat) (h : Hp) (x k : Nat) : Prop := False
theorem fe_cSide_forget (v0 : Nat) (h : Hp) : Feo (wI_cSide_forget v0 h) (wJ_cSide_forget v0 h) h id (f_cSide_forget v0 h) := by
  unfold f_cSide_forget
  refine fe_it fe_no ?_
  refine fe_it ?_ fe_no
  refine fe_I Fe.rf (Or.inr (rfl)) (fun h3 F1 => ?_)
  refine fe_it fe_no ?_
  refine fe_it fe_no ?_
  refine fe_it ?_ fe_no
  refine fe_I F1 (Or.inl ((by first | (simp only [F1.r]; exact rfl) | simp only [F1.r]))) (fun h7 F2 => ?_)
  exact fe_so F2
def wI_cSpace_is (v0 : Nat) (v1 : Int) (v2 : Int) (h : Hp) (x k : Nat) : Prop := False
def wJ_cSpace_is (v0 : Nat) (v1 : Int) (v2 : Int) (h : Hp) (x k : Nat) : Prop := False
theorem fe_cSpace_is (v0 : Nat) (v1 : Int) (v2 : Int) (h : Hp) : Feo (wI_cSpace_is v0 v1 v2 h) (wJ_cSpace_is v0 v1 v2 h) h Prod.snd (f_cSpace_is v0 v1 v2 h) := by
  unfold f_cSpace_is
  refine fe_it fe_no ?_
  refine fe_it ?_ fe_no
  refine fe_it ?_ ?_
  · exact fe_so Fe.rf
  · exact fe_so Fe.rf
def wI_cSpace_inFlight_b45 (v0 : Nat) (v1 : Int) (v2 : Int) (h : Hp) (x k : Nat) : Prop := False
def wJ_cSpace_inFlight_b45 (v0 : Nat) (v1 : Int) (v2 : Int) (h : Hp) (x k : Nat) : Prop := False
def wI_cSpace_inFlight_b7 (v0 : Nat) (v1 : Int) (v2 : Int) (h : Hp) (x k : Nat) : Prop := False
def wJ_cSpace_inFlight_b7 (v0 : Nat) (v1 : Int) (v2 : Int) (h : Hp) (x k : Nat) : Prop := False
def wI_cSpace_inFlight (v0 : Nat) (h : Hp) (x k : Nat) : Prop := False
def wJ_cSpace_inFlight (v0 : Nat) (h : Hp) (x k : Nat) : Prop := False
theorem fe_cSpace_inFlight_b45 {k7 : Nat → Int → Int → Hp → Option (Int × Hp)} (hk7 : ∀ (v0 : Nat) (v1 : Int) (v2 : Int) (h : Hp), Feo (wI_cSpace_inFlight_b7 v0 v1 v2 h) (wJ_cSpace_inFlight_b7 v0 v1 v2 h) h Prod.snd (k7 v0 v1 v2 h)) (v0 : Nat) (v1 : Int) (v2 : Int) (h : Hp) : Feo (wI_cSpace_inFlight_b45 v0 v1 v2 h) (wJ_cSpace_inFlight_b45 v0 v1 v2 h) h Prod.snd (f_cSpace_inFlight_b45 k7 v0 v1 v2 h) := by
  unfold f_cSpace_inFlight_b45
  exact fe_j Fe.rf (hk7 _ _ _ _) (fun x k hx => False.elim hx) (fun x k hx => False.elim hx)
theorem fe_cSpace_inFlight_b7 {k7 : Nat → Int → Int → Hp → Option (Int × Hp)} (hk7 : ∀ (v0 : Nat) (v1 : Int) (v2 : Int) (h : Hp), Feo (wI_cSpace_inFlight_b7 v0 v1 v2 h) (wJ_cSpace_inFlight_b7 v0 v1 v2 h) h Prod.snd (k7 v0 v1 v2 h)) (v0 : Nat) (v1 : Int) (v2 : Int) (h : Hp) : Feo (wI_cSpace_inFlight_b7 v0 v1 v2 h) (wJ_cSpace_inFlight_b7 v0 v1 v2 h) h Prod.snd (f_cSpace_inFlight_b7 k7 v0 v1 v2 h) := by
  unfold f_cSpace_inFlight_b7
  refine fe_it ?_ ?_
  · exact fe_so Fe.rf
  · refine fe_it fe_no ?_
    refine fe_it ?_ fe_no
    refine fe_it ?_ ?_
    · exact fe_j Fe.rf (fe_cSpace_inFlight_b45 hk7 _ _ _ _) (fun x k hx => False.elim hx) (fun x k hx => False.elim hx)
    · refine fe_b2 Fe.rf (fe_cSpace_is _ _ _ _) (fun x k hx => False.elim hx) (fun x k hx => False.elim hx) (fun r6 h4 F1 => ?_)
      refine fe_it ?_ ?_
      · exact fe_j F1 (fe_cSpace_inFlight_b45 hk7 _ _ _ _) (fun x k hx => False.elim hx) (fun x k hx => False.elim hx)
      · refine fe_it fe_no ?_
        refine fe_it ?_ fe_no
        refine fe_v (fun y9 => ?_)
        exact fe_j F1 (fe_cSpace_inFlight_b45 hk7 _ _ _ _) (fun x k hx => False.elim hx) (fun x k hx => False.elim hx)
theorem fe_cSpace_inFlight_b7_lp (n : Nat) : ∀ (v0 : Nat) (v1 : Int) (v2 : Int) (h : Hp), Feo (wI_cSpace_inFlight_b7 v0 v1 v2 h) (wJ_cSpace_inFlight_b7 v0 v1 v2 h) h Prod.snd (f_cSpace_inFlight_b7_lp n v0 v1 v2 h) := by
  induction n with
  | zero => intro v0 v1 v2 h; exact fe_no
  | succ n ih => intro v0 v1 v2 h; exact fe_cSpace_inFlight_b7 ih v0 v1 v2 h
theorem fe_cSpace_inFlight (v0 : Nat) (h : Hp) : Feo (wI_cSpace_inFlight v0 h) (wJ_cSpace_inFlight v0 h) h Prod.snd (f_cSpace_inFlight v0 h) := by
  unfold f_cSpace_inFlight
  refine fe_v (fun y1 => ?_)
  exact fe_j Fe.rf (fe_cSpace_inFlight_b7_lp FU _ _ _ _) (fun x k hx => False.elim hx) (fun x k hx => False.elim hx)
def wI_cQueue_clear (v0 : Nat) (h : Hp) (x k : Nat) : Prop := (x = v0 ∧ k = 1) ∨ (x = v0 ∧ k = 2)
def wJ_cQueue_clear (v0 : Nat) (h : Hp) (x k : Nat) : Prop := False
theorem fe_cQueue_clear (v0 : Nat) (h : Hp) : Feo (wI_cQueue_clear v0 h) (wJ_cQueue_clear v0 h) h id (f_cQueue_clear v0 h) := by
  unfold f_cQueue_clear
  refine fe_I Fe.rf (Or.inl (⟨rfl, rfl⟩)) (fun h1 F1 => ?_)
  refine fe_I F1 (Or.inr (⟨rfl, rfl⟩)) (fun h2 F2 => ?_)
  exact fe_so F2
def wI_cRanges_clear (v0 : Nat) (h : Hp) (x k : Nat) : Prop := (x = v0 ∧ k = 2)
def wJ_cRanges_clear (v0 : Nat) (h : Hp) (x k : Nat) : Prop := (x = v0 ∧ k = 3)
theorem fe_cRanges_clear (v0 : Nat) (h : Hp) : Feo (wI_cRanges_clear v0 h) (wJ_cRanges_clear v0 h) h id (f_cRanges_clear v0 h) := by
  unfold f_cRanges_clear
  refine fe_I Fe.rf (⟨rfl, rfl⟩) (fun h1 F1 => ?_)
  refine fe_J F1 (⟨rfl, rfl⟩) (fun h2 F2 => ?_)
  exact fe_so F2
def wI_cSpace_discard (v0 : Nat) (h : Hp) (x k : Nat) : Prop := (x = (hR h v0 11) ∧ k = 1) ∨ (x = (hR h v0 11) ∧ k = 2) ∨ (x = (hR h v0 12) ∧ k = 1) ∨ (x = (hR h v0 12) ∧ k = 2) ∨ (x = (hR h v0 13) ∧ k = 2) ∨ (x = v0 ∧ k = 4) ∨ (x = v0 ∧ k = 5) ∨ (x = v0 ∧ k = 8) ∨ (x = v0 ∧ k = 10) ∨ (x = v0 ∧ k = 14) ∨ (x = v0 ∧ k = 17)
def wJ_cSpace_discard (v0 : Nat) (h : Hp) (x k : Nat) : Prop := (x = (hR h v0 13) ∧ k = 3)
theorem fe_cSpace_discard (v0 : Nat) (h : Hp) : Feo (wI_cSpace_discard v0 h) (wJ_cSpace_discard v0 h) h id (f_cSpace_discard v0 h) := by
  unfold f_cSpace_discard
  refine fe_I Fe.rf (Or.inr (Or.inr (Or.inr (Or.inr (Or.inr (Or.inr (Or.inr (Or.inr (Or.inl (⟨rfl, rfl⟩)))))))))) (fun h1 F1 => ?_)
  refine fe_I F1 (Or.inr (Or.inr (Or.inr (Or.inr (Or.inr (Or.inl (⟨rfl, rfl⟩))))))) (fun h2 F2 => ?_)
  refine fe_I F2 (Or.inr (Or.inr (Or.inr (Or.inr (Or.inr (Or.inr (Or.inl (⟨rfl, rfl⟩)))))))) (fun h3 F3 => ?_)
  refine fe_I F3 (Or.inr (Or.inr (Or.inr (Or.inr (Or.inr (Or.inr (Or.inr (Or.inl (⟨rfl, rfl⟩))))))))) (fun h4 F4 => ?_)
  refine fe_it fe_no ?_
  refine fe_b1 F4 (fe_cQueue_clear _ _) (fun x k hx => by simp only [wI_cQueue_clear, F1.r, F2.r, F3.r, F4.r] at hx; rcases hx with e | e <;> first | exact Or.inl (e) | exact Or.inr (Or.inl (e))) (fun x k hx => False.elim hx) (fun h6 F5 => ?_)
  refine fe_it fe_no ?_
  refine fe_b1 F5 (fe_cQueue_clear _ _) (fun x k hx => by simp only [wI_cQueue_clear, F1.r, F2.r, F3.r, F4.r, F5.r] at hx; rcases hx with e | e <;> first | exact Or.inr (Or.inr (Or.inl (e))) | exact Or.inr (Or.inr (Or.inr (Or.inl (e))))) (fun x k hx => False.elim hx) (fun h9 F6 => ?_)
  refine fe_it fe_no ?_
  refine fe_b1 F6 (fe_cRanges_clear _ _) (fun x k hx => by simp only [wI_cRanges_clear, F1.r, F2.r, F3.r, F4.r, F5.r, F6.r] at hx; have e := hx; exact Or.inr (Or.inr (Or.inr (Or.inr (Or.inl (e)))))) (fun x k hx => by simp only [wJ_cRanges_clear, F1.r, F2.r, F3.r, F4.r, F5.r, F6.r] at hx; have e := hx; exact e) (fun h12 F7 => ?_)
  refine fe_I F7 (Or.inr (Or.inr (Or.inr (Or.inr (Or.inr (Or.inr (Or.inr (Or.inr (Or.inr (Or.inl (⟨rfl, rfl⟩))))))))))) (fun h14 F8 => ?_)
  refine fe_I F8 (Or.inr (Or.inr (Or.inr (Or.inr (Or.inr (Or.inr (Or.inr (Or.inr (Or.inr (Or.inr (⟨rfl, rfl⟩))))))))))) (fun h15 F9 => ?_)
  exact fe_so F9
def wI_cBook_discard (v0 : Nat) (v1 : Int) (h : Hp) (x k : Nat) : Prop := (x = (hR h (hR h (hR h v0 0) v1.toNat) 11) ∧ k = 1) ∨ (x = (hR h (hR h (hR h v0 0) v1.toNat) 11) ∧ k = 2) ∨ (x = (hR h (hR h (hR h v0 0) v1.toNat) 12) ∧ k = 1) ∨ (x = (hR h (hR h (hR h v0 0) v1.toNat) 12) ∧ k = 2) ∨ (x = (hR h (hR h (hR h v0 0) v1.toNat) 13) ∧ k = 2) ∨ (x = (hR h (hR h v0 0) v1.toNat) ∧ k = 4) ∨ (x = (hR h (hR h v0 0) v1.toNat) ∧ k = 5) ∨ (x = (hR h (hR h v0 0) v1.toNat) ∧ k = 8) ∨ (x = (hR h (hR h v0 0) v1.toNat) ∧ k = 10) ∨ (x = (hR h (hR h v0 0) v1.toNat) ∧ k = 14) ∨ (x = (hR h (hR h v0 0) v1.toNat) ∧ k = 17) ∨ (x = hR h v0 2 ∧ k = 3) ∨ (x = v0 ∧ k = 4)
def wJ_cBook_discard (v0 : Nat) (v1 : Int) (h : Hp) (x k : Nat) : Prop := (x = (hR h (hR h (hR h v0 0) v1.toNat) 13) ∧ k = 3)
theorem fe_cBook_discard (v0 : Nat) (v1 : Int) (h : Hp) : Feo (wI_cBook_discard v0 v1 h) (wJ_cBook_discard v0 v1 h) h id (f_cBook_discard v0 v1 h) := by
  unfold f_cBook_discard
  refine fe_it fe_no ?_
  refine fe_it fe_no ?_
  refine fe_it ?_ fe_no
  refine fe_it fe_no ?_
  refine fe_b2 Fe.rf (fe_cSpace_inFlight _ _) (fun x k hx => False.elim hx) (fun x k hx => False.elim hx) (fun r7 h5 F1 => ?_)
  refine fe_I F1 (Or.inr (Or.inr (Or.inr (Or.inr (Or.inr (Or.inr (Or.inr (Or.inr (Or.inr (Or.inr (Or.inr (Or.inl (⟨rfl, rfl⟩))))))))))))) (fun h8 F2 => ?_)
  refine fe_it fe_no ?_
  refine fe_it ?_ fe_no
  refine fe_it fe_no ?_
  refine fe_b1 F2 (fe_cSpace_discard _ _) (fun x k hx => by simp only [wI_cSpace_discard, F1.r, F2.r] at hx; rcases hx with e | e | e | e | e | e | e | e | e | e | e <;> first | exact Or.inl (e) | exact Or.inr (Or.inl (e)) | exact Or.inr (Or.inr (Or.inl (e))) | exact Or.inr (Or.inr (Or.inr (Or.inl (e)))) | exact Or.inr (Or.inr (Or.inr (Or.inr (Or.inl (e))))) | exact Or.inr (Or.inr (Or.inr (Or.inr (Or.inr (Or.inl (e)))))) | exact Or.inr (Or.inr (Or.inr (Or.inr (Or.inr (Or.inr (Or.inl (e))))))) | exact Or.inr (Or.inr (Or.inr (Or.inr (Or.inr (Or.inr (Or.inr (Or.inl (e)))))))) | exact Or.inr (Or.inr (Or.inr (Or.inr (Or.inr (Or.inr (Or.inr (Or.inr (Or.inl (e))))))))) | exact Or.inr (Or.inr (Or.inr (Or.inr (Or.inr (Or.inr (Or.inr (Or.inr (Or.inr (Or.inl (e)))))))))) | exact Or.inr (Or.inr (Or.inr (Or.inr (Or.inr (Or.inr (Or.inr (Or.inr (Or.inr (Or.inr (Or.inl (e)))))))))))) (fun x k hx => by simp only [wJ_cSpace_discard, F1.r, F2.r] at hx; have e := hx; exact e) (fun h12 F3 => ?_)
  refine fe_I F3 (Or.inr (Or.inr (Or.inr (Or.inr (Or.inr (Or.inr (Or.inr (Or.inr (Or.inr (Or.inr (Or.inr (Or.inr (⟨rfl, rfl⟩))))))))))))) (fun h14 F4 => ?_)
  exact fe_so F4
def wI_cSide_discard (v0 : Nat) (v1 : Int) (h : Hp) (x k : Nat) : Prop := (x = (hR h (hR h (hR h (hR h v0 9) 0) v1.toNat) 11) ∧ k = 1) ∨ (x = (hR h (hR h (hR h (hR h v0 9) 0) v1.toNat) 11) ∧ k = 2) ∨ (x = (hR h (hR h (hR h (hR h v0 9) 0) v1.toNat) 12) ∧ k = 1) ∨ (x = (hR h (hR h (hR h (hR h v0 9) 0) v1.toNat) 12) ∧ k = 2) ∨ (x = (hR h (hR h (hR h (hR h v0 9) 0) v1.toNat) 13) ∧ k = 2) ∨ (x = (hR h (hR h (hR h v0 9) 0) v1.toNat) ∧ k = 4) ∨ (x = (hR h (hR h (hR h v0 9) 0) v1.toNat) ∧ k = 5) ∨ (x = (hR h (hR h (hR h v0 9) 0) v1.toNat) ∧ k = 8) ∨ (x = (hR h (hR h (hR h v0 9) 0) v1.toNat) ∧ k = 10) ∨ (x = (hR h (hR h (hR h v0 9) 0) v1.toNat) ∧ k = 14) ∨ (x = (hR h (hR h (hR h v0 9) 0) v1.toNat) ∧ k = 17) ∨ (x = (hR h v0 9) ∧ k = 4) ∨ (x = hR h (hR h v0 9) 2 ∧ k = 3) ∨ x = hR h v0 32 ∨ x = hR h v0 6
def wJ_cSide_discard (v0 : Nat) (v1 : Int) (h : Hp) (x k : Nat) : Prop := (x = (hR h (hR h (hR h (hR h v0 9) 0) v1.toNat) 13) ∧ k = 3)
theorem fe_cSide_discard (v0 : Nat) (v1 : Int) (h : Hp) : Feo (wI_cSide_discard v0 v1 h) (wJ_cSide_discard v0 v1 h) h id (f_cSide_discard v0 v1 h) := by
  unfold f_cSide_discard
  refine fe_it fe_no ?_
  refine fe_it fe_no ?_
  refine fe_it ?_ fe_no
  refine fe_it fe_no ?_
  refine fe_it ?_ ?_
  · refine fe_b1 Fe.rf (fe_cBook_discard _ _ _) (fun x k hx => by simp only [wI_cBook_discard] at hx; rcases hx with e | e | e | e | e | e | e | e | e | e | e | e | e <;> first | exact Or.inl (e) | exact Or.inr (Or.inl (e)) | exact Or.inr (Or.inr (Or.inl (e))) | exact Or.inr (Or.inr (Or.inr (Or.inl (e)))) | exact Or.inr (Or.inr (Or.inr (Or.inr (Or.inl (e))))) | exact Or.inr (Or.inr (Or.inr (Or.inr (Or.inr (Or.inl (e)))))) | exact Or.inr (Or.inr (Or.inr (Or.inr (Or.inr (Or.inr (Or.inl (e))))))) | exact Or.inr (Or.inr (Or.inr (Or.inr (Or.inr (Or.inr (Or.inr (Or.inl (e)))))))) | exact Or.inr (Or.inr (Or.inr (Or.inr (Or.inr (Or.inr (Or.inr (Or.inr (Or.inl (e))))))))) | exact Or.inr (Or.inr (Or.inr (Or.inr (Or.inr (Or.inr (Or.inr (Or.inr (Or.inr (Or.inl (e)))))))))) | exact Or.inr (Or.inr (Or.inr (Or.inr (Or.inr (Or.inr (Or.inr (Or.inr (Or.inr (Or.inr (Or.inl (e))))))))))) | exact Or.inr (Or.inr (Or.inr (Or.inr (Or.inr (Or.inr (Or.inr (Or.inr (Or.inr (Or.inr (Or.inr (Or.inl (e)))))))))))) | exact Or.inr (Or.inr (Or.inr (Or.inr (Or.inr (Or.inr (Or.inr (Or.inr (Or.inr (Or.inr (Or.inr (Or.inr (Or.inl (e)))))))))))))) (fun x k hx => by simp only [wJ_cBook_discard] at hx; have e := hx; exact e) (fun h5 F1 => ?_)
    refine fe_it fe_no ?_
    refine fe_it ?_ fe_no
    refine fe_I F1 (Or.inr (Or.inr (Or.inr (Or.inr (Or.inr (Or.inr (Or.inr (Or.inr (Or.inr (Or.inr (Or.inr (Or.inr (Or.inr (Or.inr ((by first | (simp only [F1.r]; exact rfl) | simp only [F1.r])))))))))))))))) (fun h9 F2 => ?_)
    refine fe_it fe_no ?_
    refine fe_it ?_ fe_no
    refine fe_I F2 (Or.inr (Or.inr (Or.inr (Or.inr (Or.inr (Or.inr (Or.inr (Or.inr (Or.inr (Or.inr (Or.inr (Or.inr (Or.inr (Or.inl ((by first | (simp only [F1.r, F2.r]; exact rfl) | simp only [F1.r, F2.r])))))))))))))))) (fun h12 F3 => ?_)
    exact fe_so F3
  · exact fe_so Fe.rf
def wI_cFrame_clear_b32 (v0 : Nat) (v1 : Int) (h : Hp) (x k : Nat) : Prop := (x = v0 ∧ k = 8) ∨ (x = v0 ∧ k = 9) ∨ (x = v0 ∧ k = 10) ∨ (x = v0 ∧ k = 11)
def wJ_cFrame_clear_b32 (v0 : Nat) (v1 : Int) (h : Hp) (x k : Nat) : Prop := x = hR h v0 6
def wI_cFrame_clear (v0 : Nat) (h : Hp) (x k : Nat) : Prop := (x = v0 ∧ k = 0) ∨ (x = v0 ∧ k = 1) ∨ (x = v0 ∧ k = 8) ∨ (x = v0 ∧ k = 9) ∨ (x = v0 ∧ k = 10) ∨ (x = v0 ∧ k = 11)
def wJ_cFrame_clear (v0 : Nat) (h : Hp) (x k : Nat) : Prop := x = hR h v0 6 ∨ (x = v0 ∧ k = 2) ∨ (x = v0 ∧ k = 3) ∨ (x = v0 ∧ k = 4) ∨ (x = v0 ∧ k = 5)
theorem fe_cFrame_clear_b32 {k32 : Nat → Int → Hp → Option (Hp)} (hk32 : ∀ (v0 : Nat) (v1 : Int) (h : Hp), Feo (wI_cFrame_clear_b32 v0 v1 h) (wJ_cFrame_clear_b32 v0 v1 h) h id (k32 v0 v1 h)) (v0 : Nat) (v1 : Int) (h : Hp) : Feo (wI_cFrame_clear_b32 v0 v1 h) (wJ_cFrame_clear_b32 v0 v1 h) h id (f_cFrame_clear_b32 k32 v0 v1 h) := by
  unfold f_cFrame_clear_b32
  refine fe_it ?_ ?_
  · refine fe_I Fe.rf (Or.inl (⟨rfl, rfl⟩)) (fun h7 F1 => ?_)
    refine fe_I F1 (Or.inr (Or.inl (⟨rfl, rfl⟩))) (fun h8 F2 => ?_)
    refine fe_I F2 (Or.inr (Or.inr (Or.inl (⟨rfl, rfl⟩)))) (fun h9 F3 => ?_)
    refine fe_I F3 (Or.inr (Or.inr (Or.inr (⟨rfl, rfl⟩)))) (fun h10 F4 => ?_)
    exact fe_so F4
  · refine fe_it fe_no ?_
    refine fe_it ?_ fe_no
    refine fe_J Fe.rf (rfl) (fun h13 F5 => ?_)
    exact fe_j F5 (hk32 _ _ _) (fun x k hx => by simp only [wI_cFrame_clear_b32, F5.r] at hx; rcases hx with e | e | e | e <;> first | exact Or.inl (e) | exact Or.inr (Or.inl (e)) | exact Or.inr (Or.inr (Or.inl (e))) | exact Or.inr (Or.inr (Or.inr (e)))) (fun x k hx => by simp only [wJ_cFrame_clear_b32, F5.r] at hx; have e := hx; exact e)
theorem fe_cFrame_clear_b32_lp (n : Nat) : ∀ (v0 : Nat) (v1 : Int) (h : Hp), Feo (wI_cFrame_clear_b32 v0 v1 h) (wJ_cFrame_clear_b32 v0 v1 h) h id (f_cFrame_clear_b32_lp n v0 v1 h) := by
  induction n with
  | zero => intro v0 v1 h; exact fe_no
  | succ n ih => intro v0 v1 h; exact fe_cFrame_clear_b32 ih v0 v1 h
theorem fe_cFrame_clear (v0 : Nat) (h : Hp) : Feo (wI_cFrame_clear v0 h) (wJ_cFrame_clear v0 h) h id (f_cFrame_clear v0 h) := by
  unfold f_cFrame_clear
  refine fe_I Fe.rf (Or.inl (⟨rfl, rfl⟩)) (fun h1 F1 => ?_)
  refine fe_I F1 (Or.inr (Or.inl (⟨rfl, rfl⟩))) (fun h2 F2 => ?_)
  refine fe_J F2 (Or.inr (Or.inl (⟨rfl, rfl⟩))) (fun h3 F3 => ?_)
  refine fe_J F3 (Or.inr (Or.inr (Or.inl (⟨rfl, rfl⟩)))) (fun h4 F4 => ?_)
  refine fe_J F4 (Or.inr (Or.inr (Or.inr (Or.inl (⟨rfl, rfl⟩))))) (fun h5 F5 => ?_)
  refine fe_J F5 (Or.inr (Or.inr (Or.inr (Or.inr (⟨rfl, rfl⟩))))) (fun h6 F6 => ?_)
  exact fe_j F6 (fe_cFrame_clear_b32_lp FU _ _ _) (fun x k hx => by simp only [wI_cFrame_clear_b32, F1.r, F2.r, F3.r, F4.r, F5.r, F6.r] at hx; rcases hx with e | e | e | e <;> first | exact Or.inr (Or.inr (Or.inl (e))) | exact Or.inr (Or.inr (Or.inr (Or.inl (e)))) | exact Or.inr (Or.inr (Or.inr (Or.inr (Or.inl (e))))) | exact Or.inr (Or.inr (Or.inr (Or.inr (Or.inr (e)))))) (fun x k hx => by simp only [wJ_cFrame_clear_b32, F1.r, F2.r, F3.r, F4.r, F5.r, F6.r] at hx; have e := hx; exact Or.inl (e))
def wI_cFrame_isKind (v0 : Int) (h : Hp) (x k : Nat) : Prop := False
def wJ_cFrame_isKind (v0 : Int) (h : Hp) (x k : Nat) : Prop := False
theorem fe_cFrame_isKind (v0 : Int) (h : Hp) : Feo (wI_cFrame_isKind v0 h) (wJ_cFrame_isKind v0 h) h Prod.snd (f_cFrame_isKind v0 h) := by
  unfold f_cFrame_isKind
  refine fe_it ?_ ?_
  · exact fe_so Fe.rf
  · refine fe_it ?_ ?_
    · exact fe_so Fe.rf
    · exact fe_so Fe.rf
def wI_cFrame_fails (v0 : Nat) (v1 : Int) (h : Hp) (x k : Nat) : Prop := (x = v0 ∧ k = 1)
def wJ_cFrame_fails (v0 : Nat) (v1 : Int) (h : Hp) (x k : Nat) : Prop := False
theorem fe_cFrame_fails (v0 : Nat) (v1 : Int) (h : Hp) : Feo (wI_cFrame_fails v0 v1 h) (wJ_cFrame_fails v0 v1 h) h Prod.snd (f_cFrame_fails v0 v1 h) := by
  unfold f_cFrame_fails
  refine fe_I Fe.rf (⟨rfl, rfl⟩) (fun h1 F1 => ?_)
  exact fe_so F1
def wI_cFrame_isEarly_b17 (h : Hp) (x k : Nat) : Prop := False
def wJ_cFrame_isEarly_b17 (h : Hp) (x k : Nat) : Prop := False
def wI_cFrame_isEarly (v0 : Int) (h : Hp) (x k : Nat) : Prop := False
def wJ_cFrame_isEarly (v0 : Int) (h : Hp) (x k : Nat) : Prop := False
theorem fe_cFrame_isEarly_b17 (h : Hp) : Feo (wI_cFrame_isEarly_b17  h) (wJ_cFrame_isEarly_b17  h) h Prod.snd (f_cFrame_isEarly_b17  h) := by
  unfold f_cFrame_isEarly_b17
  exact fe_so Fe.rf
theorem fe_cFrame_isEarly (v0 : Int) (h : Hp) : Feo (wI_cFrame_isEarly v0 h) (wJ_cFrame_isEarly v0 h) h Prod.snd (f_cFrame_isEarly v0 h) := by
  unfold f_cFrame_isEarly
  refine fe_it ?_ ?_
  · exact fe_j Fe.rf (fe_cFrame_isEarly_b17 _) (fun x k hx => False.elim hx) (fun x k hx => False.elim hx)
  · refine fe_it ?_ ?_
    · exact fe_j Fe.rf (fe_cFrame_isEarly_b17 _) (fun x k hx => False.elim hx) (fun x k hx => False.elim hx)
    · refine fe_it ?_ ?_
      · exact fe_so Fe.rf
      · exact fe_j Fe.rf (fe_cFrame_isEarly_b17 _) (fun x k hx => False.elim hx) (fun x k hx => False.elim hx)
def wI_cFrame_paddings_b5 (v0 : Nat) (v1 : Nat) (h : Hp) (x k : Nat) : Prop := (x = v1 ∧ k = 1) ∨ (x = v1 ∧ k = 3)
def wJ_cFrame_paddings_b5 (v0 : Nat) (v1 : Nat) (h : Hp) (x k : Nat) : Prop := (x = v0 ∧ k = 2)
def wI_cFrame_paddings (v0 : Nat) (v1 : Nat) (h : Hp) (x k : Nat) : Prop := (x = v1 ∧ k = 1) ∨ (x = v1 ∧ k = 3)
def wJ_cFrame_paddings (v0 : Nat) (v1 : Nat) (h : Hp) (x k : Nat) : Prop := (x = v0 ∧ k = 2)
theorem fe_cFrame_paddings_b5 {k5 : Nat → Nat → Hp → Option (Int × Hp)} (hk5 : ∀ (v0 : Nat) (v1 : Nat) (h : Hp), Feo (wI_cFrame_paddings_b5 v0 v1 h) (wJ_cFrame_paddings_b5 v0 v1 h) h Prod.snd (k5 v0 v1 h)) (v0 : Nat) (v1 : Nat) (h : Hp) : Feo (wI_cFrame_paddings_b5 v0 v1 h) (wJ_cFrame_paddings_b5 v0 v1 h) h Prod.snd (f_cFrame_paddings_b5 k5 v0 v1 h) := by
  unfold f_cFrame_paddings_b5
  refine fe_it fe_no ?_
  refine fe_b2 Fe.rf (fe_cBytes_left _ _) (fun x k hx => False.elim hx) (fun x k hx => False.elim hx) (fun r5 h3 F1 => ?_)
  refine fe_it ?_ ?_
  · exact fe_so F1
  · refine fe_it fe_no ?_
    refine fe_it ?_ fe_no
    refine fe_it ?_ ?_
    · exact fe_so F1
    · refine fe_b2 F1 (fe_cBytes_pass _ _ _) (fun x k hx => by simp only [wI_cBytes_pass, F1.r] at hx; rcases hx with e | e <;> first | exact Or.inl (e) | exact Or.inr (e)) (fun x k hx => False.elim hx) (fun r10 h8 F2 => ?_)
      refine fe_J F2 (⟨rfl, rfl⟩) (fun h11 F3 => ?_)
      exact fe_j F3 (hk5 _ _ _) (fun x k hx => by simp only [wI_cFrame_paddings_b5, F1.r, F2.r, F3.r] at hx; rcases hx with e | e <;> first | exact Or.inl (e) | exact Or.inr (e)) (fun x k hx => by simp only [wJ_cFrame_paddings_b5, F1.r, F2.r, F3.r] at hx; have e := hx; exact e)
theorem fe_cFrame_paddings_b5_lp (n : Nat) : ∀ (v0 : Nat) (v1 : Nat) (h : Hp), Feo (wI_cFrame_paddings_b5 v0 v1 h) (wJ_cFrame_paddings_b5 v0 v1 h) h Prod.snd (f_cFrame_paddings_b5_lp n v0 v1 h) := by
  induction n with
  | zero => intro v0 v1 h; exact fe_no
  | succ n ih => intro v0 v1 h; exact fe_cFrame_paddings_b5 ih v0 v1 h
theorem fe_cFrame_paddings (v0 : Nat) (v1 : Nat) (h : Hp) : Feo (wI_cFrame_paddings v0 v1 h) (wJ_cFrame_paddings v0 v1 h) h Prod.snd (f_cFrame_paddings v0 v1 h) := by
  unfold f_cFrame_paddings
  refine fe_J Fe.rf (⟨rfl, rfl⟩) (fun h1 F1 => ?_)
  exact fe_j F1 (fe_cFrame_paddings_b5_lp FU _ _ _) (fun x k hx => by simp only [wI_cFrame_paddings_b5, F1.r] at hx; rcases hx with e | e <;> first | exact Or.inl (e) | exact Or.inr (e)) (fun x k hx => by simp only [wJ_cFrame_paddings_b5, F1.r] at hx; have e := hx; exact e)
def wI_cFrame_slice_b34 (v0 : Nat) (v1 : Nat) (s0 : Nat) (s1 : Int) (h : Hp) (x k : Nat) : Prop := (x = s0 ∧ k = 9) ∨ (x = v0 ∧ k = 8) ∨ (x = v1 ∧ k = 1) ∨ (x = v1 ∧ k = 3)
def wJ_cFrame_slice_b34 (v0 : Nat) (v1 : Nat) (s0 : Nat) (s1 : Int) (h : Hp) (x k : Nat) : Prop := False
def wI_cFrame_slice_b20 (v0 : Nat) (v1 : Nat) (v2 : Int) (h : Hp) (x k : Nat) : Prop := (x = v0 ∧ k = 8) ∨ (x = v0 ∧ k = 9) ∨ (x = v1 ∧ k = 1) ∨ (x = v1 ∧ k = 3)
def wJ_cFrame_slice_b20 (v0 : Nat) (v1 : Nat) (v2 : Int) (h : Hp) (x k : Nat) : Prop := False
def wI_cFrame_slice (v0 : Nat) (v1 : Nat) (h : Hp) (x k : Nat) : Prop := (x = v0 ∧ k = 8) ∨ (x = v0 ∧ k = 9) ∨ (x = v1 ∧ k = 1) ∨ (x = v1 ∧ k = 3)
def wJ_cFrame_slice (v0 : Nat) (v1 : Nat) (h : Hp) (x k : Nat) : Prop := False
theorem fe_cFrame_slice_b34 (v0 : Nat) (v1 : Nat) (s0 : Nat) (s1 : Int) (h : Hp) : Feo (wI_cFrame_slice_b34 v0 v1 s0 s1 h) (wJ_cFrame_slice_b34 v0 v1 s0 s1 h) h id (f_cFrame_slice_b34 v0 v1 s0 s1 h) := by
  unfold f_cFrame_slice_b34
  refine fe_it fe_no ?_
  refine fe_I Fe.rf (Or.inl (⟨rfl, rfl⟩)) (fun h11 F1 => ?_)
  refine fe_it fe_no ?_
  refine fe_b2 F1 (fe_cBytes_pass _ _ _) (fun x k hx => by simp only [wI_cBytes_pass, F1.r] at hx; rcases hx with e | e <;> first | exact Or.inr (Or.inr (Or.inl (e))) | exact Or.inr (Or.inr (Or.inr (e)))) (fun x k hx => False.elim hx) (fun r15 h13 F2 => ?_)
  refine fe_I F2 (Or.inr (Or.inl (⟨rfl, rfl⟩))) (fun h16 F3 => ?_)
  exact fe_so F3
theorem fe_cFrame_slice_b20 (v0 : Nat) (v1 : Nat) (v2 : Int) (h : Hp) : Feo (wI_cFrame_slice_b20 v0 v1 v2 h) (wJ_cFrame_slice_b20 v0 v1 v2 h) h id (f_cFrame_slice_b20 v0 v1 v2 h) := by
  unfold f_cFrame_slice_b20
  refine fe_it fe_no ?_
  refine fe_it ?_ ?_
  · exact fe_j Fe.rf (fe_cFrame_slice_b34 _ _ _ _ _) (fun x k hx => by simp only [wI_cFrame_slice_b34] at hx; rcases hx with e | e | e | e <;> first | exact Or.inl (e) | exact Or.inr (Or.inl (e)) | exact Or.inr (Or.inr (Or.inl (e))) | exact Or.inr (Or.inr (Or.inr (e)))) (fun x k hx => False.elim hx)
  · exact fe_j Fe.rf (fe_cFrame_slice_b34 _ _ _ _ _) (fun x k hx => by simp only [wI_cFrame_slice_b34] at hx; rcases hx with e | e | e | e <;> first | exact Or.inl (e) | exact Or.inr (Or.inl (e)) | exact Or.inr (Or.inr (Or.inl (e))) | exact Or.inr (Or.inr (Or.inr (e)))) (fun x k hx => False.elim hx)
theorem fe_cFrame_slice (v0 : Nat) (v1 : Nat) (h : Hp) : Feo (wI_cFrame_slice v0 v1 h) (wJ_cFrame_slice v0 v1 h) h id (f_cFrame_slice v0 v1 h) := by
  unfold f_cFrame_slice
  refine fe_it fe_no ?_
  refine fe_b2 Fe.rf (fe_cBytes_number _ _) (fun x k hx => by simp only [wI_cBytes_number] at hx; rcases hx with e | e <;> first | exact Or.inr (Or.inr (Or.inl (e))) | exact Or.inr (Or.inr (Or.inr (e)))) (fun x k hx => False.elim hx) (fun r4 h2 F1 => ?_)
  refine fe_b2 F1 (fe_cBytes_left _ _) (fun x k hx => False.elim hx) (fun x k hx => False.elim hx) (fun r7 h5 F2 => ?_)
  refine fe_it ?_ ?_
  · exact fe_j F2 (fe_cFrame_slice_b20 _ _ _ _) (fun x k hx => by simp only [wI_cFrame_slice_b20, F1.r, F2.r] at hx; rcases hx with e | e | e | e <;> first | exact Or.inl (e) | exact Or.inr (Or.inl (e)) | exact Or.inr (Or.inr (Or.inl (e))) | exact Or.inr (Or.inr (Or.inr (e)))) (fun x k hx => False.elim hx)
  · refine fe_I F2 (Or.inr (Or.inr (Or.inr (⟨rfl, rfl⟩)))) (fun h8 F3 => ?_)
    exact fe_j F3 (fe_cFrame_slice_b20 _ _ _ _) (fun x k hx => by simp only [wI_cFrame_slice_b20, F1.r, F2.r, F3.r] at hx; rcases hx with e | e | e | e <;> first | exact Or.inl (e) | exact Or.inr (Or.inl (e)) | exact Or.inr (Or.inr (Or.inl (e))) | exact Or.inr (Or.inr (Or.inr (e)))) (fun x k hx => False.elim hx)
def wI_cFrame_allowed_b18 (v0 : Nat) (h : Hp) (x k : Nat) : Prop := False
def wJ_cFrame_allowed_b18 (v0 : Nat) (h : Hp) (x k : Nat) : Prop := False
def wI_cFrame_allowed_b153 (v0 : Nat) (h : Hp) (x k : Nat) : Prop := False
def wJ_cFrame_allowed_b153 (v0 : Nat) (h : Hp) (x k : Nat) : Prop := False
def wI_cFrame_allowed_b142 (v0 : Nat) (h : Hp) (x k : Nat) : Prop := False
def wJ_cFrame_allowed_b142 (v0 : Nat) (h : Hp) (x k : Nat) : Prop := False
def wI_cFrame_allowed (v0 : Nat) (h : Hp) (x k : Nat) : Prop := False
def wJ_cFrame_allowed (v0 : Nat) (h : Hp) (x k : Nat) : Prop := False
theorem fe_cFrame_allowed_b18 (v0 : Nat) (h : Hp) : Feo (wI_cFrame_allowed_b18 v0 h) (wJ_cFrame_allowed_b18 v0 h) h Prod.snd (f_cFrame_allowed_b18 v0 h) := by
  unfold f_cFrame_allowed_b18
  refine fe_it ?_ ?_
  · exact fe_so Fe.rf
  · exact fe_so Fe.rf
theorem fe_cFrame_allowed_b153 (v0 : Nat) (h : Hp) : Feo (wI_cFrame_allowed_b153 v0 h) (wJ_cFrame_allowed_b153 v0 h) h Prod.snd (f_cFrame_allowed_b153 v0 h) := by
  unfold f_cFrame_allowed_b153
  exact fe_so Fe.rf
theorem fe_cFrame_allowed_b142 (v0 : Nat) (h : Hp) : Feo (wI_cFrame_allowed_b142 v0 h) (wJ_cFrame_allowed_b142 v0 h) h Prod.snd (f_cFrame_allowed_b142 v0 h) := by
  unfold f_cFrame_allowed_b142
  refine fe_it ?_ ?_
  · exact fe_so Fe.rf
  · exact fe_j Fe.rf (fe_cFrame_allowed_b153 _ _) (fun x k hx => False.elim hx) (fun x k hx => False.elim hx)
theorem fe_cFrame_allowed (v0 : Nat) (h : Hp) : Feo (wI_cFrame_allowed v0 h) (wJ_cFrame_allowed v0 h) h Prod.snd (f_cFrame_allowed v0 h) := by
  unfold f_cFrame_allowed
  refine fe_it ?_ ?_
  · exact fe_j Fe.rf (fe_cFrame_allowed_b18 _ _) (fun x k hx => False.elim hx) (fun x k hx => False.elim hx)
  · refine fe_it ?_ ?_
    · refine fe_it ?_ ?_
      · refine fe_it ?_ ?_
        · refine fe_it ?_ ?_
          · exact fe_j Fe.rf (fe_cFrame_allowed_b142 _ _) (fun x k hx => False.elim hx) (fun x k hx => False.elim hx)
          · refine fe_it ?_ ?_
            · exact fe_j Fe.rf (fe_cFrame_allowed_b142 _ _) (fun x k hx => False.elim hx) (fun x k hx => False.elim hx)
            · refine fe_it ?_ ?_
              · exact fe_j Fe.rf (fe_cFrame_allowed_b142 _ _) (fun x k hx => False.elim hx) (fun x k hx => False.elim hx)
              · refine fe_it ?_ ?_
                · exact fe_j Fe.rf (fe_cFrame_allowed_b153 _ _) (fun x k hx => False.elim hx) (fun x k hx => False.elim hx)
                · exact fe_j Fe.rf (fe_cFrame_allowed_b142 _ _) (fun x k hx => False.elim hx) (fun x k hx => False.elim hx)
        · refine fe_it ?_ ?_
          · exact fe_so Fe.rf
          · refine fe_it ?_ ?_
            · exact fe_so Fe.rf
            · refine fe_it ?_ ?_
              · exact fe_so Fe.rf
              · exact fe_so Fe.rf
      · refine fe_it ?_ ?_
        · exact fe_so Fe.rf
        · exact fe_so Fe.rf
    · exact fe_j Fe.rf (fe_cFrame_allowed_b18 _ _) (fun x k hx => False.elim hx) (fun x k hx => False.elim hx)
